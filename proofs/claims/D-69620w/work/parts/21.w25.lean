/-! ===== walks: frn_twoWords frn_holds frn_choose frn_hits frn_isWhole frn_at frn_hasCode frn_stopsLoad frn_stopsStore frn_faultsLoad frn_isWritable frn_faultsStore frn_get frn_loaded frn_load ===== -/
set_option maxRecDepth 100000
def hrn_twoWords (x : jCx) (en : (Int64) → Option (Outcome × jW)) (a0 : Int32) (a1 : Int32) (a2 : Int32) (W : jW) : Prop :=
  jOK x RX11 cX11_twoWords 4 ∧
  jMt x "twoWords" (Option.some Jvm.ClassFile.FieldType.long) [] ∧
  jRm x 0 0 ∧
  (∀ q : Int64, en q = some (.returned (some (.long q)), W))
theorem wrn_twoWords_108 {x : jCx} {en : (Int64) → Option (Outcome × jW)} {W : jW} {a0 : Int32} {a1 : Int32} {a2 : Int32} (h : hrn_twoWords x en a0 a1 a2 W) (l3 : Int32) : jJ x 4 108 [(0, vI a0), (1, vI a1), (2, vI a2), (3, vI l3)] [] W (frn_twoWords_108 a0 a1 a2 l3 W) en := by
  have h0 := h
  obtain ⟨hx, hm, hr, he⟩ := h0
  unfold frn_twoWords_108
  refine j_runA hx 4 (tb := [(108, .iload_n 1), (109, .iload_n 3), (110, .ishr), (111, .i2l)]) (jtb_ok (by decide +kernel)) (pc' := 112) (lv' := [(0, vI a0), (1, vI a1), (2, vI a2), (3, vI l3)]) (st' := [vL ((ixr a1 l3).toInt64)]) rfl ?_
  exact j_lret hx hm (by decide +kernel) (he _)
theorem wrn_twoWords {x : jCx} {en : (Int64) → Option (Outcome × jW)} {W : jW} {a0 : Int32} {a1 : Int32} {a2 : Int32} (h : hrn_twoWords x en a0 a1 a2 W) : jJ x 4 0 [(0, vI a0), (1, vI a1), (2, vI a2)] [] W (frn_twoWords a0 a1 a2 W) en := by
  have h0 := h
  obtain ⟨hx, hm, hr, he⟩ := h0
  unfold frn_twoWords
  refine j_runA hx 4 (tb := [(0, .iload_n 2), (1, .bipush 31), (3, .iand), (4, .istore_n 3)]) (jtb_ok (by decide +kernel)) (pc' := 5) (lv' := [(3, vI (a2 &&& (kI 31))), (0, vI a0), (1, vI a1), (2, vI a2)]) (st' := []) rfl ?_
  refine j_let (v := (a2 &&& (kI 31))) (lv := fun v1 => [(3, vI v1), (0, vI a0), (1, vI a1), (2, vI a2)]) (st := fun _ => []) (fun v1 => ?_)
  refine j_runA hx 1 (tb := [(5, .iload_n 0)]) (jtb_ok (by decide +kernel)) (pc' := 6) (lv' := [(3, vI v1), (0, vI a0), (1, vI a1), (2, vI a2)]) (st' := [vI a0]) rfl ?_
  refine j_tab hx (dflt := 102) (lo := 2) (hi := 9) (offs := #[46, 68, 102, 102, 102, 102, 92, 97]) (len := 46) (k := 2) (off := 46) (tgt := 52) (by decide +kernel) (by decide) (by decide) (by decide) rfl (by decide) (fun _ => ?_) (fun h2 => ?_)
  · refine j_runA hx 1 (tb := [(52, .iload_n 2)]) (jtb_ok (by decide +kernel)) (pc' := 53) (lv' := [(3, vI v1), (0, vI a0), (1, vI a1), (2, vI a2)]) (st' := [vI a2]) rfl ?_
    refine j_if_ne hx (off := 7) (tgt := 60) (by decide +kernel) (by decide) (fun _ => ?_) (fun _ => ?_)
    · refine j_runA hx 2 (tb := [(60, .iload_n 1), (61, .i2l)]) (jtb_ok (by decide +kernel)) (pc' := 62) (lv' := [(3, vI v1), (0, vI a0), (1, vI a1), (2, vI a2)]) (st' := [vL a1.toInt64]) rfl ?_
      refine j_ldc2 hx (v := (kJ 4294967295)) (jkd2 q3406 (by decide +kernel)) (by decide +kernel) ?_
      refine j_runA hx 3 (tb := [(65, .land), (66, .iload_n 2), (67, .i2l)]) (jtb_ok (by decide +kernel)) (pc' := 68) (lv' := [(3, vI v1), (0, vI a0), (1, vI a1), (2, vI a2)]) (st' := [vL a2.toInt64, vL (a1.toInt64 &&& (kJ 4294967295))]) rfl ?_
      refine j_ldc2 hx (v := (kJ 4294967295)) (jkd2 q3406 (by decide +kernel)) (by decide +kernel) ?_
      refine j_runA hx 1 (tb := [(71, .land)]) (jtb_ok (by decide +kernel)) (pc' := 72) (lv' := [(3, vI v1), (0, vI a0), (1, vI a1), (2, vI a2)]) (st' := [vL (a2.toInt64 &&& (kJ 4294967295)), vL (a1.toInt64 &&& (kJ 4294967295))]) rfl ?_
      refine j_gd (fun h3 => ?_)
      refine j_ldiv hx (by decide +kernel) h3 ?_
      exact j_lret hx hm (by decide +kernel) (he _)
    refine j_runA hx 1 (tb := [(56, .lconst 0)]) (jtb_ok (by decide +kernel)) (pc' := 57) (lv' := [(3, vI v1), (0, vI a0), (1, vI a1), (2, vI a2)]) (st' := [vL (kJ 0)]) rfl ?_
    refine j_goto hx (off := 16) (by decide +kernel) (tgt := 73) (by decide) ?_
    exact j_lret hx hm (by decide +kernel) (he _)
  refine j_tab hx (dflt := 102) (lo := 2) (hi := 9) (offs := #[46, 68, 102, 102, 102, 102, 92, 97]) (len := 46) (k := 3) (off := 68) (tgt := 74) (by decide +kernel) (by decide) (by decide) (by decide) rfl (by decide) (fun _ => ?_) (fun h4 => ?_)
  · refine j_runA hx 1 (tb := [(74, .iload_n 2)]) (jtb_ok (by decide +kernel)) (pc' := 75) (lv' := [(3, vI v1), (0, vI a0), (1, vI a1), (2, vI a2)]) (st' := [vI a2]) rfl ?_
    refine j_if_ne hx (off := 7) (tgt := 82) (by decide +kernel) (by decide) (fun _ => ?_) (fun _ => ?_)
    · refine j_runA hx 2 (tb := [(82, .iload_n 2), (83, .iconst (-1))]) (jtb_ok (by decide +kernel)) (pc' := 84) (lv' := [(3, vI v1), (0, vI a0), (1, vI a1), (2, vI a2)]) (st' := [vI (kI (-1)), vI a2]) rfl ?_
      refine j_icmp_ne hx (off := 9) (tgt := 93) (by decide +kernel) (by decide) (fun _ => ?_) (fun _ => ?_)
      · refine j_runA hx 2 (tb := [(93, .iload_n 1), (94, .iload_n 2)]) (jtb_ok (by decide +kernel)) (pc' := 95) (lv' := [(3, vI v1), (0, vI a0), (1, vI a1), (2, vI a2)]) (st' := [vI a2, vI a1]) rfl ?_
        refine j_gd (fun h5 => ?_)
        refine j_idiv hx (by decide +kernel) h5 ?_
        refine j_runA hx 1 (tb := [(96, .i2l)]) (jtb_ok (by decide +kernel)) (pc' := 97) (lv' := [(3, vI v1), (0, vI a0), (1, vI a1), (2, vI a2)]) (st' := [vL ((a1 / a2).toInt64)]) rfl ?_
        exact j_lret hx hm (by decide +kernel) (he _)
      refine j_runA hx 3 (tb := [(87, .iload_n 1), (88, .ineg), (89, .i2l)]) (jtb_ok (by decide +kernel)) (pc' := 90) (lv' := [(3, vI v1), (0, vI a0), (1, vI a1), (2, vI a2)]) (st' := [vL ((-a1).toInt64)]) rfl ?_
      refine j_goto hx (off := 7) (by decide +kernel) (tgt := 97) (by decide) ?_
      exact j_lret hx hm (by decide +kernel) (he _)
    refine j_runA hx 1 (tb := [(78, .lconst 0)]) (jtb_ok (by decide +kernel)) (pc' := 79) (lv' := [(3, vI v1), (0, vI a0), (1, vI a1), (2, vI a2)]) (st' := [vL (kJ 0)]) rfl ?_
    refine j_goto hx (off := 18) (by decide +kernel) (tgt := 97) (by decide) ?_
    exact j_lret hx hm (by decide +kernel) (he _)
  refine j_tab hx (dflt := 102) (lo := 2) (hi := 9) (offs := #[46, 68, 102, 102, 102, 102, 92, 97]) (len := 46) (k := 8) (off := 92) (tgt := 98) (by decide +kernel) (by decide) (by decide) (by decide) rfl (by decide) (fun _ => ?_) (fun h6 => ?_)
  · refine j_runA hx 4 (tb := [(98, .iload_n 1), (99, .iload_n 3), (100, .ishl), (101, .i2l)]) (jtb_ok (by decide +kernel)) (pc' := 102) (lv' := [(3, vI v1), (0, vI a0), (1, vI a1), (2, vI a2)]) (st' := [vL ((ixl a1 v1).toInt64)]) rfl ?_
    exact j_lret hx hm (by decide +kernel) (he _)
  refine j_tab hx (dflt := 102) (lo := 2) (hi := 9) (offs := #[46, 68, 102, 102, 102, 102, 92, 97]) (len := 46) (k := 9) (off := 97) (tgt := 103) (by decide +kernel) (by decide) (by decide) (by decide) rfl (by decide) (fun _ => ?_) (fun h7 => ?_)
  · refine j_runA hx 4 (tb := [(103, .iload_n 1), (104, .iload_n 3), (105, .iushr), (106, .i2l)]) (jtb_ok (by decide +kernel)) (pc' := 107) (lv' := [(3, vI v1), (0, vI a0), (1, vI a1), (2, vI a2)]) (st' := [vL ((ixu a1 v1).toInt64)]) rfl ?_
    exact j_lret hx hm (by decide +kernel) (he _)
  refine j_tabD hx (dflt := 102) (lo := 2) (hi := 9) (offs := #[46, 68, 102, 102, 102, 102, 92, 97]) (len := 46) (tgt := 108) (by decide +kernel) (by decide) (fun i hi => by
    match i, hi with
    | 0, _ => exact Or.inr h2
    | 1, _ => exact Or.inr h4
    | 2, _ => exact Or.inl rfl
    | 3, _ => exact Or.inl rfl
    | 4, _ => exact Or.inl rfl
    | 5, _ => exact Or.inl rfl
    | 6, _ => exact Or.inr h6
    | 7, _ => exact Or.inr h7
    | n + 8, h => exact absurd h (by omega)) ?_
  refine j_lv (lv' := [(0, vI a0), (1, vI a1), (2, vI a2), (3, vI v1)]) ⟨rfl, rfl, rfl, rfl, trivial⟩ ?_
  exact wrn_twoWords_108 h v1
theorem crn_twoWords (a0 : Int32) (a1 : Int32) (a2 : Int32) (W : jW) : jM yX11_twoWords cX11_twoWords 4 (Option.some Jvm.ClassFile.FieldType.long) [] 0 0 [vI a0, vI a1, vI a2] W ((frn_twoWords a0 a1 a2 W).bind (fun q => some (.returned (some (.long q)), W))) := 
  jM.of (Nat.le_of_ble_eq_true rfl) (fun x hx hm hr => wrn_twoWords ⟨hx, hm, hr, fun _ => rfl⟩)
def hrn_holds (x : jCx) (en : (Int32) → Option (Outcome × jW)) (t : Nat) (a1 : Int32) (W : jW) : Prop :=
  jOK x RX11 cX11_holds 3 ∧
  jMt x "holds" (Option.some Jvm.ClassFile.FieldType.boolean) [] ∧
  jRm x 0 0 ∧
  (∀ q : Int32, en q = some (.returned (some (.int q)), W))
theorem wrn_holds_126 {x : jCx} {en : (Int32) → Option (Outcome × jW)} {W : jW} {t : Nat} {a1 : Int32} (h : hrn_holds x en t a1 W) (s0 : Int32) : jJ x 3 126 [(0, vR t), (1, vI a1)] [vI s0] W (frn_holds_126 t a1 s0 W) en := by
  have h0 := h
  obtain ⟨hx, hm, hr, he⟩ := h0
  unfold frn_holds_126
  refine j_runA hx 4 (tb := [(126, .istore_n 2), (127, .iload_n 1), (128, .iconst 1), (129, .iand)]) (jtb_ok (by decide +kernel)) (pc' := 130) (lv' := [(2, vI s0), (0, vR t), (1, vI a1)]) (st' := [vI (a1 &&& (kI 1))]) rfl ?_
  refine j_if_ne hx (off := 7) (tgt := 137) (by decide +kernel) (by decide) (fun _ => ?_) (fun _ => ?_)
  · refine j_runA hx 1 (tb := [(137, .iload_n 2)]) (jtb_ok (by decide +kernel)) (pc' := 138) (lv' := [(2, vI s0), (0, vR t), (1, vI a1)]) (st' := [vI s0]) rfl ?_
    refine j_if_ne hx (off := 7) (tgt := 145) (by decide +kernel) (by decide) (fun _ => ?_) (fun _ => ?_)
    · refine j_runA hx 1 (tb := [(145, .iconst 0)]) (jtb_ok (by decide +kernel)) (pc' := 146) (lv' := [(2, vI s0), (0, vR t), (1, vI a1)]) (st' := [vI (kI 0)]) rfl ?_
      exact j_iret hx hm (by decide +kernel) jz0n (he _)
    refine j_runA hx 1 (tb := [(141, .iconst 1)]) (jtb_ok (by decide +kernel)) (pc' := 142) (lv' := [(2, vI s0), (0, vR t), (1, vI a1)]) (st' := [vI (kI 1)]) rfl ?_
    refine j_goto hx (off := 4) (by decide +kernel) (tgt := 146) (by decide) ?_
    exact j_iret hx hm (by decide +kernel) jz1n (he _)
  refine j_runA hx 1 (tb := [(133, .iload_n 2)]) (jtb_ok (by decide +kernel)) (pc' := 134) (lv' := [(2, vI s0), (0, vR t), (1, vI a1)]) (st' := [vI s0]) rfl ?_
  refine j_goto hx (off := 12) (by decide +kernel) (tgt := 146) (by decide) ?_
  refine j_gd (fun h10 => ?_)
  exact j_iret hx hm (by decide +kernel) (jzn h10) (he _)
theorem wrn_holds_74 {x : jCx} {en : (Int32) → Option (Outcome × jW)} {W : jW} {t : Nat} {a1 : Int32} (h : hrn_holds x en t a1 W) : jJ x 3 74 [(0, vR t), (1, vI a1)] [] W (frn_holds_74 t a1 W) en := by
  have h0 := h
  obtain ⟨hx, hm, hr, he⟩ := h0
  unfold frn_holds_74
  refine j_runA hx 1 (tb := [(74, .iconst 0)]) (jtb_ok (by decide +kernel)) (pc' := 75) (lv' := [(0, vR t), (1, vI a1)]) (st' := [vI (kI 0)]) rfl ?_
  refine j_goto hx (off := 51) (by decide +kernel) (tgt := 126) (by decide) ?_
  exact wrn_holds_126 h (kI 0)
theorem wrn_holds_125 {x : jCx} {en : (Int32) → Option (Outcome × jW)} {W : jW} {t : Nat} {a1 : Int32} (h : hrn_holds x en t a1 W) : jJ x 3 125 [(0, vR t), (1, vI a1)] [] W (frn_holds_125 t a1 W) en := by
  have h0 := h
  obtain ⟨hx, hm, hr, he⟩ := h0
  unfold frn_holds_125
  refine j_runA hx 1 (tb := [(125, .iconst 0)]) (jtb_ok (by decide +kernel)) (pc' := 126) (lv' := [(0, vR t), (1, vI a1)]) (st' := [vI (kI 0)]) rfl ?_
  exact wrn_holds_126 h (kI 0)
theorem wrn_holds {x : jCx} {en : (Int32) → Option (Outcome × jW)} {W : jW} {t : Nat} {a1 : Int32} (h : hrn_holds x en t a1 W) : jJ x 3 0 [(0, vR t), (1, vI a1)] [] W (frn_holds t a1 W) en := by
  have h0 := h
  obtain ⟨hx, hm, hr, he⟩ := h0
  unfold frn_holds
  refine j_runA hx 2 (tb := [(0, .iload_n 1), (1, .iconst 2)]) (jtb_ok (by decide +kernel)) (pc' := 2) (lv' := [(0, vR t), (1, vI a1)]) (st' := [vI (kI 2), vI a1]) rfl ?_
  refine j_icmp_ge hx (off := 10) (tgt := 12) (by decide +kernel) (by decide) (fun _ => ?_) (fun _ => ?_)
  · refine j_runA hx 2 (tb := [(12, .iload_n 1), (13, .iconst 4)]) (jtb_ok (by decide +kernel)) (pc' := 14) (lv' := [(0, vR t), (1, vI a1)]) (st' := [vI (kI 4), vI a1]) rfl ?_
    refine j_icmp_ge hx (off := 10) (tgt := 24) (by decide +kernel) (by decide) (fun _ => ?_) (fun _ => ?_)
    · refine j_runA hx 2 (tb := [(24, .iload_n 1), (25, .bipush 6)]) (jtb_ok (by decide +kernel)) (pc' := 27) (lv' := [(0, vR t), (1, vI a1)]) (st' := [vI (kI 6), vI a1]) rfl ?_
      refine j_icmp_ge hx (off := 10) (tgt := 37) (by decide +kernel) (by decide) (fun _ => ?_) (fun _ => ?_)
      · refine j_runA hx 2 (tb := [(37, .iload_n 1), (38, .bipush 8)]) (jtb_ok (by decide +kernel)) (pc' := 40) (lv' := [(0, vR t), (1, vI a1)]) (st' := [vI (kI 8), vI a1]) rfl ?_
        refine j_icmp_ge hx (off := 10) (tgt := 50) (by decide +kernel) (by decide) (fun _ => ?_) (fun _ => ?_)
        · refine j_runA hx 2 (tb := [(50, .iload_n 1), (51, .bipush 10)]) (jtb_ok (by decide +kernel)) (pc' := 53) (lv' := [(0, vR t), (1, vI a1)]) (st' := [vI (kI 10), vI a1]) rfl ?_
          refine j_icmp_ge hx (off := 25) (tgt := 78) (by decide +kernel) (by decide) (fun _ => ?_) (fun _ => ?_)
          · refine j_runA hx 2 (tb := [(78, .iload_n 1), (79, .bipush 12)]) (jtb_ok (by decide +kernel)) (pc' := 81) (lv' := [(0, vR t), (1, vI a1)]) (st' := [vI (kI 12), vI a1]) rfl ?_
            refine j_icmp_ge hx (off := 22) (tgt := 103) (by decide +kernel) (by decide) (fun _ => ?_) (fun _ => ?_)
            · refine j_runA hx 1 (tb := [(103, .aload_n 0)]) (jtb_ok (by decide +kernel)) (pc' := 104) (lv' := [(0, vR t), (1, vI a1)]) (st' := [vR t]) rfl ?_
              refine j_gd (fun h1 => ?_)
              refine j_getI hx flX11_56 kd1606 h1 (by decide) (by decide +kernel) ?_
              refine j_runA hx 1 (tb := [(107, .aload_n 0)]) (jtb_ok (by decide +kernel)) (pc' := 108) (lv' := [(0, vR t), (1, vI a1)]) (st' := [vR t, vI (jI W 1606 t)]) rfl ?_
              refine j_getI hx flX11_65 kd1609 h1 (by decide) (by decide +kernel) ?_
              refine j_icmp_ne hx (off := 14) (tgt := 125) (by decide +kernel) (by decide) (fun _ => ?_) (fun _ => ?_)
              · exact wrn_holds_125 h
              refine j_runA hx 1 (tb := [(114, .aload_n 0)]) (jtb_ok (by decide +kernel)) (pc' := 115) (lv' := [(0, vR t), (1, vI a1)]) (st' := [vR t]) rfl ?_
              refine j_getI hx flX11_59 kd1607 h1 (by decide) (by decide +kernel) ?_
              refine j_if_ne hx (off := 7) (tgt := 125) (by decide +kernel) (by decide) (fun _ => ?_) (fun _ => ?_)
              · exact wrn_holds_125 h
              refine j_runA hx 1 (tb := [(121, .iconst 1)]) (jtb_ok (by decide +kernel)) (pc' := 122) (lv' := [(0, vR t), (1, vI a1)]) (st' := [vI (kI 1)]) rfl ?_
              refine j_goto hx (off := 4) (by decide +kernel) (tgt := 126) (by decide) ?_
              exact wrn_holds_126 h (kI 1)
            refine j_runA hx 1 (tb := [(84, .aload_n 0)]) (jtb_ok (by decide +kernel)) (pc' := 85) (lv' := [(0, vR t), (1, vI a1)]) (st' := [vR t]) rfl ?_
            refine j_gd (fun h2 => ?_)
            refine j_getI hx flX11_56 kd1606 h2 (by decide) (by decide +kernel) ?_
            refine j_runA hx 1 (tb := [(88, .aload_n 0)]) (jtb_ok (by decide +kernel)) (pc' := 89) (lv' := [(0, vR t), (1, vI a1)]) (st' := [vR t, vI (jI W 1606 t)]) rfl ?_
            refine j_getI hx flX11_65 kd1609 h2 (by decide) (by decide +kernel) ?_
            refine j_icmp_ne hx (off := 7) (tgt := 99) (by decide +kernel) (by decide) (fun _ => ?_) (fun _ => ?_)
            · refine j_runA hx 1 (tb := [(99, .iconst 0)]) (jtb_ok (by decide +kernel)) (pc' := 100) (lv' := [(0, vR t), (1, vI a1)]) (st' := [vI (kI 0)]) rfl ?_
              refine j_goto hx (off := 26) (by decide +kernel) (tgt := 126) (by decide) ?_
              exact wrn_holds_126 h (kI 0)
            refine j_runA hx 1 (tb := [(95, .iconst 1)]) (jtb_ok (by decide +kernel)) (pc' := 96) (lv' := [(0, vR t), (1, vI a1)]) (st' := [vI (kI 1)]) rfl ?_
            refine j_goto hx (off := 30) (by decide +kernel) (tgt := 126) (by decide) ?_
            exact wrn_holds_126 h (kI 1)
          refine j_runA hx 1 (tb := [(56, .aload_n 0)]) (jtb_ok (by decide +kernel)) (pc' := 57) (lv' := [(0, vR t), (1, vI a1)]) (st' := [vR t]) rfl ?_
          refine j_gd (fun h3 => ?_)
          refine j_getI hx flX11_62 kd1608 h3 (by decide) (by decide +kernel) ?_
          refine j_if_eq hx (off := 14) (tgt := 74) (by decide +kernel) (by decide) (fun _ => ?_) (fun _ => ?_)
          · exact wrn_holds_74 h
          refine j_runA hx 1 (tb := [(63, .aload_n 0)]) (jtb_ok (by decide +kernel)) (pc' := 64) (lv' := [(0, vR t), (1, vI a1)]) (st' := [vR t]) rfl ?_
          refine j_getI hx flX11_59 kd1607 h3 (by decide) (by decide +kernel) ?_
          refine j_if_ne hx (off := 7) (tgt := 74) (by decide +kernel) (by decide) (fun _ => ?_) (fun _ => ?_)
          · exact wrn_holds_74 h
          refine j_runA hx 1 (tb := [(70, .iconst 1)]) (jtb_ok (by decide +kernel)) (pc' := 71) (lv' := [(0, vR t), (1, vI a1)]) (st' := [vI (kI 1)]) rfl ?_
          refine j_goto hx (off := 55) (by decide +kernel) (tgt := 126) (by decide) ?_
          exact wrn_holds_126 h (kI 1)
        refine j_runA hx 1 (tb := [(43, .aload_n 0)]) (jtb_ok (by decide +kernel)) (pc' := 44) (lv' := [(0, vR t), (1, vI a1)]) (st' := [vR t]) rfl ?_
        refine j_gd (fun h4 => ?_)
        refine j_getI hx flX11_65 kd1609 h4 (by decide) (by decide +kernel) ?_
        refine j_goto hx (off := 79) (by decide +kernel) (tgt := 126) (by decide) ?_
        exact wrn_holds_126 h (jI W 1609 t)
      refine j_runA hx 1 (tb := [(30, .aload_n 0)]) (jtb_ok (by decide +kernel)) (pc' := 31) (lv' := [(0, vR t), (1, vI a1)]) (st' := [vR t]) rfl ?_
      refine j_gd (fun h5 => ?_)
      refine j_getI hx flX11_56 kd1606 h5 (by decide) (by decide +kernel) ?_
      refine j_goto hx (off := 92) (by decide +kernel) (tgt := 126) (by decide) ?_
      exact wrn_holds_126 h (jI W 1606 t)
    refine j_runA hx 1 (tb := [(17, .aload_n 0)]) (jtb_ok (by decide +kernel)) (pc' := 18) (lv' := [(0, vR t), (1, vI a1)]) (st' := [vR t]) rfl ?_
    refine j_gd (fun h6 => ?_)
    refine j_getI hx flX11_62 kd1608 h6 (by decide) (by decide +kernel) ?_
    refine j_goto hx (off := 105) (by decide +kernel) (tgt := 126) (by decide) ?_
    exact wrn_holds_126 h (jI W 1608 t)
  refine j_runA hx 1 (tb := [(5, .aload_n 0)]) (jtb_ok (by decide +kernel)) (pc' := 6) (lv' := [(0, vR t), (1, vI a1)]) (st' := [vR t]) rfl ?_
  refine j_gd (fun h7 => ?_)
  refine j_getI hx flX11_59 kd1607 h7 (by decide) (by decide +kernel) ?_
  refine j_goto hx (off := 117) (by decide +kernel) (tgt := 126) (by decide) ?_
  exact wrn_holds_126 h (jI W 1607 t)
theorem crn_holds (t : Nat) (a1 : Int32) (W : jW) : jM yX11_holds cX11_holds 3 (Option.some Jvm.ClassFile.FieldType.boolean) [] 0 0 [vR t, vI a1] W ((frn_holds t a1 W).bind (fun q => some (.returned (some (.int q)), W))) := 
  jM.of (Nat.le_of_ble_eq_true rfl) (fun x hx hm hr => wrn_holds ⟨hx, hm, hr, fun _ => rfl⟩)
def hrn_choose (x : jCx) (en : (Int32 × jW) → Option (Outcome × jW)) (t : Nat) (a1 : Int32) (a2 : Int32) (a3 : Int32) (a4 : Int32) : Prop :=
  jOK x RX11 cX11_choose 11 ∧
  jMt x "choose" (Option.some Jvm.ClassFile.FieldType.int) [] ∧
  jRm x 2 31 ∧
  (∀ q : Int32 × jW, en q = some (.returned (some (.int q.1)), q.2))
theorem wrn_choose_85 {x : jCx} {en : (Int32 × jW) → Option (Outcome × jW)} {t : Nat} {a1 : Int32} {a2 : Int32} {a3 : Int32} {a4 : Int32} (h : hrn_choose x en t a1 a2 a3 a4) (W : jW) : jJ x 11 85 [(0, vR t), (1, vI a1), (2, vI a2), (3, vI a3), (4, vI a4)] [] W (frn_choose_85 t a1 a2 a3 a4 W) en := by
  have h0 := h
  obtain ⟨hx, hm, hr, he⟩ := h0
  unfold frn_choose_85
  refine j_runA hx 1 (tb := [(85, .iconst 3)]) (jtb_ok (by decide +kernel)) (pc' := 86) (lv' := [(0, vR t), (1, vI a1), (2, vI a2), (3, vI a3), (4, vI a4)]) (st' := [vI (kI 3)]) rfl ?_
  exact j_iret hx hm (by decide +kernel) rfl (he _)
theorem wrn_choose_139 {x : jCx} {en : (Int32 × jW) → Option (Outcome × jW)} {t : Nat} {a1 : Int32} {a2 : Int32} {a3 : Int32} {a4 : Int32} (h : hrn_choose x en t a1 a2 a3 a4) (s0 : Int64) (s1 : Int32) (s2 : Nat) (W : jW) : jJ x 11 139 [(0, vR t), (1, vI a1), (2, vI a2), (3, vI a3), (4, vI a4)] [vL s0, vI s1, vR s2] W (frn_choose_139 t a1 a2 a3 a4 s0 s1 s2 W) en := by
  have h0 := h
  obtain ⟨hx, hm, hr, he⟩ := h0
  unfold frn_choose_139
  refine j_gd (fun h16 => ?_)
  refine j_WV (j_callV (av := [vI s1, vL s0]) (st := []) hx hr (Or.inl q3427) q3429 qs197 rfl md_frn_set np_frn_set (crn_set s2 s1 s0 W) (by decide) (Nat.le_of_ble_eq_true rfl) h16 (by decide) (by decide +kernel)) (fun q17 _ => ?_)
  refine j_runA hx 1 (tb := [(142, .iconst (-1))]) (jtb_ok (by decide +kernel)) (pc' := 143) (lv' := [(0, vR t), (1, vI a1), (2, vI a2), (3, vI a3), (4, vI a4)]) (st' := [vI (kI (-1))]) rfl ?_
  exact j_iret hx hm (by decide +kernel) rfl (he _)
theorem wrn_choose_117 {x : jCx} {en : (Int32 × jW) → Option (Outcome × jW)} {t : Nat} {a1 : Int32} {a2 : Int32} {a3 : Int32} {a4 : Int32} (h : hrn_choose x en t a1 a2 a3 a4) (l6 : Int32) (s0 : Int32) (s1 : Int64) (W : jW) : jJ x 11 117 [(0, vR t), (1, vI a1), (2, vI a2), (3, vI a3), (4, vI a4), (6, vI l6)] [vI s0, vL s1] W (frn_choose_117 t a1 a2 a3 a4 l6 s0 s1 W) en := by
  have h0 := h
  obtain ⟨hx, hm, hr, he⟩ := h0
  unfold frn_choose_117
  refine j_runA hx 3 (tb := [(117, .i2l), (118, .ladd), (119, .lstore 9)]) (jtb_ok (by decide +kernel)) (pc' := 121) (lv' := [(9, vL (s1 + s0.toInt64)), (0, vR t), (1, vI a1), (2, vI a2), (3, vI a3), (4, vI a4), (6, vI l6)]) (st' := []) rfl ?_
  refine j_let (v := (s1 + s0.toInt64)) (lv := fun v14 => [(9, vL v14), (0, vR t), (1, vI a1), (2, vI a2), (3, vI a3), (4, vI a4), (6, vI l6)]) (st := fun _ => []) (fun v14 => ?_)
  refine j_runA hx 3 (tb := [(121, .aload_n 0), (122, .iload_n 2), (123, .iload 6)]) (jtb_ok (by decide +kernel)) (pc' := 125) (lv' := [(9, vL v14), (0, vR t), (1, vI a1), (2, vI a2), (3, vI a3), (4, vI a4), (6, vI l6)]) (st' := [vI l6, vI a2, vR t]) rfl ?_
  refine j_if_eq hx (off := 8) (tgt := 133) (by decide +kernel) (by decide) (fun _ => ?_) (fun _ => ?_)
  · refine j_runA hx 1 (tb := [(133, .lload 9)]) (jtb_ok (by decide +kernel)) (pc' := 135) (lv' := [(9, vL v14), (0, vR t), (1, vI a1), (2, vI a2), (3, vI a3), (4, vI a4), (6, vI l6)]) (st' := [vL v14, vI a2, vR t]) rfl ?_
    refine j_ldc2 hx (v := (kJ 4294967295)) (jkd2 q3406 (by decide +kernel)) (by decide +kernel) ?_
    refine j_runA hx 1 (tb := [(138, .land)]) (jtb_ok (by decide +kernel)) (pc' := 139) (lv' := [(9, vL v14), (0, vR t), (1, vI a1), (2, vI a2), (3, vI a3), (4, vI a4), (6, vI l6)]) (st' := [vL (v14 &&& (kJ 4294967295)), vI a2, vR t]) rfl ?_
    refine j_lv (lv' := [(0, vR t), (1, vI a1), (2, vI a2), (3, vI a3), (4, vI a4)]) ⟨rfl, rfl, rfl, rfl, rfl, trivial⟩ ?_
    exact wrn_choose_139 h (v14 &&& (kJ 4294967295)) a2 t W
  refine j_runA hx 1 (tb := [(128, .lload 9)]) (jtb_ok (by decide +kernel)) (pc' := 130) (lv' := [(9, vL v14), (0, vR t), (1, vI a1), (2, vI a2), (3, vI a3), (4, vI a4), (6, vI l6)]) (st' := [vL v14, vI a2, vR t]) rfl ?_
  refine j_goto hx (off := 9) (by decide +kernel) (tgt := 139) (by decide) ?_
  refine j_lv (lv' := [(0, vR t), (1, vI a1), (2, vI a2), (3, vI a3), (4, vI a4)]) ⟨rfl, rfl, rfl, rfl, rfl, trivial⟩ ?_
  exact wrn_choose_139 h v14 a2 t W
theorem wrn_choose_116 {x : jCx} {en : (Int32 × jW) → Option (Outcome × jW)} {t : Nat} {a1 : Int32} {a2 : Int32} {a3 : Int32} {a4 : Int32} (h : hrn_choose x en t a1 a2 a3 a4) (l6 : Int32) (s0 : Int64) (W : jW) : jJ x 11 116 [(0, vR t), (1, vI a1), (2, vI a2), (3, vI a3), (4, vI a4), (6, vI l6)] [vL s0] W (frn_choose_116 t a1 a2 a3 a4 l6 s0 W) en := by
  have h0 := h
  obtain ⟨hx, hm, hr, he⟩ := h0
  unfold frn_choose_116
  refine j_runA hx 1 (tb := [(116, .iconst 0)]) (jtb_ok (by decide +kernel)) (pc' := 117) (lv' := [(0, vR t), (1, vI a1), (2, vI a2), (3, vI a3), (4, vI a4), (6, vI l6)]) (st' := [vI (kI 0), vL s0]) rfl ?_
  exact wrn_choose_117 h l6 (kI 0) s0 W
theorem wrn_choose_53 {x : jCx} {en : (Int32 × jW) → Option (Outcome × jW)} {t : Nat} {a1 : Int32} {a2 : Int32} {a3 : Int32} {a4 : Int32} (h : hrn_choose x en t a1 a2 a3 a4) (l5 : Int32) (l6 : Int32) (l7 : Int32) (s0 : Int32) (W : jW) : jJ x 11 53 [(0, vR t), (1, vI a1), (2, vI a2), (3, vI a3), (4, vI a4), (5, vI l5), (6, vI l6), (7, vI l7)] [vI s0] W (frn_choose_53 t a1 a2 a3 a4 l5 l6 l7 s0 W) en := by
  have h0 := h
  obtain ⟨hx, hm, hr, he⟩ := h0
  unfold frn_choose_53
  refine j_runA hx 3 (tb := [(53, .istore 8), (55, .aload_n 0), (56, .iload 8)]) (jtb_ok (by decide +kernel)) (pc' := 58) (lv' := [(8, vI s0), (0, vR t), (1, vI a1), (2, vI a2), (3, vI a3), (4, vI a4), (5, vI l5), (6, vI l6), (7, vI l7)]) (st' := [vI s0, vR t]) rfl ?_
  refine j_gd (fun h6 => ?_)
  refine j_OI (j_callV (av := [vI s0]) (st := []) hx hr (Or.inl q3415) q3417 qs194 rfl md_frn_isCode np_frn_isCode (crn_isCode t s0 W) (by decide) (Nat.le_of_ble_eq_true rfl) h6 (by decide) (by decide +kernel)) (fun q7 _ => ?_)
  refine j_if_eq hx (off := 35) (tgt := 96) (by decide +kernel) (by decide) (fun _ => ?_) (fun _ => ?_)
  · refine j_runA hx 2 (tb := [(96, .aload_n 0), (97, .iload 8)]) (jtb_ok (by decide +kernel)) (pc' := 99) (lv' := [(8, vI s0), (0, vR t), (1, vI a1), (2, vI a2), (3, vI a3), (4, vI a4), (5, vI l5), (6, vI l6), (7, vI l7)]) (st' := [vI s0, vR t]) rfl ?_
    refine j_OL (j_callV (av := [vI s0]) (st := []) hx hr (Or.inl q3419) q3421 qs195 rfl md_frn_r np_frn_r (crn_r t s0 W) (by decide) (Nat.le_of_ble_eq_true rfl) h6 (by decide) (by decide +kernel)) (fun q8 _ => ?_)
    refine j_runA hx 1 (tb := [(102, .iload 5)]) (jtb_ok (by decide +kernel)) (pc' := 104) (lv' := [(8, vI s0), (0, vR t), (1, vI a1), (2, vI a2), (3, vI a3), (4, vI a4), (5, vI l5), (6, vI l6), (7, vI l7)]) (st' := [vI l5, vL q8]) rfl ?_
    refine j_if_ne hx (off := 12) (tgt := 116) (by decide +kernel) (by decide) (fun _ => ?_) (fun _ => ?_)
    · refine j_lv (lv' := [(0, vR t), (1, vI a1), (2, vI a2), (3, vI a3), (4, vI a4), (6, vI l6)]) ⟨rfl, rfl, rfl, rfl, rfl, rfl, trivial⟩ ?_
      exact wrn_choose_116 h l6 q8 W
    refine j_runA hx 1 (tb := [(107, .iload 7)]) (jtb_ok (by decide +kernel)) (pc' := 109) (lv' := [(8, vI s0), (0, vR t), (1, vI a1), (2, vI a2), (3, vI a3), (4, vI a4), (5, vI l5), (6, vI l6), (7, vI l7)]) (st' := [vI l7, vL q8]) rfl ?_
    refine j_if_eq hx (off := 7) (tgt := 116) (by decide +kernel) (by decide) (fun _ => ?_) (fun _ => ?_)
    · refine j_lv (lv' := [(0, vR t), (1, vI a1), (2, vI a2), (3, vI a3), (4, vI a4), (6, vI l6)]) ⟨rfl, rfl, rfl, rfl, rfl, rfl, trivial⟩ ?_
      exact wrn_choose_116 h l6 q8 W
    refine j_runA hx 1 (tb := [(112, .iconst 1)]) (jtb_ok (by decide +kernel)) (pc' := 113) (lv' := [(8, vI s0), (0, vR t), (1, vI a1), (2, vI a2), (3, vI a3), (4, vI a4), (5, vI l5), (6, vI l6), (7, vI l7)]) (st' := [vI (kI 1), vL q8]) rfl ?_
    refine j_goto hx (off := 4) (by decide +kernel) (tgt := 117) (by decide) ?_
    refine j_lv (lv' := [(0, vR t), (1, vI a1), (2, vI a2), (3, vI a3), (4, vI a4), (6, vI l6)]) ⟨rfl, rfl, rfl, rfl, rfl, rfl, trivial⟩ ?_
    exact wrn_choose_117 h l6 (kI 1) q8 W
  refine j_runA hx 1 (tb := [(64, .iload 7)]) (jtb_ok (by decide +kernel)) (pc' := 66) (lv' := [(8, vI s0), (0, vR t), (1, vI a1), (2, vI a2), (3, vI a3), (4, vI a4), (5, vI l5), (6, vI l6), (7, vI l7)]) (st' := [vI l7]) rfl ?_
  refine j_if_ne hx (off := 19) (tgt := 85) (by decide +kernel) (by decide) (fun _ => ?_) (fun _ => ?_)
  · refine j_lv (lv' := [(0, vR t), (1, vI a1), (2, vI a2), (3, vI a3), (4, vI a4)]) ⟨rfl, rfl, rfl, rfl, rfl, trivial⟩ ?_
    exact wrn_choose_85 h W
  refine j_runA hx 1 (tb := [(69, .iload 6)]) (jtb_ok (by decide +kernel)) (pc' := 71) (lv' := [(8, vI s0), (0, vR t), (1, vI a1), (2, vI a2), (3, vI a3), (4, vI a4), (5, vI l5), (6, vI l6), (7, vI l7)]) (st' := [vI l6]) rfl ?_
  refine j_if_eq hx (off := 14) (tgt := 85) (by decide +kernel) (by decide) (fun _ => ?_) (fun _ => ?_)
  · refine j_lv (lv' := [(0, vR t), (1, vI a1), (2, vI a2), (3, vI a3), (4, vI a4)]) ⟨rfl, rfl, rfl, rfl, rfl, trivial⟩ ?_
    exact wrn_choose_85 h W
  refine j_runA hx 1 (tb := [(74, .aload_n 0)]) (jtb_ok (by decide +kernel)) (pc' := 75) (lv' := [(8, vI s0), (0, vR t), (1, vI a1), (2, vI a2), (3, vI a3), (4, vI a4), (5, vI l5), (6, vI l6), (7, vI l7)]) (st' := [vR t]) rfl ?_
  refine j_getR hx flX11_15 kl1604 h6 (by decide) (by decide +kernel) ?_
  refine j_runA hx 1 (tb := [(78, .iload 8)]) (jtb_ok (by decide +kernel)) (pc' := 80) (lv' := [(8, vI s0), (0, vR t), (1, vI a1), (2, vI a2), (3, vI a3), (4, vI a4), (5, vI l5), (6, vI l6), (7, vI l7)]) (st' := [vI s0, vR (jR W 1604 t)]) rfl ?_
  refine j_gd (fun h9 => ?_)
  refine j_bald hx (f := 1604) (o := t) kd1604 rfl (by decide +kernel) h9 ?_
  refine j_runA hx 1 (tb := [(81, .iconst 3)]) (jtb_ok (by decide +kernel)) (pc' := 82) (lv' := [(8, vI s0), (0, vR t), (1, vI a1), (2, vI a2), (3, vI a3), (4, vI a4), (5, vI l5), (6, vI l6), (7, vI l7)]) (st' := [vI (kI 3), vI (jA W 1604 t (ix s0))]) rfl ?_
  refine j_icmp_ne hx (off := 5) (tgt := 87) (by decide +kernel) (by decide) (fun _ => ?_) (fun _ => ?_)
  · refine j_runA hx 3 (tb := [(87, .aload_n 0), (88, .iload_n 2), (89, .iload 8)]) (jtb_ok (by decide +kernel)) (pc' := 91) (lv' := [(8, vI s0), (0, vR t), (1, vI a1), (2, vI a2), (3, vI a3), (4, vI a4), (5, vI l5), (6, vI l6), (7, vI l7)]) (st' := [vI s0, vI a2, vR t]) rfl ?_
    refine j_WV (j_callV (av := [vI a2, vI s0]) (st := []) hx hr (Or.inl q3435) q3437 qs199 rfl md_frn_copy np_frn_copy (crn_copy t a2 s0 W) (by decide) (Nat.le_of_ble_eq_true rfl) h6 (by decide) (by decide +kernel)) (fun q10 _ => ?_)
    refine j_runA hx 1 (tb := [(94, .iconst (-1))]) (jtb_ok (by decide +kernel)) (pc' := 95) (lv' := [(8, vI s0), (0, vR t), (1, vI a1), (2, vI a2), (3, vI a3), (4, vI a4), (5, vI l5), (6, vI l6), (7, vI l7)]) (st' := [vI (kI (-1))]) rfl ?_
    exact j_iret hx hm (by decide +kernel) rfl (he _)
  refine j_lv (lv' := [(0, vR t), (1, vI a1), (2, vI a2), (3, vI a3), (4, vI a4)]) ⟨rfl, rfl, rfl, rfl, rfl, trivial⟩ ?_
  exact wrn_choose_85 h W
theorem wrn_choose_40 {x : jCx} {en : (Int32 × jW) → Option (Outcome × jW)} {t : Nat} {a1 : Int32} {a2 : Int32} {a3 : Int32} {a4 : Int32} (h : hrn_choose x en t a1 a2 a3 a4) (l5 : Int32) (l6 : Int32) (s0 : Int32) (W : jW) : jJ x 11 40 [(0, vR t), (1, vI a1), (2, vI a2), (3, vI a3), (4, vI a4), (5, vI l5), (6, vI l6)] [vI s0] W (frn_choose_40 t a1 a2 a3 a4 l5 l6 s0 W) en := by
  have h0 := h
  obtain ⟨hx, hm, hr, he⟩ := h0
  unfold frn_choose_40
  refine j_runA hx 2 (tb := [(40, .istore 7), (42, .iload 5)]) (jtb_ok (by decide +kernel)) (pc' := 44) (lv' := [(7, vI s0), (0, vR t), (1, vI a1), (2, vI a2), (3, vI a3), (4, vI a4), (5, vI l5), (6, vI l6)]) (st' := [vI l5]) rfl ?_
  refine j_if_eq hx (off := 7) (tgt := 51) (by decide +kernel) (by decide) (fun _ => ?_) (fun _ => ?_)
  · refine j_runA hx 1 (tb := [(51, .iload 4)]) (jtb_ok (by decide +kernel)) (pc' := 53) (lv' := [(7, vI s0), (0, vR t), (1, vI a1), (2, vI a2), (3, vI a3), (4, vI a4), (5, vI l5), (6, vI l6)]) (st' := [vI a4]) rfl ?_
    refine j_lv (lv' := [(0, vR t), (1, vI a1), (2, vI a2), (3, vI a3), (4, vI a4), (5, vI l5), (6, vI l6), (7, vI s0)]) ⟨rfl, rfl, rfl, rfl, rfl, rfl, rfl, rfl, trivial⟩ ?_
    exact wrn_choose_53 h l5 l6 s0 a4 W
  refine j_runA hx 1 (tb := [(47, .iload_n 3)]) (jtb_ok (by decide +kernel)) (pc' := 48) (lv' := [(7, vI s0), (0, vR t), (1, vI a1), (2, vI a2), (3, vI a3), (4, vI a4), (5, vI l5), (6, vI l6)]) (st' := [vI a3]) rfl ?_
  refine j_goto hx (off := 5) (by decide +kernel) (tgt := 53) (by decide) ?_
  refine j_lv (lv' := [(0, vR t), (1, vI a1), (2, vI a2), (3, vI a3), (4, vI a4), (5, vI l5), (6, vI l6), (7, vI s0)]) ⟨rfl, rfl, rfl, rfl, rfl, rfl, rfl, rfl, trivial⟩ ?_
  exact wrn_choose_53 h l5 l6 s0 a3 W
theorem wrn_choose_22 {x : jCx} {en : (Int32 × jW) → Option (Outcome × jW)} {t : Nat} {a1 : Int32} {a2 : Int32} {a3 : Int32} {a4 : Int32} (h : hrn_choose x en t a1 a2 a3 a4) (l5 : Int32) (s0 : Int32) (W : jW) : jJ x 11 22 [(0, vR t), (1, vI a1), (2, vI a2), (3, vI a3), (4, vI a4), (5, vI l5)] [vI s0] W (frn_choose_22 t a1 a2 a3 a4 l5 s0 W) en := by
  have h0 := h
  obtain ⟨hx, hm, hr, he⟩ := h0
  unfold frn_choose_22
  refine j_runA hx 4 (tb := [(22, .istore 6), (24, .iload_n 1), (25, .bipush 10), (27, .iconst 1)]) (jtb_ok (by decide +kernel)) (pc' := 28) (lv' := [(6, vI s0), (0, vR t), (1, vI a1), (2, vI a2), (3, vI a3), (4, vI a4), (5, vI l5)]) (st' := [vI (kI 1), vI (kI 10), vI a1]) rfl ?_
  refine j_TI (j_callS (av := [vI a1, vI (kI 10), vI (kI 1)]) (st := []) hx hr (Or.inr ⟨_, q3393⟩) q2964 q241 md_fmo_bits np_fmo_bits (cmo_bits a1 (kI 10) (kI 1) W) (by decide) (Nat.le_of_ble_eq_true rfl) (by decide +kernel)) ?_
  refine j_runA hx 1 (tb := [(31, .iconst 1)]) (jtb_ok (by decide +kernel)) (pc' := 32) (lv' := [(6, vI s0), (0, vR t), (1, vI a1), (2, vI a2), (3, vI a3), (4, vI a4), (5, vI l5)]) (st' := [vI (kI 1), vI (fmo_bits a1 (kI 10) (kI 1))]) rfl ?_
  refine j_icmp_ne hx (off := 7) (tgt := 39) (by decide +kernel) (by decide) (fun _ => ?_) (fun _ => ?_)
  · refine j_runA hx 1 (tb := [(39, .iconst 0)]) (jtb_ok (by decide +kernel)) (pc' := 40) (lv' := [(6, vI s0), (0, vR t), (1, vI a1), (2, vI a2), (3, vI a3), (4, vI a4), (5, vI l5)]) (st' := [vI (kI 0)]) rfl ?_
    refine j_lv (lv' := [(0, vR t), (1, vI a1), (2, vI a2), (3, vI a3), (4, vI a4), (5, vI l5), (6, vI s0)]) ⟨rfl, rfl, rfl, rfl, rfl, rfl, rfl, trivial⟩ ?_
    exact wrn_choose_40 h l5 s0 (kI 0) W
  refine j_runA hx 1 (tb := [(35, .iconst 1)]) (jtb_ok (by decide +kernel)) (pc' := 36) (lv' := [(6, vI s0), (0, vR t), (1, vI a1), (2, vI a2), (3, vI a3), (4, vI a4), (5, vI l5)]) (st' := [vI (kI 1)]) rfl ?_
  refine j_goto hx (off := 4) (by decide +kernel) (tgt := 40) (by decide) ?_
  refine j_lv (lv' := [(0, vR t), (1, vI a1), (2, vI a2), (3, vI a3), (4, vI a4), (5, vI l5), (6, vI s0)]) ⟨rfl, rfl, rfl, rfl, rfl, rfl, rfl, trivial⟩ ?_
  exact wrn_choose_40 h l5 s0 (kI 1) W
theorem wrn_choose {x : jCx} {en : (Int32 × jW) → Option (Outcome × jW)} {t : Nat} {a1 : Int32} {a2 : Int32} {a3 : Int32} {a4 : Int32} (h : hrn_choose x en t a1 a2 a3 a4) (W : jW) : jJ x 11 0 [(0, vR t), (1, vI a1), (2, vI a2), (3, vI a3), (4, vI a4)] [] W (frn_choose t a1 a2 a3 a4 W) en := by
  have h0 := h
  obtain ⟨hx, hm, hr, he⟩ := h0
  unfold frn_choose
  refine j_runA hx 4 (tb := [(0, .aload_n 0), (1, .iload_n 1), (2, .bipush 12), (4, .iconst 4)]) (jtb_ok (by decide +kernel)) (pc' := 5) (lv' := [(0, vR t), (1, vI a1), (2, vI a2), (3, vI a3), (4, vI a4)]) (st' := [vI (kI 4), vI (kI 12), vI a1, vR t]) rfl ?_
  refine j_TI (j_callS (av := [vI a1, vI (kI 12), vI (kI 4)]) (st := [vR t]) hx hr (Or.inr ⟨_, q3393⟩) q2964 q241 md_fmo_bits np_fmo_bits (cmo_bits a1 (kI 12) (kI 4) W) (by decide) (Nat.le_of_ble_eq_true rfl) (by decide +kernel)) ?_
  refine j_gd (fun h1 => ?_)
  refine j_OI (j_callV (av := [vI (fmo_bits a1 (kI 12) (kI 4))]) (st := []) hx hr (Or.inl q3463) q3465 qs203 rfl md_frn_holds np_frn_holds (crn_holds t (fmo_bits a1 (kI 12) (kI 4)) W) (by decide) (Nat.le_of_ble_eq_true rfl) h1 (by decide) (by decide +kernel)) (fun q2 _ => ?_)
  refine j_runA hx 2 (tb := [(11, .istore 5), (13, .iload_n 1)]) (jtb_ok (by decide +kernel)) (pc' := 14) (lv' := [(5, vI q2), (0, vR t), (1, vI a1), (2, vI a2), (3, vI a3), (4, vI a4)]) (st' := [vI a1]) rfl ?_
  refine j_if_ge hx (off := 7) (tgt := 21) (by decide +kernel) (by decide) (fun _ => ?_) (fun _ => ?_)
  · refine j_runA hx 1 (tb := [(21, .iconst 0)]) (jtb_ok (by decide +kernel)) (pc' := 22) (lv' := [(5, vI q2), (0, vR t), (1, vI a1), (2, vI a2), (3, vI a3), (4, vI a4)]) (st' := [vI (kI 0)]) rfl ?_
    refine j_lv (lv' := [(0, vR t), (1, vI a1), (2, vI a2), (3, vI a3), (4, vI a4), (5, vI q2)]) ⟨rfl, rfl, rfl, rfl, rfl, rfl, trivial⟩ ?_
    exact wrn_choose_22 h q2 (kI 0) W
  refine j_runA hx 1 (tb := [(17, .iconst 1)]) (jtb_ok (by decide +kernel)) (pc' := 18) (lv' := [(5, vI q2), (0, vR t), (1, vI a1), (2, vI a2), (3, vI a3), (4, vI a4)]) (st' := [vI (kI 1)]) rfl ?_
  refine j_goto hx (off := 4) (by decide +kernel) (tgt := 22) (by decide) ?_
  refine j_lv (lv' := [(0, vR t), (1, vI a1), (2, vI a2), (3, vI a3), (4, vI a4), (5, vI q2)]) ⟨rfl, rfl, rfl, rfl, rfl, rfl, trivial⟩ ?_
  exact wrn_choose_22 h q2 (kI 1) W
theorem crn_choose (t : Nat) (a1 : Int32) (a2 : Int32) (a3 : Int32) (a4 : Int32) (W : jW) : jM yX11_choose cX11_choose 11 (Option.some Jvm.ClassFile.FieldType.int) [] 2 31 [vR t, vI a1, vI a2, vI a3, vI a4] W ((frn_choose t a1 a2 a3 a4 W).bind (fun q => some (.returned (some (.int q.1)), q.2))) := 
  jM.of (Nat.le_of_ble_eq_true rfl) (fun x hx hm hr => wrn_choose ⟨hx, hm, hr, fun _ => rfl⟩ W)
def hrn_hits (x : jCx) (en : (Int32) → Option (Outcome × jW)) (t : Nat) (a1 : Int64) (a3 : Int32) (W : jW) : Prop :=
  jOK x RX11 cX11_hits 5 ∧
  jMt x "hits" (Option.some Jvm.ClassFile.FieldType.boolean) [] ∧
  jRm x 1 13 ∧
  (∀ q : Int32, en q = some (.returned (some (.int q)), W))
theorem wrn_hits_81 {x : jCx} {en : (Int32) → Option (Outcome × jW)} {W : jW} {t : Nat} {a1 : Int64} {a3 : Int32} (h : hrn_hits x en t a1 a3 W) : jJ x 5 81 [(0, vR t), (1, vL a1), (3, vI a3)] [] W (frn_hits_81 t a1 a3 W) en := by
  have h0 := h
  obtain ⟨hx, hm, hr, he⟩ := h0
  unfold frn_hits_81
  refine j_runA hx 1 (tb := [(81, .iconst 0)]) (jtb_ok (by decide +kernel)) (pc' := 82) (lv' := [(0, vR t), (1, vL a1), (3, vI a3)]) (st' := [vI (kI 0)]) rfl ?_
  exact j_iret hx hm (by decide +kernel) jz0n (he _)
theorem wrn_hits_40 {x : jCx} {en : (Int32) → Option (Outcome × jW)} {W : jW} {t : Nat} {a1 : Int64} {a3 : Int32} (h : hrn_hits x en t a1 a3 W) (s0 : Int32) : jJ x 5 40 [(0, vR t), (1, vL a1), (3, vI a3)] [vI s0] W (frn_hits_40 t a1 a3 s0 W) en := by
  have h0 := h
  obtain ⟨hx, hm, hr, he⟩ := h0
  unfold frn_hits_40
  refine j_runA hx 3 (tb := [(40, .istore 4), (42, .lload_n 1), (43, .aload_n 0)]) (jtb_ok (by decide +kernel)) (pc' := 44) (lv' := [(4, vI s0), (0, vR t), (1, vL a1), (3, vI a3)]) (st' := [vR t, vL a1]) rfl ?_
  refine j_gd (fun h5 => ?_)
  refine j_getR hx flX11_42 kl1600 h5 (by decide) (by decide +kernel) ?_
  refine j_gd (fun h6 => ?_)
  refine j_getL hx flX11_159 kd1313 h6 (by decide) (by decide +kernel) ?_
  refine j_runA hx 3 (tb := [(50, .iload_n 3), (51, .i2l), (52, .lsub)]) (jtb_ok (by decide +kernel)) (pc' := 53) (lv' := [(4, vI s0), (0, vR t), (1, vL a1), (3, vI a3)]) (st' := [vL ((jL W 1313 (jR W 1600 t)) - a3.toInt64), vL a1]) rfl ?_
  refine j_lcmp_le hx (off := 27) (tgt := 81) (by decide +kernel) (by decide +kernel) (by decide) (fun _ => ?_) (fun _ => ?_)
  · refine j_lv (lv' := [(0, vR t), (1, vL a1), (3, vI a3)]) ⟨rfl, rfl, rfl, trivial⟩ ?_
    exact wrn_hits_81 h
  refine j_runA hx 2 (tb := [(57, .lload_n 1), (58, .aload_n 0)]) (jtb_ok (by decide +kernel)) (pc' := 59) (lv' := [(4, vI s0), (0, vR t), (1, vL a1), (3, vI a3)]) (st' := [vR t, vL a1]) rfl ?_
  refine j_getR hx flX11_42 kl1600 h5 (by decide) (by decide +kernel) ?_
  refine j_getL hx flX11_159 kd1313 h6 (by decide) (by decide +kernel) ?_
  refine j_ldc2 hx (v := (kJ 4)) (jkd2 q3365 (by decide +kernel)) (by decide +kernel) ?_
  refine j_runA hx 4 (tb := [(68, .iload 4), (70, .i2l), (71, .lmul), (72, .ladd)]) (jtb_ok (by decide +kernel)) (pc' := 73) (lv' := [(4, vI s0), (0, vR t), (1, vL a1), (3, vI a3)]) (st' := [vL ((jL W 1313 (jR W 1600 t)) + ((kJ 4) * s0.toInt64)), vL a1]) rfl ?_
  refine j_lcmp_ge hx (off := 7) (tgt := 81) (by decide +kernel) (by decide +kernel) (by decide) (fun _ => ?_) (fun _ => ?_)
  · refine j_lv (lv' := [(0, vR t), (1, vL a1), (3, vI a3)]) ⟨rfl, rfl, rfl, trivial⟩ ?_
    exact wrn_hits_81 h
  refine j_runA hx 1 (tb := [(77, .iconst 1)]) (jtb_ok (by decide +kernel)) (pc' := 78) (lv' := [(4, vI s0), (0, vR t), (1, vL a1), (3, vI a3)]) (st' := [vI (kI 1)]) rfl ?_
  refine j_goto hx (off := 4) (by decide +kernel) (tgt := 82) (by decide) ?_
  exact j_iret hx hm (by decide +kernel) jz1n (he _)
theorem wrn_hits {x : jCx} {en : (Int32) → Option (Outcome × jW)} {W : jW} {t : Nat} {a1 : Int64} {a3 : Int32} (h : hrn_hits x en t a1 a3 W) : jJ x 5 0 [(0, vR t), (1, vL a1), (3, vI a3)] [] W (frn_hits t a1 a3 W) en := by
  have h0 := h
  obtain ⟨hx, hm, hr, he⟩ := h0
  unfold frn_hits
  refine j_runA hx 1 (tb := [(0, .aload_n 0)]) (jtb_ok (by decide +kernel)) (pc' := 1) (lv' := [(0, vR t), (1, vL a1), (3, vI a3)]) (st' := [vR t]) rfl ?_
  refine j_gd (fun h1 => ?_)
  refine j_getR hx flX11_42 kl1600 h1 (by decide) (by decide +kernel) ?_
  refine j_gd (fun h2 => ?_)
  refine j_getI hx flX11_200 kd1352 h2 (by decide) (by decide +kernel) ?_
  refine j_if_eq hx (off := 26) (tgt := 33) (by decide +kernel) (by decide) (fun _ => ?_) (fun _ => ?_)
  · refine j_runA hx 1 (tb := [(33, .aload_n 0)]) (jtb_ok (by decide +kernel)) (pc' := 34) (lv' := [(0, vR t), (1, vL a1), (3, vI a3)]) (st' := [vR t]) rfl ?_
    refine j_getR hx flX11_42 kl1600 h1 (by decide) (by decide +kernel) ?_
    refine j_getI hx flX11_189 kd1310 h2 (by decide) (by decide +kernel) ?_
    exact wrn_hits_40 h (jI W 1310 (jR W 1600 t))
  refine j_runA hx 1 (tb := [(10, .aload_n 0)]) (jtb_ok (by decide +kernel)) (pc' := 11) (lv' := [(0, vR t), (1, vL a1), (3, vI a3)]) (st' := [vR t]) rfl ?_
  refine j_getR hx flX11_42 kl1600 h1 (by decide) (by decide +kernel) ?_
  refine j_getI hx flX11_189 kd1310 h2 (by decide) (by decide +kernel) ?_
  refine j_runA hx 1 (tb := [(17, .aload_n 0)]) (jtb_ok (by decide +kernel)) (pc' := 18) (lv' := [(0, vR t), (1, vL a1), (3, vI a3)]) (st' := [vR t, vI (jI W 1310 (jR W 1600 t))]) rfl ?_
  refine j_getR hx flX11_42 kl1600 h1 (by decide) (by decide +kernel) ?_
  refine j_getR hx flX11_180 kl1350 h2 (by decide) (by decide +kernel) ?_
  refine j_gd (fun h3 => ?_)
  refine j_getI hx flX11_184 kd1508 h3 (by decide) (by decide +kernel) ?_
  refine j_TI (j_callS (av := [vI (jI W 1310 (jR W 1600 t)), vI (jI W 1508 (jR W 1350 (jR W 1600 t)))]) (st := []) hx hr (Or.inl q3481) q1356 q246 md_fjm_max_2 np_fjm_max_2 (cjm_max_2 (jI W 1310 (jR W 1600 t)) (jI W 1508 (jR W 1350 (jR W 1600 t))) W) (by decide) (Nat.le_of_ble_eq_true rfl) (by decide +kernel)) ?_
  refine j_goto hx (off := 10) (by decide +kernel) (tgt := 40) (by decide) ?_
  exact wrn_hits_40 h (fjm_max_2 (jI W 1310 (jR W 1600 t)) (jI W 1508 (jR W 1350 (jR W 1600 t))))
theorem crn_hits (t : Nat) (a1 : Int64) (a3 : Int32) (W : jW) : jM yX11_hits cX11_hits 5 (Option.some Jvm.ClassFile.FieldType.boolean) [] 1 13 [vR t, vL a1, vI a3] W ((frn_hits t a1 a3 W).bind (fun q => some (.returned (some (.int q)), W))) := 
  jM.of (Nat.le_of_ble_eq_true rfl) (fun x hx hm hr => wrn_hits ⟨hx, hm, hr, fun _ => rfl⟩)
def hrn_isWhole (x : jCx) (en : (Int32) → Option (Outcome × jW)) (t : Nat) (a1 : Int64) (a3 : Int32) (W : jW) : Prop :=
  jOK x RX11 cX11_isWhole 4 ∧
  jMt x "isWhole" (Option.some Jvm.ClassFile.FieldType.boolean) [] ∧
  jRm x 0 0 ∧
  (∀ q : Int32, en q = some (.returned (some (.int q)), W))
theorem wrn_isWhole_20 {x : jCx} {en : (Int32) → Option (Outcome × jW)} {W : jW} {t : Nat} {a1 : Int64} {a3 : Int32} (h : hrn_isWhole x en t a1 a3 W) : jJ x 4 20 [(0, vR t), (1, vL a1), (3, vI a3)] [] W (some (frn_isWhole_20 t a1 a3)) en := by
  have h0 := h
  obtain ⟨hx, hm, hr, he⟩ := h0
  unfold frn_isWhole_20
  refine j_runA hx 1 (tb := [(20, .iconst 0)]) (jtb_ok (by decide +kernel)) (pc' := 21) (lv' := [(0, vR t), (1, vL a1), (3, vI a3)]) (st' := [vI (kI 0)]) rfl ?_
  exact j_iret hx hm (by decide +kernel) jz0n (he _)
theorem wrn_isWhole {x : jCx} {en : (Int32) → Option (Outcome × jW)} {W : jW} {t : Nat} {a1 : Int64} {a3 : Int32} (h : hrn_isWhole x en t a1 a3 W) : jJ x 4 0 [(0, vR t), (1, vL a1), (3, vI a3)] [] W (some (frn_isWhole t a1 a3)) en := by
  have h0 := h
  obtain ⟨hx, hm, hr, he⟩ := h0
  unfold frn_isWhole
  refine j_runA hx 2 (tb := [(0, .iload_n 3), (1, .bipush 8)]) (jtb_ok (by decide +kernel)) (pc' := 3) (lv' := [(0, vR t), (1, vL a1), (3, vI a3)]) (st' := [vI (kI 8), vI a3]) rfl ?_
  refine j_tot (j_icmp_ne hx (off := 17) (tgt := 20) (by decide +kernel) (by decide) (fun _ => ?_) (fun _ => ?_))
  · exact wrn_isWhole_20 h
  refine j_runA hx 1 (tb := [(6, .lload_n 1)]) (jtb_ok (by decide +kernel)) (pc' := 7) (lv' := [(0, vR t), (1, vL a1), (3, vI a3)]) (st' := [vL a1]) rfl ?_
  refine j_ldc2 hx (v := (kJ 7)) (jkd2 q3486 (by decide +kernel)) (by decide +kernel) ?_
  refine j_runA hx 2 (tb := [(10, .land), (11, .lconst 0)]) (jtb_ok (by decide +kernel)) (pc' := 12) (lv' := [(0, vR t), (1, vL a1), (3, vI a3)]) (st' := [vL (kJ 0), vL (a1 &&& (kJ 7))]) rfl ?_
  refine j_tot (j_lcmp_ne hx (off := 7) (tgt := 20) (by decide +kernel) (by decide +kernel) (by decide) (fun _ => ?_) (fun _ => ?_))
  · exact wrn_isWhole_20 h
  refine j_runA hx 1 (tb := [(16, .iconst 1)]) (jtb_ok (by decide +kernel)) (pc' := 17) (lv' := [(0, vR t), (1, vL a1), (3, vI a3)]) (st' := [vI (kI 1)]) rfl ?_
  refine j_goto hx (off := 4) (by decide +kernel) (tgt := 21) (by decide) ?_
  exact j_iret hx hm (by decide +kernel) jz1n (he _)
theorem crn_isWhole (t : Nat) (a1 : Int64) (a3 : Int32) (W : jW) : jM yX11_isWhole cX11_isWhole 4 (Option.some Jvm.ClassFile.FieldType.boolean) [] 0 0 [vR t, vL a1, vI a3] W (some (.returned (some (.int (frn_isWhole t a1 a3))), W)) := 
  jM.of (mm := some (frn_isWhole t a1 a3)) (en := fun q => some (.returned (some (.int q)), W)) (Nat.le_of_ble_eq_true rfl) (fun x hx hm hr => wrn_isWhole ⟨hx, hm, hr, fun _ => rfl⟩)
def hrn_at (x : jCx) (en : (frn_at_S ⊕ (Int32)) → Option (Outcome × jW)) (t : Nat) (a1 : Int64) (a3 : Int32) (W : jW) : Prop :=
  jOK x RX11 cX11_at 7 ∧
  jMt x "at" (Option.some Jvm.ClassFile.FieldType.int) [] ∧
  jRm x 0 0 ∧
  (∀ q : Int32, en (.inr q) = some (.returned (some (.int q)), W)) ∧
  (∀ (l4 : Int32), jJ x 7 32 [(0, vR t), (1, vL a1), (3, vI a3), (4, vI l4)] [] W (some (.inl l4)) en)
theorem wrn_at_116 {x : jCx} {en : (frn_at_S ⊕ (Int32)) → Option (Outcome × jW)} {W : jW} {t : Nat} {a1 : Int64} {a3 : Int32} (h : hrn_at x en t a1 a3 W) (l4 : Int32) : jJ x 7 116 [(0, vR t), (1, vL a1), (3, vI a3), (4, vI l4)] [] W (frn_at_116 t a1 a3 l4 W) en := by
  have h0 := h
  obtain ⟨hx, hm, hr, he, k32⟩ := h0
  unfold frn_at_116
  refine j_runA hx 1 (tb := [(116, .iinc 4 1)]) (jtb_ok (by decide +kernel)) (pc' := 119) (lv' := [(4, vI (l4 + (kI 1))), (0, vR t), (1, vL a1), (3, vI a3)]) (st' := []) rfl ?_
  refine j_let (v := (l4 + (kI 1))) (lv := fun v11 => [(4, vI v11), (0, vR t), (1, vL a1), (3, vI a3)]) (st := fun _ => []) (fun v11 => ?_)
  refine j_goto hx (off := -87) (by decide +kernel) (tgt := 32) (by decide) ?_
  refine j_lv (lv' := [(0, vR t), (1, vL a1), (3, vI a3), (4, vI v11)]) ⟨rfl, rfl, rfl, rfl, trivial⟩ ?_
  exact k32 v11
theorem wrn_at_32 {x : jCx} {en : (frn_at_S ⊕ (Int32)) → Option (Outcome × jW)} {W : jW} {t : Nat} {a1 : Int64} {a3 : Int32} (h : hrn_at x en t a1 a3 W) (l4 : Int32) : jJ x 7 32 [(0, vR t), (1, vL a1), (3, vI a3), (4, vI l4)] [] W (frn_at_32 t a1 a3 l4 W) en := by
  have h0 := h
  obtain ⟨hx, hm, hr, he, k32⟩ := h0
  unfold frn_at_32
  refine j_runA hx 4 (tb := [(32, .iload 4), (34, .iconst 1), (35, .iadd), (36, .aload_n 0)]) (jtb_ok (by decide +kernel)) (pc' := 37) (lv' := [(0, vR t), (1, vL a1), (3, vI a3), (4, vI l4)]) (st' := [vR t, vI (l4 + (kI 1))]) rfl ?_
  refine j_gd (fun h3 => ?_)
  refine j_getR hx flX11_42 kl1600 h3 (by decide) (by decide +kernel) ?_
  refine j_gd (fun h4 => ?_)
  refine j_getR hx flX11_95 kl1305 h4 (by decide) (by decide +kernel) ?_
  refine j_gd (fun h5 => ?_)
  refine j_getI hx flX11_165 kd1402 h5 (by decide) (by decide +kernel) ?_
  refine j_icmp_ge hx (off := 76) (tgt := 122) (by decide +kernel) (by decide) (fun _ => ?_) (fun _ => ?_)
  · refine j_runA hx 1 (tb := [(122, .iconst (-1))]) (jtb_ok (by decide +kernel)) (pc' := 123) (lv' := [(0, vR t), (1, vL a1), (3, vI a3), (4, vI l4)]) (st' := [vI (kI (-1))]) rfl ?_
    exact j_iret hx hm (by decide +kernel) rfl (he _)
  refine j_runA hx 1 (tb := [(49, .aload_n 0)]) (jtb_ok (by decide +kernel)) (pc' := 50) (lv' := [(0, vR t), (1, vL a1), (3, vI a3), (4, vI l4)]) (st' := [vR t]) rfl ?_
  refine j_getR hx flX11_42 kl1600 h3 (by decide) (by decide +kernel) ?_
  refine j_getR hx flX11_95 kl1305 h4 (by decide) (by decide +kernel) ?_
  refine j_getR hx flX11_168 kl1408 h5 (by decide) (by decide +kernel) ?_
  refine j_runA hx 1 (tb := [(59, .iload 4)]) (jtb_ok (by decide +kernel)) (pc' := 61) (lv' := [(0, vR t), (1, vL a1), (3, vI a3), (4, vI l4)]) (st' := [vI l4, vR (jR W 1408 (jR W 1305 (jR W 1600 t)))]) rfl ?_
  refine j_gd (fun h6 => ?_)
  refine j_lald hx (f := 1408) (o := (jR W 1305 (jR W 1600 t))) kd1408 rfl (by decide +kernel) h6 ?_
  refine j_runA hx 1 (tb := [(62, .lstore 5)]) (jtb_ok (by decide +kernel)) (pc' := 64) (lv' := [(5, vL (jB W 1408 (jR W 1305 (jR W 1600 t)) (ix l4))), (0, vR t), (1, vL a1), (3, vI a3), (4, vI l4)]) (st' := []) rfl ?_
  refine j_let (v := (jB W 1408 (jR W 1305 (jR W 1600 t)) (ix l4))) (lv := fun v7 => [(5, vL v7), (0, vR t), (1, vL a1), (3, vI a3), (4, vI l4)]) (st := fun _ => []) (fun v7 => ?_)
  refine j_runA hx 2 (tb := [(64, .lload_n 1), (65, .lload 5)]) (jtb_ok (by decide +kernel)) (pc' := 67) (lv' := [(5, vL v7), (0, vR t), (1, vL a1), (3, vI a3), (4, vI l4)]) (st' := [vL v7, vL a1]) rfl ?_
  refine j_lcmp_lt hx (off := 48) (tgt := 116) (by decide +kernel) (by decide +kernel) (by decide) (fun _ => ?_) (fun _ => ?_)
  · refine j_lv (lv' := [(0, vR t), (1, vL a1), (3, vI a3), (4, vI l4)]) ⟨rfl, rfl, rfl, rfl, trivial⟩ ?_
    exact wrn_at_116 h l4
  refine j_runA hx 3 (tb := [(71, .lload_n 1), (72, .lload 5), (74, .aload_n 0)]) (jtb_ok (by decide +kernel)) (pc' := 75) (lv' := [(5, vL v7), (0, vR t), (1, vL a1), (3, vI a3), (4, vI l4)]) (st' := [vR t, vL v7, vL a1]) rfl ?_
  refine j_getR hx flX11_42 kl1600 h3 (by decide) (by decide +kernel) ?_
  refine j_getR hx flX11_95 kl1305 h4 (by decide) (by decide +kernel) ?_
  refine j_getR hx flX11_171 kl1409 h5 (by decide) (by decide +kernel) ?_
  refine j_runA hx 1 (tb := [(84, .iload 4)]) (jtb_ok (by decide +kernel)) (pc' := 86) (lv' := [(5, vL v7), (0, vR t), (1, vL a1), (3, vI a3), (4, vI l4)]) (st' := [vI l4, vR (jR W 1409 (jR W 1305 (jR W 1600 t))), vL v7, vL a1]) rfl ?_
  refine j_gd (fun h8 => ?_)
  refine j_iald hx (f := 1409) (o := (jR W 1305 (jR W 1600 t))) kd1409 rfl (by decide +kernel) h8 ?_
  refine j_runA hx 5 (tb := [(87, .i2l), (88, .ladd), (89, .iload_n 3), (90, .i2l), (91, .lsub)]) (jtb_ok (by decide +kernel)) (pc' := 92) (lv' := [(5, vL v7), (0, vR t), (1, vL a1), (3, vI a3), (4, vI l4)]) (st' := [vL ((v7 + ((jA W 1409 (jR W 1305 (jR W 1600 t)) (ix l4)).toInt64)) - a3.toInt64), vL a1]) rfl ?_
  refine j_lcmp_gt hx (off := 23) (tgt := 116) (by decide +kernel) (by decide +kernel) (by decide) (fun _ => ?_) (fun _ => ?_)
  · refine j_lv (lv' := [(0, vR t), (1, vL a1), (3, vI a3), (4, vI l4)]) ⟨rfl, rfl, rfl, rfl, trivial⟩ ?_
    exact wrn_at_116 h l4
  refine j_runA hx 5 (tb := [(96, .lload_n 1), (97, .lload 5), (99, .lsub), (100, .l2i), (101, .aload_n 0)]) (jtb_ok (by decide +kernel)) (pc' := 102) (lv' := [(5, vL v7), (0, vR t), (1, vL a1), (3, vI a3), (4, vI l4)]) (st' := [vR t, vI ((a1 - v7).toInt32)]) rfl ?_
  refine j_getR hx flX11_42 kl1600 h3 (by decide) (by decide +kernel) ?_
  refine j_getR hx flX11_95 kl1305 h4 (by decide) (by decide +kernel) ?_
  refine j_getR hx flX11_174 kl1407 h5 (by decide) (by decide +kernel) ?_
  refine j_runA hx 1 (tb := [(111, .iload 4)]) (jtb_ok (by decide +kernel)) (pc' := 113) (lv' := [(5, vL v7), (0, vR t), (1, vL a1), (3, vI a3), (4, vI l4)]) (st' := [vI l4, vR (jR W 1407 (jR W 1305 (jR W 1600 t))), vI ((a1 - v7).toInt32)]) rfl ?_
  refine j_gd (fun h9 => ?_)
  refine j_iald hx (f := 1407) (o := (jR W 1305 (jR W 1600 t))) kd1407 rfl (by decide +kernel) h9 ?_
  refine j_runA hx 1 (tb := [(114, .iadd)]) (jtb_ok (by decide +kernel)) (pc' := 115) (lv' := [(5, vL v7), (0, vR t), (1, vL a1), (3, vI a3), (4, vI l4)]) (st' := [vI (((a1 - v7).toInt32) + (jA W 1407 (jR W 1305 (jR W 1600 t)) (ix l4)))]) rfl ?_
  exact j_iret hx hm (by decide +kernel) rfl (he _)
theorem wrn_at_29 {x : jCx} {en : (frn_at_S ⊕ (Int32)) → Option (Outcome × jW)} {W : jW} {t : Nat} {a1 : Int64} {a3 : Int32} (h : hrn_at x en t a1 a3 W) : jJ x 7 29 [(0, vR t), (1, vL a1), (3, vI a3)] [] W (frn_at_29 t a1 a3 W) en := by
  have h0 := h
  obtain ⟨hx, hm, hr, he, k32⟩ := h0
  unfold frn_at_29
  refine j_runA hx 2 (tb := [(29, .iconst 0), (30, .istore 4)]) (jtb_ok (by decide +kernel)) (pc' := 32) (lv' := [(4, vI (kI 0)), (0, vR t), (1, vL a1), (3, vI a3)]) (st' := []) rfl ?_
  refine j_lv (lv' := [(0, vR t), (1, vL a1), (3, vI a3), (4, vI (kI 0))]) ⟨rfl, rfl, rfl, rfl, trivial⟩ ?_
  exact k32 (kI 0)
theorem wrn_at {x : jCx} {en : (frn_at_S ⊕ (Int32)) → Option (Outcome × jW)} {W : jW} {t : Nat} {a1 : Int64} {a3 : Int32} (h : hrn_at x en t a1 a3 W) : jJ x 7 0 [(0, vR t), (1, vL a1), (3, vI a3)] [] W (frn_at_0 t a1 a3 W) en := by
  have h0 := h
  obtain ⟨hx, hm, hr, he, k32⟩ := h0
  unfold frn_at_0
  refine j_runA hx 1 (tb := [(0, .lload_n 1)]) (jtb_ok (by decide +kernel)) (pc' := 1) (lv' := [(0, vR t), (1, vL a1), (3, vI a3)]) (st' := [vL a1]) rfl ?_
  refine j_ldc2 hx (v := (kJ 2147418112)) (jkd2 q3495 (by decide +kernel)) (by decide +kernel) ?_
  refine j_lcmp_lt hx (off := 24) (tgt := 29) (by decide +kernel) (by decide +kernel) (by decide) (fun _ => ?_) (fun _ => ?_)
  · exact wrn_at_29 h
  refine j_runA hx 1 (tb := [(8, .lload_n 1)]) (jtb_ok (by decide +kernel)) (pc' := 9) (lv' := [(0, vR t), (1, vL a1), (3, vI a3)]) (st' := [vL a1]) rfl ?_
  refine j_ldc2 hx (v := (kJ 2147483648)) (jkd2 q3340 (by decide +kernel)) (by decide +kernel) ?_
  refine j_runA hx 3 (tb := [(12, .iload_n 3), (13, .i2l), (14, .lsub)]) (jtb_ok (by decide +kernel)) (pc' := 15) (lv' := [(0, vR t), (1, vL a1), (3, vI a3)]) (st' := [vL ((kJ 2147483648) - a3.toInt64), vL a1]) rfl ?_
  refine j_lcmp_gt hx (off := 13) (tgt := 29) (by decide +kernel) (by decide +kernel) (by decide) (fun _ => ?_) (fun _ => ?_)
  · exact wrn_at_29 h
  refine j_ldc hx (v := (kI 60000)) (jkc q3496 (by decide +kernel)) (by decide +kernel) ?_
  refine j_runA hx 1 (tb := [(21, .lload_n 1)]) (jtb_ok (by decide +kernel)) (pc' := 22) (lv' := [(0, vR t), (1, vL a1), (3, vI a3)]) (st' := [vL a1, vI (kI 60000)]) rfl ?_
  refine j_ldc2 hx (v := (kJ 2147418112)) (jkd2 q3495 (by decide +kernel)) (by decide +kernel) ?_
  refine j_runA hx 3 (tb := [(25, .lsub), (26, .l2i), (27, .iadd)]) (jtb_ok (by decide +kernel)) (pc' := 28) (lv' := [(0, vR t), (1, vL a1), (3, vI a3)]) (st' := [vI ((kI 60000) + ((a1 - (kJ 2147418112)).toInt32))]) rfl ?_
  exact j_iret hx hm (by decide +kernel) rfl (he _)
theorem crn_at (t : Nat) (a1 : Int64) (a3 : Int32) (W : jW) : jM yX11_at cX11_at 7 (Option.some Jvm.ClassFile.FieldType.int) [] 0 0 [vR t, vL a1, vI a3] W ((frn_at t a1 a3 W).bind (fun q => some (.returned (some (.int q)), W))) := by
  refine jM.of (Nat.le_of_ble_eq_true rfl) (fun x hx hm hr => ?_)
  refine j_begin (P := (fun s => (32, [(0, vR t), (1, vL a1), (3, vI a3), (4, vI s)], W))) (fun en he hk => ?_)
  have h : hrn_at x en t a1 a3 W := ⟨hx, hm, hr, fun q => he _, fun l4 => hk l4⟩
  exact ⟨fun s => wrn_at_32 h s, wrn_at h⟩
def hrn_hasCode (x : jCx) (en : (frn_hasCode_S ⊕ (Int32)) → Option (Outcome × jW)) (t : Nat) (a1 : Int64) (a3 : Int32) (W : jW) : Prop :=
  jOK x RX11 cX11_hasCode 6 ∧
  jMt x "hasCode" (Option.some Jvm.ClassFile.FieldType.boolean) [] ∧
  jRm x 1 18 ∧
  (∀ q : Int32, en (.inr q) = some (.returned (some (.int q)), W)) ∧
  (∀ (l4 : Int32), jJ x 6 3 [(0, vR t), (1, vL a1), (3, vI a3), (4, vI l4)] [] W (some (.inl l4)) en)
theorem wrn_hasCode_41 {x : jCx} {en : (frn_hasCode_S ⊕ (Int32)) → Option (Outcome × jW)} {W : jW} {t : Nat} {a1 : Int64} {a3 : Int32} (h : hrn_hasCode x en t a1 a3 W) (l4 : Int32) : jJ x 6 41 [(0, vR t), (1, vL a1), (3, vI a3), (4, vI l4)] [] W (frn_hasCode_41 t a1 a3 l4 W) en := by
  have h0 := h
  obtain ⟨hx, hm, hr, he, k3⟩ := h0
  unfold frn_hasCode_41
  refine j_runA hx 1 (tb := [(41, .iinc 4 1)]) (jtb_ok (by decide +kernel)) (pc' := 44) (lv' := [(4, vI (l4 + (kI 1))), (0, vR t), (1, vL a1), (3, vI a3)]) (st' := []) rfl ?_
  refine j_let (v := (l4 + (kI 1))) (lv := fun v6 => [(4, vI v6), (0, vR t), (1, vL a1), (3, vI a3)]) (st := fun _ => []) (fun v6 => ?_)
  refine j_goto hx (off := -41) (by decide +kernel) (tgt := 3) (by decide) ?_
  refine j_lv (lv' := [(0, vR t), (1, vL a1), (3, vI a3), (4, vI v6)]) ⟨rfl, rfl, rfl, rfl, trivial⟩ ?_
  exact k3 v6
theorem wrn_hasCode_3 {x : jCx} {en : (frn_hasCode_S ⊕ (Int32)) → Option (Outcome × jW)} {W : jW} {t : Nat} {a1 : Int64} {a3 : Int32} (h : hrn_hasCode x en t a1 a3 W) (l4 : Int32) : jJ x 6 3 [(0, vR t), (1, vL a1), (3, vI a3), (4, vI l4)] [] W (frn_hasCode_3 t a1 a3 l4 W) en := by
  have h0 := h
  obtain ⟨hx, hm, hr, he, k3⟩ := h0
  unfold frn_hasCode_3
  refine j_runA hx 2 (tb := [(3, .iload 4), (5, .iload_n 3)]) (jtb_ok (by decide +kernel)) (pc' := 6) (lv' := [(0, vR t), (1, vL a1), (3, vI a3), (4, vI l4)]) (st' := [vI a3, vI l4]) rfl ?_
  refine j_icmp_ge hx (off := 41) (tgt := 47) (by decide +kernel) (by decide) (fun _ => ?_) (fun _ => ?_)
  · refine j_runA hx 1 (tb := [(47, .iconst 0)]) (jtb_ok (by decide +kernel)) (pc' := 48) (lv' := [(0, vR t), (1, vL a1), (3, vI a3), (4, vI l4)]) (st' := [vI (kI 0)]) rfl ?_
    exact j_iret hx hm (by decide +kernel) jz0n (he _)
  refine j_runA hx 6 (tb := [(9, .aload_n 0), (10, .lload_n 1), (11, .iload 4), (13, .i2l), (14, .ladd), (15, .iconst 1)]) (jtb_ok (by decide +kernel)) (pc' := 16) (lv' := [(0, vR t), (1, vL a1), (3, vI a3), (4, vI l4)]) (st' := [vI (kI 1), vL (a1 + l4.toInt64), vR t]) rfl ?_
  refine j_gd (fun h2 => ?_)
  refine j_OI (j_callV (av := [vL (a1 + l4.toInt64), vI (kI 1)]) (st := []) hx hr (Or.inl q3491) q3492 q3493 rfl md_frn_at np_frn_at (crn_at t (a1 + l4.toInt64) (kI 1) W) (by decide) (Nat.le_of_ble_eq_true rfl) h2 (by decide) (by decide +kernel)) (fun q3 _ => ?_)
  refine j_runA hx 2 (tb := [(19, .istore 5), (21, .iload 5)]) (jtb_ok (by decide +kernel)) (pc' := 23) (lv' := [(5, vI q3), (0, vR t), (1, vL a1), (3, vI a3), (4, vI l4)]) (st' := [vI q3]) rfl ?_
  refine j_if_lt hx (off := 18) (tgt := 41) (by decide +kernel) (by decide) (fun _ => ?_) (fun _ => ?_)
  · refine j_lv (lv' := [(0, vR t), (1, vL a1), (3, vI a3), (4, vI l4)]) ⟨rfl, rfl, rfl, rfl, trivial⟩ ?_
    exact wrn_hasCode_41 h l4
  refine j_runA hx 1 (tb := [(26, .aload_n 0)]) (jtb_ok (by decide +kernel)) (pc' := 27) (lv' := [(5, vI q3), (0, vR t), (1, vL a1), (3, vI a3), (4, vI l4)]) (st' := [vR t]) rfl ?_
  refine j_getR hx flX11_27 kl1611 h2 (by decide) (by decide +kernel) ?_
  refine j_runA hx 2 (tb := [(30, .iload 5), (32, .bipush 8)]) (jtb_ok (by decide +kernel)) (pc' := 34) (lv' := [(5, vI q3), (0, vR t), (1, vL a1), (3, vI a3), (4, vI l4)]) (st' := [vI (kI 8), vI q3, vR (jR W 1611 t)]) rfl ?_
  refine j_idiv hx (by decide +kernel) (by decide +kernel) ?_
  refine j_gd (fun h4 => ?_)
  refine j_bald hx (f := 1611) (o := t) kd1611 rfl (by decide +kernel) h4 ?_
  refine j_if_eq hx (off := 5) (tgt := 41) (by decide +kernel) (by decide) (fun _ => ?_) (fun _ => ?_)
  · refine j_lv (lv' := [(0, vR t), (1, vL a1), (3, vI a3), (4, vI l4)]) ⟨rfl, rfl, rfl, rfl, trivial⟩ ?_
    exact wrn_hasCode_41 h l4
  refine j_runA hx 1 (tb := [(39, .iconst 1)]) (jtb_ok (by decide +kernel)) (pc' := 40) (lv' := [(5, vI q3), (0, vR t), (1, vL a1), (3, vI a3), (4, vI l4)]) (st' := [vI (kI 1)]) rfl ?_
  exact j_iret hx hm (by decide +kernel) jz1n (he _)
theorem wrn_hasCode {x : jCx} {en : (frn_hasCode_S ⊕ (Int32)) → Option (Outcome × jW)} {W : jW} {t : Nat} {a1 : Int64} {a3 : Int32} (h : hrn_hasCode x en t a1 a3 W) : jJ x 6 0 [(0, vR t), (1, vL a1), (3, vI a3)] [] W (frn_hasCode_0 t a1 a3 W) en := by
  have h0 := h
  obtain ⟨hx, hm, hr, he, k3⟩ := h0
  unfold frn_hasCode_0
  refine j_runA hx 2 (tb := [(0, .iconst 0), (1, .istore 4)]) (jtb_ok (by decide +kernel)) (pc' := 3) (lv' := [(4, vI (kI 0)), (0, vR t), (1, vL a1), (3, vI a3)]) (st' := []) rfl ?_
  refine j_lv (lv' := [(0, vR t), (1, vL a1), (3, vI a3), (4, vI (kI 0))]) ⟨rfl, rfl, rfl, rfl, trivial⟩ ?_
  exact k3 (kI 0)
theorem crn_hasCode (t : Nat) (a1 : Int64) (a3 : Int32) (W : jW) : jM yX11_hasCode cX11_hasCode 6 (Option.some Jvm.ClassFile.FieldType.boolean) [] 1 18 [vR t, vL a1, vI a3] W ((frn_hasCode t a1 a3 W).bind (fun q => some (.returned (some (.int q)), W))) := by
  refine jM.of (Nat.le_of_ble_eq_true rfl) (fun x hx hm hr => ?_)
  refine j_begin (P := (fun s => (3, [(0, vR t), (1, vL a1), (3, vI a3), (4, vI s)], W))) (fun en he hk => ?_)
  have h : hrn_hasCode x en t a1 a3 W := ⟨hx, hm, hr, fun q => he _, fun l4 => hk l4⟩
  exact ⟨fun s => wrn_hasCode_3 h s, wrn_hasCode h⟩
def hrn_stopsLoad (x : jCx) (en : (Int32) → Option (Outcome × jW)) (t : Nat) (a1 : Int64) (a3 : Int32) (W : jW) : Prop :=
  jOK x RX11 cX11_stopsLoad 4 ∧
  jMt x "stopsLoad" (Option.some Jvm.ClassFile.FieldType.boolean) [] ∧
  jRm x 2 35 ∧
  (∀ q : Int32, en q = some (.returned (some (.int q)), W))
theorem wrn_stopsLoad_35 {x : jCx} {en : (Int32) → Option (Outcome × jW)} {W : jW} {t : Nat} {a1 : Int64} {a3 : Int32} (h : hrn_stopsLoad x en t a1 a3 W) : jJ x 4 35 [(0, vR t), (1, vL a1), (3, vI a3)] [] W (frn_stopsLoad_35 t a1 a3 W) en := by
  have h0 := h
  obtain ⟨hx, hm, hr, he⟩ := h0
  unfold frn_stopsLoad_35
  refine j_runA hx 1 (tb := [(35, .iconst 1)]) (jtb_ok (by decide +kernel)) (pc' := 36) (lv' := [(0, vR t), (1, vL a1), (3, vI a3)]) (st' := [vI (kI 1)]) rfl ?_
  refine j_goto hx (off := 4) (by decide +kernel) (tgt := 40) (by decide) ?_
  exact j_iret hx hm (by decide +kernel) jz1n (he _)
theorem wrn_stopsLoad_39 {x : jCx} {en : (Int32) → Option (Outcome × jW)} {W : jW} {t : Nat} {a1 : Int64} {a3 : Int32} (h : hrn_stopsLoad x en t a1 a3 W) : jJ x 4 39 [(0, vR t), (1, vL a1), (3, vI a3)] [] W (frn_stopsLoad_39 t a1 a3 W) en := by
  have h0 := h
  obtain ⟨hx, hm, hr, he⟩ := h0
  unfold frn_stopsLoad_39
  refine j_runA hx 1 (tb := [(39, .iconst 0)]) (jtb_ok (by decide +kernel)) (pc' := 40) (lv' := [(0, vR t), (1, vL a1), (3, vI a3)]) (st' := [vI (kI 0)]) rfl ?_
  exact j_iret hx hm (by decide +kernel) jz0n (he _)
theorem wrn_stopsLoad {x : jCx} {en : (Int32) → Option (Outcome × jW)} {W : jW} {t : Nat} {a1 : Int64} {a3 : Int32} (h : hrn_stopsLoad x en t a1 a3 W) : jJ x 4 0 [(0, vR t), (1, vL a1), (3, vI a3)] [] W (frn_stopsLoad t a1 a3 W) en := by
  have h0 := h
  obtain ⟨hx, hm, hr, he⟩ := h0
  unfold frn_stopsLoad
  refine j_runA hx 1 (tb := [(0, .aload_n 0)]) (jtb_ok (by decide +kernel)) (pc' := 1) (lv' := [(0, vR t), (1, vL a1), (3, vI a3)]) (st' := [vR t]) rfl ?_
  refine j_gd (fun h1 => ?_)
  refine j_getI hx flX11_46 kd1601 h1 (by decide) (by decide +kernel) ?_
  refine j_runA hx 1 (tb := [(4, .iconst 1)]) (jtb_ok (by decide +kernel)) (pc' := 5) (lv' := [(0, vR t), (1, vL a1), (3, vI a3)]) (st' := [vI (kI 1), vI (jI W 1601 t)]) rfl ?_
  refine j_icmp_ne hx (off := 34) (tgt := 39) (by decide +kernel) (by decide) (fun _ => ?_) (fun _ => ?_)
  · exact wrn_stopsLoad_39 h
  refine j_runA hx 3 (tb := [(8, .aload_n 0), (9, .lload_n 1), (10, .iload_n 3)]) (jtb_ok (by decide +kernel)) (pc' := 11) (lv' := [(0, vR t), (1, vL a1), (3, vI a3)]) (st' := [vI a3, vL a1, vR t]) rfl ?_
  refine j_OI (j_callV (av := [vL a1, vI a3]) (st := []) hx hr (Or.inl q3477) q3479 qs206 rfl md_frn_hits np_frn_hits (crn_hits t a1 a3 W) (by decide) (Nat.le_of_ble_eq_true rfl) h1 (by decide) (by decide +kernel)) (fun q2 _ => ?_)
  refine j_if_ne hx (off := 21) (tgt := 35) (by decide +kernel) (by decide) (fun _ => ?_) (fun _ => ?_)
  · exact wrn_stopsLoad_35 h
  refine j_runA hx 3 (tb := [(17, .aload_n 0), (18, .lload_n 1), (19, .iload_n 3)]) (jtb_ok (by decide +kernel)) (pc' := 20) (lv' := [(0, vR t), (1, vL a1), (3, vI a3)]) (st' := [vI a3, vL a1, vR t]) rfl ?_
  refine j_TI (j_callV (av := [vL a1, vI a3]) (st := []) hx hr (Or.inl q3482) q3484 qs207 rfl md_frn_isWhole np_frn_isWhole (crn_isWhole t a1 a3 W) (by decide) (Nat.le_of_ble_eq_true rfl) h1 (by decide) (by decide +kernel)) ?_
  refine j_if_ne hx (off := 16) (tgt := 39) (by decide +kernel) (by decide) (fun _ => ?_) (fun _ => ?_)
  · exact wrn_stopsLoad_39 h
  refine j_runA hx 3 (tb := [(26, .aload_n 0), (27, .lload_n 1), (28, .iload_n 3)]) (jtb_ok (by decide +kernel)) (pc' := 29) (lv' := [(0, vR t), (1, vL a1), (3, vI a3)]) (st' := [vI a3, vL a1, vR t]) rfl ?_
  refine j_OI (j_callV (av := [vL a1, vI a3]) (st := []) hx hr (Or.inl q3487) q3489 qs208 rfl md_frn_hasCode np_frn_hasCode (crn_hasCode t a1 a3 W) (by decide) (Nat.le_of_ble_eq_true rfl) h1 (by decide) (by decide +kernel)) (fun q3 _ => ?_)
  refine j_if_eq hx (off := 7) (tgt := 39) (by decide +kernel) (by decide) (fun _ => ?_) (fun _ => ?_)
  · exact wrn_stopsLoad_39 h
  exact wrn_stopsLoad_35 h
theorem crn_stopsLoad (t : Nat) (a1 : Int64) (a3 : Int32) (W : jW) : jM yX11_stopsLoad cX11_stopsLoad 4 (Option.some Jvm.ClassFile.FieldType.boolean) [] 2 35 [vR t, vL a1, vI a3] W ((frn_stopsLoad t a1 a3 W).bind (fun q => some (.returned (some (.int q)), W))) := 
  jM.of (Nat.le_of_ble_eq_true rfl) (fun x hx hm hr => wrn_stopsLoad ⟨hx, hm, hr, fun _ => rfl⟩)
def hrn_stopsStore (x : jCx) (en : (Int32) → Option (Outcome × jW)) (t : Nat) (a1 : Int32) (a2 : Int64) (a4 : Int32) (W : jW) : Prop :=
  jOK x RX11 cX11_stopsStore 6 ∧
  jMt x "stopsStore" (Option.some Jvm.ClassFile.FieldType.boolean) [] ∧
  jRm x 2 35 ∧
  (∀ q : Int32, en q = some (.returned (some (.int q)), W))
theorem wrn_stopsStore_67 {x : jCx} {en : (Int32) → Option (Outcome × jW)} {W : jW} {t : Nat} {a1 : Int32} {a2 : Int64} {a4 : Int32} (h : hrn_stopsStore x en t a1 a2 a4 W) : jJ x 6 67 [(0, vR t), (1, vI a1), (2, vL a2), (4, vI a4)] [] W (frn_stopsStore_67 t a1 a2 a4 W) en := by
  have h0 := h
  obtain ⟨hx, hm, hr, he⟩ := h0
  unfold frn_stopsStore_67
  refine j_runA hx 1 (tb := [(67, .iconst 1)]) (jtb_ok (by decide +kernel)) (pc' := 68) (lv' := [(0, vR t), (1, vI a1), (2, vL a2), (4, vI a4)]) (st' := [vI (kI 1)]) rfl ?_
  exact j_iret hx hm (by decide +kernel) jz1n (he _)
theorem wrn_stopsStore_93 {x : jCx} {en : (Int32) → Option (Outcome × jW)} {W : jW} {t : Nat} {a1 : Int32} {a2 : Int64} {a4 : Int32} (h : hrn_stopsStore x en t a1 a2 a4 W) : jJ x 6 93 [(0, vR t), (1, vI a1), (2, vL a2), (4, vI a4)] [] W (frn_stopsStore_93 t a1 a2 a4 W) en := by
  have h0 := h
  obtain ⟨hx, hm, hr, he⟩ := h0
  unfold frn_stopsStore_93
  refine j_runA hx 1 (tb := [(93, .iconst 0)]) (jtb_ok (by decide +kernel)) (pc' := 94) (lv' := [(0, vR t), (1, vI a1), (2, vL a2), (4, vI a4)]) (st' := [vI (kI 0)]) rfl ?_
  exact j_iret hx hm (by decide +kernel) jz0n (he _)
theorem wrn_stopsStore_69 {x : jCx} {en : (Int32) → Option (Outcome × jW)} {W : jW} {t : Nat} {a1 : Int32} {a2 : Int64} {a4 : Int32} (h : hrn_stopsStore x en t a1 a2 a4 W) : jJ x 6 69 [(0, vR t), (1, vI a1), (2, vL a2), (4, vI a4)] [] W (frn_stopsStore_69 t a1 a2 a4 W) en := by
  have h0 := h
  obtain ⟨hx, hm, hr, he⟩ := h0
  unfold frn_stopsStore_69
  refine j_runA hx 3 (tb := [(69, .aload_n 0), (70, .lload_n 2), (71, .iload 4)]) (jtb_ok (by decide +kernel)) (pc' := 73) (lv' := [(0, vR t), (1, vI a1), (2, vL a2), (4, vI a4)]) (st' := [vI a4, vL a2, vR t]) rfl ?_
  refine j_gd (fun h8 => ?_)
  refine j_TI (j_callV (av := [vL a2, vI a4]) (st := []) hx hr (Or.inl q3482) q3484 qs207 rfl md_frn_isWhole np_frn_isWhole (crn_isWhole t a2 a4 W) (by decide) (Nat.le_of_ble_eq_true rfl) h8 (by decide) (by decide +kernel)) ?_
  refine j_if_ne hx (off := 17) (tgt := 93) (by decide +kernel) (by decide) (fun _ => ?_) (fun _ => ?_)
  · exact wrn_stopsStore_93 h
  refine j_runA hx 3 (tb := [(79, .aload_n 0), (80, .lload_n 2), (81, .iload 4)]) (jtb_ok (by decide +kernel)) (pc' := 83) (lv' := [(0, vR t), (1, vI a1), (2, vL a2), (4, vI a4)]) (st' := [vI a4, vL a2, vR t]) rfl ?_
  refine j_OI (j_callV (av := [vL a2, vI a4]) (st := []) hx hr (Or.inl q3487) q3489 qs208 rfl md_frn_hasCode np_frn_hasCode (crn_hasCode t a2 a4 W) (by decide) (Nat.le_of_ble_eq_true rfl) h8 (by decide) (by decide +kernel)) (fun q9 _ => ?_)
  refine j_if_eq hx (off := 7) (tgt := 93) (by decide +kernel) (by decide) (fun _ => ?_) (fun _ => ?_)
  · exact wrn_stopsStore_93 h
  refine j_runA hx 1 (tb := [(89, .iconst 1)]) (jtb_ok (by decide +kernel)) (pc' := 90) (lv' := [(0, vR t), (1, vI a1), (2, vL a2), (4, vI a4)]) (st' := [vI (kI 1)]) rfl ?_
  refine j_goto hx (off := 4) (by decide +kernel) (tgt := 94) (by decide) ?_
  exact j_iret hx hm (by decide +kernel) jz1n (he _)
theorem wrn_stopsStore_30 {x : jCx} {en : (Int32) → Option (Outcome × jW)} {W : jW} {t : Nat} {a1 : Int32} {a2 : Int64} {a4 : Int32} (h : hrn_stopsStore x en t a1 a2 a4 W) (s0 : Int32) : jJ x 6 30 [(0, vR t), (1, vI a1), (2, vL a2), (4, vI a4)] [vI s0] W (frn_stopsStore_30 t a1 a2 a4 s0 W) en := by
  have h0 := h
  obtain ⟨hx, hm, hr, he⟩ := h0
  unfold frn_stopsStore_30
  refine j_runA hx 4 (tb := [(30, .istore 5), (32, .aload_n 0), (33, .lload_n 2), (34, .iload 4)]) (jtb_ok (by decide +kernel)) (pc' := 36) (lv' := [(5, vI s0), (0, vR t), (1, vI a1), (2, vL a2), (4, vI a4)]) (st' := [vI a4, vL a2, vR t]) rfl ?_
  refine j_gd (fun h4 => ?_)
  refine j_OI (j_callV (av := [vL a2, vI a4]) (st := []) hx hr (Or.inl q3477) q3479 qs206 rfl md_frn_hits np_frn_hits (crn_hits t a2 a4 W) (by decide) (Nat.le_of_ble_eq_true rfl) h4 (by decide) (by decide +kernel)) (fun q5 _ => ?_)
  refine j_if_ne hx (off := 28) (tgt := 67) (by decide +kernel) (by decide) (fun _ => ?_) (fun _ => ?_)
  · refine j_lv (lv' := [(0, vR t), (1, vI a1), (2, vL a2), (4, vI a4)]) ⟨rfl, rfl, rfl, rfl, trivial⟩ ?_
    exact wrn_stopsStore_67 h
  refine j_runA hx 1 (tb := [(42, .iload 5)]) (jtb_ok (by decide +kernel)) (pc' := 44) (lv' := [(5, vI s0), (0, vR t), (1, vI a1), (2, vL a2), (4, vI a4)]) (st' := [vI s0]) rfl ?_
  refine j_if_eq hx (off := 25) (tgt := 69) (by decide +kernel) (by decide) (fun _ => ?_) (fun _ => ?_)
  · refine j_lv (lv' := [(0, vR t), (1, vI a1), (2, vL a2), (4, vI a4)]) ⟨rfl, rfl, rfl, rfl, trivial⟩ ?_
    exact wrn_stopsStore_69 h
  refine j_runA hx 1 (tb := [(47, .aload_n 0)]) (jtb_ok (by decide +kernel)) (pc' := 48) (lv' := [(5, vI s0), (0, vR t), (1, vI a1), (2, vL a2), (4, vI a4)]) (st' := [vR t]) rfl ?_
  refine j_getR hx flX11_15 kl1604 h4 (by decide) (by decide +kernel) ?_
  refine j_runA hx 1 (tb := [(51, .iload_n 1)]) (jtb_ok (by decide +kernel)) (pc' := 52) (lv' := [(5, vI s0), (0, vR t), (1, vI a1), (2, vL a2), (4, vI a4)]) (st' := [vI a1, vR (jR W 1604 t)]) rfl ?_
  refine j_gd (fun h6 => ?_)
  refine j_bald hx (f := 1604) (o := t) kd1604 rfl (by decide +kernel) h6 ?_
  refine j_runA hx 1 (tb := [(53, .iconst 3)]) (jtb_ok (by decide +kernel)) (pc' := 54) (lv' := [(5, vI s0), (0, vR t), (1, vI a1), (2, vL a2), (4, vI a4)]) (st' := [vI (kI 3), vI (jA W 1604 t (ix a1))]) rfl ?_
  refine j_icmp_eq hx (off := 13) (tgt := 67) (by decide +kernel) (by decide) (fun _ => ?_) (fun _ => ?_)
  · refine j_lv (lv' := [(0, vR t), (1, vI a1), (2, vL a2), (4, vI a4)]) ⟨rfl, rfl, rfl, rfl, trivial⟩ ?_
    exact wrn_stopsStore_67 h
  refine j_runA hx 3 (tb := [(57, .aload_n 0), (58, .lload_n 2), (59, .iload 4)]) (jtb_ok (by decide +kernel)) (pc' := 61) (lv' := [(5, vI s0), (0, vR t), (1, vI a1), (2, vL a2), (4, vI a4)]) (st' := [vI a4, vL a2, vR t]) rfl ?_
  refine j_TI (j_callV (av := [vL a2, vI a4]) (st := []) hx hr (Or.inl q3482) q3484 qs207 rfl md_frn_isWhole np_frn_isWhole (crn_isWhole t a2 a4 W) (by decide) (Nat.le_of_ble_eq_true rfl) h4 (by decide) (by decide +kernel)) ?_
  refine j_if_ne hx (off := 5) (tgt := 69) (by decide +kernel) (by decide) (fun _ => ?_) (fun _ => ?_)
  · refine j_lv (lv' := [(0, vR t), (1, vI a1), (2, vL a2), (4, vI a4)]) ⟨rfl, rfl, rfl, rfl, trivial⟩ ?_
    exact wrn_stopsStore_69 h
  refine j_lv (lv' := [(0, vR t), (1, vI a1), (2, vL a2), (4, vI a4)]) ⟨rfl, rfl, rfl, rfl, trivial⟩ ?_
  exact wrn_stopsStore_67 h
theorem wrn_stopsStore_29 {x : jCx} {en : (Int32) → Option (Outcome × jW)} {W : jW} {t : Nat} {a1 : Int32} {a2 : Int64} {a4 : Int32} (h : hrn_stopsStore x en t a1 a2 a4 W) : jJ x 6 29 [(0, vR t), (1, vI a1), (2, vL a2), (4, vI a4)] [] W (frn_stopsStore_29 t a1 a2 a4 W) en := by
  have h0 := h
  obtain ⟨hx, hm, hr, he⟩ := h0
  unfold frn_stopsStore_29
  refine j_runA hx 1 (tb := [(29, .iconst 0)]) (jtb_ok (by decide +kernel)) (pc' := 30) (lv' := [(0, vR t), (1, vI a1), (2, vL a2), (4, vI a4)]) (st' := [vI (kI 0)]) rfl ?_
  exact wrn_stopsStore_30 h (kI 0)
theorem wrn_stopsStore {x : jCx} {en : (Int32) → Option (Outcome × jW)} {W : jW} {t : Nat} {a1 : Int32} {a2 : Int64} {a4 : Int32} (h : hrn_stopsStore x en t a1 a2 a4 W) : jJ x 6 0 [(0, vR t), (1, vI a1), (2, vL a2), (4, vI a4)] [] W (frn_stopsStore t a1 a2 a4 W) en := by
  have h0 := h
  obtain ⟨hx, hm, hr, he⟩ := h0
  unfold frn_stopsStore
  refine j_runA hx 1 (tb := [(0, .aload_n 0)]) (jtb_ok (by decide +kernel)) (pc' := 1) (lv' := [(0, vR t), (1, vI a1), (2, vL a2), (4, vI a4)]) (st' := [vR t]) rfl ?_
  refine j_gd (fun h1 => ?_)
  refine j_getI hx flX11_46 kd1601 h1 (by decide) (by decide +kernel) ?_
  refine j_runA hx 1 (tb := [(4, .iconst 1)]) (jtb_ok (by decide +kernel)) (pc' := 5) (lv' := [(0, vR t), (1, vI a1), (2, vL a2), (4, vI a4)]) (st' := [vI (kI 1), vI (jI W 1601 t)]) rfl ?_
  refine j_icmp_eq hx (off := 5) (tgt := 10) (by decide +kernel) (by decide) (fun _ => ?_) (fun _ => ?_)
  · refine j_runA hx 2 (tb := [(10, .iload_n 1), (11, .bipush 31)]) (jtb_ok (by decide +kernel)) (pc' := 13) (lv' := [(0, vR t), (1, vI a1), (2, vL a2), (4, vI a4)]) (st' := [vI (kI 31), vI a1]) rfl ?_
    refine j_icmp_ge hx (off := 16) (tgt := 29) (by decide +kernel) (by decide) (fun _ => ?_) (fun _ => ?_)
    · exact wrn_stopsStore_29 h
    refine j_runA hx 1 (tb := [(16, .aload_n 0)]) (jtb_ok (by decide +kernel)) (pc' := 17) (lv' := [(0, vR t), (1, vI a1), (2, vL a2), (4, vI a4)]) (st' := [vR t]) rfl ?_
    refine j_getR hx flX11_15 kl1604 h1 (by decide) (by decide +kernel) ?_
    refine j_runA hx 1 (tb := [(20, .iload_n 1)]) (jtb_ok (by decide +kernel)) (pc' := 21) (lv' := [(0, vR t), (1, vI a1), (2, vL a2), (4, vI a4)]) (st' := [vI a1, vR (jR W 1604 t)]) rfl ?_
    refine j_gd (fun h2 => ?_)
    refine j_bald hx (f := 1604) (o := t) kd1604 rfl (by decide +kernel) h2 ?_
    refine j_if_eq hx (off := 7) (tgt := 29) (by decide +kernel) (by decide) (fun _ => ?_) (fun _ => ?_)
    · exact wrn_stopsStore_29 h
    refine j_runA hx 1 (tb := [(25, .iconst 1)]) (jtb_ok (by decide +kernel)) (pc' := 26) (lv' := [(0, vR t), (1, vI a1), (2, vL a2), (4, vI a4)]) (st' := [vI (kI 1)]) rfl ?_
    refine j_goto hx (off := 4) (by decide +kernel) (tgt := 30) (by decide) ?_
    exact wrn_stopsStore_30 h (kI 1)
  refine j_runA hx 1 (tb := [(8, .iconst 0)]) (jtb_ok (by decide +kernel)) (pc' := 9) (lv' := [(0, vR t), (1, vI a1), (2, vL a2), (4, vI a4)]) (st' := [vI (kI 0)]) rfl ?_
  exact j_iret hx hm (by decide +kernel) jz0n (he _)
theorem crn_stopsStore (t : Nat) (a1 : Int32) (a2 : Int64) (a4 : Int32) (W : jW) : jM yX11_stopsStore cX11_stopsStore 6 (Option.some Jvm.ClassFile.FieldType.boolean) [] 2 35 [vR t, vI a1, vL a2, vI a4] W ((frn_stopsStore t a1 a2 a4 W).bind (fun q => some (.returned (some (.int q)), W))) := 
  jM.of (Nat.le_of_ble_eq_true rfl) (fun x hx hm hr => wrn_stopsStore ⟨hx, hm, hr, fun _ => rfl⟩)
def hrn_faultsLoad (x : jCx) (en : (Int32) → Option (Outcome × jW)) (t : Nat) (a1 : Int64) (a3 : Int32) (W : jW) : Prop :=
  jOK x RX11 cX11_faultsLoad 4 ∧
  jMt x "faultsLoad" (Option.some Jvm.ClassFile.FieldType.boolean) [] ∧
  jRm x 2 33 ∧
  (∀ q : Int32, en q = some (.returned (some (.int q)), W))
theorem wrn_faultsLoad_24 {x : jCx} {en : (Int32) → Option (Outcome × jW)} {W : jW} {t : Nat} {a1 : Int64} {a3 : Int32} (h : hrn_faultsLoad x en t a1 a3 W) : jJ x 4 24 [(0, vR t), (1, vL a1), (3, vI a3)] [] W (frn_faultsLoad_24 t a1 a3 W) en := by
  have h0 := h
  obtain ⟨hx, hm, hr, he⟩ := h0
  unfold frn_faultsLoad_24
  refine j_runA hx 1 (tb := [(24, .iconst 0)]) (jtb_ok (by decide +kernel)) (pc' := 25) (lv' := [(0, vR t), (1, vL a1), (3, vI a3)]) (st' := [vI (kI 0)]) rfl ?_
  exact j_iret hx hm (by decide +kernel) jz0n (he _)
theorem wrn_faultsLoad {x : jCx} {en : (Int32) → Option (Outcome × jW)} {W : jW} {t : Nat} {a1 : Int64} {a3 : Int32} (h : hrn_faultsLoad x en t a1 a3 W) : jJ x 4 0 [(0, vR t), (1, vL a1), (3, vI a3)] [] W (frn_faultsLoad t a1 a3 W) en := by
  have h0 := h
  obtain ⟨hx, hm, hr, he⟩ := h0
  unfold frn_faultsLoad
  refine j_runA hx 3 (tb := [(0, .aload_n 0), (1, .lload_n 1), (2, .iload_n 3)]) (jtb_ok (by decide +kernel)) (pc' := 3) (lv' := [(0, vR t), (1, vL a1), (3, vI a3)]) (st' := [vI a3, vL a1, vR t]) rfl ?_
  refine j_gd (fun h1 => ?_)
  refine j_OI (j_callV (av := [vL a1, vI a3]) (st := []) hx hr (Or.inl q3491) q3492 q3493 rfl md_frn_at np_frn_at (crn_at t a1 a3 W) (by decide) (Nat.le_of_ble_eq_true rfl) h1 (by decide) (by decide +kernel)) (fun q2 _ => ?_)
  refine j_if_ge hx (off := 18) (tgt := 24) (by decide +kernel) (by decide) (fun _ => ?_) (fun _ => ?_)
  · exact wrn_faultsLoad_24 h
  refine j_runA hx 3 (tb := [(9, .aload_n 0), (10, .lload_n 1), (11, .iload_n 3)]) (jtb_ok (by decide +kernel)) (pc' := 12) (lv' := [(0, vR t), (1, vL a1), (3, vI a3)]) (st' := [vI a3, vL a1, vR t]) rfl ?_
  refine j_OL (j_callV (av := [vL a1, vI a3]) (st := []) hx hr (Or.inl q3361) q3363 qs183 rfl md_frn_inText np_frn_inText (crn_inText t a1 a3 W) (by decide) (Nat.le_of_ble_eq_true rfl) h1 (by decide) (by decide +kernel)) (fun q3 _ => ?_)
  refine j_runA hx 1 (tb := [(15, .lconst 0)]) (jtb_ok (by decide +kernel)) (pc' := 16) (lv' := [(0, vR t), (1, vL a1), (3, vI a3)]) (st' := [vL (kJ 0), vL q3]) rfl ?_
  refine j_lcmp_ge hx (off := 7) (tgt := 24) (by decide +kernel) (by decide +kernel) (by decide) (fun _ => ?_) (fun _ => ?_)
  · exact wrn_faultsLoad_24 h
  refine j_runA hx 1 (tb := [(20, .iconst 1)]) (jtb_ok (by decide +kernel)) (pc' := 21) (lv' := [(0, vR t), (1, vL a1), (3, vI a3)]) (st' := [vI (kI 1)]) rfl ?_
  refine j_goto hx (off := 4) (by decide +kernel) (tgt := 25) (by decide) ?_
  exact j_iret hx hm (by decide +kernel) jz1n (he _)
theorem crn_faultsLoad (t : Nat) (a1 : Int64) (a3 : Int32) (W : jW) : jM yX11_faultsLoad cX11_faultsLoad 4 (Option.some Jvm.ClassFile.FieldType.boolean) [] 2 33 [vR t, vL a1, vI a3] W ((frn_faultsLoad t a1 a3 W).bind (fun q => some (.returned (some (.int q)), W))) := 
  jM.of (Nat.le_of_ble_eq_true rfl) (fun x hx hm hr => wrn_faultsLoad ⟨hx, hm, hr, fun _ => rfl⟩)
def hrn_isWritable (x : jCx) (en : (frn_isWritable_S ⊕ (Int32)) → Option (Outcome × jW)) (t : Nat) (a1 : Int64) (W : jW) : Prop :=
  jOK x RX11 cX11_isWritable 4 ∧
  jMt x "isWritable" (Option.some Jvm.ClassFile.FieldType.boolean) [] ∧
  jRm x 0 0 ∧
  (∀ q : Int32, en (.inr q) = some (.returned (some (.int q)), W)) ∧
  (∀ (l3 : Int32), jJ x 4 2 [(0, vR t), (1, vL a1), (3, vI l3)] [] W (some (.inl l3)) en)
theorem wrn_isWritable_89 {x : jCx} {en : (frn_isWritable_S ⊕ (Int32)) → Option (Outcome × jW)} {W : jW} {t : Nat} {a1 : Int64} (h : hrn_isWritable x en t a1 W) (l3 : Int32) : jJ x 4 89 [(0, vR t), (1, vL a1), (3, vI l3)] [] W (frn_isWritable_89 t a1 l3 W) en := by
  have h0 := h
  obtain ⟨hx, hm, hr, he, k2⟩ := h0
  unfold frn_isWritable_89
  refine j_runA hx 1 (tb := [(89, .iinc 3 1)]) (jtb_ok (by decide +kernel)) (pc' := 92) (lv' := [(3, vI (l3 + (kI 1))), (0, vR t), (1, vL a1)]) (st' := []) rfl ?_
  refine j_let (v := (l3 + (kI 1))) (lv := fun v10 => [(3, vI v10), (0, vR t), (1, vL a1)]) (st := fun _ => []) (fun v10 => ?_)
  refine j_goto hx (off := -90) (by decide +kernel) (tgt := 2) (by decide) ?_
  refine j_lv (lv' := [(0, vR t), (1, vL a1), (3, vI v10)]) ⟨rfl, rfl, rfl, trivial⟩ ?_
  exact k2 v10
theorem wrn_isWritable_2 {x : jCx} {en : (frn_isWritable_S ⊕ (Int32)) → Option (Outcome × jW)} {W : jW} {t : Nat} {a1 : Int64} (h : hrn_isWritable x en t a1 W) (l3 : Int32) : jJ x 4 2 [(0, vR t), (1, vL a1), (3, vI l3)] [] W (frn_isWritable_2 t a1 l3 W) en := by
  have h0 := h
  obtain ⟨hx, hm, hr, he, k2⟩ := h0
  unfold frn_isWritable_2
  refine j_runA hx 4 (tb := [(2, .iload_n 3), (3, .iconst 1), (4, .iadd), (5, .aload_n 0)]) (jtb_ok (by decide +kernel)) (pc' := 6) (lv' := [(0, vR t), (1, vL a1), (3, vI l3)]) (st' := [vR t, vI (l3 + (kI 1))]) rfl ?_
  refine j_gd (fun h2 => ?_)
  refine j_getR hx flX11_42 kl1600 h2 (by decide) (by decide +kernel) ?_
  refine j_gd (fun h3 => ?_)
  refine j_getR hx flX11_95 kl1305 h3 (by decide) (by decide +kernel) ?_
  refine j_gd (fun h4 => ?_)
  refine j_getI hx flX11_165 kd1402 h4 (by decide) (by decide +kernel) ?_
  refine j_icmp_ge hx (off := 80) (tgt := 95) (by decide +kernel) (by decide) (fun _ => ?_) (fun _ => ?_)
  · refine j_runA hx 1 (tb := [(95, .lload_n 1)]) (jtb_ok (by decide +kernel)) (pc' := 96) (lv' := [(0, vR t), (1, vL a1), (3, vI l3)]) (st' := [vL a1]) rfl ?_
    refine j_ldc2 hx (v := (kJ 2147418112)) (jkd2 q3495 (by decide +kernel)) (by decide +kernel) ?_
    refine j_lcmp_lt hx (off := 7) (tgt := 107) (by decide +kernel) (by decide +kernel) (by decide) (fun _ => ?_) (fun _ => ?_)
    · refine j_runA hx 1 (tb := [(107, .iconst 0)]) (jtb_ok (by decide +kernel)) (pc' := 108) (lv' := [(0, vR t), (1, vL a1), (3, vI l3)]) (st' := [vI (kI 0)]) rfl ?_
      exact j_iret hx hm (by decide +kernel) jz0n (he _)
    refine j_runA hx 1 (tb := [(103, .iconst 1)]) (jtb_ok (by decide +kernel)) (pc' := 104) (lv' := [(0, vR t), (1, vL a1), (3, vI l3)]) (st' := [vI (kI 1)]) rfl ?_
    refine j_goto hx (off := 4) (by decide +kernel) (tgt := 108) (by decide) ?_
    exact j_iret hx hm (by decide +kernel) jz1n (he _)
  refine j_runA hx 2 (tb := [(18, .lload_n 1), (19, .aload_n 0)]) (jtb_ok (by decide +kernel)) (pc' := 20) (lv' := [(0, vR t), (1, vL a1), (3, vI l3)]) (st' := [vR t, vL a1]) rfl ?_
  refine j_getR hx flX11_42 kl1600 h2 (by decide) (by decide +kernel) ?_
  refine j_getR hx flX11_95 kl1305 h3 (by decide) (by decide +kernel) ?_
  refine j_getR hx flX11_168 kl1408 h4 (by decide) (by decide +kernel) ?_
  refine j_runA hx 1 (tb := [(29, .iload_n 3)]) (jtb_ok (by decide +kernel)) (pc' := 30) (lv' := [(0, vR t), (1, vL a1), (3, vI l3)]) (st' := [vI l3, vR (jR W 1408 (jR W 1305 (jR W 1600 t))), vL a1]) rfl ?_
  refine j_gd (fun h5 => ?_)
  refine j_lald hx (f := 1408) (o := (jR W 1305 (jR W 1600 t))) kd1408 rfl (by decide +kernel) h5 ?_
  refine j_lcmp_lt hx (off := 57) (tgt := 89) (by decide +kernel) (by decide +kernel) (by decide) (fun _ => ?_) (fun _ => ?_)
  · exact wrn_isWritable_89 h l3
  refine j_runA hx 2 (tb := [(35, .lload_n 1), (36, .aload_n 0)]) (jtb_ok (by decide +kernel)) (pc' := 37) (lv' := [(0, vR t), (1, vL a1), (3, vI l3)]) (st' := [vR t, vL a1]) rfl ?_
  refine j_getR hx flX11_42 kl1600 h2 (by decide) (by decide +kernel) ?_
  refine j_getR hx flX11_95 kl1305 h3 (by decide) (by decide +kernel) ?_
  refine j_getR hx flX11_168 kl1408 h4 (by decide) (by decide +kernel) ?_
  refine j_runA hx 1 (tb := [(46, .iload_n 3)]) (jtb_ok (by decide +kernel)) (pc' := 47) (lv' := [(0, vR t), (1, vL a1), (3, vI l3)]) (st' := [vI l3, vR (jR W 1408 (jR W 1305 (jR W 1600 t))), vL a1]) rfl ?_
  refine j_gd (fun h6 => ?_)
  refine j_lald hx (f := 1408) (o := (jR W 1305 (jR W 1600 t))) kd1408 rfl (by decide +kernel) h6 ?_
  refine j_runA hx 1 (tb := [(48, .aload_n 0)]) (jtb_ok (by decide +kernel)) (pc' := 49) (lv' := [(0, vR t), (1, vL a1), (3, vI l3)]) (st' := [vR t, vL (jB W 1408 (jR W 1305 (jR W 1600 t)) (ix l3)), vL a1]) rfl ?_
  refine j_getR hx flX11_42 kl1600 h2 (by decide) (by decide +kernel) ?_
  refine j_getR hx flX11_95 kl1305 h3 (by decide) (by decide +kernel) ?_
  refine j_getR hx flX11_171 kl1409 h4 (by decide) (by decide +kernel) ?_
  refine j_runA hx 1 (tb := [(58, .iload_n 3)]) (jtb_ok (by decide +kernel)) (pc' := 59) (lv' := [(0, vR t), (1, vL a1), (3, vI l3)]) (st' := [vI l3, vR (jR W 1409 (jR W 1305 (jR W 1600 t))), vL (jB W 1408 (jR W 1305 (jR W 1600 t)) (ix l3)), vL a1]) rfl ?_
  refine j_gd (fun h7 => ?_)
  refine j_iald hx (f := 1409) (o := (jR W 1305 (jR W 1600 t))) kd1409 rfl (by decide +kernel) h7 ?_
  refine j_runA hx 2 (tb := [(60, .i2l), (61, .ladd)]) (jtb_ok (by decide +kernel)) (pc' := 62) (lv' := [(0, vR t), (1, vL a1), (3, vI l3)]) (st' := [vL ((jB W 1408 (jR W 1305 (jR W 1600 t)) (ix l3)) + ((jA W 1409 (jR W 1305 (jR W 1600 t)) (ix l3)).toInt64)), vL a1]) rfl ?_
  refine j_lcmp_ge hx (off := 26) (tgt := 89) (by decide +kernel) (by decide +kernel) (by decide) (fun _ => ?_) (fun _ => ?_)
  · exact wrn_isWritable_89 h l3
  refine j_runA hx 1 (tb := [(66, .aload_n 0)]) (jtb_ok (by decide +kernel)) (pc' := 67) (lv' := [(0, vR t), (1, vL a1), (3, vI l3)]) (st' := [vR t]) rfl ?_
  refine j_getR hx flX11_42 kl1600 h2 (by decide) (by decide +kernel) ?_
  refine j_getR hx flX11_95 kl1305 h3 (by decide) (by decide +kernel) ?_
  refine j_getR hx flX11_177 kl1406 h4 (by decide) (by decide +kernel) ?_
  refine j_runA hx 1 (tb := [(76, .iload_n 3)]) (jtb_ok (by decide +kernel)) (pc' := 77) (lv' := [(0, vR t), (1, vL a1), (3, vI l3)]) (st' := [vI l3, vR (jR W 1406 (jR W 1305 (jR W 1600 t)))]) rfl ?_
  refine j_gd (fun h8 => ?_)
  refine j_iald hx (f := 1406) (o := (jR W 1305 (jR W 1600 t))) kd1406 rfl (by decide +kernel) h8 ?_
  refine j_runA hx 1 (tb := [(78, .bipush 6)]) (jtb_ok (by decide +kernel)) (pc' := 80) (lv' := [(0, vR t), (1, vL a1), (3, vI l3)]) (st' := [vI (kI 6), vI (jA W 1406 (jR W 1305 (jR W 1600 t)) (ix l3))]) rfl ?_
  refine j_icmp_ne hx (off := 7) (tgt := 87) (by decide +kernel) (by decide) (fun _ => ?_) (fun _ => ?_)
  · refine j_runA hx 1 (tb := [(87, .iconst 0)]) (jtb_ok (by decide +kernel)) (pc' := 88) (lv' := [(0, vR t), (1, vL a1), (3, vI l3)]) (st' := [vI (kI 0)]) rfl ?_
    exact j_iret hx hm (by decide +kernel) jz0n (he _)
  refine j_runA hx 1 (tb := [(83, .iconst 1)]) (jtb_ok (by decide +kernel)) (pc' := 84) (lv' := [(0, vR t), (1, vL a1), (3, vI l3)]) (st' := [vI (kI 1)]) rfl ?_
  refine j_goto hx (off := 4) (by decide +kernel) (tgt := 88) (by decide) ?_
  exact j_iret hx hm (by decide +kernel) jz1n (he _)
theorem wrn_isWritable {x : jCx} {en : (frn_isWritable_S ⊕ (Int32)) → Option (Outcome × jW)} {W : jW} {t : Nat} {a1 : Int64} (h : hrn_isWritable x en t a1 W) : jJ x 4 0 [(0, vR t), (1, vL a1)] [] W (frn_isWritable_0 t a1 W) en := by
  have h0 := h
  obtain ⟨hx, hm, hr, he, k2⟩ := h0
  unfold frn_isWritable_0
  refine j_runA hx 2 (tb := [(0, .iconst 0), (1, .istore_n 3)]) (jtb_ok (by decide +kernel)) (pc' := 2) (lv' := [(3, vI (kI 0)), (0, vR t), (1, vL a1)]) (st' := []) rfl ?_
  refine j_lv (lv' := [(0, vR t), (1, vL a1), (3, vI (kI 0))]) ⟨rfl, rfl, rfl, trivial⟩ ?_
  exact k2 (kI 0)
theorem crn_isWritable (t : Nat) (a1 : Int64) (W : jW) : jM yX11_isWritable cX11_isWritable 4 (Option.some Jvm.ClassFile.FieldType.boolean) [] 0 0 [vR t, vL a1] W ((frn_isWritable t a1 W).bind (fun q => some (.returned (some (.int q)), W))) := by
  refine jM.of (Nat.le_of_ble_eq_true rfl) (fun x hx hm hr => ?_)
  refine j_begin (P := (fun s => (2, [(0, vR t), (1, vL a1), (3, vI s)], W))) (fun en he hk => ?_)
  have h : hrn_isWritable x en t a1 W := ⟨hx, hm, hr, fun q => he _, fun l3 => hk l3⟩
  exact ⟨fun s => wrn_isWritable_2 h s, wrn_isWritable h⟩
def hrn_faultsStore (x : jCx) (en : (Int32) → Option (Outcome × jW)) (t : Nat) (a1 : Int64) (a3 : Int32) (W : jW) : Prop :=
  jOK x RX11 cX11_faultsStore 4 ∧
  jMt x "faultsStore" (Option.some Jvm.ClassFile.FieldType.boolean) [] ∧
  jRm x 1 18 ∧
  (∀ q : Int32, en q = some (.returned (some (.int q)), W))
theorem wrn_faultsStore_17 {x : jCx} {en : (Int32) → Option (Outcome × jW)} {W : jW} {t : Nat} {a1 : Int64} {a3 : Int32} (h : hrn_faultsStore x en t a1 a3 W) : jJ x 4 17 [(0, vR t), (1, vL a1), (3, vI a3)] [] W (frn_faultsStore_17 t a1 a3 W) en := by
  have h0 := h
  obtain ⟨hx, hm, hr, he⟩ := h0
  unfold frn_faultsStore_17
  refine j_runA hx 1 (tb := [(17, .iconst 1)]) (jtb_ok (by decide +kernel)) (pc' := 18) (lv' := [(0, vR t), (1, vL a1), (3, vI a3)]) (st' := [vI (kI 1)]) rfl ?_
  refine j_goto hx (off := 4) (by decide +kernel) (tgt := 22) (by decide) ?_
  exact j_iret hx hm (by decide +kernel) jz1n (he _)
theorem wrn_faultsStore {x : jCx} {en : (Int32) → Option (Outcome × jW)} {W : jW} {t : Nat} {a1 : Int64} {a3 : Int32} (h : hrn_faultsStore x en t a1 a3 W) : jJ x 4 0 [(0, vR t), (1, vL a1), (3, vI a3)] [] W (frn_faultsStore t a1 a3 W) en := by
  have h0 := h
  obtain ⟨hx, hm, hr, he⟩ := h0
  unfold frn_faultsStore
  refine j_runA hx 3 (tb := [(0, .aload_n 0), (1, .lload_n 1), (2, .iload_n 3)]) (jtb_ok (by decide +kernel)) (pc' := 3) (lv' := [(0, vR t), (1, vL a1), (3, vI a3)]) (st' := [vI a3, vL a1, vR t]) rfl ?_
  refine j_gd (fun h1 => ?_)
  refine j_OI (j_callV (av := [vL a1, vI a3]) (st := []) hx hr (Or.inl q3491) q3492 q3493 rfl md_frn_at np_frn_at (crn_at t a1 a3 W) (by decide) (Nat.le_of_ble_eq_true rfl) h1 (by decide) (by decide +kernel)) (fun q2 _ => ?_)
  refine j_if_lt hx (off := 11) (tgt := 17) (by decide +kernel) (by decide) (fun _ => ?_) (fun _ => ?_)
  · exact wrn_faultsStore_17 h
  refine j_runA hx 2 (tb := [(9, .aload_n 0), (10, .lload_n 1)]) (jtb_ok (by decide +kernel)) (pc' := 11) (lv' := [(0, vR t), (1, vL a1), (3, vI a3)]) (st' := [vL a1, vR t]) rfl ?_
  refine j_OI (j_callV (av := [vL a1]) (st := []) hx hr (Or.inl q3509) q3511 qs212 rfl md_frn_isWritable np_frn_isWritable (crn_isWritable t a1 W) (by decide) (Nat.le_of_ble_eq_true rfl) h1 (by decide) (by decide +kernel)) (fun q3 _ => ?_)
  refine j_if_ne hx (off := 7) (tgt := 21) (by decide +kernel) (by decide) (fun _ => ?_) (fun _ => ?_)
  · refine j_runA hx 1 (tb := [(21, .iconst 0)]) (jtb_ok (by decide +kernel)) (pc' := 22) (lv' := [(0, vR t), (1, vL a1), (3, vI a3)]) (st' := [vI (kI 0)]) rfl ?_
    exact j_iret hx hm (by decide +kernel) jz0n (he _)
  exact wrn_faultsStore_17 h
theorem crn_faultsStore (t : Nat) (a1 : Int64) (a3 : Int32) (W : jW) : jM yX11_faultsStore cX11_faultsStore 4 (Option.some Jvm.ClassFile.FieldType.boolean) [] 1 18 [vR t, vL a1, vI a3] W ((frn_faultsStore t a1 a3 W).bind (fun q => some (.returned (some (.int q)), W))) := 
  jM.of (Nat.le_of_ble_eq_true rfl) (fun x hx hm hr => wrn_faultsStore ⟨hx, hm, hr, fun _ => rfl⟩)
def hrn_get (x : jCx) (en : (frn_get_S ⊕ (Int64)) → Option (Outcome × jW)) (t : Nat) (a1 : Int32) (a2 : Int32) (W : jW) : Prop :=
  jOK x RX11 cX11_get 6 ∧
  jMt x "get" (Option.some Jvm.ClassFile.FieldType.long) [] ∧
  jRm x 0 0 ∧
  (∀ q : Int64, en (.inr q) = some (.returned (some (.long q)), W)) ∧
  (∀ (l3 : Int64) (l5 : Int32), jJ x 6 7 [(0, vR t), (1, vI a1), (2, vI a2), (3, vL l3), (5, vI l5)] [] W (some (.inl (l3, l5))) en)
theorem wrn_get_7 {x : jCx} {en : (frn_get_S ⊕ (Int64)) → Option (Outcome × jW)} {W : jW} {t : Nat} {a1 : Int32} {a2 : Int32} (h : hrn_get x en t a1 a2 W) (l3 : Int64) (l5 : Int32) : jJ x 6 7 [(0, vR t), (1, vI a1), (2, vI a2), (3, vL l3), (5, vI l5)] [] W (frn_get_7 t a1 a2 l3 l5 W) en := by
  have h0 := h
  obtain ⟨hx, hm, hr, he, k7⟩ := h0
  unfold frn_get_7
  refine j_runA hx 1 (tb := [(7, .iload 5)]) (jtb_ok (by decide +kernel)) (pc' := 9) (lv' := [(0, vR t), (1, vI a1), (2, vI a2), (3, vL l3), (5, vI l5)]) (st' := [vI l5]) rfl ?_
  refine j_if_lt hx (off := 29) (tgt := 38) (by decide +kernel) (by decide) (fun _ => ?_) (fun _ => ?_)
  · refine j_runA hx 1 (tb := [(38, .lload_n 3)]) (jtb_ok (by decide +kernel)) (pc' := 39) (lv' := [(0, vR t), (1, vI a1), (2, vI a2), (3, vL l3), (5, vI l5)]) (st' := [vL l3]) rfl ?_
    exact j_lret hx hm (by decide +kernel) (he _)
  refine j_runA hx 4 (tb := [(12, .lload_n 3), (13, .bipush 8), (15, .lshl), (16, .aload_n 0)]) (jtb_ok (by decide +kernel)) (pc' := 17) (lv' := [(0, vR t), (1, vI a1), (2, vI a2), (3, vL l3), (5, vI l5)]) (st' := [vR t, vL (lxl l3 (kI 8))]) rfl ?_
  refine j_gd (fun h3 => ?_)
  refine j_getR hx flX11_24 kl1610 h3 (by decide) (by decide +kernel) ?_
  refine j_runA hx 3 (tb := [(20, .iload_n 1), (21, .iload 5), (23, .iadd)]) (jtb_ok (by decide +kernel)) (pc' := 24) (lv' := [(0, vR t), (1, vI a1), (2, vI a2), (3, vL l3), (5, vI l5)]) (st' := [vI (a1 + l5), vR (jR W 1610 t), vL (lxl l3 (kI 8))]) rfl ?_
  refine j_gd (fun h4 => ?_)
  refine j_bald hx (f := 1610) (o := t) kd1610 rfl (by decide +kernel) h4 ?_
  refine j_runA hx 5 (tb := [(25, .sipush 255), (28, .iand), (29, .i2l), (30, .lor), (31, .lstore_n 3)]) (jtb_ok (by decide +kernel)) (pc' := 32) (lv' := [(3, vL ((lxl l3 (kI 8)) ||| (((jA W 1610 t (ix (a1 + l5))) &&& (kI 255)).toInt64))), (0, vR t), (1, vI a1), (2, vI a2), (5, vI l5)]) (st' := []) rfl ?_
  refine j_let (v := ((lxl l3 (kI 8)) ||| (((jA W 1610 t (ix (a1 + l5))) &&& (kI 255)).toInt64))) (lv := fun v5 => [(3, vL v5), (0, vR t), (1, vI a1), (2, vI a2), (5, vI l5)]) (st := fun _ => []) (fun v5 => ?_)
  refine j_runA hx 1 (tb := [(32, .iinc 5 (-1))]) (jtb_ok (by decide +kernel)) (pc' := 35) (lv' := [(5, vI (l5 + (kI (-1)))), (3, vL v5), (0, vR t), (1, vI a1), (2, vI a2)]) (st' := []) rfl ?_
  refine j_let (v := (l5 + (kI (-1)))) (lv := fun v6 => [(5, vI v6), (3, vL v5), (0, vR t), (1, vI a1), (2, vI a2)]) (st := fun _ => []) (fun v6 => ?_)
  refine j_goto hx (off := -28) (by decide +kernel) (tgt := 7) (by decide) ?_
  refine j_lv (lv' := [(0, vR t), (1, vI a1), (2, vI a2), (3, vL v5), (5, vI v6)]) ⟨rfl, rfl, rfl, rfl, rfl, trivial⟩ ?_
  exact k7 v5 v6
theorem wrn_get {x : jCx} {en : (frn_get_S ⊕ (Int64)) → Option (Outcome × jW)} {W : jW} {t : Nat} {a1 : Int32} {a2 : Int32} (h : hrn_get x en t a1 a2 W) : jJ x 6 0 [(0, vR t), (1, vI a1), (2, vI a2)] [] W (frn_get_0 t a1 a2 W) en := by
  have h0 := h
  obtain ⟨hx, hm, hr, he, k7⟩ := h0
  unfold frn_get_0
  refine j_runA hx 6 (tb := [(0, .lconst 0), (1, .lstore_n 3), (2, .iload_n 2), (3, .iconst 1), (4, .isub), (5, .istore 5)]) (jtb_ok (by decide +kernel)) (pc' := 7) (lv' := [(5, vI (a2 - (kI 1))), (3, vL (kJ 0)), (0, vR t), (1, vI a1), (2, vI a2)]) (st' := []) rfl ?_
  refine j_let (v := (a2 - (kI 1))) (lv := fun v1 => [(5, vI v1), (3, vL (kJ 0)), (0, vR t), (1, vI a1), (2, vI a2)]) (st := fun _ => []) (fun v1 => ?_)
  refine j_lv (lv' := [(0, vR t), (1, vI a1), (2, vI a2), (3, vL (kJ 0)), (5, vI v1)]) ⟨rfl, rfl, rfl, rfl, rfl, trivial⟩ ?_
  exact k7 (kJ 0) v1
theorem crn_get (t : Nat) (a1 : Int32) (a2 : Int32) (W : jW) : jM yX11_get cX11_get 6 (Option.some Jvm.ClassFile.FieldType.long) [] 0 0 [vR t, vI a1, vI a2] W ((frn_get t a1 a2 W).bind (fun q => some (.returned (some (.long q)), W))) := by
  refine jM.of (Nat.le_of_ble_eq_true rfl) (fun x hx hm hr => ?_)
  refine j_begin (P := (fun s => (7, [(0, vR t), (1, vI a1), (2, vI a2), (3, vL s.1), (5, vI s.2)], W))) (fun en he hk => ?_)
  have h : hrn_get x en t a1 a2 W := ⟨hx, hm, hr, fun q => he _, fun l3 l5 => hk (l3, l5)⟩
  exact ⟨fun s => wrn_get_7 h s.1 s.2, wrn_get h⟩
def hrn_loaded (x : jCx) (en : (frn_loaded_S ⊕ (Int64)) → Option (Outcome × jW)) (t : Nat) (a1 : Int64) (a3 : Int32) (W : jW) : Prop :=
  jOK x RX11 cX11_loaded 10 ∧
  jMt x "loaded" (Option.some Jvm.ClassFile.FieldType.long) [] ∧
  jRm x 2 33 ∧
  (∀ q : Int64, en (.inr q) = some (.returned (some (.long q)), W)) ∧
  (∀ (l5 : Int64) (l7 : Int64) (l9 : Int32), jJ x 10 37 [(0, vR t), (1, vL a1), (3, vI a3), (5, vL l5), (7, vL l7), (9, vI l9)] [] W (some (.inl (l5, l7, l9))) en)
theorem wrn_loaded_102 {x : jCx} {en : (frn_loaded_S ⊕ (Int64)) → Option (Outcome × jW)} {W : jW} {t : Nat} {a1 : Int64} {a3 : Int32} (h : hrn_loaded x en t a1 a3 W) (l5 : Int64) (l9 : Int32) (s0 : Int32) (s1 : Int64) : jJ x 10 102 [(0, vR t), (1, vL a1), (3, vI a3), (5, vL l5), (9, vI l9)] [vI s0, vL s1] W (frn_loaded_102 t a1 a3 l5 l9 s0 s1 W) en := by
  have h0 := h
  obtain ⟨hx, hm, hr, he, k37⟩ := h0
  unfold frn_loaded_102
  refine j_runA hx 5 (tb := [(102, .sipush 255), (105, .iand), (106, .i2l), (107, .lor), (108, .lstore 7)]) (jtb_ok (by decide +kernel)) (pc' := 110) (lv' := [(7, vL (s1 ||| ((s0 &&& (kI 255)).toInt64))), (0, vR t), (1, vL a1), (3, vI a3), (5, vL l5), (9, vI l9)]) (st' := []) rfl ?_
  refine j_let (v := (s1 ||| ((s0 &&& (kI 255)).toInt64))) (lv := fun v15 => [(7, vL v15), (0, vR t), (1, vL a1), (3, vI a3), (5, vL l5), (9, vI l9)]) (st := fun _ => []) (fun v15 => ?_)
  refine j_runA hx 1 (tb := [(110, .iinc 9 (-1))]) (jtb_ok (by decide +kernel)) (pc' := 113) (lv' := [(9, vI (l9 + (kI (-1)))), (7, vL v15), (0, vR t), (1, vL a1), (3, vI a3), (5, vL l5)]) (st' := []) rfl ?_
  refine j_let (v := (l9 + (kI (-1)))) (lv := fun v16 => [(9, vI v16), (7, vL v15), (0, vR t), (1, vL a1), (3, vI a3), (5, vL l5)]) (st := fun _ => []) (fun v16 => ?_)
  refine j_goto hx (off := -76) (by decide +kernel) (tgt := 37) (by decide) ?_
  refine j_lv (lv' := [(0, vR t), (1, vL a1), (3, vI a3), (5, vL l5), (7, vL v15), (9, vI v16)]) ⟨rfl, rfl, rfl, rfl, rfl, rfl, trivial⟩ ?_
  exact k37 l5 v15 v16
theorem wrn_loaded_37 {x : jCx} {en : (frn_loaded_S ⊕ (Int64)) → Option (Outcome × jW)} {W : jW} {t : Nat} {a1 : Int64} {a3 : Int32} (h : hrn_loaded x en t a1 a3 W) (l5 : Int64) (l7 : Int64) (l9 : Int32) : jJ x 10 37 [(0, vR t), (1, vL a1), (3, vI a3), (5, vL l5), (7, vL l7), (9, vI l9)] [] W (frn_loaded_37 t a1 a3 l5 l7 l9 W) en := by
  have h0 := h
  obtain ⟨hx, hm, hr, he, k37⟩ := h0
  unfold frn_loaded_37
  refine j_runA hx 1 (tb := [(37, .iload 9)]) (jtb_ok (by decide +kernel)) (pc' := 39) (lv' := [(0, vR t), (1, vL a1), (3, vI a3), (5, vL l5), (7, vL l7), (9, vI l9)]) (st' := [vI l9]) rfl ?_
  refine j_if_lt hx (off := 77) (tgt := 116) (by decide +kernel) (by decide) (fun _ => ?_) (fun _ => ?_)
  · refine j_runA hx 1 (tb := [(116, .lload 7)]) (jtb_ok (by decide +kernel)) (pc' := 118) (lv' := [(0, vR t), (1, vL a1), (3, vI a3), (5, vL l5), (7, vL l7), (9, vI l9)]) (st' := [vL l7]) rfl ?_
    exact j_lret hx hm (by decide +kernel) (he _)
  refine j_runA hx 4 (tb := [(42, .lload 7), (44, .bipush 8), (46, .lshl), (47, .aload_n 0)]) (jtb_ok (by decide +kernel)) (pc' := 48) (lv' := [(0, vR t), (1, vL a1), (3, vI a3), (5, vL l5), (7, vL l7), (9, vI l9)]) (st' := [vR t, vL (lxl l7 (kI 8))]) rfl ?_
  refine j_gd (fun h7 => ?_)
  refine j_getI hx flX11_46 kd1601 h7 (by decide) (by decide +kernel) ?_
  refine j_runA hx 1 (tb := [(51, .iconst 2)]) (jtb_ok (by decide +kernel)) (pc' := 52) (lv' := [(0, vR t), (1, vL a1), (3, vI a3), (5, vL l5), (7, vL l7), (9, vI l9)]) (st' := [vI (kI 2), vI (jI W 1601 t), vL (lxl l7 (kI 8))]) rfl ?_
  refine j_icmp_ne hx (off := 28) (tgt := 80) (by decide +kernel) (by decide) (fun _ => ?_) (fun _ => ?_)
  · refine j_runA hx 1 (tb := [(80, .aload_n 0)]) (jtb_ok (by decide +kernel)) (pc' := 81) (lv' := [(0, vR t), (1, vL a1), (3, vI a3), (5, vL l5), (7, vL l7), (9, vI l9)]) (st' := [vR t, vL (lxl l7 (kI 8))]) rfl ?_
    refine j_getR hx flX11_42 kl1600 h7 (by decide) (by decide +kernel) ?_
    refine j_gd (fun h8 => ?_)
    refine j_getR hx flX11_71 kl1303 h8 (by decide) (by decide +kernel) ?_
    refine j_runA hx 1 (tb := [(87, .aload_n 0)]) (jtb_ok (by decide +kernel)) (pc' := 88) (lv' := [(0, vR t), (1, vL a1), (3, vI a3), (5, vL l5), (7, vL l7), (9, vI l9)]) (st' := [vR t, vR (jR W 1303 (jR W 1600 t)), vL (lxl l7 (kI 8))]) rfl ?_
    refine j_getR hx flX11_42 kl1600 h7 (by decide) (by decide +kernel) ?_
    refine j_getI hx flX11_68 kd1309 h8 (by decide) (by decide +kernel) ?_
    refine j_runA hx 5 (tb := [(94, .lload 5), (96, .l2i), (97, .iadd), (98, .iload 9), (100, .iadd)]) (jtb_ok (by decide +kernel)) (pc' := 101) (lv' := [(0, vR t), (1, vL a1), (3, vI a3), (5, vL l5), (7, vL l7), (9, vI l9)]) (st' := [vI (((jI W 1309 (jR W 1600 t)) + l5.toInt32) + l9), vR (jR W 1303 (jR W 1600 t)), vL (lxl l7 (kI 8))]) rfl ?_
    refine j_gd (fun h9 => ?_)
    refine j_gd (fun h10 => ?_)
    refine j_bald hx (f := 9004) (o := (jR W 1303 (jR W 1600 t))) kd9004 h9 (by decide +kernel) h10 ?_
    refine j_lv (lv' := [(0, vR t), (1, vL a1), (3, vI a3), (5, vL l5), (9, vI l9)]) ⟨rfl, rfl, rfl, rfl, rfl, trivial⟩ ?_
    exact wrn_loaded_102 h l5 l9 (jA W 9004 (jR W 1303 (jR W 1600 t)) (ix (((jI W 1309 (jR W 1600 t)) + l5.toInt32) + l9))) (lxl l7 (kI 8))
  refine j_runA hx 1 (tb := [(55, .aload_n 0)]) (jtb_ok (by decide +kernel)) (pc' := 56) (lv' := [(0, vR t), (1, vL a1), (3, vI a3), (5, vL l5), (7, vL l7), (9, vI l9)]) (st' := [vR t, vL (lxl l7 (kI 8))]) rfl ?_
  refine j_getR hx flX11_42 kl1600 h7 (by decide) (by decide +kernel) ?_
  refine j_gd (fun h11 => ?_)
  refine j_getR hx flX11_234 kl1354 h11 (by decide) (by decide +kernel) ?_
  refine j_runA hx 1 (tb := [(62, .aload_n 0)]) (jtb_ok (by decide +kernel)) (pc' := 63) (lv' := [(0, vR t), (1, vL a1), (3, vI a3), (5, vL l5), (7, vL l7), (9, vI l9)]) (st' := [vR t, vR (jR W 1354 (jR W 1600 t)), vL (lxl l7 (kI 8))]) rfl ?_
  refine j_getR hx flX11_42 kl1600 h7 (by decide) (by decide +kernel) ?_
  refine j_getI hx flX11_68 kd1309 h11 (by decide) (by decide +kernel) ?_
  refine j_runA hx 5 (tb := [(69, .lload 5), (71, .l2i), (72, .iadd), (73, .iload 9), (75, .iadd)]) (jtb_ok (by decide +kernel)) (pc' := 76) (lv' := [(0, vR t), (1, vL a1), (3, vI a3), (5, vL l5), (7, vL l7), (9, vI l9)]) (st' := [vI (((jI W 1309 (jR W 1600 t)) + l5.toInt32) + l9), vR (jR W 1354 (jR W 1600 t)), vL (lxl l7 (kI 8))]) rfl ?_
  refine j_gd (fun h12 => ?_)
  refine j_gd (fun h13 => ?_)
  refine j_bald hx (f := 9004) (o := (jR W 1354 (jR W 1600 t))) kd9004 h12 (by decide +kernel) h13 ?_
  refine j_goto hx (off := 25) (by decide +kernel) (tgt := 102) (by decide) ?_
  refine j_lv (lv' := [(0, vR t), (1, vL a1), (3, vI a3), (5, vL l5), (9, vI l9)]) ⟨rfl, rfl, rfl, rfl, rfl, trivial⟩ ?_
  exact wrn_loaded_102 h l5 l9 (jA W 9004 (jR W 1354 (jR W 1600 t)) (ix (((jI W 1309 (jR W 1600 t)) + l5.toInt32) + l9))) (lxl l7 (kI 8))
theorem wrn_loaded {x : jCx} {en : (frn_loaded_S ⊕ (Int64)) → Option (Outcome × jW)} {W : jW} {t : Nat} {a1 : Int64} {a3 : Int32} (h : hrn_loaded x en t a1 a3 W) : jJ x 10 0 [(0, vR t), (1, vL a1), (3, vI a3)] [] W (frn_loaded_0 t a1 a3 W) en := by
  have h0 := h
  obtain ⟨hx, hm, hr, he, k37⟩ := h0
  unfold frn_loaded_0
  refine j_runA hx 3 (tb := [(0, .aload_n 0), (1, .lload_n 1), (2, .iload_n 3)]) (jtb_ok (by decide +kernel)) (pc' := 3) (lv' := [(0, vR t), (1, vL a1), (3, vI a3)]) (st' := [vI a3, vL a1, vR t]) rfl ?_
  refine j_gd (fun h1 => ?_)
  refine j_OI (j_callV (av := [vL a1, vI a3]) (st := []) hx hr (Or.inl q3491) q3492 q3493 rfl md_frn_at np_frn_at (crn_at t a1 a3 W) (by decide) (Nat.le_of_ble_eq_true rfl) h1 (by decide) (by decide +kernel)) (fun q2 _ => ?_)
  refine j_runA hx 2 (tb := [(6, .istore 4), (8, .iload 4)]) (jtb_ok (by decide +kernel)) (pc' := 10) (lv' := [(4, vI q2), (0, vR t), (1, vL a1), (3, vI a3)]) (st' := [vI q2]) rfl ?_
  refine j_if_lt hx (off := 11) (tgt := 21) (by decide +kernel) (by decide) (fun _ => ?_) (fun _ => ?_)
  · refine j_runA hx 3 (tb := [(21, .aload_n 0), (22, .lload_n 1), (23, .iload_n 3)]) (jtb_ok (by decide +kernel)) (pc' := 24) (lv' := [(4, vI q2), (0, vR t), (1, vL a1), (3, vI a3)]) (st' := [vI a3, vL a1, vR t]) rfl ?_
    refine j_OL (j_callV (av := [vL a1, vI a3]) (st := []) hx hr (Or.inl q3361) q3363 qs183 rfl md_frn_inText np_frn_inText (crn_inText t a1 a3 W) (by decide) (Nat.le_of_ble_eq_true rfl) h1 (by decide) (by decide +kernel)) (fun q3 _ => ?_)
    refine j_runA hx 7 (tb := [(27, .lstore 5), (29, .lconst 0), (30, .lstore 7), (32, .iload_n 3), (33, .iconst 1), (34, .isub), (35, .istore 9)]) (jtb_ok (by decide +kernel)) (pc' := 37) (lv' := [(9, vI (a3 - (kI 1))), (7, vL (kJ 0)), (5, vL q3), (4, vI q2), (0, vR t), (1, vL a1), (3, vI a3)]) (st' := []) rfl ?_
    refine j_let (v := (a3 - (kI 1))) (lv := fun v4 => [(9, vI v4), (7, vL (kJ 0)), (5, vL q3), (4, vI q2), (0, vR t), (1, vL a1), (3, vI a3)]) (st := fun _ => []) (fun v4 => ?_)
    refine j_lv (lv' := [(0, vR t), (1, vL a1), (3, vI a3), (5, vL q3), (7, vL (kJ 0)), (9, vI v4)]) ⟨rfl, rfl, rfl, rfl, rfl, rfl, trivial⟩ ?_
    exact k37 q3 (kJ 0) v4
  refine j_runA hx 3 (tb := [(13, .aload_n 0), (14, .iload 4), (16, .iload_n 3)]) (jtb_ok (by decide +kernel)) (pc' := 17) (lv' := [(4, vI q2), (0, vR t), (1, vL a1), (3, vI a3)]) (st' := [vI a3, vI q2, vR t]) rfl ?_
  refine j_OL (j_callV (av := [vI q2, vI a3]) (st := []) hx hr (Or.inl q3521) q3523 qs215 rfl md_frn_get np_frn_get (crn_get t q2 a3 W) (by decide) (Nat.le_of_ble_eq_true rfl) h1 (by decide) (by decide +kernel)) (fun q5 _ => ?_)
  exact j_lret hx hm (by decide +kernel) (he _)
theorem crn_loaded (t : Nat) (a1 : Int64) (a3 : Int32) (W : jW) : jM yX11_loaded cX11_loaded 10 (Option.some Jvm.ClassFile.FieldType.long) [] 2 33 [vR t, vL a1, vI a3] W ((frn_loaded t a1 a3 W).bind (fun q => some (.returned (some (.long q)), W))) := by
  refine jM.of (Nat.le_of_ble_eq_true rfl) (fun x hx hm hr => ?_)
  refine j_begin (P := (fun s => (37, [(0, vR t), (1, vL a1), (3, vI a3), (5, vL s.1), (7, vL s.2.1), (9, vI s.2.2)], W))) (fun en he hk => ?_)
  have h : hrn_loaded x en t a1 a3 W := ⟨hx, hm, hr, fun q => he _, fun l5 l7 l9 => hk (l5, l7, l9)⟩
  exact ⟨fun s => wrn_loaded_37 h s.1 s.2.1 s.2.2, wrn_loaded h⟩
def hrn_load (x : jCx) (en : (jW) → Option (Outcome × jW)) (t : Nat) (a1 : Int32) (a2 : Int64) (a4 : Int32) (a5 : Int32) : Prop :=
  jOK x RX11 cX11_load 9 ∧
  jMt x "load" (Option.none : Option Jvm.ClassFile.FieldType) [] ∧
  jRm x 3 54 ∧
  (∀ q : jW, en q = some (.returned none, q))
theorem wrn_load_36 {x : jCx} {en : (jW) → Option (Outcome × jW)} {t : Nat} {a1 : Int32} {a2 : Int64} {a4 : Int32} {a5 : Int32} (h : hrn_load x en t a1 a2 a4 a5) (l6 : Int64) (l8 : Int32) (W : jW) : jJ x 9 36 [(0, vR t), (1, vI a1), (2, vL a2), (4, vI a4), (5, vI a5), (6, vL l6), (8, vI l8)] [] W (frn_load_36 t a1 a2 a4 a5 l6 l8 W) en := by
  have h0 := h
  obtain ⟨hx, hm, hr, he⟩ := h0
  unfold frn_load_36
  refine j_runA hx 3 (tb := [(36, .aload_n 0), (37, .iload_n 1), (38, .lload 6)]) (jtb_ok (by decide +kernel)) (pc' := 40) (lv' := [(0, vR t), (1, vI a1), (2, vL a2), (4, vI a4), (5, vI a5), (6, vL l6), (8, vI l8)]) (st' := [vL l6, vI a1, vR t]) rfl ?_
  refine j_gd (fun h5 => ?_)
  refine j_WV (j_callV (av := [vI a1, vL l6]) (st := []) hx hr (Or.inl q3427) q3429 qs197 rfl md_frn_set np_frn_set (crn_set t a1 l6 W) (by decide) (Nat.le_of_ble_eq_true rfl) h5 (by decide) (by decide +kernel)) (fun q6 _ => ?_)
  refine j_runA hx 1 (tb := [(43, .aload_n 0)]) (jtb_ok (by decide +kernel)) (pc' := 44) (lv' := [(0, vR t), (1, vI a1), (2, vL a2), (4, vI a4), (5, vI a5), (6, vL l6), (8, vI l8)]) (st' := [vR t]) rfl ?_
  refine j_gd (fun h8 => ?_)
  refine j_getI hx flX11_46 kd1601 h8 (by decide) (by decide +kernel) ?_
  refine j_runA hx 1 (tb := [(47, .iconst 1)]) (jtb_ok (by decide +kernel)) (pc' := 48) (lv' := [(0, vR t), (1, vI a1), (2, vL a2), (4, vI a4), (5, vI a5), (6, vL l6), (8, vI l8)]) (st' := [vI (kI 1), vI (jI q6 1601 t)]) rfl ?_
  refine j_icmp_ne hx (off := 63) (tgt := 111) (by decide +kernel) (by decide) (fun _ => ?_) (fun _ => ?_)
  · exact j_vret hx hm (by decide +kernel) (he _)
  refine j_runA hx 2 (tb := [(51, .iload 4), (53, .bipush 8)]) (jtb_ok (by decide +kernel)) (pc' := 55) (lv' := [(0, vR t), (1, vI a1), (2, vL a2), (4, vI a4), (5, vI a5), (6, vL l6), (8, vI l8)]) (st' := [vI (kI 8), vI a4]) rfl ?_
  refine j_icmp_ne hx (off := 56) (tgt := 111) (by decide +kernel) (by decide) (fun _ => ?_) (fun _ => ?_)
  · exact j_vret hx hm (by decide +kernel) (he _)
  refine j_runA hx 2 (tb := [(58, .iload 8), (60, .bipush 8)]) (jtb_ok (by decide +kernel)) (pc' := 62) (lv' := [(0, vR t), (1, vI a1), (2, vL a2), (4, vI a4), (5, vI a5), (6, vL l6), (8, vI l8)]) (st' := [vI (kI 8), vI l8]) rfl ?_
  refine j_irem hx (by decide +kernel) (by decide +kernel) ?_
  refine j_if_ne hx (off := 48) (tgt := 111) (by decide +kernel) (by decide) (fun _ => ?_) (fun _ => ?_)
  · exact j_vret hx hm (by decide +kernel) (he _)
  refine j_runA hx 1 (tb := [(66, .aload_n 0)]) (jtb_ok (by decide +kernel)) (pc' := 67) (lv' := [(0, vR t), (1, vI a1), (2, vL a2), (4, vI a4), (5, vI a5), (6, vL l6), (8, vI l8)]) (st' := [vR t]) rfl ?_
  refine j_getR hx flX11_27 kl1611 h8 (by decide) (by decide +kernel) ?_
  refine j_runA hx 2 (tb := [(70, .iload 8), (72, .bipush 8)]) (jtb_ok (by decide +kernel)) (pc' := 74) (lv' := [(0, vR t), (1, vI a1), (2, vL a2), (4, vI a4), (5, vI a5), (6, vL l6), (8, vI l8)]) (st' := [vI (kI 8), vI l8, vR (jR q6 1611 t)]) rfl ?_
  refine j_idiv hx (by decide +kernel) (by decide +kernel) ?_
  refine j_gd (fun h9 => ?_)
  refine j_bald hx (f := 1611) (o := t) kd1611 rfl (by decide +kernel) h9 ?_
  refine j_if_eq hx (off := 35) (tgt := 111) (by decide +kernel) (by decide) (fun _ => ?_) (fun _ => ?_)
  · exact j_vret hx hm (by decide +kernel) (he _)
  refine j_runA hx 1 (tb := [(79, .aload_n 0)]) (jtb_ok (by decide +kernel)) (pc' := 80) (lv' := [(0, vR t), (1, vI a1), (2, vL a2), (4, vI a4), (5, vI a5), (6, vL l6), (8, vI l8)]) (st' := [vR t]) rfl ?_
  refine j_getR hx flX11_15 kl1604 h8 (by decide) (by decide +kernel) ?_
  refine j_runA hx 2 (tb := [(83, .iload_n 1), (84, .aload_n 0)]) (jtb_ok (by decide +kernel)) (pc' := 85) (lv' := [(0, vR t), (1, vI a1), (2, vL a2), (4, vI a4), (5, vI a5), (6, vL l6), (8, vI l8)]) (st' := [vR t, vI a1, vR (jR q6 1604 t)]) rfl ?_
  refine j_getR hx flX11_27 kl1611 h8 (by decide) (by decide +kernel) ?_
  refine j_runA hx 2 (tb := [(88, .iload 8), (90, .bipush 8)]) (jtb_ok (by decide +kernel)) (pc' := 92) (lv' := [(0, vR t), (1, vI a1), (2, vL a2), (4, vI a4), (5, vI a5), (6, vL l6), (8, vI l8)]) (st' := [vI (kI 8), vI l8, vR (jR q6 1611 t), vI a1, vR (jR q6 1604 t)]) rfl ?_
  refine j_idiv hx (by decide +kernel) (by decide +kernel) ?_
  refine j_gd (fun h10 => ?_)
  refine j_bald hx (f := 1611) (o := t) kd1611 rfl (by decide +kernel) h10 ?_
  refine j_gd (fun h11 => ?_)
  refine j_bast hx (f := 1604) (o := t) kd1604 rfl (by decide +kernel) h11 ?_
  refine j_ltw rfl (fun W12 hc13 => ?_)
  have h14 : jC W12 t = 16 := (congrFun hc13 _).trans h8
  refine j_runA hx 1 (tb := [(95, .aload_n 0)]) (jtb_ok (by decide +kernel)) (pc' := 96) (lv' := [(0, vR t), (1, vI a1), (2, vL a2), (4, vI a4), (5, vI a5), (6, vL l6), (8, vI l8)]) (st' := [vR t]) rfl ?_
  refine j_getR hx flX11_19 kl1605 h14 (by decide) (by decide +kernel) ?_
  refine j_runA hx 2 (tb := [(99, .iload_n 1), (100, .aload_n 0)]) (jtb_ok (by decide +kernel)) (pc' := 101) (lv' := [(0, vR t), (1, vI a1), (2, vL a2), (4, vI a4), (5, vI a5), (6, vL l6), (8, vI l8)]) (st' := [vR t, vI a1, vR (jR W12 1605 t)]) rfl ?_
  refine j_getR hx flX11_30 kl1612 h14 (by decide) (by decide +kernel) ?_
  refine j_runA hx 2 (tb := [(104, .iload 8), (106, .bipush 8)]) (jtb_ok (by decide +kernel)) (pc' := 108) (lv' := [(0, vR t), (1, vI a1), (2, vL a2), (4, vI a4), (5, vI a5), (6, vL l6), (8, vI l8)]) (st' := [vI (kI 8), vI l8, vR (jR W12 1612 t), vI a1, vR (jR W12 1605 t)]) rfl ?_
  refine j_idiv hx (by decide +kernel) (by decide +kernel) ?_
  refine j_gd (fun h16 => ?_)
  refine j_iald hx (f := 1612) (o := t) kd1612 rfl (by decide +kernel) h16 ?_
  refine j_gd (fun h17 => ?_)
  refine j_iast hx (f := 1605) (o := t) kd1605 rfl (by decide +kernel) h17 ?_
  refine j_ltw rfl (fun W18 hc19 => ?_)
  have h20 : jC W18 t = 16 := (congrFun hc19 _).trans h14
  exact j_vret hx hm (by decide +kernel) (he _)
theorem wrn_load {x : jCx} {en : (jW) → Option (Outcome × jW)} {t : Nat} {a1 : Int32} {a2 : Int64} {a4 : Int32} {a5 : Int32} (h : hrn_load x en t a1 a2 a4 a5) (W : jW) : jJ x 9 0 [(0, vR t), (1, vI a1), (2, vL a2), (4, vI a4), (5, vI a5)] [] W (frn_load t a1 a2 a4 a5 W) en := by
  have h0 := h
  obtain ⟨hx, hm, hr, he⟩ := h0
  unfold frn_load
  refine j_runA hx 3 (tb := [(0, .aload_n 0), (1, .lload_n 2), (2, .iload 4)]) (jtb_ok (by decide +kernel)) (pc' := 4) (lv' := [(0, vR t), (1, vI a1), (2, vL a2), (4, vI a4), (5, vI a5)]) (st' := [vI a4, vL a2, vR t]) rfl ?_
  refine j_gd (fun h1 => ?_)
  refine j_OL (j_callV (av := [vL a2, vI a4]) (st := []) hx hr (Or.inl q3517) q3519 qs214 rfl md_frn_loaded np_frn_loaded (crn_loaded t a2 a4 W) (by decide) (Nat.le_of_ble_eq_true rfl) h1 (by decide) (by decide +kernel)) (fun q2 _ => ?_)
  refine j_runA hx 4 (tb := [(7, .lstore 6), (9, .aload_n 0), (10, .lload_n 2), (11, .iload 4)]) (jtb_ok (by decide +kernel)) (pc' := 13) (lv' := [(6, vL q2), (0, vR t), (1, vI a1), (2, vL a2), (4, vI a4), (5, vI a5)]) (st' := [vI a4, vL a2, vR t]) rfl ?_
  refine j_OI (j_callV (av := [vL a2, vI a4]) (st := []) hx hr (Or.inl q3491) q3492 q3493 rfl md_frn_at np_frn_at (crn_at t a2 a4 W) (by decide) (Nat.le_of_ble_eq_true rfl) h1 (by decide) (by decide +kernel)) (fun q3 _ => ?_)
  refine j_runA hx 3 (tb := [(16, .istore 8), (18, .iload_n 1), (19, .bipush 31)]) (jtb_ok (by decide +kernel)) (pc' := 21) (lv' := [(8, vI q3), (6, vL q2), (0, vR t), (1, vI a1), (2, vL a2), (4, vI a4), (5, vI a5)]) (st' := [vI (kI 31), vI a1]) rfl ?_
  refine j_icmp_ne hx (off := 4) (tgt := 25) (by decide +kernel) (by decide) (fun _ => ?_) (fun _ => ?_)
  · refine j_runA hx 1 (tb := [(25, .iload 5)]) (jtb_ok (by decide +kernel)) (pc' := 27) (lv' := [(8, vI q3), (6, vL q2), (0, vR t), (1, vI a1), (2, vL a2), (4, vI a4), (5, vI a5)]) (st' := [vI a5]) rfl ?_
    refine j_if_eq hx (off := 9) (tgt := 36) (by decide +kernel) (by decide) (fun _ => ?_) (fun _ => ?_)
    · refine j_lv (lv' := [(0, vR t), (1, vI a1), (2, vL a2), (4, vI a4), (5, vI a5), (6, vL q2), (8, vI q3)]) ⟨rfl, rfl, rfl, rfl, rfl, rfl, rfl, trivial⟩ ?_
      exact wrn_load_36 h q2 q3 W
    refine j_runA hx 4 (tb := [(30, .lload 6), (32, .l2i), (33, .i2l), (34, .lstore 6)]) (jtb_ok (by decide +kernel)) (pc' := 36) (lv' := [(6, vL q2.toInt32.toInt64), (8, vI q3), (0, vR t), (1, vI a1), (2, vL a2), (4, vI a4), (5, vI a5)]) (st' := []) rfl ?_
    refine j_lv (lv' := [(0, vR t), (1, vI a1), (2, vL a2), (4, vI a4), (5, vI a5), (6, vL q2.toInt32.toInt64), (8, vI q3)]) ⟨rfl, rfl, rfl, rfl, rfl, rfl, rfl, trivial⟩ ?_
    exact wrn_load_36 h q2.toInt32.toInt64 q3 W
  exact j_vret hx hm (by decide +kernel) (he _)
theorem crn_load (t : Nat) (a1 : Int32) (a2 : Int64) (a4 : Int32) (a5 : Int32) (W : jW) : jM yX11_load cX11_load 9 (Option.none : Option Jvm.ClassFile.FieldType) [] 3 54 [vR t, vI a1, vL a2, vI a4, vI a5] W ((frn_load t a1 a2 a4 a5 W).bind (fun q => some (.returned none, q))) := 
  jM.of (Nat.le_of_ble_eq_true rfl) (fun x hx hm hr => wrn_load ⟨hx, hm, hr, fun _ => rfl⟩ W)
