/-! ===== walks: fwo_kindOf fsh_isFunction fpg_wordAt fro_add fpg_behind fpg_tellFunctions fsh_target fwo_pageOf fwo_signed fwo_pageBy fwo_isPlainAdd fwo_twelve fwo_bitsOf fwo_by fwo_bytesOf ===== -/
set_option maxRecDepth 100000
def hwo_kindOf (x : jCx) (en : (Int32) → Option (Outcome × jW)) (a0 : Int32) (W : jW) : Prop :=
  jOK x RX12 cX12_kindOf 1 ∧
  jMt x "kindOf" (Option.some Jvm.ClassFile.FieldType.int) [] ∧
  jRm x 2 27 ∧
  (∀ q : Int32, en q = some (.returned (some (.int q)), W))
theorem wwo_kindOf_45 {x : jCx} {en : (Int32) → Option (Outcome × jW)} {W : jW} {a0 : Int32} (h : hwo_kindOf x en a0 W) : jJ x 1 45 [(0, vI a0)] [] W (some (fwo_kindOf_45 a0)) en := by
  have h0 := h
  obtain ⟨hx, hm, hr, he⟩ := h0
  unfold fwo_kindOf_45
  refine j_runA hx 1 (tb := [(45, .iconst 0)]) (jtb_ok (by decide +kernel)) (pc' := 46) (lv' := [(0, vI a0)]) (st' := [vI (kI 0)]) rfl ?_
  exact j_iret hx hm (by decide +kernel) rfl (he _)
theorem wwo_kindOf_108 {x : jCx} {en : (Int32) → Option (Outcome × jW)} {W : jW} {a0 : Int32} (h : hwo_kindOf x en a0 W) : jJ x 1 108 [(0, vI a0)] [] W (some (fwo_kindOf_108 a0)) en := by
  have h0 := h
  obtain ⟨hx, hm, hr, he⟩ := h0
  unfold fwo_kindOf_108
  refine j_runA hx 1 (tb := [(108, .iconst 4)]) (jtb_ok (by decide +kernel)) (pc' := 109) (lv' := [(0, vI a0)]) (st' := [vI (kI 4)]) rfl ?_
  refine j_goto hx (off := 4) (by decide +kernel) (tgt := 113) (by decide) ?_
  exact j_iret hx hm (by decide +kernel) rfl (he _)
theorem wwo_kindOf_112 {x : jCx} {en : (Int32) → Option (Outcome × jW)} {W : jW} {a0 : Int32} (h : hwo_kindOf x en a0 W) : jJ x 1 112 [(0, vI a0)] [] W (some (fwo_kindOf_112 a0)) en := by
  have h0 := h
  obtain ⟨hx, hm, hr, he⟩ := h0
  unfold fwo_kindOf_112
  refine j_runA hx 1 (tb := [(112, .iconst 0)]) (jtb_ok (by decide +kernel)) (pc' := 113) (lv' := [(0, vI a0)]) (st' := [vI (kI 0)]) rfl ?_
  exact j_iret hx hm (by decide +kernel) rfl (he _)
theorem wwo_kindOf {x : jCx} {en : (Int32) → Option (Outcome × jW)} {W : jW} {a0 : Int32} (h : hwo_kindOf x en a0 W) : jJ x 1 0 [(0, vI a0)] [] W (some (fwo_kindOf a0)) en := by
  have h0 := h
  obtain ⟨hx, hm, hr, he⟩ := h0
  unfold fwo_kindOf
  refine j_runA hx 1 (tb := [(0, .iload_n 0)]) (jtb_ok (by decide +kernel)) (pc' := 1) (lv' := [(0, vI a0)]) (st' := [vI a0]) rfl ?_
  refine j_ldc hx (v := (kI 528482304)) (jkc q950 (by decide +kernel)) (by decide +kernel) ?_
  refine j_ldc hx (v := (kI 285212672)) (jkc q951 (by decide +kernel)) (by decide +kernel) ?_
  refine j_TI (j_callS (av := [vI a0, vI (kI 528482304), vI (kI 285212672)]) (st := []) hx hr (Or.inl q952) q953 q247 md_fwo_is np_fwo_is (cwo_is a0 (kI 528482304) (kI 285212672) W) (by decide) (Nat.le_of_ble_eq_true rfl) (by decide +kernel)) ?_
  refine j_tot (j_if_eq hx (off := 5) (tgt := 13) (by decide +kernel) (by decide) (fun _ => ?_) (fun _ => ?_))
  · refine j_runA hx 1 (tb := [(13, .iload_n 0)]) (jtb_ok (by decide +kernel)) (pc' := 14) (lv' := [(0, vI a0)]) (st' := [vI a0]) rfl ?_
    refine j_ldc hx (v := (kI 522190848)) (jkc q955 (by decide +kernel)) (by decide +kernel) ?_
    refine j_ldc hx (v := (kI 184549376)) (jkc q956 (by decide +kernel)) (by decide +kernel) ?_
    refine j_TI (j_callS (av := [vI a0, vI (kI 522190848), vI (kI 184549376)]) (st := []) hx hr (Or.inl q952) q953 q247 md_fwo_is np_fwo_is (cwo_is a0 (kI 522190848) (kI 184549376) W) (by decide) (Nat.le_of_ble_eq_true rfl) (by decide +kernel)) ?_
    refine j_tot (j_if_eq hx (off := 26) (tgt := 47) (by decide +kernel) (by decide) (fun _ => ?_) (fun _ => ?_))
    · refine j_runA hx 1 (tb := [(47, .iload_n 0)]) (jtb_ok (by decide +kernel)) (pc' := 48) (lv' := [(0, vI a0)]) (st' := [vI a0]) rfl ?_
      refine j_ldc hx (v := (kI 520093696)) (jkc q966 (by decide +kernel)) (by decide +kernel) ?_
      refine j_ldc hx (v := (kI 167772160)) (jkc q967 (by decide +kernel)) (by decide +kernel) ?_
      refine j_TI (j_callS (av := [vI a0, vI (kI 520093696), vI (kI 167772160)]) (st := []) hx hr (Or.inl q952) q953 q247 md_fwo_is np_fwo_is (cwo_is a0 (kI 520093696) (kI 167772160) W) (by decide) (Nat.le_of_ble_eq_true rfl) (by decide +kernel)) ?_
      refine j_tot (j_if_eq hx (off := 16) (tgt := 71) (by decide +kernel) (by decide) (fun _ => ?_) (fun _ => ?_))
      · refine j_runA hx 1 (tb := [(71, .iload_n 0)]) (jtb_ok (by decide +kernel)) (pc' := 72) (lv' := [(0, vI a0)]) (st' := [vI a0]) rfl ?_
        refine j_ldc hx (v := (kI 528482304)) (jkc q950 (by decide +kernel)) (by decide +kernel) ?_
        refine j_ldc hx (v := (kI 310378496)) (jkc q968 (by decide +kernel)) (by decide +kernel) ?_
        refine j_TI (j_callS (av := [vI a0, vI (kI 528482304), vI (kI 310378496)]) (st := []) hx hr (Or.inl q952) q953 q247 md_fwo_is np_fwo_is (cwo_is a0 (kI 528482304) (kI 310378496) W) (by decide) (Nat.le_of_ble_eq_true rfl) (by decide +kernel)) ?_
        refine j_tot (j_if_eq hx (off := 35) (tgt := 114) (by decide +kernel) (by decide) (fun _ => ?_) (fun _ => ?_))
        · refine j_runA hx 1 (tb := [(114, .iload_n 0)]) (jtb_ok (by decide +kernel)) (pc' := 115) (lv' := [(0, vI a0)]) (st' := [vI a0]) rfl ?_
          refine j_ldc hx (v := (kI (-1627389952))) (jkc q969 (by decide +kernel)) (by decide +kernel) ?_
          refine j_ldc hx (v := (kI (-1879048192))) (jkc q970 (by decide +kernel)) (by decide +kernel) ?_
          refine j_TI (j_callS (av := [vI a0, vI (kI (-1627389952)), vI (kI (-1879048192))]) (st := []) hx hr (Or.inl q952) q953 q247 md_fwo_is np_fwo_is (cwo_is a0 (kI (-1627389952)) (kI (-1879048192)) W) (by decide) (Nat.le_of_ble_eq_true rfl) (by decide +kernel)) ?_
          refine j_tot (j_if_eq hx (off := 5) (tgt := 127) (by decide +kernel) (by decide) (fun _ => ?_) (fun _ => ?_))
          · refine j_runA hx 1 (tb := [(127, .iload_n 0)]) (jtb_ok (by decide +kernel)) (pc' := 128) (lv' := [(0, vI a0)]) (st' := [vI a0]) rfl ?_
            refine j_ldc hx (v := (kI 2145386496)) (jkc q971 (by decide +kernel)) (by decide +kernel) ?_
            refine j_ldc hx (v := (kI 452984832)) (jkc q972 (by decide +kernel)) (by decide +kernel) ?_
            refine j_TI (j_callS (av := [vI a0, vI (kI 2145386496), vI (kI 452984832)]) (st := []) hx hr (Or.inl q952) q953 q247 md_fwo_is np_fwo_is (cwo_is a0 (kI 2145386496) (kI 452984832) W) (by decide) (Nat.le_of_ble_eq_true rfl) (by decide +kernel)) ?_
            refine j_tot (j_if_eq hx (off := 6) (tgt := 141) (by decide +kernel) (by decide) (fun _ => ?_) (fun _ => ?_))
            · refine j_runA hx 1 (tb := [(141, .iload_n 0)]) (jtb_ok (by decide +kernel)) (pc' := 142) (lv' := [(0, vI a0)]) (st' := [vI a0]) rfl ?_
              refine j_ldc hx (v := (kI 2145386496)) (jkc q971 (by decide +kernel)) (by decide +kernel) ?_
              refine j_ldc hx (v := (kI 448790528)) (jkc q973 (by decide +kernel)) (by decide +kernel) ?_
              refine j_TI (j_callS (av := [vI a0, vI (kI 2145386496), vI (kI 448790528)]) (st := []) hx hr (Or.inl q952) q953 q247 md_fwo_is np_fwo_is (cwo_is a0 (kI 2145386496) (kI 448790528) W) (by decide) (Nat.le_of_ble_eq_true rfl) (by decide +kernel)) ?_
              refine j_tot (j_if_eq hx (off := 20) (tgt := 169) (by decide +kernel) (by decide) (fun _ => ?_) (fun _ => ?_))
              · refine j_runA hx 1 (tb := [(169, .iload_n 0)]) (jtb_ok (by decide +kernel)) (pc' := 170) (lv' := [(0, vI a0)]) (st' := [vI a0]) rfl ?_
                refine j_ldc hx (v := (kI 2145388544)) (jkc q977 (by decide +kernel)) (by decide +kernel) ?_
                refine j_ldc hx (v := (kI 444596224)) (jkc q978 (by decide +kernel)) (by decide +kernel) ?_
                refine j_TI (j_callS (av := [vI a0, vI (kI 2145388544), vI (kI 444596224)]) (st := []) hx hr (Or.inl q952) q953 q247 md_fwo_is np_fwo_is (cwo_is a0 (kI 2145388544) (kI 444596224) W) (by decide) (Nat.le_of_ble_eq_true rfl) (by decide +kernel)) ?_
                refine j_tot (j_if_eq hx (off := 22) (tgt := 199) (by decide +kernel) (by decide) (fun _ => ?_) (fun _ => ?_))
                · refine j_runA hx 1 (tb := [(199, .iload_n 0)]) (jtb_ok (by decide +kernel)) (pc' := 200) (lv' := [(0, vI a0)]) (st' := [vI a0]) rfl ?_
                  refine j_ldc hx (v := (kI 1056964608)) (jkc q979 (by decide +kernel)) (by decide +kernel) ?_
                  refine j_ldc hx (v := (kI 956301312)) (jkc q980 (by decide +kernel)) (by decide +kernel) ?_
                  refine j_TI (j_callS (av := [vI a0, vI (kI 1056964608), vI (kI 956301312)]) (st := []) hx hr (Or.inl q952) q953 q247 md_fwo_is np_fwo_is (cwo_is a0 (kI 1056964608) (kI 956301312) W) (by decide) (Nat.le_of_ble_eq_true rfl) (by decide +kernel)) ?_
                  refine j_tot (j_if_eq hx (off := 17) (tgt := 224) (by decide +kernel) (by decide) (fun _ => ?_) (fun _ => ?_))
                  · refine j_runA hx 1 (tb := [(224, .iload_n 0)]) (jtb_ok (by decide +kernel)) (pc' := 225) (lv' := [(0, vI a0)]) (st' := [vI a0]) rfl ?_
                    refine j_ldc hx (v := (kI 1059122176)) (jkc q984 (by decide +kernel)) (by decide +kernel) ?_
                    refine j_ldc hx (v := (kI 941647872)) (jkc q985 (by decide +kernel)) (by decide +kernel) ?_
                    refine j_TI (j_callS (av := [vI a0, vI (kI 1059122176), vI (kI 941647872)]) (st := []) hx hr (Or.inl q952) q953 q247 md_fwo_is np_fwo_is (cwo_is a0 (kI 1059122176) (kI 941647872) W) (by decide) (Nat.le_of_ble_eq_true rfl) (by decide +kernel)) ?_
                    refine j_tot (j_if_eq hx (off := 17) (tgt := 249) (by decide +kernel) (by decide) (fun _ => ?_) (fun _ => ?_))
                    · refine j_runA hx 1 (tb := [(249, .iload_n 0)]) (jtb_ok (by decide +kernel)) (pc' := 250) (lv' := [(0, vI a0)]) (st' := [vI a0]) rfl ?_
                      refine j_ldc hx (v := (kI (-33554432))) (jkc q986 (by decide +kernel)) (by decide +kernel) ?_
                      refine j_ldc hx (v := (kI (-1476395008))) (jkc q987 (by decide +kernel)) (by decide +kernel) ?_
                      refine j_TI (j_callS (av := [vI a0, vI (kI (-33554432)), vI (kI (-1476395008))]) (st := []) hx hr (Or.inl q952) q953 q247 md_fwo_is np_fwo_is (cwo_is a0 (kI (-33554432)) (kI (-1476395008)) W) (by decide) (Nat.le_of_ble_eq_true rfl) (by decide +kernel)) ?_
                      refine j_tot (j_if_eq hx (off := 17) (tgt := 274) (by decide +kernel) (by decide) (fun _ => ?_) (fun _ => ?_))
                      · refine j_runA hx 1 (tb := [(274, .iload_n 0)]) (jtb_ok (by decide +kernel)) (pc' := 275) (lv' := [(0, vI a0)]) (st' := [vI a0]) rfl ?_
                        refine j_TI (j_callS (av := [vI a0]) (st := []) hx hr (Or.inl q1000) q1001 q247 md_fwo_branch np_fwo_branch (cwo_branch a0 W) (by decide) (Nat.le_of_ble_eq_true rfl) (by decide +kernel)) ?_
                        exact j_iret hx hm (by decide +kernel) rfl (he _)
                      refine j_runA hx 1 (tb := [(260, .iload_n 0)]) (jtb_ok (by decide +kernel)) (pc' := 261) (lv' := [(0, vI a0)]) (st' := [vI a0]) rfl ?_
                      refine j_TI (j_callS (av := [vI a0]) (st := []) hx hr (Or.inl q988) q989 q247 md_fwo_isPair np_fwo_isPair (cwo_isPair a0 W) (by decide) (Nat.le_of_ble_eq_true rfl) (by decide +kernel)) ?_
                      refine j_tot (j_if_eq hx (off := 8) (tgt := 272) (by decide +kernel) (by decide) (fun _ => ?_) (fun _ => ?_))
                      · refine j_runA hx 1 (tb := [(272, .iconst 0)]) (jtb_ok (by decide +kernel)) (pc' := 273) (lv' := [(0, vI a0)]) (st' := [vI (kI 0)]) rfl ?_
                        exact j_iret hx hm (by decide +kernel) rfl (he _)
                      refine j_runA hx 1 (tb := [(267, .bipush 11)]) (jtb_ok (by decide +kernel)) (pc' := 269) (lv' := [(0, vI a0)]) (st' := [vI (kI 11)]) rfl ?_
                      refine j_goto hx (off := 4) (by decide +kernel) (tgt := 273) (by decide) ?_
                      exact j_iret hx hm (by decide +kernel) rfl (he _)
                    refine j_runA hx 1 (tb := [(235, .iload_n 0)]) (jtb_ok (by decide +kernel)) (pc' := 236) (lv' := [(0, vI a0)]) (st' := [vI a0]) rfl ?_
                    refine j_TI (j_callS (av := [vI a0]) (st := []) hx hr (Or.inl q981) q982 q247 md_fwo_isSized np_fwo_isSized (cwo_isSized a0 W) (by decide) (Nat.le_of_ble_eq_true rfl) (by decide +kernel)) ?_
                    refine j_tot (j_if_eq hx (off := 8) (tgt := 247) (by decide +kernel) (by decide) (fun _ => ?_) (fun _ => ?_))
                    · refine j_runA hx 1 (tb := [(247, .iconst 0)]) (jtb_ok (by decide +kernel)) (pc' := 248) (lv' := [(0, vI a0)]) (st' := [vI (kI 0)]) rfl ?_
                      exact j_iret hx hm (by decide +kernel) rfl (he _)
                    refine j_runA hx 1 (tb := [(242, .bipush 10)]) (jtb_ok (by decide +kernel)) (pc' := 244) (lv' := [(0, vI a0)]) (st' := [vI (kI 10)]) rfl ?_
                    refine j_goto hx (off := 4) (by decide +kernel) (tgt := 248) (by decide) ?_
                    exact j_iret hx hm (by decide +kernel) rfl (he _)
                  refine j_runA hx 1 (tb := [(210, .iload_n 0)]) (jtb_ok (by decide +kernel)) (pc' := 211) (lv' := [(0, vI a0)]) (st' := [vI a0]) rfl ?_
                  refine j_TI (j_callS (av := [vI a0]) (st := []) hx hr (Or.inl q981) q982 q247 md_fwo_isSized np_fwo_isSized (cwo_isSized a0 W) (by decide) (Nat.le_of_ble_eq_true rfl) (by decide +kernel)) ?_
                  refine j_tot (j_if_eq hx (off := 8) (tgt := 222) (by decide +kernel) (by decide) (fun _ => ?_) (fun _ => ?_))
                  · refine j_runA hx 1 (tb := [(222, .iconst 0)]) (jtb_ok (by decide +kernel)) (pc' := 223) (lv' := [(0, vI a0)]) (st' := [vI (kI 0)]) rfl ?_
                    exact j_iret hx hm (by decide +kernel) rfl (he _)
                  refine j_runA hx 1 (tb := [(217, .bipush 9)]) (jtb_ok (by decide +kernel)) (pc' := 219) (lv' := [(0, vI a0)]) (st' := [vI (kI 9)]) rfl ?_
                  refine j_goto hx (off := 4) (by decide +kernel) (tgt := 223) (by decide) ?_
                  exact j_iret hx hm (by decide +kernel) rfl (he _)
                refine j_runA hx 6 (tb := [(180, .iload_n 0), (181, .bipush 12), (183, .ishr), (184, .bipush 15), (186, .iand), (187, .bipush 14)]) (jtb_ok (by decide +kernel)) (pc' := 189) (lv' := [(0, vI a0)]) (st' := [vI (kI 14), vI ((ixr a0 (kI 12)) &&& (kI 15))]) rfl ?_
                refine j_tot (j_icmp_ge hx (off := 8) (tgt := 197) (by decide +kernel) (by decide) (fun _ => ?_) (fun _ => ?_))
                · refine j_runA hx 1 (tb := [(197, .iconst 0)]) (jtb_ok (by decide +kernel)) (pc' := 198) (lv' := [(0, vI a0)]) (st' := [vI (kI 0)]) rfl ?_
                  exact j_iret hx hm (by decide +kernel) rfl (he _)
                refine j_runA hx 1 (tb := [(192, .bipush 8)]) (jtb_ok (by decide +kernel)) (pc' := 194) (lv' := [(0, vI a0)]) (st' := [vI (kI 8)]) rfl ?_
                refine j_goto hx (off := 4) (by decide +kernel) (tgt := 198) (by decide) ?_
                exact j_iret hx hm (by decide +kernel) rfl (he _)
              refine j_runA hx 1 (tb := [(152, .iload_n 0)]) (jtb_ok (by decide +kernel)) (pc' := 153) (lv' := [(0, vI a0)]) (st' := [vI a0]) rfl ?_
              refine j_TI (j_callS (av := [vI a0]) (st := []) hx hr (Or.inl q963) q964 q247 md_fwo_amount np_fwo_amount (cwo_amount a0 W) (by decide) (Nat.le_of_ble_eq_true rfl) (by decide +kernel)) ?_
              refine j_TI (j_callS (av := [vI (fwo_amount a0)]) (st := []) hx hr (Or.inl q974) q975 q247 md_fwo_isTwo np_fwo_isTwo (cwo_isTwo (fwo_amount a0) W) (by decide) (Nat.le_of_ble_eq_true rfl) (by decide +kernel)) ?_
              refine j_tot (j_if_eq hx (off := 8) (tgt := 167) (by decide +kernel) (by decide) (fun _ => ?_) (fun _ => ?_))
              · refine j_runA hx 1 (tb := [(167, .iconst 0)]) (jtb_ok (by decide +kernel)) (pc' := 168) (lv' := [(0, vI a0)]) (st' := [vI (kI 0)]) rfl ?_
                exact j_iret hx hm (by decide +kernel) rfl (he _)
              refine j_runA hx 1 (tb := [(162, .bipush 7)]) (jtb_ok (by decide +kernel)) (pc' := 164) (lv' := [(0, vI a0)]) (st' := [vI (kI 7)]) rfl ?_
              refine j_goto hx (off := 4) (by decide +kernel) (tgt := 168) (by decide) ?_
              exact j_iret hx hm (by decide +kernel) rfl (he _)
            refine j_runA hx 1 (tb := [(138, .bipush 6)]) (jtb_ok (by decide +kernel)) (pc' := 140) (lv' := [(0, vI a0)]) (st' := [vI (kI 6)]) rfl ?_
            exact j_iret hx hm (by decide +kernel) rfl (he _)
          refine j_runA hx 1 (tb := [(125, .iconst 5)]) (jtb_ok (by decide +kernel)) (pc' := 126) (lv' := [(0, vI a0)]) (st' := [vI (kI 5)]) rfl ?_
          exact j_iret hx hm (by decide +kernel) rfl (he _)
        refine j_runA hx 6 (tb := [(82, .iload_n 0), (83, .bipush 29), (85, .ishr), (86, .iconst 3), (87, .iand), (88, .iconst 1)]) (jtb_ok (by decide +kernel)) (pc' := 89) (lv' := [(0, vI a0)]) (st' := [vI (kI 1), vI ((ixr a0 (kI 29)) &&& (kI 3))]) rfl ?_
        refine j_tot (j_icmp_eq hx (off := 23) (tgt := 112) (by decide +kernel) (by decide) (fun _ => ?_) (fun _ => ?_))
        · exact wwo_kindOf_112 h
        refine j_runA hx 1 (tb := [(92, .iload_n 0)]) (jtb_ok (by decide +kernel)) (pc' := 93) (lv' := [(0, vI a0)]) (st' := [vI a0]) rfl ?_
        refine j_TI (j_callS (av := [vI a0]) (st := []) hx hr (Or.inl q960) q961 q247 md_fwo_isLong np_fwo_isLong (cwo_isLong a0 W) (by decide) (Nat.le_of_ble_eq_true rfl) (by decide +kernel)) ?_
        refine j_tot (j_if_ne hx (off := 12) (tgt := 108) (by decide +kernel) (by decide) (fun _ => ?_) (fun _ => ?_))
        · exact wwo_kindOf_108 h
        refine j_runA hx 5 (tb := [(99, .iload_n 0), (100, .bipush 22), (102, .ishr), (103, .iconst 1), (104, .iand)]) (jtb_ok (by decide +kernel)) (pc' := 105) (lv' := [(0, vI a0)]) (st' := [vI ((ixr a0 (kI 22)) &&& (kI 1))]) rfl ?_
        refine j_tot (j_if_ne hx (off := 7) (tgt := 112) (by decide +kernel) (by decide) (fun _ => ?_) (fun _ => ?_))
        · exact wwo_kindOf_112 h
        exact wwo_kindOf_108 h
      refine j_runA hx 1 (tb := [(58, .iload_n 0)]) (jtb_ok (by decide +kernel)) (pc' := 59) (lv' := [(0, vI a0)]) (st' := [vI a0]) rfl ?_
      refine j_TI (j_callS (av := [vI a0]) (st := []) hx hr (Or.inl q957) q958 q247 md_fwo_fits np_fwo_fits (cwo_fits a0 W) (by decide) (Nat.le_of_ble_eq_true rfl) (by decide +kernel)) ?_
      refine j_tot (j_if_eq hx (off := 7) (tgt := 69) (by decide +kernel) (by decide) (fun _ => ?_) (fun _ => ?_))
      · refine j_runA hx 1 (tb := [(69, .iconst 0)]) (jtb_ok (by decide +kernel)) (pc' := 70) (lv' := [(0, vI a0)]) (st' := [vI (kI 0)]) rfl ?_
        exact j_iret hx hm (by decide +kernel) rfl (he _)
      refine j_runA hx 1 (tb := [(65, .iconst 3)]) (jtb_ok (by decide +kernel)) (pc' := 66) (lv' := [(0, vI a0)]) (st' := [vI (kI 3)]) rfl ?_
      refine j_goto hx (off := 4) (by decide +kernel) (tgt := 70) (by decide) ?_
      exact j_iret hx hm (by decide +kernel) rfl (he _)
    refine j_runA hx 6 (tb := [(24, .iload_n 0), (25, .bipush 22), (27, .ishr), (28, .iconst 3), (29, .iand), (30, .iconst 3)]) (jtb_ok (by decide +kernel)) (pc' := 31) (lv' := [(0, vI a0)]) (st' := [vI (kI 3), vI ((ixr a0 (kI 22)) &&& (kI 3))]) rfl ?_
    refine j_tot (j_icmp_ge hx (off := 14) (tgt := 45) (by decide +kernel) (by decide) (fun _ => ?_) (fun _ => ?_))
    · exact wwo_kindOf_45 h
    refine j_runA hx 1 (tb := [(34, .iload_n 0)]) (jtb_ok (by decide +kernel)) (pc' := 35) (lv' := [(0, vI a0)]) (st' := [vI a0]) rfl ?_
    refine j_TI (j_callS (av := [vI a0]) (st := []) hx hr (Or.inl q957) q958 q247 md_fwo_fits np_fwo_fits (cwo_fits a0 W) (by decide) (Nat.le_of_ble_eq_true rfl) (by decide +kernel)) ?_
    refine j_tot (j_if_eq hx (off := 7) (tgt := 45) (by decide +kernel) (by decide) (fun _ => ?_) (fun _ => ?_))
    · exact wwo_kindOf_45 h
    refine j_runA hx 1 (tb := [(41, .iconst 2)]) (jtb_ok (by decide +kernel)) (pc' := 42) (lv' := [(0, vI a0)]) (st' := [vI (kI 2)]) rfl ?_
    refine j_goto hx (off := 4) (by decide +kernel) (tgt := 46) (by decide) ?_
    exact j_iret hx hm (by decide +kernel) rfl (he _)
  refine j_runA hx 1 (tb := [(11, .iconst 1)]) (jtb_ok (by decide +kernel)) (pc' := 12) (lv' := [(0, vI a0)]) (st' := [vI (kI 1)]) rfl ?_
  exact j_iret hx hm (by decide +kernel) rfl (he _)
theorem cwo_kindOf (a0 : Int32) (W : jW) : jM yX12_kindOf cX12_kindOf 1 (Option.some Jvm.ClassFile.FieldType.int) [] 2 27 [vI a0] W (some (.returned (some (.int (fwo_kindOf a0))), W)) := 
  jM.of (mm := some (fwo_kindOf a0)) (en := fun q => some (.returned (some (.int q)), W)) (Nat.le_of_ble_eq_true rfl) (fun x hx hm hr => wwo_kindOf ⟨hx, hm, hr, fun _ => rfl⟩)
def hsh_isFunction (x : jCx) (en : (Int32) → Option (Outcome × jW)) (t : Nat) (a1 : Int32) (W : jW) : Prop :=
  jOK x RX3 cX3_isFunction 2 ∧
  jMt x "isFunction" (Option.some Jvm.ClassFile.FieldType.boolean) [] ∧
  jRm x 4 54 ∧
  (∀ q : Int32, en q = some (.returned (some (.int q)), W))
theorem wsh_isFunction_47 {x : jCx} {en : (Int32) → Option (Outcome × jW)} {W : jW} {t : Nat} {a1 : Int32} (h : hsh_isFunction x en t a1 W) : jJ x 2 47 [(0, vR t), (1, vI a1)] [] W (fsh_isFunction_47 t a1 W) en := by
  have h0 := h
  obtain ⟨hx, hm, hr, he⟩ := h0
  unfold fsh_isFunction_47
  refine j_runA hx 1 (tb := [(47, .iconst 0)]) (jtb_ok (by decide +kernel)) (pc' := 48) (lv' := [(0, vR t), (1, vI a1)]) (st' := [vI (kI 0)]) rfl ?_
  exact j_iret hx hm (by decide +kernel) jz0n (he _)
theorem wsh_isFunction {x : jCx} {en : (Int32) → Option (Outcome × jW)} {W : jW} {t : Nat} {a1 : Int32} (h : hsh_isFunction x en t a1 W) : jJ x 2 0 [(0, vR t), (1, vI a1)] [] W (fsh_isFunction t a1 W) en := by
  have h0 := h
  obtain ⟨hx, hm, hr, he⟩ := h0
  unfold fsh_isFunction
  refine j_runA hx 1 (tb := [(0, .aload_n 0)]) (jtb_ok (by decide +kernel)) (pc' := 1) (lv' := [(0, vR t), (1, vI a1)]) (st' := [vR t]) rfl ?_
  refine j_gd (fun h1 => ?_)
  refine j_getR hx flX3_57 kl401 h1 (by decide) (by decide +kernel) ?_
  refine j_runA hx 2 (tb := [(4, .aload_n 0), (5, .iload_n 1)]) (jtb_ok (by decide +kernel)) (pc' := 6) (lv' := [(0, vR t), (1, vI a1)]) (st' := [vI a1, vR t, vR (jR W 401 t)]) rfl ?_
  refine j_OI (j_callV (av := [vI a1]) (st := [vR (jR W 401 t)]) hx hr (Or.inl q879) q880 q881 rfl md_fsh_symbolAt np_fsh_symbolAt (csh_symbolAt t a1 W) (by decide) (Nat.le_of_ble_eq_true rfl) h1 (by decide) (by decide +kernel)) (fun q2 _ => ?_)
  refine j_runA hx 2 (tb := [(9, .bipush 6), (11, .iadd)]) (jtb_ok (by decide +kernel)) (pc' := 12) (lv' := [(0, vR t), (1, vI a1)]) (st' := [vI (q2 + (kI 6)), vR (jR W 401 t)]) rfl ?_
  refine j_gd (fun h3 => ?_)
  refine j_OI (h3.elim (fun hh => j_callU (av := [vI (q2 + (kI 6))]) (st := []) hx hr q807 q775 (hde_fsr_half) (by decide) q774 q776 rfl md_fsr_half np_fsr_half (csr_half (jR W 401 t) (q2 + (kI 6)) W) (by decide) (Nat.le_of_ble_eq_true rfl) hh (by decide) (by decide +kernel)) (fun hh => j_callU (av := [vI (q2 + (kI 6))]) (st := []) hx hr q807 q775 (hde_fsr_half) (by decide) q774 q777 rfl md_fsr_half np_fsr_half (csr_half (jR W 401 t) (q2 + (kI 6)) W) (by decide) (Nat.le_of_ble_eq_true rfl) hh (by decide) (by decide +kernel))) (fun q4 _ => ?_)
  refine j_runA hx 1 (tb := [(15, .aload_n 0)]) (jtb_ok (by decide +kernel)) (pc' := 16) (lv' := [(0, vR t), (1, vI a1)]) (st' := [vR t, vI q4]) rfl ?_
  refine j_getI hx flX3_167 kd418 h1 (by decide) (by decide +kernel) ?_
  refine j_icmp_ne hx (off := 28) (tgt := 47) (by decide +kernel) (by decide) (fun _ => ?_) (fun _ => ?_)
  · exact wsh_isFunction_47 h
  refine j_runA hx 1 (tb := [(22, .aload_n 0)]) (jtb_ok (by decide +kernel)) (pc' := 23) (lv' := [(0, vR t), (1, vI a1)]) (st' := [vR t]) rfl ?_
  refine j_getR hx flX3_57 kl401 h1 (by decide) (by decide +kernel) ?_
  refine j_runA hx 2 (tb := [(26, .aload_n 0), (27, .iload_n 1)]) (jtb_ok (by decide +kernel)) (pc' := 28) (lv' := [(0, vR t), (1, vI a1)]) (st' := [vI a1, vR t, vR (jR W 401 t)]) rfl ?_
  refine j_OI (j_callV (av := [vI a1]) (st := [vR (jR W 401 t)]) hx hr (Or.inl q879) q880 q881 rfl md_fsh_symbolAt np_fsh_symbolAt (csh_symbolAt t a1 W) (by decide) (Nat.le_of_ble_eq_true rfl) h1 (by decide) (by decide +kernel)) (fun q5 _ => ?_)
  refine j_runA hx 2 (tb := [(31, .iconst 4), (32, .iadd)]) (jtb_ok (by decide +kernel)) (pc' := 33) (lv' := [(0, vR t), (1, vI a1)]) (st' := [vI (q5 + (kI 4)), vR (jR W 401 t)]) rfl ?_
  refine j_gd (fun h6 => ?_)
  refine j_OI (h6.elim (fun hh => vd_fsr_at_l hh (j_callU (av := [vI (q5 + (kI 4))]) (st := []) hx hr q844 q781 (hde_fsr_at) (by decide) q783 q782 rfl md_fhe_at np_fsr_at (che_at (jR W 401 t) (q5 + (kI 4)) W) (by decide) (Nat.le_of_ble_eq_true rfl) hh (by decide) (by decide +kernel))) (fun hh => vd_fsr_at_r hh (j_callU (av := [vI (q5 + (kI 4))]) (st := []) hx hr q844 q781 (hde_fsr_at) (by decide) q786 q785 rfl md_fwr_at np_fsr_at (cwr_at (jR W 401 t) (q5 + (kI 4)) W) (by decide) (Nat.le_of_ble_eq_true rfl) hh (by decide) (by decide +kernel)))) (fun q7 _ => ?_)
  refine j_runA hx 3 (tb := [(36, .bipush 15), (38, .iand), (39, .iconst 2)]) (jtb_ok (by decide +kernel)) (pc' := 40) (lv' := [(0, vR t), (1, vI a1)]) (st' := [vI (kI 2), vI (q7 &&& (kI 15))]) rfl ?_
  refine j_icmp_ne hx (off := 7) (tgt := 47) (by decide +kernel) (by decide) (fun _ => ?_) (fun _ => ?_)
  · exact wsh_isFunction_47 h
  refine j_runA hx 1 (tb := [(43, .iconst 1)]) (jtb_ok (by decide +kernel)) (pc' := 44) (lv' := [(0, vR t), (1, vI a1)]) (st' := [vI (kI 1)]) rfl ?_
  refine j_goto hx (off := 4) (by decide +kernel) (tgt := 48) (by decide) ?_
  exact j_iret hx hm (by decide +kernel) jz1n (he _)
theorem csh_isFunction (t : Nat) (a1 : Int32) (W : jW) : jM yX3_isFunction cX3_isFunction 2 (Option.some Jvm.ClassFile.FieldType.boolean) [] 4 54 [vR t, vI a1] W ((fsh_isFunction t a1 W).bind (fun q => some (.returned (some (.int q)), W))) := 
  jM.of (Nat.le_of_ble_eq_true rfl) (fun x hx hm hr => wsh_isFunction ⟨hx, hm, hr, fun _ => rfl⟩)
def hpg_wordAt (x : jCx) (en : (Int32) → Option (Outcome × jW)) (t : Nat) (a1 : Int64) (W : jW) : Prop :=
  jOK x RX1 cX1_wordAt 3 ∧
  jMt x "wordAt" (Option.some Jvm.ClassFile.FieldType.int) [] ∧
  jRm x 1 15 ∧
  (∀ q : Int32, en q = some (.returned (some (.int q)), W))
theorem wpg_wordAt {x : jCx} {en : (Int32) → Option (Outcome × jW)} {W : jW} {t : Nat} {a1 : Int64} (h : hpg_wordAt x en t a1 W) : jJ x 3 0 [(0, vR t), (1, vL a1)] [] W (fpg_wordAt t a1 W) en := by
  have h0 := h
  obtain ⟨hx, hm, hr, he⟩ := h0
  unfold fpg_wordAt
  refine j_runA hx 2 (tb := [(0, .lload_n 1), (1, .aload_n 0)]) (jtb_ok (by decide +kernel)) (pc' := 2) (lv' := [(0, vR t), (1, vL a1)]) (st' := [vR t, vL a1]) rfl ?_
  refine j_gd (fun h1 => ?_)
  refine j_getR hx flX1_21 kl201 h1 (by decide) (by decide +kernel) ?_
  refine j_gd (fun h2 => ?_)
  refine j_getR hx flX1_77 kl408 h2 (by decide) (by decide +kernel) ?_
  refine j_runA hx 1 (tb := [(8, .aload_n 0)]) (jtb_ok (by decide +kernel)) (pc' := 9) (lv' := [(0, vR t), (1, vL a1)]) (st' := [vR t, vR (jR W 408 (jR W 201 t)), vL a1]) rfl ?_
  refine j_getR hx flX1_21 kl201 h1 (by decide) (by decide +kernel) ?_
  refine j_OI (j_callV (av := []) (st := [vR (jR W 408 (jR W 201 t)), vL a1]) hx hr (Or.inl q933) q793 q794 rfl md_fsh_last np_fsh_last (csh_last (jR W 201 t) W) (by decide) (Nat.le_of_ble_eq_true rfl) h2 (by decide) (by decide +kernel)) (fun q3 _ => ?_)
  refine j_gd (fun h4 => ?_)
  refine j_lald hx (f := 408) (o := (jR W 201 t)) kd408 rfl (by decide +kernel) h4 ?_
  refine j_runA hx 1 (tb := [(16, .lsub)]) (jtb_ok (by decide +kernel)) (pc' := 17) (lv' := [(0, vR t), (1, vL a1)]) (st' := [vL (a1 - (jB W 408 (jR W 201 t) (ix q3)))]) rfl ?_
  refine j_ldc2 hx (v := (kJ 4)) (jkd2 q1033 (by decide +kernel)) (by decide +kernel) ?_
  refine j_ldiv hx (by decide +kernel) (by decide +kernel) ?_
  refine j_runA hx 1 (tb := [(21, .l2i)]) (jtb_ok (by decide +kernel)) (pc' := 22) (lv' := [(0, vR t), (1, vL a1)]) (st' := [vI (((a1 - (jB W 408 (jR W 201 t) (ix q3))) / (kJ 4)).toInt32)]) rfl ?_
  exact j_iret hx hm (by decide +kernel) rfl (he _)
theorem cpg_wordAt (t : Nat) (a1 : Int64) (W : jW) : jM yX1_wordAt cX1_wordAt 3 (Option.some Jvm.ClassFile.FieldType.int) [] 1 15 [vR t, vL a1] W ((fpg_wordAt t a1 W).bind (fun q => some (.returned (some (.int q)), W))) := 
  jM.of (Nat.le_of_ble_eq_true rfl) (fun x hx hm hr => wpg_wordAt ⟨hx, hm, hr, fun _ => rfl⟩)
def hro_add (x : jCx) (en : (jW) → Option (Outcome × jW)) (t : Nat) (a1 : Int32) : Prop :=
  jOK x RX6 cX6_add 3 ∧
  jMt x "add" (Option.none : Option Jvm.ClassFile.FieldType) [] ∧
  jRm x 1 60 ∧
  (∀ q : jW, en q = some (.returned none, q))
theorem wro_add_40 {x : jCx} {en : (jW) → Option (Outcome × jW)} {t : Nat} {a1 : Int32} (h : hro_add x en t a1) (W : jW) : jJ x 3 40 [(0, vR t), (1, vI a1)] [] W (fro_add_40 t a1 W) en := by
  have h0 := h
  obtain ⟨hx, hm, hr, he⟩ := h0
  unfold fro_add_40
  refine j_runA hx 1 (tb := [(40, .aload_n 0)]) (jtb_ok (by decide +kernel)) (pc' := 41) (lv' := [(0, vR t), (1, vI a1)]) (st' := [vR t]) rfl ?_
  refine j_gd (fun h22 => ?_)
  refine j_getR hx flX6_7 kl600 h22 (by decide) (by decide +kernel) ?_
  refine j_runA hx 1 (tb := [(44, .aload_n 0)]) (jtb_ok (by decide +kernel)) (pc' := 45) (lv' := [(0, vR t), (1, vI a1)]) (st' := [vR t, vR (jR W 600 t)]) rfl ?_
  refine j_getI hx flX6_13 kd601 h22 (by decide) (by decide +kernel) ?_
  refine j_runA hx 1 (tb := [(48, .iload_n 1)]) (jtb_ok (by decide +kernel)) (pc' := 49) (lv' := [(0, vR t), (1, vI a1)]) (st' := [vI a1, vI (jI W 601 t), vR (jR W 600 t)]) rfl ?_
  refine j_gd (fun h23 => ?_)
  refine j_iast hx (f := 600) (o := t) kd600 rfl (by decide +kernel) h23 ?_
  refine j_ltw rfl (fun W24 hc25 => ?_)
  have h26 : jC W24 t = 6 := (congrFun hc25 _).trans h22
  refine j_runA hx 2 (tb := [(50, .aload_n 0), (51, .dup)]) (jtb_ok (by decide +kernel)) (pc' := 52) (lv' := [(0, vR t), (1, vI a1)]) (st' := [vR t, vR t]) rfl ?_
  refine j_getI hx flX6_13 kd601 h26 (by decide) (by decide +kernel) ?_
  refine j_runA hx 2 (tb := [(55, .iconst 1), (56, .iadd)]) (jtb_ok (by decide +kernel)) (pc' := 57) (lv' := [(0, vR t), (1, vI a1)]) (st' := [vI ((jI W24 601 t) + (kI 1)), vR t]) rfl ?_
  refine j_putI hx fwX6_13 wf601 kd601 h26 (by decide) (by decide +kernel) (ni601 _) (fi601 _) ?_
  refine j_ltw rfl (fun W28 hc29 => ?_)
  have h30 : jC W28 t = 6 := (congrFun hc29 _).trans h26
  exact j_vret hx hm (by decide +kernel) (he _)
theorem wro_add {x : jCx} {en : (jW) → Option (Outcome × jW)} {t : Nat} {a1 : Int32} (h : hro_add x en t a1) (W : jW) : jJ x 3 0 [(0, vR t), (1, vI a1)] [] W (fro_add t a1 W) en := by
  have h0 := h
  obtain ⟨hx, hm, hr, he⟩ := h0
  unfold fro_add
  refine j_runA hx 1 (tb := [(0, .aload_n 0)]) (jtb_ok (by decide +kernel)) (pc' := 1) (lv' := [(0, vR t), (1, vI a1)]) (st' := [vR t]) rfl ?_
  refine j_gd (fun h1 => ?_)
  refine j_getI hx flX6_13 kd601 h1 (by decide) (by decide +kernel) ?_
  refine j_runA hx 1 (tb := [(4, .aload_n 0)]) (jtb_ok (by decide +kernel)) (pc' := 5) (lv' := [(0, vR t), (1, vI a1)]) (st' := [vR t, vI (jI W 601 t)]) rfl ?_
  refine j_getR hx flX6_7 kl600 h1 (by decide) (by decide +kernel) ?_
  refine j_gd (fun h2 => ?_)
  refine j_alen hx (f := 600) (o := t) kg600 kh600 rfl (by decide +kernel) h2 ?_
  refine j_icmp_ne hx (off := 31) (tgt := 40) (by decide +kernel) (by decide) (fun _ => ?_) (fun _ => ?_)
  · exact wro_add_40 h W
  refine j_runA hx 2 (tb := [(12, .iconst 2), (13, .aload_n 0)]) (jtb_ok (by decide +kernel)) (pc' := 14) (lv' := [(0, vR t), (1, vI a1)]) (st' := [vR t, vI (kI 2)]) rfl ?_
  refine j_getI hx flX6_13 kd601 h1 (by decide) (by decide +kernel) ?_
  refine j_runA hx 1 (tb := [(17, .imul)]) (jtb_ok (by decide +kernel)) (pc' := 18) (lv' := [(0, vR t), (1, vI a1)]) (st' := [vI ((kI 2) * (jI W 601 t))]) rfl ?_
  refine j_gd (fun h3 => ?_)
  refine j_newA hx (f := 9003) (by decide) ka9003 ja9003_3 (by decide +kernel) h3 ?_
  refine j_ltw rfl (fun W4 hc5 => ?_)
  have h6 : jC W4 t = 6 := (congrFun hc5 _).trans h1
  refine j_runA hx 1 (tb := [(20, .astore_n 2)]) (jtb_ok (by decide +kernel)) (pc' := 21) (lv' := [(2, vR (jX W)), (0, vR t), (1, vI a1)]) (st' := []) rfl ?_
  refine j_let (v := (jX W)) (lv := fun v8 => [(2, vR v8), (0, vR t), (1, vI a1)]) (st := fun _ => []) (fun v8 => ?_)
  refine j_runA hx 1 (tb := [(21, .aload_n 0)]) (jtb_ok (by decide +kernel)) (pc' := 22) (lv' := [(2, vR v8), (0, vR t), (1, vI a1)]) (st' := [vR t]) rfl ?_
  refine j_getR hx flX6_7 kl600 h6 (by decide) (by decide +kernel) ?_
  refine j_runA hx 4 (tb := [(25, .iconst 0), (26, .aload_n 2), (27, .iconst 0), (28, .aload_n 0)]) (jtb_ok (by decide +kernel)) (pc' := 29) (lv' := [(2, vR v8), (0, vR t), (1, vI a1)]) (st' := [vR t, vI (kI 0), vR v8, vI (kI 0), vR (jR W4 600 t)]) rfl ?_
  refine j_getI hx flX6_13 kd601 h6 (by decide) (by decide +kernel) ?_
  refine j_gd (fun h9 => ?_)
  refine j_gd (fun h10 => ?_)
  refine j_gd (fun h11 => ?_)
  refine j_cpA (f := 600) (o := t) (f2 := 9003) (o2 := v8) hx hr q1043 q735 q734 q245 (by decide +kernel) kd600 kd9003 rfl h9 h10 h11 (by decide) (Nat.le_of_ble_eq_true rfl) ?_
  refine j_ltw rfl (fun W12 hc13 => ?_)
  have h14 : jC W12 t = 6 := (congrFun hc13 _).trans h6
  refine j_runA hx 2 (tb := [(35, .aload_n 0), (36, .aload_n 2)]) (jtb_ok (by decide +kernel)) (pc' := 37) (lv' := [(2, vR v8), (0, vR t), (1, vI a1)]) (st' := [vR v8, vR t]) rfl ?_
  refine j_gd (fun h16 => ?_)
  refine j_att hx fwX6_7 wf600 ka600 (by decide) h14 (by decide) nr600 fr600 (by decide +kernel) h16 ?_
  refine j_ltw rfl (fun W17 hc18 => ?_)
  have h19 : jC W17 t = 6 := (congrFun hc18 _).trans h14
  refine j_lv (lv' := [(0, vR t), (1, vI a1)]) ⟨rfl, rfl, trivial⟩ ?_
  exact wro_add_40 h W17
theorem cro_add (t : Nat) (a1 : Int32) (W : jW) : jM yX6_add cX6_add 3 (Option.none : Option Jvm.ClassFile.FieldType) [] 1 60 [vR t, vI a1] W ((fro_add t a1 W).bind (fun q => some (.returned none, q))) := 
  jM.of (Nat.le_of_ble_eq_true rfl) (fun x hx hm hr => wro_add ⟨hx, hm, hr, fun _ => rfl⟩ W)
def hpg_behind (x : jCx) (en : (Int32) → Option (Outcome × jW)) (t : Nat) (a1 : Int32) (W : jW) : Prop :=
  jOK x RX1 cX1_behind 2 ∧
  jMt x "behind" (Option.some Jvm.ClassFile.FieldType.int) [] ∧
  jRm x 0 0 ∧
  (∀ q : Int32, en q = some (.returned (some (.int q)), W))
theorem wpg_behind {x : jCx} {en : (Int32) → Option (Outcome × jW)} {W : jW} {t : Nat} {a1 : Int32} (h : hpg_behind x en t a1 W) : jJ x 2 0 [(0, vR t), (1, vI a1)] [] W (fpg_behind t a1 W) en := by
  have h0 := h
  obtain ⟨hx, hm, hr, he⟩ := h0
  unfold fpg_behind
  refine j_runA hx 4 (tb := [(0, .iload_n 1), (1, .iconst 1), (2, .iadd), (3, .aload_n 0)]) (jtb_ok (by decide +kernel)) (pc' := 4) (lv' := [(0, vR t), (1, vI a1)]) (st' := [vR t, vI (a1 + (kI 1))]) rfl ?_
  refine j_gd (fun h1 => ?_)
  refine j_getR hx flX1_52 kl209 h1 (by decide) (by decide +kernel) ?_
  refine j_gd (fun h2 => ?_)
  refine j_getI hx flX1_90 kd601 h2 (by decide) (by decide +kernel) ?_
  refine j_icmp_ge hx (off := 17) (tgt := 27) (by decide +kernel) (by decide) (fun _ => ?_) (fun _ => ?_)
  · refine j_runA hx 1 (tb := [(27, .aload_n 0)]) (jtb_ok (by decide +kernel)) (pc' := 28) (lv' := [(0, vR t), (1, vI a1)]) (st' := [vR t]) rfl ?_
    refine j_getI hx flX1_124 kd203 h1 (by decide) (by decide +kernel) ?_
    exact j_iret hx hm (by decide +kernel) rfl (he _)
  refine j_runA hx 1 (tb := [(13, .aload_n 0)]) (jtb_ok (by decide +kernel)) (pc' := 14) (lv' := [(0, vR t), (1, vI a1)]) (st' := [vR t]) rfl ?_
  refine j_getR hx flX1_52 kl209 h1 (by decide) (by decide +kernel) ?_
  refine j_getR hx flX1_166 kl600 h2 (by decide) (by decide +kernel) ?_
  refine j_runA hx 3 (tb := [(20, .iload_n 1), (21, .iconst 1), (22, .iadd)]) (jtb_ok (by decide +kernel)) (pc' := 23) (lv' := [(0, vR t), (1, vI a1)]) (st' := [vI (a1 + (kI 1)), vR (jR W 600 (jR W 209 t))]) rfl ?_
  refine j_gd (fun h3 => ?_)
  refine j_iald hx (f := 600) (o := (jR W 209 t)) kd600 rfl (by decide +kernel) h3 ?_
  refine j_goto hx (off := 7) (by decide +kernel) (tgt := 31) (by decide) ?_
  exact j_iret hx hm (by decide +kernel) rfl (he _)
theorem cpg_behind (t : Nat) (a1 : Int32) (W : jW) : jM yX1_behind cX1_behind 2 (Option.some Jvm.ClassFile.FieldType.int) [] 0 0 [vR t, vI a1] W ((fpg_behind t a1 W).bind (fun q => some (.returned (some (.int q)), W))) := 
  jM.of (Nat.le_of_ble_eq_true rfl) (fun x hx hm hr => wpg_behind ⟨hx, hm, hr, fun _ => rfl⟩)
def hpg_tellFunctions (x : jCx) (en : (fpg_tellFunctions_S ⊕ ((Nat × jW) ⊕ jW)) → Option (Outcome × jW)) (t : Nat) : Prop :=
  jOK x RX1 cX1_tellFunctions 10 ∧
  jMt x "tellFunctions" (Option.none : Option Jvm.ClassFile.FieldType) [] ∧
  jRm x 7 96 ∧
  (∀ q : jW, en (.inr (.inr q)) = some (.returned none, q)) ∧
  (∀ z : Nat × jW, en (.inr (.inl z)) = some (.threw (z.1 - 1), z.2)) ∧
  (∀ (l1 : Int64) (l3 : Int32) (l4 : Int32) (W : jW), jJ x 10 37 [(0, vR t), (1, vL l1), (3, vI l3), (4, vI l4)] [] W (some (.inl (.inl (l1, l3, l4, W)))) en) ∧
  (∀ (l1 : Int64) (l3 : Int32) (l4 : Int32) (W : jW), jJ x 10 73 [(0, vR t), (1, vL l1), (3, vI l3), (4, vI l4)] [] W (some (.inl (.inr (.inl (l1, l3, l4, W))))) en) ∧
  (∀ (l1 : Int64) (l3 : Int32) (l4 : Int32) (l5 : Int32) (W : jW), jJ x 10 102 [(0, vR t), (1, vL l1), (3, vI l3), (4, vI l4), (5, vI l5)] [] W (some (.inl (.inr (.inr (.inl (l1, l3, l4, l5, W)))))) en) ∧
  (∀ (l1 : Int64) (l3 : Int32) (l4 : Int32) (W : jW), jJ x 10 257 [(0, vR t), (1, vL l1), (3, vI l3), (4, vI l4)] [] W (some (.inl (.inr (.inr (.inr (.inl (l1, l3, l4, W))))))) en) ∧
  (∀ (l5 : Int32) (W : jW), jJ x 10 392 [(0, vR t), (5, vI l5)] [] W (some (.inl (.inr (.inr (.inr (.inr (.inl (l5, W)))))))) en) ∧
  (∀ (l5 : Int32) (l6 : Int32) (W : jW), jJ x 10 416 [(0, vR t), (5, vI l5), (6, vI l6)] [] W (some (.inl (.inr (.inr (.inr (.inr (.inr (l5, l6, W)))))))) en)
theorem wpg_tellFunctions_64 {x : jCx} {en : (fpg_tellFunctions_S ⊕ ((Nat × jW) ⊕ jW)) → Option (Outcome × jW)} {t : Nat} (h : hpg_tellFunctions x en t) (l1 : Int64) (l3 : Int32) (l4 : Int32) (W : jW) : jJ x 10 64 [(0, vR t), (1, vL l1), (3, vI l3), (4, vI l4)] [] W (fpg_tellFunctions_64 t l1 l3 l4 W) en := by
  have h0 := h
  obtain ⟨hx, hm, hr, he, ht, k37, k73, k102, k257, k392, k416⟩ := h0
  unfold fpg_tellFunctions_64
  refine j_runA hx 1 (tb := [(64, .iinc 4 1)]) (jtb_ok (by decide +kernel)) (pc' := 67) (lv' := [(4, vI (l4 + (kI 1))), (0, vR t), (1, vL l1), (3, vI l3)]) (st' := []) rfl ?_
  refine j_let (v := (l4 + (kI 1))) (lv := fun v26 => [(4, vI v26), (0, vR t), (1, vL l1), (3, vI l3)]) (st := fun _ => []) (fun v26 => ?_)
  refine j_goto hx (off := -30) (by decide +kernel) (tgt := 37) (by decide) ?_
  refine j_lv (lv' := [(0, vR t), (1, vL l1), (3, vI l3), (4, vI v26)]) ⟨rfl, rfl, rfl, rfl, trivial⟩ ?_
  exact k37 l1 l3 v26 W
theorem wpg_tellFunctions_251 {x : jCx} {en : (fpg_tellFunctions_S ⊕ ((Nat × jW) ⊕ jW)) → Option (Outcome × jW)} {t : Nat} (h : hpg_tellFunctions x en t) (l1 : Int64) (l3 : Int32) (l4 : Int32) (l5 : Int32) (W : jW) : jJ x 10 251 [(0, vR t), (1, vL l1), (3, vI l3), (4, vI l4), (5, vI l5)] [] W (fpg_tellFunctions_251 t l1 l3 l4 l5 W) en := by
  have h0 := h
  obtain ⟨hx, hm, hr, he, ht, k37, k73, k102, k257, k392, k416⟩ := h0
  unfold fpg_tellFunctions_251
  refine j_runA hx 1 (tb := [(251, .iinc 5 1)]) (jtb_ok (by decide +kernel)) (pc' := 254) (lv' := [(5, vI (l5 + (kI 1))), (0, vR t), (1, vL l1), (3, vI l3), (4, vI l4)]) (st' := []) rfl ?_
  refine j_let (v := (l5 + (kI 1))) (lv := fun v49 => [(5, vI v49), (0, vR t), (1, vL l1), (3, vI l3), (4, vI l4)]) (st := fun _ => []) (fun v49 => ?_)
  refine j_goto hx (off := -152) (by decide +kernel) (tgt := 102) (by decide) ?_
  refine j_lv (lv' := [(0, vR t), (1, vL l1), (3, vI l3), (4, vI l4), (5, vI v49)]) ⟨rfl, rfl, rfl, rfl, rfl, trivial⟩ ?_
  exact k102 l1 l3 l4 v49 W
theorem wpg_tellFunctions_231 {x : jCx} {en : (fpg_tellFunctions_S ⊕ ((Nat × jW) ⊕ jW)) → Option (Outcome × jW)} {t : Nat} (h : hpg_tellFunctions x en t) (l1 : Int64) (l3 : Int32) (l5 : Int32) (l6 : Int64) (s0 : Int32) (W : jW) : jJ x 10 231 [(0, vR t), (1, vL l1), (3, vI l3), (5, vI l5), (6, vL l6)] [vI s0] W (fpg_tellFunctions_231 t l1 l3 l5 l6 s0 W) en := by
  have h0 := h
  obtain ⟨hx, hm, hr, he, ht, k37, k73, k102, k257, k392, k416⟩ := h0
  unfold fpg_tellFunctions_231
  refine j_runA hx 2 (tb := [(231, .istore 4), (233, .iload 4)]) (jtb_ok (by decide +kernel)) (pc' := 235) (lv' := [(4, vI s0), (0, vR t), (1, vL l1), (3, vI l3), (5, vI l5), (6, vL l6)]) (st' := [vI s0]) rfl ?_
  refine j_if_eq hx (off := 16) (tgt := 251) (by decide +kernel) (by decide) (fun _ => ?_) (fun _ => ?_)
  · refine j_lv (lv' := [(0, vR t), (1, vL l1), (3, vI l3), (4, vI s0), (5, vI l5)]) ⟨rfl, rfl, rfl, rfl, rfl, trivial⟩ ?_
    exact wpg_tellFunctions_251 h l1 l3 s0 l5 W
  refine j_runA hx 1 (tb := [(238, .aload_n 0)]) (jtb_ok (by decide +kernel)) (pc' := 239) (lv' := [(4, vI s0), (0, vR t), (1, vL l1), (3, vI l3), (5, vI l5), (6, vL l6)]) (st' := [vR t]) rfl ?_
  refine j_gd (fun h51 => ?_)
  refine j_getR hx flX1_62 kl212 h51 (by decide) (by decide +kernel) ?_
  refine j_runA hx 2 (tb := [(242, .aload_n 0), (243, .lload 6)]) (jtb_ok (by decide +kernel)) (pc' := 245) (lv' := [(4, vI s0), (0, vR t), (1, vL l1), (3, vI l3), (5, vI l5), (6, vL l6)]) (st' := [vL l6, vR t, vR (jR W 212 t)]) rfl ?_
  refine j_OI (j_callV (av := [vL l6]) (st := [vR (jR W 212 t)]) hx hr (Or.inl q1035) q1036 q1037 rfl md_fpg_wordAt np_fpg_wordAt (cpg_wordAt t l6 W) (by decide) (Nat.le_of_ble_eq_true rfl) h51 (by decide) (by decide +kernel)) (fun q52 _ => ?_)
  refine j_runA hx 1 (tb := [(248, .iload 5)]) (jtb_ok (by decide +kernel)) (pc' := 250) (lv' := [(4, vI s0), (0, vR t), (1, vL l1), (3, vI l3), (5, vI l5), (6, vL l6)]) (st' := [vI l5, vI q52, vR (jR W 212 t)]) rfl ?_
  refine j_gd (fun h53 => ?_)
  refine j_iast hx (f := 212) (o := t) kd212 rfl (by decide +kernel) h53 ?_
  refine j_ltw rfl (fun W54 hc55 => ?_)
  have h56 : jC W54 t = 2 := (congrFun hc55 _).trans h51
  refine j_lv (lv' := [(0, vR t), (1, vL l1), (3, vI l3), (4, vI s0), (5, vI l5)]) ⟨rfl, rfl, rfl, rfl, rfl, trivial⟩ ?_
  exact wpg_tellFunctions_251 h l1 l3 s0 l5 W54
theorem wpg_tellFunctions_230 {x : jCx} {en : (fpg_tellFunctions_S ⊕ ((Nat × jW) ⊕ jW)) → Option (Outcome × jW)} {t : Nat} (h : hpg_tellFunctions x en t) (l1 : Int64) (l3 : Int32) (l5 : Int32) (l6 : Int64) (W : jW) : jJ x 10 230 [(0, vR t), (1, vL l1), (3, vI l3), (5, vI l5), (6, vL l6)] [] W (fpg_tellFunctions_230 t l1 l3 l5 l6 W) en := by
  have h0 := h
  obtain ⟨hx, hm, hr, he, ht, k37, k73, k102, k257, k392, k416⟩ := h0
  unfold fpg_tellFunctions_230
  refine j_runA hx 1 (tb := [(230, .iconst 0)]) (jtb_ok (by decide +kernel)) (pc' := 231) (lv' := [(0, vR t), (1, vL l1), (3, vI l3), (5, vI l5), (6, vL l6)]) (st' := [vI (kI 0)]) rfl ?_
  exact wpg_tellFunctions_231 h l1 l3 l5 l6 (kI 0) W
theorem wpg_tellFunctions_296 {x : jCx} {en : (fpg_tellFunctions_S ⊕ ((Nat × jW) ⊕ jW)) → Option (Outcome × jW)} {t : Nat} (h : hpg_tellFunctions x en t) (l1 : Int64) (l3 : Int32) (l5 : Int32) (s0 : Int32) (W : jW) : jJ x 10 296 [(0, vR t), (1, vL l1), (3, vI l3), (5, vI l5)] [vI s0] W (fpg_tellFunctions_296 t l1 l3 l5 s0 W) en := by
  have h0 := h
  obtain ⟨hx, hm, hr, he, ht, k37, k73, k102, k257, k392, k416⟩ := h0
  unfold fpg_tellFunctions_296
  refine j_runA hx 2 (tb := [(296, .istore 4), (298, .iload 4)]) (jtb_ok (by decide +kernel)) (pc' := 300) (lv' := [(4, vI s0), (0, vR t), (1, vL l1), (3, vI l3), (5, vI l5)]) (st' := [vI s0]) rfl ?_
  refine j_if_ne hx (off := 6) (tgt := 306) (by decide +kernel) (by decide) (fun _ => ?_) (fun _ => ?_)
  · refine j_runA hx 1 (tb := [(306, .aload_n 0)]) (jtb_ok (by decide +kernel)) (pc' := 307) (lv' := [(4, vI s0), (0, vR t), (1, vL l1), (3, vI l3), (5, vI l5)]) (st' := [vR t]) rfl ?_
    refine j_gd (fun h67 => ?_)
    refine j_getR hx flX1_52 kl209 h67 (by decide) (by decide +kernel) ?_
    refine j_runA hx 2 (tb := [(310, .aload_n 0), (311, .lload_n 1)]) (jtb_ok (by decide +kernel)) (pc' := 312) (lv' := [(4, vI s0), (0, vR t), (1, vL l1), (3, vI l3), (5, vI l5)]) (st' := [vL l1, vR t, vR (jR W 209 t)]) rfl ?_
    refine j_OI (j_callV (av := [vL l1]) (st := [vR (jR W 209 t)]) hx hr (Or.inl q1035) q1036 q1037 rfl md_fpg_wordAt np_fpg_wordAt (cpg_wordAt t l1 W) (by decide) (Nat.le_of_ble_eq_true rfl) h67 (by decide) (by decide +kernel)) (fun q68 _ => ?_)
    refine j_gd (fun h69 => ?_)
    refine j_WV (j_callV (av := [vI q68]) (st := []) hx hr (Or.inl q1039) q1040 q1041 rfl md_fro_add np_fro_add (cro_add (jR W 209 t) q68 W) (by decide) (Nat.le_of_ble_eq_true rfl) h69 (by decide) (by decide +kernel)) (fun q70 _ => ?_)
    refine j_runA hx 1 (tb := [(318, .aload_n 0)]) (jtb_ok (by decide +kernel)) (pc' := 319) (lv' := [(4, vI s0), (0, vR t), (1, vL l1), (3, vI l3), (5, vI l5)]) (st' := [vR t]) rfl ?_
    refine j_gd (fun h72 => ?_)
    refine j_getR hx flX1_56 kl210 h72 (by decide) (by decide +kernel) ?_
    refine j_runA hx 1 (tb := [(322, .iload 5)]) (jtb_ok (by decide +kernel)) (pc' := 324) (lv' := [(4, vI s0), (0, vR t), (1, vL l1), (3, vI l3), (5, vI l5)]) (st' := [vI l5, vR (jR q70 210 t)]) rfl ?_
    refine j_gd (fun h73 => ?_)
    refine j_WV (j_callV (av := [vI l5]) (st := []) hx hr (Or.inl q1039) q1040 q1041 rfl md_fro_add np_fro_add (cro_add (jR q70 210 t) l5 q70) (by decide) (Nat.le_of_ble_eq_true rfl) h73 (by decide) (by decide +kernel)) (fun q74 _ => ?_)
    refine j_runA hx 2 (tb := [(327, .lload_n 1), (328, .aload_n 0)]) (jtb_ok (by decide +kernel)) (pc' := 329) (lv' := [(4, vI s0), (0, vR t), (1, vL l1), (3, vI l3), (5, vI l5)]) (st' := [vR t, vL l1]) rfl ?_
    refine j_gd (fun h76 => ?_)
    refine j_getR hx flX1_28 kl202 h76 (by decide) (by decide +kernel) ?_
    refine j_runA hx 1 (tb := [(332, .aload_n 0)]) (jtb_ok (by decide +kernel)) (pc' := 333) (lv' := [(4, vI s0), (0, vR t), (1, vL l1), (3, vI l3), (5, vI l5)]) (st' := [vR t, vR (jR q74 202 t), vL l1]) rfl ?_
    refine j_getR hx flX1_21 kl201 h76 (by decide) (by decide +kernel) ?_
    refine j_runA hx 1 (tb := [(336, .iload 5)]) (jtb_ok (by decide +kernel)) (pc' := 338) (lv' := [(4, vI s0), (0, vR t), (1, vL l1), (3, vI l3), (5, vI l5)]) (st' := [vI l5, vR (jR q74 201 t), vR (jR q74 202 t), vL l1]) rfl ?_
    refine j_gd (fun h77 => ?_)
    refine j_OI (j_callV (av := [vI l5]) (st := [vR (jR q74 202 t), vL l1]) hx hr (Or.inl q1027) q880 q881 rfl md_fsh_symbolAt np_fsh_symbolAt (csh_symbolAt (jR q74 201 t) l5 q74) (by decide) (Nat.le_of_ble_eq_true rfl) h77 (by decide) (by decide +kernel)) (fun q78 _ => ?_)
    refine j_runA hx 2 (tb := [(341, .bipush 16), (343, .iadd)]) (jtb_ok (by decide +kernel)) (pc' := 344) (lv' := [(4, vI s0), (0, vR t), (1, vL l1), (3, vI l3), (5, vI l5)]) (st' := [vI (q78 + (kI 16)), vR (jR q74 202 t), vL l1]) rfl ?_
    refine j_gd (fun h79 => ?_)
    refine j_OL (j_callU (av := [vI (q78 + (kI 16))]) (st := [vL l1]) hx hr q1028 q1029 (hde_fsr_pair) (by decide) q762 q1031 rfl md_fsr_pair np_fsr_pair (csr_pair (jR q74 202 t) (q78 + (kI 16)) q74) (by decide) (Nat.le_of_ble_eq_true rfl) h79 (by decide) (by decide +kernel)) (fun q80 _ => ?_)
    refine j_runA hx 2 (tb := [(347, .ladd), (348, .lstore_n 1)]) (jtb_ok (by decide +kernel)) (pc' := 349) (lv' := [(1, vL (l1 + q80)), (4, vI s0), (0, vR t), (3, vI l3), (5, vI l5)]) (st' := []) rfl ?_
    refine j_let (v := (l1 + q80)) (lv := fun v81 => [(1, vL v81), (4, vI s0), (0, vR t), (3, vI l3), (5, vI l5)]) (st := fun _ => []) (fun v81 => ?_)
    refine j_goto hx (off := -92) (by decide +kernel) (tgt := 257) (by decide) ?_
    refine j_lv (lv' := [(0, vR t), (1, vL v81), (3, vI l3), (4, vI s0)]) ⟨rfl, rfl, rfl, rfl, trivial⟩ ?_
    exact k257 v81 l3 s0 q74
  refine j_goto hx (off := -46) (by decide +kernel) (tgt := 257) (by decide) ?_
  refine j_lv (lv' := [(0, vR t), (1, vL l1), (3, vI l3), (4, vI s0)]) ⟨rfl, rfl, rfl, rfl, trivial⟩ ?_
  exact k257 l1 l3 s0 W
theorem wpg_tellFunctions_416 {x : jCx} {en : (fpg_tellFunctions_S ⊕ ((Nat × jW) ⊕ jW)) → Option (Outcome × jW)} {t : Nat} (h : hpg_tellFunctions x en t) (l5 : Int32) (l6 : Int32) (W : jW) : jJ x 10 416 [(0, vR t), (5, vI l5), (6, vI l6)] [] W (fpg_tellFunctions_416 t l5 l6 W) en := by
  have h0 := h
  obtain ⟨hx, hm, hr, he, ht, k37, k73, k102, k257, k392, k416⟩ := h0
  unfold fpg_tellFunctions_416
  refine j_runA hx 3 (tb := [(416, .iload 6), (418, .aload_n 0), (419, .iload 5)]) (jtb_ok (by decide +kernel)) (pc' := 421) (lv' := [(0, vR t), (5, vI l5), (6, vI l6)]) (st' := [vI l5, vR t, vI l6]) rfl ?_
  refine j_gd (fun h98 => ?_)
  refine j_OI (j_callV (av := [vI l5]) (st := [vI l6]) hx hr (Or.inl q1045) q1046 q1047 rfl md_fpg_behind np_fpg_behind (cpg_behind t l5 W) (by decide) (Nat.le_of_ble_eq_true rfl) h98 (by decide) (by decide +kernel)) (fun q99 _ => ?_)
  refine j_icmp_ge hx (off := 18) (tgt := 442) (by decide +kernel) (by decide) (fun _ => ?_) (fun _ => ?_)
  · refine j_runA hx 1 (tb := [(442, .iinc 5 1)]) (jtb_ok (by decide +kernel)) (pc' := 445) (lv' := [(5, vI (l5 + (kI 1))), (0, vR t), (6, vI l6)]) (st' := []) rfl ?_
    refine j_let (v := (l5 + (kI 1))) (lv := fun v100 => [(5, vI v100), (0, vR t), (6, vI l6)]) (st := fun _ => []) (fun v100 => ?_)
    refine j_goto hx (off := -53) (by decide +kernel) (tgt := 392) (by decide) ?_
    refine j_lv (lv' := [(0, vR t), (5, vI v100)]) ⟨rfl, rfl, trivial⟩ ?_
    exact k392 v100 W
  refine j_runA hx 1 (tb := [(427, .aload_n 0)]) (jtb_ok (by decide +kernel)) (pc' := 428) (lv' := [(0, vR t), (5, vI l5), (6, vI l6)]) (st' := [vR t]) rfl ?_
  refine j_getR hx flX1_62 kl212 h98 (by decide) (by decide +kernel) ?_
  refine j_runA hx 2 (tb := [(431, .iload 6), (433, .iload 5)]) (jtb_ok (by decide +kernel)) (pc' := 435) (lv' := [(0, vR t), (5, vI l5), (6, vI l6)]) (st' := [vI l5, vI l6, vR (jR W 212 t)]) rfl ?_
  refine j_gd (fun h101 => ?_)
  refine j_iast hx (f := 212) (o := t) kd212 rfl (by decide +kernel) h101 ?_
  refine j_ltw rfl (fun W102 hc103 => ?_)
  have h104 : jC W102 t = 2 := (congrFun hc103 _).trans h98
  refine j_runA hx 1 (tb := [(436, .iinc 6 1)]) (jtb_ok (by decide +kernel)) (pc' := 439) (lv' := [(6, vI (l6 + (kI 1))), (0, vR t), (5, vI l5)]) (st' := []) rfl ?_
  refine j_let (v := (l6 + (kI 1))) (lv := fun v106 => [(6, vI v106), (0, vR t), (5, vI l5)]) (st := fun _ => []) (fun v106 => ?_)
  refine j_goto hx (off := -23) (by decide +kernel) (tgt := 416) (by decide) ?_
  refine j_lv (lv' := [(0, vR t), (5, vI l5), (6, vI v106)]) ⟨rfl, rfl, rfl, trivial⟩ ?_
  exact k416 l5 v106 W102
theorem wpg_tellFunctions_392 {x : jCx} {en : (fpg_tellFunctions_S ⊕ ((Nat × jW) ⊕ jW)) → Option (Outcome × jW)} {t : Nat} (h : hpg_tellFunctions x en t) (l5 : Int32) (W : jW) : jJ x 10 392 [(0, vR t), (5, vI l5)] [] W (fpg_tellFunctions_392 t l5 W) en := by
  have h0 := h
  obtain ⟨hx, hm, hr, he, ht, k37, k73, k102, k257, k392, k416⟩ := h0
  unfold fpg_tellFunctions_392
  refine j_runA hx 2 (tb := [(392, .iload 5), (394, .aload_n 0)]) (jtb_ok (by decide +kernel)) (pc' := 395) (lv' := [(0, vR t), (5, vI l5)]) (st' := [vR t, vI l5]) rfl ?_
  refine j_gd (fun h93 => ?_)
  refine j_getR hx flX1_52 kl209 h93 (by decide) (by decide +kernel) ?_
  refine j_gd (fun h94 => ?_)
  refine j_getI hx flX1_90 kd601 h94 (by decide) (by decide +kernel) ?_
  refine j_icmp_ge hx (off := 47) (tgt := 448) (by decide +kernel) (by decide) (fun _ => ?_) (fun _ => ?_)
  · exact j_vret hx hm (by decide +kernel) (he _)
  refine j_runA hx 1 (tb := [(404, .aload_n 0)]) (jtb_ok (by decide +kernel)) (pc' := 405) (lv' := [(0, vR t), (5, vI l5)]) (st' := [vR t]) rfl ?_
  refine j_getR hx flX1_52 kl209 h93 (by decide) (by decide +kernel) ?_
  refine j_getR hx flX1_166 kl600 h94 (by decide) (by decide +kernel) ?_
  refine j_runA hx 1 (tb := [(411, .iload 5)]) (jtb_ok (by decide +kernel)) (pc' := 413) (lv' := [(0, vR t), (5, vI l5)]) (st' := [vI l5, vR (jR W 600 (jR W 209 t))]) rfl ?_
  refine j_gd (fun h95 => ?_)
  refine j_iald hx (f := 600) (o := (jR W 209 t)) kd600 rfl (by decide +kernel) h95 ?_
  refine j_runA hx 1 (tb := [(414, .istore 6)]) (jtb_ok (by decide +kernel)) (pc' := 416) (lv' := [(6, vI (jA W 600 (jR W 209 t) (ix l5))), (0, vR t), (5, vI l5)]) (st' := []) rfl ?_
  refine j_let (v := (jA W 600 (jR W 209 t) (ix l5))) (lv := fun v96 => [(6, vI v96), (0, vR t), (5, vI l5)]) (st := fun _ => []) (fun v96 => ?_)
  refine j_lv (lv' := [(0, vR t), (5, vI l5), (6, vI v96)]) ⟨rfl, rfl, rfl, trivial⟩ ?_
  exact k416 l5 v96 W
theorem wpg_tellFunctions_377 {x : jCx} {en : (fpg_tellFunctions_S ⊕ ((Nat × jW) ⊕ jW)) → Option (Outcome × jW)} {t : Nat} (h : hpg_tellFunctions x en t) (s0 : Int32) (s1 : Nat) (W : jW) : jJ x 10 377 [(0, vR t)] [vI s0, vR s1] W (fpg_tellFunctions_377 t s0 s1 W) en := by
  have h0 := h
  obtain ⟨hx, hm, hr, he, ht, k37, k73, k102, k257, k392, k416⟩ := h0
  unfold fpg_tellFunctions_377
  refine j_runA hx 2 (tb := [(377, .bipush 7), (379, .aload_n 0)]) (jtb_ok (by decide +kernel)) (pc' := 380) (lv' := [(0, vR t)]) (st' := [vR t, vI (kI 7), vI s0, vR s1]) rfl ?_
  refine j_gd (fun h86 => ?_)
  refine j_getR hx flX1_21 kl201 h86 (by decide) (by decide +kernel) ?_
  refine j_gd (fun h87 => ?_)
  refine j_OI (j_callV (av := []) (st := [vI (kI 7), vI s0, vR s1]) hx hr (Or.inl q942) q789 q790 rfl md_fsh_textOffset np_fsh_textOffset (csh_textOffset (jR W 201 t) W) (by decide) (Nat.le_of_ble_eq_true rfl) h87 (by decide) (by decide +kernel)) (fun q88 _ => ?_)
  refine j_gd (fun h89 => ?_)
  refine j_EV (j_callV (av := [vI s0, vI (kI 7), vI q88]) (st := []) hx hr (Or.inl q1044) q758 q759 rfl md_ftr_must np_ftr_must (ctr_must s1 s0 (kI 7) q88 W) (by decide) (Nat.le_of_ble_eq_true rfl) h89 (by decide) (by decide +kernel)) (fun z _ r h9 => j_upE hm hx (ht z) h9) (fun q90 _ => ?_)
  refine j_runA hx 2 (tb := [(389, .iconst 0), (390, .istore 5)]) (jtb_ok (by decide +kernel)) (pc' := 392) (lv' := [(5, vI (kI 0)), (0, vR t)]) (st' := []) rfl ?_
  refine j_lv (lv' := [(0, vR t), (5, vI (kI 0))]) ⟨rfl, rfl, trivial⟩ ?_
  exact k392 (kI 0) q90
theorem wpg_tellFunctions_376 {x : jCx} {en : (fpg_tellFunctions_S ⊕ ((Nat × jW) ⊕ jW)) → Option (Outcome × jW)} {t : Nat} (h : hpg_tellFunctions x en t) (s0 : Nat) (W : jW) : jJ x 10 376 [(0, vR t)] [vR s0] W (fpg_tellFunctions_376 t s0 W) en := by
  have h0 := h
  obtain ⟨hx, hm, hr, he, ht, k37, k73, k102, k257, k392, k416⟩ := h0
  unfold fpg_tellFunctions_376
  refine j_runA hx 1 (tb := [(376, .iconst 0)]) (jtb_ok (by decide +kernel)) (pc' := 377) (lv' := [(0, vR t)]) (st' := [vI (kI 0), vR s0]) rfl ?_
  exact wpg_tellFunctions_377 h (kI 0) s0 W
theorem wpg_tellFunctions_352 {x : jCx} {en : (fpg_tellFunctions_S ⊕ ((Nat × jW) ⊕ jW)) → Option (Outcome × jW)} {t : Nat} (h : hpg_tellFunctions x en t) (l3 : Int32) (l4 : Int32) (W : jW) : jJ x 10 352 [(0, vR t), (3, vI l3), (4, vI l4)] [] W (fpg_tellFunctions_352 t l3 l4 W) en := by
  have h0 := h
  obtain ⟨hx, hm, hr, he, ht, k37, k73, k102, k257, k392, k416⟩ := h0
  unfold fpg_tellFunctions_352
  refine j_runA hx 1 (tb := [(352, .aload_n 0)]) (jtb_ok (by decide +kernel)) (pc' := 353) (lv' := [(0, vR t), (3, vI l3), (4, vI l4)]) (st' := [vR t]) rfl ?_
  refine j_gd (fun h83 => ?_)
  refine j_getR hx flX1_10 kl200 h83 (by decide) (by decide +kernel) ?_
  refine j_runA hx 1 (tb := [(356, .iload 4)]) (jtb_ok (by decide +kernel)) (pc' := 358) (lv' := [(0, vR t), (3, vI l3), (4, vI l4)]) (st' := [vI l4, vR (jR W 200 t)]) rfl ?_
  refine j_if_eq hx (off := 18) (tgt := 376) (by decide +kernel) (by decide) (fun _ => ?_) (fun _ => ?_)
  · refine j_lv (lv' := [(0, vR t)]) ⟨rfl, trivial⟩ ?_
    exact wpg_tellFunctions_376 h (jR W 200 t) W
  refine j_runA hx 1 (tb := [(361, .aload_n 0)]) (jtb_ok (by decide +kernel)) (pc' := 362) (lv' := [(0, vR t), (3, vI l3), (4, vI l4)]) (st' := [vR t, vR (jR W 200 t)]) rfl ?_
  refine j_getR hx flX1_52 kl209 h83 (by decide) (by decide +kernel) ?_
  refine j_gd (fun h84 => ?_)
  refine j_getI hx flX1_90 kd601 h84 (by decide) (by decide +kernel) ?_
  refine j_runA hx 1 (tb := [(368, .iload_n 3)]) (jtb_ok (by decide +kernel)) (pc' := 369) (lv' := [(0, vR t), (3, vI l3), (4, vI l4)]) (st' := [vI l3, vI (jI W 601 (jR W 209 t)), vR (jR W 200 t)]) rfl ?_
  refine j_icmp_ne hx (off := 7) (tgt := 376) (by decide +kernel) (by decide) (fun _ => ?_) (fun _ => ?_)
  · refine j_lv (lv' := [(0, vR t)]) ⟨rfl, trivial⟩ ?_
    exact wpg_tellFunctions_376 h (jR W 200 t) W
  refine j_runA hx 1 (tb := [(372, .iconst 1)]) (jtb_ok (by decide +kernel)) (pc' := 373) (lv' := [(0, vR t), (3, vI l3), (4, vI l4)]) (st' := [vI (kI 1), vR (jR W 200 t)]) rfl ?_
  refine j_goto hx (off := 4) (by decide +kernel) (tgt := 377) (by decide) ?_
  refine j_lv (lv' := [(0, vR t)]) ⟨rfl, trivial⟩ ?_
  exact wpg_tellFunctions_377 h (kI 1) (jR W 200 t) W
theorem wpg_tellFunctions_257 {x : jCx} {en : (fpg_tellFunctions_S ⊕ ((Nat × jW) ⊕ jW)) → Option (Outcome × jW)} {t : Nat} (h : hpg_tellFunctions x en t) (l1 : Int64) (l3 : Int32) (l4 : Int32) (W : jW) : jJ x 10 257 [(0, vR t), (1, vL l1), (3, vI l3), (4, vI l4)] [] W (fpg_tellFunctions_257 t l1 l3 l4 W) en := by
  have h0 := h
  obtain ⟨hx, hm, hr, he, ht, k37, k73, k102, k257, k392, k416⟩ := h0
  unfold fpg_tellFunctions_257
  refine j_runA hx 1 (tb := [(257, .iload 4)]) (jtb_ok (by decide +kernel)) (pc' := 259) (lv' := [(0, vR t), (1, vL l1), (3, vI l3), (4, vI l4)]) (st' := [vI l4]) rfl ?_
  refine j_if_eq hx (off := 93) (tgt := 352) (by decide +kernel) (by decide) (fun _ => ?_) (fun _ => ?_)
  · refine j_lv (lv' := [(0, vR t), (3, vI l3), (4, vI l4)]) ⟨rfl, rfl, rfl, trivial⟩ ?_
    exact wpg_tellFunctions_352 h l3 l4 W
  refine j_runA hx 2 (tb := [(262, .lload_n 1), (263, .aload_n 0)]) (jtb_ok (by decide +kernel)) (pc' := 264) (lv' := [(0, vR t), (1, vL l1), (3, vI l3), (4, vI l4)]) (st' := [vR t, vL l1]) rfl ?_
  refine j_gd (fun h60 => ?_)
  refine j_getR hx flX1_21 kl201 h60 (by decide) (by decide +kernel) ?_
  refine j_gd (fun h61 => ?_)
  refine j_OL (j_callV (av := []) (st := [vL l1]) hx hr (Or.inl q1034) q897 q898 rfl md_fsh_end np_fsh_end (csh_end (jR W 201 t) W) (by decide) (Nat.le_of_ble_eq_true rfl) h61 (by decide) (by decide +kernel)) (fun q62 _ => ?_)
  refine j_lcmp_ge hx (off := 81) (tgt := 352) (by decide +kernel) (by decide +kernel) (by decide) (fun _ => ?_) (fun _ => ?_)
  · refine j_lv (lv' := [(0, vR t), (3, vI l3), (4, vI l4)]) ⟨rfl, rfl, rfl, trivial⟩ ?_
    exact wpg_tellFunctions_352 h l3 l4 W
  refine j_runA hx 1 (tb := [(274, .aload_n 0)]) (jtb_ok (by decide +kernel)) (pc' := 275) (lv' := [(0, vR t), (1, vL l1), (3, vI l3), (4, vI l4)]) (st' := [vR t]) rfl ?_
  refine j_getR hx flX1_62 kl212 h60 (by decide) (by decide +kernel) ?_
  refine j_runA hx 2 (tb := [(278, .aload_n 0), (279, .lload_n 1)]) (jtb_ok (by decide +kernel)) (pc' := 280) (lv' := [(0, vR t), (1, vL l1), (3, vI l3), (4, vI l4)]) (st' := [vL l1, vR t, vR (jR W 212 t)]) rfl ?_
  refine j_OI (j_callV (av := [vL l1]) (st := [vR (jR W 212 t)]) hx hr (Or.inl q1035) q1036 q1037 rfl md_fpg_wordAt np_fpg_wordAt (cpg_wordAt t l1 W) (by decide) (Nat.le_of_ble_eq_true rfl) h60 (by decide) (by decide +kernel)) (fun q63 _ => ?_)
  refine j_gd (fun h64 => ?_)
  refine j_iald hx (f := 212) (o := t) kd212 rfl (by decide +kernel) h64 ?_
  refine j_runA hx 1 (tb := [(284, .istore 5)]) (jtb_ok (by decide +kernel)) (pc' := 286) (lv' := [(5, vI (jA W 212 t (ix q63))), (0, vR t), (1, vL l1), (3, vI l3), (4, vI l4)]) (st' := []) rfl ?_
  refine j_let (v := (jA W 212 t (ix q63))) (lv := fun v65 => [(5, vI v65), (0, vR t), (1, vL l1), (3, vI l3), (4, vI l4)]) (st := fun _ => []) (fun v65 => ?_)
  refine j_runA hx 1 (tb := [(286, .iload 5)]) (jtb_ok (by decide +kernel)) (pc' := 288) (lv' := [(5, vI v65), (0, vR t), (1, vL l1), (3, vI l3), (4, vI l4)]) (st' := [vI v65]) rfl ?_
  refine j_if_lt hx (off := 7) (tgt := 295) (by decide +kernel) (by decide) (fun _ => ?_) (fun _ => ?_)
  · refine j_runA hx 1 (tb := [(295, .iconst 0)]) (jtb_ok (by decide +kernel)) (pc' := 296) (lv' := [(5, vI v65), (0, vR t), (1, vL l1), (3, vI l3), (4, vI l4)]) (st' := [vI (kI 0)]) rfl ?_
    refine j_lv (lv' := [(0, vR t), (1, vL l1), (3, vI l3), (5, vI v65)]) ⟨rfl, rfl, rfl, rfl, trivial⟩ ?_
    exact wpg_tellFunctions_296 h l1 l3 v65 (kI 0) W
  refine j_runA hx 1 (tb := [(291, .iconst 1)]) (jtb_ok (by decide +kernel)) (pc' := 292) (lv' := [(5, vI v65), (0, vR t), (1, vL l1), (3, vI l3), (4, vI l4)]) (st' := [vI (kI 1)]) rfl ?_
  refine j_goto hx (off := 4) (by decide +kernel) (tgt := 296) (by decide) ?_
  refine j_lv (lv' := [(0, vR t), (1, vL l1), (3, vI l3), (5, vI v65)]) ⟨rfl, rfl, rfl, rfl, trivial⟩ ?_
  exact wpg_tellFunctions_296 h l1 l3 v65 (kI 1) W
theorem wpg_tellFunctions_102 {x : jCx} {en : (fpg_tellFunctions_S ⊕ ((Nat × jW) ⊕ jW)) → Option (Outcome × jW)} {t : Nat} (h : hpg_tellFunctions x en t) (l1 : Int64) (l3 : Int32) (l4 : Int32) (l5 : Int32) (W : jW) : jJ x 10 102 [(0, vR t), (1, vL l1), (3, vI l3), (4, vI l4), (5, vI l5)] [] W (fpg_tellFunctions_102 t l1 l3 l4 l5 W) en := by
  have h0 := h
  obtain ⟨hx, hm, hr, he, ht, k37, k73, k102, k257, k392, k416⟩ := h0
  unfold fpg_tellFunctions_102
  refine j_runA hx 2 (tb := [(102, .iload 5), (104, .aload_n 0)]) (jtb_ok (by decide +kernel)) (pc' := 105) (lv' := [(0, vR t), (1, vL l1), (3, vI l3), (4, vI l4), (5, vI l5)]) (st' := [vR t, vI l5]) rfl ?_
  refine j_gd (fun h36 => ?_)
  refine j_getR hx flX1_21 kl201 h36 (by decide) (by decide +kernel) ?_
  refine j_gd (fun h37 => ?_)
  refine j_OI (j_callV (av := []) (st := [vI l5]) hx hr (Or.inl q1021) q884 q885 rfl md_fsh_symbolCount np_fsh_symbolCount (csh_symbolCount (jR W 201 t) W) (by decide) (Nat.le_of_ble_eq_true rfl) h37 (by decide) (by decide +kernel)) (fun q38 _ => ?_)
  refine j_icmp_ge hx (off := 146) (tgt := 257) (by decide +kernel) (by decide) (fun _ => ?_) (fun _ => ?_)
  · refine j_lv (lv' := [(0, vR t), (1, vL l1), (3, vI l3), (4, vI l4)]) ⟨rfl, rfl, rfl, rfl, trivial⟩ ?_
    exact k257 l1 l3 l4 W
  refine j_runA hx 1 (tb := [(114, .iload 4)]) (jtb_ok (by decide +kernel)) (pc' := 116) (lv' := [(0, vR t), (1, vL l1), (3, vI l3), (4, vI l4), (5, vI l5)]) (st' := [vI l4]) rfl ?_
  refine j_if_eq hx (off := 141) (tgt := 257) (by decide +kernel) (by decide) (fun _ => ?_) (fun _ => ?_)
  · refine j_lv (lv' := [(0, vR t), (1, vL l1), (3, vI l3), (4, vI l4)]) ⟨rfl, rfl, rfl, rfl, trivial⟩ ?_
    exact k257 l1 l3 l4 W
  refine j_runA hx 1 (tb := [(119, .aload_n 0)]) (jtb_ok (by decide +kernel)) (pc' := 120) (lv' := [(0, vR t), (1, vL l1), (3, vI l3), (4, vI l4), (5, vI l5)]) (st' := [vR t]) rfl ?_
  refine j_getR hx flX1_21 kl201 h36 (by decide) (by decide +kernel) ?_
  refine j_runA hx 1 (tb := [(123, .iload 5)]) (jtb_ok (by decide +kernel)) (pc' := 125) (lv' := [(0, vR t), (1, vL l1), (3, vI l3), (4, vI l4), (5, vI l5)]) (st' := [vI l5, vR (jR W 201 t)]) rfl ?_
  refine j_OI (j_callV (av := [vI l5]) (st := []) hx hr (Or.inl q1022) q1023 q1024 rfl md_fsh_isFunction np_fsh_isFunction (csh_isFunction (jR W 201 t) l5 W) (by decide) (Nat.le_of_ble_eq_true rfl) h37 (by decide) (by decide +kernel)) (fun q39 _ => ?_)
  refine j_if_ne hx (off := 6) (tgt := 134) (by decide +kernel) (by decide) (fun _ => ?_) (fun _ => ?_)
  · refine j_runA hx 1 (tb := [(134, .aload_n 0)]) (jtb_ok (by decide +kernel)) (pc' := 135) (lv' := [(0, vR t), (1, vL l1), (3, vI l3), (4, vI l4), (5, vI l5)]) (st' := [vR t]) rfl ?_
    refine j_getR hx flX1_21 kl201 h36 (by decide) (by decide +kernel) ?_
    refine j_runA hx 1 (tb := [(138, .iload 5)]) (jtb_ok (by decide +kernel)) (pc' := 140) (lv' := [(0, vR t), (1, vL l1), (3, vI l3), (4, vI l4), (5, vI l5)]) (st' := [vI l5, vR (jR W 201 t)]) rfl ?_
    refine j_OL (j_callV (av := [vI l5]) (st := []) hx hr (Or.inl q1026) q889 q890 rfl md_fsh_valueOf np_fsh_valueOf (csh_valueOf (jR W 201 t) l5 W) (by decide) (Nat.le_of_ble_eq_true rfl) h37 (by decide) (by decide +kernel)) (fun q40 _ => ?_)
    refine j_runA hx 2 (tb := [(143, .lstore 6), (145, .aload_n 0)]) (jtb_ok (by decide +kernel)) (pc' := 146) (lv' := [(6, vL q40), (0, vR t), (1, vL l1), (3, vI l3), (4, vI l4), (5, vI l5)]) (st' := [vR t]) rfl ?_
    refine j_getR hx flX1_28 kl202 h36 (by decide) (by decide +kernel) ?_
    refine j_runA hx 1 (tb := [(149, .aload_n 0)]) (jtb_ok (by decide +kernel)) (pc' := 150) (lv' := [(6, vL q40), (0, vR t), (1, vL l1), (3, vI l3), (4, vI l4), (5, vI l5)]) (st' := [vR t, vR (jR W 202 t)]) rfl ?_
    refine j_getR hx flX1_21 kl201 h36 (by decide) (by decide +kernel) ?_
    refine j_runA hx 1 (tb := [(153, .iload 5)]) (jtb_ok (by decide +kernel)) (pc' := 155) (lv' := [(6, vL q40), (0, vR t), (1, vL l1), (3, vI l3), (4, vI l4), (5, vI l5)]) (st' := [vI l5, vR (jR W 201 t), vR (jR W 202 t)]) rfl ?_
    refine j_OI (j_callV (av := [vI l5]) (st := [vR (jR W 202 t)]) hx hr (Or.inl q1027) q880 q881 rfl md_fsh_symbolAt np_fsh_symbolAt (csh_symbolAt (jR W 201 t) l5 W) (by decide) (Nat.le_of_ble_eq_true rfl) h37 (by decide) (by decide +kernel)) (fun q41 _ => ?_)
    refine j_runA hx 2 (tb := [(158, .bipush 16), (160, .iadd)]) (jtb_ok (by decide +kernel)) (pc' := 161) (lv' := [(6, vL q40), (0, vR t), (1, vL l1), (3, vI l3), (4, vI l4), (5, vI l5)]) (st' := [vI (q41 + (kI 16)), vR (jR W 202 t)]) rfl ?_
    refine j_gd (fun h42 => ?_)
    refine j_OL (j_callU (av := [vI (q41 + (kI 16))]) (st := []) hx hr q1028 q1029 (hde_fsr_pair) (by decide) q762 q1031 rfl md_fsr_pair np_fsr_pair (csr_pair (jR W 202 t) (q41 + (kI 16)) W) (by decide) (Nat.le_of_ble_eq_true rfl) h42 (by decide) (by decide +kernel)) (fun q43 _ => ?_)
    refine j_runA hx 2 (tb := [(164, .lstore 8), (166, .aload_n 0)]) (jtb_ok (by decide +kernel)) (pc' := 167) (lv' := [(8, vL q43), (6, vL q40), (0, vR t), (1, vL l1), (3, vI l3), (4, vI l4), (5, vI l5)]) (st' := [vR t]) rfl ?_
    refine j_getR hx flX1_21 kl201 h36 (by decide) (by decide +kernel) ?_
    refine j_runA hx 1 (tb := [(170, .lload 6)]) (jtb_ok (by decide +kernel)) (pc' := 172) (lv' := [(8, vL q43), (6, vL q40), (0, vR t), (1, vL l1), (3, vI l3), (4, vI l4), (5, vI l5)]) (st' := [vL q40, vR (jR W 201 t)]) rfl ?_
    refine j_OI (j_callV (av := [vL q40]) (st := []) hx hr (Or.inl q1032) q893 q894 rfl md_fsh_isText np_fsh_isText (csh_isText (jR W 201 t) q40 W) (by decide) (Nat.le_of_ble_eq_true rfl) h37 (by decide) (by decide +kernel)) (fun q44 _ => ?_)
    refine j_if_eq hx (off := 55) (tgt := 230) (by decide +kernel) (by decide) (fun _ => ?_) (fun _ => ?_)
    · refine j_lv (lv' := [(0, vR t), (1, vL l1), (3, vI l3), (5, vI l5), (6, vL q40)]) ⟨rfl, rfl, rfl, rfl, rfl, trivial⟩ ?_
      exact wpg_tellFunctions_230 h l1 l3 l5 q40 W
    refine j_runA hx 2 (tb := [(178, .lload 8), (180, .lconst 0)]) (jtb_ok (by decide +kernel)) (pc' := 181) (lv' := [(8, vL q43), (6, vL q40), (0, vR t), (1, vL l1), (3, vI l3), (4, vI l4), (5, vI l5)]) (st' := [vL (kJ 0), vL q43]) rfl ?_
    refine j_lcmp_le hx (off := 48) (tgt := 230) (by decide +kernel) (by decide +kernel) (by decide) (fun _ => ?_) (fun _ => ?_)
    · refine j_lv (lv' := [(0, vR t), (1, vL l1), (3, vI l3), (5, vI l5), (6, vL q40)]) ⟨rfl, rfl, rfl, rfl, rfl, trivial⟩ ?_
      exact wpg_tellFunctions_230 h l1 l3 l5 q40 W
    refine j_runA hx 1 (tb := [(185, .lload 8)]) (jtb_ok (by decide +kernel)) (pc' := 187) (lv' := [(8, vL q43), (6, vL q40), (0, vR t), (1, vL l1), (3, vI l3), (4, vI l4), (5, vI l5)]) (st' := [vL q43]) rfl ?_
    refine j_ldc2 hx (v := (kJ 4)) (jkd2 q1033 (by decide +kernel)) (by decide +kernel) ?_
    refine j_lrem hx (by decide +kernel) (by decide +kernel) ?_
    refine j_runA hx 1 (tb := [(191, .lconst 0)]) (jtb_ok (by decide +kernel)) (pc' := 192) (lv' := [(8, vL q43), (6, vL q40), (0, vR t), (1, vL l1), (3, vI l3), (4, vI l4), (5, vI l5)]) (st' := [vL (kJ 0), vL (lrm q43 (kJ 4))]) rfl ?_
    refine j_lcmp_ne hx (off := 37) (tgt := 230) (by decide +kernel) (by decide +kernel) (by decide) (fun _ => ?_) (fun _ => ?_)
    · refine j_lv (lv' := [(0, vR t), (1, vL l1), (3, vI l3), (5, vI l5), (6, vL q40)]) ⟨rfl, rfl, rfl, rfl, rfl, trivial⟩ ?_
      exact wpg_tellFunctions_230 h l1 l3 l5 q40 W
    refine j_runA hx 2 (tb := [(196, .lload 8), (198, .aload_n 0)]) (jtb_ok (by decide +kernel)) (pc' := 199) (lv' := [(8, vL q43), (6, vL q40), (0, vR t), (1, vL l1), (3, vI l3), (4, vI l4), (5, vI l5)]) (st' := [vR t, vL q43]) rfl ?_
    refine j_getR hx flX1_21 kl201 h36 (by decide) (by decide +kernel) ?_
    refine j_OL (j_callV (av := []) (st := [vL q43]) hx hr (Or.inl q1034) q897 q898 rfl md_fsh_end np_fsh_end (csh_end (jR W 201 t) W) (by decide) (Nat.le_of_ble_eq_true rfl) h37 (by decide) (by decide +kernel)) (fun q45 _ => ?_)
    refine j_runA hx 2 (tb := [(205, .lload 6), (207, .lsub)]) (jtb_ok (by decide +kernel)) (pc' := 208) (lv' := [(8, vL q43), (6, vL q40), (0, vR t), (1, vL l1), (3, vI l3), (4, vI l4), (5, vI l5)]) (st' := [vL (q45 - q40), vL q43]) rfl ?_
    refine j_lcmp_gt hx (off := 21) (tgt := 230) (by decide +kernel) (by decide +kernel) (by decide) (fun _ => ?_) (fun _ => ?_)
    · refine j_lv (lv' := [(0, vR t), (1, vL l1), (3, vI l3), (5, vI l5), (6, vL q40)]) ⟨rfl, rfl, rfl, rfl, rfl, trivial⟩ ?_
      exact wpg_tellFunctions_230 h l1 l3 l5 q40 W
    refine j_runA hx 1 (tb := [(212, .aload_n 0)]) (jtb_ok (by decide +kernel)) (pc' := 213) (lv' := [(8, vL q43), (6, vL q40), (0, vR t), (1, vL l1), (3, vI l3), (4, vI l4), (5, vI l5)]) (st' := [vR t]) rfl ?_
    refine j_getR hx flX1_62 kl212 h36 (by decide) (by decide +kernel) ?_
    refine j_runA hx 2 (tb := [(216, .aload_n 0), (217, .lload 6)]) (jtb_ok (by decide +kernel)) (pc' := 219) (lv' := [(8, vL q43), (6, vL q40), (0, vR t), (1, vL l1), (3, vI l3), (4, vI l4), (5, vI l5)]) (st' := [vL q40, vR t, vR (jR W 212 t)]) rfl ?_
    refine j_OI (j_callV (av := [vL q40]) (st := [vR (jR W 212 t)]) hx hr (Or.inl q1035) q1036 q1037 rfl md_fpg_wordAt np_fpg_wordAt (cpg_wordAt t q40 W) (by decide) (Nat.le_of_ble_eq_true rfl) h36 (by decide) (by decide +kernel)) (fun q46 _ => ?_)
    refine j_gd (fun h47 => ?_)
    refine j_iald hx (f := 212) (o := t) kd212 rfl (by decide +kernel) h47 ?_
    refine j_if_ge hx (off := 7) (tgt := 230) (by decide +kernel) (by decide) (fun _ => ?_) (fun _ => ?_)
    · refine j_lv (lv' := [(0, vR t), (1, vL l1), (3, vI l3), (5, vI l5), (6, vL q40)]) ⟨rfl, rfl, rfl, rfl, rfl, trivial⟩ ?_
      exact wpg_tellFunctions_230 h l1 l3 l5 q40 W
    refine j_runA hx 1 (tb := [(226, .iconst 1)]) (jtb_ok (by decide +kernel)) (pc' := 227) (lv' := [(8, vL q43), (6, vL q40), (0, vR t), (1, vL l1), (3, vI l3), (4, vI l4), (5, vI l5)]) (st' := [vI (kI 1)]) rfl ?_
    refine j_goto hx (off := 4) (by decide +kernel) (tgt := 231) (by decide) ?_
    refine j_lv (lv' := [(0, vR t), (1, vL l1), (3, vI l3), (5, vI l5), (6, vL q40)]) ⟨rfl, rfl, rfl, rfl, rfl, trivial⟩ ?_
    exact wpg_tellFunctions_231 h l1 l3 l5 q40 (kI 1) W
  refine j_goto hx (off := 120) (by decide +kernel) (tgt := 251) (by decide) ?_
  exact wpg_tellFunctions_251 h l1 l3 l4 l5 W
theorem wpg_tellFunctions_73 {x : jCx} {en : (fpg_tellFunctions_S ⊕ ((Nat × jW) ⊕ jW)) → Option (Outcome × jW)} {t : Nat} (h : hpg_tellFunctions x en t) (l1 : Int64) (l3 : Int32) (l4 : Int32) (W : jW) : jJ x 10 73 [(0, vR t), (1, vL l1), (3, vI l3), (4, vI l4)] [] W (fpg_tellFunctions_73 t l1 l3 l4 W) en := by
  have h0 := h
  obtain ⟨hx, hm, hr, he, ht, k37, k73, k102, k257, k392, k416⟩ := h0
  unfold fpg_tellFunctions_73
  refine j_runA hx 2 (tb := [(73, .iload 4), (75, .aload_n 0)]) (jtb_ok (by decide +kernel)) (pc' := 76) (lv' := [(0, vR t), (1, vL l1), (3, vI l3), (4, vI l4)]) (st' := [vR t, vI l4]) rfl ?_
  refine j_gd (fun h28 => ?_)
  refine j_getI hx flX1_124 kd203 h28 (by decide) (by decide +kernel) ?_
  refine j_icmp_ge hx (off := 17) (tgt := 96) (by decide +kernel) (by decide) (fun _ => ?_) (fun _ => ?_)
  · refine j_runA hx 4 (tb := [(96, .iconst 1), (97, .istore 4), (99, .iconst 1), (100, .istore 5)]) (jtb_ok (by decide +kernel)) (pc' := 102) (lv' := [(5, vI (kI 1)), (4, vI (kI 1)), (0, vR t), (1, vL l1), (3, vI l3)]) (st' := []) rfl ?_
    refine j_lv (lv' := [(0, vR t), (1, vL l1), (3, vI l3), (4, vI (kI 1)), (5, vI (kI 1))]) ⟨rfl, rfl, rfl, rfl, rfl, trivial⟩ ?_
    exact k102 l1 l3 (kI 1) (kI 1) W
  refine j_runA hx 1 (tb := [(82, .aload_n 0)]) (jtb_ok (by decide +kernel)) (pc' := 83) (lv' := [(0, vR t), (1, vL l1), (3, vI l3), (4, vI l4)]) (st' := [vR t]) rfl ?_
  refine j_getR hx flX1_62 kl212 h28 (by decide) (by decide +kernel) ?_
  refine j_runA hx 2 (tb := [(86, .iload 4), (88, .iconst (-1))]) (jtb_ok (by decide +kernel)) (pc' := 89) (lv' := [(0, vR t), (1, vL l1), (3, vI l3), (4, vI l4)]) (st' := [vI (kI (-1)), vI l4, vR (jR W 212 t)]) rfl ?_
  refine j_gd (fun h29 => ?_)
  refine j_iast hx (f := 212) (o := t) kd212 rfl (by decide +kernel) h29 ?_
  refine j_ltw rfl (fun W30 hc31 => ?_)
  have h32 : jC W30 t = 2 := (congrFun hc31 _).trans h28
  refine j_runA hx 1 (tb := [(90, .iinc 4 1)]) (jtb_ok (by decide +kernel)) (pc' := 93) (lv' := [(4, vI (l4 + (kI 1))), (0, vR t), (1, vL l1), (3, vI l3)]) (st' := []) rfl ?_
  refine j_let (v := (l4 + (kI 1))) (lv := fun v34 => [(4, vI v34), (0, vR t), (1, vL l1), (3, vI l3)]) (st := fun _ => []) (fun v34 => ?_)
  refine j_goto hx (off := -20) (by decide +kernel) (tgt := 73) (by decide) ?_
  refine j_lv (lv' := [(0, vR t), (1, vL l1), (3, vI l3), (4, vI v34)]) ⟨rfl, rfl, rfl, rfl, trivial⟩ ?_
  exact k73 l1 l3 v34 W30
theorem wpg_tellFunctions_37 {x : jCx} {en : (fpg_tellFunctions_S ⊕ ((Nat × jW) ⊕ jW)) → Option (Outcome × jW)} {t : Nat} (h : hpg_tellFunctions x en t) (l1 : Int64) (l3 : Int32) (l4 : Int32) (W : jW) : jJ x 10 37 [(0, vR t), (1, vL l1), (3, vI l3), (4, vI l4)] [] W (fpg_tellFunctions_37 t l1 l3 l4 W) en := by
  have h0 := h
  obtain ⟨hx, hm, hr, he, ht, k37, k73, k102, k257, k392, k416⟩ := h0
  unfold fpg_tellFunctions_37
  refine j_runA hx 2 (tb := [(37, .iload 4), (39, .aload_n 0)]) (jtb_ok (by decide +kernel)) (pc' := 40) (lv' := [(0, vR t), (1, vL l1), (3, vI l3), (4, vI l4)]) (st' := [vR t, vI l4]) rfl ?_
  refine j_gd (fun h20 => ?_)
  refine j_getR hx flX1_21 kl201 h20 (by decide) (by decide +kernel) ?_
  refine j_gd (fun h21 => ?_)
  refine j_OI (j_callV (av := []) (st := [vI l4]) hx hr (Or.inl q1021) q884 q885 rfl md_fsh_symbolCount np_fsh_symbolCount (csh_symbolCount (jR W 201 t) W) (by decide) (Nat.le_of_ble_eq_true rfl) h21 (by decide) (by decide +kernel)) (fun q22 _ => ?_)
  refine j_icmp_ge hx (off := 24) (tgt := 70) (by decide +kernel) (by decide) (fun _ => ?_) (fun _ => ?_)
  · refine j_runA hx 2 (tb := [(70, .iconst 0), (71, .istore 4)]) (jtb_ok (by decide +kernel)) (pc' := 73) (lv' := [(4, vI (kI 0)), (0, vR t), (1, vL l1), (3, vI l3)]) (st' := []) rfl ?_
    refine j_lv (lv' := [(0, vR t), (1, vL l1), (3, vI l3), (4, vI (kI 0))]) ⟨rfl, rfl, rfl, rfl, trivial⟩ ?_
    exact k73 l1 l3 (kI 0) W
  refine j_runA hx 1 (tb := [(49, .aload_n 0)]) (jtb_ok (by decide +kernel)) (pc' := 50) (lv' := [(0, vR t), (1, vL l1), (3, vI l3), (4, vI l4)]) (st' := [vR t]) rfl ?_
  refine j_getR hx flX1_21 kl201 h20 (by decide) (by decide +kernel) ?_
  refine j_runA hx 1 (tb := [(53, .iload 4)]) (jtb_ok (by decide +kernel)) (pc' := 55) (lv' := [(0, vR t), (1, vL l1), (3, vI l3), (4, vI l4)]) (st' := [vI l4, vR (jR W 201 t)]) rfl ?_
  refine j_OI (j_callV (av := [vI l4]) (st := []) hx hr (Or.inl q1022) q1023 q1024 rfl md_fsh_isFunction np_fsh_isFunction (csh_isFunction (jR W 201 t) l4 W) (by decide) (Nat.le_of_ble_eq_true rfl) h21 (by decide) (by decide +kernel)) (fun q23 _ => ?_)
  refine j_if_eq hx (off := 6) (tgt := 64) (by decide +kernel) (by decide) (fun _ => ?_) (fun _ => ?_)
  · exact wpg_tellFunctions_64 h l1 l3 l4 W
  refine j_runA hx 1 (tb := [(61, .iinc 3 1)]) (jtb_ok (by decide +kernel)) (pc' := 64) (lv' := [(3, vI (l3 + (kI 1))), (0, vR t), (1, vL l1), (4, vI l4)]) (st' := []) rfl ?_
  refine j_let (v := (l3 + (kI 1))) (lv := fun v24 => [(3, vI v24), (0, vR t), (1, vL l1), (4, vI l4)]) (st := fun _ => []) (fun v24 => ?_)
  refine j_lv (lv' := [(0, vR t), (1, vL l1), (3, vI v24), (4, vI l4)]) ⟨rfl, rfl, rfl, rfl, trivial⟩ ?_
  exact wpg_tellFunctions_64 h l1 v24 l4 W
theorem wpg_tellFunctions {x : jCx} {en : (fpg_tellFunctions_S ⊕ ((Nat × jW) ⊕ jW)) → Option (Outcome × jW)} {t : Nat} (h : hpg_tellFunctions x en t) (W : jW) : jJ x 10 0 [(0, vR t)] [] W (fpg_tellFunctions_0 t W) en := by
  have h0 := h
  obtain ⟨hx, hm, hr, he, ht, k37, k73, k102, k257, k392, k416⟩ := h0
  unfold fpg_tellFunctions_0
  refine j_runA hx 1 (tb := [(0, .aload_n 0)]) (jtb_ok (by decide +kernel)) (pc' := 1) (lv' := [(0, vR t)]) (st' := [vR t]) rfl ?_
  refine j_gd (fun h1 => ?_)
  refine j_getR hx flX1_52 kl209 h1 (by decide) (by decide +kernel) ?_
  refine j_runA hx 1 (tb := [(4, .iconst 0)]) (jtb_ok (by decide +kernel)) (pc' := 5) (lv' := [(0, vR t)]) (st' := [vI (kI 0), vR (jR W 209 t)]) rfl ?_
  refine j_gd (fun h2 => ?_)
  refine j_putI hx fwX1_90 wf601 kd601 h2 (by decide) (by decide +kernel) (ni601 _) (fi601 _) ?_
  refine j_ltw rfl (fun W3 hc4 => ?_)
  have h5 : jC W3 t = 2 := (congrFun hc4 _).trans h1
  have h6 : jC W3 (jR W 209 t) = 6 := (congrFun hc4 _).trans h2
  refine j_runA hx 1 (tb := [(8, .aload_n 0)]) (jtb_ok (by decide +kernel)) (pc' := 9) (lv' := [(0, vR t)]) (st' := [vR t]) rfl ?_
  refine j_getR hx flX1_56 kl210 h5 (by decide) (by decide +kernel) ?_
  refine j_runA hx 1 (tb := [(12, .iconst 0)]) (jtb_ok (by decide +kernel)) (pc' := 13) (lv' := [(0, vR t)]) (st' := [vI (kI 0), vR (jR W3 210 t)]) rfl ?_
  refine j_gd (fun h8 => ?_)
  refine j_putI hx fwX1_90 wf601 kd601 h8 (by decide) (by decide +kernel) (ni601 _) (fi601 _) ?_
  refine j_ltw rfl (fun W9 hc10 => ?_)
  have h11 : jC W9 t = 2 := (congrFun hc10 _).trans h5
  have h12 : jC W9 (jR W 209 t) = 6 := (congrFun hc10 _).trans h6
  have h13 : jC W9 (jR W3 210 t) = 6 := (congrFun hc10 _).trans h8
  refine j_runA hx 1 (tb := [(16, .aload_n 0)]) (jtb_ok (by decide +kernel)) (pc' := 17) (lv' := [(0, vR t)]) (st' := [vR t]) rfl ?_
  refine j_getR hx flX1_21 kl201 h11 (by decide) (by decide +kernel) ?_
  refine j_gd (fun h15 => ?_)
  refine j_getR hx flX1_77 kl408 h15 (by decide) (by decide +kernel) ?_
  refine j_runA hx 1 (tb := [(23, .aload_n 0)]) (jtb_ok (by decide +kernel)) (pc' := 24) (lv' := [(0, vR t)]) (st' := [vR t, vR (jR W9 408 (jR W9 201 t))]) rfl ?_
  refine j_getR hx flX1_21 kl201 h11 (by decide) (by decide +kernel) ?_
  refine j_OI (j_callV (av := []) (st := [vR (jR W9 408 (jR W9 201 t))]) hx hr (Or.inl q933) q793 q794 rfl md_fsh_last np_fsh_last (csh_last (jR W9 201 t) W9) (by decide) (Nat.le_of_ble_eq_true rfl) h15 (by decide) (by decide +kernel)) (fun q16 _ => ?_)
  refine j_gd (fun h17 => ?_)
  refine j_lald hx (f := 408) (o := (jR W9 201 t)) kd408 rfl (by decide +kernel) h17 ?_
  refine j_runA hx 1 (tb := [(31, .lstore_n 1)]) (jtb_ok (by decide +kernel)) (pc' := 32) (lv' := [(1, vL (jB W9 408 (jR W9 201 t) (ix q16))), (0, vR t)]) (st' := []) rfl ?_
  refine j_let (v := (jB W9 408 (jR W9 201 t) (ix q16))) (lv := fun v18 => [(1, vL v18), (0, vR t)]) (st := fun _ => []) (fun v18 => ?_)
  refine j_runA hx 4 (tb := [(32, .iconst 0), (33, .istore_n 3), (34, .iconst 1), (35, .istore 4)]) (jtb_ok (by decide +kernel)) (pc' := 37) (lv' := [(4, vI (kI 1)), (3, vI (kI 0)), (1, vL v18), (0, vR t)]) (st' := []) rfl ?_
  refine j_lv (lv' := [(0, vR t), (1, vL v18), (3, vI (kI 0)), (4, vI (kI 1))]) ⟨rfl, rfl, rfl, rfl, trivial⟩ ?_
  exact k37 v18 (kI 0) (kI 1) W9
theorem cpg_tellFunctions (t : Nat) (W : jW) : jM yX1_tellFunctions cX1_tellFunctions 10 (Option.none : Option Jvm.ClassFile.FieldType) [] 7 96 [vR t] W ((fpg_tellFunctions t W).bind (fun q => some (Sum.elim (fun z => (.threw (z.1 - 1), z.2)) (fun q => (.returned none, q)) q))) := by
  refine jM.of (Nat.le_of_ble_eq_true rfl) (fun x hx hm hr => ?_)
  refine j_begin (P := (Sum.elim (fun s => (37, [(0, vR t), (1, vL s.1), (3, vI s.2.1), (4, vI s.2.2.1)], s.2.2.2)) (Sum.elim (fun s => (73, [(0, vR t), (1, vL s.1), (3, vI s.2.1), (4, vI s.2.2.1)], s.2.2.2)) (Sum.elim (fun s => (102, [(0, vR t), (1, vL s.1), (3, vI s.2.1), (4, vI s.2.2.1), (5, vI s.2.2.2.1)], s.2.2.2.2)) (Sum.elim (fun s => (257, [(0, vR t), (1, vL s.1), (3, vI s.2.1), (4, vI s.2.2.1)], s.2.2.2)) (Sum.elim (fun s => (392, [(0, vR t), (5, vI s.1)], s.2)) (fun s => (416, [(0, vR t), (5, vI s.1), (6, vI s.2.1)], s.2.2)))))))) (fun en he hk => ?_)
  have h : hpg_tellFunctions x en t := ⟨hx, hm, hr, fun q => he _, fun z => he _, fun l1 l3 l4 W => hk (.inl (l1, l3, l4, W)), fun l1 l3 l4 W => hk (.inr (.inl (l1, l3, l4, W))), fun l1 l3 l4 l5 W => hk (.inr (.inr (.inl (l1, l3, l4, l5, W)))), fun l1 l3 l4 W => hk (.inr (.inr (.inr (.inl (l1, l3, l4, W))))), fun l5 W => hk (.inr (.inr (.inr (.inr (.inl (l5, W)))))), fun l5 l6 W => hk (.inr (.inr (.inr (.inr (.inr (l5, l6, W))))))⟩
  refine ⟨fun s => ?_, wpg_tellFunctions h W⟩
  rcases s with s | s | s | s | s | s
  · exact wpg_tellFunctions_37 h s.1 s.2.1 s.2.2.1 s.2.2.2
  · exact wpg_tellFunctions_73 h s.1 s.2.1 s.2.2.1 s.2.2.2
  · exact wpg_tellFunctions_102 h s.1 s.2.1 s.2.2.1 s.2.2.2.1 s.2.2.2.2
  · exact wpg_tellFunctions_257 h s.1 s.2.1 s.2.2.1 s.2.2.2
  · exact wpg_tellFunctions_392 h s.1 s.2
  · exact wpg_tellFunctions_416 h s.1 s.2.1 s.2.2
def hsh_target (x : jCx) (en : (Int64) → Option (Outcome × jW)) (t : Nat) (a1 : Int32) (W : jW) : Prop :=
  jOK x RX3 cX3_target 2 ∧
  jMt x "target" (Option.some Jvm.ClassFile.FieldType.long) [] ∧
  jRm x 7 96 ∧
  (∀ q : Int64, en q = some (.returned (some (.long q)), W))
theorem wsh_target {x : jCx} {en : (Int64) → Option (Outcome × jW)} {W : jW} {t : Nat} {a1 : Int32} (h : hsh_target x en t a1 W) : jJ x 2 0 [(0, vR t), (1, vI a1)] [] W (fsh_target t a1 W) en := by
  have h0 := h
  obtain ⟨hx, hm, hr, he⟩ := h0
  unfold fsh_target
  refine j_runA hx 3 (tb := [(0, .aload_n 0), (1, .aload_n 0), (2, .iload_n 1)]) (jtb_ok (by decide +kernel)) (pc' := 3) (lv' := [(0, vR t), (1, vI a1)]) (st' := [vI a1, vR t, vR t]) rfl ?_
  refine j_gd (fun h1 => ?_)
  refine j_OI (j_callV (av := [vI a1]) (st := [vR t]) hx hr (Or.inl q923) q924 q925 rfl md_fsh_fixSymbol np_fsh_fixSymbol (csh_fixSymbol t a1 W) (by decide) (Nat.le_of_ble_eq_true rfl) h1 (by decide) (by decide +kernel)) (fun q2 _ => ?_)
  refine j_OL (j_callV (av := [vI q2]) (st := []) hx hr (Or.inl q888) q889 q890 rfl md_fsh_valueOf np_fsh_valueOf (csh_valueOf t q2 W) (by decide) (Nat.le_of_ble_eq_true rfl) h1 (by decide) (by decide +kernel)) (fun q3 _ => ?_)
  refine j_runA hx 1 (tb := [(9, .aload_n 0)]) (jtb_ok (by decide +kernel)) (pc' := 10) (lv' := [(0, vR t), (1, vI a1)]) (st' := [vR t, vL q3]) rfl ?_
  refine j_getR hx flX3_57 kl401 h1 (by decide) (by decide +kernel) ?_
  refine j_runA hx 3 (tb := [(13, .iload_n 1), (14, .bipush 16), (16, .iadd)]) (jtb_ok (by decide +kernel)) (pc' := 17) (lv' := [(0, vR t), (1, vI a1)]) (st' := [vI (a1 + (kI 16)), vR (jR W 401 t), vL q3]) rfl ?_
  refine j_gd (fun h4 => ?_)
  refine j_OL (h4.elim (fun hh => j_callU (av := [vI (a1 + (kI 16))]) (st := [vL q3]) hx hr q761 q763 (hde_fsr_pair) (by decide) q762 q764 rfl md_fsr_pair np_fsr_pair (csr_pair (jR W 401 t) (a1 + (kI 16)) W) (by decide) (Nat.le_of_ble_eq_true rfl) hh (by decide) (by decide +kernel)) (fun hh => j_callU (av := [vI (a1 + (kI 16))]) (st := [vL q3]) hx hr q761 q763 (hde_fsr_pair) (by decide) q762 q765 rfl md_fsr_pair np_fsr_pair (csr_pair (jR W 401 t) (a1 + (kI 16)) W) (by decide) (Nat.le_of_ble_eq_true rfl) hh (by decide) (by decide +kernel))) (fun q5 _ => ?_)
  refine j_runA hx 1 (tb := [(20, .ladd)]) (jtb_ok (by decide +kernel)) (pc' := 21) (lv' := [(0, vR t), (1, vI a1)]) (st' := [vL (q3 + q5)]) rfl ?_
  exact j_lret hx hm (by decide +kernel) (he _)
theorem csh_target (t : Nat) (a1 : Int32) (W : jW) : jM yX3_target cX3_target 2 (Option.some Jvm.ClassFile.FieldType.long) [] 7 96 [vR t, vI a1] W ((fsh_target t a1 W).bind (fun q => some (.returned (some (.long q)), W))) := 
  jM.of (Nat.le_of_ble_eq_true rfl) (fun x hx hm hr => wsh_target ⟨hx, hm, hr, fun _ => rfl⟩)
def hwo_pageOf (x : jCx) (en : (Int64) → Option (Outcome × jW)) (a0 : Int64) (W : jW) : Prop :=
  jOK x RX12 cX12_pageOf 2 ∧
  jMt x "pageOf" (Option.some Jvm.ClassFile.FieldType.long) [] ∧
  jRm x 0 0 ∧
  (∀ q : Int64, en q = some (.returned (some (.long q)), W))
theorem wwo_pageOf {x : jCx} {en : (Int64) → Option (Outcome × jW)} {W : jW} {a0 : Int64} (h : hwo_pageOf x en a0 W) : jJ x 2 0 [(0, vL a0)] [] W (some (fwo_pageOf a0)) en := by
  have h0 := h
  obtain ⟨hx, hm, hr, he⟩ := h0
  unfold fwo_pageOf
  refine j_runA hx 1 (tb := [(0, .lload_n 0)]) (jtb_ok (by decide +kernel)) (pc' := 1) (lv' := [(0, vL a0)]) (st' := [vL a0]) rfl ?_
  refine j_ldc2 hx (v := (kJ (-4096))) (jkd2 q1069 (by decide +kernel)) (by decide +kernel) ?_
  refine j_runA hx 1 (tb := [(4, .land)]) (jtb_ok (by decide +kernel)) (pc' := 5) (lv' := [(0, vL a0)]) (st' := [vL (a0 &&& (kJ (-4096)))]) rfl ?_
  exact j_lret hx hm (by decide +kernel) (he _)
theorem cwo_pageOf (a0 : Int64) (W : jW) : jM yX12_pageOf cX12_pageOf 2 (Option.some Jvm.ClassFile.FieldType.long) [] 0 0 [vL a0] W (some (.returned (some (.long (fwo_pageOf a0))), W)) := 
  jM.of (mm := some (fwo_pageOf a0)) (en := fun q => some (.returned (some (.long q)), W)) (Nat.le_of_ble_eq_true rfl) (fun x hx hm hr => wwo_pageOf ⟨hx, hm, hr, fun _ => rfl⟩)
def hwo_signed (x : jCx) (en : (Int32) → Option (Outcome × jW)) (a0 : Int32) (a1 : Int32) (W : jW) : Prop :=
  jOK x RX12 cX12_signed 2 ∧
  jMt x "signed" (Option.some Jvm.ClassFile.FieldType.int) [] ∧
  jRm x 0 0 ∧
  (∀ q : Int32, en q = some (.returned (some (.int q)), W))
theorem wwo_signed {x : jCx} {en : (Int32) → Option (Outcome × jW)} {W : jW} {a0 : Int32} {a1 : Int32} (h : hwo_signed x en a0 a1 W) : jJ x 2 0 [(0, vI a0), (1, vI a1)] [] W (some (fwo_signed a0 a1)) en := by
  have h0 := h
  obtain ⟨hx, hm, hr, he⟩ := h0
  unfold fwo_signed
  refine j_runA hx 9 (tb := [(0, .iload_n 0), (1, .bipush 32), (3, .iload_n 1), (4, .isub), (5, .ishl), (6, .bipush 32), (8, .iload_n 1), (9, .isub), (10, .ishr)]) (jtb_ok (by decide +kernel)) (pc' := 11) (lv' := [(0, vI a0), (1, vI a1)]) (st' := [vI (ixr (ixl a0 ((kI 32) - a1)) ((kI 32) - a1))]) rfl ?_
  exact j_iret hx hm (by decide +kernel) rfl (he _)
theorem cwo_signed (a0 : Int32) (a1 : Int32) (W : jW) : jM yX12_signed cX12_signed 2 (Option.some Jvm.ClassFile.FieldType.int) [] 0 0 [vI a0, vI a1] W (some (.returned (some (.int (fwo_signed a0 a1))), W)) := 
  jM.of (mm := some (fwo_signed a0 a1)) (en := fun q => some (.returned (some (.int q)), W)) (Nat.le_of_ble_eq_true rfl) (fun x hx hm hr => wwo_signed ⟨hx, hm, hr, fun _ => rfl⟩)
def hwo_pageBy (x : jCx) (en : (Int64) → Option (Outcome × jW)) (a0 : Int32) (W : jW) : Prop :=
  jOK x RX12 cX12_pageBy 1 ∧
  jMt x "pageBy" (Option.some Jvm.ClassFile.FieldType.long) [] ∧
  jRm x 1 13 ∧
  (∀ q : Int64, en q = some (.returned (some (.long q)), W))
theorem wwo_pageBy {x : jCx} {en : (Int64) → Option (Outcome × jW)} {W : jW} {a0 : Int32} (h : hwo_pageBy x en a0 W) : jJ x 1 0 [(0, vI a0)] [] W (some (fwo_pageBy a0)) en := by
  have h0 := h
  obtain ⟨hx, hm, hr, he⟩ := h0
  unfold fwo_pageBy
  refine j_runA hx 3 (tb := [(0, .iload_n 0), (1, .iconst 5), (2, .ishr)]) (jtb_ok (by decide +kernel)) (pc' := 3) (lv' := [(0, vI a0)]) (st' := [vI (ixr a0 (kI 5))]) rfl ?_
  refine j_ldc hx (v := (kI 524287)) (jkc q1073 (by decide +kernel)) (by decide +kernel) ?_
  refine j_runA hx 10 (tb := [(5, .iand), (6, .iconst 2), (7, .ishl), (8, .iload_n 0), (9, .bipush 29), (11, .ishr), (12, .iconst 3), (13, .iand), (14, .ior), (15, .bipush 21)]) (jtb_ok (by decide +kernel)) (pc' := 17) (lv' := [(0, vI a0)]) (st' := [vI (kI 21), vI ((ixl ((ixr a0 (kI 5)) &&& (kI 524287)) (kI 2)) ||| ((ixr a0 (kI 29)) &&& (kI 3)))]) rfl ?_
  refine j_TI (j_callS (av := [vI ((ixl ((ixr a0 (kI 5)) &&& (kI 524287)) (kI 2)) ||| ((ixr a0 (kI 29)) &&& (kI 3))), vI (kI 21)]) (st := []) hx hr (Or.inl q1074) q1075 q247 md_fwo_signed np_fwo_signed (cwo_signed ((ixl ((ixr a0 (kI 5)) &&& (kI 524287)) (kI 2)) ||| ((ixr a0 (kI 29)) &&& (kI 3))) (kI 21) W) (by decide) (Nat.le_of_ble_eq_true rfl) (by decide +kernel)) ?_
  refine j_runA hx 3 (tb := [(20, .i2l), (21, .bipush 12), (23, .lshl)]) (jtb_ok (by decide +kernel)) (pc' := 24) (lv' := [(0, vI a0)]) (st' := [vL (lxl ((fwo_signed ((ixl ((ixr a0 (kI 5)) &&& (kI 524287)) (kI 2)) ||| ((ixr a0 (kI 29)) &&& (kI 3))) (kI 21)).toInt64) (kI 12))]) rfl ?_
  exact j_lret hx hm (by decide +kernel) (he _)
theorem cwo_pageBy (a0 : Int32) (W : jW) : jM yX12_pageBy cX12_pageBy 1 (Option.some Jvm.ClassFile.FieldType.long) [] 1 13 [vI a0] W (some (.returned (some (.long (fwo_pageBy a0))), W)) := 
  jM.of (mm := some (fwo_pageBy a0)) (en := fun q => some (.returned (some (.long q)), W)) (Nat.le_of_ble_eq_true rfl) (fun x hx hm hr => wwo_pageBy ⟨hx, hm, hr, fun _ => rfl⟩)
def hwo_isPlainAdd (x : jCx) (en : (Int32) → Option (Outcome × jW)) (a0 : Int32) (W : jW) : Prop :=
  jOK x RX12 cX12_isPlainAdd 1 ∧
  jMt x "isPlainAdd" (Option.some Jvm.ClassFile.FieldType.boolean) [] ∧
  jRm x 3 39 ∧
  (∀ q : Int32, en q = some (.returned (some (.int q)), W))
theorem wwo_isPlainAdd_37 {x : jCx} {en : (Int32) → Option (Outcome × jW)} {W : jW} {a0 : Int32} (h : hwo_isPlainAdd x en a0 W) : jJ x 1 37 [(0, vI a0)] [] W (some (fwo_isPlainAdd_37 a0)) en := by
  have h0 := h
  obtain ⟨hx, hm, hr, he⟩ := h0
  unfold fwo_isPlainAdd_37
  refine j_runA hx 1 (tb := [(37, .iconst 0)]) (jtb_ok (by decide +kernel)) (pc' := 38) (lv' := [(0, vI a0)]) (st' := [vI (kI 0)]) rfl ?_
  exact j_iret hx hm (by decide +kernel) jz0n (he _)
theorem wwo_isPlainAdd {x : jCx} {en : (Int32) → Option (Outcome × jW)} {W : jW} {a0 : Int32} (h : hwo_isPlainAdd x en a0 W) : jJ x 1 0 [(0, vI a0)] [] W (some (fwo_isPlainAdd a0)) en := by
  have h0 := h
  obtain ⟨hx, hm, hr, he⟩ := h0
  unfold fwo_isPlainAdd
  refine j_runA hx 1 (tb := [(0, .iload_n 0)]) (jtb_ok (by decide +kernel)) (pc' := 1) (lv' := [(0, vI a0)]) (st' := [vI a0]) rfl ?_
  refine j_TI (j_callS (av := [vI a0]) (st := []) hx hr (Or.inl q1080) q948 q247 md_fwo_kindOf np_fwo_kindOf (cwo_kindOf a0 W) (by decide) (Nat.le_of_ble_eq_true rfl) (by decide +kernel)) ?_
  refine j_runA hx 1 (tb := [(4, .iconst 1)]) (jtb_ok (by decide +kernel)) (pc' := 5) (lv' := [(0, vI a0)]) (st' := [vI (kI 1), vI (fwo_kindOf a0)]) rfl ?_
  refine j_tot (j_icmp_ne hx (off := 32) (tgt := 37) (by decide +kernel) (by decide) (fun _ => ?_) (fun _ => ?_))
  · exact wwo_isPlainAdd_37 h
  refine j_runA hx 1 (tb := [(8, .iload_n 0)]) (jtb_ok (by decide +kernel)) (pc' := 9) (lv' := [(0, vI a0)]) (st' := [vI a0]) rfl ?_
  refine j_TI (j_callS (av := [vI a0]) (st := []) hx hr (Or.inl q960) q961 q247 md_fwo_isLong np_fwo_isLong (cwo_isLong a0 W) (by decide) (Nat.le_of_ble_eq_true rfl) (by decide +kernel)) ?_
  refine j_tot (j_if_eq hx (off := 25) (tgt := 37) (by decide +kernel) (by decide) (fun _ => ?_) (fun _ => ?_))
  · exact wwo_isPlainAdd_37 h
  refine j_runA hx 5 (tb := [(15, .iload_n 0), (16, .bipush 29), (18, .ishr), (19, .iconst 3), (20, .iand)]) (jtb_ok (by decide +kernel)) (pc' := 21) (lv' := [(0, vI a0)]) (st' := [vI ((ixr a0 (kI 29)) &&& (kI 3))]) rfl ?_
  refine j_tot (j_if_ne hx (off := 16) (tgt := 37) (by decide +kernel) (by decide) (fun _ => ?_) (fun _ => ?_))
  · exact wwo_isPlainAdd_37 h
  refine j_runA hx 5 (tb := [(24, .iload_n 0), (25, .bipush 22), (27, .ishr), (28, .iconst 1), (29, .iand)]) (jtb_ok (by decide +kernel)) (pc' := 30) (lv' := [(0, vI a0)]) (st' := [vI ((ixr a0 (kI 22)) &&& (kI 1))]) rfl ?_
  refine j_tot (j_if_ne hx (off := 7) (tgt := 37) (by decide +kernel) (by decide) (fun _ => ?_) (fun _ => ?_))
  · exact wwo_isPlainAdd_37 h
  refine j_runA hx 1 (tb := [(33, .iconst 1)]) (jtb_ok (by decide +kernel)) (pc' := 34) (lv' := [(0, vI a0)]) (st' := [vI (kI 1)]) rfl ?_
  refine j_goto hx (off := 4) (by decide +kernel) (tgt := 38) (by decide) ?_
  exact j_iret hx hm (by decide +kernel) jz1n (he _)
theorem cwo_isPlainAdd (a0 : Int32) (W : jW) : jM yX12_isPlainAdd cX12_isPlainAdd 1 (Option.some Jvm.ClassFile.FieldType.boolean) [] 3 39 [vI a0] W (some (.returned (some (.int (fwo_isPlainAdd a0))), W)) := 
  jM.of (mm := some (fwo_isPlainAdd a0)) (en := fun q => some (.returned (some (.int q)), W)) (Nat.le_of_ble_eq_true rfl) (fun x hx hm hr => wwo_isPlainAdd ⟨hx, hm, hr, fun _ => rfl⟩)
def hwo_twelve (x : jCx) (en : (Int32) → Option (Outcome × jW)) (a0 : Int32) (W : jW) : Prop :=
  jOK x RX12 cX12_twelve 1 ∧
  jMt x "twelve" (Option.some Jvm.ClassFile.FieldType.int) [] ∧
  jRm x 0 0 ∧
  (∀ q : Int32, en q = some (.returned (some (.int q)), W))
theorem wwo_twelve {x : jCx} {en : (Int32) → Option (Outcome × jW)} {W : jW} {a0 : Int32} (h : hwo_twelve x en a0 W) : jJ x 1 0 [(0, vI a0)] [] W (some (fwo_twelve a0)) en := by
  have h0 := h
  obtain ⟨hx, hm, hr, he⟩ := h0
  unfold fwo_twelve
  refine j_runA hx 5 (tb := [(0, .iload_n 0), (1, .bipush 10), (3, .ishr), (4, .sipush 4095), (7, .iand)]) (jtb_ok (by decide +kernel)) (pc' := 8) (lv' := [(0, vI a0)]) (st' := [vI ((ixr a0 (kI 10)) &&& (kI 4095))]) rfl ?_
  exact j_iret hx hm (by decide +kernel) rfl (he _)
theorem cwo_twelve (a0 : Int32) (W : jW) : jM yX12_twelve cX12_twelve 1 (Option.some Jvm.ClassFile.FieldType.int) [] 0 0 [vI a0] W (some (.returned (some (.int (fwo_twelve a0))), W)) := 
  jM.of (mm := some (fwo_twelve a0)) (en := fun q => some (.returned (some (.int q)), W)) (Nat.le_of_ble_eq_true rfl) (fun x hx hm hr => wwo_twelve ⟨hx, hm, hr, fun _ => rfl⟩)
def hwo_bitsOf (x : jCx) (en : (Int32) → Option (Outcome × jW)) (a0 : Int32) (W : jW) : Prop :=
  jOK x RX12 cX12_bitsOf 1 ∧
  jMt x "bitsOf" (Option.some Jvm.ClassFile.FieldType.int) [] ∧
  jRm x 0 0 ∧
  (∀ q : Int32, en q = some (.returned (some (.int q)), W))
theorem wwo_bitsOf_12 {x : jCx} {en : (Int32) → Option (Outcome × jW)} {W : jW} {a0 : Int32} (h : hwo_bitsOf x en a0 W) : jJ x 1 12 [(0, vI a0)] [] W (some (fwo_bitsOf_12 a0)) en := by
  have h0 := h
  obtain ⟨hx, hm, hr, he⟩ := h0
  unfold fwo_bitsOf_12
  refine j_runA hx 1 (tb := [(12, .bipush 26)]) (jtb_ok (by decide +kernel)) (pc' := 14) (lv' := [(0, vI a0)]) (st' := [vI (kI 26)]) rfl ?_
  refine j_goto hx (off := 16) (by decide +kernel) (tgt := 30) (by decide) ?_
  exact j_iret hx hm (by decide +kernel) rfl (he _)
theorem wwo_bitsOf {x : jCx} {en : (Int32) → Option (Outcome × jW)} {W : jW} {a0 : Int32} (h : hwo_bitsOf x en a0 W) : jJ x 1 0 [(0, vI a0)] [] W (some (fwo_bitsOf a0)) en := by
  have h0 := h
  obtain ⟨hx, hm, hr, he⟩ := h0
  unfold fwo_bitsOf
  refine j_runA hx 2 (tb := [(0, .iload_n 0), (1, .bipush 12)]) (jtb_ok (by decide +kernel)) (pc' := 3) (lv' := [(0, vI a0)]) (st' := [vI (kI 12), vI a0]) rfl ?_
  refine j_tot (j_icmp_eq hx (off := 9) (tgt := 12) (by decide +kernel) (by decide) (fun _ => ?_) (fun _ => ?_))
  · exact wwo_bitsOf_12 h
  refine j_runA hx 2 (tb := [(6, .iload_n 0), (7, .bipush 13)]) (jtb_ok (by decide +kernel)) (pc' := 9) (lv' := [(0, vI a0)]) (st' := [vI (kI 13), vI a0]) rfl ?_
  refine j_tot (j_icmp_ne hx (off := 8) (tgt := 17) (by decide +kernel) (by decide) (fun _ => ?_) (fun _ => ?_))
  · refine j_runA hx 2 (tb := [(17, .iload_n 0), (18, .bipush 16)]) (jtb_ok (by decide +kernel)) (pc' := 20) (lv' := [(0, vI a0)]) (st' := [vI (kI 16), vI a0]) rfl ?_
    refine j_tot (j_icmp_ne hx (off := 8) (tgt := 28) (by decide +kernel) (by decide) (fun _ => ?_) (fun _ => ?_))
    · refine j_runA hx 1 (tb := [(28, .bipush 19)]) (jtb_ok (by decide +kernel)) (pc' := 30) (lv' := [(0, vI a0)]) (st' := [vI (kI 19)]) rfl ?_
      exact j_iret hx hm (by decide +kernel) rfl (he _)
    refine j_runA hx 1 (tb := [(23, .bipush 14)]) (jtb_ok (by decide +kernel)) (pc' := 25) (lv' := [(0, vI a0)]) (st' := [vI (kI 14)]) rfl ?_
    refine j_goto hx (off := 5) (by decide +kernel) (tgt := 30) (by decide) ?_
    exact j_iret hx hm (by decide +kernel) rfl (he _)
  exact wwo_bitsOf_12 h
theorem cwo_bitsOf (a0 : Int32) (W : jW) : jM yX12_bitsOf cX12_bitsOf 1 (Option.some Jvm.ClassFile.FieldType.int) [] 0 0 [vI a0] W (some (.returned (some (.int (fwo_bitsOf a0))), W)) := 
  jM.of (mm := some (fwo_bitsOf a0)) (en := fun q => some (.returned (some (.int q)), W)) (Nat.le_of_ble_eq_true rfl) (fun x hx hm hr => wwo_bitsOf ⟨hx, hm, hr, fun _ => rfl⟩)
def hwo_by (x : jCx) (en : (Int32) → Option (Outcome × jW)) (a0 : Int32) (a1 : Int32) (W : jW) : Prop :=
  jOK x RX12 cX12_by 3 ∧
  jMt x "by" (Option.some Jvm.ClassFile.FieldType.int) [] ∧
  jRm x 1 15 ∧
  (∀ q : Int32, en q = some (.returned (some (.int q)), W))
theorem wwo_by_19 {x : jCx} {en : (Int32) → Option (Outcome × jW)} {W : jW} {a0 : Int32} {a1 : Int32} (h : hwo_by x en a0 a1 W) (s0 : Int32) : jJ x 3 19 [(0, vI a0), (1, vI a1)] [vI s0] W (some (fwo_by_19 a0 a1 s0)) en := by
  have h0 := h
  obtain ⟨hx, hm, hr, he⟩ := h0
  unfold fwo_by_19
  refine j_runA hx 5 (tb := [(19, .istore_n 2), (20, .iconst 4), (21, .iload_n 2), (22, .iconst 1), (23, .iload_n 1)]) (jtb_ok (by decide +kernel)) (pc' := 24) (lv' := [(2, vI s0), (0, vI a0), (1, vI a1)]) (st' := [vI a1, vI (kI 1), vI s0, vI (kI 4)]) rfl ?_
  refine j_TI (j_callS (av := [vI a1]) (st := [vI (kI 1), vI s0, vI (kI 4)]) hx hr (Or.inl q1088) q1089 q247 md_fwo_bitsOf np_fwo_bitsOf (cwo_bitsOf a1 W) (by decide) (Nat.le_of_ble_eq_true rfl) (by decide +kernel)) ?_
  refine j_runA hx 5 (tb := [(27, .ishl), (28, .iconst 1), (29, .isub), (30, .iand), (31, .iload_n 1)]) (jtb_ok (by decide +kernel)) (pc' := 32) (lv' := [(2, vI s0), (0, vI a0), (1, vI a1)]) (st' := [vI a1, vI (s0 &&& ((ixl (kI 1) (fwo_bitsOf a1)) - (kI 1))), vI (kI 4)]) rfl ?_
  refine j_TI (j_callS (av := [vI a1]) (st := [vI (s0 &&& ((ixl (kI 1) (fwo_bitsOf a1)) - (kI 1))), vI (kI 4)]) hx hr (Or.inl q1088) q1089 q247 md_fwo_bitsOf np_fwo_bitsOf (cwo_bitsOf a1 W) (by decide) (Nat.le_of_ble_eq_true rfl) (by decide +kernel)) ?_
  refine j_TI (j_callS (av := [vI (s0 &&& ((ixl (kI 1) (fwo_bitsOf a1)) - (kI 1))), vI (fwo_bitsOf a1)]) (st := [vI (kI 4)]) hx hr (Or.inl q1074) q1075 q247 md_fwo_signed np_fwo_signed (cwo_signed (s0 &&& ((ixl (kI 1) (fwo_bitsOf a1)) - (kI 1))) (fwo_bitsOf a1) W) (by decide) (Nat.le_of_ble_eq_true rfl) (by decide +kernel)) ?_
  refine j_runA hx 1 (tb := [(38, .imul)]) (jtb_ok (by decide +kernel)) (pc' := 39) (lv' := [(2, vI s0), (0, vI a0), (1, vI a1)]) (st' := [vI ((kI 4) * (fwo_signed (s0 &&& ((ixl (kI 1) (fwo_bitsOf a1)) - (kI 1))) (fwo_bitsOf a1)))]) rfl ?_
  exact j_iret hx hm (by decide +kernel) rfl (he _)
theorem wwo_by_12 {x : jCx} {en : (Int32) → Option (Outcome × jW)} {W : jW} {a0 : Int32} {a1 : Int32} (h : hwo_by x en a0 a1 W) : jJ x 3 12 [(0, vI a0), (1, vI a1)] [] W (some (fwo_by_12 a0 a1)) en := by
  have h0 := h
  obtain ⟨hx, hm, hr, he⟩ := h0
  unfold fwo_by_12
  refine j_runA hx 1 (tb := [(12, .iload_n 0)]) (jtb_ok (by decide +kernel)) (pc' := 13) (lv' := [(0, vI a0), (1, vI a1)]) (st' := [vI a0]) rfl ?_
  refine j_goto hx (off := 6) (by decide +kernel) (tgt := 19) (by decide) ?_
  exact wwo_by_19 h a0
theorem wwo_by {x : jCx} {en : (Int32) → Option (Outcome × jW)} {W : jW} {a0 : Int32} {a1 : Int32} (h : hwo_by x en a0 a1 W) : jJ x 3 0 [(0, vI a0), (1, vI a1)] [] W (some (fwo_by a0 a1)) en := by
  have h0 := h
  obtain ⟨hx, hm, hr, he⟩ := h0
  unfold fwo_by
  refine j_runA hx 2 (tb := [(0, .iload_n 1), (1, .bipush 12)]) (jtb_ok (by decide +kernel)) (pc' := 3) (lv' := [(0, vI a0), (1, vI a1)]) (st' := [vI (kI 12), vI a1]) rfl ?_
  refine j_tot (j_icmp_eq hx (off := 9) (tgt := 12) (by decide +kernel) (by decide) (fun _ => ?_) (fun _ => ?_))
  · exact wwo_by_12 h
  refine j_runA hx 2 (tb := [(6, .iload_n 1), (7, .bipush 13)]) (jtb_ok (by decide +kernel)) (pc' := 9) (lv' := [(0, vI a0), (1, vI a1)]) (st' := [vI (kI 13), vI a1]) rfl ?_
  refine j_tot (j_icmp_ne hx (off := 7) (tgt := 16) (by decide +kernel) (by decide) (fun _ => ?_) (fun _ => ?_))
  · refine j_runA hx 3 (tb := [(16, .iload_n 0), (17, .iconst 5), (18, .ishr)]) (jtb_ok (by decide +kernel)) (pc' := 19) (lv' := [(0, vI a0), (1, vI a1)]) (st' := [vI (ixr a0 (kI 5))]) rfl ?_
    exact wwo_by_19 h (ixr a0 (kI 5))
  exact wwo_by_12 h
theorem cwo_by (a0 : Int32) (a1 : Int32) (W : jW) : jM yX12_by cX12_by 3 (Option.some Jvm.ClassFile.FieldType.int) [] 1 15 [vI a0, vI a1] W (some (.returned (some (.int (fwo_by a0 a1))), W)) := 
  jM.of (mm := some (fwo_by a0 a1)) (en := fun q => some (.returned (some (.int q)), W)) (Nat.le_of_ble_eq_true rfl) (fun x hx hm hr => wwo_by ⟨hx, hm, hr, fun _ => rfl⟩)
def hwo_bytesOf (x : jCx) (en : (Int32) → Option (Outcome × jW)) (a0 : Int32) (W : jW) : Prop :=
  jOK x RX12 cX12_bytesOf 1 ∧
  jMt x "bytesOf" (Option.some Jvm.ClassFile.FieldType.int) [] ∧
  jRm x 0 0 ∧
  (∀ q : Int32, en q = some (.returned (some (.int q)), W))
theorem wwo_bytesOf {x : jCx} {en : (Int32) → Option (Outcome × jW)} {W : jW} {a0 : Int32} (h : hwo_bytesOf x en a0 W) : jJ x 1 0 [(0, vI a0)] [] W (some (fwo_bytesOf a0)) en := by
  have h0 := h
  obtain ⟨hx, hm, hr, he⟩ := h0
  unfold fwo_bytesOf
  refine j_runA hx 5 (tb := [(0, .iconst 1), (1, .iload_n 0), (2, .bipush 30), (4, .iushr), (5, .ishl)]) (jtb_ok (by decide +kernel)) (pc' := 6) (lv' := [(0, vI a0)]) (st' := [vI (ixl (kI 1) (ixu a0 (kI 30)))]) rfl ?_
  exact j_iret hx hm (by decide +kernel) rfl (he _)
theorem cwo_bytesOf (a0 : Int32) (W : jW) : jM yX12_bytesOf cX12_bytesOf 1 (Option.some Jvm.ClassFile.FieldType.int) [] 0 0 [vI a0] W (some (.returned (some (.int (fwo_bytesOf a0))), W)) := 
  jM.of (mm := some (fwo_bytesOf a0)) (en := fun q => some (.returned (some (.int q)), W)) (Nat.le_of_ble_eq_true rfl) (fun x hx hm hr => wwo_bytesOf ⟨hx, hm, hr, fun _ => rfl⟩)
