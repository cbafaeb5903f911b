/-! ===== pure functions: fwr_write fcl_lay fcl_order fcl_laid fog_weight fcl_weight fcl_moved fcl_size fcl_out fcl_check fcl_same fcl_strays fma_isNew fme_regions fme_stack fme_sizeOf fme_begin fme_addressOf fme_regionOf fme_cellOf fme_tell fma_tellCode fma_begin fma_bytes fma_blockFrom fma_blockOf fma_blockHere fma_isText fha_by fma_must fma_code fma_base fma_sum fma_put fma_putBase fma_addNumber fwo_m fma_get fma_number fma_moved fma_add fma_isMovable fma_and fma_move fma_page fma_quotient fma_two fma_holds fma_choose fma_isStorable fma_isInTexts fme_hasCode fme_mayStore fma_looked fme_placeOf fme_store fma_storeFrom fme_load fma_loaded fme_kindAt fma_isCode fme_blockAt fma_loadTo fma_access fma_pair fma_host fma_link fwr_behindEnd fma_isKnown fma_to fma_gone fma_step fma_run fcl_run fcl_isRun fcl_told fcl_isRegister fcl_register fcl_kind fcl_newOf fcl_newer fcl_visit fme_at fcl_memory fcl_longAt fcl_keeps fcl_newest fcl_trace fcl_text fwn_init fmo_next fwn_shape fwn_length fwn_putAll fwn_goal fmo_last fmo_fits fmo_bits fmo_isMoved fmo_isLoad fmo_isPair ===== -/
set_option maxRecDepth 100000
abbrev fwr_write_S : Type := (Int32 × jW) ⊕ (Int32 × jW) ⊕ (Int32 × Int32 × jW) ⊕ (Int32 × Int32 × jW)
noncomputable def fwr_write_126 (t : Nat) (a1 : Nat) (a2 : Int32) (a3 : Int32) (l4 : Int32) (s0 : Int32) (s1 : Int32) (s2 : Nat) (W : jW) : Option (fwr_write_S ⊕ (jW)) :=
  gd (jR W 906 t = s2) <|
  gd (jin s1 (jN W 906 t)) <|
  jlt (pA W 906 t (ix s1) s0) fun W53 =>
  gd (jC W53 t = 9) <|
  gd (jR W53 9003 (jR W53 901 t) = (jR W53 901 t)) <|
  gd (jin l4 (jN W53 9003 (jR W53 901 t))) <|
  gd (jin (jA W53 9003 (jR W53 901 t) (ix l4)) (jN W53 907 t)) <|
  jlt (pA W53 907 t (ix (jA W53 9003 (jR W53 901 t) (ix l4))) (i2z (kI 0))) fun W60 =>
  jlt (l4 + (kI 1)) fun v64 =>
  some (.inl (.inl (v64, W60)))
noncomputable def fwr_write_125 (t : Nat) (a1 : Nat) (a2 : Int32) (a3 : Int32) (l4 : Int32) (s0 : Int32) (s1 : Nat) (W : jW) : Option (fwr_write_S ⊕ (jW)) :=
  fwr_write_126 t a1 a2 a3 l4 (kI (-1)) s0 s1 W
noncomputable def fwr_write_195 (t : Nat) (a1 : Nat) (a2 : Int32) (a3 : Int32) (l4 : Int32) (l5 : Int32) (W : jW) : Option (fwr_write_S ⊕ (jW)) :=
  jlt (l5 + (kI 1)) fun v79 => some (.inl (.inr (.inr (.inl (l4, v79, W)))))
noncomputable def fwr_write_235 (t : Nat) (a1 : Nat) (a2 : Int32) (a3 : Int32) (l4 : Int32) (l5 : Int32) (W : jW) : Option (fwr_write_S ⊕ (jW)) :=
  jlt (l5 + (kI 1)) fun v89 => some (.inl (.inr (.inr (.inr (l4, v89, W)))))
noncomputable def fwr_write_241 (t : Nat) (a1 : Nat) (a2 : Int32) (a3 : Int32) (l4 : Int32) (W : jW) : Option (fwr_write_S ⊕ (jW)) :=
  if l4 = (0 : Int32) then
    (some (.inl (.inr (.inl (l4, W)))))
  else
    (gd (jC W t = 9) <| (fwr_place t W).bind fun q92 => some (.inl (.inr (.inl (l4, q92)))))
noncomputable def fwr_write_204 (t : Nat) (a1 : Nat) (a2 : Int32) (a3 : Int32) (l4 : Int32) (l5 : Int32) (W : jW) : Option (fwr_write_S ⊕ (jW)) :=
  gd (jC W t = 9) <|
  if l5 < (jI W 902 t) then
    (if l4 = (0 : Int32) then
    (fwr_write_241 t a1 a2 a3 l4 W)
  else
    ((fwr_reaches t l5 W).bind fun q82 =>
  if q82 = (0 : Int32) then
    (gd (jin l5 (jN W 907 t)) <| jlt (pA W 907 t (ix l5) (i2z (kI 1))) fun W84 => fwr_write_235 t a1 a2 a3 l4 l5 W84)
  else
    (fwr_write_235 t a1 a2 a3 l4 l5 W)))
  else
    (fwr_write_241 t a1 a2 a3 l4 W)
noncomputable def fwr_write_164 (t : Nat) (a1 : Nat) (a2 : Int32) (a3 : Int32) (l4 : Int32) (l5 : Int32) (W : jW) : Option (fwr_write_S ⊕ (jW)) :=
  gd (jC W t = 9) <|
  if l5 < (jI W 902 t) then
    (gd (jin l5 (jN W 907 t)) <|
  if (jA W 907 t (ix l5)) = (0 : Int32) then
    ((fwr_reaches t l5 W).bind fun q77 =>
  if q77 = (0 : Int32) then
    (fwr_write_195 t a1 a2 a3 (kI 1) l5 W)
  else
    (fwr_write_195 t a1 a2 a3 l4 l5 W))
  else
    (fwr_write_195 t a1 a2 a3 l4 l5 W))
  else
    (some (.inl (.inr (.inr (.inr (l4, (kI 0), W))))))
noncomputable def fwr_write_283 (t : Nat) (a1 : Nat) (a2 : Int32) (a3 : Int32) (W : jW) : Option (fwr_write_S ⊕ (jW)) :=
  gd (jC W t = 9) <| (fwr_emitAll t W).bind fun q96 => gd (jC q96 t = 9) <| (fwr_file t q96).bind fun q99 => some (.inr q99)
noncomputable def fwr_write_153 (t : Nat) (a1 : Nat) (a2 : Int32) (a3 : Int32) (l4 : Int32) (W : jW) : Option (fwr_write_S ⊕ (jW)) :=
  if l4 = (0 : Int32) then
    (gd (jC W t = 9) <|
    gd (¬ jR W 908 t = 0) <|
    if (nI (jN W 908 t)) < (jI W 909 t) then
      (gd (jra W ((jI W 909 t) + ((jI W 909 t) / (kI 8)))) <|
    jlt (nwA W 908 t (ix ((jI W 909 t) + ((jI W 909 t) / (kI 8))))) fun W70 =>
    fwr_write_283 t a1 a2 a3 W70)
    else
      (fwr_write_283 t a1 a2 a3 W))
  else
    (some (.inl (.inr (.inr (.inl ((kI 0), (kI 0), W))))))
noncomputable def fwr_write_71 (t : Nat) (a1 : Nat) (a2 : Int32) (a3 : Int32) (l4 : Int32) (W : jW) : Option (fwr_write_S ⊕ (jW)) :=
  gd (jC W t = 9) <|
  if l4 < (jI W 902 t) then
    (gd (jR W 9003 (jR W 901 t) = (jR W 901 t)) <|
  gd (jin l4 (jN W 9003 (jR W 901 t))) <|
  if (l4 + (kI 1)) < (jI W 902 t) then
    (if (l4 + (kI 1)) = (jI W 903 t) then
    (fwr_write_125 t a1 a2 a3 l4 (jA W 9003 (jR W 901 t) (ix l4)) (jR W 906 t) W)
  else
    (gd (jR W 9003 (jR W 901 t) = (jR W 901 t)) <|
  gd (jin (l4 + (kI 1)) (jN W 9003 (jR W 901 t))) <|
  fwr_write_126 t a1 a2 a3 l4 (jA W 9003 (jR W 901 t) (ix (l4 + (kI 1)))) (jA W 9003 (jR W 901 t) (ix l4)) (jR W 906 t) W))
  else
    (fwr_write_125 t a1 a2 a3 l4 (jA W 9003 (jR W 901 t) (ix l4)) (jR W 906 t) W))
  else
    ((fwr_place t W).bind fun q44 => some (.inl (.inr (.inl ((kI 1), q44)))))
noncomputable def fwr_write_68 (t : Nat) (a1 : Nat) (a2 : Int32) (a3 : Int32) (W : jW) : Option (fwr_write_S ⊕ (jW)) :=
  some (.inl (.inl ((kI 0), W)))
noncomputable def fwr_write_st (t : Nat) (a1 : Nat) (a2 : Int32) (a3 : Int32) : fwr_write_S → Option (fwr_write_S ⊕ (jW)) :=
  (Sum.elim (fun s => fwr_write_71 t a1 a2 a3 s.1 s.2) (Sum.elim (fun s => fwr_write_153 t a1 a2 a3 s.1 s.2) (Sum.elim (fun s => fwr_write_164 t a1 a2 a3 s.1 s.2.1 s.2.2) (fun s => fwr_write_204 t a1 a2 a3 s.1 s.2.1 s.2.2))))
noncomputable def fwr_write_0 (t : Nat) (a1 : Nat) (a2 : Int32) (a3 : Int32) (W : jW) : Option (fwr_write_S ⊕ (jW)) :=
  gd (jC W t = 9) <|
  jlt (sR W 901 t a1) fun W2 =>
  gd (jC W2 (jR W2 900 t) = 2) <|
  jlt (sI W2 902 t (jI W2 217 (jR W2 900 t))) fun W7 =>
  jlt (sI W7 903 t a2) fun W12 =>
  jlt (sI W12 904 t a3) fun W17 =>
  gd (¬ jR W17 905 t = 0) <|
  if (nI (jN W17 905 t)) < (jI W17 902 t) then
    (gd (jra W17 (jI W17 902 t)) <|
  jlt (nwA W17 905 t (ix (jI W17 902 t))) fun W24 =>
  gd (jra W24 (jI W24 902 t)) <|
  jlt (nwA W24 906 t (ix (jI W24 902 t))) fun W30 =>
  gd (jra W30 (jI W30 902 t)) <|
  jlt (nwA W30 907 t (ix (jI W30 902 t))) fun W36 =>
  fwr_write_68 t a1 a2 a3 W36)
  else
    (fwr_write_68 t a1 a2 a3 W17)
noncomputable def fwr_write (t : Nat) (a1 : Nat) (a2 : Int32) (a3 : Int32) (W : jW) : Option (jW) :=
  jrn (fwr_write_st t a1 a2 a3) (fwr_write_0 t a1 a2 a3 W)
noncomputable def fcl_lay_42 (t : Nat) (a1 : Int32) (a2 : Int32) (W : jW) : Option (Int32 × jW) :=
  some ((kI (-1)), W)
noncomputable def fcl_lay (t : Nat) (a1 : Int32) (a2 : Int32) (W : jW) : Option (Int32 × jW) :=
  gd (jC W t = 1) <|
  if (jI W 106 t) = (0 : Int32) then
    (some ((kI (-14)), W))
  else
    (if a1 < (kI 4) then
      (fcl_lay_42 t a1 a2 W)
    else
      (if (kI 65536) < a1 then
      (fcl_lay_42 t a1 a2 W)
    else
      (if a2 < (kI 4) then
      (fcl_lay_42 t a1 a2 W)
    else
      (if (kI 2097152) < a2 then
      (fcl_lay_42 t a1 a2 W)
    else
      (if (a2 &&& (a2 - (kI 1))) = (0 : Int32) then
      ((fcl_counted t W).bind fun q2 =>
      gd (jC q2 t = 1) <|
      gd (jC q2 (jR q2 111 t) = 8) <|
      (fog_lay (jR q2 111 t) a1 q2).bind fun q6 =>
      gd (jC q6 t = 1) <|
      gd (jC q6 (jR q6 111 t) = 8) <|
      gd (jC q6 (jR q6 112 t) = 9) <|
      (fwr_write (jR q6 112 t) (jR q6 804 (jR q6 111 t)) (jI q6 805 (jR q6 111 t)) a2 q6).bind fun q11 =>
      gd (jC q11 t = 1) <|
      gd (jC q11 (jR q11 112 t) = 9) <|
      jlt (sI q11 123 t ((jI q11 123 t) + (jI q11 919 (jR q11 112 t)))) fun W15 =>
      jlt (sI W15 107 t (kI 1)) fun W20 =>
      (fcl_forgetRuns t W20).bind fun q25 =>
      gd (jC q25 t = 1) <|
      gd (jC q25 (jR q25 112 t) = 9) <|
      some ((jI q25 912 (jR q25 112 t)), q25))
    else
      (fcl_lay_42 t a1 a2 W))))))
noncomputable def fcl_order_34 (t : Nat) (a1 : Int32) (W : jW) : Option (Int32) :=
  some (kI (-1))
noncomputable def fcl_order (t : Nat) (a1 : Int32) (W : jW) : Option (Int32) :=
  gd (jC W t = 1) <|
  if (jI W 107 t) = (0 : Int32) then
    (fcl_order_34 t a1 W)
  else
    (if a1 < (0 : Int32) then
    (fcl_order_34 t a1 W)
  else
    (gd (jC W (jR W 104 t) = 2) <|
  if a1 < (jI W 217 (jR W 104 t)) then
    (gd (jC W (jR W 111 t) = 8) <|
  gd (jR W 9003 (jR W 804 (jR W 111 t)) = (jR W 804 (jR W 111 t))) <|
  gd (jin a1 (jN W 9003 (jR W 804 (jR W 111 t)))) <|
  some (jA W 9003 (jR W 804 (jR W 111 t)) (ix a1)))
  else
    (fcl_order_34 t a1 W)))
noncomputable def fcl_laid_16 (t : Nat) (a1 : Int32) (W : jW) : Option (Int32) :=
  some (kI (-14))
noncomputable def fcl_laid (t : Nat) (a1 : Int32) (W : jW) : Option (Int32) :=
  gd (jC W t = 1) <|
  if (jI W 107 t) = (0 : Int32) then
    (fcl_laid_16 t a1 W)
  else
    (if a1 < (0 : Int32) then
    (fcl_laid_16 t a1 W)
  else
    (if (kI 4) < a1 then
    (fcl_laid_16 t a1 W)
  else
    (if a1 = (0 : Int32) then
      (gd (jC W (jR W 111 t) = 8) <| some (jI W 805 (jR W 111 t)))
    else
      (if a1 = (kI 1) then
        (gd (jC W (jR W 112 t) = 9) <| some (jI W 915 (jR W 112 t)))
      else
        (if a1 = (kI 2) then
          (gd (jC W (jR W 112 t) = 9) <| some (jI W 916 (jR W 112 t)))
        else
          (if a1 = (kI 3) then
            (gd (jC W (jR W 112 t) = 9) <| some (jI W 917 (jR W 112 t)))
          else
            (gd (jC W (jR W 112 t) = 9) <| some (jI W 918 (jR W 112 t)))))))))
noncomputable def fog_weight (t : Nat) (a1 : Int32) (a2 : Int32) (W : jW) : Option (Int64) :=
  if a2 = (0 : Int32) then
    (gd (jC W t = 8) <| gd (jin a1 (jN W 824 t)) <| some (jB W 824 t (ix a1)))
  else
    (gd (jC W t = 8) <| gd (jin a1 (jN W 825 t)) <| some (jB W 825 t (ix a1)))
noncomputable def fcl_weight_39 (t : Nat) (a1 : Int32) (a2 : Int32) (s0 : Int32) (s1 : Int32) (s2 : Nat) (W : jW) : Option (Int64) :=
  gd (jC W s2 = 8) <| (fog_weight s2 s1 s0 W).bind fun q7 => some q7
noncomputable def fcl_weight_24 (t : Nat) (a1 : Int32) (a2 : Int32) (W : jW) : Option (Int64) :=
  gd (jC W t = 1) <|
  if a2 = (kI 1) then
    (fcl_weight_39 t a1 a2 (kI 1) a1 (jR W 111 t) W)
  else
    (fcl_weight_39 t a1 a2 (kI 0) a1 (jR W 111 t) W)
noncomputable def fcl_weight_45 (t : Nat) (a1 : Int32) (a2 : Int32) (W : jW) : Option (Int64) :=
  some (kJ (-14))
noncomputable def fcl_weight (t : Nat) (a1 : Int32) (a2 : Int32) (W : jW) : Option (Int64) :=
  gd (jC W t = 1) <|
  if (jI W 107 t) = (0 : Int32) then
    (fcl_weight_45 t a1 a2 W)
  else
    ((fcl_isFunction t a1 W).bind fun q2 =>
  if q2 = (0 : Int32) then
    (fcl_weight_45 t a1 a2 W)
  else
    (if a2 = (0 : Int32) then
    (fcl_weight_24 t a1 a2 W)
  else
    (if a2 = (kI 1) then
    (fcl_weight_24 t a1 a2 W)
  else
    (fcl_weight_45 t a1 a2 W))))
noncomputable def fcl_moved_16 (t : Nat) (a1 : Int64) (s0 : Int32) (W : jW) : Option (Int64) :=
  if s0 < (0 : Int32) then
    (some (kJ (-14)))
  else
    (gd (jC W t = 1) <| gd (jC W (jR W 112 t) = 9) <| (fwr_movedWord (jR W 112 t) s0 W).bind fun q6 => some q6)
noncomputable def fcl_moved (t : Nat) (a1 : Int64) (W : jW) : Option (Int64) :=
  gd (jC W t = 1) <|
  if (jI W 107 t) = (0 : Int32) then
    (fcl_moved_16 t a1 (kI (-1)) W)
  else
    ((fcl_wordAt t a1 W).bind fun q2 => fcl_moved_16 t a1 q2 W)
noncomputable def fcl_size (t : Nat) (W : jW) : Option (Int32) :=
  gd (jC W t = 1) <|
  if (jI W 107 t) = (0 : Int32) then
    (some (kI (-14)))
  else
    (gd (jC W (jR W 112 t) = 9) <| (fwr_size (jR W 112 t) W).bind fun q3 => some q3)
noncomputable def fcl_out_33 (t : Nat) (a1 : Int32) (W : jW) : Option (Int32) :=
  some (kI (-1))
noncomputable def fcl_out (t : Nat) (a1 : Int32) (W : jW) : Option (Int32) :=
  gd (jC W t = 1) <|
  if (jI W 107 t) = (0 : Int32) then
    (fcl_out_33 t a1 W)
  else
    (if a1 < (0 : Int32) then
    (fcl_out_33 t a1 W)
  else
    (gd (jC W (jR W 112 t) = 9) <|
  (fwr_size (jR W 112 t) W).bind fun q3 =>
  if a1 < q3 then
    ((fwr_at (jR W 112 t) a1 W).bind fun q4 => some q4)
  else
    (fcl_out_33 t a1 W)))
noncomputable def fcl_check_24 (t : Nat) (s0 : Nat) (W : jW) : Option (Int32 × jW) :=
  gd (jC W t = 1) <| gd (jC W (jR W 120 t) = 3) <| some ((jI W 300 (jR W 120 t)), W)
noncomputable def fcl_check (t : Nat) (W : jW) : Option (Int32 × jW) :=
  gd (jC W t = 1) <|
  if (jI W 107 t) = (0 : Int32) then
    (some ((kI (-14)), W))
  else
    (gd (jC W (jR W 121 t) = 4) <|
    (fsh_take (jR W 121 t) (jR W 112 t) W).bind <| Sum.elim (fun z => gd (jC z.2 z.1 = 17) (fcl_check_24 t z.1 z.2)) fun q3 =>
    some ((kI 0), q3))
abbrev fcl_same_S : Type := (Int32 × jW) ⊕ (Int32 × Int32 × jW)
noncomputable def fcl_same_171 (t : Nat) (l2 : Int32) (s0 : Int32) (W : jW) : Option (fcl_same_S ⊕ (Int32 × jW)) :=
  jlt (l2 + (kI 1)) fun v51 => some (.inl (.inr (s0, v51, W)))
noncomputable def fcl_same_178 (t : Nat) (l1 : Int32) (W : jW) : Option (fcl_same_S ⊕ (Int32 × jW)) :=
  gd (i2z l1 = l1) <| some (.inr (l1, W))
noncomputable def fcl_same_126 (t : Nat) (l1 : Int32) (l2 : Int32) (W : jW) : Option (fcl_same_S ⊕ (Int32 × jW)) :=
  gd (jC W t = 1) <|
  gd (jC W (jR W 104 t) = 2) <|
  gd (jC W (jR W 202 (jR W 104 t)) = 5) <|
  if l2 < (jI W 501 (jR W 202 (jR W 104 t))) then
    (if l1 = (0 : Int32) then
    (fcl_same_178 t l1 W)
  else
    (gd (jC W (jR W 113 t) = 9) <|
  (fwr_at (jR W 113 t) l2 W).bind fun q48 =>
  (fhe_at (jR W 202 (jR W 104 t)) l2 W).bind fun q49 =>
  if q48 = q49 then
    (fcl_same_171 t l2 (kI 1) W)
  else
    (fcl_same_171 t l2 (kI 0) W)))
  else
    (fcl_same_178 t l1 W)
noncomputable def fcl_same_123 (t : Nat) (s0 : Int32) (W : jW) : Option (fcl_same_S ⊕ (Int32 × jW)) :=
  some (.inl (.inr (s0, (kI 0), W)))
noncomputable def fcl_same_39 (t : Nat) (l1 : Int32) (W : jW) : Option (fcl_same_S ⊕ (Int32 × jW)) :=
  gd (jC W t = 1) <|
  gd (jC W (jR W 104 t) = 2) <|
  if l1 < (jI W 217 (jR W 104 t)) then
    (gd (jR W 9003 (jR W 122 t) = (jR W 122 t)) <|
  gd (jin l1 (jN W 9003 (jR W 122 t))) <|
  jlt (pA W 9003 (jR W 122 t) (ix l1) l1) fun W36 =>
  jlt (l1 + (kI 1)) fun v41 =>
  some (.inl (.inl (v41, W36))))
  else
    (gd (jC W (jR W 113 t) = 9) <|
    (fwr_write (jR W 113 t) (jR W 122 t) (jI W 217 (jR W 104 t)) (kI 4) W).bind fun q21 =>
    gd (jC q21 t = 1) <|
    gd (jC q21 (jR q21 113 t) = 9) <|
    jlt (sI q21 123 t ((jI q21 123 t) + (jI q21 919 (jR q21 113 t)))) fun W25 =>
    gd (jC W25 (jR W25 113 t) = 9) <|
    (fwr_size (jR W25 113 t) W25).bind fun q31 =>
    gd (jC W25 (jR W25 104 t) = 2) <|
    gd (jC W25 (jR W25 202 (jR W25 104 t)) = 5) <|
    if q31 = (jI W25 501 (jR W25 202 (jR W25 104 t))) then
      (fcl_same_123 t (kI 1) W25)
    else
      (fcl_same_123 t (kI 0) W25))
noncomputable def fcl_same_37 (t : Nat) (W : jW) : Option (fcl_same_S ⊕ (Int32 × jW)) :=
  some (.inl (.inl ((kI 0), W)))
noncomputable def fcl_same_st (t : Nat) : fcl_same_S → Option (fcl_same_S ⊕ (Int32 × jW)) :=
  (Sum.elim (fun s => fcl_same_39 t s.1 s.2) (fun s => fcl_same_126 t s.1 s.2.1 s.2.2))
noncomputable def fcl_same_0 (t : Nat) (W : jW) : Option (fcl_same_S ⊕ (Int32 × jW)) :=
  gd (jC W t = 1) <|
  if (jI W 106 t) = (0 : Int32) then
    (some (.inr ((kI 0), W)))
  else
    (gd (jR W 9003 (jR W 122 t) = (jR W 122 t)) <|
    gd (¬ jR W 9003 (jR W 122 t) = 0) <|
    gd (jC W (jR W 104 t) = 2) <|
    if (nI (jN W 9003 (jR W 122 t))) < (jI W 217 (jR W 104 t)) then
      (gd (jra W (jI W 217 (jR W 104 t))) <|
    jlt (nwA W 9003 (jX W) (ix (jI W 217 (jR W 104 t)))) fun W6 =>
    jlt (sR W6 122 t (jX W)) fun W11 =>
    fcl_same_37 t W11)
    else
      (fcl_same_37 t W))
noncomputable def fcl_same (t : Nat) (W : jW) : Option (Int32 × jW) :=
  jrn (fcl_same_st t) (fcl_same_0 t W)
noncomputable def fcl_strays (t : Nat) (W : jW) : Option (Int32) :=
  gd (jC W t = 1) <| some (jI W 123 t)
noncomputable def fma_isNew (t : Nat) (W : jW) : Option (Int32) :=
  gd (jC W t = 10) <| if (jI W 1000 t) = (kI 2) then
    (some (kI 1))
  else
    (some (kI 0))
noncomputable def fme_regions (t : Nat) (W : jW) : Option (Int32) :=
  gd (jC W t = 12) <| gd (jC W (jR W 1200 t) = 2) <| gd (jC W (jR W 201 (jR W 1200 t)) = 4) <| some (jI W 402 (jR W 201 (jR W 1200 t)))
noncomputable def fme_stack (t : Nat) (W : jW) : Option (Int32) :=
  gd (jC W t = 12) <|
  gd (jC W (jR W 1200 t) = 2) <|
  gd (jC W (jR W 201 (jR W 1200 t)) = 4) <|
  (fsh_last (jR W 201 (jR W 1200 t)) W).bind fun q4 =>
  some q4
noncomputable def fme_sizeOf (t : Nat) (a1 : Int32) (W : jW) : Option (Int32) :=
  gd (jC W t = 12) <|
  (fme_stack t W).bind fun q2 =>
  if a1 = q2 then
    (some (kI 65536))
  else
    (gd (jC W (jR W 1200 t) = 2) <|
    gd (jC W (jR W 201 (jR W 1200 t)) = 4) <|
    gd (jin a1 (jN W 410 (jR W 201 (jR W 1200 t)))) <|
    some (jA W 410 (jR W 201 (jR W 1200 t)) (ix a1)))
abbrev fme_begin_S : Type := (Int32 × Int32 × Int32 × jW) ⊕ (Int32 × Int32 × Int32 × Int32 × Int32 × jW) ⊕ (Int32 × Int32 × jW)
noncomputable def fme_begin_92 (t : Nat) (a1 : Nat) (l2 : Int32) (l3 : Int32) (l4 : Int32) (l5 : Int32) (l6 : Int32) (s0 : Int32) (s1 : Int32) (s2 : Nat) (W : jW) : Option (fme_begin_S ⊕ (jW)) :=
  gd (jR W 1202 t = s2) <|
  gd (jin s1 (jN W 1202 t)) <|
  jlt (pA W 1202 t (ix s1) (i2b s0)) fun W29 =>
  jlt (l6 + (kI 1)) fun v32 =>
  some (.inl (.inr (.inl (l2, l3, l4, l5, v32, W29))))
noncomputable def fme_begin_43 (t : Nat) (a1 : Nat) (l2 : Int32) (l3 : Int32) (l4 : Int32) (l5 : Int32) (l6 : Int32) (W : jW) : Option (fme_begin_S ⊕ (jW)) :=
  if l6 < l5 then
    (gd (jC W t = 12) <|
  (fme_stack t W).bind fun q20 =>
  if l4 = q20 then
    (fme_begin_92 t a1 l2 l3 l4 l5 l6 (kI 0) (l2 + l6) (jR W 1202 t) W)
  else
    (gd (jC W (jR W 1200 t) = 2) <|
    gd (jC W (jR W 201 (jR W 1200 t)) = 4) <|
    gd (jin l4 (jN W 409 (jR W 201 (jR W 1200 t)))) <|
    gd (jC W a1 = 5 ∨ jC W a1 = 9) <|
    (fsr_at a1 ((jA W 409 (jR W 201 (jR W 1200 t)) (ix l4)) + l6) W).bind fun q25 =>
    fme_begin_92 t a1 l2 l3 l4 l5 l6 (i2b q25) (l2 + l6) (jR W 1202 t) W))
  else
    (jlt (l2 + l5) fun v16 => jlt (l3 + ((l5 / (kI 8)) + (kI 2))) fun v17 => jlt (l4 + (kI 1)) fun v18 => some (.inl (.inl (v16, v17, v18, W))))
noncomputable def fme_begin_123 (t : Nat) (a1 : Nat) (l3 : Int32) (l4 : Int32) (W : jW) : Option (fme_begin_S ⊕ (jW)) :=
  if l4 < l3 then
    (gd (jC W t = 12) <|
  gd (jin l4 (jN W 1205 t)) <|
  jlt (pA W 1205 t (ix l4) (i2b (kI 0))) fun W36 =>
  jlt (l4 + (kI 1)) fun v40 =>
  some (.inl (.inr (.inr (l3, v40, W36)))))
  else
    (some (.inr W))
noncomputable def fme_begin_7 (t : Nat) (a1 : Nat) (l2 : Int32) (l3 : Int32) (l4 : Int32) (W : jW) : Option (fme_begin_S ⊕ (jW)) :=
  gd (jC W t = 12) <|
  (fme_regions t W).bind fun q3 =>
  if l4 < q3 then
    (gd (jin l4 (jN W 1203 t)) <|
  jlt (pA W 1203 t (ix l4) l2) fun W5 =>
  gd (jin l4 (jN W5 1204 t)) <|
  jlt (pA W5 1204 t (ix l4) l3) fun W10 =>
  (fme_sizeOf t l4 W10).bind fun q14 =>
  some (.inl (.inr (.inl (l2, l3, l4, q14, (kI 0), W10)))))
  else
    (some (.inl (.inr (.inr (l3, (kI 0), W)))))
noncomputable def fme_begin_st (t : Nat) (a1 : Nat) : fme_begin_S → Option (fme_begin_S ⊕ (jW)) :=
  (Sum.elim (fun s => fme_begin_7 t a1 s.1 s.2.1 s.2.2.1 s.2.2.2) (Sum.elim (fun s => fme_begin_43 t a1 s.1 s.2.1 s.2.2.1 s.2.2.2.1 s.2.2.2.2.1 s.2.2.2.2.2) (fun s => fme_begin_123 t a1 s.1 s.2.1 s.2.2)))
noncomputable def fme_begin_0 (t : Nat) (a1 : Nat) (W : jW) : Option (fme_begin_S ⊕ (jW)) :=
  some (.inl (.inl ((kI 0), (kI 0), (kI 0), W)))
noncomputable def fme_begin (t : Nat) (a1 : Nat) (W : jW) : Option (jW) :=
  jrn (fme_begin_st t a1) (fme_begin_0 t a1 W)
noncomputable def fme_addressOf (t : Nat) (a1 : Int32) (W : jW) : Option (Int64) :=
  gd (jC W t = 12) <|
  (fme_stack t W).bind fun q2 =>
  if a1 = q2 then
    (some (kJ 2147418112))
  else
    (gd (jC W (jR W 1200 t) = 2) <|
    gd (jC W (jR W 201 (jR W 1200 t)) = 4) <|
    gd (jin a1 (jN W 408 (jR W 201 (jR W 1200 t)))) <|
    some (jB W 408 (jR W 201 (jR W 1200 t)) (ix a1)))
abbrev fme_regionOf_S : Type := (Int32)
noncomputable def fme_regionOf_47 (t : Nat) (a1 : Int64) (a3 : Int32) (l4 : Int32) (W : jW) : Option (fme_regionOf_S ⊕ (Int32)) :=
  jlt (l4 + (kI 1)) fun v8 => some (.inl v8)
noncomputable def fme_regionOf_3 (t : Nat) (a1 : Int64) (a3 : Int32) (l4 : Int32) (W : jW) : Option (fme_regionOf_S ⊕ (Int32)) :=
  gd (jC W t = 12) <|
  (fme_regions t W).bind fun q3 =>
  if l4 < q3 then
    ((fme_addressOf t l4 W).bind fun q4 =>
  jlt (a1 - q4) fun v5 =>
  if v5 < (kJ 0) then
    (fme_regionOf_47 t a1 a3 l4 W)
  else
    ((fme_sizeOf t l4 W).bind fun q6 => if (q6 - a3).toInt64 < v5 then
    (fme_regionOf_47 t a1 a3 l4 W)
  else
    (some (.inr l4))))
  else
    (some (.inr (kI (-1))))
noncomputable def fme_regionOf_st (t : Nat) (a1 : Int64) (a3 : Int32) (W : jW) : fme_regionOf_S → Option (fme_regionOf_S ⊕ (Int32)) :=
  (fun s => fme_regionOf_3 t a1 a3 s W)
noncomputable def fme_regionOf_0 (t : Nat) (a1 : Int64) (a3 : Int32) (W : jW) : Option (fme_regionOf_S ⊕ (Int32)) :=
  some (.inl (kI 0))
noncomputable def fme_regionOf (t : Nat) (a1 : Int64) (a3 : Int32) (W : jW) : Option (Int32) :=
  jrn (fme_regionOf_st t a1 a3 W) (fme_regionOf_0 t a1 a3 W)
noncomputable def fme_cellOf (t : Nat) (a1 : Int32) (a2 : Int64) (W : jW) : Option (Int32) :=
  gd (jC W t = 12) <|
  gd (jin a1 (jN W 1204 t)) <|
  (fme_addressOf t a1 W).bind fun q3 =>
  some ((jA W 1204 t (ix a1)) + (((lxr a2 (kI 3)) - (lxr q3 (kI 3))).toInt32))
noncomputable def fme_tell (t : Nat) (a1 : Int32) (a2 : Int64) (a4 : Int32) (a5 : Int32) (W : jW) : Option (jW) :=
  gd (jC W t = 12) <|
  (fme_cellOf t a1 a2 W).bind fun q2 =>
  gd (jin q2 (jN W 1205 t)) <|
  jlt (pA W 1205 t (ix q2) (i2b (i2b a4))) fun W4 =>
  (fme_cellOf t a1 a2 W4).bind fun q8 =>
  gd (jin q8 (jN W4 1206 t)) <|
  jlt (pA W4 1206 t (ix q8) a5) fun W10 =>
  some W10
abbrev fma_tellCode_S : Type := (Nat × Int32 × jW) ⊕ (Nat × Int32 × Int32 × jW)
noncomputable def fma_tellCode_137 (t : Nat) (l1 : Nat) (l2 : Int32) (W : jW) : Option (fma_tellCode_S ⊕ (jW)) :=
  jlt (l2 + (kI 1)) fun v30 => some (.inl (.inl (l1, v30, W)))
noncomputable def fma_tellCode_131 (t : Nat) (l1 : Nat) (l2 : Int32) (l3 : Int32) (W : jW) : Option (fma_tellCode_S ⊕ (jW)) :=
  jlt (l3 + (kI 1)) fun v28 => some (.inl (.inr (l1, l2, v28, W)))
noncomputable def fma_tellCode_85 (t : Nat) (l1 : Nat) (l2 : Int32) (l3 : Int32) (l4 : Int32) (s0 : Int32) (W : jW) : Option (fma_tellCode_S ⊕ (jW)) :=
  gd (jC W l1 = 4) <|
  (fsh_fixPlace l1 l4 W).bind fun q19 =>
  if s0 < (0 : Int32) then
    (fma_tellCode_131 t l1 l2 l3 W)
  else
    (gd (jC W t = 10) <|
  gd (jC W (jR W 1005 t) = 12) <|
  (fme_regionOf (jR W 1005 t) q19 (kI 8) W).bind fun q22 =>
  gd (jC W (jR W 1001 t) = 2) <|
  gd (jin s0 (jN W 206 (jR W 1001 t))) <|
  (fme_tell (jR W 1005 t) q22 q19 (kI 1) (jA W 206 (jR W 1001 t) (ix s0)) W).bind fun q25 =>
  fma_tellCode_131 t l1 l2 l3 q25)
noncomputable def fma_tellCode_46 (t : Nat) (l1 : Nat) (l2 : Int32) (l3 : Int32) (W : jW) : Option (fma_tellCode_S ⊕ (jW)) :=
  gd (jC W l1 = 4) <|
  (fsh_fixCount l1 l2 W).bind fun q11 =>
  if l3 < q11 then
    ((fsh_fixAt l1 l2 l3 W).bind fun q12 =>
  (fsh_fixType l1 q12 W).bind fun q13 =>
  if q13 = (0 : Int32) then
    (fma_tellCode_85 t l1 l2 l3 q12 (kI (-1)) W)
  else
    (gd (jC W t = 10) <| gd (jC W (jR W 1001 t) = 2) <| (fpg_targetWord (jR W 1001 t) q12 W).bind fun q16 => fma_tellCode_85 t l1 l2 l3 q12 q16 W))
  else
    (fma_tellCode_137 t l1 l2 W)
noncomputable def fma_tellCode_10 (t : Nat) (l1 : Nat) (l2 : Int32) (W : jW) : Option (fma_tellCode_S ⊕ (jW)) :=
  gd (jC W l1 = 4) <|
  if l2 < (jI W 403 l1) then
    (gd (jin l2 (jN W 411 l1)) <|
  if (jA W 411 l1 (ix l2)) = (kI 4) then
    (gd (jin l2 (jN W 417 l1)) <|
  (fsh_isData l1 (jA W 417 l1 (ix l2)) W).bind fun q8 =>
  if q8 = (0 : Int32) then
    (fma_tellCode_137 t l1 l2 W)
  else
    (some (.inl (.inr (l1, l2, (kI 0), W)))))
  else
    (fma_tellCode_137 t l1 l2 W))
  else
    (some (.inr W))
noncomputable def fma_tellCode_st (t : Nat) : fma_tellCode_S → Option (fma_tellCode_S ⊕ (jW)) :=
  (Sum.elim (fun s => fma_tellCode_10 t s.1 s.2.1 s.2.2) (fun s => fma_tellCode_46 t s.1 s.2.1 s.2.2.1 s.2.2.2))
noncomputable def fma_tellCode_0 (t : Nat) (W : jW) : Option (fma_tellCode_S ⊕ (jW)) :=
  gd (jC W t = 10) <| gd (jC W (jR W 1001 t) = 2) <| jlt (jR W 201 (jR W 1001 t)) fun v3 => some (.inl (.inl (v3, (kI 1), W)))
noncomputable def fma_tellCode (t : Nat) (W : jW) : Option (jW) :=
  jrn (fma_tellCode_st t) (fma_tellCode_0 t W)
noncomputable def fma_begin (t : Nat) (W : jW) : Option (Int64) :=
  gd (jC W t = 10) <| gd (jC W (jR W 1001 t) = 2) <| (fpg_addressOf (jR W 1001 t) (kI 0) W).bind fun q3 => some q3
noncomputable def fma_bytes (t : Nat) (W : jW) : Option (Int32) :=
  gd (jC W t = 10) <|
  (fma_isNew t W).bind fun q2 =>
  if q2 = (0 : Int32) then
    (gd (jC W (jR W 1001 t) = 2) <| some ((kI 4) * (jI W 203 (jR W 1001 t))))
  else
    (gd (jC W (jR W 1002 t) = 9) <| some (jI W 912 (jR W 1002 t)))
abbrev fma_blockFrom_S : Type := (Int32 × Int32)
noncomputable def fma_blockFrom_59 (t : Nat) (a1 : Int32) (a2 : Int32) (l3 : Int32) (l4 : Int32) (W : jW) : Option (fma_blockFrom_S ⊕ (Int32)) :=
  some (.inl (l3, l4))
noncomputable def fma_blockFrom_105 (t : Nat) (a1 : Int32) (a2 : Int32) (l5 : Int32) (W : jW) : Option (fma_blockFrom_S ⊕ (Int32)) :=
  some (.inr l5)
noncomputable def fma_blockFrom_110 (t : Nat) (a1 : Int32) (a2 : Int32) (W : jW) : Option (fma_blockFrom_S ⊕ (Int32)) :=
  some (.inr (kI (-1)))
noncomputable def fma_blockFrom_11 (t : Nat) (a1 : Int32) (a2 : Int32) (l3 : Int32) (l4 : Int32) (W : jW) : Option (fma_blockFrom_S ⊕ (Int32)) :=
  if (kI 1) < (l4 - l3) then
    (jlt ((l3 + l4) / (kI 2)) fun v13 =>
  gd (jC W t = 10) <|
  gd (jC W (jR W 1002 t) = 9) <|
  gd (jC W (jR W 1003 t) = 8) <|
  gd (jR W 9003 (jR W 804 (jR W 1003 t)) = (jR W 804 (jR W 1003 t))) <|
  gd (jin v13 (jN W 9003 (jR W 804 (jR W 1003 t)))) <|
  gd (jin (jA W 9003 (jR W 804 (jR W 1003 t)) (ix v13)) (jN W 905 (jR W 1002 t))) <|
  if a1 < (jA W 905 (jR W 1002 t) (ix (jA W 9003 (jR W 804 (jR W 1003 t)) (ix v13)))) then
    (fma_blockFrom_59 t a1 a2 l3 v13 W)
  else
    (fma_blockFrom_59 t a1 a2 v13 l4 W))
  else
    (gd (jC W t = 10) <|
    gd (jC W (jR W 1003 t) = 8) <|
    gd (jR W 9003 (jR W 804 (jR W 1003 t)) = (jR W 804 (jR W 1003 t))) <|
    gd (jin l3 (jN W 9003 (jR W 804 (jR W 1003 t)))) <|
    jlt (jA W 9003 (jR W 804 (jR W 1003 t)) (ix l3)) fun v9 =>
    gd (jC W (jR W 1002 t) = 9) <|
    gd (jin v9 (jN W 905 (jR W 1002 t))) <|
    if (jA W 905 (jR W 1002 t) (ix v9)) = a1 then
      (fma_blockFrom_105 t a1 a2 v9 W)
    else
      (if a2 = (0 : Int32) then
      (gd (jin v9 (jN W 905 (jR W 1002 t))) <|
    if (jA W 905 (jR W 1002 t) (ix v9)) < a1 then
      (fma_blockFrom_105 t a1 a2 v9 W)
    else
      (fma_blockFrom_110 t a1 a2 W))
    else
      (fma_blockFrom_110 t a1 a2 W)))
noncomputable def fma_blockFrom_st (t : Nat) (a1 : Int32) (a2 : Int32) (W : jW) : fma_blockFrom_S → Option (fma_blockFrom_S ⊕ (Int32)) :=
  (fun s => fma_blockFrom_11 t a1 a2 s.1 s.2 W)
noncomputable def fma_blockFrom_0 (t : Nat) (a1 : Int32) (a2 : Int32) (W : jW) : Option (fma_blockFrom_S ⊕ (Int32)) :=
  gd (jC W t = 10) <| gd (jC W (jR W 1001 t) = 2) <| jlt (jI W 217 (jR W 1001 t)) fun v3 => some (.inl ((kI 0), v3))
noncomputable def fma_blockFrom (t : Nat) (a1 : Int32) (a2 : Int32) (W : jW) : Option (Int32) :=
  jrn (fma_blockFrom_st t a1 a2 W) (fma_blockFrom_0 t a1 a2 W)
noncomputable def fma_blockOf_31 (t : Nat) (a1 : Int64) (W : jW) : Option (Int32) :=
  some (kI (-1))
noncomputable def fma_blockOf (t : Nat) (a1 : Int64) (W : jW) : Option (Int32) :=
  gd (jC W t = 10) <|
  (fma_begin t W).bind fun q2 =>
  (fma_begin t W).bind fun q3 =>
  (fma_bytes t W).bind fun q4 =>
  if (fcl_isIn a1 q2 (q3 + q4.toInt64)) = (0 : Int32) then
    (fma_blockOf_31 t a1 W)
  else
    (if (lrm a1 (kJ 4)) = (kJ 0) then
    ((fma_isNew t W).bind fun q5 =>
    if q5 = (0 : Int32) then
      (gd (jC W (jR W 1001 t) = 2) <|
      (fpg_wordAt (jR W 1001 t) a1 W).bind fun q7 =>
      gd (jin q7 (jN W 208 (jR W 1001 t))) <|
      if (jA W 208 (jR W 1001 t) (ix q7)) = (0 : Int32) then
        (some (kI (-1)))
      else
        (gd (jin q7 (jN W 206 (jR W 1001 t))) <| some (jA W 206 (jR W 1001 t) (ix q7))))
    else
      ((fma_begin t W).bind fun q10 => (fma_blockFrom t ((a1 - q10).toInt32) (kI 1) W).bind fun q11 => some q11))
  else
    (fma_blockOf_31 t a1 W))
noncomputable def fma_blockHere (t : Nat) (W : jW) : Option (Int32) :=
  gd (jC W t = 10) <| (fma_blockOf t (jL W 1014 t) W).bind fun q2 => some q2
noncomputable def fma_isText (t : Nat) (a1 : Int64) (W : jW) : Option (Int32) :=
  gd (jC W t = 10) <|
  (fma_begin t W).bind fun q2 =>
  (fma_begin t W).bind fun q3 =>
  (fma_bytes t W).bind fun q4 =>
  gd (i2z (fcl_isIn a1 q2 (q3 + q4.toInt64)) = (fcl_isIn a1 q2 (q3 + q4.toInt64))) <|
  some (fcl_isIn a1 q2 (q3 + q4.toInt64))
noncomputable def fha_by (t : Nat) (a1 : Int32) (W : jW) : Option (Nat × jW) :=
  gd (jC W t = 11) <| jlt (sI W 1100 t a1) fun W2 => some ((jR W2 1101 t), W2)
noncomputable def fma_must (t : Nat) (a1 : Int32) (W : jW) : Option ((Nat × jW) ⊕ jW) :=
  gd (jC W t = 10) <|
  if (jI W 1000 t) = (kI 1) then
    (if a1 = (0 : Int32) then
    (gd (jC W (jR W 1004 t) = 11) <| (fha_by (jR W 1004 t) (kI 3) W).bind fun q3 => gd (¬ q3.1 = 0) <| some (.inl (q3.1, q3.2)))
  else
    (some (.inr W)))
  else
    (some (.inr W))
noncomputable def fma_code_26 (t : Nat) (a1 : Int32) (a2 : Int64) (a4 : Int32) (a5 : Int32) (s0 : Int32) (s1 : Int32) (s2 : Nat) (W : jW) : Option (jW) :=
  gd (jR W 1008 t = s2) <|
  gd (jin s1 (jN W 1008 t)) <|
  jlt (pA W 1008 t (ix s1) s0) fun W10 =>
  gd (jC W10 t = 10) <|
  gd (jin a1 (jN W10 1009 t)) <|
  jlt (pA W10 1009 t (ix a1) a5) fun W15 =>
  some W15
noncomputable def fma_code (t : Nat) (a1 : Int32) (a2 : Int64) (a4 : Int32) (a5 : Int32) (W : jW) : Option (jW) :=
  gd (jC W t = 10) <|
  gd (jin a1 (jN W 1007 t)) <|
  jlt (pB W 1007 t (ix a1) a2) fun W3 =>
  if (jI W3 1000 t) = (kI 1) then
    (fma_code_26 t a1 a2 a4 a5 a4 a1 (jR W3 1008 t) W3)
  else
    (fma_code_26 t a1 a2 a4 a5 (kI 0) a1 (jR W3 1008 t) W3)
noncomputable def fma_base_15 (t : Nat) (a1 : Int32) (s0 : Int32) (s1 : Nat) (W : jW) : Option ((Nat × jW) ⊕ Int64 × jW) :=
  gd (jC W s1 = 10) <|
  (fma_must s1 s0 W).bind <| Sum.elim (fun z => some (.inl z)) fun q5 =>
  gd (jC q5 t = 10) <|
  gd (jin a1 (jN q5 1007 t)) <|
  some (.inr ((jB q5 1007 t (ix a1)), q5))
noncomputable def fma_base (t : Nat) (a1 : Int32) (W : jW) : Option ((Nat × jW) ⊕ Int64 × jW) :=
  gd (jC W t = 10) <|
  gd (jin a1 (jN W 1008 t)) <|
  if (jA W 1008 t (ix a1)) = (0 : Int32) then
    (fma_base_15 t a1 (kI 1) t W)
  else
    (fma_base_15 t a1 (kI 0) t W)
noncomputable def fma_sum_201 (t : Nat) (a1 : Int64) (a3 : Int64) (a5 : Int32) (a6 : Int32) (a7 : Int32) (l8 : Int64) (s0 : Int32) (s1 : Nat) (W : jW) : Option (Int64 × jW) :=
  gd (jC W s1 = 10) <| gd (i2z s0 = s0) <| jlt (sI W 1013 s1 s0) fun W31 => some (l8, W31)
noncomputable def fma_sum_147 (t : Nat) (a1 : Int64) (a3 : Int64) (a5 : Int32) (a6 : Int32) (a7 : Int32) (l8 : Int64) (l10 : Int64) (l12 : Int64) (l14 : Int64) (s0 : Int32) (s1 : Nat) (W : jW) : Option (Int64 × jW) :=
  gd (jC W s1 = 10) <|
  gd (i2z s0 = s0) <|
  jlt (sI W 1012 s1 s0) fun W24 =>
  if a5 = (0 : Int32) then
    (if ((l10 ^^^ l14) &&& (l12 ^^^ l14)) < (kJ 0) then
      (fma_sum_201 t a1 a3 a5 a6 a7 l8 (kI 1) t W24)
    else
      (fma_sum_201 t a1 a3 a5 a6 a7 l8 (kI 0) t W24))
  else
    (if ((l10 ^^^ l12) &&& (l10 ^^^ l14)) < (kJ 0) then
    (fma_sum_201 t a1 a3 a5 a6 a7 l8 (kI 1) t W24)
  else
    (fma_sum_201 t a1 a3 a5 a6 a7 l8 (kI 0) t W24))
noncomputable def fma_sum_113 (t : Nat) (a1 : Int64) (a3 : Int64) (a5 : Int32) (a6 : Int32) (a7 : Int32) (l8 : Int64) (l10 : Int64) (l12 : Int64) (l14 : Int64) (s0 : Int32) (s1 : Nat) (W : jW) : Option (Int64 × jW) :=
  gd (jC W s1 = 10) <|
  gd (i2z s0 = s0) <|
  jlt (sI W 1011 s1 s0) fun W17 =>
  if a5 = (0 : Int32) then
    (fma_sum_147 t a1 a3 a5 a6 a7 l8 l10 l12 l14 (fcl_isAbove l10 l14) t W17)
  else
    (if (fcl_isAbove l12 l10) = (0 : Int32) then
    (fma_sum_147 t a1 a3 a5 a6 a7 l8 l10 l12 l14 (kI 1) t W17)
  else
    (fma_sum_147 t a1 a3 a5 a6 a7 l8 l10 l12 l14 (kI 0) t W17))
noncomputable def fma_sum_97 (t : Nat) (a1 : Int64) (a3 : Int64) (a5 : Int32) (a6 : Int32) (a7 : Int32) (l8 : Int64) (l10 : Int64) (l12 : Int64) (l14 : Int64) (s0 : Int32) (s1 : Nat) (W : jW) : Option (Int64 × jW) :=
  gd (jC W s1 = 10) <|
  gd (i2z s0 = s0) <|
  jlt (sI W 1010 s1 s0) fun W10 =>
  if l14 = (kJ 0) then
    (fma_sum_113 t a1 a3 a5 a6 a7 l8 l10 l12 l14 (kI 1) t W10)
  else
    (fma_sum_113 t a1 a3 a5 a6 a7 l8 l10 l12 l14 (kI 0) t W10)
noncomputable def fma_sum_82 (t : Nat) (a1 : Int64) (a3 : Int64) (a5 : Int32) (a6 : Int32) (a7 : Int32) (l8 : Int64) (l10 : Int64) (l12 : Int64) (s0 : Int64) (W : jW) : Option (Int64 × jW) :=
  if s0 < (kJ 0) then
    (fma_sum_97 t a1 a3 a5 a6 a7 l8 l10 l12 s0 (kI 1) t W)
  else
    (fma_sum_97 t a1 a3 a5 a6 a7 l8 l10 l12 s0 (kI 0) t W)
noncomputable def fma_sum_65 (t : Nat) (a1 : Int64) (a3 : Int64) (a5 : Int32) (a6 : Int32) (a7 : Int32) (l8 : Int64) (l10 : Int64) (s0 : Int64) (W : jW) : Option (Int64 × jW) :=
  if a6 = (0 : Int32) then
    (fma_sum_82 t a1 a3 a5 a6 a7 l8 l10 s0 (lxl l8 (kI 32)) W)
  else
    (fma_sum_82 t a1 a3 a5 a6 a7 l8 l10 s0 l8 W)
noncomputable def fma_sum_50 (t : Nat) (a1 : Int64) (a3 : Int64) (a5 : Int32) (a6 : Int32) (a7 : Int32) (l8 : Int64) (s0 : Int64) (W : jW) : Option (Int64 × jW) :=
  if a6 = (0 : Int32) then
    (fma_sum_65 t a1 a3 a5 a6 a7 l8 s0 (lxl a3 (kI 32)) W)
  else
    (fma_sum_65 t a1 a3 a5 a6 a7 l8 s0 a3 W)
noncomputable def fma_sum_29 (t : Nat) (a1 : Int64) (a3 : Int64) (a5 : Int32) (a6 : Int32) (a7 : Int32) (l8 : Int64) (W : jW) : Option (Int64 × jW) :=
  if a7 = (0 : Int32) then
    (some (l8, W))
  else
    (if a6 = (0 : Int32) then
      (fma_sum_50 t a1 a3 a5 a6 a7 l8 (lxl a1 (kI 32)) W)
    else
      (fma_sum_50 t a1 a3 a5 a6 a7 l8 a1 W))
noncomputable def fma_sum_14 (t : Nat) (a1 : Int64) (a3 : Int64) (a5 : Int32) (a6 : Int32) (a7 : Int32) (s0 : Int64) (W : jW) : Option (Int64 × jW) :=
  if a6 = (0 : Int32) then
    (jlt (s0 &&& (kJ 4294967295)) fun v2 => fma_sum_29 t a1 a3 a5 a6 a7 v2 W)
  else
    (fma_sum_29 t a1 a3 a5 a6 a7 s0 W)
noncomputable def fma_sum (t : Nat) (a1 : Int64) (a3 : Int64) (a5 : Int32) (a6 : Int32) (a7 : Int32) (W : jW) : Option (Int64 × jW) :=
  if a5 = (0 : Int32) then
    (fma_sum_14 t a1 a3 a5 a6 a7 (a1 + a3) W)
  else
    (fma_sum_14 t a1 a3 a5 a6 a7 (a1 - a3) W)
noncomputable def fma_put_26 (t : Nat) (a1 : Int32) (a2 : Int64) (a4 : Int32) (s0 : Int64) (s1 : Int32) (s2 : Nat) (W : jW) : Option (jW) :=
  gd (jR W 1007 t = s2) <|
  gd (jin s1 (jN W 1007 t)) <|
  jlt (pB W 1007 t (ix s1) s0) fun W5 =>
  gd (jC W5 t = 10) <|
  gd (jin a1 (jN W5 1008 t)) <|
  jlt (pA W5 1008 t (ix a1) (kI 0)) fun W10 =>
  some W10
noncomputable def fma_put (t : Nat) (a1 : Int32) (a2 : Int64) (a4 : Int32) (W : jW) : Option (jW) :=
  if a1 = (kI 31) then
    (some W)
  else
    (gd (jC W t = 10) <|
    if a4 = (0 : Int32) then
      (fma_put_26 t a1 a2 a4 (a2 &&& (kJ 4294967295)) a1 (jR W 1007 t) W)
    else
      (fma_put_26 t a1 a2 a4 a2 a1 (jR W 1007 t) W))
noncomputable def fma_putBase_19 (t : Nat) (a1 : Int32) (a2 : Int64) (a4 : Int32) (s0 : Int64) (s1 : Int32) (s2 : Nat) (W : jW) : Option (jW) :=
  gd (jR W 1007 t = s2) <|
  gd (jin s1 (jN W 1007 t)) <|
  jlt (pB W 1007 t (ix s1) s0) fun W5 =>
  gd (jC W5 t = 10) <|
  gd (jin a1 (jN W5 1008 t)) <|
  jlt (pA W5 1008 t (ix a1) (kI 0)) fun W10 =>
  some W10
noncomputable def fma_putBase (t : Nat) (a1 : Int32) (a2 : Int64) (a4 : Int32) (W : jW) : Option (jW) :=
  gd (jC W t = 10) <|
  if a4 = (0 : Int32) then
    (fma_putBase_19 t a1 a2 a4 (a2 &&& (kJ 4294967295)) a1 (jR W 1007 t) W)
  else
    (fma_putBase_19 t a1 a2 a4 a2 a1 (jR W 1007 t) W)
noncomputable def fma_addNumber_114 (t : Nat) (a1 : Int32) (a2 : Int32) (l5 : Int32) (s0 : Int32) (s1 : Nat) (W : jW) : Option ((Nat × jW) ⊕ jW) :=
  gd (jC W s1 = 10) <|
  (fma_must s1 s0 W).bind <| Sum.elim (fun z => some (.inl z)) fun q15 =>
  gd (jC q15 t = 10) <|
  gd (jC q15 (jR q15 1001 t) = 2) <|
  (fpg_addressOf (jR q15 1001 t) l5 q15).bind fun q19 =>
  gd (jin l5 (jN q15 206 (jR q15 1001 t))) <|
  (fma_code t (fwo_d a1) q19 (kI 1) (jA q15 206 (jR q15 1001 t) (ix l5)) q15).bind fun q21 =>
  some (.inr q21)
noncomputable def fma_addNumber_113 (t : Nat) (a1 : Int32) (a2 : Int32) (l5 : Int32) (s0 : Nat) (W : jW) : Option ((Nat × jW) ⊕ jW) :=
  fma_addNumber_114 t a1 a2 l5 (kI 0) s0 W
noncomputable def fma_addNumber_220 (t : Nat) (a1 : Int32) (a2 : Int32) (l4 : Int32) (l7 : Int32) (s0 : Int32) (s1 : Int64) (s2 : Int64) (s3 : Nat) (W : jW) : Option ((Nat × jW) ⊕ jW) :=
  gd (jC W s3 = 10) <|
  (fma_sum s3 s2 s1 s0 l7 l4 W).bind fun q37 =>
  if l4 = (0 : Int32) then
    (gd (jC q37.2 t = 10) <| (fma_putBase t (fwo_d a1) q37.1 l7 q37.2).bind fun q40 => some (.inr q40))
  else
    (gd (jC q37.2 t = 10) <| (fma_put t (fwo_d a1) q37.1 l7 q37.2).bind fun q43 => some (.inr q43))
noncomputable def fma_addNumber_198 (t : Nat) (a1 : Int32) (a2 : Int32) (l4 : Int32) (l5 : Int64) (l7 : Int32) (s0 : Int64) (W : jW) : Option ((Nat × jW) ⊕ jW) :=
  if ((ixr a1 (kI 30)) &&& (kI 1)) = (kI 1) then
    (fma_addNumber_220 t a1 a2 l4 l7 (kI 1) l5 s0 t W)
  else
    (fma_addNumber_220 t a1 a2 l4 l7 (kI 0) l5 s0 t W)
noncomputable def fma_addNumber_167 (t : Nat) (a1 : Int32) (a2 : Int32) (l3 : Int32) (l4 : Int32) (s0 : Int32) (s1 : Int64) (W : jW) : Option ((Nat × jW) ⊕ jW) :=
  jlt (lxl s1 s0) fun v26 =>
  jlt (fwo_isLong a1) fun v27 =>
  if v27 = (0 : Int32) then
    (gd (jC W t = 10) <|
    (fma_base t l3 W).bind <| Sum.elim (fun z => some (.inl z)) fun q29 =>
    fma_addNumber_198 t a1 a2 l4 v26 v27 (q29.1 &&& (kJ 4294967295)) q29.2)
  else
    (gd (jC W t = 10) <| (fma_base t l3 W).bind <| Sum.elim (fun z => some (.inl z)) fun q32 => fma_addNumber_198 t a1 a2 l4 v26 v27 q32.1 q32.2)
noncomputable def fma_addNumber_146 (t : Nat) (a1 : Int32) (a2 : Int32) (l3 : Int32) (l4 : Int32) (W : jW) : Option ((Nat × jW) ⊕ jW) :=
  if ((ixr a1 (kI 22)) &&& (kI 1)) = (kI 1) then
    (fma_addNumber_167 t a1 a2 l3 l4 (kI 12) ((fwo_twelve a1).toInt64) W)
  else
    (fma_addNumber_167 t a1 a2 l3 l4 (kI 0) ((fwo_twelve a1).toInt64) W)
noncomputable def fma_addNumber_20 (t : Nat) (a1 : Int32) (a2 : Int32) (l3 : Int32) (s0 : Int32) (W : jW) : Option ((Nat × jW) ⊕ jW) :=
  gd (jC W t = 10) <|
  if (jI W 1000 t) = (kI 1) then
    (gd (jC W (jR W 1001 t) = 2) <|
  gd (jin a2 (jN W 207 (jR W 1001 t))) <|
  if (0 : Int32) < (jA W 207 (jR W 1001 t) (ix a2)) then
    (gd (jin a2 (jN W 207 (jR W 1001 t))) <|
  (fpg_targetWord (jR W 1001 t) (jA W 207 (jR W 1001 t) (ix a2)) W).bind fun q7 =>
  if q7 < (0 : Int32) then
    (fma_addNumber_146 t a1 a2 l3 s0 W)
  else
    (gd (jin a2 (jN W 207 (jR W 1001 t))) <|
  (fpg_targetWord (jR W 1001 t) (jA W 207 (jR W 1001 t) (ix a2)) W).bind fun q9 =>
  gd (jin l3 (jN W 1008 t)) <|
  if (jA W 1008 t (ix l3)) = (kI 3) then
    (gd (jin l3 (jN W 1009 t)) <|
  gd (jin q9 (jN W 206 (jR W 1001 t))) <|
  if (jA W 1009 t (ix l3)) = (jA W 206 (jR W 1001 t) (ix q9)) then
    (fma_addNumber_114 t a1 a2 q9 (kI 1) t W)
  else
    (fma_addNumber_113 t a1 a2 q9 t W))
  else
    (fma_addNumber_113 t a1 a2 q9 t W)))
  else
    (fma_addNumber_146 t a1 a2 l3 s0 W))
  else
    (fma_addNumber_146 t a1 a2 l3 s0 W)
noncomputable def fma_addNumber (t : Nat) (a1 : Int32) (a2 : Int32) (W : jW) : Option ((Nat × jW) ⊕ jW) :=
  jlt (fwo_n a1) fun v1 =>
  if ((ixr a1 (kI 29)) &&& (kI 1)) = (kI 1) then
    (fma_addNumber_20 t a1 a2 v1 (kI 1) W)
  else
    (fma_addNumber_20 t a1 a2 v1 (kI 0) W)
noncomputable def fwo_m (a0 : Int32) : Int32 :=
  ((ixr a0 (kI 16)) &&& (kI 31))
noncomputable def fma_get (t : Nat) (a1 : Int32) (W : jW) : Option (Int64) :=
  if a1 = (kI 31) then
    (some (kJ 0))
  else
    (gd (jC W t = 10) <| gd (jin a1 (jN W 1007 t)) <| some (jB W 1007 t (ix a1)))
noncomputable def fma_number_21 (t : Nat) (a1 : Int32) (s0 : Int32) (s1 : Nat) (W : jW) : Option ((Nat × jW) ⊕ Int64 × jW) :=
  gd (jC W s1 = 10) <|
  (fma_must s1 s0 W).bind <| Sum.elim (fun z => some (.inl z)) fun q5 =>
  gd (jC q5 t = 10) <|
  (fma_get t a1 q5).bind fun q8 =>
  some (.inr (q8, q5))
noncomputable def fma_number_16 (t : Nat) (a1 : Int32) (s0 : Nat) (W : jW) : Option ((Nat × jW) ⊕ Int64 × jW) :=
  fma_number_21 t a1 (kI 1) s0 W
noncomputable def fma_number (t : Nat) (a1 : Int32) (W : jW) : Option ((Nat × jW) ⊕ Int64 × jW) :=
  if a1 = (kI 31) then
    (fma_number_16 t a1 t W)
  else
    (gd (jC W t = 10) <|
  gd (jin a1 (jN W 1008 t)) <|
  if (jA W 1008 t (ix a1)) = (0 : Int32) then
    (fma_number_16 t a1 t W)
  else
    (fma_number_21 t a1 (kI 0) t W))
noncomputable def fma_moved_136 (t : Nat) (a1 : Int32) (s0 : Int32) (W : jW) : Option ((Nat × jW) ⊕ Int64 × jW) :=
  some (.inr ((s0.toInt64 &&& (kJ 4294967295)), W))
noncomputable def fma_moved (t : Nat) (a1 : Int32) (W : jW) : Option ((Nat × jW) ⊕ Int64 × jW) :=
  gd (jC W t = 10) <|
  (fma_number t (fwo_m a1) W).bind <| Sum.elim (fun z => some (.inl z)) fun q2 =>
  jlt (fwo_amount a1) fun v4 =>
  jlt ((ixr a1 (kI 22)) &&& (kI 3)) fun v5 =>
  if (fwo_isLong a1) = (0 : Int32) then
    (if v5 = (0 : Int32) then
      (fma_moved_136 t a1 (ixl q2.1.toInt32 v4) q2.2)
    else
      (if v5 = (kI 1) then
        (fma_moved_136 t a1 (ixu q2.1.toInt32 v4) q2.2)
      else
        (if v5 = (kI 2) then
          (fma_moved_136 t a1 (ixr q2.1.toInt32 v4) q2.2)
        else
          (fma_moved_136 t a1 ((ixu q2.1.toInt32 v4) ||| (ixl q2.1.toInt32 (-v4))) q2.2))))
  else
    (if v5 = (0 : Int32) then
    (some (.inr ((lxl q2.1 v4), q2.2)))
  else
    (if v5 = (kI 1) then
      (some (.inr ((lxu q2.1 v4), q2.2)))
    else
      (if v5 = (kI 2) then
        (some (.inr ((lxr q2.1 v4), q2.2)))
      else
        (some (.inr (((lxu q2.1 v4) ||| (lxl q2.1 (-v4))), q2.2))))))
noncomputable def fma_add_74 (t : Nat) (a1 : Int32) (l2 : Int32) (s0 : Int32) (s1 : Int32) (s2 : Int32) (s3 : Int64) (s4 : Int64) (s5 : Nat) (s6 : Int32) (s7 : Nat) (W : jW) : Option ((Nat × jW) ⊕ jW) :=
  gd (jC W s5 = 10) <|
  (fma_sum s5 s4 s3 s2 s1 s0 W).bind fun q12 =>
  gd (jC q12.2 s7 = 10) <|
  (fma_put s7 s6 q12.1 l2 q12.2).bind fun q15 =>
  some (.inr q15)
noncomputable def fma_add_58 (t : Nat) (a1 : Int32) (l2 : Int32) (s0 : Int32) (s1 : Int64) (s2 : Int64) (s3 : Nat) (s4 : Int32) (s5 : Nat) (W : jW) : Option ((Nat × jW) ⊕ jW) :=
  if ((ixr a1 (kI 29)) &&& (kI 1)) = (kI 1) then
    (fma_add_74 t a1 l2 (kI 1) l2 s0 s1 s2 s3 s4 s5 W)
  else
    (fma_add_74 t a1 l2 (kI 0) l2 s0 s1 s2 s3 s4 s5 W)
noncomputable def fma_add_42 (t : Nat) (a1 : Int32) (l2 : Int32) (l3 : Int64) (s0 : Int64) (s1 : Nat) (s2 : Int32) (s3 : Nat) (W : jW) : Option ((Nat × jW) ⊕ jW) :=
  if ((ixr a1 (kI 30)) &&& (kI 1)) = (kI 1) then
    (fma_add_58 t a1 l2 (kI 1) l3 s0 s1 s2 s3 W)
  else
    (fma_add_58 t a1 l2 (kI 0) l3 s0 s1 s2 s3 W)
noncomputable def fma_add (t : Nat) (a1 : Int32) (W : jW) : Option ((Nat × jW) ⊕ jW) :=
  jlt (fwo_isLong a1) fun v1 =>
  gd (jC W t = 10) <|
  (fma_moved t a1 W).bind <| Sum.elim (fun z => some (.inl z)) fun q3 =>
  gd (jC q3.2 t = 10) <|
  (fma_number t (fwo_n a1) q3.2).bind <| Sum.elim (fun z => some (.inl z)) fun q6 =>
  if v1 = (0 : Int32) then
    (fma_add_42 t a1 v1 q3.1 (q6.1 &&& (kJ 4294967295)) t (fwo_d a1) t q6.2)
  else
    (fma_add_42 t a1 v1 q3.1 q6.1 t (fwo_d a1) t q6.2)
noncomputable def fma_isMovable_26 (t : Nat) (a1 : Int32) (W : jW) : Option (Int32) :=
  some (kI 1)
noncomputable def fma_isMovable_30 (t : Nat) (a1 : Int32) (W : jW) : Option (Int32) :=
  some (kI 0)
noncomputable def fma_isMovable (t : Nat) (a1 : Int32) (W : jW) : Option (Int32) :=
  if a1 = (kI 31) then
    (fma_isMovable_30 t a1 W)
  else
    (gd (jC W t = 10) <|
  gd (jin a1 (jN W 1008 t)) <|
  if (jA W 1008 t (ix a1)) = (kI 1) then
    (fma_isMovable_26 t a1 W)
  else
    (gd (jin a1 (jN W 1008 t)) <| if (jA W 1008 t (ix a1)) = (kI 2) then
    (fma_isMovable_26 t a1 W)
  else
    (fma_isMovable_30 t a1 W)))
noncomputable def fma_and_258 (t : Nat) (a1 : Int32) (l4 : Int32) (l10 : Int64) (W : jW) : Option ((Nat × jW) ⊕ jW) :=
  gd (jC W t = 10) <| (fma_put t (fwo_d a1) l10 l4 W).bind fun q53 => some (.inr q53)
noncomputable def fma_and_245 (t : Nat) (a1 : Int32) (l4 : Int32) (l10 : Int64) (s0 : Int32) (s1 : Nat) (W : jW) : Option ((Nat × jW) ⊕ jW) :=
  gd (jC W s1 = 10) <|
  gd (i2z s0 = s0) <|
  jlt (sI W 1011 s1 s0) fun W36 =>
  gd (jC W36 t = 10) <|
  jlt (sI W36 1012 t (kI 0)) fun W41 =>
  jlt (sI W41 1013 t (kI 0)) fun W46 =>
  fma_and_258 t a1 l4 l10 W46
noncomputable def fma_and_229 (t : Nat) (a1 : Int32) (l4 : Int32) (l10 : Int64) (s0 : Int32) (s1 : Nat) (W : jW) : Option ((Nat × jW) ⊕ jW) :=
  gd (jC W s1 = 10) <|
  gd (i2z s0 = s0) <|
  jlt (sI W 1010 s1 s0) fun W29 =>
  if l10 = (kJ 0) then
    (fma_and_245 t a1 l4 l10 (kI 1) t W29)
  else
    (fma_and_245 t a1 l4 l10 (kI 0) t W29)
noncomputable def fma_and_192 (t : Nat) (a1 : Int32) (l2 : Int32) (l4 : Int32) (l10 : Int64) (W : jW) : Option ((Nat × jW) ⊕ jW) :=
  if l2 = (kI 3) then
    (if l4 = (0 : Int32) then
    (if l10.toInt32 < (0 : Int32) then
      (fma_and_229 t a1 l4 l10 (kI 1) t W)
    else
      (fma_and_229 t a1 l4 l10 (kI 0) t W))
  else
    (if l10 < (kJ 0) then
    (fma_and_229 t a1 l4 l10 (kI 1) t W)
  else
    (fma_and_229 t a1 l4 l10 (kI 0) t W)))
  else
    (fma_and_258 t a1 l4 l10 W)
noncomputable def fma_and_177 (t : Nat) (a1 : Int32) (l2 : Int32) (l4 : Int32) (s0 : Int64) (W : jW) : Option ((Nat × jW) ⊕ jW) :=
  if l4 = (0 : Int32) then
    (jlt (s0 &&& (kJ 4294967295)) fun v24 => fma_and_192 t a1 l2 l4 v24 W)
  else
    (fma_and_192 t a1 l2 l4 s0 W)
noncomputable def fma_and_134 (t : Nat) (a1 : Int32) (l2 : Int32) (l4 : Int32) (s0 : Int64) (W : jW) : Option ((Nat × jW) ⊕ jW) :=
  gd (jC W t = 10) <|
  (fma_number t (fwo_n a1) W).bind <| Sum.elim (fun z => some (.inl z)) fun q21 =>
  if l2 = (kI 1) then
    (fma_and_177 t a1 l2 l4 (q21.1 ||| s0) q21.2)
  else
    (if l2 = (kI 2) then
      (fma_and_177 t a1 l2 l4 (q21.1 ^^^ s0) q21.2)
    else
      (fma_and_177 t a1 l2 l4 (q21.1 &&& s0) q21.2))
noncomputable def fma_and_113 (t : Nat) (a1 : Int32) (l2 : Int32) (l3 : Int32) (l4 : Int32) (W : jW) : Option ((Nat × jW) ⊕ jW) :=
  if l3 = (0 : Int32) then
    (gd (jC W t = 10) <| (fma_moved t a1 W).bind <| Sum.elim (fun z => some (.inl z)) fun q14 => fma_and_134 t a1 l2 l4 q14.1 q14.2)
  else
    (gd (jC W t = 10) <| (fma_moved t a1 W).bind <| Sum.elim (fun z => some (.inl z)) fun q17 => fma_and_134 t a1 l2 l4 (q17.1 ^^^ (kJ (-1))) q17.2)
noncomputable def fma_and_22 (t : Nat) (a1 : Int32) (l2 : Int32) (s0 : Int32) (W : jW) : Option ((Nat × jW) ⊕ jW) :=
  jlt (fwo_isLong a1) fun v3 =>
  jlt (fwo_m a1) fun v4 =>
  if l2 = (kI 1) then
    (if (fwo_n a1) = (kI 31) then
    (if s0 = (0 : Int32) then
    (if v3 = (0 : Int32) then
    (fma_and_113 t a1 l2 s0 v3 W)
  else
    (if (fwo_amount a1) = (0 : Int32) then
    (gd (jC W t = 10) <|
  (fma_isMovable t v4 W).bind fun q6 =>
  if q6 = (0 : Int32) then
    (fma_and_113 t a1 l2 s0 v3 W)
  else
    (if (fwo_d a1) = (kI 31) then
    (some (.inr W))
  else
    (gd (jin v4 (jN W 1007 t)) <|
  gd (jin v4 (jN W 1008 t)) <|
  gd (jin v4 (jN W 1009 t)) <|
  (fma_code t (fwo_d a1) (jB W 1007 t (ix v4)) (jA W 1008 t (ix v4)) (jA W 1009 t (ix v4)) W).bind fun q10 =>
  some (.inr q10))))
  else
    (fma_and_113 t a1 l2 s0 v3 W)))
  else
    (fma_and_113 t a1 l2 s0 v3 W))
  else
    (fma_and_113 t a1 l2 s0 v3 W))
  else
    (fma_and_113 t a1 l2 s0 v3 W)
noncomputable def fma_and (t : Nat) (a1 : Int32) (W : jW) : Option ((Nat × jW) ⊕ jW) :=
  jlt ((ixr a1 (kI 29)) &&& (kI 3)) fun v1 =>
  if ((ixr a1 (kI 21)) &&& (kI 1)) = (kI 1) then
    (fma_and_22 t a1 v1 (kI 1) W)
  else
    (fma_and_22 t a1 v1 (kI 0) W)
noncomputable def fma_move_75 (t : Nat) (a1 : Int32) (s0 : Int64) (s1 : Int32) (s2 : Nat) (W : jW) : Option ((Nat × jW) ⊕ jW) :=
  gd (jC W s2 = 10) <| (fma_put s2 s1 s0 (fwo_isLong a1) W).bind fun q11 => some (.inr q11)
noncomputable def fma_move_56 (t : Nat) (a1 : Int32) (l3 : Int64) (l5 : Int32) (W : jW) : Option ((Nat × jW) ⊕ jW) :=
  if l5 = (0 : Int32) then
    (fma_move_75 t a1 (l3 ^^^ (kJ (-1))) (fwo_d a1) t W)
  else
    (fma_move_75 t a1 l3 (fwo_d a1) t W)
noncomputable def fma_move (t : Nat) (a1 : Int32) (W : jW) : Option ((Nat × jW) ⊕ jW) :=
  jlt ((kI 16) * ((ixr a1 (kI 21)) &&& (kI 3))) fun v1 =>
  jlt (lxl (((ixr a1 (kI 5)) &&& (kI 65535)).toInt64) v1) fun v2 =>
  jlt ((ixr a1 (kI 29)) &&& (kI 3)) fun v3 =>
  if v3 = (kI 3) then
    (gd (jC W t = 10) <|
  (fma_number t (fwo_d a1) W).bind <| Sum.elim (fun z => some (.inl z)) fun q5 =>
  jlt ((q5.1 &&& ((lxl (kJ 65535) v1) ^^^ (kJ (-1)))) ||| v2) fun v7 =>
  fma_move_56 t a1 v7 v3 q5.2)
  else
    (fma_move_56 t a1 v2 v3 W)
noncomputable def fma_page_40 (t : Nat) (a1 : Int32) (a2 : Int32) (l3 : Int64) (s0 : Int32) (W : jW) : Option (jW) :=
  if (fwo_d a1) = (kI 31) then
    (some W)
  else
    (if s0 < (0 : Int32) then
      (gd (jC W t = 10) <| (fma_put t (fwo_d a1) l3 (kI 1) W).bind fun q9 => some q9)
    else
      (gd (jC W t = 10) <|
    gd (jC W (jR W 1001 t) = 2) <|
    gd (jin s0 (jN W 206 (jR W 1001 t))) <|
    (fma_code t (fwo_d a1) l3 (kI 3) (jA W 206 (jR W 1001 t) (ix s0)) W).bind fun q14 =>
    some q14))
noncomputable def fma_page (t : Nat) (a1 : Int32) (a2 : Int32) (W : jW) : Option (jW) :=
  gd (jC W t = 10) <|
  jlt ((fwo_pageOf (jL W 1014 t)) + (fwo_pageBy a1)) fun v2 =>
  (fma_isNew t W).bind fun q3 =>
  if q3 = (0 : Int32) then
    (gd (jC W (jR W 1001 t) = 2) <|
    gd (jin a2 (jN W 207 (jR W 1001 t))) <|
    (fpg_targetWord (jR W 1001 t) (jA W 207 (jR W 1001 t) (ix a2)) W).bind fun q6 =>
    fma_page_40 t a1 a2 v2 q6 W)
  else
    (fma_page_40 t a1 a2 v2 (kI (-1)) W)
noncomputable def fma_quotient (a0 : Int64) (a2 : Int64) (W : jW) : Option (Int64) :=
  if a2 < (kJ 0) then
    (if (fcl_isAbove a2 a0) = (0 : Int32) then
    (some (kJ 1))
  else
    (some (kJ 0)))
  else
    (if a0 < (kJ 0) then
      (gd (¬ a2 = (0 : Int64)) <|
      jlt (lxl ((lxu a0 (kI 1)) / a2) (kI 1)) fun v2 =>
      if (fcl_isAbove a2 (a0 - (v2 * a2))) = (0 : Int32) then
        (some (v2 + (kJ 1)))
      else
        (some v2))
    else
      (gd (¬ a2 = (0 : Int64)) <| some (a0 / a2)))
noncomputable def fma_two_206 (t : Nat) (a1 : Int32) (l2 : Int32) (l9 : Int64) (W : jW) : Option ((Nat × jW) ⊕ jW) :=
  gd (jC W t = 10) <| (fma_put t (fwo_d a1) l9 l2 W).bind fun q20 => some (.inr q20)
noncomputable def fma_two_88 (t : Nat) (a1 : Int32) (l2 : Int32) (s0 : Int64) (W : jW) : Option ((Nat × jW) ⊕ jW) :=
  fma_two_206 t a1 l2 s0 W
noncomputable def fma_two_154 (t : Nat) (a1 : Int32) (l2 : Int32) (s0 : Int64) (W : jW) : Option ((Nat × jW) ⊕ jW) :=
  fma_two_206 t a1 l2 s0 W
noncomputable def fma_two_204 (t : Nat) (a1 : Int32) (l2 : Int32) (s0 : Int64) (W : jW) : Option ((Nat × jW) ⊕ jW) :=
  fma_two_206 t a1 l2 s0 W
noncomputable def fma_two_62 (t : Nat) (a1 : Int32) (l2 : Int32) (l3 : Int64) (l5 : Int64) (l7 : Int32) (s0 : Int32) (s1 : Int32) (W : jW) : Option ((Nat × jW) ⊕ jW) :=
  jlt (s1 &&& s0) fun v13 =>
  if l7 = (kI 2) then
    (if l5 = (kJ 0) then
    (fma_two_88 t a1 l2 (kJ 0) W)
  else
    ((fma_quotient l3 l5 W).bind fun q16 => fma_two_88 t a1 l2 q16 W))
  else
    (if l7 = (kI 3) then
      (if l5 = (kJ 0) then
      (fma_two_154 t a1 l2 (kJ 0) W)
    else
      (if l2 = (0 : Int32) then
        (if l5.toInt32 = (kI (-1)) then
          (fma_two_154 t a1 l2 (-l3) W)
        else
          (gd (¬ l5.toInt32 = (0 : Int32)) <| fma_two_154 t a1 l2 ((l3.toInt32 / l5.toInt32).toInt64) W))
      else
        (if l5 = (kJ (-1)) then
        (fma_two_154 t a1 l2 (-l3) W)
      else
        (gd (¬ l5 = (0 : Int64)) <| fma_two_154 t a1 l2 (l3 / l5) W))))
    else
      (if l7 = (kI 8) then
        (fma_two_204 t a1 l2 (lxl l3 v13) W)
      else
        (if l7 = (kI 9) then
          (fma_two_204 t a1 l2 (lxu l3 v13) W)
        else
          (if l2 = (0 : Int32) then
            (fma_two_204 t a1 l2 ((ixr l3.toInt32 v13).toInt64) W)
          else
            (fma_two_204 t a1 l2 (lxr l3 v13) W)))))
noncomputable def fma_two_42 (t : Nat) (a1 : Int32) (l2 : Int32) (l3 : Int64) (l5 : Int64) (W : jW) : Option ((Nat × jW) ⊕ jW) :=
  jlt (fwo_amount a1) fun v11 =>
  if l2 = (0 : Int32) then
    (fma_two_62 t a1 l2 l3 l5 v11 (kI 31) l5.toInt32 W)
  else
    (fma_two_62 t a1 l2 l3 l5 v11 (kI 63) l5.toInt32 W)
noncomputable def fma_two (t : Nat) (a1 : Int32) (W : jW) : Option ((Nat × jW) ⊕ jW) :=
  jlt (fwo_isLong a1) fun v1 =>
  gd (jC W t = 10) <|
  (fma_number t (fwo_n a1) W).bind <| Sum.elim (fun z => some (.inl z)) fun q3 =>
  gd (jC q3.2 t = 10) <|
  (fma_number t (fwo_m a1) q3.2).bind <| Sum.elim (fun z => some (.inl z)) fun q6 =>
  if v1 = (0 : Int32) then
    (jlt (q3.1 &&& (kJ 4294967295)) fun v8 => jlt (q6.1 &&& (kJ 4294967295)) fun v9 => fma_two_42 t a1 v1 v8 v9 q6.2)
  else
    (fma_two_42 t a1 v1 q3.1 q6.1 q6.2)
noncomputable def fma_holds_151 (t : Nat) (a1 : Int32) (s0 : Int32) (s1 : Int32) (W : jW) : Option (Int32) :=
  if s1 = s0 then
    (some (kI 1))
  else
    (some (kI 0))
noncomputable def fma_holds_139 (t : Nat) (a1 : Int32) (l2 : Int32) (W : jW) : Option (Int32) :=
  if (a1 &&& (kI 1)) = (0 : Int32) then
    (fma_holds_151 t a1 (kI 1) l2 W)
  else
    (fma_holds_151 t a1 (kI 0) l2 W)
noncomputable def fma_holds_138 (t : Nat) (a1 : Int32) (s0 : Int32) (W : jW) : Option (Int32) :=
  fma_holds_139 t a1 s0 W
noncomputable def fma_holds_137 (t : Nat) (a1 : Int32) (W : jW) : Option (Int32) :=
  fma_holds_138 t a1 (kI 0) W
noncomputable def fma_holds_91 (t : Nat) (a1 : Int32) (s0 : Int32) (W : jW) : Option (Int32) :=
  fma_holds_139 t a1 s0 W
noncomputable def fma_holds_90 (t : Nat) (a1 : Int32) (W : jW) : Option (Int32) :=
  fma_holds_91 t a1 (kI 0) W
noncomputable def fma_holds_111 (t : Nat) (a1 : Int32) (s0 : Int32) (W : jW) : Option (Int32) :=
  fma_holds_139 t a1 s0 W
noncomputable def fma_holds (t : Nat) (a1 : Int32) (W : jW) : Option (Int32) :=
  jlt (ixr a1 (kI 1)) fun v1 =>
  if v1 = (kI 0) then
    (gd (jC W t = 10) <| jlt (jI W 1011 t) fun v4 => fma_holds_139 t a1 v4 W)
  else if v1 = (kI 1) then
    (gd (jC W t = 10) <| jlt (jI W 1012 t) fun v7 => fma_holds_139 t a1 v7 W)
  else if v1 = (kI 2) then
    (gd (jC W t = 10) <| jlt (jI W 1010 t) fun v10 => fma_holds_139 t a1 v10 W)
  else if v1 = (kI 3) then
    (gd (jC W t = 10) <| jlt (jI W 1013 t) fun v13 => fma_holds_139 t a1 v13 W)
  else if v1 = (kI 4) then
    (gd (jC W t = 10) <|
    if (jI W 1012 t) = (0 : Int32) then
      (fma_holds_90 t a1 W)
    else
      (if (jI W 1011 t) = (0 : Int32) then
      (fma_holds_91 t a1 (kI 1) W)
    else
      (fma_holds_90 t a1 W)))
  else if v1 = (kI 5) then
    (gd (jC W t = 10) <| if (jI W 1010 t) = (jI W 1013 t) then
      (fma_holds_111 t a1 (kI 1) W)
    else
      (fma_holds_111 t a1 (kI 0) W))
  else (gd (jC W t = 10) <|
  if (jI W 1010 t) = (jI W 1013 t) then
    (if (jI W 1011 t) = (0 : Int32) then
    (fma_holds_138 t a1 (kI 1) W)
  else
    (fma_holds_137 t a1 W))
  else
    (fma_holds_137 t a1 W))
noncomputable def fma_choose_128 (t : Nat) (a1 : Int32) (s0 : Int32) (s1 : Int64) (s2 : Int32) (s3 : Nat) (W : jW) : Option ((Nat × jW) ⊕ jW) :=
  gd (jC W s3 = 10) <| (fma_put s3 s2 (s1 + s0.toInt64) (fwo_isLong a1) W).bind fun q18 => some (.inr q18)
noncomputable def fma_choose_127 (t : Nat) (a1 : Int32) (s0 : Int64) (s1 : Int32) (s2 : Nat) (W : jW) : Option ((Nat × jW) ⊕ jW) :=
  fma_choose_128 t a1 (kI 0) s0 s1 s2 W
noncomputable def fma_choose_104 (t : Nat) (a1 : Int32) (l2 : Int32) (l3 : Int32) (l4 : Int32) (W : jW) : Option ((Nat × jW) ⊕ jW) :=
  gd (jC W t = 10) <|
  (fma_number t l4 W).bind <| Sum.elim (fun z => some (.inl z)) fun q14 =>
  if l3 = (0 : Int32) then
    (fma_choose_127 t a1 q14.1 (fwo_d a1) t q14.2)
  else
    (if l2 = (0 : Int32) then
    (fma_choose_128 t a1 (kI 1) q14.1 (fwo_d a1) t q14.2)
  else
    (fma_choose_127 t a1 q14.1 (fwo_d a1) t q14.2))
noncomputable def fma_choose_43 (t : Nat) (a1 : Int32) (l2 : Int32) (l3 : Int32) (s0 : Int32) (W : jW) : Option ((Nat × jW) ⊕ jW) :=
  if l3 = (0 : Int32) then
    (if (fwo_isLong a1) = (0 : Int32) then
    (fma_choose_104 t a1 l2 l3 s0 W)
  else
    (gd (jC W t = 10) <|
  (fma_isMovable t s0 W).bind fun q6 =>
  if q6 = (0 : Int32) then
    (fma_choose_104 t a1 l2 l3 s0 W)
  else
    (if (fwo_d a1) = (kI 31) then
    (some (.inr W))
  else
    (gd (jin s0 (jN W 1007 t)) <|
  gd (jin s0 (jN W 1008 t)) <|
  gd (jin s0 (jN W 1009 t)) <|
  (fma_code t (fwo_d a1) (jB W 1007 t (ix s0)) (jA W 1008 t (ix s0)) (jA W 1009 t (ix s0)) W).bind fun q10 =>
  some (.inr q10)))))
  else
    (fma_choose_104 t a1 l2 l3 s0 W)
noncomputable def fma_choose_27 (t : Nat) (a1 : Int32) (l2 : Int32) (s0 : Int32) (W : jW) : Option ((Nat × jW) ⊕ jW) :=
  if l2 = (0 : Int32) then
    (fma_choose_43 t a1 l2 s0 (fwo_m a1) W)
  else
    (fma_choose_43 t a1 l2 s0 (fwo_n a1) W)
noncomputable def fma_choose (t : Nat) (a1 : Int32) (W : jW) : Option ((Nat × jW) ⊕ jW) :=
  gd (jC W t = 10) <|
  (fma_holds t ((ixr a1 (kI 12)) &&& (kI 15)) W).bind fun q2 =>
  if ((ixr a1 (kI 10)) &&& (kI 1)) = (kI 1) then
    (fma_choose_27 t a1 q2 (kI 1) W)
  else
    (fma_choose_27 t a1 q2 (kI 0) W)
noncomputable def fma_isStorable_40 (t : Nat) (a1 : Int32) (a2 : Int64) (a4 : Int32) (W : jW) : Option (Int32) :=
  some (kI 1)
noncomputable def fma_isStorable_44 (t : Nat) (a1 : Int32) (a2 : Int64) (a4 : Int32) (W : jW) : Option (Int32) :=
  some (kI 0)
noncomputable def fma_isStorable (t : Nat) (a1 : Int32) (a2 : Int64) (a4 : Int32) (W : jW) : Option (Int32) :=
  if a1 = (kI 31) then
    (fma_isStorable_40 t a1 a2 a4 W)
  else
    (gd (jC W t = 10) <|
  gd (jin a1 (jN W 1008 t)) <|
  if (jA W 1008 t (ix a1)) = (0 : Int32) then
    (fma_isStorable_40 t a1 a2 a4 W)
  else
    ((fma_isMovable t a1 W).bind fun q3 =>
  if q3 = (0 : Int32) then
    (fma_isStorable_44 t a1 a2 a4 W)
  else
    (if a4 = (kI 8) then
    (if (lrm a2 (kJ 8)) = (kJ 0) then
    (fma_isStorable_40 t a1 a2 a4 W)
  else
    (fma_isStorable_44 t a1 a2 a4 W))
  else
    (fma_isStorable_44 t a1 a2 a4 W))))
noncomputable def fma_isInTexts_38 (t : Nat) (a1 : Int64) (a3 : Int32) (s0 : Int32) (W : jW) : Option (Int32) :=
  gd (jC W t = 10) <|
  (fma_begin t W).bind fun q7 =>
  (fma_begin t W).bind fun q8 =>
  gd (i2z (fcl_isIn a1 ((q7 - a3.toInt64) + (kJ 1)) (q8 + s0.toInt64)) = (fcl_isIn a1 ((q7 - a3.toInt64) + (kJ 1)) (q8 + s0.toInt64))) <|
  some (fcl_isIn a1 ((q7 - a3.toInt64) + (kJ 1)) (q8 + s0.toInt64))
noncomputable def fma_isInTexts (t : Nat) (a1 : Int64) (a3 : Int32) (W : jW) : Option (Int32) :=
  gd (jC W t = 10) <|
  if (jI W 1006 t) = (0 : Int32) then
    (gd (jC W (jR W 1001 t) = 2) <| fma_isInTexts_38 t a1 a3 ((kI 4) * (jI W 203 (jR W 1001 t))) W)
  else
    (gd (jC W (jR W 1001 t) = 2) <|
  gd (jC W (jR W 1002 t) = 9) <|
  fma_isInTexts_38 t a1 a3 (fjm_max_2 ((kI 4) * (jI W 203 (jR W 1001 t))) (jI W 912 (jR W 1002 t))) W)
abbrev fme_hasCode_S : Type := (Int32) ⊕ (Int32 × Int64 × Int32)
noncomputable def fme_hasCode_133 (t : Nat) (a1 : Int64) (a3 : Int32) (l4 : Int32) (W : jW) : Option (fme_hasCode_S ⊕ (Int32)) :=
  jlt (l4 + (kI 1)) fun v15 => some (.inl (.inl v15))
noncomputable def fme_hasCode_100 (t : Nat) (a1 : Int64) (a3 : Int32) (l4 : Int32) (l7 : Int64) (l9 : Int32) (W : jW) : Option (fme_hasCode_S ⊕ (Int32)) :=
  gd (jC W t = 12) <|
  (fme_cellOf t l4 (l7 - (kJ 1)) W).bind fun q18 =>
  if q18 < l9 then
    (fme_hasCode_133 t a1 a3 l4 W)
  else
    (gd (jin l9 (jN W 1205 t)) <|
  if (jA W 1205 t (ix l9)) = (0 : Int32) then
    (jlt (l9 + (kI 1)) fun v20 => some (.inl (.inr (l4, l7, v20))))
  else
    (some (.inr (kI 1))))
noncomputable def fme_hasCode_74 (t : Nat) (a1 : Int64) (a3 : Int32) (l4 : Int32) (l5 : Int64) (s0 : Int64) (s1 : Int64) (W : jW) : Option (fme_hasCode_S ⊕ (Int32)) :=
  jlt (fjm_min_2 s1 s0) fun v11 =>
  if l5 < v11 then
    (gd (jC W t = 12) <| (fme_cellOf t l4 l5 W).bind fun q13 => some (.inl (.inr (l4, v11, q13))))
  else
    (fme_hasCode_133 t a1 a3 l4 W)
noncomputable def fme_hasCode_35 (t : Nat) (a1 : Int64) (a3 : Int32) (l4 : Int32) (s0 : Int64) (s1 : Int64) (W : jW) : Option (fme_hasCode_S ⊕ (Int32)) :=
  jlt (fjm_max s1 s0) fun v6 =>
  gd (jC W t = 12) <|
  (fme_addressOf t l4 W).bind fun q8 =>
  (fme_sizeOf t l4 W).bind fun q9 =>
  if (fcl_isAbove a1 (kJ 2147483648)) = (0 : Int32) then
    (fme_hasCode_74 t a1 a3 l4 v6 (a1 + a3.toInt64) (q8 + q9.toInt64) W)
  else
    (fme_hasCode_74 t a1 a3 l4 v6 (kJ 2147483648) (q8 + q9.toInt64) W)
noncomputable def fme_hasCode_3 (t : Nat) (a1 : Int64) (a3 : Int32) (l4 : Int32) (W : jW) : Option (fme_hasCode_S ⊕ (Int32)) :=
  gd (jC W t = 12) <|
  (fme_regions t W).bind fun q3 =>
  if l4 < q3 then
    ((fme_addressOf t l4 W).bind fun q4 =>
  if (fcl_isAbove a1 (kJ 2147483648)) = (0 : Int32) then
    (fme_hasCode_35 t a1 a3 l4 a1 q4 W)
  else
    (fme_hasCode_35 t a1 a3 l4 (kJ 2147483648) q4 W))
  else
    (some (.inr (kI 0)))
noncomputable def fme_hasCode_st (t : Nat) (a1 : Int64) (a3 : Int32) (W : jW) : fme_hasCode_S → Option (fme_hasCode_S ⊕ (Int32)) :=
  (Sum.elim (fun s => fme_hasCode_3 t a1 a3 s W) (fun s => fme_hasCode_100 t a1 a3 s.1 s.2.1 s.2.2 W))
noncomputable def fme_hasCode_0 (t : Nat) (a1 : Int64) (a3 : Int32) (W : jW) : Option (fme_hasCode_S ⊕ (Int32)) :=
  some (.inl (.inl (kI 0)))
noncomputable def fme_hasCode (t : Nat) (a1 : Int64) (a3 : Int32) (W : jW) : Option (Int32) :=
  jrn (fme_hasCode_st t a1 a3 W) (fme_hasCode_0 t a1 a3 W)
noncomputable def fme_mayStore_25 (t : Nat) (a1 : Int32) (W : jW) : Option (Int32) :=
  some (kI 1)
noncomputable def fme_mayStore (t : Nat) (a1 : Int32) (W : jW) : Option (Int32) :=
  gd (jC W t = 12) <|
  (fme_stack t W).bind fun q2 =>
  if a1 = q2 then
    (fme_mayStore_25 t a1 W)
  else
    (gd (jC W (jR W 1200 t) = 2) <|
  gd (jC W (jR W 201 (jR W 1200 t)) = 4) <|
  gd (jin a1 (jN W 407 (jR W 201 (jR W 1200 t)))) <|
  if (jA W 407 (jR W 201 (jR W 1200 t)) (ix a1)) = (kI 6) then
    (fme_mayStore_25 t a1 W)
  else
    (some (kI 0)))
noncomputable def fma_looked_88 (t : Nat) (a1 : Int64) (a3 : Int32) (a4 : Int32) (l5 : Int32) (W : jW) : Option ((Nat × jW) ⊕ Int32 × jW) :=
  some (.inr (l5, W))
noncomputable def fma_looked_124 (t : Nat) (a1 : Int64) (a3 : Int32) (a4 : Int32) (W : jW) : Option ((Nat × jW) ⊕ Int32 × jW) :=
  gd (jC W t = 10) <| gd (jC W (jR W 1004 t) = 11) <| (fha_by (jR W 1004 t) (kI 2) W).bind fun q25 => gd (¬ q25.1 = 0) <| some (.inl (q25.1, q25.2))
noncomputable def fma_looked_91 (t : Nat) (a1 : Int64) (a3 : Int32) (a4 : Int32) (W : jW) : Option ((Nat × jW) ⊕ Int32 × jW) :=
  if a4 = (0 : Int32) then
    (gd (jC W t = 10) <|
  (fma_begin t W).bind fun q19 =>
  (fma_begin t W).bind fun q20 =>
  (fma_bytes t W).bind fun q21 =>
  if (fcl_isIn a1 q19 (((q20 + q21.toInt64) - a3.toInt64) + (kJ 1))) = (0 : Int32) then
    (fma_looked_124 t a1 a3 a4 W)
  else
    (some (.inr ((kI (-1)), W))))
  else
    (fma_looked_124 t a1 a3 a4 W)
noncomputable def fma_looked_52 (t : Nat) (a1 : Int64) (a3 : Int32) (a4 : Int32) (s0 : Int32) (s1 : Nat) (W : jW) : Option ((Nat × jW) ⊕ Int32 × jW) :=
  gd (jC W s1 = 10) <|
  (fma_must s1 s0 W).bind <| Sum.elim (fun z => some (.inl z)) fun q10 =>
  gd (jC q10 t = 10) <|
  gd (jC q10 (jR q10 1005 t) = 12) <|
  (fme_regionOf (jR q10 1005 t) a1 a3 q10).bind fun q14 =>
  if q14 < (0 : Int32) then
    (fma_looked_91 t a1 a3 a4 q10)
  else
    (if a4 = (0 : Int32) then
    (fma_looked_88 t a1 a3 a4 q14 q10)
  else
    ((fme_mayStore (jR q10 1005 t) q14 q10).bind fun q15 =>
  if q15 = (0 : Int32) then
    (fma_looked_91 t a1 a3 a4 q10)
  else
    (fma_looked_88 t a1 a3 a4 q14 q10)))
noncomputable def fma_looked_47 (t : Nat) (a1 : Int64) (a3 : Int32) (a4 : Int32) (s0 : Nat) (W : jW) : Option ((Nat × jW) ⊕ Int32 × jW) :=
  fma_looked_52 t a1 a3 a4 (kI 1) s0 W
noncomputable def fma_looked_35 (t : Nat) (a1 : Int64) (a3 : Int32) (a4 : Int32) (s0 : Nat) (W : jW) : Option ((Nat × jW) ⊕ Int32 × jW) :=
  gd (jC W t = 10) <|
  gd (jC W (jR W 1005 t) = 12) <|
  (fme_hasCode (jR W 1005 t) a1 a3 W).bind fun q31 =>
  if q31 = (0 : Int32) then
    (fma_looked_47 t a1 a3 a4 s0 W)
  else
    (fma_looked_52 t a1 a3 a4 (kI 0) s0 W)
noncomputable def fma_looked_15 (t : Nat) (a1 : Int64) (a3 : Int32) (a4 : Int32) (s0 : Int32) (s1 : Nat) (W : jW) : Option ((Nat × jW) ⊕ Int32 × jW) :=
  gd (jC W s1 = 10) <|
  (fma_must s1 s0 W).bind <| Sum.elim (fun z => some (.inl z)) fun q5 =>
  if a3 = (kI 8) then
    (if (lrm a1 (kJ 8)) = (kJ 0) then
    (fma_looked_47 t a1 a3 a4 t q5)
  else
    (fma_looked_35 t a1 a3 a4 t q5))
  else
    (fma_looked_35 t a1 a3 a4 t q5)
noncomputable def fma_looked (t : Nat) (a1 : Int64) (a3 : Int32) (a4 : Int32) (W : jW) : Option ((Nat × jW) ⊕ Int32 × jW) :=
  gd (jC W t = 10) <|
  (fma_isInTexts t a1 a3 W).bind fun q2 =>
  if q2 = (0 : Int32) then
    (fma_looked_15 t a1 a3 a4 (kI 1) t W)
  else
    (fma_looked_15 t a1 a3 a4 (kI 0) t W)
noncomputable def fme_placeOf (t : Nat) (a1 : Int32) (a2 : Int64) (W : jW) : Option (Int32) :=
  gd (jC W t = 12) <| gd (jin a1 (jN W 1203 t)) <| (fme_addressOf t a1 W).bind fun q3 => some ((jA W 1203 t (ix a1)) + ((a2 - q3).toInt32))
abbrev fme_store_S : Type := (Int32 × Int32 × jW)
noncomputable def fme_store_11 (t : Nat) (a1 : Int32) (a2 : Int64) (a4 : Int32) (a5 : Int64) (l7 : Int32) (l8 : Int32) (W : jW) : Option (fme_store_S ⊕ (jW)) :=
  if l8 < a4 then
    (gd (jC W t = 12) <|
  gd (jin (l7 + l8) (jN W 1202 t)) <|
  jlt (pA W 1202 t (ix (l7 + l8)) (i2b (i2b ((lxr a5 ((kI 8) * l8)).toInt32)))) fun W6 =>
  jlt (l8 + (kI 1)) fun v10 =>
  some (.inl (l7, v10, W6)))
  else
    (some (.inr W))
noncomputable def fme_store_st (t : Nat) (a1 : Int32) (a2 : Int64) (a4 : Int32) (a5 : Int64) : fme_store_S → Option (fme_store_S ⊕ (jW)) :=
  (fun s => fme_store_11 t a1 a2 a4 a5 s.1 s.2.1 s.2.2)
noncomputable def fme_store_0 (t : Nat) (a1 : Int32) (a2 : Int64) (a4 : Int32) (a5 : Int64) (W : jW) : Option (fme_store_S ⊕ (jW)) :=
  gd (jC W t = 12) <| (fme_placeOf t a1 a2 W).bind fun q2 => some (.inl (q2, (kI 0), W))
noncomputable def fme_store (t : Nat) (a1 : Int32) (a2 : Int64) (a4 : Int32) (a5 : Int64) (W : jW) : Option (jW) :=
  jrn (fme_store_st t a1 a2 a4 a5) (fme_store_0 t a1 a2 a4 a5 W)
noncomputable def fma_storeFrom_79 (t : Nat) (a1 : Int32) (a2 : Int32) (a3 : Int64) (a5 : Int32) (s0 : Int32) (s1 : Int32) (s2 : Int64) (s3 : Int32) (s4 : Nat) (W : jW) : Option (jW) :=
  gd (jC W s4 = 12) <| (fme_tell s4 s3 s2 s1 s0 W).bind fun q13 => some q13
noncomputable def fma_storeFrom_63 (t : Nat) (a1 : Int32) (a2 : Int32) (a3 : Int64) (a5 : Int32) (s0 : Int32) (s1 : Int64) (s2 : Int32) (s3 : Nat) (W : jW) : Option (jW) :=
  if a1 = (kI 31) then
    (fma_storeFrom_79 t a1 a2 a3 a5 (kI 0) s0 s1 s2 s3 W)
  else
    (gd (jC W t = 10) <| gd (jin a1 (jN W 1009 t)) <| fma_storeFrom_79 t a1 a2 a3 a5 (jA W 1009 t (ix a1)) s0 s1 s2 s3 W)
noncomputable def fma_storeFrom (t : Nat) (a1 : Int32) (a2 : Int32) (a3 : Int64) (a5 : Int32) (W : jW) : Option (jW) :=
  gd (jC W t = 10) <|
  (fma_get t a1 W).bind fun q2 =>
  gd (jC W (jR W 1005 t) = 12) <|
  (fme_store (jR W 1005 t) a2 a3 a5 q2 W).bind fun q4 =>
  gd (jC q4 t = 10) <|
  if (jI q4 1000 t) = (kI 1) then
    (if a5 = (kI 8) then
    (if (lrm a3 (kJ 8)) = (kJ 0) then
    (if a1 = (kI 31) then
    (fma_storeFrom_63 t a1 a2 a3 a5 (kI 0) a3 a2 (jR q4 1005 t) q4)
  else
    (gd (jin a1 (jN q4 1008 t)) <| fma_storeFrom_63 t a1 a2 a3 a5 (jA q4 1008 t (ix a1)) a3 a2 (jR q4 1005 t) q4))
  else
    (some q4))
  else
    (some q4))
  else
    (some q4)
abbrev fme_load_S : Type := (Int64 × Int32 × Int32)
noncomputable def fme_load_17 (t : Nat) (a1 : Int32) (a2 : Int64) (a4 : Int32) (l5 : Int64) (l7 : Int32) (l8 : Int32) (W : jW) : Option (fme_load_S ⊕ (Int64)) :=
  if l8 < (0 : Int32) then
    (some (.inr l5))
  else
    (gd (jC W t = 12) <|
  gd (jin (l7 + l8) (jN W 1202 t)) <|
  jlt ((lxl l5 (kI 8)) ||| (((jA W 1202 t (ix (l7 + l8))) &&& (kI 255)).toInt64)) fun v7 =>
  jlt (l8 + (kI (-1))) fun v8 =>
  some (.inl (v7, l7, v8)))
noncomputable def fme_load_st (t : Nat) (a1 : Int32) (a2 : Int64) (a4 : Int32) (W : jW) : fme_load_S → Option (fme_load_S ⊕ (Int64)) :=
  (fun s => fme_load_17 t a1 a2 a4 s.1 s.2.1 s.2.2 W)
noncomputable def fme_load_0 (t : Nat) (a1 : Int32) (a2 : Int64) (a4 : Int32) (W : jW) : Option (fme_load_S ⊕ (Int64)) :=
  gd (jC W t = 12) <| (fme_placeOf t a1 a2 W).bind fun q2 => jlt (a4 - (kI 1)) fun v3 => some (.inl ((kJ 0), q2, v3))
noncomputable def fme_load (t : Nat) (a1 : Int32) (a2 : Int64) (a4 : Int32) (W : jW) : Option (Int64) :=
  jrn (fme_load_st t a1 a2 a4 W) (fme_load_0 t a1 a2 a4 W)
abbrev fma_loaded_S : Type := (Int64 × Int32)
noncomputable def fma_loaded_78 (t : Nat) (a1 : Int32) (a2 : Int64) (a4 : Int32) (l5 : Int64) (l7 : Int32) (l8 : Int32) (s0 : Int32) (W : jW) : Option (fma_loaded_S ⊕ (Int64)) :=
  jlt ((lxl l5 (kI 8)) ||| (((ixr s0 ((kI 8) * (irm l8 (kI 4)))) &&& (kI 255)).toInt64)) fun v15 =>
  jlt (l7 + (kI (-1))) fun v16 =>
  some (.inl (v15, v16))
noncomputable def fma_loaded_25 (t : Nat) (a1 : Int32) (a2 : Int64) (a4 : Int32) (l5 : Int64) (l7 : Int32) (W : jW) : Option (fma_loaded_S ⊕ (Int64)) :=
  if l7 < (0 : Int32) then
    (some (.inr l5))
  else
    (gd (jC W t = 10) <|
  (fma_begin t W).bind fun q7 =>
  jlt (((a2 + l7.toInt64) - q7).toInt32) fun v8 =>
  (fma_isNew t W).bind fun q9 =>
  if q9 = (0 : Int32) then
    (gd (jC W (jR W 1001 t) = 2) <|
    gd (jin (v8 / (kI 4)) (jN W 204 (jR W 1001 t))) <|
    fma_loaded_78 t a1 a2 a4 l5 l7 v8 (jA W 204 (jR W 1001 t) (ix (v8 / (kI 4)))) W)
  else
    (gd (jC W (jR W 1002 t) = 9) <| (fwr_wordAt (jR W 1002 t) ((v8 / (kI 4)) * (kI 4)) W).bind fun q13 => fma_loaded_78 t a1 a2 a4 l5 l7 v8 q13 W))
noncomputable def fma_loaded_st (t : Nat) (a1 : Int32) (a2 : Int64) (a4 : Int32) (W : jW) : fma_loaded_S → Option (fma_loaded_S ⊕ (Int64)) :=
  (fun s => fma_loaded_25 t a1 a2 a4 s.1 s.2 W)
noncomputable def fma_loaded_0 (t : Nat) (a1 : Int32) (a2 : Int64) (a4 : Int32) (W : jW) : Option (fma_loaded_S ⊕ (Int64)) :=
  if a1 < (0 : Int32) then
    (jlt (a4 - (kI 1)) fun v1 => some (.inl ((kJ 0), v1)))
  else
    (gd (jC W t = 10) <| gd (jC W (jR W 1005 t) = 12) <| (fme_load (jR W 1005 t) a1 a2 a4 W).bind fun q4 => some (.inr q4))
noncomputable def fma_loaded (t : Nat) (a1 : Int32) (a2 : Int64) (a4 : Int32) (W : jW) : Option (Int64) :=
  jrn (fma_loaded_st t a1 a2 a4 W) (fma_loaded_0 t a1 a2 a4 W)
noncomputable def fme_kindAt (t : Nat) (a1 : Int32) (a2 : Int64) (W : jW) : Option (Int32) :=
  gd (jC W t = 12) <| (fme_cellOf t a1 a2 W).bind fun q2 => gd (jin q2 (jN W 1205 t)) <| some (jA W 1205 t (ix q2))
noncomputable def fma_isCode_45 (t : Nat) (a1 : Int32) (a2 : Int64) (a4 : Int32) (W : jW) : Option (Int32) :=
  some (kI 0)
noncomputable def fma_isCode (t : Nat) (a1 : Int32) (a2 : Int64) (a4 : Int32) (W : jW) : Option (Int32) :=
  gd (jC W t = 10) <|
  if (jI W 1000 t) = (kI 1) then
    (if a1 < (0 : Int32) then
    (fma_isCode_45 t a1 a2 a4 W)
  else
    (if a4 = (kI 8) then
    (if (lrm a2 (kJ 8)) = (kJ 0) then
    (gd (jC W (jR W 1005 t) = 12) <|
  (fme_kindAt (jR W 1005 t) a1 a2 W).bind fun q3 =>
  if q3 = (0 : Int32) then
    (fma_isCode_45 t a1 a2 a4 W)
  else
    (some (kI 1)))
  else
    (fma_isCode_45 t a1 a2 a4 W))
  else
    (fma_isCode_45 t a1 a2 a4 W)))
  else
    (fma_isCode_45 t a1 a2 a4 W)
noncomputable def fme_blockAt (t : Nat) (a1 : Int32) (a2 : Int64) (W : jW) : Option (Int32) :=
  gd (jC W t = 12) <| (fme_cellOf t a1 a2 W).bind fun q2 => gd (jin q2 (jN W 1206 t)) <| some (jA W 1206 t (ix q2))
noncomputable def fma_loadTo_71 (t : Nat) (a1 : Int32) (a2 : Int32) (a3 : Int64) (a5 : Int32) (a6 : Int32) (s0 : Int64) (s1 : Int32) (s2 : Nat) (W : jW) : Option (jW) :=
  gd (jC W s2 = 10) <| (fma_put s2 s1 s0 (kI 1) W).bind fun q11 => some q11
noncomputable def fma_loadTo (t : Nat) (a1 : Int32) (a2 : Int32) (a3 : Int64) (a5 : Int32) (a6 : Int32) (W : jW) : Option (jW) :=
  gd (jC W t = 10) <|
  (fma_loaded t a2 a3 a5 W).bind fun q2 =>
  (fma_isCode t a2 a3 a5 W).bind fun q3 =>
  if q3 = (0 : Int32) then
    (if a6 = (0 : Int32) then
      (fma_loadTo_71 t a1 a2 a3 a5 a6 q2 a1 t W)
    else
      (fma_loadTo_71 t a1 a2 a3 a5 a6 q2.toInt32.toInt64 a1 t W))
  else
    (if a1 = (kI 31) then
    (some W)
  else
    (gd (jC W (jR W 1005 t) = 12) <|
  (fme_kindAt (jR W 1005 t) a2 a3 W).bind fun q5 =>
  (fme_blockAt (jR W 1005 t) a2 a3 W).bind fun q6 =>
  (fma_code t a1 q2 q5 q6 W).bind fun q7 =>
  some q7))
noncomputable def fma_access_95 (t : Nat) (a1 : Int32) (a2 : Int64) (s0 : Int32) (s1 : Int32) (s2 : Int64) (s3 : Int32) (s4 : Int32) (s5 : Nat) (W : jW) : Option ((Nat × jW) ⊕ jW) :=
  gd (jC W s5 = 10) <| (fma_loadTo s5 s4 s3 s2 s1 s0 W).bind fun q18 => some (.inr q18)
noncomputable def fma_access_52 (t : Nat) (a1 : Int32) (a2 : Int64) (l4 : Int32) (l5 : Int32) (l6 : Int32) (s0 : Int32) (s1 : Int32) (s2 : Int64) (s3 : Nat) (W : jW) : Option ((Nat × jW) ⊕ jW) :=
  gd (jC W s3 = 10) <|
  (fma_looked s3 s2 s1 s0 W).bind <| Sum.elim (fun z => some (.inl z)) fun q11 =>
  if l5 = (0 : Int32) then
    (gd (jC q11.2 t = 10) <| (fma_storeFrom t l6 q11.1 a2 l4 q11.2).bind fun q14 => some (.inr q14))
  else
    (if l5 = (kI 2) then
      (fma_access_95 t a1 a2 (kI 1) l4 a2 q11.1 l6 t q11.2)
    else
      (fma_access_95 t a1 a2 (kI 0) l4 a2 q11.1 l6 t q11.2))
noncomputable def fma_access_38 (t : Nat) (a1 : Int32) (a2 : Int64) (l4 : Int32) (l5 : Int32) (l6 : Int32) (W : jW) : Option ((Nat × jW) ⊕ jW) :=
  if l5 = (0 : Int32) then
    (fma_access_52 t a1 a2 l4 l5 l6 (kI 1) l4 a2 t W)
  else
    (fma_access_52 t a1 a2 l4 l5 l6 (kI 0) l4 a2 t W)
noncomputable def fma_access (t : Nat) (a1 : Int32) (a2 : Int64) (W : jW) : Option ((Nat × jW) ⊕ jW) :=
  jlt (fwo_bytesOf a1) fun v1 =>
  jlt ((ixr a1 (kI 22)) &&& (kI 3)) fun v2 =>
  jlt (fwo_d a1) fun v3 =>
  if v2 = (0 : Int32) then
    (gd (jC W t = 10) <|
  (fma_isStorable t v3 a2 v1 W).bind fun q5 =>
  (fma_must t q5 W).bind <| Sum.elim (fun z => some (.inl z)) fun q6 =>
  fma_access_38 t a1 a2 v1 v2 v3 q6)
  else
    (fma_access_38 t a1 a2 v1 v2 v3 W)
noncomputable def fma_pair_320 (t : Nat) (a1 : Int32) (l2 : Int32) (l3 : Int32) (l4 : Int64) (l6 : Int64) (W : jW) : Option ((Nat × jW) ⊕ jW) :=
  if l2 = (kI 2) then
    (some (.inr W))
  else
    (gd (jC W t = 10) <| (fma_putBase t l3 (l6 + l4) (kI 1) W).bind fun q58 => some (.inr q58))
noncomputable def fma_pair_249 (t : Nat) (a1 : Int32) (l2 : Int32) (l3 : Int32) (l4 : Int64) (l6 : Int64) (l8 : Int64) (l10 : Int32) (l11 : Int32) (l12 : Int32) (l13 : Int32) (s0 : Int32) (s1 : Int32) (s2 : Int64) (s3 : Nat) (W : jW) : Option ((Nat × jW) ⊕ jW) :=
  gd (jC W s3 = 10) <|
  (fma_looked s3 s2 s1 s0 W).bind <| Sum.elim (fun z => some (.inl z)) fun q42 =>
  if l10 = (0 : Int32) then
    (gd (jC q42.2 t = 10) <|
    (fma_storeFrom t l11 l13 l8 (kI 8) q42.2).bind fun q45 =>
    gd (jC q45 t = 10) <|
    (fma_storeFrom t l12 q42.1 (l8 + (kJ 8)) (kI 8) q45).bind fun q48 =>
    fma_pair_320 t a1 l2 l3 l4 l6 q48)
  else
    (gd (jC q42.2 t = 10) <|
  (fma_loadTo t l11 l13 l8 (kI 8) (kI 0) q42.2).bind fun q51 =>
  gd (jC q51 t = 10) <|
  (fma_loadTo t l12 q42.1 (l8 + (kJ 8)) (kI 8) (kI 0) q51).bind fun q54 =>
  fma_pair_320 t a1 l2 l3 l4 l6 q54)
noncomputable def fma_pair_225 (t : Nat) (a1 : Int32) (l2 : Int32) (l3 : Int32) (l4 : Int64) (l6 : Int64) (l8 : Int64) (l10 : Int32) (l11 : Int32) (l12 : Int32) (s0 : Int32) (s1 : Int32) (s2 : Int64) (s3 : Nat) (W : jW) : Option ((Nat × jW) ⊕ jW) :=
  gd (jC W s3 = 10) <|
  (fma_looked s3 s2 s1 s0 W).bind <| Sum.elim (fun z => some (.inl z)) fun q38 =>
  if l10 = (0 : Int32) then
    (fma_pair_249 t a1 l2 l3 l4 l6 l8 l10 l11 l12 q38.1 (kI 1) (kI 8) (l8 + (kJ 8)) t q38.2)
  else
    (fma_pair_249 t a1 l2 l3 l4 l6 l8 l10 l11 l12 q38.1 (kI 0) (kI 8) (l8 + (kJ 8)) t q38.2)
noncomputable def fma_pair_207 (t : Nat) (a1 : Int32) (l2 : Int32) (l3 : Int32) (l4 : Int64) (l6 : Int64) (l8 : Int64) (l10 : Int32) (l11 : Int32) (l12 : Int32) (s0 : Int32) (s1 : Nat) (W : jW) : Option ((Nat × jW) ⊕ jW) :=
  gd (jC W s1 = 10) <|
  (fma_must s1 s0 W).bind <| Sum.elim (fun z => some (.inl z)) fun q34 =>
  if l10 = (0 : Int32) then
    (fma_pair_225 t a1 l2 l3 l4 l6 l8 l10 l11 l12 (kI 1) (kI 8) l8 t q34)
  else
    (fma_pair_225 t a1 l2 l3 l4 l6 l8 l10 l11 l12 (kI 0) (kI 8) l8 t q34)
noncomputable def fma_pair_202 (t : Nat) (a1 : Int32) (l2 : Int32) (l3 : Int32) (l4 : Int64) (l6 : Int64) (l8 : Int64) (l10 : Int32) (l11 : Int32) (l12 : Int32) (s0 : Nat) (W : jW) : Option ((Nat × jW) ⊕ jW) :=
  fma_pair_207 t a1 l2 l3 l4 l6 l8 l10 l11 l12 (kI 1) s0 W
noncomputable def fma_pair_206 (t : Nat) (a1 : Int32) (l2 : Int32) (l3 : Int32) (l4 : Int64) (l6 : Int64) (l8 : Int64) (l10 : Int32) (l11 : Int32) (l12 : Int32) (s0 : Nat) (W : jW) : Option ((Nat × jW) ⊕ jW) :=
  fma_pair_207 t a1 l2 l3 l4 l6 l8 l10 l11 l12 (kI 0) s0 W
noncomputable def fma_pair_155 (t : Nat) (a1 : Int32) (l2 : Int32) (l3 : Int32) (l4 : Int64) (l6 : Int64) (l8 : Int64) (l10 : Int32) (l11 : Int32) (l12 : Int32) (s0 : Int32) (s1 : Nat) (W : jW) : Option ((Nat × jW) ⊕ jW) :=
  gd (jC W s1 = 10) <|
  (fma_must s1 s0 W).bind <| Sum.elim (fun z => some (.inl z)) fun q25 =>
  if (lrm l8 (kJ 8)) = (kJ 0) then
    (fma_pair_202 t a1 l2 l3 l4 l6 l8 l10 l11 l12 t q25)
  else
    (gd (jC q25 t = 10) <|
  gd (jC q25 (jR q25 1005 t) = 12) <|
  (fme_hasCode (jR q25 1005 t) l8 (kI 8) q25).bind fun q29 =>
  if q29 = (0 : Int32) then
    ((fme_hasCode (jR q25 1005 t) (l8 + (kJ 8)) (kI 8) q25).bind fun q30 =>
  if q30 = (0 : Int32) then
    (fma_pair_202 t a1 l2 l3 l4 l6 l8 l10 l11 l12 t q25)
  else
    (fma_pair_206 t a1 l2 l3 l4 l6 l8 l10 l11 l12 t q25))
  else
    (fma_pair_206 t a1 l2 l3 l4 l6 l8 l10 l11 l12 t q25))
noncomputable def fma_pair_154 (t : Nat) (a1 : Int32) (l2 : Int32) (l3 : Int32) (l4 : Int64) (l6 : Int64) (l8 : Int64) (l10 : Int32) (l11 : Int32) (l12 : Int32) (s0 : Nat) (W : jW) : Option ((Nat × jW) ⊕ jW) :=
  fma_pair_155 t a1 l2 l3 l4 l6 l8 l10 l11 l12 (kI 0) s0 W
noncomputable def fma_pair_123 (t : Nat) (a1 : Int32) (l2 : Int32) (l3 : Int32) (l4 : Int64) (l6 : Int64) (l8 : Int64) (l10 : Int32) (l11 : Int32) (l12 : Int32) (W : jW) : Option ((Nat × jW) ⊕ jW) :=
  gd (jC W t = 10) <|
  (fma_isInTexts t l8 (kI 8) W).bind fun q21 =>
  if q21 = (0 : Int32) then
    ((fma_isInTexts t (l8 + (kJ 8)) (kI 8) W).bind fun q22 =>
  if q22 = (0 : Int32) then
    (fma_pair_155 t a1 l2 l3 l4 l6 l8 l10 l11 l12 (kI 1) t W)
  else
    (fma_pair_154 t a1 l2 l3 l4 l6 l8 l10 l11 l12 t W))
  else
    (fma_pair_154 t a1 l2 l3 l4 l6 l8 l10 l11 l12 t W)
noncomputable def fma_pair_120 (t : Nat) (a1 : Int32) (l2 : Int32) (l3 : Int32) (l4 : Int64) (l6 : Int64) (l8 : Int64) (l10 : Int32) (l11 : Int32) (l12 : Int32) (s0 : Int32) (s1 : Nat) (W : jW) : Option ((Nat × jW) ⊕ jW) :=
  gd (jC W s1 = 10) <| (fma_must s1 s0 W).bind <| Sum.elim (fun z => some (.inl z)) fun q16 => fma_pair_123 t a1 l2 l3 l4 l6 l8 l10 l11 l12 q16
noncomputable def fma_pair_119 (t : Nat) (a1 : Int32) (l2 : Int32) (l3 : Int32) (l4 : Int64) (l6 : Int64) (l8 : Int64) (l10 : Int32) (l11 : Int32) (l12 : Int32) (s0 : Nat) (W : jW) : Option ((Nat × jW) ⊕ jW) :=
  fma_pair_120 t a1 l2 l3 l4 l6 l8 l10 l11 l12 (kI 0) s0 W
noncomputable def fma_pair_65 (t : Nat) (a1 : Int32) (l2 : Int32) (l3 : Int32) (l4 : Int64) (l6 : Int64) (l8 : Int64) (s0 : Int32) (W : jW) : Option ((Nat × jW) ⊕ jW) :=
  jlt (fwo_d a1) fun v9 =>
  jlt (fwo_a a1) fun v10 =>
  if s0 = (0 : Int32) then
    (gd (jC W t = 10) <|
  (fma_isStorable t v9 l8 (kI 8) W).bind fun q12 =>
  if q12 = (0 : Int32) then
    (fma_pair_119 t a1 l2 l3 l4 l6 l8 s0 v9 v10 t W)
  else
    ((fma_isStorable t v10 (l8 + (kJ 8)) (kI 8) W).bind fun q13 =>
  if q13 = (0 : Int32) then
    (fma_pair_119 t a1 l2 l3 l4 l6 l8 s0 v9 v10 t W)
  else
    (fma_pair_120 t a1 l2 l3 l4 l6 l8 s0 v9 v10 (kI 1) t W)))
  else
    (fma_pair_123 t a1 l2 l3 l4 l6 l8 s0 v9 v10 W)
noncomputable def fma_pair_48 (t : Nat) (a1 : Int32) (l2 : Int32) (l3 : Int32) (l4 : Int64) (l6 : Int64) (s0 : Int64) (W : jW) : Option ((Nat × jW) ⊕ jW) :=
  if ((ixr a1 (kI 22)) &&& (kI 1)) = (kI 1) then
    (fma_pair_65 t a1 l2 l3 l4 l6 s0 (kI 1) W)
  else
    (fma_pair_65 t a1 l2 l3 l4 l6 s0 (kI 0) W)
noncomputable def fma_pair (t : Nat) (a1 : Int32) (W : jW) : Option ((Nat × jW) ⊕ jW) :=
  jlt ((ixr a1 (kI 23)) &&& (kI 3)) fun v1 =>
  jlt (fwo_n a1) fun v2 =>
  jlt ((kJ 8) * ((ixr (ixl a1 (kI 10)) (kI 25)).toInt64)) fun v3 =>
  gd (jC W t = 10) <|
  (fma_base t v2 W).bind <| Sum.elim (fun z => some (.inl z)) fun q5 =>
  if v1 = (kI 1) then
    (fma_pair_48 t a1 v1 v2 v3 q5.1 q5.1 q5.2)
  else
    (fma_pair_48 t a1 v1 v2 v3 q5.1 (q5.1 + v3) q5.2)
abbrev fma_host_S : Type := (Int64 × Int64 × Int64 × Int32 × Int32 × Int32 × Int32 × jW)
noncomputable def fma_host_293 (t : Nat) (l1 : Int64) (l5 : Int64) (l7 : Int64) (l9 : Int32) (l10 : Int32) (l11 : Int32) (l12 : Int32) (W : jW) : Option (fma_host_S ⊕ ((Nat × jW) ⊕ jW)) :=
  gd (jC W t = 10) <|
  jlt (sI W 1018 t ((jI W 1018 t) + (kI 1))) fun W78 =>
  jlt (l12 + (kI 1)) fun v82 =>
  some (.inl (l1, l5, l7, l9, l10, l11, v82, W78))
noncomputable def fma_host_340 (t : Nat) (s0 : Int64) (s1 : Int32) (s2 : Nat) (W : jW) : Option (fma_host_S ⊕ ((Nat × jW) ⊕ jW)) :=
  gd (jC W s2 = 10) <| (fma_put s2 s1 s0 (kI 1) W).bind fun q85 => some (.inr (.inr q85))
noncomputable def fma_host_252 (t : Nat) (l1 : Int64) (l5 : Int64) (l7 : Int64) (l9 : Int32) (l10 : Int32) (l11 : Int32) (l12 : Int32) (W : jW) : Option (fma_host_S ⊕ ((Nat × jW) ⊕ jW)) :=
  if l12 < l10 then
    (gd (jC W t = 10) <|
  if (jI W 1018 t) < (kI 16384) then
    ((fma_loaded t l11 (l5 + l12.toInt64) (kI 1) W).bind fun q70 =>
  gd (jin (jI W 1018 t) (jN W 1022 t)) <|
  jlt (pA W 1022 t (ix (jI W 1018 t)) (i2b (i2b q70.toInt32))) fun W72 =>
  fma_host_293 t l1 l5 l7 l9 l10 l11 l12 W72)
  else
    (fma_host_293 t l1 l5 l7 l9 l10 l11 l12 W))
  else
    (if l1 = (kJ 93) then
      (gd (jC W t = 10) <| jlt (sI W 1019 t (kI 1)) fun W65 => some (.inr (.inr W65)))
    else
      (if l9 = (0 : Int32) then
        (fma_host_340 t (kJ (-38)) (kI 0) t W)
      else
        (fma_host_340 t l7 (kI 0) t W)))
noncomputable def fma_host_239 (t : Nat) (l1 : Int64) (l5 : Int64) (l7 : Int64) (l9 : Int32) (l10 : Int32) (l11 : Int32) (W : jW) : Option (fma_host_S ⊕ ((Nat × jW) ⊕ jW)) :=
  gd (jC W t = 10) <| jlt (sI W 1017 t ((jI W 1017 t) + (kI 1))) fun W59 => some (.inl (l1, l5, l7, l9, l10, l11, (kI 0), W59))
noncomputable def fma_host_173 (t : Nat) (l1 : Int64) (l3 : Int64) (l5 : Int64) (l7 : Int64) (l9 : Int32) (l10 : Int32) (l11 : Int32) (W : jW) : Option (fma_host_S ⊕ ((Nat × jW) ⊕ jW)) :=
  gd (jC W t = 10) <|
  if (jI W 1017 t) < (kI 200) then
    (gd (jin ((kI 4) * (jI W 1017 t)) (jN W 1021 t)) <|
  jlt (pB W 1021 t (ix ((kI 4) * (jI W 1017 t))) l1) fun W38 =>
  gd (jin (((kI 4) * (jI W38 1017 t)) + (kI 1)) (jN W38 1021 t)) <|
  jlt (pB W38 1021 t (ix (((kI 4) * (jI W38 1017 t)) + (kI 1))) l3) fun W43 =>
  gd (jin (((kI 4) * (jI W43 1017 t)) + (kI 2)) (jN W43 1021 t)) <|
  jlt (pB W43 1021 t (ix (((kI 4) * (jI W43 1017 t)) + (kI 2))) l5) fun W48 =>
  gd (jin (((kI 4) * (jI W48 1017 t)) + (kI 3)) (jN W48 1021 t)) <|
  jlt (pB W48 1021 t (ix (((kI 4) * (jI W48 1017 t)) + (kI 3))) l7) fun W53 =>
  fma_host_239 t l1 l5 l7 l9 l10 l11 W53)
  else
    (fma_host_239 t l1 l5 l7 l9 l10 l11 W)
noncomputable def fma_host_111 (t : Nat) (l1 : Int64) (l3 : Int64) (l5 : Int64) (l7 : Int64) (l9 : Int32) (l10 : Int32) (s0 : Int32) (s1 : Nat) (W : jW) : Option (fma_host_S ⊕ ((Nat × jW) ⊕ jW)) :=
  gd (jC W s1 = 10) <|
  (fma_must s1 s0 W).bind <| Sum.elim (fun z => some (.inr (.inl z))) fun q21 =>
  gd (jC q21 t = 10) <|
  gd (jC q21 (jR q21 1005 t) = 12) <|
  (fme_regionOf (jR q21 1005 t) l5 l10 q21).bind fun q25 =>
  (fma_begin t q21).bind fun q26 =>
  (fma_begin t q21).bind fun q27 =>
  (fma_bytes t q21).bind fun q28 =>
  jlt (fcl_isIn l5 q26 (((q27 + q28.toInt64) - l10.toInt64) + (kJ 1))) fun v29 =>
  if q25 < (0 : Int32) then
    (if v29 = (0 : Int32) then
    (gd (jC q21 (jR q21 1004 t) = 11) <| (fha_by (jR q21 1004 t) (kI 2) q21).bind fun q31 => gd (¬ q31.1 = 0) <| some (.inr (.inl (q31.1, q31.2))))
  else
    (fma_host_173 t l1 l3 l5 l7 l9 l10 q25 q21))
  else
    (fma_host_173 t l1 l3 l5 l7 l9 l10 q25 q21)
noncomputable def fma_host_110 (t : Nat) (l1 : Int64) (l3 : Int64) (l5 : Int64) (l7 : Int64) (l9 : Int32) (l10 : Int32) (s0 : Nat) (W : jW) : Option (fma_host_S ⊕ ((Nat × jW) ⊕ jW)) :=
  fma_host_111 t l1 l3 l5 l7 l9 l10 (kI 0) s0 W
noncomputable def fma_host_70 (t : Nat) (l1 : Int64) (l3 : Int64) (l5 : Int64) (l7 : Int64) (l9 : Int32) (s0 : Int32) (W : jW) : Option (fma_host_S ⊕ ((Nat × jW) ⊕ jW)) :=
  if (0 : Int32) < s0 then
    (gd (jC W t = 10) <|
  (fma_isInTexts t l5 s0 W).bind fun q16 =>
  if q16 = (0 : Int32) then
    (gd (jC W (jR W 1005 t) = 12) <|
  (fme_hasCode (jR W 1005 t) l5 s0 W).bind fun q18 =>
  if q18 = (0 : Int32) then
    (fma_host_111 t l1 l3 l5 l7 l9 s0 (kI 1) t W)
  else
    (fma_host_110 t l1 l3 l5 l7 l9 s0 t W))
  else
    (fma_host_110 t l1 l3 l5 l7 l9 s0 t W))
  else
    (fma_host_173 t l1 l3 l5 l7 l9 s0 (kI (-1)) W)
noncomputable def fma_host_56 (t : Nat) (l1 : Int64) (l3 : Int64) (l5 : Int64) (l7 : Int64) (s0 : Int32) (W : jW) : Option (fma_host_S ⊕ ((Nat × jW) ⊕ jW)) :=
  if s0 = (0 : Int32) then
    (fma_host_70 t l1 l3 l5 l7 s0 (kI 0) W)
  else
    (fma_host_70 t l1 l3 l5 l7 s0 l7.toInt32 W)
noncomputable def fma_host_55 (t : Nat) (l1 : Int64) (l3 : Int64) (l5 : Int64) (l7 : Int64) (W : jW) : Option (fma_host_S ⊕ ((Nat × jW) ⊕ jW)) :=
  fma_host_56 t l1 l3 l5 l7 (kI 0) W
noncomputable def fma_host_st (t : Nat) : fma_host_S → Option (fma_host_S ⊕ ((Nat × jW) ⊕ jW)) :=
  (fun s => fma_host_252 t s.1 s.2.1 s.2.2.1 s.2.2.2.1 s.2.2.2.2.1 s.2.2.2.2.2.1 s.2.2.2.2.2.2.1 s.2.2.2.2.2.2.2)
noncomputable def fma_host_0 (t : Nat) (W : jW) : Option (fma_host_S ⊕ ((Nat × jW) ⊕ jW)) :=
  gd (jC W t = 10) <|
  (fma_number t (kI 8) W).bind <| Sum.elim (fun z => some (.inr (.inl z))) fun q2 =>
  gd (jC q2.2 t = 10) <|
  (fma_number t (kI 0) q2.2).bind <| Sum.elim (fun z => some (.inr (.inl z))) fun q5 =>
  gd (jC q5.2 t = 10) <|
  (fma_number t (kI 1) q5.2).bind <| Sum.elim (fun z => some (.inr (.inl z))) fun q8 =>
  gd (jC q8.2 t = 10) <|
  (fma_number t (kI 2) q8.2).bind <| Sum.elim (fun z => some (.inr (.inl z))) fun q11 =>
  if q2.1 = (kJ 64) then
    (if q11.1 < (kJ 0) then
    (fma_host_55 t q2.1 q5.1 q8.1 q11.1 q11.2)
  else
    (if (kJ 4096) < q11.1 then
    (fma_host_55 t q2.1 q5.1 q8.1 q11.1 q11.2)
  else
    (fma_host_56 t q2.1 q5.1 q8.1 q11.1 (kI 1) q11.2)))
  else
    (fma_host_55 t q2.1 q5.1 q8.1 q11.1 q11.2)
noncomputable def fma_host (t : Nat) (W : jW) : Option ((Nat × jW) ⊕ jW) :=
  jrn (fma_host_st t) (fma_host_0 t W)
noncomputable def fma_link_32 (t : Nat) (a1 : Int32) (s0 : Int32) (s1 : Int32) (s2 : Int64) (s3 : Int32) (s4 : Nat) (W : jW) : Option (jW) :=
  gd (jC W s4 = 10) <| (fma_code s4 s3 s2 s1 s0 W).bind fun q7 => some q7
noncomputable def fma_link (t : Nat) (a1 : Int32) (W : jW) : Option (jW) :=
  gd (jC W t = 10) <|
  (fma_isNew t W).bind fun q2 =>
  if q2 = (0 : Int32) then
    (gd (jC W (jR W 1001 t) = 2) <|
    gd (jin a1 (jN W 206 (jR W 1001 t))) <|
    fma_link_32 t a1 (jA W 206 (jR W 1001 t) (ix a1)) (kI 2) ((jL W 1014 t) + (kJ 4)) (kI 30) t W)
  else
    (fma_link_32 t a1 (kI 0) (kI 2) ((jL W 1014 t) + (kJ 4)) (kI 30) t W)
noncomputable def fwr_behindEnd (t : Nat) (a1 : Int32) (W : jW) : Option (Int64) :=
  gd (jC W t = 9) <|
  (fwr_addressOf t a1 W).bind fun q2 =>
  gd (jC W (jR W 900 t) = 2) <|
  (fpg_wordsOf (jR W 900 t) a1 W).bind fun q4 =>
  some (q2 + ((kJ 4) * q4.toInt64))
noncomputable def fma_isKnown_36 (t : Nat) (a1 : Int64) (W : jW) : Option (Int32) :=
  some (kI 0)
noncomputable def fma_isKnown_100 (t : Nat) (a1 : Int64) (W : jW) : Option (Int32) :=
  some (kI 0)
noncomputable def fma_isKnown_83 (t : Nat) (a1 : Int64) (l3 : Int32) (W : jW) : Option (Int32) :=
  gd (jC W t = 10) <|
  gd (jC W (jR W 1002 t) = 9) <|
  (fwr_behindEnd (jR W 1002 t) l3 W).bind fun q13 =>
  if q13 = a1 then
    (some (kI 1))
  else
    (fma_isKnown_100 t a1 W)
noncomputable def fma_isKnown (t : Nat) (a1 : Int64) (W : jW) : Option (Int32) :=
  gd (jC W t = 10) <|
  (fma_blockOf t a1 W).bind fun q2 =>
  if q2 < (0 : Int32) then
    ((fma_isNew t W).bind fun q3 =>
    if q3 = (0 : Int32) then
      (fma_isKnown_36 t a1 W)
    else
      (if (lrm a1 (kJ 4)) = (kJ 0) then
      ((fma_begin t W).bind fun q4 =>
    if a1 = q4 then
      (fma_isKnown_36 t a1 W)
    else
      ((fma_begin t W).bind fun q5 =>
      (fma_blockFrom t (((a1 - q5).toInt32) - (kI 4)) (kI 0) W).bind fun q6 =>
      if q6 < (0 : Int32) then
        (fma_isKnown_100 t a1 W)
      else
        (gd (jC W (jR W 1001 t) = 2) <|
      gd (jin q6 (jN W 214 (jR W 1001 t))) <|
      if (jA W 214 (jR W 1001 t) (ix q6)) = (kI 4) then
        (fma_isKnown_83 t a1 q6 W)
      else
        (gd (jin q6 (jN W 214 (jR W 1001 t))) <|
      if (jA W 214 (jR W 1001 t) (ix q6)) = (kI 5) then
        (fma_isKnown_83 t a1 q6 W)
      else
        (fma_isKnown_100 t a1 W)))))
    else
      (fma_isKnown_36 t a1 W)))
  else
    (some (kI 1))
noncomputable def fma_to_119 (t : Nat) (a1 : Int32) (a2 : Int32) (a3 : Int32) (l5 : Int64) (W : jW) : Option ((Nat × jW) ⊕ Int64 × jW) :=
  some (.inr (l5, W))
noncomputable def fma_to_108 (t : Nat) (a1 : Int32) (a2 : Int32) (a3 : Int32) (l5 : Int64) (W : jW) : Option ((Nat × jW) ⊕ Int64 × jW) :=
  if a2 = (kI 18) then
    (gd (jC W t = 10) <| (fma_link t a3 W).bind fun q20 => fma_to_119 t a1 a2 a3 l5 q20)
  else
    (fma_to_119 t a1 a2 a3 l5 W)
noncomputable def fma_to_81 (t : Nat) (a1 : Int32) (a2 : Int32) (a3 : Int32) (l5 : Int64) (W : jW) : Option ((Nat × jW) ⊕ Int64 × jW) :=
  gd (jC W t = 10) <|
  (fma_isText t l5 W).bind fun q12 =>
  if q12 = (0 : Int32) then
    (fma_to_108 t a1 a2 a3 l5 W)
  else
    ((fma_isKnown t l5 W).bind fun q13 =>
  if q13 = (0 : Int32) then
    (gd (jC W (jR W 1004 t) = 11) <| (fha_by (jR W 1004 t) (kI 4) W).bind fun q15 => gd (¬ q15.1 = 0) <| some (.inl (q15.1, q15.2)))
  else
    (fma_to_108 t a1 a2 a3 l5 W))
noncomputable def fma_to_56 (t : Nat) (a1 : Int32) (a2 : Int32) (a3 : Int32) (l5 : Int64) (s0 : Int32) (s1 : Nat) (W : jW) : Option ((Nat × jW) ⊕ Int64 × jW) :=
  gd (jC W s1 = 10) <| (fma_must s1 s0 W).bind <| Sum.elim (fun z => some (.inl z)) fun q8 => fma_to_81 t a1 a2 a3 l5 q8
noncomputable def fma_to_78 (t : Nat) (a1 : Int32) (a2 : Int32) (a3 : Int32) (l5 : Int64) (s0 : Int32) (s1 : Nat) (W : jW) : Option ((Nat × jW) ⊕ Int64 × jW) :=
  gd (jC W s1 = 10) <| (fma_must s1 s0 W).bind <| Sum.elim (fun z => some (.inl z)) fun q28 => fma_to_81 t a1 a2 a3 l5 q28
noncomputable def fma_to_62 (t : Nat) (a1 : Int32) (a2 : Int32) (a3 : Int32) (l5 : Int64) (W : jW) : Option ((Nat × jW) ⊕ Int64 × jW) :=
  gd (jC W t = 10) <|
  (fma_isInTexts t l5 (kI 4) W).bind fun q25 =>
  if q25 = (0 : Int32) then
    (fma_to_78 t a1 a2 a3 l5 (kI 1) t W)
  else
    (fma_to_78 t a1 a2 a3 l5 (kI 0) t W)
noncomputable def fma_to (t : Nat) (a1 : Int32) (a2 : Int32) (a3 : Int32) (W : jW) : Option ((Nat × jW) ⊕ Int64 × jW) :=
  jlt (fwo_n a1) fun v1 =>
  gd (jC W t = 10) <|
  (fma_get t v1 W).bind fun q3 =>
  if (jI W 1000 t) = (kI 1) then
    (if v1 = (kI 31) then
    (fma_to_62 t a1 a2 a3 q3 W)
  else
    (gd (jin v1 (jN W 1008 t)) <|
  if (jA W 1008 t (ix v1)) = (0 : Int32) then
    (fma_to_62 t a1 a2 a3 q3 W)
  else
    (gd (jin v1 (jN W 1008 t)) <|
  if (jA W 1008 t (ix v1)) = (kI 3) then
    (fma_to_56 t a1 a2 a3 q3 (kI 0) t W)
  else
    (fma_to_56 t a1 a2 a3 q3 (kI 1) t W))))
  else
    (fma_to_62 t a1 a2 a3 q3 W)
noncomputable def fma_gone_201 (t : Nat) (a1 : Int32) (a2 : Int32) (a3 : Int32) (l4 : Int32) (W : jW) : Option ((Nat × jW) ⊕ Int64 × jW) :=
  if l4 = (0 : Int32) then
    (gd (jC W t = 10) <| some (.inr (((jL W 1014 t) + (kJ 4)), W)))
  else
    (gd (jC W t = 10) <| some (.inr (((jL W 1014 t) + ((fwo_by a1 a2).toInt64)), W)))
noncomputable def fma_gone_138 (t : Nat) (a1 : Int32) (a2 : Int32) (a3 : Int32) (s0 : Int32) (W : jW) : Option ((Nat × jW) ⊕ Int64 × jW) :=
  fma_gone_201 t a1 a2 a3 s0 W
noncomputable def fma_gone_130 (t : Nat) (a1 : Int32) (a2 : Int32) (a3 : Int32) (s0 : Int32) (s1 : Int32) (W : jW) : Option ((Nat × jW) ⊕ Int64 × jW) :=
  if s1 = s0 then
    (fma_gone_138 t a1 a2 a3 (kI 1) W)
  else
    (fma_gone_138 t a1 a2 a3 (kI 0) W)
noncomputable def fma_gone_116 (t : Nat) (a1 : Int32) (a2 : Int32) (a3 : Int32) (s0 : Int32) (W : jW) : Option ((Nat × jW) ⊕ Int64 × jW) :=
  if ((ixr a1 (kI 24)) &&& (kI 1)) = (0 : Int32) then
    (fma_gone_130 t a1 a2 a3 (kI 1) s0 W)
  else
    (fma_gone_130 t a1 a2 a3 (kI 0) s0 W)
noncomputable def fma_gone_106 (t : Nat) (a1 : Int32) (a2 : Int32) (a3 : Int32) (s0 : Int64) (W : jW) : Option ((Nat × jW) ⊕ Int64 × jW) :=
  if s0 = (kJ 0) then
    (fma_gone_116 t a1 a2 a3 (kI 1) W)
  else
    (fma_gone_116 t a1 a2 a3 (kI 0) W)
noncomputable def fma_gone_188 (t : Nat) (a1 : Int32) (a2 : Int32) (a3 : Int32) (s0 : Int32) (W : jW) : Option ((Nat × jW) ⊕ Int64 × jW) :=
  fma_gone_201 t a1 a2 a3 s0 W
noncomputable def fma_gone (t : Nat) (a1 : Int32) (a2 : Int32) (a3 : Int32) (W : jW) : Option ((Nat × jW) ⊕ Int64 × jW) :=
  if a2 = (kI 12) then
    (gd (jC W t = 10) <| some (.inr (((jL W 1014 t) + ((fwo_by a1 a2).toInt64)), W)))
  else if a2 = (kI 13) then
    (gd (jC W t = 10) <| (fma_link t a3 W).bind fun q5 => gd (jC q5 t = 10) <| some (.inr (((jL q5 1014 t) + ((fwo_by a1 a2).toInt64)), q5)))
  else if a2 = (kI 14) then
    (gd (jC W t = 10) <| (fma_holds t (a1 &&& (kI 15)) W).bind fun q10 => fma_gone_201 t a1 a2 a3 q10 W)
  else if a2 = (kI 15) then
    (gd (jC W t = 10) <|
    (fma_number t (fwo_d a1) W).bind <| Sum.elim (fun z => some (.inl z)) fun q13 =>
    if (fwo_isLong a1) = (0 : Int32) then
      (fma_gone_106 t a1 a2 a3 (q13.1 &&& (kJ 4294967295)) q13.2)
    else
      (fma_gone_106 t a1 a2 a3 q13.1 q13.2))
  else if a2 = (kI 16) then
    (gd (jC W t = 10) <|
    (fma_number t (fwo_d a1) W).bind <| Sum.elim (fun z => some (.inl z)) fun q17 =>
    jlt ((lxu q17.1 ((ixl (ixu a1 (kI 31)) (kI 5)) ||| ((ixr a1 (kI 19)) &&& (kI 31)))) &&& (kJ 1)) fun v19 =>
    if v19 = ((ixr a1 (kI 24)) &&& (kI 1)).toInt64 then
      (fma_gone_188 t a1 a2 a3 (kI 1) q17.2)
    else
      (fma_gone_188 t a1 a2 a3 (kI 0) q17.2))
  else (gd (jC W t = 10) <| (fma_to t a1 a2 a3 W).bind <| Sum.elim (fun z => some (.inl z)) fun q21 => some (.inr (q21.1, q21.2)))
noncomputable def fma_step_24 (t : Nat) (W : jW) : Option ((Nat × jW) ⊕ jW) :=
  gd (jC W t = 10) <| gd (jC W (jR W 1004 t) = 11) <| (fha_by (jR W 1004 t) (kI 2) W).bind fun q98 => gd (¬ q98.1 = 0) <| some (.inl (q98.1, q98.2))
noncomputable def fma_step_460 (t : Nat) (l4 : Int64) (W : jW) : Option ((Nat × jW) ⊕ jW) :=
  gd (jC W t = 10) <|
  jlt (sI W 1016 t ((jI W 1016 t) + (kI 1))) fun W87 =>
  if (jI W87 1019 t) < (0 : Int32) then
    (jlt (sL W87 1014 t l4) fun W91 => some (.inr W91))
  else
    (some (.inr W87))
noncomputable def fma_step_449 (t : Nat) (l1 : Int32) (l2 : Int32) (l3 : Int32) (W : jW) : Option ((Nat × jW) ⊕ jW) :=
  gd (jC W t = 10) <| (fma_gone t l2 l3 (l1 / (kI 4)) W).bind <| Sum.elim (fun z => some (.inl z)) fun q75 => fma_step_460 t q75.1 q75.2
noncomputable def fma_step_327 (t : Nat) (l2 : Int32) (l4 : Int64) (s0 : Int64) (s1 : Int32) (s2 : Nat) (W : jW) : Option ((Nat × jW) ⊕ jW) :=
  gd (jC W s2 = 10) <| (fma_put s2 s1 s0 (fwo_isLong l2) W).bind fun q83 => fma_step_460 t l4 q83
noncomputable def fma_step_424 (t : Nat) (l4 : Int64) (s0 : Int64) (s1 : Int64) (s2 : Int32) (s3 : Nat) (W : jW) : Option ((Nat × jW) ⊕ jW) :=
  gd (jC W s3 = 10) <| (fma_access s3 s2 (s1 + s0) W).bind <| Sum.elim (fun z => some (.inl z)) fun q79 => fma_step_460 t l4 q79
noncomputable def fma_step_99 (t : Nat) (l1 : Int32) (l2 : Int32) (s0 : Int32) (W : jW) : Option ((Nat × jW) ⊕ jW) :=
  if s0 = (0 : Int32) then
    (gd (jC W t = 10) <| gd (jC W (jR W 1004 t) = 11) <| (fha_by (jR W 1004 t) (kI 2) W).bind fun q70 => gd (¬ q70.1 = 0) <| some (.inl (q70.1, q70.2)))
  else
    (gd (jC W t = 10) <|
    jlt ((jL W 1014 t) + (kJ 4)) fun v17 =>
    if s0 = (kI 1) then
      ((fma_addNumber t l2 (l1 / (kI 4)) W).bind <| Sum.elim (fun z => some (.inl z)) fun q19 => fma_step_460 t v17 q19)
    else if s0 = (kI 2) then
      ((fma_add t l2 W).bind <| Sum.elim (fun z => some (.inl z)) fun q22 => fma_step_460 t v17 q22)
    else if s0 = (kI 3) then
      ((fma_and t l2 W).bind <| Sum.elim (fun z => some (.inl z)) fun q25 => fma_step_460 t v17 q25)
    else if s0 = (kI 4) then
      ((fma_move t l2 W).bind <| Sum.elim (fun z => some (.inl z)) fun q28 => fma_step_460 t v17 q28)
    else if s0 = (kI 5) then
      ((fma_page t l2 (l1 / (kI 4)) W).bind fun q31 => fma_step_460 t v17 q31)
    else if s0 = (kI 6) then
      ((fma_number t (fwo_n l2) W).bind <| Sum.elim (fun z => some (.inl z)) fun q34 =>
      gd (jC q34.2 t = 10) <|
      (fma_number t (fwo_m l2) q34.2).bind <| Sum.elim (fun z => some (.inl z)) fun q37 =>
      jlt (q34.1 * q37.1) fun v39 =>
      gd (jC q37.2 t = 10) <|
      (fma_number t (fwo_a l2) q37.2).bind <| Sum.elim (fun z => some (.inl z)) fun q41 =>
      if ((ixr l2 (kI 15)) &&& (kI 1)) = (kI 1) then
        (fma_step_327 t l2 v17 (q41.1 - v39) (fwo_d l2) t q41.2)
      else
        (fma_step_327 t l2 v17 (q41.1 + v39) (fwo_d l2) t q41.2))
    else if s0 = (kI 7) then
      ((fma_two t l2 W).bind <| Sum.elim (fun z => some (.inl z)) fun q44 => fma_step_460 t v17 q44)
    else if s0 = (kI 8) then
      ((fma_choose t l2 W).bind <| Sum.elim (fun z => some (.inl z)) fun q47 => fma_step_460 t v17 q47)
    else if s0 = (kI 9) then
      ((fma_base t (fwo_n l2) W).bind <| Sum.elim (fun z => some (.inl z)) fun q50 =>
      gd (jC q50.2 t = 10) <|
      (fma_access t l2 (q50.1 + (((fwo_twelve l2).toInt64) * ((fwo_bytesOf l2).toInt64))) q50.2).bind <| Sum.elim (fun z => some (.inl z)) fun q53 =>
      fma_step_460 t v17 q53)
    else if s0 = (kI 10) then
      ((fma_number t (fwo_m l2) W).bind <| Sum.elim (fun z => some (.inl z)) fun q56 =>
      gd (jC q56.2 t = 10) <|
      (fma_base t (fwo_n l2) q56.2).bind <| Sum.elim (fun z => some (.inl z)) fun q59 =>
      if ((ixr l2 (kI 12)) &&& (kI 1)) = (kI 1) then
        (fma_step_424 t v17 (q56.1 * ((fwo_bytesOf l2).toInt64)) q59.1 l2 t q59.2)
      else
        (fma_step_424 t v17 q56.1 q59.1 l2 t q59.2))
    else if s0 = (kI 11) then
      ((fma_pair t l2 W).bind <| Sum.elim (fun z => some (.inl z)) fun q62 => fma_step_460 t v17 q62)
    else if s0 = (kI 20) then
      ((fma_host t W).bind <| Sum.elim (fun z => some (.inl z)) fun q65 => fma_step_460 t v17 q65)
    else if s0 = (kI 21) then
      (fma_step_460 t v17 W)
    else (fma_step_449 t l1 l2 s0 W))
noncomputable def fma_step_73 (t : Nat) (l1 : Int32) (s0 : Int32) (W : jW) : Option ((Nat × jW) ⊕ jW) :=
  gd (jC W t = 10) <|
  (fma_isNew t W).bind fun q12 =>
  if q12 = (0 : Int32) then
    (gd (jC W (jR W 1001 t) = 2) <| gd (jin (l1 / (kI 4)) (jN W 205 (jR W 1001 t))) <| fma_step_99 t l1 s0 (jA W 205 (jR W 1001 t) (ix (l1 / (kI 4)))) W)
  else
    (fma_step_99 t l1 s0 (fwo_kindOf s0) W)
noncomputable def fma_step (t : Nat) (W : jW) : Option ((Nat × jW) ⊕ jW) :=
  gd (jC W t = 10) <|
  (fma_isText t (jL W 1014 t) W).bind fun q2 =>
  if q2 = (0 : Int32) then
    (fma_step_24 t W)
  else
    (if (lrm (jL W 1014 t) (kJ 4)) = (kJ 0) then
    ((fma_begin t W).bind fun q3 =>
    jlt (((jL W 1014 t) - q3).toInt32) fun v4 =>
    (fma_isNew t W).bind fun q5 =>
    if q5 = (0 : Int32) then
      (gd (jC W (jR W 1001 t) = 2) <| gd (jin (v4 / (kI 4)) (jN W 204 (jR W 1001 t))) <| fma_step_73 t v4 (jA W 204 (jR W 1001 t) (ix (v4 / (kI 4)))) W)
    else
      (gd (jC W (jR W 1002 t) = 9) <| (fwr_wordAt (jR W 1002 t) v4 W).bind fun q9 => fma_step_73 t v4 q9 W))
  else
    (fma_step_24 t W))
abbrev fma_run_S : Type := (Int32 × jW) ⊕ (Int32 × jW)
noncomputable def fma_run_274 (t : Nat) (a1 : Int32) (a2 : Int32) (l4 : Int32) (W : jW) : Option (fma_run_S ⊕ (Int32 × jW)) :=
  some (.inl (.inr (l4, W)))
noncomputable def fma_run_293 (t : Nat) (a1 : Int32) (a2 : Int32) (W : jW) : Option (fma_run_S ⊕ (Int32 × jW)) :=
  gd (jC W t = 10) <| some (.inr ((jI W 1019 t), W))
noncomputable def fma_run_280 (t : Nat) (a1 : Int32) (a2 : Int32) (s0 : Nat) (W : jW) : Option (fma_run_S ⊕ (Int32 × jW)) :=
  gd (jC W t = 10) <| gd (jC W (jR W 1004 t) = 11) <| jlt (sI W 1019 t (jI W 1100 (jR W 1004 t))) fun W121 => fma_run_293 t a1 a2 W121
noncomputable def fma_run_263 (t : Nat) (a1 : Int32) (a2 : Int32) (l4 : Int32) (W : jW) : Option (fma_run_S ⊕ (Int32 × jW)) :=
  gd (jC W t = 10) <|
  if (jI W 1019 t) < (0 : Int32) then
    ((fma_step t W).bind <| Sum.elim (fun z => gd (jC z.2 z.1 = 17) (fma_run_280 t a1 a2 z.1 z.2)) fun q115 => fma_run_274 t a1 a2 l4 q115)
  else
    (fma_run_274 t a1 a2 l4 W)
noncomputable def fma_run_234 (t : Nat) (a1 : Int32) (a2 : Int32) (l4 : Int32) (W : jW) : Option (fma_run_S ⊕ (Int32 × jW)) :=
  gd (jC W t = 10) <| jlt (sI W 1019 t (kI 0)) fun W109 => fma_run_263 t a1 a2 l4 W109
noncomputable def fma_run_186 (t : Nat) (a1 : Int32) (a2 : Int32) (l4 : Int32) (W : jW) : Option (fma_run_S ⊕ (Int32 × jW)) :=
  gd (jC W t = 10) <|
  if (jI W 1019 t) < (0 : Int32) then
    ((fma_blockHere t W).bind fun q92 =>
  if q92 < (0 : Int32) then
    (fma_run_263 t a1 a2 l4 W)
  else
    (gd (jC W (jR W 1001 t) = 2) <|
  (fpg_wordsOf (jR W 1001 t) q92 W).bind fun q94 =>
  jlt (l4 + q94) fun v95 =>
  if (jI W 1015 t) = a1 then
    (fma_run_234 t a1 a2 v95 W)
  else
    (if (kI 20000) < v95 then
    (fma_run_234 t a1 a2 v95 W)
  else
    (gd (jin (jI W 1015 t) (jN W 1020 t)) <|
    jlt (pA W 1020 t (ix (jI W 1015 t)) q92) fun W97 =>
    jlt (sI W97 1015 t ((jI W97 1015 t) + (kI 1))) fun W102 =>
    fma_run_263 t a1 a2 v95 W102))))
  else
    (fma_run_293 t a1 a2 W)
noncomputable def fma_run_175 (t : Nat) (a1 : Int32) (a2 : Int32) (s0 : Int64) (s1 : Nat) (W : jW) : Option (fma_run_S ⊕ (Int32 × jW)) :=
  gd (jC W s1 = 10) <| jlt (sL W 1014 s1 s0) fun W80 => gd (jC W80 t = 10) <| jlt (sI W80 1019 t (kI (-1))) fun W85 => some (.inl (.inr ((kI 0), W85)))
noncomputable def fma_run_128 (t : Nat) (a1 : Int32) (a2 : Int32) (W : jW) : Option (fma_run_S ⊕ (Int32 × jW)) :=
  gd (jC W t = 10) <|
  gd (jC W (jR W 1001 t) = 2) <|
  gd (jC W (jR W 201 (jR W 1001 t)) = 4) <|
  (fpg_wordAt (jR W 1001 t) (jL W 404 (jR W 201 (jR W 1001 t))) W).bind fun q74 =>
  (fma_isNew t W).bind fun q75 =>
  if q75 = (0 : Int32) then
    (fma_run_175 t a1 a2 (jL W 404 (jR W 201 (jR W 1001 t))) t W)
  else
    (gd (jC W (jR W 1002 t) = 9) <| (fwr_movedWord (jR W 1002 t) q74 W).bind fun q77 => fma_run_175 t a1 a2 q77 t W)
noncomputable def fma_run_40 (t : Nat) (a1 : Int32) (a2 : Int32) (l3 : Int32) (W : jW) : Option (fma_run_S ⊕ (Int32 × jW)) :=
  if l3 < (kI 32) then
    (gd (jC W t = 10) <|
  gd (jin l3 (jN W 1007 t)) <|
  jlt (pB W 1007 t (ix l3) (kJ 0)) fun W60 =>
  gd (jin l3 (jN W60 1008 t)) <|
  jlt (pA W60 1008 t (ix l3) (kI 0)) fun W65 =>
  jlt (l3 + (kI 1)) fun v69 =>
  some (.inl (.inl (v69, W65))))
  else
    (gd (jC W t = 10) <|
    gd (jin (kI 31) (jN W 1007 t)) <|
    jlt (pB W 1007 t (ix (kI 31)) (kJ 2147483648)) fun W20 =>
    jlt (sI W20 1010 t (kI 0)) fun W24 =>
    jlt (sI W24 1011 t (kI 0)) fun W28 =>
    jlt (sI W28 1012 t (kI 0)) fun W32 =>
    jlt (sI W32 1013 t (kI 0)) fun W36 =>
    jlt (sI W36 1015 t (kI 0)) fun W40 =>
    jlt (sI W40 1016 t (kI 0)) fun W44 =>
    jlt (sI W44 1017 t (kI 0)) fun W48 =>
    jlt (sI W48 1018 t (kI 0)) fun W52 =>
    if (jI W52 1000 t) = (kI 1) then
      ((fma_tellCode t W52).bind fun q56 => fma_run_128 t a1 a2 q56)
    else
      (fma_run_128 t a1 a2 W52))
noncomputable def fma_run_35 (t : Nat) (a1 : Int32) (a2 : Int32) (s0 : Nat) (s1 : Nat) (W : jW) : Option (fma_run_S ⊕ (Int32 × jW)) :=
  gd (jC W s1 = 12) <| (fme_begin s1 s0 W).bind fun q15 => some (.inl (.inl ((kI 0), q15)))
noncomputable def fma_run_st (t : Nat) (a1 : Int32) (a2 : Int32) : fma_run_S → Option (fma_run_S ⊕ (Int32 × jW)) :=
  (Sum.elim (fun s => fma_run_40 t a1 a2 s.1 s.2) (fun s => fma_run_186 t a1 a2 s.1 s.2))
noncomputable def fma_run_0 (t : Nat) (a1 : Int32) (a2 : Int32) (W : jW) : Option (fma_run_S ⊕ (Int32 × jW)) :=
  gd (jC W t = 10) <|
  gd (i2z a2 = a2) <|
  jlt (sI W 1006 t a2) fun W3 =>
  jlt (sI W3 1023 t (kI 1)) fun W7 =>
  (fma_isNew t W7).bind fun q11 =>
  if q11 = (0 : Int32) then
    (gd (jC W7 (jR W7 1001 t) = 2) <| fma_run_35 t a1 a2 (jR W7 202 (jR W7 1001 t)) (jR W7 1005 t) W7)
  else
    (fma_run_35 t a1 a2 (jR W7 1002 t) (jR W7 1005 t) W7)
noncomputable def fma_run (t : Nat) (a1 : Int32) (a2 : Int32) (W : jW) : Option (Int32 × jW) :=
  jrn (fma_run_st t a1 a2) (fma_run_0 t a1 a2 W)
noncomputable def fcl_run_19 (t : Nat) (a1 : Int32) (a2 : Int32) (W : jW) : Option (Int32 × jW) :=
  some ((kI (-14)), W)
noncomputable def fcl_run_42 (t : Nat) (a1 : Int32) (a2 : Int32) (W : jW) : Option (Int32 × jW) :=
  some ((kI (-1)), W)
noncomputable def fcl_run_22 (t : Nat) (a1 : Int32) (a2 : Int32) (W : jW) : Option (Int32 × jW) :=
  if a1 < (0 : Int32) then
    (fcl_run_42 t a1 a2 W)
  else
    (if (kI 2) < a1 then
    (fcl_run_42 t a1 a2 W)
  else
    (if a2 < (0 : Int32) then
    (fcl_run_42 t a1 a2 W)
  else
    (if (kI 4096) < a2 then
    (fcl_run_42 t a1 a2 W)
  else
    (gd (jC W t = 1) <|
    gd (jin a1 (jN W 114 t)) <|
    gd (jC W (jE W 114 t (ix a1)) = 10) <|
    (fma_run (jE W 114 t (ix a1)) a2 (jI W 107 t) W).bind fun q6 =>
    some (q6.1, q6.2)))))
noncomputable def fcl_run (t : Nat) (a1 : Int32) (a2 : Int32) (W : jW) : Option (Int32 × jW) :=
  gd (jC W t = 1) <|
  if (jI W 106 t) = (0 : Int32) then
    (fcl_run_19 t a1 a2 W)
  else
    (if a1 = (kI 2) then
    (if (jI W 107 t) = (0 : Int32) then
    (fcl_run_19 t a1 a2 W)
  else
    (fcl_run_22 t a1 a2 W))
  else
    (fcl_run_22 t a1 a2 W))
noncomputable def fcl_isRun_32 (t : Nat) (a1 : Int32) (W : jW) : Option (Int32) :=
  some (kI 0)
noncomputable def fcl_isRun (t : Nat) (a1 : Int32) (W : jW) : Option (Int32) :=
  gd (jC W t = 1) <|
  if (jI W 106 t) = (0 : Int32) then
    (fcl_isRun_32 t a1 W)
  else
    (if a1 < (0 : Int32) then
    (fcl_isRun_32 t a1 W)
  else
    (if (kI 2) < a1 then
    (fcl_isRun_32 t a1 W)
  else
    (gd (jin a1 (jN W 114 t)) <|
  gd (jC W (jE W 114 t (ix a1)) = 10) <|
  if (jI W 1023 (jE W 114 t (ix a1))) = (0 : Int32) then
    (fcl_isRun_32 t a1 W)
  else
    (some (kI 1)))))
noncomputable def fcl_told_17 (t : Nat) (a1 : Int32) (a2 : Int32) (W : jW) : Option (Int32) :=
  some (kI (-14))
noncomputable def fcl_told_125 (t : Nat) (a1 : Int32) (a2 : Int32) (s0 : Int32) (s1 : Int32) (W : jW) : Option (Int32) :=
  some (s1 + s0)
noncomputable def fcl_told_112 (t : Nat) (a1 : Int32) (a2 : Int32) (l3 : Nat) (s0 : Int32) (s1 : Int32) (W : jW) : Option (Int32) :=
  gd (jC W l3 = 10) <|
  if (jI W 1013 l3) = (0 : Int32) then
    (fcl_told_125 t a1 a2 (kI 0) (s1 + s0) W)
  else
    (fcl_told_125 t a1 a2 (kI 1) (s1 + s0) W)
noncomputable def fcl_told_99 (t : Nat) (a1 : Int32) (a2 : Int32) (l3 : Nat) (s0 : Int32) (s1 : Int32) (W : jW) : Option (Int32) :=
  gd (jC W l3 = 10) <|
  if (jI W 1012 l3) = (0 : Int32) then
    (fcl_told_112 t a1 a2 l3 (kI 0) (s1 + s0) W)
  else
    (fcl_told_112 t a1 a2 l3 (kI 2) (s1 + s0) W)
noncomputable def fcl_told_87 (t : Nat) (a1 : Int32) (a2 : Int32) (l3 : Nat) (s0 : Int32) (W : jW) : Option (Int32) :=
  gd (jC W l3 = 10) <| if (jI W 1011 l3) = (0 : Int32) then
    (fcl_told_99 t a1 a2 l3 (kI 0) s0 W)
  else
    (fcl_told_99 t a1 a2 l3 (kI 4) s0 W)
noncomputable def fcl_told (t : Nat) (a1 : Int32) (a2 : Int32) (W : jW) : Option (Int32) :=
  gd (jC W t = 1) <|
  (fcl_isRun t a1 W).bind fun q2 =>
  if q2 = (0 : Int32) then
    (fcl_told_17 t a1 a2 W)
  else
    (if a2 < (0 : Int32) then
    (fcl_told_17 t a1 a2 W)
  else
    (if (kI 5) < a2 then
    (fcl_told_17 t a1 a2 W)
  else
    (gd (jin a1 (jN W 114 t)) <|
    jlt (jE W 114 t (ix a1)) fun v4 =>
    if a2 = (kI 0) then
      (gd (jC W v4 = 10) <| some (jI W 1015 v4))
    else if a2 = (kI 1) then
      (gd (jC W v4 = 10) <| some (jI W 1016 v4))
    else if a2 = (kI 2) then
      (gd (jC W v4 = 10) <|
      if (jI W 1010 v4) = (0 : Int32) then
        (fcl_told_87 t a1 a2 v4 (kI 0) W)
      else
        (fcl_told_87 t a1 a2 v4 (kI 8) W))
    else if a2 = (kI 3) then
      (gd (jC W v4 = 10) <| some (jI W 1017 v4))
    else if a2 = (kI 4) then
      (gd (jC W v4 = 10) <| some (jI W 1018 v4))
    else (gd (jC W v4 = 10) <| some (jI W 1019 v4)))))
noncomputable def fcl_isRegister_22 (t : Nat) (a1 : Int32) (a2 : Int32) (W : jW) : Option (Int32) :=
  some (kI 0)
noncomputable def fcl_isRegister (t : Nat) (a1 : Int32) (a2 : Int32) (W : jW) : Option (Int32) :=
  gd (jC W t = 1) <|
  (fcl_isRun t a1 W).bind fun q2 =>
  if q2 = (0 : Int32) then
    (fcl_isRegister_22 t a1 a2 W)
  else
    (if a2 < (0 : Int32) then
    (fcl_isRegister_22 t a1 a2 W)
  else
    (if (kI 31) < a2 then
    (fcl_isRegister_22 t a1 a2 W)
  else
    (some (kI 1))))
noncomputable def fcl_register_24 (t : Nat) (a1 : Int32) (a2 : Int32) (W : jW) : Option (Int64) :=
  some (kJ 0)
noncomputable def fcl_register (t : Nat) (a1 : Int32) (a2 : Int32) (W : jW) : Option (Int64) :=
  gd (jC W t = 1) <|
  (fcl_isRegister t a1 a2 W).bind fun q2 =>
  if q2 = (0 : Int32) then
    (fcl_register_24 t a1 a2 W)
  else
    (gd (jin a1 (jN W 114 t)) <|
  gd (jC W (jE W 114 t (ix a1)) = 10) <|
  gd (jin a2 (jN W 1008 (jE W 114 t (ix a1)))) <|
  if (jA W 1008 (jE W 114 t (ix a1)) (ix a2)) = (kI 3) then
    (fcl_register_24 t a1 a2 W)
  else
    (gd (jin a1 (jN W 114 t)) <| gd (jin a2 (jN W 1007 (jE W 114 t (ix a1)))) <| some (jB W 1007 (jE W 114 t (ix a1)) (ix a2))))
noncomputable def fcl_kind (t : Nat) (a1 : Int32) (W : jW) : Option (Int32) :=
  gd (jC W t = 1) <|
  (fcl_isRegister t (kI 1) a1 W).bind fun q2 =>
  if q2 = (0 : Int32) then
    (some (kI (-1)))
  else
    (gd (jin (kI 1) (jN W 114 t)) <|
  gd (jC W (jE W 114 t (ix (kI 1))) = 10) <|
  gd (jin a1 (jN W 1008 (jE W 114 t (ix (kI 1))))) <|
  some (jA W 1008 (jE W 114 t (ix (kI 1))) (ix a1)))
noncomputable def fcl_newOf (t : Nat) (a1 : Int32) (a2 : Int32) (W : jW) : Option (Int64) :=
  if a1 = (kI 3) then
    (some (kJ 0))
  else
    (if a1 = (kI 1) then
      (gd (jC W t = 1) <|
    if (jI W 107 t) = (0 : Int32) then
      (gd (jC W (jR W 104 t) = 2) <|
      gd (jC W (jR W 213 (jR W 104 t)) = 6) <|
      gd (jin a2 (jN W 600 (jR W 213 (jR W 104 t)))) <|
      (fpg_addressOf (jR W 104 t) (jA W 600 (jR W 213 (jR W 104 t)) (ix a2)) W).bind fun q11 =>
      some q11)
    else
      (gd (jC W (jR W 112 t) = 9) <| (fwr_addressOf (jR W 112 t) a2 W).bind fun q13 => some q13))
    else
      (gd (jC W t = 1) <|
      if (jI W 107 t) = (0 : Int32) then
        (gd (jC W (jR W 104 t) = 2) <| (fpg_lastWord (jR W 104 t) a2 W).bind fun q3 => (fpg_addressOf (jR W 104 t) (q3 + (kI 1)) W).bind fun q4 => some q4)
      else
        (gd (jC W (jR W 112 t) = 9) <| (fwr_behindEnd (jR W 112 t) a2 W).bind fun q6 => some q6)))
noncomputable def fcl_newer (t : Nat) (a1 : Int32) (W : jW) : Option (Int64) :=
  gd (jC W t = 1) <|
  (fcl_isRegister t (kI 1) a1 W).bind fun q2 =>
  if q2 = (0 : Int32) then
    (some (kJ 0))
  else
    (gd (jin (kI 1) (jN W 114 t)) <|
    gd (jC W (jE W 114 t (ix (kI 1))) = 10) <|
    gd (jin a1 (jN W 1008 (jE W 114 t (ix (kI 1))))) <|
    jlt (jA W 1008 (jE W 114 t (ix (kI 1))) (ix a1)) fun v6 =>
    if v6 = (0 : Int32) then
      (gd (jin (kI 1) (jN W 114 t)) <| gd (jin a1 (jN W 1007 (jE W 114 t (ix (kI 1))))) <| some (jB W 1007 (jE W 114 t (ix (kI 1))) (ix a1)))
    else
      (gd (jin (kI 1) (jN W 114 t)) <|
      gd (jin a1 (jN W 1009 (jE W 114 t (ix (kI 1))))) <|
      (fcl_newOf t v6 (jA W 1009 (jE W 114 t (ix (kI 1))) (ix a1)) W).bind fun q9 =>
      some q9))
noncomputable def fcl_visit_39 (t : Nat) (a1 : Int32) (a2 : Int32) (W : jW) : Option (Int32) :=
  some (kI (-1))
noncomputable def fcl_visit (t : Nat) (a1 : Int32) (a2 : Int32) (W : jW) : Option (Int32) :=
  gd (jC W t = 1) <|
  (fcl_isRun t a1 W).bind fun q2 =>
  if q2 = (0 : Int32) then
    (fcl_visit_39 t a1 a2 W)
  else
    (if a2 < (0 : Int32) then
    (fcl_visit_39 t a1 a2 W)
  else
    (gd (jin a1 (jN W 114 t)) <|
  gd (jC W (jE W 114 t (ix a1)) = 10) <|
  if a2 < (jI W 1015 (jE W 114 t (ix a1))) then
    (gd (jin a1 (jN W 114 t)) <| gd (jin a2 (jN W 1020 (jE W 114 t (ix a1)))) <| some (jA W 1020 (jE W 114 t (ix a1)) (ix a2)))
  else
    (fcl_visit_39 t a1 a2 W)))
noncomputable def fme_at (t : Nat) (a1 : Int64) (W : jW) : Option (Int32) :=
  gd (jC W t = 12) <|
  (fme_regionOf t a1 (kI 1) W).bind fun q2 =>
  if q2 < (0 : Int32) then
    (some (kI (-1)))
  else
    ((fme_placeOf t q2 a1 W).bind fun q3 => gd (jin q3 (jN W 1202 t)) <| some ((jA W 1202 t (ix q3)) &&& (kI 255)))
noncomputable def fcl_memory (t : Nat) (a1 : Int32) (a2 : Int64) (W : jW) : Option (Int32) :=
  gd (jC W t = 1) <|
  (fcl_isRun t a1 W).bind fun q2 =>
  if q2 = (0 : Int32) then
    (some (kI (-1)))
  else
    (gd (jin a1 (jN W 114 t)) <|
  gd (jC W (jE W 114 t (ix a1)) = 10) <|
  gd (jC W (jR W 1005 (jE W 114 t (ix a1))) = 12) <|
  (fme_at (jR W 1005 (jE W 114 t (ix a1))) a2 W).bind fun q6 =>
  some q6)
noncomputable def fcl_longAt_36 (t : Nat) (a1 : Int64) (W : jW) : Option (Int32) :=
  some (kI (-1))
noncomputable def fcl_longAt (t : Nat) (a1 : Int64) (W : jW) : Option (Int32) :=
  gd (jC W t = 1) <|
  (fcl_isRun t (kI 1) W).bind fun q2 =>
  if q2 = (0 : Int32) then
    (fcl_longAt_36 t a1 W)
  else
    (if (lrm a1 (kJ 8)) = (kJ 0) then
    (gd (jin (kI 1) (jN W 114 t)) <|
  gd (jC W (jE W 114 t (ix (kI 1))) = 10) <|
  gd (jC W (jR W 1005 (jE W 114 t (ix (kI 1)))) = 12) <|
  (fme_regionOf (jR W 1005 (jE W 114 t (ix (kI 1)))) a1 (kI 8) W).bind fun q6 =>
  some q6)
  else
    (fcl_longAt_36 t a1 W))
noncomputable def fcl_keeps (t : Nat) (a1 : Int64) (W : jW) : Option (Int32) :=
  gd (jC W t = 1) <|
  (fcl_longAt t a1 W).bind fun q2 =>
  if q2 < (0 : Int32) then
    (some (kI (-1)))
  else
    (gd (jin (kI 1) (jN W 114 t)) <|
    gd (jC W (jE W 114 t (ix (kI 1))) = 10) <|
    gd (jC W (jR W 1005 (jE W 114 t (ix (kI 1)))) = 12) <|
    (fme_kindAt (jR W 1005 (jE W 114 t (ix (kI 1)))) q2 a1 W).bind fun q6 =>
    some q6)
noncomputable def fcl_newest_27 (t : Nat) (a1 : Int64) (W : jW) : Option (Int64) :=
  some (kJ 0)
noncomputable def fcl_newest (t : Nat) (a1 : Int64) (W : jW) : Option (Int64) :=
  gd (jC W t = 1) <|
  (fcl_longAt t a1 W).bind fun q2 =>
  if q2 < (0 : Int32) then
    (fcl_newest_27 t a1 W)
  else
    (gd (jin (kI 1) (jN W 114 t)) <|
  gd (jC W (jE W 114 t (ix (kI 1))) = 10) <|
  gd (jC W (jR W 1005 (jE W 114 t (ix (kI 1)))) = 12) <|
  (fme_kindAt (jR W 1005 (jE W 114 t (ix (kI 1)))) q2 a1 W).bind fun q6 =>
  if q6 = (0 : Int32) then
    (fcl_newest_27 t a1 W)
  else
    (gd (jin (kI 1) (jN W 114 t)) <|
    (fme_kindAt (jR W 1005 (jE W 114 t (ix (kI 1)))) q2 a1 W).bind fun q8 =>
    gd (jin (kI 1) (jN W 114 t)) <|
    (fme_blockAt (jR W 1005 (jE W 114 t (ix (kI 1)))) q2 a1 W).bind fun q10 =>
    (fcl_newOf t q8 q10 W).bind fun q11 =>
    some q11))
noncomputable def fcl_trace_59 (t : Nat) (a1 : Int32) (a2 : Int32) (a3 : Int32) (W : jW) : Option (Int64) :=
  some (kJ 0)
noncomputable def fcl_trace (t : Nat) (a1 : Int32) (a2 : Int32) (a3 : Int32) (W : jW) : Option (Int64) :=
  gd (jC W t = 1) <|
  (fcl_isRun t a1 W).bind fun q2 =>
  if q2 = (0 : Int32) then
    (fcl_trace_59 t a1 a2 a3 W)
  else
    (if a2 < (0 : Int32) then
    (fcl_trace_59 t a1 a2 a3 W)
  else
    (if a2 < (kI 200) then
    (gd (jin a1 (jN W 114 t)) <|
  gd (jC W (jE W 114 t (ix a1)) = 10) <|
  if a2 < (jI W 1017 (jE W 114 t (ix a1))) then
    (if a3 < (0 : Int32) then
    (fcl_trace_59 t a1 a2 a3 W)
  else
    (if (kI 3) < a3 then
    (fcl_trace_59 t a1 a2 a3 W)
  else
    (gd (jin a1 (jN W 114 t)) <|
  gd (jin (((kI 4) * a2) + a3) (jN W 1021 (jE W 114 t (ix a1)))) <|
  some (jB W 1021 (jE W 114 t (ix a1)) (ix (((kI 4) * a2) + a3))))))
  else
    (fcl_trace_59 t a1 a2 a3 W))
  else
    (fcl_trace_59 t a1 a2 a3 W)))
noncomputable def fcl_text_50 (t : Nat) (a1 : Int32) (a2 : Int32) (W : jW) : Option (Int32) :=
  some (kI (-1))
noncomputable def fcl_text (t : Nat) (a1 : Int32) (a2 : Int32) (W : jW) : Option (Int32) :=
  gd (jC W t = 1) <|
  (fcl_isRun t a1 W).bind fun q2 =>
  if q2 = (0 : Int32) then
    (fcl_text_50 t a1 a2 W)
  else
    (if a2 < (0 : Int32) then
    (fcl_text_50 t a1 a2 W)
  else
    (if a2 < (kI 16384) then
    (gd (jin a1 (jN W 114 t)) <|
  gd (jC W (jE W 114 t (ix a1)) = 10) <|
  if a2 < (jI W 1018 (jE W 114 t (ix a1))) then
    (gd (jin a1 (jN W 114 t)) <| gd (jin a2 (jN W 1022 (jE W 114 t (ix a1)))) <| some ((jA W 1022 (jE W 114 t (ix a1)) (ix a2)) &&& (kI 255)))
  else
    (fcl_text_50 t a1 a2 W))
  else
    (fcl_text_50 t a1 a2 W)))
noncomputable def fwn_init (t : Nat) (a1 : Nat) (W : jW) : Option (jW) :=
  gd (¬ t = 0) <|
  gd (jra W (kI 15002)) <|
  gd (jC W t = 15) <|
  jlt (nwA W 1501 t (ix (kI 15002))) fun W4 =>
  gd (jra W4 (kI 15002)) <|
  jlt (nwA W4 1503 t (ix (kI 15002))) fun W9 =>
  gd (jra W9 (kI 15002)) <|
  jlt (nwA W9 1504 t (ix (kI 15002))) fun W14 =>
  gd (jra W14 (kI 15002)) <|
  jlt (nwA W14 1505 t (ix (kI 15002))) fun W19 =>
  gd (jra W19 (kI 15002)) <|
  jlt (nwA W19 1506 t (ix (kI 15002))) fun W24 =>
  gd (jra W24 (kI 15002)) <|
  jlt (nwA W24 1507 t (ix (kI 15002))) fun W29 =>
  jlt (sR W29 1500 t a1) fun W33 =>
  some W33
noncomputable def fmo_next_39 (t : Nat) (a1 : Int32) (W : jW) : Option (Int32) :=
  some (a1 + (kI 1))
noncomputable def fmo_next (t : Nat) (a1 : Int32) (W : jW) : Option (Int32) :=
  gd (jC W t = 13) <|
  gd (jin a1 (jN W 1325 t)) <|
  if (jA W 1325 t (ix a1)) = (0 : Int32) then
    (fmo_next_39 t a1 W)
  else
    (gd (jin a1 (jN W 1325 t)) <|
  if (jA W 1325 t (ix a1)) = (kI 4) then
    (fmo_next_39 t a1 W)
  else
    (gd (jin a1 (jN W 1325 t)) <|
  if (jA W 1325 t (ix a1)) = (kI 5) then
    (fmo_next_39 t a1 W)
  else
    (gd (jin a1 (jN W 1325 t)) <| if (jA W 1325 t (ix a1)) = (kI 3) then
    (fmo_next_39 t a1 W)
  else
    (some (kI (-1))))))
abbrev fwn_shape_S : Type := (Int32 × jW)
noncomputable def fwn_shape_339 (t : Nat) (l1 : Int32) (W : jW) : Option (fwn_shape_S ⊕ (jW)) :=
  jlt (l1 + (kI 1)) fun v107 => some (.inl (v107, W))
noncomputable def fwn_shape_320 (t : Nat) (l1 : Int32) (l2 : Int32) (W : jW) : Option (fwn_shape_S ⊕ (jW)) :=
  gd (jC W t = 15) <|
  gd (jin l2 (jN W 1506 t)) <|
  if (jA W 1506 t (ix l2)) = (0 : Int32) then
    (fwn_shape_339 t l1 W)
  else
    (jlt (sI W 1513 t ((jI W 1513 t) + (kI 1))) fun W102 => fwn_shape_339 t l1 W102)
noncomputable def fwn_shape_300 (t : Nat) (l1 : Int32) (l2 : Int32) (W : jW) : Option (fwn_shape_S ⊕ (jW)) :=
  gd (jC W t = 15) <|
  gd (jin l2 (jN W 1504 t)) <|
  if (jA W 1504 t (ix l2)) = (kI 2) then
    (jlt (sI W 1512 t ((jI W 1512 t) + (kI 1))) fun W95 => fwn_shape_320 t l1 l2 W95)
  else
    (fwn_shape_320 t l1 l2 W)
noncomputable def fwn_shape_280 (t : Nat) (l1 : Int32) (l2 : Int32) (W : jW) : Option (fwn_shape_S ⊕ (jW)) :=
  gd (jC W t = 15) <|
  gd (jin l2 (jN W 1504 t)) <|
  if (jA W 1504 t (ix l2)) = (kI 1) then
    (jlt (sI W 1511 t ((jI W 1511 t) + (kI 1))) fun W88 => fwn_shape_300 t l1 l2 W88)
  else
    (fwn_shape_300 t l1 l2 W)
noncomputable def fwn_shape_182 (t : Nat) (l1 : Int32) (l2 : Int32) (s0 : Int32) (s1 : Int32) (s2 : Nat) (W : jW) : Option (fwn_shape_S ⊕ (jW)) :=
  gd (jR W 1506 t = s2) <| gd (jin s1 (jN W 1506 t)) <| jlt (pA W 1506 t (ix s1) (i2z s0)) fun W76 => fwn_shape_280 t l1 l2 W76
noncomputable def fwn_shape_162 (t : Nat) (l1 : Int32) (l2 : Int32) (l3 : Int32) (W : jW) : Option (fwn_shape_S ⊕ (jW)) :=
  gd (jC W t = 15) <|
  gd (jin l2 (jN W 1507 t)) <|
  if (jA W 1507 t (ix l2)) = l3 then
    (fwn_shape_182 t l1 l2 (kI 0) l2 (jR W 1506 t) W)
  else
    (fwn_shape_182 t l1 l2 (kI 1) l2 (jR W 1506 t) W)
noncomputable def fwn_shape_210 (t : Nat) (l1 : Int32) (l2 : Int32) (s0 : Int32) (s1 : Int32) (s2 : Nat) (W : jW) : Option (fwn_shape_S ⊕ (jW)) :=
  gd (jR W 1506 t = s2) <| gd (jin s1 (jN W 1506 t)) <| jlt (pA W 1506 t (ix s1) (i2z s0)) fun W82 => fwn_shape_280 t l1 l2 W82
noncomputable def fwn_shape_80 (t : Nat) (l1 : Int32) (l2 : Int32) (s0 : Int32) (s1 : Int32) (s2 : Nat) (W : jW) : Option (fwn_shape_S ⊕ (jW)) :=
  gd (jR W 1507 t = s2) <|
  gd (jin s1 (jN W 1507 t)) <|
  jlt (pA W 1507 t (ix s1) s0) fun W27 =>
  gd (jC W27 t = 15) <|
  gd (jin l2 (jN W27 1505 t)) <|
  jlt (pA W27 1505 t (ix l2) (i2z (kI 0))) fun W32 =>
  gd (jin l2 (jN W32 1504 t)) <|
  jlt (pA W32 1504 t (ix l2) (i2b (kI 0))) fun W37 =>
  gd (jin l2 (jN W37 1506 t)) <|
  jlt (pA W37 1506 t (ix l2) (i2z (kI 0))) fun W42 =>
  gd (jC W42 (jR W42 1500 t) = 13) <|
  (fmo_next (jR W42 1500 t) l2 W42).bind fun q47 =>
  gd (jin l2 (jN W42 1325 (jR W42 1500 t))) <|
  if (jA W42 1325 (jR W42 1500 t) (ix l2)) = (kI 3) then
    (gd (jin l2 (jN W42 1507 t)) <|
  if (jA W42 1507 t (ix l2)) = q47 then
    (fwn_shape_162 t l1 l2 q47 W42)
  else
    (gd (jin l2 (jN W42 1507 t)) <|
  gd (jin l2 (jN W42 1326 (jR W42 1500 t))) <|
  if (jA W42 1507 t (ix l2)) = (jA W42 1326 (jR W42 1500 t) (ix l2)) then
    (gd (jin l2 (jN W42 1504 t)) <| jlt (pA W42 1504 t (ix l2) (i2b (kI 2))) fun W65 => fwn_shape_280 t l1 l2 W65)
  else
    (fwn_shape_162 t l1 l2 q47 W42)))
  else
    (if q47 < (0 : Int32) then
      (gd (jin l2 (jN W42 1325 (jR W42 1500 t))) <|
      if (jA W42 1325 (jR W42 1500 t) (ix l2)) = (kI 1) then
        (gd (jin l2 (jN W42 1507 t)) <|
      gd (jin l2 (jN W42 1326 (jR W42 1500 t))) <|
      if (jA W42 1507 t (ix l2)) = (jA W42 1326 (jR W42 1500 t) (ix l2)) then
        (gd (jin l2 (jN W42 1323 (jR W42 1500 t))) <|
      if (kI 1) < (jA W42 1323 (jR W42 1500 t) (ix l2)) then
        (gd (jin l2 (jN W42 1326 (jR W42 1500 t))) <|
      if (jA W42 1326 (jR W42 1500 t) (ix l2)) = (l2 + (kI 1)) then
        (fwn_shape_280 t l1 l2 W42)
      else
        (gd (jin l2 (jN W42 1504 t)) <| jlt (pA W42 1504 t (ix l2) (i2b (kI 1))) fun W55 => fwn_shape_280 t l1 l2 W55))
      else
        (fwn_shape_280 t l1 l2 W42))
      else
        (fwn_shape_280 t l1 l2 W42))
      else
        (fwn_shape_280 t l1 l2 W42))
    else
      (gd (jin l2 (jN W42 1507 t)) <|
    if (jA W42 1507 t (ix l2)) = q47 then
      (fwn_shape_210 t l1 l2 (kI 0) l2 (jR W42 1506 t) W42)
    else
      (fwn_shape_210 t l1 l2 (kI 1) l2 (jR W42 1506 t) W42)))
noncomputable def fwn_shape_79 (t : Nat) (l1 : Int32) (l2 : Int32) (s0 : Int32) (s1 : Nat) (W : jW) : Option (fwn_shape_S ⊕ (jW)) :=
  fwn_shape_80 t l1 l2 (kI (-1)) s0 s1 W
noncomputable def fwn_shape_22 (t : Nat) (l1 : Int32) (W : jW) : Option (fwn_shape_S ⊕ (jW)) :=
  gd (jC W t = 15) <|
  gd (jC W (jR W 1500 t) = 13) <|
  if l1 < (jI W 1312 (jR W 1500 t)) then
    (gd (jin l1 (jN W 1501 t)) <|
  jlt (jA W 1501 t (ix l1)) fun v22 =>
  if (l1 + (kI 1)) < (jI W 1312 (jR W 1500 t)) then
    (if (l1 + (kI 1)) = (jI W 1502 t) then
    (fwn_shape_79 t l1 v22 v22 (jR W 1507 t) W)
  else
    (gd (jin (l1 + (kI 1)) (jN W 1501 t)) <| fwn_shape_80 t l1 v22 (jA W 1501 t (ix (l1 + (kI 1)))) v22 (jR W 1507 t) W))
  else
    (fwn_shape_79 t l1 v22 v22 (jR W 1507 t) W))
  else
    (some (.inr W))
noncomputable def fwn_shape_st (t : Nat) : fwn_shape_S → Option (fwn_shape_S ⊕ (jW)) :=
  (fun s => fwn_shape_22 t s.1 s.2)
noncomputable def fwn_shape_0 (t : Nat) (W : jW) : Option (fwn_shape_S ⊕ (jW)) :=
  gd (jC W t = 15) <|
  jlt (sI W 1510 t (kI 0)) fun W2 =>
  jlt (sI W2 1511 t (kI 0)) fun W6 =>
  jlt (sI W6 1512 t (kI 0)) fun W10 =>
  jlt (sI W10 1513 t (kI 0)) fun W14 =>
  some (.inl ((kI 0), W14))
noncomputable def fwn_shape (t : Nat) (W : jW) : Option (jW) :=
  jrn (fwn_shape_st t) (fwn_shape_0 t W)
noncomputable def fwn_length_54 (t : Nat) (a1 : Int32) (s0 : Int32) (s1 : Int32) (W : jW) : Option (Int32) :=
  some (s1 + s0)
noncomputable def fwn_length_39 (t : Nat) (a1 : Int32) (s0 : Int32) (s1 : Int32) (W : jW) : Option (Int32) :=
  gd (jC W t = 15) <|
  gd (jin a1 (jN W 1506 t)) <|
  if (jA W 1506 t (ix a1)) = (0 : Int32) then
    (fwn_length_54 t a1 (kI 0) (s1 + s0) W)
  else
    (fwn_length_54 t a1 (kI 1) (s1 + s0) W)
noncomputable def fwn_length_24 (t : Nat) (a1 : Int32) (s0 : Int32) (s1 : Int32) (W : jW) : Option (Int32) :=
  gd (jC W t = 15) <|
  gd (jin a1 (jN W 1505 t)) <|
  if (jA W 1505 t (ix a1)) = (0 : Int32) then
    (fwn_length_39 t a1 (kI 0) (s1 - s0) W)
  else
    (fwn_length_39 t a1 (kI 1) (s1 - s0) W)
noncomputable def fwn_length (t : Nat) (a1 : Int32) (W : jW) : Option (Int32) :=
  gd (jC W t = 15) <|
  gd (jC W (jR W 1500 t) = 13) <|
  gd (jin a1 (jN W 1323 (jR W 1500 t))) <|
  gd (jin a1 (jN W 1504 t)) <|
  if (jA W 1504 t (ix a1)) = (kI 1) then
    (fwn_length_24 t a1 (kI 1) (jA W 1323 (jR W 1500 t) (ix a1)) W)
  else
    (fwn_length_24 t a1 (kI 0) (jA W 1323 (jR W 1500 t) (ix a1)) W)
abbrev fwn_putAll_S : Type := (Int32 × Int32 × jW)
noncomputable def fwn_putAll_61 (t : Nat) (a1 : Int64) (l3 : Int32) (l4 : Int32) (W : jW) : Option (fwn_putAll_S ⊕ (jW)) :=
  gd (jC W t = 15) <|
  gd (jin l4 (jN W 1501 t)) <|
  gd (jin (jA W 1501 t (ix l4)) (jN W 1503 t)) <|
  jlt (pA W 1503 t (ix (jA W 1501 t (ix l4))) l3) fun W16 =>
  gd (jin l4 (jN W16 1501 t)) <|
  (fwn_length t (jA W16 1501 t (ix l4)) W16).bind fun q21 =>
  jlt (l3 + q21) fun v22 =>
  jlt (l4 + (kI 1)) fun v23 =>
  some (.inl (v22, v23, W16))
noncomputable def fwn_putAll_5 (t : Nat) (a1 : Int64) (l3 : Int32) (l4 : Int32) (W : jW) : Option (fwn_putAll_S ⊕ (jW)) :=
  gd (jC W t = 15) <|
  gd (jC W (jR W 1500 t) = 13) <|
  if l4 < (jI W 1312 (jR W 1500 t)) then
    (if l4 = (jI W 1502 t) then
    (jlt ((jL W 1313 (jR W 1500 t)) + ((kJ 4) * l3.toInt64)) fun v9 =>
  gd (¬ a1 = (0 : Int64)) <|
  jlt (l3 + (((((((v9 + a1) - (kJ 1)) / a1) * a1) - v9).toInt32) / (kI 4))) fun v11 =>
  fwn_putAll_61 t a1 v11 l4 W)
  else
    (fwn_putAll_61 t a1 l3 l4 W))
  else
    (jlt (sI W 1508 t l3) fun W4 => some (.inr W4))
noncomputable def fwn_putAll_st (t : Nat) (a1 : Int64) : fwn_putAll_S → Option (fwn_putAll_S ⊕ (jW)) :=
  (fun s => fwn_putAll_5 t a1 s.1 s.2.1 s.2.2)
noncomputable def fwn_putAll_0 (t : Nat) (a1 : Int64) (W : jW) : Option (fwn_putAll_S ⊕ (jW)) :=
  some (.inl ((kI 0), (kI 0), W))
noncomputable def fwn_putAll (t : Nat) (a1 : Int64) (W : jW) : Option (jW) :=
  jrn (fwn_putAll_st t a1) (fwn_putAll_0 t a1 W)
noncomputable def fwn_goal (t : Nat) (a1 : Int32) (W : jW) : Option (Int32) :=
  gd (jC W t = 15) <|
  gd (jin a1 (jN W 1504 t)) <|
  if (jA W 1504 t (ix a1)) = (kI 2) then
    (some (a1 + (kI 1)))
  else
    (gd (jC W (jR W 1500 t) = 13) <| gd (jin a1 (jN W 1326 (jR W 1500 t))) <| some (jA W 1326 (jR W 1500 t) (ix a1)))
noncomputable def fmo_last (t : Nat) (a1 : Int32) (W : jW) : Option (Int32) :=
  gd (jC W t = 13) <| gd (jin a1 (jN W 1322 t)) <| gd (jin a1 (jN W 1323 t)) <| some (((jA W 1322 t (ix a1)) + (jA W 1323 t (ix a1))) - (kI 1))
noncomputable def fmo_fits (a0 : Int32) (a1 : Int32) (a2 : Int32) : Int32 :=
  if (a0 &&& a1) = a2 then
    ((kI 1))
  else
    ((kI 0))
noncomputable def fmo_bits (a0 : Int32) (a1 : Int32) (a2 : Int32) : Int32 :=
  ((ixu a0 a1) &&& ((ixl (kI 1) a2) - (kI 1)))
noncomputable def fmo_isMoved_17 (a0 : Int32) : Int32 :=
  (kI 1)
noncomputable def fmo_isMoved (a0 : Int32) : Int32 :=
  if a0 < (0 : Int32) then
    (fmo_isMoved_17 a0)
  else
    (if (fmo_bits a0 (kI 10) (kI 6)) < (kI 32) then
    (fmo_isMoved_17 a0)
  else
    ((kI 0)))
noncomputable def fmo_isLoad_36 (a0 : Int32) : Int32 :=
  (kI 1)
noncomputable def fmo_isLoad_40 (a0 : Int32) : Int32 :=
  (kI 0)
noncomputable def fmo_isLoad (a0 : Int32) : Int32 :=
  jlt (fmo_bits a0 (kI 30) (kI 2)) fun v1 =>
  jlt (fmo_bits a0 (kI 22) (kI 2)) fun v2 =>
  if v1 = (kI 1) then
    (fmo_isLoad_40 a0)
  else
    (if v2 < (kI 2) then
    (fmo_isLoad_36 a0)
  else
    (if v2 = (kI 2) then
    (if v1 = (kI 2) then
    (fmo_isLoad_36 a0)
  else
    (fmo_isLoad_40 a0))
  else
    (fmo_isLoad_40 a0)))
noncomputable def fmo_isPair_52 (a0 : Int32) : Int32 :=
  (kI 0)
noncomputable def fmo_isPair_76 (a0 : Int32) : Int32 :=
  (kI 1)
noncomputable def fmo_isPair_80 (a0 : Int32) : Int32 :=
  (kI 0)
noncomputable def fmo_isPair_54 (a0 : Int32) (l1 : Int32) (l2 : Int32) (l3 : Int32) (l4 : Int32) : Int32 :=
  if l1 = (kI 2) then
    (fmo_isPair_76 a0)
  else
    (if l3 = (kI 31) then
    (fmo_isPair_76 a0)
  else
    (if l3 = l2 then
    (fmo_isPair_80 a0)
  else
    (if l3 = l4 then
    (fmo_isPair_80 a0)
  else
    (fmo_isPair_76 a0))))
noncomputable def fmo_isPair (a0 : Int32) : Int32 :=
  jlt (fmo_bits a0 (kI 23) (kI 2)) fun v1 =>
  jlt (fmo_bits a0 (kI 0) (kI 5)) fun v2 =>
  jlt (fmo_bits a0 (kI 5) (kI 5)) fun v3 =>
  jlt (fmo_bits a0 (kI 10) (kI 5)) fun v4 =>
  if v1 = (0 : Int32) then
    (fmo_isPair_52 a0)
  else
    (if (fmo_bits a0 (kI 22) (kI 1)) = (kI 1) then
    (if v2 = v4 then
    (fmo_isPair_52 a0)
  else
    (fmo_isPair_54 a0 v1 v2 v3 v4))
  else
    (fmo_isPair_54 a0 v1 v2 v3 v4))
