/-! ===== pure functions: fhd_hasSegments fhd_isSection fhd_isInSegment fhd_hasLinks fhd_hasSections fhd_symbolCount fhd_hasSymbols fhd_isFix fhd_hasFixes fhd_broken fhd_isOfText fhd_isFunction fmo_hasFunctions fmo_broken fmo_isRight fmo_isIf fmo_functionAt fmo_isFirst fmo_goesRight fmo_lead fmo_close fmo_cut fmo_apart fmo_forget fmo_read fmo_place fmo_count fmo_heat fmo_function fmo_countOf fmo_block fmo_wordAt fmo_isWay fmo_isFirstBlock fmo_isCallOf fmo_more fmo_edge fmo_way fmo_calls fmo_same fmo_hotWords fmo_callerOf fmo_gather fmo_falls fmo_comesBefore fmo_join ===== -/
set_option maxRecDepth 100000
abbrev fhd_hasSegments_S : Type := (Int32 × jW)
noncomputable def fhd_hasSegments_244 (t : Nat) (W : jW) : Option (fhd_hasSegments_S ⊕ (Int32 × jW)) :=
  some (.inr ((kI 0), W))
noncomputable def fhd_hasSegments_436 (t : Nat) (W : jW) : Option (fhd_hasSegments_S ⊕ (Int32 × jW)) :=
  some (.inr ((kI 0), W))
noncomputable def fhd_hasSegments_383 (t : Nat) (l1 : Int32) (l2 : Int32) (l3 : Int32) (l4 : Int64) (l6 : Int64) (l8 : Int64) (s0 : Int32) (s1 : Nat) (W : jW) : Option (fhd_hasSegments_S ⊕ (Int32 × jW)) :=
  gd (jC W s1 = 14) <|
  (fhd_is s1 s0 ((l2 + (kI 32)).toInt64) W).bind fun q44 =>
  if q44.1 = (0 : Int32) then
    (fhd_hasSegments_436 t q44.2)
  else
    (gd (jC q44.2 t = 14) <|
  (fhd_num t ((l2 + (kI 32)).toInt64) (kI 8) q44.2).bind fun q47 =>
  (fhd_has t ((l2 + (kI 40)).toInt64) (kI 8) q47 q44.2).bind fun q48 =>
  if q48.1 = (0 : Int32) then
    (fhd_hasSegments_436 t q48.2)
  else
    (gd (jC q48.2 t = 14) <|
  (fhd_has t ((l2 + (kI 48)).toInt64) (kI 8) (kJ 16) q48.2).bind fun q51 =>
  if q51.1 = (0 : Int32) then
    (fhd_hasSegments_436 t q51.2)
  else
    (gd (jC q51.2 t = 14) <|
    gd (jin l1 (jN q51.2 1406 t)) <|
    jlt (pA q51.2 1406 t (ix l1) l3) fun W55 =>
    gd (jin l1 (jN W55 1407 t)) <|
    jlt (pA W55 1407 t (ix l1) l4.toInt32) fun W60 =>
    gd (jin l1 (jN W60 1408 t)) <|
    jlt (pB W60 1408 t (ix l1) l6) fun W65 =>
    gd (jin l1 (jN W65 1409 t)) <|
    jlt (pA W65 1409 t (ix l1) l8.toInt32) fun W70 =>
    jlt (l1 + (kI 1)) fun v74 =>
    some (.inl (v74, W70)))))
noncomputable def fhd_hasSegments_382 (t : Nat) (l1 : Int32) (l2 : Int32) (l3 : Int32) (l4 : Int64) (l6 : Int64) (l8 : Int64) (s0 : Nat) (W : jW) : Option (fhd_hasSegments_S ⊕ (Int32 × jW)) :=
  fhd_hasSegments_383 t l1 l2 l3 l4 l6 l8 (kI 0) s0 W
noncomputable def fhd_hasSegments_310 (t : Nat) (l1 : Int32) (l2 : Int32) (l3 : Int32) (l4 : Int64) (l6 : Int64) (l8 : Int64) (s0 : Int32) (s1 : Nat) (W : jW) : Option (fhd_hasSegments_S ⊕ (Int32 × jW)) :=
  gd (jC W s1 = 14) <|
  (fhd_is s1 s0 ((l2 + (kI 16)).toInt64) W).bind fun q35 =>
  if q35.1 = (0 : Int32) then
    (some (.inr ((kI 0), q35.2)))
  else
    (gd (jC q35.2 t = 14) <|
    (fhd_num t ((l2 + (kI 16)).toInt64) (kI 8) q35.2).bind fun q38 =>
    (fhd_has t ((l2 + (kI 24)).toInt64) (kI 8) q38 q35.2).bind fun q39 =>
    if q39.1 = (0 : Int32) then
      (fhd_hasSegments_436 t q39.2)
    else
      (if l8 < (kJ 1) then
      (fhd_hasSegments_382 t l1 l2 l3 l4 l6 l8 t q39.2)
    else
      (if (kJ 4194304) < l8 then
      (fhd_hasSegments_382 t l1 l2 l3 l4 l6 l8 t q39.2)
    else
      (gd (jC q39.2 t = 14) <|
    if (jL q39.2 1405 t) < (l4 + l8) then
      (fhd_hasSegments_382 t l1 l2 l3 l4 l6 l8 t q39.2)
    else
      (fhd_hasSegments_383 t l1 l2 l3 l4 l6 l8 (kI 1) t q39.2)))))
noncomputable def fhd_hasSegments_309 (t : Nat) (l1 : Int32) (l2 : Int32) (l3 : Int32) (l4 : Int64) (l6 : Int64) (l8 : Int64) (s0 : Nat) (W : jW) : Option (fhd_hasSegments_S ⊕ (Int32 × jW)) :=
  fhd_hasSegments_310 t l1 l2 l3 l4 l6 l8 (kI 0) s0 W
noncomputable def fhd_hasSegments_233 (t : Nat) (l1 : Int32) (l2 : Int32) (l3 : Int32) (l4 : Int64) (l6 : Int64) (l8 : Int64) (l12 : Int64) (s0 : Int32) (s1 : Nat) (W : jW) : Option (fhd_hasSegments_S ⊕ (Int32 × jW)) :=
  gd (jC W s1 = 14) <|
  (fhd_is s1 s0 ((l2 + (kI 8)).toInt64) W).bind fun q28 =>
  if q28.1 = (0 : Int32) then
    (fhd_hasSegments_244 t q28.2)
  else
    (if l6 < (kJ 65536) then
      (fhd_hasSegments_309 t l1 l2 l3 l4 l6 l8 t q28.2)
    else
      (if (kJ 134217728) < l6 then
      (fhd_hasSegments_309 t l1 l2 l3 l4 l6 l8 t q28.2)
    else
      (gd (jC q28.2 t = 14) <|
    (fhd_num t ((l2 + (kI 16)).toInt64) (kI 8) q28.2).bind fun q31 =>
    (fhd_num t ((l2 + (kI 8)).toInt64) (kI 8) q28.2).bind fun q32 =>
    if ((q31 - q32) &&& (kJ 15)) = (kJ 0) then
      (if l6 < l12 then
      (fhd_hasSegments_309 t l1 l2 l3 l4 l6 l8 t q28.2)
    else
      (fhd_hasSegments_310 t l1 l2 l3 l4 l6 l8 (kI 1) t q28.2))
    else
      (fhd_hasSegments_309 t l1 l2 l3 l4 l6 l8 t q28.2))))
noncomputable def fhd_hasSegments_232 (t : Nat) (l1 : Int32) (l2 : Int32) (l3 : Int32) (l4 : Int64) (l6 : Int64) (l8 : Int64) (l12 : Int64) (s0 : Nat) (W : jW) : Option (fhd_hasSegments_S ⊕ (Int32 × jW)) :=
  fhd_hasSegments_233 t l1 l2 l3 l4 l6 l8 l12 (kI 0) s0 W
noncomputable def fhd_hasSegments_192 (t : Nat) (l1 : Int32) (l2 : Int32) (l3 : Int32) (l4 : Int64) (l6 : Int64) (l8 : Int64) (l10 : Int64) (l12 : Int64) (s0 : Int32) (s1 : Nat) (W : jW) : Option (fhd_hasSegments_S ⊕ (Int32 × jW)) :=
  gd (jC W s1 = 14) <|
  (fhd_is s1 s0 ((l2 + (kI 4)).toInt64) W).bind fun q23 =>
  if q23.1 = (0 : Int32) then
    (fhd_hasSegments_244 t q23.2)
  else
    (if l4 < l10 then
    (fhd_hasSegments_232 t l1 l2 l3 l4 l6 l8 l12 t q23.2)
  else
    (gd (jC q23.2 t = 14) <|
  if l4 < ((kI 64) + ((kI 56) * (jI q23.2 1402 t))).toInt64 then
    (fhd_hasSegments_232 t l1 l2 l3 l4 l6 l8 l12 t q23.2)
  else
    (fhd_hasSegments_233 t l1 l2 l3 l4 l6 l8 l12 (kI 1) t q23.2)))
noncomputable def fhd_hasSegments_191 (t : Nat) (l1 : Int32) (l2 : Int32) (l3 : Int32) (l4 : Int64) (l6 : Int64) (l8 : Int64) (l10 : Int64) (l12 : Int64) (s0 : Nat) (W : jW) : Option (fhd_hasSegments_S ⊕ (Int32 × jW)) :=
  fhd_hasSegments_192 t l1 l2 l3 l4 l6 l8 l10 l12 (kI 0) s0 W
noncomputable def fhd_hasSegments_184 (t : Nat) (l1 : Int32) (l2 : Int32) (l3 : Int32) (l4 : Int64) (l6 : Int64) (l8 : Int64) (l10 : Int64) (l12 : Int64) (s0 : Int32) (s1 : Int32) (s2 : Nat) (W : jW) : Option (fhd_hasSegments_S ⊕ (Int32 × jW)) :=
  if s1 = s0 then
    (fhd_hasSegments_192 t l1 l2 l3 l4 l6 l8 l10 l12 (kI 1) s2 W)
  else
    (fhd_hasSegments_191 t l1 l2 l3 l4 l6 l8 l10 l12 s2 W)
noncomputable def fhd_hasSegments_169 (t : Nat) (l1 : Int32) (l2 : Int32) (l3 : Int32) (l4 : Int64) (l6 : Int64) (l8 : Int64) (l10 : Int64) (l12 : Int64) (s0 : Int32) (s1 : Nat) (W : jW) : Option (fhd_hasSegments_S ⊕ (Int32 × jW)) :=
  gd (jC W t = 14) <|
  if l1 = ((jI W 1402 t) - (kI 1)) then
    (fhd_hasSegments_184 t l1 l2 l3 l4 l6 l8 l10 l12 (kI 1) s0 s1 W)
  else
    (fhd_hasSegments_184 t l1 l2 l3 l4 l6 l8 l10 l12 (kI 0) s0 s1 W)
noncomputable def fhd_hasSegments_134 (t : Nat) (l1 : Int32) (l2 : Int32) (l3 : Int32) (l4 : Int64) (l6 : Int64) (l8 : Int64) (l10 : Int64) (s0 : Int64) (W : jW) : Option (fhd_hasSegments_S ⊕ (Int32 × jW)) :=
  gd (jC W t = 14) <|
  (fhd_has t l2.toInt64 (kI 4) (kJ 1) W).bind fun q16 =>
  if q16.1 = (0 : Int32) then
    (fhd_hasSegments_244 t q16.2)
  else
    (if l3 < (kI 4) then
    (fhd_hasSegments_191 t l1 l2 l3 l4 l6 l8 l10 s0 t q16.2)
  else
    (if (kI 6) < l3 then
    (fhd_hasSegments_191 t l1 l2 l3 l4 l6 l8 l10 s0 t q16.2)
  else
    (if l3 = (kI 5) then
    (fhd_hasSegments_169 t l1 l2 l3 l4 l6 l8 l10 s0 (kI 1) t q16.2)
  else
    (fhd_hasSegments_169 t l1 l2 l3 l4 l6 l8 l10 s0 (kI 0) t q16.2))))
noncomputable def fhd_hasSegments_104 (t : Nat) (l1 : Int32) (l2 : Int32) (l3 : Int32) (l4 : Int64) (l6 : Int64) (l8 : Int64) (s0 : Int64) (W : jW) : Option (fhd_hasSegments_S ⊕ (Int32 × jW)) :=
  if l1 = (0 : Int32) then
    (fhd_hasSegments_134 t l1 l2 l3 l4 l6 l8 s0 (kJ 65536) W)
  else
    (gd (jC W t = 14) <|
    gd (jin (l1 - (kI 1)) (jN W 1408 t)) <|
    gd (jin (l1 - (kI 1)) (jN W 1409 t)) <|
    fhd_hasSegments_134 t l1 l2 l3 l4 l6 l8 s0 ((jB W 1408 t (ix (l1 - (kI 1)))) + ((jA W 1409 t (ix (l1 - (kI 1)))).toInt64)) W)
noncomputable def fhd_hasSegments_2 (t : Nat) (l1 : Int32) (W : jW) : Option (fhd_hasSegments_S ⊕ (Int32 × jW)) :=
  gd (jC W t = 14) <|
  if l1 < (jI W 1402 t) then
    (jlt ((kI 64) + ((kI 56) * l1)) fun v3 =>
  (fhd_num t ((v3 + (kI 4)).toInt64) (kI 4) W).bind fun q4 =>
  (fhd_big t ((v3 + (kI 8)).toInt64) (kI 8) W).bind fun q5 =>
  (fhd_big t ((v3 + (kI 16)).toInt64) (kI 8) W).bind fun q6 =>
  (fhd_big t ((v3 + (kI 32)).toInt64) (kI 8) W).bind fun q7 =>
  if l1 = (0 : Int32) then
    (fhd_hasSegments_104 t l1 v3 q4.toInt32 q5 q6 q7 (((kI 64) + ((kI 56) * (jI W 1402 t))).toInt64) W)
  else
    (gd (jin (l1 - (kI 1)) (jN W 1407 t)) <|
    gd (jin (l1 - (kI 1)) (jN W 1409 t)) <|
    fhd_hasSegments_104 t l1 v3 q4.toInt32 q5 q6 q7 (((jA W 1407 t (ix (l1 - (kI 1)))) + (jA W 1409 t (ix (l1 - (kI 1))))).toInt64) W))
  else
    (some (.inr ((kI 1), W)))
noncomputable def fhd_hasSegments_st (t : Nat) : fhd_hasSegments_S → Option (fhd_hasSegments_S ⊕ (Int32 × jW)) :=
  (fun s => fhd_hasSegments_2 t s.1 s.2)
noncomputable def fhd_hasSegments_0 (t : Nat) (W : jW) : Option (fhd_hasSegments_S ⊕ (Int32 × jW)) :=
  some (.inl ((kI 0), W))
noncomputable def fhd_hasSegments (t : Nat) (W : jW) : Option (Int32 × jW) :=
  jrn (fhd_hasSegments_st t) (fhd_hasSegments_0 t W)
noncomputable def fhd_isSection_279 (t : Nat) (a1 : Int32) (W : jW) : Option (Int32 × jW) :=
  some ((kI 0), W)
noncomputable def fhd_isSection_405 (t : Nat) (a1 : Int32) (W : jW) : Option (Int32 × jW) :=
  some ((kI 0), W)
noncomputable def fhd_isSection_380 (t : Nat) (a1 : Int32) (s0 : Int32) (s1 : Nat) (W : jW) : Option (Int32 × jW) :=
  gd (jC W t = 14) <|
  gd (jin a1 (jN W 1412 t)) <|
  gd (jin a1 (jN W 1414 t)) <|
  gd (jC W s1 = 14) <|
  (fhd_is s1 s0 (((jB W 1412 t (ix a1)) + (jB W 1414 t (ix a1))) - (kJ 1)) W).bind fun q82 =>
  if q82.1 = (0 : Int32) then
    (fhd_isSection_405 t a1 q82.2)
  else
    (some ((kI 1), q82.2))
noncomputable def fhd_isSection_338 (t : Nat) (a1 : Int32) (s0 : Int32) (s1 : Nat) (W : jW) : Option (Int32 × jW) :=
  gd (jC W t = 14) <|
  gd (jin a1 (jN W 1412 t)) <|
  gd (jC W s1 = 14) <|
  (fhd_is s1 s0 (jB W 1412 t (ix a1)) W).bind fun q70 =>
  if q70.1 = (0 : Int32) then
    (fhd_isSection_405 t a1 q70.2)
  else
    (gd (jC q70.2 t = 14) <|
  gd (jin a1 (jN q70.2 1412 t)) <|
  gd (jin a1 (jN q70.2 1414 t)) <|
  gd (jR q70.2 9004 (jR q70.2 1400 t) = (jR q70.2 1400 t)) <|
  gd (jin ((((jB q70.2 1412 t (ix a1)) + (jB q70.2 1414 t (ix a1))).toInt32) - (kI 1)) (jN q70.2 9004 (jR q70.2 1400 t))) <|
  if (jA q70.2 9004 (jR q70.2 1400 t) (ix ((((jB q70.2 1412 t (ix a1)) + (jB q70.2 1414 t (ix a1))).toInt32) - (kI 1)))) = (0 : Int32) then
    (fhd_isSection_380 t a1 (kI 1) t q70.2)
  else
    (fhd_isSection_380 t a1 (kI 0) t q70.2))
noncomputable def fhd_isSection_306 (t : Nat) (a1 : Int32) (l2 : Int32) (s0 : Int32) (s1 : Nat) (W : jW) : Option (Int32 × jW) :=
  gd (jC W s1 = 14) <|
  (fhd_is s1 s0 ((l2 + (kI 32)).toInt64) W).bind fun q60 =>
  if q60.1 = (0 : Int32) then
    (fhd_isSection_405 t a1 q60.2)
  else
    (gd (jC q60.2 t = 14) <|
  gd (jin a1 (jN q60.2 1412 t)) <|
  gd (jR q60.2 9004 (jR q60.2 1400 t) = (jR q60.2 1400 t)) <|
  gd (jin ((jB q60.2 1412 t (ix a1)).toInt32) (jN q60.2 9004 (jR q60.2 1400 t))) <|
  if (jA q60.2 9004 (jR q60.2 1400 t) (ix ((jB q60.2 1412 t (ix a1)).toInt32))) = (0 : Int32) then
    (fhd_isSection_338 t a1 (kI 1) t q60.2)
  else
    (fhd_isSection_338 t a1 (kI 0) t q60.2))
noncomputable def fhd_isSection_495 (t : Nat) (a1 : Int32) (W : jW) : Option (Int32 × jW) :=
  some ((kI 0), W)
noncomputable def fhd_isSection_463 (t : Nat) (a1 : Int32) (l2 : Int32) (s0 : Int32) (s1 : Nat) (W : jW) : Option (Int32 × jW) :=
  gd (jC W s1 = 14) <|
  (fhd_is s1 s0 ((l2 + (kI 32)).toInt64) W).bind fun q92 =>
  if q92.1 = (0 : Int32) then
    (fhd_isSection_495 t a1 q92.2)
  else
    (gd (jC q92.2 t = 14) <|
  (fhd_has t ((l2 + (kI 56)).toInt64) (kI 8) (kJ 24) q92.2).bind fun q95 =>
  if q95.1 = (0 : Int32) then
    (fhd_isSection_495 t a1 q95.2)
  else
    (some ((kI 1), q95.2)))
noncomputable def fhd_isSection_458 (t : Nat) (a1 : Int32) (l2 : Int32) (s0 : Nat) (W : jW) : Option (Int32 × jW) :=
  fhd_isSection_463 t a1 l2 (kI 1) s0 W
noncomputable def fhd_isSection_462 (t : Nat) (a1 : Int32) (l2 : Int32) (s0 : Nat) (W : jW) : Option (Int32 × jW) :=
  fhd_isSection_463 t a1 l2 (kI 0) s0 W
noncomputable def fhd_isSection_423 (t : Nat) (a1 : Int32) (l2 : Int32) (l3 : Int64) (W : jW) : Option (Int32 × jW) :=
  gd (jC W t = 14) <|
  gd (jin a1 (jN W 1414 t)) <|
  if (lrm (jB W 1414 t (ix a1)) (kJ 24)) = (kJ 0) then
    (if l3 = (kJ 4) then
    (fhd_isSection_458 t a1 l2 t W)
  else
    (gd (jin a1 (jN W 1414 t)) <| if (kJ 0) < (jB W 1414 t (ix a1)) then
    (fhd_isSection_458 t a1 l2 t W)
  else
    (fhd_isSection_462 t a1 l2 t W)))
  else
    (fhd_isSection_462 t a1 l2 t W)
noncomputable def fhd_isSection_268 (t : Nat) (a1 : Int32) (l2 : Int32) (l3 : Int64) (s0 : Int32) (s1 : Nat) (W : jW) : Option (Int32 × jW) :=
  gd (jC W s1 = 14) <|
  (fhd_is s1 s0 ((l2 + (kI 32)).toInt64) W).bind fun q54 =>
  if q54.1 = (0 : Int32) then
    (fhd_isSection_279 t a1 q54.2)
  else
    (if l3 = (kJ 3) then
      (gd (jC q54.2 t = 14) <|
    gd (jin a1 (jN q54.2 1414 t)) <|
    if (kJ 0) < (jB q54.2 1414 t (ix a1)) then
      (fhd_isSection_306 t a1 l2 (kI 1) t q54.2)
    else
      (fhd_isSection_306 t a1 l2 (kI 0) t q54.2))
    else
      (if l3 = (kJ 2) then
        (fhd_isSection_423 t a1 l2 l3 q54.2)
      else
        (if l3 = (kJ 4) then
        (fhd_isSection_423 t a1 l2 l3 q54.2)
      else
        (some ((kI 1), q54.2)))))
noncomputable def fhd_isSection_230 (t : Nat) (a1 : Int32) (l2 : Int32) (l3 : Int64) (s0 : Int32) (s1 : Nat) (W : jW) : Option (Int32 × jW) :=
  gd (jC W s1 = 14) <|
  (fhd_is s1 s0 ((l2 + (kI 24)).toInt64) W).bind fun q47 =>
  if q47.1 = (0 : Int32) then
    (fhd_isSection_279 t a1 q47.2)
  else
    (gd (jC q47.2 t = 14) <|
  gd (jin a1 (jN q47.2 1412 t)) <|
  gd (jin a1 (jN q47.2 1414 t)) <|
  if (jL q47.2 1405 t) < ((jB q47.2 1412 t (ix a1)) + (jB q47.2 1414 t (ix a1))) then
    (fhd_isSection_268 t a1 l2 l3 (kI 0) t q47.2)
  else
    (fhd_isSection_268 t a1 l2 l3 (kI 1) t q47.2))
noncomputable def fhd_isSection_122 (t : Nat) (a1 : Int32) (l2 : Int32) (l3 : Int64) (l5 : Int64) (s0 : Int32) (s1 : Nat) (W : jW) : Option (Int32 × jW) :=
  gd (jC W s1 = 14) <|
  (fhd_is s1 s0 ((l2 + (kI 8)).toInt64) W).bind fun q13 =>
  if q13.1 = (0 : Int32) then
    (some ((kI 0), q13.2))
  else
    (gd (jC q13.2 t = 14) <|
    gd (jin a1 (jN q13.2 1410 t)) <|
    jlt (pA q13.2 1410 t (ix a1) l3.toInt32) fun W17 =>
    gd (jin a1 (jN W17 1411 t)) <|
    jlt (pA W17 1411 t (ix a1) l5.toInt32) fun W22 =>
    (fhd_big t ((l2 + (kI 16)).toInt64) (kI 8) W22).bind fun q26 =>
    gd (jin a1 (jN W22 1413 t)) <|
    jlt (pB W22 1413 t (ix a1) q26) fun W28 =>
    (fhd_big t ((l2 + (kI 24)).toInt64) (kI 8) W28).bind fun q32 =>
    gd (jin a1 (jN W28 1412 t)) <|
    jlt (pB W28 1412 t (ix a1) q32) fun W34 =>
    (fhd_big t ((l2 + (kI 32)).toInt64) (kI 8) W34).bind fun q38 =>
    gd (jin a1 (jN W34 1414 t)) <|
    jlt (pB W34 1414 t (ix a1) q38) fun W40 =>
    gd (jin a1 (jN W40 1412 t)) <|
    if (jB W40 1412 t (ix a1)) < ((kI 64) + ((kI 56) * (jI W40 1402 t))).toInt64 then
      (fhd_isSection_230 t a1 l2 l3 (kI 0) t W40)
    else
      (fhd_isSection_230 t a1 l2 l3 (kI 1) t W40))
noncomputable def fhd_isSection_102 (t : Nat) (a1 : Int32) (l2 : Int32) (l3 : Int64) (l5 : Int64) (s0 : Nat) (W : jW) : Option (Int32 × jW) :=
  fhd_isSection_122 t a1 l2 l3 l5 (kI 1) s0 W
noncomputable def fhd_isSection_36 (t : Nat) (a1 : Int32) (l2 : Int32) (l3 : Int64) (s0 : Int32) (s1 : Nat) (W : jW) : Option (Int32 × jW) :=
  gd (jC W s1 = 14) <|
  (fhd_is s1 s0 ((l2 + (kI 4)).toInt64) W).bind fun q6 =>
  if q6.1 = (0 : Int32) then
    (some ((kI 0), q6.2))
  else
    (gd (jC q6.2 t = 14) <|
    (fhd_num t ((l2 + (kI 8)).toInt64) (kI 8) q6.2).bind fun q9 =>
    if l3 = (kJ 1) then
      (if q9 = (kJ 6) then
      (fhd_isSection_102 t a1 l2 l3 q9 t q6.2)
    else
      (if q9 = (kJ 2) then
      (fhd_isSection_102 t a1 l2 l3 q9 t q6.2)
    else
      (if q9 = (kJ 3) then
      (fhd_isSection_102 t a1 l2 l3 q9 t q6.2)
    else
      (if q9 = (kJ 0) then
      (fhd_isSection_102 t a1 l2 l3 q9 t q6.2)
    else
      (fhd_isSection_122 t a1 l2 l3 q9 (kI 0) t q6.2)))))
    else
      (if q9 = (kJ 0) then
        (fhd_isSection_122 t a1 l2 l3 q9 (kI 1) t q6.2)
      else
        (fhd_isSection_122 t a1 l2 l3 q9 (kI 0) t q6.2)))
noncomputable def fhd_isSection_35 (t : Nat) (a1 : Int32) (l2 : Int32) (l3 : Int64) (s0 : Nat) (W : jW) : Option (Int32 × jW) :=
  fhd_isSection_36 t a1 l2 l3 (kI 0) s0 W
noncomputable def fhd_isSection (t : Nat) (a1 : Int32) (W : jW) : Option (Int32 × jW) :=
  gd (jC W t = 14) <|
  (fhd_head t a1 W).bind fun q2 =>
  (fhd_num t ((q2 + (kI 4)).toInt64) (kI 4) W).bind fun q3 =>
  if q3 < (kJ 1) then
    (fhd_isSection_35 t a1 q2 q3 t W)
  else
    (if (kJ 4) < q3 then
    (fhd_isSection_35 t a1 q2 q3 t W)
  else
    (fhd_isSection_36 t a1 q2 q3 (kI 1) t W))
abbrev fhd_isInSegment_S : Type := (Int32)
noncomputable def fhd_isInSegment_116 (t : Nat) (a1 : Int32) (l2 : Int32) (W : jW) : Option (fhd_isInSegment_S ⊕ (Int32)) :=
  jlt (l2 + (kI 1)) fun v6 => some (.inl v6)
noncomputable def fhd_isInSegment_36 (t : Nat) (a1 : Int32) (l2 : Int32) (W : jW) : Option (fhd_isInSegment_S ⊕ (Int32)) :=
  gd (jC W t = 14) <|
  gd (jin a1 (jN W 1413 t)) <|
  gd (jin l2 (jN W 1408 t)) <|
  if (jB W 1413 t (ix a1)) < (jB W 1408 t (ix l2)) then
    (fhd_isInSegment_116 t a1 l2 W)
  else
    (gd (jin a1 (jN W 1413 t)) <|
  gd (jin a1 (jN W 1414 t)) <|
  gd (jin l2 (jN W 1408 t)) <|
  gd (jin l2 (jN W 1409 t)) <|
  if ((jB W 1408 t (ix l2)) + ((jA W 1409 t (ix l2)).toInt64)) < ((jB W 1413 t (ix a1)) + (jB W 1414 t (ix a1))) then
    (fhd_isInSegment_116 t a1 l2 W)
  else
    (gd (jin a1 (jN W 1413 t)) <|
  gd (jin a1 (jN W 1412 t)) <|
  gd (jin l2 (jN W 1408 t)) <|
  gd (jin l2 (jN W 1407 t)) <|
  if ((jB W 1413 t (ix a1)) - (jB W 1412 t (ix a1))) = ((jB W 1408 t (ix l2)) - ((jA W 1407 t (ix l2)).toInt64)) then
    (some (.inr (kI 1)))
  else
    (fhd_isInSegment_116 t a1 l2 W)))
noncomputable def fhd_isInSegment_2 (t : Nat) (a1 : Int32) (l2 : Int32) (W : jW) : Option (fhd_isInSegment_S ⊕ (Int32)) :=
  gd (jC W t = 14) <|
  if l2 < ((jI W 1402 t) - (kI 1)) then
    (gd (jin a1 (jN W 1411 t)) <|
  if (jA W 1411 t (ix a1)) = (kI 3) then
    (gd (jin l2 (jN W 1406 t)) <| if (jA W 1406 t (ix l2)) = (kI 6) then
    (fhd_isInSegment_36 t a1 l2 W)
  else
    (fhd_isInSegment_116 t a1 l2 W))
  else
    (fhd_isInSegment_36 t a1 l2 W))
  else
    (some (.inr (kI 0)))
noncomputable def fhd_isInSegment_st (t : Nat) (a1 : Int32) (W : jW) : fhd_isInSegment_S → Option (fhd_isInSegment_S ⊕ (Int32)) :=
  (fun s => fhd_isInSegment_2 t a1 s W)
noncomputable def fhd_isInSegment_0 (t : Nat) (a1 : Int32) (W : jW) : Option (fhd_isInSegment_S ⊕ (Int32)) :=
  some (.inl (kI 0))
noncomputable def fhd_isInSegment (t : Nat) (a1 : Int32) (W : jW) : Option (Int32) :=
  jrn (fhd_isInSegment_st t a1 W) (fhd_isInSegment_0 t a1 W)
abbrev fhd_hasLinks_S : Type := (Int32 × jW) ⊕ (Int32 × jW) ⊕ (Int32 × Int64 × Int32 × Int32 × jW) ⊕ (Int32 × jW)
noncomputable def fhd_hasLinks_119 (t : Nat) (l1 : Int32) (W : jW) : Option (fhd_hasLinks_S ⊕ (Int32 × jW)) :=
  jlt (l1 + (kI 1)) fun v24 => some (.inl (.inl (v24, W)))
noncomputable def fhd_hasLinks_102 (t : Nat) (l1 : Int32) (s0 : Int32) (s1 : Nat) (W : jW) : Option (fhd_hasLinks_S ⊕ (Int32 × jW)) :=
  gd (jC W t = 14) <|
  (fhd_head t l1 W).bind fun q19 =>
  gd (jC W s1 = 14) <|
  (fhd_is s1 s0 ((q19 + (kI 40)).toInt64) W).bind fun q21 =>
  if q21.1 = (0 : Int32) then
    (some (.inr ((kI 0), q21.2)))
  else
    (fhd_hasLinks_119 t l1 q21.2)
noncomputable def fhd_hasLinks_77 (t : Nat) (l1 : Int32) (l2 : Int64) (W : jW) : Option (fhd_hasLinks_S ⊕ (Int32 × jW)) :=
  gd (jC W t = 14) <|
  (fhd_what t l1 W).bind fun q16 =>
  if q16 = (kI 4) then
    (if l2 = (jI W 1416 t).toInt64 then
    (fhd_hasLinks_102 t l1 (kI 1) t W)
  else
    (fhd_hasLinks_102 t l1 (kI 0) t W))
  else
    (fhd_hasLinks_119 t l1 W)
noncomputable def fhd_hasLinks_60 (t : Nat) (l1 : Int32) (l2 : Int64) (s0 : Int32) (s1 : Nat) (W : jW) : Option (fhd_hasLinks_S ⊕ (Int32 × jW)) :=
  gd (jC W t = 14) <|
  (fhd_head t l1 W).bind fun q9 =>
  gd (jC W s1 = 14) <|
  (fhd_is s1 s0 ((q9 + (kI 40)).toInt64) W).bind fun q11 =>
  if q11.1 = (0 : Int32) then
    (some (.inr ((kI 0), q11.2)))
  else
    (fhd_hasLinks_77 t l1 l2 q11.2)
noncomputable def fhd_hasLinks_59 (t : Nat) (l1 : Int32) (l2 : Int64) (s0 : Nat) (W : jW) : Option (fhd_hasLinks_S ⊕ (Int32 × jW)) :=
  fhd_hasLinks_60 t l1 l2 (kI 0) s0 W
noncomputable def fhd_hasLinks_282 (t : Nat) (l1 : Int32) (W : jW) : Option (fhd_hasLinks_S ⊕ (Int32 × jW)) :=
  jlt (l1 + (kI 1)) fun v34 => some (.inl (.inr (.inl (v34, W))))
noncomputable def fhd_hasLinks_254 (t : Nat) (l1 : Int32) (l2 : Int64) (l5 : Int32) (s0 : Int32) (W : jW) : Option (fhd_hasLinks_S ⊕ (Int32 × jW)) :=
  jlt (l5 + (kI 1)) fun v48 => some (.inl (.inr (.inr (.inl (l1, l2, s0, v48, W)))))
noncomputable def fhd_hasLinks_249 (t : Nat) (l1 : Int32) (l2 : Int64) (l5 : Int32) (W : jW) : Option (fhd_hasLinks_S ⊕ (Int32 × jW)) :=
  fhd_hasLinks_254 t l1 l2 l5 (kI 1) W
noncomputable def fhd_hasLinks_253 (t : Nat) (l1 : Int32) (l2 : Int64) (l5 : Int32) (W : jW) : Option (fhd_hasLinks_S ⊕ (Int32 × jW)) :=
  fhd_hasLinks_254 t l1 l2 l5 (kI 0) W
noncomputable def fhd_hasLinks_208 (t : Nat) (l1 : Int32) (l2 : Int64) (l4 : Int32) (l5 : Int32) (W : jW) : Option (fhd_hasLinks_S ⊕ (Int32 × jW)) :=
  if l5 < l1 then
    (if l4 = (0 : Int32) then
    (fhd_hasLinks_253 t l1 l2 l5 W)
  else
    (gd (jC W t = 14) <|
  (fhd_what t l5 W).bind fun q43 =>
  if q43 = (kI 4) then
    ((fhd_head t l5 W).bind fun q44 =>
  (fhd_num t ((q44 + (kI 44)).toInt64) (kI 4) W).bind fun q45 =>
  if q45 = l2 then
    (fhd_hasLinks_253 t l1 l2 l5 W)
  else
    (fhd_hasLinks_249 t l1 l2 l5 W))
  else
    (fhd_hasLinks_249 t l1 l2 l5 W)))
  else
    (gd (jC W t = 14) <|
    (fhd_head t l1 W).bind fun q39 =>
    (fhd_is t l4 ((q39 + (kI 44)).toInt64) W).bind fun q40 =>
    if q40.1 = (0 : Int32) then
      (some (.inr ((kI 0), q40.2)))
    else
      (fhd_hasLinks_282 t l1 q40.2))
noncomputable def fhd_hasLinks_203 (t : Nat) (l1 : Int32) (l2 : Int64) (s0 : Int32) (W : jW) : Option (fhd_hasLinks_S ⊕ (Int32 × jW)) :=
  some (.inl (.inr (.inr (.inl (l1, l2, s0, (kI 1), W)))))
noncomputable def fhd_hasLinks_198 (t : Nat) (l1 : Int32) (l2 : Int64) (W : jW) : Option (fhd_hasLinks_S ⊕ (Int32 × jW)) :=
  fhd_hasLinks_203 t l1 l2 (kI 1) W
noncomputable def fhd_hasLinks_202 (t : Nat) (l1 : Int32) (l2 : Int64) (W : jW) : Option (fhd_hasLinks_S ⊕ (Int32 × jW)) :=
  fhd_hasLinks_203 t l1 l2 (kI 0) W
noncomputable def fhd_hasLinks_358 (t : Nat) (l1 : Int32) (s0 : Int32) (s1 : Nat) (W : jW) : Option (fhd_hasLinks_S ⊕ (Int32 × jW)) :=
  gd (jC W t = 14) <|
  (fhd_head t l1 W).bind fun q62 =>
  gd (jC W s1 = 14) <|
  (fhd_is s1 s0 q62.toInt64 W).bind fun q64 =>
  if q64.1 = (0 : Int32) then
    (some (.inr ((kI 0), q64.2)))
  else
    (jlt (l1 + (kI 1)) fun v66 => some (.inl (.inr (.inr (.inr (v66, q64.2))))))
noncomputable def fhd_hasLinks_320 (t : Nat) (l1 : Int32) (W : jW) : Option (fhd_hasLinks_S ⊕ (Int32 × jW)) :=
  gd (jC W t = 14) <|
  if l1 < (jI W 1403 t) then
    ((fhd_head t l1 W).bind fun q57 =>
  (fhd_num t q57.toInt64 (kI 4) W).bind fun q58 =>
  gd (jin (jI W 1404 t) (jN W 1414 t)) <|
  if q58 < (jB W 1414 t (ix (jI W 1404 t))) then
    (fhd_hasLinks_358 t l1 (kI 1) t W)
  else
    (fhd_hasLinks_358 t l1 (kI 0) t W))
  else
    (some (.inr ((kI 1), W)))
noncomputable def fhd_hasLinks_307 (t : Nat) (s0 : Int32) (s1 : Nat) (W : jW) : Option (fhd_hasLinks_S ⊕ (Int32 × jW)) :=
  gd (jC W s1 = 14) <|
  (fhd_is s1 s0 (kJ 62) W).bind fun q53 =>
  if q53.1 = (0 : Int32) then
    (some (.inr ((kI 0), q53.2)))
  else
    (some (.inl (.inr (.inr (.inr ((kI 0), q53.2))))))
noncomputable def fhd_hasLinks_127 (t : Nat) (l1 : Int32) (W : jW) : Option (fhd_hasLinks_S ⊕ (Int32 × jW)) :=
  gd (jC W t = 14) <|
  if l1 < (jI W 1403 t) then
    ((fhd_what t l1 W).bind fun q28 =>
  if q28 = (kI 4) then
    ((fhd_head t l1 W).bind fun q29 =>
    (fhd_num t ((q29 + (kI 44)).toInt64) (kI 4) W).bind fun q30 =>
    if q30 < (kJ 1) then
      (fhd_hasLinks_202 t l1 q30 W)
    else
      (if q30 < (jI W 1403 t).toInt64 then
      ((fhd_what t q30.toInt32 W).bind fun q31 =>
    if q31 = (kI 1) then
      (fhd_hasLinks_198 t l1 q30 W)
    else
      ((fhd_what t q30.toInt32 W).bind fun q32 => if q32 = (kI 5) then
      (fhd_hasLinks_198 t l1 q30 W)
    else
      (fhd_hasLinks_202 t l1 q30 W)))
    else
      (fhd_hasLinks_202 t l1 q30 W)))
  else
    (fhd_hasLinks_282 t l1 W))
  else
    (gd (jin (jI W 1404 t) (jN W 1410 t)) <|
    if (jA W 1410 t (ix (jI W 1404 t))) = (kI 3) then
      (fhd_hasLinks_307 t (kI 1) t W)
    else
      (fhd_hasLinks_307 t (kI 0) t W))
noncomputable def fhd_hasLinks_2 (t : Nat) (l1 : Int32) (W : jW) : Option (fhd_hasLinks_S ⊕ (Int32 × jW)) :=
  gd (jC W t = 14) <|
  if l1 < (jI W 1403 t) then
    ((fhd_head t l1 W).bind fun q3 =>
  (fhd_num t ((q3 + (kI 40)).toInt64) (kI 4) W).bind fun q4 =>
  (fhd_what t l1 W).bind fun q5 =>
  if q5 = (kI 2) then
    (if q4 < (jI W 1403 t).toInt64 then
    ((fhd_what t q4.toInt32 W).bind fun q6 => if q6 = (kI 3) then
    (fhd_hasLinks_60 t l1 q4 (kI 1) t W)
  else
    (fhd_hasLinks_59 t l1 q4 t W))
  else
    (fhd_hasLinks_59 t l1 q4 t W))
  else
    (fhd_hasLinks_77 t l1 q4 W))
  else
    (some (.inl (.inr (.inl ((kI 1), W)))))
noncomputable def fhd_hasLinks_st (t : Nat) : fhd_hasLinks_S → Option (fhd_hasLinks_S ⊕ (Int32 × jW)) :=
  (Sum.elim (fun s => fhd_hasLinks_2 t s.1 s.2) (Sum.elim (fun s => fhd_hasLinks_127 t s.1 s.2) (Sum.elim (fun s => fhd_hasLinks_208 t s.1 s.2.1 s.2.2.1 s.2.2.2.1 s.2.2.2.2) (fun s => fhd_hasLinks_320 t s.1 s.2))))
noncomputable def fhd_hasLinks_0 (t : Nat) (W : jW) : Option (fhd_hasLinks_S ⊕ (Int32 × jW)) :=
  some (.inl (.inl ((kI 1), W)))
noncomputable def fhd_hasLinks (t : Nat) (W : jW) : Option (Int32 × jW) :=
  jrn (fhd_hasLinks_st t) (fhd_hasLinks_0 t W)
abbrev fhd_hasSections_S : Type := (Int32 × jW) ⊕ (Int32 × Int32 × Int32 × jW) ⊕ (Int32 × jW) ⊕ (Int32 × jW) ⊕ (Int32 × jW) ⊕ (Int32 × Int32 × jW)
noncomputable def fhd_hasSections_111 (t : Nat) (l1 : Int32) (l2 : Int32) (l3 : Int32) (W : jW) : Option (fhd_hasSections_S ⊕ (Int32 × jW)) :=
  jlt (l3 + (kI 1)) fun v40 => some (.inl (.inr (.inl (l1, l2, v40, W))))
noncomputable def fhd_hasSections_94 (t : Nat) (l1 : Int32) (l2 : Int32) (l3 : Int32) (W : jW) : Option (fhd_hasSections_S ⊕ (Int32 × jW)) :=
  gd (jC W t = 14) <|
  (fhd_what t l3 W).bind fun q33 =>
  if q33 = (kI 2) then
    (jlt (l2 + (kI 1)) fun v34 => jlt (sI W 1416 t l3) fun W35 => fhd_hasSections_111 t l1 v34 l3 W35)
  else
    (fhd_hasSections_111 t l1 l2 l3 W)
noncomputable def fhd_hasSections_310 (t : Nat) (W : jW) : Option (fhd_hasSections_S ⊕ (Int32 × jW)) :=
  some (.inr ((kI 0), W))
noncomputable def fhd_hasSections_359 (t : Nat) (l5 : Int32) (W : jW) : Option (fhd_hasSections_S ⊕ (Int32 × jW)) :=
  jlt (l5 + (kI 1)) fun v78 => some (.inl (.inr (.inr (.inl (v78, W)))))
noncomputable def fhd_hasSections_451 (t : Nat) (l5 : Int32) (W : jW) : Option (fhd_hasSections_S ⊕ (Int32 × jW)) :=
  jlt (l5 + (kI 1)) fun v92 => some (.inl (.inr (.inr (.inr (.inl (v92, W))))))
noncomputable def fhd_hasSections_433 (t : Nat) (l5 : Int32) (s0 : Int32) (s1 : Nat) (W : jW) : Option (fhd_hasSections_S ⊕ (Int32 × jW)) :=
  gd (jC W t = 14) <|
  (fhd_head t l5 W).bind fun q87 =>
  gd (jC W s1 = 14) <|
  (fhd_is s1 s0 ((q87 + (kI 24)).toInt64) W).bind fun q89 =>
  if q89.1 = (0 : Int32) then
    (some (.inr ((kI 0), q89.2)))
  else
    (fhd_hasSections_451 t l5 q89.2)
noncomputable def fhd_hasSections_560 (t : Nat) (l5 : Int32) (l6 : Int32) (s0 : Int32) (W : jW) : Option (fhd_hasSections_S ⊕ (Int32 × jW)) :=
  gd (jC W t = 14) <|
  (fhd_head t l5 W).bind fun q111 =>
  (fhd_is t s0 ((q111 + (kI 24)).toInt64) W).bind fun q112 =>
  if q112.1 = (0 : Int32) then
    (some (.inr ((kI 0), q112.2)))
  else
    (jlt (l6 + (kI 1)) fun v114 => some (.inl (.inr (.inr (.inr (.inr (.inr (l5, v114, q112.2))))))))
noncomputable def fhd_hasSections_555 (t : Nat) (l5 : Int32) (l6 : Int32) (W : jW) : Option (fhd_hasSections_S ⊕ (Int32 × jW)) :=
  fhd_hasSections_560 t l5 l6 (kI 1) W
noncomputable def fhd_hasSections_472 (t : Nat) (l5 : Int32) (l6 : Int32) (W : jW) : Option (fhd_hasSections_S ⊕ (Int32 × jW)) :=
  if l6 < l5 then
    (gd (jC W t = 14) <|
  gd (jin l5 (jN W 1414 t)) <|
  if (jB W 1414 t (ix l5)) = (kJ 0) then
    (fhd_hasSections_555 t l5 l6 W)
  else
    (gd (jin l6 (jN W 1414 t)) <|
  if (jB W 1414 t (ix l6)) = (kJ 0) then
    (fhd_hasSections_555 t l5 l6 W)
  else
    (gd (jin l5 (jN W 1412 t)) <|
  gd (jin l6 (jN W 1412 t)) <|
  gd (jin l6 (jN W 1414 t)) <|
  if (jB W 1412 t (ix l5)) < ((jB W 1412 t (ix l6)) + (jB W 1414 t (ix l6))) then
    (gd (jin l6 (jN W 1412 t)) <|
  gd (jin l5 (jN W 1412 t)) <|
  gd (jin l5 (jN W 1414 t)) <|
  if (jB W 1412 t (ix l6)) < ((jB W 1412 t (ix l5)) + (jB W 1414 t (ix l5))) then
    (fhd_hasSections_560 t l5 l6 (kI 0) W)
  else
    (fhd_hasSections_555 t l5 l6 W))
  else
    (fhd_hasSections_555 t l5 l6 W))))
  else
    (jlt (l5 + (kI 1)) fun v99 => some (.inl (.inr (.inr (.inr (.inr (.inl (v99, W))))))))
noncomputable def fhd_hasSections_460 (t : Nat) (l5 : Int32) (W : jW) : Option (fhd_hasSections_S ⊕ (Int32 × jW)) :=
  gd (jC W t = 14) <|
  if l5 < (jI W 1403 t) then
    (some (.inl (.inr (.inr (.inr (.inr (.inr (l5, (kI 1), W))))))))
  else
    ((fhd_hasLinks t W).bind fun q95 => gd (i2z q95.1 = q95.1) <| some (.inr (q95.1, q95.2)))
noncomputable def fhd_hasSections_368 (t : Nat) (l5 : Int32) (W : jW) : Option (fhd_hasSections_S ⊕ (Int32 × jW)) :=
  gd (jC W t = 14) <|
  if l5 < (jI W 1403 t) then
    ((fhd_what t l5 W).bind fun q81 =>
  if q81 = (kI 1) then
    (fhd_hasSections_451 t l5 W)
  else
    (if q81 = (kI 5) then
    (fhd_hasSections_451 t l5 W)
  else
    (gd (jin l5 (jN W 1412 t)) <|
  gd (jin (jI W 1415 t) (jN W 1412 t)) <|
  gd (jin (jI W 1415 t) (jN W 1414 t)) <|
  if (jB W 1412 t (ix l5)) < ((jB W 1412 t (ix (jI W 1415 t))) + (jB W 1414 t (ix (jI W 1415 t)))) then
    (fhd_hasSections_433 t l5 (kI 0) t W)
  else
    (fhd_hasSections_433 t l5 (kI 1) t W))))
  else
    (some (.inl (.inr (.inr (.inr (.inr (.inl ((kI 2), W))))))))
noncomputable def fhd_hasSections_315 (t : Nat) (l5 : Int32) (W : jW) : Option (fhd_hasSections_S ⊕ (Int32 × jW)) :=
  gd (jC W t = 14) <|
  if l5 < (jI W 1403 t) then
    ((fhd_what t l5 W).bind fun q72 =>
  if q72 = (kI 5) then
    ((fhd_isInSegment t l5 W).bind fun q73 =>
  (fhd_head t l5 W).bind fun q74 =>
  (fhd_is t q73 ((q74 + (kI 16)).toInt64) W).bind fun q75 =>
  if q75.1 = (0 : Int32) then
    (some (.inr ((kI 0), q75.2)))
  else
    (fhd_hasSections_359 t l5 q75.2))
  else
    (fhd_hasSections_359 t l5 W))
  else
    (some (.inl (.inr (.inr (.inr (.inl ((kI 1), W)))))))
noncomputable def fhd_hasSections_298 (t : Nat) (l4 : Int32) (s0 : Int32) (s1 : Nat) (W : jW) : Option (fhd_hasSections_S ⊕ (Int32 × jW)) :=
  gd (jC W s1 = 14) <|
  (fhd_is s1 s0 ((l4 + (kI 32)).toInt64) W).bind fun q68 =>
  if q68.1 = (0 : Int32) then
    (fhd_hasSections_310 t q68.2)
  else
    (some (.inl (.inr (.inr (.inl ((kI 1), q68.2))))))
noncomputable def fhd_hasSections_297 (t : Nat) (l4 : Int32) (s0 : Nat) (W : jW) : Option (fhd_hasSections_S ⊕ (Int32 × jW)) :=
  fhd_hasSections_298 t l4 (kI 0) s0 W
noncomputable def fhd_hasSections_242 (t : Nat) (l3 : Int32) (l4 : Int32) (s0 : Int32) (s1 : Nat) (W : jW) : Option (fhd_hasSections_S ⊕ (Int32 × jW)) :=
  gd (jC W s1 = 14) <|
  (fhd_is s1 s0 ((l4 + (kI 24)).toInt64) W).bind fun q60 =>
  if q60.1 = (0 : Int32) then
    (fhd_hasSections_310 t q60.2)
  else
    (gd (jC q60.2 t = 14) <|
  gd (jin (jI q60.2 1415 t) (jN q60.2 1414 t)) <|
  gd (jin l3 (jN q60.2 1409 t)) <|
  if (jB q60.2 1414 t (ix (jI q60.2 1415 t))) = (jA q60.2 1409 t (ix l3)).toInt64 then
    (gd (jin (jI q60.2 1415 t) (jN q60.2 1414 t)) <|
  if (lrm (jB q60.2 1414 t (ix (jI q60.2 1415 t))) (kJ 4)) = (kJ 0) then
    (fhd_hasSections_298 t l4 (kI 1) t q60.2)
  else
    (fhd_hasSections_297 t l4 t q60.2))
  else
    (fhd_hasSections_297 t l4 t q60.2))
noncomputable def fhd_hasSections_204 (t : Nat) (l3 : Int32) (l4 : Int32) (s0 : Int32) (s1 : Nat) (W : jW) : Option (fhd_hasSections_S ⊕ (Int32 × jW)) :=
  gd (jC W s1 = 14) <|
  (fhd_is s1 s0 ((l4 + (kI 16)).toInt64) W).bind fun q53 =>
  if q53.1 = (0 : Int32) then
    (fhd_hasSections_310 t q53.2)
  else
    (gd (jC q53.2 t = 14) <|
  gd (jin (jI q53.2 1415 t) (jN q53.2 1412 t)) <|
  gd (jin l3 (jN q53.2 1407 t)) <|
  if (jB q53.2 1412 t (ix (jI q53.2 1415 t))) = (jA q53.2 1407 t (ix l3)).toInt64 then
    (fhd_hasSections_242 t l3 l4 (kI 1) t q53.2)
  else
    (fhd_hasSections_242 t l3 l4 (kI 0) t q53.2))
noncomputable def fhd_hasSections_203 (t : Nat) (l3 : Int32) (l4 : Int32) (s0 : Nat) (W : jW) : Option (fhd_hasSections_S ⊕ (Int32 × jW)) :=
  fhd_hasSections_204 t l3 l4 (kI 0) s0 W
noncomputable def fhd_hasSections_133 (t : Nat) (s0 : Int32) (s1 : Nat) (W : jW) : Option (fhd_hasSections_S ⊕ (Int32 × jW)) :=
  gd (jC W s1 = 14) <|
  (fhd_is s1 s0 (kJ 60) W).bind fun q43 =>
  if q43.1 = (0 : Int32) then
    (some (.inr ((kI 0), q43.2)))
  else
    (gd (jC q43.2 t = 14) <|
    jlt ((jI q43.2 1402 t) - (kI 1)) fun v46 =>
    (fhd_head t (jI q43.2 1415 t) q43.2).bind fun q47 =>
    gd (jin (jI q43.2 1415 t) (jN q43.2 1413 t)) <|
    gd (jin v46 (jN q43.2 1408 t)) <|
    if (jB q43.2 1413 t (ix (jI q43.2 1415 t))) = (jB q43.2 1408 t (ix v46)) then
      (gd (jin (jI q43.2 1415 t) (jN q43.2 1413 t)) <|
    if (lrm (jB q43.2 1413 t (ix (jI q43.2 1415 t))) (kJ 4)) = (kJ 0) then
      (fhd_hasSections_204 t v46 q47 (kI 1) t q43.2)
    else
      (fhd_hasSections_203 t v46 q47 t q43.2))
    else
      (fhd_hasSections_203 t v46 q47 t q43.2))
noncomputable def fhd_hasSections_132 (t : Nat) (s0 : Nat) (W : jW) : Option (fhd_hasSections_S ⊕ (Int32 × jW)) :=
  fhd_hasSections_133 t (kI 0) s0 W
noncomputable def fhd_hasSections_59 (t : Nat) (l1 : Int32) (l2 : Int32) (l3 : Int32) (W : jW) : Option (fhd_hasSections_S ⊕ (Int32 × jW)) :=
  gd (jC W t = 14) <|
  if l3 < (jI W 1403 t) then
    ((fhd_isSection t l3 W).bind fun q22 =>
  if q22.1 = (0 : Int32) then
    (some (.inr ((kI 0), q22.2)))
  else
    (gd (jC q22.2 t = 14) <|
    (fhd_what t l3 q22.2).bind fun q25 =>
    if q25 = (kI 1) then
      (jlt (l1 + (kI 1)) fun v26 => jlt (sI q22.2 1415 t l3) fun W27 => fhd_hasSections_94 t v26 l2 l3 W27)
    else
      (fhd_hasSections_94 t l1 l2 l3 q22.2)))
  else
    (if l1 = (kI 1) then
      (if l2 = (kI 1) then
      (fhd_hasSections_133 t (kI 1) t W)
    else
      (fhd_hasSections_132 t t W))
    else
      (fhd_hasSections_132 t t W))
noncomputable def fhd_hasSections_2 (t : Nat) (l1 : Int32) (W : jW) : Option (fhd_hasSections_S ⊕ (Int32 × jW)) :=
  if l1 < (kI 64) then
    (gd (jC W t = 14) <|
  gd (jR W 9004 (jR W 1400 t) = (jR W 1400 t)) <|
  gd (jin (((jL W 1405 t).toInt32) + l1) (jN W 9004 (jR W 1400 t))) <|
  if (jA W 9004 (jR W 1400 t) (ix (((jL W 1405 t).toInt32) + l1))) = (0 : Int32) then
    (jlt (l1 + (kI 1)) fun v16 => some (.inl (.inl (v16, W))))
  else
    ((fhd_is t (kI 0) (jL W 1405 t) W).bind fun q17 => gd (i2z q17.1 = q17.1) <| some (.inr (q17.1, q17.2))))
  else
    (gd (jC W t = 14) <|
    gd (jin (kI 0) (jN W 1410 t)) <|
    jlt (pA W 1410 t (ix (kI 0)) (kI 0)) fun W4 =>
    gd (jin (kI 0) (jN W4 1414 t)) <|
    jlt (pB W4 1414 t (ix (kI 0)) (kJ 0)) fun W9 =>
    some (.inl (.inr (.inl ((kI 0), (kI 0), (kI 1), W9)))))
noncomputable def fhd_hasSections_st (t : Nat) : fhd_hasSections_S → Option (fhd_hasSections_S ⊕ (Int32 × jW)) :=
  (Sum.elim (fun s => fhd_hasSections_2 t s.1 s.2) (Sum.elim (fun s => fhd_hasSections_59 t s.1 s.2.1 s.2.2.1 s.2.2.2) (Sum.elim (fun s => fhd_hasSections_315 t s.1 s.2) (Sum.elim (fun s => fhd_hasSections_368 t s.1 s.2) (Sum.elim (fun s => fhd_hasSections_460 t s.1 s.2) (fun s => fhd_hasSections_472 t s.1 s.2.1 s.2.2))))))
noncomputable def fhd_hasSections_0 (t : Nat) (W : jW) : Option (fhd_hasSections_S ⊕ (Int32 × jW)) :=
  some (.inl (.inl ((kI 0), W)))
noncomputable def fhd_hasSections (t : Nat) (W : jW) : Option (Int32 × jW) :=
  jrn (fhd_hasSections_st t) (fhd_hasSections_0 t W)
noncomputable def fhd_symbolCount (t : Nat) (W : jW) : Option (Int32) :=
  gd (jC W t = 14) <| gd (jin (jI W 1416 t) (jN W 1414 t)) <| some (((jB W 1414 t (ix (jI W 1416 t))).toInt32) / (kI 24))
abbrev fhd_hasSymbols_S : Type := (Int32 × jW) ⊕ (Int64 × Int32 × jW)
noncomputable def fhd_hasSymbols_200 (t : Nat) (W : jW) : Option (fhd_hasSymbols_S ⊕ (Int32 × jW)) :=
  some (.inr ((kI 0), W))
noncomputable def fhd_hasSymbols_298 (t : Nat) (l1 : Int64) (l3 : Int32) (W : jW) : Option (fhd_hasSymbols_S ⊕ (Int32 × jW)) :=
  jlt (l3 + (kI 1)) fun v45 => some (.inl (.inr (l1, v45, W)))
noncomputable def fhd_hasSymbols_284 (t : Nat) (l1 : Int64) (l3 : Int32) (l4 : Int64) (s0 : Int32) (s1 : Nat) (W : jW) : Option (fhd_hasSymbols_S ⊕ (Int32 × jW)) :=
  gd (jC W s1 = 14) <|
  (fhd_is s1 s0 (l4 + (kJ 8)) W).bind fun q41 =>
  if q41.1 = (0 : Int32) then
    (some (.inr ((kI 0), q41.2)))
  else
    (fhd_hasSymbols_298 t l1 l3 q41.2)
noncomputable def fhd_hasSymbols_283 (t : Nat) (l1 : Int64) (l3 : Int32) (l4 : Int64) (s0 : Nat) (W : jW) : Option (fhd_hasSymbols_S ⊕ (Int32 × jW)) :=
  fhd_hasSymbols_284 t l1 l3 l4 (kI 0) s0 W
noncomputable def fhd_hasSymbols_177 (t : Nat) (l1 : Int64) (l3 : Int32) (l4 : Int64) (l6 : Int64) (l8 : Int32) (s0 : Int32) (s1 : Nat) (W : jW) : Option (fhd_hasSymbols_S ⊕ (Int32 × jW)) :=
  gd (jC W s1 = 14) <|
  (fhd_is s1 s0 l4 W).bind fun q29 =>
  if q29.1 = (0 : Int32) then
    (fhd_hasSymbols_200 t q29.2)
  else
    (gd (jC q29.2 t = 14) <|
  (fhd_is t l8 (l4 + (kJ 6)) q29.2).bind fun q32 =>
  if q32.1 = (0 : Int32) then
    (fhd_hasSymbols_200 t q32.2)
  else
    (gd (jC q32.2 t = 14) <|
    (fhd_num t (l4 + (kJ 8)) (kI 8) q32.2).bind fun q35 =>
    if l6 = (jI q32.2 1415 t).toInt64 then
      (if (lrm q35 (kJ 4)) = (kJ 0) then
      (gd (jin (jI q32.2 1415 t) (jN q32.2 1413 t)) <|
    if q35 < (jB q32.2 1413 t (ix (jI q32.2 1415 t))) then
      (fhd_hasSymbols_283 t l1 l3 l4 t q32.2)
    else
      (gd (jin (jI q32.2 1415 t) (jN q32.2 1413 t)) <|
    gd (jin (jI q32.2 1415 t) (jN q32.2 1414 t)) <|
    if ((jB q32.2 1413 t (ix (jI q32.2 1415 t))) + (jB q32.2 1414 t (ix (jI q32.2 1415 t)))) < q35 then
      (fhd_hasSymbols_283 t l1 l3 l4 t q32.2)
    else
      (fhd_hasSymbols_284 t l1 l3 l4 (kI 1) t q32.2)))
    else
      (fhd_hasSymbols_283 t l1 l3 l4 t q32.2))
    else
      (fhd_hasSymbols_298 t l1 l3 q32.2)))
noncomputable def fhd_hasSymbols_157 (t : Nat) (l1 : Int64) (l3 : Int32) (l4 : Int64) (l6 : Int64) (s0 : Int32) (W : jW) : Option (fhd_hasSymbols_S ⊕ (Int32 × jW)) :=
  gd (jC W t = 14) <|
  (fhd_num t l4 (kI 4) W).bind fun q26 =>
  if q26 < l1 then
    (fhd_hasSymbols_177 t l1 l3 l4 l6 s0 (kI 1) t W)
  else
    (fhd_hasSymbols_177 t l1 l3 l4 l6 s0 (kI 0) t W)
noncomputable def fhd_hasSymbols_152 (t : Nat) (l1 : Int64) (l3 : Int32) (l4 : Int64) (l6 : Int64) (W : jW) : Option (fhd_hasSymbols_S ⊕ (Int32 × jW)) :=
  fhd_hasSymbols_157 t l1 l3 l4 l6 (kI 1) W
noncomputable def fhd_hasSymbols_156 (t : Nat) (l1 : Int64) (l3 : Int32) (l4 : Int64) (l6 : Int64) (W : jW) : Option (fhd_hasSymbols_S ⊕ (Int32 × jW)) :=
  fhd_hasSymbols_157 t l1 l3 l4 l6 (kI 0) W
noncomputable def fhd_hasSymbols_75 (t : Nat) (l1 : Int64) (l3 : Int32) (W : jW) : Option (fhd_hasSymbols_S ⊕ (Int32 × jW)) :=
  gd (jC W t = 14) <|
  (fhd_symbolCount t W).bind fun q18 =>
  if l3 < q18 then
    ((fhd_symbol t l3 W).bind fun q19 =>
  (fhd_num t (q19 + (kJ 6)) (kI 2) W).bind fun q20 =>
  if q20 = (kJ 0) then
    (fhd_hasSymbols_152 t l1 l3 q19 q20 W)
  else
    (if q20 = (kJ 65521) then
    (fhd_hasSymbols_152 t l1 l3 q19 q20 W)
  else
    (if q20 < (jI W 1403 t).toInt64 then
    ((fhd_what t q20.toInt32 W).bind fun q21 =>
  if q21 = (kI 1) then
    (fhd_hasSymbols_152 t l1 l3 q19 q20 W)
  else
    ((fhd_what t q20.toInt32 W).bind fun q22 =>
  if q22 = (kI 5) then
    (fhd_hasSymbols_152 t l1 l3 q19 q20 W)
  else
    (fhd_hasSymbols_156 t l1 l3 q19 q20 W)))
  else
    (fhd_hasSymbols_156 t l1 l3 q19 q20 W))))
  else
    (some (.inr ((kI 1), W)))
noncomputable def fhd_hasSymbols_2 (t : Nat) (l1 : Int32) (W : jW) : Option (fhd_hasSymbols_S ⊕ (Int32 × jW)) :=
  if l1 < (kI 24) then
    (gd (jC W t = 14) <|
  gd (jin (jI W 1416 t) (jN W 1412 t)) <|
  gd (jR W 9004 (jR W 1400 t) = (jR W 1400 t)) <|
  gd (jin (((jB W 1412 t (ix (jI W 1416 t))).toInt32) + l1) (jN W 9004 (jR W 1400 t))) <|
  if (jA W 9004 (jR W 1400 t) (ix (((jB W 1412 t (ix (jI W 1416 t))).toInt32) + l1))) = (0 : Int32) then
    (jlt (l1 + (kI 1)) fun v11 => some (.inl (.inl (v11, W))))
  else
    (gd (jin (jI W 1416 t) (jN W 1412 t)) <|
  (fhd_is t (kI 0) (jB W 1412 t (ix (jI W 1416 t))) W).bind fun q13 =>
  gd (i2z q13.1 = q13.1) <|
  some (.inr (q13.1, q13.2))))
  else
    (gd (jC W t = 14) <|
    (fhd_head t (jI W 1416 t) W).bind fun q3 =>
    (fhd_num t ((q3 + (kI 40)).toInt64) (kI 4) W).bind fun q4 =>
    gd (jin q4.toInt32 (jN W 1414 t)) <|
    jlt (jB W 1414 t (ix q4.toInt32)) fun v6 =>
    some (.inl (.inr (v6, (kI 1), W))))
noncomputable def fhd_hasSymbols_st (t : Nat) : fhd_hasSymbols_S → Option (fhd_hasSymbols_S ⊕ (Int32 × jW)) :=
  (Sum.elim (fun s => fhd_hasSymbols_2 t s.1 s.2) (fun s => fhd_hasSymbols_75 t s.1 s.2.1 s.2.2))
noncomputable def fhd_hasSymbols_0 (t : Nat) (W : jW) : Option (fhd_hasSymbols_S ⊕ (Int32 × jW)) :=
  some (.inl (.inl ((kI 0), W)))
noncomputable def fhd_hasSymbols (t : Nat) (W : jW) : Option (Int32 × jW) :=
  jrn (fhd_hasSymbols_st t) (fhd_hasSymbols_0 t W)
abbrev fhd_isFix_S : Type := (Int64 × Int32 × Int64 × jW)
noncomputable def fhd_isFix_205 (t : Nat) (a1 : Int32) (a2 : Int64) (W : jW) : Option (fhd_isFix_S ⊕ (Int32 × jW)) :=
  some (.inr ((kI 0), W))
noncomputable def fhd_isFix_351 (t : Nat) (a1 : Int32) (a2 : Int64) (l7 : Int64) (l12 : Int64) (s0 : Int32) (W : jW) : Option (fhd_isFix_S ⊕ (Int32 × jW)) :=
  jlt (l12 + (kJ 24)) fun v38 => some (.inl (l7, s0, v38, W))
noncomputable def fhd_isFix_346 (t : Nat) (a1 : Int32) (a2 : Int64) (l7 : Int64) (l12 : Int64) (W : jW) : Option (fhd_isFix_S ⊕ (Int32 × jW)) :=
  fhd_isFix_351 t a1 a2 l7 l12 (kI 1) W
noncomputable def fhd_isFix_414 (t : Nat) (a1 : Int32) (a2 : Int64) (W : jW) : Option (fhd_isFix_S ⊕ (Int32 × jW)) :=
  some (.inr ((kI 0), W))
noncomputable def fhd_isFix_399 (t : Nat) (a1 : Int32) (a2 : Int64) (s0 : Int32) (s1 : Nat) (W : jW) : Option (fhd_isFix_S ⊕ (Int32 × jW)) :=
  gd (jC W s1 = 14) <|
  (fhd_is s1 s0 (a2 + (kJ 12)) W).bind fun q49 =>
  if q49.1 = (0 : Int32) then
    (fhd_isFix_414 t a1 a2 q49.2)
  else
    (some (.inr ((kI 1), q49.2)))
noncomputable def fhd_isFix_364 (t : Nat) (a1 : Int32) (a2 : Int64) (l11 : Int32) (W : jW) : Option (fhd_isFix_S ⊕ (Int32 × jW)) :=
  gd (jC W t = 14) <|
  (fhd_is t l11 a2 W).bind fun q42 =>
  if q42.1 = (0 : Int32) then
    (fhd_isFix_414 t a1 a2 q42.2)
  else
    (gd (jC q42.2 t = 14) <|
  (fhd_num t (a2 + (kJ 12)) (kI 4) q42.2).bind fun q45 =>
  (fhd_symbolCount t q42.2).bind fun q46 =>
  if q45 < q46.toInt64 then
    (fhd_isFix_399 t a1 a2 (kI 1) t q42.2)
  else
    (fhd_isFix_399 t a1 a2 (kI 0) t q42.2))
noncomputable def fhd_isFix_304 (t : Nat) (a1 : Int32) (a2 : Int64) (l7 : Int64) (l11 : Int32) (l12 : Int64) (W : jW) : Option (fhd_isFix_S ⊕ (Int32 × jW)) :=
  if l11 = (0 : Int32) then
    (fhd_isFix_364 t a1 a2 l11 W)
  else
    (if l12 < a2 then
    (gd (jC W t = 14) <|
  (fhd_num t (l12 + (kJ 8)) (kI 4) W).bind fun q35 =>
  if q35 = (kJ 0) then
    (fhd_isFix_346 t a1 a2 l7 l12 W)
  else
    ((fhd_num t l12 (kI 8) W).bind fun q36 => if q36 = l7 then
    (fhd_isFix_351 t a1 a2 l7 l12 (kI 0) W)
  else
    (fhd_isFix_346 t a1 a2 l7 l12 W)))
  else
    (fhd_isFix_364 t a1 a2 l11 W))
noncomputable def fhd_isFix_294 (t : Nat) (a1 : Int32) (a2 : Int64) (l7 : Int64) (s0 : Int32) (W : jW) : Option (fhd_isFix_S ⊕ (Int32 × jW)) :=
  gd (jC W t = 14) <| gd (jin a1 (jN W 1412 t)) <| jlt (jB W 1412 t (ix a1)) fun v32 => some (.inl (l7, s0, v32, W))
noncomputable def fhd_isFix_236 (t : Nat) (a1 : Int32) (a2 : Int64) (l7 : Int64) (W : jW) : Option (fhd_isFix_S ⊕ (Int32 × jW)) :=
  fhd_isFix_294 t a1 a2 l7 (kI 0) W
noncomputable def fhd_isFix_293 (t : Nat) (a1 : Int32) (a2 : Int64) (l7 : Int64) (W : jW) : Option (fhd_isFix_S ⊕ (Int32 × jW)) :=
  fhd_isFix_294 t a1 a2 l7 (kI 0) W
noncomputable def fhd_isFix_136 (t : Nat) (a1 : Int32) (a2 : Int64) (l4 : Int32) (l5 : Int64) (l7 : Int64) (l9 : Int32) (s0 : Int32) (W : jW) : Option (fhd_isFix_S ⊕ (Int32 × jW)) :=
  gd (jC W t = 14) <|
  (fhd_is t s0 (a2 + (kJ 8)) W).bind fun q10 =>
  if q10.1 = (0 : Int32) then
    (some (.inr ((kI 0), q10.2)))
  else
    (if l5 = (kJ 0) then
      (gd (jC q10.2 t = 14) <|
    (fhd_has t a2 (kI 8) (kJ 0) q10.2).bind fun q19 =>
    if q19.1 = (0 : Int32) then
      (fhd_isFix_205 t a1 a2 q19.2)
    else
      (gd (jC q19.2 t = 14) <|
    (fhd_has t (a2 + (kJ 12)) (kI 4) (kJ 0) q19.2).bind fun q22 =>
    if q22.1 = (0 : Int32) then
      (fhd_isFix_205 t a1 a2 q22.2)
    else
      (gd (jC q22.2 t = 14) <|
    (fhd_has t (a2 + (kJ 16)) (kI 8) (kJ 0) q22.2).bind fun q25 =>
    if q25.1 = (0 : Int32) then
      (fhd_isFix_205 t a1 a2 q25.2)
    else
      (some (.inr ((kI 1), q25.2))))))
    else
      (if l9 = (0 : Int32) then
        (if (lrm l7 (kJ 8)) = (kJ 0) then
          (gd (jC q10.2 t = 14) <|
        gd (jin l4 (jN q10.2 1413 t)) <|
        if l7 < (jB q10.2 1413 t (ix l4)) then
          (fhd_isFix_293 t a1 a2 l7 q10.2)
        else
          (gd (jin l4 (jN q10.2 1413 t)) <|
        gd (jin l4 (jN q10.2 1414 t)) <|
        if (((jB q10.2 1413 t (ix l4)) + (jB q10.2 1414 t (ix l4))) - (kJ 8)) < l7 then
          (fhd_isFix_293 t a1 a2 l7 q10.2)
        else
          (fhd_isFix_294 t a1 a2 l7 (kI 1) q10.2)))
        else
          (fhd_isFix_293 t a1 a2 l7 q10.2))
      else
        (if (lrm l7 (kJ 4)) = (kJ 0) then
        (gd (jC q10.2 t = 14) <|
      (fhd_isIn t l7 q10.2).bind fun q17 =>
      if q17 = (0 : Int32) then
        (fhd_isFix_236 t a1 a2 l7 q10.2)
      else
        (fhd_isFix_294 t a1 a2 l7 (kI 1) q10.2))
      else
        (fhd_isFix_236 t a1 a2 l7 q10.2))))
noncomputable def fhd_isFix_131 (t : Nat) (a1 : Int32) (a2 : Int64) (l4 : Int32) (l5 : Int64) (l7 : Int64) (l9 : Int32) (W : jW) : Option (fhd_isFix_S ⊕ (Int32 × jW)) :=
  fhd_isFix_136 t a1 a2 l4 l5 l7 l9 (kI 1) W
noncomputable def fhd_isFix_135 (t : Nat) (a1 : Int32) (a2 : Int64) (l4 : Int32) (l5 : Int64) (l7 : Int64) (l9 : Int32) (W : jW) : Option (fhd_isFix_S ⊕ (Int32 × jW)) :=
  fhd_isFix_136 t a1 a2 l4 l5 l7 l9 (kI 0) W
noncomputable def fhd_isFix_101 (t : Nat) (a1 : Int32) (a2 : Int64) (l4 : Int32) (l5 : Int64) (l7 : Int64) (l9 : Int32) (W : jW) : Option (fhd_isFix_S ⊕ (Int32 × jW)) :=
  if l5 < (kJ 282) then
    (fhd_isFix_135 t a1 a2 l4 l5 l7 l9 W)
  else
    (if (kJ 283) < l5 then
    (fhd_isFix_135 t a1 a2 l4 l5 l7 l9 W)
  else
    (fhd_isFix_131 t a1 a2 l4 l5 l7 l9 W))
noncomputable def fhd_isFix_42 (t : Nat) (a1 : Int32) (a2 : Int64) (l4 : Int32) (l5 : Int64) (l7 : Int64) (s0 : Int32) (W : jW) : Option (fhd_isFix_S ⊕ (Int32 × jW)) :=
  if l5 = (kJ 0) then
    (fhd_isFix_131 t a1 a2 l4 l5 l7 s0 W)
  else
    (if s0 = (0 : Int32) then
    (if l5 = (kJ 257) then
      (fhd_isFix_131 t a1 a2 l4 l5 l7 s0 W)
    else
      (fhd_isFix_135 t a1 a2 l4 l5 l7 s0 W))
  else
    (if l5 = (kJ 275) then
    (fhd_isFix_131 t a1 a2 l4 l5 l7 s0 W)
  else
    (if l5 = (kJ 277) then
    (fhd_isFix_131 t a1 a2 l4 l5 l7 s0 W)
  else
    (if l5 = (kJ 278) then
    (fhd_isFix_131 t a1 a2 l4 l5 l7 s0 W)
  else
    (if l5 < (kJ 285) then
    (fhd_isFix_101 t a1 a2 l4 l5 l7 s0 W)
  else
    (if (kJ 286) < l5 then
    (fhd_isFix_101 t a1 a2 l4 l5 l7 s0 W)
  else
    (fhd_isFix_131 t a1 a2 l4 l5 l7 s0 W)))))))
noncomputable def fhd_isFix_st (t : Nat) (a1 : Int32) (a2 : Int64) : fhd_isFix_S → Option (fhd_isFix_S ⊕ (Int32 × jW)) :=
  (fun s => fhd_isFix_304 t a1 a2 s.1 s.2.1 s.2.2.1 s.2.2.2)
noncomputable def fhd_isFix_0 (t : Nat) (a1 : Int32) (a2 : Int64) (W : jW) : Option (fhd_isFix_S ⊕ (Int32 × jW)) :=
  gd (jC W t = 14) <|
  (fhd_aim t a1 W).bind fun q2 =>
  (fhd_num t (a2 + (kJ 8)) (kI 4) W).bind fun q3 =>
  (fhd_num t a2 (kI 8) W).bind fun q4 =>
  if q2 = (jI W 1415 t) then
    (fhd_isFix_42 t a1 a2 q2 q3 q4 (kI 1) W)
  else
    (fhd_isFix_42 t a1 a2 q2 q3 q4 (kI 0) W)
noncomputable def fhd_isFix (t : Nat) (a1 : Int32) (a2 : Int64) (W : jW) : Option (Int32 × jW) :=
  jrn (fhd_isFix_st t a1 a2) (fhd_isFix_0 t a1 a2 W)
abbrev fhd_hasFixes_S : Type := (Int32 × jW) ⊕ (Int32 × Int64 × jW)
noncomputable def fhd_hasFixes_67 (t : Nat) (l1 : Int32) (W : jW) : Option (fhd_hasFixes_S ⊕ (Int32 × jW)) :=
  jlt (l1 + (kI 1)) fun v7 => some (.inl (.inl (v7, W)))
noncomputable def fhd_hasFixes_29 (t : Nat) (l1 : Int32) (l2 : Int64) (W : jW) : Option (fhd_hasFixes_S ⊕ (Int32 × jW)) :=
  gd (jC W t = 14) <|
  gd (jin l1 (jN W 1412 t)) <|
  gd (jin l1 (jN W 1414 t)) <|
  if l2 < ((jB W 1412 t (ix l1)) + (jB W 1414 t (ix l1))) then
    ((fhd_isFix t l1 l2 W).bind fun q12 =>
  if q12.1 = (0 : Int32) then
    (some (.inr ((kI 0), q12.2)))
  else
    (jlt (l2 + (kJ 24)) fun v14 => some (.inl (.inr (l1, v14, q12.2)))))
  else
    (fhd_hasFixes_67 t l1 W)
noncomputable def fhd_hasFixes_2 (t : Nat) (l1 : Int32) (W : jW) : Option (fhd_hasFixes_S ⊕ (Int32 × jW)) :=
  gd (jC W t = 14) <|
  if l1 < (jI W 1403 t) then
    ((fhd_what t l1 W).bind fun q3 =>
  if q3 = (kI 4) then
    (gd (jin l1 (jN W 1412 t)) <| jlt (jB W 1412 t (ix l1)) fun v5 => some (.inl (.inr (l1, v5, W))))
  else
    (fhd_hasFixes_67 t l1 W))
  else
    (some (.inr ((kI 1), W)))
noncomputable def fhd_hasFixes_st (t : Nat) : fhd_hasFixes_S → Option (fhd_hasFixes_S ⊕ (Int32 × jW)) :=
  (Sum.elim (fun s => fhd_hasFixes_2 t s.1 s.2) (fun s => fhd_hasFixes_29 t s.1 s.2.1 s.2.2))
noncomputable def fhd_hasFixes_0 (t : Nat) (W : jW) : Option (fhd_hasFixes_S ⊕ (Int32 × jW)) :=
  some (.inl (.inl ((kI 1), W)))
noncomputable def fhd_hasFixes (t : Nat) (W : jW) : Option (Int32 × jW) :=
  jrn (fhd_hasFixes_st t) (fhd_hasFixes_0 t W)
noncomputable def fhd_broken_79 (t : Nat) (s0 : Int32) (s1 : Nat) (W : jW) : Option (Int32 × jW) :=
  gd (jC W s1 = 14) <|
  (fhd_is s1 s0 (kJ 24) W).bind fun q21 =>
  if q21.1 = (0 : Int32) then
    (some ((kI 6), q21.2))
  else
    (some ((kI 0), q21.2))
noncomputable def fhd_broken_78 (t : Nat) (s0 : Nat) (W : jW) : Option (Int32 × jW) :=
  fhd_broken_79 t (kI 0) s0 W
noncomputable def fhd_broken (t : Nat) (W : jW) : Option (Int32 × jW) :=
  gd (jC W t = 14) <|
  (fhd_begins t W).bind fun q2 =>
  if q2.1 = (0 : Int32) then
    (some ((kI 1), q2.2))
  else
    (gd (jC q2.2 t = 14) <|
    (fhd_hasSegments t q2.2).bind fun q5 =>
    if q5.1 = (0 : Int32) then
      (some ((kI 2), q5.2))
    else
      (gd (jC q5.2 t = 14) <|
      (fhd_hasSections t q5.2).bind fun q8 =>
      if q8.1 = (0 : Int32) then
        (some ((kI 3), q8.2))
      else
        (gd (jC q8.2 t = 14) <|
        (fhd_hasSymbols t q8.2).bind fun q11 =>
        if q11.1 = (0 : Int32) then
          (some ((kI 4), q11.2))
        else
          (gd (jC q11.2 t = 14) <|
          (fhd_hasFixes t q11.2).bind fun q14 =>
          if q14.1 = (0 : Int32) then
            (some ((kI 5), q14.2))
          else
            (gd (jC q14.2 t = 14) <|
            (fhd_num t (kJ 24) (kI 8) q14.2).bind fun q17 =>
            (fhd_isIn t q17 q14.2).bind fun q18 =>
            if q18 = (0 : Int32) then
              (fhd_broken_78 t t q14.2)
            else
              (if (q17 &&& (kJ 3)) = (kJ 0) then
              (fhd_broken_79 t (kI 1) t q14.2)
            else
              (fhd_broken_78 t t q14.2)))))))
noncomputable def fhd_isOfText (t : Nat) (a1 : Int32) (W : jW) : Option (Int32) :=
  gd (jC W t = 14) <|
  (fhd_symbol t a1 W).bind fun q2 =>
  (fhd_num t (q2 + (kJ 6)) (kI 2) W).bind fun q3 =>
  if q3 = (jI W 1415 t).toInt64 then
    (some (kI 1))
  else
    (some (kI 0))
noncomputable def fhd_isFunction_32 (t : Nat) (a1 : Int32) (W : jW) : Option (Int32) :=
  some (kI 0)
noncomputable def fhd_isFunction (t : Nat) (a1 : Int32) (W : jW) : Option (Int32) :=
  gd (jC W t = 14) <|
  (fhd_isOfText t a1 W).bind fun q2 =>
  if q2 = (0 : Int32) then
    (fhd_isFunction_32 t a1 W)
  else
    ((fhd_symbol t a1 W).bind fun q3 =>
  gd (jR W 9004 (jR W 1400 t) = (jR W 1400 t)) <|
  gd (jin (q3.toInt32 + (kI 4)) (jN W 9004 (jR W 1400 t))) <|
  if ((jA W 9004 (jR W 1400 t) (ix (q3.toInt32 + (kI 4)))) &&& (kI 15)) = (kI 2) then
    (some (kI 1))
  else
    (fhd_isFunction_32 t a1 W))
abbrev fmo_hasFunctions_S : Type := (Int32 × jW) ⊕ (Int32 × Int64 × Int32 × Int32 × jW) ⊕ (Int32 × Int32 × jW)
noncomputable def fmo_hasFunctions_210 (t : Nat) (l1 : Int32) (W : jW) : Option (fmo_hasFunctions_S ⊕ (Int32 × jW)) :=
  jlt (l1 + (kI 1)) fun v17 => some (.inl (.inl (v17, W)))
noncomputable def fmo_hasFunctions_90 (t : Nat) (W : jW) : Option (fmo_hasFunctions_S ⊕ (Int32 × jW)) :=
  some (.inr ((kI 0), W))
noncomputable def fmo_hasFunctions_179 (t : Nat) (l1 : Int32) (l4 : Int64) (l6 : Int32) (l7 : Int32) (W : jW) : Option (fmo_hasFunctions_S ⊕ (Int32 × jW)) :=
  gd (jC W t = 13) <|
  gd (jin l7 (jN W 1319 t)) <|
  jlt (pA W 1319 t (ix l7) l6) fun W37 =>
  gd (jin l7 (jN W37 1320 t)) <|
  jlt (pA W37 1320 t (ix l7) (l4.toInt32 / (kI 4))) fun W42 =>
  jlt (sI W42 1311 t ((jI W42 1311 t) + (kI 1))) fun W46 =>
  fmo_hasFunctions_210 t l1 W46
noncomputable def fmo_hasFunctions_122 (t : Nat) (l1 : Int32) (l4 : Int64) (l6 : Int32) (l7 : Int32) (W : jW) : Option (fmo_hasFunctions_S ⊕ (Int32 × jW)) :=
  if (0 : Int32) < l7 then
    (gd (jC W t = 13) <|
  gd (jin (l7 - (kI 1)) (jN W 1319 t)) <|
  if l6 < (jA W 1319 t (ix (l7 - (kI 1)))) then
    (gd (jin (l7 - (kI 1)) (jN W 1319 t)) <|
  gd (jin l7 (jN W 1319 t)) <|
  jlt (pA W 1319 t (ix l7) (jA W 1319 t (ix (l7 - (kI 1))))) fun W23 =>
  gd (jin (l7 - (kI 1)) (jN W23 1320 t)) <|
  gd (jin l7 (jN W23 1320 t)) <|
  jlt (pA W23 1320 t (ix l7) (jA W23 1320 t (ix (l7 - (kI 1))))) fun W29 =>
  jlt (l7 + (kI (-1))) fun v33 =>
  some (.inl (.inr (.inl (l1, l4, l6, v33, W29)))))
  else
    (fmo_hasFunctions_179 t l1 l4 l6 l7 W))
  else
    (fmo_hasFunctions_179 t l1 l4 l6 l7 W)
noncomputable def fmo_hasFunctions_220 (t : Nat) (l1 : Int32) (l2 : Int32) (W : jW) : Option (fmo_hasFunctions_S ⊕ (Int32 × jW)) :=
  gd (jC W t = 13) <|
  if l2 < (jI W 1311 t) then
    (gd (jin l2 (jN W 1319 t)) <|
  if (jA W 1319 t (ix l2)) = l1 then
    (gd (jin l2 (jN W 1320 t)) <| jlt (l1 + (jA W 1320 t (ix l2))) fun v55 => jlt (l2 + (kI 1)) fun v56 => some (.inl (.inr (.inr (v55, v56, W)))))
  else
    (some (.inr ((kI 0), W))))
  else
    (if l1 = (jI W 1310 t) then
      (some (.inr ((kI 1), W)))
    else
      (some (.inr ((kI 0), W))))
noncomputable def fmo_hasFunctions_7 (t : Nat) (l1 : Int32) (W : jW) : Option (fmo_hasFunctions_S ⊕ (Int32 × jW)) :=
  gd (jC W t = 13) <|
  gd (jC W (jR W 1305 t) = 14) <|
  (fhd_symbolCount (jR W 1305 t) W).bind fun q9 =>
  if l1 < q9 then
    ((fhd_isFunction (jR W 1305 t) l1 W).bind fun q10 =>
  if q10 = (0 : Int32) then
    (fmo_hasFunctions_210 t l1 W)
  else
    ((fhd_symbol (jR W 1305 t) l1 W).bind fun q11 =>
    (fhd_num (jR W 1305 t) (q11 + (kJ 16)) (kI 8) W).bind fun q12 =>
    if (kJ 0) < q12 then
      (if (lrm q12 (kJ 4)) = (kJ 0) then
      (if ((kJ 4) * ((jI W 1310 t).toInt64)) < q12 then
      (fmo_hasFunctions_90 t W)
    else
      ((fhd_num (jR W 1305 t) (q11 + (kJ 8)) (kI 8) W).bind fun q13 =>
      jlt (((q13 - (jL W 1313 t)).toInt32) / (kI 4)) fun v14 =>
      jlt (jI W 1311 t) fun v15 =>
      some (.inl (.inr (.inl (l1, q12, v14, v15, W))))))
    else
      (fmo_hasFunctions_90 t W))
    else
      (fmo_hasFunctions_90 t W)))
  else
    (some (.inl (.inr (.inr ((kI 0), (kI 0), W)))))
noncomputable def fmo_hasFunctions_st (t : Nat) : fmo_hasFunctions_S → Option (fmo_hasFunctions_S ⊕ (Int32 × jW)) :=
  (Sum.elim (fun s => fmo_hasFunctions_7 t s.1 s.2) (Sum.elim (fun s => fmo_hasFunctions_122 t s.1 s.2.1 s.2.2.1 s.2.2.2.1 s.2.2.2.2) (fun s => fmo_hasFunctions_220 t s.1 s.2.1 s.2.2)))
noncomputable def fmo_hasFunctions_0 (t : Nat) (W : jW) : Option (fmo_hasFunctions_S ⊕ (Int32 × jW)) :=
  gd (jC W t = 13) <| jlt (sI W 1311 t (kI 0)) fun W2 => some (.inl (.inl ((kI 1), W2)))
noncomputable def fmo_hasFunctions (t : Nat) (W : jW) : Option (Int32 × jW) :=
  jrn (fmo_hasFunctions_st t) (fmo_hasFunctions_0 t W)
noncomputable def fmo_broken (t : Nat) (a1 : Int32) (a2 : Int64) (W : jW) : Option (Int32 × jW) :=
  gd (jC W t = 13) <| jlt (sL W 1314 t a2) fun W2 => some (a1, W2)
noncomputable def fmo_isRight_414 (t : Nat) (a1 : Int32) (a2 : Int64) (l5 : Int64) (l9 : Int32) (W : jW) : Option (Int32 × jW) :=
  if l9 = (0 : Int32) then
    (gd (jC W t = 13) <| if l5 = ((jL W 1313 t) + ((kJ 4) * ((jI W 1310 t).toInt64))) then
      (some ((kI 0), W))
    else
      (some ((kI 1), W)))
  else
    (if (l5 &&& (kJ 3)) = (kJ 0) then
    (some ((kI 1), W))
  else
    (some ((kI 0), W)))
noncomputable def fmo_isRight_200 (t : Nat) (a1 : Int32) (a2 : Int64) (W : jW) : Option (Int32 × jW) :=
  some ((kI 0), W)
noncomputable def fmo_isRight_260 (t : Nat) (a1 : Int32) (a2 : Int64) (W : jW) : Option (Int32 × jW) :=
  some ((kI 0), W)
noncomputable def fmo_isRight_353 (t : Nat) (a1 : Int32) (a2 : Int64) (W : jW) : Option (Int32 × jW) :=
  some ((kI 0), W)
noncomputable def fmo_isRight_412 (t : Nat) (a1 : Int32) (a2 : Int64) (W : jW) : Option (Int32 × jW) :=
  some ((kI 0), W)
noncomputable def fmo_isRight_388 (t : Nat) (a1 : Int32) (a2 : Int64) (l5 : Int64) (l7 : Int64) (l9 : Int32) (l11 : Int32) (l12 : Int32) (s0 : Int32) (s1 : Int32) (W : jW) : Option (Int32 × jW) :=
  if s1 = s0 then
    (if (l7 + ((kJ 4) * ((fmo_far l11 l12).toInt64))) = l5 then
    (fmo_isRight_414 t a1 a2 l5 l9 W)
  else
    (fmo_isRight_412 t a1 a2 W))
  else
    (fmo_isRight_412 t a1 a2 W)
noncomputable def fmo_isRight_371 (t : Nat) (a1 : Int32) (a2 : Int64) (l4 : Int32) (l5 : Int64) (l7 : Int64) (l9 : Int32) (l11 : Int32) (l12 : Int32) (W : jW) : Option (Int32 × jW) :=
  if l4 = (kI 282) then
    (fmo_isRight_388 t a1 a2 l5 l7 l9 l11 l12 (kI 12) l12 W)
  else
    (fmo_isRight_388 t a1 a2 l5 l7 l9 l11 l12 (kI 13) l12 W)
noncomputable def fmo_isRight_355 (t : Nat) (a1 : Int32) (a2 : Int64) (l4 : Int32) (l5 : Int64) (l7 : Int64) (l9 : Int32) (l11 : Int32) (l12 : Int32) (W : jW) : Option (Int32 × jW) :=
  if l4 = (kI 282) then
    (fmo_isRight_371 t a1 a2 l4 l5 l7 l9 l11 l12 W)
  else
    (if l4 = (kI 283) then
    (fmo_isRight_371 t a1 a2 l4 l5 l7 l9 l11 l12 W)
  else
    (fmo_isRight_414 t a1 a2 l5 l9 W))
noncomputable def fmo_isRight_303 (t : Nat) (a1 : Int32) (a2 : Int64) (l4 : Int32) (l5 : Int64) (l7 : Int64) (l9 : Int32) (l11 : Int32) (l12 : Int32) (s0 : Int32) (W : jW) : Option (Int32 × jW) :=
  if l12 = (kI 9) then
    (if (fmo_bits l11 (kI 30) (kI 2)) = s0 then
    (if (ixl (fmo_bits l11 (kI 10) (kI 12)) s0).toInt64 = (l5 &&& (kJ 4095)) then
    (if l9 = (0 : Int32) then
    (fmo_isRight_355 t a1 a2 l4 l5 l7 l9 l11 l12 W)
  else
    (fmo_isRight_353 t a1 a2 W))
  else
    (fmo_isRight_353 t a1 a2 W))
  else
    (fmo_isRight_353 t a1 a2 W))
  else
    (fmo_isRight_353 t a1 a2 W)
noncomputable def fmo_isRight_278 (t : Nat) (a1 : Int32) (a2 : Int64) (l4 : Int32) (l5 : Int64) (l7 : Int64) (l9 : Int32) (l11 : Int32) (l12 : Int32) (W : jW) : Option (Int32 × jW) :=
  if l4 = (kI 278) then
    (fmo_isRight_303 t a1 a2 l4 l5 l7 l9 l11 l12 (kI 0) W)
  else
    (if l4 = (kI 285) then
      (fmo_isRight_303 t a1 a2 l4 l5 l7 l9 l11 l12 (kI 2) W)
    else
      (fmo_isRight_303 t a1 a2 l4 l5 l7 l9 l11 l12 (kI 3) W))
noncomputable def fmo_isRight_262 (t : Nat) (a1 : Int32) (a2 : Int64) (l4 : Int32) (l5 : Int64) (l7 : Int64) (l9 : Int32) (l11 : Int32) (l12 : Int32) (W : jW) : Option (Int32 × jW) :=
  if l4 = (kI 278) then
    (fmo_isRight_278 t a1 a2 l4 l5 l7 l9 l11 l12 W)
  else
    (if l4 < (kI 285) then
    (fmo_isRight_355 t a1 a2 l4 l5 l7 l9 l11 l12 W)
  else
    (fmo_isRight_278 t a1 a2 l4 l5 l7 l9 l11 l12 W))
noncomputable def fmo_isRight_202 (t : Nat) (a1 : Int32) (a2 : Int64) (l4 : Int32) (l5 : Int64) (l7 : Int64) (l9 : Int32) (l11 : Int32) (l12 : Int32) (W : jW) : Option (Int32 × jW) :=
  if l4 = (kI 277) then
    (if l12 = (kI 1) then
    (if (fmo_bits l11 (kI 29) (kI 3)) = (kI 4) then
    (if (fmo_bits l11 (kI 22) (kI 1)) = (kI 1) then
    (fmo_isRight_260 t a1 a2 W)
  else
    (if (fmo_bits l11 (kI 10) (kI 12)).toInt64 = (l5 &&& (kJ 4095)) then
    (fmo_isRight_262 t a1 a2 l4 l5 l7 l9 l11 l12 W)
  else
    (fmo_isRight_260 t a1 a2 W)))
  else
    (fmo_isRight_260 t a1 a2 W))
  else
    (fmo_isRight_260 t a1 a2 W))
  else
    (fmo_isRight_262 t a1 a2 l4 l5 l7 l9 l11 l12 W)
noncomputable def fmo_isRight (t : Nat) (a1 : Int32) (a2 : Int64) (W : jW) : Option (Int32 × jW) :=
  gd (jC W t = 13) <|
  (fmo_fixType t a2 W).bind fun q2 =>
  if q2 = (0 : Int32) then
    (some ((kI 1), W))
  else
    (jlt (sI W 1328 t ((jI W 1328 t) + (kI 1))) fun W3 =>
    (fmo_target t a2 W3).bind fun q7 =>
    gd (jC W3 (jR W3 1305 t) = 14) <|
    (fhd_num (jR W3 1305 t) a2 (kI 8) W3).bind fun q9 =>
    (fhd_isIn (jR W3 1305 t) q7 W3).bind fun q10 =>
    if q2 = (kI 257) then
      ((fhd_aim (jR W3 1305 t) a1 W3).bind fun q21 =>
    gd (jin q21 (jN W3 1412 (jR W3 1305 t))) <|
    gd (jin q21 (jN W3 1413 (jR W3 1305 t))) <|
    (fhd_num (jR W3 1305 t) (((jB W3 1412 (jR W3 1305 t) (ix q21)) + q9) - (jB W3 1413 (jR W3 1305 t) (ix q21))) (kI 8) W3).bind fun q24 =>
    if q24 = q7 then
      (fmo_isRight_414 t a1 a2 q7 q10 W3)
    else
      (some ((kI 0), W3)))
    else
      (jlt (((q9 - (jL W3 1313 t)).toInt32) / (kI 4)) fun v11 =>
      gd (jin v11 (jN W3 1315 t)) <|
      jlt (jA W3 1315 t (ix v11)) fun v13 =>
      jlt (fmo_sort v13) fun v14 =>
      gd (jin v11 (jN W3 1316 t)) <|
      jlt (pA W3 1316 t (ix v11) a2.toInt32) fun W16 =>
      if q2 = (kI 275) then
        (if v14 = (kI 5) then
        (if q7 < (kJ 0) then
        (fmo_isRight_200 t a1 a2 W16)
      else
        (if q7 < (kJ 2147483648) then
        (if (fmo_page v13 q9) = (q7 &&& (kJ (-4096))) then
        (fmo_isRight_202 t a1 a2 q2 q7 q9 q10 v13 v14 W16)
      else
        (fmo_isRight_200 t a1 a2 W16))
      else
        (fmo_isRight_200 t a1 a2 W16)))
      else
        (fmo_isRight_200 t a1 a2 W16))
      else
        (fmo_isRight_202 t a1 a2 q2 q7 q9 q10 v13 v14 W16)))
noncomputable def fmo_isIf_18 (a0 : Int32) : Int32 :=
  (kI 1)
noncomputable def fmo_isIf (a0 : Int32) : Int32 :=
  if a0 = (kI 14) then
    (fmo_isIf_18 a0)
  else
    (if a0 = (kI 15) then
    (fmo_isIf_18 a0)
  else
    (if a0 = (kI 16) then
    (fmo_isIf_18 a0)
  else
    ((kI 0))))
abbrev fmo_functionAt_S : Type := (Int32)
noncomputable def fmo_functionAt_30 (t : Nat) (a1 : Int32) (l2 : Int32) (W : jW) : Option (fmo_functionAt_S ⊕ (Int32)) :=
  some (.inr l2)
noncomputable def fmo_functionAt_2 (t : Nat) (a1 : Int32) (l2 : Int32) (W : jW) : Option (fmo_functionAt_S ⊕ (Int32)) :=
  gd (jC W t = 13) <|
  if (l2 + (kI 1)) < (jI W 1311 t) then
    (gd (jin (l2 + (kI 1)) (jN W 1319 t)) <|
  if a1 < (jA W 1319 t (ix (l2 + (kI 1)))) then
    (fmo_functionAt_30 t a1 l2 W)
  else
    (jlt (l2 + (kI 1)) fun v4 => some (.inl v4)))
  else
    (fmo_functionAt_30 t a1 l2 W)
noncomputable def fmo_functionAt_st (t : Nat) (a1 : Int32) (W : jW) : fmo_functionAt_S → Option (fmo_functionAt_S ⊕ (Int32)) :=
  (fun s => fmo_functionAt_2 t a1 s W)
noncomputable def fmo_functionAt_0 (t : Nat) (a1 : Int32) (W : jW) : Option (fmo_functionAt_S ⊕ (Int32)) :=
  some (.inl (kI 0))
noncomputable def fmo_functionAt (t : Nat) (a1 : Int32) (W : jW) : Option (Int32) :=
  jrn (fmo_functionAt_st t a1 W) (fmo_functionAt_0 t a1 W)
noncomputable def fmo_isFirst_12 (t : Nat) (a1 : Int32) (W : jW) : Option (Int32) :=
  some (kI 0)
noncomputable def fmo_isFirst (t : Nat) (a1 : Int32) (W : jW) : Option (Int32) :=
  if a1 < (0 : Int32) then
    (fmo_isFirst_12 t a1 W)
  else
    (gd (jC W t = 13) <|
  if a1 < (jI W 1310 t) then
    ((fmo_functionAt t a1 W).bind fun q2 =>
    gd (jin q2 (jN W 1319 t)) <|
    if (jA W 1319 t (ix q2)) = a1 then
      (some (kI 1))
    else
      (some (kI 0)))
  else
    (fmo_isFirst_12 t a1 W))
noncomputable def fmo_goesRight_122 (t : Nat) (a1 : Int32) (a2 : Int32) (W : jW) : Option (Int32) :=
  some (kI 1)
noncomputable def fmo_goesRight_79 (t : Nat) (a1 : Int32) (a2 : Int32) (l3 : Int32) (l4 : Int32) (s0 : Int32) (W : jW) : Option (Int32) :=
  if (fmo_isIf l3) = (0 : Int32) then
    (if l3 = (kI 13) then
      (gd (jC W t = 13) <| (fmo_isFirst t l4 W).bind fun q15 => gd (i2z q15 = q15) <| some q15)
    else
      (if s0 = (0 : Int32) then
        (gd (jC W t = 13) <|
      (fmo_isFirst t l4 W).bind fun q13 =>
      if q13 = (0 : Int32) then
        (some (kI 0))
      else
        (fmo_goesRight_122 t a1 a2 W))
      else
        (fmo_goesRight_122 t a1 a2 W)))
  else
    (gd (i2z s0 = s0) <| some s0)
noncomputable def fmo_goesRight_78 (t : Nat) (a1 : Int32) (a2 : Int32) (l3 : Int32) (l4 : Int32) (W : jW) : Option (Int32) :=
  fmo_goesRight_79 t a1 a2 l3 l4 (kI 0) W
noncomputable def fmo_goesRight_31 (t : Nat) (a1 : Int32) (a2 : Int32) (l3 : Int32) (W : jW) : Option (Int32) :=
  gd (jC W t = 13) <|
  gd (jin a2 (jN W 1315 t)) <|
  jlt (a2 + (fmo_far (jA W 1315 t (ix a2)) l3)) fun v7 =>
  gd (jin a1 (jN W 1319 t)) <|
  if v7 < (jA W 1319 t (ix a1)) then
    (fmo_goesRight_78 t a1 a2 l3 v7 W)
  else
    (gd (jin a1 (jN W 1319 t)) <|
  gd (jin a1 (jN W 1320 t)) <|
  if v7 < ((jA W 1319 t (ix a1)) + (jA W 1320 t (ix a1))) then
    (fmo_goesRight_79 t a1 a2 l3 v7 (kI 1) W)
  else
    (fmo_goesRight_78 t a1 a2 l3 v7 W))
noncomputable def fmo_goesRight (t : Nat) (a1 : Int32) (a2 : Int32) (W : jW) : Option (Int32) :=
  gd (jC W t = 13) <|
  gd (jin a2 (jN W 1315 t)) <|
  jlt (fmo_sort (jA W 1315 t (ix a2))) fun v3 =>
  if (fmo_isIf v3) = (0 : Int32) then
    (if v3 = (kI 12) then
    (fmo_goesRight_31 t a1 a2 v3 W)
  else
    (if v3 = (kI 13) then
    (fmo_goesRight_31 t a1 a2 v3 W)
  else
    (some (kI 1))))
  else
    (fmo_goesRight_31 t a1 a2 v3 W)
noncomputable def fmo_lead (t : Nat) (a1 : Int32) (W : jW) : Option (jW) :=
  if a1 < (0 : Int32) then
    (some W)
  else
    (gd (jC W t = 13) <|
  if a1 < (jI W 1310 t) then
    (gd (jin a1 (jN W 1318 t)) <| jlt (pA W 1318 t (ix a1) (i2z (kI 1))) fun W3 => some W3)
  else
    (some W))
noncomputable def fmo_close_173 (t : Nat) (a1 : Int32) (s0 : Int32) (s1 : Int32) (s2 : Nat) (W : jW) : Option (jW) :=
  gd (jR W 1325 t = s2) <| gd (jin s1 (jN W 1325 t)) <| jlt (pA W 1325 t (ix s1) s0) fun W35 => some W35
noncomputable def fmo_close_152 (t : Nat) (a1 : Int32) (l3 : Int32) (l5 : Int32) (W : jW) : Option (jW) :=
  if l3 = (kI 12) then
    (gd (jC W t = 13) <|
  if l5 = (0 : Int32) then
    (fmo_close_173 t a1 (kI 2) a1 (jR W 1325 t) W)
  else
    (fmo_close_173 t a1 (kI 1) a1 (jR W 1325 t) W))
  else
    (some W)
noncomputable def fmo_close_137 (t : Nat) (a1 : Int32) (l3 : Int32) (l4 : Int32) (s0 : Int32) (W : jW) : Option (jW) :=
  if s0 = (0 : Int32) then
    (fmo_close_152 t a1 l3 s0 W)
  else
    (gd (jC W t = 13) <| gd (jin a1 (jN W 1326 t)) <| jlt (pA W 1326 t (ix a1) l4) fun W26 => fmo_close_152 t a1 l3 s0 W26)
noncomputable def fmo_close_97 (t : Nat) (a1 : Int32) (l2 : Int32) (l3 : Int32) (W : jW) : Option (jW) :=
  gd (jC W t = 13) <|
  gd (jin l2 (jN W 1315 t)) <|
  gd (jin (l2 + (fmo_far (jA W 1315 t (ix l2)) l3)) (jN W 1317 t)) <|
  jlt (jA W 1317 t (ix (l2 + (fmo_far (jA W 1315 t (ix l2)) l3)))) fun v20 =>
  gd (jin v20 (jN W 1324 t)) <|
  gd (jin a1 (jN W 1324 t)) <|
  if (jA W 1324 t (ix v20)) = (jA W 1324 t (ix a1)) then
    (fmo_close_137 t a1 l3 v20 (kI 1) W)
  else
    (fmo_close_137 t a1 l3 v20 (kI 0) W)
noncomputable def fmo_close_82 (t : Nat) (a1 : Int32) (l2 : Int32) (l3 : Int32) (s0 : Int32) (s1 : Int32) (s2 : Nat) (W : jW) : Option (jW) :=
  gd (jR W 1325 t = s2) <|
  gd (jin s1 (jN W 1325 t)) <|
  jlt (pA W 1325 t (ix s1) s0) fun W13 =>
  if l3 = (kI 12) then
    (fmo_close_97 t a1 l2 l3 W13)
  else
    (if (fmo_isIf l3) = (0 : Int32) then
    (some W13)
  else
    (fmo_close_97 t a1 l2 l3 W13))
noncomputable def fmo_close (t : Nat) (a1 : Int32) (W : jW) : Option (jW) :=
  gd (jC W t = 13) <|
  (fmo_last t a1 W).bind fun q2 =>
  gd (jin q2 (jN W 1315 t)) <|
  jlt (fmo_sort (jA W 1315 t (ix q2))) fun v4 =>
  gd (jin a1 (jN W 1326 t)) <|
  jlt (pA W 1326 t (ix a1) (kI (-1))) fun W6 =>
  if v4 = (kI 13) then
    (fmo_close_82 t a1 q2 v4 (kI 4) a1 (jR W6 1325 t) W6)
  else
    (if v4 = (kI 18) then
      (fmo_close_82 t a1 q2 v4 (kI 5) a1 (jR W6 1325 t) W6)
    else
      (if v4 = (kI 17) then
        (fmo_close_82 t a1 q2 v4 (kI 6) a1 (jR W6 1325 t) W6)
      else
        (if v4 = (kI 19) then
          (fmo_close_82 t a1 q2 v4 (kI 7) a1 (jR W6 1325 t) W6)
        else
          (if (fmo_isIf v4) = (0 : Int32) then
            (fmo_close_82 t a1 q2 v4 (kI 0) a1 (jR W6 1325 t) W6)
          else
            (fmo_close_82 t a1 q2 v4 (kI 3) a1 (jR W6 1325 t) W6)))))
abbrev fmo_cut_S : Type := (Int32 × jW) ⊕ (Int32 × Int32 × jW) ⊕ (Int32 × jW) ⊕ (Int32 × Int64 × jW) ⊕ (Int32 × Int32 × jW) ⊕ (Int32 × jW) ⊕ (Int32 × jW) ⊕ (Int32 × Int64 × jW)
noncomputable def fmo_cut_182 (t : Nat) (l1 : Int32) (l2 : Int32) (W : jW) : Option (fmo_cut_S ⊕ (jW)) :=
  jlt (l2 + (kI 1)) fun v29 => some (.inl (.inr (.inl (l1, v29, W))))
noncomputable def fmo_cut_149 (t : Nat) (l1 : Int32) (l2 : Int32) (s0 : Int32) (W : jW) : Option (fmo_cut_S ⊕ (jW)) :=
  if s0 = (0 : Int32) then
    (fmo_cut_182 t l1 l2 W)
  else
    (gd (jC W t = 13) <|
  gd (jin l1 (jN W 1319 t)) <|
  gd (jin l1 (jN W 1320 t)) <|
  if (l2 + (kI 1)) < ((jA W 1319 t (ix l1)) + (jA W 1320 t (ix l1))) then
    ((fmo_lead t (l2 + (kI 1)) W).bind fun q26 => fmo_cut_182 t l1 l2 q26)
  else
    (fmo_cut_182 t l1 l2 W))
noncomputable def fmo_cut_144 (t : Nat) (l1 : Int32) (l2 : Int32) (W : jW) : Option (fmo_cut_S ⊕ (jW)) :=
  fmo_cut_149 t l1 l2 (kI 1) W
noncomputable def fmo_cut_107 (t : Nat) (l1 : Int32) (l2 : Int32) (l3 : Int32) (W : jW) : Option (fmo_cut_S ⊕ (jW)) :=
  if (fmo_isIf l3) = (0 : Int32) then
    (if l3 = (kI 12) then
    (fmo_cut_144 t l1 l2 W)
  else
    (if l3 = (kI 17) then
    (fmo_cut_144 t l1 l2 W)
  else
    (if l3 = (kI 18) then
    (fmo_cut_144 t l1 l2 W)
  else
    (if l3 = (kI 13) then
    (fmo_cut_144 t l1 l2 W)
  else
    (if l3 = (kI 19) then
    (fmo_cut_144 t l1 l2 W)
  else
    (fmo_cut_149 t l1 l2 (kI 0) W))))))
  else
    (fmo_cut_144 t l1 l2 W)
noncomputable def fmo_cut_91 (t : Nat) (l1 : Int32) (l2 : Int32) (l3 : Int32) (W : jW) : Option (fmo_cut_S ⊕ (jW)) :=
  gd (jC W t = 13) <| gd (jin l2 (jN W 1315 t)) <| (fmo_lead t (l2 + (fmo_far (jA W 1315 t (ix l2)) l3)) W).bind fun q34 => fmo_cut_107 t l1 l2 l3 q34
noncomputable def fmo_cut_51 (t : Nat) (l1 : Int32) (l2 : Int32) (W : jW) : Option (fmo_cut_S ⊕ (jW)) :=
  gd (jC W t = 13) <|
  gd (jin l1 (jN W 1319 t)) <|
  gd (jin l1 (jN W 1320 t)) <|
  if l2 < ((jA W 1319 t (ix l1)) + (jA W 1320 t (ix l1))) then
    (gd (jin l2 (jN W 1315 t)) <|
  jlt (fmo_sort (jA W 1315 t (ix l2))) fun v20 =>
  if (fmo_isIf v20) = (0 : Int32) then
    (if v20 = (kI 12) then
    (fmo_cut_91 t l1 l2 v20 W)
  else
    (fmo_cut_107 t l1 l2 v20 W))
  else
    (fmo_cut_91 t l1 l2 v20 W))
  else
    (jlt (l1 + (kI 1)) fun v18 => some (.inl (.inl (v18, W))))
noncomputable def fmo_cut_305 (t : Nat) (l1 : Int32) (W : jW) : Option (fmo_cut_S ⊕ (jW)) :=
  jlt (l1 + (kI 1)) fun v48 => some (.inl (.inr (.inr (.inl (v48, W)))))
noncomputable def fmo_cut_296 (t : Nat) (l1 : Int32) (l2 : Int64) (W : jW) : Option (fmo_cut_S ⊕ (jW)) :=
  jlt (l2 + (kJ 24)) fun v61 => some (.inl (.inr (.inr (.inr (.inl (l1, v61, W))))))
noncomputable def fmo_cut_232 (t : Nat) (l1 : Int32) (l2 : Int64) (W : jW) : Option (fmo_cut_S ⊕ (jW)) :=
  gd (jC W t = 13) <|
  gd (jC W (jR W 1305 t) = 14) <|
  gd (jin l1 (jN W 1412 (jR W 1305 t))) <|
  gd (jin l1 (jN W 1414 (jR W 1305 t))) <|
  if l2 < ((jB W 1412 (jR W 1305 t) (ix l1)) + (jB W 1414 (jR W 1305 t) (ix l1))) then
    ((fmo_fixType t l2 W).bind fun q54 =>
  if (0 : Int32) < q54 then
    ((fmo_target t l2 W).bind fun q55 =>
  (fhd_isIn (jR W 1305 t) q55 W).bind fun q56 =>
  if q56 = (0 : Int32) then
    (fmo_cut_296 t l1 l2 W)
  else
    ((fmo_target t l2 W).bind fun q57 => (fmo_lead t (((q57 - (jL W 1313 t)).toInt32) / (kI 4)) W).bind fun q58 => fmo_cut_296 t l1 l2 q58))
  else
    (fmo_cut_296 t l1 l2 W))
  else
    (fmo_cut_305 t l1 W)
noncomputable def fmo_cut_432 (t : Nat) (l1 : Int32) (l2 : Int32) (W : jW) : Option (fmo_cut_S ⊕ (jW)) :=
  gd (jC W t = 13) <|
  gd (jin l2 (jN W 1317 t)) <|
  jlt (pA W 1317 t (ix l2) ((jI W 1312 t) - (kI 1))) fun W104 =>
  gd (jin ((jI W104 1312 t) - (kI 1)) (jN W104 1323 t)) <|
  gd (jin ((jI W104 1312 t) - (kI 1)) (jN W104 1323 t)) <|
  jlt (pA W104 1323 t (ix ((jI W104 1312 t) - (kI 1))) ((jA W104 1323 t (ix ((jI W104 1312 t) - (kI 1)))) + (kI 1))) fun W110 =>
  jlt (l2 + (kI 1)) fun v114 =>
  some (.inl (.inr (.inr (.inr (.inr (.inl (l1, v114, W110)))))))
noncomputable def fmo_cut_382 (t : Nat) (l1 : Int32) (l2 : Int32) (W : jW) : Option (fmo_cut_S ⊕ (jW)) :=
  gd (jC W t = 13) <|
  gd (jin (jI W 1312 t) (jN W 1322 t)) <|
  jlt (pA W 1322 t (ix (jI W 1312 t)) l2) fun W78 =>
  gd (jin (jI W78 1312 t) (jN W78 1323 t)) <|
  jlt (pA W78 1323 t (ix (jI W78 1312 t)) (kI 0)) fun W83 =>
  gd (jin (jI W83 1312 t) (jN W83 1324 t)) <|
  jlt (pA W83 1324 t (ix (jI W83 1312 t)) l1) fun W88 =>
  gd (jin (jI W88 1312 t) (jN W88 1327 t)) <|
  jlt (pA W88 1327 t (ix (jI W88 1312 t)) (i2z (kI 0))) fun W93 =>
  jlt (sI W93 1312 t ((jI W93 1312 t) + (kI 1))) fun W97 =>
  fmo_cut_432 t l1 l2 W97
noncomputable def fmo_cut_353 (t : Nat) (l1 : Int32) (l2 : Int32) (W : jW) : Option (fmo_cut_S ⊕ (jW)) :=
  gd (jC W t = 13) <|
  gd (jin l2 (jN W 1318 t)) <|
  if (jA W 1318 t (ix l2)) = (0 : Int32) then
    (fmo_cut_432 t l1 l2 W)
  else
    (gd (jin l1 (jN W 1319 t)) <|
  if (jA W 1319 t (ix l1)) = l2 then
    (gd (jin l1 (jN W 1321 t)) <| jlt (pA W 1321 t (ix l1) (jI W 1312 t)) fun W71 => fmo_cut_382 t l1 l2 W71)
  else
    (fmo_cut_382 t l1 l2 W))
noncomputable def fmo_cut_607 (t : Nat) (l2 : Int32) (W : jW) : Option (fmo_cut_S ⊕ (jW)) :=
  jlt (l2 + (kI 1)) fun v127 => some (.inl (.inr (.inr (.inr (.inr (.inr (.inr (.inl (v127, W)))))))))
noncomputable def fmo_cut_598 (t : Nat) (l2 : Int32) (l3 : Int64) (W : jW) : Option (fmo_cut_S ⊕ (jW)) :=
  jlt (l3 + (kJ 24)) fun v145 => some (.inl (.inr (.inr (.inr (.inr (.inr (.inr (.inr (l2, v145, W)))))))))
noncomputable def fmo_cut_524 (t : Nat) (l2 : Int32) (l3 : Int64) (W : jW) : Option (fmo_cut_S ⊕ (jW)) :=
  gd (jC W t = 13) <|
  gd (jC W (jR W 1305 t) = 14) <|
  gd (jin l2 (jN W 1412 (jR W 1305 t))) <|
  gd (jin l2 (jN W 1414 (jR W 1305 t))) <|
  if l3 < ((jB W 1412 (jR W 1305 t) (ix l2)) + (jB W 1414 (jR W 1305 t) (ix l2))) then
    ((fmo_fixType t l3 W).bind fun q133 =>
  if q133 = (kI 257) then
    ((fmo_target t l3 W).bind fun q134 =>
  (fhd_isIn (jR W 1305 t) q134 W).bind fun q135 =>
  if q135 = (0 : Int32) then
    (fmo_cut_598 t l2 l3 W)
  else
    ((fmo_target t l3 W).bind fun q136 =>
  gd (jin (((q136 - (jL W 1313 t)).toInt32) / (kI 4)) (jN W 1317 t)) <|
  gd (jin (jA W 1317 t (ix (((q136 - (jL W 1313 t)).toInt32) / (kI 4)))) (jN W 1327 t)) <|
  jlt (pA W 1327 t (ix (jA W 1317 t (ix (((q136 - (jL W 1313 t)).toInt32) / (kI 4))))) (i2z (kI 1))) fun W139 =>
  fmo_cut_598 t l2 l3 W139))
  else
    (fmo_cut_598 t l2 l3 W))
  else
    (fmo_cut_607 t l2 W)
noncomputable def fmo_cut_488 (t : Nat) (l2 : Int32) (W : jW) : Option (fmo_cut_S ⊕ (jW)) :=
  gd (jC W t = 13) <|
  gd (jC W (jR W 1305 t) = 14) <|
  if l2 < (jI W 1403 (jR W 1305 t)) then
    ((fhd_what (jR W 1305 t) l2 W).bind fun q123 =>
  if q123 = (kI 4) then
    (gd (jin l2 (jN W 1412 (jR W 1305 t))) <|
    jlt (jB W 1412 (jR W 1305 t) (ix l2)) fun v125 =>
    some (.inl (.inr (.inr (.inr (.inr (.inr (.inr (.inr (l2, v125, W))))))))))
  else
    (fmo_cut_607 t l2 W))
  else
    (some (.inr W))
noncomputable def fmo_cut_467 (t : Nat) (l2 : Int32) (W : jW) : Option (fmo_cut_S ⊕ (jW)) :=
  gd (jC W t = 13) <|
  if l2 < (jI W 1312 t) then
    ((fmo_close t l2 W).bind fun q117 => jlt (l2 + (kI 1)) fun v119 => some (.inl (.inr (.inr (.inr (.inr (.inr (.inl (v119, q117)))))))))
  else
    (some (.inl (.inr (.inr (.inr (.inr (.inr (.inr (.inl ((kI 1), W))))))))))
noncomputable def fmo_cut_320 (t : Nat) (l1 : Int32) (l2 : Int32) (W : jW) : Option (fmo_cut_S ⊕ (jW)) :=
  gd (jC W t = 13) <|
  if l2 < (jI W 1310 t) then
    (if (l1 + (kI 1)) < (jI W 1311 t) then
    (gd (jin (l1 + (kI 1)) (jN W 1319 t)) <|
  if (jA W 1319 t (ix (l1 + (kI 1)))) = l2 then
    (jlt (l1 + (kI 1)) fun v65 => fmo_cut_353 t v65 l2 W)
  else
    (fmo_cut_353 t l1 l2 W))
  else
    (fmo_cut_353 t l1 l2 W))
  else
    (some (.inl (.inr (.inr (.inr (.inr (.inr (.inl ((kI 0), W)))))))))
noncomputable def fmo_cut_196 (t : Nat) (l1 : Int32) (W : jW) : Option (fmo_cut_S ⊕ (jW)) :=
  gd (jC W t = 13) <|
  gd (jC W (jR W 1305 t) = 14) <|
  if l1 < (jI W 1403 (jR W 1305 t)) then
    ((fhd_what (jR W 1305 t) l1 W).bind fun q44 =>
  if q44 = (kI 4) then
    (gd (jin l1 (jN W 1412 (jR W 1305 t))) <| jlt (jB W 1412 (jR W 1305 t) (ix l1)) fun v46 => some (.inl (.inr (.inr (.inr (.inl (l1, v46, W)))))))
  else
    (fmo_cut_305 t l1 W))
  else
    (jlt (sI W 1312 t (kI 0)) fun W39 => some (.inl (.inr (.inr (.inr (.inr (.inl ((kI 0), (kI 0), W39))))))))
noncomputable def fmo_cut_26 (t : Nat) (l1 : Int32) (W : jW) : Option (fmo_cut_S ⊕ (jW)) :=
  gd (jC W t = 13) <|
  if l1 < (jI W 1311 t) then
    (gd (jin l1 (jN W 1319 t)) <|
  (fmo_lead t (jA W 1319 t (ix l1)) W).bind fun q9 =>
  gd (jC q9 t = 13) <|
  gd (jin l1 (jN q9 1319 t)) <|
  jlt (jA q9 1319 t (ix l1)) fun v13 =>
  some (.inl (.inr (.inl (l1, v13, q9)))))
  else
    (some (.inl (.inr (.inr (.inl ((kI 1), W))))))
noncomputable def fmo_cut_st (t : Nat) : fmo_cut_S → Option (fmo_cut_S ⊕ (jW)) :=
  (Sum.elim (fun s => fmo_cut_26 t s.1 s.2) (Sum.elim (fun s => fmo_cut_51 t s.1 s.2.1 s.2.2) (Sum.elim (fun s => fmo_cut_196 t s.1 s.2) (Sum.elim (fun s => fmo_cut_232 t s.1 s.2.1 s.2.2) (Sum.elim (fun s => fmo_cut_320 t s.1 s.2.1 s.2.2) (Sum.elim (fun s => fmo_cut_467 t s.1 s.2) (Sum.elim (fun s => fmo_cut_488 t s.1 s.2) (fun s => fmo_cut_524 t s.1 s.2.1 s.2.2))))))))
noncomputable def fmo_cut_0 (t : Nat) (W : jW) : Option (fmo_cut_S ⊕ (jW)) :=
  gd (jC W t = 13) <|
  gd (jC W (jR W 1305 t) = 14) <|
  (fhd_num (jR W 1305 t) (kJ 24) (kI 8) W).bind fun q3 =>
  (fmo_lead t (((q3 - (jL W 1313 t)).toInt32) / (kI 4)) W).bind fun q4 =>
  some (.inl (.inl ((kI 0), q4)))
noncomputable def fmo_cut (t : Nat) (W : jW) : Option (jW) :=
  jrn (fmo_cut_st t) (fmo_cut_0 t W)
abbrev fmo_apart_S : Type := (Int32 × jW) ⊕ (Int32 × jW) ⊕ (Int32 × jW) ⊕ (Int32 × Int64 × jW) ⊕ (Int32 × jW) ⊕ (Int32 × jW) ⊕ (Int32 × Int32 × jW) ⊕ (Int32 × jW)
noncomputable def fmo_apart_267 (t : Nat) (l2 : Int32) (W : jW) : Option (fmo_apart_S ⊕ (Int32 × jW)) :=
  jlt (l2 + (kI 1)) fun v72 => some (.inl (.inr (.inr (.inl (v72, W)))))
noncomputable def fmo_apart_217 (t : Nat) (l2 : Int32) (l3 : Int64) (W : jW) : Option (fmo_apart_S ⊕ (Int32 × jW)) :=
  gd (jC W t = 13) <|
  gd (jC W (jR W 1305 t) = 14) <|
  gd (jin l2 (jN W 1412 (jR W 1305 t))) <|
  gd (jin l2 (jN W 1414 (jR W 1305 t))) <|
  if l3 < ((jB W 1412 (jR W 1305 t) (ix l2)) + (jB W 1414 (jR W 1305 t) (ix l2))) then
    ((fmo_isRight t l2 l3 W).bind fun q78 =>
  if q78.1 = (0 : Int32) then
    (gd (jC q78.2 t = 13) <| (fmo_broken t (kI 9) l3 q78.2).bind fun q82 => some (.inr (q82.1, q82.2)))
  else
    (jlt (l3 + (kJ 24)) fun v80 => some (.inl (.inr (.inr (.inr (.inl (l2, v80, q78.2))))))))
  else
    (fmo_apart_267 t l2 W)
noncomputable def fmo_apart_322 (t : Nat) (l2 : Int32) (W : jW) : Option (fmo_apart_S ⊕ (Int32 × jW)) :=
  gd (jC W t = 13) <| (fmo_broken t (kI 10) (((jI W 1309 t).toInt64) + ((kJ 4) * l2.toInt64)) W).bind fun q92 => some (.inr (q92.1, q92.2))
noncomputable def fmo_apart_341 (t : Nat) (l2 : Int32) (W : jW) : Option (fmo_apart_S ⊕ (Int32 × jW)) :=
  jlt (l2 + (kI 1)) fun v95 => some (.inl (.inr (.inr (.inr (.inr (.inl (v95, W)))))))
noncomputable def fmo_apart_364 (t : Nat) (l2 : Int32) (l3 : Int32) (W : jW) : Option (fmo_apart_S ⊕ (Int32 × jW)) :=
  gd (jC W t = 13) <|
  gd (jin l2 (jN W 1319 t)) <|
  gd (jin l2 (jN W 1320 t)) <|
  if l3 < ((jA W 1319 t (ix l2)) + (jA W 1320 t (ix l2))) then
    ((fmo_goesRight t l2 l3 W).bind fun q105 =>
  if q105 = (0 : Int32) then
    ((fmo_broken t (kI 11) (((jI W 1309 t).toInt64) + ((kJ 4) * l3.toInt64)) W).bind fun q107 => some (.inr (q107.1, q107.2)))
  else
    (jlt (l3 + (kI 1)) fun v106 => some (.inl (.inr (.inr (.inr (.inr (.inr (.inr (.inl (l2, v106, W)))))))))))
  else
    (jlt (l2 + (kI 1)) fun v104 => some (.inl (.inr (.inr (.inr (.inr (.inr (.inl (v104, W)))))))))
noncomputable def fmo_apart_498 (t : Nat) (l2 : Int32) (W : jW) : Option (fmo_apart_S ⊕ (Int32 × jW)) :=
  jlt (l2 + (kI 1)) fun v121 => some (.inl (.inr (.inr (.inr (.inr (.inr (.inr (.inr (v121, W)))))))))
noncomputable def fmo_apart_423 (t : Nat) (l2 : Int32) (W : jW) : Option (fmo_apart_S ⊕ (Int32 × jW)) :=
  gd (jC W t = 13) <|
  if l2 < (jI W 1311 t) then
    (gd (jin l2 (jN W 1319 t)) <|
  gd (jin l2 (jN W 1320 t)) <|
  jlt (((jA W 1319 t (ix l2)) + (jA W 1320 t (ix l2))) - (kI 1)) fun v115 =>
  gd (jin v115 (jN W 1315 t)) <|
  jlt (fmo_sort (jA W 1315 t (ix v115))) fun v117 =>
  if v117 = (kI 12) then
    (fmo_apart_498 t l2 W)
  else
    (if v117 = (kI 17) then
    (fmo_apart_498 t l2 W)
  else
    (if v117 = (kI 19) then
    (fmo_apart_498 t l2 W)
  else
    ((fmo_broken t (kI 12) (((jI W 1309 t).toInt64) + ((kJ 4) * v115.toInt64)) W).bind fun q118 => some (.inr (q118.1, q118.2))))))
  else
    ((fmo_cut t W).bind fun q111 => some (.inr ((kI 0), q111)))
noncomputable def fmo_apart_349 (t : Nat) (l2 : Int32) (W : jW) : Option (fmo_apart_S ⊕ (Int32 × jW)) :=
  gd (jC W t = 13) <|
  if l2 < (jI W 1311 t) then
    (gd (jin l2 (jN W 1319 t)) <| jlt (jA W 1319 t (ix l2)) fun v99 => some (.inl (.inr (.inr (.inr (.inr (.inr (.inr (.inl (l2, v99, W))))))))))
  else
    (some (.inl (.inr (.inr (.inr (.inr (.inr (.inr (.inr ((kI 0), W))))))))))
noncomputable def fmo_apart_275 (t : Nat) (l2 : Int32) (W : jW) : Option (fmo_apart_S ⊕ (Int32 × jW)) :=
  gd (jC W t = 13) <|
  if l2 < (jI W 1310 t) then
    (gd (jin l2 (jN W 1315 t)) <|
  if (fmo_sort (jA W 1315 t (ix l2))) = (kI 5) then
    (gd (jin l2 (jN W 1316 t)) <|
  if (jA W 1316 t (ix l2)) < (0 : Int32) then
    (fmo_apart_322 t l2 W)
  else
    (gd (jin l2 (jN W 1316 t)) <|
  (fmo_fixType t ((jA W 1316 t (ix l2)).toInt64) W).bind fun q89 =>
  if q89 = (kI 275) then
    (fmo_apart_341 t l2 W)
  else
    (fmo_apart_322 t l2 W)))
  else
    (fmo_apart_341 t l2 W))
  else
    (some (.inl (.inr (.inr (.inr (.inr (.inr (.inl ((kI 0), W)))))))))
noncomputable def fmo_apart_181 (t : Nat) (l2 : Int32) (W : jW) : Option (fmo_apart_S ⊕ (Int32 × jW)) :=
  gd (jC W t = 13) <|
  gd (jC W (jR W 1305 t) = 14) <|
  if l2 < (jI W 1403 (jR W 1305 t)) then
    ((fhd_what (jR W 1305 t) l2 W).bind fun q68 =>
  if q68 = (kI 4) then
    (gd (jin l2 (jN W 1412 (jR W 1305 t))) <| jlt (jB W 1412 (jR W 1305 t) (ix l2)) fun v70 => some (.inl (.inr (.inr (.inr (.inl (l2, v70, W)))))))
  else
    (fmo_apart_267 t l2 W))
  else
    (some (.inl (.inr (.inr (.inr (.inr (.inl ((kI 0), W))))))))
noncomputable def fmo_apart_129 (t : Nat) (l2 : Int32) (W : jW) : Option (fmo_apart_S ⊕ (Int32 × jW)) :=
  gd (jC W t = 13) <|
  if l2 < (jI W 1310 t) then
    (gd (jin l2 (jN W 1315 t)) <|
  if (fmo_sort (jA W 1315 t (ix l2))) = (0 : Int32) then
    ((fmo_broken t (kI 8) (((jI W 1309 t).toInt64) + ((kJ 4) * l2.toInt64)) W).bind fun q63 => some (.inr (q63.1, q63.2)))
  else
    (jlt (l2 + (kI 1)) fun v62 => some (.inl (.inr (.inl (v62, W))))))
  else
    (jlt (sI W 1328 t (kI 0)) fun W57 => some (.inl (.inr (.inr (.inl ((kI 1), W57))))))
noncomputable def fmo_apart_53 (t : Nat) (l2 : Int32) (W : jW) : Option (fmo_apart_S ⊕ (Int32 × jW)) :=
  gd (jC W t = 13) <|
  if l2 < (jI W 1310 t) then
    (gd (jC W (jR W 1305 t) = 14) <|
  (fhd_num (jR W 1305 t) (((jI W 1309 t).toInt64) + ((kJ 4) * l2.toInt64)) (kI 4) W).bind fun q35 =>
  gd (jin l2 (jN W 1315 t)) <|
  jlt (pA W 1315 t (ix l2) q35.toInt32) fun W37 =>
  gd (jin l2 (jN W37 1316 t)) <|
  jlt (pA W37 1316 t (ix l2) (kI (-1))) fun W43 =>
  gd (jin l2 (jN W43 1318 t)) <|
  jlt (pA W43 1318 t (ix l2) (i2z (kI 0))) fun W49 =>
  jlt (l2 + (kI 1)) fun v54 =>
  some (.inl (.inl (v54, W49))))
  else
    ((fmo_hasFunctions t W).bind fun q29 =>
    if q29.1 = (0 : Int32) then
      (gd (jC q29.2 t = 13) <| (fmo_broken t (kI 7) ((jI q29.2 1309 t).toInt64) q29.2).bind fun q32 => some (.inr (q32.1, q32.2)))
    else
      (some (.inl (.inr (.inl ((kI 0), q29.2))))))
noncomputable def fmo_apart_st (t : Nat) : fmo_apart_S → Option (fmo_apart_S ⊕ (Int32 × jW)) :=
  (Sum.elim (fun s => fmo_apart_53 t s.1 s.2) (Sum.elim (fun s => fmo_apart_129 t s.1 s.2) (Sum.elim (fun s => fmo_apart_181 t s.1 s.2) (Sum.elim (fun s => fmo_apart_217 t s.1 s.2.1 s.2.2) (Sum.elim (fun s => fmo_apart_275 t s.1 s.2) (Sum.elim (fun s => fmo_apart_349 t s.1 s.2) (Sum.elim (fun s => fmo_apart_364 t s.1 s.2.1 s.2.2) (fun s => fmo_apart_423 t s.1 s.2))))))))
noncomputable def fmo_apart_0 (t : Nat) (W : jW) : Option (fmo_apart_S ⊕ (Int32 × jW)) :=
  gd (jC W t = 13) <|
  gd (jC W (jR W 1305 t) = 14) <|
  jlt (jI W 1415 (jR W 1305 t)) fun v3 =>
  gd (jin v3 (jN W 1412 (jR W 1305 t))) <|
  jlt (sI W 1309 t ((jB W 1412 (jR W 1305 t) (ix v3)).toInt32)) fun W5 =>
  gd (jC W5 (jR W5 1305 t) = 14) <|
  gd (jin v3 (jN W5 1413 (jR W5 1305 t))) <|
  jlt (sL W5 1313 t (jB W5 1413 (jR W5 1305 t) (ix v3))) fun W12 =>
  gd (jC W12 (jR W12 1305 t) = 14) <|
  gd (jin v3 (jN W12 1414 (jR W12 1305 t))) <|
  jlt (sI W12 1310 t (((jB W12 1414 (jR W12 1305 t) (ix v3)).toInt32) / (kI 4))) fun W20 =>
  some (.inl (.inl ((kI 0), W20)))
noncomputable def fmo_apart (t : Nat) (W : jW) : Option (Int32 × jW) :=
  jrn (fmo_apart_st t) (fmo_apart_0 t W)
noncomputable def fmo_forget (t : Nat) (W : jW) : Option (jW) :=
  gd (jC W t = 13) <|
  gd (jC W (jR W 1361 t) = 16) <|
  jlt (sI W 1602 (jR W 1361 t) (kI 0)) fun W3 =>
  gd (jC W3 (jR W3 1362 t) = 16) <|
  jlt (sI W3 1602 (jR W3 1362 t) (kI 0)) fun W9 =>
  gd (jC W9 (jR W9 1363 t) = 16) <|
  jlt (sI W9 1602 (jR W9 1363 t) (kI 0)) fun W16 =>
  some W16
abbrev fmo_read_S : Type := (Int32 × Int32 × jW)
noncomputable def fmo_read_132 (t : Nat) (l3 : Int32) (W : jW) : Option (fmo_read_S ⊕ (Int32 × jW)) :=
  some (.inr ((-l3), W))
noncomputable def fmo_read_12 (t : Nat) (l1 : Int32) (l2 : Int32) (W : jW) : Option (fmo_read_S ⊕ (Int32 × jW)) :=
  if l2 < l1 then
    (gd (jC W t = 13) <|
  gd (jin l2 (jN W 1300 t)) <|
  gd (jR W 9004 (jR W 1304 t) = (jR W 1304 t)) <|
  gd (jin l2 (jN W 9004 (jR W 1304 t))) <|
  jlt (pA W 9004 (jR W 1304 t) (ix l2) (i2b (jA W 1300 t (ix l2)))) fun W90 =>
  jlt (l2 + (kI 1)) fun v94 =>
  some (.inl (l1, v94, W90)))
  else
    (gd (jC W t = 13) <|
    jlt (jR W 1306 t) fun v9 =>
    gd (jC W v9 = 14) <|
    jlt (sR W 1400 v9 (jR W 1304 t)) fun W11 =>
    jlt (sI W11 1401 v9 l1) fun W16 =>
    (fhd_broken v9 W16).bind fun q21 =>
    if (0 : Int32) < q21.1 then
      (gd (jC q21.2 v9 = 14) <| gd (jC q21.2 t = 13) <| jlt (sL q21.2 1314 t (jL q21.2 1417 v9)) fun W81 => some (.inr ((-q21.1), W81)))
    else
      (gd (jC q21.2 t = 13) <|
      jlt (jR q21.2 1305 t) fun v24 =>
      jlt (jR q21.2 1303 t) fun v25 =>
      jlt (sR q21.2 1305 t v9) fun W26 =>
      jlt (sR W26 1303 t (jR W26 1304 t)) fun W30 =>
      (fmo_apart t W30).bind fun q34 =>
      if (0 : Int32) < q34.1 then
        (gd (jC q34.2 t = 13) <|
      jlt (sR q34.2 1305 t v24) fun W69 =>
      jlt (sR W69 1303 t v25) fun W73 =>
      if (jI W73 1307 t) = (0 : Int32) then
        (fmo_read_132 t q34.1 W73)
      else
        ((fmo_apart t W73).bind fun q77 => fmo_read_132 t q34.1 q77.2))
      else
        (gd (jC q34.2 t = 13) <|
        jlt (sR q34.2 1306 t v24) fun W37 =>
        jlt (sR W37 1304 t v25) fun W41 =>
        jlt (sL W41 1314 t (kJ (-1))) fun W45 =>
        jlt (sI W45 1307 t (kI 1)) fun W49 =>
        jlt (sI W49 1308 t l1) fun W53 =>
        jlt (sI W53 1329 t (kI 0)) fun W57 =>
        jlt (sI W57 1352 t (kI 0)) fun W61 =>
        (fmo_forget t W61).bind fun q65 =>
        gd (jC q65 t = 13) <|
        some (.inr ((jI q65 1311 t), q65)))))
noncomputable def fmo_read_st (t : Nat) : fmo_read_S → Option (fmo_read_S ⊕ (Int32 × jW)) :=
  (fun s => fmo_read_12 t s.1 s.2.1 s.2.2)
noncomputable def fmo_read_0 (t : Nat) (W : jW) : Option (fmo_read_S ⊕ (Int32 × jW)) :=
  gd (jC W t = 13) <| jlt (jI W 1301 t) fun v2 => jlt (sI W 1301 t (kI 0)) fun W3 => some (.inl (v2, (kI 0), W3))
noncomputable def fmo_read (t : Nat) (W : jW) : Option (Int32 × jW) :=
  jrn (fmo_read_st t) (fmo_read_0 t W)
noncomputable def fmo_place (t : Nat) (W : jW) : Option (Int32) :=
  gd (jC W t = 13) <| some ((jL W 1314 t).toInt32)
noncomputable def fmo_count_9 (t : Nat) (a1 : Int32) (W : jW) : Option (Int32) :=
  some (kI (-14))
noncomputable def fmo_count (t : Nat) (a1 : Int32) (W : jW) : Option (Int32) :=
  if a1 < (0 : Int32) then
    (fmo_count_9 t a1 W)
  else
    (if (kI 4) < a1 then
    (fmo_count_9 t a1 W)
  else
    (gd (jC W t = 13) <|
    if (jI W 1307 t) = (0 : Int32) then
      (some (kI 0))
    else
      (if a1 = (0 : Int32) then
        (some (jI W 1311 t))
      else
        (if a1 = (kI 1) then
          (some (jI W 1312 t))
        else
          (if a1 = (kI 2) then
            (some ((kI 4) * (jI W 1310 t)))
          else
            (if a1 = (kI 3) then
              (some (jI W 1308 t))
            else
              (some (jI W 1328 t))))))))
abbrev fmo_heat_S : Type := (Int64 × Int32)
noncomputable def fmo_heat_50 (t : Nat) (a1 : Int32) (l2 : Int64) (l4 : Int32) (W : jW) : Option (fmo_heat_S ⊕ (Int64)) :=
  jlt (l4 + (kI 1)) fun v9 => some (.inl (l2, v9))
noncomputable def fmo_heat_5 (t : Nat) (a1 : Int32) (l2 : Int64) (l4 : Int32) (W : jW) : Option (fmo_heat_S ⊕ (Int64)) :=
  gd (jC W t = 13) <|
  if l4 < (jI W 1329 t) then
    (gd (jin l4 (jN W 1332 t)) <|
  if (jA W 1332 t (ix l4)) = (0 : Int32) then
    (fmo_heat_50 t a1 l2 l4 W)
  else
    (gd (jin l4 (jN W 1331 t)) <|
  gd (jin (jA W 1331 t (ix l4)) (jN W 1324 t)) <|
  if (jA W 1324 t (ix (jA W 1331 t (ix l4)))) = a1 then
    (gd (jin l4 (jN W 1333 t)) <| jlt (l2 + (jB W 1333 t (ix l4))) fun v7 => fmo_heat_50 t a1 v7 l4 W)
  else
    (fmo_heat_50 t a1 l2 l4 W)))
  else
    (some (.inr l2))
noncomputable def fmo_heat_st (t : Nat) (a1 : Int32) (W : jW) : fmo_heat_S → Option (fmo_heat_S ⊕ (Int64)) :=
  (fun s => fmo_heat_5 t a1 s.1 s.2 W)
noncomputable def fmo_heat_0 (t : Nat) (a1 : Int32) (W : jW) : Option (fmo_heat_S ⊕ (Int64)) :=
  some (.inl ((kJ 0), (kI 0)))
noncomputable def fmo_heat (t : Nat) (a1 : Int32) (W : jW) : Option (Int64) :=
  jrn (fmo_heat_st t a1 W) (fmo_heat_0 t a1 W)
noncomputable def fmo_function_28 (t : Nat) (a1 : Int32) (a2 : Int32) (W : jW) : Option (Int64) :=
  some (kJ (-14))
noncomputable def fmo_function (t : Nat) (a1 : Int32) (a2 : Int32) (W : jW) : Option (Int64) :=
  gd (jC W t = 13) <|
  if (jI W 1307 t) = (0 : Int32) then
    (fmo_function_28 t a1 a2 W)
  else
    (if a1 < (0 : Int32) then
    (fmo_function_28 t a1 a2 W)
  else
    (if a1 < (jI W 1311 t) then
    (if a2 < (0 : Int32) then
    (fmo_function_28 t a1 a2 W)
  else
    (if (kI 3) < a2 then
    (fmo_function_28 t a1 a2 W)
  else
    (if a2 = (0 : Int32) then
      (gd (jin a1 (jN W 1319 t)) <| some ((jL W 1313 t) + ((kJ 4) * ((jA W 1319 t (ix a1)).toInt64))))
    else
      (if a2 = (kI 1) then
        (gd (jin a1 (jN W 1320 t)) <| some ((kJ 4) * ((jA W 1320 t (ix a1)).toInt64)))
      else
        (if a2 = (kI 2) then
          (gd (jin a1 (jN W 1321 t)) <| some ((jA W 1321 t (ix a1)).toInt64))
        else
          ((fmo_heat t a1 W).bind fun q2 => some q2))))))
  else
    (fmo_function_28 t a1 a2 W)))
abbrev fmo_countOf_S : Type := (Int64 × Int64 × Int64 × Int32)
noncomputable def fmo_countOf_107 (t : Nat) (a1 : Int32) (l2 : Int64) (l4 : Int64) (l6 : Int64) (l8 : Int32) (W : jW) : Option (fmo_countOf_S ⊕ (Int64)) :=
  jlt (l8 + (kI 1)) fun v19 => some (.inl (l2, l4, l6, v19))
noncomputable def fmo_countOf_74 (t : Nat) (a1 : Int32) (l2 : Int64) (l4 : Int64) (l6 : Int64) (l8 : Int32) (W : jW) : Option (fmo_countOf_S ⊕ (Int64)) :=
  gd (jC W t = 13) <|
  gd (jin l8 (jN W 1330 t)) <|
  if (jA W 1330 t (ix l8)) = a1 then
    (gd (jin l8 (jN W 1332 t)) <|
  if (jA W 1332 t (ix l8)) = (0 : Int32) then
    (fmo_countOf_107 t a1 l2 l4 l6 l8 W)
  else
    (gd (jin l8 (jN W 1333 t)) <| jlt (l6 + (jB W 1333 t (ix l8))) fun v17 => fmo_countOf_107 t a1 l2 l4 v17 l8 W))
  else
    (fmo_countOf_107 t a1 l2 l4 l6 l8 W)
noncomputable def fmo_countOf_41 (t : Nat) (a1 : Int32) (l2 : Int64) (l4 : Int64) (l6 : Int64) (l8 : Int32) (W : jW) : Option (fmo_countOf_S ⊕ (Int64)) :=
  gd (jC W t = 13) <|
  gd (jin l8 (jN W 1330 t)) <|
  if (jA W 1330 t (ix l8)) = a1 then
    (gd (jin l8 (jN W 1332 t)) <|
  if (jA W 1332 t (ix l8)) = (0 : Int32) then
    (gd (jin l8 (jN W 1333 t)) <| jlt (l4 + (jB W 1333 t (ix l8))) fun v11 => fmo_countOf_74 t a1 l2 v11 l6 l8 W)
  else
    (fmo_countOf_74 t a1 l2 l4 l6 l8 W))
  else
    (fmo_countOf_74 t a1 l2 l4 l6 l8 W)
noncomputable def fmo_countOf_11 (t : Nat) (a1 : Int32) (l2 : Int64) (l4 : Int64) (l6 : Int64) (l8 : Int32) (W : jW) : Option (fmo_countOf_S ⊕ (Int64)) :=
  gd (jC W t = 13) <|
  if l8 < (jI W 1329 t) then
    (gd (jin l8 (jN W 1331 t)) <|
  if (jA W 1331 t (ix l8)) = a1 then
    (gd (jin l8 (jN W 1333 t)) <| jlt (l2 + (jB W 1333 t (ix l8))) fun v5 => fmo_countOf_41 t a1 v5 l4 l6 l8 W)
  else
    (fmo_countOf_41 t a1 l2 l4 l6 l8 W))
  else
    (some (.inr (fjm_max l2 (fjm_max l4 l6))))
noncomputable def fmo_countOf_st (t : Nat) (a1 : Int32) (W : jW) : fmo_countOf_S → Option (fmo_countOf_S ⊕ (Int64)) :=
  (fun s => fmo_countOf_11 t a1 s.1 s.2.1 s.2.2.1 s.2.2.2 W)
noncomputable def fmo_countOf_0 (t : Nat) (a1 : Int32) (W : jW) : Option (fmo_countOf_S ⊕ (Int64)) :=
  some (.inl ((kJ 0), (kJ 0), (kJ 0), (kI 0)))
noncomputable def fmo_countOf (t : Nat) (a1 : Int32) (W : jW) : Option (Int64) :=
  jrn (fmo_countOf_st t a1 W) (fmo_countOf_0 t a1 W)
noncomputable def fmo_block_19 (t : Nat) (a1 : Int32) (a2 : Int32) (W : jW) : Option (Int64) :=
  some (kJ (-14))
noncomputable def fmo_block (t : Nat) (a1 : Int32) (a2 : Int32) (W : jW) : Option (Int64) :=
  gd (jC W t = 13) <|
  if (jI W 1307 t) = (0 : Int32) then
    (fmo_block_19 t a1 a2 W)
  else
    (if a1 < (0 : Int32) then
    (fmo_block_19 t a1 a2 W)
  else
    (if a1 < (jI W 1312 t) then
    (if a2 = (kI 0) then
      (gd (jin a1 (jN W 1322 t)) <| some ((jL W 1313 t) + ((kJ 4) * ((jA W 1322 t (ix a1)).toInt64))))
    else if a2 = (kI 1) then
      (gd (jin a1 (jN W 1323 t)) <| some ((jA W 1323 t (ix a1)).toInt64))
    else if a2 = (kI 2) then
      (gd (jin a1 (jN W 1324 t)) <| some ((jA W 1324 t (ix a1)).toInt64))
    else if a2 = (kI 3) then
      (gd (jin a1 (jN W 1325 t)) <| some ((jA W 1325 t (ix a1)).toInt64))
    else if a2 = (kI 4) then
      ((fmo_next t a1 W).bind fun q11 => some q11.toInt64)
    else if a2 = (kI 5) then
      (gd (jin a1 (jN W 1326 t)) <| some ((jA W 1326 t (ix a1)).toInt64))
    else if a2 = (kI 6) then
      (gd (jin a1 (jN W 1327 t)) <| if (jA W 1327 t (ix a1)) = (0 : Int32) then
        (some (kJ 0))
      else
        (some (kJ 1)))
    else if a2 = (kI 7) then
      ((fmo_countOf t a1 W).bind fun q17 => some q17)
    else (some (kJ (-14))))
  else
    (fmo_block_19 t a1 a2 W)))
noncomputable def fmo_wordAt_40 (t : Nat) (a1 : Int64) (W : jW) : Option (Int32) :=
  some (kI (-1))
noncomputable def fmo_wordAt (t : Nat) (a1 : Int64) (W : jW) : Option (Int32) :=
  gd (jC W t = 13) <|
  if (jI W 1307 t) = (0 : Int32) then
    (fmo_wordAt_40 t a1 W)
  else
    (gd (jC W (jR W 1305 t) = 14) <|
  (fhd_isIn (jR W 1305 t) a1 W).bind fun q3 =>
  if q3 = (0 : Int32) then
    (fmo_wordAt_40 t a1 W)
  else
    (if (a1 &&& (kJ 3)) = (kJ 0) then
    (some (((a1 - (jL W 1313 t)).toInt32) / (kI 4)))
  else
    (fmo_wordAt_40 t a1 W)))
noncomputable def fmo_isWay_56 (t : Nat) (a1 : Int32) (a2 : Int32) (W : jW) : Option (Int32) :=
  some (kI 1)
noncomputable def fmo_isWay_60 (t : Nat) (a1 : Int32) (a2 : Int32) (W : jW) : Option (Int32) :=
  some (kI 0)
noncomputable def fmo_isWay (t : Nat) (a1 : Int32) (a2 : Int32) (W : jW) : Option (Int32) :=
  gd (jC W t = 13) <|
  gd (jin a1 (jN W 1324 t)) <|
  gd (jin a2 (jN W 1324 t)) <|
  if (jA W 1324 t (ix a1)) = (jA W 1324 t (ix a2)) then
    ((fmo_next t a1 W).bind fun q4 =>
    if q4 = a2 then
      (fmo_isWay_56 t a1 a2 W)
    else
      (gd (jin a1 (jN W 1326 t)) <|
    if (jA W 1326 t (ix a1)) = a2 then
      (fmo_isWay_56 t a1 a2 W)
    else
      (gd (jin a1 (jN W 1325 t)) <|
    if (jA W 1325 t (ix a1)) = (kI 6) then
      (gd (jin a2 (jN W 1327 t)) <| if (jA W 1327 t (ix a2)) = (0 : Int32) then
      (fmo_isWay_60 t a1 a2 W)
    else
      (fmo_isWay_56 t a1 a2 W))
    else
      (fmo_isWay_60 t a1 a2 W))))
  else
    (some (kI 0))
noncomputable def fmo_isFirstBlock (t : Nat) (a1 : Int32) (W : jW) : Option (Int32) :=
  gd (jC W t = 13) <|
  gd (jin a1 (jN W 1324 t)) <|
  gd (jin (jA W 1324 t (ix a1)) (jN W 1321 t)) <|
  if (jA W 1321 t (ix (jA W 1324 t (ix a1)))) = a1 then
    (some (kI 1))
  else
    (some (kI 0))
noncomputable def fmo_isCallOf_81 (t : Nat) (a1 : Int32) (a2 : Int32) (W : jW) : Option (Int32) :=
  some (kI 0)
noncomputable def fmo_isCallOf_48 (t : Nat) (a1 : Int32) (a2 : Int32) (l3 : Int32) (W : jW) : Option (Int32) :=
  gd (jC W t = 13) <|
  gd (jin l3 (jN W 1315 t)) <|
  gd (jin l3 (jN W 1315 t)) <|
  gd (jin (l3 + (fmo_far (jA W 1315 t (ix l3)) (fmo_sort (jA W 1315 t (ix l3))))) (jN W 1317 t)) <|
  if (jA W 1317 t (ix (l3 + (fmo_far (jA W 1315 t (ix l3)) (fmo_sort (jA W 1315 t (ix l3))))))) = a2 then
    (some (kI 1))
  else
    (fmo_isCallOf_81 t a1 a2 W)
noncomputable def fmo_isCallOf (t : Nat) (a1 : Int32) (a2 : Int32) (W : jW) : Option (Int32) :=
  gd (jC W t = 13) <|
  (fmo_isFirstBlock t a2 W).bind fun q2 =>
  if q2 = (0 : Int32) then
    (some (kI 0))
  else
    ((fmo_last t a1 W).bind fun q3 =>
    gd (jin a1 (jN W 1325 t)) <|
    if (jA W 1325 t (ix a1)) = (kI 5) then
      (some (kI 1))
    else
      (gd (jin a1 (jN W 1325 t)) <|
      if (jA W 1325 t (ix a1)) = (kI 4) then
        (fmo_isCallOf_48 t a1 a2 q3 W)
      else
        (gd (jin a1 (jN W 1325 t)) <|
      if (jA W 1325 t (ix a1)) = (kI 2) then
        (fmo_isCallOf_48 t a1 a2 q3 W)
      else
        (fmo_isCallOf_81 t a1 a2 W))))
abbrev fmo_more_S : Type := (Nat × Nat × Nat × Nat × Int32 × jW)
noncomputable def fmo_more_40 (t : Nat) (l1 : Nat) (l2 : Nat) (l3 : Nat) (l4 : Nat) (l5 : Int32) (W : jW) : Option (fmo_more_S ⊕ (jW)) :=
  gd (jC W t = 13) <|
  if l5 < (jI W 1329 t) then
    (gd (jin l5 (jN W 1330 t)) <|
  gd (jR W 9003 l1 = l1) <|
  gd (jin l5 (jN W 9003 l1)) <|
  jlt (pA W 9003 l1 (ix l5) (jA W 1330 t (ix l5))) fun W51 =>
  gd (jin l5 (jN W51 1331 t)) <|
  gd (jR W51 9003 l2 = l2) <|
  gd (jin l5 (jN W51 9003 l2)) <|
  jlt (pA W51 9003 l2 (ix l5) (jA W51 1331 t (ix l5))) fun W58 =>
  gd (jin l5 (jN W58 1332 t)) <|
  gd (jR W58 9005 l3 = l3) <|
  gd (jin l5 (jN W58 9005 l3)) <|
  jlt (pA W58 9005 l3 (ix l5) (i2z (jA W58 1332 t (ix l5)))) fun W65 =>
  gd (jin l5 (jN W65 1333 t)) <|
  gd (jR W65 9006 l4 = l4) <|
  gd (jin l5 (jN W65 9006 l4)) <|
  jlt (pB W65 9006 l4 (ix l5) (jB W65 1333 t (ix l5))) fun W72 =>
  jlt (l5 + (kI 1)) fun v76 =>
  some (.inl (l1, l2, l3, l4, v76, W72)))
  else
    (gd (jR W 9003 l1 = l1 ∧ l1 ≠ 0) <|
    jlt (atA W 1330 t l1) fun W29 =>
    gd (jR W29 9003 l2 = l2 ∧ l2 ≠ 0) <|
    jlt (atA W29 1331 t l2) fun W34 =>
    gd (jR W34 9005 l3 = l3 ∧ l3 ≠ 0) <|
    jlt (atA W34 1332 t l3) fun W39 =>
    gd (jR W39 9006 l4 = l4 ∧ l4 ≠ 0) <|
    jlt (atB W39 1333 t l4) fun W44 =>
    some (.inr W44))
noncomputable def fmo_more_st (t : Nat) : fmo_more_S → Option (fmo_more_S ⊕ (jW)) :=
  (fun s => fmo_more_40 t s.1 s.2.1 s.2.2.1 s.2.2.2.1 s.2.2.2.2.1 s.2.2.2.2.2)
noncomputable def fmo_more_0 (t : Nat) (W : jW) : Option (fmo_more_S ⊕ (jW)) :=
  gd (jC W t = 13) <|
  gd (jra W ((kI 2) * (jI W 1329 t))) <|
  jlt (nwA W 9003 (jX W) (ix ((kI 2) * (jI W 1329 t)))) fun W3 =>
  jlt (jX W) fun v7 =>
  gd (jra W3 ((kI 2) * (jI W3 1329 t))) <|
  jlt (nwA W3 9003 (jX W3) (ix ((kI 2) * (jI W3 1329 t)))) fun W9 =>
  jlt (jX W3) fun v13 =>
  gd (jra W9 ((kI 2) * (jI W9 1329 t))) <|
  jlt (nwA W9 9005 (jX W9) (ix ((kI 2) * (jI W9 1329 t)))) fun W15 =>
  jlt (jX W9) fun v19 =>
  gd (jra W15 ((kI 2) * (jI W15 1329 t))) <|
  jlt (nwB W15 9006 (jX W15) (ix ((kI 2) * (jI W15 1329 t)))) fun W21 =>
  jlt (jX W15) fun v25 =>
  some (.inl (v7, v13, v19, v25, (kI 0), W21))
noncomputable def fmo_more (t : Nat) (W : jW) : Option (jW) :=
  jrn (fmo_more_st t) (fmo_more_0 t W)
abbrev fmo_edge_S : Type := (Int32 × Int32 × Int32 × Int32 × jW)
noncomputable def fmo_edge_24 (t : Nat) (a1 : Int64) (a3 : Int64) (a5 : Int32) (W : jW) : Option (fmo_edge_S ⊕ (Int32 × jW)) :=
  some (.inr ((kI (-1)), W))
noncomputable def fmo_edge_61 (t : Nat) (a1 : Int64) (a3 : Int64) (a5 : Int32) (W : jW) : Option (fmo_edge_S ⊕ (Int32 × jW)) :=
  some (.inr ((kI (-2)), W))
noncomputable def fmo_edge_86 (t : Nat) (a1 : Int64) (a3 : Int64) (a5 : Int32) (W : jW) : Option (fmo_edge_S ⊕ (Int32 × jW)) :=
  some (.inr ((kI (-3)), W))
noncomputable def fmo_edge_172 (t : Nat) (a1 : Int64) (a3 : Int64) (a5 : Int32) (l8 : Int32) (l9 : Int32) (l10 : Int32) (l11 : Int32) (W : jW) : Option (fmo_edge_S ⊕ (Int32 × jW)) :=
  jlt (l11 + (kI 1)) fun v20 => some (.inl (l8, l9, l10, v20, W))
noncomputable def fmo_edge_256 (t : Nat) (a1 : Int64) (a3 : Int64) (a5 : Int32) (l11 : Int32) (W : jW) : Option (fmo_edge_S ⊕ (Int32 × jW)) :=
  gd (jC W t = 13) <|
  gd (jin l11 (jN W 1333 t)) <|
  gd (jin l11 (jN W 1333 t)) <|
  jlt (pB W 1333 t (ix l11) ((jB W 1333 t (ix l11)) + a5.toInt64)) fun W58 =>
  some (.inr ((kI 0), W58))
noncomputable def fmo_edge_237 (t : Nat) (a1 : Int64) (a3 : Int64) (a5 : Int32) (l11 : Int32) (s0 : Int32) (s1 : Int32) (s2 : Nat) (W : jW) : Option (fmo_edge_S ⊕ (Int32 × jW)) :=
  gd (jR W 1332 t = s2) <|
  gd (jin s1 (jN W 1332 t)) <|
  jlt (pA W 1332 t (ix s1) (i2z s0)) fun W41 =>
  gd (jC W41 t = 13) <|
  gd (jin l11 (jN W41 1333 t)) <|
  jlt (pB W41 1333 t (ix l11) (kJ 0)) fun W46 =>
  jlt (sI W46 1329 t ((jI W46 1329 t) + (kI 1))) fun W50 =>
  fmo_edge_256 t a1 a3 a5 l11 W50
noncomputable def fmo_edge_203 (t : Nat) (a1 : Int64) (a3 : Int64) (a5 : Int32) (l8 : Int32) (l9 : Int32) (l10 : Int32) (l11 : Int32) (W : jW) : Option (fmo_edge_S ⊕ (Int32 × jW)) :=
  gd (jC W t = 13) <|
  gd (jin l11 (jN W 1330 t)) <|
  jlt (pA W 1330 t (ix l11) l8) fun W29 =>
  gd (jin l11 (jN W29 1331 t)) <|
  jlt (pA W29 1331 t (ix l11) l9) fun W34 =>
  if l10 = (0 : Int32) then
    (fmo_edge_237 t a1 a3 a5 l11 (kI 1) l11 (jR W34 1332 t) W34)
  else
    (fmo_edge_237 t a1 a3 a5 l11 (kI 0) l11 (jR W34 1332 t) W34)
noncomputable def fmo_edge_178 (t : Nat) (a1 : Int64) (a3 : Int64) (a5 : Int32) (l8 : Int32) (l9 : Int32) (l10 : Int32) (l11 : Int32) (W : jW) : Option (fmo_edge_S ⊕ (Int32 × jW)) :=
  gd (jC W t = 13) <|
  if l11 = (jI W 1329 t) then
    (gd (¬ jR W 1330 t = 0) <|
  if (jI W 1329 t) = (nI (jN W 1330 t)) then
    ((fmo_more t W).bind fun q24 => fmo_edge_203 t a1 a3 a5 l8 l9 l10 l11 q24)
  else
    (fmo_edge_203 t a1 a3 a5 l8 l9 l10 l11 W))
  else
    (fmo_edge_256 t a1 a3 a5 l11 W)
noncomputable def fmo_edge_139 (t : Nat) (a1 : Int64) (a3 : Int64) (a5 : Int32) (l8 : Int32) (l9 : Int32) (l10 : Int32) (l11 : Int32) (W : jW) : Option (fmo_edge_S ⊕ (Int32 × jW)) :=
  gd (jC W t = 13) <|
  if l11 < (jI W 1329 t) then
    (gd (jin l11 (jN W 1330 t)) <|
  if (jA W 1330 t (ix l11)) = l8 then
    (gd (jin l11 (jN W 1331 t)) <|
  if (jA W 1331 t (ix l11)) = l9 then
    (fmo_edge_178 t a1 a3 a5 l8 l9 l10 l11 W)
  else
    (fmo_edge_172 t a1 a3 a5 l8 l9 l10 l11 W))
  else
    (fmo_edge_172 t a1 a3 a5 l8 l9 l10 l11 W))
  else
    (fmo_edge_178 t a1 a3 a5 l8 l9 l10 l11 W)
noncomputable def fmo_edge_136 (t : Nat) (a1 : Int64) (a3 : Int64) (a5 : Int32) (l8 : Int32) (l9 : Int32) (l10 : Int32) (W : jW) : Option (fmo_edge_S ⊕ (Int32 × jW)) :=
  some (.inl (l8, l9, l10, (kI 0), W))
noncomputable def fmo_edge_st (t : Nat) (a1 : Int64) (a3 : Int64) (a5 : Int32) : fmo_edge_S → Option (fmo_edge_S ⊕ (Int32 × jW)) :=
  (fun s => fmo_edge_139 t a1 a3 a5 s.1 s.2.1 s.2.2.1 s.2.2.2.1 s.2.2.2.2)
noncomputable def fmo_edge_0 (t : Nat) (a1 : Int64) (a3 : Int64) (a5 : Int32) (W : jW) : Option (fmo_edge_S ⊕ (Int32 × jW)) :=
  gd (jC W t = 13) <|
  if (jI W 1307 t) = (0 : Int32) then
    (some (.inr ((kI (-14)), W)))
  else
    (if a5 < (kI 1) then
      (fmo_edge_24 t a1 a3 a5 W)
    else
      (if (kI 1000000000) < a5 then
      (fmo_edge_24 t a1 a3 a5 W)
    else
      ((fmo_wordAt t a1 W).bind fun q2 =>
      (fmo_wordAt t a3 W).bind fun q3 =>
      if q2 < (0 : Int32) then
        (fmo_edge_61 t a1 a3 a5 W)
      else
        (gd (jin q2 (jN W 1317 t)) <|
      (fmo_last t (jA W 1317 t (ix q2)) W).bind fun q5 =>
      if q5 = q2 then
        (if q3 < (0 : Int32) then
          (fmo_edge_86 t a1 a3 a5 W)
        else
          (gd (jin q3 (jN W 1317 t)) <|
        gd (jin (jA W 1317 t (ix q3)) (jN W 1322 t)) <|
        if (jA W 1322 t (ix (jA W 1317 t (ix q3)))) = q3 then
          (gd (jin q2 (jN W 1317 t)) <|
          jlt (jA W 1317 t (ix q2)) fun v9 =>
          gd (jin q3 (jN W 1317 t)) <|
          jlt (jA W 1317 t (ix q3)) fun v11 =>
          (fmo_isWay t v9 v11 W).bind fun q12 =>
          if q12 = (0 : Int32) then
            ((fmo_isCallOf t v9 v11 W).bind fun q13 =>
          if q13 = (0 : Int32) then
            (some (.inr ((kI (-4)), W)))
          else
            (fmo_edge_136 t a1 a3 a5 v9 v11 q12 W))
          else
            (fmo_edge_136 t a1 a3 a5 v9 v11 q12 W))
        else
          (fmo_edge_86 t a1 a3 a5 W)))
      else
        (fmo_edge_61 t a1 a3 a5 W)))))
noncomputable def fmo_edge (t : Nat) (a1 : Int64) (a3 : Int64) (a5 : Int32) (W : jW) : Option (Int32 × jW) :=
  jrn (fmo_edge_st t a1 a3 a5) (fmo_edge_0 t a1 a3 a5 W)
abbrev fmo_way_S : Type := (Int32)
noncomputable def fmo_way_53 (t : Nat) (a1 : Int32) (a2 : Int32) (l3 : Int32) (W : jW) : Option (fmo_way_S ⊕ (Int64)) :=
  jlt (l3 + (kI 1)) fun v8 => some (.inl v8)
noncomputable def fmo_way_59 (t : Nat) (a1 : Int32) (a2 : Int32) (W : jW) : Option (fmo_way_S ⊕ (Int64)) :=
  some (.inr (kJ 0))
noncomputable def fmo_way_2 (t : Nat) (a1 : Int32) (a2 : Int32) (l3 : Int32) (W : jW) : Option (fmo_way_S ⊕ (Int64)) :=
  gd (jC W t = 13) <|
  if l3 < (jI W 1329 t) then
    (if (jI W 1307 t) = (0 : Int32) then
    (fmo_way_59 t a1 a2 W)
  else
    (gd (jin l3 (jN W 1332 t)) <|
  if (jA W 1332 t (ix l3)) = (0 : Int32) then
    (gd (jin l3 (jN W 1330 t)) <|
  if (jA W 1330 t (ix l3)) = a1 then
    (gd (jin l3 (jN W 1331 t)) <|
  if (jA W 1331 t (ix l3)) = a2 then
    (gd (jin l3 (jN W 1333 t)) <| some (.inr (jB W 1333 t (ix l3))))
  else
    (fmo_way_53 t a1 a2 l3 W))
  else
    (fmo_way_53 t a1 a2 l3 W))
  else
    (fmo_way_53 t a1 a2 l3 W)))
  else
    (fmo_way_59 t a1 a2 W)
noncomputable def fmo_way_st (t : Nat) (a1 : Int32) (a2 : Int32) (W : jW) : fmo_way_S → Option (fmo_way_S ⊕ (Int64)) :=
  (fun s => fmo_way_2 t a1 a2 s W)
noncomputable def fmo_way_0 (t : Nat) (a1 : Int32) (a2 : Int32) (W : jW) : Option (fmo_way_S ⊕ (Int64)) :=
  some (.inl (kI 0))
noncomputable def fmo_way (t : Nat) (a1 : Int32) (a2 : Int32) (W : jW) : Option (Int64) :=
  jrn (fmo_way_st t a1 a2 W) (fmo_way_0 t a1 a2 W)
abbrev fmo_calls_S : Type := (Int64 × Int32)
noncomputable def fmo_calls_73 (t : Nat) (a1 : Int32) (a2 : Int32) (l3 : Int64) (l5 : Int32) (W : jW) : Option (fmo_calls_S ⊕ (Int64)) :=
  jlt (l5 + (kI 1)) fun v11 => some (.inl (l3, v11))
noncomputable def fmo_calls_79 (t : Nat) (a1 : Int32) (a2 : Int32) (l3 : Int64) (W : jW) : Option (fmo_calls_S ⊕ (Int64)) :=
  some (.inr l3)
noncomputable def fmo_calls_5 (t : Nat) (a1 : Int32) (a2 : Int32) (l3 : Int64) (l5 : Int32) (W : jW) : Option (fmo_calls_S ⊕ (Int64)) :=
  gd (jC W t = 13) <|
  if l5 < (jI W 1329 t) then
    (if (jI W 1307 t) = (0 : Int32) then
    (fmo_calls_79 t a1 a2 l3 W)
  else
    (gd (jin l5 (jN W 1332 t)) <|
  if (jA W 1332 t (ix l5)) = (0 : Int32) then
    (fmo_calls_73 t a1 a2 l3 l5 W)
  else
    (gd (jin l5 (jN W 1330 t)) <|
  gd (jin (jA W 1330 t (ix l5)) (jN W 1324 t)) <|
  if (jA W 1324 t (ix (jA W 1330 t (ix l5)))) = a1 then
    (gd (jin l5 (jN W 1331 t)) <|
  gd (jin (jA W 1331 t (ix l5)) (jN W 1324 t)) <|
  if (jA W 1324 t (ix (jA W 1331 t (ix l5)))) = a2 then
    (gd (jin l5 (jN W 1333 t)) <| jlt (l3 + (jB W 1333 t (ix l5))) fun v9 => fmo_calls_73 t a1 a2 v9 l5 W)
  else
    (fmo_calls_73 t a1 a2 l3 l5 W))
  else
    (fmo_calls_73 t a1 a2 l3 l5 W))))
  else
    (fmo_calls_79 t a1 a2 l3 W)
noncomputable def fmo_calls_st (t : Nat) (a1 : Int32) (a2 : Int32) (W : jW) : fmo_calls_S → Option (fmo_calls_S ⊕ (Int64)) :=
  (fun s => fmo_calls_5 t a1 a2 s.1 s.2 W)
noncomputable def fmo_calls_0 (t : Nat) (a1 : Int32) (a2 : Int32) (W : jW) : Option (fmo_calls_S ⊕ (Int64)) :=
  some (.inl ((kJ 0), (kI 0)))
noncomputable def fmo_calls (t : Nat) (a1 : Int32) (a2 : Int32) (W : jW) : Option (Int64) :=
  jrn (fmo_calls_st t a1 a2 W) (fmo_calls_0 t a1 a2 W)
abbrev fmo_same_S : Type := (Int32 × jW) ⊕ (Int32 × jW) ⊕ (Int32 × Int32 × jW)
noncomputable def fmo_same_91 (t : Nat) (l1 : Int32) (l2 : Int32) (W : jW) : Option (fmo_same_S ⊕ (Int32 × jW)) :=
  gd (jC W t = 13) <|
  gd (jC W (jR W 1351 t) = 15) <|
  (fwn_length (jR W 1351 t) l1 W).bind fun q32 =>
  if l2 < q32 then
    ((fwn_whole (jR W 1351 t) l1 l2 W).bind fun q34 =>
  gd (jC q34.2 t = 13) <|
  gd (jC q34.2 (jR q34.2 1351 t) = 15) <|
  gd (jin l1 (jN q34.2 1503 (jR q34.2 1351 t))) <|
  gd (jin ((jA q34.2 1503 (jR q34.2 1351 t) (ix l1)) + l2) (jN q34.2 1315 t)) <|
  if q34.1 = (jA q34.2 1315 t (ix ((jA q34.2 1503 (jR q34.2 1351 t) (ix l1)) + l2))) then
    (jlt (l2 + (kI 1)) fun v40 => some (.inl (.inr (.inr (l1, v40, q34.2)))))
  else
    (some (.inr ((kI 0), q34.2))))
  else
    (jlt (l1 + (kI 1)) fun v33 => some (.inl (.inr (.inl (v33, W)))))
noncomputable def fmo_same_81 (t : Nat) (l1 : Int32) (W : jW) : Option (fmo_same_S ⊕ (Int32 × jW)) :=
  gd (jC W t = 13) <| if l1 < (jI W 1312 t) then
    (some (.inl (.inr (.inr (l1, (kI 0), W)))))
  else
    (some (.inr ((kI 1), W)))
noncomputable def fmo_same_11 (t : Nat) (l1 : Int32) (W : jW) : Option (fmo_same_S ⊕ (Int32 × jW)) :=
  gd (jC W t = 13) <|
  if l1 < (jI W 1312 t) then
    (gd (jC W (jR W 1351 t) = 15) <|
  gd (jin l1 (jN W 1501 (jR W 1351 t))) <|
  jlt (pA W 1501 (jR W 1351 t) (ix l1) l1) fun W21 =>
  jlt (l1 + (kI 1)) fun v26 =>
  some (.inl (.inl (v26, W21))))
  else
    (gd (jC W (jR W 1351 t) = 15) <|
    jlt (sI W 1502 (jR W 1351 t) (jI W 1312 t)) fun W5 =>
    gd (jC W5 (jR W5 1351 t) = 15) <|
    (fwn_shape (jR W5 1351 t) W5).bind fun q11 =>
    gd (jC q11 t = 13) <|
    gd (jC q11 (jR q11 1351 t) = 15) <|
    (fwn_settle (jR q11 1351 t) (kJ 4) q11).bind fun q15 =>
    gd (jC q15 t = 13) <|
    gd (jC q15 (jR q15 1351 t) = 15) <|
    if (jI q15 1508 (jR q15 1351 t)) = (jI q15 1310 t) then
      (some (.inl (.inr (.inl ((kI 0), q15)))))
    else
      (some (.inr ((kI 0), q15))))
noncomputable def fmo_same_st (t : Nat) : fmo_same_S → Option (fmo_same_S ⊕ (Int32 × jW)) :=
  (Sum.elim (fun s => fmo_same_11 t s.1 s.2) (Sum.elim (fun s => fmo_same_81 t s.1 s.2) (fun s => fmo_same_91 t s.1 s.2.1 s.2.2)))
noncomputable def fmo_same_0 (t : Nat) (W : jW) : Option (fmo_same_S ⊕ (Int32 × jW)) :=
  gd (jC W t = 13) <| if (jI W 1307 t) = (0 : Int32) then
    (some (.inr ((kI 0), W)))
  else
    (some (.inl (.inl ((kI 0), W))))
noncomputable def fmo_same (t : Nat) (W : jW) : Option (Int32 × jW) :=
  jrn (fmo_same_st t) (fmo_same_0 t W)
abbrev fmo_hotWords_S : Type := (Int32 × Int32)
noncomputable def fmo_hotWords_45 (t : Nat) (a1 : Int32) (l2 : Int32) (l3 : Int32) (W : jW) : Option (fmo_hotWords_S ⊕ (Int32)) :=
  jlt (l3 + (kI 1)) fun v11 => some (.inl (l2, v11))
noncomputable def fmo_hotWords_51 (t : Nat) (a1 : Int32) (l2 : Int32) (W : jW) : Option (fmo_hotWords_S ⊕ (Int32)) :=
  some (.inr l2)
noncomputable def fmo_hotWords_9 (t : Nat) (a1 : Int32) (l2 : Int32) (l3 : Int32) (W : jW) : Option (fmo_hotWords_S ⊕ (Int32)) :=
  gd (jC W t = 13) <|
  if l3 < (jI W 1312 t) then
    (gd (jin l3 (jN W 1324 t)) <|
  if (jA W 1324 t (ix l3)) = a1 then
    (gd (jin l3 (jN W 1334 t)) <|
  if (jA W 1334 t (ix l3)) = (0 : Int32) then
    (fmo_hotWords_45 t a1 l2 l3 W)
  else
    (gd (jin l3 (jN W 1323 t)) <| jlt (l2 + (jA W 1323 t (ix l3))) fun v9 => fmo_hotWords_45 t a1 v9 l3 W))
  else
    (fmo_hotWords_51 t a1 l2 W))
  else
    (fmo_hotWords_51 t a1 l2 W)
noncomputable def fmo_hotWords_st (t : Nat) (a1 : Int32) (W : jW) : fmo_hotWords_S → Option (fmo_hotWords_S ⊕ (Int32)) :=
  (fun s => fmo_hotWords_9 t a1 s.1 s.2 W)
noncomputable def fmo_hotWords_0 (t : Nat) (a1 : Int32) (W : jW) : Option (fmo_hotWords_S ⊕ (Int32)) :=
  gd (jC W t = 13) <| gd (jin a1 (jN W 1321 t)) <| jlt (jA W 1321 t (ix a1)) fun v3 => some (.inl ((kI 0), v3))
noncomputable def fmo_hotWords (t : Nat) (a1 : Int32) (W : jW) : Option (Int32) :=
  jrn (fmo_hotWords_st t a1 W) (fmo_hotWords_0 t a1 W)
abbrev fmo_callerOf_S : Type := (Int32 × jW) ⊕ (Int32 × jW) ⊕ (Int32 × Int32 × jW)
noncomputable def fmo_callerOf_97 (t : Nat) (a1 : Int32) (l2 : Int32) (W : jW) : Option (fmo_callerOf_S ⊕ (Int32 × jW)) :=
  jlt (l2 + (kI 1)) fun v26 => some (.inl (.inr (.inl (v26, W))))
noncomputable def fmo_callerOf_148 (t : Nat) (a1 : Int32) (l2 : Int32) (l3 : Int32) (W : jW) : Option (fmo_callerOf_S ⊕ (Int32 × jW)) :=
  jlt (l3 + (kI 1)) fun v34 => some (.inl (.inr (.inr (l2, v34, W))))
noncomputable def fmo_callerOf_146 (t : Nat) (a1 : Int32) (l3 : Int32) (W : jW) : Option (fmo_callerOf_S ⊕ (Int32 × jW)) :=
  fmo_callerOf_148 t a1 l3 l3 W
noncomputable def fmo_callerOf_107 (t : Nat) (a1 : Int32) (l2 : Int32) (l3 : Int32) (W : jW) : Option (fmo_callerOf_S ⊕ (Int32 × jW)) :=
  gd (jC W t = 13) <|
  if l3 < (jI W 1311 t) then
    (gd (jin l3 (jN W 1349 t)) <|
  if (kJ 0) < (jB W 1349 t (ix l3)) then
    (if l2 < (0 : Int32) then
    (fmo_callerOf_146 t a1 l3 W)
  else
    (gd (jin l3 (jN W 1349 t)) <|
  gd (jin l2 (jN W 1349 t)) <|
  if (jB W 1349 t (ix l2)) < (jB W 1349 t (ix l3)) then
    (fmo_callerOf_146 t a1 l3 W)
  else
    (fmo_callerOf_148 t a1 l2 l3 W)))
  else
    (fmo_callerOf_148 t a1 l2 l3 W))
  else
    (some (.inr (l2, W)))
noncomputable def fmo_callerOf_25 (t : Nat) (a1 : Int32) (l2 : Int32) (W : jW) : Option (fmo_callerOf_S ⊕ (Int32 × jW)) :=
  gd (jC W t = 13) <|
  if l2 < (jI W 1329 t) then
    (gd (jin l2 (jN W 1332 t)) <|
  if (jA W 1332 t (ix l2)) = (0 : Int32) then
    (fmo_callerOf_97 t a1 l2 W)
  else
    (gd (jin l2 (jN W 1331 t)) <|
  gd (jin (jA W 1331 t (ix l2)) (jN W 1324 t)) <|
  if (jA W 1324 t (ix (jA W 1331 t (ix l2)))) = a1 then
    (gd (jin l2 (jN W 1330 t)) <|
  gd (jin (jA W 1330 t (ix l2)) (jN W 1324 t)) <|
  if (jA W 1324 t (ix (jA W 1330 t (ix l2)))) = a1 then
    (fmo_callerOf_97 t a1 l2 W)
  else
    (gd (jin l2 (jN W 1330 t)) <|
  gd (jin (jA W 1330 t (ix l2)) (jN W 1324 t)) <|
  gd (jin (jA W 1324 t (ix (jA W 1330 t (ix l2)))) (jN W 1349 t)) <|
  gd (jin l2 (jN W 1333 t)) <|
  gd (jin (jA W 1324 t (ix (jA W 1330 t (ix l2)))) (jN W 1349 t)) <|
  jlt (pB W 1349 t (ix (jA W 1324 t (ix (jA W 1330 t (ix l2))))) ((jB W 1349 t (ix (jA W 1324 t (ix (jA W 1330 t (ix l2)))))) + (jB W 1333 t (ix l2)))) fun W21 =>
  fmo_callerOf_97 t a1 l2 W21))
  else
    (fmo_callerOf_97 t a1 l2 W)))
  else
    (some (.inl (.inr (.inr ((kI (-1)), (kI 0), W)))))
noncomputable def fmo_callerOf_2 (t : Nat) (a1 : Int32) (l2 : Int32) (W : jW) : Option (fmo_callerOf_S ⊕ (Int32 × jW)) :=
  gd (jC W t = 13) <|
  if l2 < (jI W 1311 t) then
    (gd (jin l2 (jN W 1349 t)) <| jlt (pB W 1349 t (ix l2) (kJ 0)) fun W4 => jlt (l2 + (kI 1)) fun v8 => some (.inl (.inl (v8, W4))))
  else
    (some (.inl (.inr (.inl ((kI 0), W)))))
noncomputable def fmo_callerOf_st (t : Nat) (a1 : Int32) : fmo_callerOf_S → Option (fmo_callerOf_S ⊕ (Int32 × jW)) :=
  (Sum.elim (fun s => fmo_callerOf_2 t a1 s.1 s.2) (Sum.elim (fun s => fmo_callerOf_25 t a1 s.1 s.2) (fun s => fmo_callerOf_107 t a1 s.1 s.2.1 s.2.2)))
noncomputable def fmo_callerOf_0 (t : Nat) (a1 : Int32) (W : jW) : Option (fmo_callerOf_S ⊕ (Int32 × jW)) :=
  some (.inl (.inl ((kI 0), W)))
noncomputable def fmo_callerOf (t : Nat) (a1 : Int32) (W : jW) : Option (Int32 × jW) :=
  jrn (fmo_callerOf_st t a1) (fmo_callerOf_0 t a1 W)
abbrev fmo_gather_S : Type := (Int32 × jW) ⊕ (Int32 × jW) ⊕ (Int32 × Int32 × Int32 × jW) ⊕ (Int32 × Int32 × Int32 × Int32 × jW)
noncomputable def fmo_gather_42 (t : Nat) (a1 : Int32) (l2 : Int32) (s0 : Int32) (s1 : Int32) (s2 : Nat) (W : jW) : Option (fmo_gather_S ⊕ (jW)) :=
  gd (jR W 1344 t = s2) <|
  gd (jin s1 (jN W 1344 t)) <|
  jlt (pA W 1344 t (ix s1) s0) fun W17 =>
  gd (jC W17 t = 13) <|
  (fmo_heat t l2 W17).bind fun q21 =>
  gd (jin l2 (jN W17 1347 t)) <|
  jlt (pB W17 1347 t (ix l2) q21) fun W23 =>
  gd (jin l2 (jN W23 1347 t)) <|
  gd (jin l2 (jN W23 1345 t)) <|
  jlt (pB W23 1345 t (ix l2) (jB W23 1347 t (ix l2))) fun W29 =>
  (fmo_hotWords t l2 W29).bind fun q33 =>
  gd (jin l2 (jN W29 1346 t)) <|
  jlt (pB W29 1346 t (ix l2) ((kJ 4) * q33.toInt64)) fun W35 =>
  gd (jin l2 (jN W35 1337 t)) <|
  jlt (pA W35 1337 t (ix l2) (i2z (kI 0))) fun W40 =>
  jlt (l2 + (kI 1)) fun v44 =>
  some (.inl (.inl (v44, W40)))
noncomputable def fmo_gather_153 (t : Nat) (a1 : Int32) (l2 : Int32) (l3 : Int32) (l4 : Int32) (W : jW) : Option (fmo_gather_S ⊕ (jW)) :=
  jlt (l4 + (kI 1)) fun v74 => some (.inl (.inr (.inr (.inl (l2, l3, v74, W)))))
noncomputable def fmo_gather_150 (t : Nat) (a1 : Int32) (l2 : Int32) (l4 : Int32) (W : jW) : Option (fmo_gather_S ⊕ (jW)) :=
  fmo_gather_153 t a1 l2 l4 l4 W
noncomputable def fmo_gather_389 (t : Nat) (a1 : Int32) (l2 : Int32) (W : jW) : Option (fmo_gather_S ⊕ (jW)) :=
  jlt (l2 + (kI 1)) fun v120 => some (.inl (.inr (.inl (v120, W))))
noncomputable def fmo_gather_324 (t : Nat) (a1 : Int32) (l2 : Int32) (l5 : Int32) (l6 : Int32) (l7 : Int32) (W : jW) : Option (fmo_gather_S ⊕ (jW)) :=
  jlt (l7 + (kI 1)) fun v118 => some (.inl (.inr (.inr (.inr (l2, l5, l6, v118, W)))))
noncomputable def fmo_gather_264 (t : Nat) (a1 : Int32) (l2 : Int32) (l5 : Int32) (l6 : Int32) (l7 : Int32) (W : jW) : Option (fmo_gather_S ⊕ (jW)) :=
  gd (jC W t = 13) <|
  if l7 < (jI W 1311 t) then
    (gd (jin l7 (jN W 1342 t)) <|
  if (jA W 1342 t (ix l7)) = l6 then
    (gd (jin l6 (jN W 1344 t)) <|
  if (jA W 1344 t (ix l6)) = (0 : Int32) then
    (fmo_gather_324 t a1 l2 l5 l6 l7 W)
  else
    (gd (jin l7 (jN W 1342 t)) <|
    jlt (pA W 1342 t (ix l7) l5) fun W106 =>
    gd (jin l7 (jN W106 1343 t)) <|
    gd (jin l5 (jN W106 1344 t)) <|
    gd (jin l7 (jN W106 1343 t)) <|
    jlt (pA W106 1343 t (ix l7) ((jA W106 1343 t (ix l7)) + (jA W106 1344 t (ix l5)))) fun W113 =>
    fmo_gather_324 t a1 l2 l5 l6 l7 W113))
  else
    (fmo_gather_324 t a1 l2 l5 l6 l7 W))
  else
    (gd (jin l5 (jN W 1344 t)) <|
    gd (jin l6 (jN W 1344 t)) <|
    gd (jin l5 (jN W 1344 t)) <|
    jlt (pA W 1344 t (ix l5) ((jA W 1344 t (ix l5)) + (jA W 1344 t (ix l6)))) fun W80 =>
    gd (jin l6 (jN W80 1344 t)) <|
    jlt (pA W80 1344 t (ix l6) (kI 0)) fun W85 =>
    gd (jin l5 (jN W85 1345 t)) <|
    gd (jin l6 (jN W85 1345 t)) <|
    gd (jin l5 (jN W85 1345 t)) <|
    jlt (pB W85 1345 t (ix l5) ((jB W85 1345 t (ix l5)) + (jB W85 1345 t (ix l6)))) fun W92 =>
    gd (jin l5 (jN W92 1346 t)) <|
    gd (jin l6 (jN W92 1346 t)) <|
    gd (jin l5 (jN W92 1346 t)) <|
    jlt (pB W92 1346 t (ix l5) ((jB W92 1346 t (ix l5)) + (jB W92 1346 t (ix l6)))) fun W99 =>
    fmo_gather_389 t a1 l2 W99)
noncomputable def fmo_gather_110 (t : Nat) (a1 : Int32) (l2 : Int32) (l3 : Int32) (l4 : Int32) (W : jW) : Option (fmo_gather_S ⊕ (jW)) :=
  gd (jC W t = 13) <|
  if l4 < (jI W 1311 t) then
    (gd (jin l4 (jN W 1337 t)) <|
  if (jA W 1337 t (ix l4)) = (0 : Int32) then
    (if l3 < (0 : Int32) then
    (fmo_gather_150 t a1 l2 l4 W)
  else
    (gd (jin l4 (jN W 1347 t)) <|
  gd (jin l3 (jN W 1347 t)) <|
  if (jB W 1347 t (ix l3)) < (jB W 1347 t (ix l4)) then
    (fmo_gather_150 t a1 l2 l4 W)
  else
    (fmo_gather_153 t a1 l2 l3 l4 W)))
  else
    (fmo_gather_153 t a1 l2 l3 l4 W))
  else
    (gd (jin l3 (jN W 1337 t)) <|
    jlt (pA W 1337 t (ix l3) (i2z (kI 1))) fun W50 =>
    gd (jin l3 (jN W50 1342 t)) <|
    gd (jin (jA W50 1342 t (ix l3)) (jN W50 1344 t)) <|
    if (jA W50 1344 t (ix (jA W50 1342 t (ix l3)))) = (0 : Int32) then
      (fmo_gather_389 t a1 l2 W50)
    else
      ((fmo_callerOf t l3 W50).bind fun q56 =>
      if q56.1 < (0 : Int32) then
        (fmo_gather_389 t a1 l2 q56.2)
      else
        (gd (jC q56.2 t = 13) <|
      gd (jin q56.1 (jN q56.2 1342 t)) <|
      gd (jin l3 (jN q56.2 1342 t)) <|
      if (jA q56.2 1342 t (ix q56.1)) = (jA q56.2 1342 t (ix l3)) then
        (fmo_gather_389 t a1 l2 q56.2)
      else
        (gd (jin l3 (jN q56.2 1342 t)) <|
      gd (jin (jA q56.2 1342 t (ix l3)) (jN q56.2 1346 t)) <|
      gd (jin q56.1 (jN q56.2 1342 t)) <|
      gd (jin (jA q56.2 1342 t (ix q56.1)) (jN q56.2 1346 t)) <|
      if a1.toInt64 < ((jB q56.2 1346 t (ix (jA q56.2 1342 t (ix l3)))) + (jB q56.2 1346 t (ix (jA q56.2 1342 t (ix q56.1))))) then
        (fmo_gather_389 t a1 l2 q56.2)
      else
        (gd (jin q56.1 (jN q56.2 1342 t)) <|
        jlt (jA q56.2 1342 t (ix q56.1)) fun v66 =>
        gd (jin l3 (jN q56.2 1342 t)) <|
        jlt (jA q56.2 1342 t (ix l3)) fun v68 =>
        some (.inl (.inr (.inr (.inr (l2, v66, v68, (kI 0), q56.2))))))))))
noncomputable def fmo_gather_97 (t : Nat) (a1 : Int32) (l2 : Int32) (W : jW) : Option (fmo_gather_S ⊕ (jW)) :=
  gd (jC W t = 13) <| if l2 < (jI W 1311 t) then
    (some (.inl (.inr (.inr (.inl (l2, (kI (-1)), (kI 0), W))))))
  else
    (some (.inr W))
noncomputable def fmo_gather_2 (t : Nat) (a1 : Int32) (l2 : Int32) (W : jW) : Option (fmo_gather_S ⊕ (jW)) :=
  gd (jC W t = 13) <|
  if l2 < (jI W 1311 t) then
    (gd (jin l2 (jN W 1342 t)) <|
  jlt (pA W 1342 t (ix l2) l2) fun W4 =>
  gd (jin l2 (jN W4 1343 t)) <|
  jlt (pA W4 1343 t (ix l2) (kI 0)) fun W9 =>
  (fmo_hotWords t l2 W9).bind fun q13 =>
  if (0 : Int32) < q13 then
    (fmo_gather_42 t a1 l2 (kI 1) l2 (jR W9 1344 t) W9)
  else
    (fmo_gather_42 t a1 l2 (kI 0) l2 (jR W9 1344 t) W9))
  else
    (some (.inl (.inr (.inl ((kI 0), W)))))
noncomputable def fmo_gather_st (t : Nat) (a1 : Int32) : fmo_gather_S → Option (fmo_gather_S ⊕ (jW)) :=
  (Sum.elim (fun s => fmo_gather_2 t a1 s.1 s.2) (Sum.elim (fun s => fmo_gather_97 t a1 s.1 s.2) (Sum.elim (fun s => fmo_gather_110 t a1 s.1 s.2.1 s.2.2.1 s.2.2.2) (fun s => fmo_gather_264 t a1 s.1 s.2.1 s.2.2.1 s.2.2.2.1 s.2.2.2.2))))
noncomputable def fmo_gather_0 (t : Nat) (a1 : Int32) (W : jW) : Option (fmo_gather_S ⊕ (jW)) :=
  some (.inl (.inl ((kI 0), W)))
noncomputable def fmo_gather (t : Nat) (a1 : Int32) (W : jW) : Option (jW) :=
  jrn (fmo_gather_st t a1) (fmo_gather_0 t a1 W)
noncomputable def fmo_falls_41 (t : Nat) (a1 : Int32) (a2 : Int32) (W : jW) : Option (Int32) :=
  some (kI 0)
noncomputable def fmo_falls_72 (t : Nat) (a1 : Int32) (a2 : Int32) (W : jW) : Option (Int32) :=
  some (kI 1)
noncomputable def fmo_falls_76 (t : Nat) (a1 : Int32) (a2 : Int32) (W : jW) : Option (Int32) :=
  some (kI 0)
noncomputable def fmo_falls (t : Nat) (a1 : Int32) (a2 : Int32) (W : jW) : Option (Int32) :=
  gd (jC W t = 13) <|
  gd (jin a1 (jN W 1325 t)) <|
  if (jA W 1325 t (ix a1)) = (kI 1) then
    (gd (jin a1 (jN W 1326 t)) <|
  if (jA W 1326 t (ix a1)) = a2 then
    (gd (jin a1 (jN W 1323 t)) <|
  if (kI 1) < (jA W 1323 t (ix a1)) then
    (if a2 = (a1 + (kI 1)) then
    (fmo_falls_41 t a1 a2 W)
  else
    (some (kI 1)))
  else
    (fmo_falls_41 t a1 a2 W))
  else
    (fmo_falls_41 t a1 a2 W))
  else
    ((fmo_next t a1 W).bind fun q3 =>
    if q3 = a2 then
      (fmo_falls_72 t a1 a2 W)
    else
      (gd (jin a1 (jN W 1325 t)) <|
    if (jA W 1325 t (ix a1)) = (kI 3) then
      (gd (jin a1 (jN W 1326 t)) <| if (jA W 1326 t (ix a1)) = a2 then
      (fmo_falls_72 t a1 a2 W)
    else
      (fmo_falls_76 t a1 a2 W))
    else
      (fmo_falls_76 t a1 a2 W)))
noncomputable def fmo_comesBefore (t : Nat) (a1 : Int32) (a2 : Int32) (W : jW) : Option (Int32) :=
  gd (jC W t = 13) <|
  gd (jin a1 (jN W 1333 t)) <|
  gd (jin a2 (jN W 1333 t)) <|
  if (jB W 1333 t (ix a1)) = (jB W 1333 t (ix a2)) then
    (gd (jin a1 (jN W 1330 t)) <|
    gd (jin a2 (jN W 1330 t)) <|
    if (jA W 1330 t (ix a1)) = (jA W 1330 t (ix a2)) then
      (gd (jin a1 (jN W 1331 t)) <|
      gd (jin a2 (jN W 1331 t)) <|
      if (jA W 1331 t (ix a1)) < (jA W 1331 t (ix a2)) then
        (some (kI 1))
      else
        (some (kI 0)))
    else
      (gd (jin a1 (jN W 1330 t)) <|
    gd (jin a2 (jN W 1330 t)) <|
    if (jA W 1330 t (ix a1)) < (jA W 1330 t (ix a2)) then
      (some (kI 1))
    else
      (some (kI 0))))
  else
    (gd (jin a1 (jN W 1333 t)) <|
  gd (jin a2 (jN W 1333 t)) <|
  if (jB W 1333 t (ix a2)) < (jB W 1333 t (ix a1)) then
    (some (kI 1))
  else
    (some (kI 0)))
abbrev fmo_join_S : Type := (Int32 × jW) ⊕ (Int32 × Int32 × Int32 × jW) ⊕ (Int32 × Int32 × Int32 × jW)
noncomputable def fmo_join_101 (t : Nat) (a1 : Int32) (a2 : Int32) (l3 : Int32) (l4 : Int32) (l5 : Int32) (W : jW) : Option (fmo_join_S ⊕ (jW)) :=
  jlt (l5 + (kI 1)) fun v29 => some (.inl (.inr (.inl (l3, l4, v29, W))))
noncomputable def fmo_join_97 (t : Nat) (a1 : Int32) (a2 : Int32) (l3 : Int32) (l5 : Int32) (W : jW) : Option (fmo_join_S ⊕ (jW)) :=
  fmo_join_101 t a1 a2 l3 l5 l5 W
noncomputable def fmo_join_81 (t : Nat) (a1 : Int32) (a2 : Int32) (l3 : Int32) (l4 : Int32) (l5 : Int32) (W : jW) : Option (fmo_join_S ⊕ (jW)) :=
  if l4 < (0 : Int32) then
    (fmo_join_97 t a1 a2 l3 l5 W)
  else
    (gd (jC W t = 13) <|
  (fmo_comesBefore t l5 l4 W).bind fun q26 =>
  if q26 = (0 : Int32) then
    (fmo_join_101 t a1 a2 l3 l4 l5 W)
  else
    (fmo_join_97 t a1 a2 l3 l5 W))
noncomputable def fmo_join_199 (t : Nat) (a1 : Int32) (a2 : Int32) (l3 : Int32) (l7 : Int32) (l8 : Int32) (W : jW) : Option (fmo_join_S ⊕ (jW)) :=
  if l8 < (0 : Int32) then
    (some (.inl (.inl (l3, W))))
  else
    (gd (jC W t = 13) <|
  gd (jin l8 (jN W 1335 t)) <|
  jlt (pA W 1335 t (ix l8) l7) fun W33 =>
  gd (jin l8 (jN W33 1336 t)) <|
  jlt (jA W33 1336 t (ix l8)) fun v38 =>
  some (.inl (.inr (.inr (l3, l7, v38, W33)))))
noncomputable def fmo_join_8 (t : Nat) (a1 : Int32) (a2 : Int32) (l3 : Int32) (l4 : Int32) (l5 : Int32) (W : jW) : Option (fmo_join_S ⊕ (jW)) :=
  gd (jC W t = 13) <|
  if l5 < (jI W 1329 t) then
    (gd (jin l5 (jN W 1330 t)) <|
  jlt (jA W 1330 t (ix l5)) fun v19 =>
  if v19 < a1 then
    (fmo_join_101 t a1 a2 l3 l4 l5 W)
  else
    (if v19 < a2 then
    (gd (jin l5 (jN W 1332 t)) <|
  if (jA W 1332 t (ix l5)) = (0 : Int32) then
    (gd (jin l5 (jN W 1331 t)) <|
  (fmo_falls t v19 (jA W 1331 t (ix l5)) W).bind fun q22 =>
  if q22 = (0 : Int32) then
    (fmo_join_101 t a1 a2 l3 l4 l5 W)
  else
    (if l3 < (0 : Int32) then
    (fmo_join_81 t a1 a2 l3 l4 l5 W)
  else
    ((fmo_comesBefore t l3 l5 W).bind fun q23 =>
  if q23 = (0 : Int32) then
    (fmo_join_101 t a1 a2 l3 l4 l5 W)
  else
    (fmo_join_81 t a1 a2 l3 l4 l5 W))))
  else
    (fmo_join_101 t a1 a2 l3 l4 l5 W))
  else
    (fmo_join_101 t a1 a2 l3 l4 l5 W)))
  else
    (if l4 < (0 : Int32) then
      (some (.inr W))
    else
      (gd (jin l4 (jN W 1330 t)) <|
      jlt (jA W 1330 t (ix l4)) fun v5 =>
      gd (jin l4 (jN W 1331 t)) <|
      jlt (jA W 1331 t (ix l4)) fun v7 =>
      gd (jin v5 (jN W 1336 t)) <|
      if (jA W 1336 t (ix v5)) < (0 : Int32) then
        (gd (jin v7 (jN W 1335 t)) <|
      if (jA W 1335 t (ix v7)) = v7 then
        (gd (jin v5 (jN W 1335 t)) <|
      if (jA W 1335 t (ix v5)) = v7 then
        (some (.inl (.inl (l4, W))))
      else
        (if v7 = a1 then
        (some (.inl (.inl (l4, W))))
      else
        (gd (jin v5 (jN W 1336 t)) <|
        jlt (pA W 1336 t (ix v5) v7) fun W12 =>
        gd (jin v5 (jN W12 1335 t)) <|
        jlt (jA W12 1335 t (ix v5)) fun v17 =>
        some (.inl (.inr (.inr (l4, v17, v7, W12)))))))
      else
        (some (.inl (.inl (l4, W)))))
      else
        (some (.inl (.inl (l4, W))))))
noncomputable def fmo_join_2 (t : Nat) (a1 : Int32) (a2 : Int32) (l3 : Int32) (W : jW) : Option (fmo_join_S ⊕ (jW)) :=
  some (.inl (.inr (.inl (l3, (kI (-1)), (kI 0), W))))
noncomputable def fmo_join_st (t : Nat) (a1 : Int32) (a2 : Int32) : fmo_join_S → Option (fmo_join_S ⊕ (jW)) :=
  (Sum.elim (fun s => fmo_join_2 t a1 a2 s.1 s.2) (Sum.elim (fun s => fmo_join_8 t a1 a2 s.1 s.2.1 s.2.2.1 s.2.2.2) (fun s => fmo_join_199 t a1 a2 s.1 s.2.1 s.2.2.1 s.2.2.2)))
noncomputable def fmo_join_0 (t : Nat) (a1 : Int32) (a2 : Int32) (W : jW) : Option (fmo_join_S ⊕ (jW)) :=
  some (.inl (.inl ((kI (-1)), W)))
noncomputable def fmo_join (t : Nat) (a1 : Int32) (a2 : Int32) (W : jW) : Option (jW) :=
  jrn (fmo_join_st t a1 a2) (fmo_join_0 t a1 a2 W)
