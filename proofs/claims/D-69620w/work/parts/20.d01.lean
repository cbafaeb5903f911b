/-! ===== pure functions: fpg_take fpg_place fpg_rule fco_clear fog_init fwr_init fha_init fme_init fma_init fcl_forgetRuns fcl_begin fpg_functionCount fcl_read fcl_place fpg_fixes fcl_count fcl_isFunction fog_room fco_size fpg_firstBlock fog_add fog_tell fcl_counted fpg_addressOf fog_heatOf fcl_function fcl_isBlock fpg_functionOf fpg_nextOf fpg_takenOf fcl_block fcl_wordAt fpg_isWay fco_seek fco_add fpg_isCalled fcl_edge fco_of fcl_way fcl_calls fog_roomForRows fpg_falls fog_isSooner fog_sink fog_sortWays fog_headOf fog_chain fpg_blockCount fog_isMet fog_putChain fog_place fog_weigh fog_sortByHeat fog_callerOf fog_join fog_leastOf fog_isDenser fog_gather fog_cluster fog_put fog_lay fwr_isLeft fwr_isTurned fwr_isPut fwr_sizeOf fwr_place fwr_goalOf fwr_endAt fwo_reaches fwr_reaches fwr_addressOf fwr_movedWord fwo_paging fwo_adding fwr_fixed fwr_emit fwo_going fwr_go fwo_turned fwr_end fwr_block fwr_emitAll fwr_set fsh_isTextSymbol fwr_newOf fwr_isCold fwr_partOf fwr_fix fwr_file ===== -/
set_option maxRecDepth 100000
abbrev fpg_take_S : Type := (Int32 × jW) ⊕ (Int32 × jW) ⊕ (Int32 × jW) ⊕ (Int32 × jW) ⊕ (Int32 × jW)
noncomputable def fpg_take_143 (t : Nat) (l1 : Int32) (s0 : Int32) (s1 : Nat) (W : jW) : Option (fpg_take_S ⊕ ((Nat × jW) ⊕ jW)) :=
  gd (jC W t = 2) <|
  (fpg_placeOf t l1 W).bind fun q58 =>
  gd (jC W s1 = 3) <|
  (ftr_must s1 s0 (kI 8) q58 W).bind <| Sum.elim (fun z => some (.inr (.inl z))) fun q60 =>
  jlt (l1 + (kI 1)) fun v62 =>
  some (.inl (.inr (.inl (v62, q60))))
noncomputable def fpg_take_201 (t : Nat) (l1 : Int32) (s0 : Int32) (s1 : Nat) (W : jW) : Option (fpg_take_S ⊕ ((Nat × jW) ⊕ jW)) :=
  gd (jC W t = 2) <|
  (fpg_placeOf t l1 W).bind fun q69 =>
  gd (jC W s1 = 3) <|
  (ftr_must s1 s0 (kI 10) q69 W).bind <| Sum.elim (fun z => some (.inr (.inl z))) fun q71 =>
  jlt (l1 + (kI 1)) fun v73 =>
  some (.inl (.inr (.inr (.inl (v73, q71)))))
noncomputable def fpg_take_196 (t : Nat) (l1 : Int32) (s0 : Nat) (W : jW) : Option (fpg_take_S ⊕ ((Nat × jW) ⊕ jW)) :=
  fpg_take_201 t l1 (kI 1) s0 W
noncomputable def fpg_take_256 (t : Nat) (l1 : Int32) (s0 : Int32) (s1 : Nat) (W : jW) : Option (fpg_take_S ⊕ ((Nat × jW) ⊕ jW)) :=
  gd (jC W t = 2) <|
  (fpg_placeOf t l1 W).bind fun q81 =>
  gd (jC W s1 = 3) <|
  (ftr_must s1 s0 (kI 11) q81 W).bind <| Sum.elim (fun z => some (.inr (.inl z))) fun q83 =>
  jlt (l1 + (kI 1)) fun v85 =>
  some (.inl (.inr (.inr (.inr (.inl (v85, q83))))))
noncomputable def fpg_take_251 (t : Nat) (l1 : Int32) (s0 : Nat) (W : jW) : Option (fpg_take_S ⊕ ((Nat × jW) ⊕ jW)) :=
  fpg_take_256 t l1 (kI 1) s0 W
noncomputable def fpg_take_323 (t : Nat) (l1 : Int32) (s0 : Int32) (s1 : Nat) (W : jW) : Option (fpg_take_S ⊕ ((Nat × jW) ⊕ jW)) :=
  gd (jC W t = 2) <|
  (fpg_lastOf t l1 W).bind fun q100 =>
  (fpg_placeOf t q100 W).bind fun q101 =>
  gd (jC W s1 = 3) <|
  (ftr_must s1 s0 (kI 12) q101 W).bind <| Sum.elim (fun z => some (.inr (.inl z))) fun q103 =>
  jlt (l1 + (kI 1)) fun v105 =>
  some (.inl (.inr (.inr (.inr (.inr (v105, q103))))))
noncomputable def fpg_take_318 (t : Nat) (l1 : Int32) (s0 : Nat) (W : jW) : Option (fpg_take_S ⊕ ((Nat × jW) ⊕ jW)) :=
  fpg_take_323 t l1 (kI 1) s0 W
noncomputable def fpg_take_274 (t : Nat) (l1 : Int32) (W : jW) : Option (fpg_take_S ⊕ ((Nat × jW) ⊕ jW)) :=
  gd (jC W t = 2) <|
  gd (jC W (jR W 209 t) = 6) <|
  if l1 < (jI W 601 (jR W 209 t)) then
    ((fpg_lastOf t l1 W).bind fun q95 =>
  gd (jin q95 (jN W 205 t)) <|
  jlt (jA W 205 t (ix q95)) fun v97 =>
  if v97 = (kI 12) then
    (fpg_take_318 t l1 (jR W 200 t) W)
  else
    (if v97 = (kI 17) then
    (fpg_take_318 t l1 (jR W 200 t) W)
  else
    (if v97 = (kI 19) then
    (fpg_take_318 t l1 (jR W 200 t) W)
  else
    (fpg_take_323 t l1 (kI 0) (jR W 200 t) W))))
  else
    ((fpg_leaders t W).bind fun q90 => gd (jC q90 t = 2) <| (fpg_tellBlocks t q90).bind fun q93 => some (.inr (.inr q93)))
noncomputable def fpg_take_219 (t : Nat) (l1 : Int32) (W : jW) : Option (fpg_take_S ⊕ ((Nat × jW) ⊕ jW)) :=
  gd (jC W t = 2) <|
  if l1 < (jI W 203 t) then
    (gd (jin l1 (jN W 205 t)) <|
  if (fwo_goes (jA W 205 t (ix l1))) = (0 : Int32) then
    (fpg_take_251 t l1 (jR W 200 t) W)
  else
    ((fpg_isGood t l1 W).bind fun q78 =>
  if q78 = (0 : Int32) then
    (fpg_take_256 t l1 (kI 0) (jR W 200 t) W)
  else
    (fpg_take_251 t l1 (jR W 200 t) W)))
  else
    (some (.inl (.inr (.inr (.inr (.inr ((kI 0), W)))))))
noncomputable def fpg_take_165 (t : Nat) (l1 : Int32) (W : jW) : Option (fpg_take_S ⊕ ((Nat × jW) ⊕ jW)) :=
  gd (jC W t = 2) <|
  if l1 < (jI W 203 t) then
    (gd (jin l1 (jN W 205 t)) <|
  if (jA W 205 t (ix l1)) = (kI 5) then
    (gd (jin l1 (jN W 207 t)) <|
  if (0 : Int32) < (jA W 207 t (ix l1)) then
    (fpg_take_196 t l1 (jR W 200 t) W)
  else
    (fpg_take_201 t l1 (kI 0) (jR W 200 t) W))
  else
    (fpg_take_196 t l1 (jR W 200 t) W))
  else
    (some (.inl (.inr (.inr (.inr (.inl ((kI 0), W)))))))
noncomputable def fpg_take_117 (t : Nat) (l1 : Int32) (W : jW) : Option (fpg_take_S ⊕ ((Nat × jW) ⊕ jW)) :=
  gd (jC W t = 2) <|
  if l1 < (jI W 203 t) then
    (gd (jin l1 (jN W 205 t)) <|
  if (jA W 205 t (ix l1)) = (0 : Int32) then
    (fpg_take_143 t l1 (kI 0) (jR W 200 t) W)
  else
    (fpg_take_143 t l1 (kI 1) (jR W 200 t) W))
  else
    ((fpg_lookFixes t W).bind <| Sum.elim (fun z => some (.inr (.inl z))) fun q53 => some (.inl (.inr (.inr (.inl ((kI 0), q53))))))
noncomputable def fpg_take_50 (t : Nat) (l1 : Int32) (W : jW) : Option (fpg_take_S ⊕ ((Nat × jW) ⊕ jW)) :=
  gd (jC W t = 2) <|
  if l1 < (jI W 203 t) then
    ((fpg_placeOf t l1 W).bind fun q22 =>
  gd (jC W (jR W 202 t) = 5) <|
  (fsr_word (jR W 202 t) q22 W).bind fun q24 =>
  gd (jin l1 (jN W 204 t)) <|
  jlt (pA W 204 t (ix l1) q24) fun W26 =>
  gd (jin l1 (jN W26 204 t)) <|
  gd (jin l1 (jN W26 205 t)) <|
  jlt (pA W26 205 t (ix l1) (fwo_kindOf (jA W26 204 t (ix l1)))) fun W33 =>
  gd (jin l1 (jN W33 207 t)) <|
  jlt (pA W33 207 t (ix l1) (kI 0)) fun W39 =>
  gd (jin l1 (jN W39 208 t)) <|
  jlt (pA W39 208 t (ix l1) (i2z (kI 0))) fun W45 =>
  jlt (l1 + (kI 1)) fun v50 =>
  some (.inl (.inl (v50, W45))))
  else
    ((fpg_tellFunctions t W).bind <| Sum.elim (fun z => some (.inr (.inl z))) fun q20 => some (.inl (.inr (.inl ((kI 0), q20)))))
noncomputable def fpg_take_48 (t : Nat) (W : jW) : Option (fpg_take_S ⊕ ((Nat × jW) ⊕ jW)) :=
  some (.inl (.inl ((kI 0), W)))
noncomputable def fpg_take_st (t : Nat) : fpg_take_S → Option (fpg_take_S ⊕ ((Nat × jW) ⊕ jW)) :=
  (Sum.elim (fun s => fpg_take_50 t s.1 s.2) (Sum.elim (fun s => fpg_take_117 t s.1 s.2) (Sum.elim (fun s => fpg_take_165 t s.1 s.2) (Sum.elim (fun s => fpg_take_219 t s.1 s.2) (fun s => fpg_take_274 t s.1 s.2)))))
noncomputable def fpg_take_0 (t : Nat) (W : jW) : Option (fpg_take_S ⊕ ((Nat × jW) ⊕ jW)) :=
  gd (jC W t = 2) <|
  gd (jC W (jR W 201 t) = 4) <|
  (fsh_take (jR W 201 t) (jR W 202 t) W).bind <| Sum.elim (fun z => some (.inr (.inl z))) fun q3 =>
  gd (jC q3 t = 2) <|
  gd (jC q3 (jR q3 201 t) = 4) <|
  (fsh_last (jR q3 201 t) q3).bind fun q7 =>
  gd (jin q7 (jN q3 410 (jR q3 201 t))) <|
  jlt (sI q3 203 t ((jA q3 410 (jR q3 201 t) (ix q7)) / (kI 4))) fun W9 =>
  gd (¬ jR W9 204 t = 0) <|
  if (nI (jN W9 204 t)) < (jI W9 203 t) then
    ((fpg_room t W9).bind fun q15 => fpg_take_48 t q15)
  else
    (fpg_take_48 t W9)
noncomputable def fpg_take (t : Nat) (W : jW) : Option ((Nat × jW) ⊕ jW) :=
  jrn (fpg_take_st t) (fpg_take_0 t W)
noncomputable def fpg_place (t : Nat) (W : jW) : Option (Int32) :=
  gd (jC W t = 2) <| gd (jC W (jR W 200 t) = 3) <| some (jI W 301 (jR W 200 t))
noncomputable def fpg_rule (t : Nat) (W : jW) : Option (Int32) :=
  gd (jC W t = 2) <| gd (jC W (jR W 200 t) = 3) <| some (jI W 300 (jR W 200 t))
abbrev fco_clear_S : Type := (Int32 × jW)
noncomputable def fco_clear_18 (t : Nat) (l1 : Int32) (W : jW) : Option (fco_clear_S ⊕ (jW)) :=
  if l1 < (kI 8192) then
    (gd (jC W t = 7) <| gd (jin l1 (jN W 703 t)) <| jlt (pA W 703 t (ix l1) (kI (-1))) fun W18 => jlt (l1 + (kI 1)) fun v22 => some (.inl (v22, W18)))
  else
    (some (.inr W))
noncomputable def fco_clear_st (t : Nat) : fco_clear_S → Option (fco_clear_S ⊕ (jW)) :=
  (fun s => fco_clear_18 t s.1 s.2)
noncomputable def fco_clear_0 (t : Nat) (W : jW) : Option (fco_clear_S ⊕ (jW)) :=
  gd (jC W t = 7) <|
  gd (jC W (jR W 700 t) = 6) <|
  jlt (sI W 601 (jR W 700 t) (kI 0)) fun W3 =>
  gd (jC W3 (jR W3 701 t) = 6) <|
  jlt (sI W3 601 (jR W3 701 t) (kI 0)) fun W9 =>
  some (.inl ((kI 0), W9))
noncomputable def fco_clear (t : Nat) (W : jW) : Option (jW) :=
  jrn (fco_clear_st t) (fco_clear_0 t W)
noncomputable def fog_init (t : Nat) (W : jW) : Option (jW) :=
  gd (¬ t = 0) <|
  gd (jra W (kI 0)) <|
  gd (jC W t = 8) <|
  jlt (nwB W 803 t (ix (kI 0))) fun W4 =>
  gd (jra W4 (kI 0)) <|
  jlt (nwA W4 9003 (jX W4) (ix (kI 0))) fun W9 =>
  jlt (sR W9 804 t (jX W4)) fun W13 =>
  gd (jra W13 (kI 0)) <|
  jlt (nwA W13 806 t (ix (kI 0))) fun W18 =>
  gd (jrm W18 2) <|
  jlt (sC (sX W18 2) (jX W18) 6) fun W23 =>
  gd (jC W23 (jX W18) = 6) <|
  (fro_init (jX W18) W23).bind fun q26 =>
  gd (jC q26 t = 8) <|
  jlt (sR q26 807 t (jX W18)) fun W29 =>
  gd (jra W29 (kI 0)) <|
  jlt (nwA W29 808 t (ix (kI 0))) fun W34 =>
  gd (jra W34 (kI 0)) <|
  jlt (nwA W34 809 t (ix (kI 0))) fun W39 =>
  gd (jra W39 (kI 0)) <|
  jlt (nwA W39 810 t (ix (kI 0))) fun W44 =>
  gd (jra W44 (kI 0)) <|
  jlt (nwA W44 811 t (ix (kI 0))) fun W49 =>
  gd (jra W49 (kI 0)) <|
  jlt (nwB W49 812 t (ix (kI 0))) fun W54 =>
  gd (jrm W54 2) <|
  jlt (sC (sX W54 2) (jX W54) 6) fun W59 =>
  gd (jC W59 (jX W54) = 6) <|
  (fro_init (jX W54) W59).bind fun q62 =>
  gd (jC q62 t = 8) <|
  jlt (sR q62 813 t (jX W54)) fun W65 =>
  gd (jra W65 (kI 0)) <|
  jlt (nwA W65 814 t (ix (kI 0))) fun W70 =>
  gd (jra W70 (kI 0)) <|
  jlt (nwA W70 815 t (ix (kI 0))) fun W75 =>
  gd (jra W75 (kI 0)) <|
  jlt (nwA W75 816 t (ix (kI 0))) fun W80 =>
  gd (jra W80 (kI 0)) <|
  jlt (nwB W80 817 t (ix (kI 0))) fun W85 =>
  gd (jra W85 (kI 0)) <|
  jlt (nwB W85 818 t (ix (kI 0))) fun W90 =>
  gd (jra W90 (kI 0)) <|
  jlt (nwB W90 819 t (ix (kI 0))) fun W95 =>
  gd (jra W95 (kI 0)) <|
  jlt (nwA W95 820 t (ix (kI 0))) fun W100 =>
  gd (jra W100 (kI 0)) <|
  jlt (nwA W100 821 t (ix (kI 0))) fun W105 =>
  gd (jra W105 (kI 0)) <|
  jlt (nwA W105 822 t (ix (kI 0))) fun W110 =>
  gd (jra W110 (kI 0)) <|
  jlt (nwB W110 823 t (ix (kI 0))) fun W115 =>
  gd (jra W115 (kI 0)) <|
  jlt (nwB W115 824 t (ix (kI 0))) fun W120 =>
  gd (jra W120 (kI 0)) <|
  jlt (nwB W120 825 t (ix (kI 0))) fun W125 =>
  gd (jra W125 (kI 0)) <|
  jlt (nwB W125 826 t (ix (kI 0))) fun W130 =>
  gd (jra W130 (kI 0)) <|
  jlt (nwB W130 827 t (ix (kI 0))) fun W135 =>
  gd (jrm W135 2) <|
  jlt (sC (sX W135 2) (jX W135) 6) fun W140 =>
  gd (jC W140 (jX W135) = 6) <|
  (fro_init (jX W135) W140).bind fun q143 =>
  gd (jC q143 t = 8) <|
  jlt (sR q143 828 t (jX W135)) fun W146 =>
  some W146
noncomputable def fwr_init (t : Nat) (a1 : Nat) (W : jW) : Option (jW) :=
  gd (jC W t = 9) <|
  (fsr_init t W).bind fun q2 =>
  gd (jra q2 (kI 0)) <|
  gd (jC q2 t = 9) <|
  jlt (nwA q2 905 t (ix (kI 0))) fun W6 =>
  gd (jra W6 (kI 0)) <|
  jlt (nwA W6 906 t (ix (kI 0))) fun W11 =>
  gd (jra W11 (kI 0)) <|
  jlt (nwA W11 907 t (ix (kI 0))) fun W16 =>
  gd (jra W16 (kI 0)) <|
  jlt (nwA W16 908 t (ix (kI 0))) fun W21 =>
  gd (jra W21 (kI 60000)) <|
  jlt (nwA W21 913 t (ix (kI 60000))) fun W26 =>
  jlt (sR W26 900 t a1) fun W30 =>
  some W30
noncomputable def fha_init (t : Nat) (W : jW) : Option (jW) :=
  gd (¬ t = 0) <| gd (jrm W 6) <| jlt (sC (sX W 6) (jX W) 17) fun W3 => gd (jC W3 t = 11) <| jlt (sR W3 1101 t (jX W)) fun W6 => some W6
noncomputable def fme_init (t : Nat) (a1 : Nat) (a2 : Nat) (W : jW) : Option (jW) :=
  gd (¬ t = 0) <|
  gd (jra W (kI 125536)) <|
  gd (jC W t = 12) <|
  jlt (nwA W 1202 t (ix (kI 125536))) fun W4 =>
  gd (jra W4 (kI 5)) <|
  jlt (nwA W4 1203 t (ix (kI 5))) fun W9 =>
  gd (jra W9 (kI 5)) <|
  jlt (nwA W9 1204 t (ix (kI 5))) fun W14 =>
  gd (jra W14 (kI 15708)) <|
  jlt (nwA W14 1205 t (ix (kI 15708))) fun W19 =>
  gd (jra W19 (kI 15708)) <|
  jlt (nwA W19 1206 t (ix (kI 15708))) fun W24 =>
  jlt (sR W24 1200 t a1) fun W28 =>
  jlt (sR W28 1201 t a2) fun W32 =>
  some W32
noncomputable def fma_init (t : Nat) (a1 : Int32) (a2 : Nat) (a3 : Nat) (a4 : Nat) (W : jW) : Option (jW) :=
  gd (¬ t = 0) <|
  gd (jrm W 2) <|
  jlt (sC (sX W 2) (jX W) 11) fun W3 =>
  gd (jC W3 (jX W) = 11) <|
  (fha_init (jX W) W3).bind fun q6 =>
  gd (jC q6 t = 10) <|
  jlt (sR q6 1004 t (jX W)) fun W9 =>
  gd (jra W9 (kI 32)) <|
  jlt (nwB W9 1007 t (ix (kI 32))) fun W14 =>
  gd (jra W14 (kI 32)) <|
  jlt (nwA W14 1008 t (ix (kI 32))) fun W19 =>
  gd (jra W19 (kI 32)) <|
  jlt (nwA W19 1009 t (ix (kI 32))) fun W24 =>
  gd (jra W24 (kI 4096)) <|
  jlt (nwA W24 1020 t (ix (kI 4096))) fun W29 =>
  gd (jra W29 (kI 800)) <|
  jlt (nwB W29 1021 t (ix (kI 800))) fun W34 =>
  gd (jra W34 (kI 16384)) <|
  jlt (nwA W34 1022 t (ix (kI 16384))) fun W39 =>
  jlt (sI W39 1000 t a1) fun W43 =>
  jlt (sR W43 1001 t a2) fun W47 =>
  jlt (sR W47 1002 t a3) fun W51 =>
  jlt (sR W51 1003 t a4) fun W55 =>
  gd (jrm W55 7) <|
  jlt (sC (sX W55 7) (jX W55) 12) fun W60 =>
  gd (jC W60 t = 10) <|
  gd (jC W60 (jX W55) = 12) <|
  (fme_init (jX W55) a2 (jR W60 1004 t) W60).bind fun q64 =>
  gd (jC q64 t = 10) <|
  jlt (sR q64 1005 t (jX W55)) fun W67 =>
  some W67
abbrev fcl_forgetRuns_S : Type := (Int32 × jW)
noncomputable def fcl_forgetRuns_2 (t : Nat) (l1 : Int32) (W : jW) : Option (fcl_forgetRuns_S ⊕ (jW)) :=
  if l1 < (kI 3) then
    (gd (jC W t = 1) <|
  gd (jin l1 (jN W 114 t)) <|
  gd (jC W (jE W 114 t (ix l1)) = 10) <|
  jlt (sI W 1023 (jE W 114 t (ix l1)) (kI 0)) fun W5 =>
  jlt (l1 + (kI 1)) fun v10 =>
  some (.inl (v10, W5)))
  else
    (some (.inr W))
noncomputable def fcl_forgetRuns_st (t : Nat) : fcl_forgetRuns_S → Option (fcl_forgetRuns_S ⊕ (jW)) :=
  (fun s => fcl_forgetRuns_2 t s.1 s.2)
noncomputable def fcl_forgetRuns_0 (t : Nat) (W : jW) : Option (fcl_forgetRuns_S ⊕ (jW)) :=
  some (.inl ((kI 0), W))
noncomputable def fcl_forgetRuns (t : Nat) (W : jW) : Option (jW) :=
  jrn (fcl_forgetRuns_st t) (fcl_forgetRuns_0 t W)
abbrev fcl_begin_S : Type := (Int32 × Nat × Nat × Int32 × jW) ⊕ (Int32 × Int32 × jW)
noncomputable def fcl_begin_191 (t : Nat) (l1 : Int32) (l2 : Int32) (W : jW) : Option (fcl_begin_S ⊕ (jW)) :=
  if l2 < (kI 3) then
    (gd (jC W t = 1) <|
  gd (jC W (jR W 116 t) = 18) <|
  (fal_get (jR W 116 t) (((kI 3) * l1) + l2) W).bind fun q100 =>
  gd (jC W q100 = 10) <|
  gd (jin l2 (jN W 114 t)) <|
  gd (jC W q100 = 10) <|
  jlt (pE W 114 t (ix l2) q100) fun W104 =>
  jlt (l2 + (kI 1)) fun v110 =>
  some (.inl (.inr (l1, v110, W104))))
  else
    (gd (jC W t = 1) <| (fcl_forgetRuns t W).bind fun q96 => some (.inr q96))
noncomputable def fcl_begin_138 (t : Nat) (l1 : Int32) (W : jW) : Option (fcl_begin_S ⊕ (jW)) :=
  gd (jC W t = 1) <|
  gd (jC W (jR W 118 t) = 18) <|
  (fal_get (jR W 118 t) l1 W).bind fun q62 =>
  gd (jC W q62 = 8) <|
  jlt (sR W 111 t q62) fun W64 =>
  gd (jC W64 (jR W64 117 t) = 18) <|
  (fal_get (jR W64 117 t) ((kI 2) * l1) W64).bind fun q71 =>
  gd (jC W64 q71 = 9) <|
  jlt (sR W64 112 t q71) fun W73 =>
  gd (jC W73 (jR W73 117 t) = 18) <|
  (fal_get (jR W73 117 t) (((kI 2) * l1) + (kI 1)) W73).bind fun q82 =>
  gd (jC W73 q82 = 9) <|
  jlt (sR W73 113 t q82) fun W84 =>
  some (.inl (.inr (l1, (kI 0), W84)))
noncomputable def fcl_begin_103 (t : Nat) (l1 : Int32) (l2 : Nat) (l3 : Nat) (l4 : Int32) (W : jW) : Option (fcl_begin_S ⊕ (jW)) :=
  if l4 < (kI 3) then
    (gd (jC W t = 1) <|
  gd (jrm W 24) <|
  jlt (sC (sX W 24) (jX W) 10) fun W49 =>
  gd (jC W49 t = 1) <|
  gd (jC W49 (jX W) = 10) <|
  (fma_init (jX W) l4 (jR W49 104 t) l3 l2 W49).bind fun q53 =>
  gd (jC q53 (jR W 116 t) = 18) <|
  (fal_add (jR W 116 t) (jX W) q53).bind fun q56 =>
  jlt (l4 + (kI 1)) fun v58 =>
  some (.inl (.inl (l1, l2, l3, v58, q56.2))))
  else
    (fcl_begin_138 t l1 W)
noncomputable def fcl_begin_31 (t : Nat) (s0 : Int32) (W : jW) : Option (fcl_begin_S ⊕ (jW)) :=
  gd (jC W t = 1) <|
  gd (jC W (jR W 118 t) = 18) <|
  (fal_size (jR W 118 t) W).bind fun q11 =>
  if s0 < q11 then
    (fcl_begin_138 t s0 W)
  else
    (gd (jrm W 29) <|
  jlt (sC (sX W 29) (jX W) 8) fun W13 =>
  gd (jC W13 (jX W) = 8) <|
  (fog_init (jX W) W13).bind fun q16 =>
  jlt (jX W) fun v18 =>
  gd (jrm q16 21) <|
  jlt (sC (sX q16 21) (jX q16) 9) fun W20 =>
  gd (jC W20 t = 1) <|
  gd (jC W20 (jX q16) = 9) <|
  (fwr_init (jX q16) (jR W20 104 t) W20).bind fun q24 =>
  jlt (jX q16) fun v26 =>
  gd (jC q24 t = 1) <|
  gd (jC q24 (jR q24 118 t) = 18) <|
  (fal_add (jR q24 118 t) v18 q24).bind fun q29 =>
  gd (jC q29.2 t = 1) <|
  gd (jC q29.2 (jR q29.2 117 t) = 18) <|
  (fal_add (jR q29.2 117 t) v26 q29.2).bind fun q33 =>
  gd (jC q33.2 t = 1) <|
  gd (jrm q33.2 21) <|
  jlt (sC (sX q33.2 21) (jX q33.2) 9) fun W37 =>
  gd (jC W37 t = 1) <|
  gd (jC W37 (jX q33.2) = 9) <|
  (fwr_init (jX q33.2) (jR W37 104 t) W37).bind fun q41 =>
  gd (jC q41 (jR q33.2 117 t) = 18) <|
  (fal_add (jR q33.2 117 t) (jX q33.2) q41).bind fun q44 =>
  some (.inl (.inl (s0, v18, v26, (kI 0), q44.2))))
noncomputable def fcl_begin_15 (t : Nat) (W : jW) : Option (fcl_begin_S ⊕ (jW)) :=
  gd (jC W t = 1) <| if (jR W 104 t) = (jR W 119 t) then
    (fcl_begin_31 t (kI 0) W)
  else
    (fcl_begin_31 t (kI 1) W)
noncomputable def fcl_begin_st (t : Nat) : fcl_begin_S → Option (fcl_begin_S ⊕ (jW)) :=
  (Sum.elim (fun s => fcl_begin_103 t s.1 s.2.1 s.2.2.1 s.2.2.2.1 s.2.2.2.2) (fun s => fcl_begin_191 t s.1 s.2.1 s.2.2))
noncomputable def fcl_begin_0 (t : Nat) (W : jW) : Option (fcl_begin_S ⊕ (jW)) :=
  gd (jC W t = 1) <| if (jR W 119 t) = 0 then
    (jlt (sR W 119 t (jR W 104 t)) fun W2 => fcl_begin_15 t W2)
  else
    (fcl_begin_15 t W)
noncomputable def fcl_begin (t : Nat) (W : jW) : Option (jW) :=
  jrn (fcl_begin_st t) (fcl_begin_0 t W)
noncomputable def fpg_functionCount (t : Nat) (W : jW) : Option (Int32) :=
  gd (jC W t = 2) <| gd (jC W (jR W 209 t) = 6) <| some (jI W 601 (jR W 209 t))
noncomputable def fcl_read_53 (t : Nat) (l1 : Nat) (s0 : Nat) (W : jW) : Option (Int32 × jW) :=
  gd (jC W l1 = 2) <|
  (fpg_place l1 W).bind fun q76 =>
  gd (jC W t = 1) <|
  jlt (sI W 103 t q76) fun W78 =>
  (fpg_rule l1 W78).bind fun q83 =>
  some ((-q83), W78)
noncomputable def fcl_read (t : Nat) (W : jW) : Option (Int32 × jW) :=
  gd (jC W t = 1) <|
  jlt (sI W 103 t (kI (-1))) fun W2 =>
  jlt (jR W2 105 t) fun v6 =>
  gd (jC W2 v6 = 2) <|
  gd (jC W2 (jR W2 202 v6) = 5) <|
  gd (jcp W2 100 t 500 (jR W2 202 v6) (kI 0) (kI 0) (jI W2 101 t)) <|
  gd (∀ i, i < ix (jI W2 101 t) → fits .byte (.int (jA W2 100 t (ix (kI 0) + i))) = true) <|
  gd (¬ jR W2 100 t = 0 ∧ ¬ jR W2 500 (jR W2 202 v6) = 0) <|
  jlt (cpA W2 100 t 500 (jR W2 202 v6) (kI 0) (kI 0) (jI W2 101 t)) fun W12 =>
  gd (jC W12 (jR W12 202 v6) = 5) <|
  jlt (sI W12 501 (jR W12 202 v6) (jI W12 101 t)) fun W19 =>
  jlt (sI W19 101 t (kI 0)) fun W26 =>
  (fpg_take v6 W26).bind <| Sum.elim (fun z => gd (jC z.2 z.1 = 17) (fcl_read_53 t v6 z.1 z.2)) fun q33 =>
  gd (jC q33 t = 1) <|
  jlt (sR q33 105 t (jR q33 104 t)) fun W37 =>
  jlt (sR W37 104 t v6) fun W41 =>
  jlt (sI W41 106 t (kI 1)) fun W45 =>
  jlt (sI W45 107 t (kI 0)) fun W49 =>
  gd (jC W49 (jR W49 108 t) = 7) <|
  (fco_clear (jR W49 108 t) W49).bind fun q54 =>
  gd (jC q54 t = 1) <|
  gd (jC q54 (jR q54 109 t) = 7) <|
  (fco_clear (jR q54 109 t) q54).bind fun q58 =>
  gd (jC q58 t = 1) <|
  gd (jC q58 (jR q58 110 t) = 7) <|
  (fco_clear (jR q58 110 t) q58).bind fun q62 =>
  gd (jC q62 t = 1) <|
  jlt (sI q62 115 t (kI 0)) fun W65 =>
  (fcl_begin t W65).bind fun q69 =>
  gd (jC q69 t = 1) <|
  gd (jC q69 (jR q69 104 t) = 2) <|
  (fpg_functionCount (jR q69 104 t) q69).bind fun q73 =>
  some (q73, q69)
noncomputable def fcl_place (t : Nat) (W : jW) : Option (Int32) :=
  gd (jC W t = 1) <| some (jI W 103 t)
abbrev fpg_fixes_S : Type := (Int32 × Int32) ⊕ (Int32 × Int32 × Int32)
noncomputable def fpg_fixes_73 (t : Nat) (l1 : Int32) (l2 : Int32) (W : jW) : Option (fpg_fixes_S ⊕ (Int32)) :=
  jlt (l2 + (kI 1)) fun v6 => some (.inl (.inl (l1, v6)))
noncomputable def fpg_fixes_67 (t : Nat) (l1 : Int32) (l2 : Int32) (l3 : Int32) (W : jW) : Option (fpg_fixes_S ⊕ (Int32)) :=
  jlt (l3 + (kI 1)) fun v15 => some (.inl (.inr (l1, l2, v15)))
noncomputable def fpg_fixes_33 (t : Nat) (l1 : Int32) (l2 : Int32) (l3 : Int32) (W : jW) : Option (fpg_fixes_S ⊕ (Int32)) :=
  gd (jC W t = 2) <|
  gd (jC W (jR W 201 t) = 4) <|
  (fsh_fixCount (jR W 201 t) l2 W).bind fun q10 =>
  if l3 < q10 then
    ((fsh_fixAt (jR W 201 t) l2 l3 W).bind fun q11 =>
  (fsh_fixType (jR W 201 t) q11 W).bind fun q12 =>
  if q12 = (0 : Int32) then
    (fpg_fixes_67 t l1 l2 l3 W)
  else
    (jlt (l1 + (kI 1)) fun v13 => fpg_fixes_67 t v13 l2 l3 W))
  else
    (fpg_fixes_73 t l1 l2 W)
noncomputable def fpg_fixes_4 (t : Nat) (l1 : Int32) (l2 : Int32) (W : jW) : Option (fpg_fixes_S ⊕ (Int32)) :=
  gd (jC W t = 2) <|
  gd (jC W (jR W 201 t) = 4) <|
  if l2 < (jI W 403 (jR W 201 t)) then
    (gd (jin l2 (jN W 411 (jR W 201 t))) <|
  if (jA W 411 (jR W 201 t) (ix l2)) = (kI 4) then
    (some (.inl (.inr (l1, l2, (kI 0)))))
  else
    (fpg_fixes_73 t l1 l2 W))
  else
    (some (.inr l1))
noncomputable def fpg_fixes_st (t : Nat) (W : jW) : fpg_fixes_S → Option (fpg_fixes_S ⊕ (Int32)) :=
  (Sum.elim (fun s => fpg_fixes_4 t s.1 s.2 W) (fun s => fpg_fixes_33 t s.1 s.2.1 s.2.2 W))
noncomputable def fpg_fixes_0 (t : Nat) (W : jW) : Option (fpg_fixes_S ⊕ (Int32)) :=
  some (.inl (.inl ((kI 0), (kI 1))))
noncomputable def fpg_fixes (t : Nat) (W : jW) : Option (Int32) :=
  jrn (fpg_fixes_st t W) (fpg_fixes_0 t W)
noncomputable def fcl_count_9 (t : Nat) (a1 : Int32) (W : jW) : Option (Int32) :=
  some (kI (-14))
noncomputable def fcl_count (t : Nat) (a1 : Int32) (W : jW) : Option (Int32) :=
  if a1 < (0 : Int32) then
    (fcl_count_9 t a1 W)
  else
    (if (kI 4) < a1 then
    (fcl_count_9 t a1 W)
  else
    (gd (jC W t = 1) <|
    if (jI W 106 t) = (0 : Int32) then
      (some (kI 0))
    else
      (if a1 = (0 : Int32) then
        (gd (jC W (jR W 104 t) = 2) <| (fpg_functionCount (jR W 104 t) W).bind fun q9 => some q9)
      else
        (if a1 = (kI 1) then
          (gd (jC W (jR W 104 t) = 2) <| some (jI W 217 (jR W 104 t)))
        else
          (if a1 = (kI 2) then
            (gd (jC W (jR W 104 t) = 2) <| some ((kI 4) * (jI W 203 (jR W 104 t))))
          else
            (if a1 = (kI 3) then
              (gd (jC W (jR W 104 t) = 2) <| gd (jC W (jR W 202 (jR W 104 t)) = 5) <| some (jI W 501 (jR W 202 (jR W 104 t))))
            else
              (gd (jC W (jR W 104 t) = 2) <| (fpg_fixes (jR W 104 t) W).bind fun q3 => some q3)))))))
noncomputable def fcl_isFunction_26 (t : Nat) (a1 : Int32) (W : jW) : Option (Int32) :=
  some (kI 0)
noncomputable def fcl_isFunction (t : Nat) (a1 : Int32) (W : jW) : Option (Int32) :=
  gd (jC W t = 1) <|
  if (jI W 106 t) = (0 : Int32) then
    (fcl_isFunction_26 t a1 W)
  else
    (if a1 < (0 : Int32) then
    (fcl_isFunction_26 t a1 W)
  else
    (gd (jC W (jR W 104 t) = 2) <|
  (fpg_functionCount (jR W 104 t) W).bind fun q3 =>
  if a1 < q3 then
    (some (kI 1))
  else
    (fcl_isFunction_26 t a1 W)))
noncomputable def fog_room_106 (t : Nat) (W : jW) : Option (jW) :=
  gd (jC W t = 8) <|
  gd (jC W (jR W 800 t) = 2) <|
  (fpg_functionCount (jR W 800 t) W).bind fun q82 =>
  gd (¬ jR W 812 t = 0) <|
  if (nI (jN W 812 t)) < q82 then
    (gd (jra W q82) <|
  jlt (nwB W 812 t (ix q82)) fun W85 =>
  gd (jra W85 q82) <|
  jlt (nwA W85 814 t (ix q82)) fun W91 =>
  gd (jra W91 q82) <|
  jlt (nwA W91 815 t (ix q82)) fun W97 =>
  gd (jra W97 q82) <|
  jlt (nwA W97 816 t (ix q82)) fun W103 =>
  gd (jra W103 q82) <|
  jlt (nwB W103 817 t (ix q82)) fun W109 =>
  gd (jra W109 q82) <|
  jlt (nwB W109 818 t (ix q82)) fun W115 =>
  some W115)
  else
    (some W)
noncomputable def fog_room (t : Nat) (W : jW) : Option (jW) :=
  gd (jC W t = 8) <|
  gd (jR W 9003 (jR W 804 t) = (jR W 804 t)) <|
  gd (¬ jR W 9003 (jR W 804 t) = 0) <|
  gd (jC W (jR W 800 t) = 2) <|
  if (nI (jN W 9003 (jR W 804 t))) < (jI W 217 (jR W 800 t)) then
    (gd (jra W (jI W 217 (jR W 800 t))) <|
  jlt (nwA W 9003 (jX W) (ix (jI W 217 (jR W 800 t)))) fun W6 =>
  jlt (sR W6 804 t (jX W)) fun W11 =>
  gd (jC W11 (jR W11 800 t) = 2) <|
  gd (jra W11 (jI W11 217 (jR W11 800 t))) <|
  jlt (nwB W11 803 t (ix (jI W11 217 (jR W11 800 t)))) fun W18 =>
  gd (jC W18 (jR W18 800 t) = 2) <|
  gd (jra W18 (jI W18 217 (jR W18 800 t))) <|
  jlt (nwA W18 806 t (ix (jI W18 217 (jR W18 800 t)))) fun W26 =>
  gd (jC W26 (jR W26 800 t) = 2) <|
  gd (jra W26 (jI W26 217 (jR W26 800 t))) <|
  jlt (nwA W26 808 t (ix (jI W26 217 (jR W26 800 t)))) fun W35 =>
  gd (jC W35 (jR W35 800 t) = 2) <|
  gd (jra W35 (jI W35 217 (jR W35 800 t))) <|
  jlt (nwA W35 809 t (ix (jI W35 217 (jR W35 800 t)))) fun W45 =>
  gd (jC W45 (jR W45 800 t) = 2) <|
  gd (jra W45 (jI W45 217 (jR W45 800 t))) <|
  jlt (nwA W45 810 t (ix (jI W45 217 (jR W45 800 t)))) fun W56 =>
  gd (jC W56 (jR W56 800 t) = 2) <|
  gd (jra W56 (jI W56 217 (jR W56 800 t))) <|
  jlt (nwA W56 811 t (ix (jI W56 217 (jR W56 800 t)))) fun W68 =>
  fog_room_106 t W68)
  else
    (fog_room_106 t W)
noncomputable def fco_size (t : Nat) (W : jW) : Option (Int32) :=
  gd (jC W t = 7) <| gd (jC W (jR W 700 t) = 6) <| some (jI W 601 (jR W 700 t))
noncomputable def fpg_firstBlock (t : Nat) (a1 : Int32) (W : jW) : Option (Int32) :=
  gd (jC W t = 2) <| gd (jC W (jR W 211 t) = 6) <| gd (jin a1 (jN W 600 (jR W 211 t))) <| some (jA W 600 (jR W 211 t) (ix a1))
abbrev fog_add_S : Type := (Int32 × jW) ⊕ (Int32 × jW) ⊕ (Int32 × jW) ⊕ (Int32 × jW) ⊕ (Int32 × jW)
noncomputable def fog_add_107 (t : Nat) (a1 : Int32) (a2 : Nat) (l3 : Int32) (s0 : Int32) (s1 : Nat) (W : jW) : Option (fog_add_S ⊕ (jW)) :=
  gd (jR W 819 t = s1) <|
  gd (jin s0 (jN W 819 t)) <|
  gd (jC W t = 8) <|
  gd (jC W (jR W 801 t) = 7) <|
  gd (jin l3 (jN W 702 (jR W 801 t))) <|
  gd (jR W 819 t = s1) <|
  gd (jin s0 (jN W 819 t)) <|
  jlt (pB W 819 t (ix s0) ((jB W 819 t (ix s0)) + (jB W 702 (jR W 801 t) (ix l3)))) fun W37 =>
  jlt (l3 + (kI 1)) fun v42 =>
  some (.inl (.inr (.inl (v42, W37))))
noncomputable def fog_add_217 (t : Nat) (a1 : Int32) (a2 : Nat) (l3 : Int32) (W : jW) : Option (fog_add_S ⊕ (jW)) :=
  gd (jC W t = 8) <|
  gd (jC W (jR W 800 t) = 2) <|
  if l3 < (jI W 217 (jR W 800 t)) then
    (gd (jin l3 (jN W 803 t)) <|
  gd (jin l3 (jN W 819 t)) <|
  gd (jin l3 (jN W 803 t)) <|
  jlt (pB W 803 t (ix l3) (fjm_max (jB W 803 t (ix l3)) (jB W 819 t (ix l3)))) fun W82 =>
  jlt (l3 + (kI 1)) fun v87 =>
  some (.inl (.inr (.inr (.inr (.inr (v87, W82)))))))
  else
    (some (.inr W))
noncomputable def fog_add_215 (t : Nat) (a1 : Int32) (a2 : Nat) (W : jW) : Option (fog_add_S ⊕ (jW)) :=
  some (.inl (.inr (.inr (.inr (.inr ((kI 0), W))))))
noncomputable def fog_add_173 (t : Nat) (a1 : Int32) (a2 : Nat) (l3 : Int32) (W : jW) : Option (fog_add_S ⊕ (jW)) :=
  gd (jC W a2 = 7) <|
  (fco_size a2 W).bind fun q61 =>
  if l3 < q61 then
    (if a1 = (kI 2) then
    (gd (jC W t = 8) <|
  gd (jC W (jR W 700 a2) = 6) <|
  gd (jin l3 (jN W 600 (jR W 700 a2))) <|
  gd (jin (jA W 600 (jR W 700 a2) (ix l3)) (jN W 819 t)) <|
  gd (jin l3 (jN W 702 a2)) <|
  gd (jin (jA W 600 (jR W 700 a2) (ix l3)) (jN W 819 t)) <|
  jlt (pB W 819 t (ix (jA W 600 (jR W 700 a2) (ix l3))) ((jB W 819 t (ix (jA W 600 (jR W 700 a2) (ix l3)))) + (jB W 702 a2 (ix l3)))) fun W68 =>
  jlt (l3 + (kI 1)) fun v74 =>
  some (.inl (.inr (.inr (.inr (.inl (v74, W68)))))))
  else
    (fog_add_215 t a1 a2 W))
  else
    (fog_add_215 t a1 a2 W)
noncomputable def fog_add_171 (t : Nat) (a1 : Int32) (a2 : Nat) (W : jW) : Option (fog_add_S ⊕ (jW)) :=
  some (.inl (.inr (.inr (.inr (.inl ((kI 0), W))))))
noncomputable def fog_add_128 (t : Nat) (a1 : Int32) (a2 : Nat) (l3 : Int32) (W : jW) : Option (fog_add_S ⊕ (jW)) :=
  gd (jC W t = 8) <|
  gd (jC W (jR W 800 t) = 2) <|
  (fpg_functionCount (jR W 800 t) W).bind fun q47 =>
  if l3 < q47 then
    (if a1 = (0 : Int32) then
    ((fpg_firstBlock (jR W 800 t) l3 W).bind fun q48 =>
  gd (jin q48 (jN W 819 t)) <|
  gd (jin l3 (jN W 812 t)) <|
  gd (jin q48 (jN W 819 t)) <|
  jlt (pB W 819 t (ix q48) ((jB W 819 t (ix q48)) + (jB W 812 t (ix l3)))) fun W52 =>
  jlt (l3 + (kI 1)) fun v57 =>
  some (.inl (.inr (.inr (.inl (v57, W52))))))
  else
    (fog_add_171 t a1 a2 W))
  else
    (fog_add_171 t a1 a2 W)
noncomputable def fog_add_126 (t : Nat) (a1 : Int32) (a2 : Nat) (W : jW) : Option (fog_add_S ⊕ (jW)) :=
  some (.inl (.inr (.inr (.inl ((kI 0), W)))))
noncomputable def fog_add_56 (t : Nat) (a1 : Int32) (a2 : Nat) (l3 : Int32) (W : jW) : Option (fog_add_S ⊕ (jW)) :=
  gd (jC W t = 8) <|
  gd (jC W (jR W 801 t) = 7) <|
  (fco_size (jR W 801 t) W).bind fun q24 =>
  if l3 < q24 then
    (if a1 < (kI 2) then
    (if a1 = (0 : Int32) then
    (gd (jC W (jR W 701 (jR W 801 t)) = 6) <|
  gd (jin l3 (jN W 600 (jR W 701 (jR W 801 t)))) <|
  fog_add_107 t a1 a2 l3 (jA W 600 (jR W 701 (jR W 801 t)) (ix l3)) (jR W 819 t) W)
  else
    (gd (jC W (jR W 700 (jR W 801 t)) = 6) <|
    gd (jin l3 (jN W 600 (jR W 700 (jR W 801 t)))) <|
    fog_add_107 t a1 a2 l3 (jA W 600 (jR W 700 (jR W 801 t)) (ix l3)) (jR W 819 t) W))
  else
    (fog_add_126 t a1 a2 W))
  else
    (fog_add_126 t a1 a2 W)
noncomputable def fog_add_30 (t : Nat) (a1 : Int32) (a2 : Nat) (l3 : Int32) (W : jW) : Option (fog_add_S ⊕ (jW)) :=
  gd (jC W t = 8) <|
  gd (jC W (jR W 800 t) = 2) <|
  if l3 < (jI W 217 (jR W 800 t)) then
    (gd (jin l3 (jN W 819 t)) <| jlt (pB W 819 t (ix l3) (kJ 0)) fun W15 => jlt (l3 + (kI 1)) fun v20 => some (.inl (.inl (v20, W15))))
  else
    (some (.inl (.inr (.inl ((kI 0), W)))))
noncomputable def fog_add_28 (t : Nat) (a1 : Int32) (a2 : Nat) (W : jW) : Option (fog_add_S ⊕ (jW)) :=
  some (.inl (.inl ((kI 0), W)))
noncomputable def fog_add_st (t : Nat) (a1 : Int32) (a2 : Nat) : fog_add_S → Option (fog_add_S ⊕ (jW)) :=
  (Sum.elim (fun s => fog_add_30 t a1 a2 s.1 s.2) (Sum.elim (fun s => fog_add_56 t a1 a2 s.1 s.2) (Sum.elim (fun s => fog_add_128 t a1 a2 s.1 s.2) (Sum.elim (fun s => fog_add_173 t a1 a2 s.1 s.2) (fun s => fog_add_217 t a1 a2 s.1 s.2)))))
noncomputable def fog_add_0 (t : Nat) (a1 : Int32) (a2 : Nat) (W : jW) : Option (fog_add_S ⊕ (jW)) :=
  gd (jC W t = 8) <|
  gd (¬ jR W 819 t = 0) <|
  gd (jC W (jR W 800 t) = 2) <|
  if (nI (jN W 819 t)) < (jI W 217 (jR W 800 t)) then
    (gd (jra W (jI W 217 (jR W 800 t))) <| jlt (nwB W 819 t (ix (jI W 217 (jR W 800 t)))) fun W5 => fog_add_28 t a1 a2 W5)
  else
    (fog_add_28 t a1 a2 W)
noncomputable def fog_add (t : Nat) (a1 : Int32) (a2 : Nat) (W : jW) : Option (jW) :=
  jrn (fog_add_st t a1 a2) (fog_add_0 t a1 a2 W)
abbrev fog_tell_S : Type := (Int32 × jW) ⊕ (Int32 × jW) ⊕ (Int32 × jW) ⊕ (Int32 × jW) ⊕ (Int32 × jW)
noncomputable def fog_tell_190 (t : Nat) (a1 : Nat) (a2 : Nat) (a3 : Nat) (a4 : Nat) (l5 : Int32) (s0 : Int32) (s1 : Int32) (s2 : Nat) (W : jW) : Option (fog_tell_S ⊕ (jW)) :=
  gd (jR W 806 t = s2) <|
  gd (jin s1 (jN W 806 t)) <|
  jlt (pA W 806 t (ix s1) (i2z s0)) fun W65 =>
  jlt (l5 + (kI 1)) fun v68 =>
  some (.inl (.inr (.inr (.inr (.inr (v68, W65))))))
noncomputable def fog_tell_155 (t : Nat) (a1 : Nat) (a2 : Nat) (a3 : Nat) (a4 : Nat) (l5 : Int32) (W : jW) : Option (fog_tell_S ⊕ (jW)) :=
  gd (jC W t = 8) <|
  gd (jC W (jR W 800 t) = 2) <|
  if l5 < (jI W 217 (jR W 800 t)) then
    (gd (jin l5 (jN W 803 t)) <|
  if (kJ 0) < (jB W 803 t (ix l5)) then
    (fog_tell_190 t a1 a2 a3 a4 l5 (kI 1) l5 (jR W 806 t) W)
  else
    (fog_tell_190 t a1 a2 a3 a4 l5 (kI 0) l5 (jR W 806 t) W))
  else
    (some (.inr W))
noncomputable def fog_tell_132 (t : Nat) (a1 : Nat) (a2 : Nat) (a3 : Nat) (a4 : Nat) (l5 : Int32) (W : jW) : Option (fog_tell_S ⊕ (jW)) :=
  if l5 < (kI 3) then
    (gd (jC W t = 8) <| (fog_add t l5 a4 W).bind fun q55 => jlt (l5 + (kI 1)) fun v57 => some (.inl (.inr (.inr (.inr (.inl (v57, q55)))))))
  else
    (some (.inl (.inr (.inr (.inr (.inr ((kI 0), W)))))))
noncomputable def fog_tell_103 (t : Nat) (a1 : Nat) (a2 : Nat) (a3 : Nat) (a4 : Nat) (l5 : Int32) (W : jW) : Option (fog_tell_S ⊕ (jW)) :=
  gd (jC W t = 8) <|
  gd (jC W (jR W 800 t) = 2) <|
  if l5 < (jI W 217 (jR W 800 t)) then
    (gd (jin l5 (jN W 803 t)) <| jlt (pB W 803 t (ix l5) (kJ 0)) fun W47 => jlt (l5 + (kI 1)) fun v52 => some (.inl (.inr (.inr (.inl (v52, W47))))))
  else
    (some (.inl (.inr (.inr (.inr (.inl ((kI 0), W)))))))
noncomputable def fog_tell_51 (t : Nat) (a1 : Nat) (a2 : Nat) (a3 : Nat) (a4 : Nat) (l5 : Int32) (W : jW) : Option (fog_tell_S ⊕ (jW)) :=
  gd (jC W t = 8) <|
  gd (jC W (jR W 802 t) = 7) <|
  (fco_size (jR W 802 t) W).bind fun q30 =>
  if l5 < q30 then
    (gd (jC W (jR W 701 (jR W 802 t)) = 6) <|
  gd (jin l5 (jN W 600 (jR W 701 (jR W 802 t)))) <|
  gd (jin (jA W 600 (jR W 701 (jR W 802 t)) (ix l5)) (jN W 812 t)) <|
  gd (jin l5 (jN W 702 (jR W 802 t))) <|
  gd (jin (jA W 600 (jR W 701 (jR W 802 t)) (ix l5)) (jN W 812 t)) <|
  jlt (pB W 812 t (ix (jA W 600 (jR W 701 (jR W 802 t)) (ix l5))) ((jB W 812 t (ix (jA W 600 (jR W 701 (jR W 802 t)) (ix l5)))) + (jB W 702 (jR W 802 t) (ix l5)))) fun W36 =>
  jlt (l5 + (kI 1)) fun v42 =>
  some (.inl (.inr (.inl (v42, W36)))))
  else
    (some (.inl (.inr (.inr (.inl ((kI 0), W))))))
noncomputable def fog_tell_22 (t : Nat) (a1 : Nat) (a2 : Nat) (a3 : Nat) (a4 : Nat) (l5 : Int32) (W : jW) : Option (fog_tell_S ⊕ (jW)) :=
  gd (jC W t = 8) <|
  gd (jC W (jR W 800 t) = 2) <|
  (fpg_functionCount (jR W 800 t) W).bind fun q19 =>
  if l5 < q19 then
    (gd (jin l5 (jN W 812 t)) <| jlt (pB W 812 t (ix l5) (kJ 0)) fun W21 => jlt (l5 + (kI 1)) fun v26 => some (.inl (.inl (v26, W21))))
  else
    (some (.inl (.inr (.inl ((kI 0), W)))))
noncomputable def fog_tell_st (t : Nat) (a1 : Nat) (a2 : Nat) (a3 : Nat) (a4 : Nat) : fog_tell_S → Option (fog_tell_S ⊕ (jW)) :=
  (Sum.elim (fun s => fog_tell_22 t a1 a2 a3 a4 s.1 s.2) (Sum.elim (fun s => fog_tell_51 t a1 a2 a3 a4 s.1 s.2) (Sum.elim (fun s => fog_tell_103 t a1 a2 a3 a4 s.1 s.2) (Sum.elim (fun s => fog_tell_132 t a1 a2 a3 a4 s.1 s.2) (fun s => fog_tell_155 t a1 a2 a3 a4 s.1 s.2)))))
noncomputable def fog_tell_0 (t : Nat) (a1 : Nat) (a2 : Nat) (a3 : Nat) (a4 : Nat) (W : jW) : Option (fog_tell_S ⊕ (jW)) :=
  gd (jC W t = 8) <|
  jlt (sR W 800 t a1) fun W2 =>
  jlt (sR W2 801 t a2) fun W6 =>
  jlt (sR W6 802 t a3) fun W10 =>
  (fog_room t W10).bind fun q14 =>
  some (.inl (.inl ((kI 0), q14)))
noncomputable def fog_tell (t : Nat) (a1 : Nat) (a2 : Nat) (a3 : Nat) (a4 : Nat) (W : jW) : Option (jW) :=
  jrn (fog_tell_st t a1 a2 a3 a4) (fog_tell_0 t a1 a2 a3 a4 W)
noncomputable def fcl_counted (t : Nat) (W : jW) : Option (jW) :=
  gd (jC W t = 1) <|
  if (jI W 115 t) = (0 : Int32) then
    (gd (jC W (jR W 111 t) = 8) <|
    (fog_tell (jR W 111 t) (jR W 104 t) (jR W 108 t) (jR W 109 t) (jR W 110 t) W).bind fun q3 =>
    gd (jC q3 t = 1) <|
    jlt (sI q3 115 t (kI 1)) fun W6 =>
    some W6)
  else
    (some W)
noncomputable def fpg_addressOf (t : Nat) (a1 : Int32) (W : jW) : Option (Int64) :=
  gd (jC W t = 2) <|
  gd (jC W (jR W 201 t) = 4) <|
  (fsh_last (jR W 201 t) W).bind fun q3 =>
  gd (jin q3 (jN W 408 (jR W 201 t))) <|
  some ((jB W 408 (jR W 201 t) (ix q3)) + ((kJ 4) * a1.toInt64))
noncomputable def fog_heatOf (t : Nat) (a1 : Int32) (W : jW) : Option (Int64) :=
  gd (jC W t = 8) <| gd (jin a1 (jN W 812 t)) <| some (jB W 812 t (ix a1))
noncomputable def fcl_function_17 (t : Nat) (a1 : Int32) (a2 : Int32) (W : jW) : Option (Int64 × jW) :=
  some ((kJ (-14)), W)
noncomputable def fcl_function (t : Nat) (a1 : Int32) (a2 : Int32) (W : jW) : Option (Int64 × jW) :=
  gd (jC W t = 1) <|
  (fcl_isFunction t a1 W).bind fun q2 =>
  if q2 = (0 : Int32) then
    (fcl_function_17 t a1 a2 W)
  else
    (if a2 < (0 : Int32) then
    (fcl_function_17 t a1 a2 W)
  else
    (if (kI 3) < a2 then
    (fcl_function_17 t a1 a2 W)
  else
    ((fcl_counted t W).bind fun q3 =>
    gd (jC q3 t = 1) <|
    gd (jC q3 (jR q3 104 t) = 2) <|
    gd (jC q3 (jR q3 209 (jR q3 104 t)) = 6) <|
    gd (jin a1 (jN q3 600 (jR q3 209 (jR q3 104 t)))) <|
    jlt (jA q3 600 (jR q3 209 (jR q3 104 t)) (ix a1)) fun v9 =>
    if a2 = (0 : Int32) then
      ((fpg_addressOf (jR q3 104 t) v9 q3).bind fun q14 => some (q14, q3))
    else
      (if a2 = (kI 1) then
        ((fpg_behind (jR q3 104 t) a1 q3).bind fun q13 => some (((kJ 4) * ((q13 - v9).toInt64)), q3))
      else
        (if a2 = (kI 2) then
          ((fpg_firstBlock (jR q3 104 t) a1 q3).bind fun q12 => some (q12.toInt64, q3))
        else
          (gd (jC q3 (jR q3 111 t) = 8) <| (fog_heatOf (jR q3 111 t) a1 q3).bind fun q11 => some (q11, q3)))))))
noncomputable def fcl_isBlock_26 (t : Nat) (a1 : Int32) (W : jW) : Option (Int32) :=
  some (kI 0)
noncomputable def fcl_isBlock (t : Nat) (a1 : Int32) (W : jW) : Option (Int32) :=
  gd (jC W t = 1) <|
  if (jI W 106 t) = (0 : Int32) then
    (fcl_isBlock_26 t a1 W)
  else
    (if a1 < (0 : Int32) then
    (fcl_isBlock_26 t a1 W)
  else
    (gd (jC W (jR W 104 t) = 2) <| if a1 < (jI W 217 (jR W 104 t)) then
    (some (kI 1))
  else
    (fcl_isBlock_26 t a1 W)))
noncomputable def fpg_functionOf (t : Nat) (a1 : Int32) (W : jW) : Option (Int32) :=
  gd (jC W t = 2) <|
  gd (jC W (jR W 213 t) = 6) <|
  gd (jin a1 (jN W 600 (jR W 213 t))) <|
  gd (jin (jA W 600 (jR W 213 t) (ix a1)) (jN W 212 t)) <|
  some (jA W 212 t (ix (jA W 600 (jR W 213 t) (ix a1))))
noncomputable def fpg_nextOf_39 (t : Nat) (a1 : Int32) (W : jW) : Option (Int32) :=
  some (a1 + (kI 1))
noncomputable def fpg_nextOf (t : Nat) (a1 : Int32) (W : jW) : Option (Int32) :=
  gd (jC W t = 2) <|
  gd (jin a1 (jN W 214 t)) <|
  if (jA W 214 t (ix a1)) = (0 : Int32) then
    (fpg_nextOf_39 t a1 W)
  else
    (gd (jin a1 (jN W 214 t)) <|
  if (jA W 214 t (ix a1)) = (kI 3) then
    (fpg_nextOf_39 t a1 W)
  else
    (gd (jin a1 (jN W 214 t)) <|
  if (jA W 214 t (ix a1)) = (kI 4) then
    (fpg_nextOf_39 t a1 W)
  else
    (gd (jin a1 (jN W 214 t)) <| if (jA W 214 t (ix a1)) = (kI 5) then
    (fpg_nextOf_39 t a1 W)
  else
    (some (kI (-1))))))
noncomputable def fpg_takenOf_20 (t : Nat) (a1 : Int32) (W : jW) : Option (Int32) :=
  gd (jC W t = 2) <| gd (jin a1 (jN W 215 t)) <| some (jA W 215 t (ix a1))
noncomputable def fpg_takenOf (t : Nat) (a1 : Int32) (W : jW) : Option (Int32) :=
  gd (jC W t = 2) <|
  gd (jin a1 (jN W 214 t)) <|
  if (jA W 214 t (ix a1)) = (kI 1) then
    (fpg_takenOf_20 t a1 W)
  else
    (gd (jin a1 (jN W 214 t)) <| if (jA W 214 t (ix a1)) = (kI 3) then
    (fpg_takenOf_20 t a1 W)
  else
    (some (kI (-1))))
noncomputable def fcl_block_18 (t : Nat) (a1 : Int32) (a2 : Int32) (W : jW) : Option (Int64 × jW) :=
  some ((kJ (-14)), W)
noncomputable def fcl_block (t : Nat) (a1 : Int32) (a2 : Int32) (W : jW) : Option (Int64 × jW) :=
  gd (jC W t = 1) <|
  (fcl_isBlock t a1 W).bind fun q2 =>
  if q2 = (0 : Int32) then
    (fcl_block_18 t a1 a2 W)
  else
    (if a2 < (0 : Int32) then
    (fcl_block_18 t a1 a2 W)
  else
    (if (kI 7) < a2 then
    (fcl_block_18 t a1 a2 W)
  else
    ((fcl_counted t W).bind fun q3 =>
    if a2 = (kI 0) then
      (gd (jC q3 t = 1) <|
      gd (jC q3 (jR q3 104 t) = 2) <|
      gd (jC q3 (jR q3 213 (jR q3 104 t)) = 6) <|
      gd (jin a1 (jN q3 600 (jR q3 213 (jR q3 104 t)))) <|
      (fpg_addressOf (jR q3 104 t) (jA q3 600 (jR q3 213 (jR q3 104 t)) (ix a1)) q3).bind fun q10 =>
      some (q10, q3))
    else if a2 = (kI 1) then
      (gd (jC q3 t = 1) <| gd (jC q3 (jR q3 104 t) = 2) <| (fpg_wordsOf (jR q3 104 t) a1 q3).bind fun q14 => some (q14.toInt64, q3))
    else if a2 = (kI 2) then
      (gd (jC q3 t = 1) <| gd (jC q3 (jR q3 104 t) = 2) <| (fpg_functionOf (jR q3 104 t) a1 q3).bind fun q18 => some (q18.toInt64, q3))
    else if a2 = (kI 3) then
      (gd (jC q3 t = 1) <| gd (jC q3 (jR q3 104 t) = 2) <| gd (jin a1 (jN q3 214 (jR q3 104 t))) <| some ((jA q3 214 (jR q3 104 t) (ix a1)).toInt64, q3))
    else if a2 = (kI 4) then
      (gd (jC q3 t = 1) <| gd (jC q3 (jR q3 104 t) = 2) <| (fpg_nextOf (jR q3 104 t) a1 q3).bind fun q26 => some (q26.toInt64, q3))
    else if a2 = (kI 5) then
      (gd (jC q3 t = 1) <| gd (jC q3 (jR q3 104 t) = 2) <| (fpg_takenOf (jR q3 104 t) a1 q3).bind fun q30 => some (q30.toInt64, q3))
    else if a2 = (kI 6) then
      (gd (jC q3 t = 1) <|
      gd (jC q3 (jR q3 104 t) = 2) <|
      gd (jin a1 (jN q3 216 (jR q3 104 t))) <|
      if (jA q3 216 (jR q3 104 t) (ix a1)) = (0 : Int32) then
        (some ((kJ 0), q3))
      else
        (some ((kJ 1), q3)))
    else (gd (jC q3 t = 1) <| gd (jC q3 (jR q3 111 t) = 8) <| gd (jin a1 (jN q3 803 (jR q3 111 t))) <| some ((jB q3 803 (jR q3 111 t) (ix a1)), q3)))))
noncomputable def fcl_wordAt_42 (t : Nat) (a1 : Int64) (W : jW) : Option (Int32) :=
  some (kI (-1))
noncomputable def fcl_wordAt (t : Nat) (a1 : Int64) (W : jW) : Option (Int32) :=
  gd (jC W t = 1) <|
  if (jI W 106 t) = (0 : Int32) then
    (fcl_wordAt_42 t a1 W)
  else
    (gd (jC W (jR W 104 t) = 2) <|
  gd (jC W (jR W 201 (jR W 104 t)) = 4) <|
  (fsh_isText (jR W 201 (jR W 104 t)) a1 W).bind fun q4 =>
  if q4 = (0 : Int32) then
    (fcl_wordAt_42 t a1 W)
  else
    (if (lrm a1 (kJ 4)) = (kJ 0) then
    ((fpg_wordAt (jR W 104 t) a1 W).bind fun q5 => some q5)
  else
    (fcl_wordAt_42 t a1 W)))
noncomputable def fpg_isWay_53 (t : Nat) (a1 : Int32) (a2 : Int32) (W : jW) : Option (Int32) :=
  some (kI 1)
noncomputable def fpg_isWay_57 (t : Nat) (a1 : Int32) (a2 : Int32) (W : jW) : Option (Int32) :=
  some (kI 0)
noncomputable def fpg_isWay (t : Nat) (a1 : Int32) (a2 : Int32) (W : jW) : Option (Int32) :=
  gd (jC W t = 2) <|
  (fpg_functionOf t a1 W).bind fun q2 =>
  (fpg_functionOf t a2 W).bind fun q3 =>
  if q2 = q3 then
    ((fpg_nextOf t a1 W).bind fun q4 =>
    if a2 = q4 then
      (fpg_isWay_53 t a1 a2 W)
    else
      ((fpg_takenOf t a1 W).bind fun q5 =>
    if a2 = q5 then
      (fpg_isWay_53 t a1 a2 W)
    else
      (gd (jin a1 (jN W 214 t)) <|
    if (jA W 214 t (ix a1)) = (kI 6) then
      (gd (jin a2 (jN W 216 t)) <| if (jA W 216 t (ix a2)) = (0 : Int32) then
      (fpg_isWay_57 t a1 a2 W)
    else
      (fpg_isWay_53 t a1 a2 W))
    else
      (fpg_isWay_57 t a1 a2 W))))
  else
    (some (kI 0))
abbrev fco_seek_S : Type := (Int32)
noncomputable def fco_seek_59 (t : Nat) (a1 : Int32) (a2 : Int32) (l3 : Int32) (W : jW) : Option (fco_seek_S ⊕ (Int32)) :=
  jlt ((l3 + (kI 1)) &&& (kI 8191)) fun v12 => some (.inl v12)
noncomputable def fco_seek_70 (t : Nat) (a1 : Int32) (a2 : Int32) (l3 : Int32) (W : jW) : Option (fco_seek_S ⊕ (Int32)) :=
  some (.inr l3)
noncomputable def fco_seek_14 (t : Nat) (a1 : Int32) (a2 : Int32) (l3 : Int32) (W : jW) : Option (fco_seek_S ⊕ (Int32)) :=
  gd (jC W t = 7) <|
  gd (jin l3 (jN W 703 t)) <|
  if (jA W 703 t (ix l3)) < (0 : Int32) then
    (fco_seek_70 t a1 a2 l3 W)
  else
    (gd (jC W (jR W 700 t) = 6) <|
  gd (jin l3 (jN W 703 t)) <|
  gd (jin (jA W 703 t (ix l3)) (jN W 600 (jR W 700 t))) <|
  if (jA W 600 (jR W 700 t) (ix (jA W 703 t (ix l3)))) = a1 then
    (gd (jC W (jR W 701 t) = 6) <|
  gd (jin l3 (jN W 703 t)) <|
  gd (jin (jA W 703 t (ix l3)) (jN W 600 (jR W 701 t))) <|
  if (jA W 600 (jR W 701 t) (ix (jA W 703 t (ix l3)))) = a2 then
    (fco_seek_70 t a1 a2 l3 W)
  else
    (fco_seek_59 t a1 a2 l3 W))
  else
    (fco_seek_59 t a1 a2 l3 W))
noncomputable def fco_seek_st (t : Nat) (a1 : Int32) (a2 : Int32) (W : jW) : fco_seek_S → Option (fco_seek_S ⊕ (Int32)) :=
  (fun s => fco_seek_14 t a1 a2 s W)
noncomputable def fco_seek_0 (t : Nat) (a1 : Int32) (a2 : Int32) (W : jW) : Option (fco_seek_S ⊕ (Int32)) :=
  jlt (((a1 * (kI 31)) + (a2 * (kI 17))) &&& (kI 8191)) fun v1 => some (.inl v1)
noncomputable def fco_seek (t : Nat) (a1 : Int32) (a2 : Int32) (W : jW) : Option (Int32) :=
  jrn (fco_seek_st t a1 a2 W) (fco_seek_0 t a1 a2 W)
noncomputable def fco_add_109 (t : Nat) (a1 : Int32) (a2 : Int32) (a3 : Int64) (l5 : Int32) (W : jW) : Option (jW) :=
  gd (jC W t = 7) <|
  gd (jin l5 (jN W 703 t)) <|
  gd (jin (jA W 703 t (ix l5)) (jN W 702 t)) <|
  gd (jin (jA W 703 t (ix l5)) (jN W 702 t)) <|
  jlt (pB W 702 t (ix (jA W 703 t (ix l5))) ((jB W 702 t (ix (jA W 703 t (ix l5)))) + a3)) fun W57 =>
  some W57
noncomputable def fco_add_96 (t : Nat) (a1 : Int32) (a2 : Int32) (a3 : Int64) (l5 : Int32) (W : jW) : Option (jW) :=
  gd (jC W t = 7) <|
  gd (jin l5 (jN W 703 t)) <|
  gd (jin (jA W 703 t (ix l5)) (jN W 702 t)) <|
  jlt (pB W 702 t (ix (jA W 703 t (ix l5))) (kJ 0)) fun W48 =>
  fco_add_109 t a1 a2 a3 l5 W48
noncomputable def fco_add (t : Nat) (a1 : Int32) (a2 : Int32) (a3 : Int64) (W : jW) : Option (jW) :=
  gd (jC W t = 7) <|
  (fco_seek t a1 a2 W).bind fun q2 =>
  gd (jin q2 (jN W 703 t)) <|
  if (jA W 703 t (ix q2)) < (0 : Int32) then
    (gd (jC W (jR W 700 t) = 6) <|
  gd (jin q2 (jN W 703 t)) <|
  jlt (pA W 703 t (ix q2) (jI W 601 (jR W 700 t))) fun W6 =>
  gd (jC W6 (jR W6 700 t) = 6) <|
  (fro_add (jR W6 700 t) a1 W6).bind fun q12 =>
  gd (jC q12 t = 7) <|
  gd (jC q12 (jR q12 701 t) = 6) <|
  (fro_add (jR q12 701 t) a2 q12).bind fun q16 =>
  gd (jC q16 t = 7) <|
  gd (¬ jR q16 702 t = 0) <|
  gd (jC q16 (jR q16 700 t) = 6) <|
  if (nI (jN q16 702 t)) < (jI q16 601 (jR q16 700 t)) then
    (gd (¬ jR q16 702 t = 0) <|
  gd (jra q16 ((kI 2) * (nI (jN q16 702 t)))) <|
  jlt (nwB q16 9006 (jX q16) (ix ((kI 2) * (nI (jN q16 702 t))))) fun W23 =>
  jlt (jX q16) fun v28 =>
  gd (¬ jR W23 702 t = 0) <|
  gd (jR W23 9006 v28 = v28) <|
  gd (jcp W23 702 t 9006 v28 (kI 0) (kI 0) (nI (jN W23 702 t))) <|
  gd (¬ jR W23 702 t = 0 ∧ ¬ jR W23 9006 v28 = 0) <|
  jlt (cpB W23 702 t 9006 v28 (kI 0) (kI 0) (nI (jN W23 702 t))) fun W33 =>
  gd (jR W33 9006 v28 = v28 ∧ v28 ≠ 0) <|
  jlt (atB W33 702 t v28) fun W39 =>
  fco_add_96 t a1 a2 a3 q2 W39)
  else
    (fco_add_96 t a1 a2 a3 q2 q16))
  else
    (fco_add_109 t a1 a2 a3 q2 W)
noncomputable def fpg_isCalled_50 (t : Nat) (a1 : Int32) (a2 : Int32) (W : jW) : Option (Int32) :=
  some (kI 0)
noncomputable def fpg_isCalled_32 (t : Nat) (a1 : Int32) (a2 : Int32) (W : jW) : Option (Int32) :=
  gd (jC W t = 2) <|
  gd (jin a1 (jN W 215 t)) <|
  (fpg_firstBlock t a2 W).bind fun q9 =>
  if (jA W 215 t (ix a1)) = q9 then
    (some (kI 1))
  else
    (fpg_isCalled_50 t a1 a2 W)
noncomputable def fpg_isCalled (t : Nat) (a1 : Int32) (a2 : Int32) (W : jW) : Option (Int32) :=
  gd (jC W t = 2) <|
  gd (jin a1 (jN W 214 t)) <|
  if (jA W 214 t (ix a1)) = (kI 5) then
    (some (kI 1))
  else
    (gd (jin a1 (jN W 214 t)) <|
    if (jA W 214 t (ix a1)) = (kI 4) then
      (fpg_isCalled_32 t a1 a2 W)
    else
      (gd (jin a1 (jN W 214 t)) <| if (jA W 214 t (ix a1)) = (kI 2) then
      (fpg_isCalled_32 t a1 a2 W)
    else
      (fpg_isCalled_50 t a1 a2 W)))
noncomputable def fcl_edge_24 (t : Nat) (a1 : Int64) (a3 : Int64) (a5 : Int32) (W : jW) : Option (Int32 × jW) :=
  some ((kI (-1)), W)
noncomputable def fcl_edge_60 (t : Nat) (a1 : Int64) (a3 : Int64) (a5 : Int32) (W : jW) : Option (Int32 × jW) :=
  some ((kI (-2)), W)
noncomputable def fcl_edge_88 (t : Nat) (a1 : Int64) (a3 : Int64) (a5 : Int32) (W : jW) : Option (Int32 × jW) :=
  some ((kI (-3)), W)
noncomputable def fcl_edge_225 (t : Nat) (a1 : Int64) (a3 : Int64) (a5 : Int32) (W : jW) : Option (Int32 × jW) :=
  gd (jC W t = 1) <| jlt (sI W 115 t (kI 0)) fun W29 => some ((kI 0), W29)
noncomputable def fcl_edge_222 (t : Nat) (a1 : Int64) (a3 : Int64) (a5 : Int32) (W : jW) : Option (Int32 × jW) :=
  some ((kI (-4)), W)
noncomputable def fcl_edge (t : Nat) (a1 : Int64) (a3 : Int64) (a5 : Int32) (W : jW) : Option (Int32 × jW) :=
  gd (jC W t = 1) <|
  if (jI W 106 t) = (0 : Int32) then
    (some ((kI (-14)), W))
  else
    (if a5 < (kI 1) then
      (fcl_edge_24 t a1 a3 a5 W)
    else
      (if (kI 1000000000) < a5 then
      (fcl_edge_24 t a1 a3 a5 W)
    else
      ((fcl_wordAt t a1 W).bind fun q2 =>
      if q2 < (0 : Int32) then
        (fcl_edge_60 t a1 a3 a5 W)
      else
        (gd (jC W (jR W 104 t) = 2) <|
      gd (jin q2 (jN W 206 (jR W 104 t))) <|
      (fpg_lastWord (jR W 104 t) (jA W 206 (jR W 104 t) (ix q2)) W).bind fun q5 =>
      if q5 = q2 then
        ((fcl_wordAt t a3 W).bind fun q6 =>
        if q6 < (0 : Int32) then
          (fcl_edge_88 t a1 a3 a5 W)
        else
          (gd (jin q6 (jN W 208 (jR W 104 t))) <|
        if (jA W 208 (jR W 104 t) (ix q6)) = (0 : Int32) then
          (fcl_edge_88 t a1 a3 a5 W)
        else
          (gd (jin q2 (jN W 206 (jR W 104 t))) <|
          jlt (jA W 206 (jR W 104 t) (ix q2)) fun v9 =>
          gd (jin q6 (jN W 206 (jR W 104 t))) <|
          jlt (jA W 206 (jR W 104 t) (ix q6)) fun v11 =>
          (fpg_functionOf (jR W 104 t) v11 W).bind fun q12 =>
          (fpg_isWay (jR W 104 t) v9 v11 W).bind fun q13 =>
          if q13 = (0 : Int32) then
            ((fpg_firstBlock (jR W 104 t) q12 W).bind fun q14 =>
            if v11 = q14 then
              ((fpg_isCalled (jR W 104 t) v9 q12 W).bind fun q15 =>
            if q15 = (0 : Int32) then
              (fcl_edge_222 t a1 a3 a5 W)
            else
              ((fpg_functionOf (jR W 104 t) v9 W).bind fun q16 =>
            gd (jC W (jR W 109 t) = 7) <|
            (fco_add (jR W 109 t) q16 q12 a5.toInt64 W).bind fun q18 =>
            gd (jC q18 t = 1) <|
            gd (jC q18 (jR q18 110 t) = 7) <|
            (fco_add (jR q18 110 t) v9 (kI 0) a5.toInt64 q18).bind fun q22 =>
            fcl_edge_225 t a1 a3 a5 q22))
            else
              (fcl_edge_222 t a1 a3 a5 W))
          else
            (gd (jC W (jR W 108 t) = 7) <| (fco_add (jR W 108 t) v9 v11 a5.toInt64 W).bind fun q25 => fcl_edge_225 t a1 a3 a5 q25))))
      else
        (fcl_edge_60 t a1 a3 a5 W)))))
noncomputable def fco_of (t : Nat) (a1 : Int32) (a2 : Int32) (W : jW) : Option (Int64) :=
  gd (jC W t = 7) <|
  (fco_seek t a1 a2 W).bind fun q2 =>
  gd (jin q2 (jN W 703 t)) <|
  jlt (jA W 703 t (ix q2)) fun v4 =>
  if v4 < (0 : Int32) then
    (some (kJ 0))
  else
    (gd (jin v4 (jN W 702 t)) <| some (jB W 702 t (ix v4)))
noncomputable def fcl_way_28 (t : Nat) (a1 : Int32) (a2 : Int32) (W : jW) : Option (Int64) :=
  some (kJ 0)
noncomputable def fcl_way (t : Nat) (a1 : Int32) (a2 : Int32) (W : jW) : Option (Int64) :=
  gd (jC W t = 1) <|
  (fcl_isBlock t a1 W).bind fun q2 =>
  if q2 = (0 : Int32) then
    (fcl_way_28 t a1 a2 W)
  else
    ((fcl_isBlock t a2 W).bind fun q3 =>
  if q3 = (0 : Int32) then
    (fcl_way_28 t a1 a2 W)
  else
    (gd (jC W (jR W 108 t) = 7) <| (fco_of (jR W 108 t) a1 a2 W).bind fun q5 => some q5))
noncomputable def fcl_calls_28 (t : Nat) (a1 : Int32) (a2 : Int32) (W : jW) : Option (Int64) :=
  some (kJ 0)
noncomputable def fcl_calls (t : Nat) (a1 : Int32) (a2 : Int32) (W : jW) : Option (Int64) :=
  gd (jC W t = 1) <|
  (fcl_isFunction t a1 W).bind fun q2 =>
  if q2 = (0 : Int32) then
    (fcl_calls_28 t a1 a2 W)
  else
    ((fcl_isFunction t a2 W).bind fun q3 =>
  if q3 = (0 : Int32) then
    (fcl_calls_28 t a1 a2 W)
  else
    (gd (jC W (jR W 109 t) = 7) <| (fco_of (jR W 109 t) a1 a2 W).bind fun q5 => some q5))
noncomputable def fog_roomForRows_67 (t : Nat) (W : jW) : Option (jW) :=
  gd (jC W t = 8) <|
  gd (jC W (jR W 800 t) = 2) <|
  (fpg_functionCount (jR W 800 t) W).bind fun q40 =>
  gd (¬ jR W 824 t = 0) <|
  if (nI (jN W 824 t)) < q40 then
    (gd (jra W q40) <|
  jlt (nwB W 824 t (ix q40)) fun W43 =>
  gd (jra W43 q40) <|
  jlt (nwB W43 825 t (ix q40)) fun W49 =>
  gd (jra W49 q40) <|
  jlt (nwB W49 826 t (ix q40)) fun W55 =>
  gd (jra W55 q40) <|
  jlt (nwB W55 827 t (ix q40)) fun W61 =>
  some W61)
  else
    (some W)
noncomputable def fog_roomForRows (t : Nat) (W : jW) : Option (jW) :=
  gd (jC W t = 8) <|
  gd (¬ jR W 820 t = 0) <|
  gd (jC W (jR W 800 t) = 2) <|
  if (nI (jN W 820 t)) < (jI W 217 (jR W 800 t)) then
    (gd (jra W (jI W 217 (jR W 800 t))) <|
  jlt (nwA W 820 t (ix (jI W 217 (jR W 800 t)))) fun W5 =>
  gd (jC W5 (jR W5 800 t) = 2) <|
  gd (jra W5 (jI W5 217 (jR W5 800 t))) <|
  jlt (nwA W5 821 t (ix (jI W5 217 (jR W5 800 t)))) fun W12 =>
  gd (jC W12 (jR W12 800 t) = 2) <|
  gd (jra W12 (jI W12 217 (jR W12 800 t))) <|
  jlt (nwA W12 822 t (ix (jI W12 217 (jR W12 800 t)))) fun W20 =>
  gd (jC W20 (jR W20 800 t) = 2) <|
  gd (jra W20 (jI W20 217 (jR W20 800 t))) <|
  jlt (nwB W20 823 t (ix (jI W20 217 (jR W20 800 t)))) fun W29 =>
  fog_roomForRows_67 t W29)
  else
    (fog_roomForRows_67 t W)
noncomputable def fpg_falls_48 (t : Nat) (a1 : Int32) (a2 : Int32) (W : jW) : Option (Int32) :=
  some (kI 1)
noncomputable def fpg_falls_52 (t : Nat) (a1 : Int32) (a2 : Int32) (W : jW) : Option (Int32) :=
  some (kI 0)
noncomputable def fpg_falls (t : Nat) (a1 : Int32) (a2 : Int32) (W : jW) : Option (Int32) :=
  gd (jC W t = 2) <|
  (fpg_nextOf t a1 W).bind fun q2 =>
  if a2 = q2 then
    (some (kI 1))
  else
    ((fpg_takenOf t a1 W).bind fun q3 =>
    if a2 = q3 then
      (gd (jin a1 (jN W 214 t)) <|
      if (jA W 214 t (ix a1)) = (kI 3) then
        (fpg_falls_48 t a1 a2 W)
      else
        ((fpg_wordsOf t a1 W).bind fun q5 =>
      if (kI 1) < q5 then
        (if a2 = (a1 + (kI 1)) then
        (fpg_falls_52 t a1 a2 W)
      else
        (fpg_falls_48 t a1 a2 W))
      else
        (fpg_falls_52 t a1 a2 W)))
    else
      (some (kI 0)))
noncomputable def fog_isSooner (t : Nat) (a1 : Int32) (a2 : Int32) (W : jW) : Option (Int32) :=
  gd (jC W t = 8) <|
  gd (jC W (jR W 801 t) = 7) <|
  gd (jin a1 (jN W 702 (jR W 801 t))) <|
  gd (jin a2 (jN W 702 (jR W 801 t))) <|
  if (jB W 702 (jR W 801 t) (ix a1)) = (jB W 702 (jR W 801 t) (ix a2)) then
    (gd (jC W (jR W 700 (jR W 801 t)) = 6) <|
    gd (jin a1 (jN W 600 (jR W 700 (jR W 801 t)))) <|
    gd (jin a2 (jN W 600 (jR W 700 (jR W 801 t)))) <|
    if (jA W 600 (jR W 700 (jR W 801 t)) (ix a1)) = (jA W 600 (jR W 700 (jR W 801 t)) (ix a2)) then
      (gd (jC W (jR W 701 (jR W 801 t)) = 6) <|
      gd (jin a1 (jN W 600 (jR W 701 (jR W 801 t)))) <|
      gd (jin a2 (jN W 600 (jR W 701 (jR W 801 t)))) <|
      if (jA W 600 (jR W 701 (jR W 801 t)) (ix a1)) < (jA W 600 (jR W 701 (jR W 801 t)) (ix a2)) then
        (some (kI 1))
      else
        (some (kI 0)))
    else
      (gd (jin a1 (jN W 600 (jR W 700 (jR W 801 t)))) <|
    gd (jin a2 (jN W 600 (jR W 700 (jR W 801 t)))) <|
    if (jA W 600 (jR W 700 (jR W 801 t)) (ix a1)) < (jA W 600 (jR W 700 (jR W 801 t)) (ix a2)) then
      (some (kI 1))
    else
      (some (kI 0))))
  else
    (gd (jin a1 (jN W 702 (jR W 801 t))) <|
  gd (jin a2 (jN W 702 (jR W 801 t))) <|
  if (jB W 702 (jR W 801 t) (ix a2)) < (jB W 702 (jR W 801 t) (ix a1)) then
    (some (kI 1))
  else
    (some (kI 0)))
abbrev fog_sink_S : Type := (Int32 × Int32 × jW)
noncomputable def fog_sink_162 (t : Nat) (a1 : Int32) (a2 : Int32) (l3 : Int32) (s0 : Int32) (W : jW) : Option (fog_sink_S ⊕ (jW)) :=
  some (.inl (l3, s0, W))
noncomputable def fog_sink_70 (t : Nat) (a1 : Int32) (a2 : Int32) (l3 : Int32) (l5 : Int32) (W : jW) : Option (fog_sink_S ⊕ (jW)) :=
  gd (jC W t = 8) <|
  gd (jC W (jR W 807 t) = 6) <|
  gd (jin l3 (jN W 600 (jR W 807 t))) <|
  gd (jin l5 (jN W 600 (jR W 807 t))) <|
  (fog_isSooner t (jA W 600 (jR W 807 t) (ix l3)) (jA W 600 (jR W 807 t) (ix l5)) W).bind fun q15 =>
  if q15 = (0 : Int32) then
    (some (.inl (l3, q15, W)))
  else
    (gd (jin l3 (jN W 600 (jR W 807 t))) <|
    jlt (jA W 600 (jR W 807 t) (ix l3)) fun v17 =>
    gd (jin l5 (jN W 600 (jR W 807 t))) <|
    gd (jin l3 (jN W 600 (jR W 807 t))) <|
    jlt (pA W 600 (jR W 807 t) (ix l3) (jA W 600 (jR W 807 t) (ix l5))) fun W20 =>
    gd (jC W20 (jR W20 807 t) = 6) <|
    gd (jin l5 (jN W20 600 (jR W20 807 t))) <|
    jlt (pA W20 600 (jR W20 807 t) (ix l5) v17) fun W27 =>
    if (((kI 2) * l5) + (kI 1)) < a2 then
      (fog_sink_162 t a1 a2 l5 (kI 1) W27)
    else
      (fog_sink_162 t a1 a2 l5 (kI 0) W27))
noncomputable def fog_sink_18 (t : Nat) (a1 : Int32) (a2 : Int32) (l3 : Int32) (l4 : Int32) (W : jW) : Option (fog_sink_S ⊕ (jW)) :=
  if l4 = (0 : Int32) then
    (some (.inr W))
  else
    (jlt (((kI 2) * l3) + (kI 1)) fun v3 =>
  if (v3 + (kI 1)) < a2 then
    (gd (jC W t = 8) <|
  gd (jC W (jR W 807 t) = 6) <|
  gd (jin v3 (jN W 600 (jR W 807 t))) <|
  gd (jin (v3 + (kI 1)) (jN W 600 (jR W 807 t))) <|
  (fog_isSooner t (jA W 600 (jR W 807 t) (ix v3)) (jA W 600 (jR W 807 t) (ix (v3 + (kI 1)))) W).bind fun q8 =>
  if q8 = (0 : Int32) then
    (fog_sink_70 t a1 a2 l3 v3 W)
  else
    (jlt (v3 + (kI 1)) fun v9 => fog_sink_70 t a1 a2 l3 v9 W))
  else
    (fog_sink_70 t a1 a2 l3 v3 W))
noncomputable def fog_sink_16 (t : Nat) (a1 : Int32) (a2 : Int32) (l3 : Int32) (s0 : Int32) (W : jW) : Option (fog_sink_S ⊕ (jW)) :=
  some (.inl (l3, s0, W))
noncomputable def fog_sink_st (t : Nat) (a1 : Int32) (a2 : Int32) : fog_sink_S → Option (fog_sink_S ⊕ (jW)) :=
  (fun s => fog_sink_18 t a1 a2 s.1 s.2.1 s.2.2)
noncomputable def fog_sink_0 (t : Nat) (a1 : Int32) (a2 : Int32) (W : jW) : Option (fog_sink_S ⊕ (jW)) :=
  if (((kI 2) * a1) + (kI 1)) < a2 then
    (fog_sink_16 t a1 a2 a1 (kI 1) W)
  else
    (fog_sink_16 t a1 a2 a1 (kI 0) W)
noncomputable def fog_sink (t : Nat) (a1 : Int32) (a2 : Int32) (W : jW) : Option (jW) :=
  jrn (fog_sink_st t a1 a2) (fog_sink_0 t a1 a2 W)
abbrev fog_sortWays_S : Type := (Int32 × jW) ⊕ (Int32 × jW) ⊕ (Int32 × jW)
noncomputable def fog_sortWays_63 (t : Nat) (l1 : Int32) (W : jW) : Option (fog_sortWays_S ⊕ (jW)) :=
  jlt (l1 + (kI 1)) fun v24 => some (.inl (.inl (v24, W)))
noncomputable def fog_sortWays_113 (t : Nat) (l1 : Int32) (W : jW) : Option (fog_sortWays_S ⊕ (jW)) :=
  if (0 : Int32) < l1 then
    (gd (jC W t = 8) <|
  gd (jC W (jR W 807 t) = 6) <|
  gd (jin (kI 0) (jN W 600 (jR W 807 t))) <|
  jlt (jA W 600 (jR W 807 t) (ix (kI 0))) fun v38 =>
  gd (jin l1 (jN W 600 (jR W 807 t))) <|
  gd (jin (kI 0) (jN W 600 (jR W 807 t))) <|
  jlt (pA W 600 (jR W 807 t) (ix (kI 0)) (jA W 600 (jR W 807 t) (ix l1))) fun W41 =>
  gd (jC W41 (jR W41 807 t) = 6) <|
  gd (jin l1 (jN W41 600 (jR W41 807 t))) <|
  jlt (pA W41 600 (jR W41 807 t) (ix l1) v38) fun W48 =>
  (fog_sink t (kI 0) l1 W48).bind fun q54 =>
  jlt (l1 + (kI (-1))) fun v56 =>
  some (.inl (.inr (.inr (v56, q54)))))
  else
    (some (.inr W))
noncomputable def fog_sortWays_81 (t : Nat) (l1 : Int32) (W : jW) : Option (fog_sortWays_S ⊕ (jW)) :=
  if l1 < (0 : Int32) then
    (gd (jC W t = 8) <| gd (jC W (jR W 807 t) = 6) <| jlt ((jI W 601 (jR W 807 t)) - (kI 1)) fun v28 => some (.inl (.inr (.inr (v28, W)))))
  else
    (gd (jC W t = 8) <|
  gd (jC W (jR W 807 t) = 6) <|
  (fog_sink t l1 (jI W 601 (jR W 807 t)) W).bind fun q31 =>
  jlt (l1 + (kI (-1))) fun v33 =>
  some (.inl (.inr (.inl (v33, q31)))))
noncomputable def fog_sortWays_10 (t : Nat) (l1 : Int32) (W : jW) : Option (fog_sortWays_S ⊕ (jW)) :=
  gd (jC W t = 8) <|
  gd (jC W (jR W 801 t) = 7) <|
  (fco_size (jR W 801 t) W).bind fun q11 =>
  if l1 < q11 then
    (gd (jC W (jR W 700 (jR W 801 t)) = 6) <|
  gd (jin l1 (jN W 600 (jR W 700 (jR W 801 t)))) <|
  gd (jC W (jR W 701 (jR W 801 t)) = 6) <|
  gd (jin l1 (jN W 600 (jR W 701 (jR W 801 t)))) <|
  gd (jC W (jR W 800 t) = 2) <|
  (fpg_falls (jR W 800 t) (jA W 600 (jR W 700 (jR W 801 t)) (ix l1)) (jA W 600 (jR W 701 (jR W 801 t)) (ix l1)) W).bind fun q19 =>
  if q19 = (0 : Int32) then
    (fog_sortWays_63 t l1 W)
  else
    (gd (jC W (jR W 807 t) = 6) <| (fro_add (jR W 807 t) l1 W).bind fun q21 => fog_sortWays_63 t l1 q21))
  else
    (gd (jC W (jR W 807 t) = 6) <| jlt (((jI W 601 (jR W 807 t)) / (kI 2)) - (kI 1)) fun v13 => some (.inl (.inr (.inl (v13, W)))))
noncomputable def fog_sortWays_st (t : Nat) : fog_sortWays_S → Option (fog_sortWays_S ⊕ (jW)) :=
  (Sum.elim (fun s => fog_sortWays_10 t s.1 s.2) (Sum.elim (fun s => fog_sortWays_81 t s.1 s.2) (fun s => fog_sortWays_113 t s.1 s.2)))
noncomputable def fog_sortWays_0 (t : Nat) (W : jW) : Option (fog_sortWays_S ⊕ (jW)) :=
  gd (jC W t = 8) <| gd (jC W (jR W 807 t) = 6) <| jlt (sI W 601 (jR W 807 t) (kI 0)) fun W3 => some (.inl (.inl ((kI 0), W3)))
noncomputable def fog_sortWays (t : Nat) (W : jW) : Option (jW) :=
  jrn (fog_sortWays_st t) (fog_sortWays_0 t W)
abbrev fog_headOf_S : Type := (Int32 × jW)
noncomputable def fog_headOf_2 (t : Nat) (a1 : Int32) (l2 : Int32) (W : jW) : Option (fog_headOf_S ⊕ (Int32 × jW)) :=
  gd (jC W t = 8) <|
  gd (jin l2 (jN W 810 t)) <|
  if (jA W 810 t (ix l2)) = l2 then
    (some (.inr (l2, W)))
  else
    (gd (jin l2 (jN W 810 t)) <|
  gd (jin (jA W 810 t (ix l2)) (jN W 810 t)) <|
  gd (jin l2 (jN W 810 t)) <|
  jlt (pA W 810 t (ix l2) (jA W 810 t (ix (jA W 810 t (ix l2))))) fun W7 =>
  gd (jin l2 (jN W7 810 t)) <|
  jlt (jA W7 810 t (ix l2)) fun v12 =>
  some (.inl (v12, W7)))
noncomputable def fog_headOf_st (t : Nat) (a1 : Int32) : fog_headOf_S → Option (fog_headOf_S ⊕ (Int32 × jW)) :=
  (fun s => fog_headOf_2 t a1 s.1 s.2)
noncomputable def fog_headOf_0 (t : Nat) (a1 : Int32) (W : jW) : Option (fog_headOf_S ⊕ (Int32 × jW)) :=
  some (.inl (a1, W))
noncomputable def fog_headOf (t : Nat) (a1 : Int32) (W : jW) : Option (Int32 × jW) :=
  jrn (fog_headOf_st t a1) (fog_headOf_0 t a1 W)
abbrev fog_chain_S : Type := (Int32 × jW) ⊕ (Int32 × jW)
noncomputable def fog_chain_188 (t : Nat) (l1 : Int32) (W : jW) : Option (fog_chain_S ⊕ (jW)) :=
  jlt (l1 + (kI 1)) fun v77 => some (.inl (.inr (v77, W)))
noncomputable def fog_chain_53 (t : Nat) (l1 : Int32) (W : jW) : Option (fog_chain_S ⊕ (jW)) :=
  gd (jC W t = 8) <|
  gd (jC W (jR W 807 t) = 6) <|
  if l1 < (jI W 601 (jR W 807 t)) then
    (gd (jC W (jR W 801 t) = 7) <|
  gd (jC W (jR W 700 (jR W 801 t)) = 6) <|
  gd (jin l1 (jN W 600 (jR W 807 t))) <|
  gd (jin (jA W 600 (jR W 807 t) (ix l1)) (jN W 600 (jR W 700 (jR W 801 t)))) <|
  jlt (jA W 600 (jR W 700 (jR W 801 t)) (ix (jA W 600 (jR W 807 t) (ix l1)))) fun v38 =>
  gd (jC W (jR W 701 (jR W 801 t)) = 6) <|
  gd (jin l1 (jN W 600 (jR W 807 t))) <|
  gd (jin (jA W 600 (jR W 807 t) (ix l1)) (jN W 600 (jR W 701 (jR W 801 t)))) <|
  jlt (jA W 600 (jR W 701 (jR W 801 t)) (ix (jA W 600 (jR W 807 t) (ix l1)))) fun v42 =>
  gd (jin v38 (jN W 808 t)) <|
  if (jA W 808 t (ix v38)) < (0 : Int32) then
    (gd (jin v42 (jN W 809 t)) <|
  if (jA W 809 t (ix v42)) < (0 : Int32) then
    ((fog_headOf t v38 W).bind fun q45 =>
  gd (jC q45.2 t = 8) <|
  (fog_headOf t v42 q45.2).bind fun q48 =>
  if q45.1 = q48.1 then
    (fog_chain_188 t l1 q48.2)
  else
    (gd (jC q48.2 t = 8) <|
  gd (jC q48.2 (jR q48.2 800 t) = 2) <|
  (fpg_functionOf (jR q48.2 800 t) v42 q48.2).bind fun q52 =>
  (fpg_firstBlock (jR q48.2 800 t) q52 q48.2).bind fun q53 =>
  if v42 = q53 then
    (fog_chain_188 t l1 q48.2)
  else
    (gd (jin v38 (jN q48.2 808 t)) <|
    jlt (pA q48.2 808 t (ix v38) v42) fun W55 =>
    gd (jin v42 (jN W55 809 t)) <|
    jlt (pA W55 809 t (ix v42) v38) fun W61 =>
    (fog_headOf t v42 W61).bind fun q66 =>
    gd (jC q66.2 t = 8) <|
    (fog_headOf t v38 q66.2).bind fun q69 =>
    gd (jR q69.2 810 t = (jR W61 810 t)) <|
    gd (jin q66.1 (jN q69.2 810 t)) <|
    jlt (pA q69.2 810 t (ix q66.1) q69.1) fun W73 =>
    fog_chain_188 t l1 W73)))
  else
    (fog_chain_188 t l1 W))
  else
    (fog_chain_188 t l1 W))
  else
    (some (.inr W))
noncomputable def fog_chain_2 (t : Nat) (l1 : Int32) (W : jW) : Option (fog_chain_S ⊕ (jW)) :=
  gd (jC W t = 8) <|
  gd (jC W (jR W 800 t) = 2) <|
  if l1 < (jI W 217 (jR W 800 t)) then
    (gd (jin l1 (jN W 808 t)) <|
  jlt (pA W 808 t (ix l1) (kI (-1))) fun W7 =>
  gd (jin l1 (jN W7 809 t)) <|
  jlt (pA W7 809 t (ix l1) (kI (-1))) fun W13 =>
  gd (jin l1 (jN W13 810 t)) <|
  jlt (pA W13 810 t (ix l1) l1) fun W19 =>
  gd (jin l1 (jN W19 811 t)) <|
  jlt (pA W19 811 t (ix l1) (i2z (kI 0))) fun W25 =>
  jlt (l1 + (kI 1)) fun v30 =>
  some (.inl (.inl (v30, W25))))
  else
    ((fog_sortWays t W).bind fun q4 => some (.inl (.inr ((kI 0), q4))))
noncomputable def fog_chain_st (t : Nat) : fog_chain_S → Option (fog_chain_S ⊕ (jW)) :=
  (Sum.elim (fun s => fog_chain_2 t s.1 s.2) (fun s => fog_chain_53 t s.1 s.2))
noncomputable def fog_chain_0 (t : Nat) (W : jW) : Option (fog_chain_S ⊕ (jW)) :=
  some (.inl (.inl ((kI 0), W)))
noncomputable def fog_chain (t : Nat) (W : jW) : Option (jW) :=
  jrn (fog_chain_st t) (fog_chain_0 t W)
noncomputable def fpg_blockCount_31 (t : Nat) (a1 : Int32) (s0 : Int32) (W : jW) : Option (Int32) :=
  gd (jC W t = 2) <| gd (jC W (jR W 211 t) = 6) <| gd (jin a1 (jN W 600 (jR W 211 t))) <| some (s0 - (jA W 600 (jR W 211 t) (ix a1)))
noncomputable def fpg_blockCount (t : Nat) (a1 : Int32) (W : jW) : Option (Int32) :=
  gd (jC W t = 2) <|
  gd (jC W (jR W 209 t) = 6) <|
  if (a1 + (kI 1)) < (jI W 601 (jR W 209 t)) then
    (gd (jC W (jR W 211 t) = 6) <| gd (jin (a1 + (kI 1)) (jN W 600 (jR W 211 t))) <| fpg_blockCount_31 t a1 (jA W 600 (jR W 211 t) (ix (a1 + (kI 1)))) W)
  else
    (fpg_blockCount_31 t a1 (jI W 217 t) W)
abbrev fog_isMet_S : Type := (Int32)
noncomputable def fog_isMet_2 (t : Nat) (a1 : Int32) (l2 : Int32) (W : jW) : Option (fog_isMet_S ⊕ (Int32)) :=
  gd (jC W t = 8) <|
  gd (jC W (jR W 828 t) = 6) <|
  if l2 < (jI W 601 (jR W 828 t)) then
    (gd (jin l2 (jN W 600 (jR W 828 t))) <|
  if (jA W 600 (jR W 828 t) (ix l2)) = a1 then
    (some (.inr (kI 1)))
  else
    (jlt (l2 + (kI 1)) fun v5 => some (.inl v5)))
  else
    (some (.inr (kI 0)))
noncomputable def fog_isMet_st (t : Nat) (a1 : Int32) (W : jW) : fog_isMet_S → Option (fog_isMet_S ⊕ (Int32)) :=
  (fun s => fog_isMet_2 t a1 s W)
noncomputable def fog_isMet_0 (t : Nat) (a1 : Int32) (W : jW) : Option (fog_isMet_S ⊕ (Int32)) :=
  some (.inl (kI 0))
noncomputable def fog_isMet (t : Nat) (a1 : Int32) (W : jW) : Option (Int32) :=
  jrn (fog_isMet_st t a1 W) (fog_isMet_0 t a1 W)
abbrev fog_putChain_S : Type := (Int32 × Int32 × jW) ⊕ (Int32 × Int32 × jW)
noncomputable def fog_putChain_174 (t : Nat) (a1 : Int32) (a2 : Int32) (l3 : Int32) (l4 : Int32) (W : jW) : Option (fog_putChain_S ⊕ (Int32 × jW)) :=
  jlt (l4 + (kI 1)) fun v65 => some (.inl (.inr (l3, v65, W)))
noncomputable def fog_putChain_130 (t : Nat) (a1 : Int32) (a2 : Int32) (l3 : Int32) (l4 : Int32) (l5 : Int32) (l6 : Int32) (W : jW) : Option (fog_putChain_S ⊕ (Int32 × jW)) :=
  gd (jC W t = 8) <|
  (fog_headOf t l6 W).bind fun q46 =>
  if q46.1 = a1 then
    (gd (jC q46.2 t = 8) <|
  gd (jin l5 (jN q46.2 811 t)) <|
  if (jA q46.2 811 t (ix l5)) = (0 : Int32) then
    ((fog_headOf t l5 q46.2).bind fun q50 =>
  gd (jR q50.2 823 t = (jR q46.2 823 t)) <|
  gd (jin q50.1 (jN q50.2 823 t)) <|
  gd (jC q50.2 t = 8) <|
  gd (jC q50.2 (jR q50.2 801 t) = 7) <|
  gd (jin l4 (jN q50.2 702 (jR q50.2 801 t))) <|
  gd (jR q50.2 823 t = (jR q46.2 823 t)) <|
  gd (jin q50.1 (jN q50.2 823 t)) <|
  jlt (pB q50.2 823 t (ix q50.1) ((jB q50.2 823 t (ix q50.1)) + (jB q50.2 702 (jR q50.2 801 t) (ix l4)))) fun W59 =>
  fog_putChain_174 t a1 a2 l3 l4 W59)
  else
    (fog_putChain_174 t a1 a2 l3 l4 q46.2))
  else
    (fog_putChain_174 t a1 a2 l3 l4 q46.2)
noncomputable def fog_putChain_44 (t : Nat) (a1 : Int32) (a2 : Int32) (l3 : Int32) (l4 : Int32) (W : jW) : Option (fog_putChain_S ⊕ (Int32 × jW)) :=
  gd (jC W t = 8) <|
  gd (jC W (jR W 801 t) = 7) <|
  (fco_size (jR W 801 t) W).bind fun q19 =>
  if l4 < q19 then
    (gd (jC W (jR W 700 (jR W 801 t)) = 6) <|
  gd (jin l4 (jN W 600 (jR W 700 (jR W 801 t)))) <|
  jlt (jA W 600 (jR W 700 (jR W 801 t)) (ix l4)) fun v22 =>
  gd (jC W (jR W 701 (jR W 801 t)) = 6) <|
  gd (jin l4 (jN W 600 (jR W 701 (jR W 801 t)))) <|
  jlt (jA W 600 (jR W 701 (jR W 801 t)) (ix l4)) fun v25 =>
  (fog_headOf t v22 W).bind fun q26 =>
  if q26.1 = a1 then
    (gd (jC q26.2 t = 8) <|
  gd (jin v25 (jN q26.2 811 t)) <|
  if (jA q26.2 811 t (ix v25)) = (0 : Int32) then
    ((fog_headOf t v25 q26.2).bind fun q30 =>
  gd (jR q30.2 823 t = (jR q26.2 823 t)) <|
  gd (jin q30.1 (jN q30.2 823 t)) <|
  gd (jC q30.2 t = 8) <|
  gd (jC q30.2 (jR q30.2 801 t) = 7) <|
  gd (jin l4 (jN q30.2 702 (jR q30.2 801 t))) <|
  gd (jR q30.2 823 t = (jR q26.2 823 t)) <|
  gd (jin q30.1 (jN q30.2 823 t)) <|
  jlt (pB q30.2 823 t (ix q30.1) ((jB q30.2 823 t (ix q30.1)) + (jB q30.2 702 (jR q30.2 801 t) (ix l4)))) fun W39 =>
  fog_putChain_130 t a1 a2 l3 l4 v22 v25 W39)
  else
    (fog_putChain_130 t a1 a2 l3 l4 v22 v25 q26.2))
  else
    (fog_putChain_130 t a1 a2 l3 l4 v22 v25 q26.2))
  else
    (some (.inr (l3, W)))
noncomputable def fog_putChain_5 (t : Nat) (a1 : Int32) (a2 : Int32) (l3 : Int32) (l4 : Int32) (W : jW) : Option (fog_putChain_S ⊕ (Int32 × jW)) :=
  if l4 < (0 : Int32) then
    (some (.inl (.inr (l3, (kI 0), W))))
  else
    (gd (jC W t = 8) <|
  gd (jin l4 (jN W 820 t)) <|
  jlt (pA W 820 t (ix l4) l3) fun W4 =>
  gd (jin l4 (jN W4 811 t)) <|
  jlt (pA W4 811 t (ix l4) (i2z (kI 1))) fun W9 =>
  jlt (l3 + (kI 1)) fun v13 =>
  gd (jin l4 (jN W9 808 t)) <|
  jlt (jA W9 808 t (ix l4)) fun v15 =>
  some (.inl (.inl (v13, v15, W9))))
noncomputable def fog_putChain_st (t : Nat) (a1 : Int32) (a2 : Int32) : fog_putChain_S → Option (fog_putChain_S ⊕ (Int32 × jW)) :=
  (Sum.elim (fun s => fog_putChain_5 t a1 a2 s.1 s.2.1 s.2.2) (fun s => fog_putChain_44 t a1 a2 s.1 s.2.1 s.2.2))
noncomputable def fog_putChain_0 (t : Nat) (a1 : Int32) (a2 : Int32) (W : jW) : Option (fog_putChain_S ⊕ (Int32 × jW)) :=
  some (.inl (.inl (a2, a1, W)))
noncomputable def fog_putChain (t : Nat) (a1 : Int32) (a2 : Int32) (W : jW) : Option (Int32 × jW) :=
  jrn (fog_putChain_st t a1 a2) (fog_putChain_0 t a1 a2 W)
abbrev fog_place_S : Type := (Int32 × Int32 × Int32 × Int32 × jW) ⊕ (Int32 × Int32 × jW) ⊕ (Int32 × Int32 × Int32 × Int32 × jW)
noncomputable def fog_place_111 (t : Nat) (a1 : Int32) (l2 : Int32) (l3 : Int32) (l4 : Int32) (l5 : Int32) (W : jW) : Option (fog_place_S ⊕ (jW)) :=
  jlt (l5 + (kI 1)) fun v47 => some (.inl (.inl (l2, l3, l4, v47, W)))
noncomputable def fog_place_272 (t : Nat) (a1 : Int32) (l4 : Int32) (l6 : Int32) (l7 : Int32) (l8 : Int32) (W : jW) : Option (fog_place_S ⊕ (jW)) :=
  jlt (l8 + (kI 1)) fun v68 => some (.inl (.inr (.inr (l4, l6, l7, v68, W))))
noncomputable def fog_place_268 (t : Nat) (a1 : Int32) (l4 : Int32) (l6 : Int32) (l8 : Int32) (l9 : Int32) (W : jW) : Option (fog_place_S ⊕ (jW)) :=
  fog_place_272 t a1 l4 l6 l9 l8 W
noncomputable def fog_place_173 (t : Nat) (a1 : Int32) (l4 : Int32) (l6 : Int32) (l7 : Int32) (l8 : Int32) (W : jW) : Option (fog_place_S ⊕ (jW)) :=
  gd (jC W t = 8) <|
  gd (jC W (jR W 828 t) = 6) <|
  if l8 < (jI W 601 (jR W 828 t)) then
    (gd (jin l8 (jN W 600 (jR W 828 t))) <|
  jlt (jA W 600 (jR W 828 t) (ix l8)) fun v59 =>
  gd (jin v59 (jN W 811 t)) <|
  if (jA W 811 t (ix v59)) = (0 : Int32) then
    (if l7 < (0 : Int32) then
      (fog_place_268 t a1 l4 l6 l8 v59 W)
    else
      (gd (jin v59 (jN W 823 t)) <|
    gd (jin l7 (jN W 823 t)) <|
    if (jB W 823 t (ix l7)) < (jB W 823 t (ix v59)) then
      (fog_place_268 t a1 l4 l6 l8 v59 W)
    else
      (gd (jin v59 (jN W 823 t)) <|
    gd (jin l7 (jN W 823 t)) <|
    if (jB W 823 t (ix v59)) = (jB W 823 t (ix l7)) then
      (gd (jin v59 (jN W 822 t)) <|
    gd (jin l7 (jN W 822 t)) <|
    if (jA W 822 t (ix v59)) < (jA W 822 t (ix l7)) then
      (fog_place_268 t a1 l4 l6 l8 v59 W)
    else
      (fog_place_272 t a1 l4 l6 l7 l8 W))
    else
      (fog_place_272 t a1 l4 l6 l7 l8 W))))
  else
    (fog_place_272 t a1 l4 l6 l7 l8 W))
  else
    ((fog_putChain t l7 l6 W).bind fun q56 => some (.inl (.inr (.inl (l4, q56.1, q56.2)))))
noncomputable def fog_place_160 (t : Nat) (a1 : Int32) (l4 : Int32) (l6 : Int32) (W : jW) : Option (fog_place_S ⊕ (jW)) :=
  if l6 < l4 then
    (some (.inl (.inr (.inr (l4, l6, (kI (-1)), (kI 0), W)))))
  else
    (some (.inr W))
noncomputable def fog_place_149 (t : Nat) (a1 : Int32) (l4 : Int32) (s0 : Int32) (W : jW) : Option (fog_place_S ⊕ (jW)) :=
  gd (jC W t = 8) <| (fog_putChain t s0 (kI 0) W).bind fun q50 => some (.inl (.inr (.inl (l4, q50.1, q50.2))))
noncomputable def fog_place_34 (t : Nat) (a1 : Int32) (l2 : Int32) (l3 : Int32) (l4 : Int32) (l5 : Int32) (W : jW) : Option (fog_place_S ⊕ (jW)) :=
  if l5 < l3 then
    (gd (jC W t = 8) <|
  gd (jin l5 (jN W 806 t)) <|
  if (jA W 806 t (ix l5)) = (0 : Int32) then
    (fog_place_111 t a1 l2 l3 l4 l5 W)
  else
    (gd (jin l5 (jN W 821 t)) <|
    jlt (pA W 821 t (ix l5) l4) fun W23 =>
    jlt (l4 + (kI 1)) fun v27 =>
    (fog_headOf t l5 W23).bind fun q28 =>
    gd (jC q28.2 t = 8) <|
    (fog_isMet t q28.1 q28.2).bind fun q31 =>
    if q31 = (0 : Int32) then
      (gd (jC q28.2 (jR q28.2 828 t) = 6) <|
      (fro_add (jR q28.2 828 t) q28.1 q28.2).bind fun q33 =>
      gd (jC q33 t = 8) <|
      gd (jin q28.1 (jN q33 822 t)) <|
      jlt (pA q33 822 t (ix q28.1) l5) fun W37 =>
      gd (jin q28.1 (jN W37 823 t)) <|
      jlt (pB W37 823 t (ix q28.1) (kJ 0)) fun W42 =>
      fog_place_111 t a1 l2 l3 v27 l5 W42)
    else
      (fog_place_111 t a1 l2 l3 v27 l5 q28.2)))
  else
    (if l4 = (0 : Int32) then
      (some (.inr W))
    else
      (gd (jC W t = 8) <|
      gd (jin l2 (jN W 806 t)) <|
      if (jA W 806 t (ix l2)) = (0 : Int32) then
        (gd (jC W (jR W 828 t) = 6) <| gd (jin (kI 0) (jN W 600 (jR W 828 t))) <| fog_place_149 t a1 l4 (jA W 600 (jR W 828 t) (ix (kI 0))) W)
      else
        ((fog_headOf t l2 W).bind fun q18 => fog_place_149 t a1 l4 q18.1 q18.2)))
noncomputable def fog_place_st (t : Nat) (a1 : Int32) : fog_place_S → Option (fog_place_S ⊕ (jW)) :=
  (Sum.elim (fun s => fog_place_34 t a1 s.1 s.2.1 s.2.2.1 s.2.2.2.1 s.2.2.2.2) (Sum.elim (fun s => fog_place_160 t a1 s.1 s.2.1 s.2.2) (fun s => fog_place_173 t a1 s.1 s.2.1 s.2.2.1 s.2.2.2.1 s.2.2.2.2)))
noncomputable def fog_place_0 (t : Nat) (a1 : Int32) (W : jW) : Option (fog_place_S ⊕ (jW)) :=
  gd (jC W t = 8) <|
  gd (jC W (jR W 800 t) = 2) <|
  (fpg_firstBlock (jR W 800 t) a1 W).bind fun q3 =>
  (fpg_blockCount (jR W 800 t) a1 W).bind fun q4 =>
  jlt (q3 + q4) fun v5 =>
  gd (jC W (jR W 828 t) = 6) <|
  jlt (sI W 601 (jR W 828 t) (kI 0)) fun W7 =>
  some (.inl (.inl (q3, v5, (kI 0), q3, W7)))
noncomputable def fog_place (t : Nat) (a1 : Int32) (W : jW) : Option (jW) :=
  jrn (fog_place_st t a1) (fog_place_0 t a1 W)
abbrev fog_weigh_S : Type := (Int32 × jW) ⊕ (Int32 × jW) ⊕ (Int32 × jW)
noncomputable def fog_weigh_202 (t : Nat) (l1 : Int32) (W : jW) : Option (fog_weigh_S ⊕ (jW)) :=
  jlt (l1 + (kI 1)) fun v49 => some (.inl (.inr (.inl (v49, W))))
noncomputable def fog_weigh_166 (t : Nat) (l1 : Int32) (l2 : Int32) (l3 : Int32) (l4 : Int32) (W : jW) : Option (fog_weigh_S ⊕ (jW)) :=
  gd (jC W t = 8) <|
  gd (jin l3 (jN W 821 t)) <|
  gd (jin l2 (jN W 821 t)) <|
  if (jA W 821 t (ix l3)) = ((jA W 821 t (ix l2)) + (kI 1)) then
    (gd (jin l4 (jN W 827 t)) <|
  gd (jC W (jR W 801 t) = 7) <|
  gd (jin l1 (jN W 702 (jR W 801 t))) <|
  gd (jin l4 (jN W 827 t)) <|
  jlt (pB W 827 t (ix l4) ((jB W 827 t (ix l4)) + (jB W 702 (jR W 801 t) (ix l1)))) fun W71 =>
  fog_weigh_202 t l1 W71)
  else
    (fog_weigh_202 t l1 W)
noncomputable def fog_weigh_130 (t : Nat) (l1 : Int32) (l2 : Int32) (l3 : Int32) (l4 : Int32) (W : jW) : Option (fog_weigh_S ⊕ (jW)) :=
  gd (jC W t = 8) <|
  gd (jin l3 (jN W 820 t)) <|
  gd (jin l2 (jN W 820 t)) <|
  if (jA W 820 t (ix l3)) = ((jA W 820 t (ix l2)) + (kI 1)) then
    (gd (jin l4 (jN W 826 t)) <|
  gd (jC W (jR W 801 t) = 7) <|
  gd (jin l1 (jN W 702 (jR W 801 t))) <|
  gd (jin l4 (jN W 826 t)) <|
  jlt (pB W 826 t (ix l4) ((jB W 826 t (ix l4)) + (jB W 702 (jR W 801 t) (ix l1)))) fun W58 =>
  fog_weigh_166 t l1 l2 l3 l4 W58)
  else
    (fog_weigh_166 t l1 l2 l3 l4 W)
noncomputable def fog_weigh_210 (t : Nat) (l1 : Int32) (W : jW) : Option (fog_weigh_S ⊕ (jW)) :=
  gd (jC W t = 8) <|
  gd (jC W (jR W 800 t) = 2) <|
  (fpg_functionCount (jR W 800 t) W).bind fun q79 =>
  if l1 < q79 then
    (gd (jin l1 (jN W 826 t)) <|
  gd (jin l1 (jN W 827 t)) <|
  gd (jin l1 (jN W 825 t)) <|
  jlt (pB W 825 t (ix l1) (fjm_max (jB W 826 t (ix l1)) (jB W 827 t (ix l1)))) fun W83 =>
  jlt (l1 + (kI 1)) fun v88 =>
  some (.inl (.inr (.inr (v88, W83)))))
  else
    (some (.inr W))
noncomputable def fog_weigh_42 (t : Nat) (l1 : Int32) (W : jW) : Option (fog_weigh_S ⊕ (jW)) :=
  gd (jC W t = 8) <|
  gd (jC W (jR W 801 t) = 7) <|
  (fco_size (jR W 801 t) W).bind fun q27 =>
  if l1 < q27 then
    (gd (jC W (jR W 700 (jR W 801 t)) = 6) <|
  gd (jin l1 (jN W 600 (jR W 700 (jR W 801 t)))) <|
  jlt (jA W 600 (jR W 700 (jR W 801 t)) (ix l1)) fun v30 =>
  gd (jC W (jR W 701 (jR W 801 t)) = 6) <|
  gd (jin l1 (jN W 600 (jR W 701 (jR W 801 t)))) <|
  jlt (jA W 600 (jR W 701 (jR W 801 t)) (ix l1)) fun v33 =>
  gd (jC W (jR W 800 t) = 2) <|
  (fpg_falls (jR W 800 t) v30 v33 W).bind fun q35 =>
  if q35 = (0 : Int32) then
    (fog_weigh_202 t l1 W)
  else
    ((fpg_functionOf (jR W 800 t) v30 W).bind fun q36 =>
    if v33 = (v30 + (kI 1)) then
      (gd (jin q36 (jN W 824 t)) <|
    gd (jin l1 (jN W 702 (jR W 801 t))) <|
    gd (jin q36 (jN W 824 t)) <|
    jlt (pB W 824 t (ix q36) ((jB W 824 t (ix q36)) + (jB W 702 (jR W 801 t) (ix l1)))) fun W40 =>
    fog_weigh_130 t l1 v30 v33 q36 W40)
    else
      (fog_weigh_130 t l1 v30 v33 q36 W)))
  else
    (some (.inl (.inr (.inr ((kI 0), W)))))
noncomputable def fog_weigh_2 (t : Nat) (l1 : Int32) (W : jW) : Option (fog_weigh_S ⊕ (jW)) :=
  gd (jC W t = 8) <|
  gd (jC W (jR W 800 t) = 2) <|
  (fpg_functionCount (jR W 800 t) W).bind fun q4 =>
  if l1 < q4 then
    (gd (jin l1 (jN W 824 t)) <|
  jlt (pB W 824 t (ix l1) (kJ 0)) fun W6 =>
  gd (jin l1 (jN W6 826 t)) <|
  jlt (pB W6 826 t (ix l1) (kJ 0)) fun W12 =>
  gd (jin l1 (jN W12 827 t)) <|
  jlt (pB W12 827 t (ix l1) (kJ 0)) fun W18 =>
  jlt (l1 + (kI 1)) fun v23 =>
  some (.inl (.inl (v23, W18))))
  else
    (some (.inl (.inr (.inl ((kI 0), W)))))
noncomputable def fog_weigh_st (t : Nat) : fog_weigh_S → Option (fog_weigh_S ⊕ (jW)) :=
  (Sum.elim (fun s => fog_weigh_2 t s.1 s.2) (Sum.elim (fun s => fog_weigh_42 t s.1 s.2) (fun s => fog_weigh_210 t s.1 s.2)))
noncomputable def fog_weigh_0 (t : Nat) (W : jW) : Option (fog_weigh_S ⊕ (jW)) :=
  some (.inl (.inl ((kI 0), W)))
noncomputable def fog_weigh (t : Nat) (W : jW) : Option (jW) :=
  jrn (fog_weigh_st t) (fog_weigh_0 t W)
abbrev fog_sortByHeat_S : Type := (Int32 × jW) ⊕ (Int32 × Int32 × Int32 × jW)
noncomputable def fog_sortByHeat_81 (t : Nat) (l1 : Int32) (l2 : Int32) (l3 : Int32) (W : jW) : Option (fog_sortByHeat_S ⊕ (jW)) :=
  gd (jC W t = 8) <|
  gd (jC W (jR W 813 t) = 6) <|
  gd (jin l3 (jN W 600 (jR W 813 t))) <|
  jlt (pA W 600 (jR W 813 t) (ix l3) l2) fun W24 =>
  jlt (l1 + (kI 1)) fun v29 =>
  some (.inl (.inl (v29, W24)))
noncomputable def fog_sortByHeat_25 (t : Nat) (l1 : Int32) (l2 : Int32) (l3 : Int32) (W : jW) : Option (fog_sortByHeat_S ⊕ (jW)) :=
  if (0 : Int32) < l3 then
    (gd (jC W t = 8) <|
  gd (jC W (jR W 813 t) = 6) <|
  gd (jin (l3 - (kI 1)) (jN W 600 (jR W 813 t))) <|
  gd (jin (jA W 600 (jR W 813 t) (ix (l3 - (kI 1)))) (jN W 812 t)) <|
  gd (jin l2 (jN W 812 t)) <|
  if (jB W 812 t (ix (jA W 600 (jR W 813 t) (ix (l3 - (kI 1)))))) < (jB W 812 t (ix l2)) then
    (gd (jin (l3 - (kI 1)) (jN W 600 (jR W 813 t))) <|
  gd (jin l3 (jN W 600 (jR W 813 t))) <|
  jlt (pA W 600 (jR W 813 t) (ix l3) (jA W 600 (jR W 813 t) (ix (l3 - (kI 1))))) fun W14 =>
  jlt (l3 + (kI (-1))) fun v19 =>
  some (.inl (.inr (l1, l2, v19, W14))))
  else
    (fog_sortByHeat_81 t l1 l2 l3 W))
  else
    (fog_sortByHeat_81 t l1 l2 l3 W)
noncomputable def fog_sortByHeat_2 (t : Nat) (l1 : Int32) (W : jW) : Option (fog_sortByHeat_S ⊕ (jW)) :=
  gd (jC W t = 8) <|
  gd (jC W (jR W 813 t) = 6) <|
  if l1 < (jI W 601 (jR W 813 t)) then
    (gd (jin l1 (jN W 600 (jR W 813 t))) <| jlt (jA W 600 (jR W 813 t) (ix l1)) fun v5 => some (.inl (.inr (l1, v5, l1, W))))
  else
    (some (.inr W))
noncomputable def fog_sortByHeat_st (t : Nat) : fog_sortByHeat_S → Option (fog_sortByHeat_S ⊕ (jW)) :=
  (Sum.elim (fun s => fog_sortByHeat_2 t s.1 s.2) (fun s => fog_sortByHeat_25 t s.1 s.2.1 s.2.2.1 s.2.2.2))
noncomputable def fog_sortByHeat_0 (t : Nat) (W : jW) : Option (fog_sortByHeat_S ⊕ (jW)) :=
  some (.inl (.inl ((kI 1), W)))
noncomputable def fog_sortByHeat (t : Nat) (W : jW) : Option (jW) :=
  jrn (fog_sortByHeat_st t) (fog_sortByHeat_0 t W)
abbrev fog_callerOf_S : Type := (Int32 × Int64 × Int32)
noncomputable def fog_callerOf_110 (t : Nat) (a1 : Int32) (l2 : Int32) (l3 : Int64) (l5 : Int32) (W : jW) : Option (fog_callerOf_S ⊕ (Int32)) :=
  jlt (l5 + (kI 1)) fun v18 => some (.inl (l2, l3, v18))
noncomputable def fog_callerOf_96 (t : Nat) (a1 : Int32) (l5 : Int32) (l6 : Int32) (W : jW) : Option (fog_callerOf_S ⊕ (Int32)) :=
  gd (jC W t = 8) <|
  gd (jC W (jR W 802 t) = 7) <|
  gd (jin l5 (jN W 702 (jR W 802 t))) <|
  jlt (jB W 702 (jR W 802 t) (ix l5)) fun v16 =>
  fog_callerOf_110 t a1 l6 v16 l5 W
noncomputable def fog_callerOf_7 (t : Nat) (a1 : Int32) (l2 : Int32) (l3 : Int64) (l5 : Int32) (W : jW) : Option (fog_callerOf_S ⊕ (Int32)) :=
  gd (jC W t = 8) <|
  gd (jC W (jR W 802 t) = 7) <|
  (fco_size (jR W 802 t) W).bind fun q4 =>
  if l5 < q4 then
    (gd (jC W (jR W 700 (jR W 802 t)) = 6) <|
  gd (jin l5 (jN W 600 (jR W 700 (jR W 802 t)))) <|
  jlt (jA W 600 (jR W 700 (jR W 802 t)) (ix l5)) fun v7 =>
  gd (jC W (jR W 701 (jR W 802 t)) = 6) <|
  gd (jin l5 (jN W 600 (jR W 701 (jR W 802 t)))) <|
  if (jA W 600 (jR W 701 (jR W 802 t)) (ix l5)) = a1 then
    (if v7 = a1 then
    (fog_callerOf_110 t a1 l2 l3 l5 W)
  else
    (gd (jin l5 (jN W 702 (jR W 802 t))) <|
    if l3 < (jB W 702 (jR W 802 t) (ix l5)) then
      (fog_callerOf_96 t a1 l5 v7 W)
    else
      (gd (jin l5 (jN W 702 (jR W 802 t))) <|
    if (jB W 702 (jR W 802 t) (ix l5)) = l3 then
      (if v7 < l2 then
      (fog_callerOf_96 t a1 l5 v7 W)
    else
      (fog_callerOf_110 t a1 l2 l3 l5 W))
    else
      (fog_callerOf_110 t a1 l2 l3 l5 W))))
  else
    (fog_callerOf_110 t a1 l2 l3 l5 W))
  else
    (some (.inr l2))
noncomputable def fog_callerOf_st (t : Nat) (a1 : Int32) (W : jW) : fog_callerOf_S → Option (fog_callerOf_S ⊕ (Int32)) :=
  (fun s => fog_callerOf_7 t a1 s.1 s.2.1 s.2.2 W)
noncomputable def fog_callerOf_0 (t : Nat) (a1 : Int32) (W : jW) : Option (fog_callerOf_S ⊕ (Int32)) :=
  some (.inl ((kI (-1)), (kJ 0), (kI 0)))
noncomputable def fog_callerOf (t : Nat) (a1 : Int32) (W : jW) : Option (Int32) :=
  jrn (fog_callerOf_st t a1 W) (fog_callerOf_0 t a1 W)
abbrev fog_join_S : Type := (Int32 × Int32 × Int32 × jW)
noncomputable def fog_join_60 (t : Nat) (a1 : Int32) (a2 : Int32) (l4 : Int32) (l5 : Int32) (l6 : Int32) (W : jW) : Option (fog_join_S ⊕ (jW)) :=
  if l6 < (0 : Int32) then
    (gd (jC W t = 8) <|
    gd (jin l4 (jN W 816 t)) <|
    gd (jin (jA W 816 t (ix l4)) (jN W 815 t)) <|
    jlt (pA W 815 t (ix (jA W 816 t (ix l4))) l5) fun W13 =>
    gd (jin l5 (jN W13 816 t)) <|
    gd (jin l4 (jN W13 816 t)) <|
    jlt (pA W13 816 t (ix l4) (jA W13 816 t (ix l5))) fun W19 =>
    gd (jin l4 (jN W19 817 t)) <|
    gd (jin l5 (jN W19 817 t)) <|
    gd (jin l4 (jN W19 817 t)) <|
    jlt (pB W19 817 t (ix l4) ((jB W19 817 t (ix l4)) + (jB W19 817 t (ix l5)))) fun W26 =>
    gd (jin l4 (jN W26 818 t)) <|
    gd (jin l5 (jN W26 818 t)) <|
    gd (jin l4 (jN W26 818 t)) <|
    jlt (pB W26 818 t (ix l4) ((jB W26 818 t (ix l4)) + (jB W26 818 t (ix l5)))) fun W33 =>
    some (.inr W33))
  else
    (gd (jC W t = 8) <|
  gd (jin l6 (jN W 814 t)) <|
  jlt (pA W 814 t (ix l6) l4) fun W39 =>
  gd (jin l6 (jN W39 815 t)) <|
  jlt (jA W39 815 t (ix l6)) fun v44 =>
  some (.inl (l4, l5, v44, W39)))
noncomputable def fog_join_st (t : Nat) (a1 : Int32) (a2 : Int32) : fog_join_S → Option (fog_join_S ⊕ (jW)) :=
  (fun s => fog_join_60 t a1 a2 s.1 s.2.1 s.2.2.1 s.2.2.2)
noncomputable def fog_join_0 (t : Nat) (a1 : Int32) (a2 : Int32) (W : jW) : Option (fog_join_S ⊕ (jW)) :=
  gd (jC W t = 8) <|
  (fog_callerOf t a1 W).bind fun q2 =>
  if q2 < (0 : Int32) then
    (some (.inr W))
  else
    (gd (jin q2 (jN W 814 t)) <|
    jlt (jA W 814 t (ix q2)) fun v4 =>
    gd (jin a1 (jN W 814 t)) <|
    jlt (jA W 814 t (ix a1)) fun v6 =>
    if v4 = v6 then
      (some (.inr W))
    else
      (gd (jin v4 (jN W 818 t)) <|
    gd (jin v6 (jN W 818 t)) <|
    if a2.toInt64 < ((jB W 818 t (ix v4)) + (jB W 818 t (ix v6))) then
      (some (.inr W))
    else
      (some (.inl (v4, v6, v6, W)))))
noncomputable def fog_join (t : Nat) (a1 : Int32) (a2 : Int32) (W : jW) : Option (jW) :=
  jrn (fog_join_st t a1 a2) (fog_join_0 t a1 a2 W)
abbrev fog_leastOf_S : Type := (Int32 × Int32)
noncomputable def fog_leastOf_4 (t : Nat) (a1 : Int32) (l2 : Int32) (l3 : Int32) (W : jW) : Option (fog_leastOf_S ⊕ (Int32)) :=
  if l3 < (0 : Int32) then
    (some (.inr l2))
  else
    (jlt (fjm_min l2 l3) fun v2 => gd (jC W t = 8) <| gd (jin l3 (jN W 815 t)) <| jlt (jA W 815 t (ix l3)) fun v5 => some (.inl (v2, v5)))
noncomputable def fog_leastOf_st (t : Nat) (a1 : Int32) (W : jW) : fog_leastOf_S → Option (fog_leastOf_S ⊕ (Int32)) :=
  (fun s => fog_leastOf_4 t a1 s.1 s.2 W)
noncomputable def fog_leastOf_0 (t : Nat) (a1 : Int32) (W : jW) : Option (fog_leastOf_S ⊕ (Int32)) :=
  some (.inl (a1, a1))
noncomputable def fog_leastOf (t : Nat) (a1 : Int32) (W : jW) : Option (Int32) :=
  jrn (fog_leastOf_st t a1 W) (fog_leastOf_0 t a1 W)
noncomputable def fog_isDenser (t : Nat) (a1 : Int32) (a2 : Int32) (W : jW) : Option (Int32) :=
  gd (jC W t = 8) <|
  gd (jin a1 (jN W 817 t)) <|
  gd (jin a2 (jN W 818 t)) <|
  jlt ((jB W 817 t (ix a1)) * (jB W 818 t (ix a2))) fun v4 =>
  gd (jin a2 (jN W 817 t)) <|
  gd (jin a1 (jN W 818 t)) <|
  jlt ((jB W 817 t (ix a2)) * (jB W 818 t (ix a1))) fun v7 =>
  if v4 = v7 then
    ((fog_leastOf t a1 W).bind fun q8 => (fog_leastOf t a2 W).bind fun q9 => if q8 < q9 then
      (some (kI 1))
    else
      (some (kI 0)))
  else
    (if v7 < v4 then
    (some (kI 1))
  else
    (some (kI 0)))
abbrev fog_gather_S : Type := (Int32 × Int32 × jW) ⊕ (Int32 × Int32 × Int32 × jW)
noncomputable def fog_gather_103 (t : Nat) (l1 : Int32) (l2 : Int32) (W : jW) : Option (fog_gather_S ⊕ (jW)) :=
  jlt (l2 + (kI 1)) fun v38 => some (.inl (.inl (l1, v38, W)))
noncomputable def fog_gather_90 (t : Nat) (l1 : Int32) (l2 : Int32) (l3 : Int32) (W : jW) : Option (fog_gather_S ⊕ (jW)) :=
  gd (jC W t = 8) <|
  gd (jC W (jR W 813 t) = 6) <|
  gd (jin l3 (jN W 600 (jR W 813 t))) <|
  jlt (pA W 600 (jR W 813 t) (ix l3) l2) fun W31 =>
  jlt (l1 + (kI 1)) fun v36 =>
  fog_gather_103 t v36 l2 W31
noncomputable def fog_gather_41 (t : Nat) (l1 : Int32) (l2 : Int32) (l3 : Int32) (W : jW) : Option (fog_gather_S ⊕ (jW)) :=
  if (0 : Int32) < l3 then
    (gd (jC W t = 8) <|
  gd (jC W (jR W 813 t) = 6) <|
  gd (jin (l3 - (kI 1)) (jN W 600 (jR W 813 t))) <|
  (fog_isDenser t l2 (jA W 600 (jR W 813 t) (ix (l3 - (kI 1)))) W).bind fun q18 =>
  if q18 = (0 : Int32) then
    (fog_gather_90 t l1 l2 l3 W)
  else
    (gd (jin (l3 - (kI 1)) (jN W 600 (jR W 813 t))) <|
  gd (jin l3 (jN W 600 (jR W 813 t))) <|
  jlt (pA W 600 (jR W 813 t) (ix l3) (jA W 600 (jR W 813 t) (ix (l3 - (kI 1))))) fun W21 =>
  jlt (l3 + (kI (-1))) fun v26 =>
  some (.inl (.inr (l1, l2, v26, W21)))))
  else
    (fog_gather_90 t l1 l2 l3 W)
noncomputable def fog_gather_4 (t : Nat) (l1 : Int32) (l2 : Int32) (W : jW) : Option (fog_gather_S ⊕ (jW)) :=
  gd (jC W t = 8) <|
  gd (jC W (jR W 800 t) = 2) <|
  (fpg_functionCount (jR W 800 t) W).bind fun q4 =>
  if l2 < q4 then
    (gd (jin l2 (jN W 814 t)) <|
  if (jA W 814 t (ix l2)) = l2 then
    (gd (jin l2 (jN W 818 t)) <| if (jB W 818 t (ix l2)) = (kJ 0) then
    (fog_gather_103 t l1 l2 W)
  else
    (some (.inl (.inr (l1, l2, l1, W)))))
  else
    (fog_gather_103 t l1 l2 W))
  else
    (gd (jC W (jR W 813 t) = 6) <| jlt (sI W 601 (jR W 813 t) l1) fun W6 => some (.inr W6))
noncomputable def fog_gather_st (t : Nat) : fog_gather_S → Option (fog_gather_S ⊕ (jW)) :=
  (Sum.elim (fun s => fog_gather_4 t s.1 s.2.1 s.2.2) (fun s => fog_gather_41 t s.1 s.2.1 s.2.2.1 s.2.2.2))
noncomputable def fog_gather_0 (t : Nat) (W : jW) : Option (fog_gather_S ⊕ (jW)) :=
  some (.inl (.inl ((kI 0), (kI 0), W)))
noncomputable def fog_gather (t : Nat) (W : jW) : Option (jW) :=
  jrn (fog_gather_st t) (fog_gather_0 t W)
abbrev fog_cluster_S : Type := (Int32 × jW) ⊕ (Int32 × Int32 × jW) ⊕ (Int32 × jW)
noncomputable def fog_cluster_120 (t : Nat) (a1 : Int32) (l2 : Int32) (l3 : Int32) (W : jW) : Option (fog_cluster_S ⊕ (jW)) :=
  jlt (l3 + (kI 1)) fun v66 => some (.inl (.inr (.inl (l2, v66, W))))
noncomputable def fog_cluster_145 (t : Nat) (a1 : Int32) (l2 : Int32) (W : jW) : Option (fog_cluster_S ⊕ (jW)) :=
  jlt (l2 + (kI 1)) fun v68 => some (.inl (.inl (v68, W)))
noncomputable def fog_cluster_70 (t : Nat) (a1 : Int32) (l2 : Int32) (l3 : Int32) (W : jW) : Option (fog_cluster_S ⊕ (jW)) :=
  gd (jC W t = 8) <|
  gd (jC W (jR W 800 t) = 2) <|
  (fpg_firstBlock (jR W 800 t) l2 W).bind fun q50 =>
  (fpg_blockCount (jR W 800 t) l2 W).bind fun q51 =>
  if l3 < (q50 + q51) then
    (gd (jin l3 (jN W 806 t)) <|
  if (jA W 806 t (ix l3)) = (0 : Int32) then
    (fog_cluster_120 t a1 l2 l3 W)
  else
    (gd (jin l2 (jN W 818 t)) <|
  (fpg_wordsOf (jR W 800 t) l3 W).bind fun q58 =>
  gd (jin l2 (jN W 818 t)) <|
  jlt (pB W 818 t (ix l2) ((jB W 818 t (ix l2)) + (((kI 4) * q58).toInt64))) fun W60 =>
  fog_cluster_120 t a1 l2 l3 W60))
  else
    (gd (jin l2 (jN W 818 t)) <|
    if (kJ 0) < (jB W 818 t (ix l2)) then
      (gd (jC W (jR W 813 t) = 6) <| (fro_add (jR W 813 t) l2 W).bind fun q54 => fog_cluster_145 t a1 l2 q54)
    else
      (fog_cluster_145 t a1 l2 W))
noncomputable def fog_cluster_157 (t : Nat) (a1 : Int32) (l2 : Int32) (W : jW) : Option (fog_cluster_S ⊕ (jW)) :=
  gd (jC W t = 8) <|
  gd (jC W (jR W 813 t) = 6) <|
  if l2 < (jI W 601 (jR W 813 t)) then
    (gd (jin l2 (jN W 600 (jR W 813 t))) <|
  (fog_join t (jA W 600 (jR W 813 t) (ix l2)) a1 W).bind fun q75 =>
  jlt (l2 + (kI 1)) fun v77 =>
  some (.inl (.inr (.inr (v77, q75)))))
  else
    ((fog_gather t W).bind fun q72 => some (.inr q72))
noncomputable def fog_cluster_10 (t : Nat) (a1 : Int32) (l2 : Int32) (W : jW) : Option (fog_cluster_S ⊕ (jW)) :=
  gd (jC W t = 8) <|
  gd (jC W (jR W 800 t) = 2) <|
  (fpg_functionCount (jR W 800 t) W).bind fun q11 =>
  if l2 < q11 then
    (gd (jin l2 (jN W 814 t)) <|
  jlt (pA W 814 t (ix l2) l2) fun W15 =>
  gd (jin l2 (jN W15 815 t)) <|
  jlt (pA W15 815 t (ix l2) (kI (-1))) fun W21 =>
  gd (jin l2 (jN W21 816 t)) <|
  jlt (pA W21 816 t (ix l2) l2) fun W27 =>
  gd (jin l2 (jN W27 812 t)) <|
  gd (jin l2 (jN W27 817 t)) <|
  jlt (pB W27 817 t (ix l2) (jB W27 812 t (ix l2))) fun W34 =>
  gd (jin l2 (jN W34 818 t)) <|
  jlt (pB W34 818 t (ix l2) (kJ 0)) fun W40 =>
  gd (jC W40 (jR W40 800 t) = 2) <|
  (fpg_firstBlock (jR W40 800 t) l2 W40).bind fun q46 =>
  some (.inl (.inr (.inl (l2, q46, W40)))))
  else
    ((fog_sortByHeat t W).bind fun q12 => some (.inl (.inr (.inr ((kI 0), q12)))))
noncomputable def fog_cluster_st (t : Nat) (a1 : Int32) : fog_cluster_S → Option (fog_cluster_S ⊕ (jW)) :=
  (Sum.elim (fun s => fog_cluster_10 t a1 s.1 s.2) (Sum.elim (fun s => fog_cluster_70 t a1 s.1 s.2.1 s.2.2) (fun s => fog_cluster_157 t a1 s.1 s.2)))
noncomputable def fog_cluster_0 (t : Nat) (a1 : Int32) (W : jW) : Option (fog_cluster_S ⊕ (jW)) :=
  gd (jC W t = 8) <| gd (jC W (jR W 813 t) = 6) <| jlt (sI W 601 (jR W 813 t) (kI 0)) fun W3 => some (.inl (.inl ((kI 0), W3)))
noncomputable def fog_cluster (t : Nat) (a1 : Int32) (W : jW) : Option (jW) :=
  jrn (fog_cluster_st t a1) (fog_cluster_0 t a1 W)
abbrev fog_put_S : Type := (Int32 × Int32 × Int32 × jW)
noncomputable def fog_put_103 (t : Nat) (a1 : Int32) (a2 : Int32) (l3 : Int32) (l4 : Int32) (l5 : Int32) (W : jW) : Option (fog_put_S ⊕ (Int32 × jW)) :=
  jlt (l5 + (kI 1)) fun v17 => some (.inl (l3, l4, v17, W))
noncomputable def fog_put_96 (t : Nat) (a1 : Int32) (a2 : Int32) (l3 : Int32) (l4 : Int32) (l5 : Int32) (s0 : Int32) (s1 : Int32) (s2 : Nat) (W : jW) : Option (fog_put_S ⊕ (Int32 × jW)) :=
  gd (jR W 9003 s2 = s2) <|
  gd (jin (s1 + s0) (jN W 9003 s2)) <|
  jlt (pA W 9003 s2 (ix (s1 + s0)) l5) fun W21 =>
  jlt (l4 + (kI 1)) fun v24 =>
  fog_put_103 t a1 a2 l3 v24 l5 W21
noncomputable def fog_put_35 (t : Nat) (a1 : Int32) (a2 : Int32) (l3 : Int32) (l4 : Int32) (l5 : Int32) (W : jW) : Option (fog_put_S ⊕ (Int32 × jW)) :=
  gd (jC W t = 8) <|
  gd (jC W (jR W 800 t) = 2) <|
  (fpg_firstBlock (jR W 800 t) a1 W).bind fun q11 =>
  (fpg_blockCount (jR W 800 t) a1 W).bind fun q12 =>
  if l5 < (q11 + q12) then
    (gd (jin l5 (jN W 806 t)) <|
  if (jA W 806 t (ix l5)) = (0 : Int32) then
    (fog_put_103 t a1 a2 l3 l4 l5 W)
  else
    (if l3 = (0 : Int32) then
      (gd (jin l5 (jN W 821 t)) <| fog_put_96 t a1 a2 l3 l4 l5 (jA W 821 t (ix l5)) a2 (jR W 804 t) W)
    else
      (gd (jin l5 (jN W 820 t)) <| fog_put_96 t a1 a2 l3 l4 l5 (jA W 820 t (ix l5)) a2 (jR W 804 t) W)))
  else
    (some (.inr ((a2 + l4), W)))
noncomputable def fog_put_21 (t : Nat) (a1 : Int32) (a2 : Int32) (s0 : Int32) (W : jW) : Option (fog_put_S ⊕ (Int32 × jW)) :=
  gd (jC W t = 8) <| gd (jC W (jR W 800 t) = 2) <| (fpg_firstBlock (jR W 800 t) a1 W).bind fun q7 => some (.inl (s0, (kI 0), q7, W))
noncomputable def fog_put_st (t : Nat) (a1 : Int32) (a2 : Int32) : fog_put_S → Option (fog_put_S ⊕ (Int32 × jW)) :=
  (fun s => fog_put_35 t a1 a2 s.1 s.2.1 s.2.2.1 s.2.2.2)
noncomputable def fog_put_0 (t : Nat) (a1 : Int32) (a2 : Int32) (W : jW) : Option (fog_put_S ⊕ (Int32 × jW)) :=
  gd (jC W t = 8) <|
  gd (jin a1 (jN W 826 t)) <|
  gd (jin a1 (jN W 827 t)) <|
  if (jB W 827 t (ix a1)) < (jB W 826 t (ix a1)) then
    (fog_put_21 t a1 a2 (kI 1) W)
  else
    (fog_put_21 t a1 a2 (kI 0) W)
noncomputable def fog_put (t : Nat) (a1 : Int32) (a2 : Int32) (W : jW) : Option (Int32 × jW) :=
  jrn (fog_put_st t a1 a2) (fog_put_0 t a1 a2 W)
abbrev fog_lay_S : Type := (Int32 × jW) ⊕ (Int32 × jW) ⊕ (Int32 × Int32 × jW) ⊕ (Int32 × Int32 × jW)
noncomputable def fog_lay_69 (t : Nat) (a1 : Int32) (l2 : Int32) (l3 : Int32) (W : jW) : Option (fog_lay_S ⊕ (jW)) :=
  if l3 < (0 : Int32) then
    (jlt (l2 + (kI 1)) fun v31 => some (.inl (.inr (.inl (v31, W)))))
  else
    (gd (jC W t = 8) <|
  (fog_put t l3 (jI W 805 t) W).bind fun q33 =>
  gd (jC q33.2 t = 8) <|
  jlt (sI q33.2 805 t q33.1) fun W36 =>
  gd (jin l3 (jN W36 815 t)) <|
  jlt (jA W36 815 t (ix l3)) fun v41 =>
  some (.inl (.inr (.inr (.inl (l2, v41, W36))))))
noncomputable def fog_lay_142 (t : Nat) (a1 : Int32) (l2 : Int32) (l3 : Int32) (W : jW) : Option (fog_lay_S ⊕ (jW)) :=
  jlt (l3 + (kI 1)) fun v55 => some (.inl (.inr (.inr (.inr (l2, v55, W)))))
noncomputable def fog_lay_109 (t : Nat) (a1 : Int32) (l2 : Int32) (l3 : Int32) (W : jW) : Option (fog_lay_S ⊕ (jW)) :=
  gd (jC W t = 8) <|
  gd (jC W (jR W 800 t) = 2) <|
  if l3 < (jI W 217 (jR W 800 t)) then
    (gd (jin l3 (jN W 806 t)) <|
  if (jA W 806 t (ix l3)) = (0 : Int32) then
    (gd (jR W 9003 (jR W 804 t) = (jR W 804 t)) <|
    gd (jin l2 (jN W 9003 (jR W 804 t))) <|
    jlt (pA W 9003 (jR W 804 t) (ix l2) l3) fun W48 =>
    jlt (l2 + (kI 1)) fun v53 =>
    fog_lay_142 t a1 v53 l3 W48)
  else
    (fog_lay_142 t a1 l2 l3 W))
  else
    (some (.inr W))
noncomputable def fog_lay_48 (t : Nat) (a1 : Int32) (l2 : Int32) (W : jW) : Option (fog_lay_S ⊕ (jW)) :=
  gd (jC W t = 8) <|
  gd (jC W (jR W 813 t) = 6) <|
  if l2 < (jI W 601 (jR W 813 t)) then
    (gd (jin l2 (jN W 600 (jR W 813 t))) <| jlt (jA W 600 (jR W 813 t) (ix l2)) fun v29 => some (.inl (.inr (.inr (.inl (l2, v29, W))))))
  else
    (jlt (jI W 805 t) fun v27 => some (.inl (.inr (.inr (.inr (v27, (kI 0), W))))))
noncomputable def fog_lay_10 (t : Nat) (a1 : Int32) (l2 : Int32) (W : jW) : Option (fog_lay_S ⊕ (jW)) :=
  gd (jC W t = 8) <|
  gd (jC W (jR W 800 t) = 2) <|
  (fpg_functionCount (jR W 800 t) W).bind fun q10 =>
  if l2 < q10 then
    ((fog_place t l2 W).bind fun q21 => jlt (l2 + (kI 1)) fun v23 => some (.inl (.inl (v23, q21))))
  else
    ((fog_weigh t W).bind fun q11 =>
    gd (jC q11 t = 8) <|
    (fog_cluster t a1 q11).bind fun q14 =>
    gd (jC q14 t = 8) <|
    jlt (sI q14 805 t (kI 0)) fun W17 =>
    some (.inl (.inr (.inl ((kI 0), W17)))))
noncomputable def fog_lay_st (t : Nat) (a1 : Int32) : fog_lay_S → Option (fog_lay_S ⊕ (jW)) :=
  (Sum.elim (fun s => fog_lay_10 t a1 s.1 s.2) (Sum.elim (fun s => fog_lay_48 t a1 s.1 s.2) (Sum.elim (fun s => fog_lay_69 t a1 s.1 s.2.1 s.2.2) (fun s => fog_lay_109 t a1 s.1 s.2.1 s.2.2))))
noncomputable def fog_lay_0 (t : Nat) (a1 : Int32) (W : jW) : Option (fog_lay_S ⊕ (jW)) :=
  gd (jC W t = 8) <| (fog_roomForRows t W).bind fun q2 => gd (jC q2 t = 8) <| (fog_chain t q2).bind fun q5 => some (.inl (.inl ((kI 0), q5)))
noncomputable def fog_lay (t : Nat) (a1 : Int32) (W : jW) : Option (jW) :=
  jrn (fog_lay_st t a1) (fog_lay_0 t a1 W)
noncomputable def fwr_isLeft_62 (t : Nat) (a1 : Int32) (W : jW) : Option (Int32) :=
  some (kI 0)
noncomputable def fwr_isLeft (t : Nat) (a1 : Int32) (W : jW) : Option (Int32) :=
  gd (jC W t = 9) <|
  gd (jC W (jR W 900 t) = 2) <|
  gd (jin a1 (jN W 214 (jR W 900 t))) <|
  if (jA W 214 (jR W 900 t) (ix a1)) = (kI 1) then
    (gd (jin a1 (jN W 215 (jR W 900 t))) <|
  gd (jin a1 (jN W 906 t)) <|
  if (jA W 215 (jR W 900 t) (ix a1)) = (jA W 906 t (ix a1)) then
    ((fpg_wordsOf (jR W 900 t) a1 W).bind fun q6 =>
  if (kI 1) < q6 then
    (gd (jin a1 (jN W 215 (jR W 900 t))) <| if (jA W 215 (jR W 900 t) (ix a1)) = (a1 + (kI 1)) then
    (fwr_isLeft_62 t a1 W)
  else
    (some (kI 1)))
  else
    (fwr_isLeft_62 t a1 W))
  else
    (fwr_isLeft_62 t a1 W))
  else
    (fwr_isLeft_62 t a1 W)
noncomputable def fwr_isTurned_47 (t : Nat) (a1 : Int32) (W : jW) : Option (Int32) :=
  some (kI 0)
noncomputable def fwr_isTurned (t : Nat) (a1 : Int32) (W : jW) : Option (Int32) :=
  gd (jC W t = 9) <|
  gd (jC W (jR W 900 t) = 2) <|
  gd (jin a1 (jN W 214 (jR W 900 t))) <|
  if (jA W 214 (jR W 900 t) (ix a1)) = (kI 3) then
    (gd (jin a1 (jN W 906 t)) <|
  if (jA W 906 t (ix a1)) = (a1 + (kI 1)) then
    (fwr_isTurned_47 t a1 W)
  else
    (gd (jin a1 (jN W 215 (jR W 900 t))) <|
  gd (jin a1 (jN W 906 t)) <|
  if (jA W 215 (jR W 900 t) (ix a1)) = (jA W 906 t (ix a1)) then
    (some (kI 1))
  else
    (fwr_isTurned_47 t a1 W)))
  else
    (fwr_isTurned_47 t a1 W)
noncomputable def fwr_isPut_35 (t : Nat) (a1 : Int32) (W : jW) : Option (Int32) :=
  some (kI 0)
noncomputable def fwr_isPut (t : Nat) (a1 : Int32) (W : jW) : Option (Int32) :=
  gd (jC W t = 9) <|
  gd (jC W (jR W 900 t) = 2) <|
  (fpg_nextOf (jR W 900 t) a1 W).bind fun q3 =>
  if q3 < (0 : Int32) then
    (fwr_isPut_35 t a1 W)
  else
    (gd (jin a1 (jN W 906 t)) <|
  if (jA W 906 t (ix a1)) = (a1 + (kI 1)) then
    (fwr_isPut_35 t a1 W)
  else
    ((fwr_isTurned t a1 W).bind fun q5 => if q5 = (0 : Int32) then
    (some (kI 1))
  else
    (fwr_isPut_35 t a1 W)))
noncomputable def fwr_sizeOf_51 (t : Nat) (a1 : Int32) (s0 : Int32) (s1 : Int32) (s2 : Int32) (W : jW) : Option (Int32) :=
  some (s2 * (s1 + s0))
noncomputable def fwr_sizeOf_36 (t : Nat) (a1 : Int32) (s0 : Int32) (s1 : Int32) (s2 : Int32) (W : jW) : Option (Int32) :=
  gd (jC W t = 9) <|
  gd (jin a1 (jN W 907 t)) <|
  if (jA W 907 t (ix a1)) = (0 : Int32) then
    (fwr_sizeOf_51 t a1 (kI 0) (s1 + s0) s2 W)
  else
    (fwr_sizeOf_51 t a1 (kI 1) (s1 + s0) s2 W)
noncomputable def fwr_sizeOf_22 (t : Nat) (a1 : Int32) (s0 : Int32) (s1 : Int32) (s2 : Int32) (W : jW) : Option (Int32) :=
  gd (jC W t = 9) <|
  (fwr_isPut t a1 W).bind fun q7 =>
  if q7 = (0 : Int32) then
    (fwr_sizeOf_36 t a1 (kI 0) (s1 + s0) s2 W)
  else
    (fwr_sizeOf_36 t a1 (kI 1) (s1 + s0) s2 W)
noncomputable def fwr_sizeOf (t : Nat) (a1 : Int32) (W : jW) : Option (Int32) :=
  gd (jC W t = 9) <|
  gd (jC W (jR W 900 t) = 2) <|
  (fpg_wordsOf (jR W 900 t) a1 W).bind fun q3 =>
  (fwr_isLeft t a1 W).bind fun q4 =>
  if q4 = (0 : Int32) then
    (fwr_sizeOf_22 t a1 (kI 0) q3 (kI 4) W)
  else
    (fwr_sizeOf_22 t a1 (kI (-1)) q3 (kI 4) W)
abbrev fwr_place_S : Type := (Int32 × Int32 × jW)
noncomputable def fwr_place_64 (t : Nat) (l1 : Int32) (l2 : Int32) (W : jW) : Option (fwr_place_S ⊕ (jW)) :=
  gd (jC W t = 9) <|
  gd (jR W 9003 (jR W 901 t) = (jR W 901 t)) <|
  gd (jin l2 (jN W 9003 (jR W 901 t))) <|
  gd (jin (jA W 9003 (jR W 901 t) (ix l2)) (jN W 905 t)) <|
  jlt (pA W 905 t (ix (jA W 9003 (jR W 901 t) (ix l2))) l1) fun W34 =>
  gd (jR W34 9003 (jR W34 901 t) = (jR W34 901 t)) <|
  gd (jin l2 (jN W34 9003 (jR W34 901 t))) <|
  (fwr_sizeOf t (jA W34 9003 (jR W34 901 t) (ix l2)) W34).bind fun q40 =>
  jlt (l1 + q40) fun v41 =>
  gd (jR W34 9003 (jR W34 901 t) = (jR W34 901 t)) <|
  gd (jin l2 (jN W34 9003 (jR W34 901 t))) <|
  (fwr_sizeOf t (jA W34 9003 (jR W34 901 t) (ix l2)) W34).bind fun q44 =>
  jlt (sI W34 909 t ((jI W34 909 t) + (q44 / (kI 4)))) fun W45 =>
  jlt (l2 + (kI 1)) fun v49 =>
  some (.inl (v41, v49, W45))
noncomputable def fwr_place_140 (t : Nat) (l1 : Int32) (W : jW) : Option (fwr_place_S ⊕ (jW)) :=
  gd (jC W t = 9) <| jlt (sI W 912 t l1) fun W52 => some (.inr W52)
noncomputable def fwr_place_9 (t : Nat) (l1 : Int32) (l2 : Int32) (W : jW) : Option (fwr_place_S ⊕ (jW)) :=
  gd (jC W t = 9) <|
  if l2 < (jI W 902 t) then
    (if l2 = (jI W 903 t) then
    (jlt (sI W 910 t (jI W 909 t)) fun W16 =>
  gd (jC W16 (jR W16 900 t) = 2) <|
  (fpg_addressOf (jR W16 900 t) (kI 0) W16).bind fun q21 =>
  jlt (q21 + l1.toInt64) fun v22 =>
  jlt (l1 + (((-v22) &&& (((jI W16 904 t) - (kI 1)).toInt64)).toInt32)) fun v23 =>
  jlt (sI W16 911 t v23) fun W24 =>
  fwr_place_64 t v23 l2 W24)
  else
    (fwr_place_64 t l1 l2 W))
  else
    (if (jI W 903 t) = (jI W 902 t) then
      (jlt (sI W 910 t (jI W 909 t)) fun W8 => jlt (sI W8 911 t l1) fun W12 => fwr_place_140 t l1 W12)
    else
      (fwr_place_140 t l1 W))
noncomputable def fwr_place_st (t : Nat) : fwr_place_S → Option (fwr_place_S ⊕ (jW)) :=
  (fun s => fwr_place_9 t s.1 s.2.1 s.2.2)
noncomputable def fwr_place_0 (t : Nat) (W : jW) : Option (fwr_place_S ⊕ (jW)) :=
  gd (jC W t = 9) <| jlt (sI W 909 t (kI 0)) fun W2 => some (.inl ((kI 0), (kI 0), W2))
noncomputable def fwr_place (t : Nat) (W : jW) : Option (jW) :=
  jrn (fwr_place_st t) (fwr_place_0 t W)
noncomputable def fwr_goalOf (t : Nat) (a1 : Int32) (W : jW) : Option (Int32) :=
  gd (jC W t = 9) <|
  (fwr_isTurned t a1 W).bind fun q2 =>
  if q2 = (0 : Int32) then
    (gd (jC W (jR W 900 t) = 2) <| gd (jin a1 (jN W 215 (jR W 900 t))) <| some (jA W 215 (jR W 900 t) (ix a1)))
  else
    (some (a1 + (kI 1)))
noncomputable def fwr_endAt (t : Nat) (a1 : Int32) (W : jW) : Option (Int32) :=
  gd (jC W t = 9) <|
  gd (jin a1 (jN W 905 t)) <|
  gd (jC W (jR W 900 t) = 2) <|
  (fpg_wordsOf (jR W 900 t) a1 W).bind fun q4 =>
  some (((jA W 905 t (ix a1)) + ((kI 4) * q4)) - (kI 4))
noncomputable def fwo_reaches_31 (a0 : Int32) (a1 : Int64) : Int32 :=
  (kI 0)
noncomputable def fwo_reaches (a0 : Int32) (a1 : Int64) : Int32 :=
  if a1 < (-(lxl (kJ 2) (fwo_bitsOf a0))) then
    (fwo_reaches_31 a0 a1)
  else
    (if a1 < (lxl (kJ 2) (fwo_bitsOf a0)) then
    ((kI 1))
  else
    (fwo_reaches_31 a0 a1))
noncomputable def fwr_reaches_61 (t : Nat) (a1 : Int32) (W : jW) : Option (Int32) :=
  some (kI 1)
noncomputable def fwr_reaches (t : Nat) (a1 : Int32) (W : jW) : Option (Int32) :=
  gd (jC W t = 9) <|
  gd (jC W (jR W 900 t) = 2) <|
  gd (jin a1 (jN W 214 (jR W 900 t))) <|
  if (jA W 214 (jR W 900 t) (ix a1)) = (kI 3) then
    (gd (jin a1 (jN W 907 t)) <|
  if (jA W 907 t (ix a1)) = (0 : Int32) then
    ((fpg_lastWord (jR W 900 t) a1 W).bind fun q5 =>
  gd (jin q5 (jN W 205 (jR W 900 t))) <|
  (fwr_goalOf t a1 W).bind fun q7 =>
  gd (jin q7 (jN W 905 t)) <|
  (fwr_endAt t a1 W).bind fun q9 =>
  if (fwo_reaches (jA W 205 (jR W 900 t) (ix q5)) (((jA W 905 t (ix q7)) - q9).toInt64)) = (0 : Int32) then
    (some (kI 0))
  else
    (fwr_reaches_61 t a1 W))
  else
    (fwr_reaches_61 t a1 W))
  else
    (fwr_reaches_61 t a1 W)
noncomputable def fwr_addressOf (t : Nat) (a1 : Int32) (W : jW) : Option (Int64) :=
  gd (jC W t = 9) <|
  gd (jC W (jR W 900 t) = 2) <|
  (fpg_addressOf (jR W 900 t) (kI 0) W).bind fun q3 =>
  gd (jin a1 (jN W 905 t)) <|
  some (q3 + ((jA W 905 t (ix a1)).toInt64))
noncomputable def fwr_movedWord (t : Nat) (a1 : Int32) (W : jW) : Option (Int64) :=
  gd (jC W t = 9) <|
  gd (jC W (jR W 900 t) = 2) <|
  gd (jin a1 (jN W 206 (jR W 900 t))) <|
  (fwr_addressOf t (jA W 206 (jR W 900 t) (ix a1)) W).bind fun q4 =>
  gd (jC W (jR W 213 (jR W 900 t)) = 6) <|
  gd (jin a1 (jN W 206 (jR W 900 t))) <|
  gd (jin (jA W 206 (jR W 900 t) (ix a1)) (jN W 600 (jR W 213 (jR W 900 t)))) <|
  some (q4 + ((kJ 4) * ((a1 - (jA W 600 (jR W 213 (jR W 900 t)) (ix (jA W 206 (jR W 900 t) (ix a1))))).toInt64)))
noncomputable def fwo_paging (a0 : Int32) (a1 : Int64) (a3 : Int64) : Int32 :=
  jlt ((lxr ((fwo_pageOf a3) - (fwo_pageOf a1)) (kI 12)).toInt32) fun v1 =>
  (((a0 &&& (kI (-1627389921))) ||| (ixl (v1 &&& (kI 3)) (kI 29))) ||| (ixl ((ixr v1 (kI 2)) &&& (kI 524287)) (kI 5)))
noncomputable def fwo_adding (a0 : Int32) (a1 : Int64) : Int32 :=
  ((a0 &&& (kI (-4193281))) ||| (ixl ((a1 &&& (kJ 4095)).toInt32) (kI 10)))
noncomputable def fwr_fixed_94 (t : Nat) (a1 : Int32) (s0 : Int64) (s1 : Int64) (s2 : Int32) (W : jW) : Option (Int32) :=
  some (fwo_paging s2 s1 s0)
noncomputable def fwr_fixed_131 (t : Nat) (a1 : Int32) (W : jW) : Option (Int32) :=
  gd (jC W t = 9) <| gd (jC W (jR W 900 t) = 2) <| gd (jin a1 (jN W 204 (jR W 900 t))) <| some (jA W 204 (jR W 900 t) (ix a1))
noncomputable def fwr_fixed_46 (t : Nat) (a1 : Int32) (l2 : Int32) (l3 : Int32) (s0 : Int32) (W : jW) : Option (Int32) :=
  if l3 = (kI 275) then
    (gd (jC W t = 9) <|
  gd (jC W (jR W 900 t) = 2) <|
  gd (jin a1 (jN W 204 (jR W 900 t))) <|
  (fwr_movedWord t a1 W).bind fun q19 =>
  if s0 < (0 : Int32) then
    (gd (jC W (jR W 201 (jR W 900 t)) = 4) <|
  (fsh_target (jR W 201 (jR W 900 t)) l2 W).bind fun q22 =>
  fwr_fixed_94 t a1 q22 q19 (jA W 204 (jR W 900 t) (ix a1)) W)
  else
    ((fwr_movedWord t s0 W).bind fun q20 => fwr_fixed_94 t a1 q20 q19 (jA W 204 (jR W 900 t) (ix a1)) W))
  else
    (if l3 = (kI 277) then
      (if s0 < (0 : Int32) then
      (fwr_fixed_131 t a1 W)
    else
      (gd (jC W t = 9) <|
    gd (jC W (jR W 900 t) = 2) <|
    gd (jin a1 (jN W 204 (jR W 900 t))) <|
    (fwr_movedWord t s0 W).bind fun q15 =>
    some (fwo_adding (jA W 204 (jR W 900 t) (ix a1)) q15)))
    else
      (fwr_fixed_131 t a1 W))
noncomputable def fwr_fixed_29 (t : Nat) (a1 : Int32) (l2 : Int32) (s0 : Int32) (W : jW) : Option (Int32) :=
  if l2 = (0 : Int32) then
    (fwr_fixed_46 t a1 l2 s0 (kI (-1)) W)
  else
    (gd (jC W t = 9) <| gd (jC W (jR W 900 t) = 2) <| (fpg_targetWord (jR W 900 t) l2 W).bind fun q10 => fwr_fixed_46 t a1 l2 s0 q10 W)
noncomputable def fwr_fixed (t : Nat) (a1 : Int32) (W : jW) : Option (Int32) :=
  gd (jC W t = 9) <|
  gd (jC W (jR W 900 t) = 2) <|
  gd (jin a1 (jN W 207 (jR W 900 t))) <|
  jlt (jA W 207 (jR W 900 t) (ix a1)) fun v4 =>
  if v4 = (0 : Int32) then
    (fwr_fixed_29 t a1 v4 (kI 0) W)
  else
    (gd (jC W (jR W 201 (jR W 900 t)) = 4) <| (fsh_fixType (jR W 201 (jR W 900 t)) v4 W).bind fun q6 => fwr_fixed_29 t a1 v4 q6 W)
noncomputable def fwr_emit (t : Nat) (a1 : Int32) (W : jW) : Option (jW) :=
  gd (jC W t = 9) <|
  gd (jin (jI W 920 t) (jN W 908 t)) <|
  jlt (pA W 908 t (ix (jI W 920 t)) a1) fun W3 =>
  jlt (sI W3 920 t ((jI W3 920 t) + (kI 1))) fun W7 =>
  some W7
noncomputable def fwo_going_33 (a0 : Int32) (a1 : Int32) (a2 : Int64) (l4 : Int32) (l5 : Int32) (W : jW) : Option (Int32) :=
  some ((a0 &&& (l4 ^^^ (kI (-1)))) ||| l5)
noncomputable def fwo_going (a0 : Int32) (a1 : Int32) (a2 : Int64) (W : jW) : Option (Int32) :=
  jlt ((ixl (kI 1) (fwo_bitsOf a1)) - (kI 1)) fun v1 =>
  jlt (((a2 / (kJ 4)).toInt32) &&& v1) fun v2 =>
  if a1 = (kI 12) then
    (fwo_going_33 a0 a1 a2 v1 v2 W)
  else
    (if a1 = (kI 13) then
    (fwo_going_33 a0 a1 a2 v1 v2 W)
  else
    (some ((a0 &&& ((ixl v1 (kI 5)) ^^^ (kI (-1)))) ||| (ixl v2 (kI 5)))))
noncomputable def fwr_go_18 (t : Nat) (a1 : Int32) (a2 : Int32) (a3 : Int64) (W : jW) : Option (jW) :=
  (fwo_going a1 a2 a3 W).bind fun q7 => gd (jC W t = 9) <| (fwr_emit t q7 W).bind fun q9 => some q9
noncomputable def fwr_go (t : Nat) (a1 : Int32) (a2 : Int32) (a3 : Int64) (W : jW) : Option (jW) :=
  if (fwo_reaches a2 a3) = (0 : Int32) then
    (gd (jC W t = 9) <| jlt (sI W 919 t ((jI W 919 t) + (kI 1))) fun W2 => fwr_go_18 t a1 a2 a3 W2)
  else
    (fwr_go_18 t a1 a2 a3 W)
noncomputable def fwo_turned (a0 : Int32) (a1 : Int32) : Int32 :=
  if a1 = (kI 14) then
    ((a0 ^^^ (kI 1)))
  else
    ((a0 ^^^ (kI 16777216)))
noncomputable def fwr_end_68 (t : Nat) (a1 : Int32) (a2 : Int32) (l3 : Int32) (l4 : Int32) (l5 : Int32) (W : jW) : Option (jW) :=
  gd (jC W t = 9) <|
  (fwr_isLeft t a1 W).bind fun q47 =>
  if q47 = (0 : Int32) then
    (gd (jC W (jR W 900 t) = 2) <|
    gd (jin a1 (jN W 215 (jR W 900 t))) <|
    gd (jin (jA W 215 (jR W 900 t) (ix a1)) (jN W 905 t)) <|
    (fwr_go t l3 l4 (((jA W 905 t (ix (jA W 215 (jR W 900 t) (ix a1)))) - l5).toInt64) W).bind fun q51 =>
    some q51)
  else
    (jlt (sI W 916 t ((jI W 916 t) + (kI 1))) fun W53 => some W53)
noncomputable def fwr_end_172 (t : Nat) (a1 : Int32) (a2 : Int32) (l4 : Int32) (l5 : Int32) (s0 : Int32) (s1 : Nat) (W : jW) : Option (jW) :=
  gd (jC W s1 = 9) <|
  (fwr_go s1 s0 l4 (kJ 8) W).bind fun q31 =>
  gd (jC q31 t = 9) <|
  (fwr_goalOf t a1 q31).bind fun q34 =>
  gd (jin q34 (jN q31 905 t)) <|
  (fwr_go t (kI 335544320) (kI 12) ((((jA q31 905 t (ix q34)) - l5) - (kI 4)).toInt64) q31).bind fun q36 =>
  some q36
noncomputable def fwr_end_223 (t : Nat) (a1 : Int32) (a2 : Int32) (l4 : Int32) (l5 : Int32) (s0 : Int32) (s1 : Nat) (W : jW) : Option (jW) :=
  gd (jC W t = 9) <|
  (fwr_goalOf t a1 W).bind fun q40 =>
  gd (jin q40 (jN W 905 t)) <|
  gd (jC W s1 = 9) <|
  (fwr_go s1 s0 l4 (((jA W 905 t (ix q40)) - l5).toInt64) W).bind fun q43 =>
  some q43
noncomputable def fwr_end_137 (t : Nat) (a1 : Int32) (a2 : Int32) (l3 : Int32) (l4 : Int32) (l5 : Int32) (l6 : Int32) (W : jW) : Option (jW) :=
  gd (jC W t = 9) <|
  gd (jin a1 (jN W 907 t)) <|
  if (jA W 907 t (ix a1)) = (0 : Int32) then
    (if l6 = (0 : Int32) then
      (fwr_end_223 t a1 a2 l4 l5 l3 t W)
    else
      (fwr_end_223 t a1 a2 l4 l5 (fwo_turned l3 l4) t W))
  else
    (jlt (sI W 915 t ((jI W 915 t) + (kI 1))) fun W25 =>
  if l6 = (0 : Int32) then
    (fwr_end_172 t a1 a2 l4 l5 (fwo_turned l3 l4) t W25)
  else
    (fwr_end_172 t a1 a2 l4 l5 l3 t W25))
noncomputable def fwr_end (t : Nat) (a1 : Int32) (a2 : Int32) (W : jW) : Option (jW) :=
  gd (jC W t = 9) <|
  gd (jC W (jR W 900 t) = 2) <|
  gd (jin a2 (jN W 204 (jR W 900 t))) <|
  jlt (jA W 204 (jR W 900 t) (ix a2)) fun v4 =>
  gd (jin a2 (jN W 205 (jR W 900 t))) <|
  jlt (jA W 205 (jR W 900 t) (ix a2)) fun v6 =>
  (fwr_endAt t a1 W).bind fun q7 =>
  gd (jin a1 (jN W 214 (jR W 900 t))) <|
  jlt (jA W 214 (jR W 900 t) (ix a1)) fun v9 =>
  if v9 = (kI 1) then
    (fwr_end_68 t a1 a2 v4 v6 q7 W)
  else if v9 = (kI 2) then
    (fwr_end_68 t a1 a2 v4 v6 q7 W)
  else if v9 = (kI 3) then
    ((fwr_isTurned t a1 W).bind fun q13 =>
    if q13 = (0 : Int32) then
      (fwr_end_137 t a1 a2 v4 v6 q7 q13 W)
    else
      (jlt (sI W 917 t ((jI W 917 t) + (kI 1))) fun W14 => fwr_end_137 t a1 a2 v4 v6 q7 q13 W14))
  else if v9 = (kI 4) then
    (fwr_end_68 t a1 a2 v4 v6 q7 W)
  else ((fwr_emit t v4 W).bind fun q20 => some q20)
abbrev fwr_block_S : Type := (Int32 × Int32 × Int32 × jW)
noncomputable def fwr_block_56 (t : Nat) (a1 : Int32) (l2 : Int32) (l3 : Int32) (l4 : Int32) (W : jW) : Option (fwr_block_S ⊕ (jW)) :=
  gd (jC W t = 9) <| (fwr_fixed t l2 W).bind fun q29 => (fwr_emit t q29 W).bind fun q30 => jlt (l2 + (kI 1)) fun v32 => some (.inl (v32, l3, l4, q30))
noncomputable def fwr_block_82 (t : Nat) (a1 : Int32) (W : jW) : Option (fwr_block_S ⊕ (jW)) :=
  gd (jC W t = 9) <|
  (fwr_isPut t a1 W).bind fun q16 =>
  if q16 = (0 : Int32) then
    (some (.inr W))
  else
    (jlt (sI W 918 t ((jI W 918 t) + (kI 1))) fun W17 =>
    gd (jin a1 (jN W17 905 t)) <|
    (fwr_sizeOf t a1 W17).bind fun q22 =>
    jlt (((jA W17 905 t (ix a1)) + q22) - (kI 4)) fun v23 =>
    gd (jin (a1 + (kI 1)) (jN W17 905 t)) <|
    (fwr_go t (kI 335544320) (kI 12) (((jA W17 905 t (ix (a1 + (kI 1)))) - v23).toInt64) W17).bind fun q25 =>
    some (.inr q25))
noncomputable def fwr_block_71 (t : Nat) (a1 : Int32) (l3 : Int32) (l4 : Int32) (W : jW) : Option (fwr_block_S ⊕ (jW)) :=
  if l4 = (0 : Int32) then
    (fwr_block_82 t a1 W)
  else
    (gd (jC W t = 9) <| (fwr_end t a1 l3 W).bind fun q12 => fwr_block_82 t a1 q12)
noncomputable def fwr_block_41 (t : Nat) (a1 : Int32) (l2 : Int32) (l3 : Int32) (l4 : Int32) (W : jW) : Option (fwr_block_S ⊕ (jW)) :=
  if l2 < l3 then
    (fwr_block_56 t a1 l2 l3 l4 W)
  else
    (if l2 = l3 then
    (if l4 = (0 : Int32) then
    (fwr_block_56 t a1 l2 l3 l4 W)
  else
    (fwr_block_71 t a1 l3 l4 W))
  else
    (fwr_block_71 t a1 l3 l4 W))
noncomputable def fwr_block_39 (t : Nat) (a1 : Int32) (l2 : Int32) (l3 : Int32) (s0 : Int32) (W : jW) : Option (fwr_block_S ⊕ (jW)) :=
  some (.inl (l2, l3, s0, W))
noncomputable def fwr_block_st (t : Nat) (a1 : Int32) : fwr_block_S → Option (fwr_block_S ⊕ (jW)) :=
  (fun s => fwr_block_41 t a1 s.1 s.2.1 s.2.2.1 s.2.2.2)
noncomputable def fwr_block_0 (t : Nat) (a1 : Int32) (W : jW) : Option (fwr_block_S ⊕ (jW)) :=
  gd (jC W t = 9) <|
  gd (jC W (jR W 900 t) = 2) <|
  gd (jC W (jR W 213 (jR W 900 t)) = 6) <|
  gd (jin a1 (jN W 600 (jR W 213 (jR W 900 t)))) <|
  jlt (jA W 600 (jR W 213 (jR W 900 t)) (ix a1)) fun v5 =>
  (fpg_lastWord (jR W 900 t) a1 W).bind fun q6 =>
  gd (jin a1 (jN W 214 (jR W 900 t))) <|
  if (jA W 214 (jR W 900 t) (ix a1)) = (0 : Int32) then
    (fwr_block_39 t a1 v5 q6 (kI 0) W)
  else
    (fwr_block_39 t a1 v5 q6 (kI 1) W)
noncomputable def fwr_block (t : Nat) (a1 : Int32) (W : jW) : Option (jW) :=
  jrn (fwr_block_st t a1) (fwr_block_0 t a1 W)
abbrev fwr_emitAll_S : Type := (Int32 × jW)
noncomputable def fwr_emitAll_27 (t : Nat) (l1 : Int32) (W : jW) : Option (fwr_emitAll_S ⊕ (jW)) :=
  gd (jC W t = 9) <|
  if l1 < (jI W 902 t) then
    (gd (jR W 9003 (jR W 901 t) = (jR W 901 t)) <|
  gd (jin l1 (jN W 9003 (jR W 901 t))) <|
  (fwr_block t (jA W 9003 (jR W 901 t) (ix l1)) W).bind fun q26 =>
  jlt (l1 + (kI 1)) fun v28 =>
  some (.inl (v28, q26)))
  else
    (some (.inr W))
noncomputable def fwr_emitAll_st (t : Nat) : fwr_emitAll_S → Option (fwr_emitAll_S ⊕ (jW)) :=
  (fun s => fwr_emitAll_27 t s.1 s.2)
noncomputable def fwr_emitAll_0 (t : Nat) (W : jW) : Option (fwr_emitAll_S ⊕ (jW)) :=
  gd (jC W t = 9) <|
  jlt (sI W 920 t (kI 0)) fun W2 =>
  jlt (sI W2 915 t (kI 0)) fun W6 =>
  jlt (sI W6 916 t (kI 0)) fun W10 =>
  jlt (sI W10 917 t (kI 0)) fun W14 =>
  jlt (sI W14 918 t (kI 0)) fun W18 =>
  some (.inl ((kI 0), W18))
noncomputable def fwr_emitAll (t : Nat) (W : jW) : Option (jW) :=
  jrn (fwr_emitAll_st t) (fwr_emitAll_0 t W)
abbrev fwr_set_S : Type := (Int32 × jW)
noncomputable def fwr_set_3 (t : Nat) (a1 : Int32) (a2 : Int64) (a4 : Int32) (l5 : Int32) (W : jW) : Option (fwr_set_S ⊕ (jW)) :=
  if l5 < a4 then
    (gd (jC W t = 9) <|
  gd (jin (a1 + l5) (jN W 913 t)) <|
  jlt (pA W 913 t (ix (a1 + l5)) (i2b (i2b ((lxr a2 ((kI 8) * l5)).toInt32)))) fun W4 =>
  jlt (l5 + (kI 1)) fun v8 =>
  some (.inl (v8, W4)))
  else
    (some (.inr W))
noncomputable def fwr_set_st (t : Nat) (a1 : Int32) (a2 : Int64) (a4 : Int32) : fwr_set_S → Option (fwr_set_S ⊕ (jW)) :=
  (fun s => fwr_set_3 t a1 a2 a4 s.1 s.2)
noncomputable def fwr_set_0 (t : Nat) (a1 : Int32) (a2 : Int64) (a4 : Int32) (W : jW) : Option (fwr_set_S ⊕ (jW)) :=
  some (.inl ((kI 0), W))
noncomputable def fwr_set (t : Nat) (a1 : Int32) (a2 : Int64) (a4 : Int32) (W : jW) : Option (jW) :=
  jrn (fwr_set_st t a1 a2 a4) (fwr_set_0 t a1 a2 a4 W)
noncomputable def fsh_isTextSymbol (t : Nat) (a1 : Int32) (W : jW) : Option (Int32) :=
  gd (jC W t = 4) <|
  (fsh_symbolAt t a1 W).bind fun q2 =>
  gd (jC W (jR W 401 t) = 5 ∨ jC W (jR W 401 t) = 9) <|
  (fsr_half (jR W 401 t) (q2 + (kI 6)) W).bind fun q4 =>
  if q4 = (jI W 418 t) then
    (some (kI 1))
  else
    (some (kI 0))
noncomputable def fwr_newOf (t : Nat) (a1 : Int64) (W : jW) : Option (Int64) :=
  gd (jC W t = 9) <|
  gd (jC W (jR W 900 t) = 2) <|
  gd (jC W (jR W 201 (jR W 900 t)) = 4) <|
  (fsh_end (jR W 201 (jR W 900 t)) W).bind fun q4 =>
  if a1 = q4 then
    ((fpg_addressOf (jR W 900 t) (kI 0) W).bind fun q7 => some (q7 + ((jI W 912 t).toInt64)))
  else
    ((fpg_wordAt (jR W 900 t) a1 W).bind fun q5 => (fwr_movedWord t q5 W).bind fun q6 => some q6)
noncomputable def fwr_isCold_28 (t : Nat) (a1 : Int32) (W : jW) : Option (Int32) :=
  some (kI 0)
noncomputable def fwr_isCold (t : Nat) (a1 : Int32) (W : jW) : Option (Int32) :=
  gd (jC W t = 9) <|
  if (jI W 903 t) < (jI W 902 t) then
    (gd (jin a1 (jN W 905 t)) <| if (jA W 905 t (ix a1)) < (jI W 911 t) then
    (fwr_isCold_28 t a1 W)
  else
    (some (kI 1)))
  else
    (fwr_isCold_28 t a1 W)
abbrev fwr_partOf_S : Type := (Int32 × Int32 × Int32 × Int32)
noncomputable def fwr_partOf_57 (t : Nat) (a1 : Int32) (l2 : Int32) (l3 : Int32) (l4 : Int32) (l5 : Int32) (W : jW) : Option (fwr_partOf_S ⊕ (Int32)) :=
  jlt (l5 + (kI 1)) fun v13 => some (.inl (l2, l3, l4, v13))
noncomputable def fwr_partOf_21 (t : Nat) (a1 : Int32) (l2 : Int32) (l3 : Int32) (l4 : Int32) (l5 : Int32) (W : jW) : Option (fwr_partOf_S ⊕ (Int32)) :=
  gd (jC W t = 9) <|
  gd (jC W (jR W 900 t) = 2) <|
  (fpg_blockCount (jR W 900 t) a1 W).bind fun q8 =>
  if l5 < (l2 + q8) then
    ((fwr_isCold t l5 W).bind fun q9 =>
  if q9 = l3 then
    ((fwr_sizeOf t l5 W).bind fun q10 => jlt (l4 + q10) fun v11 => fwr_partOf_57 t a1 l2 l3 v11 l5 W)
  else
    (fwr_partOf_57 t a1 l2 l3 l4 l5 W))
  else
    (some (.inr l4))
noncomputable def fwr_partOf_st (t : Nat) (a1 : Int32) (W : jW) : fwr_partOf_S → Option (fwr_partOf_S ⊕ (Int32)) :=
  (fun s => fwr_partOf_21 t a1 s.1 s.2.1 s.2.2.1 s.2.2.2 W)
noncomputable def fwr_partOf_0 (t : Nat) (a1 : Int32) (W : jW) : Option (fwr_partOf_S ⊕ (Int32)) :=
  gd (jC W t = 9) <|
  gd (jC W (jR W 900 t) = 2) <|
  (fpg_firstBlock (jR W 900 t) a1 W).bind fun q3 =>
  (fwr_isCold t q3 W).bind fun q4 =>
  some (.inl (q3, q4, (kI 0), q3))
noncomputable def fwr_partOf (t : Nat) (a1 : Int32) (W : jW) : Option (Int32) :=
  jrn (fwr_partOf_st t a1 W) (fwr_partOf_0 t a1 W)
abbrev fwr_fix_S : Type := (Int32 × jW)
noncomputable def fwr_fix_236 (t : Nat) (a1 : Int32) (a2 : Int32) (l5 : Int64) (l10 : Int64) (W : jW) : Option (fwr_fix_S ⊕ (jW)) :=
  gd (jC W t = 9) <| (fwr_set t (a2 + (kI 16)) (l5 - l10) (kI 8) W).bind fun q38 => some (.inr q38)
noncomputable def fwr_fix_204 (t : Nat) (a1 : Int32) (a2 : Int32) (l3 : Nat) (l5 : Int64) (W : jW) : Option (fwr_fix_S ⊕ (jW)) :=
  gd (jC W l3 = 4) <|
  (fsh_fixSymbol l3 a2 W).bind fun q31 =>
  (fsh_valueOf l3 q31 W).bind fun q32 =>
  (fsh_isTextSymbol l3 q31 W).bind fun q33 =>
  if q33 = (0 : Int32) then
    (fwr_fix_236 t a1 a2 l5 q32 W)
  else
    (gd (jC W t = 9) <| (fwr_newOf t q32 W).bind fun q35 => fwr_fix_236 t a1 a2 l5 q35 W)
noncomputable def fwr_fix_166 (t : Nat) (a1 : Int32) (a2 : Int32) (l11 : Int32) (W : jW) : Option (fwr_fix_S ⊕ (jW)) :=
  if l11 < (kI 24) then
    (gd (jC W t = 9) <| (fwr_set t (a2 + l11) (kJ 0) (kI 8) W).bind fun q42 => jlt (l11 + (kI 8)) fun v44 => some (.inl (v44, q42)))
  else
    (some (.inr W))
noncomputable def fwr_fix_191 (t : Nat) (a1 : Int32) (a2 : Int32) (l3 : Nat) (l5 : Int64) (l9 : Int32) (W : jW) : Option (fwr_fix_S ⊕ (jW)) :=
  gd (jC W t = 9) <| (fwr_movedWord t l9 W).bind fun q47 => (fwr_set t a2 q47 (kI 8) W).bind fun q48 => fwr_fix_204 t a1 a2 l3 l5 q48
noncomputable def fwr_fix_52 (t : Nat) (a1 : Int32) (a2 : Int32) (l3 : Nat) (l4 : Int32) (l5 : Int64) (W : jW) : Option (fwr_fix_S ⊕ (jW)) :=
  gd (jC W l3 = 4) <|
  (fsh_fixPlace l3 a2 W).bind fun q12 =>
  if l4 = (kI 257) then
    ((fsh_target l3 a2 W).bind fun q20 =>
  (fsh_isText l3 q20 W).bind fun q21 =>
  if q21 = (0 : Int32) then
    (fwr_fix_204 t a1 a2 l3 l5 W)
  else
    (gd (jin a1 (jN W 417 l3)) <|
  gd (jin (jA W 417 l3 (ix a1)) (jN W 414 l3)) <|
  gd (jin a1 (jN W 417 l3)) <|
  gd (jin (jA W 417 l3 (ix a1)) (jN W 413 l3)) <|
  gd (jC W t = 9) <|
  (fwr_set t ((jA W 414 l3 (ix (jA W 417 l3 (ix a1)))) + ((q12 - (jB W 413 l3 (ix (jA W 417 l3 (ix a1))))).toInt32)) l5 (kI 8) W).bind fun q27 =>
  fwr_fix_204 t a1 a2 l3 l5 q27))
  else
    (gd (jC W t = 9) <|
    gd (jC W (jR W 900 t) = 2) <|
    (fpg_wordAt (jR W 900 t) q12 W).bind fun q15 =>
    gd (jin q15 (jN W 206 (jR W 900 t))) <|
    jlt (jA W 206 (jR W 900 t) (ix q15)) fun v17 =>
    (fpg_lastWord (jR W 900 t) v17 W).bind fun q18 =>
    if q15 = q18 then
      ((fwr_isLeft t v17 W).bind fun q19 => if q19 = (0 : Int32) then
      (fwr_fix_191 t a1 a2 l3 l5 q15 W)
    else
      (some (.inl ((kI 0), W))))
    else
      (fwr_fix_191 t a1 a2 l3 l5 q15 W))
noncomputable def fwr_fix_st (t : Nat) (a1 : Int32) (a2 : Int32) : fwr_fix_S → Option (fwr_fix_S ⊕ (jW)) :=
  (fun s => fwr_fix_166 t a1 a2 s.1 s.2)
noncomputable def fwr_fix_0 (t : Nat) (a1 : Int32) (a2 : Int32) (W : jW) : Option (fwr_fix_S ⊕ (jW)) :=
  gd (jC W t = 9) <|
  gd (jC W (jR W 900 t) = 2) <|
  jlt (jR W 201 (jR W 900 t)) fun v3 =>
  gd (jC W v3 = 4) <|
  (fsh_fixType v3 a2 W).bind fun q5 =>
  if q5 = (0 : Int32) then
    (some (.inr W))
  else
    ((fsh_target v3 a2 W).bind fun q6 =>
    (fsh_isText v3 q6 W).bind fun q7 =>
    if q7 = (0 : Int32) then
      (fwr_fix_52 t a1 a2 v3 q5 q6 W)
    else
      ((fpg_wordAt (jR W 900 t) q6 W).bind fun q8 => (fwr_movedWord t q8 W).bind fun q9 => fwr_fix_52 t a1 a2 v3 q5 q9 W))
noncomputable def fwr_fix (t : Nat) (a1 : Int32) (a2 : Int32) (W : jW) : Option (jW) :=
  jrn (fwr_fix_st t a1 a2) (fwr_fix_0 t a1 a2 W)
abbrev fwr_file_S : Type := (Nat × Int32 × Int32 × jW) ⊕ (Nat × Int32 × jW) ⊕ (Nat × Int32 × jW) ⊕ (Nat × Int32 × jW) ⊕ (Nat × Int32 × Int32 × jW)
noncomputable def fwr_file_246 (t : Nat) (l1 : Nat) (l3 : Int32) (l5 : Int32) (W : jW) : Option (fwr_file_S ⊕ (jW)) :=
  jlt (l5 + (kI 1)) fun v57 => some (.inl (.inl (l1, l3, v57, W)))
noncomputable def fwr_file_298 (t : Nat) (l1 : Nat) (l5 : Int32) (W : jW) : Option (fwr_file_S ⊕ (jW)) :=
  jlt (l5 + (kI 1)) fun v69 => some (.inl (.inr (.inl (l1, v69, W))))
noncomputable def fwr_file_415 (t : Nat) (l1 : Nat) (l5 : Int32) (W : jW) : Option (fwr_file_S ⊕ (jW)) :=
  jlt (l5 + (kI 1)) fun v94 => some (.inl (.inr (.inr (.inr (.inl (l1, v94, W))))))
noncomputable def fwr_file_384 (t : Nat) (l1 : Nat) (l5 : Int32) (l6 : Int32) (W : jW) : Option (fwr_file_S ⊕ (jW)) :=
  gd (jC W l1 = 4) <|
  (fsh_fixCount l1 l5 W).bind fun q87 =>
  if l6 < q87 then
    ((fsh_fixAt l1 l5 l6 W).bind fun q88 =>
  gd (jC W t = 9) <|
  (fwr_fix t l5 q88 W).bind fun q90 =>
  jlt (l6 + (kI 1)) fun v92 =>
  some (.inl (.inr (.inr (.inr (.inr (l1, l5, v92, q90)))))))
  else
    (fwr_file_415 t l1 l5 W)
noncomputable def fwr_file_361 (t : Nat) (l1 : Nat) (l5 : Int32) (W : jW) : Option (fwr_file_S ⊕ (jW)) :=
  gd (jC W l1 = 4) <|
  if l5 < (jI W 403 l1) then
    (gd (jin l5 (jN W 411 l1)) <|
  if (jA W 411 l1 (ix l5)) = (kI 4) then
    (some (.inl (.inr (.inr (.inr (.inr (l1, l5, (kI 0), W)))))))
  else
    (fwr_file_415 t l1 l5 W))
  else
    (some (.inr W))
noncomputable def fwr_file_307 (t : Nat) (l1 : Nat) (l5 : Int32) (W : jW) : Option (fwr_file_S ⊕ (jW)) :=
  gd (jC W t = 9) <|
  gd (jC W (jR W 900 t) = 2) <|
  (fpg_functionCount (jR W 900 t) W).bind fun q73 =>
  if l5 < q73 then
    (gd (jC W (jR W 210 (jR W 900 t)) = 6) <|
  gd (jin l5 (jN W 600 (jR W 210 (jR W 900 t)))) <|
  gd (jC W l1 = 4) <|
  (fsh_symbolAt l1 (jA W 600 (jR W 210 (jR W 900 t)) (ix l5)) W).bind fun q77 =>
  (fwr_partOf t l5 W).bind fun q78 =>
  (fwr_set t (q77 + (kI 16)) q78.toInt64 (kI 8) W).bind fun q79 =>
  jlt (l5 + (kI 1)) fun v81 =>
  some (.inl (.inr (.inr (.inl (l1, v81, q79))))))
  else
    (some (.inl (.inr (.inr (.inr (.inl (l1, (kI 1), W)))))))
noncomputable def fwr_file_255 (t : Nat) (l1 : Nat) (l5 : Int32) (W : jW) : Option (fwr_file_S ⊕ (jW)) :=
  gd (jC W l1 = 4) <|
  (fsh_symbolCount l1 W).bind fun q60 =>
  if l5 < q60 then
    ((fsh_isTextSymbol l1 l5 W).bind fun q61 =>
  if q61 = (0 : Int32) then
    (fwr_file_298 t l1 l5 W)
  else
    ((fsh_symbolAt l1 l5 W).bind fun q62 =>
  (fsh_valueOf l1 l5 W).bind fun q63 =>
  gd (jC W t = 9) <|
  (fwr_newOf t q63 W).bind fun q65 =>
  (fwr_set t (q62 + (kI 8)) q65 (kI 8) W).bind fun q66 =>
  fwr_file_298 t l1 l5 q66))
  else
    (some (.inl (.inr (.inr (.inl (l1, (kI 0), W))))))
noncomputable def fwr_file_166 (t : Nat) (l1 : Nat) (l3 : Int32) (l5 : Int32) (W : jW) : Option (fwr_file_S ⊕ (jW)) :=
  gd (jC W l1 = 4) <|
  if l5 < (jI W 403 l1) then
    (if l5 = (jI W 418 l1) then
    ((fsh_headOf l1 l5 W).bind fun q52 =>
  gd (jC W t = 9) <|
  (fwr_set t (q52 + (kI 32)) ((jI W 912 t).toInt64) (kI 8) W).bind fun q54 =>
  fwr_file_246 t l1 l3 l5 q54)
  else
    (gd (jin l5 (jN W 414 l1)) <|
    if (jA W 414 l1 (ix l5)) < l3 then
      (fwr_file_246 t l1 l3 l5 W)
    else
      ((fsh_headOf l1 l5 W).bind fun q47 =>
    gd (jin l5 (jN W 414 l1)) <|
    gd (jC W t = 9) <|
    (fwr_set t (q47 + (kI 24)) (((jA W 414 l1 (ix l5)) + (jI W 914 t)).toInt64) (kI 8) W).bind fun q50 =>
    fwr_file_246 t l1 l3 l5 q50)))
  else
    (some (.inl (.inr (.inl (l1, (kI 1), W)))))
noncomputable def fwr_file_st (t : Nat) : fwr_file_S → Option (fwr_file_S ⊕ (jW)) :=
  (Sum.elim (fun s => fwr_file_166 t s.1 s.2.1 s.2.2.1 s.2.2.2) (Sum.elim (fun s => fwr_file_255 t s.1 s.2.1 s.2.2) (Sum.elim (fun s => fwr_file_307 t s.1 s.2.1 s.2.2) (Sum.elim (fun s => fwr_file_361 t s.1 s.2.1 s.2.2) (fun s => fwr_file_384 t s.1 s.2.1 s.2.2.1 s.2.2.2)))))
noncomputable def fwr_file_0 (t : Nat) (W : jW) : Option (fwr_file_S ⊕ (jW)) :=
  gd (jC W t = 9) <|
  gd (jC W (jR W 900 t) = 2) <|
  jlt (jR W 201 (jR W 900 t)) fun v3 =>
  gd (jC W (jR W 202 (jR W 900 t)) = 5) <|
  gd (jcp W 500 (jR W 202 (jR W 900 t)) 913 t (kI 0) (kI 0) (jI W 501 (jR W 202 (jR W 900 t)))) <|
  gd (∀ i, i < ix (jI W 501 (jR W 202 (jR W 900 t))) → fits .byte (.int (jA W 500 (jR W 202 (jR W 900 t)) (ix (kI 0) + i))) = true) <|
  gd (¬ jR W 500 (jR W 202 (jR W 900 t)) = 0 ∧ ¬ jR W 913 t = 0) <|
  jlt (cpA W 500 (jR W 202 (jR W 900 t)) 913 t (kI 0) (kI 0) (jI W 501 (jR W 202 (jR W 900 t)))) fun W8 =>
  gd (jC W8 (jR W8 900 t) = 2) <|
  jlt ((jI W8 912 t) - ((kI 4) * (jI W8 203 (jR W8 900 t)))) fun v15 =>
  jlt (sI W8 914 t (v15 + ((-v15) &&& (kI 15)))) fun W16 =>
  gd (jC W16 v3 = 4) <|
  (fsh_textOffset v3 W16).bind fun q24 =>
  gd (jC W16 (jR W16 900 t) = 2) <|
  jlt (q24 + ((kI 4) * (jI W16 203 (jR W16 900 t)))) fun v26 =>
  (fpg_wordAt (jR W16 900 t) (jL W16 404 v3) W16).bind fun q27 =>
  (fwr_movedWord t q27 W16).bind fun q28 =>
  (fwr_set t (kI 24) q28 (kI 8) W16).bind fun q29 =>
  gd (jC q29 v3 = 4) <|
  gd (jC q29 t = 9) <|
  (fwr_set t (kI 40) (((jI q29 405 v3) + (jI q29 914 t)).toInt64) (kI 8) q29).bind fun q33 =>
  gd (jC q33 v3 = 4) <|
  (fsh_last v3 q33).bind fun q36 =>
  jlt ((kI 64) + ((kI 56) * q36)) fun v37 =>
  gd (jC q33 t = 9) <|
  (fwr_set t (v37 + (kI 32)) ((jI q33 912 t).toInt64) (kI 8) q33).bind fun q39 =>
  gd (jC q39 t = 9) <|
  (fwr_set t (v37 + (kI 40)) ((jI q39 912 t).toInt64) (kI 8) q39).bind fun q42 =>
  some (.inl (.inl (v3, v26, (kI 1), q42)))
noncomputable def fwr_file (t : Nat) (W : jW) : Option (jW) :=
  jrn (fwr_file_st t) (fwr_file_0 t W)
