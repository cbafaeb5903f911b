/-! ===== pure functions: fpc_checkIndex fob_checkIndex fjl_divideUnsigned fac_init fab_init fal_init fal_size fjm_max_2 fal_grow_2 fal_grow fal_add_2 fal_add fal_elementData fal_get fjm_max fjm_min fjm_min_2 ftr_init fsh_init fsr_init fhe_init fro_init fpg_init fco_init fcl_init fcl_word fcl_feed fcl_end fhe_size fwr_size ftr_must fhe_at fsh_last fsh_textOffset fwr_wordAt fwr_at fsr_half fsr_word fsr_pair fsh_field fsh_head fcl_isAbove fsh_segment fsh_headOf fsh_section fsh_isCode fsh_isData fsh_isHeld fsh_areApart fsh_isOf fsh_isFixed fcl_isIn fsh_sections fsh_symbolAt fsh_symbolCount fsh_valueOf fsh_end fsh_isText fsh_symbols fsh_fixCount fsh_fixAt fsh_fixType fsh_isTextFix fsh_fixPlace fsh_fixSymbol fsh_isNew fsh_fixes fsh_take fpg_room fpg_placeOf fwo_is fwo_isLong fwo_amount fwo_fits fwo_isTwo fwo_isSized fwo_d fwo_a fwo_n fwo_isPair fwo_branch fwo_kindOf fsh_isFunction fpg_wordAt fro_add fpg_behind fpg_tellFunctions fsh_target fwo_pageOf fwo_signed fwo_pageBy fwo_isPlainAdd fwo_twelve fwo_bitsOf fwo_by fwo_bytesOf fpg_isTold fpg_lookFixes fwo_isBranch fwo_goes fpg_goal fpg_isGood fpg_lastOf fwo_ends fpg_targetWord fpg_leaders fpg_wordsOf fpg_lastWord fpg_tellBlocks ===== -/
set_option maxRecDepth 100000
noncomputable def fpc_checkIndex_9 (a0 : Int32) (a1 : Int32) (a2 : Nat) (W : jW) : Option (Int32) :=
  none
noncomputable def fpc_checkIndex (a0 : Int32) (a1 : Int32) (a2 : Nat) (W : jW) : Option (Int32) :=
  if a0 < (0 : Int32) then
    (fpc_checkIndex_9 a0 a1 a2 W)
  else
    (if a0 < a1 then
    (some a0)
  else
    (fpc_checkIndex_9 a0 a1 a2 W))
noncomputable def fob_checkIndex (a0 : Int32) (a1 : Int32) (W : jW) : Option (Int32) :=
  (fpc_checkIndex a0 a1 0 W).bind fun q1 => some q1
noncomputable def fjl_divideUnsigned (a0 : Int64) (a2 : Int64) (W : jW) : Option (Int64) :=
  if a2 < (kJ 0) then
    (some (lxu (a0 &&& ((a0 - a2) ^^^ (kJ (-1)))) (kI 63)))
  else
    (gd (¬ a2 = (0 : Int64)) <|
  jlt (lxl ((lxu a0 (kI 1)) / a2) (kI 1)) fun v2 =>
  jlt (a0 - (v2 * a2)) fun v3 =>
  some (v2 + (lxu (v3 ||| ((v3 - a2) ^^^ (kJ (-1)))) (kI 63))))
noncomputable def fac_init (t : Nat) (W : jW) : Option (jW) :=
  gd (¬ t = 0) <| some W
noncomputable def fab_init (t : Nat) (W : jW) : Option (jW) :=
  gd (jC W t = 18) <| (fac_init t W).bind fun q2 => gd (jC q2 t = 18) <| jlt (sI q2 1800 t (kI 0)) fun W5 => some W5
noncomputable def fal_init (t : Nat) (W : jW) : Option (jW) :=
  gd (jC W t = 18) <| (fab_init t W).bind fun q2 => gd (jC q2 t = 18) <| jlt (sR q2 1801 t (jR q2 1952 0)) fun W5 => some W5
noncomputable def fal_size (t : Nat) (W : jW) : Option (Int32) :=
  gd (jC W t = 18) <| some (jI W 1802 t)
noncomputable def fjm_max_2 (a0 : Int32) (a1 : Int32) : Int32 :=
  if a0 < a1 then
    (a1)
  else
    (a0)
noncomputable def fal_grow_2_20 (t : Nat) (a1 : Int32) (l2 : Int32) (W : jW) : Option (Nat × jW) :=
  none
noncomputable def fal_grow_2 (t : Nat) (a1 : Int32) (W : jW) : Option (Nat × jW) :=
  gd (jC W t = 18) <|
  gd ((jR W 1801 t) = jR W 1952 0 ∨ jR W 9008 (jR W 1801 t) = (jR W 1801 t) ∧ ¬ (jR W 1801 t) = 0) <|
  jlt (if (jR W 1801 t) = jR W 1952 0 then kI 0 else nI (jN W 9008 (jR W 1801 t))) fun v3 =>
  if (0 : Int32) < v3 then
    (fal_grow_2_20 t a1 v3 W)
  else
    (if (jR W 1801 t) = (jR W 1952 0) then
    (gd (jra W (fjm_max_2 (kI 10) a1)) <|
    jlt (nwE W 9008 (jX W) (ix (fjm_max_2 (kI 10) a1))) fun W5 =>
    jlt (sR W5 1801 t (jX W)) fun W9 =>
    some ((jX W), W9))
  else
    (fal_grow_2_20 t a1 v3 W))
noncomputable def fal_grow (t : Nat) (W : jW) : Option (Nat × jW) :=
  gd (jC W t = 18) <| (fal_grow_2 t ((jI W 1802 t) + (kI 1)) W).bind fun q2 => some (q2.1, q2.2)
noncomputable def fal_add_2_11 (t : Nat) (a1 : Nat) (a3 : Int32) (l2 : Nat) (W : jW) : Option (jW) :=
  gd (jR W 9008 l2 = l2) <|
  gd (jin a3 (jN W 9008 l2)) <|
  gd (jC W a1 = 8 ∨ jC W a1 = 9 ∨ jC W a1 = 10) <|
  jlt (pE W 9008 l2 (ix a3) a1) fun W9 =>
  gd (jC W9 t = 18) <|
  jlt (sI W9 1802 t (a3 + (kI 1))) fun W13 =>
  some W13
noncomputable def fal_add_2 (t : Nat) (a1 : Nat) (l2 : Nat) (a3 : Int32) (W : jW) : Option (jW) :=
  gd (l2 = jR W 1952 0 ∨ jR W 9008 l2 = l2 ∧ ¬ l2 = 0) <|
  if a3 = (if l2 = jR W 1952 0 then kI 0 else nI (jN W 9008 l2)) then
    (gd (jC W t = 18) <| (fal_grow t W).bind fun q3 => fal_add_2_11 t a1 a3 q3.1 q3.2)
  else
    (fal_add_2_11 t a1 a3 l2 W)
noncomputable def fal_add (t : Nat) (a1 : Nat) (W : jW) : Option (Int32 × jW) :=
  gd (jC W t = 18) <|
  jlt (sI W 1800 t ((jI W 1800 t) + (kI 1))) fun W2 =>
  (fal_add_2 t a1 (jR W2 1801 t) (jI W2 1802 t) W2).bind fun q6 =>
  some ((kI 1), q6)
noncomputable def fal_elementData (t : Nat) (a1 : Int32) (W : jW) : Option (Nat) :=
  gd (jC W t = 18) <| gd (jR W 9008 (jR W 1801 t) = (jR W 1801 t)) <| gd (jin a1 (jN W 9008 (jR W 1801 t))) <| some (jE W 9008 (jR W 1801 t) (ix a1))
noncomputable def fal_get (t : Nat) (a1 : Int32) (W : jW) : Option (Nat) :=
  gd (jC W t = 18) <| (fob_checkIndex a1 (jI W 1802 t) W).bind fun q2 => (fal_elementData t a1 W).bind fun q3 => some q3
noncomputable def fjm_max (a0 : Int64) (a2 : Int64) : Int64 :=
  if a0 < a2 then
    (a2)
  else
    (a0)
noncomputable def fjm_min (a0 : Int32) (a1 : Int32) : Int32 :=
  if a1 < a0 then
    (a1)
  else
    (a0)
noncomputable def fjm_min_2 (a0 : Int64) (a2 : Int64) : Int64 :=
  if a2 < a0 then
    (a2)
  else
    (a0)
noncomputable def ftr_init (t : Nat) (W : jW) : Option (jW) :=
  gd (¬ t = 0) <| gd (jrm W 6) <| jlt (sC (sX W 6) (jX W) 17) fun W3 => gd (jC W3 t = 3) <| jlt (sR W3 302 t (jX W)) fun W6 => some W6
noncomputable def fsh_init (t : Nat) (a1 : Nat) (W : jW) : Option (jW) :=
  gd (¬ t = 0) <|
  gd (jra W (kI 4)) <|
  gd (jC W t = 4) <|
  jlt (nwA W 407 t (ix (kI 4))) fun W4 =>
  gd (jra W4 (kI 4)) <|
  jlt (nwB W4 408 t (ix (kI 4))) fun W9 =>
  gd (jra W9 (kI 4)) <|
  jlt (nwA W9 409 t (ix (kI 4))) fun W14 =>
  gd (jra W14 (kI 4)) <|
  jlt (nwA W14 410 t (ix (kI 4))) fun W19 =>
  gd (jra W19 (kI 16)) <|
  jlt (nwA W19 411 t (ix (kI 16))) fun W24 =>
  gd (jra W24 (kI 16)) <|
  jlt (nwA W24 412 t (ix (kI 16))) fun W29 =>
  gd (jra W29 (kI 16)) <|
  jlt (nwB W29 413 t (ix (kI 16))) fun W34 =>
  gd (jra W34 (kI 16)) <|
  jlt (nwA W34 414 t (ix (kI 16))) fun W39 =>
  gd (jra W39 (kI 16)) <|
  jlt (nwA W39 415 t (ix (kI 16))) fun W44 =>
  gd (jra W44 (kI 16)) <|
  jlt (nwA W44 416 t (ix (kI 16))) fun W49 =>
  gd (jra W49 (kI 16)) <|
  jlt (nwA W49 417 t (ix (kI 16))) fun W54 =>
  gd (jra W54 (kI 8192)) <|
  jlt (nwB W54 420 t (ix (kI 8192))) fun W59 =>
  gd (jra W59 (kI 8192)) <|
  jlt (nwA W59 421 t (ix (kI 8192))) fun W64 =>
  jlt (sR W64 400 t a1) fun W68 =>
  some W68
noncomputable def fsr_init (t : Nat) (W : jW) : Option (jW) :=
  gd (¬ t = 0) <| some W
noncomputable def fhe_init (t : Nat) (W : jW) : Option (jW) :=
  gd (jC W t = 5) <| (fsr_init t W).bind fun q2 => gd (jra q2 (kI 60000)) <| gd (jC q2 t = 5) <| jlt (nwA q2 500 t (ix (kI 60000))) fun W6 => some W6
noncomputable def fro_init (t : Nat) (W : jW) : Option (jW) :=
  gd (¬ t = 0) <| gd (jra W (kI 64)) <| gd (jC W t = 6) <| jlt (nwA W 600 t (ix (kI 64))) fun W4 => some W4
noncomputable def fpg_init (t : Nat) (W : jW) : Option (jW) :=
  gd (¬ t = 0) <|
  gd (jrm W 3) <|
  jlt (sC (sX W 3) (jX W) 3) fun W3 =>
  gd (jC W3 (jX W) = 3) <|
  (ftr_init (jX W) W3).bind fun q6 =>
  gd (jC q6 t = 2) <|
  jlt (sR q6 200 t (jX W)) fun W9 =>
  gd (jrm W9 22) <|
  jlt (sC (sX W9 22) (jX W9) 4) fun W14 =>
  gd (jC W14 t = 2) <|
  gd (jC W14 (jX W9) = 4) <|
  (fsh_init (jX W9) (jR W14 200 t) W14).bind fun q18 =>
  gd (jC q18 t = 2) <|
  jlt (sR q18 201 t (jX W9)) fun W21 =>
  gd (jrm W21 2) <|
  jlt (sC (sX W21 2) (jX W21) 5) fun W26 =>
  gd (jC W26 (jX W21) = 5) <|
  (fhe_init (jX W21) W26).bind fun q29 =>
  gd (jC q29 t = 2) <|
  jlt (sR q29 202 t (jX W21)) fun W32 =>
  gd (jra W32 (kI 0)) <|
  jlt (nwA W32 204 t (ix (kI 0))) fun W37 =>
  gd (jra W37 (kI 0)) <|
  jlt (nwA W37 205 t (ix (kI 0))) fun W42 =>
  gd (jra W42 (kI 0)) <|
  jlt (nwA W42 206 t (ix (kI 0))) fun W47 =>
  gd (jra W47 (kI 0)) <|
  jlt (nwA W47 207 t (ix (kI 0))) fun W52 =>
  gd (jra W52 (kI 0)) <|
  jlt (nwA W52 208 t (ix (kI 0))) fun W57 =>
  gd (jrm W57 2) <|
  jlt (sC (sX W57 2) (jX W57) 6) fun W62 =>
  gd (jC W62 (jX W57) = 6) <|
  (fro_init (jX W57) W62).bind fun q65 =>
  gd (jC q65 t = 2) <|
  jlt (sR q65 209 t (jX W57)) fun W68 =>
  gd (jrm W68 2) <|
  jlt (sC (sX W68 2) (jX W68) 6) fun W73 =>
  gd (jC W73 (jX W68) = 6) <|
  (fro_init (jX W68) W73).bind fun q76 =>
  gd (jC q76 t = 2) <|
  jlt (sR q76 210 t (jX W68)) fun W79 =>
  gd (jrm W79 2) <|
  jlt (sC (sX W79 2) (jX W79) 6) fun W84 =>
  gd (jC W84 (jX W79) = 6) <|
  (fro_init (jX W79) W84).bind fun q87 =>
  gd (jC q87 t = 2) <|
  jlt (sR q87 211 t (jX W79)) fun W90 =>
  gd (jra W90 (kI 0)) <|
  jlt (nwA W90 212 t (ix (kI 0))) fun W95 =>
  gd (jrm W95 2) <|
  jlt (sC (sX W95 2) (jX W95) 6) fun W100 =>
  gd (jC W100 (jX W95) = 6) <|
  (fro_init (jX W95) W100).bind fun q103 =>
  gd (jC q103 t = 2) <|
  jlt (sR q103 213 t (jX W95)) fun W106 =>
  gd (jra W106 (kI 0)) <|
  jlt (nwA W106 214 t (ix (kI 0))) fun W111 =>
  gd (jra W111 (kI 0)) <|
  jlt (nwA W111 215 t (ix (kI 0))) fun W116 =>
  gd (jra W116 (kI 0)) <|
  jlt (nwA W116 216 t (ix (kI 0))) fun W121 =>
  some W121
noncomputable def fco_init (t : Nat) (W : jW) : Option (jW) :=
  gd (¬ t = 0) <|
  gd (jrm W 2) <|
  jlt (sC (sX W 2) (jX W) 6) fun W3 =>
  gd (jC W3 (jX W) = 6) <|
  (fro_init (jX W) W3).bind fun q6 =>
  gd (jC q6 t = 7) <|
  jlt (sR q6 700 t (jX W)) fun W9 =>
  gd (jrm W9 2) <|
  jlt (sC (sX W9 2) (jX W9) 6) fun W14 =>
  gd (jC W14 (jX W9) = 6) <|
  (fro_init (jX W9) W14).bind fun q17 =>
  gd (jC q17 t = 7) <|
  jlt (sR q17 701 t (jX W9)) fun W20 =>
  gd (jra W20 (kI 64)) <|
  jlt (nwB W20 702 t (ix (kI 64))) fun W25 =>
  gd (jra W25 (kI 8192)) <|
  jlt (nwA W25 703 t (ix (kI 8192))) fun W30 =>
  some W30
noncomputable def fcl_init (t : Nat) (W : jW) : Option (jW) :=
  gd (¬ t = 0) <|
  gd (jra W (kI 60000)) <|
  gd (jC W t = 1) <|
  jlt (nwA W 100 t (ix (kI 60000))) fun W4 =>
  jlt (sI W4 103 t (kI (-1))) fun W8 =>
  gd (jrm W8 18) <|
  jlt (sC (sX W8 18) (jX W8) 2) fun W13 =>
  gd (jC W13 (jX W8) = 2) <|
  (fpg_init (jX W8) W13).bind fun q16 =>
  gd (jC q16 t = 1) <|
  jlt (sR q16 104 t (jX W8)) fun W19 =>
  gd (jrm W19 18) <|
  jlt (sC (sX W19 18) (jX W19) 2) fun W24 =>
  gd (jC W24 (jX W19) = 2) <|
  (fpg_init (jX W19) W24).bind fun q27 =>
  gd (jC q27 t = 1) <|
  jlt (sR q27 105 t (jX W19)) fun W30 =>
  gd (jrm W30 4) <|
  jlt (sC (sX W30 4) (jX W30) 7) fun W35 =>
  gd (jC W35 (jX W30) = 7) <|
  (fco_init (jX W30) W35).bind fun q38 =>
  gd (jC q38 t = 1) <|
  jlt (sR q38 108 t (jX W30)) fun W41 =>
  gd (jrm W41 4) <|
  jlt (sC (sX W41 4) (jX W41) 7) fun W46 =>
  gd (jC W46 (jX W41) = 7) <|
  (fco_init (jX W41) W46).bind fun q49 =>
  gd (jC q49 t = 1) <|
  jlt (sR q49 109 t (jX W41)) fun W52 =>
  gd (jrm W52 4) <|
  jlt (sC (sX W52 4) (jX W52) 7) fun W57 =>
  gd (jC W57 (jX W52) = 7) <|
  (fco_init (jX W52) W57).bind fun q60 =>
  gd (jC q60 t = 1) <|
  jlt (sR q60 110 t (jX W52)) fun W63 =>
  gd (jra W63 (kI 3)) <|
  jlt (nwE W63 114 t (ix (kI 3))) fun W68 =>
  gd (jrm W68 3) <|
  jlt (sC (sX W68 3) (jX W68) 18) fun W73 =>
  gd (jC W73 (jX W68) = 18) <|
  (fal_init (jX W68) W73).bind fun q76 =>
  gd (jC q76 t = 1) <|
  jlt (sR q76 116 t (jX W68)) fun W79 =>
  gd (jrm W79 3) <|
  jlt (sC (sX W79 3) (jX W79) 18) fun W84 =>
  gd (jC W84 (jX W79) = 18) <|
  (fal_init (jX W79) W84).bind fun q87 =>
  gd (jC q87 t = 1) <|
  jlt (sR q87 117 t (jX W79)) fun W90 =>
  gd (jrm W90 3) <|
  jlt (sC (sX W90 3) (jX W90) 18) fun W95 =>
  gd (jC W95 (jX W90) = 18) <|
  (fal_init (jX W90) W95).bind fun q98 =>
  gd (jC q98 t = 1) <|
  jlt (sR q98 118 t (jX W90)) fun W101 =>
  gd (jrm W101 3) <|
  jlt (sC (sX W101 3) (jX W101) 3) fun W106 =>
  gd (jC W106 (jX W101) = 3) <|
  (ftr_init (jX W101) W106).bind fun q109 =>
  gd (jC q109 t = 1) <|
  jlt (sR q109 120 t (jX W101)) fun W112 =>
  gd (jrm W112 22) <|
  jlt (sC (sX W112 22) (jX W112) 4) fun W117 =>
  gd (jC W117 t = 1) <|
  gd (jC W117 (jX W112) = 4) <|
  (fsh_init (jX W112) (jR W117 120 t) W117).bind fun q121 =>
  gd (jC q121 t = 1) <|
  jlt (sR q121 121 t (jX W112)) fun W124 =>
  gd (jra W124 (kI 0)) <|
  jlt (nwA W124 9003 (jX W124) (ix (kI 0))) fun W129 =>
  jlt (sR W129 122 t (jX W124)) fun W133 =>
  some W133
abbrev fcl_word_S : Type := (Int32 × jW)
noncomputable def fcl_word_2 (t : Nat) (a1 : Int32) (l2 : Int32) (W : jW) : Option (fcl_word_S ⊕ (jW)) :=
  if l2 < (kI 4) then
    (gd (jC W t = 1) <|
  gd (jin (jI W 101 t) (jN W 100 t)) <|
  jlt (pA W 100 t (ix (jI W 101 t)) (i2b (i2b (ixr a1 ((kI 24) - ((kI 8) * l2)))))) fun W4 =>
  jlt (sI W4 101 t ((jI W4 101 t) + (kI 1))) fun W8 =>
  jlt (l2 + (kI 1)) fun v12 =>
  some (.inl (v12, W8)))
  else
    (some (.inr W))
noncomputable def fcl_word_st (t : Nat) (a1 : Int32) : fcl_word_S → Option (fcl_word_S ⊕ (jW)) :=
  (fun s => fcl_word_2 t a1 s.1 s.2)
noncomputable def fcl_word_0 (t : Nat) (a1 : Int32) (W : jW) : Option (fcl_word_S ⊕ (jW)) :=
  some (.inl ((kI 0), W))
noncomputable def fcl_word (t : Nat) (a1 : Int32) (W : jW) : Option (jW) :=
  jrn (fcl_word_st t a1) (fcl_word_0 t a1 W)
noncomputable def fcl_feed_24 (t : Nat) (a1 : Int32) (a2 : Int32) (a3 : Int32) (a4 : Int32) (a5 : Int32) (W : jW) : Option (Int32 × jW) :=
  some ((kI (-1)), W)
noncomputable def fcl_feed (t : Nat) (a1 : Int32) (a2 : Int32) (a3 : Int32) (a4 : Int32) (a5 : Int32) (W : jW) : Option (Int32 × jW) :=
  gd (jC W t = 1) <|
  if (kI 60000) < ((jI W 101 t) + (kI 20)) then
    (fcl_feed_24 t a1 a2 a3 a4 a5 W)
  else
    (if (kI 131072) < ((jI W 102 t) + (kI 20)) then
    (fcl_feed_24 t a1 a2 a3 a4 a5 W)
  else
    ((fcl_word t a1 W).bind fun q2 =>
    gd (jC q2 t = 1) <|
    (fcl_word t a2 q2).bind fun q5 =>
    gd (jC q5 t = 1) <|
    (fcl_word t a3 q5).bind fun q8 =>
    gd (jC q8 t = 1) <|
    (fcl_word t a4 q8).bind fun q11 =>
    gd (jC q11 t = 1) <|
    (fcl_word t a5 q11).bind fun q14 =>
    gd (jC q14 t = 1) <|
    jlt (sI q14 102 t ((jI q14 102 t) + (kI 20))) fun W17 =>
    some ((jI W17 101 t), W17)))
noncomputable def fcl_end_12 (t : Nat) (a1 : Int32) (W : jW) : Option (Int32 × jW) :=
  some ((kI 0), W)
noncomputable def fcl_end (t : Nat) (a1 : Int32) (W : jW) : Option (Int32 × jW) :=
  if a1 < (0 : Int32) then
    (fcl_end_12 t a1 W)
  else
    (gd (jC W t = 1) <| if (jI W 101 t) < a1 then
    (fcl_end_12 t a1 W)
  else
    (jlt (sI W 101 t a1) fun W2 => some ((kI 1), W2)))
noncomputable def fhe_size (t : Nat) (W : jW) : Option (Int32) :=
  gd (jC W t = 5) <| some (jI W 501 t)
noncomputable def fwr_size (t : Nat) (W : jW) : Option (Int32) :=
  gd (jC W t = 9) <| gd (jC W (jR W 900 t) = 2) <| gd (jC W (jR W 202 (jR W 900 t)) = 5) <| some ((jI W 501 (jR W 202 (jR W 900 t))) + (jI W 914 t))
noncomputable def fsr_size (t : Nat) (W : jW) : Option Int32 := if jC W t = 5 then fhe_size t W else fwr_size t W
noncomputable def ftr_must (t : Nat) (a1 : Int32) (a2 : Int32) (a3 : Int32) (W : jW) : Option ((Nat × jW) ⊕ jW) :=
  if a1 = (0 : Int32) then
    (gd (jC W t = 3) <| jlt (sI W 300 t a2) fun W2 => jlt (sI W2 301 t a3) fun W6 => gd (¬ (jR W6 302 t) = 0) <| some (.inl ((jR W6 302 t), W6)))
  else
    (some (.inr W))
noncomputable def fhe_at (t : Nat) (a1 : Int32) (W : jW) : Option (Int32) :=
  gd (jC W t = 5) <| gd (jin a1 (jN W 500 t)) <| some ((jA W 500 t (ix a1)) &&& (kI 255))
noncomputable def fsh_last (t : Nat) (W : jW) : Option (Int32) :=
  gd (jC W t = 4) <| some ((jI W 402 t) - (kI 1))
noncomputable def fsh_textOffset (t : Nat) (W : jW) : Option (Int32) :=
  gd (jC W t = 4) <| (fsh_last t W).bind fun q2 => gd (jin q2 (jN W 409 t)) <| some (jA W 409 t (ix q2))
noncomputable def fwr_wordAt (t : Nat) (a1 : Int32) (W : jW) : Option (Int32) :=
  gd (jC W t = 9) <|
  if a1 < ((kI 4) * (jI W 910 t)) then
    (gd (jin (a1 / (kI 4)) (jN W 908 t)) <| some (jA W 908 t (ix (a1 / (kI 4)))))
  else
    (if a1 < (jI W 911 t) then
      (some (kI 0))
    else
      (gd (jin ((jI W 910 t) + ((a1 - (jI W 911 t)) / (kI 4))) (jN W 908 t)) <| some (jA W 908 t (ix ((jI W 910 t) + ((a1 - (jI W 911 t)) / (kI 4)))))))
noncomputable def fwr_at (t : Nat) (a1 : Int32) (W : jW) : Option (Int32) :=
  gd (jC W t = 9) <|
  gd (jC W (jR W 900 t) = 2) <|
  gd (jC W (jR W 201 (jR W 900 t)) = 4) <|
  (fsh_textOffset (jR W 201 (jR W 900 t)) W).bind fun q4 =>
  jlt (q4 + ((kI 4) * (jI W 203 (jR W 900 t)))) fun v5 =>
  if a1 < q4 then
    (gd (jin a1 (jN W 913 t)) <| some ((jA W 913 t (ix a1)) &&& (kI 255)))
  else
    (if a1 < (q4 + (jI W 912 t)) then
      ((fwr_wordAt t (((a1 - q4) / (kI 4)) * (kI 4)) W).bind fun q7 => some ((ixr q7 ((kI 8) * (irm (a1 - q4) (kI 4)))) &&& (kI 255)))
    else
      (if a1 < (v5 + (jI W 914 t)) then
        (some (kI 0))
      else
        (gd (jin (a1 - (jI W 914 t)) (jN W 913 t)) <| some ((jA W 913 t (ix (a1 - (jI W 914 t)))) &&& (kI 255)))))
noncomputable def fsr_at (t : Nat) (a1 : Int32) (W : jW) : Option Int32 := if jC W t = 5 then fhe_at t a1 W else fwr_at t a1 W
noncomputable def fsr_half (t : Nat) (a1 : Int32) (W : jW) : Option (Int32) :=
  gd (jC W t = 5 ∨ jC W t = 9) <|
  (fsr_at t a1 W).bind fun q2 =>
  gd (jC W t = 5 ∨ jC W t = 9) <|
  (fsr_at t (a1 + (kI 1)) W).bind fun q4 =>
  some (q2 ||| (ixl q4 (kI 8)))
noncomputable def fsr_word (t : Nat) (a1 : Int32) (W : jW) : Option (Int32) :=
  gd (jC W t = 5 ∨ jC W t = 9) <|
  (fsr_half t a1 W).bind fun q2 =>
  gd (jC W t = 5 ∨ jC W t = 9) <|
  (fsr_half t (a1 + (kI 2)) W).bind fun q4 =>
  some (q2 ||| (ixl q4 (kI 16)))
noncomputable def fsr_pair (t : Nat) (a1 : Int32) (W : jW) : Option (Int64) :=
  gd (jC W t = 5 ∨ jC W t = 9) <|
  (fsr_word t a1 W).bind fun q2 =>
  gd (jC W t = 5 ∨ jC W t = 9) <|
  (fsr_word t (a1 + (kI 4)) W).bind fun q4 =>
  some ((q2.toInt64 &&& (kJ 4294967295)) ||| (lxl q4.toInt64 (kI 32)))
noncomputable def fsh_field_64 (t : Nat) (a1 : Int32) (a2 : Int32) (a3 : Int64) (s0 : Int32) (s1 : Nat) (W : jW) : Option ((Nat × jW) ⊕ jW) :=
  gd (jC W s1 = 3) <| (ftr_must s1 s0 (kI 1) a1 W).bind <| Sum.elim (fun z => some (.inl z)) fun q14 => some (.inr q14)
noncomputable def fsh_field_46 (t : Nat) (a1 : Int32) (a2 : Int32) (a3 : Int64) (s0 : Int64) (W : jW) : Option ((Nat × jW) ⊕ jW) :=
  gd (jC W t = 4) <| if s0 = a3 then
    (fsh_field_64 t a1 a2 a3 (kI 1) (jR W 400 t) W)
  else
    (fsh_field_64 t a1 a2 a3 (kI 0) (jR W 400 t) W)
noncomputable def fsh_field (t : Nat) (a1 : Int32) (a2 : Int32) (a3 : Int64) (W : jW) : Option ((Nat × jW) ⊕ jW) :=
  if a2 = (kI 2) then
    (gd (jC W t = 4) <|
  gd (jC W (jR W 401 t) = 5 ∨ jC W (jR W 401 t) = 9) <|
  (fsr_half (jR W 401 t) a1 W).bind fun q9 =>
  fsh_field_46 t a1 a2 a3 q9.toInt64 W)
  else
    (if a2 = (kI 4) then
      (gd (jC W t = 4) <|
    gd (jC W (jR W 401 t) = 5 ∨ jC W (jR W 401 t) = 9) <|
    (fsr_word (jR W 401 t) a1 W).bind fun q6 =>
    fsh_field_46 t a1 a2 a3 (q6.toInt64 &&& (kJ 4294967295)) W)
    else
      (gd (jC W t = 4) <| gd (jC W (jR W 401 t) = 5 ∨ jC W (jR W 401 t) = 9) <| (fsr_pair (jR W 401 t) a1 W).bind fun q3 => fsh_field_46 t a1 a2 a3 q3 W))
noncomputable def fsh_head_367 (t : Nat) (l2 : Int64) (s0 : Int32) (s1 : Nat) (W : jW) : Option ((Nat × jW) ⊕ jW) :=
  gd (jC W s1 = 3) <|
  (ftr_must s1 s0 (kI 1) (kI 40) W).bind <| Sum.elim (fun z => some (.inl z)) fun q92 =>
  gd (jC q92 t = 4) <|
  jlt (sI q92 405 t l2.toInt32) fun W95 =>
  some (.inr W95)
noncomputable def fsh_head_366 (t : Nat) (l2 : Int64) (s0 : Nat) (W : jW) : Option ((Nat × jW) ⊕ jW) :=
  fsh_head_367 t l2 (kI 0) s0 W
noncomputable def fsh_head_305 (t : Nat) (s0 : Int32) (s1 : Nat) (W : jW) : Option ((Nat × jW) ⊕ jW) :=
  gd (jC W s1 = 3) <|
  (ftr_must s1 s0 (kI 1) (kI 62) W).bind <| Sum.elim (fun z => some (.inl z)) fun q83 =>
  gd (jC q83 t = 4) <|
  gd (jC q83 (jR q83 401 t) = 5 ∨ jC q83 (jR q83 401 t) = 9) <|
  (fsr_pair (jR q83 401 t) (kI 40) q83).bind fun q87 =>
  if (lrm q87 (kJ 8)) = (kJ 0) then
    (if q87 < (kJ 0) then
    (fsh_head_366 t q87 (jR q83 400 t) q83)
  else
    (gd (jC q83 (jR q83 401 t) = 5 ∨ jC q83 (jR q83 401 t) = 9) <|
  (fsr_size (jR q83 401 t) q83).bind fun q89 =>
  if q87 = (q89 - ((kI 64) * (jI q83 403 t))).toInt64 then
    (fsh_head_367 t q87 (kI 1) (jR q83 400 t) q83)
  else
    (fsh_head_366 t q87 (jR q83 400 t) q83)))
  else
    (fsh_head_366 t q87 (jR q83 400 t) q83)
noncomputable def fsh_head_304 (t : Nat) (s0 : Nat) (W : jW) : Option ((Nat × jW) ⊕ jW) :=
  fsh_head_305 t (kI 0) s0 W
noncomputable def fsh_head_258 (t : Nat) (s0 : Int32) (s1 : Nat) (W : jW) : Option ((Nat × jW) ⊕ jW) :=
  gd (jC W s1 = 3) <|
  (ftr_must s1 s0 (kI 1) (kI 60) W).bind <| Sum.elim (fun z => some (.inl z)) fun q72 =>
  gd (jC q72 t = 4) <|
  gd (jC q72 (jR q72 401 t) = 5 ∨ jC q72 (jR q72 401 t) = 9) <|
  (fsr_half (jR q72 401 t) (kI 62) q72).bind fun q76 =>
  jlt (sI q72 406 t q76) fun W77 =>
  if (jI W77 406 t) < (kI 1) then
    (fsh_head_304 t (jR W77 400 t) W77)
  else
    (if (jI W77 406 t) < (jI W77 403 t) then
    (fsh_head_305 t (kI 1) (jR W77 400 t) W77)
  else
    (fsh_head_304 t (jR W77 400 t) W77))
noncomputable def fsh_head_257 (t : Nat) (s0 : Nat) (W : jW) : Option ((Nat × jW) ⊕ jW) :=
  fsh_head_258 t (kI 0) s0 W
noncomputable def fsh_head_203 (t : Nat) (s0 : Int32) (s1 : Nat) (W : jW) : Option ((Nat × jW) ⊕ jW) :=
  gd (jC W s1 = 3) <|
  (ftr_must s1 s0 (kI 1) (kI 56) W).bind <| Sum.elim (fun z => some (.inl z)) fun q58 =>
  gd (jC q58 t = 4) <|
  (fsh_field t (kI 58) (kI 2) (kJ 64) q58).bind <| Sum.elim (fun z => some (.inl z)) fun q61 =>
  gd (jC q61 t = 4) <|
  gd (jC q61 (jR q61 401 t) = 5 ∨ jC q61 (jR q61 401 t) = 9) <|
  (fsr_half (jR q61 401 t) (kI 60) q61).bind fun q65 =>
  jlt (sI q61 403 t q65) fun W66 =>
  if (jI W66 403 t) < (kI 5) then
    (fsh_head_257 t (jR W66 400 t) W66)
  else
    (if (kI 16) < (jI W66 403 t) then
    (fsh_head_257 t (jR W66 400 t) W66)
  else
    (fsh_head_258 t (kI 1) (jR W66 400 t) W66))
noncomputable def fsh_head_202 (t : Nat) (s0 : Nat) (W : jW) : Option ((Nat × jW) ⊕ jW) :=
  fsh_head_203 t (kI 0) s0 W
noncomputable def fsh_head_80 (t : Nat) (s0 : Int32) (s1 : Nat) (W : jW) : Option ((Nat × jW) ⊕ jW) :=
  gd (jC W s1 = 3) <|
  (ftr_must s1 s0 (kI 1) (kI 0) W).bind <| Sum.elim (fun z => some (.inl z)) fun q20 =>
  gd (jC q20 t = 4) <|
  (fsh_field t (kI 16) (kI 2) (kJ 2) q20).bind <| Sum.elim (fun z => some (.inl z)) fun q23 =>
  gd (jC q23 t = 4) <|
  (fsh_field t (kI 18) (kI 2) (kJ 183) q23).bind <| Sum.elim (fun z => some (.inl z)) fun q26 =>
  gd (jC q26 t = 4) <|
  (fsh_field t (kI 20) (kI 4) (kJ 1) q26).bind <| Sum.elim (fun z => some (.inl z)) fun q29 =>
  gd (jC q29 t = 4) <|
  gd (jC q29 (jR q29 401 t) = 5 ∨ jC q29 (jR q29 401 t) = 9) <|
  (fsr_pair (jR q29 401 t) (kI 24) q29).bind fun q33 =>
  jlt (sL q29 404 t q33) fun W34 =>
  (fsh_field t (kI 32) (kI 8) (kJ 64) W34).bind <| Sum.elim (fun z => some (.inl z)) fun q38 =>
  gd (jC q38 t = 4) <|
  (fsh_field t (kI 48) (kI 4) (kJ 0) q38).bind <| Sum.elim (fun z => some (.inl z)) fun q41 =>
  gd (jC q41 t = 4) <|
  (fsh_field t (kI 52) (kI 2) (kJ 64) q41).bind <| Sum.elim (fun z => some (.inl z)) fun q44 =>
  gd (jC q44 t = 4) <|
  (fsh_field t (kI 54) (kI 2) (kJ 56) q44).bind <| Sum.elim (fun z => some (.inl z)) fun q47 =>
  gd (jC q47 t = 4) <|
  gd (jC q47 (jR q47 401 t) = 5 ∨ jC q47 (jR q47 401 t) = 9) <|
  (fsr_half (jR q47 401 t) (kI 56) q47).bind fun q51 =>
  jlt (sI q47 402 t q51) fun W52 =>
  if (jI W52 402 t) < (kI 1) then
    (fsh_head_202 t (jR W52 400 t) W52)
  else
    (if (kI 4) < (jI W52 402 t) then
    (fsh_head_202 t (jR W52 400 t) W52)
  else
    (fsh_head_203 t (kI 1) (jR W52 400 t) W52))
noncomputable def fsh_head_79 (t : Nat) (s0 : Nat) (W : jW) : Option ((Nat × jW) ⊕ jW) :=
  fsh_head_80 t (kI 0) s0 W
noncomputable def fsh_head_52 (t : Nat) (s0 : Int32) (W : jW) : Option ((Nat × jW) ⊕ jW) :=
  gd (jC W t = 4) <|
  if s0 = (0 : Int32) then
    (fsh_head_79 t (jR W 400 t) W)
  else
    (gd (jC W (jR W 401 t) = 5 ∨ jC W (jR W 401 t) = 9) <|
  (fsr_pair (jR W 401 t) (kI 8) W).bind fun q17 =>
  if q17 = (kJ 0) then
    (fsh_head_80 t (kI 1) (jR W 400 t) W)
  else
    (fsh_head_79 t (jR W 400 t) W))
noncomputable def fsh_head_21 (t : Nat) (s0 : Int32) (s1 : Nat) (W : jW) : Option ((Nat × jW) ⊕ jW) :=
  gd (jC W t = 4) <|
  gd (jC W (jR W 401 t) = 5 ∨ jC W (jR W 401 t) = 9) <|
  (fsr_size (jR W 401 t) W).bind fun q7 =>
  gd (jC W s1 = 3) <|
  (ftr_must s1 s0 (kI 1) q7 W).bind <| Sum.elim (fun z => some (.inl z)) fun q9 =>
  gd (jC q9 t = 4) <|
  gd (jC q9 (jR q9 401 t) = 5 ∨ jC q9 (jR q9 401 t) = 9) <|
  (fsr_pair (jR q9 401 t) (kI 0) q9).bind fun q13 =>
  if q13 = (kJ 282584257676671) then
    (fsh_head_52 t (kI 1) q9)
  else
    (fsh_head_52 t (kI 0) q9)
noncomputable def fsh_head (t : Nat) (W : jW) : Option ((Nat × jW) ⊕ jW) :=
  gd (jC W t = 4) <|
  gd (jC W (jR W 401 t) = 5 ∨ jC W (jR W 401 t) = 9) <|
  (fsr_size (jR W 401 t) W).bind fun q3 =>
  if q3 < (kI 64) then
    (fsh_head_21 t (kI 0) (jR W 400 t) W)
  else
    (fsh_head_21 t (kI 1) (jR W 400 t) W)
noncomputable def fcl_isAbove (a0 : Int64) (a2 : Int64) : Int32 :=
  if (a2 + (kJ (-9223372036854775808))) < (a0 + (kJ (-9223372036854775808))) then
    ((kI 1))
  else
    ((kI 0))
noncomputable def fsh_segment_451 (t : Nat) (a1 : Int32) (l2 : Int32) (l3 : Int64) (l7 : Int64) (l11 : Int64) (s0 : Int32) (s1 : Nat) (W : jW) : Option ((Nat × jW) ⊕ jW) :=
  gd (jC W s1 = 3) <|
  (ftr_must s1 s0 (kI 2) (l2 + (kI 48)) W).bind <| Sum.elim (fun z => some (.inl z)) fun q73 =>
  gd (jC q73 t = 4) <|
  gd (jin a1 (jN q73 408 t)) <|
  jlt (pB q73 408 t (ix a1) l7) fun W77 =>
  gd (jin a1 (jN W77 409 t)) <|
  jlt (pA W77 409 t (ix a1) l3.toInt32) fun W82 =>
  gd (jin a1 (jN W82 410 t)) <|
  jlt (pA W82 410 t (ix a1) l11.toInt32) fun W87 =>
  some (.inr W87)
noncomputable def fsh_segment_416 (t : Nat) (a1 : Int32) (l2 : Int32) (l3 : Int64) (l7 : Int64) (l11 : Int64) (s0 : Int32) (s1 : Nat) (W : jW) : Option ((Nat × jW) ⊕ jW) :=
  gd (jC W s1 = 3) <|
  (ftr_must s1 s0 (kI 2) (l2 + (kI 40)) W).bind <| Sum.elim (fun z => some (.inl z)) fun q66 =>
  gd (jC q66 t = 4) <|
  gd (jC q66 (jR q66 401 t) = 5 ∨ jC q66 (jR q66 401 t) = 9) <|
  (fsr_pair (jR q66 401 t) (l2 + (kI 48)) q66).bind fun q70 =>
  if q70 = (kJ 16) then
    (fsh_segment_451 t a1 l2 l3 l7 l11 (kI 1) (jR q66 400 t) q66)
  else
    (fsh_segment_451 t a1 l2 l3 l7 l11 (kI 0) (jR q66 400 t) q66)
noncomputable def fsh_segment_382 (t : Nat) (a1 : Int32) (l2 : Int32) (l3 : Int64) (l7 : Int64) (l11 : Int64) (s0 : Int32) (s1 : Nat) (W : jW) : Option ((Nat × jW) ⊕ jW) :=
  gd (jC W s1 = 3) <|
  (ftr_must s1 s0 (kI 2) (l2 + (kI 32)) W).bind <| Sum.elim (fun z => some (.inl z)) fun q59 =>
  gd (jC q59 t = 4) <|
  gd (jC q59 (jR q59 401 t) = 5 ∨ jC q59 (jR q59 401 t) = 9) <|
  (fsr_pair (jR q59 401 t) (l2 + (kI 40)) q59).bind fun q63 =>
  if q63 = l11 then
    (fsh_segment_416 t a1 l2 l3 l7 l11 (kI 1) (jR q59 400 t) q59)
  else
    (fsh_segment_416 t a1 l2 l3 l7 l11 (kI 0) (jR q59 400 t) q59)
noncomputable def fsh_segment_381 (t : Nat) (a1 : Int32) (l2 : Int32) (l3 : Int64) (l7 : Int64) (l11 : Int64) (s0 : Nat) (W : jW) : Option ((Nat × jW) ⊕ jW) :=
  fsh_segment_382 t a1 l2 l3 l7 l11 (kI 0) s0 W
noncomputable def fsh_segment_311 (t : Nat) (a1 : Int32) (l2 : Int32) (l3 : Int64) (l7 : Int64) (s0 : Int32) (s1 : Nat) (W : jW) : Option ((Nat × jW) ⊕ jW) :=
  gd (jC W s1 = 3) <|
  (ftr_must s1 s0 (kI 2) (l2 + (kI 24)) W).bind <| Sum.elim (fun z => some (.inl z)) fun q52 =>
  gd (jC q52 t = 4) <|
  gd (jC q52 (jR q52 401 t) = 5 ∨ jC q52 (jR q52 401 t) = 9) <|
  (fsr_pair (jR q52 401 t) (l2 + (kI 32)) q52).bind fun q56 =>
  if q56 < (kJ 1) then
    (fsh_segment_381 t a1 l2 l3 l7 q56 (jR q52 400 t) q52)
  else
    (if (kJ 4194304) < q56 then
    (fsh_segment_381 t a1 l2 l3 l7 q56 (jR q52 400 t) q52)
  else
    (if (fcl_isAbove l3 ((jI q52 405 t).toInt64)) = (0 : Int32) then
    (if (jI q52 405 t).toInt64 < (l3 + q56) then
    (fsh_segment_381 t a1 l2 l3 l7 q56 (jR q52 400 t) q52)
  else
    (fsh_segment_382 t a1 l2 l3 l7 q56 (kI 1) (jR q52 400 t) q52))
  else
    (fsh_segment_381 t a1 l2 l3 l7 q56 (jR q52 400 t) q52)))
noncomputable def fsh_segment_277 (t : Nat) (a1 : Int32) (l2 : Int32) (l3 : Int64) (l7 : Int64) (s0 : Int32) (s1 : Nat) (W : jW) : Option ((Nat × jW) ⊕ jW) :=
  gd (jC W s1 = 3) <|
  (ftr_must s1 s0 (kI 2) (l2 + (kI 16)) W).bind <| Sum.elim (fun z => some (.inl z)) fun q45 =>
  gd (jC q45 t = 4) <|
  gd (jC q45 (jR q45 401 t) = 5 ∨ jC q45 (jR q45 401 t) = 9) <|
  (fsr_pair (jR q45 401 t) (l2 + (kI 24)) q45).bind fun q49 =>
  if q49 = l7 then
    (fsh_segment_311 t a1 l2 l3 l7 (kI 1) (jR q45 400 t) q45)
  else
    (fsh_segment_311 t a1 l2 l3 l7 (kI 0) (jR q45 400 t) q45)
noncomputable def fsh_segment_276 (t : Nat) (a1 : Int32) (l2 : Int32) (l3 : Int64) (l7 : Int64) (s0 : Nat) (W : jW) : Option ((Nat × jW) ⊕ jW) :=
  fsh_segment_277 t a1 l2 l3 l7 (kI 0) s0 W
noncomputable def fsh_segment_236 (t : Nat) (a1 : Int32) (l2 : Int32) (l3 : Int64) (l7 : Int64) (s0 : Int64) (W : jW) : Option ((Nat × jW) ⊕ jW) :=
  gd (jC W t = 4) <|
  if l7 < s0 then
    (fsh_segment_276 t a1 l2 l3 l7 (jR W 400 t) W)
  else
    (if (kJ 134217728) < l7 then
    (fsh_segment_276 t a1 l2 l3 l7 (jR W 400 t) W)
  else
    (if (lrm (l7 - l3) (kJ 16)) = (kJ 0) then
    (fsh_segment_277 t a1 l2 l3 l7 (kI 1) (jR W 400 t) W)
  else
    (fsh_segment_276 t a1 l2 l3 l7 (jR W 400 t) W)))
noncomputable def fsh_segment_181 (t : Nat) (a1 : Int32) (l2 : Int32) (l3 : Int64) (s0 : Int32) (s1 : Nat) (W : jW) : Option ((Nat × jW) ⊕ jW) :=
  gd (jC W s1 = 3) <|
  (ftr_must s1 s0 (kI 2) (l2 + (kI 8)) W).bind <| Sum.elim (fun z => some (.inl z)) fun q34 =>
  gd (jC q34 t = 4) <|
  gd (jC q34 (jR q34 401 t) = 5 ∨ jC q34 (jR q34 401 t) = 9) <|
  (fsr_pair (jR q34 401 t) (l2 + (kI 16)) q34).bind fun q38 =>
  if a1 = (0 : Int32) then
    (fsh_segment_236 t a1 l2 l3 q38 (kJ 65536) q34)
  else
    (gd (jin (a1 - (kI 1)) (jN q34 408 t)) <|
    gd (jin (a1 - (kI 1)) (jN q34 410 t)) <|
    fsh_segment_236 t a1 l2 l3 q38 (fjm_max (kJ 65536) ((jB q34 408 t (ix (a1 - (kI 1)))) + ((jA q34 410 t (ix (a1 - (kI 1)))).toInt64))) q34)
noncomputable def fsh_segment_161 (t : Nat) (a1 : Int32) (l2 : Int32) (l3 : Int64) (s0 : Int64) (W : jW) : Option ((Nat × jW) ⊕ jW) :=
  gd (jC W t = 4) <|
  if (fcl_isAbove s0 l3) = (0 : Int32) then
    (fsh_segment_181 t a1 l2 l3 (kI 1) (jR W 400 t) W)
  else
    (fsh_segment_181 t a1 l2 l3 (kI 0) (jR W 400 t) W)
noncomputable def fsh_segment_106 (t : Nat) (a1 : Int32) (l2 : Int32) (s0 : Int32) (s1 : Nat) (W : jW) : Option ((Nat × jW) ⊕ jW) :=
  gd (jC W s1 = 3) <|
  (ftr_must s1 s0 (kI 2) (l2 + (kI 4)) W).bind <| Sum.elim (fun z => some (.inl z)) fun q23 =>
  gd (jC q23 t = 4) <|
  gd (jC q23 (jR q23 401 t) = 5 ∨ jC q23 (jR q23 401 t) = 9) <|
  (fsr_pair (jR q23 401 t) (l2 + (kI 8)) q23).bind fun q27 =>
  if a1 = (0 : Int32) then
    (fsh_segment_161 t a1 l2 q27 (((kI 64) + ((kI 56) * (jI q23 402 t))).toInt64) q23)
  else
    (gd (jin (a1 - (kI 1)) (jN q23 409 t)) <|
    gd (jin (a1 - (kI 1)) (jN q23 410 t)) <|
    fsh_segment_161 t a1 l2 q27 (((jA q23 409 t (ix (a1 - (kI 1)))) + (jA q23 410 t (ix (a1 - (kI 1))))).toInt64) q23)
noncomputable def fsh_segment_101 (t : Nat) (a1 : Int32) (l2 : Int32) (s0 : Nat) (W : jW) : Option ((Nat × jW) ⊕ jW) :=
  fsh_segment_106 t a1 l2 (kI 1) s0 W
noncomputable def fsh_segment_29 (t : Nat) (a1 : Int32) (l2 : Int32) (s0 : Int32) (s1 : Nat) (W : jW) : Option ((Nat × jW) ⊕ jW) :=
  gd (jC W s1 = 3) <|
  (ftr_must s1 s0 (kI 2) l2 W).bind <| Sum.elim (fun z => some (.inl z)) fun q7 =>
  gd (jC q7 t = 4) <|
  gd (jC q7 (jR q7 401 t) = 5 ∨ jC q7 (jR q7 401 t) = 9) <|
  (fsr_word (jR q7 401 t) (l2 + (kI 4)) q7).bind fun q11 =>
  gd (jin a1 (jN q7 407 t)) <|
  jlt (pA q7 407 t (ix a1) q11) fun W13 =>
  (fsh_last t W13).bind fun q17 =>
  if a1 = q17 then
    (gd (jin a1 (jN W13 407 t)) <|
  if (jA W13 407 t (ix a1)) = (kI 5) then
    (fsh_segment_106 t a1 l2 (kI 1) (jR W13 400 t) W13)
  else
    (fsh_segment_106 t a1 l2 (kI 0) (jR W13 400 t) W13))
  else
    (gd (jin a1 (jN W13 407 t)) <|
    if (jA W13 407 t (ix a1)) = (kI 4) then
      (fsh_segment_101 t a1 l2 (jR W13 400 t) W13)
    else
      (gd (jin a1 (jN W13 407 t)) <|
    if (jA W13 407 t (ix a1)) = (kI 6) then
      (fsh_segment_101 t a1 l2 (jR W13 400 t) W13)
    else
      (fsh_segment_106 t a1 l2 (kI 0) (jR W13 400 t) W13)))
noncomputable def fsh_segment (t : Nat) (a1 : Int32) (W : jW) : Option ((Nat × jW) ⊕ jW) :=
  jlt ((kI 64) + ((kI 56) * a1)) fun v1 =>
  gd (jC W t = 4) <|
  gd (jC W (jR W 401 t) = 5 ∨ jC W (jR W 401 t) = 9) <|
  (fsr_word (jR W 401 t) v1 W).bind fun q4 =>
  if q4 = (kI 1) then
    (fsh_segment_29 t a1 v1 (kI 1) (jR W 400 t) W)
  else
    (fsh_segment_29 t a1 v1 (kI 0) (jR W 400 t) W)
noncomputable def fsh_headOf (t : Nat) (a1 : Int32) (W : jW) : Option (Int32) :=
  gd (jC W t = 4) <| some ((jI W 405 t) + ((kI 64) * a1))
noncomputable def fsh_section_448 (t : Nat) (a1 : Int32) (l2 : Int32) (l3 : Int32) (l4 : Int64) (l6 : Int64) (l8 : Int64) (s0 : Int32) (s1 : Nat) (W : jW) : Option ((Nat × jW) ⊕ jW) :=
  gd (jC W s1 = 3) <|
  (ftr_must s1 s0 (kI 3) (((l6 + l8) - (kJ 1)).toInt32) W).bind <| Sum.elim (fun z => some (.inl z)) fun q65 =>
  gd (jC q65 t = 4) <|
  gd (jin a1 (jN q65 411 t)) <|
  jlt (pA q65 411 t (ix a1) l3) fun W69 =>
  gd (jin a1 (jN W69 412 t)) <|
  jlt (pA W69 412 t (ix a1) l4.toInt32) fun W74 =>
  gd (jC W74 (jR W74 401 t) = 5 ∨ jC W74 (jR W74 401 t) = 9) <|
  (fsr_pair (jR W74 401 t) (l2 + (kI 16)) W74).bind fun q79 =>
  gd (jin a1 (jN W74 413 t)) <|
  jlt (pB W74 413 t (ix a1) q79) fun W81 =>
  gd (jin a1 (jN W81 414 t)) <|
  jlt (pA W81 414 t (ix a1) l6.toInt32) fun W86 =>
  gd (jin a1 (jN W86 415 t)) <|
  jlt (pA W86 415 t (ix a1) l8.toInt32) fun W91 =>
  gd (jC W91 (jR W91 401 t) = 5 ∨ jC W91 (jR W91 401 t) = 9) <|
  (fsr_word (jR W91 401 t) (l2 + (kI 40)) W91).bind fun q96 =>
  gd (jin a1 (jN W91 416 t)) <|
  jlt (pA W91 416 t (ix a1) q96) fun W98 =>
  gd (jC W98 (jR W98 401 t) = 5 ∨ jC W98 (jR W98 401 t) = 9) <|
  (fsr_word (jR W98 401 t) (l2 + (kI 44)) W98).bind fun q103 =>
  gd (jin a1 (jN W98 417 t)) <|
  jlt (pA W98 417 t (ix a1) q103) fun W105 =>
  some (.inr W105)
noncomputable def fsh_section_443 (t : Nat) (a1 : Int32) (l2 : Int32) (l3 : Int32) (l4 : Int64) (l6 : Int64) (l8 : Int64) (s0 : Nat) (W : jW) : Option ((Nat × jW) ⊕ jW) :=
  fsh_section_448 t a1 l2 l3 l4 l6 l8 (kI 1) s0 W
noncomputable def fsh_section_409 (t : Nat) (a1 : Int32) (l2 : Int32) (l3 : Int32) (l4 : Int64) (l6 : Int64) (l8 : Int64) (s0 : Int32) (s1 : Nat) (W : jW) : Option ((Nat × jW) ⊕ jW) :=
  gd (jC W s1 = 3) <|
  (ftr_must s1 s0 (kI 3) l6.toInt32 W).bind <| Sum.elim (fun z => some (.inl z)) fun q58 =>
  gd (jC q58 t = 4) <|
  if l3 = (kI 3) then
    (gd (jC q58 (jR q58 401 t) = 5 ∨ jC q58 (jR q58 401 t) = 9) <|
  (fsr_at (jR q58 401 t) (((l6 + l8) - (kJ 1)).toInt32) q58).bind fun q62 =>
  if q62 = (0 : Int32) then
    (fsh_section_443 t a1 l2 l3 l4 l6 l8 (jR q58 400 t) q58)
  else
    (fsh_section_448 t a1 l2 l3 l4 l6 l8 (kI 0) (jR q58 400 t) q58))
  else
    (fsh_section_443 t a1 l2 l3 l4 l6 l8 (jR q58 400 t) q58)
noncomputable def fsh_section_404 (t : Nat) (a1 : Int32) (l2 : Int32) (l3 : Int32) (l4 : Int64) (l6 : Int64) (l8 : Int64) (s0 : Nat) (W : jW) : Option ((Nat × jW) ⊕ jW) :=
  fsh_section_409 t a1 l2 l3 l4 l6 l8 (kI 1) s0 W
noncomputable def fsh_section_374 (t : Nat) (a1 : Int32) (l2 : Int32) (l3 : Int32) (l4 : Int64) (l6 : Int64) (l8 : Int64) (s0 : Int32) (s1 : Nat) (W : jW) : Option ((Nat × jW) ⊕ jW) :=
  gd (jC W s1 = 3) <|
  (ftr_must s1 s0 (kI 3) (l2 + (kI 56)) W).bind <| Sum.elim (fun z => some (.inl z)) fun q51 =>
  gd (jC q51 t = 4) <|
  if l3 = (kI 3) then
    (gd (jC q51 (jR q51 401 t) = 5 ∨ jC q51 (jR q51 401 t) = 9) <|
  (fsr_at (jR q51 401 t) l6.toInt32 q51).bind fun q55 =>
  if q55 = (0 : Int32) then
    (fsh_section_404 t a1 l2 l3 l4 l6 l8 (jR q51 400 t) q51)
  else
    (fsh_section_409 t a1 l2 l3 l4 l6 l8 (kI 0) (jR q51 400 t) q51))
  else
    (fsh_section_404 t a1 l2 l3 l4 l6 l8 (jR q51 400 t) q51)
noncomputable def fsh_section_369 (t : Nat) (a1 : Int32) (l2 : Int32) (l3 : Int32) (l4 : Int64) (l6 : Int64) (l8 : Int64) (s0 : Nat) (W : jW) : Option ((Nat × jW) ⊕ jW) :=
  fsh_section_374 t a1 l2 l3 l4 l6 l8 (kI 1) s0 W
noncomputable def fsh_section_351 (t : Nat) (a1 : Int32) (l2 : Int32) (l3 : Int32) (l4 : Int64) (l6 : Int64) (l8 : Int64) (s0 : Nat) (W : jW) : Option ((Nat × jW) ⊕ jW) :=
  gd (jC W t = 4) <|
  gd (jC W (jR W 401 t) = 5 ∨ jC W (jR W 401 t) = 9) <|
  (fsr_pair (jR W 401 t) (l2 + (kI 56)) W).bind fun q114 =>
  if q114 = (kJ 24) then
    (fsh_section_369 t a1 l2 l3 l4 l6 l8 s0 W)
  else
    (fsh_section_374 t a1 l2 l3 l4 l6 l8 (kI 0) s0 W)
noncomputable def fsh_section_329 (t : Nat) (a1 : Int32) (l2 : Int32) (l3 : Int32) (l4 : Int64) (l6 : Int64) (l8 : Int64) (s0 : Int32) (s1 : Nat) (W : jW) : Option ((Nat × jW) ⊕ jW) :=
  gd (jC W s1 = 3) <|
  (ftr_must s1 s0 (kI 3) (l2 + (kI 32)) W).bind <| Sum.elim (fun z => some (.inl z)) fun q45 =>
  gd (jC q45 t = 4) <|
  if l3 = (kI 2) then
    (fsh_section_351 t a1 l2 l3 l4 l6 l8 (jR q45 400 t) q45)
  else
    (if l3 = (kI 4) then
    (fsh_section_351 t a1 l2 l3 l4 l6 l8 (jR q45 400 t) q45)
  else
    (fsh_section_369 t a1 l2 l3 l4 l6 l8 (jR q45 400 t) q45))
noncomputable def fsh_section_324 (t : Nat) (a1 : Int32) (l2 : Int32) (l3 : Int32) (l4 : Int64) (l6 : Int64) (l8 : Int64) (s0 : Nat) (W : jW) : Option ((Nat × jW) ⊕ jW) :=
  fsh_section_329 t a1 l2 l3 l4 l6 l8 (kI 1) s0 W
noncomputable def fsh_section_296 (t : Nat) (a1 : Int32) (l2 : Int32) (l3 : Int32) (l4 : Int64) (l6 : Int64) (l8 : Int64) (s0 : Int32) (s1 : Nat) (W : jW) : Option ((Nat × jW) ⊕ jW) :=
  gd (jC W s1 = 3) <|
  (ftr_must s1 s0 (kI 3) (l2 + (kI 32)) W).bind <| Sum.elim (fun z => some (.inl z)) fun q40 =>
  gd (jC q40 t = 4) <|
  if l3 = (kI 4) then
    (if (lrm l8 (kJ 24)) = (kJ 0) then
    (fsh_section_324 t a1 l2 l3 l4 l6 l8 (jR q40 400 t) q40)
  else
    (fsh_section_329 t a1 l2 l3 l4 l6 l8 (kI 0) (jR q40 400 t) q40))
  else
    (fsh_section_324 t a1 l2 l3 l4 l6 l8 (jR q40 400 t) q40)
noncomputable def fsh_section_291 (t : Nat) (a1 : Int32) (l2 : Int32) (l3 : Int32) (l4 : Int64) (l6 : Int64) (l8 : Int64) (s0 : Nat) (W : jW) : Option ((Nat × jW) ⊕ jW) :=
  fsh_section_296 t a1 l2 l3 l4 l6 l8 (kI 1) s0 W
noncomputable def fsh_section_295 (t : Nat) (a1 : Int32) (l2 : Int32) (l3 : Int32) (l4 : Int64) (l6 : Int64) (l8 : Int64) (s0 : Nat) (W : jW) : Option ((Nat × jW) ⊕ jW) :=
  fsh_section_296 t a1 l2 l3 l4 l6 l8 (kI 0) s0 W
noncomputable def fsh_section_256 (t : Nat) (a1 : Int32) (l2 : Int32) (l3 : Int32) (l4 : Int64) (l6 : Int64) (l8 : Int64) (s0 : Int32) (s1 : Nat) (W : jW) : Option ((Nat × jW) ⊕ jW) :=
  gd (jC W s1 = 3) <|
  (ftr_must s1 s0 (kI 3) (l2 + (kI 32)) W).bind <| Sum.elim (fun z => some (.inl z)) fun q34 =>
  gd (jC q34 t = 4) <|
  if l3 = (kI 2) then
    (if (kJ 0) < l8 then
    (if (lrm l8 (kJ 24)) = (kJ 0) then
    (fsh_section_291 t a1 l2 l3 l4 l6 l8 (jR q34 400 t) q34)
  else
    (fsh_section_295 t a1 l2 l3 l4 l6 l8 (jR q34 400 t) q34))
  else
    (fsh_section_295 t a1 l2 l3 l4 l6 l8 (jR q34 400 t) q34))
  else
    (fsh_section_291 t a1 l2 l3 l4 l6 l8 (jR q34 400 t) q34)
noncomputable def fsh_section_251 (t : Nat) (a1 : Int32) (l2 : Int32) (l3 : Int32) (l4 : Int64) (l6 : Int64) (l8 : Int64) (s0 : Nat) (W : jW) : Option ((Nat × jW) ⊕ jW) :=
  fsh_section_256 t a1 l2 l3 l4 l6 l8 (kI 1) s0 W
noncomputable def fsh_section_227 (t : Nat) (a1 : Int32) (l2 : Int32) (l3 : Int32) (l4 : Int64) (l6 : Int64) (l8 : Int64) (s0 : Int32) (s1 : Nat) (W : jW) : Option ((Nat × jW) ⊕ jW) :=
  gd (jC W s1 = 3) <|
  (ftr_must s1 s0 (kI 3) (l2 + (kI 32)) W).bind <| Sum.elim (fun z => some (.inl z)) fun q29 =>
  gd (jC q29 t = 4) <|
  if l3 = (kI 3) then
    (if (kJ 0) < l8 then
    (fsh_section_251 t a1 l2 l3 l4 l6 l8 (jR q29 400 t) q29)
  else
    (fsh_section_256 t a1 l2 l3 l4 l6 l8 (kI 0) (jR q29 400 t) q29))
  else
    (fsh_section_251 t a1 l2 l3 l4 l6 l8 (jR q29 400 t) q29)
noncomputable def fsh_section_226 (t : Nat) (a1 : Int32) (l2 : Int32) (l3 : Int32) (l4 : Int64) (l6 : Int64) (l8 : Int64) (s0 : Nat) (W : jW) : Option ((Nat × jW) ⊕ jW) :=
  fsh_section_227 t a1 l2 l3 l4 l6 l8 (kI 0) s0 W
noncomputable def fsh_section_168 (t : Nat) (a1 : Int32) (l2 : Int32) (l3 : Int32) (l4 : Int64) (l6 : Int64) (s0 : Int32) (s1 : Nat) (W : jW) : Option ((Nat × jW) ⊕ jW) :=
  gd (jC W s1 = 3) <|
  (ftr_must s1 s0 (kI 3) (l2 + (kI 24)) W).bind <| Sum.elim (fun z => some (.inl z)) fun q22 =>
  gd (jC q22 t = 4) <|
  gd (jC q22 (jR q22 401 t) = 5 ∨ jC q22 (jR q22 401 t) = 9) <|
  (fsr_pair (jR q22 401 t) (l2 + (kI 32)) q22).bind fun q26 =>
  if (fcl_isAbove l6 ((jI q22 405 t).toInt64)) = (0 : Int32) then
    (if (fcl_isAbove q26 (((jI q22 405 t).toInt64) - l6)) = (0 : Int32) then
    (fsh_section_227 t a1 l2 l3 l4 l6 q26 (kI 1) (jR q22 400 t) q22)
  else
    (fsh_section_226 t a1 l2 l3 l4 l6 q26 (jR q22 400 t) q22))
  else
    (fsh_section_226 t a1 l2 l3 l4 l6 q26 (jR q22 400 t) q22)
noncomputable def fsh_section_119 (t : Nat) (a1 : Int32) (l2 : Int32) (l3 : Int32) (l4 : Int64) (s0 : Int32) (s1 : Nat) (W : jW) : Option ((Nat × jW) ⊕ jW) :=
  gd (jC W s1 = 3) <|
  (ftr_must s1 s0 (kI 3) (l2 + (kI 8)) W).bind <| Sum.elim (fun z => some (.inl z)) fun q15 =>
  gd (jC q15 t = 4) <|
  gd (jC q15 (jR q15 401 t) = 5 ∨ jC q15 (jR q15 401 t) = 9) <|
  (fsr_pair (jR q15 401 t) (l2 + (kI 24)) q15).bind fun q19 =>
  if (fcl_isAbove (((kI 64) + ((kI 56) * (jI q15 402 t))).toInt64) q19) = (0 : Int32) then
    (fsh_section_168 t a1 l2 l3 l4 q19 (kI 1) (jR q15 400 t) q15)
  else
    (fsh_section_168 t a1 l2 l3 l4 q19 (kI 0) (jR q15 400 t) q15)
noncomputable def fsh_section_99 (t : Nat) (a1 : Int32) (l2 : Int32) (l3 : Int32) (l4 : Int64) (s0 : Nat) (W : jW) : Option ((Nat × jW) ⊕ jW) :=
  fsh_section_119 t a1 l2 l3 l4 (kI 1) s0 W
noncomputable def fsh_section_36 (t : Nat) (a1 : Int32) (l2 : Int32) (l3 : Int32) (s0 : Int32) (s1 : Nat) (W : jW) : Option ((Nat × jW) ⊕ jW) :=
  gd (jC W s1 = 3) <|
  (ftr_must s1 s0 (kI 3) (l2 + (kI 4)) W).bind <| Sum.elim (fun z => some (.inl z)) fun q7 =>
  gd (jC q7 t = 4) <|
  gd (jC q7 (jR q7 401 t) = 5 ∨ jC q7 (jR q7 401 t) = 9) <|
  (fsr_pair (jR q7 401 t) (l2 + (kI 8)) q7).bind fun q11 =>
  if l3 = (kI 1) then
    (if q11 = (kJ 6) then
    (fsh_section_99 t a1 l2 l3 q11 (jR q7 400 t) q7)
  else
    (if q11 = (kJ 0) then
    (fsh_section_99 t a1 l2 l3 q11 (jR q7 400 t) q7)
  else
    (if q11 = (kJ 2) then
    (fsh_section_99 t a1 l2 l3 q11 (jR q7 400 t) q7)
  else
    (if q11 = (kJ 3) then
    (fsh_section_99 t a1 l2 l3 q11 (jR q7 400 t) q7)
  else
    (fsh_section_119 t a1 l2 l3 q11 (kI 0) (jR q7 400 t) q7)))))
  else
    (if q11 = (kJ 0) then
      (fsh_section_119 t a1 l2 l3 q11 (kI 1) (jR q7 400 t) q7)
    else
      (fsh_section_119 t a1 l2 l3 q11 (kI 0) (jR q7 400 t) q7))
noncomputable def fsh_section_35 (t : Nat) (a1 : Int32) (l2 : Int32) (l3 : Int32) (s0 : Nat) (W : jW) : Option ((Nat × jW) ⊕ jW) :=
  fsh_section_36 t a1 l2 l3 (kI 0) s0 W
noncomputable def fsh_section (t : Nat) (a1 : Int32) (W : jW) : Option ((Nat × jW) ⊕ jW) :=
  gd (jC W t = 4) <|
  (fsh_headOf t a1 W).bind fun q2 =>
  gd (jC W (jR W 401 t) = 5 ∨ jC W (jR W 401 t) = 9) <|
  (fsr_word (jR W 401 t) (q2 + (kI 4)) W).bind fun q4 =>
  if q4 < (kI 1) then
    (fsh_section_35 t a1 q2 q4 (jR W 400 t) W)
  else
    (if (kI 4) < q4 then
    (fsh_section_35 t a1 q2 q4 (jR W 400 t) W)
  else
    (fsh_section_36 t a1 q2 q4 (kI 1) (jR W 400 t) W))
noncomputable def fsh_isCode_25 (t : Nat) (a1 : Int32) (W : jW) : Option (Int32) :=
  some (kI 0)
noncomputable def fsh_isCode (t : Nat) (a1 : Int32) (W : jW) : Option (Int32) :=
  gd (jC W t = 4) <|
  gd (jin a1 (jN W 411 t)) <|
  if (jA W 411 t (ix a1)) = (kI 1) then
    (gd (jin a1 (jN W 412 t)) <| if (jA W 412 t (ix a1)) = (kI 6) then
    (some (kI 1))
  else
    (fsh_isCode_25 t a1 W))
  else
    (fsh_isCode_25 t a1 W)
noncomputable def fsh_isData_30 (t : Nat) (a1 : Int32) (W : jW) : Option (Int32) :=
  some (kI 1)
noncomputable def fsh_isData_34 (t : Nat) (a1 : Int32) (W : jW) : Option (Int32) :=
  some (kI 0)
noncomputable def fsh_isData (t : Nat) (a1 : Int32) (W : jW) : Option (Int32) :=
  gd (jC W t = 4) <|
  gd (jin a1 (jN W 411 t)) <|
  if (jA W 411 t (ix a1)) = (kI 1) then
    (gd (jin a1 (jN W 412 t)) <|
  if (jA W 412 t (ix a1)) = (kI 2) then
    (fsh_isData_30 t a1 W)
  else
    (gd (jin a1 (jN W 412 t)) <| if (jA W 412 t (ix a1)) = (kI 3) then
    (fsh_isData_30 t a1 W)
  else
    (fsh_isData_34 t a1 W)))
  else
    (fsh_isData_34 t a1 W)
abbrev fsh_isHeld_S : Type := (Int32)
noncomputable def fsh_isHeld_115 (t : Nat) (a1 : Int32) (W : jW) : Option (fsh_isHeld_S ⊕ (Int32)) :=
  some (.inr (kI 1))
noncomputable def fsh_isHeld_117 (t : Nat) (a1 : Int32) (l2 : Int32) (W : jW) : Option (fsh_isHeld_S ⊕ (Int32)) :=
  jlt (l2 + (kI 1)) fun v18 => some (.inl v18)
noncomputable def fsh_isHeld_67 (t : Nat) (a1 : Int32) (l2 : Int32) (l3 : Int64) (s0 : Int32) (W : jW) : Option (fsh_isHeld_S ⊕ (Int32)) :=
  if s0 = (0 : Int32) then
    (fsh_isHeld_117 t a1 l2 W)
  else
    (gd (jC W t = 4) <|
  gd (jin a1 (jN W 414 t)) <|
  gd (jin l2 (jN W 409 t)) <|
  if (jA W 414 t (ix a1)).toInt64 = (((jA W 409 t (ix l2)).toInt64) + l3) then
    (gd (jin a1 (jN W 412 t)) <|
  if (jA W 412 t (ix a1)) = (kI 2) then
    (fsh_isHeld_115 t a1 W)
  else
    (gd (jin l2 (jN W 407 t)) <| if (jA W 407 t (ix l2)) = (kI 6) then
    (fsh_isHeld_115 t a1 W)
  else
    (fsh_isHeld_117 t a1 l2 W)))
  else
    (fsh_isHeld_117 t a1 l2 W))
noncomputable def fsh_isHeld_66 (t : Nat) (a1 : Int32) (l2 : Int32) (l3 : Int64) (W : jW) : Option (fsh_isHeld_S ⊕ (Int32)) :=
  fsh_isHeld_67 t a1 l2 l3 (kI 0) W
noncomputable def fsh_isHeld_2 (t : Nat) (a1 : Int32) (l2 : Int32) (W : jW) : Option (fsh_isHeld_S ⊕ (Int32)) :=
  gd (jC W t = 4) <|
  (fsh_last t W).bind fun q3 =>
  if l2 < q3 then
    (gd (jin a1 (jN W 413 t)) <|
  gd (jin l2 (jN W 408 t)) <|
  jlt ((jB W 413 t (ix a1)) - (jB W 408 t (ix l2))) fun v6 =>
  if v6 < (kJ 0) then
    (fsh_isHeld_66 t a1 l2 v6 W)
  else
    (gd (jin l2 (jN W 410 t)) <|
  if (jA W 410 t (ix l2)).toInt64 < v6 then
    (fsh_isHeld_66 t a1 l2 v6 W)
  else
    (gd (jin a1 (jN W 415 t)) <|
  gd (jin l2 (jN W 410 t)) <|
  if (jA W 410 t (ix l2)).toInt64 < (v6 + ((jA W 415 t (ix a1)).toInt64)) then
    (fsh_isHeld_66 t a1 l2 v6 W)
  else
    (fsh_isHeld_67 t a1 l2 v6 (kI 1) W))))
  else
    (some (.inr (kI 0)))
noncomputable def fsh_isHeld_st (t : Nat) (a1 : Int32) (W : jW) : fsh_isHeld_S → Option (fsh_isHeld_S ⊕ (Int32)) :=
  (fun s => fsh_isHeld_2 t a1 s W)
noncomputable def fsh_isHeld_0 (t : Nat) (a1 : Int32) (W : jW) : Option (fsh_isHeld_S ⊕ (Int32)) :=
  some (.inl (kI 0))
noncomputable def fsh_isHeld (t : Nat) (a1 : Int32) (W : jW) : Option (Int32) :=
  jrn (fsh_isHeld_st t a1 W) (fsh_isHeld_0 t a1 W)
noncomputable def fsh_areApart_62 (t : Nat) (a1 : Int32) (a2 : Int32) (W : jW) : Option (Int32) :=
  some (kI 1)
noncomputable def fsh_areApart (t : Nat) (a1 : Int32) (a2 : Int32) (W : jW) : Option (Int32) :=
  gd (jC W t = 4) <|
  gd (jin a1 (jN W 415 t)) <|
  if (jA W 415 t (ix a1)) = (0 : Int32) then
    (fsh_areApart_62 t a1 a2 W)
  else
    (gd (jin a2 (jN W 415 t)) <|
  if (jA W 415 t (ix a2)) = (0 : Int32) then
    (fsh_areApart_62 t a1 a2 W)
  else
    (gd (jin a1 (jN W 414 t)) <|
  gd (jin a1 (jN W 415 t)) <|
  gd (jin a2 (jN W 414 t)) <|
  if (jA W 414 t (ix a2)) < ((jA W 414 t (ix a1)) + (jA W 415 t (ix a1))) then
    (gd (jin a2 (jN W 414 t)) <|
  gd (jin a2 (jN W 415 t)) <|
  gd (jin a1 (jN W 414 t)) <|
  if (jA W 414 t (ix a1)) < ((jA W 414 t (ix a2)) + (jA W 415 t (ix a2))) then
    (some (kI 0))
  else
    (fsh_areApart_62 t a1 a2 W))
  else
    (fsh_areApart_62 t a1 a2 W)))
noncomputable def fsh_isOf_26 (t : Nat) (a1 : Int32) (a2 : Int32) (W : jW) : Option (Int32) :=
  some (kI 0)
noncomputable def fsh_isOf (t : Nat) (a1 : Int32) (a2 : Int32) (W : jW) : Option (Int32) :=
  if a1 < (0 : Int32) then
    (fsh_isOf_26 t a1 a2 W)
  else
    (gd (jC W t = 4) <|
  if a1 < (jI W 403 t) then
    (gd (jin a1 (jN W 411 t)) <| if (jA W 411 t (ix a1)) = a2 then
    (some (kI 1))
  else
    (fsh_isOf_26 t a1 a2 W))
  else
    (fsh_isOf_26 t a1 a2 W))
abbrev fsh_isFixed_S : Type := (Int32)
noncomputable def fsh_isFixed_49 (t : Nat) (a1 : Int32) (W : jW) : Option (fsh_isFixed_S ⊕ (Int32)) :=
  some (.inr (kI 0))
noncomputable def fsh_isFixed_85 (t : Nat) (a1 : Int32) (l2 : Int32) (W : jW) : Option (fsh_isFixed_S ⊕ (Int32)) :=
  jlt (l2 + (kI 1)) fun v15 => some (.inl v15)
noncomputable def fsh_isFixed_53 (t : Nat) (a1 : Int32) (l2 : Int32) (W : jW) : Option (fsh_isFixed_S ⊕ (Int32)) :=
  if l2 < a1 then
    (gd (jC W t = 4) <|
  gd (jin l2 (jN W 411 t)) <|
  if (jA W 411 t (ix l2)) = (kI 4) then
    (gd (jin l2 (jN W 417 t)) <|
  gd (jin a1 (jN W 417 t)) <|
  if (jA W 417 t (ix l2)) = (jA W 417 t (ix a1)) then
    (some (.inr (kI 0)))
  else
    (fsh_isFixed_85 t a1 l2 W))
  else
    (fsh_isFixed_85 t a1 l2 W))
  else
    (some (.inr (kI 1)))
noncomputable def fsh_isFixed_51 (t : Nat) (a1 : Int32) (W : jW) : Option (fsh_isFixed_S ⊕ (Int32)) :=
  some (.inl (kI 1))
noncomputable def fsh_isFixed_st (t : Nat) (a1 : Int32) (W : jW) : fsh_isFixed_S → Option (fsh_isFixed_S ⊕ (Int32)) :=
  (fun s => fsh_isFixed_53 t a1 s W)
noncomputable def fsh_isFixed_0 (t : Nat) (a1 : Int32) (W : jW) : Option (fsh_isFixed_S ⊕ (Int32)) :=
  gd (jC W t = 4) <|
  gd (jin a1 (jN W 417 t)) <|
  if (jA W 417 t (ix a1)) < (kI 1) then
    (fsh_isFixed_49 t a1 W)
  else
    (gd (jin a1 (jN W 417 t)) <|
  if (jA W 417 t (ix a1)) < (jI W 403 t) then
    (gd (jin a1 (jN W 417 t)) <|
  (fsh_isCode t (jA W 417 t (ix a1)) W).bind fun q5 =>
  if q5 = (0 : Int32) then
    (gd (jin a1 (jN W 417 t)) <|
  (fsh_isData t (jA W 417 t (ix a1)) W).bind fun q7 =>
  if q7 = (0 : Int32) then
    (fsh_isFixed_49 t a1 W)
  else
    (fsh_isFixed_51 t a1 W))
  else
    (fsh_isFixed_51 t a1 W))
  else
    (fsh_isFixed_49 t a1 W))
noncomputable def fsh_isFixed (t : Nat) (a1 : Int32) (W : jW) : Option (Int32) :=
  jrn (fsh_isFixed_st t a1 W) (fsh_isFixed_0 t a1 W)
noncomputable def fcl_isIn_21 (a0 : Int64) (a2 : Int64) (a4 : Int64) : Int32 :=
  (kI 0)
noncomputable def fcl_isIn (a0 : Int64) (a2 : Int64) (a4 : Int64) : Int32 :=
  if (fcl_isAbove a2 a0) = (0 : Int32) then
    (if (fcl_isAbove a4 a0) = (0 : Int32) then
    (fcl_isIn_21 a0 a2 a4)
  else
    ((kI 1)))
  else
    (fcl_isIn_21 a0 a2 a4)
abbrev fsh_sections_S : Type := (Int32 × jW) ⊕ (Int32 × jW) ⊕ (Int32 × Int32 × Int32 × jW) ⊕ (Int32 × jW) ⊕ (Int32 × jW) ⊕ (Int32 × jW) ⊕ (Int32 × Int32 × jW) ⊕ (Int32 × jW) ⊕ (Int32 × jW) ⊕ (Int32 × jW)
noncomputable def fsh_sections_35 (t : Nat) (l1 : Int32) (s0 : Int32) (s1 : Nat) (W : jW) : Option (fsh_sections_S ⊕ ((Nat × jW) ⊕ jW)) :=
  gd (jC W t = 4) <|
  gd (jC W s1 = 3) <|
  (ftr_must s1 s0 (kI 3) (jI W 405 t) W).bind <| Sum.elim (fun z => some (.inr (.inl z))) fun q19 =>
  jlt (l1 + (kI 8)) fun v21 =>
  some (.inl (.inl (v21, q19)))
noncomputable def fsh_sections_142 (t : Nat) (l1 : Int32) (l2 : Int32) (l3 : Int32) (W : jW) : Option (fsh_sections_S ⊕ ((Nat × jW) ⊕ jW)) :=
  jlt (l3 + (kI 1)) fun v52 => some (.inl (.inr (.inr (.inl (l1, l2, v52, W)))))
noncomputable def fsh_sections_124 (t : Nat) (l1 : Int32) (l2 : Int32) (l3 : Int32) (W : jW) : Option (fsh_sections_S ⊕ ((Nat × jW) ⊕ jW)) :=
  gd (jC W t = 4) <|
  gd (jin l3 (jN W 411 t)) <|
  if (jA W 411 t (ix l3)) = (kI 2) then
    (jlt (sI W 419 t l3) fun W46 => jlt (l2 + (kI 1)) fun v50 => fsh_sections_142 t l1 v50 l3 W46)
  else
    (fsh_sections_142 t l1 l2 l3 W)
noncomputable def fsh_sections_378 (t : Nat) (l4 : Int32) (s0 : Int32) (s1 : Nat) (W : jW) : Option (fsh_sections_S ⊕ ((Nat × jW) ⊕ jW)) :=
  gd (jC W t = 4) <|
  (fsh_headOf t l4 W).bind fun q96 =>
  gd (jC W s1 = 3) <|
  (ftr_must s1 s0 (kI 3) (q96 + (kI 16)) W).bind <| Sum.elim (fun z => some (.inr (.inl z))) fun q98 =>
  jlt (l4 + (kI 1)) fun v100 =>
  some (.inl (.inr (.inr (.inr (.inl (v100, q98))))))
noncomputable def fsh_sections_373 (t : Nat) (l4 : Int32) (s0 : Nat) (W : jW) : Option (fsh_sections_S ⊕ ((Nat × jW) ⊕ jW)) :=
  fsh_sections_378 t l4 (kI 1) s0 W
noncomputable def fsh_sections_460 (t : Nat) (l4 : Int32) (s0 : Int32) (s1 : Nat) (W : jW) : Option (fsh_sections_S ⊕ ((Nat × jW) ⊕ jW)) :=
  gd (jC W t = 4) <|
  (fsh_headOf t l4 W).bind fun q112 =>
  gd (jC W s1 = 3) <|
  (ftr_must s1 s0 (kI 3) (q112 + (kI 24)) W).bind <| Sum.elim (fun z => some (.inr (.inl z))) fun q114 =>
  jlt (l4 + (kI 1)) fun v116 =>
  some (.inl (.inr (.inr (.inr (.inr (.inl (v116, q114)))))))
noncomputable def fsh_sections_455 (t : Nat) (l4 : Int32) (s0 : Nat) (W : jW) : Option (fsh_sections_S ⊕ ((Nat × jW) ⊕ jW)) :=
  fsh_sections_460 t l4 (kI 1) s0 W
noncomputable def fsh_sections_494 (t : Nat) (l4 : Int32) (l5 : Int32) (W : jW) : Option (fsh_sections_S ⊕ ((Nat × jW) ⊕ jW)) :=
  if l5 < l4 then
    (gd (jC W t = 4) <|
  (fsh_areApart t l5 l4 W).bind fun q123 =>
  (fsh_headOf t l4 W).bind fun q124 =>
  gd (jC W (jR W 400 t) = 3) <|
  (ftr_must (jR W 400 t) q123 (kI 3) (q124 + (kI 24)) W).bind <| Sum.elim (fun z => some (.inr (.inl z))) fun q126 =>
  jlt (l5 + (kI 1)) fun v128 =>
  some (.inl (.inr (.inr (.inr (.inr (.inr (.inr (.inl (l4, v128, q126))))))))))
  else
    (jlt (l4 + (kI 1)) fun v121 => some (.inl (.inr (.inr (.inr (.inr (.inr (.inl (v121, W)))))))))
noncomputable def fsh_sections_606 (t : Nat) (l4 : Int32) (s0 : Int32) (W : jW) : Option (fsh_sections_S ⊕ ((Nat × jW) ⊕ jW)) :=
  gd (jC W t = 4) <|
  (fsh_headOf t l4 W).bind fun q138 =>
  gd (jC W (jR W 400 t) = 3) <|
  (ftr_must (jR W 400 t) s0 (kI 3) (q138 + (kI 40)) W).bind <| Sum.elim (fun z => some (.inr (.inl z))) fun q140 =>
  jlt (l4 + (kI 1)) fun v142 =>
  some (.inl (.inr (.inr (.inr (.inr (.inr (.inr (.inr (.inl (v142, q140))))))))))
noncomputable def fsh_sections_601 (t : Nat) (l4 : Int32) (W : jW) : Option (fsh_sections_S ⊕ ((Nat × jW) ⊕ jW)) :=
  fsh_sections_606 t l4 (kI 1) W
noncomputable def fsh_sections_674 (t : Nat) (l4 : Int32) (s0 : Int32) (s1 : Nat) (W : jW) : Option (fsh_sections_S ⊕ ((Nat × jW) ⊕ jW)) :=
  gd (jC W t = 4) <|
  (fsh_headOf t l4 W).bind fun q151 =>
  gd (jC W s1 = 3) <|
  (ftr_must s1 s0 (kI 3) (q151 + (kI 44)) W).bind <| Sum.elim (fun z => some (.inr (.inl z))) fun q153 =>
  jlt (l4 + (kI 1)) fun v155 =>
  some (.inl (.inr (.inr (.inr (.inr (.inr (.inr (.inr (.inr (.inl (v155, q153)))))))))))
noncomputable def fsh_sections_669 (t : Nat) (l4 : Int32) (s0 : Nat) (W : jW) : Option (fsh_sections_S ⊕ ((Nat × jW) ⊕ jW)) :=
  fsh_sections_674 t l4 (kI 1) s0 W
noncomputable def fsh_sections_724 (t : Nat) (l4 : Int32) (W : jW) : Option (fsh_sections_S ⊕ ((Nat × jW) ⊕ jW)) :=
  gd (jC W t = 4) <|
  if l4 < (jI W 403 t) then
    ((fsh_headOf t l4 W).bind fun q163 =>
  gd (jC W (jR W 401 t) = 5 ∨ jC W (jR W 401 t) = 9) <|
  (fsr_word (jR W 401 t) q163 W).bind fun q165 =>
  gd (jin (jI W 406 t) (jN W 415 t)) <|
  (fsh_headOf t l4 W).bind fun q167 =>
  gd (jC W (jR W 400 t) = 3) <|
  (ftr_must (jR W 400 t) (fcl_isIn (q165.toInt64 &&& (kJ 4294967295)) (kJ 0) ((jA W 415 t (ix (jI W 406 t))).toInt64)) (kI 3) q167 W).bind <| Sum.elim (fun z => some (.inr (.inl z))) fun q169 =>
  jlt (l4 + (kI 1)) fun v171 =>
  some (.inl (.inr (.inr (.inr (.inr (.inr (.inr (.inr (.inr (.inr (v171, q169))))))))))))
  else
    (some (.inr (.inr W)))
noncomputable def fsh_sections_715 (t : Nat) (s0 : Int32) (s1 : Nat) (W : jW) : Option (fsh_sections_S ⊕ ((Nat × jW) ⊕ jW)) :=
  gd (jC W s1 = 3) <|
  (ftr_must s1 s0 (kI 3) (kI 62) W).bind <| Sum.elim (fun z => some (.inr (.inl z))) fun q159 =>
  some (.inl (.inr (.inr (.inr (.inr (.inr (.inr (.inr (.inr (.inr ((kI 0), q159)))))))))))
noncomputable def fsh_sections_636 (t : Nat) (l4 : Int32) (W : jW) : Option (fsh_sections_S ⊕ ((Nat × jW) ⊕ jW)) :=
  gd (jC W t = 4) <|
  if l4 < (jI W 403 t) then
    (gd (jin l4 (jN W 411 t)) <|
  if (jA W 411 t (ix l4)) = (kI 4) then
    ((fsh_isFixed t l4 W).bind fun q148 =>
  if q148 = (0 : Int32) then
    (fsh_sections_674 t l4 (kI 0) (jR W 400 t) W)
  else
    (fsh_sections_669 t l4 (jR W 400 t) W))
  else
    (fsh_sections_669 t l4 (jR W 400 t) W))
  else
    (gd (jin (jI W 406 t) (jN W 411 t)) <|
    if (jA W 411 t (ix (jI W 406 t))) = (kI 3) then
      (fsh_sections_715 t (kI 1) (jR W 400 t) W)
    else
      (fsh_sections_715 t (kI 0) (jR W 400 t) W))
noncomputable def fsh_sections_541 (t : Nat) (l4 : Int32) (W : jW) : Option (fsh_sections_S ⊕ ((Nat × jW) ⊕ jW)) :=
  gd (jC W t = 4) <|
  if l4 < (jI W 403 t) then
    (gd (jin l4 (jN W 411 t)) <|
  if (jA W 411 t (ix l4)) = (kI 2) then
    (gd (jin l4 (jN W 416 t)) <| (fsh_isOf t (jA W 416 t (ix l4)) (kI 3) W).bind fun q135 => fsh_sections_606 t l4 q135 W)
  else
    (gd (jin l4 (jN W 411 t)) <|
    if (jA W 411 t (ix l4)) = (kI 4) then
      (gd (jin l4 (jN W 416 t)) <|
    if (jA W 416 t (ix l4)) = (jI W 419 t) then
      (fsh_sections_601 t l4 W)
    else
      (fsh_sections_606 t l4 (kI 0) W))
    else
      (fsh_sections_601 t l4 W)))
  else
    (some (.inl (.inr (.inr (.inr (.inr (.inr (.inr (.inr (.inr (.inl ((kI 1), W))))))))))))
noncomputable def fsh_sections_482 (t : Nat) (l4 : Int32) (W : jW) : Option (fsh_sections_S ⊕ ((Nat × jW) ⊕ jW)) :=
  gd (jC W t = 4) <|
  if l4 < (jI W 403 t) then
    (some (.inl (.inr (.inr (.inr (.inr (.inr (.inr (.inl (l4, (kI 1), W))))))))))
  else
    (some (.inl (.inr (.inr (.inr (.inr (.inr (.inr (.inr (.inl ((kI 1), W)))))))))))
noncomputable def fsh_sections_400 (t : Nat) (l4 : Int32) (W : jW) : Option (fsh_sections_S ⊕ ((Nat × jW) ⊕ jW)) :=
  gd (jC W t = 4) <|
  if l4 < (jI W 403 t) then
    ((fsh_isCode t l4 W).bind fun q104 =>
  if q104 = (0 : Int32) then
    ((fsh_isData t l4 W).bind fun q105 =>
  if q105 = (0 : Int32) then
    (gd (jin l4 (jN W 414 t)) <|
  (fsh_textOffset t W).bind fun q107 =>
  (fsh_last t W).bind fun q108 =>
  gd (jin q108 (jN W 410 t)) <|
  if (jA W 414 t (ix l4)) < (q107 + (jA W 410 t (ix q108))) then
    (fsh_sections_460 t l4 (kI 0) (jR W 400 t) W)
  else
    (fsh_sections_455 t l4 (jR W 400 t) W))
  else
    (fsh_sections_455 t l4 (jR W 400 t) W))
  else
    (fsh_sections_455 t l4 (jR W 400 t) W))
  else
    (some (.inl (.inr (.inr (.inr (.inr (.inr (.inl ((kI 1), W)))))))))
noncomputable def fsh_sections_342 (t : Nat) (l4 : Int32) (W : jW) : Option (fsh_sections_S ⊕ ((Nat × jW) ⊕ jW)) :=
  gd (jC W t = 4) <|
  if l4 < (jI W 403 t) then
    ((fsh_isData t l4 W).bind fun q92 =>
  if q92 = (0 : Int32) then
    (fsh_sections_373 t l4 (jR W 400 t) W)
  else
    ((fsh_isHeld t l4 W).bind fun q93 =>
  if q93 = (0 : Int32) then
    (fsh_sections_378 t l4 (kI 0) (jR W 400 t) W)
  else
    (fsh_sections_373 t l4 (jR W 400 t) W)))
  else
    (some (.inl (.inr (.inr (.inr (.inr (.inl ((kI 1), W))))))))
noncomputable def fsh_sections_331 (t : Nat) (l3 : Int32) (s0 : Int32) (s1 : Nat) (W : jW) : Option (fsh_sections_S ⊕ ((Nat × jW) ⊕ jW)) :=
  gd (jC W s1 = 3) <|
  (ftr_must s1 s0 (kI 3) (l3 + (kI 32)) W).bind <| Sum.elim (fun z => some (.inr (.inl z))) fun q88 =>
  some (.inl (.inr (.inr (.inr (.inl ((kI 1), q88))))))
noncomputable def fsh_sections_330 (t : Nat) (l3 : Int32) (s0 : Nat) (W : jW) : Option (fsh_sections_S ⊕ ((Nat × jW) ⊕ jW)) :=
  fsh_sections_331 t l3 (kI 0) s0 W
noncomputable def fsh_sections_279 (t : Nat) (l3 : Int32) (s0 : Int32) (s1 : Nat) (W : jW) : Option (fsh_sections_S ⊕ ((Nat × jW) ⊕ jW)) :=
  gd (jC W s1 = 3) <|
  (ftr_must s1 s0 (kI 3) (l3 + (kI 24)) W).bind <| Sum.elim (fun z => some (.inr (.inl z))) fun q78 =>
  gd (jC q78 t = 4) <|
  gd (jin (jI q78 418 t) (jN q78 415 t)) <|
  (fsh_last t q78).bind fun q82 =>
  gd (jin q82 (jN q78 410 t)) <|
  if (jA q78 415 t (ix (jI q78 418 t))) = (jA q78 410 t (ix q82)) then
    ((fsh_last t q78).bind fun q84 =>
  gd (jin q84 (jN q78 410 t)) <|
  if (irm (jA q78 410 t (ix q84)) (kI 4)) = (0 : Int32) then
    (fsh_sections_331 t l3 (kI 1) (jR q78 400 t) q78)
  else
    (fsh_sections_330 t l3 (jR q78 400 t) q78))
  else
    (fsh_sections_330 t l3 (jR q78 400 t) q78)
noncomputable def fsh_sections_246 (t : Nat) (l3 : Int32) (s0 : Int32) (s1 : Nat) (W : jW) : Option (fsh_sections_S ⊕ ((Nat × jW) ⊕ jW)) :=
  gd (jC W s1 = 3) <|
  (ftr_must s1 s0 (kI 3) (l3 + (kI 16)) W).bind <| Sum.elim (fun z => some (.inr (.inl z))) fun q71 =>
  gd (jC q71 t = 4) <|
  gd (jin (jI q71 418 t) (jN q71 414 t)) <|
  (fsh_textOffset t q71).bind fun q75 =>
  if (jA q71 414 t (ix (jI q71 418 t))) = q75 then
    (fsh_sections_279 t l3 (kI 1) (jR q71 400 t) q71)
  else
    (fsh_sections_279 t l3 (kI 0) (jR q71 400 t) q71)
noncomputable def fsh_sections_245 (t : Nat) (l3 : Int32) (s0 : Nat) (W : jW) : Option (fsh_sections_S ⊕ ((Nat × jW) ⊕ jW)) :=
  fsh_sections_246 t l3 (kI 0) s0 W
noncomputable def fsh_sections_182 (t : Nat) (s0 : Int32) (s1 : Nat) (W : jW) : Option (fsh_sections_S ⊕ ((Nat × jW) ⊕ jW)) :=
  gd (jC W s1 = 3) <|
  (ftr_must s1 s0 (kI 3) (kI 60) W).bind <| Sum.elim (fun z => some (.inr (.inl z))) fun q60 =>
  gd (jC q60 t = 4) <|
  (fsh_headOf t (jI q60 418 t) q60).bind fun q63 =>
  gd (jin (jI q60 418 t) (jN q60 413 t)) <|
  (fsh_last t q60).bind fun q65 =>
  gd (jin q65 (jN q60 408 t)) <|
  if (jB q60 413 t (ix (jI q60 418 t))) = (jB q60 408 t (ix q65)) then
    ((fsh_last t q60).bind fun q67 =>
  gd (jin q67 (jN q60 408 t)) <|
  if (lrm (jB q60 408 t (ix q67)) (kJ 4)) = (kJ 0) then
    (fsh_sections_246 t q63 (kI 1) (jR q60 400 t) q60)
  else
    (fsh_sections_245 t q63 (jR q60 400 t) q60))
  else
    (fsh_sections_245 t q63 (jR q60 400 t) q60)
noncomputable def fsh_sections_162 (t : Nat) (l2 : Int32) (s0 : Int32) (s1 : Nat) (W : jW) : Option (fsh_sections_S ⊕ ((Nat × jW) ⊕ jW)) :=
  gd (jC W s1 = 3) <|
  (ftr_must s1 s0 (kI 3) (kI 60) W).bind <| Sum.elim (fun z => some (.inr (.inl z))) fun q55 =>
  gd (jC q55 t = 4) <|
  if l2 = (kI 1) then
    (fsh_sections_182 t (kI 1) (jR q55 400 t) q55)
  else
    (fsh_sections_182 t (kI 0) (jR q55 400 t) q55)
noncomputable def fsh_sections_100 (t : Nat) (l1 : Int32) (l2 : Int32) (l3 : Int32) (W : jW) : Option (fsh_sections_S ⊕ ((Nat × jW) ⊕ jW)) :=
  gd (jC W t = 4) <|
  if l3 < (jI W 403 t) then
    ((fsh_isCode t l3 W).bind fun q37 =>
  if q37 = (0 : Int32) then
    (fsh_sections_124 t l1 l2 l3 W)
  else
    (jlt (sI W 418 t l3) fun W38 => jlt (l1 + (kI 1)) fun v42 => fsh_sections_124 t v42 l2 l3 W38))
  else
    (if l1 = (kI 1) then
      (fsh_sections_162 t l2 (kI 1) (jR W 400 t) W)
    else
      (fsh_sections_162 t l2 (kI 0) (jR W 400 t) W))
noncomputable def fsh_sections_65 (t : Nat) (l1 : Int32) (W : jW) : Option (fsh_sections_S ⊕ ((Nat × jW) ⊕ jW)) :=
  gd (jC W t = 4) <|
  if l1 < (jI W 403 t) then
    ((fsh_section t l1 W).bind <| Sum.elim (fun z => some (.inr (.inl z))) fun q32 => jlt (l1 + (kI 1)) fun v34 => some (.inl (.inr (.inl (v34, q32)))))
  else
    (jlt (sI W 418 t (kI 0)) fun W24 => jlt (sI W24 419 t (kI 0)) fun W28 => some (.inl (.inr (.inr (.inl ((kI 0), (kI 0), (kI 1), W28))))))
noncomputable def fsh_sections_2 (t : Nat) (l1 : Int32) (W : jW) : Option (fsh_sections_S ⊕ ((Nat × jW) ⊕ jW)) :=
  if l1 < (kI 64) then
    (gd (jC W t = 4) <|
  gd (jC W (jR W 401 t) = 5 ∨ jC W (jR W 401 t) = 9) <|
  (fsr_pair (jR W 401 t) ((jI W 405 t) + l1) W).bind fun q15 =>
  if q15 = (kJ 0) then
    (fsh_sections_35 t l1 (kI 1) (jR W 400 t) W)
  else
    (fsh_sections_35 t l1 (kI 0) (jR W 400 t) W))
  else
    (gd (jC W t = 4) <|
    gd (jin (kI 0) (jN W 411 t)) <|
    jlt (pA W 411 t (ix (kI 0)) (kI 0)) fun W4 =>
    gd (jin (kI 0) (jN W4 415 t)) <|
    jlt (pA W4 415 t (ix (kI 0)) (kI 0)) fun W9 =>
    some (.inl (.inr (.inl ((kI 1), W9)))))
noncomputable def fsh_sections_st (t : Nat) : fsh_sections_S → Option (fsh_sections_S ⊕ ((Nat × jW) ⊕ jW)) :=
  (Sum.elim (fun s => fsh_sections_2 t s.1 s.2) (Sum.elim (fun s => fsh_sections_65 t s.1 s.2) (Sum.elim (fun s => fsh_sections_100 t s.1 s.2.1 s.2.2.1 s.2.2.2) (Sum.elim (fun s => fsh_sections_342 t s.1 s.2) (Sum.elim (fun s => fsh_sections_400 t s.1 s.2) (Sum.elim (fun s => fsh_sections_482 t s.1 s.2) (Sum.elim (fun s => fsh_sections_494 t s.1 s.2.1 s.2.2) (Sum.elim (fun s => fsh_sections_541 t s.1 s.2) (Sum.elim (fun s => fsh_sections_636 t s.1 s.2) (fun s => fsh_sections_724 t s.1 s.2))))))))))
noncomputable def fsh_sections_0 (t : Nat) (W : jW) : Option (fsh_sections_S ⊕ ((Nat × jW) ⊕ jW)) :=
  some (.inl (.inl ((kI 0), W)))
noncomputable def fsh_sections (t : Nat) (W : jW) : Option ((Nat × jW) ⊕ jW) :=
  jrn (fsh_sections_st t) (fsh_sections_0 t W)
noncomputable def fsh_symbolAt (t : Nat) (a1 : Int32) (W : jW) : Option (Int32) :=
  gd (jC W t = 4) <| gd (jin (jI W 419 t) (jN W 414 t)) <| some ((jA W 414 t (ix (jI W 419 t))) + ((kI 24) * a1))
noncomputable def fsh_symbolCount (t : Nat) (W : jW) : Option (Int32) :=
  gd (jC W t = 4) <| gd (jin (jI W 419 t) (jN W 415 t)) <| some ((jA W 415 t (ix (jI W 419 t))) / (kI 24))
noncomputable def fsh_valueOf (t : Nat) (a1 : Int32) (W : jW) : Option (Int64) :=
  gd (jC W t = 4) <|
  (fsh_symbolAt t a1 W).bind fun q2 =>
  gd (jC W (jR W 401 t) = 5 ∨ jC W (jR W 401 t) = 9) <|
  (fsr_pair (jR W 401 t) (q2 + (kI 8)) W).bind fun q4 =>
  some q4
noncomputable def fsh_end (t : Nat) (W : jW) : Option (Int64) :=
  gd (jC W t = 4) <|
  (fsh_last t W).bind fun q2 =>
  gd (jin q2 (jN W 408 t)) <|
  (fsh_last t W).bind fun q4 =>
  gd (jin q4 (jN W 410 t)) <|
  some ((jB W 408 t (ix q2)) + ((jA W 410 t (ix q4)).toInt64))
noncomputable def fsh_isText (t : Nat) (a1 : Int64) (W : jW) : Option (Int32) :=
  gd (jC W t = 4) <|
  (fsh_last t W).bind fun q2 =>
  gd (jin q2 (jN W 408 t)) <|
  (fsh_end t W).bind fun q4 =>
  gd (i2z (fcl_isIn a1 (jB W 408 t (ix q2)) q4) = (fcl_isIn a1 (jB W 408 t (ix q2)) q4)) <|
  some (fcl_isIn a1 (jB W 408 t (ix q2)) q4)
abbrev fsh_symbols_S : Type := (Int32 × jW) ⊕ (Int32 × jW)
noncomputable def fsh_symbols_36 (t : Nat) (l1 : Int32) (s0 : Int32) (s1 : Nat) (W : jW) : Option (fsh_symbols_S ⊕ ((Nat × jW) ⊕ jW)) :=
  gd (jC W t = 4) <|
  (fsh_symbolAt t (kI 0) W).bind fun q8 =>
  gd (jC W s1 = 3) <|
  (ftr_must s1 s0 (kI 4) q8 W).bind <| Sum.elim (fun z => some (.inr (.inl z))) fun q10 =>
  jlt (l1 + (kI 8)) fun v12 =>
  some (.inl (.inl (v12, q10)))
noncomputable def fsh_symbols_225 (t : Nat) (l1 : Int32) (l2 : Int32) (s0 : Int32) (s1 : Nat) (W : jW) : Option (fsh_symbols_S ⊕ ((Nat × jW) ⊕ jW)) :=
  gd (jC W s1 = 3) <|
  (ftr_must s1 s0 (kI 4) (l2 + (kI 8)) W).bind <| Sum.elim (fun z => some (.inr (.inl z))) fun q41 =>
  jlt (l1 + (kI 1)) fun v43 =>
  some (.inl (.inr (v43, q41)))
noncomputable def fsh_symbols_220 (t : Nat) (l1 : Int32) (l2 : Int32) (s0 : Nat) (W : jW) : Option (fsh_symbols_S ⊕ ((Nat × jW) ⊕ jW)) :=
  fsh_symbols_225 t l1 l2 (kI 1) s0 W
noncomputable def fsh_symbols_224 (t : Nat) (l1 : Int32) (l2 : Int32) (s0 : Nat) (W : jW) : Option (fsh_symbols_S ⊕ ((Nat × jW) ⊕ jW)) :=
  fsh_symbols_225 t l1 l2 (kI 0) s0 W
noncomputable def fsh_symbols_163 (t : Nat) (l1 : Int32) (l2 : Int32) (l3 : Int32) (s0 : Int32) (s1 : Nat) (W : jW) : Option (fsh_symbols_S ⊕ ((Nat × jW) ⊕ jW)) :=
  gd (jC W s1 = 3) <|
  (ftr_must s1 s0 (kI 4) (l2 + (kI 6)) W).bind <| Sum.elim (fun z => some (.inr (.inl z))) fun q32 =>
  gd (jC q32 t = 4) <|
  (fsh_valueOf t l1 q32).bind fun q35 =>
  if l3 = (jI q32 418 t) then
    (if (lrm q35 (kJ 4)) = (kJ 0) then
    ((fsh_isText t q35 q32).bind fun q36 =>
  if q36 = (0 : Int32) then
    ((fsh_end t q32).bind fun q37 =>
  if q35 = q37 then
    (fsh_symbols_220 t l1 l2 (jR q32 400 t) q32)
  else
    (fsh_symbols_224 t l1 l2 (jR q32 400 t) q32))
  else
    (fsh_symbols_220 t l1 l2 (jR q32 400 t) q32))
  else
    (fsh_symbols_224 t l1 l2 (jR q32 400 t) q32))
  else
    (fsh_symbols_220 t l1 l2 (jR q32 400 t) q32)
noncomputable def fsh_symbols_158 (t : Nat) (l1 : Int32) (l2 : Int32) (l3 : Int32) (s0 : Nat) (W : jW) : Option (fsh_symbols_S ⊕ ((Nat × jW) ⊕ jW)) :=
  fsh_symbols_163 t l1 l2 l3 (kI 1) s0 W
noncomputable def fsh_symbols_162 (t : Nat) (l1 : Int32) (l2 : Int32) (l3 : Int32) (s0 : Nat) (W : jW) : Option (fsh_symbols_S ⊕ ((Nat × jW) ⊕ jW)) :=
  fsh_symbols_163 t l1 l2 l3 (kI 0) s0 W
noncomputable def fsh_symbols_53 (t : Nat) (l1 : Int32) (W : jW) : Option (fsh_symbols_S ⊕ ((Nat × jW) ⊕ jW)) :=
  gd (jC W t = 4) <|
  (fsh_symbolCount t W).bind fun q15 =>
  if l1 < q15 then
    ((fsh_symbolAt t l1 W).bind fun q16 =>
  gd (jC W (jR W 401 t) = 5 ∨ jC W (jR W 401 t) = 9) <|
  (fsr_word (jR W 401 t) q16 W).bind fun q18 =>
  gd (jin (jI W 419 t) (jN W 416 t)) <|
  gd (jin (jA W 416 t (ix (jI W 419 t))) (jN W 415 t)) <|
  gd (jC W (jR W 400 t) = 3) <|
  (ftr_must (jR W 400 t) (fcl_isIn (q18.toInt64 &&& (kJ 4294967295)) (kJ 0) ((jA W 415 t (ix (jA W 416 t (ix (jI W 419 t))))).toInt64)) (kI 4) q16 W).bind <| Sum.elim (fun z => some (.inr (.inl z))) fun q22 =>
  gd (jC q22 t = 4) <|
  gd (jC q22 (jR q22 401 t) = 5 ∨ jC q22 (jR q22 401 t) = 9) <|
  (fsr_half (jR q22 401 t) (q16 + (kI 6)) q22).bind fun q26 =>
  if q26 = (0 : Int32) then
    (fsh_symbols_158 t l1 q16 q26 (jR q22 400 t) q22)
  else
    (if q26 = (kI 65521) then
    (fsh_symbols_158 t l1 q16 q26 (jR q22 400 t) q22)
  else
    (if q26 < (jI q22 403 t) then
    ((fsh_isCode t q26 q22).bind fun q27 =>
  if q27 = (0 : Int32) then
    ((fsh_isData t q26 q22).bind fun q28 =>
  if q28 = (0 : Int32) then
    (fsh_symbols_162 t l1 q16 q26 (jR q22 400 t) q22)
  else
    (fsh_symbols_158 t l1 q16 q26 (jR q22 400 t) q22))
  else
    (fsh_symbols_158 t l1 q16 q26 (jR q22 400 t) q22))
  else
    (fsh_symbols_162 t l1 q16 q26 (jR q22 400 t) q22))))
  else
    (some (.inr (.inr W)))
noncomputable def fsh_symbols_2 (t : Nat) (l1 : Int32) (W : jW) : Option (fsh_symbols_S ⊕ ((Nat × jW) ⊕ jW)) :=
  if l1 < (kI 24) then
    (gd (jC W t = 4) <|
  (fsh_symbolAt t (kI 0) W).bind fun q3 =>
  gd (jC W (jR W 401 t) = 5 ∨ jC W (jR W 401 t) = 9) <|
  (fsr_pair (jR W 401 t) (q3 + l1) W).bind fun q5 =>
  if q5 = (kJ 0) then
    (fsh_symbols_36 t l1 (kI 1) (jR W 400 t) W)
  else
    (fsh_symbols_36 t l1 (kI 0) (jR W 400 t) W))
  else
    (some (.inl (.inr ((kI 1), W))))
noncomputable def fsh_symbols_st (t : Nat) : fsh_symbols_S → Option (fsh_symbols_S ⊕ ((Nat × jW) ⊕ jW)) :=
  (Sum.elim (fun s => fsh_symbols_2 t s.1 s.2) (fun s => fsh_symbols_53 t s.1 s.2))
noncomputable def fsh_symbols_0 (t : Nat) (W : jW) : Option (fsh_symbols_S ⊕ ((Nat × jW) ⊕ jW)) :=
  some (.inl (.inl ((kI 0), W)))
noncomputable def fsh_symbols (t : Nat) (W : jW) : Option ((Nat × jW) ⊕ jW) :=
  jrn (fsh_symbols_st t) (fsh_symbols_0 t W)
noncomputable def fsh_fixCount (t : Nat) (a1 : Int32) (W : jW) : Option (Int32) :=
  gd (jC W t = 4) <| gd (jin a1 (jN W 415 t)) <| some ((jA W 415 t (ix a1)) / (kI 24))
noncomputable def fsh_fixAt (t : Nat) (a1 : Int32) (a2 : Int32) (W : jW) : Option (Int32) :=
  gd (jC W t = 4) <| gd (jin a1 (jN W 414 t)) <| some ((jA W 414 t (ix a1)) + ((kI 24) * a2))
noncomputable def fsh_fixType (t : Nat) (a1 : Int32) (W : jW) : Option (Int32) :=
  gd (jC W t = 4) <| gd (jC W (jR W 401 t) = 5 ∨ jC W (jR W 401 t) = 9) <| (fsr_word (jR W 401 t) (a1 + (kI 8)) W).bind fun q3 => some q3
noncomputable def fsh_isTextFix_49 (a0 : Int32) : Int32 :=
  (kI 1)
noncomputable def fsh_isTextFix (a0 : Int32) : Int32 :=
  if a0 = (kI 275) then
    (fsh_isTextFix_49 a0)
  else
    (if a0 = (kI 277) then
    (fsh_isTextFix_49 a0)
  else
    (if a0 = (kI 278) then
    (fsh_isTextFix_49 a0)
  else
    (if a0 = (kI 285) then
    (fsh_isTextFix_49 a0)
  else
    (if a0 = (kI 286) then
    (fsh_isTextFix_49 a0)
  else
    (if a0 = (kI 282) then
    (fsh_isTextFix_49 a0)
  else
    (if a0 = (kI 283) then
    (fsh_isTextFix_49 a0)
  else
    ((kI 0))))))))
noncomputable def fsh_fixPlace (t : Nat) (a1 : Int32) (W : jW) : Option (Int64) :=
  gd (jC W t = 4) <| gd (jC W (jR W 401 t) = 5 ∨ jC W (jR W 401 t) = 9) <| (fsr_pair (jR W 401 t) a1 W).bind fun q3 => some q3
noncomputable def fsh_fixSymbol (t : Nat) (a1 : Int32) (W : jW) : Option (Int32) :=
  gd (jC W t = 4) <| gd (jC W (jR W 401 t) = 5 ∨ jC W (jR W 401 t) = 9) <| (fsr_word (jR W 401 t) (a1 + (kI 12)) W).bind fun q3 => some q3
abbrev fsh_isNew_S : Type := (Int32 × jW)
noncomputable def fsh_isNew_15 (t : Nat) (a1 : Int64) (l3 : Int32) (W : jW) : Option (fsh_isNew_S ⊕ (Int32 × jW)) :=
  gd (jC W t = 4) <|
  gd (jin l3 (jN W 421 t)) <|
  if (jA W 421 t (ix l3)) = (0 : Int32) then
    (gd (jin l3 (jN W 421 t)) <|
    jlt (pA W 421 t (ix l3) (i2z (kI 1))) fun W6 =>
    gd (jin l3 (jN W6 420 t)) <|
    jlt (pB W6 420 t (ix l3) a1) fun W11 =>
    some (.inr ((kI 1), W11)))
  else
    (gd (jin l3 (jN W 420 t)) <|
  if (jB W 420 t (ix l3)) = a1 then
    (some (.inr ((kI 0), W)))
  else
    (jlt ((l3 + (kI 1)) &&& (kI 8191)) fun v16 => some (.inl (v16, W))))
noncomputable def fsh_isNew_st (t : Nat) (a1 : Int64) : fsh_isNew_S → Option (fsh_isNew_S ⊕ (Int32 × jW)) :=
  (fun s => fsh_isNew_15 t a1 s.1 s.2)
noncomputable def fsh_isNew_0 (t : Nat) (a1 : Int64) (W : jW) : Option (fsh_isNew_S ⊕ (Int32 × jW)) :=
  jlt ((((a1 / (kJ 4)) * (kJ 40503)) &&& (kJ 8191)).toInt32) fun v1 => some (.inl (v1, W))
noncomputable def fsh_isNew (t : Nat) (a1 : Int64) (W : jW) : Option (Int32 × jW) :=
  jrn (fsh_isNew_st t a1) (fsh_isNew_0 t a1 W)
abbrev fsh_fixes_S : Type := (Int32 × jW) ⊕ (Int32 × Int32 × Int32 × jW)
noncomputable def fsh_fixes_343 (t : Nat) (a1 : Int32) (l2 : Int32) (l3 : Int32) (l4 : Int32) (W : jW) : Option (fsh_fixes_S ⊕ ((Nat × jW) ⊕ jW)) :=
  jlt (l4 + (kI 1)) fun v46 => some (.inl (.inr (l2, l3, v46, W)))
noncomputable def fsh_fixes_201 (t : Nat) (a1 : Int32) (l2 : Int32) (l3 : Int32) (l4 : Int32) (l5 : Int32) (s0 : Int32) (s1 : Nat) (W : jW) : Option (fsh_fixes_S ⊕ ((Nat × jW) ⊕ jW)) :=
  gd (jC W s1 = 3) <|
  (ftr_must s1 s0 (kI 5) (l5 + (kI 16)) W).bind <| Sum.elim (fun z => some (.inr (.inl z))) fun q43 =>
  fsh_fixes_343 t a1 l2 l3 l4 q43
noncomputable def fsh_fixes_166 (t : Nat) (a1 : Int32) (l2 : Int32) (l3 : Int32) (l4 : Int32) (l5 : Int32) (s0 : Int32) (s1 : Nat) (W : jW) : Option (fsh_fixes_S ⊕ ((Nat × jW) ⊕ jW)) :=
  gd (jC W s1 = 3) <|
  (ftr_must s1 s0 (kI 5) (l5 + (kI 12)) W).bind <| Sum.elim (fun z => some (.inr (.inl z))) fun q36 =>
  gd (jC q36 t = 4) <|
  gd (jC q36 (jR q36 401 t) = 5 ∨ jC q36 (jR q36 401 t) = 9) <|
  (fsr_pair (jR q36 401 t) (l5 + (kI 16)) q36).bind fun q40 =>
  if q40 = (kJ 0) then
    (fsh_fixes_201 t a1 l2 l3 l4 l5 (kI 1) (jR q36 400 t) q36)
  else
    (fsh_fixes_201 t a1 l2 l3 l4 l5 (kI 0) (jR q36 400 t) q36)
noncomputable def fsh_fixes_142 (t : Nat) (a1 : Int32) (l2 : Int32) (l3 : Int32) (l4 : Int32) (l5 : Int32) (s0 : Int32) (s1 : Nat) (W : jW) : Option (fsh_fixes_S ⊕ ((Nat × jW) ⊕ jW)) :=
  gd (jC W s1 = 3) <|
  (ftr_must s1 s0 (kI 5) l5 W).bind <| Sum.elim (fun z => some (.inr (.inl z))) fun q30 =>
  gd (jC q30 t = 4) <|
  (fsh_fixSymbol t l5 q30).bind fun q33 =>
  if q33 = (0 : Int32) then
    (fsh_fixes_166 t a1 l2 l3 l4 l5 (kI 1) (jR q30 400 t) q30)
  else
    (fsh_fixes_166 t a1 l2 l3 l4 l5 (kI 0) (jR q30 400 t) q30)
noncomputable def fsh_fixes_304 (t : Nat) (a1 : Int32) (l2 : Int32) (l3 : Int32) (l4 : Int32) (l5 : Int32) (s0 : Int32) (s1 : Nat) (W : jW) : Option (fsh_fixes_S ⊕ ((Nat × jW) ⊕ jW)) :=
  gd (jC W s1 = 3) <|
  (ftr_must s1 s0 (kI 5) l5 W).bind <| Sum.elim (fun z => some (.inr (.inl z))) fun q56 =>
  gd (jC q56 t = 4) <|
  (fsh_fixSymbol t l5 q56).bind fun q59 =>
  (fsh_symbolCount t q56).bind fun q60 =>
  gd (jC q56 (jR q56 400 t) = 3) <|
  (ftr_must (jR q56 400 t) (fcl_isIn (q59.toInt64 &&& (kJ 4294967295)) (kJ 0) q60.toInt64) (kI 5) (l5 + (kI 12)) q56).bind <| Sum.elim (fun z => some (.inr (.inl z))) fun q62 =>
  fsh_fixes_343 t a1 l2 l3 l4 q62
noncomputable def fsh_fixes_303 (t : Nat) (a1 : Int32) (l2 : Int32) (l3 : Int32) (l4 : Int32) (l5 : Int32) (s0 : Nat) (W : jW) : Option (fsh_fixes_S ⊕ ((Nat × jW) ⊕ jW)) :=
  fsh_fixes_304 t a1 l2 l3 l4 l5 (kI 0) s0 W
noncomputable def fsh_fixes_279 (t : Nat) (a1 : Int32) (l2 : Int32) (l3 : Int32) (l4 : Int32) (l5 : Int32) (l7 : Int64) (s0 : Int32) (W : jW) : Option (fsh_fixes_S ⊕ ((Nat × jW) ⊕ jW)) :=
  gd (jC W t = 4) <|
  if s0 = (0 : Int32) then
    (fsh_fixes_303 t a1 l2 l3 l4 l5 (jR W 400 t) W)
  else
    ((fsh_isNew t l7 W).bind fun q52 =>
  if q52.1 = (0 : Int32) then
    (fsh_fixes_303 t a1 l2 l3 l4 l5 (jR W 400 t) q52.2)
  else
    (fsh_fixes_304 t a1 l2 l3 l4 l5 (kI 1) (jR W 400 t) q52.2))
noncomputable def fsh_fixes_278 (t : Nat) (a1 : Int32) (l2 : Int32) (l3 : Int32) (l4 : Int32) (l5 : Int32) (l7 : Int64) (W : jW) : Option (fsh_fixes_S ⊕ ((Nat × jW) ⊕ jW)) :=
  fsh_fixes_279 t a1 l2 l3 l4 l5 l7 (kI 0) W
noncomputable def fsh_fixes_267 (t : Nat) (a1 : Int32) (l2 : Int32) (l3 : Int32) (l4 : Int32) (l5 : Int32) (l7 : Int64) (s0 : Int32) (s1 : Int64) (W : jW) : Option (fsh_fixes_S ⊕ ((Nat × jW) ⊕ jW)) :=
  gd (¬ s0.toInt64 = (0 : Int64)) <|
  if (lrm s1 s0.toInt64) = (kJ 0) then
    (fsh_fixes_279 t a1 l2 l3 l4 l5 l7 (kI 1) W)
  else
    (fsh_fixes_278 t a1 l2 l3 l4 l5 l7 W)
noncomputable def fsh_fixes_249 (t : Nat) (a1 : Int32) (l2 : Int32) (l3 : Int32) (l4 : Int32) (l5 : Int32) (l7 : Int64) (s0 : Int32) (s1 : Int32) (s2 : Int64) (W : jW) : Option (fsh_fixes_S ⊕ ((Nat × jW) ⊕ jW)) :=
  if (s1 - s0).toInt64 < s2 then
    (fsh_fixes_278 t a1 l2 l3 l4 l5 l7 W)
  else
    (if l3 = (0 : Int32) then
    (fsh_fixes_267 t a1 l2 l3 l4 l5 l7 (kI 8) l7 W)
  else
    (fsh_fixes_267 t a1 l2 l3 l4 l5 l7 (kI 4) l7 W))
noncomputable def fsh_fixes_104 (t : Nat) (a1 : Int32) (l2 : Int32) (l3 : Int32) (l4 : Int32) (l5 : Int32) (l6 : Int32) (s0 : Int32) (s1 : Nat) (W : jW) : Option (fsh_fixes_S ⊕ ((Nat × jW) ⊕ jW)) :=
  gd (jC W s1 = 3) <|
  (ftr_must s1 s0 (kI 5) (l5 + (kI 8)) W).bind <| Sum.elim (fun z => some (.inr (.inl z))) fun q21 =>
  gd (jC q21 t = 4) <|
  (fsh_fixPlace t l5 q21).bind fun q24 =>
  if l6 = (0 : Int32) then
    (if q24 = (kJ 0) then
    (fsh_fixes_142 t a1 l2 l3 l4 l5 (kI 1) (jR q21 400 t) q21)
  else
    (fsh_fixes_142 t a1 l2 l3 l4 l5 (kI 0) (jR q21 400 t) q21))
  else
    (gd (jin l2 (jN q21 413 t)) <|
    jlt (q24 - (jB q21 413 t (ix l2))) fun v26 =>
    if v26 < (kJ 0) then
      (fsh_fixes_278 t a1 l2 l3 l4 l5 q24 q21)
    else
      (gd (jin l2 (jN q21 415 t)) <|
    if l3 = (0 : Int32) then
      (fsh_fixes_249 t a1 l2 l3 l4 l5 q24 (kI 8) (jA q21 415 t (ix l2)) v26 q21)
    else
      (fsh_fixes_249 t a1 l2 l3 l4 l5 q24 (kI 4) (jA q21 415 t (ix l2)) v26 q21)))
noncomputable def fsh_fixes_99 (t : Nat) (a1 : Int32) (l2 : Int32) (l3 : Int32) (l4 : Int32) (l5 : Int32) (l6 : Int32) (s0 : Nat) (W : jW) : Option (fsh_fixes_S ⊕ ((Nat × jW) ⊕ jW)) :=
  fsh_fixes_104 t a1 l2 l3 l4 l5 l6 (kI 1) s0 W
noncomputable def fsh_fixes_103 (t : Nat) (a1 : Int32) (l2 : Int32) (l3 : Int32) (l4 : Int32) (l5 : Int32) (l6 : Int32) (s0 : Nat) (W : jW) : Option (fsh_fixes_S ⊕ ((Nat × jW) ⊕ jW)) :=
  fsh_fixes_104 t a1 l2 l3 l4 l5 l6 (kI 0) s0 W
noncomputable def fsh_fixes_40 (t : Nat) (a1 : Int32) (l2 : Int32) (l3 : Int32) (l4 : Int32) (W : jW) : Option (fsh_fixes_S ⊕ ((Nat × jW) ⊕ jW)) :=
  gd (jC W t = 4) <|
  (fsh_fixCount t a1 W).bind fun q15 =>
  if l4 < q15 then
    ((fsh_fixAt t a1 l4 W).bind fun q16 =>
  (fsh_fixType t q16 W).bind fun q17 =>
  if q17 = (0 : Int32) then
    (fsh_fixes_99 t a1 l2 l3 l4 q16 q17 (jR W 400 t) W)
  else
    (if l3 = (0 : Int32) then
    (if q17 = (kI 257) then
      (fsh_fixes_99 t a1 l2 l3 l4 q16 q17 (jR W 400 t) W)
    else
      (fsh_fixes_103 t a1 l2 l3 l4 q16 q17 (jR W 400 t) W))
  else
    (if (fsh_isTextFix q17) = (0 : Int32) then
    (fsh_fixes_103 t a1 l2 l3 l4 q16 q17 (jR W 400 t) W)
  else
    (fsh_fixes_99 t a1 l2 l3 l4 q16 q17 (jR W 400 t) W))))
  else
    (some (.inr (.inr W)))
noncomputable def fsh_fixes_2 (t : Nat) (a1 : Int32) (l2 : Int32) (W : jW) : Option (fsh_fixes_S ⊕ ((Nat × jW) ⊕ jW)) :=
  gd (jC W t = 4) <|
  gd (¬ jR W 421 t = 0) <|
  if l2 < (nI (jN W 421 t)) then
    (gd (jin l2 (jN W 421 t)) <| jlt (pA W 421 t (ix l2) (i2z (kI 0))) fun W8 => jlt (l2 + (kI 1)) fun v12 => some (.inl (.inl (v12, W8))))
  else
    (gd (jin a1 (jN W 417 t)) <| jlt (jA W 417 t (ix a1)) fun v5 => (fsh_isCode t v5 W).bind fun q6 => some (.inl (.inr (v5, q6, (kI 0), W))))
noncomputable def fsh_fixes_st (t : Nat) (a1 : Int32) : fsh_fixes_S → Option (fsh_fixes_S ⊕ ((Nat × jW) ⊕ jW)) :=
  (Sum.elim (fun s => fsh_fixes_2 t a1 s.1 s.2) (fun s => fsh_fixes_40 t a1 s.1 s.2.1 s.2.2.1 s.2.2.2))
noncomputable def fsh_fixes_0 (t : Nat) (a1 : Int32) (W : jW) : Option (fsh_fixes_S ⊕ ((Nat × jW) ⊕ jW)) :=
  some (.inl (.inl ((kI 0), W)))
noncomputable def fsh_fixes (t : Nat) (a1 : Int32) (W : jW) : Option ((Nat × jW) ⊕ jW) :=
  jrn (fsh_fixes_st t a1) (fsh_fixes_0 t a1 W)
abbrev fsh_take_S : Type := (Int32 × jW) ⊕ (Int32 × jW)
noncomputable def fsh_take_63 (t : Nat) (a1 : Nat) (l2 : Int32) (W : jW) : Option (fsh_take_S ⊕ ((Nat × jW) ⊕ jW)) :=
  jlt (l2 + (kI 1)) fun v27 => some (.inl (.inr (v27, W)))
noncomputable def fsh_take_114 (t : Nat) (a1 : Nat) (s0 : Int32) (s1 : Nat) (W : jW) : Option (fsh_take_S ⊕ ((Nat × jW) ⊕ jW)) :=
  gd (jC W s1 = 3) <| (ftr_must s1 s0 (kI 6) (kI 24) W).bind <| Sum.elim (fun z => some (.inr (.inl z))) fun q30 => some (.inr (.inr q30))
noncomputable def fsh_take_113 (t : Nat) (a1 : Nat) (s0 : Nat) (W : jW) : Option (fsh_take_S ⊕ ((Nat × jW) ⊕ jW)) :=
  fsh_take_114 t a1 (kI 0) s0 W
noncomputable def fsh_take_40 (t : Nat) (a1 : Nat) (l2 : Int32) (W : jW) : Option (fsh_take_S ⊕ ((Nat × jW) ⊕ jW)) :=
  gd (jC W t = 4) <|
  if l2 < (jI W 403 t) then
    (gd (jin l2 (jN W 411 t)) <|
  if (jA W 411 t (ix l2)) = (kI 4) then
    ((fsh_fixes t l2 W).bind <| Sum.elim (fun z => some (.inr (.inl z))) fun q24 => fsh_take_63 t a1 l2 q24)
  else
    (fsh_take_63 t a1 l2 W))
  else
    ((fsh_last t W).bind fun q20 =>
    gd (jin q20 (jN W 408 t)) <|
    (fsh_end t W).bind fun q22 =>
    if (fcl_isIn (jL W 404 t) (jB W 408 t (ix q20)) q22) = (0 : Int32) then
      (fsh_take_113 t a1 (jR W 400 t) W)
    else
      (if (lrm (jL W 404 t) (kJ 4)) = (kJ 0) then
      (fsh_take_114 t a1 (kI 1) (jR W 400 t) W)
    else
      (fsh_take_113 t a1 (jR W 400 t) W)))
noncomputable def fsh_take_11 (t : Nat) (a1 : Nat) (l2 : Int32) (W : jW) : Option (fsh_take_S ⊕ ((Nat × jW) ⊕ jW)) :=
  gd (jC W t = 4) <|
  if l2 < (jI W 402 t) then
    ((fsh_segment t l2 W).bind <| Sum.elim (fun z => some (.inr (.inl z))) fun q15 => jlt (l2 + (kI 1)) fun v17 => some (.inl (.inl (v17, q15))))
  else
    ((fsh_sections t W).bind <| Sum.elim (fun z => some (.inr (.inl z))) fun q10 =>
    gd (jC q10 t = 4) <|
    (fsh_symbols t q10).bind <| Sum.elim (fun z => some (.inr (.inl z))) fun q13 =>
    some (.inl (.inr ((kI 1), q13))))
noncomputable def fsh_take_st (t : Nat) (a1 : Nat) : fsh_take_S → Option (fsh_take_S ⊕ ((Nat × jW) ⊕ jW)) :=
  (Sum.elim (fun s => fsh_take_11 t a1 s.1 s.2) (fun s => fsh_take_40 t a1 s.1 s.2))
noncomputable def fsh_take_0 (t : Nat) (a1 : Nat) (W : jW) : Option (fsh_take_S ⊕ ((Nat × jW) ⊕ jW)) :=
  gd (jC W t = 4) <|
  jlt (sR W 401 t a1) fun W2 =>
  (fsh_head t W2).bind <| Sum.elim (fun z => some (.inr (.inl z))) fun q6 =>
  some (.inl (.inl ((kI 0), q6)))
noncomputable def fsh_take (t : Nat) (a1 : Nat) (W : jW) : Option ((Nat × jW) ⊕ jW) :=
  jrn (fsh_take_st t a1) (fsh_take_0 t a1 W)
noncomputable def fpg_room (t : Nat) (W : jW) : Option (jW) :=
  gd (jC W t = 2) <|
  gd (jra W (jI W 203 t)) <|
  jlt (nwA W 204 t (ix (jI W 203 t))) fun W3 =>
  gd (jra W3 (jI W3 203 t)) <|
  jlt (nwA W3 205 t (ix (jI W3 203 t))) fun W8 =>
  gd (jra W8 (jI W8 203 t)) <|
  jlt (nwA W8 206 t (ix (jI W8 203 t))) fun W13 =>
  gd (jra W13 (jI W13 203 t)) <|
  jlt (nwA W13 207 t (ix (jI W13 203 t))) fun W18 =>
  gd (jra W18 (jI W18 203 t)) <|
  jlt (nwA W18 208 t (ix (jI W18 203 t))) fun W23 =>
  gd (jra W23 (jI W23 203 t)) <|
  jlt (nwA W23 212 t (ix (jI W23 203 t))) fun W28 =>
  gd (jra W28 (jI W28 203 t)) <|
  jlt (nwA W28 214 t (ix (jI W28 203 t))) fun W33 =>
  gd (jra W33 (jI W33 203 t)) <|
  jlt (nwA W33 215 t (ix (jI W33 203 t))) fun W38 =>
  gd (jra W38 (jI W38 203 t)) <|
  jlt (nwA W38 216 t (ix (jI W38 203 t))) fun W43 =>
  some W43
noncomputable def fpg_placeOf (t : Nat) (a1 : Int32) (W : jW) : Option (Int32) :=
  gd (jC W t = 2) <| gd (jC W (jR W 201 t) = 4) <| (fsh_textOffset (jR W 201 t) W).bind fun q3 => some (q3 + ((kI 4) * a1))
noncomputable def fwo_is (a0 : Int32) (a1 : Int32) (a2 : Int32) : Int32 :=
  if (a0 &&& a1) = a2 then
    ((kI 1))
  else
    ((kI 0))
noncomputable def fwo_isLong (a0 : Int32) : Int32 :=
  if a0 < (0 : Int32) then
    ((kI 1))
  else
    ((kI 0))
noncomputable def fwo_amount (a0 : Int32) : Int32 :=
  ((ixr a0 (kI 10)) &&& (kI 63))
noncomputable def fwo_fits_16 (a0 : Int32) : Int32 :=
  (kI 1)
noncomputable def fwo_fits (a0 : Int32) : Int32 :=
  if (fwo_isLong a0) = (0 : Int32) then
    (if (fwo_amount a0) < (kI 32) then
    (fwo_fits_16 a0)
  else
    ((kI 0)))
  else
    (fwo_fits_16 a0)
noncomputable def fwo_isTwo_22 (a0 : Int32) : Int32 :=
  (kI 1)
noncomputable def fwo_isTwo_26 (a0 : Int32) : Int32 :=
  (kI 0)
noncomputable def fwo_isTwo (a0 : Int32) : Int32 :=
  if a0 = (kI 2) then
    (fwo_isTwo_22 a0)
  else
    (if a0 = (kI 3) then
    (fwo_isTwo_22 a0)
  else
    (if a0 < (kI 8) then
    (fwo_isTwo_26 a0)
  else
    (if (kI 10) < a0 then
    (fwo_isTwo_26 a0)
  else
    (fwo_isTwo_22 a0))))
noncomputable def fwo_isSized_32 (a0 : Int32) : Int32 :=
  (kI 1)
noncomputable def fwo_isSized_36 (a0 : Int32) : Int32 :=
  (kI 0)
noncomputable def fwo_isSized (a0 : Int32) : Int32 :=
  jlt (ixu a0 (kI 30)) fun v1 =>
  jlt ((ixr a0 (kI 22)) &&& (kI 3)) fun v2 =>
  if v1 = (kI 1) then
    (fwo_isSized_36 a0)
  else
    (if v2 < (kI 2) then
    (fwo_isSized_32 a0)
  else
    (if v2 = (kI 2) then
    (if v1 = (kI 2) then
    (fwo_isSized_32 a0)
  else
    (fwo_isSized_36 a0))
  else
    (fwo_isSized_36 a0)))
noncomputable def fwo_d (a0 : Int32) : Int32 :=
  (a0 &&& (kI 31))
noncomputable def fwo_a (a0 : Int32) : Int32 :=
  ((ixr a0 (kI 10)) &&& (kI 31))
noncomputable def fwo_n (a0 : Int32) : Int32 :=
  ((ixr a0 (kI 5)) &&& (kI 31))
noncomputable def fwo_isPair_42 (a0 : Int32) : Int32 :=
  (kI 0)
noncomputable def fwo_isPair_80 (a0 : Int32) : Int32 :=
  (kI 1)
noncomputable def fwo_isPair_84 (a0 : Int32) : Int32 :=
  (kI 0)
noncomputable def fwo_isPair_44 (a0 : Int32) (l1 : Int32) : Int32 :=
  if l1 = (kI 2) then
    (fwo_isPair_80 a0)
  else
    (if (fwo_n a0) = (kI 31) then
    (fwo_isPair_80 a0)
  else
    (if (fwo_n a0) = (fwo_d a0) then
    (fwo_isPair_84 a0)
  else
    (if (fwo_n a0) = (fwo_a a0) then
    (fwo_isPair_84 a0)
  else
    (fwo_isPair_80 a0))))
noncomputable def fwo_isPair_22 (a0 : Int32) (l1 : Int32) (s0 : Int32) : Int32 :=
  if l1 = (0 : Int32) then
    (fwo_isPair_42 a0)
  else
    (if s0 = (0 : Int32) then
    (fwo_isPair_44 a0 l1)
  else
    (if (fwo_d a0) = (fwo_a a0) then
    (fwo_isPair_42 a0)
  else
    (fwo_isPair_44 a0 l1)))
noncomputable def fwo_isPair (a0 : Int32) : Int32 :=
  jlt ((ixr a0 (kI 23)) &&& (kI 3)) fun v1 =>
  if ((ixr a0 (kI 22)) &&& (kI 1)) = (kI 1) then
    (fwo_isPair_22 a0 v1 (kI 1))
  else
    (fwo_isPair_22 a0 v1 (kI 0))
noncomputable def fwo_branch (a0 : Int32) : Int32 :=
  if (fwo_is a0 (kI (-67108864)) (kI 335544320)) = (0 : Int32) then
    (if (fwo_is a0 (kI (-67108864)) (kI (-1811939328))) = (0 : Int32) then
      (if (fwo_is a0 (kI (-16777200)) (kI 1409286144)) = (0 : Int32) then
        (if (fwo_is a0 (kI 2113929216) (kI 872415232)) = (0 : Int32) then
          (if (fwo_is a0 (kI 2113929216) (kI 905969664)) = (0 : Int32) then
            (if (fwo_is a0 (kI (-993)) (kI (-702611456))) = (0 : Int32) then
              (if (fwo_is a0 (kI (-993)) (kI (-700514304))) = (0 : Int32) then
                (if (fwo_is a0 (kI (-993)) (kI (-698417152))) = (0 : Int32) then
                  (if (fwo_is a0 (kI (-2097121)) (kI (-738197503))) = (0 : Int32) then
                    (if a0 = (kI (-721215457)) then
                      ((kI 21))
                    else
                      ((kI 0)))
                  else
                    ((kI 20)))
                else
                  ((kI 19)))
              else
                ((kI 18)))
            else
              ((kI 17)))
          else
            ((kI 16)))
        else
          ((kI 15)))
      else
        (if (a0 &&& (kI 15)) < (kI 14) then
        ((kI 14))
      else
        ((kI 0))))
    else
      ((kI 13)))
  else
    ((kI 12))
noncomputable def fwo_kindOf_45 (a0 : Int32) : Int32 :=
  (kI 0)
noncomputable def fwo_kindOf_108 (a0 : Int32) : Int32 :=
  (kI 4)
noncomputable def fwo_kindOf_112 (a0 : Int32) : Int32 :=
  (kI 0)
noncomputable def fwo_kindOf (a0 : Int32) : Int32 :=
  if (fwo_is a0 (kI 528482304) (kI 285212672)) = (0 : Int32) then
    (if (fwo_is a0 (kI 522190848) (kI 184549376)) = (0 : Int32) then
      (if (fwo_is a0 (kI 520093696) (kI 167772160)) = (0 : Int32) then
        (if (fwo_is a0 (kI 528482304) (kI 310378496)) = (0 : Int32) then
          (if (fwo_is a0 (kI (-1627389952)) (kI (-1879048192))) = (0 : Int32) then
            (if (fwo_is a0 (kI 2145386496) (kI 452984832)) = (0 : Int32) then
              (if (fwo_is a0 (kI 2145386496) (kI 448790528)) = (0 : Int32) then
                (if (fwo_is a0 (kI 2145388544) (kI 444596224)) = (0 : Int32) then
                  (if (fwo_is a0 (kI 1056964608) (kI 956301312)) = (0 : Int32) then
                    (if (fwo_is a0 (kI 1059122176) (kI 941647872)) = (0 : Int32) then
                      (if (fwo_is a0 (kI (-33554432)) (kI (-1476395008))) = (0 : Int32) then
                        ((fwo_branch a0))
                      else
                        (if (fwo_isPair a0) = (0 : Int32) then
                        ((kI 0))
                      else
                        ((kI 11))))
                    else
                      (if (fwo_isSized a0) = (0 : Int32) then
                      ((kI 0))
                    else
                      ((kI 10))))
                  else
                    (if (fwo_isSized a0) = (0 : Int32) then
                    ((kI 0))
                  else
                    ((kI 9))))
                else
                  (if ((ixr a0 (kI 12)) &&& (kI 15)) < (kI 14) then
                  ((kI 8))
                else
                  ((kI 0))))
              else
                (if (fwo_isTwo (fwo_amount a0)) = (0 : Int32) then
                ((kI 0))
              else
                ((kI 7))))
            else
              ((kI 6)))
          else
            ((kI 5)))
        else
          (if ((ixr a0 (kI 29)) &&& (kI 3)) = (kI 1) then
          (fwo_kindOf_112 a0)
        else
          (if (fwo_isLong a0) = (0 : Int32) then
          (if ((ixr a0 (kI 22)) &&& (kI 1)) = (0 : Int32) then
          (fwo_kindOf_108 a0)
        else
          (fwo_kindOf_112 a0))
        else
          (fwo_kindOf_108 a0))))
      else
        (if (fwo_fits a0) = (0 : Int32) then
        ((kI 0))
      else
        ((kI 3))))
    else
      (if ((ixr a0 (kI 22)) &&& (kI 3)) < (kI 3) then
      (if (fwo_fits a0) = (0 : Int32) then
      (fwo_kindOf_45 a0)
    else
      ((kI 2)))
    else
      (fwo_kindOf_45 a0)))
  else
    ((kI 1))
noncomputable def fsh_isFunction_47 (t : Nat) (a1 : Int32) (W : jW) : Option (Int32) :=
  some (kI 0)
noncomputable def fsh_isFunction (t : Nat) (a1 : Int32) (W : jW) : Option (Int32) :=
  gd (jC W t = 4) <|
  (fsh_symbolAt t a1 W).bind fun q2 =>
  gd (jC W (jR W 401 t) = 5 ∨ jC W (jR W 401 t) = 9) <|
  (fsr_half (jR W 401 t) (q2 + (kI 6)) W).bind fun q4 =>
  if q4 = (jI W 418 t) then
    ((fsh_symbolAt t a1 W).bind fun q5 =>
  gd (jC W (jR W 401 t) = 5 ∨ jC W (jR W 401 t) = 9) <|
  (fsr_at (jR W 401 t) (q5 + (kI 4)) W).bind fun q7 =>
  if (q7 &&& (kI 15)) = (kI 2) then
    (some (kI 1))
  else
    (fsh_isFunction_47 t a1 W))
  else
    (fsh_isFunction_47 t a1 W)
noncomputable def fpg_wordAt (t : Nat) (a1 : Int64) (W : jW) : Option (Int32) :=
  gd (jC W t = 2) <|
  gd (jC W (jR W 201 t) = 4) <|
  (fsh_last (jR W 201 t) W).bind fun q3 =>
  gd (jin q3 (jN W 408 (jR W 201 t))) <|
  some (((a1 - (jB W 408 (jR W 201 t) (ix q3))) / (kJ 4)).toInt32)
noncomputable def fro_add_40 (t : Nat) (a1 : Int32) (W : jW) : Option (jW) :=
  gd (jC W t = 6) <|
  gd (jin (jI W 601 t) (jN W 600 t)) <|
  jlt (pA W 600 t (ix (jI W 601 t)) a1) fun W24 =>
  jlt (sI W24 601 t ((jI W24 601 t) + (kI 1))) fun W28 =>
  some W28
noncomputable def fro_add (t : Nat) (a1 : Int32) (W : jW) : Option (jW) :=
  gd (jC W t = 6) <|
  gd (¬ jR W 600 t = 0) <|
  if (jI W 601 t) = (nI (jN W 600 t)) then
    (gd (jra W ((kI 2) * (jI W 601 t))) <|
  jlt (nwA W 9003 (jX W) (ix ((kI 2) * (jI W 601 t)))) fun W4 =>
  jlt (jX W) fun v8 =>
  gd (jR W4 9003 v8 = v8) <|
  gd (jcp W4 600 t 9003 v8 (kI 0) (kI 0) (jI W4 601 t)) <|
  gd (¬ jR W4 600 t = 0 ∧ ¬ jR W4 9003 v8 = 0) <|
  jlt (cpA W4 600 t 9003 v8 (kI 0) (kI 0) (jI W4 601 t)) fun W12 =>
  gd (jR W12 9003 v8 = v8 ∧ v8 ≠ 0) <|
  jlt (atA W12 600 t v8) fun W17 =>
  fro_add_40 t a1 W17)
  else
    (fro_add_40 t a1 W)
noncomputable def fpg_behind (t : Nat) (a1 : Int32) (W : jW) : Option (Int32) :=
  gd (jC W t = 2) <|
  gd (jC W (jR W 209 t) = 6) <|
  if (a1 + (kI 1)) < (jI W 601 (jR W 209 t)) then
    (gd (jin (a1 + (kI 1)) (jN W 600 (jR W 209 t))) <| some (jA W 600 (jR W 209 t) (ix (a1 + (kI 1)))))
  else
    (some (jI W 203 t))
abbrev fpg_tellFunctions_S : Type := (Int64 × Int32 × Int32 × jW) ⊕ (Int64 × Int32 × Int32 × jW) ⊕ (Int64 × Int32 × Int32 × Int32 × jW) ⊕ (Int64 × Int32 × Int32 × jW) ⊕ (Int32 × jW) ⊕ (Int32 × Int32 × jW)
noncomputable def fpg_tellFunctions_64 (t : Nat) (l1 : Int64) (l3 : Int32) (l4 : Int32) (W : jW) : Option (fpg_tellFunctions_S ⊕ ((Nat × jW) ⊕ jW)) :=
  jlt (l4 + (kI 1)) fun v26 => some (.inl (.inl (l1, l3, v26, W)))
noncomputable def fpg_tellFunctions_251 (t : Nat) (l1 : Int64) (l3 : Int32) (l4 : Int32) (l5 : Int32) (W : jW) : Option (fpg_tellFunctions_S ⊕ ((Nat × jW) ⊕ jW)) :=
  jlt (l5 + (kI 1)) fun v49 => some (.inl (.inr (.inr (.inl (l1, l3, l4, v49, W)))))
noncomputable def fpg_tellFunctions_231 (t : Nat) (l1 : Int64) (l3 : Int32) (l5 : Int32) (l6 : Int64) (s0 : Int32) (W : jW) : Option (fpg_tellFunctions_S ⊕ ((Nat × jW) ⊕ jW)) :=
  if s0 = (0 : Int32) then
    (fpg_tellFunctions_251 t l1 l3 s0 l5 W)
  else
    (gd (jC W t = 2) <|
  (fpg_wordAt t l6 W).bind fun q52 =>
  gd (jin q52 (jN W 212 t)) <|
  jlt (pA W 212 t (ix q52) l5) fun W54 =>
  fpg_tellFunctions_251 t l1 l3 s0 l5 W54)
noncomputable def fpg_tellFunctions_230 (t : Nat) (l1 : Int64) (l3 : Int32) (l5 : Int32) (l6 : Int64) (W : jW) : Option (fpg_tellFunctions_S ⊕ ((Nat × jW) ⊕ jW)) :=
  fpg_tellFunctions_231 t l1 l3 l5 l6 (kI 0) W
noncomputable def fpg_tellFunctions_296 (t : Nat) (l1 : Int64) (l3 : Int32) (l5 : Int32) (s0 : Int32) (W : jW) : Option (fpg_tellFunctions_S ⊕ ((Nat × jW) ⊕ jW)) :=
  if s0 = (0 : Int32) then
    (some (.inl (.inr (.inr (.inr (.inl (l1, l3, s0, W)))))))
  else
    (gd (jC W t = 2) <|
    (fpg_wordAt t l1 W).bind fun q68 =>
    gd (jC W (jR W 209 t) = 6) <|
    (fro_add (jR W 209 t) q68 W).bind fun q70 =>
    gd (jC q70 t = 2) <|
    gd (jC q70 (jR q70 210 t) = 6) <|
    (fro_add (jR q70 210 t) l5 q70).bind fun q74 =>
    gd (jC q74 t = 2) <|
    gd (jC q74 (jR q74 201 t) = 4) <|
    (fsh_symbolAt (jR q74 201 t) l5 q74).bind fun q78 =>
    gd (jC q74 (jR q74 202 t) = 5) <|
    (fsr_pair (jR q74 202 t) (q78 + (kI 16)) q74).bind fun q80 =>
    jlt (l1 + q80) fun v81 =>
    some (.inl (.inr (.inr (.inr (.inl (v81, l3, s0, q74)))))))
noncomputable def fpg_tellFunctions_416 (t : Nat) (l5 : Int32) (l6 : Int32) (W : jW) : Option (fpg_tellFunctions_S ⊕ ((Nat × jW) ⊕ jW)) :=
  gd (jC W t = 2) <|
  (fpg_behind t l5 W).bind fun q99 =>
  if l6 < q99 then
    (gd (jin l6 (jN W 212 t)) <|
  jlt (pA W 212 t (ix l6) l5) fun W102 =>
  jlt (l6 + (kI 1)) fun v106 =>
  some (.inl (.inr (.inr (.inr (.inr (.inr (l5, v106, W102))))))))
  else
    (jlt (l5 + (kI 1)) fun v100 => some (.inl (.inr (.inr (.inr (.inr (.inl (v100, W))))))))
noncomputable def fpg_tellFunctions_392 (t : Nat) (l5 : Int32) (W : jW) : Option (fpg_tellFunctions_S ⊕ ((Nat × jW) ⊕ jW)) :=
  gd (jC W t = 2) <|
  gd (jC W (jR W 209 t) = 6) <|
  if l5 < (jI W 601 (jR W 209 t)) then
    (gd (jin l5 (jN W 600 (jR W 209 t))) <| jlt (jA W 600 (jR W 209 t) (ix l5)) fun v96 => some (.inl (.inr (.inr (.inr (.inr (.inr (l5, v96, W))))))))
  else
    (some (.inr (.inr W)))
noncomputable def fpg_tellFunctions_377 (t : Nat) (s0 : Int32) (s1 : Nat) (W : jW) : Option (fpg_tellFunctions_S ⊕ ((Nat × jW) ⊕ jW)) :=
  gd (jC W t = 2) <|
  gd (jC W (jR W 201 t) = 4) <|
  (fsh_textOffset (jR W 201 t) W).bind fun q88 =>
  gd (jC W s1 = 3) <|
  (ftr_must s1 s0 (kI 7) q88 W).bind <| Sum.elim (fun z => some (.inr (.inl z))) fun q90 =>
  some (.inl (.inr (.inr (.inr (.inr (.inl ((kI 0), q90)))))))
noncomputable def fpg_tellFunctions_376 (t : Nat) (s0 : Nat) (W : jW) : Option (fpg_tellFunctions_S ⊕ ((Nat × jW) ⊕ jW)) :=
  fpg_tellFunctions_377 t (kI 0) s0 W
noncomputable def fpg_tellFunctions_352 (t : Nat) (l3 : Int32) (l4 : Int32) (W : jW) : Option (fpg_tellFunctions_S ⊕ ((Nat × jW) ⊕ jW)) :=
  gd (jC W t = 2) <|
  if l4 = (0 : Int32) then
    (fpg_tellFunctions_376 t (jR W 200 t) W)
  else
    (gd (jC W (jR W 209 t) = 6) <|
  if (jI W 601 (jR W 209 t)) = l3 then
    (fpg_tellFunctions_377 t (kI 1) (jR W 200 t) W)
  else
    (fpg_tellFunctions_376 t (jR W 200 t) W))
noncomputable def fpg_tellFunctions_257 (t : Nat) (l1 : Int64) (l3 : Int32) (l4 : Int32) (W : jW) : Option (fpg_tellFunctions_S ⊕ ((Nat × jW) ⊕ jW)) :=
  if l4 = (0 : Int32) then
    (fpg_tellFunctions_352 t l3 l4 W)
  else
    (gd (jC W t = 2) <|
  gd (jC W (jR W 201 t) = 4) <|
  (fsh_end (jR W 201 t) W).bind fun q62 =>
  if l1 < q62 then
    ((fpg_wordAt t l1 W).bind fun q63 =>
  gd (jin q63 (jN W 212 t)) <|
  jlt (jA W 212 t (ix q63)) fun v65 =>
  if v65 < (0 : Int32) then
    (fpg_tellFunctions_296 t l1 l3 v65 (kI 0) W)
  else
    (fpg_tellFunctions_296 t l1 l3 v65 (kI 1) W))
  else
    (fpg_tellFunctions_352 t l3 l4 W))
noncomputable def fpg_tellFunctions_102 (t : Nat) (l1 : Int64) (l3 : Int32) (l4 : Int32) (l5 : Int32) (W : jW) : Option (fpg_tellFunctions_S ⊕ ((Nat × jW) ⊕ jW)) :=
  gd (jC W t = 2) <|
  gd (jC W (jR W 201 t) = 4) <|
  (fsh_symbolCount (jR W 201 t) W).bind fun q38 =>
  if l5 < q38 then
    (if l4 = (0 : Int32) then
    (some (.inl (.inr (.inr (.inr (.inl (l1, l3, l4, W)))))))
  else
    ((fsh_isFunction (jR W 201 t) l5 W).bind fun q39 =>
  if q39 = (0 : Int32) then
    (fpg_tellFunctions_251 t l1 l3 l4 l5 W)
  else
    ((fsh_valueOf (jR W 201 t) l5 W).bind fun q40 =>
    (fsh_symbolAt (jR W 201 t) l5 W).bind fun q41 =>
    gd (jC W (jR W 202 t) = 5) <|
    (fsr_pair (jR W 202 t) (q41 + (kI 16)) W).bind fun q43 =>
    (fsh_isText (jR W 201 t) q40 W).bind fun q44 =>
    if q44 = (0 : Int32) then
      (fpg_tellFunctions_230 t l1 l3 l5 q40 W)
    else
      (if (kJ 0) < q43 then
      (if (lrm q43 (kJ 4)) = (kJ 0) then
      ((fsh_end (jR W 201 t) W).bind fun q45 =>
    if (q45 - q40) < q43 then
      (fpg_tellFunctions_230 t l1 l3 l5 q40 W)
    else
      ((fpg_wordAt t q40 W).bind fun q46 =>
    gd (jin q46 (jN W 212 t)) <|
    if (jA W 212 t (ix q46)) < (0 : Int32) then
      (fpg_tellFunctions_231 t l1 l3 l5 q40 (kI 1) W)
    else
      (fpg_tellFunctions_230 t l1 l3 l5 q40 W)))
    else
      (fpg_tellFunctions_230 t l1 l3 l5 q40 W))
    else
      (fpg_tellFunctions_230 t l1 l3 l5 q40 W)))))
  else
    (some (.inl (.inr (.inr (.inr (.inl (l1, l3, l4, W)))))))
noncomputable def fpg_tellFunctions_73 (t : Nat) (l1 : Int64) (l3 : Int32) (l4 : Int32) (W : jW) : Option (fpg_tellFunctions_S ⊕ ((Nat × jW) ⊕ jW)) :=
  gd (jC W t = 2) <|
  if l4 < (jI W 203 t) then
    (gd (jin l4 (jN W 212 t)) <| jlt (pA W 212 t (ix l4) (kI (-1))) fun W30 => jlt (l4 + (kI 1)) fun v34 => some (.inl (.inr (.inl (l1, l3, v34, W30)))))
  else
    (some (.inl (.inr (.inr (.inl (l1, l3, (kI 1), (kI 1), W))))))
noncomputable def fpg_tellFunctions_37 (t : Nat) (l1 : Int64) (l3 : Int32) (l4 : Int32) (W : jW) : Option (fpg_tellFunctions_S ⊕ ((Nat × jW) ⊕ jW)) :=
  gd (jC W t = 2) <|
  gd (jC W (jR W 201 t) = 4) <|
  (fsh_symbolCount (jR W 201 t) W).bind fun q22 =>
  if l4 < q22 then
    ((fsh_isFunction (jR W 201 t) l4 W).bind fun q23 =>
  if q23 = (0 : Int32) then
    (fpg_tellFunctions_64 t l1 l3 l4 W)
  else
    (jlt (l3 + (kI 1)) fun v24 => fpg_tellFunctions_64 t l1 v24 l4 W))
  else
    (some (.inl (.inr (.inl (l1, l3, (kI 0), W)))))
noncomputable def fpg_tellFunctions_st (t : Nat) : fpg_tellFunctions_S → Option (fpg_tellFunctions_S ⊕ ((Nat × jW) ⊕ jW)) :=
  (Sum.elim (fun s => fpg_tellFunctions_37 t s.1 s.2.1 s.2.2.1 s.2.2.2) (Sum.elim (fun s => fpg_tellFunctions_73 t s.1 s.2.1 s.2.2.1 s.2.2.2) (Sum.elim (fun s => fpg_tellFunctions_102 t s.1 s.2.1 s.2.2.1 s.2.2.2.1 s.2.2.2.2) (Sum.elim (fun s => fpg_tellFunctions_257 t s.1 s.2.1 s.2.2.1 s.2.2.2) (Sum.elim (fun s => fpg_tellFunctions_392 t s.1 s.2) (fun s => fpg_tellFunctions_416 t s.1 s.2.1 s.2.2))))))
noncomputable def fpg_tellFunctions_0 (t : Nat) (W : jW) : Option (fpg_tellFunctions_S ⊕ ((Nat × jW) ⊕ jW)) :=
  gd (jC W t = 2) <|
  gd (jC W (jR W 209 t) = 6) <|
  jlt (sI W 601 (jR W 209 t) (kI 0)) fun W3 =>
  gd (jC W3 (jR W3 210 t) = 6) <|
  jlt (sI W3 601 (jR W3 210 t) (kI 0)) fun W9 =>
  gd (jC W9 (jR W9 201 t) = 4) <|
  (fsh_last (jR W9 201 t) W9).bind fun q16 =>
  gd (jin q16 (jN W9 408 (jR W9 201 t))) <|
  jlt (jB W9 408 (jR W9 201 t) (ix q16)) fun v18 =>
  some (.inl (.inl (v18, (kI 0), (kI 1), W9)))
noncomputable def fpg_tellFunctions (t : Nat) (W : jW) : Option ((Nat × jW) ⊕ jW) :=
  jrn (fpg_tellFunctions_st t) (fpg_tellFunctions_0 t W)
noncomputable def fsh_target (t : Nat) (a1 : Int32) (W : jW) : Option (Int64) :=
  gd (jC W t = 4) <|
  (fsh_fixSymbol t a1 W).bind fun q2 =>
  (fsh_valueOf t q2 W).bind fun q3 =>
  gd (jC W (jR W 401 t) = 5 ∨ jC W (jR W 401 t) = 9) <|
  (fsr_pair (jR W 401 t) (a1 + (kI 16)) W).bind fun q5 =>
  some (q3 + q5)
noncomputable def fwo_pageOf (a0 : Int64) : Int64 :=
  (a0 &&& (kJ (-4096)))
noncomputable def fwo_signed (a0 : Int32) (a1 : Int32) : Int32 :=
  (ixr (ixl a0 ((kI 32) - a1)) ((kI 32) - a1))
noncomputable def fwo_pageBy (a0 : Int32) : Int64 :=
  (lxl ((fwo_signed ((ixl ((ixr a0 (kI 5)) &&& (kI 524287)) (kI 2)) ||| ((ixr a0 (kI 29)) &&& (kI 3))) (kI 21)).toInt64) (kI 12))
noncomputable def fwo_isPlainAdd_37 (a0 : Int32) : Int32 :=
  (kI 0)
noncomputable def fwo_isPlainAdd (a0 : Int32) : Int32 :=
  if (fwo_kindOf a0) = (kI 1) then
    (if (fwo_isLong a0) = (0 : Int32) then
    (fwo_isPlainAdd_37 a0)
  else
    (if ((ixr a0 (kI 29)) &&& (kI 3)) = (0 : Int32) then
    (if ((ixr a0 (kI 22)) &&& (kI 1)) = (0 : Int32) then
    ((kI 1))
  else
    (fwo_isPlainAdd_37 a0))
  else
    (fwo_isPlainAdd_37 a0)))
  else
    (fwo_isPlainAdd_37 a0)
noncomputable def fwo_twelve (a0 : Int32) : Int32 :=
  ((ixr a0 (kI 10)) &&& (kI 4095))
noncomputable def fwo_bitsOf_12 (a0 : Int32) : Int32 :=
  (kI 26)
noncomputable def fwo_bitsOf (a0 : Int32) : Int32 :=
  if a0 = (kI 12) then
    (fwo_bitsOf_12 a0)
  else
    (if a0 = (kI 13) then
    (fwo_bitsOf_12 a0)
  else
    (if a0 = (kI 16) then
      ((kI 14))
    else
      ((kI 19))))
noncomputable def fwo_by_19 (a0 : Int32) (a1 : Int32) (s0 : Int32) : Int32 :=
  ((kI 4) * (fwo_signed (s0 &&& ((ixl (kI 1) (fwo_bitsOf a1)) - (kI 1))) (fwo_bitsOf a1)))
noncomputable def fwo_by_12 (a0 : Int32) (a1 : Int32) : Int32 :=
  fwo_by_19 a0 a1 a0
noncomputable def fwo_by (a0 : Int32) (a1 : Int32) : Int32 :=
  if a1 = (kI 12) then
    (fwo_by_12 a0 a1)
  else
    (if a1 = (kI 13) then
    (fwo_by_12 a0 a1)
  else
    (fwo_by_19 a0 a1 (ixr a0 (kI 5))))
noncomputable def fwo_bytesOf (a0 : Int32) : Int32 :=
  (ixl (kI 1) (ixu a0 (kI 30)))
noncomputable def fpg_isTold_62 (t : Nat) (a1 : Int32) (a2 : Int32) (W : jW) : Option (Int32 × jW) :=
  some ((kI 0), W)
noncomputable def fpg_isTold_423 (t : Nat) (a1 : Int32) (a2 : Int32) (W : jW) : Option (Int32 × jW) :=
  some ((kI 0), W)
noncomputable def fpg_isTold_365 (t : Nat) (a1 : Int32) (a2 : Int32) (l3 : Int64) (l8 : Int32) (l9 : Int32) (s0 : Int32) (W : jW) : Option (Int32 × jW) :=
  gd (jC W t = 2) <|
  gd (jin l8 (jN W 205 t)) <|
  if (jA W 205 t (ix l8)) = (kI 9) then
    (if (fwo_bytesOf l9) = s0 then
    (gd (jC W (jR W 201 t) = 4) <|
  (fsh_isText (jR W 201 t) l3 W).bind fun q36 =>
  if q36 = (0 : Int32) then
    (if (((fwo_twelve l9).toInt64) * s0.toInt64) = (l3 &&& (kJ 4095)) then
    (some ((kI 1), W))
  else
    (fpg_isTold_423 t a1 a2 W))
  else
    (fpg_isTold_423 t a1 a2 W))
  else
    (fpg_isTold_423 t a1 a2 W))
  else
    (fpg_isTold_423 t a1 a2 W)
noncomputable def fpg_isTold_339 (t : Nat) (a1 : Int32) (a2 : Int32) (l3 : Int64) (l5 : Int32) (l8 : Int32) (l9 : Int32) (W : jW) : Option (Int32 × jW) :=
  if l5 = (kI 278) then
    (fpg_isTold_365 t a1 a2 l3 l8 l9 (kI 1) W)
  else
    (if l5 = (kI 285) then
      (fpg_isTold_365 t a1 a2 l3 l8 l9 (kI 4) W)
    else
      (fpg_isTold_365 t a1 a2 l3 l8 l9 (kI 8) W))
noncomputable def fpg_isTold_240 (t : Nat) (a1 : Int32) (a2 : Int32) (W : jW) : Option (Int32 × jW) :=
  some ((kI 0), W)
noncomputable def fpg_isTold_269 (t : Nat) (a1 : Int32) (a2 : Int32) (W : jW) : Option (Int32 × jW) :=
  some ((kI 0), W)
noncomputable def fpg_isTold_303 (t : Nat) (a1 : Int32) (a2 : Int32) (W : jW) : Option (Int32 × jW) :=
  some ((kI 0), W)
noncomputable def fpg_isTold_337 (t : Nat) (a1 : Int32) (a2 : Int32) (W : jW) : Option (Int32 × jW) :=
  some ((kI 0), W)
noncomputable def fpg_isTold_64 (t : Nat) (a1 : Int32) (a2 : Int32) (l3 : Int64) (l5 : Int32) (l6 : Int64) (W : jW) : Option (Int32 × jW) :=
  if l5 = (kI 257) then
    (gd (jC W t = 2) <|
  gd (jC W (jR W 201 t) = 4) <|
  gd (jin a2 (jN W 414 (jR W 201 t))) <|
  gd (jin a2 (jN W 413 (jR W 201 t))) <|
  gd (jC W (jR W 202 t) = 5) <|
  (fsr_pair (jR W 202 t) ((jA W 414 (jR W 201 t) (ix a2)) + ((l6 - (jB W 413 (jR W 201 t) (ix a2))).toInt32)) W).bind fun q30 =>
  if q30 = l3 then
    (some ((kI 1), W))
  else
    (some ((kI 0), W)))
  else
    (gd (jC W t = 2) <|
    (fpg_wordAt t l6 W).bind fun q10 =>
    gd (jin q10 (jN W 207 t)) <|
    jlt (pA W 207 t (ix q10) a1) fun W12 =>
    gd (jin q10 (jN W12 204 t)) <|
    jlt (jA W12 204 t (ix q10)) fun v17 =>
    if l5 = (kI 275) then
      (gd (jin q10 (jN W12 205 t)) <|
      if (jA W12 205 t (ix q10)) = (kI 5) then
        (if l3 < (kJ 0) then
        (fpg_isTold_240 t a1 a2 W12)
      else
        (if l3 < (kJ 2147483648) then
        (if ((fwo_pageOf l6) + (fwo_pageBy v17)) = (fwo_pageOf l3) then
        (some ((kI 1), W12))
      else
        (fpg_isTold_240 t a1 a2 W12))
      else
        (fpg_isTold_240 t a1 a2 W12)))
      else
        (fpg_isTold_240 t a1 a2 W12))
    else if l5 = (kI 277) then
      (if (fwo_isPlainAdd v17) = (0 : Int32) then
        (fpg_isTold_269 t a1 a2 W12)
      else
        (if (fwo_twelve v17).toInt64 = (l3 &&& (kJ 4095)) then
        (some ((kI 1), W12))
      else
        (fpg_isTold_269 t a1 a2 W12)))
    else if l5 = (kI 282) then
      (gd (jin q10 (jN W12 205 t)) <|
      if (jA W12 205 t (ix q10)) = (kI 12) then
        (if (l6 + ((fwo_by v17 (kI 12)).toInt64)) = l3 then
        (some ((kI 1), W12))
      else
        (fpg_isTold_303 t a1 a2 W12))
      else
        (fpg_isTold_303 t a1 a2 W12))
    else if l5 = (kI 283) then
      (gd (jin q10 (jN W12 205 t)) <|
      if (jA W12 205 t (ix q10)) = (kI 13) then
        (if (l6 + ((fwo_by v17 (kI 13)).toInt64)) = l3 then
        (some ((kI 1), W12))
      else
        (fpg_isTold_337 t a1 a2 W12))
      else
        (fpg_isTold_337 t a1 a2 W12))
    else (fpg_isTold_339 t a1 a2 l3 l5 q10 v17 W12))
noncomputable def fpg_isTold (t : Nat) (a1 : Int32) (a2 : Int32) (W : jW) : Option (Int32 × jW) :=
  gd (jC W t = 2) <|
  gd (jC W (jR W 201 t) = 4) <|
  (fsh_target (jR W 201 t) a1 W).bind fun q3 =>
  (fsh_fixType (jR W 201 t) a1 W).bind fun q4 =>
  (fsh_fixPlace (jR W 201 t) a1 W).bind fun q5 =>
  (fsh_end (jR W 201 t) W).bind fun q6 =>
  if q3 = q6 then
    (fpg_isTold_62 t a1 a2 W)
  else
    ((fsh_isText (jR W 201 t) q3 W).bind fun q7 =>
  if q7 = (0 : Int32) then
    (fpg_isTold_64 t a1 a2 q3 q4 q5 W)
  else
    (if (lrm q3 (kJ 4)) = (kJ 0) then
    (fpg_isTold_64 t a1 a2 q3 q4 q5 W)
  else
    (fpg_isTold_62 t a1 a2 W)))
abbrev fpg_lookFixes_S : Type := (Int32 × jW) ⊕ (Int32 × Int32 × jW)
noncomputable def fpg_lookFixes_94 (t : Nat) (l1 : Int32) (W : jW) : Option (fpg_lookFixes_S ⊕ ((Nat × jW) ⊕ jW)) :=
  jlt (l1 + (kI 1)) fun v6 => some (.inl (.inl (v6, W)))
noncomputable def fpg_lookFixes_88 (t : Nat) (l1 : Int32) (l2 : Int32) (W : jW) : Option (fpg_lookFixes_S ⊕ ((Nat × jW) ⊕ jW)) :=
  jlt (l2 + (kI 1)) fun v20 => some (.inl (.inr (l1, v20, W)))
noncomputable def fpg_lookFixes_31 (t : Nat) (l1 : Int32) (l2 : Int32) (W : jW) : Option (fpg_lookFixes_S ⊕ ((Nat × jW) ⊕ jW)) :=
  gd (jC W t = 2) <|
  gd (jC W (jR W 201 t) = 4) <|
  (fsh_fixCount (jR W 201 t) l1 W).bind fun q10 =>
  if l2 < q10 then
    ((fsh_fixAt (jR W 201 t) l1 l2 W).bind fun q11 =>
  (fsh_fixType (jR W 201 t) q11 W).bind fun q12 =>
  if q12 = (0 : Int32) then
    (fpg_lookFixes_88 t l1 l2 W)
  else
    (gd (jin l1 (jN W 417 (jR W 201 t))) <|
  (fpg_isTold t q11 (jA W 417 (jR W 201 t) (ix l1)) W).bind fun q14 =>
  gd (jC q14.2 (jR W 200 t) = 3) <|
  (ftr_must (jR W 200 t) q14.1 (kI 9) q11 q14.2).bind <| Sum.elim (fun z => some (.inr (.inl z))) fun q17 =>
  fpg_lookFixes_88 t l1 l2 q17))
  else
    (fpg_lookFixes_94 t l1 W)
noncomputable def fpg_lookFixes_2 (t : Nat) (l1 : Int32) (W : jW) : Option (fpg_lookFixes_S ⊕ ((Nat × jW) ⊕ jW)) :=
  gd (jC W t = 2) <|
  gd (jC W (jR W 201 t) = 4) <|
  if l1 < (jI W 403 (jR W 201 t)) then
    (gd (jin l1 (jN W 411 (jR W 201 t))) <|
  if (jA W 411 (jR W 201 t) (ix l1)) = (kI 4) then
    (some (.inl (.inr (l1, (kI 0), W))))
  else
    (fpg_lookFixes_94 t l1 W))
  else
    (some (.inr (.inr W)))
noncomputable def fpg_lookFixes_st (t : Nat) : fpg_lookFixes_S → Option (fpg_lookFixes_S ⊕ ((Nat × jW) ⊕ jW)) :=
  (Sum.elim (fun s => fpg_lookFixes_2 t s.1 s.2) (fun s => fpg_lookFixes_31 t s.1 s.2.1 s.2.2))
noncomputable def fpg_lookFixes_0 (t : Nat) (W : jW) : Option (fpg_lookFixes_S ⊕ ((Nat × jW) ⊕ jW)) :=
  some (.inl (.inl ((kI 1), W)))
noncomputable def fpg_lookFixes (t : Nat) (W : jW) : Option ((Nat × jW) ⊕ jW) :=
  jrn (fpg_lookFixes_st t) (fpg_lookFixes_0 t W)
noncomputable def fwo_isBranch_18 (a0 : Int32) : Int32 :=
  (kI 1)
noncomputable def fwo_isBranch (a0 : Int32) : Int32 :=
  if a0 = (kI 14) then
    (fwo_isBranch_18 a0)
  else
    (if a0 = (kI 15) then
    (fwo_isBranch_18 a0)
  else
    (if a0 = (kI 16) then
    (fwo_isBranch_18 a0)
  else
    ((kI 0))))
noncomputable def fwo_goes_19 (a0 : Int32) : Int32 :=
  (kI 1)
noncomputable def fwo_goes (a0 : Int32) : Int32 :=
  if a0 = (kI 12) then
    (fwo_goes_19 a0)
  else
    (if a0 = (kI 13) then
    (fwo_goes_19 a0)
  else
    (if (fwo_isBranch a0) = (0 : Int32) then
    ((kI 0))
  else
    (fwo_goes_19 a0)))
noncomputable def fpg_goal_45 (t : Nat) (a1 : Int32) (W : jW) : Option (Int32) :=
  some (kI (-1))
noncomputable def fpg_goal (t : Nat) (a1 : Int32) (W : jW) : Option (Int32) :=
  gd (jC W t = 2) <|
  gd (jin a1 (jN W 204 t)) <|
  gd (jin a1 (jN W 205 t)) <|
  jlt (a1.toInt64 + (((fwo_by (jA W 204 t (ix a1)) (jA W 205 t (ix a1))).toInt64) / (kJ 4))) fun v4 =>
  if v4 < (kJ 0) then
    (fpg_goal_45 t a1 W)
  else
    (if v4 < (jI W 203 t).toInt64 then
    (some v4.toInt32)
  else
    (fpg_goal_45 t a1 W))
noncomputable def fpg_isGood_79 (t : Nat) (a1 : Int32) (W : jW) : Option (Int32) :=
  some (kI 1)
noncomputable def fpg_isGood_83 (t : Nat) (a1 : Int32) (W : jW) : Option (Int32) :=
  some (kI 0)
noncomputable def fpg_isGood_35 (t : Nat) (a1 : Int32) (l2 : Int32) (s0 : Int32) (W : jW) : Option (Int32) :=
  gd (jC W t = 2) <|
  gd (jin a1 (jN W 205 t)) <|
  if (jA W 205 t (ix a1)) = (kI 13) then
    (gd (i2z s0 = s0) <| some s0)
  else
    (gd (jin l2 (jN W 212 t)) <|
    gd (jin a1 (jN W 212 t)) <|
    if (jA W 212 t (ix l2)) = (jA W 212 t (ix a1)) then
      (fpg_isGood_79 t a1 W)
    else
      (gd (jin a1 (jN W 205 t)) <|
    if (jA W 205 t (ix a1)) = (kI 12) then
      (if s0 = (0 : Int32) then
      (fpg_isGood_83 t a1 W)
    else
      (fpg_isGood_79 t a1 W))
    else
      (fpg_isGood_83 t a1 W)))
noncomputable def fpg_isGood (t : Nat) (a1 : Int32) (W : jW) : Option (Int32) :=
  gd (jC W t = 2) <|
  (fpg_goal t a1 W).bind fun q2 =>
  if q2 < (0 : Int32) then
    (some (kI 0))
  else
    (gd (jC W (jR W 209 t) = 6) <|
    gd (jin q2 (jN W 212 t)) <|
    gd (jin (jA W 212 t (ix q2)) (jN W 600 (jR W 209 t))) <|
    if (jA W 600 (jR W 209 t) (ix (jA W 212 t (ix q2)))) = q2 then
      (fpg_isGood_35 t a1 q2 (kI 1) W)
    else
      (fpg_isGood_35 t a1 q2 (kI 0) W))
noncomputable def fpg_lastOf (t : Nat) (a1 : Int32) (W : jW) : Option (Int32) :=
  gd (jC W t = 2) <| (fpg_behind t a1 W).bind fun q2 => some (q2 - (kI 1))
noncomputable def fwo_ends_16 (a0 : Int32) : Int32 :=
  (kI 0)
noncomputable def fwo_ends (a0 : Int32) : Int32 :=
  if a0 < (kI 12) then
    (fwo_ends_16 a0)
  else
    (if (kI 19) < a0 then
    (fwo_ends_16 a0)
  else
    ((kI 1)))
noncomputable def fpg_targetWord_37 (t : Nat) (a1 : Int32) (W : jW) : Option (Int32) :=
  some (kI (-1))
noncomputable def fpg_targetWord (t : Nat) (a1 : Int32) (W : jW) : Option (Int32) :=
  if (0 : Int32) < a1 then
    (gd (jC W t = 2) <|
  gd (jC W (jR W 201 t) = 4) <|
  (fsh_target (jR W 201 t) a1 W).bind fun q3 =>
  (fsh_isText (jR W 201 t) q3 W).bind fun q4 =>
  if q4 = (0 : Int32) then
    (fpg_targetWord_37 t a1 W)
  else
    ((fsh_target (jR W 201 t) a1 W).bind fun q5 => (fpg_wordAt t q5 W).bind fun q6 => some q6))
  else
    (fpg_targetWord_37 t a1 W)
abbrev fpg_leaders_S : Type := (Int32 × jW) ⊕ (Int32 × jW) ⊕ (Int32 × jW) ⊕ (Int32 × Int32 × jW)
noncomputable def fpg_leaders_126 (t : Nat) (l1 : Int32) (W : jW) : Option (fpg_leaders_S ⊕ (jW)) :=
  jlt (l1 + (kI 1)) fun v34 => some (.inl (.inr (.inl (v34, W))))
noncomputable def fpg_leaders_95 (t : Nat) (l1 : Int32) (W : jW) : Option (fpg_leaders_S ⊕ (jW)) :=
  gd (jC W t = 2) <|
  gd (jin l1 (jN W 205 t)) <|
  if (fwo_ends (jA W 205 t (ix l1))) = (0 : Int32) then
    (fpg_leaders_126 t l1 W)
  else
    (if (l1 + (kI 1)) < (jI W 203 t) then
    (gd (jin (l1 + (kI 1)) (jN W 208 t)) <| jlt (pA W 208 t (ix (l1 + (kI 1))) (i2z (kI 1))) fun W29 => fpg_leaders_126 t l1 W29)
  else
    (fpg_leaders_126 t l1 W))
noncomputable def fpg_leaders_84 (t : Nat) (l1 : Int32) (W : jW) : Option (fpg_leaders_S ⊕ (jW)) :=
  gd (jC W t = 2) <|
  (fpg_goal t l1 W).bind fun q37 =>
  gd (jin q37 (jN W 208 t)) <|
  jlt (pA W 208 t (ix q37) (i2z (kI 1))) fun W39 =>
  fpg_leaders_95 t l1 W39
noncomputable def fpg_leaders_226 (t : Nat) (l1 : Int32) (W : jW) : Option (fpg_leaders_S ⊕ (jW)) :=
  jlt (l1 + (kI 1)) fun v48 => some (.inl (.inr (.inr (.inl (v48, W)))))
noncomputable def fpg_leaders_220 (t : Nat) (l1 : Int32) (l2 : Int32) (W : jW) : Option (fpg_leaders_S ⊕ (jW)) :=
  jlt (l2 + (kI 1)) fun v64 => some (.inl (.inr (.inr (.inr (l1, v64, W)))))
noncomputable def fpg_leaders_205 (t : Nat) (l1 : Int32) (l2 : Int32) (s0 : Int32) (W : jW) : Option (fpg_leaders_S ⊕ (jW)) :=
  if s0 < (0 : Int32) then
    (fpg_leaders_220 t l1 l2 W)
  else
    (gd (jC W t = 2) <| gd (jin s0 (jN W 208 t)) <| jlt (pA W 208 t (ix s0) (i2z (kI 1))) fun W59 => fpg_leaders_220 t l1 l2 W59)
noncomputable def fpg_leaders_163 (t : Nat) (l1 : Int32) (l2 : Int32) (W : jW) : Option (fpg_leaders_S ⊕ (jW)) :=
  gd (jC W t = 2) <|
  gd (jC W (jR W 201 t) = 4) <|
  (fsh_fixCount (jR W 201 t) l1 W).bind fun q52 =>
  if l2 < q52 then
    ((fsh_fixAt (jR W 201 t) l1 l2 W).bind fun q53 =>
  (fsh_fixType (jR W 201 t) q53 W).bind fun q54 =>
  if q54 = (0 : Int32) then
    (fpg_leaders_205 t l1 l2 (kI (-1)) W)
  else
    ((fpg_targetWord t q53 W).bind fun q55 => fpg_leaders_205 t l1 l2 q55 W))
  else
    (fpg_leaders_226 t l1 W)
noncomputable def fpg_leaders_134 (t : Nat) (l1 : Int32) (W : jW) : Option (fpg_leaders_S ⊕ (jW)) :=
  gd (jC W t = 2) <|
  gd (jC W (jR W 201 t) = 4) <|
  if l1 < (jI W 403 (jR W 201 t)) then
    (gd (jin l1 (jN W 411 (jR W 201 t))) <|
  if (jA W 411 (jR W 201 t) (ix l1)) = (kI 4) then
    (some (.inl (.inr (.inr (.inr (l1, (kI 0), W))))))
  else
    (fpg_leaders_226 t l1 W))
  else
    (some (.inr W))
noncomputable def fpg_leaders_53 (t : Nat) (l1 : Int32) (W : jW) : Option (fpg_leaders_S ⊕ (jW)) :=
  gd (jC W t = 2) <|
  if l1 < (jI W 203 t) then
    (gd (jin l1 (jN W 205 t)) <|
  if (jA W 205 t (ix l1)) = (kI 12) then
    (fpg_leaders_84 t l1 W)
  else
    (gd (jin l1 (jN W 205 t)) <| if (fwo_isBranch (jA W 205 t (ix l1))) = (0 : Int32) then
    (fpg_leaders_95 t l1 W)
  else
    (fpg_leaders_84 t l1 W)))
  else
    (some (.inl (.inr (.inr (.inl ((kI 1), W))))))
noncomputable def fpg_leaders_19 (t : Nat) (l1 : Int32) (W : jW) : Option (fpg_leaders_S ⊕ (jW)) :=
  gd (jC W t = 2) <|
  gd (jC W (jR W 209 t) = 6) <|
  if l1 < (jI W 601 (jR W 209 t)) then
    (gd (jin l1 (jN W 600 (jR W 209 t))) <|
  gd (jin (jA W 600 (jR W 209 t) (ix l1)) (jN W 208 t)) <|
  jlt (pA W 208 t (ix (jA W 600 (jR W 209 t) (ix l1))) (i2z (kI 1))) fun W15 =>
  jlt (l1 + (kI 1)) fun v20 =>
  some (.inl (.inl (v20, W15))))
  else
    (some (.inl (.inr (.inl ((kI 0), W)))))
noncomputable def fpg_leaders_st (t : Nat) : fpg_leaders_S → Option (fpg_leaders_S ⊕ (jW)) :=
  (Sum.elim (fun s => fpg_leaders_19 t s.1 s.2) (Sum.elim (fun s => fpg_leaders_53 t s.1 s.2) (Sum.elim (fun s => fpg_leaders_134 t s.1 s.2) (fun s => fpg_leaders_163 t s.1 s.2.1 s.2.2))))
noncomputable def fpg_leaders_0 (t : Nat) (W : jW) : Option (fpg_leaders_S ⊕ (jW)) :=
  gd (jC W t = 2) <|
  gd (jC W (jR W 201 t) = 4) <|
  (fpg_wordAt t (jL W 404 (jR W 201 t)) W).bind fun q3 =>
  gd (jin q3 (jN W 208 t)) <|
  jlt (pA W 208 t (ix q3) (i2z (kI 1))) fun W5 =>
  some (.inl (.inl ((kI 0), W5)))
noncomputable def fpg_leaders (t : Nat) (W : jW) : Option (jW) :=
  jrn (fpg_leaders_st t) (fpg_leaders_0 t W)
noncomputable def fpg_wordsOf_28 (t : Nat) (a1 : Int32) (s0 : Int32) (W : jW) : Option (Int32) :=
  gd (jC W t = 2) <| gd (jC W (jR W 213 t) = 6) <| gd (jin a1 (jN W 600 (jR W 213 t))) <| some (s0 - (jA W 600 (jR W 213 t) (ix a1)))
noncomputable def fpg_wordsOf (t : Nat) (a1 : Int32) (W : jW) : Option (Int32) :=
  gd (jC W t = 2) <|
  if (a1 + (kI 1)) < (jI W 217 t) then
    (gd (jC W (jR W 213 t) = 6) <| gd (jin (a1 + (kI 1)) (jN W 600 (jR W 213 t))) <| fpg_wordsOf_28 t a1 (jA W 600 (jR W 213 t) (ix (a1 + (kI 1)))) W)
  else
    (fpg_wordsOf_28 t a1 (jI W 203 t) W)
noncomputable def fpg_lastWord (t : Nat) (a1 : Int32) (W : jW) : Option (Int32) :=
  gd (jC W t = 2) <|
  gd (jC W (jR W 213 t) = 6) <|
  gd (jin a1 (jN W 600 (jR W 213 t))) <|
  (fpg_wordsOf t a1 W).bind fun q4 =>
  some (((jA W 600 (jR W 213 t) (ix a1)) + q4) - (kI 1))
abbrev fpg_tellBlocks_S : Type := (Int32 × jW) ⊕ (Int32 × jW) ⊕ (Int32 × jW) ⊕ (Int32 × jW) ⊕ (Int32 × Int32 × jW)
noncomputable def fpg_tellBlocks_43 (t : Nat) (l1 : Int32) (W : jW) : Option (fpg_tellBlocks_S ⊕ (jW)) :=
  gd (jC W t = 2) <|
  gd (jC W (jR W 213 t) = 6) <|
  gd (jin l1 (jN W 206 t)) <|
  jlt (pA W 206 t (ix l1) ((jI W 601 (jR W 213 t)) - (kI 1))) fun W31 =>
  jlt (l1 + (kI 1)) fun v36 =>
  some (.inl (.inl (v36, W31)))
noncomputable def fpg_tellBlocks_281 (t : Nat) (l1 : Int32) (W : jW) : Option (fpg_tellBlocks_S ⊕ (jW)) :=
  jlt (l1 + (kI 1)) fun v87 => some (.inl (.inr (.inr (.inl (v87, W)))))
noncomputable def fpg_tellBlocks_258 (t : Nat) (l1 : Int32) (l2 : Int32) (l3 : Int32) (W : jW) : Option (fpg_tellBlocks_S ⊕ (jW)) :=
  if (fwo_goes l3) = (0 : Int32) then
    (fpg_tellBlocks_281 t l1 W)
  else
    (gd (jC W t = 2) <|
  (fpg_goal t l2 W).bind fun q79 =>
  gd (jin q79 (jN W 206 t)) <|
  gd (jin l1 (jN W 215 t)) <|
  jlt (pA W 215 t (ix l1) (jA W 206 t (ix q79))) fun W82 =>
  fpg_tellBlocks_281 t l1 W82)
noncomputable def fpg_tellBlocks_221 (t : Nat) (l1 : Int32) (l2 : Int32) (l3 : Int32) (s0 : Int32) (s1 : Int32) (s2 : Nat) (W : jW) : Option (fpg_tellBlocks_S ⊕ (jW)) :=
  gd (jR W 214 t = s2) <|
  gd (jin s1 (jN W 214 t)) <|
  jlt (pA W 214 t (ix s1) s0) fun W64 =>
  gd (jC W64 t = 2) <|
  gd (jin l1 (jN W64 214 t)) <|
  if (jA W64 214 t (ix l1)) = (kI 1) then
    ((fpg_goal t l2 W64).bind fun q69 =>
  gd (jin q69 (jN W64 212 t)) <|
  gd (jin l2 (jN W64 212 t)) <|
  if (jA W64 212 t (ix q69)) = (jA W64 212 t (ix l2)) then
    (fpg_tellBlocks_258 t l1 l2 l3 W64)
  else
    (gd (jin l1 (jN W64 214 t)) <| jlt (pA W64 214 t (ix l1) (kI 2)) fun W73 => fpg_tellBlocks_258 t l1 l2 l3 W73))
  else
    (fpg_tellBlocks_258 t l1 l2 l3 W64)
noncomputable def fpg_tellBlocks_405 (t : Nat) (l1 : Int32) (W : jW) : Option (fpg_tellBlocks_S ⊕ (jW)) :=
  jlt (l1 + (kI 1)) fun v112 => some (.inl (.inr (.inr (.inr (.inl (v112, W))))))
noncomputable def fpg_tellBlocks_399 (t : Nat) (l1 : Int32) (l2 : Int32) (W : jW) : Option (fpg_tellBlocks_S ⊕ (jW)) :=
  jlt (l2 + (kI 1)) fun v110 => some (.inl (.inr (.inr (.inr (.inr (l1, v110, W))))))
noncomputable def fpg_tellBlocks_379 (t : Nat) (l1 : Int32) (l2 : Int32) (s0 : Int32) (W : jW) : Option (fpg_tellBlocks_S ⊕ (jW)) :=
  if s0 < (0 : Int32) then
    (fpg_tellBlocks_399 t l1 l2 W)
  else
    (gd (jC W t = 2) <|
  gd (jin s0 (jN W 206 t)) <|
  gd (jin (jA W 206 t (ix s0)) (jN W 216 t)) <|
  jlt (pA W 216 t (ix (jA W 206 t (ix s0))) (i2z (kI 1))) fun W105 =>
  fpg_tellBlocks_399 t l1 l2 W105)
noncomputable def fpg_tellBlocks_337 (t : Nat) (l1 : Int32) (l2 : Int32) (W : jW) : Option (fpg_tellBlocks_S ⊕ (jW)) :=
  gd (jC W t = 2) <|
  gd (jC W (jR W 201 t) = 4) <|
  (fsh_fixCount (jR W 201 t) l1 W).bind fun q97 =>
  if l2 < q97 then
    ((fsh_fixAt (jR W 201 t) l1 l2 W).bind fun q98 =>
  (fsh_fixType (jR W 201 t) q98 W).bind fun q99 =>
  if q99 = (0 : Int32) then
    (fpg_tellBlocks_379 t l1 l2 (kI (-1)) W)
  else
    ((fpg_targetWord t q98 W).bind fun q100 => fpg_tellBlocks_379 t l1 l2 q100 W))
  else
    (fpg_tellBlocks_405 t l1 W)
noncomputable def fpg_tellBlocks_289 (t : Nat) (l1 : Int32) (W : jW) : Option (fpg_tellBlocks_S ⊕ (jW)) :=
  gd (jC W t = 2) <|
  gd (jC W (jR W 201 t) = 4) <|
  if l1 < (jI W 403 (jR W 201 t)) then
    (gd (jin l1 (jN W 411 (jR W 201 t))) <|
  if (jA W 411 (jR W 201 t) (ix l1)) = (kI 4) then
    (gd (jin l1 (jN W 417 (jR W 201 t))) <|
  (fsh_isData (jR W 201 t) (jA W 417 (jR W 201 t) (ix l1)) W).bind fun q93 =>
  if q93 = (0 : Int32) then
    (fpg_tellBlocks_405 t l1 W)
  else
    (some (.inl (.inr (.inr (.inr (.inr (l1, (kI 0), W))))))))
  else
    (fpg_tellBlocks_405 t l1 W))
  else
    (some (.inr W))
noncomputable def fpg_tellBlocks_117 (t : Nat) (l1 : Int32) (W : jW) : Option (fpg_tellBlocks_S ⊕ (jW)) :=
  gd (jC W t = 2) <|
  if l1 < (jI W 217 t) then
    (gd (jin l1 (jN W 216 t)) <|
  jlt (pA W 216 t (ix l1) (i2z (kI 0))) fun W49 =>
  gd (jin l1 (jN W49 215 t)) <|
  jlt (pA W49 215 t (ix l1) (kI (-1))) fun W54 =>
  (fpg_lastWord t l1 W54).bind fun q58 =>
  gd (jin q58 (jN W54 205 t)) <|
  jlt (jA W54 205 t (ix q58)) fun v60 =>
  if v60 = (kI 12) then
    (fpg_tellBlocks_221 t l1 q58 v60 (kI 1) l1 (jR W54 214 t) W54)
  else
    (if (fwo_isBranch v60) = (0 : Int32) then
      (if v60 = (kI 13) then
        (fpg_tellBlocks_221 t l1 q58 v60 (kI 4) l1 (jR W54 214 t) W54)
      else
        (if v60 = (kI 18) then
          (fpg_tellBlocks_221 t l1 q58 v60 (kI 5) l1 (jR W54 214 t) W54)
        else
          (if v60 = (kI 17) then
            (fpg_tellBlocks_221 t l1 q58 v60 (kI 6) l1 (jR W54 214 t) W54)
          else
            (if v60 = (kI 19) then
              (fpg_tellBlocks_221 t l1 q58 v60 (kI 7) l1 (jR W54 214 t) W54)
            else
              (fpg_tellBlocks_221 t l1 q58 v60 (kI 0) l1 (jR W54 214 t) W54)))))
    else
      (fpg_tellBlocks_221 t l1 q58 v60 (kI 3) l1 (jR W54 214 t) W54)))
  else
    (some (.inl (.inr (.inr (.inr (.inl ((kI 1), W)))))))
noncomputable def fpg_tellBlocks_77 (t : Nat) (l1 : Int32) (W : jW) : Option (fpg_tellBlocks_S ⊕ (jW)) :=
  gd (jC W t = 2) <|
  gd (jC W (jR W 209 t) = 6) <|
  if l1 < (jI W 601 (jR W 209 t)) then
    (gd (jin l1 (jN W 600 (jR W 209 t))) <|
  gd (jin (jA W 600 (jR W 209 t) (ix l1)) (jN W 206 t)) <|
  gd (jC W (jR W 211 t) = 6) <|
  (fro_add (jR W 211 t) (jA W 206 t (ix (jA W 600 (jR W 209 t) (ix l1)))) W).bind fun q43 =>
  jlt (l1 + (kI 1)) fun v45 =>
  some (.inl (.inr (.inl (v45, q43)))))
  else
    (some (.inl (.inr (.inr (.inl ((kI 0), W))))))
noncomputable def fpg_tellBlocks_18 (t : Nat) (l1 : Int32) (W : jW) : Option (fpg_tellBlocks_S ⊕ (jW)) :=
  gd (jC W t = 2) <|
  if l1 < (jI W 203 t) then
    (gd (jin l1 (jN W 208 t)) <|
  if (jA W 208 t (ix l1)) = (0 : Int32) then
    (fpg_tellBlocks_43 t l1 W)
  else
    (gd (jC W (jR W 213 t) = 6) <| (fro_add (jR W 213 t) l1 W).bind fun q25 => fpg_tellBlocks_43 t l1 q25))
  else
    (gd (jC W (jR W 213 t) = 6) <| jlt (sI W 217 t (jI W 601 (jR W 213 t))) fun W18 => some (.inl (.inr (.inl ((kI 0), W18)))))
noncomputable def fpg_tellBlocks_st (t : Nat) : fpg_tellBlocks_S → Option (fpg_tellBlocks_S ⊕ (jW)) :=
  (Sum.elim (fun s => fpg_tellBlocks_18 t s.1 s.2) (Sum.elim (fun s => fpg_tellBlocks_77 t s.1 s.2) (Sum.elim (fun s => fpg_tellBlocks_117 t s.1 s.2) (Sum.elim (fun s => fpg_tellBlocks_289 t s.1 s.2) (fun s => fpg_tellBlocks_337 t s.1 s.2.1 s.2.2)))))
noncomputable def fpg_tellBlocks_0 (t : Nat) (W : jW) : Option (fpg_tellBlocks_S ⊕ (jW)) :=
  gd (jC W t = 2) <|
  gd (jC W (jR W 213 t) = 6) <|
  jlt (sI W 601 (jR W 213 t) (kI 0)) fun W3 =>
  gd (jC W3 (jR W3 211 t) = 6) <|
  jlt (sI W3 601 (jR W3 211 t) (kI 0)) fun W9 =>
  some (.inl (.inl ((kI 0), W9)))
noncomputable def fpg_tellBlocks (t : Nat) (W : jW) : Option (jW) :=
  jrn (fpg_tellBlocks_st t) (fpg_tellBlocks_0 t W)
