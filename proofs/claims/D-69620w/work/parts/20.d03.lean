/-! ===== pure functions: fmo_sort fwn_settle fwn_turned fwn_aimed fwn_jump fmo_signed fmo_far fwn_word fhd_num fmo_fixType fhd_symbol fmo_target fhd_isIn fwn_newWord fwn_fixed fwn_whole fwn_isGone frn_init fhd_what fhd_head fhd_aim fmo_newAddress frn_put frn_prepare frn_textWords frn_inText fmo_blockUnder fmo_blockAtNew fmo_newWordAt frn_make frn_isCodeOrStack frn_below frn_sum frn_addNumber frn_isCode frn_r frn_shifted frn_set frn_copy frn_and frn_move fmo_page frn_adrp frn_two frn_twoWords frn_holds frn_choose frn_hits frn_isWhole frn_at frn_hasCode frn_stopsLoad frn_stopsStore frn_faultsLoad frn_isWritable frn_faultsStore frn_get frn_loaded frn_load frn_store frn_pair frn_moveOne frn_work frn_returnHere fmo_isPlace frn_goesTo frn_call frn_goes frn_runOne frn_step frn_go fhd_init fmo_init fmo_four fmo_feed fmo_end fhd_is fhd_has fhd_big fhd_begins ===== -/
set_option maxRecDepth 100000
noncomputable def fmo_sort_46 (a0 : Int32) : Int32 :=
  (kI 0)
noncomputable def fmo_sort_109 (a0 : Int32) : Int32 :=
  (kI 4)
noncomputable def fmo_sort_113 (a0 : Int32) : Int32 :=
  (kI 0)
noncomputable def fmo_sort_184 (a0 : Int32) : Int32 :=
  (kI 7)
noncomputable def fmo_sort_189 (a0 : Int32) : Int32 :=
  (kI 0)
noncomputable def fmo_sort (a0 : Int32) : Int32 :=
  if (fmo_fits a0 (kI 528482304) (kI 285212672)) = (0 : Int32) then
    (if (fmo_fits a0 (kI 522190848) (kI 184549376)) = (0 : Int32) then
      (if (fmo_fits a0 (kI 520093696) (kI 167772160)) = (0 : Int32) then
        (if (fmo_fits a0 (kI 528482304) (kI 310378496)) = (0 : Int32) then
          (if (fmo_fits a0 (kI (-1627389952)) (kI (-1879048192))) = (0 : Int32) then
            (if (fmo_fits a0 (kI 2145386496) (kI 452984832)) = (0 : Int32) then
              (if (fmo_fits a0 (kI 2145386496) (kI 448790528)) = (0 : Int32) then
                (if (fmo_fits a0 (kI 2145388544) (kI 444596224)) = (0 : Int32) then
                  (if (fmo_fits a0 (kI 1056964608) (kI 956301312)) = (0 : Int32) then
                    (if (fmo_fits a0 (kI 1059122176) (kI 941647872)) = (0 : Int32) then
                      (if (fmo_fits a0 (kI (-33554432)) (kI (-1476395008))) = (0 : Int32) then
                        (if (fmo_fits a0 (kI (-67108864)) (kI 335544320)) = (0 : Int32) then
                          (if (fmo_fits a0 (kI (-67108864)) (kI (-1811939328))) = (0 : Int32) then
                            (if (fmo_fits a0 (kI (-16777200)) (kI 1409286144)) = (0 : Int32) then
                              (if (fmo_fits a0 (kI 2113929216) (kI 872415232)) = (0 : Int32) then
                                (if (fmo_fits a0 (kI 2113929216) (kI 905969664)) = (0 : Int32) then
                                  (if (fmo_fits a0 (kI (-993)) (kI (-702611456))) = (0 : Int32) then
                                    (if (fmo_fits a0 (kI (-993)) (kI (-700514304))) = (0 : Int32) then
                                      (if (fmo_fits a0 (kI (-993)) (kI (-698417152))) = (0 : Int32) then
                                        (if (fmo_fits a0 (kI (-2097121)) (kI (-738197503))) = (0 : Int32) then
                                          (if a0 = (kI (-721215457)) then
                                            ((kI 21))
                                          else
                                            ((kI 0)))
                                        else
                                          ((kI 20)))
                                      else
                                        ((kI 19)))
                                    else
                                      ((kI 18)))
                                  else
                                    ((kI 17)))
                                else
                                  ((kI 16)))
                              else
                                ((kI 15)))
                            else
                              (if (fmo_bits a0 (kI 0) (kI 4)) < (kI 14) then
                              ((kI 14))
                            else
                              ((kI 0))))
                          else
                            ((kI 13)))
                        else
                          ((kI 12)))
                      else
                        (if (fmo_isPair a0) = (0 : Int32) then
                        ((kI 0))
                      else
                        ((kI 11))))
                    else
                      (if (fmo_isLoad a0) = (0 : Int32) then
                      ((kI 0))
                    else
                      ((kI 10))))
                  else
                    (if (fmo_isLoad a0) = (0 : Int32) then
                    ((kI 0))
                  else
                    ((kI 9))))
                else
                  (if (fmo_bits a0 (kI 12) (kI 4)) < (kI 14) then
                  ((kI 8))
                else
                  ((kI 0))))
              else
                (jlt (fmo_bits a0 (kI 10) (kI 6)) fun v1 =>
              if v1 = (kI 2) then
                (fmo_sort_184 a0)
              else
                (if v1 = (kI 3) then
                (fmo_sort_184 a0)
              else
                (if v1 < (kI 8) then
                (fmo_sort_189 a0)
              else
                (if (kI 10) < v1 then
                (fmo_sort_189 a0)
              else
                (fmo_sort_184 a0))))))
            else
              ((kI 6)))
          else
            ((kI 5)))
        else
          (if (fmo_bits a0 (kI 29) (kI 2)) = (kI 1) then
          (fmo_sort_113 a0)
        else
          (if a0 < (0 : Int32) then
          (fmo_sort_109 a0)
        else
          (if (fmo_bits a0 (kI 21) (kI 2)) < (kI 2) then
          (fmo_sort_109 a0)
        else
          (fmo_sort_113 a0)))))
      else
        (if (fmo_isMoved a0) = (0 : Int32) then
        ((kI 0))
      else
        ((kI 3))))
    else
      (if (fmo_bits a0 (kI 22) (kI 2)) < (kI 3) then
      (if (fmo_isMoved a0) = (0 : Int32) then
      (fmo_sort_46 a0)
    else
      ((kI 2)))
    else
      (fmo_sort_46 a0)))
  else
    ((kI 1))
abbrev fwn_settle_S : Type := (Int32 × jW) ⊕ (Int32 × Int32 × jW)
noncomputable def fwn_settle_162 (t : Nat) (a1 : Int64) (l3 : Int32) (l4 : Int32) (W : jW) : Option (fwn_settle_S ⊕ (jW)) :=
  jlt (l4 + (kI 1)) fun v30 => some (.inl (.inr (l3, v30, W)))
noncomputable def fwn_settle_142 (t : Nat) (a1 : Int64) (l4 : Int32) (W : jW) : Option (fwn_settle_S ⊕ (jW)) :=
  gd (jC W t = 15) <|
  gd (jin l4 (jN W 1505 t)) <|
  jlt (pA W 1505 t (ix l4) (i2z (kI 1))) fun W21 =>
  jlt (sI W21 1510 t ((jI W21 1510 t) + (kI 1))) fun W25 =>
  fwn_settle_162 t a1 (kI 1) l4 W25
noncomputable def fwn_settle_122 (t : Nat) (a1 : Int64) (l3 : Int32) (l4 : Int32) (l5 : Int32) (s0 : Int32) (W : jW) : Option (fwn_settle_S ⊕ (jW)) :=
  if l5 < (-s0) then
    (fwn_settle_142 t a1 l4 W)
  else
    (if l5 < s0 then
    (fwn_settle_162 t a1 l3 l4 W)
  else
    (fwn_settle_142 t a1 l4 W))
noncomputable def fwn_settle_16 (t : Nat) (a1 : Int64) (l3 : Int32) (l4 : Int32) (W : jW) : Option (fwn_settle_S ⊕ (jW)) :=
  gd (jC W t = 15) <|
  gd (jC W (jR W 1500 t) = 13) <|
  if l4 < (jI W 1312 (jR W 1500 t)) then
    (gd (jin l4 (jN W 1325 (jR W 1500 t))) <|
  if (jA W 1325 (jR W 1500 t) (ix l4)) = (kI 3) then
    (gd (jin l4 (jN W 1505 t)) <|
  if (jA W 1505 t (ix l4)) = (0 : Int32) then
    ((fwn_goal t l4 W).bind fun q10 =>
    gd (jin q10 (jN W 1503 t)) <|
    gd (jin l4 (jN W 1503 t)) <|
    gd (jin l4 (jN W 1323 (jR W 1500 t))) <|
    jlt ((jA W 1503 t (ix q10)) - (((jA W 1503 t (ix l4)) + (jA W 1323 (jR W 1500 t) (ix l4))) - (kI 1))) fun v14 =>
    (fmo_last (jR W 1500 t) l4 W).bind fun q15 =>
    gd (jin q15 (jN W 1315 (jR W 1500 t))) <|
    if (fmo_sort (jA W 1315 (jR W 1500 t) (ix q15))) = (kI 16) then
      (fwn_settle_122 t a1 l3 l4 v14 (kI 8192) W)
    else
      (fwn_settle_122 t a1 l3 l4 v14 (kI 262144) W))
  else
    (fwn_settle_162 t a1 l3 l4 W))
  else
    (fwn_settle_162 t a1 l3 l4 W))
  else
    (some (.inl (.inl (l3, W))))
noncomputable def fwn_settle_2 (t : Nat) (a1 : Int64) (l3 : Int32) (W : jW) : Option (fwn_settle_S ⊕ (jW)) :=
  if l3 = (0 : Int32) then
    (some (.inr W))
  else
    (gd (jC W t = 15) <| (fwn_putAll t a1 W).bind fun q3 => some (.inl (.inr ((kI 0), (kI 0), q3))))
noncomputable def fwn_settle_st (t : Nat) (a1 : Int64) : fwn_settle_S → Option (fwn_settle_S ⊕ (jW)) :=
  (Sum.elim (fun s => fwn_settle_2 t a1 s.1 s.2) (fun s => fwn_settle_16 t a1 s.1 s.2.1 s.2.2))
noncomputable def fwn_settle_0 (t : Nat) (a1 : Int64) (W : jW) : Option (fwn_settle_S ⊕ (jW)) :=
  some (.inl (.inl ((kI 1), W)))
noncomputable def fwn_settle (t : Nat) (a1 : Int64) (W : jW) : Option (jW) :=
  jrn (fwn_settle_st t a1) (fwn_settle_0 t a1 W)
noncomputable def fwn_turned (t : Nat) (a1 : Int32) : Int32 :=
  if (fmo_sort a1) = (kI 14) then
    ((a1 ^^^ (kI 1)))
  else
    ((a1 ^^^ (kI 16777216)))
noncomputable def fwn_aimed_80 (t : Nat) (a1 : Int32) (a2 : Int32) (l4 : Int32) (s0 : Int32) (W : jW) : Option (Int32 × jW) :=
  jlt (ixl ((ixl (kI 1) l4) - (kI 1)) s0) fun v5 => some (((a1 &&& (v5 ^^^ (kI (-1)))) ||| ((ixl a2 s0) &&& v5)), W)
noncomputable def fwn_aimed_68 (t : Nat) (a1 : Int32) (a2 : Int32) (l4 : Int32) (W : jW) : Option (Int32 × jW) :=
  if l4 = (kI 26) then
    (fwn_aimed_80 t a1 a2 l4 (kI 0) W)
  else
    (fwn_aimed_80 t a1 a2 l4 (kI 5) W)
noncomputable def fwn_aimed_58 (t : Nat) (a1 : Int32) (a2 : Int32) (l4 : Int32) (W : jW) : Option (Int32 × jW) :=
  gd (jC W t = 15) <| jlt (sI W 1509 t ((jI W 1509 t) + (kI 1))) fun W8 => fwn_aimed_68 t a1 a2 l4 W8
noncomputable def fwn_aimed_35 (t : Nat) (a1 : Int32) (a2 : Int32) (s0 : Int32) (W : jW) : Option (Int32 × jW) :=
  if a2 < (-(ixl (kI 1) (s0 - (kI 1)))) then
    (fwn_aimed_58 t a1 a2 s0 W)
  else
    (if a2 < (ixl (kI 1) (s0 - (kI 1))) then
    (fwn_aimed_68 t a1 a2 s0 W)
  else
    (fwn_aimed_58 t a1 a2 s0 W))
noncomputable def fwn_aimed_17 (t : Nat) (a1 : Int32) (a2 : Int32) (W : jW) : Option (Int32 × jW) :=
  fwn_aimed_35 t a1 a2 (kI 26) W
noncomputable def fwn_aimed (t : Nat) (a1 : Int32) (a2 : Int32) (W : jW) : Option (Int32 × jW) :=
  jlt (fmo_sort a1) fun v1 =>
  if v1 = (kI 12) then
    (fwn_aimed_17 t a1 a2 W)
  else
    (if v1 = (kI 13) then
    (fwn_aimed_17 t a1 a2 W)
  else
    (if v1 = (kI 16) then
      (fwn_aimed_35 t a1 a2 (kI 14) W)
    else
      (fwn_aimed_35 t a1 a2 (kI 19) W)))
noncomputable def fwn_jump (t : Nat) (a1 : Int32) (a2 : Int32) (W : jW) : Option (Int32 × jW) :=
  gd (jC W t = 15) <| gd (jin a2 (jN W 1503 t)) <| (fwn_aimed t (kI 335544320) ((jA W 1503 t (ix a2)) - a1) W).bind fun q3 => some (q3.1, q3.2)
noncomputable def fmo_signed (a0 : Int32) (a1 : Int32) (a2 : Int32) : Int32 :=
  (ixr (ixl a0 (((kI 32) - a1) - a2)) ((kI 32) - a2))
noncomputable def fmo_far_12 (a0 : Int32) (a1 : Int32) : Int32 :=
  (fmo_signed a0 (kI 0) (kI 26))
noncomputable def fmo_far (a0 : Int32) (a1 : Int32) : Int32 :=
  if a1 = (kI 12) then
    (fmo_far_12 a0 a1)
  else
    (if a1 = (kI 13) then
    (fmo_far_12 a0 a1)
  else
    (if a1 = (kI 16) then
      ((fmo_signed a0 (kI 5) (kI 14)))
    else
      ((fmo_signed a0 (kI 5) (kI 19)))))
noncomputable def fwn_word_159 (t : Nat) (a1 : Int32) (a2 : Int32) (s0 : Int32) (s1 : Int32) (s2 : Nat) (W : jW) : Option (Int32 × jW) :=
  gd (jC W s2 = 15) <| (fwn_aimed s2 s1 s0 W).bind fun q38 => some (q38.1, q38.2)
noncomputable def fwn_word_133 (t : Nat) (a1 : Int32) (a2 : Int32) (l4 : Int32) (s0 : Int32) (s1 : Nat) (W : jW) : Option (Int32 × jW) :=
  gd (jC W t = 15) <|
  gd (jin a1 (jN W 1505 t)) <|
  if (jA W 1505 t (ix a1)) = (0 : Int32) then
    ((fwn_goal t a1 W).bind fun q34 => gd (jin q34 (jN W 1503 t)) <| fwn_word_159 t a1 a2 ((jA W 1503 t (ix q34)) - l4) s0 s1 W)
  else
    (fwn_word_159 t a1 a2 (kI 2) s0 s1 W)
noncomputable def fwn_word_114 (t : Nat) (a1 : Int32) (a2 : Int32) (l4 : Int32) (l5 : Int32) (s0 : Int32) (W : jW) : Option (Int32 × jW) :=
  if s0 = (0 : Int32) then
    (fwn_word_133 t a1 a2 l4 l5 t W)
  else
    (gd (jC W t = 15) <| fwn_word_133 t a1 a2 l4 (fwn_turned t l5) t W)
noncomputable def fwn_word_100 (t : Nat) (a1 : Int32) (a2 : Int32) (l4 : Int32) (l5 : Int32) (s0 : Int32) (W : jW) : Option (Int32 × jW) :=
  gd (jC W t = 15) <|
  gd (jin a1 (jN W 1505 t)) <|
  if s0 = (jA W 1505 t (ix a1)) then
    (fwn_word_114 t a1 a2 l4 l5 (kI 0) W)
  else
    (fwn_word_114 t a1 a2 l4 l5 (kI 1) W)
noncomputable def fwn_word_191 (t : Nat) (a1 : Int32) (a2 : Int32) (s0 : Int32) (s1 : Int32) (s2 : Nat) (W : jW) : Option (Int32 × jW) :=
  gd (jC W s2 = 15) <| (fwn_jump s2 s1 s0 W).bind fun q42 => some (q42.1, q42.2)
noncomputable def fwn_word_188 (t : Nat) (a1 : Int32) (a2 : Int32) (s0 : Int32) (s1 : Nat) (W : jW) : Option (Int32 × jW) :=
  fwn_word_191 t a1 a2 (a1 + (kI 1)) s0 s1 W
noncomputable def fwn_word_285 (t : Nat) (a1 : Int32) (a2 : Int32) (l4 : Int32) (l5 : Int32) (W : jW) : Option (Int32 × jW) :=
  gd (jC W t = 15) <|
  gd (jC W (jR W 1500 t) = 13) <|
  (fmo_last (jR W 1500 t) a1 W).bind fun q48 =>
  gd (jin (q48 + (fmo_far l5 (fmo_sort l5))) (jN W 1317 (jR W 1500 t))) <|
  gd (jin (jA W 1317 (jR W 1500 t) (ix (q48 + (fmo_far l5 (fmo_sort l5))))) (jN W 1503 t)) <|
  (fwn_aimed t l5 ((jA W 1503 t (ix (jA W 1317 (jR W 1500 t) (ix (q48 + (fmo_far l5 (fmo_sort l5))))))) - l4) W).bind fun q51 =>
  some (q51.1, q51.2)
noncomputable def fwn_word (t : Nat) (a1 : Int32) (a2 : Int32) (W : jW) : Option (Int32 × jW) :=
  gd (jC W t = 15) <|
  gd (jC W (jR W 1500 t) = 13) <|
  gd (jin a1 (jN W 1323 (jR W 1500 t))) <|
  jlt (jA W 1323 (jR W 1500 t) (ix a1)) fun v4 =>
  gd (jin a1 (jN W 1503 t)) <|
  jlt ((jA W 1503 t (ix a1)) + a2) fun v6 =>
  if a2 < (v4 - (kI 1)) then
    (gd (jin a1 (jN W 1322 (jR W 1500 t))) <|
  gd (jin ((jA W 1322 (jR W 1500 t) (ix a1)) + a2) (jN W 1315 (jR W 1500 t))) <|
  some ((jA W 1315 (jR W 1500 t) (ix ((jA W 1322 (jR W 1500 t) (ix a1)) + a2))), W))
  else
    ((fmo_last (jR W 1500 t) a1 W).bind fun q7 =>
    gd (jin q7 (jN W 1315 (jR W 1500 t))) <|
    jlt (jA W 1315 (jR W 1500 t) (ix q7)) fun v9 =>
    gd (jin a1 (jN W 1325 (jR W 1500 t))) <|
    if (jA W 1325 (jR W 1500 t) (ix a1)) = (kI 3) then
      (if a2 = (v4 - (kI 1)) then
      (gd (jin a1 (jN W 1504 t)) <|
    if (jA W 1504 t (ix a1)) = (kI 2) then
      (fwn_word_100 t a1 a2 v6 v9 (kI 1) W)
    else
      (fwn_word_100 t a1 a2 v6 v9 (kI 0) W))
    else
      (gd (jin a1 (jN W 1505 t)) <|
      if (jA W 1505 t (ix a1)) = (0 : Int32) then
        (fwn_word_188 t a1 a2 v6 t W)
      else
        (if a2 = v4 then
        ((fwn_goal t a1 W).bind fun q22 => fwn_word_191 t a1 a2 q22 v6 t W)
      else
        (fwn_word_188 t a1 a2 v6 t W))))
    else
      (gd (jin a1 (jN W 1504 t)) <|
      if (jA W 1504 t (ix a1)) = (kI 1) then
        (some ((kI 0), W))
      else
        (if a2 = v4 then
          ((fwn_jump t v6 (a1 + (kI 1)) W).bind fun q19 => some (q19.1, q19.2))
        else
          (gd (jin a1 (jN W 1325 (jR W 1500 t))) <|
          if (jA W 1325 (jR W 1500 t) (ix a1)) = (kI 1) then
            (gd (jin a1 (jN W 1326 (jR W 1500 t))) <|
          gd (jin (jA W 1326 (jR W 1500 t) (ix a1)) (jN W 1503 t)) <|
          (fwn_aimed t v9 ((jA W 1503 t (ix (jA W 1326 (jR W 1500 t) (ix a1)))) - v6) W).bind fun q17 =>
          some (q17.1, q17.2))
          else
            (gd (jin a1 (jN W 1325 (jR W 1500 t))) <|
            if (jA W 1325 (jR W 1500 t) (ix a1)) = (kI 2) then
              (fwn_word_285 t a1 a2 v6 v9 W)
            else
              (gd (jin a1 (jN W 1325 (jR W 1500 t))) <|
            if (jA W 1325 (jR W 1500 t) (ix a1)) = (kI 4) then
              (fwn_word_285 t a1 a2 v6 v9 W)
            else
              (some (v9, W))))))))
abbrev fhd_num_S : Type := (Int64 × Int32)
noncomputable def fhd_num_8 (t : Nat) (a1 : Int64) (a3 : Int32) (l4 : Int64) (l6 : Int32) (W : jW) : Option (fhd_num_S ⊕ (Int64)) :=
  if l6 < (0 : Int32) then
    (some (.inr l4))
  else
    (gd (jC W t = 14) <|
  gd (jR W 9004 (jR W 1400 t) = (jR W 1400 t)) <|
  gd (jin (a1.toInt32 + l6) (jN W 9004 (jR W 1400 t))) <|
  jlt ((lxl l4 (kI 8)) ||| (((jA W 9004 (jR W 1400 t) (ix (a1.toInt32 + l6))) &&& (kI 255)).toInt64)) fun v6 =>
  jlt (l6 + (kI (-1))) fun v7 =>
  some (.inl (v6, v7)))
noncomputable def fhd_num_st (t : Nat) (a1 : Int64) (a3 : Int32) (W : jW) : fhd_num_S → Option (fhd_num_S ⊕ (Int64)) :=
  (fun s => fhd_num_8 t a1 a3 s.1 s.2 W)
noncomputable def fhd_num_0 (t : Nat) (a1 : Int64) (a3 : Int32) (W : jW) : Option (fhd_num_S ⊕ (Int64)) :=
  jlt (a3 - (kI 1)) fun v1 => some (.inl ((kJ 0), v1))
noncomputable def fhd_num (t : Nat) (a1 : Int64) (a3 : Int32) (W : jW) : Option (Int64) :=
  jrn (fhd_num_st t a1 a3 W) (fhd_num_0 t a1 a3 W)
noncomputable def fmo_fixType (t : Nat) (a1 : Int64) (W : jW) : Option (Int32) :=
  gd (jC W t = 13) <| gd (jC W (jR W 1305 t) = 14) <| (fhd_num (jR W 1305 t) (a1 + (kJ 8)) (kI 4) W).bind fun q3 => some q3.toInt32
noncomputable def fhd_symbol (t : Nat) (a1 : Int32) (W : jW) : Option (Int64) :=
  gd (jC W t = 14) <| gd (jin (jI W 1416 t) (jN W 1412 t)) <| some ((jB W 1412 t (ix (jI W 1416 t))) + ((kJ 24) * a1.toInt64))
noncomputable def fmo_target (t : Nat) (a1 : Int64) (W : jW) : Option (Int64) :=
  gd (jC W t = 13) <|
  gd (jC W (jR W 1305 t) = 14) <|
  (fhd_num (jR W 1305 t) (a1 + (kJ 12)) (kI 4) W).bind fun q3 =>
  (fhd_symbol (jR W 1305 t) q3.toInt32 W).bind fun q4 =>
  (fhd_num (jR W 1305 t) (q4 + (kJ 8)) (kI 8) W).bind fun q5 =>
  (fhd_num (jR W 1305 t) (a1 + (kJ 16)) (kI 8) W).bind fun q6 =>
  some (q5 + q6)
noncomputable def fhd_isIn_42 (t : Nat) (a1 : Int64) (W : jW) : Option (Int32) :=
  some (kI 0)
noncomputable def fhd_isIn (t : Nat) (a1 : Int64) (W : jW) : Option (Int32) :=
  gd (jC W t = 14) <|
  gd (jin (jI W 1415 t) (jN W 1413 t)) <|
  if a1 < (jB W 1413 t (ix (jI W 1415 t))) then
    (fhd_isIn_42 t a1 W)
  else
    (gd (jin (jI W 1415 t) (jN W 1413 t)) <|
  gd (jin (jI W 1415 t) (jN W 1414 t)) <|
  if a1 < ((jB W 1413 t (ix (jI W 1415 t))) + (jB W 1414 t (ix (jI W 1415 t)))) then
    (some (kI 1))
  else
    (fhd_isIn_42 t a1 W))
noncomputable def fwn_newWord (t : Nat) (a1 : Int32) (W : jW) : Option (Int32) :=
  gd (jC W t = 15) <|
  gd (jC W (jR W 1500 t) = 13) <|
  gd (jin a1 (jN W 1317 (jR W 1500 t))) <|
  gd (jin (jA W 1317 (jR W 1500 t) (ix a1)) (jN W 1503 t)) <|
  gd (jin a1 (jN W 1317 (jR W 1500 t))) <|
  gd (jin (jA W 1317 (jR W 1500 t) (ix a1)) (jN W 1322 (jR W 1500 t))) <|
  some (((jA W 1503 t (ix (jA W 1317 (jR W 1500 t) (ix a1)))) + a1) - (jA W 1322 (jR W 1500 t) (ix (jA W 1317 (jR W 1500 t) (ix a1)))))
noncomputable def fwn_fixed_197 (t : Nat) (a1 : Int32) (a2 : Int32) (l8 : Int64) (W : jW) : Option (Int32 × jW) :=
  some ((((a2 &&& (kI (-1627389921))) ||| (ixl ((l8 &&& (kJ 3)).toInt32) (kI 29))) ||| (ixl (((lxr l8 (kI 2)) &&& (kJ 524287)).toInt32) (kI 5))), W)
noncomputable def fwn_fixed_187 (t : Nat) (a1 : Int32) (a2 : Int32) (l8 : Int64) (W : jW) : Option (Int32 × jW) :=
  gd (jC W t = 15) <| jlt (sI W 1509 t ((jI W 1509 t) + (kI 1))) fun W22 => fwn_fixed_197 t a1 a2 l8 W22
noncomputable def fwn_fixed_107 (t : Nat) (a1 : Int32) (a2 : Int32) (l4 : Int32) (l5 : Int64) (l7 : Int32) (W : jW) : Option (Int32 × jW) :=
  if l4 = (kI 277) then
    (if l7 = (0 : Int32) then
    (some (a2, W))
  else
    (some (((a2 &&& (kI (-4193281))) ||| (ixl ((l5 &&& (kJ 4095)).toInt32) (kI 10))), W)))
  else
    (gd (jC W t = 15) <|
    gd (jC W (jR W 1500 t) = 13) <|
    (fwn_newWord t a1 W).bind fun q17 =>
    jlt ((lxr l5 (kI 12)) - (lxr ((jL W 1313 (jR W 1500 t)) + ((kJ 4) * q17.toInt64)) (kI 12))) fun v18 =>
    if v18 < (kJ (-1048576)) then
      (fwn_fixed_187 t a1 a2 v18 W)
    else
      (if (kJ 1048575) < v18 then
      (fwn_fixed_187 t a1 a2 v18 W)
    else
      (fwn_fixed_197 t a1 a2 v18 W)))
noncomputable def fwn_fixed_45 (t : Nat) (a1 : Int32) (a2 : Int32) (l3 : Int32) (l4 : Int32) (W : jW) : Option (Int32 × jW) :=
  gd (jC W t = 15) <|
  gd (jC W (jR W 1500 t) = 13) <|
  (fmo_target (jR W 1500 t) l3.toInt64 W).bind fun q9 =>
  gd (jC W (jR W 1305 (jR W 1500 t)) = 14) <|
  (fhd_isIn (jR W 1305 (jR W 1500 t)) q9 W).bind fun q11 =>
  if q11 = (0 : Int32) then
    (fwn_fixed_107 t a1 a2 l4 q9 q11 W)
  else
    ((fwn_newWord t (((q9 - (jL W 1313 (jR W 1500 t))).toInt32) / (kI 4)) W).bind fun q12 =>
  jlt ((jL W 1313 (jR W 1500 t)) + ((kJ 4) * q12.toInt64)) fun v13 =>
  fwn_fixed_107 t a1 a2 l4 v13 q11 W)
noncomputable def fwn_fixed (t : Nat) (a1 : Int32) (a2 : Int32) (W : jW) : Option (Int32 × jW) :=
  gd (jC W t = 15) <|
  gd (jC W (jR W 1500 t) = 13) <|
  gd (jin a1 (jN W 1316 (jR W 1500 t))) <|
  jlt (jA W 1316 (jR W 1500 t) (ix a1)) fun v4 =>
  if v4 < (0 : Int32) then
    (some (a2, W))
  else
    ((fmo_fixType (jR W 1500 t) v4.toInt64 W).bind fun q5 =>
    if q5 = (kI 275) then
      (fwn_fixed_45 t a1 a2 v4 q5 W)
    else
      (if q5 = (kI 277) then
      (fwn_fixed_45 t a1 a2 v4 q5 W)
    else
      (some (a2, W))))
noncomputable def fwn_whole (t : Nat) (a1 : Int32) (a2 : Int32) (W : jW) : Option (Int32 × jW) :=
  gd (jC W t = 15) <|
  gd (jC W (jR W 1500 t) = 13) <|
  gd (jin a1 (jN W 1323 (jR W 1500 t))) <|
  if a2 < (jA W 1323 (jR W 1500 t) (ix a1)) then
    (gd (jin a1 (jN W 1322 (jR W 1500 t))) <|
  (fwn_word t a1 a2 W).bind fun q7 =>
  gd (jC q7.2 t = 15) <|
  (fwn_fixed t ((jA W 1322 (jR W 1500 t) (ix a1)) + a2) q7.1 q7.2).bind fun q10 =>
  some (q10.1, q10.2))
  else
    ((fwn_word t a1 a2 W).bind fun q4 => some (q4.1, q4.2))
noncomputable def fwn_isGone_42 (t : Nat) (a1 : Int32) (W : jW) : Option (Int32) :=
  some (kI 0)
noncomputable def fwn_isGone (t : Nat) (a1 : Int32) (W : jW) : Option (Int32) :=
  gd (jC W t = 15) <|
  gd (jC W (jR W 1500 t) = 13) <|
  gd (jin a1 (jN W 1317 (jR W 1500 t))) <|
  gd (jin (jA W 1317 (jR W 1500 t) (ix a1)) (jN W 1504 t)) <|
  if (jA W 1504 t (ix (jA W 1317 (jR W 1500 t) (ix a1)))) = (kI 1) then
    (gd (jin a1 (jN W 1317 (jR W 1500 t))) <|
  (fmo_last (jR W 1500 t) (jA W 1317 (jR W 1500 t) (ix a1)) W).bind fun q6 =>
  if a1 = q6 then
    (some (kI 1))
  else
    (fwn_isGone_42 t a1 W))
  else
    (fwn_isGone_42 t a1 W)
noncomputable def frn_init (t : Nat) (a1 : Nat) (a2 : Int32) (W : jW) : Option (jW) :=
  gd (¬ t = 0) <|
  gd (jra W (kI 32)) <|
  gd (jC W t = 16) <|
  jlt (nwB W 1603 t (ix (kI 32))) fun W4 =>
  gd (jra W4 (kI 32)) <|
  jlt (nwA W4 1604 t (ix (kI 32))) fun W9 =>
  gd (jra W9 (kI 32)) <|
  jlt (nwA W9 1605 t (ix (kI 32))) fun W14 =>
  gd (jra W14 (kI 125536)) <|
  jlt (nwA W14 1610 t (ix (kI 125536))) fun W19 =>
  gd (jra W19 (kI 15692)) <|
  jlt (nwA W19 1611 t (ix (kI 15692))) fun W24 =>
  gd (jra W24 (kI 15692)) <|
  jlt (nwA W24 1612 t (ix (kI 15692))) fun W29 =>
  gd (jra W29 (kI 4096)) <|
  jlt (nwA W29 1613 t (ix (kI 4096))) fun W34 =>
  gd (jra W34 (kI 800)) <|
  jlt (nwB W34 1621 t (ix (kI 800))) fun W39 =>
  gd (jra W39 (kI 16384)) <|
  jlt (nwA W39 1622 t (ix (kI 16384))) fun W44 =>
  jlt (sR W44 1600 t a1) fun W48 =>
  jlt (sI W48 1601 t a2) fun W52 =>
  some W52
noncomputable def fhd_what (t : Nat) (a1 : Int32) (W : jW) : Option (Int32) :=
  gd (jC W t = 14) <|
  gd (jin a1 (jN W 1410 t)) <|
  if (jA W 1410 t (ix a1)) = (kI 1) then
    (gd (jin a1 (jN W 1411 t)) <|
    if (jA W 1411 t (ix a1)) = (kI 6) then
      (some (kI 1))
    else
      (gd (jin a1 (jN W 1411 t)) <| if (jA W 1411 t (ix a1)) = (0 : Int32) then
        (some (kI 6))
      else
        (some (kI 5))))
  else
    (gd (jin a1 (jN W 1410 t)) <| some (jA W 1410 t (ix a1)))
noncomputable def fhd_head (t : Nat) (a1 : Int32) (W : jW) : Option (Int32) :=
  gd (jC W t = 14) <| some (((jL W 1405 t).toInt32) + ((kI 64) * a1))
noncomputable def fhd_aim (t : Nat) (a1 : Int32) (W : jW) : Option (Int32) :=
  gd (jC W t = 14) <| (fhd_head t a1 W).bind fun q2 => (fhd_num t ((q2 + (kI 44)).toInt64) (kI 4) W).bind fun q3 => some q3.toInt32
noncomputable def fmo_newAddress (t : Nat) (a1 : Int64) (W : jW) : Option (Int64) :=
  gd (jC W t = 13) <|
  if a1 = ((jL W 1313 t) + ((kJ 4) * ((jI W 1310 t).toInt64))) then
    (gd (jC W (jR W 1350 t) = 15) <| some ((jL W 1313 t) + ((kJ 4) * ((jI W 1508 (jR W 1350 t)).toInt64))))
  else
    (gd (jC W (jR W 1350 t) = 15) <|
    (fwn_newWord (jR W 1350 t) (((a1 - (jL W 1313 t)).toInt32) / (kI 4)) W).bind fun q3 =>
    some ((jL W 1313 t) + ((kJ 4) * q3.toInt64)))
abbrev frn_put_S : Type := (Int32 × jW)
noncomputable def frn_put_3 (t : Nat) (a1 : Int32) (a2 : Int32) (a3 : Int64) (l5 : Int32) (W : jW) : Option (frn_put_S ⊕ (jW)) :=
  if l5 < a2 then
    (gd (jC W t = 16) <|
  gd (jin (a1 + l5) (jN W 1610 t)) <|
  jlt (pA W 1610 t (ix (a1 + l5)) (i2b (i2b ((lxr a3 ((kI 8) * l5)).toInt32)))) fun W4 =>
  jlt (l5 + (kI 1)) fun v8 =>
  some (.inl (v8, W4)))
  else
    (some (.inr W))
noncomputable def frn_put_st (t : Nat) (a1 : Int32) (a2 : Int32) (a3 : Int64) : frn_put_S → Option (frn_put_S ⊕ (jW)) :=
  (fun s => frn_put_3 t a1 a2 a3 s.1 s.2)
noncomputable def frn_put_0 (t : Nat) (a1 : Int32) (a2 : Int32) (a3 : Int64) (W : jW) : Option (frn_put_S ⊕ (jW)) :=
  some (.inl ((kI 0), W))
noncomputable def frn_put (t : Nat) (a1 : Int32) (a2 : Int32) (a3 : Int64) (W : jW) : Option (jW) :=
  jrn (frn_put_st t a1 a2 a3) (frn_put_0 t a1 a2 a3 W)
abbrev frn_prepare_S : Type := (Int32 × jW) ⊕ (Int32 × Int32 × Int64 × jW)
noncomputable def frn_prepare_281 (t : Nat) (l1 : Int32) (W : jW) : Option (frn_prepare_S ⊕ (jW)) :=
  jlt (l1 + (kI 1)) fun v48 => some (.inl (.inl (v48, W)))
noncomputable def frn_prepare_272 (t : Nat) (l1 : Int32) (l2 : Int32) (l3 : Int64) (W : jW) : Option (frn_prepare_S ⊕ (jW)) :=
  jlt (l3 + (kJ 24)) fun v46 => some (.inl (.inr (l1, l2, v46, W)))
noncomputable def frn_prepare_83 (t : Nat) (l1 : Int32) (l2 : Int32) (l3 : Int64) (W : jW) : Option (frn_prepare_S ⊕ (jW)) :=
  gd (jC W t = 16) <|
  gd (jC W (jR W 1600 t) = 13) <|
  gd (jC W (jR W 1305 (jR W 1600 t)) = 14) <|
  gd (jin l1 (jN W 1412 (jR W 1305 (jR W 1600 t)))) <|
  gd (jin l1 (jN W 1414 (jR W 1305 (jR W 1600 t)))) <|
  if l3 < ((jB W 1412 (jR W 1305 (jR W 1600 t)) (ix l1)) + (jB W 1414 (jR W 1305 (jR W 1600 t)) (ix l1))) then
    ((fmo_fixType (jR W 1600 t) l3 W).bind fun q16 =>
  if q16 = (0 : Int32) then
    (frn_prepare_272 t l1 l2 l3 W)
  else
    ((fmo_target (jR W 1600 t) l3 W).bind fun q17 =>
  (fhd_isIn (jR W 1305 (jR W 1600 t)) q17 W).bind fun q18 =>
  if q18 = (0 : Int32) then
    (frn_prepare_272 t l1 l2 l3 W)
  else
    (gd (jin l2 (jN W 1412 (jR W 1305 (jR W 1600 t)))) <|
    (fhd_num (jR W 1305 (jR W 1600 t)) l3 (kI 8) W).bind fun q20 =>
    gd (jin l2 (jN W 1413 (jR W 1305 (jR W 1600 t)))) <|
    jlt ((((jB W 1412 (jR W 1305 (jR W 1600 t)) (ix l2)) + q20) - (jB W 1413 (jR W 1305 (jR W 1600 t)) (ix l2))).toInt32) fun v22 =>
    if (jI W 1601 t) = (kI 2) then
      ((fmo_target (jR W 1600 t) l3 W).bind fun q41 =>
    (fmo_newAddress (jR W 1600 t) q41 W).bind fun q42 =>
    (frn_put t v22 (kI 8) q42 W).bind fun q43 =>
    frn_prepare_272 t l1 l2 l3 q43)
    else
      (gd (jin (v22 / (kI 8)) (jN W 1611 t)) <|
      jlt (pA W 1611 t (ix (v22 / (kI 8))) (i2b (kI 1))) fun W24 =>
      gd (jC W24 (jR W24 1600 t) = 13) <|
      (fmo_target (jR W24 1600 t) l3 W24).bind fun q31 =>
      gd (jin (((q31 - (jL W24 1313 (jR W24 1600 t))).toInt32) / (kI 4)) (jN W24 1317 (jR W24 1600 t))) <|
      gd (jin (v22 / (kI 8)) (jN W24 1612 t)) <|
      jlt (pA W24 1612 t (ix (v22 / (kI 8))) (jA W24 1317 (jR W24 1600 t) (ix (((q31 - (jL W24 1313 (jR W24 1600 t))).toInt32) / (kI 4))))) fun W34 =>
      frn_prepare_272 t l1 l2 l3 W34))))
  else
    (frn_prepare_281 t l1 W)
noncomputable def frn_prepare_2 (t : Nat) (l1 : Int32) (W : jW) : Option (frn_prepare_S ⊕ (jW)) :=
  gd (jC W t = 16) <|
  gd (jC W (jR W 1600 t) = 13) <|
  gd (jC W (jR W 1305 (jR W 1600 t)) = 14) <|
  if l1 < (jI W 1403 (jR W 1305 (jR W 1600 t))) then
    ((fhd_what (jR W 1305 (jR W 1600 t)) l1 W).bind fun q5 =>
  if q5 = (kI 4) then
    ((fhd_aim (jR W 1305 (jR W 1600 t)) l1 W).bind fun q6 =>
  if q6 = (jI W 1415 (jR W 1305 (jR W 1600 t))) then
    (frn_prepare_281 t l1 W)
  else
    ((fhd_aim (jR W 1305 (jR W 1600 t)) l1 W).bind fun q7 =>
    gd (jin l1 (jN W 1412 (jR W 1305 (jR W 1600 t)))) <|
    jlt (jB W 1412 (jR W 1305 (jR W 1600 t)) (ix l1)) fun v9 =>
    some (.inl (.inr (l1, q7, v9, W)))))
  else
    (frn_prepare_281 t l1 W))
  else
    (some (.inr W))
noncomputable def frn_prepare_st (t : Nat) : frn_prepare_S → Option (frn_prepare_S ⊕ (jW)) :=
  (Sum.elim (fun s => frn_prepare_2 t s.1 s.2) (fun s => frn_prepare_83 t s.1 s.2.1 s.2.2.1 s.2.2.2))
noncomputable def frn_prepare_0 (t : Nat) (W : jW) : Option (frn_prepare_S ⊕ (jW)) :=
  some (.inl (.inl ((kI 1), W)))
noncomputable def frn_prepare (t : Nat) (W : jW) : Option (jW) :=
  jrn (frn_prepare_st t) (frn_prepare_0 t W)
noncomputable def frn_textWords (t : Nat) (W : jW) : Option (Int32) :=
  gd (jC W t = 16) <|
  if (jI W 1601 t) = (kI 2) then
    (gd (jC W (jR W 1600 t) = 13) <| gd (jC W (jR W 1350 (jR W 1600 t)) = 15) <| some (jI W 1508 (jR W 1350 (jR W 1600 t))))
  else
    (gd (jC W (jR W 1600 t) = 13) <| some (jI W 1310 (jR W 1600 t)))
noncomputable def frn_inText_49 (t : Nat) (a1 : Int64) (a3 : Int32) (W : jW) : Option (Int64) :=
  some (kJ (-1))
noncomputable def frn_inText (t : Nat) (a1 : Int64) (a3 : Int32) (W : jW) : Option (Int64) :=
  gd (jC W t = 16) <|
  gd (jC W (jR W 1600 t) = 13) <|
  if a1 < (jL W 1313 (jR W 1600 t)) then
    (frn_inText_49 t a1 a3 W)
  else
    ((frn_textWords t W).bind fun q3 =>
  if (((jL W 1313 (jR W 1600 t)) + ((kJ 4) * q3.toInt64)) - a3.toInt64) < a1 then
    (frn_inText_49 t a1 a3 W)
  else
    (some (a1 - (jL W 1313 (jR W 1600 t)))))
abbrev fmo_blockUnder_S : Type := (Int32 × Int32)
noncomputable def fmo_blockUnder_52 (t : Nat) (a1 : Int32) (l2 : Int32) (l3 : Int32) (W : jW) : Option (fmo_blockUnder_S ⊕ (Int32)) :=
  some (.inl (l2, l3))
noncomputable def fmo_blockUnder_7 (t : Nat) (a1 : Int32) (l2 : Int32) (l3 : Int32) (W : jW) : Option (fmo_blockUnder_S ⊕ (Int32)) :=
  if l2 < l3 then
    (jlt ((l2 + l3) / (kI 2)) fun v7 =>
  gd (jC W t = 13) <|
  gd (jC W (jR W 1350 t) = 15) <|
  gd (jin v7 (jN W 1501 (jR W 1350 t))) <|
  gd (jin (jA W 1501 (jR W 1350 t) (ix v7)) (jN W 1503 (jR W 1350 t))) <|
  if a1 < (jA W 1503 (jR W 1350 t) (ix (jA W 1501 (jR W 1350 t) (ix v7)))) then
    (fmo_blockUnder_52 t a1 l2 v7 W)
  else
    (jlt (v7 + (kI 1)) fun v12 => fmo_blockUnder_52 t a1 v12 l3 W))
  else
    (if l2 = (0 : Int32) then
      (some (.inr (kI (-1))))
    else
      (gd (jC W t = 13) <|
      gd (jC W (jR W 1350 t) = 15) <|
      gd (jin (l2 - (kI 1)) (jN W 1501 (jR W 1350 t))) <|
      some (.inr (jA W 1501 (jR W 1350 t) (ix (l2 - (kI 1)))))))
noncomputable def fmo_blockUnder_st (t : Nat) (a1 : Int32) (W : jW) : fmo_blockUnder_S → Option (fmo_blockUnder_S ⊕ (Int32)) :=
  (fun s => fmo_blockUnder_7 t a1 s.1 s.2 W)
noncomputable def fmo_blockUnder_0 (t : Nat) (a1 : Int32) (W : jW) : Option (fmo_blockUnder_S ⊕ (Int32)) :=
  gd (jC W t = 13) <| jlt (jI W 1312 t) fun v2 => some (.inl ((kI 0), v2))
noncomputable def fmo_blockUnder (t : Nat) (a1 : Int32) (W : jW) : Option (Int32) :=
  jrn (fmo_blockUnder_st t a1 W) (fmo_blockUnder_0 t a1 W)
noncomputable def fmo_blockAtNew_27 (t : Nat) (a1 : Int32) (W : jW) : Option (Int32) :=
  some (kI (-1))
noncomputable def fmo_blockAtNew (t : Nat) (a1 : Int32) (W : jW) : Option (Int32) :=
  gd (jC W t = 13) <|
  (fmo_blockUnder t a1 W).bind fun q2 =>
  if q2 < (0 : Int32) then
    (fmo_blockAtNew_27 t a1 W)
  else
    (gd (jC W (jR W 1350 t) = 15) <|
  gd (jin q2 (jN W 1503 (jR W 1350 t))) <|
  if (jA W 1503 (jR W 1350 t) (ix q2)) = a1 then
    (some q2)
  else
    (fmo_blockAtNew_27 t a1 W))
abbrev fmo_newWordAt_S : Type := (Int32 × Int32)
noncomputable def fmo_newWordAt_4 (t : Nat) (a1 : Int32) (l2 : Int32) (l3 : Int32) (W : jW) : Option (fmo_newWordAt_S ⊕ (Int32)) :=
  if l3 < (0 : Int32) then
    (some (.inr l2))
  else
    (gd (jC W t = 13) <|
  gd (jR W 9004 (jR W 1354 t) = (jR W 1354 t)) <|
  gd (jin (((jI W 1309 t) + ((kI 4) * a1)) + l3) (jN W 9004 (jR W 1354 t))) <|
  jlt ((ixl l2 (kI 8)) ||| ((jA W 9004 (jR W 1354 t) (ix (((jI W 1309 t) + ((kI 4) * a1)) + l3))) &&& (kI 255))) fun v5 =>
  jlt (l3 + (kI (-1))) fun v6 =>
  some (.inl (v5, v6)))
noncomputable def fmo_newWordAt_st (t : Nat) (a1 : Int32) (W : jW) : fmo_newWordAt_S → Option (fmo_newWordAt_S ⊕ (Int32)) :=
  (fun s => fmo_newWordAt_4 t a1 s.1 s.2 W)
noncomputable def fmo_newWordAt_0 (t : Nat) (a1 : Int32) (W : jW) : Option (fmo_newWordAt_S ⊕ (Int32)) :=
  some (.inl ((kI 0), (kI 3)))
noncomputable def fmo_newWordAt (t : Nat) (a1 : Int32) (W : jW) : Option (Int32) :=
  jrn (fmo_newWordAt_st t a1 W) (fmo_newWordAt_0 t a1 W)
noncomputable def frn_make_27 (t : Nat) (a1 : Int32) (a2 : Int32) (a3 : Int32) (a4 : Int64) (s0 : Int32) (s1 : Int32) (s2 : Nat) (W : jW) : Option (jW) :=
  gd (jR W 1604 t = s2) <|
  gd (jin s1 (jN W 1604 t)) <|
  jlt (pA W 1604 t (ix s1) (i2b s0)) fun W10 =>
  gd (jC W10 t = 16) <|
  gd (jin a1 (jN W10 1605 t)) <|
  jlt (pA W10 1605 t (ix a1) a3) fun W15 =>
  some W15
noncomputable def frn_make (t : Nat) (a1 : Int32) (a2 : Int32) (a3 : Int32) (a4 : Int64) (W : jW) : Option (jW) :=
  gd (jC W t = 16) <|
  gd (jin a1 (jN W 1603 t)) <|
  jlt (pB W 1603 t (ix a1) a4) fun W3 =>
  if (jI W3 1601 t) = (kI 1) then
    (frn_make_27 t a1 a2 a3 a4 (i2b a2) a1 (jR W3 1604 t) W3)
  else
    (frn_make_27 t a1 a2 a3 a4 (kI 0) a1 (jR W3 1604 t) W3)
noncomputable def frn_isCodeOrStack_21 (t : Nat) (a1 : Int32) (W : jW) : Option (Int32) :=
  some (kI 0)
noncomputable def frn_isCodeOrStack (t : Nat) (a1 : Int32) (W : jW) : Option (Int32) :=
  gd (jC W t = 16) <|
  if (jI W 1601 t) = (kI 1) then
    (gd (jin a1 (jN W 1604 t)) <| if (jA W 1604 t (ix a1)) = (0 : Int32) then
    (frn_isCodeOrStack_21 t a1 W)
  else
    (some (kI 1)))
  else
    (frn_isCodeOrStack_21 t a1 W)
noncomputable def frn_below (a0 : Int64) (a2 : Int64) : Int32 :=
  if (a0 + (kJ (-9223372036854775808))) < (a2 + (kJ (-9223372036854775808))) then
    ((kI 1))
  else
    ((kI 0))
noncomputable def frn_sum_244 (t : Nat) (a1 : Int64) (a3 : Int64) (a5 : Int32) (a6 : Int32) (a7 : Int32) (l10 : Int64) (s0 : Int32) (s1 : Nat) (W : jW) : Option (Int64 × jW) :=
  gd (jC W s1 = 16) <| gd (i2z s0 = s0) <| jlt (sI W 1607 s1 s0) fun W33 => some (l10, W33)
noncomputable def frn_sum_231 (t : Nat) (a1 : Int64) (a3 : Int64) (a5 : Int32) (a6 : Int32) (a7 : Int32) (l10 : Int64) (W : jW) : Option (Int64 × jW) :=
  if l10 = (kJ 0) then
    (frn_sum_244 t a1 a3 a5 a6 a7 l10 (kI 1) t W)
  else
    (frn_sum_244 t a1 a3 a5 a6 a7 l10 (kI 0) t W)
noncomputable def frn_sum_128 (t : Nat) (a1 : Int64) (a3 : Int64) (a5 : Int32) (a6 : Int32) (a7 : Int32) (l10 : Int64) (s0 : Int32) (s1 : Nat) (W : jW) : Option (Int64 × jW) :=
  gd (jC W s1 = 16) <| gd (i2z s0 = s0) <| jlt (sI W 1609 s1 s0) fun W25 => frn_sum_231 t a1 a3 a5 a6 a7 l10 W25
noncomputable def frn_sum_104 (t : Nat) (a1 : Int64) (a3 : Int64) (a5 : Int32) (a6 : Int32) (a7 : Int32) (l8 : Int64) (l10 : Int64) (s0 : Int32) (s1 : Nat) (W : jW) : Option (Int64 × jW) :=
  gd (jC W s1 = 16) <|
  gd (i2z s0 = s0) <|
  jlt (sI W 1608 s1 s0) fun W18 =>
  if ((a1 ^^^ l10) &&& (l8 ^^^ l10)) < (kJ 0) then
    (frn_sum_128 t a1 a3 a5 a6 a7 l10 (kI 1) t W18)
  else
    (frn_sum_128 t a1 a3 a5 a6 a7 l10 (kI 0) t W18)
noncomputable def frn_sum_73 (t : Nat) (a1 : Int64) (a3 : Int64) (a5 : Int32) (a6 : Int32) (a7 : Int32) (l8 : Int64) (l10 : Int64) (s0 : Int32) (s1 : Nat) (W : jW) : Option (Int64 × jW) :=
  gd (jC W s1 = 16) <|
  gd (i2z s0 = s0) <|
  jlt (sI W 1606 s1 s0) fun W11 =>
  if a5 = (0 : Int32) then
    (frn_sum_104 t a1 a3 a5 a6 a7 l8 l10 (frn_below l10 a1) t W11)
  else
    (if (frn_below a1 a3) = (0 : Int32) then
    (frn_sum_104 t a1 a3 a5 a6 a7 l8 l10 (kI 1) t W11)
  else
    (frn_sum_104 t a1 a3 a5 a6 a7 l8 l10 (kI 0) t W11))
noncomputable def frn_sum_228 (t : Nat) (a1 : Int64) (a3 : Int64) (a5 : Int32) (a6 : Int32) (a7 : Int32) (l10 : Int64) (s0 : Int32) (s1 : Nat) (W : jW) : Option (Int64 × jW) :=
  gd (jC W s1 = 16) <| gd (i2z s0 = s0) <| jlt (sI W 1609 s1 s0) fun W54 => frn_sum_231 t a1 a3 a5 a6 a7 l10 W54
noncomputable def frn_sum_202 (t : Nat) (a1 : Int64) (a3 : Int64) (a5 : Int32) (a6 : Int32) (a7 : Int32) (l8 : Int64) (l10 : Int64) (s0 : Int32) (s1 : Nat) (W : jW) : Option (Int64 × jW) :=
  gd (jC W s1 = 16) <|
  gd (i2z s0 = s0) <|
  jlt (sI W 1608 s1 s0) fun W47 =>
  if ((a1.toInt32 ^^^ l10.toInt32) &&& (l8.toInt32 ^^^ l10.toInt32)) < (0 : Int32) then
    (frn_sum_228 t a1 a3 a5 a6 a7 l10 (kI 1) t W47)
  else
    (frn_sum_228 t a1 a3 a5 a6 a7 l10 (kI 0) t W47)
noncomputable def frn_sum_160 (t : Nat) (a1 : Int64) (a3 : Int64) (a5 : Int32) (a6 : Int32) (a7 : Int32) (l8 : Int64) (l10 : Int64) (l12 : Int64) (l14 : Int64) (s0 : Int32) (s1 : Nat) (W : jW) : Option (Int64 × jW) :=
  gd (jC W s1 = 16) <|
  gd (i2z s0 = s0) <|
  jlt (sI W 1606 s1 s0) fun W40 =>
  if a5 = (0 : Int32) then
    (if (kJ 4294967295) < (l12 + l14) then
      (frn_sum_202 t a1 a3 a5 a6 a7 l8 l10 (kI 1) t W40)
    else
      (frn_sum_202 t a1 a3 a5 a6 a7 l8 l10 (kI 0) t W40))
  else
    (if l12 < l14 then
    (frn_sum_202 t a1 a3 a5 a6 a7 l8 l10 (kI 0) t W40)
  else
    (frn_sum_202 t a1 a3 a5 a6 a7 l8 l10 (kI 1) t W40))
noncomputable def frn_sum_47 (t : Nat) (a1 : Int64) (a3 : Int64) (a5 : Int32) (a6 : Int32) (a7 : Int32) (l8 : Int64) (l10 : Int64) (W : jW) : Option (Int64 × jW) :=
  if a7 = (0 : Int32) then
    (some (l10, W))
  else
    (if a6 = (0 : Int32) then
      (jlt (a1 &&& (kJ 4294967295)) fun v6 =>
      jlt (a3 &&& (kJ 4294967295)) fun v7 =>
      if l10.toInt32 < (0 : Int32) then
        (frn_sum_160 t a1 a3 a5 a6 a7 l8 l10 v6 v7 (kI 1) t W)
      else
        (frn_sum_160 t a1 a3 a5 a6 a7 l8 l10 v6 v7 (kI 0) t W))
    else
      (if l10 < (kJ 0) then
      (frn_sum_73 t a1 a3 a5 a6 a7 l8 l10 (kI 1) t W)
    else
      (frn_sum_73 t a1 a3 a5 a6 a7 l8 l10 (kI 0) t W)))
noncomputable def frn_sum_30 (t : Nat) (a1 : Int64) (a3 : Int64) (a5 : Int32) (a6 : Int32) (a7 : Int32) (l8 : Int64) (s0 : Int32) (s1 : Int64) (W : jW) : Option (Int64 × jW) :=
  jlt (s1 + s0.toInt64) fun v3 =>
  if a6 = (0 : Int32) then
    (jlt (v3 &&& (kJ 4294967295)) fun v4 => frn_sum_47 t a1 a3 a5 a6 a7 l8 v4 W)
  else
    (frn_sum_47 t a1 a3 a5 a6 a7 l8 v3 W)
noncomputable def frn_sum_14 (t : Nat) (a1 : Int64) (a3 : Int64) (a5 : Int32) (a6 : Int32) (a7 : Int32) (s0 : Int64) (W : jW) : Option (Int64 × jW) :=
  if a5 = (0 : Int32) then
    (frn_sum_30 t a1 a3 a5 a6 a7 s0 (kI 0) (a1 + s0) W)
  else
    (frn_sum_30 t a1 a3 a5 a6 a7 s0 (kI 1) (a1 + s0) W)
noncomputable def frn_sum (t : Nat) (a1 : Int64) (a3 : Int64) (a5 : Int32) (a6 : Int32) (a7 : Int32) (W : jW) : Option (Int64 × jW) :=
  if a5 = (0 : Int32) then
    (frn_sum_14 t a1 a3 a5 a6 a7 a3 W)
  else
    (frn_sum_14 t a1 a3 a5 a6 a7 (a3 ^^^ (kJ (-1))) W)
noncomputable def frn_addNumber_180 (t : Nat) (a1 : Int32) (a2 : Int32) (a3 : Int32) (a4 : Int32) (W : jW) : Option (Int32 × jW) :=
  some ((kI 3), W)
noncomputable def frn_addNumber_322 (t : Nat) (a1 : Int32) (a2 : Int32) (a3 : Int32) (a4 : Int32) (W : jW) : Option (Int32 × jW) :=
  some ((kI (-1)), W)
noncomputable def frn_addNumber_307 (t : Nat) (a1 : Int32) (a2 : Int32) (a3 : Int32) (a4 : Int32) (l12 : Int64) (W : jW) : Option (Int32 × jW) :=
  gd (jC W t = 16) <|
  gd (jin a2 (jN W 1603 t)) <|
  jlt (pB W 1603 t (ix a2) l12) fun W42 =>
  gd (jin a2 (jN W42 1604 t)) <|
  jlt (pA W42 1604 t (ix a2) (i2b (kI 0))) fun W47 =>
  frn_addNumber_322 t a1 a2 a3 a4 W47
noncomputable def frn_addNumber_287 (t : Nat) (a1 : Int32) (a2 : Int32) (a3 : Int32) (a4 : Int32) (l5 : Int32) (l9 : Int32) (s0 : Int32) (s1 : Int64) (s2 : Int64) (s3 : Nat) (W : jW) : Option (Int32 × jW) :=
  gd (jC W s3 = 16) <|
  (frn_sum s3 s2 s1 s0 l9 l5 W).bind fun q36 =>
  if a2 < (kI 31) then
    (frn_addNumber_307 t a1 a2 a3 a4 q36.1 q36.2)
  else
    (if l5 = (0 : Int32) then
    (frn_addNumber_307 t a1 a2 a3 a4 q36.1 q36.2)
  else
    (frn_addNumber_322 t a1 a2 a3 a4 q36.2))
noncomputable def frn_addNumber_269 (t : Nat) (a1 : Int32) (a2 : Int32) (a3 : Int32) (a4 : Int32) (l5 : Int32) (l9 : Int32) (l10 : Int64) (s0 : Int64) (s1 : Nat) (W : jW) : Option (Int32 × jW) :=
  if (fmo_bits a1 (kI 30) (kI 1)) = (kI 1) then
    (frn_addNumber_287 t a1 a2 a3 a4 l5 l9 (kI 1) l10 s0 s1 W)
  else
    (frn_addNumber_287 t a1 a2 a3 a4 l5 l9 (kI 0) l10 s0 s1 W)
noncomputable def frn_addNumber_241 (t : Nat) (a1 : Int32) (a2 : Int32) (a3 : Int32) (a4 : Int32) (l5 : Int32) (l9 : Int32) (s0 : Int32) (s1 : Int64) (W : jW) : Option (Int32 × jW) :=
  jlt (lxl s1 s0) fun v28 =>
  if l9 = (0 : Int32) then
    (gd (jC W t = 16) <| gd (jin a3 (jN W 1603 t)) <| frn_addNumber_269 t a1 a2 a3 a4 l5 l9 v28 ((jB W 1603 t (ix a3)) &&& (kJ 4294967295)) t W)
  else
    (gd (jC W t = 16) <| gd (jin a3 (jN W 1603 t)) <| frn_addNumber_269 t a1 a2 a3 a4 l5 l9 v28 (jB W 1603 t (ix a3)) t W)
noncomputable def frn_addNumber_213 (t : Nat) (a1 : Int32) (a2 : Int32) (a3 : Int32) (a4 : Int32) (l5 : Int32) (s0 : Int32) (W : jW) : Option (Int32 × jW) :=
  if (fmo_bits a1 (kI 22) (kI 1)) = (kI 1) then
    (frn_addNumber_241 t a1 a2 a3 a4 l5 s0 (kI 12) ((fmo_bits a1 (kI 10) (kI 12)).toInt64) W)
  else
    (frn_addNumber_241 t a1 a2 a3 a4 l5 s0 (kI 0) ((fmo_bits a1 (kI 10) (kI 12)).toInt64) W)
noncomputable def frn_addNumber_194 (t : Nat) (a1 : Int32) (a2 : Int32) (a3 : Int32) (a4 : Int32) (l5 : Int32) (W : jW) : Option (Int32 × jW) :=
  gd (jC W t = 16) <|
  (frn_isCodeOrStack t a3 W).bind fun q25 =>
  if q25 = (0 : Int32) then
    (if a1 < (0 : Int32) then
      (frn_addNumber_213 t a1 a2 a3 a4 l5 (kI 1) W)
    else
      (frn_addNumber_213 t a1 a2 a3 a4 l5 (kI 0) W))
  else
    (some ((kI 3), W))
noncomputable def frn_addNumber_98 (t : Nat) (a1 : Int32) (a2 : Int32) (a3 : Int32) (a4 : Int32) (l5 : Int32) (s0 : Int64) (W : jW) : Option (Int32 × jW) :=
  gd (jC W t = 16) <|
  if (jI W 1601 t) = (kI 1) then
    (if s0 = (kJ 0) then
    (frn_addNumber_194 t a1 a2 a3 a4 l5 W)
  else
    (gd (jC W (jR W 1600 t) = 13) <|
  gd (jC W (jR W 1305 (jR W 1600 t)) = 14) <|
  (fhd_isIn (jR W 1305 (jR W 1600 t)) s0 W).bind fun q15 =>
  if q15 = (0 : Int32) then
    (frn_addNumber_194 t a1 a2 a3 a4 l5 W)
  else
    (gd (jin (((s0 - (jL W 1313 (jR W 1600 t))).toInt32) / (kI 4)) (jN W 1317 (jR W 1600 t))) <|
  jlt (jA W 1317 (jR W 1600 t) (ix (((s0 - (jL W 1313 (jR W 1600 t))).toInt32) / (kI 4)))) fun v17 =>
  gd (jin a3 (jN W 1604 t)) <|
  if (jA W 1604 t (ix a3)) = (kI 3) then
    (if a3 = (kI 31) then
    (frn_addNumber_180 t a1 a2 a3 a4 W)
  else
    (gd (jin a3 (jN W 1605 t)) <|
  if (jA W 1605 t (ix a3)) = v17 then
    ((frn_make t a2 (kI 1) v17 s0 W).bind fun q20 => some ((kI (-1)), q20))
  else
    (frn_addNumber_180 t a1 a2 a3 a4 W)))
  else
    (frn_addNumber_180 t a1 a2 a3 a4 W))))
  else
    (frn_addNumber_194 t a1 a2 a3 a4 l5 W)
noncomputable def frn_addNumber_97 (t : Nat) (a1 : Int32) (a2 : Int32) (a3 : Int32) (a4 : Int32) (l5 : Int32) (W : jW) : Option (Int32 × jW) :=
  frn_addNumber_98 t a1 a2 a3 a4 l5 (kJ 0) W
noncomputable def frn_addNumber_32 (t : Nat) (a1 : Int32) (a2 : Int32) (a3 : Int32) (a4 : Int32) (l5 : Int32) (s0 : Int32) (W : jW) : Option (Int32 × jW) :=
  if s0 < (0 : Int32) then
    (frn_addNumber_97 t a1 a2 a3 a4 l5 W)
  else
    (gd (jC W t = 16) <|
  gd (jC W (jR W 1600 t) = 13) <|
  gd (jin s0 (jN W 1316 (jR W 1600 t))) <|
  if (jA W 1316 (jR W 1600 t) (ix s0)) < (0 : Int32) then
    (frn_addNumber_97 t a1 a2 a3 a4 l5 W)
  else
    (gd (jin s0 (jN W 1316 (jR W 1600 t))) <|
  (fmo_fixType (jR W 1600 t) ((jA W 1316 (jR W 1600 t) (ix s0)).toInt64) W).bind fun q8 =>
  if q8 = (kI 277) then
    (gd (jin s0 (jN W 1316 (jR W 1600 t))) <|
  (fmo_target (jR W 1600 t) ((jA W 1316 (jR W 1600 t) (ix s0)).toInt64) W).bind fun q10 =>
  frn_addNumber_98 t a1 a2 a3 a4 l5 q10 W)
  else
    (frn_addNumber_97 t a1 a2 a3 a4 l5 W)))
noncomputable def frn_addNumber_16 (t : Nat) (a1 : Int32) (a2 : Int32) (a3 : Int32) (a4 : Int32) (s0 : Int32) (W : jW) : Option (Int32 × jW) :=
  gd (jC W t = 16) <|
  if (jI W 1601 t) = (kI 2) then
    (frn_addNumber_32 t a1 a2 a3 a4 s0 (kI (-1)) W)
  else
    (frn_addNumber_32 t a1 a2 a3 a4 s0 a4 W)
noncomputable def frn_addNumber (t : Nat) (a1 : Int32) (a2 : Int32) (a3 : Int32) (a4 : Int32) (W : jW) : Option (Int32 × jW) :=
  if (fmo_bits a1 (kI 29) (kI 1)) = (kI 1) then
    (frn_addNumber_16 t a1 a2 a3 a4 (kI 1) W)
  else
    (frn_addNumber_16 t a1 a2 a3 a4 (kI 0) W)
noncomputable def frn_isCode_27 (t : Nat) (a1 : Int32) (W : jW) : Option (Int32) :=
  some (kI 0)
noncomputable def frn_isCode (t : Nat) (a1 : Int32) (W : jW) : Option (Int32) :=
  gd (jC W t = 16) <|
  if (jI W 1601 t) = (kI 1) then
    (if a1 < (kI 31) then
    (gd (jin a1 (jN W 1604 t)) <| if (jA W 1604 t (ix a1)) = (0 : Int32) then
    (frn_isCode_27 t a1 W)
  else
    (some (kI 1)))
  else
    (frn_isCode_27 t a1 W))
  else
    (frn_isCode_27 t a1 W)
noncomputable def frn_r (t : Nat) (a1 : Int32) (W : jW) : Option (Int64) :=
  if a1 = (kI 31) then
    (some (kJ 0))
  else
    (gd (jC W t = 16) <| gd (jin a1 (jN W 1603 t)) <| some (jB W 1603 t (ix a1)))
noncomputable def frn_shifted_81 (t : Nat) (a1 : Int32) (a2 : Int64) (s0 : Int64) (s1 : Int64) : Int64 :=
  (s1 ||| s0)
noncomputable def frn_shifted_151 (t : Nat) (a1 : Int32) (a2 : Int64) (s0 : Int32) : Int64 :=
  (s0.toInt64 &&& (kJ 4294967295))
noncomputable def frn_shifted_150 (t : Nat) (a1 : Int32) (a2 : Int64) (s0 : Int32) (s1 : Int32) : Int64 :=
  frn_shifted_151 t a1 a2 (s1 ||| s0)
noncomputable def frn_shifted (t : Nat) (a1 : Int32) (a2 : Int64) : Int64 :=
  jlt (fmo_bits a1 (kI 10) (kI 6)) fun v1 =>
  jlt (fmo_bits a1 (kI 22) (kI 2)) fun v2 =>
  if a1 < (0 : Int32) then
    (if v2 = (0 : Int32) then
    ((lxl a2 v1))
  else
    (if v2 = (kI 1) then
      ((lxu a2 v1))
    else
      (if v2 = (kI 2) then
        ((lxr a2 v1))
      else
        (if v1 = (0 : Int32) then
          (frn_shifted_81 t a1 a2 (kJ 0) (lxu a2 v1))
        else
          (frn_shifted_81 t a1 a2 (lxl a2 ((kI 64) - v1)) (lxu a2 v1))))))
  else
    (if v2 = (0 : Int32) then
      (frn_shifted_151 t a1 a2 (ixl a2.toInt32 v1))
    else
      (if v2 = (kI 1) then
        (frn_shifted_151 t a1 a2 (ixu a2.toInt32 v1))
      else
        (if v2 = (kI 2) then
          (frn_shifted_151 t a1 a2 (ixr a2.toInt32 v1))
        else
          (if v1 = (0 : Int32) then
            (frn_shifted_150 t a1 a2 (kI 0) (ixu a2.toInt32 v1))
          else
            (frn_shifted_150 t a1 a2 (ixl a2.toInt32 ((kI 32) - v1)) (ixu a2.toInt32 v1))))))
noncomputable def frn_set (t : Nat) (a1 : Int32) (a2 : Int64) (W : jW) : Option (jW) :=
  if a1 = (kI 31) then
    (some W)
  else
    (gd (jC W t = 16) <|
    gd (jin a1 (jN W 1603 t)) <|
    jlt (pB W 1603 t (ix a1) a2) fun W3 =>
    gd (jin a1 (jN W3 1604 t)) <|
    jlt (pA W3 1604 t (ix a1) (i2b (kI 0))) fun W8 =>
    some W8)
noncomputable def frn_copy (t : Nat) (a1 : Int32) (a2 : Int32) (W : jW) : Option (jW) :=
  if a1 < (kI 31) then
    (gd (jC W t = 16) <|
  gd (jin a2 (jN W 1604 t)) <|
  gd (jin a2 (jN W 1605 t)) <|
  gd (jin a2 (jN W 1603 t)) <|
  (frn_make t a1 (jA W 1604 t (ix a2)) (jA W 1605 t (ix a2)) (jB W 1603 t (ix a2)) W).bind fun q5 =>
  some q5)
  else
    (some W)
noncomputable def frn_and_114 (t : Nat) (a1 : Int32) (a2 : Int32) (a3 : Int32) (a4 : Int32) (W : jW) : Option (Int32 × jW) :=
  some ((kI 3), W)
noncomputable def frn_and_292 (t : Nat) (a1 : Int32) (a2 : Int32) (a3 : Int32) (a4 : Int32) (l11 : Int64) (W : jW) : Option (Int32 × jW) :=
  gd (jC W t = 16) <| (frn_set t a2 l11 W).bind fun q48 => some ((kI (-1)), q48)
noncomputable def frn_and_279 (t : Nat) (a1 : Int32) (a2 : Int32) (a3 : Int32) (a4 : Int32) (l11 : Int64) (s0 : Int32) (s1 : Nat) (W : jW) : Option (Int32 × jW) :=
  gd (jC W s1 = 16) <|
  gd (i2z s0 = s0) <|
  jlt (sI W 1607 s1 s0) fun W31 =>
  gd (jC W31 t = 16) <|
  jlt (sI W31 1608 t (kI 0)) fun W36 =>
  jlt (sI W36 1609 t (kI 0)) fun W41 =>
  frn_and_292 t a1 a2 a3 a4 l11 W41
noncomputable def frn_and_263 (t : Nat) (a1 : Int32) (a2 : Int32) (a3 : Int32) (a4 : Int32) (l11 : Int64) (s0 : Int32) (s1 : Nat) (W : jW) : Option (Int32 × jW) :=
  gd (jC W s1 = 16) <|
  gd (i2z s0 = s0) <|
  jlt (sI W 1606 s1 s0) fun W24 =>
  if l11 = (kJ 0) then
    (frn_and_279 t a1 a2 a3 a4 l11 (kI 1) t W24)
  else
    (frn_and_279 t a1 a2 a3 a4 l11 (kI 0) t W24)
noncomputable def frn_and_223 (t : Nat) (a1 : Int32) (a2 : Int32) (a3 : Int32) (a4 : Int32) (l5 : Int32) (l6 : Int32) (s0 : Int64) (W : jW) : Option (Int32 × jW) :=
  if l6 = (kI 3) then
    (if l5 = (0 : Int32) then
    (if s0.toInt32 < (0 : Int32) then
      (frn_and_263 t a1 a2 a3 a4 s0 (kI 1) t W)
    else
      (frn_and_263 t a1 a2 a3 a4 s0 (kI 0) t W))
  else
    (if s0 < (kJ 0) then
    (frn_and_263 t a1 a2 a3 a4 s0 (kI 1) t W)
  else
    (frn_and_263 t a1 a2 a3 a4 s0 (kI 0) t W)))
  else
    (frn_and_292 t a1 a2 a3 a4 s0 W)
noncomputable def frn_and_190 (t : Nat) (a1 : Int32) (a2 : Int32) (a3 : Int32) (a4 : Int32) (l5 : Int32) (l6 : Int32) (l7 : Int64) (l9 : Int64) (W : jW) : Option (Int32 × jW) :=
  if l6 = (kI 1) then
    (frn_and_223 t a1 a2 a3 a4 l5 l6 (l7 ||| l9) W)
  else
    (if l6 = (kI 2) then
      (frn_and_223 t a1 a2 a3 a4 l5 l6 (l7 ^^^ l9) W)
    else
      (frn_and_223 t a1 a2 a3 a4 l5 l6 (l7 &&& l9) W))
noncomputable def frn_and_188 (t : Nat) (a1 : Int32) (a2 : Int32) (a3 : Int32) (a4 : Int32) (l5 : Int32) (l6 : Int32) (l7 : Int64) (s0 : Int64) (W : jW) : Option (Int32 × jW) :=
  frn_and_190 t a1 a2 a3 a4 l5 l6 l7 s0 W
noncomputable def frn_and_138 (t : Nat) (a1 : Int32) (a2 : Int32) (a3 : Int32) (a4 : Int32) (l5 : Int32) (l6 : Int32) (s0 : Int64) (W : jW) : Option (Int32 × jW) :=
  gd (jC W t = 16) <|
  (frn_r t a4 W).bind fun q16 =>
  jlt (frn_shifted t a1 q16) fun v17 =>
  if (fmo_bits a1 (kI 21) (kI 1)) = (kI 1) then
    (if l5 = (0 : Int32) then
    (frn_and_188 t a1 a2 a3 a4 l5 l6 s0 ((v17 ^^^ (kJ (-1))) &&& (kJ 4294967295)) W)
  else
    (frn_and_188 t a1 a2 a3 a4 l5 l6 s0 (v17 ^^^ (kJ (-1))) W))
  else
    (frn_and_190 t a1 a2 a3 a4 l5 l6 s0 v17 W)
noncomputable def frn_and_97 (t : Nat) (a1 : Int32) (a2 : Int32) (a3 : Int32) (a4 : Int32) (l5 : Int32) (l6 : Int32) (W : jW) : Option (Int32 × jW) :=
  gd (jC W t = 16) <|
  (frn_isCode t a3 W).bind fun q10 =>
  if q10 = (0 : Int32) then
    ((frn_isCode t a4 W).bind fun q11 =>
  if q11 = (0 : Int32) then
    (if l5 = (0 : Int32) then
      ((frn_r t a3 W).bind fun q12 => frn_and_138 t a1 a2 a3 a4 l5 l6 (q12 &&& (kJ 4294967295)) W)
    else
      ((frn_r t a3 W).bind fun q13 => frn_and_138 t a1 a2 a3 a4 l5 l6 q13 W))
  else
    (frn_and_114 t a1 a2 a3 a4 W))
  else
    (frn_and_114 t a1 a2 a3 a4 W)
noncomputable def frn_and_9 (t : Nat) (a1 : Int32) (a2 : Int32) (a3 : Int32) (a4 : Int32) (s0 : Int32) (W : jW) : Option (Int32 × jW) :=
  jlt (fmo_bits a1 (kI 29) (kI 2)) fun v2 =>
  gd (jC W t = 16) <|
  if (jI W 1601 t) = (kI 1) then
    (if a3 = (kI 31) then
    (if s0 = (0 : Int32) then
    (frn_and_97 t a1 a2 a3 a4 s0 v2 W)
  else
    (if v2 = (kI 1) then
    (if (fmo_bits a1 (kI 10) (kI 6)) = (0 : Int32) then
    (if (fmo_bits a1 (kI 21) (kI 1)) = (0 : Int32) then
    ((frn_isCode t a4 W).bind fun q4 =>
  if q4 = (0 : Int32) then
    (frn_and_97 t a1 a2 a3 a4 s0 v2 W)
  else
    (gd (jin a4 (jN W 1604 t)) <|
  if (jA W 1604 t (ix a4)) = (kI 3) then
    (some ((kI 3), W))
  else
    ((frn_copy t a2 a4 W).bind fun q6 => some ((kI (-1)), q6))))
  else
    (frn_and_97 t a1 a2 a3 a4 s0 v2 W))
  else
    (frn_and_97 t a1 a2 a3 a4 s0 v2 W))
  else
    (frn_and_97 t a1 a2 a3 a4 s0 v2 W)))
  else
    (frn_and_97 t a1 a2 a3 a4 s0 v2 W))
  else
    (frn_and_97 t a1 a2 a3 a4 s0 v2 W)
noncomputable def frn_and (t : Nat) (a1 : Int32) (a2 : Int32) (a3 : Int32) (a4 : Int32) (W : jW) : Option (Int32 × jW) :=
  if a1 < (0 : Int32) then
    (frn_and_9 t a1 a2 a3 a4 (kI 1) W)
  else
    (frn_and_9 t a1 a2 a3 a4 (kI 0) W)
noncomputable def frn_move_101 (t : Nat) (a1 : Int32) (a2 : Int32) (s0 : Int64) (s1 : Int32) (s2 : Nat) (W : jW) : Option (Int32 × jW) :=
  gd (jC W s2 = 16) <| (frn_set s2 s1 s0 W).bind fun q12 => some ((kI (-1)), q12)
noncomputable def frn_move_84 (t : Nat) (a1 : Int32) (a2 : Int32) (l4 : Int64) (W : jW) : Option (Int32 × jW) :=
  if a1 < (0 : Int32) then
    (frn_move_101 t a1 a2 l4 a2 t W)
  else
    (frn_move_101 t a1 a2 (l4 &&& (kJ 4294967295)) a2 t W)
noncomputable def frn_move (t : Nat) (a1 : Int32) (a2 : Int32) (W : jW) : Option (Int32 × jW) :=
  jlt ((kI 16) * (fmo_bits a1 (kI 21) (kI 2))) fun v1 =>
  jlt (lxl ((fmo_bits a1 (kI 5) (kI 16)).toInt64) v1) fun v2 =>
  jlt (fmo_bits a1 (kI 29) (kI 2)) fun v3 =>
  if v3 = (kI 3) then
    (gd (jC W t = 16) <|
  (frn_isCode t a2 W).bind fun q6 =>
  if q6 = (0 : Int32) then
    ((frn_r t a2 W).bind fun q7 => jlt ((q7 &&& ((lxl (kJ 65535) v1) ^^^ (kJ (-1)))) ||| v2) fun v8 => frn_move_84 t a1 a2 v8 W)
  else
    (some ((kI 3), W)))
  else
    (if v3 = (0 : Int32) then
      (jlt (v2 ^^^ (kJ (-1))) fun v4 => frn_move_84 t a1 a2 v4 W)
    else
      (frn_move_84 t a1 a2 v2 W))
noncomputable def fmo_page (a0 : Int32) (a1 : Int64) : Int64 :=
  ((a1 &&& (kJ (-4096))) + (((((fmo_signed a0 (kI 5) (kI 19)).toInt64) * (kJ 4)) + ((fmo_bits a0 (kI 29) (kI 2)).toInt64)) * (kJ 4096)))
noncomputable def frn_adrp_77 (t : Nat) (a1 : Int32) (a2 : Int32) (a3 : Int32) (W : jW) : Option (jW) :=
  gd (jC W t = 16) <| (frn_set t a2 (fmo_page a1 (jL W 1623 t)) W).bind fun q12 => some q12
noncomputable def frn_adrp (t : Nat) (a1 : Int32) (a2 : Int32) (a3 : Int32) (W : jW) : Option (jW) :=
  gd (jC W t = 16) <|
  if (jI W 1601 t) = (kI 1) then
    (gd (jC W (jR W 1600 t) = 13) <|
  gd (jin a3 (jN W 1316 (jR W 1600 t))) <|
  (fmo_target (jR W 1600 t) ((jA W 1316 (jR W 1600 t) (ix a3)).toInt64) W).bind fun q4 =>
  gd (jC W (jR W 1305 (jR W 1600 t)) = 14) <|
  (fhd_isIn (jR W 1305 (jR W 1600 t)) q4 W).bind fun q6 =>
  if q6 = (0 : Int32) then
    (frn_adrp_77 t a1 a2 a3 W)
  else
    (if a2 < (kI 31) then
    (gd (jin (((q4 - (jL W 1313 (jR W 1600 t))).toInt32) / (kI 4)) (jN W 1317 (jR W 1600 t))) <|
  (frn_make t a2 (kI 3) (jA W 1317 (jR W 1600 t) (ix (((q4 - (jL W 1313 (jR W 1600 t))).toInt32) / (kI 4)))) (kJ 0) W).bind fun q8 =>
  some q8)
  else
    (some W)))
  else
    (frn_adrp_77 t a1 a2 a3 W)
noncomputable def frn_two_109 (a0 : Int32) (a1 : Int64) (a3 : Int64) (l5 : Int32) (W : jW) : Option (Int64) :=
  some (lxr a1 l5)
noncomputable def frn_two (a0 : Int32) (a1 : Int64) (a3 : Int64) (W : jW) : Option (Int64) :=
  jlt (a3.toInt32 &&& (kI 63)) fun v1 =>
  if a0 = (kI 2) then
    (if a3 = (kJ 0) then
      (some (kJ 0))
    else
      ((fjl_divideUnsigned a1 a3 W).bind fun q3 => some q3))
  else if a0 = (kI 3) then
    (if a3 = (kJ 0) then
      (some (kJ 0))
    else
      (if a3 = (kJ (-1)) then
        (some (-a1))
      else
        (gd (¬ a3 = (0 : Int64)) <| some (a1 / a3))))
  else if a0 = (kI 8) then
    (some (lxl a1 v1))
  else if a0 = (kI 9) then
    (some (lxu a1 v1))
  else (frn_two_109 a0 a1 a3 v1 W)
noncomputable def frn_twoWords_108 (a0 : Int32) (a1 : Int32) (a2 : Int32) (l3 : Int32) (W : jW) : Option (Int64) :=
  some ((ixr a1 l3).toInt64)
noncomputable def frn_twoWords (a0 : Int32) (a1 : Int32) (a2 : Int32) (W : jW) : Option (Int64) :=
  jlt (a2 &&& (kI 31)) fun v1 =>
  if a0 = (kI 2) then
    (if a2 = (0 : Int32) then
      (some (kJ 0))
    else
      (gd (¬ (a2.toInt64 &&& (kJ 4294967295)) = (0 : Int64)) <| some ((a1.toInt64 &&& (kJ 4294967295)) / (a2.toInt64 &&& (kJ 4294967295)))))
  else if a0 = (kI 3) then
    (if a2 = (0 : Int32) then
      (some (kJ 0))
    else
      (if a2 = (kI (-1)) then
        (some ((-a1).toInt64))
      else
        (gd (¬ a2 = (0 : Int32)) <| some ((a1 / a2).toInt64))))
  else if a0 = (kI 8) then
    (some ((ixl a1 v1).toInt64))
  else if a0 = (kI 9) then
    (some ((ixu a1 v1).toInt64))
  else (frn_twoWords_108 a0 a1 a2 v1 W)
noncomputable def frn_holds_126 (t : Nat) (a1 : Int32) (s0 : Int32) (W : jW) : Option (Int32) :=
  if (a1 &&& (kI 1)) = (0 : Int32) then
    (gd (i2z s0 = s0) <| some s0)
  else
    (if s0 = (0 : Int32) then
      (some (kI 1))
    else
      (some (kI 0)))
noncomputable def frn_holds_74 (t : Nat) (a1 : Int32) (W : jW) : Option (Int32) :=
  frn_holds_126 t a1 (kI 0) W
noncomputable def frn_holds_125 (t : Nat) (a1 : Int32) (W : jW) : Option (Int32) :=
  frn_holds_126 t a1 (kI 0) W
noncomputable def frn_holds (t : Nat) (a1 : Int32) (W : jW) : Option (Int32) :=
  if a1 < (kI 2) then
    (gd (jC W t = 16) <| frn_holds_126 t a1 (jI W 1607 t) W)
  else
    (if a1 < (kI 4) then
      (gd (jC W t = 16) <| frn_holds_126 t a1 (jI W 1608 t) W)
    else
      (if a1 < (kI 6) then
        (gd (jC W t = 16) <| frn_holds_126 t a1 (jI W 1606 t) W)
      else
        (if a1 < (kI 8) then
          (gd (jC W t = 16) <| frn_holds_126 t a1 (jI W 1609 t) W)
        else
          (if a1 < (kI 10) then
            (gd (jC W t = 16) <|
          if (jI W 1608 t) = (0 : Int32) then
            (frn_holds_74 t a1 W)
          else
            (if (jI W 1607 t) = (0 : Int32) then
            (frn_holds_126 t a1 (kI 1) W)
          else
            (frn_holds_74 t a1 W)))
          else
            (if a1 < (kI 12) then
              (gd (jC W t = 16) <|
            if (jI W 1606 t) = (jI W 1609 t) then
              (frn_holds_126 t a1 (kI 1) W)
            else
              (frn_holds_126 t a1 (kI 0) W))
            else
              (gd (jC W t = 16) <|
              if (jI W 1606 t) = (jI W 1609 t) then
                (if (jI W 1607 t) = (0 : Int32) then
                (frn_holds_126 t a1 (kI 1) W)
              else
                (frn_holds_125 t a1 W))
              else
                (frn_holds_125 t a1 W)))))))
noncomputable def frn_choose_85 (t : Nat) (a1 : Int32) (a2 : Int32) (a3 : Int32) (a4 : Int32) (W : jW) : Option (Int32 × jW) :=
  some ((kI 3), W)
noncomputable def frn_choose_139 (t : Nat) (a1 : Int32) (a2 : Int32) (a3 : Int32) (a4 : Int32) (s0 : Int64) (s1 : Int32) (s2 : Nat) (W : jW) : Option (Int32 × jW) :=
  gd (jC W s2 = 16) <| (frn_set s2 s1 s0 W).bind fun q17 => some ((kI (-1)), q17)
noncomputable def frn_choose_117 (t : Nat) (a1 : Int32) (a2 : Int32) (a3 : Int32) (a4 : Int32) (l6 : Int32) (s0 : Int32) (s1 : Int64) (W : jW) : Option (Int32 × jW) :=
  jlt (s1 + s0.toInt64) fun v14 =>
  if l6 = (0 : Int32) then
    (frn_choose_139 t a1 a2 a3 a4 (v14 &&& (kJ 4294967295)) a2 t W)
  else
    (frn_choose_139 t a1 a2 a3 a4 v14 a2 t W)
noncomputable def frn_choose_116 (t : Nat) (a1 : Int32) (a2 : Int32) (a3 : Int32) (a4 : Int32) (l6 : Int32) (s0 : Int64) (W : jW) : Option (Int32 × jW) :=
  frn_choose_117 t a1 a2 a3 a4 l6 (kI 0) s0 W
noncomputable def frn_choose_53 (t : Nat) (a1 : Int32) (a2 : Int32) (a3 : Int32) (a4 : Int32) (l5 : Int32) (l6 : Int32) (l7 : Int32) (s0 : Int32) (W : jW) : Option (Int32 × jW) :=
  gd (jC W t = 16) <|
  (frn_isCode t s0 W).bind fun q7 =>
  if q7 = (0 : Int32) then
    ((frn_r t s0 W).bind fun q8 =>
    if l5 = (0 : Int32) then
      (if l7 = (0 : Int32) then
      (frn_choose_116 t a1 a2 a3 a4 l6 q8 W)
    else
      (frn_choose_117 t a1 a2 a3 a4 l6 (kI 1) q8 W))
    else
      (frn_choose_116 t a1 a2 a3 a4 l6 q8 W))
  else
    (if l7 = (0 : Int32) then
    (if l6 = (0 : Int32) then
    (frn_choose_85 t a1 a2 a3 a4 W)
  else
    (gd (jin s0 (jN W 1604 t)) <|
  if (jA W 1604 t (ix s0)) = (kI 3) then
    (frn_choose_85 t a1 a2 a3 a4 W)
  else
    ((frn_copy t a2 s0 W).bind fun q10 => some ((kI (-1)), q10))))
  else
    (frn_choose_85 t a1 a2 a3 a4 W))
noncomputable def frn_choose_40 (t : Nat) (a1 : Int32) (a2 : Int32) (a3 : Int32) (a4 : Int32) (l5 : Int32) (l6 : Int32) (s0 : Int32) (W : jW) : Option (Int32 × jW) :=
  if l5 = (0 : Int32) then
    (frn_choose_53 t a1 a2 a3 a4 l5 l6 s0 a4 W)
  else
    (frn_choose_53 t a1 a2 a3 a4 l5 l6 s0 a3 W)
noncomputable def frn_choose_22 (t : Nat) (a1 : Int32) (a2 : Int32) (a3 : Int32) (a4 : Int32) (l5 : Int32) (s0 : Int32) (W : jW) : Option (Int32 × jW) :=
  if (fmo_bits a1 (kI 10) (kI 1)) = (kI 1) then
    (frn_choose_40 t a1 a2 a3 a4 l5 s0 (kI 1) W)
  else
    (frn_choose_40 t a1 a2 a3 a4 l5 s0 (kI 0) W)
noncomputable def frn_choose (t : Nat) (a1 : Int32) (a2 : Int32) (a3 : Int32) (a4 : Int32) (W : jW) : Option (Int32 × jW) :=
  gd (jC W t = 16) <|
  (frn_holds t (fmo_bits a1 (kI 12) (kI 4)) W).bind fun q2 =>
  if a1 < (0 : Int32) then
    (frn_choose_22 t a1 a2 a3 a4 q2 (kI 1) W)
  else
    (frn_choose_22 t a1 a2 a3 a4 q2 (kI 0) W)
noncomputable def frn_hits_81 (t : Nat) (a1 : Int64) (a3 : Int32) (W : jW) : Option (Int32) :=
  some (kI 0)
noncomputable def frn_hits_40 (t : Nat) (a1 : Int64) (a3 : Int32) (s0 : Int32) (W : jW) : Option (Int32) :=
  gd (jC W t = 16) <|
  gd (jC W (jR W 1600 t) = 13) <|
  if ((jL W 1313 (jR W 1600 t)) - a3.toInt64) < a1 then
    (if a1 < ((jL W 1313 (jR W 1600 t)) + ((kJ 4) * s0.toInt64)) then
    (some (kI 1))
  else
    (frn_hits_81 t a1 a3 W))
  else
    (frn_hits_81 t a1 a3 W)
noncomputable def frn_hits (t : Nat) (a1 : Int64) (a3 : Int32) (W : jW) : Option (Int32) :=
  gd (jC W t = 16) <|
  gd (jC W (jR W 1600 t) = 13) <|
  if (jI W 1352 (jR W 1600 t)) = (0 : Int32) then
    (frn_hits_40 t a1 a3 (jI W 1310 (jR W 1600 t)) W)
  else
    (gd (jC W (jR W 1350 (jR W 1600 t)) = 15) <| frn_hits_40 t a1 a3 (fjm_max_2 (jI W 1310 (jR W 1600 t)) (jI W 1508 (jR W 1350 (jR W 1600 t)))) W)
noncomputable def frn_isWhole_20 (t : Nat) (a1 : Int64) (a3 : Int32) : Int32 :=
  (kI 0)
noncomputable def frn_isWhole (t : Nat) (a1 : Int64) (a3 : Int32) : Int32 :=
  if a3 = (kI 8) then
    (if (a1 &&& (kJ 7)) = (kJ 0) then
    ((kI 1))
  else
    (frn_isWhole_20 t a1 a3))
  else
    (frn_isWhole_20 t a1 a3)
abbrev frn_at_S : Type := (Int32)
noncomputable def frn_at_116 (t : Nat) (a1 : Int64) (a3 : Int32) (l4 : Int32) (W : jW) : Option (frn_at_S ⊕ (Int32)) :=
  jlt (l4 + (kI 1)) fun v11 => some (.inl v11)
noncomputable def frn_at_32 (t : Nat) (a1 : Int64) (a3 : Int32) (l4 : Int32) (W : jW) : Option (frn_at_S ⊕ (Int32)) :=
  gd (jC W t = 16) <|
  gd (jC W (jR W 1600 t) = 13) <|
  gd (jC W (jR W 1305 (jR W 1600 t)) = 14) <|
  if (l4 + (kI 1)) < (jI W 1402 (jR W 1305 (jR W 1600 t))) then
    (gd (jin l4 (jN W 1408 (jR W 1305 (jR W 1600 t)))) <|
  jlt (jB W 1408 (jR W 1305 (jR W 1600 t)) (ix l4)) fun v7 =>
  if a1 < v7 then
    (frn_at_116 t a1 a3 l4 W)
  else
    (gd (jin l4 (jN W 1409 (jR W 1305 (jR W 1600 t)))) <|
  if ((v7 + ((jA W 1409 (jR W 1305 (jR W 1600 t)) (ix l4)).toInt64)) - a3.toInt64) < a1 then
    (frn_at_116 t a1 a3 l4 W)
  else
    (gd (jin l4 (jN W 1407 (jR W 1305 (jR W 1600 t)))) <| some (.inr (((a1 - v7).toInt32) + (jA W 1407 (jR W 1305 (jR W 1600 t)) (ix l4)))))))
  else
    (some (.inr (kI (-1))))
noncomputable def frn_at_29 (t : Nat) (a1 : Int64) (a3 : Int32) (W : jW) : Option (frn_at_S ⊕ (Int32)) :=
  some (.inl (kI 0))
noncomputable def frn_at_st (t : Nat) (a1 : Int64) (a3 : Int32) (W : jW) : frn_at_S → Option (frn_at_S ⊕ (Int32)) :=
  (fun s => frn_at_32 t a1 a3 s W)
noncomputable def frn_at_0 (t : Nat) (a1 : Int64) (a3 : Int32) (W : jW) : Option (frn_at_S ⊕ (Int32)) :=
  if a1 < (kJ 2147418112) then
    (frn_at_29 t a1 a3 W)
  else
    (if ((kJ 2147483648) - a3.toInt64) < a1 then
    (frn_at_29 t a1 a3 W)
  else
    (some (.inr ((kI 60000) + ((a1 - (kJ 2147418112)).toInt32)))))
noncomputable def frn_at (t : Nat) (a1 : Int64) (a3 : Int32) (W : jW) : Option (Int32) :=
  jrn (frn_at_st t a1 a3 W) (frn_at_0 t a1 a3 W)
abbrev frn_hasCode_S : Type := (Int32)
noncomputable def frn_hasCode_41 (t : Nat) (a1 : Int64) (a3 : Int32) (l4 : Int32) (W : jW) : Option (frn_hasCode_S ⊕ (Int32)) :=
  jlt (l4 + (kI 1)) fun v6 => some (.inl v6)
noncomputable def frn_hasCode_3 (t : Nat) (a1 : Int64) (a3 : Int32) (l4 : Int32) (W : jW) : Option (frn_hasCode_S ⊕ (Int32)) :=
  if l4 < a3 then
    (gd (jC W t = 16) <|
  (frn_at t (a1 + l4.toInt64) (kI 1) W).bind fun q3 =>
  if q3 < (0 : Int32) then
    (frn_hasCode_41 t a1 a3 l4 W)
  else
    (gd (jin (q3 / (kI 8)) (jN W 1611 t)) <|
  if (jA W 1611 t (ix (q3 / (kI 8)))) = (0 : Int32) then
    (frn_hasCode_41 t a1 a3 l4 W)
  else
    (some (.inr (kI 1)))))
  else
    (some (.inr (kI 0)))
noncomputable def frn_hasCode_st (t : Nat) (a1 : Int64) (a3 : Int32) (W : jW) : frn_hasCode_S → Option (frn_hasCode_S ⊕ (Int32)) :=
  (fun s => frn_hasCode_3 t a1 a3 s W)
noncomputable def frn_hasCode_0 (t : Nat) (a1 : Int64) (a3 : Int32) (W : jW) : Option (frn_hasCode_S ⊕ (Int32)) :=
  some (.inl (kI 0))
noncomputable def frn_hasCode (t : Nat) (a1 : Int64) (a3 : Int32) (W : jW) : Option (Int32) :=
  jrn (frn_hasCode_st t a1 a3 W) (frn_hasCode_0 t a1 a3 W)
noncomputable def frn_stopsLoad_35 (t : Nat) (a1 : Int64) (a3 : Int32) (W : jW) : Option (Int32) :=
  some (kI 1)
noncomputable def frn_stopsLoad_39 (t : Nat) (a1 : Int64) (a3 : Int32) (W : jW) : Option (Int32) :=
  some (kI 0)
noncomputable def frn_stopsLoad (t : Nat) (a1 : Int64) (a3 : Int32) (W : jW) : Option (Int32) :=
  gd (jC W t = 16) <|
  if (jI W 1601 t) = (kI 1) then
    ((frn_hits t a1 a3 W).bind fun q2 =>
  if q2 = (0 : Int32) then
    (if (frn_isWhole t a1 a3) = (0 : Int32) then
    ((frn_hasCode t a1 a3 W).bind fun q3 => if q3 = (0 : Int32) then
    (frn_stopsLoad_39 t a1 a3 W)
  else
    (frn_stopsLoad_35 t a1 a3 W))
  else
    (frn_stopsLoad_39 t a1 a3 W))
  else
    (frn_stopsLoad_35 t a1 a3 W))
  else
    (frn_stopsLoad_39 t a1 a3 W)
noncomputable def frn_stopsStore_67 (t : Nat) (a1 : Int32) (a2 : Int64) (a4 : Int32) (W : jW) : Option (Int32) :=
  some (kI 1)
noncomputable def frn_stopsStore_93 (t : Nat) (a1 : Int32) (a2 : Int64) (a4 : Int32) (W : jW) : Option (Int32) :=
  some (kI 0)
noncomputable def frn_stopsStore_69 (t : Nat) (a1 : Int32) (a2 : Int64) (a4 : Int32) (W : jW) : Option (Int32) :=
  gd (jC W t = 16) <|
  if (frn_isWhole t a2 a4) = (0 : Int32) then
    ((frn_hasCode t a2 a4 W).bind fun q9 => if q9 = (0 : Int32) then
    (frn_stopsStore_93 t a1 a2 a4 W)
  else
    (some (kI 1)))
  else
    (frn_stopsStore_93 t a1 a2 a4 W)
noncomputable def frn_stopsStore_30 (t : Nat) (a1 : Int32) (a2 : Int64) (a4 : Int32) (s0 : Int32) (W : jW) : Option (Int32) :=
  gd (jC W t = 16) <|
  (frn_hits t a2 a4 W).bind fun q5 =>
  if q5 = (0 : Int32) then
    (if s0 = (0 : Int32) then
    (frn_stopsStore_69 t a1 a2 a4 W)
  else
    (gd (jin a1 (jN W 1604 t)) <|
  if (jA W 1604 t (ix a1)) = (kI 3) then
    (frn_stopsStore_67 t a1 a2 a4 W)
  else
    (if (frn_isWhole t a2 a4) = (0 : Int32) then
    (frn_stopsStore_67 t a1 a2 a4 W)
  else
    (frn_stopsStore_69 t a1 a2 a4 W))))
  else
    (frn_stopsStore_67 t a1 a2 a4 W)
noncomputable def frn_stopsStore_29 (t : Nat) (a1 : Int32) (a2 : Int64) (a4 : Int32) (W : jW) : Option (Int32) :=
  frn_stopsStore_30 t a1 a2 a4 (kI 0) W
noncomputable def frn_stopsStore (t : Nat) (a1 : Int32) (a2 : Int64) (a4 : Int32) (W : jW) : Option (Int32) :=
  gd (jC W t = 16) <|
  if (jI W 1601 t) = (kI 1) then
    (if a1 < (kI 31) then
      (gd (jin a1 (jN W 1604 t)) <|
    if (jA W 1604 t (ix a1)) = (0 : Int32) then
      (frn_stopsStore_29 t a1 a2 a4 W)
    else
      (frn_stopsStore_30 t a1 a2 a4 (kI 1) W))
    else
      (frn_stopsStore_29 t a1 a2 a4 W))
  else
    (some (kI 0))
noncomputable def frn_faultsLoad_24 (t : Nat) (a1 : Int64) (a3 : Int32) (W : jW) : Option (Int32) :=
  some (kI 0)
noncomputable def frn_faultsLoad (t : Nat) (a1 : Int64) (a3 : Int32) (W : jW) : Option (Int32) :=
  gd (jC W t = 16) <|
  (frn_at t a1 a3 W).bind fun q2 =>
  if q2 < (0 : Int32) then
    ((frn_inText t a1 a3 W).bind fun q3 => if q3 < (kJ 0) then
    (some (kI 1))
  else
    (frn_faultsLoad_24 t a1 a3 W))
  else
    (frn_faultsLoad_24 t a1 a3 W)
abbrev frn_isWritable_S : Type := (Int32)
noncomputable def frn_isWritable_89 (t : Nat) (a1 : Int64) (l3 : Int32) (W : jW) : Option (frn_isWritable_S ⊕ (Int32)) :=
  jlt (l3 + (kI 1)) fun v10 => some (.inl v10)
noncomputable def frn_isWritable_2 (t : Nat) (a1 : Int64) (l3 : Int32) (W : jW) : Option (frn_isWritable_S ⊕ (Int32)) :=
  gd (jC W t = 16) <|
  gd (jC W (jR W 1600 t) = 13) <|
  gd (jC W (jR W 1305 (jR W 1600 t)) = 14) <|
  if (l3 + (kI 1)) < (jI W 1402 (jR W 1305 (jR W 1600 t))) then
    (gd (jin l3 (jN W 1408 (jR W 1305 (jR W 1600 t)))) <|
  if a1 < (jB W 1408 (jR W 1305 (jR W 1600 t)) (ix l3)) then
    (frn_isWritable_89 t a1 l3 W)
  else
    (gd (jin l3 (jN W 1408 (jR W 1305 (jR W 1600 t)))) <|
  gd (jin l3 (jN W 1409 (jR W 1305 (jR W 1600 t)))) <|
  if a1 < ((jB W 1408 (jR W 1305 (jR W 1600 t)) (ix l3)) + ((jA W 1409 (jR W 1305 (jR W 1600 t)) (ix l3)).toInt64)) then
    (gd (jin l3 (jN W 1406 (jR W 1305 (jR W 1600 t)))) <|
  if (jA W 1406 (jR W 1305 (jR W 1600 t)) (ix l3)) = (kI 6) then
    (some (.inr (kI 1)))
  else
    (some (.inr (kI 0))))
  else
    (frn_isWritable_89 t a1 l3 W)))
  else
    (if a1 < (kJ 2147418112) then
      (some (.inr (kI 0)))
    else
      (some (.inr (kI 1))))
noncomputable def frn_isWritable_st (t : Nat) (a1 : Int64) (W : jW) : frn_isWritable_S → Option (frn_isWritable_S ⊕ (Int32)) :=
  (fun s => frn_isWritable_2 t a1 s W)
noncomputable def frn_isWritable_0 (t : Nat) (a1 : Int64) (W : jW) : Option (frn_isWritable_S ⊕ (Int32)) :=
  some (.inl (kI 0))
noncomputable def frn_isWritable (t : Nat) (a1 : Int64) (W : jW) : Option (Int32) :=
  jrn (frn_isWritable_st t a1 W) (frn_isWritable_0 t a1 W)
noncomputable def frn_faultsStore_17 (t : Nat) (a1 : Int64) (a3 : Int32) (W : jW) : Option (Int32) :=
  some (kI 1)
noncomputable def frn_faultsStore (t : Nat) (a1 : Int64) (a3 : Int32) (W : jW) : Option (Int32) :=
  gd (jC W t = 16) <|
  (frn_at t a1 a3 W).bind fun q2 =>
  if q2 < (0 : Int32) then
    (frn_faultsStore_17 t a1 a3 W)
  else
    ((frn_isWritable t a1 W).bind fun q3 => if q3 = (0 : Int32) then
    (frn_faultsStore_17 t a1 a3 W)
  else
    (some (kI 0)))
abbrev frn_get_S : Type := (Int64 × Int32)
noncomputable def frn_get_7 (t : Nat) (a1 : Int32) (a2 : Int32) (l3 : Int64) (l5 : Int32) (W : jW) : Option (frn_get_S ⊕ (Int64)) :=
  if l5 < (0 : Int32) then
    (some (.inr l3))
  else
    (gd (jC W t = 16) <|
  gd (jin (a1 + l5) (jN W 1610 t)) <|
  jlt ((lxl l3 (kI 8)) ||| (((jA W 1610 t (ix (a1 + l5))) &&& (kI 255)).toInt64)) fun v5 =>
  jlt (l5 + (kI (-1))) fun v6 =>
  some (.inl (v5, v6)))
noncomputable def frn_get_st (t : Nat) (a1 : Int32) (a2 : Int32) (W : jW) : frn_get_S → Option (frn_get_S ⊕ (Int64)) :=
  (fun s => frn_get_7 t a1 a2 s.1 s.2 W)
noncomputable def frn_get_0 (t : Nat) (a1 : Int32) (a2 : Int32) (W : jW) : Option (frn_get_S ⊕ (Int64)) :=
  jlt (a2 - (kI 1)) fun v1 => some (.inl ((kJ 0), v1))
noncomputable def frn_get (t : Nat) (a1 : Int32) (a2 : Int32) (W : jW) : Option (Int64) :=
  jrn (frn_get_st t a1 a2 W) (frn_get_0 t a1 a2 W)
abbrev frn_loaded_S : Type := (Int64 × Int64 × Int32)
noncomputable def frn_loaded_102 (t : Nat) (a1 : Int64) (a3 : Int32) (l5 : Int64) (l9 : Int32) (s0 : Int32) (s1 : Int64) (W : jW) : Option (frn_loaded_S ⊕ (Int64)) :=
  jlt (s1 ||| ((s0 &&& (kI 255)).toInt64)) fun v15 => jlt (l9 + (kI (-1))) fun v16 => some (.inl (l5, v15, v16))
noncomputable def frn_loaded_37 (t : Nat) (a1 : Int64) (a3 : Int32) (l5 : Int64) (l7 : Int64) (l9 : Int32) (W : jW) : Option (frn_loaded_S ⊕ (Int64)) :=
  if l9 < (0 : Int32) then
    (some (.inr l7))
  else
    (gd (jC W t = 16) <|
  if (jI W 1601 t) = (kI 2) then
    (gd (jC W (jR W 1600 t) = 13) <|
  gd (jR W 9004 (jR W 1354 (jR W 1600 t)) = (jR W 1354 (jR W 1600 t))) <|
  gd (jin (((jI W 1309 (jR W 1600 t)) + l5.toInt32) + l9) (jN W 9004 (jR W 1354 (jR W 1600 t)))) <|
  frn_loaded_102 t a1 a3 l5 l9 (jA W 9004 (jR W 1354 (jR W 1600 t)) (ix (((jI W 1309 (jR W 1600 t)) + l5.toInt32) + l9))) (lxl l7 (kI 8)) W)
  else
    (gd (jC W (jR W 1600 t) = 13) <|
    gd (jR W 9004 (jR W 1303 (jR W 1600 t)) = (jR W 1303 (jR W 1600 t))) <|
    gd (jin (((jI W 1309 (jR W 1600 t)) + l5.toInt32) + l9) (jN W 9004 (jR W 1303 (jR W 1600 t)))) <|
    frn_loaded_102 t a1 a3 l5 l9 (jA W 9004 (jR W 1303 (jR W 1600 t)) (ix (((jI W 1309 (jR W 1600 t)) + l5.toInt32) + l9))) (lxl l7 (kI 8)) W))
noncomputable def frn_loaded_st (t : Nat) (a1 : Int64) (a3 : Int32) (W : jW) : frn_loaded_S → Option (frn_loaded_S ⊕ (Int64)) :=
  (fun s => frn_loaded_37 t a1 a3 s.1 s.2.1 s.2.2 W)
noncomputable def frn_loaded_0 (t : Nat) (a1 : Int64) (a3 : Int32) (W : jW) : Option (frn_loaded_S ⊕ (Int64)) :=
  gd (jC W t = 16) <|
  (frn_at t a1 a3 W).bind fun q2 =>
  if q2 < (0 : Int32) then
    ((frn_inText t a1 a3 W).bind fun q3 => jlt (a3 - (kI 1)) fun v4 => some (.inl (q3, (kJ 0), v4)))
  else
    ((frn_get t q2 a3 W).bind fun q5 => some (.inr q5))
noncomputable def frn_loaded (t : Nat) (a1 : Int64) (a3 : Int32) (W : jW) : Option (Int64) :=
  jrn (frn_loaded_st t a1 a3 W) (frn_loaded_0 t a1 a3 W)
noncomputable def frn_load_36 (t : Nat) (a1 : Int32) (a2 : Int64) (a4 : Int32) (a5 : Int32) (l6 : Int64) (l8 : Int32) (W : jW) : Option (jW) :=
  gd (jC W t = 16) <|
  (frn_set t a1 l6 W).bind fun q6 =>
  gd (jC q6 t = 16) <|
  if (jI q6 1601 t) = (kI 1) then
    (if a4 = (kI 8) then
    (if (irm l8 (kI 8)) = (0 : Int32) then
    (gd (jin (l8 / (kI 8)) (jN q6 1611 t)) <|
  if (jA q6 1611 t (ix (l8 / (kI 8)))) = (0 : Int32) then
    (some q6)
  else
    (gd (jin (l8 / (kI 8)) (jN q6 1611 t)) <|
  gd (jin a1 (jN q6 1604 t)) <|
  jlt (pA q6 1604 t (ix a1) (i2b (jA q6 1611 t (ix (l8 / (kI 8)))))) fun W12 =>
  gd (jin (l8 / (kI 8)) (jN W12 1612 t)) <|
  gd (jin a1 (jN W12 1605 t)) <|
  jlt (pA W12 1605 t (ix a1) (jA W12 1612 t (ix (l8 / (kI 8))))) fun W18 =>
  some W18))
  else
    (some q6))
  else
    (some q6))
  else
    (some q6)
noncomputable def frn_load (t : Nat) (a1 : Int32) (a2 : Int64) (a4 : Int32) (a5 : Int32) (W : jW) : Option (jW) :=
  gd (jC W t = 16) <|
  (frn_loaded t a2 a4 W).bind fun q2 =>
  (frn_at t a2 a4 W).bind fun q3 =>
  if a1 = (kI 31) then
    (some W)
  else
    (if a5 = (0 : Int32) then
      (frn_load_36 t a1 a2 a4 a5 q2 q3 W)
    else
      (frn_load_36 t a1 a2 a4 a5 q2.toInt32.toInt64 q3 W))
noncomputable def frn_store_82 (t : Nat) (a1 : Int32) (a2 : Int64) (a4 : Int32) (l5 : Int32) (s0 : Int32) (s1 : Int32) (s2 : Nat) (W : jW) : Option (jW) :=
  gd (jR W 1611 t = s2) <|
  gd (jin s1 (jN W 1611 t)) <|
  jlt (pA W 1611 t (ix s1) (i2b s0)) fun W13 =>
  if a1 < (kI 31) then
    (gd (jC W13 t = 16) <|
  gd (jin a1 (jN W13 1605 t)) <|
  gd (jin (l5 / (kI 8)) (jN W13 1612 t)) <|
  jlt (pA W13 1612 t (ix (l5 / (kI 8))) (jA W13 1605 t (ix a1))) fun W19 =>
  some W19)
  else
    (some W13)
noncomputable def frn_store_30 (t : Nat) (a1 : Int32) (a2 : Int64) (a4 : Int32) (l5 : Int32) (s0 : Int64) (s1 : Int32) (s2 : Int32) (s3 : Nat) (W : jW) : Option (jW) :=
  gd (jC W s3 = 16) <|
  (frn_put s3 s2 s1 s0 W).bind fun q6 =>
  gd (jC q6 t = 16) <|
  if (jI q6 1601 t) = (kI 1) then
    (if a4 < (kI 8) then
    (some q6)
  else
    (if (irm l5 (kI 8)) = (0 : Int32) then
    (if a1 = (kI 31) then
      (frn_store_82 t a1 a2 a4 l5 (kI 0) (l5 / (kI 8)) (jR q6 1611 t) q6)
    else
      (gd (jin a1 (jN q6 1604 t)) <| frn_store_82 t a1 a2 a4 l5 (jA q6 1604 t (ix a1)) (l5 / (kI 8)) (jR q6 1611 t) q6))
  else
    (some q6)))
  else
    (some q6)
noncomputable def frn_store (t : Nat) (a1 : Int32) (a2 : Int64) (a4 : Int32) (W : jW) : Option (jW) :=
  gd (jC W t = 16) <|
  (frn_at t a2 a4 W).bind fun q2 =>
  if a1 = (kI 31) then
    (frn_store_30 t a1 a2 a4 q2 (kJ 0) a4 q2 t W)
  else
    (gd (jin a1 (jN W 1603 t)) <| frn_store_30 t a1 a2 a4 q2 (jB W 1603 t (ix a1)) a4 q2 t W)
noncomputable def frn_pair_150 (t : Nat) (a1 : Int32) (a2 : Int32) (a3 : Int32) (W : jW) : Option (Int32 × jW) :=
  some ((kI 3), W)
noncomputable def frn_pair_212 (t : Nat) (a1 : Int32) (a2 : Int32) (a3 : Int32) (W : jW) : Option (Int32 × jW) :=
  some ((kI 2), W)
noncomputable def frn_pair_302 (t : Nat) (a1 : Int32) (a2 : Int32) (a3 : Int32) (W : jW) : Option (Int32 × jW) :=
  some ((kI (-1)), W)
noncomputable def frn_pair_301 (t : Nat) (a1 : Int32) (a2 : Int32) (a3 : Int32) (s0 : Int64) (s1 : Int32) (s2 : Nat) (W : jW) : Option (Int32 × jW) :=
  gd (jR W 1603 t = s2) <| gd (jin s1 (jN W 1603 t)) <| jlt (pB W 1603 t (ix s1) s0) fun W42 => frn_pair_302 t a1 a2 a3 W42
noncomputable def frn_pair_270 (t : Nat) (a1 : Int32) (a2 : Int32) (a3 : Int32) (l5 : Int32) (l7 : Int64) (l9 : Int64) (W : jW) : Option (Int32 × jW) :=
  if l5 = (kI 2) then
    (frn_pair_302 t a1 a2 a3 W)
  else
    (gd (jC W t = 16) <|
  if l5 = (kI 1) then
    (gd (jin a3 (jN W 1603 t)) <| frn_pair_301 t a1 a2 a3 ((jB W 1603 t (ix a3)) + l7) a3 (jR W 1603 t) W)
  else
    (frn_pair_301 t a1 a2 a3 l9 a3 (jR W 1603 t) W))
noncomputable def frn_pair_214 (t : Nat) (a1 : Int32) (a2 : Int32) (a3 : Int32) (l4 : Int32) (l5 : Int32) (l6 : Int32) (l7 : Int64) (l9 : Int64) (W : jW) : Option (Int32 × jW) :=
  if l6 = (0 : Int32) then
    (gd (jC W t = 16) <|
    (frn_store t a2 l9 (kI 8) W).bind fun q25 =>
    gd (jC q25 t = 16) <|
    (frn_store t l4 (l9 + (kJ 8)) (kI 8) q25).bind fun q28 =>
    frn_pair_270 t a1 a2 a3 l5 l7 l9 q28)
  else
    (gd (jC W t = 16) <|
  (frn_load t a2 l9 (kI 8) (kI 0) W).bind fun q31 =>
  gd (jC q31 t = 16) <|
  (frn_load t l4 (l9 + (kJ 8)) (kI 8) (kI 0) q31).bind fun q34 =>
  frn_pair_270 t a1 a2 a3 l5 l7 l9 q34)
noncomputable def frn_pair_152 (t : Nat) (a1 : Int32) (a2 : Int32) (a3 : Int32) (l4 : Int32) (l5 : Int32) (l6 : Int32) (l7 : Int64) (l9 : Int64) (W : jW) : Option (Int32 × jW) :=
  if l6 = (0 : Int32) then
    (gd (jC W t = 16) <|
    (frn_faultsStore t l9 (kI 8) W).bind fun q18 =>
    if q18 = (0 : Int32) then
      ((frn_faultsStore t (l9 + (kJ 8)) (kI 8) W).bind fun q19 =>
    if q19 = (0 : Int32) then
      (frn_pair_214 t a1 a2 a3 l4 l5 l6 l7 l9 W)
    else
      (frn_pair_212 t a1 a2 a3 W))
    else
      (frn_pair_212 t a1 a2 a3 W))
  else
    (gd (jC W t = 16) <|
  (frn_faultsLoad t l9 (kI 8) W).bind fun q21 =>
  if q21 = (0 : Int32) then
    ((frn_faultsLoad t (l9 + (kJ 8)) (kI 8) W).bind fun q22 =>
  if q22 = (0 : Int32) then
    (frn_pair_214 t a1 a2 a3 l4 l5 l6 l7 l9 W)
  else
    (frn_pair_212 t a1 a2 a3 W))
  else
    (frn_pair_212 t a1 a2 a3 W))
noncomputable def frn_pair_85 (t : Nat) (a1 : Int32) (a2 : Int32) (a3 : Int32) (l4 : Int32) (l5 : Int32) (l6 : Int32) (l7 : Int64) (s0 : Int64) (W : jW) : Option (Int32 × jW) :=
  if l6 = (0 : Int32) then
    (gd (jC W t = 16) <|
    (frn_stopsStore t a2 s0 (kI 8) W).bind fun q11 =>
    if q11 = (0 : Int32) then
      ((frn_stopsStore t l4 (s0 + (kJ 8)) (kI 8) W).bind fun q12 =>
    if q12 = (0 : Int32) then
      (frn_pair_152 t a1 a2 a3 l4 l5 l6 l7 s0 W)
    else
      (frn_pair_150 t a1 a2 a3 W))
    else
      (frn_pair_150 t a1 a2 a3 W))
  else
    (gd (jC W t = 16) <|
  (frn_stopsLoad t s0 (kI 8) W).bind fun q14 =>
  if q14 = (0 : Int32) then
    ((frn_stopsLoad t (s0 + (kJ 8)) (kI 8) W).bind fun q15 =>
  if q15 = (0 : Int32) then
    (frn_pair_152 t a1 a2 a3 l4 l5 l6 l7 s0 W)
  else
    (frn_pair_150 t a1 a2 a3 W))
  else
    (frn_pair_150 t a1 a2 a3 W))
noncomputable def frn_pair_34 (t : Nat) (a1 : Int32) (a2 : Int32) (a3 : Int32) (l4 : Int32) (l5 : Int32) (s0 : Int32) (W : jW) : Option (Int32 × jW) :=
  gd (jC W t = 16) <|
  (frn_isCodeOrStack t a3 W).bind fun q5 =>
  if q5 = (0 : Int32) then
    (jlt ((kJ 8) * ((fmo_signed a1 (kI 15) (kI 7)).toInt64)) fun v6 =>
    if l5 = (kI 1) then
      (gd (jin a3 (jN W 1603 t)) <| frn_pair_85 t a1 a2 a3 l4 l5 s0 v6 (jB W 1603 t (ix a3)) W)
    else
      (gd (jin a3 (jN W 1603 t)) <| frn_pair_85 t a1 a2 a3 l4 l5 s0 v6 ((jB W 1603 t (ix a3)) + v6) W))
  else
    (some ((kI 3), W))
noncomputable def frn_pair (t : Nat) (a1 : Int32) (a2 : Int32) (a3 : Int32) (W : jW) : Option (Int32 × jW) :=
  jlt (fmo_bits a1 (kI 10) (kI 5)) fun v1 =>
  jlt (fmo_bits a1 (kI 23) (kI 2)) fun v2 =>
  if (fmo_bits a1 (kI 22) (kI 1)) = (kI 1) then
    (frn_pair_34 t a1 a2 a3 v1 v2 (kI 1) W)
  else
    (frn_pair_34 t a1 a2 a3 v1 v2 (kI 0) W)
noncomputable def frn_moveOne_48 (t : Nat) (a1 : Int32) (a2 : Int32) (a3 : Int32) (a4 : Int32) (a5 : Int32) (W : jW) : Option (Int32 × jW) :=
  some ((kI 3), W)
noncomputable def frn_moveOne_195 (t : Nat) (a1 : Int32) (a2 : Int32) (a3 : Int32) (a4 : Int32) (a5 : Int32) (W : jW) : Option (Int32 × jW) :=
  some ((kI (-1)), W)
noncomputable def frn_moveOne_192 (t : Nat) (a1 : Int32) (a2 : Int32) (a3 : Int32) (a4 : Int32) (a5 : Int32) (s0 : Int32) (s1 : Int32) (s2 : Int64) (s3 : Int32) (s4 : Nat) (W : jW) : Option (Int32 × jW) :=
  gd (jC W s4 = 16) <| (frn_load s4 s3 s2 s1 s0 W).bind fun q25 => frn_moveOne_195 t a1 a2 a3 a4 a5 q25
noncomputable def frn_moveOne_102 (t : Nat) (a1 : Int32) (a2 : Int32) (a3 : Int32) (a4 : Int32) (a5 : Int32) (l7 : Int32) (l8 : Int32) (s0 : Int64) (s1 : Int64) (W : jW) : Option (Int32 × jW) :=
  jlt (s1 + s0) fun v13 =>
  if l8 = (0 : Int32) then
    (gd (jC W t = 16) <|
  (frn_stopsStore t a2 v13 l7 W).bind fun q18 =>
  if q18 = (0 : Int32) then
    ((frn_faultsStore t v13 l7 W).bind fun q19 =>
    if q19 = (0 : Int32) then
      ((frn_store t a2 v13 l7 W).bind fun q20 => frn_moveOne_195 t a1 a2 a3 a4 a5 q20)
    else
      (some ((kI 2), W)))
  else
    (some ((kI 3), W)))
  else
    (gd (jC W t = 16) <|
    (frn_stopsLoad t v13 l7 W).bind fun q15 =>
    if q15 = (0 : Int32) then
      ((frn_faultsLoad t v13 l7 W).bind fun q16 =>
      if q16 = (0 : Int32) then
        (if l8 = (kI 2) then
          (frn_moveOne_192 t a1 a2 a3 a4 a5 (kI 1) l7 v13 a2 t W)
        else
          (frn_moveOne_192 t a1 a2 a3 a4 a5 (kI 0) l7 v13 a2 t W))
      else
        (some ((kI 2), W)))
    else
      (some ((kI 3), W)))
noncomputable def frn_moveOne_86 (t : Nat) (a1 : Int32) (a2 : Int32) (a3 : Int32) (a4 : Int32) (a5 : Int32) (l7 : Int32) (l8 : Int32) (s0 : Int32) (s1 : Int64) (s2 : Int64) (W : jW) : Option (Int32 × jW) :=
  frn_moveOne_102 t a1 a2 a3 a4 a5 l7 l8 (lxl s1 s0) s2 W
noncomputable def frn_moveOne_50 (t : Nat) (a1 : Int32) (a2 : Int32) (a3 : Int32) (a4 : Int32) (a5 : Int32) (l6 : Int32) (l7 : Int32) (l8 : Int32) (W : jW) : Option (Int32 × jW) :=
  gd (jC W t = 16) <|
  gd (jin a3 (jN W 1603 t)) <|
  if a5 = (kI 10) then
    ((frn_r t a4 W).bind fun q10 =>
  if (fmo_bits a1 (kI 12) (kI 1)) = (kI 1) then
    (frn_moveOne_86 t a1 a2 a3 a4 a5 l7 l8 l6 q10 (jB W 1603 t (ix a3)) W)
  else
    (frn_moveOne_86 t a1 a2 a3 a4 a5 l7 l8 (kI 0) q10 (jB W 1603 t (ix a3)) W))
  else
    (frn_moveOne_102 t a1 a2 a3 a4 a5 l7 l8 (lxl ((fmo_bits a1 (kI 10) (kI 12)).toInt64) l6) (jB W 1603 t (ix a3)) W)
noncomputable def frn_moveOne (t : Nat) (a1 : Int32) (a2 : Int32) (a3 : Int32) (a4 : Int32) (a5 : Int32) (W : jW) : Option (Int32 × jW) :=
  jlt (fmo_bits a1 (kI 30) (kI 2)) fun v1 =>
  jlt (ixl (kI 1) v1) fun v2 =>
  jlt (fmo_bits a1 (kI 22) (kI 2)) fun v3 =>
  gd (jC W t = 16) <|
  (frn_isCodeOrStack t a3 W).bind fun q5 =>
  if q5 = (0 : Int32) then
    (if a5 = (kI 10) then
    ((frn_isCode t a4 W).bind fun q6 =>
  if q6 = (0 : Int32) then
    (frn_moveOne_50 t a1 a2 a3 a4 a5 v1 v2 v3 W)
  else
    (frn_moveOne_48 t a1 a2 a3 a4 a5 W))
  else
    (frn_moveOne_50 t a1 a2 a3 a4 a5 v1 v2 v3 W))
  else
    (frn_moveOne_48 t a1 a2 a3 a4 a5 W)
noncomputable def frn_work_519 (t : Nat) (a1 : Int32) (a2 : Int32) (a3 : Int32) (l8 : Int32) (W : jW) : Option (Int32 × jW) :=
  some (l8, W)
noncomputable def frn_work_501 (t : Nat) (a1 : Int32) (a2 : Int32) (a3 : Int32) (l8 : Int32) (W : jW) : Option (Int32 × jW) :=
  if l8 = (kI (-1)) then
    (gd (jC W t = 16) <| jlt (sL W 1623 t ((jL W 1623 t) + (kJ 4))) fun W85 => frn_work_519 t a1 a2 a3 l8 W85)
  else
    (frn_work_519 t a1 a2 a3 l8 W)
noncomputable def frn_work_487 (t : Nat) (a1 : Int32) (a2 : Int32) (a3 : Int32) (l4 : Int32) (l5 : Int32) (l6 : Int32) (W : jW) : Option (Int32 × jW) :=
  gd (jC W t = 16) <| (frn_moveOne t a1 l4 l5 l6 a2 W).bind fun q58 => frn_work_501 t a1 a2 a3 q58.1 q58.2
noncomputable def frn_work_133 (t : Nat) (a1 : Int32) (a2 : Int32) (a3 : Int32) (W : jW) : Option (Int32 × jW) :=
  some ((kI 3), W)
noncomputable def frn_work_208 (t : Nat) (a1 : Int32) (a2 : Int32) (a3 : Int32) (l8 : Int32) (s0 : Int32) (s1 : Int32) (s2 : Int32) (s3 : Int64) (s4 : Int64) (s5 : Nat) (s6 : Int32) (s7 : Nat) (W : jW) : Option (Int32 × jW) :=
  gd (jC W s5 = 16) <|
  (frn_sum s5 s4 s3 s2 s1 s0 W).bind fun q77 =>
  gd (jC q77.2 s7 = 16) <|
  (frn_set s7 s6 q77.1 q77.2).bind fun q80 =>
  frn_work_501 t a1 a2 a3 l8 q80
noncomputable def frn_work_190 (t : Nat) (a1 : Int32) (a2 : Int32) (a3 : Int32) (l7 : Int32) (l8 : Int32) (s0 : Int32) (s1 : Int64) (s2 : Int64) (s3 : Nat) (s4 : Int32) (s5 : Nat) (W : jW) : Option (Int32 × jW) :=
  if (fmo_bits a1 (kI 29) (kI 1)) = (kI 1) then
    (frn_work_208 t a1 a2 a3 l8 (kI 1) l7 s0 s1 s2 s3 s4 s5 W)
  else
    (frn_work_208 t a1 a2 a3 l8 (kI 0) l7 s0 s1 s2 s3 s4 s5 W)
noncomputable def frn_work_163 (t : Nat) (a1 : Int32) (a2 : Int32) (a3 : Int32) (l6 : Int32) (l7 : Int32) (l8 : Int32) (s0 : Int64) (s1 : Nat) (s2 : Int32) (s3 : Nat) (W : jW) : Option (Int32 × jW) :=
  gd (jC W t = 16) <|
  (frn_r t l6 W).bind fun q73 =>
  if (fmo_bits a1 (kI 30) (kI 1)) = (kI 1) then
    (frn_work_190 t a1 a2 a3 l7 l8 (kI 1) (frn_shifted t a1 q73) s0 s1 s2 s3 W)
  else
    (frn_work_190 t a1 a2 a3 l7 l8 (kI 0) (frn_shifted t a1 q73) s0 s1 s2 s3 W)
noncomputable def frn_work_292 (t : Nat) (a1 : Int32) (a2 : Int32) (a3 : Int32) (W : jW) : Option (Int32 × jW) :=
  some ((kI 3), W)
noncomputable def frn_work_362 (t : Nat) (a1 : Int32) (a2 : Int32) (a3 : Int32) (l8 : Int32) (s0 : Int64) (s1 : Int32) (s2 : Nat) (W : jW) : Option (Int32 × jW) :=
  gd (jC W s2 = 16) <| (frn_set s2 s1 s0 W).bind fun q68 => frn_work_501 t a1 a2 a3 l8 q68
noncomputable def frn_work_341 (t : Nat) (a1 : Int32) (a2 : Int32) (a3 : Int32) (l4 : Int32) (l7 : Int32) (l8 : Int32) (s0 : Int64) (W : jW) : Option (Int32 × jW) :=
  if l7 = (0 : Int32) then
    (frn_work_362 t a1 a2 a3 l8 (s0 &&& (kJ 4294967295)) l4 t W)
  else
    (frn_work_362 t a1 a2 a3 l8 s0 l4 t W)
noncomputable def frn_work_386 (t : Nat) (a1 : Int32) (a2 : Int32) (a3 : Int32) (W : jW) : Option (Int32 × jW) :=
  some ((kI 3), W)
noncomputable def frn_work_451 (t : Nat) (a1 : Int32) (a2 : Int32) (a3 : Int32) (l8 : Int32) (s0 : Int64) (s1 : Int32) (s2 : Nat) (W : jW) : Option (Int32 × jW) :=
  gd (jC W s2 = 16) <| (frn_set s2 s1 s0 W).bind fun q62 => frn_work_501 t a1 a2 a3 l8 q62
noncomputable def frn_work_34 (t : Nat) (a1 : Int32) (a2 : Int32) (a3 : Int32) (l4 : Int32) (l5 : Int32) (l6 : Int32) (s0 : Int32) (W : jW) : Option (Int32 × jW) :=
  if a2 = (kI 1) then
    (gd (jC W t = 16) <| (frn_addNumber t a1 l4 l5 a3 W).bind fun q7 => frn_work_501 t a1 a2 a3 q7.1 q7.2)
  else if a2 = (kI 2) then
    (gd (jC W t = 16) <|
    (frn_isCode t l5 W).bind fun q11 =>
    if q11 = (0 : Int32) then
      ((frn_isCode t l6 W).bind fun q12 =>
    if q12 = (0 : Int32) then
      (if s0 = (0 : Int32) then
        ((frn_r t l5 W).bind fun q13 => frn_work_163 t a1 a2 a3 l6 s0 (kI (-1)) (q13 &&& (kJ 4294967295)) t l4 t W)
      else
        ((frn_r t l5 W).bind fun q14 => frn_work_163 t a1 a2 a3 l6 s0 (kI (-1)) q14 t l4 t W))
    else
      (frn_work_133 t a1 a2 a3 W))
    else
      (frn_work_133 t a1 a2 a3 W))
  else if a2 = (kI 3) then
    (gd (jC W t = 16) <| (frn_and t a1 l4 l5 l6 W).bind fun q17 => frn_work_501 t a1 a2 a3 q17.1 q17.2)
  else if a2 = (kI 4) then
    (gd (jC W t = 16) <| (frn_move t a1 l4 W).bind fun q21 => frn_work_501 t a1 a2 a3 q21.1 q21.2)
  else if a2 = (kI 5) then
    (gd (jC W t = 16) <| (frn_adrp t a1 l4 a3 W).bind fun q25 => frn_work_501 t a1 a2 a3 (kI (-1)) q25)
  else if a2 = (kI 6) then
    (jlt (fmo_bits a1 (kI 10) (kI 5)) fun v28 =>
    gd (jC W t = 16) <|
    (frn_isCode t l5 W).bind fun q30 =>
    if q30 = (0 : Int32) then
      ((frn_isCode t l6 W).bind fun q31 =>
    if q31 = (0 : Int32) then
      ((frn_isCode t v28 W).bind fun q32 =>
    if q32 = (0 : Int32) then
      ((frn_r t l5 W).bind fun q33 =>
      (frn_r t l6 W).bind fun q34 =>
      jlt (q33 * q34) fun v35 =>
      if (fmo_bits a1 (kI 15) (kI 1)) = (kI 1) then
        ((frn_r t v28 W).bind fun q37 => frn_work_341 t a1 a2 a3 l4 s0 (kI (-1)) (q37 - v35) W)
      else
        ((frn_r t v28 W).bind fun q36 => frn_work_341 t a1 a2 a3 l4 s0 (kI (-1)) (q36 + v35) W))
    else
      (frn_work_292 t a1 a2 a3 W))
    else
      (frn_work_292 t a1 a2 a3 W))
    else
      (frn_work_292 t a1 a2 a3 W))
  else if a2 = (kI 7) then
    (gd (jC W t = 16) <|
    (frn_isCode t l5 W).bind fun q40 =>
    if q40 = (0 : Int32) then
      ((frn_isCode t l6 W).bind fun q41 =>
    if q41 = (0 : Int32) then
      (if s0 = (0 : Int32) then
        ((frn_r t l5 W).bind fun q42 =>
        (frn_r t l6 W).bind fun q43 =>
        (frn_twoWords (fmo_bits a1 (kI 10) (kI 6)) q42.toInt32 q43.toInt32 W).bind fun q44 =>
        frn_work_451 t a1 a2 a3 (kI (-1)) (q44 &&& (kJ 4294967295)) l4 t W)
      else
        ((frn_r t l5 W).bind fun q45 =>
      (frn_r t l6 W).bind fun q46 =>
      (frn_two (fmo_bits a1 (kI 10) (kI 6)) q45 q46 W).bind fun q47 =>
      frn_work_451 t a1 a2 a3 (kI (-1)) q47 l4 t W))
    else
      (frn_work_386 t a1 a2 a3 W))
    else
      (frn_work_386 t a1 a2 a3 W))
  else if a2 = (kI 8) then
    (gd (jC W t = 16) <| (frn_choose t a1 l4 l5 l6 W).bind fun q50 => frn_work_501 t a1 a2 a3 q50.1 q50.2)
  else if a2 = (kI 11) then
    (gd (jC W t = 16) <| (frn_pair t a1 l4 l5 W).bind fun q54 => frn_work_501 t a1 a2 a3 q54.1 q54.2)
  else (frn_work_487 t a1 a2 a3 l4 l5 l6 W)
noncomputable def frn_work (t : Nat) (a1 : Int32) (a2 : Int32) (a3 : Int32) (W : jW) : Option (Int32 × jW) :=
  jlt (fmo_bits a1 (kI 0) (kI 5)) fun v1 =>
  jlt (fmo_bits a1 (kI 5) (kI 5)) fun v2 =>
  jlt (fmo_bits a1 (kI 16) (kI 5)) fun v3 =>
  if a1 < (0 : Int32) then
    (frn_work_34 t a1 a2 a3 v1 v2 v3 (kI 1) W)
  else
    (frn_work_34 t a1 a2 a3 v1 v2 v3 (kI 0) W)
noncomputable def frn_returnHere_25 (t : Nat) (a1 : Int32) (s0 : Int32) (s1 : Int32) (s2 : Int32) (s3 : Nat) (W : jW) : Option (jW) :=
  gd (jC W t = 16) <| gd (jC W s3 = 16) <| (frn_make s3 s2 s1 s0 ((jL W 1623 t) + (kJ 4)) W).bind fun q7 => some q7
noncomputable def frn_returnHere (t : Nat) (a1 : Int32) (W : jW) : Option (jW) :=
  gd (jC W t = 16) <|
  if (jI W 1601 t) = (kI 1) then
    (gd (jC W (jR W 1600 t) = 13) <| gd (jin a1 (jN W 1317 (jR W 1600 t))) <| frn_returnHere_25 t a1 (jA W 1317 (jR W 1600 t) (ix a1)) (kI 2) (kI 30) t W)
  else
    (frn_returnHere_25 t a1 (kI 0) (kI 2) (kI 30) t W)
noncomputable def fmo_isPlace_93 (t : Nat) (a1 : Int32) (a2 : Int64) (W : jW) : Option (Int32) :=
  some (kI 1)
noncomputable def fmo_isPlace_97 (t : Nat) (a1 : Int32) (a2 : Int64) (W : jW) : Option (Int32) :=
  some (kI 0)
noncomputable def fmo_isPlace_181 (t : Nat) (a1 : Int32) (a2 : Int64) (W : jW) : Option (Int32) :=
  some (kI 1)
noncomputable def fmo_isPlace_185 (t : Nat) (a1 : Int32) (a2 : Int64) (W : jW) : Option (Int32) :=
  some (kI 0)
noncomputable def fmo_isPlace (t : Nat) (a1 : Int32) (a2 : Int64) (W : jW) : Option (Int32) :=
  if (a2 &&& (kJ 3)) = (kJ 0) then
    (jlt (a2.toInt32 / (kI 4)) fun v1 =>
    if a1 = (0 : Int32) then
      (gd (jC W t = 13) <|
      gd (jin v1 (jN W 1317 t)) <|
      jlt (jA W 1317 t (ix v1)) fun v4 =>
      gd (jin v4 (jN W 1322 t)) <|
      if (jA W 1322 t (ix v4)) = v1 then
        (fmo_isPlace_181 t a1 a2 W)
      else
        (if (0 : Int32) < v1 then
        (gd (jin (v1 - (kI 1)) (jN W 1317 t)) <|
      (fmo_last t (jA W 1317 t (ix (v1 - (kI 1)))) W).bind fun q7 =>
      if q7 = (v1 - (kI 1)) then
        (gd (jin (v1 - (kI 1)) (jN W 1317 t)) <|
      gd (jin (jA W 1317 t (ix (v1 - (kI 1)))) (jN W 1325 t)) <|
      if (jA W 1325 t (ix (jA W 1317 t (ix (v1 - (kI 1)))))) = (kI 4) then
        (fmo_isPlace_181 t a1 a2 W)
      else
        (gd (jin (v1 - (kI 1)) (jN W 1317 t)) <|
      gd (jin (jA W 1317 t (ix (v1 - (kI 1)))) (jN W 1325 t)) <|
      if (jA W 1325 t (ix (jA W 1317 t (ix (v1 - (kI 1)))))) = (kI 5) then
        (fmo_isPlace_181 t a1 a2 W)
      else
        (fmo_isPlace_185 t a1 a2 W)))
      else
        (fmo_isPlace_185 t a1 a2 W))
      else
        (fmo_isPlace_185 t a1 a2 W)))
    else
      (gd (jC W t = 13) <|
    (fmo_blockAtNew t v1 W).bind fun q13 =>
    if q13 < (0 : Int32) then
      ((fmo_blockUnder t (v1 - (kI 1)) W).bind fun q14 =>
      if q14 < (0 : Int32) then
        (fmo_isPlace_97 t a1 a2 W)
      else
        (gd (jC W (jR W 1350 t) = 15) <|
      gd (jin q14 (jN W 1503 (jR W 1350 t))) <|
      gd (jin q14 (jN W 1323 t)) <|
      if ((jA W 1503 (jR W 1350 t) (ix q14)) + (jA W 1323 t (ix q14))) = v1 then
        (gd (jin q14 (jN W 1325 t)) <|
      if (jA W 1325 t (ix q14)) = (kI 4) then
        (fmo_isPlace_93 t a1 a2 W)
      else
        (gd (jin q14 (jN W 1325 t)) <|
      if (jA W 1325 t (ix q14)) = (kI 5) then
        (fmo_isPlace_93 t a1 a2 W)
      else
        (fmo_isPlace_97 t a1 a2 W)))
      else
        (fmo_isPlace_97 t a1 a2 W)))
    else
      (some (kI 1))))
  else
    (some (kI 0))
noncomputable def frn_goesTo_107 (t : Nat) (a1 : Int32) (a2 : Int32) (a3 : Int32) (l4 : Int64) (W : jW) : Option (Int32 × jW) :=
  gd (jC W t = 16) <| jlt (sL W 1623 t l4) fun W18 => some ((kI (-1)), W18)
noncomputable def frn_goesTo_98 (t : Nat) (a1 : Int32) (a2 : Int32) (a3 : Int32) (l4 : Int64) (W : jW) : Option (Int32 × jW) :=
  if a2 = (0 : Int32) then
    (frn_goesTo_107 t a1 a2 a3 l4 W)
  else
    (gd (jC W t = 16) <| (frn_returnHere t a3 W).bind fun q14 => frn_goesTo_107 t a1 a2 a3 l4 q14)
noncomputable def frn_goesTo_88 (t : Nat) (a1 : Int32) (a2 : Int32) (a3 : Int32) (l4 : Int64) (l6 : Int64) (s0 : Int32) (s1 : Nat) (W : jW) : Option (Int32 × jW) :=
  gd (jC W s1 = 13) <|
  (fmo_isPlace s1 s0 l6 W).bind fun q11 =>
  if q11 = (0 : Int32) then
    (some ((kI 4), W))
  else
    (frn_goesTo_98 t a1 a2 a3 l4 W)
noncomputable def frn_goesTo_47 (t : Nat) (a1 : Int32) (a2 : Int32) (a3 : Int32) (l4 : Int64) (W : jW) : Option (Int32 × jW) :=
  gd (jC W t = 16) <|
  (frn_inText t l4 (kI 1) W).bind fun q8 =>
  if (jI W 1601 t) = (kI 1) then
    (frn_goesTo_98 t a1 a2 a3 l4 W)
  else
    (if q8 < (kJ 0) then
    (frn_goesTo_98 t a1 a2 a3 l4 W)
  else
    (if (jI W 1601 t) = (kI 2) then
    (frn_goesTo_88 t a1 a2 a3 l4 q8 (kI 1) (jR W 1600 t) W)
  else
    (frn_goesTo_88 t a1 a2 a3 l4 q8 (kI 0) (jR W 1600 t) W)))
noncomputable def frn_goesTo (t : Nat) (a1 : Int32) (a2 : Int32) (a3 : Int32) (W : jW) : Option (Int32 × jW) :=
  gd (jC W t = 16) <|
  (frn_r t a1 W).bind fun q2 =>
  (frn_isCode t a1 W).bind fun q3 =>
  if q3 = (0 : Int32) then
    (if (jI W 1601 t) = (kI 1) then
      ((frn_hits t q2 (kI 4) W).bind fun q4 => if q4 = (0 : Int32) then
      (frn_goesTo_47 t a1 a2 a3 q2 W)
    else
      (some ((kI 3), W)))
    else
      (frn_goesTo_47 t a1 a2 a3 q2 W))
  else
    (gd (jin a1 (jN W 1604 t)) <| if (jA W 1604 t (ix a1)) = (kI 3) then
    (some ((kI 3), W))
  else
    (frn_goesTo_47 t a1 a2 a3 q2 W))
abbrev frn_call_S : Type := (Int32 × Int32 × Int32 × jW) ⊕ (Int32 × Int32 × Int32 × jW)
noncomputable def frn_call_33 (t : Nat) (W : jW) : Option (frn_call_S ⊕ (Int32 × jW)) :=
  some (.inr ((kI 3), W))
noncomputable def frn_call_135 (t : Nat) (W : jW) : Option (frn_call_S ⊕ (Int32 × jW)) :=
  some (.inr ((kI 3), W))
noncomputable def frn_call_267 (t : Nat) (l1 : Int32) (l2 : Int32) (l3 : Int32) (W : jW) : Option (frn_call_S ⊕ (Int32 × jW)) :=
  gd (jC W t = 16) <| jlt (sI W 1620 t ((jI W 1620 t) + (kI 1))) fun W64 => jlt (l3 + (kI 1)) fun v68 => some (.inl (.inr (l1, l2, v68, W64)))
noncomputable def frn_call_329 (t : Nat) (s0 : Int64) (s1 : Int32) (s2 : Nat) (W : jW) : Option (frn_call_S ⊕ (Int32 × jW)) :=
  gd (jC W s2 = 16) <| (frn_set s2 s1 s0 W).bind fun q71 => some (.inr ((kI (-1)), q71))
noncomputable def frn_call_227 (t : Nat) (l1 : Int32) (l2 : Int32) (l3 : Int32) (W : jW) : Option (frn_call_S ⊕ (Int32 × jW)) :=
  if l3 < l2 then
    (gd (jC W t = 16) <|
  if (jI W 1620 t) < (kI 16384) then
    (gd (jin (kI 1) (jN W 1603 t)) <|
  (frn_loaded t ((jB W 1603 t (ix (kI 1))) + l3.toInt64) (kI 1) W).bind fun q56 =>
  gd (jin (jI W 1620 t) (jN W 1622 t)) <|
  jlt (pA W 1622 t (ix (jI W 1620 t)) (i2b (i2b q56.toInt32))) fun W58 =>
  frn_call_267 t l1 l2 l3 W58)
  else
    (frn_call_267 t l1 l2 l3 W))
  else
    (gd (jC W t = 16) <|
    jlt (sL W 1623 t ((jL W 1623 t) + (kJ 4))) fun W48 =>
    gd (jin (kI 8) (jN W48 1603 t)) <|
    if (jB W48 1603 t (ix (kI 8))) = (kJ 93) then
      (some (.inr ((kI 1), W48)))
    else
      (if l1 = (0 : Int32) then
        (frn_call_329 t (kJ (-38)) (kI 0) t W48)
      else
        (gd (jin (kI 2) (jN W48 1603 t)) <| frn_call_329 t (jB W48 1603 t (ix (kI 2))) (kI 0) t W48)))
noncomputable def frn_call_215 (t : Nat) (l1 : Int32) (l2 : Int32) (W : jW) : Option (frn_call_S ⊕ (Int32 × jW)) :=
  gd (jC W t = 16) <| jlt (sI W 1619 t ((jI W 1619 t) + (kI 1))) fun W42 => some (.inl (.inr (l1, l2, (kI 0), W42)))
noncomputable def frn_call_183 (t : Nat) (l1 : Int32) (l2 : Int32) (l3 : Int32) (W : jW) : Option (frn_call_S ⊕ (Int32 × jW)) :=
  if l3 < (kI 3) then
    (gd (jC W t = 16) <|
  gd (jin l3 (jN W 1603 t)) <|
  gd (jin ((((kI 4) * (jI W 1619 t)) + (kI 1)) + l3) (jN W 1621 t)) <|
  jlt (pB W 1621 t (ix ((((kI 4) * (jI W 1619 t)) + (kI 1)) + l3)) (jB W 1603 t (ix l3))) fun W35 =>
  jlt (l3 + (kI 1)) fun v39 =>
  some (.inl (.inl (l1, l2, v39, W35))))
  else
    (frn_call_215 t l1 l2 W)
noncomputable def frn_call_153 (t : Nat) (l1 : Int32) (l2 : Int32) (W : jW) : Option (frn_call_S ⊕ (Int32 × jW)) :=
  gd (jC W t = 16) <|
  if (jI W 1619 t) < (kI 200) then
    (gd (jin (kI 8) (jN W 1603 t)) <|
  gd (jin ((kI 4) * (jI W 1619 t)) (jN W 1621 t)) <|
  jlt (pB W 1621 t (ix ((kI 4) * (jI W 1619 t))) (jB W 1603 t (ix (kI 8)))) fun W27 =>
  some (.inl (.inl (l1, l2, (kI 0), W27))))
  else
    (frn_call_215 t l1 l2 W)
noncomputable def frn_call_137 (t : Nat) (l1 : Int32) (l2 : Int32) (W : jW) : Option (frn_call_S ⊕ (Int32 × jW)) :=
  gd (jC W t = 16) <|
  gd (jin (kI 1) (jN W 1603 t)) <|
  (frn_faultsLoad t (jB W 1603 t (ix (kI 1))) l2 W).bind fun q22 =>
  if q22 = (0 : Int32) then
    (frn_call_153 t l1 l2 W)
  else
    (some (.inr ((kI 2), W)))
noncomputable def frn_call_94 (t : Nat) (l1 : Int32) (s0 : Int32) (W : jW) : Option (frn_call_S ⊕ (Int32 × jW)) :=
  if (0 : Int32) < s0 then
    (gd (jC W t = 16) <|
  if (jI W 1601 t) = (kI 1) then
    (gd (jin (kI 1) (jN W 1603 t)) <|
  (frn_hits t (jB W 1603 t (ix (kI 1))) s0 W).bind fun q15 =>
  if q15 = (0 : Int32) then
    (gd (jin (kI 1) (jN W 1603 t)) <|
  (frn_hasCode t (jB W 1603 t (ix (kI 1))) s0 W).bind fun q17 =>
  if q17 = (0 : Int32) then
    (frn_call_137 t l1 s0 W)
  else
    (frn_call_135 t W))
  else
    (frn_call_135 t W))
  else
    (frn_call_137 t l1 s0 W))
  else
    (frn_call_153 t l1 s0 W)
noncomputable def frn_call_78 (t : Nat) (s0 : Int32) (W : jW) : Option (frn_call_S ⊕ (Int32 × jW)) :=
  if s0 = (0 : Int32) then
    (frn_call_94 t s0 (kI 0) W)
  else
    (gd (jC W t = 16) <| gd (jin (kI 2) (jN W 1603 t)) <| frn_call_94 t s0 ((jB W 1603 t (ix (kI 2))).toInt32) W)
noncomputable def frn_call_77 (t : Nat) (W : jW) : Option (frn_call_S ⊕ (Int32 × jW)) :=
  frn_call_78 t (kI 0) W
noncomputable def frn_call_st (t : Nat) : frn_call_S → Option (frn_call_S ⊕ (Int32 × jW)) :=
  (Sum.elim (fun s => frn_call_183 t s.1 s.2.1 s.2.2.1 s.2.2.2) (fun s => frn_call_227 t s.1 s.2.1 s.2.2.1 s.2.2.2))
noncomputable def frn_call_0 (t : Nat) (W : jW) : Option (frn_call_S ⊕ (Int32 × jW)) :=
  gd (jC W t = 16) <|
  (frn_isCode t (kI 8) W).bind fun q2 =>
  if q2 = (0 : Int32) then
    ((frn_isCode t (kI 0) W).bind fun q3 =>
  if q3 = (0 : Int32) then
    ((frn_isCode t (kI 1) W).bind fun q4 =>
  if q4 = (0 : Int32) then
    ((frn_isCode t (kI 2) W).bind fun q5 =>
  if q5 = (0 : Int32) then
    (gd (jin (kI 8) (jN W 1603 t)) <|
    if (jB W 1603 t (ix (kI 8))) = (kJ 64) then
      (gd (jin (kI 2) (jN W 1603 t)) <|
    if (jB W 1603 t (ix (kI 2))) < (kJ 0) then
      (frn_call_77 t W)
    else
      (gd (jin (kI 2) (jN W 1603 t)) <| if (kJ 4096) < (jB W 1603 t (ix (kI 2))) then
      (frn_call_77 t W)
    else
      (frn_call_78 t (kI 1) W)))
    else
      (frn_call_77 t W))
  else
    (frn_call_33 t W))
  else
    (frn_call_33 t W))
  else
    (frn_call_33 t W))
  else
    (frn_call_33 t W)
noncomputable def frn_call (t : Nat) (W : jW) : Option (Int32 × jW) :=
  jrn (frn_call_st t) (frn_call_0 t W)
noncomputable def frn_goes_141 (t : Nat) (a1 : Int32) (a2 : Int32) (a3 : Int32) (s0 : Int64) (s1 : Int64) (s2 : Nat) (W : jW) : Option (Int32 × jW) :=
  gd (jC W s2 = 16) <| jlt (sL W 1623 s2 (s1 + s0)) fun W67 => some ((kI (-1)), W67)
noncomputable def frn_goes_234 (t : Nat) (a1 : Int32) (a2 : Int32) (a3 : Int32) (s0 : Int64) (s1 : Int64) (s2 : Nat) (W : jW) : Option (Int32 × jW) :=
  gd (jC W s2 = 16) <| jlt (sL W 1623 s2 (s1 + s0)) fun W61 => some ((kI (-1)), W61)
noncomputable def frn_goes_215 (t : Nat) (a1 : Int32) (a2 : Int32) (a3 : Int32) (s0 : Int32) (s1 : Int32) (s2 : Int64) (s3 : Nat) (W : jW) : Option (Int32 × jW) :=
  if s1 = s0 then
    (frn_goes_234 t a1 a2 a3 ((kJ 4) * ((fmo_far a1 a2).toInt64)) s2 s3 W)
  else
    (frn_goes_234 t a1 a2 a3 (kJ 4) s2 s3 W)
noncomputable def frn_goes_200 (t : Nat) (a1 : Int32) (a2 : Int32) (a3 : Int32) (s0 : Int32) (s1 : Int64) (s2 : Nat) (W : jW) : Option (Int32 × jW) :=
  if (fmo_bits a1 (kI 24) (kI 1)) = (0 : Int32) then
    (frn_goes_215 t a1 a2 a3 (kI 1) s0 s1 s2 W)
  else
    (frn_goes_215 t a1 a2 a3 (kI 0) s0 s1 s2 W)
noncomputable def frn_goes_181 (t : Nat) (a1 : Int32) (a2 : Int32) (a3 : Int32) (s0 : Int64) (W : jW) : Option (Int32 × jW) :=
  gd (jC W t = 16) <|
  if s0 = (kJ 0) then
    (frn_goes_200 t a1 a2 a3 (kI 1) (jL W 1623 t) t W)
  else
    (frn_goes_200 t a1 a2 a3 (kI 0) (jL W 1623 t) t W)
noncomputable def frn_goes_315 (t : Nat) (a1 : Int32) (a2 : Int32) (a3 : Int32) (s0 : Int64) (s1 : Int64) (s2 : Nat) (W : jW) : Option (Int32 × jW) :=
  gd (jC W s2 = 16) <| jlt (sL W 1623 s2 (s1 + s0)) fun W51 => some ((kI (-1)), W51)
noncomputable def frn_goes_274 (t : Nat) (a1 : Int32) (a2 : Int32) (a3 : Int32) (s0 : Int32) (s1 : Int32) (s2 : Int64) (W : jW) : Option (Int32 × jW) :=
  jlt ((lxr s2 (s1 + s0)) &&& (kJ 1)) fun v47 =>
  gd (jC W t = 16) <|
  if v47 = (fmo_bits a1 (kI 24) (kI 1)).toInt64 then
    (frn_goes_315 t a1 a2 a3 ((kJ 4) * ((fmo_far a1 a2).toInt64)) (jL W 1623 t) t W)
  else
    (frn_goes_315 t a1 a2 a3 (kJ 4) (jL W 1623 t) t W)
noncomputable def frn_goes_339 (t : Nat) (a1 : Int32) (a2 : Int32) (a3 : Int32) (s0 : Int32) (s1 : Int32) (s2 : Nat) (W : jW) : Option (Int32 × jW) :=
  gd (jC W s2 = 16) <| (frn_goesTo s2 s1 s0 a3 W).bind fun q44 => some (q44.1, q44.2)
noncomputable def frn_goes_321 (t : Nat) (a1 : Int32) (a2 : Int32) (a3 : Int32) (W : jW) : Option (Int32 × jW) :=
  if a2 = (kI 18) then
    (frn_goes_339 t a1 a2 a3 (kI 1) (fmo_bits a1 (kI 5) (kI 5)) t W)
  else
    (frn_goes_339 t a1 a2 a3 (kI 0) (fmo_bits a1 (kI 5) (kI 5)) t W)
noncomputable def frn_goes (t : Nat) (a1 : Int32) (a2 : Int32) (a3 : Int32) (W : jW) : Option (Int32 × jW) :=
  jlt (fmo_bits a1 (kI 0) (kI 5)) fun v1 =>
  if a2 = (kI 12) then
    (gd (jC W t = 16) <| jlt (sL W 1623 t ((jL W 1623 t) + ((kJ 4) * ((fmo_far a1 a2).toInt64)))) fun W4 => some ((kI (-1)), W4))
  else if a2 = (kI 13) then
    (gd (jC W t = 16) <|
    (frn_returnHere t a3 W).bind fun q10 =>
    gd (jC q10 t = 16) <|
    jlt (sL q10 1623 t ((jL q10 1623 t) + ((kJ 4) * ((fmo_far a1 a2).toInt64)))) fun W13 =>
    some ((kI (-1)), W13))
  else if a2 = (kI 14) then
    (gd (jC W t = 16) <|
    (frn_holds t (fmo_bits a1 (kI 0) (kI 4)) W).bind fun q19 =>
    if q19 = (0 : Int32) then
      (frn_goes_141 t a1 a2 a3 (kJ 4) (jL W 1623 t) t W)
    else
      (frn_goes_141 t a1 a2 a3 ((kJ 4) * ((fmo_far a1 a2).toInt64)) (jL W 1623 t) t W))
  else if a2 = (kI 15) then
    (gd (jC W t = 16) <|
    (frn_isCode t v1 W).bind fun q22 =>
    if q22 = (0 : Int32) then
      (if a1 < (0 : Int32) then
        ((frn_r t v1 W).bind fun q24 => frn_goes_181 t a1 a2 a3 q24 W)
      else
        ((frn_r t v1 W).bind fun q23 => frn_goes_181 t a1 a2 a3 (q23 &&& (kJ 4294967295)) W))
    else
      (some ((kI 3), W)))
  else if a2 = (kI 16) then
    (gd (jC W t = 16) <|
    (frn_isCode t v1 W).bind fun q27 =>
    if q27 = (0 : Int32) then
      ((frn_r t v1 W).bind fun q28 =>
      if a1 < (0 : Int32) then
        (frn_goes_274 t a1 a2 a3 (kI 32) (fmo_bits a1 (kI 19) (kI 5)) q28 W)
      else
        (frn_goes_274 t a1 a2 a3 (kI 0) (fmo_bits a1 (kI 19) (kI 5)) q28 W))
    else
      (some ((kI 3), W)))
  else if a2 = (kI 17) then
    (frn_goes_321 t a1 a2 a3 W)
  else if a2 = (kI 18) then
    (frn_goes_321 t a1 a2 a3 W)
  else if a2 = (kI 19) then
    (frn_goes_321 t a1 a2 a3 W)
  else if a2 = (kI 20) then
    (gd (jC W t = 16) <| (frn_call t W).bind fun q34 => some (q34.1, q34.2))
  else (gd (jC W t = 16) <| jlt (sL W 1623 t ((jL W 1623 t) + (kJ 4))) fun W37 => some ((kI (-1)), W37))
noncomputable def frn_runOne_16 (t : Nat) (a1 : Int64) (W : jW) : Option (jW) :=
  gd (jC W t = 16) <| jlt (sI W 1618 t (kI 2)) fun W37 => some W37
noncomputable def frn_runOne_126 (t : Nat) (a1 : Int64) (l5 : Int32) (W : jW) : Option (jW) :=
  gd (jC W t = 16) <| jlt (sI W 1618 t l5) fun W31 => some W31
noncomputable def frn_runOne_106 (t : Nat) (a1 : Int64) (s0 : Int32) (W : jW) : Option (jW) :=
  if s0 = (kI 2) then
    (frn_runOne_126 t a1 s0 W)
  else
    (if s0 = (kI 3) then
    (frn_runOne_126 t a1 s0 W)
  else
    (if s0 = (kI 4) then
    (frn_runOne_126 t a1 s0 W)
  else
    (gd (jC W t = 16) <|
    jlt (sI W 1617 t ((jI W 1617 t) + (kI 1))) fun W21 =>
    if s0 = (kI 1) then
      (jlt (sI W21 1618 t (kI 1)) fun W25 => some W25)
    else
      (some W21))))
noncomputable def frn_runOne_56 (t : Nat) (a1 : Int64) (s0 : Int32) (W : jW) : Option (jW) :=
  jlt (fmo_sort s0) fun v7 =>
  if v7 = (0 : Int32) then
    (gd (jC W t = 16) <| jlt (sI W 1618 t (kI 2)) fun W15 => some W15)
  else
    (if v7 < (kI 12) then
      (gd (jC W t = 16) <| (frn_work t s0 v7 (a1.toInt32 / (kI 4)) W).bind fun q12 => frn_runOne_106 t a1 q12.1 q12.2)
    else
      (gd (jC W t = 16) <| (frn_goes t s0 v7 (a1.toInt32 / (kI 4)) W).bind fun q9 => frn_runOne_106 t a1 q9.1 q9.2))
noncomputable def frn_runOne (t : Nat) (a1 : Int64) (W : jW) : Option (jW) :=
  if a1 < (kJ 0) then
    (frn_runOne_16 t a1 W)
  else
    (if (a1 &&& (kJ 3)) = (kJ 0) then
    (gd (jC W t = 16) <|
    if (jI W 1601 t) = (kI 2) then
      (gd (jC W (jR W 1600 t) = 13) <| (fmo_newWordAt (jR W 1600 t) (a1.toInt32 / (kI 4)) W).bind fun q5 => frn_runOne_56 t a1 q5 W)
    else
      (gd (jC W (jR W 1600 t) = 13) <|
      gd (jin (a1.toInt32 / (kI 4)) (jN W 1315 (jR W 1600 t))) <|
      frn_runOne_56 t a1 (jA W 1315 (jR W 1600 t) (ix (a1.toInt32 / (kI 4)))) W))
  else
    (frn_runOne_16 t a1 W))
noncomputable def frn_step_130 (t : Nat) (W : jW) : Option (jW) :=
  gd (jC W t = 16) <| jlt (sI W 1618 t (kI 0)) fun W34 => some W34
noncomputable def frn_step_174 (t : Nat) (l1 : Int64) (W : jW) : Option (jW) :=
  gd (jC W t = 16) <| (frn_runOne t l1 W).bind fun q40 => some q40
noncomputable def frn_step_94 (t : Nat) (l1 : Int64) (s0 : Int32) (W : jW) : Option (jW) :=
  if s0 < (0 : Int32) then
    (frn_step_174 t l1 W)
  else
    (gd (jC W t = 16) <|
  if (jI W 1614 t) = (jI W 1615 t) then
    (frn_step_130 t W)
  else
    (gd (jC W (jR W 1600 t) = 13) <|
  gd (jin s0 (jN W 1323 (jR W 1600 t))) <|
  if (kI 20000) < ((jI W 1616 t) + (jA W 1323 (jR W 1600 t) (ix s0))) then
    (frn_step_130 t W)
  else
    (gd (jin (jI W 1614 t) (jN W 1613 t)) <|
    jlt (pA W 1613 t (ix (jI W 1614 t)) s0) fun W14 =>
    jlt (sI W14 1614 t ((jI W14 1614 t) + (kI 1))) fun W19 =>
    gd (jC W19 (jR W19 1600 t) = 13) <|
    gd (jin s0 (jN W19 1323 (jR W19 1600 t))) <|
    jlt (sI W19 1616 t ((jI W19 1616 t) + (jA W19 1323 (jR W19 1600 t) (ix s0)))) fun W26 =>
    frn_step_174 t l1 W26)))
noncomputable def frn_step (t : Nat) (W : jW) : Option (jW) :=
  gd (jC W t = 16) <|
  (frn_inText t (jL W 1623 t) (kI 4) W).bind fun q2 =>
  if q2 < (kJ 0) then
    (frn_step_174 t q2 W)
  else
    (if (q2 &&& (kJ 3)) = (kJ 0) then
    (if (jI W 1601 t) = (kI 2) then
    (gd (jC W (jR W 1600 t) = 13) <| (fmo_blockAtNew (jR W 1600 t) (q2.toInt32 / (kI 4)) W).bind fun q8 => frn_step_94 t q2 q8 W)
  else
    (gd (jC W (jR W 1600 t) = 13) <|
    gd (jin (q2.toInt32 / (kI 4)) (jN W 1317 (jR W 1600 t))) <|
    gd (jin (jA W 1317 (jR W 1600 t) (ix (q2.toInt32 / (kI 4)))) (jN W 1322 (jR W 1600 t))) <|
    if (jA W 1322 (jR W 1600 t) (ix (jA W 1317 (jR W 1600 t) (ix (q2.toInt32 / (kI 4)))))).toInt64 = (q2 / (kJ 4)) then
      (gd (jin (q2.toInt32 / (kI 4)) (jN W 1317 (jR W 1600 t))) <| frn_step_94 t q2 (jA W 1317 (jR W 1600 t) (ix (q2.toInt32 / (kI 4)))) W)
    else
      (frn_step_94 t q2 (kI (-1)) W)))
  else
    (frn_step_174 t q2 W))
abbrev frn_go_S : Type := (Int32 × jW) ⊕ (Int32 × jW) ⊕ (Int32 × jW) ⊕ (jW)
noncomputable def frn_go_110 (t : Nat) (a1 : Int32) (l2 : Int32) (s0 : Int32) (s1 : Int32) (s2 : Nat) (W : jW) : Option (frn_go_S ⊕ (Int32 × jW)) :=
  gd (jR W 1610 t = s2) <|
  gd (jin s1 (jN W 1610 t)) <|
  jlt (pA W 1610 t (ix s1) (i2b s0)) fun W55 =>
  jlt (l2 + (kI 1)) fun v58 =>
  some (.inl (.inr (.inl (v58, W55))))
noncomputable def frn_go_229 (t : Nat) (a1 : Int32) (W : jW) : Option (frn_go_S ⊕ (Int32 × jW)) :=
  gd (jC W t = 16) <|
  if (jI W 1618 t) = (kI (-1)) then
    ((frn_step t W).bind fun q122 => some (.inl (.inr (.inr (.inr q122)))))
  else
    (some (.inr ((jI W 1618 t), W)))
noncomputable def frn_go_224 (t : Nat) (a1 : Int32) (W : jW) : Option (frn_go_S ⊕ (Int32 × jW)) :=
  gd (jC W t = 16) <| jlt (sI W 1618 t (kI (-1))) fun W116 => some (.inl (.inr (.inr (.inr W116))))
noncomputable def frn_go_152 (t : Nat) (a1 : Int32) (W : jW) : Option (frn_go_S ⊕ (Int32 × jW)) :=
  gd (jC W t = 16) <|
  jlt (sI W 1614 t (kI 0)) fun W72 =>
  jlt (sI W72 1615 t a1) fun W76 =>
  jlt (sI W76 1616 t (kI 0)) fun W80 =>
  jlt (sI W80 1617 t (kI 0)) fun W84 =>
  jlt (sI W84 1619 t (kI 0)) fun W88 =>
  jlt (sI W88 1620 t (kI 0)) fun W92 =>
  gd (jC W92 (jR W92 1600 t) = 13) <|
  gd (jC W92 (jR W92 1305 (jR W92 1600 t)) = 14) <|
  (fhd_num (jR W92 1305 (jR W92 1600 t)) (kJ 24) (kI 8) W92).bind fun q98 =>
  jlt (sL W92 1623 t q98) fun W99 =>
  if (jI W99 1601 t) = (kI 2) then
    (gd (jC W99 (jR W99 1600 t) = 13) <|
  (fmo_newAddress (jR W99 1600 t) (jL W99 1623 t) W99).bind fun q106 =>
  jlt (sL W99 1623 t q106) fun W107 =>
  frn_go_224 t a1 W107)
  else
    (frn_go_224 t a1 W99)
noncomputable def frn_go_119 (t : Nat) (a1 : Int32) (l2 : Int32) (W : jW) : Option (frn_go_S ⊕ (Int32 × jW)) :=
  gd (jC W t = 16) <|
  gd (¬ jR W 1611 t = 0) <|
  if l2 < (nI (jN W 1611 t)) then
    (gd (jin l2 (jN W 1611 t)) <|
  jlt (pA W 1611 t (ix l2) (i2b (kI 0))) fun W65 =>
  jlt (l2 + (kI 1)) fun v69 =>
  some (.inl (.inr (.inr (.inl (v69, W65))))))
  else
    (if (0 : Int32) < (jI W 1601 t) then
      ((frn_prepare t W).bind fun q62 => frn_go_152 t a1 q62)
    else
      (frn_go_152 t a1 W))
noncomputable def frn_go_72 (t : Nat) (a1 : Int32) (l2 : Int32) (W : jW) : Option (frn_go_S ⊕ (Int32 × jW)) :=
  gd (jC W t = 16) <|
  gd (¬ jR W 1610 t = 0) <|
  if l2 < (nI (jN W 1610 t)) then
    (gd (jC W (jR W 1600 t) = 13) <|
  if l2 < (jI W 1309 (jR W 1600 t)) then
    (gd (jR W 9004 (jR W 1303 (jR W 1600 t)) = (jR W 1303 (jR W 1600 t))) <|
  gd (jin l2 (jN W 9004 (jR W 1303 (jR W 1600 t)))) <|
  frn_go_110 t a1 l2 (jA W 9004 (jR W 1303 (jR W 1600 t)) (ix l2)) l2 (jR W 1610 t) W)
  else
    (frn_go_110 t a1 l2 (kI 0) l2 (jR W 1610 t) W))
  else
    (some (.inl (.inr (.inr (.inl ((kI 0), W))))))
noncomputable def frn_go_7 (t : Nat) (a1 : Int32) (l2 : Int32) (W : jW) : Option (frn_go_S ⊕ (Int32 × jW)) :=
  if l2 < (kI 32) then
    (gd (jC W t = 16) <|
  gd (jin l2 (jN W 1603 t)) <|
  jlt (pB W 1603 t (ix l2) (kJ 0)) fun W31 =>
  gd (jin l2 (jN W31 1604 t)) <|
  jlt (pA W31 1604 t (ix l2) (i2b (kI 0))) fun W36 =>
  gd (jin l2 (jN W36 1605 t)) <|
  jlt (pA W36 1605 t (ix l2) (kI 0)) fun W41 =>
  jlt (l2 + (kI 1)) fun v45 =>
  some (.inl (.inl (v45, W41))))
  else
    (gd (jC W t = 16) <|
    gd (jin (kI 31) (jN W 1603 t)) <|
    jlt (pB W 1603 t (ix (kI 31)) (kJ 2147483648)) fun W9 =>
    jlt (sI W9 1606 t (kI 0)) fun W13 =>
    jlt (sI W13 1607 t (kI 0)) fun W17 =>
    jlt (sI W17 1608 t (kI 0)) fun W21 =>
    jlt (sI W21 1609 t (kI 0)) fun W25 =>
    some (.inl (.inr (.inl ((kI 0), W25)))))
noncomputable def frn_go_st (t : Nat) (a1 : Int32) : frn_go_S → Option (frn_go_S ⊕ (Int32 × jW)) :=
  (Sum.elim (fun s => frn_go_7 t a1 s.1 s.2) (Sum.elim (fun s => frn_go_72 t a1 s.1 s.2) (Sum.elim (fun s => frn_go_119 t a1 s.1 s.2) (fun s => frn_go_229 t a1 s))))
noncomputable def frn_go_0 (t : Nat) (a1 : Int32) (W : jW) : Option (frn_go_S ⊕ (Int32 × jW)) :=
  gd (jC W t = 16) <| jlt (sI W 1602 t (kI 1)) fun W2 => some (.inl (.inl ((kI 0), W2)))
noncomputable def frn_go (t : Nat) (a1 : Int32) (W : jW) : Option (Int32 × jW) :=
  jrn (frn_go_st t a1) (frn_go_0 t a1 W)
noncomputable def fhd_init (t : Nat) (W : jW) : Option (jW) :=
  gd (¬ t = 0) <|
  gd (jra W (kI 4)) <|
  gd (jC W t = 14) <|
  jlt (nwA W 1406 t (ix (kI 4))) fun W4 =>
  gd (jra W4 (kI 4)) <|
  jlt (nwA W4 1407 t (ix (kI 4))) fun W9 =>
  gd (jra W9 (kI 4)) <|
  jlt (nwB W9 1408 t (ix (kI 4))) fun W14 =>
  gd (jra W14 (kI 4)) <|
  jlt (nwA W14 1409 t (ix (kI 4))) fun W19 =>
  gd (jra W19 (kI 16)) <|
  jlt (nwA W19 1410 t (ix (kI 16))) fun W24 =>
  gd (jra W24 (kI 16)) <|
  jlt (nwA W24 1411 t (ix (kI 16))) fun W29 =>
  gd (jra W29 (kI 16)) <|
  jlt (nwB W29 1412 t (ix (kI 16))) fun W34 =>
  gd (jra W34 (kI 16)) <|
  jlt (nwB W34 1413 t (ix (kI 16))) fun W39 =>
  gd (jra W39 (kI 16)) <|
  jlt (nwB W39 1414 t (ix (kI 16))) fun W44 =>
  some W44
noncomputable def fmo_init (t : Nat) (W : jW) : Option (jW) :=
  gd (¬ t = 0) <|
  gd (jra W (kI 60000)) <|
  gd (jC W t = 13) <|
  jlt (nwA W 1300 t (ix (kI 60000))) fun W4 =>
  gd (jra W4 (kI 60000)) <|
  jlt (nwA W4 9004 (jX W4) (ix (kI 60000))) fun W9 =>
  jlt (sR W9 1303 t (jX W4)) fun W13 =>
  gd (jra W13 (kI 60000)) <|
  jlt (nwA W13 9004 (jX W13) (ix (kI 60000))) fun W18 =>
  jlt (sR W18 1304 t (jX W13)) fun W22 =>
  gd (jrm W22 18) <|
  jlt (sC (sX W22 18) (jX W22) 14) fun W27 =>
  gd (jC W27 (jX W22) = 14) <|
  (fhd_init (jX W22) W27).bind fun q30 =>
  gd (jC q30 t = 13) <|
  jlt (sR q30 1305 t (jX W22)) fun W33 =>
  gd (jrm W33 18) <|
  jlt (sC (sX W33 18) (jX W33) 14) fun W38 =>
  gd (jC W38 (jX W33) = 14) <|
  (fhd_init (jX W33) W38).bind fun q41 =>
  gd (jC q41 t = 13) <|
  jlt (sR q41 1306 t (jX W33)) fun W44 =>
  jlt (sL W44 1314 t (kJ (-1))) fun W48 =>
  gd (jra W48 (kI 15002)) <|
  jlt (nwA W48 1315 t (ix (kI 15002))) fun W53 =>
  gd (jra W53 (kI 15002)) <|
  jlt (nwA W53 1316 t (ix (kI 15002))) fun W58 =>
  gd (jra W58 (kI 15002)) <|
  jlt (nwA W58 1317 t (ix (kI 15002))) fun W63 =>
  gd (jra W63 (kI 15002)) <|
  jlt (nwA W63 1318 t (ix (kI 15002))) fun W68 =>
  gd (jra W68 (kI 15002)) <|
  jlt (nwA W68 1319 t (ix (kI 15002))) fun W73 =>
  gd (jra W73 (kI 15002)) <|
  jlt (nwA W73 1320 t (ix (kI 15002))) fun W78 =>
  gd (jra W78 (kI 15002)) <|
  jlt (nwA W78 1321 t (ix (kI 15002))) fun W83 =>
  gd (jra W83 (kI 15002)) <|
  jlt (nwA W83 1322 t (ix (kI 15002))) fun W88 =>
  gd (jra W88 (kI 15002)) <|
  jlt (nwA W88 1323 t (ix (kI 15002))) fun W93 =>
  gd (jra W93 (kI 15002)) <|
  jlt (nwA W93 1324 t (ix (kI 15002))) fun W98 =>
  gd (jra W98 (kI 15002)) <|
  jlt (nwA W98 1325 t (ix (kI 15002))) fun W103 =>
  gd (jra W103 (kI 15002)) <|
  jlt (nwA W103 1326 t (ix (kI 15002))) fun W108 =>
  gd (jra W108 (kI 15002)) <|
  jlt (nwA W108 1327 t (ix (kI 15002))) fun W113 =>
  gd (jra W113 (kI 64)) <|
  jlt (nwA W113 1330 t (ix (kI 64))) fun W118 =>
  gd (jra W118 (kI 64)) <|
  jlt (nwA W118 1331 t (ix (kI 64))) fun W123 =>
  gd (jra W123 (kI 64)) <|
  jlt (nwA W123 1332 t (ix (kI 64))) fun W128 =>
  gd (jra W128 (kI 64)) <|
  jlt (nwB W128 1333 t (ix (kI 64))) fun W133 =>
  gd (jra W133 (kI 15002)) <|
  jlt (nwA W133 1334 t (ix (kI 15002))) fun W138 =>
  gd (jra W138 (kI 15002)) <|
  jlt (nwA W138 1335 t (ix (kI 15002))) fun W143 =>
  gd (jra W143 (kI 15002)) <|
  jlt (nwA W143 1336 t (ix (kI 15002))) fun W148 =>
  gd (jra W148 (kI 15002)) <|
  jlt (nwA W148 1337 t (ix (kI 15002))) fun W153 =>
  gd (jra W153 (kI 15002)) <|
  jlt (nwA W153 1338 t (ix (kI 15002))) fun W158 =>
  gd (jra W158 (kI 15002)) <|
  jlt (nwA W158 9003 (jX W158) (ix (kI 15002))) fun W163 =>
  jlt (sR W163 1339 t (jX W158)) fun W167 =>
  gd (jra W167 (kI 15002)) <|
  jlt (nwB W167 1340 t (ix (kI 15002))) fun W172 =>
  gd (jra W172 (kI 15002)) <|
  jlt (nwB W172 1341 t (ix (kI 15002))) fun W177 =>
  gd (jra W177 (kI 15002)) <|
  jlt (nwA W177 1342 t (ix (kI 15002))) fun W182 =>
  gd (jra W182 (kI 15002)) <|
  jlt (nwA W182 1343 t (ix (kI 15002))) fun W187 =>
  gd (jra W187 (kI 15002)) <|
  jlt (nwA W187 1344 t (ix (kI 15002))) fun W192 =>
  gd (jra W192 (kI 15002)) <|
  jlt (nwB W192 1345 t (ix (kI 15002))) fun W197 =>
  gd (jra W197 (kI 15002)) <|
  jlt (nwB W197 1346 t (ix (kI 15002))) fun W202 =>
  gd (jra W202 (kI 15002)) <|
  jlt (nwB W202 1347 t (ix (kI 15002))) fun W207 =>
  gd (jra W207 (kI 15002)) <|
  jlt (nwA W207 9003 (jX W207) (ix (kI 15002))) fun W212 =>
  jlt (sR W212 1348 t (jX W207)) fun W216 =>
  gd (jra W216 (kI 15002)) <|
  jlt (nwB W216 1349 t (ix (kI 15002))) fun W221 =>
  gd (jrm W221 14) <|
  jlt (sC (sX W221 14) (jX W221) 15) fun W226 =>
  gd (jC W226 (jX W221) = 15) <|
  (fwn_init (jX W221) t W226).bind fun q229 =>
  gd (jC q229 t = 13) <|
  jlt (sR q229 1350 t (jX W221)) fun W232 =>
  gd (jrm W232 14) <|
  jlt (sC (sX W232 14) (jX W232) 15) fun W237 =>
  gd (jC W237 (jX W232) = 15) <|
  (fwn_init (jX W232) t W237).bind fun q240 =>
  gd (jC q240 t = 13) <|
  jlt (sR q240 1351 t (jX W232)) fun W243 =>
  gd (jra W243 (kI 2400000)) <|
  jlt (nwA W243 9004 (jX W243) (ix (kI 2400000))) fun W248 =>
  jlt (sR W248 1354 t (jX W243)) fun W252 =>
  gd (jra W252 (kI 15002)) <|
  jlt (nwA W252 1358 t (ix (kI 15002))) fun W257 =>
  gd (jra W257 (kI 15002)) <|
  jlt (nwA W257 1359 t (ix (kI 15002))) fun W262 =>
  gd (jrm W262 18) <|
  jlt (sC (sX W262 18) (jX W262) 14) fun W267 =>
  gd (jC W267 (jX W262) = 14) <|
  (fhd_init (jX W262) W267).bind fun q270 =>
  gd (jC q270 t = 13) <|
  jlt (sR q270 1360 t (jX W262)) fun W273 =>
  gd (jrm W273 24) <|
  jlt (sC (sX W273 24) (jX W273) 16) fun W278 =>
  gd (jC W278 (jX W273) = 16) <|
  (frn_init (jX W273) t (kI 0) W278).bind fun q281 =>
  gd (jC q281 t = 13) <|
  jlt (sR q281 1361 t (jX W273)) fun W284 =>
  gd (jrm W284 24) <|
  jlt (sC (sX W284 24) (jX W284) 16) fun W289 =>
  gd (jC W289 (jX W284) = 16) <|
  (frn_init (jX W284) t (kI 1) W289).bind fun q292 =>
  gd (jC q292 t = 13) <|
  jlt (sR q292 1362 t (jX W284)) fun W295 =>
  gd (jrm W295 24) <|
  jlt (sC (sX W295 24) (jX W295) 16) fun W300 =>
  gd (jC W300 (jX W295) = 16) <|
  (frn_init (jX W295) t (kI 2) W300).bind fun q303 =>
  gd (jC q303 t = 13) <|
  jlt (sR q303 1363 t (jX W295)) fun W306 =>
  some W306
abbrev fmo_four_S : Type := (Int32 × jW)
noncomputable def fmo_four_3 (t : Nat) (a1 : Int32) (l2 : Int32) (W : jW) : Option (fmo_four_S ⊕ (jW)) :=
  if l2 < (0 : Int32) then
    (some (.inr W))
  else
    (gd (jC W t = 13) <|
  gd (jin (jI W 1301 t) (jN W 1300 t)) <|
  jlt (pA W 1300 t (ix (jI W 1301 t)) (i2b (i2b (ixr a1 l2)))) fun W4 =>
  jlt (sI W4 1301 t ((jI W4 1301 t) + (kI 1))) fun W8 =>
  jlt (l2 + (kI (-8))) fun v12 =>
  some (.inl (v12, W8)))
noncomputable def fmo_four_st (t : Nat) (a1 : Int32) : fmo_four_S → Option (fmo_four_S ⊕ (jW)) :=
  (fun s => fmo_four_3 t a1 s.1 s.2)
noncomputable def fmo_four_0 (t : Nat) (a1 : Int32) (W : jW) : Option (fmo_four_S ⊕ (jW)) :=
  some (.inl ((kI 24), W))
noncomputable def fmo_four (t : Nat) (a1 : Int32) (W : jW) : Option (jW) :=
  jrn (fmo_four_st t a1) (fmo_four_0 t a1 W)
noncomputable def fmo_feed_24 (t : Nat) (a1 : Int32) (a2 : Int32) (a3 : Int32) (a4 : Int32) (a5 : Int32) (W : jW) : Option (Int32 × jW) :=
  some ((kI (-1)), W)
noncomputable def fmo_feed (t : Nat) (a1 : Int32) (a2 : Int32) (a3 : Int32) (a4 : Int32) (a5 : Int32) (W : jW) : Option (Int32 × jW) :=
  gd (jC W t = 13) <|
  if (kI 60000) < ((jI W 1301 t) + (kI 20)) then
    (fmo_feed_24 t a1 a2 a3 a4 a5 W)
  else
    (if (kI 131072) < ((jI W 1302 t) + (kI 20)) then
    (fmo_feed_24 t a1 a2 a3 a4 a5 W)
  else
    ((fmo_four t a1 W).bind fun q2 =>
    gd (jC q2 t = 13) <|
    (fmo_four t a2 q2).bind fun q5 =>
    gd (jC q5 t = 13) <|
    (fmo_four t a3 q5).bind fun q8 =>
    gd (jC q8 t = 13) <|
    (fmo_four t a4 q8).bind fun q11 =>
    gd (jC q11 t = 13) <|
    (fmo_four t a5 q11).bind fun q14 =>
    gd (jC q14 t = 13) <|
    jlt (sI q14 1302 t ((jI q14 1302 t) + (kI 20))) fun W17 =>
    some ((jI W17 1301 t), W17)))
noncomputable def fmo_end_12 (t : Nat) (a1 : Int32) (W : jW) : Option (Int32 × jW) :=
  some ((kI 0), W)
noncomputable def fmo_end (t : Nat) (a1 : Int32) (W : jW) : Option (Int32 × jW) :=
  if a1 < (0 : Int32) then
    (fmo_end_12 t a1 W)
  else
    (gd (jC W t = 13) <| if (jI W 1301 t) < a1 then
    (fmo_end_12 t a1 W)
  else
    (jlt (sI W 1301 t a1) fun W2 => some ((kI 1), W2)))
noncomputable def fhd_is_9 (t : Nat) (a1 : Int32) (a2 : Int64) (W : jW) : Option (Int32 × jW) :=
  gd (i2z a1 = a1) <| some (a1, W)
noncomputable def fhd_is (t : Nat) (a1 : Int32) (a2 : Int64) (W : jW) : Option (Int32 × jW) :=
  if a1 = (0 : Int32) then
    (gd (jC W t = 14) <| jlt (sL W 1417 t a2) fun W2 => fhd_is_9 t a1 a2 W2)
  else
    (fhd_is_9 t a1 a2 W)
noncomputable def fhd_has_18 (t : Nat) (a1 : Int64) (a3 : Int32) (a4 : Int64) (s0 : Int32) (s1 : Nat) (W : jW) : Option (Int32 × jW) :=
  gd (jC W s1 = 14) <| (fhd_is s1 s0 a1 W).bind fun q5 => gd (i2z q5.1 = q5.1) <| some (q5.1, q5.2)
noncomputable def fhd_has (t : Nat) (a1 : Int64) (a3 : Int32) (a4 : Int64) (W : jW) : Option (Int32 × jW) :=
  gd (jC W t = 14) <|
  (fhd_num t a1 a3 W).bind fun q2 =>
  if q2 = a4 then
    (fhd_has_18 t a1 a3 a4 (kI 1) t W)
  else
    (fhd_has_18 t a1 a3 a4 (kI 0) t W)
noncomputable def fhd_big_24 (t : Nat) (a1 : Int64) (a3 : Int32) (W : jW) : Option (Int64) :=
  some (kJ 1099511627776)
noncomputable def fhd_big (t : Nat) (a1 : Int64) (a3 : Int32) (W : jW) : Option (Int64) :=
  gd (jC W t = 14) <|
  (fhd_num t a1 a3 W).bind fun q2 =>
  if q2 < (kJ 0) then
    (fhd_big_24 t a1 a3 W)
  else
    (if (kJ 1099511627776) < q2 then
    (fhd_big_24 t a1 a3 W)
  else
    (some q2))
noncomputable def fhd_begins_172 (t : Nat) (W : jW) : Option (Int32 × jW) :=
  some ((kI 0), W)
noncomputable def fhd_begins_324 (t : Nat) (W : jW) : Option (Int32 × jW) :=
  some ((kI 0), W)
noncomputable def fhd_begins_381 (t : Nat) (s0 : Int32) (s1 : Nat) (W : jW) : Option (Int32 × jW) :=
  gd (jC W s1 = 14) <| (fhd_is s1 s0 (kJ 40) W).bind fun q74 => gd (i2z q74.1 = q74.1) <| some (q74.1, q74.2)
noncomputable def fhd_begins_380 (t : Nat) (s0 : Nat) (W : jW) : Option (Int32 × jW) :=
  fhd_begins_381 t (kI 0) s0 W
noncomputable def fhd_begins_315 (t : Nat) (s0 : Int32) (s1 : Nat) (W : jW) : Option (Int32 × jW) :=
  gd (jC W s1 = 14) <|
  (fhd_is s1 s0 (kJ 62) W).bind fun q64 =>
  if q64.1 = (0 : Int32) then
    (fhd_begins_324 t q64.2)
  else
    (gd (jC q64.2 t = 14) <|
    (fhd_big t (kJ 40) (kI 8) q64.2).bind fun q67 =>
    jlt (sL q64.2 1405 t q67) fun W68 =>
    if (lrm (jL W68 1405 t) (kJ 8)) = (kJ 0) then
      (if ((jL W68 1405 t) + ((kJ 64) * ((jI W68 1403 t).toInt64))) = (jI W68 1401 t).toInt64 then
      (fhd_begins_381 t (kI 1) t W68)
    else
      (fhd_begins_380 t t W68))
    else
      (fhd_begins_380 t t W68))
noncomputable def fhd_begins_314 (t : Nat) (s0 : Nat) (W : jW) : Option (Int32 × jW) :=
  fhd_begins_315 t (kI 0) s0 W
noncomputable def fhd_begins_281 (t : Nat) (s0 : Int32) (s1 : Nat) (W : jW) : Option (Int32 × jW) :=
  gd (jC W s1 = 14) <|
  (fhd_is s1 s0 (kJ 60) W).bind fun q59 =>
  if q59.1 = (0 : Int32) then
    (fhd_begins_324 t q59.2)
  else
    (gd (jC q59.2 t = 14) <|
  if (jI q59.2 1404 t) < (kI 1) then
    (fhd_begins_314 t t q59.2)
  else
    (if (jI q59.2 1404 t) < (jI q59.2 1403 t) then
    (fhd_begins_315 t (kI 1) t q59.2)
  else
    (fhd_begins_314 t t q59.2)))
noncomputable def fhd_begins_280 (t : Nat) (s0 : Nat) (W : jW) : Option (Int32 × jW) :=
  fhd_begins_281 t (kI 0) s0 W
noncomputable def fhd_begins_235 (t : Nat) (s0 : Int32) (s1 : Nat) (W : jW) : Option (Int32 × jW) :=
  gd (jC W s1 = 14) <|
  (fhd_is s1 s0 (kJ 56) W).bind fun q51 =>
  if q51.1 = (0 : Int32) then
    (fhd_begins_324 t q51.2)
  else
    (gd (jC q51.2 t = 14) <|
  (fhd_has t (kJ 58) (kI 2) (kJ 64) q51.2).bind fun q54 =>
  if q54.1 = (0 : Int32) then
    (fhd_begins_324 t q54.2)
  else
    (gd (jC q54.2 t = 14) <|
  if (jI q54.2 1403 t) < (kI 5) then
    (fhd_begins_280 t t q54.2)
  else
    (if (kI 16) < (jI q54.2 1403 t) then
    (fhd_begins_280 t t q54.2)
  else
    (fhd_begins_281 t (kI 1) t q54.2))))
noncomputable def fhd_begins_234 (t : Nat) (s0 : Nat) (W : jW) : Option (Int32 × jW) :=
  fhd_begins_235 t (kI 0) s0 W
noncomputable def fhd_begins_67 (t : Nat) (s0 : Int32) (W : jW) : Option (Int32 × jW) :=
  gd (jC W t = 14) <|
  (fhd_is t s0 (kJ 0) W).bind fun q10 =>
  if q10.1 = (0 : Int32) then
    (fhd_begins_172 t q10.2)
  else
    (gd (jC q10.2 t = 14) <|
  (fhd_has t (kJ 16) (kI 2) (kJ 2) q10.2).bind fun q13 =>
  if q13.1 = (0 : Int32) then
    (fhd_begins_172 t q13.2)
  else
    (gd (jC q13.2 t = 14) <|
  (fhd_has t (kJ 18) (kI 2) (kJ 183) q13.2).bind fun q16 =>
  if q16.1 = (0 : Int32) then
    (fhd_begins_172 t q16.2)
  else
    (gd (jC q16.2 t = 14) <|
  (fhd_has t (kJ 20) (kI 4) (kJ 1) q16.2).bind fun q19 =>
  if q19.1 = (0 : Int32) then
    (fhd_begins_172 t q19.2)
  else
    (gd (jC q19.2 t = 14) <|
  (fhd_has t (kJ 32) (kI 8) (kJ 64) q19.2).bind fun q22 =>
  if q22.1 = (0 : Int32) then
    (fhd_begins_172 t q22.2)
  else
    (gd (jC q22.2 t = 14) <|
  (fhd_has t (kJ 48) (kI 4) (kJ 0) q22.2).bind fun q25 =>
  if q25.1 = (0 : Int32) then
    (fhd_begins_172 t q25.2)
  else
    (gd (jC q25.2 t = 14) <|
  (fhd_has t (kJ 52) (kI 2) (kJ 64) q25.2).bind fun q28 =>
  if q28.1 = (0 : Int32) then
    (fhd_begins_172 t q28.2)
  else
    (gd (jC q28.2 t = 14) <|
  (fhd_has t (kJ 54) (kI 2) (kJ 56) q28.2).bind fun q31 =>
  if q31.1 = (0 : Int32) then
    (fhd_begins_172 t q31.2)
  else
    (gd (jC q31.2 t = 14) <|
    (fhd_num t (kJ 56) (kI 2) q31.2).bind fun q34 =>
    jlt (sI q31.2 1402 t q34.toInt32) fun W35 =>
    (fhd_num t (kJ 60) (kI 2) W35).bind fun q39 =>
    jlt (sI W35 1403 t q39.toInt32) fun W40 =>
    (fhd_num t (kJ 62) (kI 2) W40).bind fun q44 =>
    jlt (sI W40 1404 t q44.toInt32) fun W45 =>
    if (jI W45 1402 t) < (kI 1) then
      (fhd_begins_234 t t W45)
    else
      (if (kI 4) < (jI W45 1402 t) then
      (fhd_begins_234 t t W45)
    else
      (fhd_begins_235 t (kI 1) t W45))))))))))
noncomputable def fhd_begins_66 (t : Nat) (W : jW) : Option (Int32 × jW) :=
  fhd_begins_67 t (kI 0) W
noncomputable def fhd_begins (t : Nat) (W : jW) : Option (Int32 × jW) :=
  gd (jC W t = 14) <|
  if (jI W 1401 t) < (kI 64) then
    ((fhd_is t (kI 0) ((jI W 1401 t).toInt64) W).bind fun q5 => gd (i2z q5.1 = q5.1) <| some (q5.1, q5.2))
  else
    ((fhd_num t (kJ 0) (kI 4) W).bind fun q2 =>
    if q2 = (kJ 1179403647) then
      ((fhd_num t (kJ 4) (kI 4) W).bind fun q3 =>
    if q3 = (kJ 65794) then
      ((fhd_num t (kJ 8) (kI 8) W).bind fun q4 => if q4 = (kJ 0) then
      (fhd_begins_67 t (kI 1) W)
    else
      (fhd_begins_66 t W))
    else
      (fhd_begins_66 t W))
    else
      (fhd_begins_66 t W))
