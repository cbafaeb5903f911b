/-! ===== pure functions: fmo_leastChain fmo_placeChain fmo_bestChain fmo_weightOf fmo_rowWeight fmo_orderOne fmo_orderAll fmo_store fmo_isInHot fmo_newSize fmo_writeFix fmo_write fmo_lay fmo_order fmo_laid fmo_weight fmo_moved fmo_size fmo_out fmo_check fmo_strays fmo_runOf fmo_run fmo_known fmo_told fmo_register fmo_kind fmo_newOf fmo_newer fmo_visit fmo_memory fmo_keeps fmo_newest fmo_trace fmo_text flw_law ===== -/
set_option maxRecDepth 100000
abbrev fmo_leastChain_S : Type := (Int32)
noncomputable def fmo_leastChain_32 (t : Nat) (a1 : Int32) (a2 : Int32) (l3 : Int32) (W : jW) : Option (fmo_leastChain_S ⊕ (Int32)) :=
  jlt (l3 + (kI 1)) fun v7 => some (.inl v7)
noncomputable def fmo_leastChain_2 (t : Nat) (a1 : Int32) (a2 : Int32) (l3 : Int32) (W : jW) : Option (fmo_leastChain_S ⊕ (Int32)) :=
  if l3 < a2 then
    (gd (jC W t = 13) <|
  gd (jin l3 (jN W 1334 t)) <|
  if (jA W 1334 t (ix l3)) = (0 : Int32) then
    (fmo_leastChain_32 t a1 a2 l3 W)
  else
    (gd (jin l3 (jN W 1337 t)) <|
  if (jA W 1337 t (ix l3)) = (0 : Int32) then
    (gd (jin l3 (jN W 1335 t)) <| some (.inr (jA W 1335 t (ix l3))))
  else
    (fmo_leastChain_32 t a1 a2 l3 W)))
  else
    (some (.inr (kI (-1))))
noncomputable def fmo_leastChain_st (t : Nat) (a1 : Int32) (a2 : Int32) (W : jW) : fmo_leastChain_S → Option (fmo_leastChain_S ⊕ (Int32)) :=
  (fun s => fmo_leastChain_2 t a1 a2 s W)
noncomputable def fmo_leastChain_0 (t : Nat) (a1 : Int32) (a2 : Int32) (W : jW) : Option (fmo_leastChain_S ⊕ (Int32)) :=
  some (.inl a1)
noncomputable def fmo_leastChain (t : Nat) (a1 : Int32) (a2 : Int32) (W : jW) : Option (Int32) :=
  jrn (fmo_leastChain_st t a1 a2 W) (fmo_leastChain_0 t a1 a2 W)
abbrev fmo_placeChain_S : Type := (Int32 × Int32 × jW)
noncomputable def fmo_placeChain_13 (t : Nat) (a1 : Int32) (a2 : Int32) (a3 : Int32) (a4 : Int32) (l5 : Int32) (l6 : Int32) (W : jW) : Option (fmo_placeChain_S ⊕ (Int32 × jW)) :=
  if l6 < (0 : Int32) then
    (some (.inr (l5, W)))
  else
    (gd (jC W t = 13) <|
  gd (jR W 9003 (jR W 1348 t) = (jR W 1348 t)) <|
  gd (jin l5 (jN W 9003 (jR W 1348 t))) <|
  jlt (pA W 9003 (jR W 1348 t) (ix l5) l6) fun W5 =>
  gd (jin l6 (jN W5 1337 t)) <|
  jlt (pA W5 1337 t (ix l6) (i2z (kI 1))) fun W10 =>
  jlt (l5 + (kI 1)) fun v14 =>
  gd (jin l6 (jN W10 1336 t)) <|
  jlt (jA W10 1336 t (ix l6)) fun v16 =>
  some (.inl (v14, v16, W10)))
noncomputable def fmo_placeChain_st (t : Nat) (a1 : Int32) (a2 : Int32) (a3 : Int32) (a4 : Int32) : fmo_placeChain_S → Option (fmo_placeChain_S ⊕ (Int32 × jW)) :=
  (fun s => fmo_placeChain_13 t a1 a2 a3 a4 s.1 s.2.1 s.2.2)
noncomputable def fmo_placeChain_0 (t : Nat) (a1 : Int32) (a2 : Int32) (a3 : Int32) (a4 : Int32) (W : jW) : Option (fmo_placeChain_S ⊕ (Int32 × jW)) :=
  if a1 < (0 : Int32) then
    (some (.inr (a2, W)))
  else
    (some (.inl (a2, a1, W)))
noncomputable def fmo_placeChain (t : Nat) (a1 : Int32) (a2 : Int32) (a3 : Int32) (a4 : Int32) (W : jW) : Option (Int32 × jW) :=
  jrn (fmo_placeChain_st t a1 a2 a3 a4) (fmo_placeChain_0 t a1 a2 a3 a4 W)
abbrev fmo_bestChain_S : Type := (Int32 × jW) ⊕ (Int32 × jW) ⊕ (Int32 × Int32 × jW)
noncomputable def fmo_bestChain_123 (t : Nat) (a1 : Int32) (a2 : Int32) (l3 : Int32) (W : jW) : Option (fmo_bestChain_S ⊕ (Int32 × jW)) :=
  jlt (l3 + (kI 1)) fun v33 => some (.inl (.inr (.inl (v33, W))))
noncomputable def fmo_bestChain_112 (t : Nat) (a1 : Int32) (a2 : Int32) (l3 : Int32) (s0 : Int32) (s1 : Nat) (s2 : Nat) (W : jW) : Option (fmo_bestChain_S ⊕ (Int32 × jW)) :=
  gd (jR W 1335 t = s1) <|
  gd (jin s0 (jN W 1335 t)) <|
  gd (jR W 1349 t = s2) <|
  gd (jin (jA W 1335 t (ix s0)) (jN W 1349 t)) <|
  gd (jC W t = 13) <|
  gd (jin l3 (jN W 1333 t)) <|
  gd (jR W 1349 t = s2) <|
  gd (jin (jA W 1335 t (ix s0)) (jN W 1349 t)) <|
  jlt (pB W 1349 t (ix (jA W 1335 t (ix s0))) ((jB W 1349 t (ix (jA W 1335 t (ix s0)))) + (jB W 1333 t (ix l3)))) fun W28 =>
  fmo_bestChain_123 t a1 a2 l3 W28
noncomputable def fmo_bestChain_194 (t : Nat) (a1 : Int32) (a2 : Int32) (l3 : Int32) (l4 : Int32) (W : jW) : Option (fmo_bestChain_S ⊕ (Int32 × jW)) :=
  jlt (l4 + (kI 1)) fun v46 => some (.inl (.inr (.inr (l3, v46, W))))
noncomputable def fmo_bestChain_186 (t : Nat) (a1 : Int32) (a2 : Int32) (l4 : Int32) (W : jW) : Option (fmo_bestChain_S ⊕ (Int32 × jW)) :=
  gd (jC W t = 13) <| gd (jin l4 (jN W 1335 t)) <| jlt (jA W 1335 t (ix l4)) fun v44 => fmo_bestChain_194 t a1 a2 v44 l4 W
noncomputable def fmo_bestChain_134 (t : Nat) (a1 : Int32) (a2 : Int32) (l3 : Int32) (l4 : Int32) (W : jW) : Option (fmo_bestChain_S ⊕ (Int32 × jW)) :=
  if l4 < a2 then
    (gd (jC W t = 13) <|
  gd (jin l4 (jN W 1334 t)) <|
  if (jA W 1334 t (ix l4)) = (0 : Int32) then
    (fmo_bestChain_194 t a1 a2 l3 l4 W)
  else
    (gd (jin l4 (jN W 1337 t)) <|
  if (jA W 1337 t (ix l4)) = (0 : Int32) then
    (if l3 < (0 : Int32) then
    (fmo_bestChain_186 t a1 a2 l4 W)
  else
    (gd (jin l4 (jN W 1335 t)) <|
  gd (jin (jA W 1335 t (ix l4)) (jN W 1349 t)) <|
  gd (jin l3 (jN W 1349 t)) <|
  if (jB W 1349 t (ix l3)) < (jB W 1349 t (ix (jA W 1335 t (ix l4)))) then
    (fmo_bestChain_186 t a1 a2 l4 W)
  else
    (fmo_bestChain_194 t a1 a2 l3 l4 W)))
  else
    (fmo_bestChain_194 t a1 a2 l3 l4 W)))
  else
    (some (.inr (l3, W)))
noncomputable def fmo_bestChain_22 (t : Nat) (a1 : Int32) (a2 : Int32) (l3 : Int32) (W : jW) : Option (fmo_bestChain_S ⊕ (Int32 × jW)) :=
  gd (jC W t = 13) <|
  if l3 < (jI W 1329 t) then
    (gd (jin l3 (jN W 1330 t)) <|
  jlt (jA W 1330 t (ix l3)) fun v12 =>
  gd (jin l3 (jN W 1331 t)) <|
  jlt (jA W 1331 t (ix l3)) fun v14 =>
  if v12 < a1 then
    (fmo_bestChain_123 t a1 a2 l3 W)
  else
    (if v12 < a2 then
    (gd (jin l3 (jN W 1332 t)) <|
  if (jA W 1332 t (ix l3)) = (0 : Int32) then
    (gd (jin v12 (jN W 1337 t)) <|
  gd (jin v14 (jN W 1337 t)) <|
  if (jA W 1337 t (ix v12)) = (jA W 1337 t (ix v14)) then
    (fmo_bestChain_123 t a1 a2 l3 W)
  else
    (gd (jin v12 (jN W 1337 t)) <|
    if (jA W 1337 t (ix v12)) = (0 : Int32) then
      (fmo_bestChain_112 t a1 a2 l3 v12 (jR W 1335 t) (jR W 1349 t) W)
    else
      (fmo_bestChain_112 t a1 a2 l3 v14 (jR W 1335 t) (jR W 1349 t) W)))
  else
    (fmo_bestChain_123 t a1 a2 l3 W))
  else
    (fmo_bestChain_123 t a1 a2 l3 W)))
  else
    (some (.inl (.inr (.inr ((kI (-1)), a1, W)))))
noncomputable def fmo_bestChain_2 (t : Nat) (a1 : Int32) (a2 : Int32) (l3 : Int32) (W : jW) : Option (fmo_bestChain_S ⊕ (Int32 × jW)) :=
  if l3 < a2 then
    (gd (jC W t = 13) <| gd (jin l3 (jN W 1349 t)) <| jlt (pB W 1349 t (ix l3) (kJ 0)) fun W4 => jlt (l3 + (kI 1)) fun v8 => some (.inl (.inl (v8, W4))))
  else
    (some (.inl (.inr (.inl ((kI 0), W)))))
noncomputable def fmo_bestChain_st (t : Nat) (a1 : Int32) (a2 : Int32) : fmo_bestChain_S → Option (fmo_bestChain_S ⊕ (Int32 × jW)) :=
  (Sum.elim (fun s => fmo_bestChain_2 t a1 a2 s.1 s.2) (Sum.elim (fun s => fmo_bestChain_22 t a1 a2 s.1 s.2) (fun s => fmo_bestChain_134 t a1 a2 s.1 s.2.1 s.2.2)))
noncomputable def fmo_bestChain_0 (t : Nat) (a1 : Int32) (a2 : Int32) (W : jW) : Option (fmo_bestChain_S ⊕ (Int32 × jW)) :=
  some (.inl (.inl (a1, W)))
noncomputable def fmo_bestChain (t : Nat) (a1 : Int32) (a2 : Int32) (W : jW) : Option (Int32 × jW) :=
  jrn (fmo_bestChain_st t a1 a2) (fmo_bestChain_0 t a1 a2 W)
noncomputable def fmo_weightOf_36 (t : Nat) (a1 : Int32) (a2 : Int32) (W : jW) : Option (Int64) :=
  some (kJ 0)
noncomputable def fmo_weightOf (t : Nat) (a1 : Int32) (a2 : Int32) (W : jW) : Option (Int64) :=
  gd (jC W t = 13) <|
  gd (jin a1 (jN W 1334 t)) <|
  if (jA W 1334 t (ix a1)) = (0 : Int32) then
    (fmo_weightOf_36 t a1 a2 W)
  else
    (gd (jin a2 (jN W 1334 t)) <|
  if (jA W 1334 t (ix a2)) = (0 : Int32) then
    (fmo_weightOf_36 t a1 a2 W)
  else
    ((fmo_falls t a1 a2 W).bind fun q4 => if q4 = (0 : Int32) then
    (fmo_weightOf_36 t a1 a2 W)
  else
    ((fmo_way t a1 a2 W).bind fun q5 => some q5)))
abbrev fmo_rowWeight_S : Type := (Int64 × Int32)
noncomputable def fmo_rowWeight_5 (t : Nat) (a1 : Nat) (a2 : Int32) (l3 : Int64) (l5 : Int32) (W : jW) : Option (fmo_rowWeight_S ⊕ (Int64)) :=
  if (l5 + (kI 1)) < a2 then
    (gd (jR W 9003 a1 = a1) <|
  gd (jin l5 (jN W 9003 a1)) <|
  gd (jR W 9003 a1 = a1) <|
  gd (jin (l5 + (kI 1)) (jN W 9003 a1)) <|
  gd (jC W t = 13) <|
  (fmo_weightOf t (jA W 9003 a1 (ix l5)) (jA W 9003 a1 (ix (l5 + (kI 1)))) W).bind fun q7 =>
  jlt (l3 + q7) fun v8 =>
  jlt (l5 + (kI 1)) fun v9 =>
  some (.inl (v8, v9)))
  else
    (some (.inr l3))
noncomputable def fmo_rowWeight_st (t : Nat) (a1 : Nat) (a2 : Int32) (W : jW) : fmo_rowWeight_S → Option (fmo_rowWeight_S ⊕ (Int64)) :=
  (fun s => fmo_rowWeight_5 t a1 a2 s.1 s.2 W)
noncomputable def fmo_rowWeight_0 (t : Nat) (a1 : Nat) (a2 : Int32) (W : jW) : Option (fmo_rowWeight_S ⊕ (Int64)) :=
  some (.inl ((kJ 0), (kI 0)))
noncomputable def fmo_rowWeight (t : Nat) (a1 : Nat) (a2 : Int32) (W : jW) : Option (Int64) :=
  jrn (fmo_rowWeight_st t a1 a2 W) (fmo_rowWeight_0 t a1 a2 W)
abbrev fmo_orderOne_S : Type := (Int32 × Int32 × Int32 × Int32 × jW) ⊕ (Int32 × Int32 × Int32 × Int32 × jW) ⊕ (Int32 × Int32 × Int32 × Int64 × Int64 × Int32 × Int32 × jW) ⊕ (Int32 × Int32 × Int64 × Int32 × jW)
noncomputable def fmo_orderOne_94 (t : Nat) (a1 : Int32) (a2 : Int32) (l3 : Int32) (l4 : Int32) (l5 : Int32) (l6 : Int32) (W : jW) : Option (fmo_orderOne_S ⊕ (Int32 × jW)) :=
  jlt (l6 + (kI 1)) fun v35 => some (.inl (.inl (l3, l4, l5, v35, W)))
noncomputable def fmo_orderOne_249 (t : Nat) (a1 : Int32) (a2 : Int32) (l3 : Int32) (l4 : Int32) (l5 : Int32) (l7 : Int64) (l9 : Int64) (l11 : Int32) (l12 : Int32) (s0 : Int32) (s1 : Int32) (s2 : Nat) (W : jW) : Option (fmo_orderOne_S ⊕ (Int32 × jW)) :=
  gd (jR W 1338 t = s2) <|
  gd (jin s1 (jN W 1338 t)) <|
  jlt (pA W 1338 t (ix s1) s0) fun W65 =>
  jlt (l12 + (kI 1)) fun v68 =>
  some (.inl (.inr (.inr (.inl (l3, l4, l5, l7, l9, l11, v68, W65)))))
noncomputable def fmo_orderOne_280 (t : Nat) (a1 : Int32) (a2 : Int32) (l4 : Int32) (l5 : Int32) (l12 : Int64) (l14 : Int32) (W : jW) : Option (fmo_orderOne_S ⊕ (Int32 × jW)) :=
  if (l14 + (kI 1)) < l4 then
    (gd (jC W t = 13) <|
  (fmo_weightOf t l14 (l14 + (kI 1)) W).bind fun q83 =>
  jlt (l12 + q83) fun v84 =>
  jlt (l14 + (kI 1)) fun v85 =>
  some (.inl (.inr (.inr (.inr (l4, l5, v84, v85, W))))))
  else
    (gd (jC W t = 13) <| gd (jin a1 (jN W 1341 t)) <| jlt (pB W 1341 t (ix a1) l12) fun W78 => some (.inr (l5, W78)))
noncomputable def fmo_orderOne_273 (t : Nat) (a1 : Int32) (a2 : Int32) (l3 : Int32) (l4 : Int32) (l5 : Int32) (s0 : Int64) (s1 : Int32) (s2 : Nat) (W : jW) : Option (fmo_orderOne_S ⊕ (Int32 × jW)) :=
  gd (jR W 1340 t = s2) <|
  gd (jin s1 (jN W 1340 t)) <|
  jlt (pB W 1340 t (ix s1) s0) fun W72 =>
  some (.inl (.inr (.inr (.inr (l4, l5, (kJ 0), l3, W72)))))
noncomputable def fmo_orderOne_212 (t : Nat) (a1 : Int32) (a2 : Int32) (l3 : Int32) (l4 : Int32) (l5 : Int32) (l7 : Int64) (l9 : Int64) (l11 : Int32) (l12 : Int32) (W : jW) : Option (fmo_orderOne_S ⊕ (Int32 × jW)) :=
  if l12 < l5 then
    (gd (jC W t = 13) <|
  if l11 = (0 : Int32) then
    (gd (jR W 9003 (jR W 1339 t) = (jR W 1339 t)) <|
    gd (jin l12 (jN W 9003 (jR W 1339 t))) <|
    fmo_orderOne_249 t a1 a2 l3 l4 l5 l7 l9 l11 l12 (jA W 9003 (jR W 1339 t) (ix l12)) (a2 + l12) (jR W 1338 t) W)
  else
    (gd (jR W 9003 (jR W 1348 t) = (jR W 1348 t)) <|
  gd (jin l12 (jN W 9003 (jR W 1348 t))) <|
  fmo_orderOne_249 t a1 a2 l3 l4 l5 l7 l9 l11 l12 (jA W 9003 (jR W 1348 t) (ix l12)) (a2 + l12) (jR W 1338 t) W))
  else
    (gd (jC W t = 13) <|
    if l11 = (0 : Int32) then
      (fmo_orderOne_273 t a1 a2 l3 l4 l5 l7 a1 (jR W 1340 t) W)
    else
      (fmo_orderOne_273 t a1 a2 l3 l4 l5 l9 a1 (jR W 1340 t) W))
noncomputable def fmo_orderOne_207 (t : Nat) (a1 : Int32) (a2 : Int32) (l3 : Int32) (l4 : Int32) (l5 : Int32) (l7 : Int64) (l9 : Int64) (s0 : Int32) (W : jW) : Option (fmo_orderOne_S ⊕ (Int32 × jW)) :=
  some (.inl (.inr (.inr (.inl (l3, l4, l5, l7, l9, s0, (kI 0), W)))))
noncomputable def fmo_orderOne_142 (t : Nat) (a1 : Int32) (a2 : Int32) (l3 : Int32) (l4 : Int32) (l5 : Int32) (l6 : Int32) (W : jW) : Option (fmo_orderOne_S ⊕ (Int32 × jW)) :=
  if l6 < l5 then
    (gd (jC W t = 13) <|
  (fmo_bestChain t l3 l4 W).bind fun q49 =>
  gd (jC q49.2 t = 13) <|
  (fmo_placeChain t q49.1 l6 l3 l4 q49.2).bind fun q52 =>
  some (.inl (.inr (.inl (l3, l4, l5, q52.1, q52.2)))))
  else
    (gd (jC W t = 13) <|
    (fmo_rowWeight t (jR W 1339 t) l5 W).bind fun q46 =>
    (fmo_rowWeight t (jR W 1348 t) l5 W).bind fun q47 =>
    if q46 < q47 then
      (fmo_orderOne_207 t a1 a2 l3 l4 l5 q46 q47 (kI 1) W)
    else
      (fmo_orderOne_207 t a1 a2 l3 l4 l5 q46 q47 (kI 0) W))
noncomputable def fmo_orderOne_133 (t : Nat) (a1 : Int32) (a2 : Int32) (l3 : Int32) (l4 : Int32) (l5 : Int32) (s0 : Int32) (s1 : Nat) (W : jW) : Option (fmo_orderOne_S ⊕ (Int32 × jW)) :=
  gd (jC W s1 = 13) <| (fmo_placeChain s1 s0 (kI 0) l3 l4 W).bind fun q42 => some (.inl (.inr (.inl (l3, l4, l5, q42.1, q42.2))))
noncomputable def fmo_orderOne_112 (t : Nat) (a1 : Int32) (a2 : Int32) (l3 : Int32) (l4 : Int32) (l5 : Int32) (W : jW) : Option (fmo_orderOne_S ⊕ (Int32 × jW)) :=
  gd (jC W t = 13) <|
  gd (jin l3 (jN W 1334 t)) <|
  if (jA W 1334 t (ix l3)) = (0 : Int32) then
    ((fmo_leastChain t l3 l4 W).bind fun q39 => fmo_orderOne_133 t a1 a2 l3 l4 l5 q39 t W)
  else
    (fmo_orderOne_133 t a1 a2 l3 l4 l5 l3 t W)
noncomputable def fmo_orderOne_40 (t : Nat) (a1 : Int32) (a2 : Int32) (l3 : Int32) (l4 : Int32) (l5 : Int32) (l6 : Int32) (W : jW) : Option (fmo_orderOne_S ⊕ (Int32 × jW)) :=
  if l6 < l4 then
    (gd (jC W t = 13) <|
  gd (jin l6 (jN W 1335 t)) <|
  jlt (pA W 1335 t (ix l6) l6) fun W12 =>
  gd (jin l6 (jN W12 1336 t)) <|
  jlt (pA W12 1336 t (ix l6) (kI (-1))) fun W17 =>
  gd (jin l6 (jN W17 1337 t)) <|
  jlt (pA W17 1337 t (ix l6) (i2z (kI 0))) fun W22 =>
  gd (jin l6 (jN W22 1334 t)) <|
  if (jA W22 1334 t (ix l6)) = (0 : Int32) then
    (fmo_orderOne_94 t a1 a2 l3 l4 l5 l6 W22)
  else
    (gd (jR W22 9003 (jR W22 1339 t) = (jR W22 1339 t)) <|
  gd (jin l5 (jN W22 9003 (jR W22 1339 t))) <|
  jlt (pA W22 9003 (jR W22 1339 t) (ix l5) l6) fun W29 =>
  jlt (l5 + (kI 1)) fun v33 =>
  fmo_orderOne_94 t a1 a2 l3 l4 v33 l6 W29))
  else
    (if (0 : Int32) < l5 then
      (gd (jC W t = 13) <| (fmo_join t l3 l4 W).bind fun q8 => fmo_orderOne_112 t a1 a2 l3 l4 l5 q8)
    else
      (fmo_orderOne_112 t a1 a2 l3 l4 l5 W))
noncomputable def fmo_orderOne_32 (t : Nat) (a1 : Int32) (a2 : Int32) (l3 : Int32) (s0 : Int32) (W : jW) : Option (fmo_orderOne_S ⊕ (Int32 × jW)) :=
  some (.inl (.inl (l3, s0, (kI 0), l3, W)))
noncomputable def fmo_orderOne_st (t : Nat) (a1 : Int32) (a2 : Int32) : fmo_orderOne_S → Option (fmo_orderOne_S ⊕ (Int32 × jW)) :=
  (Sum.elim (fun s => fmo_orderOne_40 t a1 a2 s.1 s.2.1 s.2.2.1 s.2.2.2.1 s.2.2.2.2) (Sum.elim (fun s => fmo_orderOne_142 t a1 a2 s.1 s.2.1 s.2.2.1 s.2.2.2.1 s.2.2.2.2) (Sum.elim (fun s => fmo_orderOne_212 t a1 a2 s.1 s.2.1 s.2.2.1 s.2.2.2.1 s.2.2.2.2.1 s.2.2.2.2.2.1 s.2.2.2.2.2.2.1 s.2.2.2.2.2.2.2) (fun s => fmo_orderOne_280 t a1 a2 s.1 s.2.1 s.2.2.1 s.2.2.2.1 s.2.2.2.2))))
noncomputable def fmo_orderOne_0 (t : Nat) (a1 : Int32) (a2 : Int32) (W : jW) : Option (fmo_orderOne_S ⊕ (Int32 × jW)) :=
  gd (jC W t = 13) <|
  gd (jin a1 (jN W 1321 t)) <|
  jlt (jA W 1321 t (ix a1)) fun v3 =>
  if (a1 + (kI 1)) < (jI W 1311 t) then
    (gd (jin (a1 + (kI 1)) (jN W 1321 t)) <| fmo_orderOne_32 t a1 a2 v3 (jA W 1321 t (ix (a1 + (kI 1)))) W)
  else
    (fmo_orderOne_32 t a1 a2 v3 (jI W 1312 t) W)
noncomputable def fmo_orderOne (t : Nat) (a1 : Int32) (a2 : Int32) (W : jW) : Option (Int32 × jW) :=
  jrn (fmo_orderOne_st t a1 a2) (fmo_orderOne_0 t a1 a2 W)
abbrev fmo_orderAll_S : Type := (Int32 × jW) ⊕ (Int32 × Int32 × Int32 × jW) ⊕ (Int32 × Int32 × Nat × Int32 × jW) ⊕ (Int32 × Int32 × Nat × jW) ⊕ (Int32 × Int32 × Nat × Int32 × Int32 × jW) ⊕ (Int32 × Int32 × Nat × Int32 × Int32 × jW) ⊕ (Int32 × Int32 × Nat × Int32 × Int32 × Int32 × jW) ⊕ (Int32 × Int32 × Nat × Int32 × Int32 × Int32 × Int32 × Int32 × jW) ⊕ (Int32 × Int32 × jW)
noncomputable def fmo_orderAll_49 (t : Nat) (l1 : Int32) (l2 : Int32) (l3 : Int32) (W : jW) : Option (fmo_orderAll_S ⊕ (Int32 × jW)) :=
  jlt (l3 + (kI 1)) fun v15 => some (.inl (.inr (.inl (l1, l2, v15, W))))
noncomputable def fmo_orderAll_174 (t : Nat) (l1 : Int32) (l2 : Int32) (l3 : Nat) (l4 : Int32) (l5 : Int32) (W : jW) : Option (fmo_orderAll_S ⊕ (Int32 × jW)) :=
  jlt (l5 + (kI 1)) fun v45 => some (.inl (.inr (.inr (.inr (.inr (.inl (l1, l2, l3, l4, v45, W)))))))
noncomputable def fmo_orderAll_170 (t : Nat) (l1 : Int32) (l2 : Int32) (l3 : Nat) (l5 : Int32) (l6 : Int32) (W : jW) : Option (fmo_orderAll_S ⊕ (Int32 × jW)) :=
  fmo_orderAll_174 t l1 l2 l3 l6 l5 W
noncomputable def fmo_orderAll_297 (t : Nat) (l1 : Int32) (l2 : Int32) (l3 : Nat) (l4 : Int32) (l5 : Int32) (l6 : Int32) (W : jW) : Option (fmo_orderAll_S ⊕ (Int32 × jW)) :=
  jlt (l6 + (kI 1)) fun v71 => some (.inl (.inr (.inr (.inr (.inr (.inr (.inr (.inl (l1, l2, l3, l4, l5, v71, W)))))))))
noncomputable def fmo_orderAll_260 (t : Nat) (l1 : Int32) (l2 : Int32) (l3 : Nat) (l4 : Int32) (l5 : Int32) (l6 : Int32) (l7 : Int32) (l8 : Int32) (W : jW) : Option (fmo_orderAll_S ⊕ (Int32 × jW)) :=
  if l8 < l7 then
    (gd (jC W t = 13) <|
  gd (jC W (jR W 1350 t) = 15) <|
  gd (jin l8 (jN W 1338 t)) <|
  gd (jin (l1 + l8) (jN W 1501 (jR W 1350 t))) <|
  jlt (pA W 1501 (jR W 1350 t) (ix (l1 + l8)) (jA W 1338 t (ix l8))) fun W64 =>
  jlt (l8 + (kI 1)) fun v69 =>
  some (.inl (.inr (.inr (.inr (.inr (.inr (.inr (.inr (.inl (l1, l2, l3, l4, l5, l6, l7, v69, W64)))))))))))
  else
    (jlt (l1 + l7) fun v59 => fmo_orderAll_297 t v59 l2 l3 l4 l5 l6 W)
noncomputable def fmo_orderAll_203 (t : Nat) (l1 : Int32) (l2 : Int32) (l3 : Nat) (l4 : Int32) (l5 : Int32) (l6 : Int32) (W : jW) : Option (fmo_orderAll_S ⊕ (Int32 × jW)) :=
  gd (jC W t = 13) <|
  if l6 < (jI W 1311 t) then
    (gd (jin l6 (jN W 1342 t)) <|
  if (jA W 1342 t (ix l6)) = l4 then
    (gd (jin l6 (jN W 1343 t)) <|
  if (jA W 1343 t (ix l6)) = l5 then
    ((fmo_hotWords t l6 W).bind fun q55 =>
  if q55 = (0 : Int32) then
    (fmo_orderAll_297 t l1 l2 l3 l4 l5 l6 W)
  else
    ((fmo_orderOne t l6 (kI 0) W).bind fun q56 =>
    some (.inl (.inr (.inr (.inr (.inr (.inr (.inr (.inr (.inl (l1, l2, l3, l4, l5, l6, q56.1, (kI 0), q56.2))))))))))))
  else
    (fmo_orderAll_297 t l1 l2 l3 l4 l5 l6 W))
  else
    (fmo_orderAll_297 t l1 l2 l3 l4 l5 l6 W))
  else
    (jlt (l5 + (kI 1)) fun v52 => some (.inl (.inr (.inr (.inr (.inr (.inr (.inl (l1, l2, l3, l4, v52, W)))))))))
noncomputable def fmo_orderAll_188 (t : Nat) (l1 : Int32) (l2 : Int32) (l3 : Nat) (l4 : Int32) (l5 : Int32) (W : jW) : Option (fmo_orderAll_S ⊕ (Int32 × jW)) :=
  gd (jC W t = 13) <|
  gd (jin l4 (jN W 1344 t)) <|
  if l5 < (jA W 1344 t (ix l4)) then
    (some (.inl (.inr (.inr (.inr (.inr (.inr (.inr (.inl (l1, l2, l3, l4, l5, (kI 0), W))))))))))
  else
    (jlt (l2 + (kI (-1))) fun v49 => some (.inl (.inr (.inr (.inr (.inl (l1, v49, l3, W)))))))
noncomputable def fmo_orderAll_93 (t : Nat) (l1 : Int32) (l2 : Int32) (l3 : Nat) (l4 : Int32) (l5 : Int32) (W : jW) : Option (fmo_orderAll_S ⊕ (Int32 × jW)) :=
  gd (jC W t = 13) <|
  if l5 < (jI W 1311 t) then
    (gd (jin l5 (jN W 1342 t)) <|
  jlt (jA W 1342 t (ix l5)) fun v35 =>
  gd (jin v35 (jN W 1344 t)) <|
  if (jA W 1344 t (ix v35)) = (0 : Int32) then
    (fmo_orderAll_174 t l1 l2 l3 l4 l5 W)
  else
    (gd (jR W 1358 t = l3) <|
  gd (jin v35 (jN W 1358 t)) <|
  if (jA W 1358 t (ix v35)) = (0 : Int32) then
    (if l4 < (0 : Int32) then
      (fmo_orderAll_170 t l1 l2 l3 l5 v35 W)
    else
      (gd (jin v35 (jN W 1345 t)) <|
    gd (jin l4 (jN W 1346 t)) <|
    gd (jin l4 (jN W 1345 t)) <|
    gd (jin v35 (jN W 1346 t)) <|
    if ((jB W 1345 t (ix l4)) * (jB W 1346 t (ix v35))) < ((jB W 1345 t (ix v35)) * (jB W 1346 t (ix l4))) then
      (fmo_orderAll_170 t l1 l2 l3 l5 v35 W)
    else
      (fmo_orderAll_174 t l1 l2 l3 l4 l5 W)))
  else
    (fmo_orderAll_174 t l1 l2 l3 l4 l5 W)))
  else
    (gd (jR W 1358 t = l3) <|
    gd (jin l4 (jN W 1358 t)) <|
    jlt (pA W 1358 t (ix l4) (i2z (kI 1))) fun W30 =>
    some (.inl (.inr (.inr (.inr (.inr (.inr (.inl (l1, l2, l3, l4, (kI 0), W30)))))))))
noncomputable def fmo_orderAll_355 (t : Nat) (l1 : Int32) (l4 : Int32) (W : jW) : Option (fmo_orderAll_S ⊕ (Int32 × jW)) :=
  jlt (l4 + (kI 1)) fun v86 => some (.inl (.inr (.inr (.inr (.inr (.inr (.inr (.inr (.inr (l1, v86, W))))))))))
noncomputable def fmo_orderAll_318 (t : Nat) (l1 : Int32) (l4 : Int32) (W : jW) : Option (fmo_orderAll_S ⊕ (Int32 × jW)) :=
  gd (jC W t = 13) <|
  if l4 < (jI W 1311 t) then
    ((fmo_hotWords t l4 W).bind fun q74 =>
  if (0 : Int32) < q74 then
    (fmo_orderAll_355 t l1 l4 W)
  else
    (gd (jin l4 (jN W 1340 t)) <|
    jlt (pB W 1340 t (ix l4) (kJ 0)) fun W76 =>
    gd (jin l4 (jN W76 1341 t)) <|
    jlt (pB W76 1341 t (ix l4) (kJ 0)) fun W81 =>
    fmo_orderAll_355 t l1 l4 W81))
  else
    (some (.inr (l1, W)))
noncomputable def fmo_orderAll_83 (t : Nat) (l1 : Int32) (l2 : Int32) (l3 : Nat) (W : jW) : Option (fmo_orderAll_S ⊕ (Int32 × jW)) :=
  if (0 : Int32) < l2 then
    (some (.inl (.inr (.inr (.inr (.inr (.inl (l1, l2, l3, (kI (-1)), (kI 0), W))))))))
  else
    (some (.inl (.inr (.inr (.inr (.inr (.inr (.inr (.inr (.inr (l1, (kI 0), W)))))))))))
noncomputable def fmo_orderAll_63 (t : Nat) (l1 : Int32) (l2 : Int32) (l3 : Nat) (l4 : Int32) (W : jW) : Option (fmo_orderAll_S ⊕ (Int32 × jW)) :=
  gd (jC W t = 13) <|
  if l4 < (jI W 1311 t) then
    (gd (jR W 1358 t = l3) <|
  gd (jin l4 (jN W 1358 t)) <|
  jlt (pA W 1358 t (ix l4) (i2z (kI 0))) fun W20 =>
  jlt (l4 + (kI 1)) fun v24 =>
  some (.inl (.inr (.inr (.inl (l1, l2, l3, v24, W20))))))
  else
    (some (.inl (.inr (.inr (.inr (.inl (l1, l2, l3, W)))))))
noncomputable def fmo_orderAll_29 (t : Nat) (l1 : Int32) (l2 : Int32) (l3 : Int32) (W : jW) : Option (fmo_orderAll_S ⊕ (Int32 × jW)) :=
  gd (jC W t = 13) <|
  if l3 < (jI W 1311 t) then
    (gd (jin l3 (jN W 1344 t)) <|
  if (0 : Int32) < (jA W 1344 t (ix l3)) then
    (jlt (l2 + (kI 1)) fun v13 => fmo_orderAll_49 t l1 v13 l3 W)
  else
    (fmo_orderAll_49 t l1 l2 l3 W))
  else
    (jlt (jR W 1358 t) fun v11 => some (.inl (.inr (.inr (.inl (l1, l2, v11, (kI 0), W))))))
noncomputable def fmo_orderAll_2 (t : Nat) (l1 : Int32) (W : jW) : Option (fmo_orderAll_S ⊕ (Int32 × jW)) :=
  gd (jC W t = 13) <|
  if l1 < (jI W 1311 t) then
    (gd (jin l1 (jN W 1337 t)) <| jlt (pA W 1337 t (ix l1) (i2z (kI 0))) fun W4 => jlt (l1 + (kI 1)) fun v8 => some (.inl (.inl (v8, W4))))
  else
    (some (.inl (.inr (.inl ((kI 0), (kI 0), (kI 0), W)))))
noncomputable def fmo_orderAll_st (t : Nat) : fmo_orderAll_S → Option (fmo_orderAll_S ⊕ (Int32 × jW)) :=
  (Sum.elim (fun s => fmo_orderAll_2 t s.1 s.2) (Sum.elim (fun s => fmo_orderAll_29 t s.1 s.2.1 s.2.2.1 s.2.2.2) (Sum.elim (fun s => fmo_orderAll_63 t s.1 s.2.1 s.2.2.1 s.2.2.2.1 s.2.2.2.2) (Sum.elim (fun s => fmo_orderAll_83 t s.1 s.2.1 s.2.2.1 s.2.2.2) (Sum.elim (fun s => fmo_orderAll_93 t s.1 s.2.1 s.2.2.1 s.2.2.2.1 s.2.2.2.2.1 s.2.2.2.2.2) (Sum.elim (fun s => fmo_orderAll_188 t s.1 s.2.1 s.2.2.1 s.2.2.2.1 s.2.2.2.2.1 s.2.2.2.2.2) (Sum.elim (fun s => fmo_orderAll_203 t s.1 s.2.1 s.2.2.1 s.2.2.2.1 s.2.2.2.2.1 s.2.2.2.2.2.1 s.2.2.2.2.2.2) (Sum.elim (fun s => fmo_orderAll_260 t s.1 s.2.1 s.2.2.1 s.2.2.2.1 s.2.2.2.2.1 s.2.2.2.2.2.1 s.2.2.2.2.2.2.1 s.2.2.2.2.2.2.2.1 s.2.2.2.2.2.2.2.2) (fun s => fmo_orderAll_318 t s.1 s.2.1 s.2.2)))))))))
noncomputable def fmo_orderAll_0 (t : Nat) (W : jW) : Option (fmo_orderAll_S ⊕ (Int32 × jW)) :=
  some (.inl (.inl ((kI 0), W)))
noncomputable def fmo_orderAll (t : Nat) (W : jW) : Option (Int32 × jW) :=
  jrn (fmo_orderAll_st t) (fmo_orderAll_0 t W)
abbrev fmo_store_S : Type := (Int32 × jW)
noncomputable def fmo_store_3 (t : Nat) (a1 : Int64) (a3 : Int32) (a4 : Int64) (l6 : Int32) (W : jW) : Option (fmo_store_S ⊕ (jW)) :=
  if l6 < a3 then
    (gd (jC W t = 13) <|
  gd (jR W 9004 (jR W 1354 t) = (jR W 1354 t)) <|
  gd (jin (a1.toInt32 + l6) (jN W 9004 (jR W 1354 t))) <|
  jlt (pA W 9004 (jR W 1354 t) (ix (a1.toInt32 + l6)) (i2b (i2b ((lxr a4 ((kI 8) * l6)).toInt32)))) fun W5 =>
  jlt (l6 + (kI 1)) fun v9 =>
  some (.inl (v9, W5)))
  else
    (some (.inr W))
noncomputable def fmo_store_st (t : Nat) (a1 : Int64) (a3 : Int32) (a4 : Int64) : fmo_store_S → Option (fmo_store_S ⊕ (jW)) :=
  (fun s => fmo_store_3 t a1 a3 a4 s.1 s.2)
noncomputable def fmo_store_0 (t : Nat) (a1 : Int64) (a3 : Int32) (a4 : Int64) (W : jW) : Option (fmo_store_S ⊕ (jW)) :=
  some (.inl ((kI 0), W))
noncomputable def fmo_store (t : Nat) (a1 : Int64) (a3 : Int32) (a4 : Int64) (W : jW) : Option (jW) :=
  jrn (fmo_store_st t a1 a3 a4) (fmo_store_0 t a1 a3 a4 W)
noncomputable def fmo_isInHot (t : Nat) (a1 : Int32) (W : jW) : Option (Int32) :=
  gd (jC W t = 13) <| gd (jin a1 (jN W 1359 t)) <| gd (i2z (jA W 1359 t (ix a1)) = (jA W 1359 t (ix a1))) <| some (jA W 1359 t (ix a1))
abbrev fmo_newSize_S : Type := (Int32 × Int32 × Int32 × Int32)
noncomputable def fmo_newSize_72 (t : Nat) (a1 : Int32) (l2 : Int32) (l3 : Int32) (l4 : Int32) (l5 : Int32) (W : jW) : Option (fmo_newSize_S ⊕ (Int32)) :=
  jlt (l5 + (kI 1)) fun v15 => some (.inl (l2, l3, l4, v15))
noncomputable def fmo_newSize_78 (t : Nat) (a1 : Int32) (l4 : Int32) (W : jW) : Option (fmo_newSize_S ⊕ (Int32)) :=
  some (.inr ((kI 4) * l4))
noncomputable def fmo_newSize_28 (t : Nat) (a1 : Int32) (l2 : Int32) (l3 : Int32) (l4 : Int32) (l5 : Int32) (W : jW) : Option (fmo_newSize_S ⊕ (Int32)) :=
  gd (jC W t = 13) <|
  if l5 < (jI W 1312 t) then
    (gd (jin l5 (jN W 1324 t)) <|
  if (jA W 1324 t (ix l5)) = l2 then
    ((fmo_isInHot t l5 W).bind fun q10 =>
  if q10 = l3 then
    (gd (jC W (jR W 1350 t) = 15) <| (fwn_length (jR W 1350 t) l5 W).bind fun q12 => jlt (l4 + q12) fun v13 => fmo_newSize_72 t a1 l2 l3 v13 l5 W)
  else
    (fmo_newSize_72 t a1 l2 l3 l4 l5 W))
  else
    (fmo_newSize_78 t a1 l4 W))
  else
    (fmo_newSize_78 t a1 l4 W)
noncomputable def fmo_newSize_st (t : Nat) (a1 : Int32) (W : jW) : fmo_newSize_S → Option (fmo_newSize_S ⊕ (Int32)) :=
  (fun s => fmo_newSize_28 t a1 s.1 s.2.1 s.2.2.1 s.2.2.2 W)
noncomputable def fmo_newSize_0 (t : Nat) (a1 : Int32) (W : jW) : Option (fmo_newSize_S ⊕ (Int32)) :=
  gd (jC W t = 13) <|
  (fmo_functionAt t a1 W).bind fun q2 =>
  gd (jin q2 (jN W 1321 t)) <|
  (fmo_isInHot t (jA W 1321 t (ix q2)) W).bind fun q4 =>
  gd (jin q2 (jN W 1321 t)) <|
  jlt (jA W 1321 t (ix q2)) fun v6 =>
  some (.inl (q2, q4, (kI 0), v6))
noncomputable def fmo_newSize (t : Nat) (a1 : Int32) (W : jW) : Option (Int32) :=
  jrn (fmo_newSize_st t a1 W) (fmo_newSize_0 t a1 W)
noncomputable def fmo_writeFix_282 (t : Nat) (a1 : Int32) (a2 : Int64) (l5 : Int64) (l10 : Int64) (l14 : Int64) (W : jW) : Option (jW) :=
  gd (jC W t = 13) <| (fmo_store t (l5 + (kJ 16)) (kI 8) (l10 - l14) W).bind fun q50 => some q50
noncomputable def fmo_writeFix_222 (t : Nat) (a1 : Int32) (a2 : Int64) (l5 : Int64) (l10 : Int64) (W : jW) : Option (jW) :=
  gd (jC W t = 13) <|
  gd (jC W (jR W 1305 t) = 14) <|
  (fhd_num (jR W 1305 t) (a2 + (kJ 12)) (kI 4) W).bind fun q43 =>
  (fhd_symbol (jR W 1305 t) q43.toInt32 W).bind fun q44 =>
  (fhd_num (jR W 1305 t) (q44 + (kJ 8)) (kI 8) W).bind fun q45 =>
  (fhd_isOfText (jR W 1305 t) q43.toInt32 W).bind fun q46 =>
  if q46 = (0 : Int32) then
    (fmo_writeFix_282 t a1 a2 l5 l10 q45 W)
  else
    ((fmo_newAddress t q45 W).bind fun q47 => fmo_writeFix_282 t a1 a2 l5 l10 q47 W)
noncomputable def fmo_writeFix_151 (t : Nat) (a1 : Int32) (a2 : Int64) (l4 : Int32) (l5 : Int64) (l7 : Int64) (l10 : Int64) (l12 : Int32) (W : jW) : Option (jW) :=
  if l4 = (0 : Int32) then
    (if l12 = (0 : Int32) then
      (fmo_writeFix_222 t a1 a2 l5 l10 W)
    else
      (gd (jC W t = 13) <|
    gd (jC W (jR W 1305 t) = 14) <|
    (fhd_aim (jR W 1305 t) a1 W).bind fun q30 =>
    gd (jin q30 (jN W 1412 (jR W 1305 t))) <|
    (fhd_aim (jR W 1305 t) a1 W).bind fun q32 =>
    gd (jin q32 (jN W 1413 (jR W 1305 t))) <|
    (fmo_store t (((jB W 1412 (jR W 1305 t) (ix q30)) + l7) - (jB W 1413 (jR W 1305 t) (ix q32))) (kI 8) l10 W).bind fun q34 =>
    fmo_writeFix_222 t a1 a2 l5 l10 q34))
  else
    (gd (jC W t = 13) <| (fmo_newAddress t l7 W).bind fun q37 => (fmo_store t l5 (kI 8) q37 W).bind fun q38 => fmo_writeFix_222 t a1 a2 l5 l10 q38)
noncomputable def fmo_writeFix_120 (t : Nat) (a1 : Int32) (a2 : Int64) (l4 : Int32) (l5 : Int64) (l7 : Int64) (W : jW) : Option (jW) :=
  gd (jC W t = 13) <|
  (fmo_target t a2 W).bind fun q23 =>
  gd (jC W (jR W 1305 t) = 14) <|
  (fhd_isIn (jR W 1305 t) q23 W).bind fun q25 =>
  if q25 = (0 : Int32) then
    (fmo_writeFix_151 t a1 a2 l4 l5 l7 q23 q25 W)
  else
    ((fmo_newAddress t q23 W).bind fun q26 => fmo_writeFix_151 t a1 a2 l4 l5 l7 q26 q25 W)
noncomputable def fmo_writeFix_65 (t : Nat) (a1 : Int32) (a2 : Int64) (l4 : Int32) (l5 : Int64) (l7 : Int64) (s0 : Int32) (W : jW) : Option (jW) :=
  if l4 = (0 : Int32) then
    (fmo_writeFix_120 t a1 a2 l4 l5 l7 W)
  else
    (gd (jC W t = 13) <|
  gd (jC W (jR W 1350 t) = 15) <|
  (fwn_isGone (jR W 1350 t) s0 W).bind fun q12 =>
  if q12 = (0 : Int32) then
    (fmo_writeFix_120 t a1 a2 l4 l5 l7 W)
  else
    ((fmo_store t l5 (kI 8) (kJ 0) W).bind fun q13 =>
  gd (jC q13 t = 13) <|
  (fmo_store t (l5 + (kJ 8)) (kI 8) (kJ 0) q13).bind fun q16 =>
  gd (jC q16 t = 13) <|
  (fmo_store t (l5 + (kJ 16)) (kI 8) (kJ 0) q16).bind fun q19 =>
  some q19))
noncomputable def fmo_writeFix_23 (t : Nat) (a1 : Int32) (a2 : Int64) (s0 : Int32) (W : jW) : Option (jW) :=
  gd (jC W t = 13) <|
  jlt (a2 + ((jI W 1356 t).toInt64)) fun v6 =>
  gd (jC W (jR W 1305 t) = 14) <|
  (fhd_num (jR W 1305 t) a2 (kI 8) W).bind fun q8 =>
  if s0 = (0 : Int32) then
    (fmo_writeFix_65 t a1 a2 s0 v6 q8 (kI (-1)) W)
  else
    (fmo_writeFix_65 t a1 a2 s0 v6 q8 (((q8 - (jL W 1313 t)).toInt32) / (kI 4)) W)
noncomputable def fmo_writeFix (t : Nat) (a1 : Int32) (a2 : Int64) (W : jW) : Option (jW) :=
  gd (jC W t = 13) <|
  gd (jC W (jR W 1305 t) = 14) <|
  (fhd_aim (jR W 1305 t) a1 W).bind fun q3 =>
  if q3 = (jI W 1415 (jR W 1305 t)) then
    (fmo_writeFix_23 t a1 a2 (kI 1) W)
  else
    (fmo_writeFix_23 t a1 a2 (kI 0) W)
abbrev fmo_write_S : Type := (Int32 × Int32 × Int32 × jW) ⊕ (Int32 × Int32 × Int32 × jW) ⊕ (Int32 × Int32 × Int32 × jW) ⊕ (Int32 × Int32 × Int32 × jW) ⊕ (Int32 × Int32 × Int32 × Int32 × jW) ⊕ (Int32 × Int32 × Int64 × Int32 × jW) ⊕ (Int32 × jW) ⊕ (Int32 × jW) ⊕ (Int32 × Int64 × jW)
noncomputable def fmo_write_169 (t : Nat) (l1 : Int32) (l2 : Int32) (l3 : Int32) (l4 : Int32) (W : jW) : Option (fmo_write_S ⊕ (jW)) :=
  gd (jC W t = 13) <|
  gd (jC W (jR W 1350 t) = 15) <|
  (fwn_length (jR W 1350 t) l3 W).bind fun q79 =>
  if l4 < q79 then
    (gd (jin l3 (jN W 1503 (jR W 1350 t))) <|
  (fwn_whole (jR W 1350 t) l3 l4 W).bind fun q82 =>
  gd (jC q82.2 t = 13) <|
  (fmo_store t (((jI W 1309 t).toInt64) + ((kJ 4) * (((jA W 1503 (jR W 1350 t) (ix l3)) + l4).toInt64))) (kI 4) q82.1.toInt64 q82.2).bind fun q85 =>
  jlt (l4 + (kI 1)) fun v87 =>
  some (.inl (.inr (.inr (.inr (.inr (.inl (l1, l2, l3, v87, q85))))))))
  else
    (jlt (l3 + (kI 1)) fun v80 => some (.inl (.inr (.inr (.inr (.inl (l1, l2, v80, W)))))))
noncomputable def fmo_write_408 (t : Nat) (l1 : Int32) (l2 : Int32) (l4 : Int64) (l6 : Int32) (W : jW) : Option (fmo_write_S ⊕ (jW)) :=
  jlt (l6 + (kI 1)) fun v98 => some (.inl (.inr (.inr (.inr (.inr (.inr (.inl (l1, l2, l4, v98, W))))))))
noncomputable def fmo_write_576 (t : Nat) (l6 : Int32) (W : jW) : Option (fmo_write_S ⊕ (jW)) :=
  jlt (l6 + (kI 1)) fun v117 => some (.inl (.inr (.inr (.inr (.inr (.inr (.inr (.inl (v117, W)))))))))
noncomputable def fmo_write_680 (t : Nat) (l6 : Int32) (W : jW) : Option (fmo_write_S ⊕ (jW)) :=
  jlt (l6 + (kI 1)) fun v125 => some (.inl (.inr (.inr (.inr (.inr (.inr (.inr (.inr (.inl (v125, W))))))))))
noncomputable def fmo_write_669 (t : Nat) (l6 : Int32) (l7 : Int64) (W : jW) : Option (fmo_write_S ⊕ (jW)) :=
  jlt (l7 + (kJ 24)) fun v135 => some (.inl (.inr (.inr (.inr (.inr (.inr (.inr (.inr (.inr (l6, v135, W))))))))))
noncomputable def fmo_write_625 (t : Nat) (l6 : Int32) (l7 : Int64) (W : jW) : Option (fmo_write_S ⊕ (jW)) :=
  gd (jC W t = 13) <|
  gd (jC W (jR W 1305 t) = 14) <|
  gd (jin l6 (jN W 1412 (jR W 1305 t))) <|
  gd (jin l6 (jN W 1414 (jR W 1305 t))) <|
  if l7 < ((jB W 1412 (jR W 1305 t) (ix l6)) + (jB W 1414 (jR W 1305 t) (ix l6))) then
    ((fmo_fixType t l7 W).bind fun q131 =>
  if (0 : Int32) < q131 then
    ((fmo_writeFix t l6 l7 W).bind fun q132 => fmo_write_669 t l6 l7 q132)
  else
    (fmo_write_669 t l6 l7 W))
  else
    (fmo_write_680 t l6 W)
noncomputable def fmo_write_585 (t : Nat) (l6 : Int32) (W : jW) : Option (fmo_write_S ⊕ (jW)) :=
  gd (jC W t = 13) <|
  gd (jC W (jR W 1305 t) = 14) <|
  if l6 < (jI W 1403 (jR W 1305 t)) then
    ((fhd_what (jR W 1305 t) l6 W).bind fun q121 =>
  if q121 = (kI 4) then
    (gd (jin l6 (jN W 1412 (jR W 1305 t))) <|
    jlt (jB W 1412 (jR W 1305 t) (ix l6)) fun v123 =>
    some (.inl (.inr (.inr (.inr (.inr (.inr (.inr (.inr (.inr (l6, v123, W)))))))))))
  else
    (fmo_write_680 t l6 W))
  else
    (some (.inr W))
noncomputable def fmo_write_443 (t : Nat) (l6 : Int32) (W : jW) : Option (fmo_write_S ⊕ (jW)) :=
  gd (jC W t = 13) <|
  gd (jC W (jR W 1305 t) = 14) <|
  (fhd_symbolCount (jR W 1305 t) W).bind fun q102 =>
  if l6 < q102 then
    ((fhd_isOfText (jR W 1305 t) l6 W).bind fun q103 =>
  if q103 = (0 : Int32) then
    (fmo_write_576 t l6 W)
  else
    ((fhd_symbol (jR W 1305 t) l6 W).bind fun q104 =>
    (fhd_num (jR W 1305 t) (q104 + (kJ 8)) (kI 8) W).bind fun q105 =>
    (fmo_newAddress t q105 W).bind fun q106 =>
    (fmo_store t ((q104 + ((jI W 1356 t).toInt64)) + (kJ 8)) (kI 8) q106 W).bind fun q107 =>
    gd (jC q107 t = 13) <|
    gd (jC q107 (jR q107 1305 t) = 14) <|
    (fhd_isFunction (jR q107 1305 t) l6 q107).bind fun q111 =>
    if q111 = (0 : Int32) then
      (fmo_write_576 t l6 q107)
    else
      ((fhd_num (jR q107 1305 t) (q104 + (kJ 8)) (kI 8) q107).bind fun q112 =>
    (fmo_newSize t (((q112 - (jL q107 1313 t)).toInt32) / (kI 4)) q107).bind fun q113 =>
    (fmo_store t ((q104 + ((jI q107 1356 t).toInt64)) + (kJ 16)) (kI 8) q113.toInt64 q107).bind fun q114 =>
    fmo_write_576 t l6 q114)))
  else
    (some (.inl (.inr (.inr (.inr (.inr (.inr (.inr (.inr (.inl ((kI 1), W)))))))))))
noncomputable def fmo_write_340 (t : Nat) (l1 : Int32) (l2 : Int32) (l4 : Int64) (l6 : Int32) (W : jW) : Option (fmo_write_S ⊕ (jW)) :=
  gd (jC W t = 13) <|
  gd (jC W (jR W 1305 t) = 14) <|
  if l6 < (jI W 1403 (jR W 1305 t)) then
    (gd (jin l6 (jN W 1412 (jR W 1305 t))) <|
  if (jB W 1412 (jR W 1305 t) (ix l6)) < ((jI W 1309 t) + l2).toInt64 then
    (fmo_write_408 t l1 l2 l4 l6 W)
  else
    (gd (jin l6 (jN W 1412 (jR W 1305 t))) <|
  (fmo_store t ((l4 + (((kI 64) * l6).toInt64)) + (kJ 24)) (kI 8) ((jB W 1412 (jR W 1305 t) (ix l6)) + ((jI W 1356 t).toInt64)) W).bind fun q95 =>
  fmo_write_408 t l1 l2 l4 l6 q95))
  else
    ((fmo_store t ((l4 + (((kI 64) * (jI W 1415 (jR W 1305 t))).toInt64)) + (kJ 32)) (kI 8) l1.toInt64 W).bind fun q91 =>
    some (.inl (.inr (.inr (.inr (.inr (.inr (.inr (.inl ((kI 1), q91))))))))))
noncomputable def fmo_write_158 (t : Nat) (l1 : Int32) (l2 : Int32) (l3 : Int32) (W : jW) : Option (fmo_write_S ⊕ (jW)) :=
  gd (jC W t = 13) <|
  if l3 < (jI W 1312 t) then
    (some (.inl (.inr (.inr (.inr (.inr (.inl (l1, l2, l3, (kI 0), W))))))))
  else
    (gd (jC W (jR W 1305 t) = 14) <|
    (fhd_num (jR W 1305 t) (kJ 24) (kI 8) W).bind fun q57 =>
    (fmo_newAddress t q57 W).bind fun q58 =>
    (fmo_store t (kJ 24) (kI 8) q58 W).bind fun q59 =>
    gd (jC q59 t = 13) <|
    gd (jC q59 (jR q59 1305 t) = 14) <|
    (fmo_store t (kJ 40) (kI 8) ((jL q59 1405 (jR q59 1305 t)) + ((jI q59 1356 t).toInt64)) q59).bind fun q63 =>
    gd (jC q63 t = 13) <|
    gd (jC q63 (jR q63 1305 t) = 14) <|
    jlt ((kI 64) + ((kI 56) * ((jI q63 1402 (jR q63 1305 t)) - (kI 1)))) fun v67 =>
    (fmo_store t ((v67 + (kI 32)).toInt64) (kI 8) l1.toInt64 q63).bind fun q68 =>
    gd (jC q68 t = 13) <|
    (fmo_store t ((v67 + (kI 40)).toInt64) (kI 8) l1.toInt64 q68).bind fun q71 =>
    gd (jC q71 t = 13) <|
    gd (jC q71 (jR q71 1305 t) = 14) <|
    jlt ((jL q71 1405 (jR q71 1305 t)) + ((jI q71 1356 t).toInt64)) fun v75 =>
    some (.inl (.inr (.inr (.inr (.inr (.inr (.inl (l1, l2, v75, (kI 1), q71)))))))))
noncomputable def fmo_write_125 (t : Nat) (l1 : Int32) (l2 : Int32) (l3 : Int32) (W : jW) : Option (fmo_write_S ⊕ (jW)) :=
  gd (jC W t = 13) <|
  if l3 < (jI W 1308 t) then
    (gd (jR W 9004 (jR W 1303 t) = (jR W 1303 t)) <|
  gd (jin l3 (jN W 9004 (jR W 1303 t))) <|
  gd (jR W 9004 (jR W 1354 t) = (jR W 1354 t)) <|
  gd (jin (l3 + (jI W 1356 t)) (jN W 9004 (jR W 1354 t))) <|
  jlt (pA W 9004 (jR W 1354 t) (ix (l3 + (jI W 1356 t))) (i2b (jA W 9004 (jR W 1303 t) (ix l3)))) fun W49 =>
  jlt (l3 + (kI 1)) fun v53 =>
  some (.inl (.inr (.inr (.inl (l1, l2, v53, W49))))))
  else
    (some (.inl (.inr (.inr (.inr (.inl (l1, l2, (kI 0), W)))))))
noncomputable def fmo_write_97 (t : Nat) (l1 : Int32) (l2 : Int32) (l3 : Int32) (W : jW) : Option (fmo_write_S ⊕ (jW)) :=
  gd (jC W t = 13) <|
  if l3 < (jI W 1355 t) then
    (gd (jR W 9004 (jR W 1354 t) = (jR W 1354 t)) <|
  gd (jin l3 (jN W 9004 (jR W 1354 t))) <|
  jlt (pA W 9004 (jR W 1354 t) (ix l3) (i2b (kI 0))) fun W38 =>
  jlt (l3 + (kI 1)) fun v42 =>
  some (.inl (.inr (.inl (l1, l2, v42, W38)))))
  else
    (jlt ((jI W 1309 t) + l2) fun v35 => some (.inl (.inr (.inr (.inl (l1, l2, v35, W))))))
noncomputable def fmo_write_66 (t : Nat) (l1 : Int32) (l2 : Int32) (l3 : Int32) (W : jW) : Option (fmo_write_S ⊕ (jW)) :=
  gd (jC W t = 13) <|
  if l3 < (jI W 1309 t) then
    (gd (jR W 9004 (jR W 1303 t) = (jR W 1303 t)) <|
  gd (jin l3 (jN W 9004 (jR W 1303 t))) <|
  gd (jR W 9004 (jR W 1354 t) = (jR W 1354 t)) <|
  gd (jin l3 (jN W 9004 (jR W 1354 t))) <|
  jlt (pA W 9004 (jR W 1354 t) (ix l3) (i2b (jA W 9004 (jR W 1303 t) (ix l3)))) fun W28 =>
  jlt (l3 + (kI 1)) fun v32 =>
  some (.inl (.inl (l1, l2, v32, W28))))
  else
    (jlt (jI W 1309 t) fun v23 => some (.inl (.inr (.inl (l1, l2, v23, W)))))
noncomputable def fmo_write_51 (t : Nat) (l1 : Int32) (l2 : Int32) (W : jW) : Option (fmo_write_S ⊕ (jW)) :=
  gd (jC W t = 13) <| jlt (sI W 1355 t ((jI W 1308 t) + (jI W 1356 t))) fun W17 => some (.inl (.inl (l1, l2, (kI 0), W17)))
noncomputable def fmo_write_st (t : Nat) : fmo_write_S → Option (fmo_write_S ⊕ (jW)) :=
  (Sum.elim (fun s => fmo_write_66 t s.1 s.2.1 s.2.2.1 s.2.2.2) (Sum.elim (fun s => fmo_write_97 t s.1 s.2.1 s.2.2.1 s.2.2.2) (Sum.elim (fun s => fmo_write_125 t s.1 s.2.1 s.2.2.1 s.2.2.2) (Sum.elim (fun s => fmo_write_158 t s.1 s.2.1 s.2.2.1 s.2.2.2) (Sum.elim (fun s => fmo_write_169 t s.1 s.2.1 s.2.2.1 s.2.2.2.1 s.2.2.2.2) (Sum.elim (fun s => fmo_write_340 t s.1 s.2.1 s.2.2.1 s.2.2.2.1 s.2.2.2.2) (Sum.elim (fun s => fmo_write_443 t s.1 s.2) (Sum.elim (fun s => fmo_write_585 t s.1 s.2) (fun s => fmo_write_625 t s.1 s.2.1 s.2.2)))))))))
noncomputable def fmo_write_0 (t : Nat) (W : jW) : Option (fmo_write_S ⊕ (jW)) :=
  gd (jC W t = 13) <|
  gd (jC W (jR W 1350 t) = 15) <|
  jlt ((kI 4) * (jI W 1508 (jR W 1350 t))) fun v3 =>
  jlt ((kI 4) * (jI W 1310 t)) fun v4 =>
  jlt (sI W 1356 t (((v3 - v4) / (kI 16)) * (kI 16))) fun W5 =>
  if (jI W5 1356 t) < (v3 - v4) then
    (jlt (sI W5 1356 t ((jI W5 1356 t) + (kI 16))) fun W10 => fmo_write_51 t v3 v4 W10)
  else
    (fmo_write_51 t v3 v4 W5)
noncomputable def fmo_write (t : Nat) (W : jW) : Option (jW) :=
  jrn (fmo_write_st t) (fmo_write_0 t W)
abbrev fmo_lay_S : Type := (Int32 × jW) ⊕ (Int32 × jW) ⊕ (Int32 × Int32 × jW)
noncomputable def fmo_lay_52 (t : Nat) (a1 : Int32) (a2 : Int32) (W : jW) : Option (fmo_lay_S ⊕ (Int32 × jW)) :=
  some (.inr ((kI (-1)), W))
noncomputable def fmo_lay_203 (t : Nat) (a1 : Int32) (a2 : Int32) (l4 : Int32) (l5 : Int32) (W : jW) : Option (fmo_lay_S ⊕ (Int32 × jW)) :=
  jlt (l5 + (kI 1)) fun v94 => some (.inl (.inr (.inr (l4, v94, W))))
noncomputable def fmo_lay_152 (t : Nat) (a1 : Int32) (a2 : Int32) (l4 : Int32) (l5 : Int32) (W : jW) : Option (fmo_lay_S ⊕ (Int32 × jW)) :=
  gd (jC W t = 13) <|
  if l5 < (jI W 1312 t) then
    (gd (jin l5 (jN W 1334 t)) <|
  gd (jin l5 (jN W 1359 t)) <|
  jlt (pA W 1359 t (ix l5) (i2z (jA W 1334 t (ix l5)))) fun W80 =>
  gd (jin l5 (jN W80 1334 t)) <|
  if (jA W80 1334 t (ix l5)) = (0 : Int32) then
    (gd (jC W80 (jR W80 1350 t) = 15) <|
    gd (jin l4 (jN W80 1501 (jR W80 1350 t))) <|
    jlt (pA W80 1501 (jR W80 1350 t) (ix l4) l5) fun W87 =>
    jlt (l4 + (kI 1)) fun v92 =>
    fmo_lay_203 t a1 a2 v92 l5 W87)
  else
    (fmo_lay_203 t a1 a2 l4 l5 W80))
  else
    (gd (jC W (jR W 1350 t) = 15) <|
    jlt (sI W 1509 (jR W 1350 t) (kI 0)) fun W42 =>
    gd (jC W42 (jR W42 1350 t) = 15) <|
    (fwn_shape (jR W42 1350 t) W42).bind fun q48 =>
    gd (jC q48 t = 13) <|
    gd (jC q48 (jR q48 1350 t) = 15) <|
    (fwn_settle (jR q48 1350 t) a2.toInt64 q48).bind fun q52 =>
    gd (jC q52 t = 13) <|
    (fmo_write t q52).bind fun q55 =>
    gd (jC q55 t = 13) <|
    gd (jC q55 (jR q55 1350 t) = 15) <|
    jlt (sI q55 1353 t ((jI q55 1353 t) + (jI q55 1509 (jR q55 1350 t)))) fun W59 =>
    jlt (sI W59 1352 t (kI 1)) fun W64 =>
    jlt (sI W64 1357 t (kI (-1))) fun W69 =>
    (fmo_forget t W69).bind fun q74 =>
    gd (jC q74 t = 13) <|
    gd (jC q74 (jR q74 1350 t) = 15) <|
    some (.inr (((kI 4) * (jI q74 1508 (jR q74 1350 t))), q74)))
noncomputable def fmo_lay_83 (t : Nat) (a1 : Int32) (a2 : Int32) (l4 : Int32) (W : jW) : Option (fmo_lay_S ⊕ (Int32 × jW)) :=
  gd (jC W t = 13) <|
  if l4 < (jI W 1329 t) then
    (gd (jin l4 (jN W 1330 t)) <|
  gd (jin (jA W 1330 t (ix l4)) (jN W 1334 t)) <|
  jlt (pA W 1334 t (ix (jA W 1330 t (ix l4))) (i2z (kI 1))) fun W28 =>
  gd (jin l4 (jN W28 1331 t)) <|
  gd (jin (jA W28 1331 t (ix l4)) (jN W28 1334 t)) <|
  jlt (pA W28 1334 t (ix (jA W28 1331 t (ix l4))) (i2z (kI 1))) fun W34 =>
  jlt (l4 + (kI 1)) fun v38 =>
  some (.inl (.inr (.inl (v38, W34)))))
  else
    ((fmo_gather t a1 W).bind fun q13 =>
    gd (jC q13 t = 13) <|
    (fmo_orderAll t q13).bind fun q16 =>
    gd (jC q16.2 (jR q13 1350 t) = 15) <|
    jlt (sI q16.2 1502 (jR q13 1350 t) q16.1) fun W19 =>
    gd (jC W19 t = 13) <|
    gd (jC W19 (jR W19 1350 t) = 15) <|
    jlt (jI W19 1502 (jR W19 1350 t)) fun v25 =>
    some (.inl (.inr (.inr (v25, (kI 0), W19)))))
noncomputable def fmo_lay_57 (t : Nat) (a1 : Int32) (a2 : Int32) (l4 : Int32) (W : jW) : Option (fmo_lay_S ⊕ (Int32 × jW)) :=
  gd (jC W t = 13) <|
  if l4 < (jI W 1312 t) then
    (gd (jin l4 (jN W 1334 t)) <| jlt (pA W 1334 t (ix l4) (i2z (kI 0))) fun W6 => jlt (l4 + (kI 1)) fun v10 => some (.inl (.inl (v10, W6))))
  else
    (some (.inl (.inr (.inl ((kI 0), W)))))
noncomputable def fmo_lay_35 (t : Nat) (a1 : Int32) (a2 : Int32) (s0 : Int32) (W : jW) : Option (fmo_lay_S ⊕ (Int32 × jW)) :=
  if a1 < (kI 4) then
    (fmo_lay_52 t a1 a2 W)
  else
    (if (kI 65536) < a1 then
    (fmo_lay_52 t a1 a2 W)
  else
    (if s0 = (0 : Int32) then
    (fmo_lay_52 t a1 a2 W)
  else
    (some (.inl (.inl ((kI 0), W))))))
noncomputable def fmo_lay_34 (t : Nat) (a1 : Int32) (a2 : Int32) (W : jW) : Option (fmo_lay_S ⊕ (Int32 × jW)) :=
  fmo_lay_35 t a1 a2 (kI 0) W
noncomputable def fmo_lay_st (t : Nat) (a1 : Int32) (a2 : Int32) : fmo_lay_S → Option (fmo_lay_S ⊕ (Int32 × jW)) :=
  (Sum.elim (fun s => fmo_lay_57 t a1 a2 s.1 s.2) (Sum.elim (fun s => fmo_lay_83 t a1 a2 s.1 s.2) (fun s => fmo_lay_152 t a1 a2 s.1 s.2.1 s.2.2)))
noncomputable def fmo_lay_0 (t : Nat) (a1 : Int32) (a2 : Int32) (W : jW) : Option (fmo_lay_S ⊕ (Int32 × jW)) :=
  gd (jC W t = 13) <|
  if (jI W 1307 t) = (0 : Int32) then
    (some (.inr ((kI (-14)), W)))
  else
    (if a2 < (kI 4) then
      (fmo_lay_34 t a1 a2 W)
    else
      (if (kI 2097152) < a2 then
      (fmo_lay_34 t a1 a2 W)
    else
      (if (a2 &&& (a2 - (kI 1))) = (0 : Int32) then
      (fmo_lay_35 t a1 a2 (kI 1) W)
    else
      (fmo_lay_34 t a1 a2 W))))
noncomputable def fmo_lay (t : Nat) (a1 : Int32) (a2 : Int32) (W : jW) : Option (Int32 × jW) :=
  jrn (fmo_lay_st t a1 a2) (fmo_lay_0 t a1 a2 W)
noncomputable def fmo_order_31 (t : Nat) (a1 : Int32) (W : jW) : Option (Int32) :=
  some (kI (-1))
noncomputable def fmo_order (t : Nat) (a1 : Int32) (W : jW) : Option (Int32) :=
  gd (jC W t = 13) <|
  if (jI W 1352 t) = (0 : Int32) then
    (fmo_order_31 t a1 W)
  else
    (if a1 < (0 : Int32) then
    (fmo_order_31 t a1 W)
  else
    (if a1 < (jI W 1312 t) then
    (gd (jC W (jR W 1350 t) = 15) <| gd (jin a1 (jN W 1501 (jR W 1350 t))) <| some (jA W 1501 (jR W 1350 t) (ix a1)))
  else
    (fmo_order_31 t a1 W)))
noncomputable def fmo_laid_16 (t : Nat) (a1 : Int32) (W : jW) : Option (Int32) :=
  some (kI (-14))
noncomputable def fmo_laid (t : Nat) (a1 : Int32) (W : jW) : Option (Int32) :=
  gd (jC W t = 13) <|
  if (jI W 1352 t) = (0 : Int32) then
    (fmo_laid_16 t a1 W)
  else
    (if a1 < (0 : Int32) then
    (fmo_laid_16 t a1 W)
  else
    (if (kI 4) < a1 then
    (fmo_laid_16 t a1 W)
  else
    (if a1 = (0 : Int32) then
      (gd (jC W (jR W 1350 t) = 15) <| some (jI W 1502 (jR W 1350 t)))
    else
      (if a1 = (kI 1) then
        (gd (jC W (jR W 1350 t) = 15) <| some (jI W 1510 (jR W 1350 t)))
      else
        (if a1 = (kI 2) then
          (gd (jC W (jR W 1350 t) = 15) <| some (jI W 1511 (jR W 1350 t)))
        else
          (if a1 = (kI 3) then
            (gd (jC W (jR W 1350 t) = 15) <| some (jI W 1512 (jR W 1350 t)))
          else
            (gd (jC W (jR W 1350 t) = 15) <| some (jI W 1513 (jR W 1350 t)))))))))
noncomputable def fmo_weight_28 (t : Nat) (a1 : Int32) (a2 : Int32) (W : jW) : Option (Int64) :=
  some (kJ (-14))
noncomputable def fmo_weight (t : Nat) (a1 : Int32) (a2 : Int32) (W : jW) : Option (Int64) :=
  gd (jC W t = 13) <|
  if (jI W 1352 t) = (0 : Int32) then
    (fmo_weight_28 t a1 a2 W)
  else
    (if a1 < (0 : Int32) then
    (fmo_weight_28 t a1 a2 W)
  else
    (if a1 < (jI W 1311 t) then
    (if a2 < (0 : Int32) then
    (fmo_weight_28 t a1 a2 W)
  else
    (if (kI 1) < a2 then
    (fmo_weight_28 t a1 a2 W)
  else
    (if a2 = (0 : Int32) then
      (gd (jin a1 (jN W 1341 t)) <| some (jB W 1341 t (ix a1)))
    else
      (gd (jin a1 (jN W 1340 t)) <| some (jB W 1340 t (ix a1))))))
  else
    (fmo_weight_28 t a1 a2 W)))
noncomputable def fmo_moved_17 (t : Nat) (a1 : Int64) (W : jW) : Option (Int64) :=
  some (kJ (-14))
noncomputable def fmo_moved (t : Nat) (a1 : Int64) (W : jW) : Option (Int64) :=
  gd (jC W t = 13) <|
  (fmo_wordAt t a1 W).bind fun q2 =>
  if (jI W 1352 t) = (0 : Int32) then
    (fmo_moved_17 t a1 W)
  else
    (if q2 < (0 : Int32) then
    (fmo_moved_17 t a1 W)
  else
    (gd (jC W (jR W 1350 t) = 15) <| (fwn_newWord (jR W 1350 t) q2 W).bind fun q4 => some ((jL W 1313 t) + ((kJ 4) * q4.toInt64))))
noncomputable def fmo_size (t : Nat) (W : jW) : Option (Int32) :=
  gd (jC W t = 13) <| if (jI W 1352 t) = (0 : Int32) then
    (some (kI (-14)))
  else
    (some (jI W 1355 t))
noncomputable def fmo_out_32 (t : Nat) (a1 : Int32) (W : jW) : Option (Int32) :=
  some (kI (-1))
noncomputable def fmo_out (t : Nat) (a1 : Int32) (W : jW) : Option (Int32) :=
  gd (jC W t = 13) <|
  if (jI W 1352 t) = (0 : Int32) then
    (fmo_out_32 t a1 W)
  else
    (if a1 < (0 : Int32) then
    (fmo_out_32 t a1 W)
  else
    (if a1 < (jI W 1355 t) then
    (gd (jR W 9004 (jR W 1354 t) = (jR W 1354 t)) <| gd (jin a1 (jN W 9004 (jR W 1354 t))) <| some ((jA W 9004 (jR W 1354 t) (ix a1)) &&& (kI 255)))
  else
    (fmo_out_32 t a1 W)))
noncomputable def fmo_check_50 (t : Nat) (W : jW) : Option (Int32 × jW) :=
  gd (jC W t = 13) <| some ((jI W 1357 t), W)
noncomputable def fmo_check (t : Nat) (W : jW) : Option (Int32 × jW) :=
  gd (jC W t = 13) <|
  if (jI W 1352 t) = (0 : Int32) then
    (some ((kI (-14)), W))
  else
    (if (jI W 1357 t) < (0 : Int32) then
      (gd (jC W (jR W 1360 t) = 14) <|
    jlt (sR W 1400 (jR W 1360 t) (jR W 1354 t)) fun W3 =>
    gd (jC W3 (jR W3 1360 t) = 14) <|
    jlt (sI W3 1401 (jR W3 1360 t) (jI W3 1355 t)) fun W9 =>
    gd (jC W9 (jR W9 1360 t) = 14) <|
    (fhd_broken (jR W9 1360 t) W9).bind fun q16 =>
    gd (jC q16.2 t = 13) <|
    jlt (sI q16.2 1357 t q16.1) fun W19 =>
    fmo_check_50 t W19)
    else
      (fmo_check_50 t W))
noncomputable def fmo_strays (t : Nat) (W : jW) : Option (Int32) :=
  gd (jC W t = 13) <| some (jI W 1353 t)
noncomputable def fmo_runOf (t : Nat) (a1 : Int32) (W : jW) : Option (Nat) :=
  if a1 = (0 : Int32) then
    (gd (jC W t = 13) <| some (jR W 1361 t))
  else
    (if a1 = (kI 1) then
      (gd (jC W t = 13) <| some (jR W 1362 t))
    else
      (if a1 = (kI 2) then
        (gd (jC W t = 13) <| some (jR W 1363 t))
      else
        (some 0)))
noncomputable def fmo_run_19 (t : Nat) (a1 : Int32) (a2 : Int32) (W : jW) : Option (Int32 × jW) :=
  some ((kI (-14)), W)
noncomputable def fmo_run_42 (t : Nat) (a1 : Int32) (a2 : Int32) (W : jW) : Option (Int32 × jW) :=
  some ((kI (-1)), W)
noncomputable def fmo_run_22 (t : Nat) (a1 : Int32) (a2 : Int32) (W : jW) : Option (Int32 × jW) :=
  if a1 < (0 : Int32) then
    (fmo_run_42 t a1 a2 W)
  else
    (if (kI 2) < a1 then
    (fmo_run_42 t a1 a2 W)
  else
    (if a2 < (0 : Int32) then
    (fmo_run_42 t a1 a2 W)
  else
    (if (kI 4096) < a2 then
    (fmo_run_42 t a1 a2 W)
  else
    (gd (jC W t = 13) <| (fmo_runOf t a1 W).bind fun q4 => gd (jC W q4 = 16) <| (frn_go q4 a2 W).bind fun q6 => some (q6.1, q6.2)))))
noncomputable def fmo_run (t : Nat) (a1 : Int32) (a2 : Int32) (W : jW) : Option (Int32 × jW) :=
  gd (jC W t = 13) <|
  if (jI W 1307 t) = (0 : Int32) then
    (fmo_run_19 t a1 a2 W)
  else
    (if a1 = (kI 2) then
    (if (jI W 1352 t) = (0 : Int32) then
    (fmo_run_19 t a1 a2 W)
  else
    (fmo_run_22 t a1 a2 W))
  else
    (fmo_run_22 t a1 a2 W))
noncomputable def fmo_known_17 (t : Nat) (a1 : Int32) (W : jW) : Option (Nat) :=
  some 0
noncomputable def fmo_known (t : Nat) (a1 : Int32) (W : jW) : Option (Nat) :=
  gd (jC W t = 13) <|
  (fmo_runOf t a1 W).bind fun q2 =>
  if q2 = 0 then
    (fmo_known_17 t a1 W)
  else
    (gd (jC W q2 = 16) <| if (jI W 1602 q2) = (0 : Int32) then
    (fmo_known_17 t a1 W)
  else
    (some q2))
noncomputable def fmo_told_113 (t : Nat) (a1 : Int32) (a2 : Int32) (s0 : Int32) (s1 : Int32) (W : jW) : Option (Int32) :=
  some (s1 + s0)
noncomputable def fmo_told_100 (t : Nat) (a1 : Int32) (a2 : Int32) (l3 : Nat) (s0 : Int32) (s1 : Int32) (W : jW) : Option (Int32) :=
  gd (jC W l3 = 16) <|
  if (jI W 1609 l3) = (0 : Int32) then
    (fmo_told_113 t a1 a2 (kI 0) (s1 + s0) W)
  else
    (fmo_told_113 t a1 a2 (kI 1) (s1 + s0) W)
noncomputable def fmo_told_87 (t : Nat) (a1 : Int32) (a2 : Int32) (l3 : Nat) (s0 : Int32) (s1 : Int32) (W : jW) : Option (Int32) :=
  gd (jC W l3 = 16) <|
  if (jI W 1608 l3) = (0 : Int32) then
    (fmo_told_100 t a1 a2 l3 (kI 0) (s1 + s0) W)
  else
    (fmo_told_100 t a1 a2 l3 (kI 2) (s1 + s0) W)
noncomputable def fmo_told_75 (t : Nat) (a1 : Int32) (a2 : Int32) (l3 : Nat) (s0 : Int32) (W : jW) : Option (Int32) :=
  gd (jC W l3 = 16) <| if (jI W 1607 l3) = (0 : Int32) then
    (fmo_told_87 t a1 a2 l3 (kI 0) s0 W)
  else
    (fmo_told_87 t a1 a2 l3 (kI 4) s0 W)
noncomputable def fmo_told (t : Nat) (a1 : Int32) (a2 : Int32) (W : jW) : Option (Int32) :=
  gd (jC W t = 13) <|
  (fmo_known t a1 W).bind fun q2 =>
  if q2 = 0 then
    (some (kI (-14)))
  else
    (if a2 = (kI 0) then
    (gd (jC W q2 = 16) <| some (jI W 1614 q2))
  else if a2 = (kI 1) then
    (gd (jC W q2 = 16) <| some (jI W 1617 q2))
  else if a2 = (kI 2) then
    (gd (jC W q2 = 16) <| if (jI W 1606 q2) = (0 : Int32) then
      (fmo_told_75 t a1 a2 q2 (kI 0) W)
    else
      (fmo_told_75 t a1 a2 q2 (kI 8) W))
  else if a2 = (kI 3) then
    (gd (jC W q2 = 16) <| some (jI W 1619 q2))
  else if a2 = (kI 4) then
    (gd (jC W q2 = 16) <| some (jI W 1620 q2))
  else if a2 = (kI 5) then
    (gd (jC W q2 = 16) <| some (jI W 1618 q2))
  else (some (kI (-14))))
noncomputable def fmo_register_20 (t : Nat) (a1 : Int32) (a2 : Int32) (W : jW) : Option (Int64) :=
  some (kJ 0)
noncomputable def fmo_register (t : Nat) (a1 : Int32) (a2 : Int32) (W : jW) : Option (Int64) :=
  gd (jC W t = 13) <|
  (fmo_known t a1 W).bind fun q2 =>
  if q2 = 0 then
    (fmo_register_20 t a1 a2 W)
  else
    (if a2 < (0 : Int32) then
    (fmo_register_20 t a1 a2 W)
  else
    (if (kI 31) < a2 then
    (fmo_register_20 t a1 a2 W)
  else
    (gd (jC W q2 = 16) <| gd (jin a2 (jN W 1603 q2)) <| some (jB W 1603 q2 (ix a2)))))
noncomputable def fmo_kind_20 (t : Nat) (a1 : Int32) (W : jW) : Option (Int32) :=
  some (kI (-1))
noncomputable def fmo_kind (t : Nat) (a1 : Int32) (W : jW) : Option (Int32) :=
  gd (jC W t = 13) <|
  (fmo_known t (kI 1) W).bind fun q2 =>
  if q2 = 0 then
    (fmo_kind_20 t a1 W)
  else
    (if a1 < (0 : Int32) then
    (fmo_kind_20 t a1 W)
  else
    (if (kI 31) < a1 then
    (fmo_kind_20 t a1 W)
  else
    (gd (jC W q2 = 16) <| gd (jin a1 (jN W 1604 q2)) <| some (jA W 1604 q2 (ix a1)))))
noncomputable def fmo_newOf_55 (t : Nat) (a1 : Int32) (a2 : Int32) (l3 : Int32) (s0 : Int32) (s1 : Int64) (s2 : Int64) (W : jW) : Option (Int64) :=
  some (s2 + (s1 * ((s0 + l3).toInt64)))
noncomputable def fmo_newOf_15 (t : Nat) (a1 : Int32) (a2 : Int32) (s0 : Int32) (W : jW) : Option (Int64) :=
  if a1 = (kI 3) then
    (some (kJ 0))
  else
    (gd (jC W t = 13) <|
    if (jI W 1352 t) = (0 : Int32) then
      (gd (jin a2 (jN W 1322 t)) <| fmo_newOf_55 t a1 a2 s0 (jA W 1322 t (ix a2)) (kJ 4) (jL W 1313 t) W)
    else
      (gd (jC W (jR W 1350 t) = 15) <|
    gd (jin a2 (jN W 1503 (jR W 1350 t))) <|
    fmo_newOf_55 t a1 a2 s0 (jA W 1503 (jR W 1350 t) (ix a2)) (kJ 4) (jL W 1313 t) W))
noncomputable def fmo_newOf (t : Nat) (a1 : Int32) (a2 : Int32) (W : jW) : Option (Int64) :=
  if a1 = (kI 1) then
    (fmo_newOf_15 t a1 a2 (kI 0) W)
  else
    (gd (jC W t = 13) <| gd (jin a2 (jN W 1323 t)) <| fmo_newOf_15 t a1 a2 (jA W 1323 t (ix a2)) W)
noncomputable def fmo_newer_20 (t : Nat) (a1 : Int32) (W : jW) : Option (Int64) :=
  some (kJ 0)
noncomputable def fmo_newer (t : Nat) (a1 : Int32) (W : jW) : Option (Int64) :=
  gd (jC W t = 13) <|
  (fmo_known t (kI 1) W).bind fun q2 =>
  if q2 = 0 then
    (fmo_newer_20 t a1 W)
  else
    (if a1 < (0 : Int32) then
    (fmo_newer_20 t a1 W)
  else
    (if (kI 31) < a1 then
    (fmo_newer_20 t a1 W)
  else
    (gd (jC W q2 = 16) <|
    gd (jin a1 (jN W 1604 q2)) <|
    if (jA W 1604 q2 (ix a1)) = (0 : Int32) then
      (gd (jin a1 (jN W 1603 q2)) <| some (jB W 1603 q2 (ix a1)))
    else
      (gd (jin a1 (jN W 1604 q2)) <| gd (jin a1 (jN W 1605 q2)) <| (fmo_newOf t (jA W 1604 q2 (ix a1)) (jA W 1605 q2 (ix a1)) W).bind fun q7 => some q7))))
noncomputable def fmo_visit_22 (t : Nat) (a1 : Int32) (a2 : Int32) (W : jW) : Option (Int32) :=
  some (kI (-1))
noncomputable def fmo_visit (t : Nat) (a1 : Int32) (a2 : Int32) (W : jW) : Option (Int32) :=
  gd (jC W t = 13) <|
  (fmo_known t a1 W).bind fun q2 =>
  if q2 = 0 then
    (fmo_visit_22 t a1 a2 W)
  else
    (if a2 < (0 : Int32) then
    (fmo_visit_22 t a1 a2 W)
  else
    (gd (jC W q2 = 16) <| if a2 < (jI W 1614 q2) then
    (gd (jin a2 (jN W 1613 q2)) <| some (jA W 1613 q2 (ix a2)))
  else
    (fmo_visit_22 t a1 a2 W)))
noncomputable def fmo_memory_23 (t : Nat) (a1 : Int32) (a2 : Int64) (l4 : Nat) (s0 : Int32) (W : jW) : Option (Int32) :=
  if s0 < (0 : Int32) then
    (some (kI (-1)))
  else
    (gd (jC W l4 = 16) <| gd (jin s0 (jN W 1610 l4)) <| some ((jA W 1610 l4 (ix s0)) &&& (kI 255)))
noncomputable def fmo_memory (t : Nat) (a1 : Int32) (a2 : Int64) (W : jW) : Option (Int32) :=
  gd (jC W t = 13) <|
  (fmo_known t a1 W).bind fun q2 =>
  if q2 = 0 then
    (fmo_memory_23 t a1 a2 q2 (kI (-1)) W)
  else
    (gd (jC W q2 = 16) <| (frn_at q2 a2 (kI 1) W).bind fun q4 => fmo_memory_23 t a1 a2 q2 q4 W)
noncomputable def fmo_keeps_31 (t : Nat) (a1 : Int64) (l3 : Nat) (s0 : Int32) (W : jW) : Option (Int32) :=
  if s0 < (0 : Int32) then
    (some (kI (-1)))
  else
    (gd (jC W l3 = 16) <| gd (jin (s0 / (kI 8)) (jN W 1611 l3)) <| some (jA W 1611 l3 (ix (s0 / (kI 8)))))
noncomputable def fmo_keeps_20 (t : Nat) (a1 : Int64) (l3 : Nat) (W : jW) : Option (Int32) :=
  fmo_keeps_31 t a1 l3 (kI (-1)) W
noncomputable def fmo_keeps (t : Nat) (a1 : Int64) (W : jW) : Option (Int32) :=
  gd (jC W t = 13) <|
  (fmo_known t (kI 1) W).bind fun q2 =>
  if q2 = 0 then
    (fmo_keeps_20 t a1 q2 W)
  else
    (if (a1 &&& (kJ 7)) = (kJ 0) then
    (gd (jC W q2 = 16) <| (frn_at q2 a1 (kI 8) W).bind fun q4 => fmo_keeps_31 t a1 q2 q4 W)
  else
    (fmo_keeps_20 t a1 q2 W))
noncomputable def fmo_newest (t : Nat) (a1 : Int64) (W : jW) : Option (Int64) :=
  gd (jC W t = 13) <|
  (fmo_keeps t a1 W).bind fun q2 =>
  if q2 < (kI 1) then
    (some (kJ 0))
  else
    (gd (jC W (jR W 1362 t) = 16) <|
    (frn_at (jR W 1362 t) a1 (kI 8) W).bind fun q4 =>
    gd (jin (q4 / (kI 8)) (jN W 1612 (jR W 1362 t))) <|
    (fmo_newOf t q2 (jA W 1612 (jR W 1362 t) (ix (q4 / (kI 8)))) W).bind fun q6 =>
    some q6)
noncomputable def fmo_trace_41 (t : Nat) (a1 : Int32) (a2 : Int32) (a3 : Int32) (W : jW) : Option (Int64) :=
  some (kJ 0)
noncomputable def fmo_trace (t : Nat) (a1 : Int32) (a2 : Int32) (a3 : Int32) (W : jW) : Option (Int64) :=
  gd (jC W t = 13) <|
  (fmo_known t a1 W).bind fun q2 =>
  if q2 = 0 then
    (fmo_trace_41 t a1 a2 a3 W)
  else
    (if a2 < (0 : Int32) then
    (fmo_trace_41 t a1 a2 a3 W)
  else
    (gd (jC W q2 = 16) <|
  if a2 < (jI W 1619 q2) then
    (if a2 < (kI 200) then
    (if a3 < (0 : Int32) then
    (fmo_trace_41 t a1 a2 a3 W)
  else
    (if (kI 3) < a3 then
    (fmo_trace_41 t a1 a2 a3 W)
  else
    (gd (jin (((kI 4) * a2) + a3) (jN W 1621 q2)) <| some (jB W 1621 q2 (ix (((kI 4) * a2) + a3))))))
  else
    (fmo_trace_41 t a1 a2 a3 W))
  else
    (fmo_trace_41 t a1 a2 a3 W)))
noncomputable def fmo_text_29 (t : Nat) (a1 : Int32) (a2 : Int32) (W : jW) : Option (Int32) :=
  some (kI (-1))
noncomputable def fmo_text (t : Nat) (a1 : Int32) (a2 : Int32) (W : jW) : Option (Int32) :=
  gd (jC W t = 13) <|
  (fmo_known t a1 W).bind fun q2 =>
  if q2 = 0 then
    (fmo_text_29 t a1 a2 W)
  else
    (if a2 < (0 : Int32) then
    (fmo_text_29 t a1 a2 W)
  else
    (gd (jC W q2 = 16) <|
  if a2 < (jI W 1620 q2) then
    (if a2 < (kI 16384) then
    (gd (jin a2 (jN W 1622 q2)) <| some ((jA W 1622 q2 (ix a2)) &&& (kI 255)))
  else
    (fmo_text_29 t a1 a2 W))
  else
    (fmo_text_29 t a1 a2 W)))
abbrev flw_law_S : Type := (Nat × Nat × Int32 × jW)
noncomputable def flw_law_1215 (a0 : Nat) (sc : Nat → Int32) (sn : Nat) (l1 : Nat) (l2 : Nat) (l3 : Int32) (W : jW) : Option (flw_law_S ⊕ (Int32 × jW)) :=
  jlt (l3 + (kI 6)) fun v294 => some (.inl (l1, l2, v294, W))
noncomputable def flw_law_18 (a0 : Nat) (sc : Nat → Int32) (sn : Nat) (l1 : Nat) (l2 : Nat) (l3 : Int32) (W : jW) : Option (flw_law_S ⊕ (Int32 × jW)) :=
  if ((nI sn) - (kI 6)) < l3 then
    (some (.inr ((kI 1), W)))
  else
    (gd (jin l3 sn) <|
  jlt ((sc (ix l3)) &&& (kI 31)) fun v17 =>
  if v17 = (kI 0) then
    (gd (jin (l3 + (kI 1)) sn) <|
    gd (jin (l3 + (kI 2)) sn) <|
    gd (jin (l3 + (kI 3)) sn) <|
    gd (jin (l3 + (kI 4)) sn) <|
    gd (jin (l3 + (kI 5)) sn) <|
    gd (jC W l1 = 1) <|
    (fcl_feed l1 (sc (ix (l3 + (kI 1)))) (sc (ix (l3 + (kI 2)))) (sc (ix (l3 + (kI 3)))) (sc (ix (l3 + (kI 4)))) (sc (ix (l3 + (kI 5)))) W).bind fun q25 =>
    gd (jin (l3 + (kI 1)) sn) <|
    gd (jin (l3 + (kI 2)) sn) <|
    gd (jin (l3 + (kI 3)) sn) <|
    gd (jin (l3 + (kI 4)) sn) <|
    gd (jin (l3 + (kI 5)) sn) <|
    gd (jC q25.2 l2 = 13) <|
    (fmo_feed l2 (sc (ix (l3 + (kI 1)))) (sc (ix (l3 + (kI 2)))) (sc (ix (l3 + (kI 3)))) (sc (ix (l3 + (kI 4)))) (sc (ix (l3 + (kI 5)))) q25.2).bind fun q33 =>
    if q25.1 = q33.1 then
      (flw_law_1215 a0 sc sn l1 l2 l3 q33.2)
    else
      (some (.inr ((kI 0), q33.2))))
  else if v17 = (kI 1) then
    (gd (jin (l3 + (kI 1)) sn) <|
    gd (jC W l1 = 1) <|
    (fcl_end l1 (sc (ix (l3 + (kI 1)))) W).bind fun q38 =>
    gd (jin (l3 + (kI 1)) sn) <|
    gd (jC q38.2 l2 = 13) <|
    (fmo_end l2 (sc (ix (l3 + (kI 1)))) q38.2).bind fun q42 =>
    if q38.1 = q42.1 then
      (flw_law_1215 a0 sc sn l1 l2 l3 q42.2)
    else
      (some (.inr ((kI 0), q42.2))))
  else if v17 = (kI 2) then
    (gd (jC W l1 = 1) <|
    (fcl_read l1 W).bind fun q46 =>
    gd (jC q46.2 l2 = 13) <|
    (fmo_read l2 q46.2).bind fun q49 =>
    if q46.1 = q49.1 then
      (flw_law_1215 a0 sc sn l1 l2 l3 q49.2)
    else
      (some (.inr ((kI 0), q49.2))))
  else if v17 = (kI 3) then
    (gd (jC W l1 = 1) <|
    (fcl_place l1 W).bind fun q53 =>
    gd (jC W l2 = 13) <|
    (fmo_place l2 W).bind fun q55 =>
    if q53 = q55 then
      (flw_law_1215 a0 sc sn l1 l2 l3 W)
    else
      (some (.inr ((kI 0), W))))
  else if v17 = (kI 4) then
    (gd (jin (l3 + (kI 1)) sn) <|
    gd (jC W l1 = 1) <|
    (fcl_count l1 (sc (ix (l3 + (kI 1)))) W).bind fun q59 =>
    gd (jin (l3 + (kI 1)) sn) <|
    gd (jC W l2 = 13) <|
    (fmo_count l2 (sc (ix (l3 + (kI 1)))) W).bind fun q62 =>
    if q59 = q62 then
      (flw_law_1215 a0 sc sn l1 l2 l3 W)
    else
      (some (.inr ((kI 0), W))))
  else if v17 = (kI 5) then
    (gd (jin (l3 + (kI 1)) sn) <|
    gd (jin (l3 + (kI 2)) sn) <|
    gd (jC W l1 = 1) <|
    (fcl_function l1 (sc (ix (l3 + (kI 1)))) (sc (ix (l3 + (kI 2)))) W).bind fun q67 =>
    gd (jin (l3 + (kI 1)) sn) <|
    gd (jin (l3 + (kI 2)) sn) <|
    gd (jC q67.2 l2 = 13) <|
    (fmo_function l2 (sc (ix (l3 + (kI 1)))) (sc (ix (l3 + (kI 2)))) q67.2).bind fun q72 =>
    if q67.1 = q72 then
      (flw_law_1215 a0 sc sn l1 l2 l3 q67.2)
    else
      (some (.inr ((kI 0), q67.2))))
  else if v17 = (kI 6) then
    (gd (jin (l3 + (kI 1)) sn) <|
    gd (jin (l3 + (kI 2)) sn) <|
    gd (jC W l1 = 1) <|
    (fcl_block l1 (sc (ix (l3 + (kI 1)))) (sc (ix (l3 + (kI 2)))) W).bind fun q77 =>
    gd (jin (l3 + (kI 1)) sn) <|
    gd (jin (l3 + (kI 2)) sn) <|
    gd (jC q77.2 l2 = 13) <|
    (fmo_block l2 (sc (ix (l3 + (kI 1)))) (sc (ix (l3 + (kI 2)))) q77.2).bind fun q82 =>
    if q77.1 = q82 then
      (flw_law_1215 a0 sc sn l1 l2 l3 q77.2)
    else
      (some (.inr ((kI 0), q77.2))))
  else if v17 = (kI 7) then
    (gd (jin (l3 + (kI 1)) sn) <|
    gd (jin (l3 + (kI 2)) sn) <|
    gd (jin (l3 + (kI 3)) sn) <|
    gd (jin (l3 + (kI 4)) sn) <|
    gd (jin (l3 + (kI 5)) sn) <|
    gd (jC W l1 = 1) <|
    (fcl_edge l1 ((lxl ((sc (ix (l3 + (kI 1)))).toInt64) (kI 32)) ||| (((sc (ix (l3 + (kI 2)))).toInt64) &&& (kJ 4294967295))) ((lxl ((sc (ix (l3 + (kI 3)))).toInt64) (kI 32)) ||| (((sc (ix (l3 + (kI 4)))).toInt64) &&& (kJ 4294967295))) (sc (ix (l3 + (kI 5)))) W).bind fun q90 =>
    gd (jin (l3 + (kI 1)) sn) <|
    gd (jin (l3 + (kI 2)) sn) <|
    gd (jin (l3 + (kI 3)) sn) <|
    gd (jin (l3 + (kI 4)) sn) <|
    gd (jin (l3 + (kI 5)) sn) <|
    gd (jC q90.2 l2 = 13) <|
    (fmo_edge l2 ((lxl ((sc (ix (l3 + (kI 1)))).toInt64) (kI 32)) ||| (((sc (ix (l3 + (kI 2)))).toInt64) &&& (kJ 4294967295))) ((lxl ((sc (ix (l3 + (kI 3)))).toInt64) (kI 32)) ||| (((sc (ix (l3 + (kI 4)))).toInt64) &&& (kJ 4294967295))) (sc (ix (l3 + (kI 5)))) q90.2).bind fun q98 =>
    if q90.1 = q98.1 then
      (flw_law_1215 a0 sc sn l1 l2 l3 q98.2)
    else
      (some (.inr ((kI 0), q98.2))))
  else if v17 = (kI 8) then
    (gd (jin (l3 + (kI 1)) sn) <|
    gd (jin (l3 + (kI 2)) sn) <|
    gd (jC W l1 = 1) <|
    (fcl_way l1 (sc (ix (l3 + (kI 1)))) (sc (ix (l3 + (kI 2)))) W).bind fun q104 =>
    gd (jin (l3 + (kI 1)) sn) <|
    gd (jin (l3 + (kI 2)) sn) <|
    gd (jC W l2 = 13) <|
    (fmo_way l2 (sc (ix (l3 + (kI 1)))) (sc (ix (l3 + (kI 2)))) W).bind fun q108 =>
    if q104 = q108 then
      (flw_law_1215 a0 sc sn l1 l2 l3 W)
    else
      (some (.inr ((kI 0), W))))
  else if v17 = (kI 9) then
    (gd (jin (l3 + (kI 1)) sn) <|
    gd (jin (l3 + (kI 2)) sn) <|
    gd (jC W l1 = 1) <|
    (fcl_calls l1 (sc (ix (l3 + (kI 1)))) (sc (ix (l3 + (kI 2)))) W).bind fun q113 =>
    gd (jin (l3 + (kI 1)) sn) <|
    gd (jin (l3 + (kI 2)) sn) <|
    gd (jC W l2 = 13) <|
    (fmo_calls l2 (sc (ix (l3 + (kI 1)))) (sc (ix (l3 + (kI 2)))) W).bind fun q117 =>
    if q113 = q117 then
      (flw_law_1215 a0 sc sn l1 l2 l3 W)
    else
      (some (.inr ((kI 0), W))))
  else if v17 = (kI 10) then
    (gd (jin (l3 + (kI 1)) sn) <|
    gd (jin (l3 + (kI 2)) sn) <|
    gd (jC W l1 = 1) <|
    (fcl_lay l1 (sc (ix (l3 + (kI 1)))) (sc (ix (l3 + (kI 2)))) W).bind fun q122 =>
    gd (jin (l3 + (kI 1)) sn) <|
    gd (jin (l3 + (kI 2)) sn) <|
    gd (jC q122.2 l2 = 13) <|
    (fmo_lay l2 (sc (ix (l3 + (kI 1)))) (sc (ix (l3 + (kI 2)))) q122.2).bind fun q127 =>
    if q122.1 = q127.1 then
      (flw_law_1215 a0 sc sn l1 l2 l3 q127.2)
    else
      (some (.inr ((kI 0), q127.2))))
  else if v17 = (kI 11) then
    (gd (jin (l3 + (kI 1)) sn) <|
    gd (jC W l1 = 1) <|
    (fcl_order l1 (sc (ix (l3 + (kI 1)))) W).bind fun q132 =>
    gd (jin (l3 + (kI 1)) sn) <|
    gd (jC W l2 = 13) <|
    (fmo_order l2 (sc (ix (l3 + (kI 1)))) W).bind fun q135 =>
    if q132 = q135 then
      (flw_law_1215 a0 sc sn l1 l2 l3 W)
    else
      (some (.inr ((kI 0), W))))
  else if v17 = (kI 12) then
    (gd (jin (l3 + (kI 1)) sn) <|
    gd (jC W l1 = 1) <|
    (fcl_laid l1 (sc (ix (l3 + (kI 1)))) W).bind fun q139 =>
    gd (jin (l3 + (kI 1)) sn) <|
    gd (jC W l2 = 13) <|
    (fmo_laid l2 (sc (ix (l3 + (kI 1)))) W).bind fun q142 =>
    if q139 = q142 then
      (flw_law_1215 a0 sc sn l1 l2 l3 W)
    else
      (some (.inr ((kI 0), W))))
  else if v17 = (kI 13) then
    (gd (jin (l3 + (kI 1)) sn) <|
    gd (jin (l3 + (kI 2)) sn) <|
    gd (jC W l1 = 1) <|
    (fcl_weight l1 (sc (ix (l3 + (kI 1)))) (sc (ix (l3 + (kI 2)))) W).bind fun q147 =>
    gd (jin (l3 + (kI 1)) sn) <|
    gd (jin (l3 + (kI 2)) sn) <|
    gd (jC W l2 = 13) <|
    (fmo_weight l2 (sc (ix (l3 + (kI 1)))) (sc (ix (l3 + (kI 2)))) W).bind fun q151 =>
    if q147 = q151 then
      (flw_law_1215 a0 sc sn l1 l2 l3 W)
    else
      (some (.inr ((kI 0), W))))
  else if v17 = (kI 14) then
    (gd (jin (l3 + (kI 1)) sn) <|
    gd (jin (l3 + (kI 2)) sn) <|
    gd (jC W l1 = 1) <|
    (fcl_moved l1 ((lxl ((sc (ix (l3 + (kI 1)))).toInt64) (kI 32)) ||| (((sc (ix (l3 + (kI 2)))).toInt64) &&& (kJ 4294967295))) W).bind fun q156 =>
    gd (jin (l3 + (kI 1)) sn) <|
    gd (jin (l3 + (kI 2)) sn) <|
    gd (jC W l2 = 13) <|
    (fmo_moved l2 ((lxl ((sc (ix (l3 + (kI 1)))).toInt64) (kI 32)) ||| (((sc (ix (l3 + (kI 2)))).toInt64) &&& (kJ 4294967295))) W).bind fun q160 =>
    if q156 = q160 then
      (flw_law_1215 a0 sc sn l1 l2 l3 W)
    else
      (some (.inr ((kI 0), W))))
  else if v17 = (kI 15) then
    (gd (jC W l1 = 1) <|
    (fcl_size l1 W).bind fun q163 =>
    gd (jC W l2 = 13) <|
    (fmo_size l2 W).bind fun q165 =>
    if q163 = q165 then
      (flw_law_1215 a0 sc sn l1 l2 l3 W)
    else
      (some (.inr ((kI 0), W))))
  else if v17 = (kI 16) then
    (gd (jin (l3 + (kI 1)) sn) <|
    gd (jC W l1 = 1) <|
    (fcl_out l1 (sc (ix (l3 + (kI 1)))) W).bind fun q169 =>
    gd (jin (l3 + (kI 1)) sn) <|
    gd (jC W l2 = 13) <|
    (fmo_out l2 (sc (ix (l3 + (kI 1)))) W).bind fun q172 =>
    if q169 = q172 then
      (flw_law_1215 a0 sc sn l1 l2 l3 W)
    else
      (some (.inr ((kI 0), W))))
  else if v17 = (kI 17) then
    (gd (jC W l1 = 1) <|
    (fcl_check l1 W).bind fun q175 =>
    gd (jC q175.2 l2 = 13) <|
    (fmo_check l2 q175.2).bind fun q178 =>
    if q175.1 = q178.1 then
      (flw_law_1215 a0 sc sn l1 l2 l3 q178.2)
    else
      (some (.inr ((kI 0), q178.2))))
  else if v17 = (kI 18) then
    (gd (jC W l1 = 1) <|
    (fcl_same l1 W).bind fun q182 =>
    gd (jC q182.2 l2 = 13) <|
    (fmo_same l2 q182.2).bind fun q185 =>
    if q182.1 = q185.1 then
      (flw_law_1215 a0 sc sn l1 l2 l3 q185.2)
    else
      (some (.inr ((kI 0), q185.2))))
  else if v17 = (kI 19) then
    (gd (jin (l3 + (kI 1)) sn) <|
    gd (jin (l3 + (kI 2)) sn) <|
    gd (jC W l1 = 1) <|
    (fcl_run l1 (sc (ix (l3 + (kI 1)))) (sc (ix (l3 + (kI 2)))) W).bind fun q191 =>
    gd (jin (l3 + (kI 1)) sn) <|
    gd (jin (l3 + (kI 2)) sn) <|
    gd (jC q191.2 l2 = 13) <|
    (fmo_run l2 (sc (ix (l3 + (kI 1)))) (sc (ix (l3 + (kI 2)))) q191.2).bind fun q196 =>
    if q191.1 = q196.1 then
      (flw_law_1215 a0 sc sn l1 l2 l3 q196.2)
    else
      (some (.inr ((kI 0), q196.2))))
  else if v17 = (kI 20) then
    (gd (jin (l3 + (kI 1)) sn) <|
    gd (jin (l3 + (kI 2)) sn) <|
    gd (jC W l1 = 1) <|
    (fcl_told l1 (sc (ix (l3 + (kI 1)))) (sc (ix (l3 + (kI 2)))) W).bind fun q202 =>
    gd (jin (l3 + (kI 1)) sn) <|
    gd (jin (l3 + (kI 2)) sn) <|
    gd (jC W l2 = 13) <|
    (fmo_told l2 (sc (ix (l3 + (kI 1)))) (sc (ix (l3 + (kI 2)))) W).bind fun q206 =>
    if q202 = q206 then
      (flw_law_1215 a0 sc sn l1 l2 l3 W)
    else
      (some (.inr ((kI 0), W))))
  else if v17 = (kI 21) then
    (gd (jin (l3 + (kI 1)) sn) <|
    gd (jin (l3 + (kI 2)) sn) <|
    gd (jC W l1 = 1) <|
    (fcl_register l1 (sc (ix (l3 + (kI 1)))) (sc (ix (l3 + (kI 2)))) W).bind fun q211 =>
    gd (jin (l3 + (kI 1)) sn) <|
    gd (jin (l3 + (kI 2)) sn) <|
    gd (jC W l2 = 13) <|
    (fmo_register l2 (sc (ix (l3 + (kI 1)))) (sc (ix (l3 + (kI 2)))) W).bind fun q215 =>
    if q211 = q215 then
      (flw_law_1215 a0 sc sn l1 l2 l3 W)
    else
      (some (.inr ((kI 0), W))))
  else if v17 = (kI 22) then
    (gd (jin (l3 + (kI 1)) sn) <|
    gd (jC W l1 = 1) <|
    (fcl_kind l1 (sc (ix (l3 + (kI 1)))) W).bind fun q219 =>
    gd (jin (l3 + (kI 1)) sn) <|
    gd (jC W l2 = 13) <|
    (fmo_kind l2 (sc (ix (l3 + (kI 1)))) W).bind fun q222 =>
    if q219 = q222 then
      (flw_law_1215 a0 sc sn l1 l2 l3 W)
    else
      (some (.inr ((kI 0), W))))
  else if v17 = (kI 23) then
    (gd (jin (l3 + (kI 1)) sn) <|
    gd (jC W l1 = 1) <|
    (fcl_newer l1 (sc (ix (l3 + (kI 1)))) W).bind fun q226 =>
    gd (jin (l3 + (kI 1)) sn) <|
    gd (jC W l2 = 13) <|
    (fmo_newer l2 (sc (ix (l3 + (kI 1)))) W).bind fun q229 =>
    if q226 = q229 then
      (flw_law_1215 a0 sc sn l1 l2 l3 W)
    else
      (some (.inr ((kI 0), W))))
  else if v17 = (kI 24) then
    (gd (jin (l3 + (kI 1)) sn) <|
    gd (jin (l3 + (kI 2)) sn) <|
    gd (jC W l1 = 1) <|
    (fcl_visit l1 (sc (ix (l3 + (kI 1)))) (sc (ix (l3 + (kI 2)))) W).bind fun q234 =>
    gd (jin (l3 + (kI 1)) sn) <|
    gd (jin (l3 + (kI 2)) sn) <|
    gd (jC W l2 = 13) <|
    (fmo_visit l2 (sc (ix (l3 + (kI 1)))) (sc (ix (l3 + (kI 2)))) W).bind fun q238 =>
    if q234 = q238 then
      (flw_law_1215 a0 sc sn l1 l2 l3 W)
    else
      (some (.inr ((kI 0), W))))
  else if v17 = (kI 25) then
    (gd (jin (l3 + (kI 1)) sn) <|
    gd (jin (l3 + (kI 2)) sn) <|
    gd (jin (l3 + (kI 3)) sn) <|
    gd (jC W l1 = 1) <|
    (fcl_memory l1 (sc (ix (l3 + (kI 1)))) ((lxl ((sc (ix (l3 + (kI 2)))).toInt64) (kI 32)) ||| (((sc (ix (l3 + (kI 3)))).toInt64) &&& (kJ 4294967295))) W).bind fun q244 =>
    gd (jin (l3 + (kI 1)) sn) <|
    gd (jin (l3 + (kI 2)) sn) <|
    gd (jin (l3 + (kI 3)) sn) <|
    gd (jC W l2 = 13) <|
    (fmo_memory l2 (sc (ix (l3 + (kI 1)))) ((lxl ((sc (ix (l3 + (kI 2)))).toInt64) (kI 32)) ||| (((sc (ix (l3 + (kI 3)))).toInt64) &&& (kJ 4294967295))) W).bind fun q249 =>
    if q244 = q249 then
      (flw_law_1215 a0 sc sn l1 l2 l3 W)
    else
      (some (.inr ((kI 0), W))))
  else if v17 = (kI 26) then
    (gd (jin (l3 + (kI 1)) sn) <|
    gd (jin (l3 + (kI 2)) sn) <|
    gd (jC W l1 = 1) <|
    (fcl_keeps l1 ((lxl ((sc (ix (l3 + (kI 1)))).toInt64) (kI 32)) ||| (((sc (ix (l3 + (kI 2)))).toInt64) &&& (kJ 4294967295))) W).bind fun q254 =>
    gd (jin (l3 + (kI 1)) sn) <|
    gd (jin (l3 + (kI 2)) sn) <|
    gd (jC W l2 = 13) <|
    (fmo_keeps l2 ((lxl ((sc (ix (l3 + (kI 1)))).toInt64) (kI 32)) ||| (((sc (ix (l3 + (kI 2)))).toInt64) &&& (kJ 4294967295))) W).bind fun q258 =>
    if q254 = q258 then
      (flw_law_1215 a0 sc sn l1 l2 l3 W)
    else
      (some (.inr ((kI 0), W))))
  else if v17 = (kI 27) then
    (gd (jin (l3 + (kI 1)) sn) <|
    gd (jin (l3 + (kI 2)) sn) <|
    gd (jC W l1 = 1) <|
    (fcl_newest l1 ((lxl ((sc (ix (l3 + (kI 1)))).toInt64) (kI 32)) ||| (((sc (ix (l3 + (kI 2)))).toInt64) &&& (kJ 4294967295))) W).bind fun q263 =>
    gd (jin (l3 + (kI 1)) sn) <|
    gd (jin (l3 + (kI 2)) sn) <|
    gd (jC W l2 = 13) <|
    (fmo_newest l2 ((lxl ((sc (ix (l3 + (kI 1)))).toInt64) (kI 32)) ||| (((sc (ix (l3 + (kI 2)))).toInt64) &&& (kJ 4294967295))) W).bind fun q267 =>
    if q263 = q267 then
      (flw_law_1215 a0 sc sn l1 l2 l3 W)
    else
      (some (.inr ((kI 0), W))))
  else if v17 = (kI 28) then
    (gd (jin (l3 + (kI 1)) sn) <|
    gd (jin (l3 + (kI 2)) sn) <|
    gd (jin (l3 + (kI 3)) sn) <|
    gd (jC W l1 = 1) <|
    (fcl_trace l1 (sc (ix (l3 + (kI 1)))) (sc (ix (l3 + (kI 2)))) (sc (ix (l3 + (kI 3)))) W).bind fun q273 =>
    gd (jin (l3 + (kI 1)) sn) <|
    gd (jin (l3 + (kI 2)) sn) <|
    gd (jin (l3 + (kI 3)) sn) <|
    gd (jC W l2 = 13) <|
    (fmo_trace l2 (sc (ix (l3 + (kI 1)))) (sc (ix (l3 + (kI 2)))) (sc (ix (l3 + (kI 3)))) W).bind fun q278 =>
    if q273 = q278 then
      (flw_law_1215 a0 sc sn l1 l2 l3 W)
    else
      (some (.inr ((kI 0), W))))
  else if v17 = (kI 29) then
    (gd (jin (l3 + (kI 1)) sn) <|
    gd (jin (l3 + (kI 2)) sn) <|
    gd (jC W l1 = 1) <|
    (fcl_text l1 (sc (ix (l3 + (kI 1)))) (sc (ix (l3 + (kI 2)))) W).bind fun q283 =>
    gd (jin (l3 + (kI 1)) sn) <|
    gd (jin (l3 + (kI 2)) sn) <|
    gd (jC W l2 = 13) <|
    (fmo_text l2 (sc (ix (l3 + (kI 1)))) (sc (ix (l3 + (kI 2)))) W).bind fun q287 =>
    if q283 = q287 then
      (flw_law_1215 a0 sc sn l1 l2 l3 W)
    else
      (some (.inr ((kI 0), W))))
  else if v17 = (kI 30) then
    (gd (jC W l1 = 1) <|
    (fcl_strays l1 W).bind fun q290 =>
    gd (jC W l2 = 13) <|
    (fmo_strays l2 W).bind fun q292 =>
    if q290 = q292 then
      (flw_law_1215 a0 sc sn l1 l2 l3 W)
    else
      (some (.inr ((kI 0), W))))
  else (flw_law_1215 a0 sc sn l1 l2 l3 W))
noncomputable def flw_law_st (a0 : Nat) (sc : Nat → Int32) (sn : Nat) : flw_law_S → Option (flw_law_S ⊕ (Int32 × jW)) :=
  (fun s => flw_law_18 a0 sc sn s.1 s.2.1 s.2.2.1 s.2.2.2)
noncomputable def flw_law_0 (a0 : Nat) (sc : Nat → Int32) (sn : Nat) (W : jW) : Option (flw_law_S ⊕ (Int32 × jW)) :=
  gd (jrm W 24) <|
  jlt (sC (sX W 24) (jX W) 1) fun W2 =>
  gd (jC W2 (jX W) = 1) <|
  (fcl_init (jX W) W2).bind fun q5 =>
  jlt (jX W) fun v7 =>
  gd (jrm q5 64) <|
  jlt (sC (sX q5 64) (jX q5) 13) fun W9 =>
  gd (jC W9 (jX q5) = 13) <|
  (fmo_init (jX q5) W9).bind fun q12 =>
  jlt (jX q5) fun v14 =>
  some (.inl (v7, v14, (kI 0), q12))
noncomputable def flw_law (a0 : Nat) (sc : Nat → Int32) (sn : Nat) (W : jW) : Option (Int32 × jW) :=
  jrn (flw_law_st a0 sc sn) (flw_law_0 a0 sc sn W)
