/-! ===== walks: fpc_checkIndex fob_checkIndex fjl_divideUnsigned fac_init fab_init fal_init fal_size fjm_max_2 fal_grow_2 fal_grow fal_add_2 fal_add fal_elementData fal_get fjm_max fjm_min fjm_min_2 ftr_init fsh_init fsr_init fhe_init fro_init fpg_init fco_init fcl_init fcl_word fcl_feed fcl_end fhe_size fwr_size ftr_must fhe_at fsh_last fsh_textOffset fwr_wordAt fwr_at fsr_half fsr_word fsr_pair ===== -/
set_option maxRecDepth 100000
def hpc_checkIndex (x : jCx) (en : (Int32) → Option (Outcome × jW)) (a0 : Int32) (a1 : Int32) (a2 : Nat) (W : jW) : Prop :=
  jOK x RJ11 cJ11_checkIndex 3 ∧
  jMt x "checkIndex" (Option.some Jvm.ClassFile.FieldType.int) [] ∧
  jRm x 0 0 ∧
  (∀ q : Int32, en q = some (.returned (some (.int q)), W))
theorem wpc_checkIndex_9 {x : jCx} {en : (Int32) → Option (Outcome × jW)} {W : jW} {a0 : Int32} {a1 : Int32} {a2 : Nat} (h : hpc_checkIndex x en a0 a1 a2 W) : jJ x 3 9 [(0, vI a0), (1, vI a1), (2, vR a2)] [] W (fpc_checkIndex_9 a0 a1 a2 W) en := by
  have h0 := h
  obtain ⟨hx, hm, hr, he⟩ := h0
  unfold fpc_checkIndex_9
  refine j_runA hx 3 (tb := [(9, .aload_n 2), (10, .iload_n 0), (11, .iload_n 1)]) (jtb_ok (by decide +kernel)) (pc' := 12) (lv' := [(0, vI a0), (1, vI a1), (2, vR a2)]) (st' := [vI a1, vI a0, vR a2]) rfl ?_
  exact j_none
theorem wpc_checkIndex {x : jCx} {en : (Int32) → Option (Outcome × jW)} {W : jW} {a0 : Int32} {a1 : Int32} {a2 : Nat} (h : hpc_checkIndex x en a0 a1 a2 W) : jJ x 3 0 [(0, vI a0), (1, vI a1), (2, vR a2)] [] W (fpc_checkIndex a0 a1 a2 W) en := by
  have h0 := h
  obtain ⟨hx, hm, hr, he⟩ := h0
  unfold fpc_checkIndex
  refine j_runA hx 1 (tb := [(0, .iload_n 0)]) (jtb_ok (by decide +kernel)) (pc' := 1) (lv' := [(0, vI a0), (1, vI a1), (2, vR a2)]) (st' := [vI a0]) rfl ?_
  refine j_if_lt hx (off := 8) (tgt := 9) (by decide +kernel) (by decide) (fun _ => ?_) (fun _ => ?_)
  · exact wpc_checkIndex_9 h
  refine j_runA hx 2 (tb := [(4, .iload_n 0), (5, .iload_n 1)]) (jtb_ok (by decide +kernel)) (pc' := 6) (lv' := [(0, vI a0), (1, vI a1), (2, vR a2)]) (st' := [vI a1, vI a0]) rfl ?_
  refine j_icmp_lt hx (off := 10) (tgt := 16) (by decide +kernel) (by decide) (fun _ => ?_) (fun _ => ?_)
  · refine j_runA hx 1 (tb := [(16, .iload_n 0)]) (jtb_ok (by decide +kernel)) (pc' := 17) (lv' := [(0, vI a0), (1, vI a1), (2, vR a2)]) (st' := [vI a0]) rfl ?_
    exact j_iret hx hm (by decide +kernel) rfl (he _)
  exact wpc_checkIndex_9 h
theorem cpc_checkIndex (a0 : Int32) (a1 : Int32) (a2 : Nat) (W : jW) : jM yJ11_checkIndex cJ11_checkIndex 3 (Option.some Jvm.ClassFile.FieldType.int) [] 0 0 [vI a0, vI a1, vR a2] W ((fpc_checkIndex a0 a1 a2 W).bind (fun q => some (.returned (some (.int q)), W))) := 
  jM.of (Nat.le_of_ble_eq_true rfl) (fun x hx hm hr => wpc_checkIndex ⟨hx, hm, hr, fun _ => rfl⟩)
def hob_checkIndex (x : jCx) (en : (Int32) → Option (Outcome × jW)) (a0 : Int32) (a1 : Int32) (W : jW) : Prop :=
  jOK x RJ10 cJ10_checkIndex 2 ∧
  jMt x "checkIndex" (Option.some Jvm.ClassFile.FieldType.int) [] ∧
  jRm x 1 14 ∧
  (∀ q : Int32, en q = some (.returned (some (.int q)), W))
theorem wob_checkIndex {x : jCx} {en : (Int32) → Option (Outcome × jW)} {W : jW} {a0 : Int32} {a1 : Int32} (h : hob_checkIndex x en a0 a1 W) : jJ x 2 0 [(0, vI a0), (1, vI a1)] [] W (fob_checkIndex a0 a1 W) en := by
  have h0 := h
  obtain ⟨hx, hm, hr, he⟩ := h0
  unfold fob_checkIndex
  refine j_runA hx 3 (tb := [(0, .iload_n 0), (1, .iload_n 1), (2, .aconst_null)]) (jtb_ok (by decide +kernel)) (pc' := 3) (lv' := [(0, vI a0), (1, vI a1)]) (st' := [vR 0, vI a1, vI a0]) rfl ?_
  refine j_OI (j_callS (av := [vI a0, vI a1, vR 0]) (st := []) hx hr (Or.inl q1546) q1547 q256 md_fpc_checkIndex np_fpc_checkIndex (cpc_checkIndex a0 a1 0 W) (by decide) (Nat.le_of_ble_eq_true rfl) (by decide +kernel)) (fun q1 _ => ?_)
  exact j_iret hx hm (by decide +kernel) rfl (he _)
theorem cob_checkIndex (a0 : Int32) (a1 : Int32) (W : jW) : jM yJ10_checkIndex cJ10_checkIndex 2 (Option.some Jvm.ClassFile.FieldType.int) [] 1 14 [vI a0, vI a1] W ((fob_checkIndex a0 a1 W).bind (fun q => some (.returned (some (.int q)), W))) := 
  jM.of (Nat.le_of_ble_eq_true rfl) (fun x hx hm hr => wob_checkIndex ⟨hx, hm, hr, fun _ => rfl⟩)
def hjl_divideUnsigned (x : jCx) (en : (Int64) → Option (Outcome × jW)) (a0 : Int64) (a2 : Int64) (W : jW) : Prop :=
  jOK x RJ12 cJ12_divideUnsigned 8 ∧
  jMt x "divideUnsigned" (Option.some Jvm.ClassFile.FieldType.long) [] ∧
  jRm x 0 0 ∧
  (∀ q : Int64, en q = some (.returned (some (.long q)), W))
theorem wjl_divideUnsigned {x : jCx} {en : (Int64) → Option (Outcome × jW)} {W : jW} {a0 : Int64} {a2 : Int64} (h : hjl_divideUnsigned x en a0 a2 W) : jJ x 8 0 [(0, vL a0), (2, vL a2)] [] W (fjl_divideUnsigned a0 a2 W) en := by
  have h0 := h
  obtain ⟨hx, hm, hr, he⟩ := h0
  unfold fjl_divideUnsigned
  refine j_runA hx 2 (tb := [(0, .lload_n 2), (1, .lconst 0)]) (jtb_ok (by decide +kernel)) (pc' := 2) (lv' := [(0, vL a0), (2, vL a2)]) (st' := [vL (kJ 0), vL a2]) rfl ?_
  refine j_lcmp_lt hx (off := 38) (tgt := 41) (by decide +kernel) (by decide +kernel) (by decide) (fun _ => ?_) (fun _ => ?_)
  · refine j_runA hx 4 (tb := [(41, .lload_n 0), (42, .lload_n 0), (43, .lload_n 2), (44, .lsub)]) (jtb_ok (by decide +kernel)) (pc' := 45) (lv' := [(0, vL a0), (2, vL a2)]) (st' := [vL (a0 - a2), vL a0]) rfl ?_
    refine j_ldc2 hx (v := (kJ (-1))) (jkd2 q3455 (by decide +kernel)) (by decide +kernel) ?_
    refine j_runA hx 4 (tb := [(48, .lxor), (49, .land), (50, .bipush 63), (52, .lushr)]) (jtb_ok (by decide +kernel)) (pc' := 53) (lv' := [(0, vL a0), (2, vL a2)]) (st' := [vL (lxu (a0 &&& ((a0 - a2) ^^^ (kJ (-1)))) (kI 63))]) rfl ?_
    exact j_lret hx hm (by decide +kernel) (he _)
  refine j_runA hx 4 (tb := [(6, .lload_n 0), (7, .iconst 1), (8, .lushr), (9, .lload_n 2)]) (jtb_ok (by decide +kernel)) (pc' := 10) (lv' := [(0, vL a0), (2, vL a2)]) (st' := [vL a2, vL (lxu a0 (kI 1))]) rfl ?_
  refine j_gd (fun h1 => ?_)
  refine j_ldiv hx (by decide +kernel) h1 ?_
  refine j_runA hx 3 (tb := [(11, .iconst 1), (12, .lshl), (13, .lstore 4)]) (jtb_ok (by decide +kernel)) (pc' := 15) (lv' := [(4, vL (lxl ((lxu a0 (kI 1)) / a2) (kI 1))), (0, vL a0), (2, vL a2)]) (st' := []) rfl ?_
  refine j_let (v := (lxl ((lxu a0 (kI 1)) / a2) (kI 1))) (lv := fun v2 => [(4, vL v2), (0, vL a0), (2, vL a2)]) (st := fun _ => []) (fun v2 => ?_)
  refine j_runA hx 6 (tb := [(15, .lload_n 0), (16, .lload 4), (18, .lload_n 2), (19, .lmul), (20, .lsub), (21, .lstore 6)]) (jtb_ok (by decide +kernel)) (pc' := 23) (lv' := [(6, vL (a0 - (v2 * a2))), (4, vL v2), (0, vL a0), (2, vL a2)]) (st' := []) rfl ?_
  refine j_let (v := (a0 - (v2 * a2))) (lv := fun v3 => [(6, vL v3), (4, vL v2), (0, vL a0), (2, vL a2)]) (st := fun _ => []) (fun v3 => ?_)
  refine j_runA hx 5 (tb := [(23, .lload 4), (25, .lload 6), (27, .lload 6), (29, .lload_n 2), (30, .lsub)]) (jtb_ok (by decide +kernel)) (pc' := 31) (lv' := [(6, vL v3), (4, vL v2), (0, vL a0), (2, vL a2)]) (st' := [vL (v3 - a2), vL v3, vL v2]) rfl ?_
  refine j_ldc2 hx (v := (kJ (-1))) (jkd2 q3455 (by decide +kernel)) (by decide +kernel) ?_
  refine j_runA hx 5 (tb := [(34, .lxor), (35, .lor), (36, .bipush 63), (38, .lushr), (39, .ladd)]) (jtb_ok (by decide +kernel)) (pc' := 40) (lv' := [(6, vL v3), (4, vL v2), (0, vL a0), (2, vL a2)]) (st' := [vL (v2 + (lxu (v3 ||| ((v3 - a2) ^^^ (kJ (-1)))) (kI 63)))]) rfl ?_
  exact j_lret hx hm (by decide +kernel) (he _)
theorem cjl_divideUnsigned (a0 : Int64) (a2 : Int64) (W : jW) : jM yJ12_divideUnsigned cJ12_divideUnsigned 8 (Option.some Jvm.ClassFile.FieldType.long) [] 0 0 [vL a0, vL a2] W ((fjl_divideUnsigned a0 a2 W).bind (fun q => some (.returned (some (.long q)), W))) := 
  jM.of (Nat.le_of_ble_eq_true rfl) (fun x hx hm hr => wjl_divideUnsigned ⟨hx, hm, hr, fun _ => rfl⟩)
def hac_init (x : jCx) (en : (jW) → Option (Outcome × jW)) (t : Nat) : Prop :=
  jOK x RJ4 cJ4_init 1 ∧
  jMt x "<init>" (Option.none : Option Jvm.ClassFile.FieldType) [] ∧
  jRm x 1 12 ∧
  (∀ q : jW, en q = some (.returned none, q))
theorem wac_init {x : jCx} {en : (jW) → Option (Outcome × jW)} {t : Nat} (h : hac_init x en t) (W : jW) : jJ x 1 0 [(0, vR t)] [] W (fac_init t W) en := by
  have h0 := h
  obtain ⟨hx, hm, hr, he⟩ := h0
  unfold fac_init
  refine j_runA hx 1 (tb := [(0, .aload_n 0)]) (jtb_ok (by decide +kernel)) (pc' := 1) (lv' := [(0, vR t)]) (st' := [vR t]) rfl ?_
  refine j_gd (fun h1 => ?_)
  refine j_obj hx hr q623 h1 q264 q265 (by decide +kernel) (by decide) (Nat.le_of_ble_eq_true rfl) ?_
  exact j_vret hx hm (by decide +kernel) (he _)
theorem cac_init (t : Nat) (W : jW) : jM yJ4_init cJ4_init 1 (Option.none : Option Jvm.ClassFile.FieldType) [] 1 12 [vR t] W ((fac_init t W).bind (fun q => some (.returned none, q))) := 
  jM.of (Nat.le_of_ble_eq_true rfl) (fun x hx hm hr => wac_init ⟨hx, hm, hr, fun _ => rfl⟩ W)
def hab_init (x : jCx) (en : (jW) → Option (Outcome × jW)) (t : Nat) : Prop :=
  jOK x RJ5 cJ5_init 1 ∧
  jMt x "<init>" (Option.none : Option Jvm.ClassFile.FieldType) [] ∧
  jRm x 2 24 ∧
  (∀ q : jW, en q = some (.returned none, q))
theorem wab_init {x : jCx} {en : (jW) → Option (Outcome × jW)} {t : Nat} (h : hab_init x en t) (W : jW) : jJ x 1 0 [(0, vR t)] [] W (fab_init t W) en := by
  have h0 := h
  obtain ⟨hx, hm, hr, he⟩ := h0
  unfold fab_init
  refine j_runA hx 1 (tb := [(0, .aload_n 0)]) (jtb_ok (by decide +kernel)) (pc' := 1) (lv' := [(0, vR t)]) (st' := [vR t]) rfl ?_
  refine j_gd (fun h1 => ?_)
  refine j_WV (j_callI (av := []) (st := []) hx hr (Or.inl q620) q621 rfl q622 md_fac_init np_fac_init (cac_init t W) (by decide) (Nat.le_of_ble_eq_true rfl) h1 (by decide) (by decide +kernel)) (fun q2 _ => ?_)
  refine j_runA hx 2 (tb := [(4, .aload_n 0), (5, .iconst 0)]) (jtb_ok (by decide +kernel)) (pc' := 6) (lv' := [(0, vR t)]) (st' := [vI (kI 0), vR t]) rfl ?_
  refine j_gd (fun h4 => ?_)
  refine j_putI hx fwJ5_7 wf1800 kd1800 h4 (by decide) (by decide +kernel) (ni1800 _) (fi1800 _) ?_
  refine j_ltw rfl (fun W5 hc6 => ?_)
  have h7 : jC W5 t = 18 := (congrFun hc6 _).trans h4
  exact j_vret hx hm (by decide +kernel) (he _)
theorem cab_init (t : Nat) (W : jW) : jM yJ5_init cJ5_init 1 (Option.none : Option Jvm.ClassFile.FieldType) [] 2 24 [vR t] W ((fab_init t W).bind (fun q => some (.returned none, q))) := 
  jM.of (Nat.le_of_ble_eq_true rfl) (fun x hx hm hr => wab_init ⟨hx, hm, hr, fun _ => rfl⟩ W)
def hal_init (x : jCx) (en : (jW) → Option (Outcome × jW)) (t : Nat) : Prop :=
  jOK x RJ6 cJ6_init 1 ∧
  jMt x "<init>" (Option.none : Option Jvm.ClassFile.FieldType) [] ∧
  jRm x 3 36 ∧
  (∀ q : jW, en q = some (.returned none, q))
theorem wal_init {x : jCx} {en : (jW) → Option (Outcome × jW)} {t : Nat} (h : hal_init x en t) (W : jW) : jJ x 1 0 [(0, vR t)] [] W (fal_init t W) en := by
  have h0 := h
  obtain ⟨hx, hm, hr, he⟩ := h0
  unfold fal_init
  refine j_runA hx 1 (tb := [(0, .aload_n 0)]) (jtb_ok (by decide +kernel)) (pc' := 1) (lv' := [(0, vR t)]) (st' := [vR t]) rfl ?_
  refine j_gd (fun h1 => ?_)
  refine j_WV (j_callI (av := []) (st := []) hx hr (Or.inl q617) q618 rfl q619 md_fab_init np_fab_init (cab_init t W) (by decide) (Nat.le_of_ble_eq_true rfl) h1 (by decide) (by decide +kernel)) (fun q2 _ => ?_)
  refine j_runA hx 1 (tb := [(4, .aload_n 0)]) (jtb_ok (by decide +kernel)) (pc' := 5) (lv' := [(0, vR t)]) (st' := [vR t]) rfl ?_
  refine j_gets hx hr q624 (by decide +kernel) ?_
  refine j_gd (fun h4 => ?_)
  refine j_putR hx fwJ6_9 wf1801 kd1801 h4 (by decide) (by decide +kernel) nr1801 fr1801 ?_
  refine j_ltw rfl (fun W5 hc6 => ?_)
  have h7 : jC W5 t = 18 := (congrFun hc6 _).trans h4
  exact j_vret hx hm (by decide +kernel) (he _)
theorem cal_init (t : Nat) (W : jW) : jM yJ6_init cJ6_init 1 (Option.none : Option Jvm.ClassFile.FieldType) [] 3 36 [vR t] W ((fal_init t W).bind (fun q => some (.returned none, q))) := 
  jM.of (Nat.le_of_ble_eq_true rfl) (fun x hx hm hr => wal_init ⟨hx, hm, hr, fun _ => rfl⟩ W)
def hal_size (x : jCx) (en : (Int32) → Option (Outcome × jW)) (t : Nat) (W : jW) : Prop :=
  jOK x RJ6 cJ6_size 1 ∧
  jMt x "size" (Option.some Jvm.ClassFile.FieldType.int) [] ∧
  jRm x 0 0 ∧
  (∀ q : Int32, en q = some (.returned (some (.int q)), W))
theorem wal_size {x : jCx} {en : (Int32) → Option (Outcome × jW)} {W : jW} {t : Nat} (h : hal_size x en t W) : jJ x 1 0 [(0, vR t)] [] W (fal_size t W) en := by
  have h0 := h
  obtain ⟨hx, hm, hr, he⟩ := h0
  unfold fal_size
  refine j_runA hx 1 (tb := [(0, .aload_n 0)]) (jtb_ok (by decide +kernel)) (pc' := 1) (lv' := [(0, vR t)]) (st' := [vR t]) rfl ?_
  refine j_gd (fun h1 => ?_)
  refine j_getI hx flJ6_48 kd1802 h1 (by decide) (by decide +kernel) ?_
  exact j_iret hx hm (by decide +kernel) rfl (he _)
theorem cal_size (t : Nat) (W : jW) : jM yJ6_size cJ6_size 1 (Option.some Jvm.ClassFile.FieldType.int) [] 0 0 [vR t] W ((fal_size t W).bind (fun q => some (.returned (some (.int q)), W))) := 
  jM.of (Nat.le_of_ble_eq_true rfl) (fun x hx hm hr => wal_size ⟨hx, hm, hr, fun _ => rfl⟩)
def hjm_max_2 (x : jCx) (en : (Int32) → Option (Outcome × jW)) (a0 : Int32) (a1 : Int32) (W : jW) : Prop :=
  jOK x RJ7 cJ7_max_2 2 ∧
  jMt x "max" (Option.some Jvm.ClassFile.FieldType.int) [] ∧
  jRm x 0 0 ∧
  (∀ q : Int32, en q = some (.returned (some (.int q)), W))
theorem wjm_max_2 {x : jCx} {en : (Int32) → Option (Outcome × jW)} {W : jW} {a0 : Int32} {a1 : Int32} (h : hjm_max_2 x en a0 a1 W) : jJ x 2 0 [(0, vI a0), (1, vI a1)] [] W (some (fjm_max_2 a0 a1)) en := by
  have h0 := h
  obtain ⟨hx, hm, hr, he⟩ := h0
  unfold fjm_max_2
  refine j_runA hx 2 (tb := [(0, .iload_n 0), (1, .iload_n 1)]) (jtb_ok (by decide +kernel)) (pc' := 2) (lv' := [(0, vI a0), (1, vI a1)]) (st' := [vI a1, vI a0]) rfl ?_
  refine j_tot (j_icmp_lt hx (off := 7) (tgt := 9) (by decide +kernel) (by decide) (fun _ => ?_) (fun _ => ?_))
  · refine j_runA hx 1 (tb := [(9, .iload_n 1)]) (jtb_ok (by decide +kernel)) (pc' := 10) (lv' := [(0, vI a0), (1, vI a1)]) (st' := [vI a1]) rfl ?_
    exact j_iret hx hm (by decide +kernel) rfl (he _)
  refine j_runA hx 1 (tb := [(5, .iload_n 0)]) (jtb_ok (by decide +kernel)) (pc' := 6) (lv' := [(0, vI a0), (1, vI a1)]) (st' := [vI a0]) rfl ?_
  refine j_goto hx (off := 4) (by decide +kernel) (tgt := 10) (by decide) ?_
  exact j_iret hx hm (by decide +kernel) rfl (he _)
theorem cjm_max_2 (a0 : Int32) (a1 : Int32) (W : jW) : jM yJ7_max_2 cJ7_max_2 2 (Option.some Jvm.ClassFile.FieldType.int) [] 0 0 [vI a0, vI a1] W (some (.returned (some (.int (fjm_max_2 a0 a1))), W)) := 
  jM.of (mm := some (fjm_max_2 a0 a1)) (en := fun q => some (.returned (some (.int q)), W)) (Nat.le_of_ble_eq_true rfl) (fun x hx hm hr => wjm_max_2 ⟨hx, hm, hr, fun _ => rfl⟩)
def hal_grow_2 (x : jCx) (en : (Nat × jW) → Option (Outcome × jW)) (t : Nat) (a1 : Int32) : Prop :=
  jOK x RJ6 cJ6_grow_2 4 ∧
  jMt x "grow" (Option.some (Jvm.ClassFile.FieldType.array (Jvm.ClassFile.FieldType.object "java/lang/Object"))) [] ∧
  jRm x 1 14 ∧
  (∀ q : Nat × jW, en q = some (.returned (some (jrv q.1)), q.2))
theorem wal_grow_2_20 {x : jCx} {en : (Nat × jW) → Option (Outcome × jW)} {t : Nat} {a1 : Int32} (h : hal_grow_2 x en t a1) (l2 : Int32) (W : jW) : jJ x 4 20 [(0, vR t), (1, vI a1), (2, vI l2)] [] W (fal_grow_2_20 t a1 l2 W) en := by
  have h0 := h
  obtain ⟨hx, hm, hr, he⟩ := h0
  unfold fal_grow_2_20
  refine j_runA hx 7 (tb := [(20, .iload_n 2), (21, .iload_n 1), (22, .iload_n 2), (23, .isub), (24, .iload_n 2), (25, .iconst 1), (26, .ishr)]) (jtb_ok (by decide +kernel)) (pc' := 27) (lv' := [(0, vR t), (1, vI a1), (2, vI l2)]) (st' := [vI (ixr l2 (kI 1)), vI (a1 - l2), vI l2]) rfl ?_
  exact j_none
theorem wal_grow_2 {x : jCx} {en : (Nat × jW) → Option (Outcome × jW)} {t : Nat} {a1 : Int32} (h : hal_grow_2 x en t a1) (W : jW) : jJ x 4 0 [(0, vR t), (1, vI a1)] [] W (fal_grow_2 t a1 W) en := by
  have h0 := h
  obtain ⟨hx, hm, hr, he⟩ := h0
  unfold fal_grow_2
  refine j_runA hx 1 (tb := [(0, .aload_n 0)]) (jtb_ok (by decide +kernel)) (pc' := 1) (lv' := [(0, vR t), (1, vI a1)]) (st' := [vR t]) rfl ?_
  refine j_gd (fun h1 => ?_)
  refine j_getR hx flJ6_9 kl1801 h1 (by decide) (by decide +kernel) ?_
  refine j_gd (fun h2 => ?_)
  refine j_alenO hx hr (by decide +kernel) h2 ?_
  refine j_runA hx 1 (tb := [(5, .istore_n 2)]) (jtb_ok (by decide +kernel)) (pc' := 6) (lv' := [(2, vI (if (jR W 1801 t) = jR W 1952 0 then kI 0 else nI (jN W 9008 (jR W 1801 t)))), (0, vR t), (1, vI a1)]) (st' := []) rfl ?_
  refine j_let (v := (if (jR W 1801 t) = jR W 1952 0 then kI 0 else nI (jN W 9008 (jR W 1801 t)))) (lv := fun v3 => [(2, vI v3), (0, vR t), (1, vI a1)]) (st := fun _ => []) (fun v3 => ?_)
  refine j_runA hx 1 (tb := [(6, .iload_n 2)]) (jtb_ok (by decide +kernel)) (pc' := 7) (lv' := [(2, vI v3), (0, vR t), (1, vI a1)]) (st' := [vI v3]) rfl ?_
  refine j_if_gt hx (off := 13) (tgt := 20) (by decide +kernel) (by decide) (fun _ => ?_) (fun _ => ?_)
  · refine j_lv (lv' := [(0, vR t), (1, vI a1), (2, vI v3)]) ⟨rfl, rfl, rfl, trivial⟩ ?_
    exact wal_grow_2_20 h v3 W
  refine j_runA hx 1 (tb := [(10, .aload_n 0)]) (jtb_ok (by decide +kernel)) (pc' := 11) (lv' := [(2, vI v3), (0, vR t), (1, vI a1)]) (st' := [vR t]) rfl ?_
  refine j_getR hx flJ6_9 kl1801 h1 (by decide) (by decide +kernel) ?_
  refine j_gets hx hr q624 (by decide +kernel) ?_
  refine j_acmp_eq hx (off := 28) (tgt := 45) (by decide +kernel) (by decide) (fun _ => ?_) (fun _ => ?_)
  · refine j_runA hx 3 (tb := [(45, .aload_n 0), (46, .bipush 10), (48, .iload_n 1)]) (jtb_ok (by decide +kernel)) (pc' := 49) (lv' := [(2, vI v3), (0, vR t), (1, vI a1)]) (st' := [vI a1, vI (kI 10), vR t]) rfl ?_
    refine j_TI (j_callS (av := [vI (kI 10), vI a1]) (st := [vR t]) hx hr (Or.inl q1397) q1356 q246 md_fjm_max_2 np_fjm_max_2 (cjm_max_2 (kI 10) a1 W) (by decide) (Nat.le_of_ble_eq_true rfl) (by decide +kernel)) ?_
    refine j_gd (fun h4 => ?_)
    refine j_newE (ci := 7) hx q1398 q1391 (by decide +kernel) h4 ?_
    refine j_ltw rfl (fun W5 hc6 => ?_)
    have h7 : jC W5 t = 18 := (congrFun hc6 _).trans h1
    refine j_runA hx 1 (tb := [(55, .dup_x1)]) (jtb_ok (by decide +kernel)) (pc' := 56) (lv' := [(2, vI v3), (0, vR t), (1, vI a1)]) (st' := [vR (jX W), vR t, vR (jX W)]) rfl ?_
    refine j_putR hx fwJ6_9 wf1801 kd1801 h7 (by decide) (by decide +kernel) nr1801 fr1801 ?_
    refine j_ltw rfl (fun W9 hc10 => ?_)
    have h11 : jC W9 t = 18 := (congrFun hc10 _).trans h7
    exact j_aret hx hm (Or.inr ⟨_, rfl⟩) (by decide +kernel) (he _)
  refine j_lv (lv' := [(0, vR t), (1, vI a1), (2, vI v3)]) ⟨rfl, rfl, rfl, trivial⟩ ?_
  exact wal_grow_2_20 h v3 W
theorem cal_grow_2 (t : Nat) (a1 : Int32) (W : jW) : jM yJ6_grow_2 cJ6_grow_2 4 (Option.some (Jvm.ClassFile.FieldType.array (Jvm.ClassFile.FieldType.object "java/lang/Object"))) [] 1 14 [vR t, vI a1] W ((fal_grow_2 t a1 W).bind (fun q => some (.returned (some (jrv q.1)), q.2))) := 
  jM.of (Nat.le_of_ble_eq_true rfl) (fun x hx hm hr => wal_grow_2 ⟨hx, hm, hr, fun _ => rfl⟩ W)
def hal_grow (x : jCx) (en : (Nat × jW) → Option (Outcome × jW)) (t : Nat) : Prop :=
  jOK x RJ6 cJ6_grow 1 ∧
  jMt x "grow" (Option.some (Jvm.ClassFile.FieldType.array (Jvm.ClassFile.FieldType.object "java/lang/Object"))) [] ∧
  jRm x 2 29 ∧
  (∀ q : Nat × jW, en q = some (.returned (some (jrv q.1)), q.2))
theorem wal_grow {x : jCx} {en : (Nat × jW) → Option (Outcome × jW)} {t : Nat} (h : hal_grow x en t) (W : jW) : jJ x 1 0 [(0, vR t)] [] W (fal_grow t W) en := by
  have h0 := h
  obtain ⟨hx, hm, hr, he⟩ := h0
  unfold fal_grow
  refine j_runA hx 2 (tb := [(0, .aload_n 0), (1, .aload_n 0)]) (jtb_ok (by decide +kernel)) (pc' := 2) (lv' := [(0, vR t)]) (st' := [vR t, vR t]) rfl ?_
  refine j_gd (fun h1 => ?_)
  refine j_getI hx flJ6_48 kd1802 h1 (by decide) (by decide +kernel) ?_
  refine j_runA hx 2 (tb := [(5, .iconst 1), (6, .iadd)]) (jtb_ok (by decide +kernel)) (pc' := 7) (lv' := [(0, vR t)]) (st' := [vI ((jI W 1802 t) + (kI 1)), vR t]) rfl ?_
  refine j_WR (j_callV (av := [vI ((jI W 1802 t) + (kI 1))]) (st := []) hx hr (Or.inl q1348) q1350 qs25 rfl md_fal_grow_2 np_fal_grow_2 (cal_grow_2 t ((jI W 1802 t) + (kI 1)) W) (by decide) (Nat.le_of_ble_eq_true rfl) h1 (by decide) (by decide +kernel)) (fun q2 _ => ?_)
  exact j_aret hx hm (Or.inr ⟨_, rfl⟩) (by decide +kernel) (he _)
theorem cal_grow (t : Nat) (W : jW) : jM yJ6_grow cJ6_grow 1 (Option.some (Jvm.ClassFile.FieldType.array (Jvm.ClassFile.FieldType.object "java/lang/Object"))) [] 2 29 [vR t] W ((fal_grow t W).bind (fun q => some (.returned (some (jrv q.1)), q.2))) := 
  jM.of (Nat.le_of_ble_eq_true rfl) (fun x hx hm hr => wal_grow ⟨hx, hm, hr, fun _ => rfl⟩ W)
def hal_add_2 (x : jCx) (en : (jW) → Option (Outcome × jW)) (t : Nat) (a1 : Nat) (a3 : Int32) : Prop :=
  jOK x RJ6 cJ6_add_2 4 ∧
  jMt x "add" (Option.none : Option Jvm.ClassFile.FieldType) [] ∧
  jRm x 3 41 ∧
  (∀ q : jW, en q = some (.returned none, q))
theorem wal_add_2_11 {x : jCx} {en : (jW) → Option (Outcome × jW)} {t : Nat} {a1 : Nat} {a3 : Int32} (h : hal_add_2 x en t a1 a3) (l2 : Nat) (W : jW) : jJ x 4 11 [(0, vR t), (1, vR a1), (2, vR l2), (3, vI a3)] [] W (fal_add_2_11 t a1 a3 l2 W) en := by
  have h0 := h
  obtain ⟨hx, hm, hr, he⟩ := h0
  unfold fal_add_2_11
  refine j_runA hx 3 (tb := [(11, .aload_n 2), (12, .iload_n 3), (13, .aload_n 1)]) (jtb_ok (by decide +kernel)) (pc' := 14) (lv' := [(0, vR t), (1, vR a1), (2, vR l2), (3, vI a3)]) (st' := [vR a1, vI a3, vR l2]) rfl ?_
  refine j_gd (fun h6 => ?_)
  refine j_gd (fun h7 => ?_)
  refine j_gd (fun h8 => ?_)
  refine j_aast8 hx (f := 9008) (o := l2) kd9008 h6 (by decide +kernel) h7 h8 ?_
  refine j_ltw rfl (fun W9 hc10 => ?_)
  refine j_runA hx 4 (tb := [(15, .aload_n 0), (16, .iload_n 3), (17, .iconst 1), (18, .iadd)]) (jtb_ok (by decide +kernel)) (pc' := 19) (lv' := [(0, vR t), (1, vR a1), (2, vR l2), (3, vI a3)]) (st' := [vI (a3 + (kI 1)), vR t]) rfl ?_
  refine j_gd (fun h12 => ?_)
  refine j_putI hx fwJ6_48 wf1802 kd1802 h12 (by decide) (by decide +kernel) (ni1802 _) (fi1802 _) ?_
  refine j_ltw rfl (fun W13 hc14 => ?_)
  have h15 : jC W13 t = 18 := (congrFun hc14 _).trans h12
  exact j_vret hx hm (by decide +kernel) (he _)
theorem wal_add_2 {x : jCx} {en : (jW) → Option (Outcome × jW)} {t : Nat} {a1 : Nat} {a3 : Int32} (h : hal_add_2 x en t a1 a3) (l2 : Nat) (W : jW) : jJ x 4 0 [(0, vR t), (1, vR a1), (2, vR l2), (3, vI a3)] [] W (fal_add_2 t a1 l2 a3 W) en := by
  have h0 := h
  obtain ⟨hx, hm, hr, he⟩ := h0
  unfold fal_add_2
  refine j_runA hx 2 (tb := [(0, .iload_n 3), (1, .aload_n 2)]) (jtb_ok (by decide +kernel)) (pc' := 2) (lv' := [(0, vR t), (1, vR a1), (2, vR l2), (3, vI a3)]) (st' := [vR l2, vI a3]) rfl ?_
  refine j_gd (fun h1 => ?_)
  refine j_alenO hx hr (by decide +kernel) h1 ?_
  refine j_icmp_ne hx (off := 8) (tgt := 11) (by decide +kernel) (by decide) (fun _ => ?_) (fun _ => ?_)
  · exact wal_add_2_11 h l2 W
  refine j_runA hx 1 (tb := [(6, .aload_n 0)]) (jtb_ok (by decide +kernel)) (pc' := 7) (lv' := [(0, vR t), (1, vR a1), (2, vR l2), (3, vI a3)]) (st' := [vR t]) rfl ?_
  refine j_gd (fun h2 => ?_)
  refine j_WR (j_callV (av := []) (st := []) hx hr (Or.inl q1344) q1346 qs24 rfl md_fal_grow np_fal_grow (cal_grow t W) (by decide) (Nat.le_of_ble_eq_true rfl) h2 (by decide) (by decide +kernel)) (fun q3 _ => ?_)
  refine j_runA hx 1 (tb := [(10, .astore_n 2)]) (jtb_ok (by decide +kernel)) (pc' := 11) (lv' := [(2, vR q3.1), (0, vR t), (1, vR a1), (3, vI a3)]) (st' := []) rfl ?_
  refine j_lv (lv' := [(0, vR t), (1, vR a1), (2, vR q3.1), (3, vI a3)]) ⟨rfl, rfl, rfl, rfl, trivial⟩ ?_
  exact wal_add_2_11 h q3.1 q3.2
theorem cal_add_2 (t : Nat) (a1 : Nat) (l2 : Nat) (a3 : Int32) (W : jW) : jM yJ6_add_2 cJ6_add_2 4 (Option.none : Option Jvm.ClassFile.FieldType) [] 3 41 [vR t, vR a1, vR l2, vI a3] W ((fal_add_2 t a1 l2 a3 W).bind (fun q => some (.returned none, q))) := 
  jM.of (Nat.le_of_ble_eq_true rfl) (fun x hx hm hr => wal_add_2 ⟨hx, hm, hr, fun _ => rfl⟩ l2 W)
def hal_add (x : jCx) (en : (Int32 × jW) → Option (Outcome × jW)) (t : Nat) (a1 : Nat) : Prop :=
  jOK x RJ6 cJ6_add 2 ∧
  jMt x "add" (Option.some Jvm.ClassFile.FieldType.boolean) [] ∧
  jRm x 4 56 ∧
  (∀ q : Int32 × jW, en q = some (.returned (some (.int q.1)), q.2))
theorem wal_add {x : jCx} {en : (Int32 × jW) → Option (Outcome × jW)} {t : Nat} {a1 : Nat} (h : hal_add x en t a1) (W : jW) : jJ x 2 0 [(0, vR t), (1, vR a1)] [] W (fal_add t a1 W) en := by
  have h0 := h
  obtain ⟨hx, hm, hr, he⟩ := h0
  unfold fal_add
  refine j_runA hx 2 (tb := [(0, .aload_n 0), (1, .dup)]) (jtb_ok (by decide +kernel)) (pc' := 2) (lv' := [(0, vR t), (1, vR a1)]) (st' := [vR t, vR t]) rfl ?_
  refine j_gd (fun h1 => ?_)
  refine j_getI hx flJ6_63 kd1800 h1 (by decide) (by decide +kernel) ?_
  refine j_runA hx 2 (tb := [(5, .iconst 1), (6, .iadd)]) (jtb_ok (by decide +kernel)) (pc' := 7) (lv' := [(0, vR t), (1, vR a1)]) (st' := [vI ((jI W 1800 t) + (kI 1)), vR t]) rfl ?_
  refine j_putI hx fwJ6_63 wf1800 kd1800 h1 (by decide) (by decide +kernel) (ni1800 _) (fi1800 _) ?_
  refine j_ltw rfl (fun W2 hc3 => ?_)
  have h4 : jC W2 t = 18 := (congrFun hc3 _).trans h1
  refine j_runA hx 3 (tb := [(10, .aload_n 0), (11, .aload_n 1), (12, .aload_n 0)]) (jtb_ok (by decide +kernel)) (pc' := 13) (lv' := [(0, vR t), (1, vR a1)]) (st' := [vR t, vR a1, vR t]) rfl ?_
  refine j_getR hx flJ6_9 kl1801 h4 (by decide) (by decide +kernel) ?_
  refine j_runA hx 1 (tb := [(16, .aload_n 0)]) (jtb_ok (by decide +kernel)) (pc' := 17) (lv' := [(0, vR t), (1, vR a1)]) (st' := [vR t, vR (jR W2 1801 t), vR a1, vR t]) rfl ?_
  refine j_getI hx flJ6_48 kd1802 h4 (by decide) (by decide +kernel) ?_
  refine j_WV (j_callV (av := [vR a1, vR (jR W2 1801 t), vI (jI W2 1802 t)]) (st := []) hx hr (Or.inl q1340) q1342 qs23 rfl md_fal_add_2 np_fal_add_2 (cal_add_2 t a1 (jR W2 1801 t) (jI W2 1802 t) W2) (by decide) (Nat.le_of_ble_eq_true rfl) h4 (by decide) (by decide +kernel)) (fun q6 _ => ?_)
  refine j_runA hx 1 (tb := [(23, .iconst 1)]) (jtb_ok (by decide +kernel)) (pc' := 24) (lv' := [(0, vR t), (1, vR a1)]) (st' := [vI (kI 1)]) rfl ?_
  exact j_iret hx hm (by decide +kernel) jz1n (he _)
theorem cal_add (t : Nat) (a1 : Nat) (W : jW) : jM yJ6_add cJ6_add 2 (Option.some Jvm.ClassFile.FieldType.boolean) [] 4 56 [vR t, vR a1] W ((fal_add t a1 W).bind (fun q => some (.returned (some (.int q.1)), q.2))) := 
  jM.of (Nat.le_of_ble_eq_true rfl) (fun x hx hm hr => wal_add ⟨hx, hm, hr, fun _ => rfl⟩ W)
def hal_elementData (x : jCx) (en : (Nat) → Option (Outcome × jW)) (t : Nat) (a1 : Int32) (W : jW) : Prop :=
  jOK x RJ6 cJ6_elementData 2 ∧
  jMt x "elementData" (Option.some (Jvm.ClassFile.FieldType.object "java/lang/Object")) [] ∧
  jRm x 0 0 ∧
  (∀ q : Nat, en q = some (.returned (some (jrv q)), W))
theorem wal_elementData {x : jCx} {en : (Nat) → Option (Outcome × jW)} {W : jW} {t : Nat} {a1 : Int32} (h : hal_elementData x en t a1 W) : jJ x 2 0 [(0, vR t), (1, vI a1)] [] W (fal_elementData t a1 W) en := by
  have h0 := h
  obtain ⟨hx, hm, hr, he⟩ := h0
  unfold fal_elementData
  refine j_runA hx 1 (tb := [(0, .aload_n 0)]) (jtb_ok (by decide +kernel)) (pc' := 1) (lv' := [(0, vR t), (1, vI a1)]) (st' := [vR t]) rfl ?_
  refine j_gd (fun h1 => ?_)
  refine j_getR hx flJ6_9 kl1801 h1 (by decide) (by decide +kernel) ?_
  refine j_runA hx 1 (tb := [(4, .iload_n 1)]) (jtb_ok (by decide +kernel)) (pc' := 5) (lv' := [(0, vR t), (1, vI a1)]) (st' := [vI a1, vR (jR W 1801 t)]) rfl ?_
  refine j_gd (fun h2 => ?_)
  refine j_gd (fun h3 => ?_)
  refine j_aald8 hx (f := 9008) (o := (jR W 1801 t)) kd9008 h2 (by decide +kernel) h3 ?_
  exact j_aret hx hm (Or.inl ⟨_, rfl⟩) (by decide +kernel) (he _)
theorem cal_elementData (t : Nat) (a1 : Int32) (W : jW) : jM yJ6_elementData cJ6_elementData 2 (Option.some (Jvm.ClassFile.FieldType.object "java/lang/Object")) [] 0 0 [vR t, vI a1] W ((fal_elementData t a1 W).bind (fun q => some (.returned (some (jrv q)), W))) := 
  jM.of (Nat.le_of_ble_eq_true rfl) (fun x hx hm hr => wal_elementData ⟨hx, hm, hr, fun _ => rfl⟩)
def hal_get (x : jCx) (en : (Nat) → Option (Outcome × jW)) (t : Nat) (a1 : Int32) (W : jW) : Prop :=
  jOK x RJ6 cJ6_get 2 ∧
  jMt x "get" (Option.some (Jvm.ClassFile.FieldType.object "java/lang/Object")) [] ∧
  jRm x 2 27 ∧
  (∀ q : Nat, en q = some (.returned (some (jrv q)), W))
theorem wal_get {x : jCx} {en : (Nat) → Option (Outcome × jW)} {W : jW} {t : Nat} {a1 : Int32} (h : hal_get x en t a1 W) : jJ x 2 0 [(0, vR t), (1, vI a1)] [] W (fal_get t a1 W) en := by
  have h0 := h
  obtain ⟨hx, hm, hr, he⟩ := h0
  unfold fal_get
  refine j_runA hx 2 (tb := [(0, .iload_n 1), (1, .aload_n 0)]) (jtb_ok (by decide +kernel)) (pc' := 2) (lv' := [(0, vR t), (1, vI a1)]) (st' := [vR t, vI a1]) rfl ?_
  refine j_gd (fun h1 => ?_)
  refine j_getI hx flJ6_48 kd1802 h1 (by decide) (by decide +kernel) ?_
  refine j_OI (j_callS (av := [vI a1, vI (jI W 1802 t)]) (st := []) hx hr (Or.inl q1543) q1544 q255 md_fob_checkIndex np_fob_checkIndex (cob_checkIndex a1 (jI W 1802 t) W) (by decide) (Nat.le_of_ble_eq_true rfl) (by decide +kernel)) (fun q2 _ => ?_)
  refine j_runA hx 3 (tb := [(8, .pop), (9, .aload_n 0), (10, .iload_n 1)]) (jtb_ok (by decide +kernel)) (pc' := 11) (lv' := [(0, vR t), (1, vI a1)]) (st' := [vI a1, vR t]) rfl ?_
  refine j_OR (j_callV (av := [vI a1]) (st := []) hx hr (Or.inl q1549) q1550 q1551 rfl md_fal_elementData np_fal_elementData (cal_elementData t a1 W) (by decide) (Nat.le_of_ble_eq_true rfl) h1 (by decide) (by decide +kernel)) (fun q3 _ => ?_)
  exact j_aret hx hm (Or.inl ⟨_, rfl⟩) (by decide +kernel) (he _)
theorem cal_get (t : Nat) (a1 : Int32) (W : jW) : jM yJ6_get cJ6_get 2 (Option.some (Jvm.ClassFile.FieldType.object "java/lang/Object")) [] 2 27 [vR t, vI a1] W ((fal_get t a1 W).bind (fun q => some (.returned (some (jrv q)), W))) := 
  jM.of (Nat.le_of_ble_eq_true rfl) (fun x hx hm hr => wal_get ⟨hx, hm, hr, fun _ => rfl⟩)
def hjm_max (x : jCx) (en : (Int64) → Option (Outcome × jW)) (a0 : Int64) (a2 : Int64) (W : jW) : Prop :=
  jOK x RJ7 cJ7_max 4 ∧
  jMt x "max" (Option.some Jvm.ClassFile.FieldType.long) [] ∧
  jRm x 0 0 ∧
  (∀ q : Int64, en q = some (.returned (some (.long q)), W))
theorem wjm_max {x : jCx} {en : (Int64) → Option (Outcome × jW)} {W : jW} {a0 : Int64} {a2 : Int64} (h : hjm_max x en a0 a2 W) : jJ x 4 0 [(0, vL a0), (2, vL a2)] [] W (some (fjm_max a0 a2)) en := by
  have h0 := h
  obtain ⟨hx, hm, hr, he⟩ := h0
  unfold fjm_max
  refine j_runA hx 2 (tb := [(0, .lload_n 0), (1, .lload_n 2)]) (jtb_ok (by decide +kernel)) (pc' := 2) (lv' := [(0, vL a0), (2, vL a2)]) (st' := [vL a2, vL a0]) rfl ?_
  refine j_tot (j_lcmp_lt hx (off := 7) (tgt := 10) (by decide +kernel) (by decide +kernel) (by decide) (fun _ => ?_) (fun _ => ?_))
  · refine j_runA hx 1 (tb := [(10, .lload_n 2)]) (jtb_ok (by decide +kernel)) (pc' := 11) (lv' := [(0, vL a0), (2, vL a2)]) (st' := [vL a2]) rfl ?_
    exact j_lret hx hm (by decide +kernel) (he _)
  refine j_runA hx 1 (tb := [(6, .lload_n 0)]) (jtb_ok (by decide +kernel)) (pc' := 7) (lv' := [(0, vL a0), (2, vL a2)]) (st' := [vL a0]) rfl ?_
  refine j_goto hx (off := 4) (by decide +kernel) (tgt := 11) (by decide) ?_
  exact j_lret hx hm (by decide +kernel) (he _)
theorem cjm_max (a0 : Int64) (a2 : Int64) (W : jW) : jM yJ7_max cJ7_max 4 (Option.some Jvm.ClassFile.FieldType.long) [] 0 0 [vL a0, vL a2] W (some (.returned (some (.long (fjm_max a0 a2))), W)) := 
  jM.of (mm := some (fjm_max a0 a2)) (en := fun q => some (.returned (some (.long q)), W)) (Nat.le_of_ble_eq_true rfl) (fun x hx hm hr => wjm_max ⟨hx, hm, hr, fun _ => rfl⟩)
def hjm_min (x : jCx) (en : (Int32) → Option (Outcome × jW)) (a0 : Int32) (a1 : Int32) (W : jW) : Prop :=
  jOK x RJ7 cJ7_min 2 ∧
  jMt x "min" (Option.some Jvm.ClassFile.FieldType.int) [] ∧
  jRm x 0 0 ∧
  (∀ q : Int32, en q = some (.returned (some (.int q)), W))
theorem wjm_min {x : jCx} {en : (Int32) → Option (Outcome × jW)} {W : jW} {a0 : Int32} {a1 : Int32} (h : hjm_min x en a0 a1 W) : jJ x 2 0 [(0, vI a0), (1, vI a1)] [] W (some (fjm_min a0 a1)) en := by
  have h0 := h
  obtain ⟨hx, hm, hr, he⟩ := h0
  unfold fjm_min
  refine j_runA hx 2 (tb := [(0, .iload_n 0), (1, .iload_n 1)]) (jtb_ok (by decide +kernel)) (pc' := 2) (lv' := [(0, vI a0), (1, vI a1)]) (st' := [vI a1, vI a0]) rfl ?_
  refine j_tot (j_icmp_gt hx (off := 7) (tgt := 9) (by decide +kernel) (by decide) (fun _ => ?_) (fun _ => ?_))
  · refine j_runA hx 1 (tb := [(9, .iload_n 1)]) (jtb_ok (by decide +kernel)) (pc' := 10) (lv' := [(0, vI a0), (1, vI a1)]) (st' := [vI a1]) rfl ?_
    exact j_iret hx hm (by decide +kernel) rfl (he _)
  refine j_runA hx 1 (tb := [(5, .iload_n 0)]) (jtb_ok (by decide +kernel)) (pc' := 6) (lv' := [(0, vI a0), (1, vI a1)]) (st' := [vI a0]) rfl ?_
  refine j_goto hx (off := 4) (by decide +kernel) (tgt := 10) (by decide) ?_
  exact j_iret hx hm (by decide +kernel) rfl (he _)
theorem cjm_min (a0 : Int32) (a1 : Int32) (W : jW) : jM yJ7_min cJ7_min 2 (Option.some Jvm.ClassFile.FieldType.int) [] 0 0 [vI a0, vI a1] W (some (.returned (some (.int (fjm_min a0 a1))), W)) := 
  jM.of (mm := some (fjm_min a0 a1)) (en := fun q => some (.returned (some (.int q)), W)) (Nat.le_of_ble_eq_true rfl) (fun x hx hm hr => wjm_min ⟨hx, hm, hr, fun _ => rfl⟩)
def hjm_min_2 (x : jCx) (en : (Int64) → Option (Outcome × jW)) (a0 : Int64) (a2 : Int64) (W : jW) : Prop :=
  jOK x RJ7 cJ7_min_2 4 ∧
  jMt x "min" (Option.some Jvm.ClassFile.FieldType.long) [] ∧
  jRm x 0 0 ∧
  (∀ q : Int64, en q = some (.returned (some (.long q)), W))
theorem wjm_min_2 {x : jCx} {en : (Int64) → Option (Outcome × jW)} {W : jW} {a0 : Int64} {a2 : Int64} (h : hjm_min_2 x en a0 a2 W) : jJ x 4 0 [(0, vL a0), (2, vL a2)] [] W (some (fjm_min_2 a0 a2)) en := by
  have h0 := h
  obtain ⟨hx, hm, hr, he⟩ := h0
  unfold fjm_min_2
  refine j_runA hx 2 (tb := [(0, .lload_n 0), (1, .lload_n 2)]) (jtb_ok (by decide +kernel)) (pc' := 2) (lv' := [(0, vL a0), (2, vL a2)]) (st' := [vL a2, vL a0]) rfl ?_
  refine j_tot (j_lcmp_gt hx (off := 7) (tgt := 10) (by decide +kernel) (by decide +kernel) (by decide) (fun _ => ?_) (fun _ => ?_))
  · refine j_runA hx 1 (tb := [(10, .lload_n 2)]) (jtb_ok (by decide +kernel)) (pc' := 11) (lv' := [(0, vL a0), (2, vL a2)]) (st' := [vL a2]) rfl ?_
    exact j_lret hx hm (by decide +kernel) (he _)
  refine j_runA hx 1 (tb := [(6, .lload_n 0)]) (jtb_ok (by decide +kernel)) (pc' := 7) (lv' := [(0, vL a0), (2, vL a2)]) (st' := [vL a0]) rfl ?_
  refine j_goto hx (off := 4) (by decide +kernel) (tgt := 11) (by decide) ?_
  exact j_lret hx hm (by decide +kernel) (he _)
theorem cjm_min_2 (a0 : Int64) (a2 : Int64) (W : jW) : jM yJ7_min_2 cJ7_min_2 4 (Option.some Jvm.ClassFile.FieldType.long) [] 0 0 [vL a0, vL a2] W (some (.returned (some (.long (fjm_min_2 a0 a2))), W)) := 
  jM.of (mm := some (fjm_min_2 a0 a2)) (en := fun q => some (.returned (some (.long q)), W)) (Nat.le_of_ble_eq_true rfl) (fun x hx hm hr => wjm_min_2 ⟨hx, hm, hr, fun _ => rfl⟩)
def htr_init (x : jCx) (en : (jW) → Option (Outcome × jW)) (t : Nat) : Prop :=
  jOK x RX2 cX2_init 1 ∧
  jMt x "<init>" (Option.none : Option Jvm.ClassFile.FieldType) [] ∧
  jRm x 8 121 ∧
  (∀ q : jW, en q = some (.returned none, q))
theorem wtr_init {x : jCx} {en : (jW) → Option (Outcome × jW)} {t : Nat} (h : htr_init x en t) (W : jW) : jJ x 1 0 [(0, vR t)] [] W (ftr_init t W) en := by
  have h0 := h
  obtain ⟨hx, hm, hr, he⟩ := h0
  unfold ftr_init
  refine j_runA hx 1 (tb := [(0, .aload_n 0)]) (jtb_ok (by decide +kernel)) (pc' := 1) (lv' := [(0, vR t)]) (st' := [vR t]) rfl ?_
  refine j_gd (fun h1 => ?_)
  refine j_obj hx hr q278 h1 q264 q265 (by decide +kernel) (by decide) (Nat.le_of_ble_eq_true rfl) ?_
  refine j_runA hx 1 (tb := [(4, .aload_n 0)]) (jtb_ok (by decide +kernel)) (pc' := 5) (lv' := [(0, vR t)]) (st' := [vR t]) rfl ?_
  refine j_gd (fun h2 => ?_)
  refine j_ise (i1 := 7) (i2 := 9) hx hr q279 q318 (by decide +kernel) (by decide +kernel) (by decide +kernel) h2 (by decide) (Nat.le_of_ble_eq_true rfl) ?_
  refine j_ltn (fun W3 => ?_)
  refine j_gd (fun h5 => ?_)
  refine j_putR hx fwX2_10 (wi302 hm) kd302 h5 (by decide) (by decide +kernel) nr302 fr302 ?_
  refine j_ltw rfl (fun W6 hc7 => ?_)
  have h8 : jC W6 t = 3 := (congrFun hc7 _).trans h5
  exact j_vret hx hm (by decide +kernel) (he _)
theorem ctr_init (t : Nat) (W : jW) : jM yX2_init cX2_init 1 (Option.none : Option Jvm.ClassFile.FieldType) [] 8 121 [vR t] W ((ftr_init t W).bind (fun q => some (.returned none, q))) := 
  jM.of (Nat.le_of_ble_eq_true rfl) (fun x hx hm hr => wtr_init ⟨hx, hm, hr, fun _ => rfl⟩ W)
def hsh_init (x : jCx) (en : (jW) → Option (Outcome × jW)) (t : Nat) (a1 : Nat) : Prop :=
  jOK x RX3 cX3_init 2 ∧
  jMt x "<init>" (Option.none : Option Jvm.ClassFile.FieldType) [] ∧
  jRm x 1 12 ∧
  (∀ q : jW, en q = some (.returned none, q))
theorem wsh_init {x : jCx} {en : (jW) → Option (Outcome × jW)} {t : Nat} {a1 : Nat} (h : hsh_init x en t a1) (W : jW) : jJ x 2 0 [(0, vR t), (1, vR a1)] [] W (fsh_init t a1 W) en := by
  have h0 := h
  obtain ⟨hx, hm, hr, he⟩ := h0
  unfold fsh_init
  refine j_runA hx 1 (tb := [(0, .aload_n 0)]) (jtb_ok (by decide +kernel)) (pc' := 1) (lv' := [(0, vR t), (1, vR a1)]) (st' := [vR t]) rfl ?_
  refine j_gd (fun h1 => ?_)
  refine j_obj hx hr q359 h1 q264 q265 (by decide +kernel) (by decide) (Nat.le_of_ble_eq_true rfl) ?_
  refine j_runA hx 2 (tb := [(4, .aload_n 0), (5, .iconst 4)]) (jtb_ok (by decide +kernel)) (pc' := 6) (lv' := [(0, vR t), (1, vR a1)]) (st' := [vI (kI 4), vR t]) rfl ?_
  refine j_gd (fun h2 => ?_)
  refine j_gd (fun h3 => ?_)
  refine j_nwA hx fwX3_9 (wi407 hm) ka407 ja407_3 h3 (by decide) nr407 fr407 (by decide +kernel) (by decide +kernel) h2 ?_
  refine j_ltw rfl (fun W4 hc5 => ?_)
  have h6 : jC W4 t = 4 := (congrFun hc5 _).trans h3
  refine j_runA hx 2 (tb := [(11, .aload_n 0), (12, .iconst 4)]) (jtb_ok (by decide +kernel)) (pc' := 13) (lv' := [(0, vR t), (1, vR a1)]) (st' := [vI (kI 4), vR t]) rfl ?_
  refine j_gd (fun h8 => ?_)
  refine j_nwB hx fwX3_15 (wi408 hm) kd408 ja408_6 h6 (by decide) nr408 fr408 (by decide +kernel) (by decide +kernel) h8 ?_
  refine j_ltw rfl (fun W9 hc10 => ?_)
  have h11 : jC W9 t = 4 := (congrFun hc10 _).trans h6
  refine j_runA hx 2 (tb := [(18, .aload_n 0), (19, .iconst 4)]) (jtb_ok (by decide +kernel)) (pc' := 20) (lv' := [(0, vR t), (1, vR a1)]) (st' := [vI (kI 4), vR t]) rfl ?_
  refine j_gd (fun h13 => ?_)
  refine j_nwA hx fwX3_19 (wi409 hm) ka409 ja409_3 h11 (by decide) nr409 fr409 (by decide +kernel) (by decide +kernel) h13 ?_
  refine j_ltw rfl (fun W14 hc15 => ?_)
  have h16 : jC W14 t = 4 := (congrFun hc15 _).trans h11
  refine j_runA hx 2 (tb := [(25, .aload_n 0), (26, .iconst 4)]) (jtb_ok (by decide +kernel)) (pc' := 27) (lv' := [(0, vR t), (1, vR a1)]) (st' := [vI (kI 4), vR t]) rfl ?_
  refine j_gd (fun h18 => ?_)
  refine j_nwA hx fwX3_22 (wi410 hm) ka410 ja410_3 h16 (by decide) nr410 fr410 (by decide +kernel) (by decide +kernel) h18 ?_
  refine j_ltw rfl (fun W19 hc20 => ?_)
  have h21 : jC W19 t = 4 := (congrFun hc20 _).trans h16
  refine j_runA hx 2 (tb := [(32, .aload_n 0), (33, .bipush 16)]) (jtb_ok (by decide +kernel)) (pc' := 35) (lv' := [(0, vR t), (1, vR a1)]) (st' := [vI (kI 16), vR t]) rfl ?_
  refine j_gd (fun h23 => ?_)
  refine j_nwA hx fwX3_25 (wi411 hm) ka411 ja411_3 h21 (by decide) nr411 fr411 (by decide +kernel) (by decide +kernel) h23 ?_
  refine j_ltw rfl (fun W24 hc25 => ?_)
  have h26 : jC W24 t = 4 := (congrFun hc25 _).trans h21
  refine j_runA hx 2 (tb := [(40, .aload_n 0), (41, .bipush 16)]) (jtb_ok (by decide +kernel)) (pc' := 43) (lv' := [(0, vR t), (1, vR a1)]) (st' := [vI (kI 16), vR t]) rfl ?_
  refine j_gd (fun h28 => ?_)
  refine j_nwA hx fwX3_28 (wi412 hm) ka412 ja412_3 h26 (by decide) nr412 fr412 (by decide +kernel) (by decide +kernel) h28 ?_
  refine j_ltw rfl (fun W29 hc30 => ?_)
  have h31 : jC W29 t = 4 := (congrFun hc30 _).trans h26
  refine j_runA hx 2 (tb := [(48, .aload_n 0), (49, .bipush 16)]) (jtb_ok (by decide +kernel)) (pc' := 51) (lv' := [(0, vR t), (1, vR a1)]) (st' := [vI (kI 16), vR t]) rfl ?_
  refine j_gd (fun h33 => ?_)
  refine j_nwB hx fwX3_31 (wi413 hm) kd413 ja413_6 h31 (by decide) nr413 fr413 (by decide +kernel) (by decide +kernel) h33 ?_
  refine j_ltw rfl (fun W34 hc35 => ?_)
  have h36 : jC W34 t = 4 := (congrFun hc35 _).trans h31
  refine j_runA hx 2 (tb := [(56, .aload_n 0), (57, .bipush 16)]) (jtb_ok (by decide +kernel)) (pc' := 59) (lv' := [(0, vR t), (1, vR a1)]) (st' := [vI (kI 16), vR t]) rfl ?_
  refine j_gd (fun h38 => ?_)
  refine j_nwA hx fwX3_34 (wi414 hm) ka414 ja414_3 h36 (by decide) nr414 fr414 (by decide +kernel) (by decide +kernel) h38 ?_
  refine j_ltw rfl (fun W39 hc40 => ?_)
  have h41 : jC W39 t = 4 := (congrFun hc40 _).trans h36
  refine j_runA hx 2 (tb := [(64, .aload_n 0), (65, .bipush 16)]) (jtb_ok (by decide +kernel)) (pc' := 67) (lv' := [(0, vR t), (1, vR a1)]) (st' := [vI (kI 16), vR t]) rfl ?_
  refine j_gd (fun h43 => ?_)
  refine j_nwA hx fwX3_37 (wi415 hm) ka415 ja415_3 h41 (by decide) nr415 fr415 (by decide +kernel) (by decide +kernel) h43 ?_
  refine j_ltw rfl (fun W44 hc45 => ?_)
  have h46 : jC W44 t = 4 := (congrFun hc45 _).trans h41
  refine j_runA hx 2 (tb := [(72, .aload_n 0), (73, .bipush 16)]) (jtb_ok (by decide +kernel)) (pc' := 75) (lv' := [(0, vR t), (1, vR a1)]) (st' := [vI (kI 16), vR t]) rfl ?_
  refine j_gd (fun h48 => ?_)
  refine j_nwA hx fwX3_40 (wi416 hm) ka416 ja416_3 h46 (by decide) nr416 fr416 (by decide +kernel) (by decide +kernel) h48 ?_
  refine j_ltw rfl (fun W49 hc50 => ?_)
  have h51 : jC W49 t = 4 := (congrFun hc50 _).trans h46
  refine j_runA hx 2 (tb := [(80, .aload_n 0), (81, .bipush 16)]) (jtb_ok (by decide +kernel)) (pc' := 83) (lv' := [(0, vR t), (1, vR a1)]) (st' := [vI (kI 16), vR t]) rfl ?_
  refine j_gd (fun h53 => ?_)
  refine j_nwA hx fwX3_43 (wi417 hm) ka417 ja417_3 h51 (by decide) nr417 fr417 (by decide +kernel) (by decide +kernel) h53 ?_
  refine j_ltw rfl (fun W54 hc55 => ?_)
  have h56 : jC W54 t = 4 := (congrFun hc55 _).trans h51
  refine j_runA hx 2 (tb := [(88, .aload_n 0), (89, .sipush 8192)]) (jtb_ok (by decide +kernel)) (pc' := 92) (lv' := [(0, vR t), (1, vR a1)]) (st' := [vI (kI 8192), vR t]) rfl ?_
  refine j_gd (fun h58 => ?_)
  refine j_nwB hx fwX3_46 (wi420 hm) kd420 ja420_6 h56 (by decide) nr420 fr420 (by decide +kernel) (by decide +kernel) h58 ?_
  refine j_ltw rfl (fun W59 hc60 => ?_)
  have h61 : jC W59 t = 4 := (congrFun hc60 _).trans h56
  refine j_runA hx 2 (tb := [(97, .aload_n 0), (98, .sipush 8192)]) (jtb_ok (by decide +kernel)) (pc' := 101) (lv' := [(0, vR t), (1, vR a1)]) (st' := [vI (kI 8192), vR t]) rfl ?_
  refine j_gd (fun h63 => ?_)
  refine j_nwA hx fwX3_49 (wi421 hm) ka421 ja421_5 h61 (by decide) nr421 fr421 (by decide +kernel) (by decide +kernel) h63 ?_
  refine j_ltw rfl (fun W64 hc65 => ?_)
  have h66 : jC W64 t = 4 := (congrFun hc65 _).trans h61
  refine j_runA hx 2 (tb := [(106, .aload_n 0), (107, .aload_n 1)]) (jtb_ok (by decide +kernel)) (pc' := 108) (lv' := [(0, vR t), (1, vR a1)]) (st' := [vR a1, vR t]) rfl ?_
  refine j_putR hx fwX3_53 (wi400 hm) kd400 h66 (by decide) (by decide +kernel) nr400 fr400 ?_
  refine j_ltw rfl (fun W68 hc69 => ?_)
  have h70 : jC W68 t = 4 := (congrFun hc69 _).trans h66
  exact j_vret hx hm (by decide +kernel) (he _)
theorem csh_init (t : Nat) (a1 : Nat) (W : jW) : jM yX3_init cX3_init 2 (Option.none : Option Jvm.ClassFile.FieldType) [] 1 12 [vR t, vR a1] W ((fsh_init t a1 W).bind (fun q => some (.returned none, q))) := 
  jM.of (Nat.le_of_ble_eq_true rfl) (fun x hx hm hr => wsh_init ⟨hx, hm, hr, fun _ => rfl⟩ W)
def hsr_init (x : jCx) (en : (jW) → Option (Outcome × jW)) (t : Nat) : Prop :=
  jOK x RX4 cX4_init 1 ∧
  jMt x "<init>" (Option.none : Option Jvm.ClassFile.FieldType) [] ∧
  jRm x 1 12 ∧
  (∀ q : jW, en q = some (.returned none, q))
theorem wsr_init {x : jCx} {en : (jW) → Option (Outcome × jW)} {t : Nat} (h : hsr_init x en t) (W : jW) : jJ x 1 0 [(0, vR t)] [] W (fsr_init t W) en := by
  have h0 := h
  obtain ⟨hx, hm, hr, he⟩ := h0
  unfold fsr_init
  refine j_runA hx 1 (tb := [(0, .aload_n 0)]) (jtb_ok (by decide +kernel)) (pc' := 1) (lv' := [(0, vR t)]) (st' := [vR t]) rfl ?_
  refine j_gd (fun h1 => ?_)
  refine j_obj hx hr q463 h1 q264 q265 (by decide +kernel) (by decide) (Nat.le_of_ble_eq_true rfl) ?_
  exact j_vret hx hm (by decide +kernel) (he _)
theorem csr_init (t : Nat) (W : jW) : jM yX4_init cX4_init 1 (Option.none : Option Jvm.ClassFile.FieldType) [] 1 12 [vR t] W ((fsr_init t W).bind (fun q => some (.returned none, q))) := 
  jM.of (Nat.le_of_ble_eq_true rfl) (fun x hx hm hr => wsr_init ⟨hx, hm, hr, fun _ => rfl⟩ W)
def hhe_init (x : jCx) (en : (jW) → Option (Outcome × jW)) (t : Nat) : Prop :=
  jOK x RX5 cX5_init 1 ∧
  jMt x "<init>" (Option.none : Option Jvm.ClassFile.FieldType) [] ∧
  jRm x 2 24 ∧
  (∀ q : jW, en q = some (.returned none, q))
theorem whe_init {x : jCx} {en : (jW) → Option (Outcome × jW)} {t : Nat} (h : hhe_init x en t) (W : jW) : jJ x 1 0 [(0, vR t)] [] W (fhe_init t W) en := by
  have h0 := h
  obtain ⟨hx, hm, hr, he⟩ := h0
  unfold fhe_init
  refine j_runA hx 1 (tb := [(0, .aload_n 0)]) (jtb_ok (by decide +kernel)) (pc' := 1) (lv' := [(0, vR t)]) (st' := [vR t]) rfl ?_
  refine j_gd (fun h1 => ?_)
  refine j_WV (j_callI (av := []) (st := []) hx hr (Or.inr ⟨_, q460⟩) q461 rfl q462 md_fsr_init np_fsr_init (csr_init t W) (by decide) (Nat.le_of_ble_eq_true rfl) h1 (by decide) (by decide +kernel)) (fun q2 _ => ?_)
  refine j_runA hx 1 (tb := [(4, .aload_n 0)]) (jtb_ok (by decide +kernel)) (pc' := 5) (lv' := [(0, vR t)]) (st' := [vR t]) rfl ?_
  refine j_ldc hx (v := (kI 60000)) (jkc q464 (by decide +kernel)) (by decide +kernel) ?_
  refine j_gd (fun h4 => ?_)
  refine j_gd (fun h5 => ?_)
  refine j_nwA hx fwX5_10 (wi500 hm) ka500 ja500_4 h5 (by decide) nr500 fr500 (by decide +kernel) (by decide +kernel) h4 ?_
  refine j_ltw rfl (fun W6 hc7 => ?_)
  have h8 : jC W6 t = 5 := (congrFun hc7 _).trans h5
  exact j_vret hx hm (by decide +kernel) (he _)
theorem che_init (t : Nat) (W : jW) : jM yX5_init cX5_init 1 (Option.none : Option Jvm.ClassFile.FieldType) [] 2 24 [vR t] W ((fhe_init t W).bind (fun q => some (.returned none, q))) := 
  jM.of (Nat.le_of_ble_eq_true rfl) (fun x hx hm hr => whe_init ⟨hx, hm, hr, fun _ => rfl⟩ W)
def hro_init (x : jCx) (en : (jW) → Option (Outcome × jW)) (t : Nat) : Prop :=
  jOK x RX6 cX6_init 1 ∧
  jMt x "<init>" (Option.none : Option Jvm.ClassFile.FieldType) [] ∧
  jRm x 1 12 ∧
  (∀ q : jW, en q = some (.returned none, q))
theorem wro_init {x : jCx} {en : (jW) → Option (Outcome × jW)} {t : Nat} (h : hro_init x en t) (W : jW) : jJ x 1 0 [(0, vR t)] [] W (fro_init t W) en := by
  have h0 := h
  obtain ⟨hx, hm, hr, he⟩ := h0
  unfold fro_init
  refine j_runA hx 1 (tb := [(0, .aload_n 0)]) (jtb_ok (by decide +kernel)) (pc' := 1) (lv' := [(0, vR t)]) (st' := [vR t]) rfl ?_
  refine j_gd (fun h1 => ?_)
  refine j_obj hx hr q481 h1 q264 q265 (by decide +kernel) (by decide) (Nat.le_of_ble_eq_true rfl) ?_
  refine j_runA hx 2 (tb := [(4, .aload_n 0), (5, .bipush 64)]) (jtb_ok (by decide +kernel)) (pc' := 7) (lv' := [(0, vR t)]) (st' := [vI (kI 64), vR t]) rfl ?_
  refine j_gd (fun h2 => ?_)
  refine j_gd (fun h3 => ?_)
  refine j_nwA hx fwX6_7 wf600 ka600 ja600_3 h3 (by decide) nr600 fr600 (by decide +kernel) (by decide +kernel) h2 ?_
  refine j_ltw rfl (fun W4 hc5 => ?_)
  have h6 : jC W4 t = 6 := (congrFun hc5 _).trans h3
  exact j_vret hx hm (by decide +kernel) (he _)
theorem cro_init (t : Nat) (W : jW) : jM yX6_init cX6_init 1 (Option.none : Option Jvm.ClassFile.FieldType) [] 1 12 [vR t] W ((fro_init t W).bind (fun q => some (.returned none, q))) := 
  jM.of (Nat.le_of_ble_eq_true rfl) (fun x hx hm hr => wro_init ⟨hx, hm, hr, fun _ => rfl⟩ W)
def hpg_init (x : jCx) (en : (jW) → Option (Outcome × jW)) (t : Nat) : Prop :=
  jOK x RX1 cX1_init 1 ∧
  jMt x "<init>" (Option.none : Option Jvm.ClassFile.FieldType) [] ∧
  jRm x 9 135 ∧
  (∀ q : jW, en q = some (.returned none, q))
theorem wpg_init {x : jCx} {en : (jW) → Option (Outcome × jW)} {t : Nat} (h : hpg_init x en t) (W : jW) : jJ x 1 0 [(0, vR t)] [] W (fpg_init t W) en := by
  have h0 := h
  obtain ⟨hx, hm, hr, he⟩ := h0
  unfold fpg_init
  refine j_runA hx 1 (tb := [(0, .aload_n 0)]) (jtb_ok (by decide +kernel)) (pc' := 1) (lv' := [(0, vR t)]) (st' := [vR t]) rfl ?_
  refine j_gd (fun h1 => ?_)
  refine j_obj hx hr q272 h1 q264 q265 (by decide +kernel) (by decide) (Nat.le_of_ble_eq_true rfl) ?_
  refine j_runA hx 1 (tb := [(4, .aload_n 0)]) (jtb_ok (by decide +kernel)) (pc' := 5) (lv' := [(0, vR t)]) (st' := [vR t]) rfl ?_
  refine j_gd (fun h2 => ?_)
  refine j_new hx nlX1_7 (N := 3) rfl (by decide +kernel) h2 ?_
  refine j_ltn (fun W3 => ?_)
  refine j_runA hx 1 (tb := [(8, .dup)]) (jtb_ok (by decide +kernel)) (pc' := 9) (lv' := [(0, vR t)]) (st' := [vR (jX W), vR (jX W), vR t]) rfl ?_
  refine j_gd (fun h5 => ?_)
  refine j_WV (j_callI (av := []) (st := [vR (jX W), vR t]) hx hr (Or.inr ⟨_, q275⟩) q276 rfl q277 md_ftr_init np_ftr_init (ctr_init (jX W) W3) (by decide) (Nat.le_of_ble_eq_true rfl) h5 (by decide) (by decide +kernel)) (fun q6 _ => ?_)
  refine j_gd (fun h8 => ?_)
  refine j_putR hx fwX1_10 (wi200 hm) kd200 h8 (by decide) (by decide +kernel) nr200 fr200 ?_
  refine j_ltw rfl (fun W9 hc10 => ?_)
  have h11 : jC W9 t = 2 := (congrFun hc10 _).trans h8
  refine j_runA hx 1 (tb := [(15, .aload_n 0)]) (jtb_ok (by decide +kernel)) (pc' := 16) (lv' := [(0, vR t)]) (st' := [vR t]) rfl ?_
  refine j_gd (fun h13 => ?_)
  refine j_new hx nlX1_16 (N := 22) rfl (by decide +kernel) h13 ?_
  refine j_ltn (fun W14 => ?_)
  refine j_runA hx 2 (tb := [(19, .dup), (20, .aload_n 0)]) (jtb_ok (by decide +kernel)) (pc' := 21) (lv' := [(0, vR t)]) (st' := [vR t, vR (jX W9), vR (jX W9), vR t]) rfl ?_
  refine j_gd (fun h16 => ?_)
  refine j_getR hx flX1_10 kl200 h16 (by decide) (by decide +kernel) ?_
  refine j_gd (fun h17 => ?_)
  refine j_WV (j_callI (av := [vR (jR W14 200 t)]) (st := [vR (jX W9), vR t]) hx hr (Or.inl q356) q357 rfl q358 md_fsh_init np_fsh_init (csh_init (jX W9) (jR W14 200 t) W14) (by decide) (Nat.le_of_ble_eq_true rfl) h17 (by decide) (by decide +kernel)) (fun q18 _ => ?_)
  refine j_gd (fun h20 => ?_)
  refine j_putR hx fwX1_21 (wi201 hm) kd201 h20 (by decide) (by decide +kernel) nr201 fr201 ?_
  refine j_ltw rfl (fun W21 hc22 => ?_)
  have h23 : jC W21 t = 2 := (congrFun hc22 _).trans h20
  refine j_runA hx 1 (tb := [(30, .aload_n 0)]) (jtb_ok (by decide +kernel)) (pc' := 31) (lv' := [(0, vR t)]) (st' := [vR t]) rfl ?_
  refine j_gd (fun h25 => ?_)
  refine j_new hx nlX1_25 (N := 2) rfl (by decide +kernel) h25 ?_
  refine j_ltn (fun W26 => ?_)
  refine j_runA hx 1 (tb := [(34, .dup)]) (jtb_ok (by decide +kernel)) (pc' := 35) (lv' := [(0, vR t)]) (st' := [vR (jX W21), vR (jX W21), vR t]) rfl ?_
  refine j_gd (fun h28 => ?_)
  refine j_WV (j_callI (av := []) (st := [vR (jX W21), vR t]) hx hr (Or.inr ⟨_, q457⟩) q458 rfl q459 md_fhe_init np_fhe_init (che_init (jX W21) W26) (by decide) (Nat.le_of_ble_eq_true rfl) h28 (by decide) (by decide +kernel)) (fun q29 _ => ?_)
  refine j_gd (fun h31 => ?_)
  refine j_putR hx fwX1_28 (wi202 hm) kd202 h31 (by decide) (by decide +kernel) nr202 fr202 ?_
  refine j_ltw rfl (fun W32 hc33 => ?_)
  have h34 : jC W32 t = 2 := (congrFun hc33 _).trans h31
  refine j_runA hx 2 (tb := [(41, .aload_n 0), (42, .iconst 0)]) (jtb_ok (by decide +kernel)) (pc' := 43) (lv' := [(0, vR t)]) (st' := [vI (kI 0), vR t]) rfl ?_
  refine j_gd (fun h36 => ?_)
  refine j_nwA hx fwX1_32 wf204 ka204 ja204_3 h34 (by decide) nr204 fr204 (by decide +kernel) (by decide +kernel) h36 ?_
  refine j_ltw rfl (fun W37 hc38 => ?_)
  have h39 : jC W37 t = 2 := (congrFun hc38 _).trans h34
  refine j_runA hx 2 (tb := [(48, .aload_n 0), (49, .iconst 0)]) (jtb_ok (by decide +kernel)) (pc' := 50) (lv' := [(0, vR t)]) (st' := [vI (kI 0), vR t]) rfl ?_
  refine j_gd (fun h41 => ?_)
  refine j_nwA hx fwX1_36 wf205 ka205 ja205_3 h39 (by decide) nr205 fr205 (by decide +kernel) (by decide +kernel) h41 ?_
  refine j_ltw rfl (fun W42 hc43 => ?_)
  have h44 : jC W42 t = 2 := (congrFun hc43 _).trans h39
  refine j_runA hx 2 (tb := [(55, .aload_n 0), (56, .iconst 0)]) (jtb_ok (by decide +kernel)) (pc' := 57) (lv' := [(0, vR t)]) (st' := [vI (kI 0), vR t]) rfl ?_
  refine j_gd (fun h46 => ?_)
  refine j_nwA hx fwX1_39 wf206 ka206 ja206_3 h44 (by decide) nr206 fr206 (by decide +kernel) (by decide +kernel) h46 ?_
  refine j_ltw rfl (fun W47 hc48 => ?_)
  have h49 : jC W47 t = 2 := (congrFun hc48 _).trans h44
  refine j_runA hx 2 (tb := [(62, .aload_n 0), (63, .iconst 0)]) (jtb_ok (by decide +kernel)) (pc' := 64) (lv' := [(0, vR t)]) (st' := [vI (kI 0), vR t]) rfl ?_
  refine j_gd (fun h51 => ?_)
  refine j_nwA hx fwX1_42 wf207 ka207 ja207_3 h49 (by decide) nr207 fr207 (by decide +kernel) (by decide +kernel) h51 ?_
  refine j_ltw rfl (fun W52 hc53 => ?_)
  have h54 : jC W52 t = 2 := (congrFun hc53 _).trans h49
  refine j_runA hx 2 (tb := [(69, .aload_n 0), (70, .iconst 0)]) (jtb_ok (by decide +kernel)) (pc' := 71) (lv' := [(0, vR t)]) (st' := [vI (kI 0), vR t]) rfl ?_
  refine j_gd (fun h56 => ?_)
  refine j_nwA hx fwX1_45 wf208 ka208 ja208_5 h54 (by decide) nr208 fr208 (by decide +kernel) (by decide +kernel) h56 ?_
  refine j_ltw rfl (fun W57 hc58 => ?_)
  have h59 : jC W57 t = 2 := (congrFun hc58 _).trans h54
  refine j_runA hx 1 (tb := [(76, .aload_n 0)]) (jtb_ok (by decide +kernel)) (pc' := 77) (lv' := [(0, vR t)]) (st' := [vR t]) rfl ?_
  refine j_gd (fun h61 => ?_)
  refine j_new hx nlX1_49 (N := 2) rfl (by decide +kernel) h61 ?_
  refine j_ltn (fun W62 => ?_)
  refine j_runA hx 1 (tb := [(80, .dup)]) (jtb_ok (by decide +kernel)) (pc' := 81) (lv' := [(0, vR t)]) (st' := [vR (jX W57), vR (jX W57), vR t]) rfl ?_
  refine j_gd (fun h64 => ?_)
  refine j_WV (j_callI (av := []) (st := [vR (jX W57), vR t]) hx hr (Or.inr ⟨_, q478⟩) q479 rfl q480 md_fro_init np_fro_init (cro_init (jX W57) W62) (by decide) (Nat.le_of_ble_eq_true rfl) h64 (by decide) (by decide +kernel)) (fun q65 _ => ?_)
  refine j_gd (fun h67 => ?_)
  refine j_putR hx fwX1_52 (wi209 hm) kd209 h67 (by decide) (by decide +kernel) nr209 fr209 ?_
  refine j_ltw rfl (fun W68 hc69 => ?_)
  have h70 : jC W68 t = 2 := (congrFun hc69 _).trans h67
  refine j_runA hx 1 (tb := [(87, .aload_n 0)]) (jtb_ok (by decide +kernel)) (pc' := 88) (lv' := [(0, vR t)]) (st' := [vR t]) rfl ?_
  refine j_gd (fun h72 => ?_)
  refine j_new hx nlX1_49 (N := 2) rfl (by decide +kernel) h72 ?_
  refine j_ltn (fun W73 => ?_)
  refine j_runA hx 1 (tb := [(91, .dup)]) (jtb_ok (by decide +kernel)) (pc' := 92) (lv' := [(0, vR t)]) (st' := [vR (jX W68), vR (jX W68), vR t]) rfl ?_
  refine j_gd (fun h75 => ?_)
  refine j_WV (j_callI (av := []) (st := [vR (jX W68), vR t]) hx hr (Or.inr ⟨_, q478⟩) q479 rfl q480 md_fro_init np_fro_init (cro_init (jX W68) W73) (by decide) (Nat.le_of_ble_eq_true rfl) h75 (by decide) (by decide +kernel)) (fun q76 _ => ?_)
  refine j_gd (fun h78 => ?_)
  refine j_putR hx fwX1_56 (wi210 hm) kd210 h78 (by decide) (by decide +kernel) nr210 fr210 ?_
  refine j_ltw rfl (fun W79 hc80 => ?_)
  have h81 : jC W79 t = 2 := (congrFun hc80 _).trans h78
  refine j_runA hx 1 (tb := [(98, .aload_n 0)]) (jtb_ok (by decide +kernel)) (pc' := 99) (lv' := [(0, vR t)]) (st' := [vR t]) rfl ?_
  refine j_gd (fun h83 => ?_)
  refine j_new hx nlX1_49 (N := 2) rfl (by decide +kernel) h83 ?_
  refine j_ltn (fun W84 => ?_)
  refine j_runA hx 1 (tb := [(102, .dup)]) (jtb_ok (by decide +kernel)) (pc' := 103) (lv' := [(0, vR t)]) (st' := [vR (jX W79), vR (jX W79), vR t]) rfl ?_
  refine j_gd (fun h86 => ?_)
  refine j_WV (j_callI (av := []) (st := [vR (jX W79), vR t]) hx hr (Or.inr ⟨_, q478⟩) q479 rfl q480 md_fro_init np_fro_init (cro_init (jX W79) W84) (by decide) (Nat.le_of_ble_eq_true rfl) h86 (by decide) (by decide +kernel)) (fun q87 _ => ?_)
  refine j_gd (fun h89 => ?_)
  refine j_putR hx fwX1_59 (wi211 hm) kd211 h89 (by decide) (by decide +kernel) nr211 fr211 ?_
  refine j_ltw rfl (fun W90 hc91 => ?_)
  have h92 : jC W90 t = 2 := (congrFun hc91 _).trans h89
  refine j_runA hx 2 (tb := [(109, .aload_n 0), (110, .iconst 0)]) (jtb_ok (by decide +kernel)) (pc' := 111) (lv' := [(0, vR t)]) (st' := [vI (kI 0), vR t]) rfl ?_
  refine j_gd (fun h94 => ?_)
  refine j_nwA hx fwX1_62 wf212 ka212 ja212_3 h92 (by decide) nr212 fr212 (by decide +kernel) (by decide +kernel) h94 ?_
  refine j_ltw rfl (fun W95 hc96 => ?_)
  have h97 : jC W95 t = 2 := (congrFun hc96 _).trans h92
  refine j_runA hx 1 (tb := [(116, .aload_n 0)]) (jtb_ok (by decide +kernel)) (pc' := 117) (lv' := [(0, vR t)]) (st' := [vR t]) rfl ?_
  refine j_gd (fun h99 => ?_)
  refine j_new hx nlX1_49 (N := 2) rfl (by decide +kernel) h99 ?_
  refine j_ltn (fun W100 => ?_)
  refine j_runA hx 1 (tb := [(120, .dup)]) (jtb_ok (by decide +kernel)) (pc' := 121) (lv' := [(0, vR t)]) (st' := [vR (jX W95), vR (jX W95), vR t]) rfl ?_
  refine j_gd (fun h102 => ?_)
  refine j_WV (j_callI (av := []) (st := [vR (jX W95), vR t]) hx hr (Or.inr ⟨_, q478⟩) q479 rfl q480 md_fro_init np_fro_init (cro_init (jX W95) W100) (by decide) (Nat.le_of_ble_eq_true rfl) h102 (by decide) (by decide +kernel)) (fun q103 _ => ?_)
  refine j_gd (fun h105 => ?_)
  refine j_putR hx fwX1_65 (wi213 hm) kd213 h105 (by decide) (by decide +kernel) nr213 fr213 ?_
  refine j_ltw rfl (fun W106 hc107 => ?_)
  have h108 : jC W106 t = 2 := (congrFun hc107 _).trans h105
  refine j_runA hx 2 (tb := [(127, .aload_n 0), (128, .iconst 0)]) (jtb_ok (by decide +kernel)) (pc' := 129) (lv' := [(0, vR t)]) (st' := [vI (kI 0), vR t]) rfl ?_
  refine j_gd (fun h110 => ?_)
  refine j_nwA hx fwX1_68 wf214 ka214 ja214_3 h108 (by decide) nr214 fr214 (by decide +kernel) (by decide +kernel) h110 ?_
  refine j_ltw rfl (fun W111 hc112 => ?_)
  have h113 : jC W111 t = 2 := (congrFun hc112 _).trans h108
  refine j_runA hx 2 (tb := [(134, .aload_n 0), (135, .iconst 0)]) (jtb_ok (by decide +kernel)) (pc' := 136) (lv' := [(0, vR t)]) (st' := [vI (kI 0), vR t]) rfl ?_
  refine j_gd (fun h115 => ?_)
  refine j_nwA hx fwX1_71 wf215 ka215 ja215_3 h113 (by decide) nr215 fr215 (by decide +kernel) (by decide +kernel) h115 ?_
  refine j_ltw rfl (fun W116 hc117 => ?_)
  have h118 : jC W116 t = 2 := (congrFun hc117 _).trans h113
  refine j_runA hx 2 (tb := [(141, .aload_n 0), (142, .iconst 0)]) (jtb_ok (by decide +kernel)) (pc' := 143) (lv' := [(0, vR t)]) (st' := [vI (kI 0), vR t]) rfl ?_
  refine j_gd (fun h120 => ?_)
  refine j_nwA hx fwX1_74 wf216 ka216 ja216_5 h118 (by decide) nr216 fr216 (by decide +kernel) (by decide +kernel) h120 ?_
  refine j_ltw rfl (fun W121 hc122 => ?_)
  have h123 : jC W121 t = 2 := (congrFun hc122 _).trans h118
  exact j_vret hx hm (by decide +kernel) (he _)
theorem cpg_init (t : Nat) (W : jW) : jM yX1_init cX1_init 1 (Option.none : Option Jvm.ClassFile.FieldType) [] 9 135 [vR t] W ((fpg_init t W).bind (fun q => some (.returned none, q))) := 
  jM.of (Nat.le_of_ble_eq_true rfl) (fun x hx hm hr => wpg_init ⟨hx, hm, hr, fun _ => rfl⟩ W)
def hco_init (x : jCx) (en : (jW) → Option (Outcome × jW)) (t : Nat) : Prop :=
  jOK x RX7 cX7_init 1 ∧
  jMt x "<init>" (Option.none : Option Jvm.ClassFile.FieldType) [] ∧
  jRm x 2 26 ∧
  (∀ q : jW, en q = some (.returned none, q))
theorem wco_init {x : jCx} {en : (jW) → Option (Outcome × jW)} {t : Nat} (h : hco_init x en t) (W : jW) : jJ x 1 0 [(0, vR t)] [] W (fco_init t W) en := by
  have h0 := h
  obtain ⟨hx, hm, hr, he⟩ := h0
  unfold fco_init
  refine j_runA hx 1 (tb := [(0, .aload_n 0)]) (jtb_ok (by decide +kernel)) (pc' := 1) (lv' := [(0, vR t)]) (st' := [vR t]) rfl ?_
  refine j_gd (fun h1 => ?_)
  refine j_obj hx hr q591 h1 q264 q265 (by decide +kernel) (by decide) (Nat.le_of_ble_eq_true rfl) ?_
  refine j_runA hx 1 (tb := [(4, .aload_n 0)]) (jtb_ok (by decide +kernel)) (pc' := 5) (lv' := [(0, vR t)]) (st' := [vR t]) rfl ?_
  refine j_gd (fun h2 => ?_)
  refine j_new hx nlX7_7 (N := 2) rfl (by decide +kernel) h2 ?_
  refine j_ltn (fun W3 => ?_)
  refine j_runA hx 1 (tb := [(8, .dup)]) (jtb_ok (by decide +kernel)) (pc' := 9) (lv' := [(0, vR t)]) (st' := [vR (jX W), vR (jX W), vR t]) rfl ?_
  refine j_gd (fun h5 => ?_)
  refine j_WV (j_callI (av := []) (st := [vR (jX W), vR t]) hx hr (Or.inr ⟨_, q593⟩) q479 rfl q480 md_fro_init np_fro_init (cro_init (jX W) W3) (by decide) (Nat.le_of_ble_eq_true rfl) h5 (by decide) (by decide +kernel)) (fun q6 _ => ?_)
  refine j_gd (fun h8 => ?_)
  refine j_putR hx fwX7_10 (wi700 hm) kd700 h8 (by decide) (by decide +kernel) nr700 fr700 ?_
  refine j_ltw rfl (fun W9 hc10 => ?_)
  have h11 : jC W9 t = 7 := (congrFun hc10 _).trans h8
  refine j_runA hx 1 (tb := [(15, .aload_n 0)]) (jtb_ok (by decide +kernel)) (pc' := 16) (lv' := [(0, vR t)]) (st' := [vR t]) rfl ?_
  refine j_gd (fun h13 => ?_)
  refine j_new hx nlX7_7 (N := 2) rfl (by decide +kernel) h13 ?_
  refine j_ltn (fun W14 => ?_)
  refine j_runA hx 1 (tb := [(19, .dup)]) (jtb_ok (by decide +kernel)) (pc' := 20) (lv' := [(0, vR t)]) (st' := [vR (jX W9), vR (jX W9), vR t]) rfl ?_
  refine j_gd (fun h16 => ?_)
  refine j_WV (j_callI (av := []) (st := [vR (jX W9), vR t]) hx hr (Or.inr ⟨_, q593⟩) q479 rfl q480 md_fro_init np_fro_init (cro_init (jX W9) W14) (by decide) (Nat.le_of_ble_eq_true rfl) h16 (by decide) (by decide +kernel)) (fun q17 _ => ?_)
  refine j_gd (fun h19 => ?_)
  refine j_putR hx fwX7_16 (wi701 hm) kd701 h19 (by decide) (by decide +kernel) nr701 fr701 ?_
  refine j_ltw rfl (fun W20 hc21 => ?_)
  have h22 : jC W20 t = 7 := (congrFun hc21 _).trans h19
  refine j_runA hx 2 (tb := [(26, .aload_n 0), (27, .bipush 64)]) (jtb_ok (by decide +kernel)) (pc' := 29) (lv' := [(0, vR t)]) (st' := [vI (kI 64), vR t]) rfl ?_
  refine j_gd (fun h24 => ?_)
  refine j_nwB hx fwX7_19 wf702 kd702 ja702_6 h22 (by decide) nr702 fr702 (by decide +kernel) (by decide +kernel) h24 ?_
  refine j_ltw rfl (fun W25 hc26 => ?_)
  have h27 : jC W25 t = 7 := (congrFun hc26 _).trans h22
  refine j_runA hx 2 (tb := [(34, .aload_n 0), (35, .sipush 8192)]) (jtb_ok (by decide +kernel)) (pc' := 38) (lv' := [(0, vR t)]) (st' := [vI (kI 8192), vR t]) rfl ?_
  refine j_gd (fun h29 => ?_)
  refine j_nwA hx fwX7_23 (wi703 hm) ka703 ja703_3 h27 (by decide) nr703 fr703 (by decide +kernel) (by decide +kernel) h29 ?_
  refine j_ltw rfl (fun W30 hc31 => ?_)
  have h32 : jC W30 t = 7 := (congrFun hc31 _).trans h27
  exact j_vret hx hm (by decide +kernel) (he _)
theorem cco_init (t : Nat) (W : jW) : jM yX7_init cX7_init 1 (Option.none : Option Jvm.ClassFile.FieldType) [] 2 26 [vR t] W ((fco_init t W).bind (fun q => some (.returned none, q))) := 
  jM.of (Nat.le_of_ble_eq_true rfl) (fun x hx hm hr => wco_init ⟨hx, hm, hr, fun _ => rfl⟩ W)
def hcl_init (x : jCx) (en : (jW) → Option (Outcome × jW)) (t : Nat) : Prop :=
  jOK x RX0 cX0_init 1 ∧
  jMt x "<init>" (Option.none : Option Jvm.ClassFile.FieldType) [] ∧
  jRm x 10 149 ∧
  (∀ q : jW, en q = some (.returned none, q))
theorem wcl_init {x : jCx} {en : (jW) → Option (Outcome × jW)} {t : Nat} (h : hcl_init x en t) (W : jW) : jJ x 1 0 [(0, vR t)] [] W (fcl_init t W) en := by
  have h0 := h
  obtain ⟨hx, hm, hr, he⟩ := h0
  unfold fcl_init
  refine j_runA hx 1 (tb := [(0, .aload_n 0)]) (jtb_ok (by decide +kernel)) (pc' := 1) (lv' := [(0, vR t)]) (st' := [vR t]) rfl ?_
  refine j_gd (fun h1 => ?_)
  refine j_obj hx hr q263 h1 q264 q265 (by decide +kernel) (by decide) (Nat.le_of_ble_eq_true rfl) ?_
  refine j_runA hx 1 (tb := [(4, .aload_n 0)]) (jtb_ok (by decide +kernel)) (pc' := 5) (lv' := [(0, vR t)]) (st' := [vR t]) rfl ?_
  refine j_ldc hx (v := (kI 60000)) (jkc q266 (by decide +kernel)) (by decide +kernel) ?_
  refine j_gd (fun h2 => ?_)
  refine j_gd (fun h3 => ?_)
  refine j_nwA hx fwX0_18 (wi100 hm) ka100 ja100_4 h3 (by decide) nr100 fr100 (by decide +kernel) (by decide +kernel) h2 ?_
  refine j_ltw rfl (fun W4 hc5 => ?_)
  have h6 : jC W4 t = 1 := (congrFun hc5 _).trans h3
  refine j_runA hx 2 (tb := [(12, .aload_n 0), (13, .iconst (-1))]) (jtb_ok (by decide +kernel)) (pc' := 14) (lv' := [(0, vR t)]) (st' := [vI (kI (-1)), vR t]) rfl ?_
  refine j_putI hx fwX0_22 wf103 kd103 h6 (by decide) (by decide +kernel) (ni103 _) (fi103 _) ?_
  refine j_ltw rfl (fun W8 hc9 => ?_)
  have h10 : jC W8 t = 1 := (congrFun hc9 _).trans h6
  refine j_runA hx 1 (tb := [(17, .aload_n 0)]) (jtb_ok (by decide +kernel)) (pc' := 18) (lv' := [(0, vR t)]) (st' := [vR t]) rfl ?_
  refine j_gd (fun h12 => ?_)
  refine j_new hx nlX0_26 (N := 18) rfl (by decide +kernel) h12 ?_
  refine j_ltn (fun W13 => ?_)
  refine j_runA hx 1 (tb := [(21, .dup)]) (jtb_ok (by decide +kernel)) (pc' := 22) (lv' := [(0, vR t)]) (st' := [vR (jX W8), vR (jX W8), vR t]) rfl ?_
  refine j_gd (fun h15 => ?_)
  refine j_WV (j_callI (av := []) (st := [vR (jX W8), vR t]) hx hr (Or.inr ⟨_, q269⟩) q270 rfl q271 md_fpg_init np_fpg_init (cpg_init (jX W8) W13) (by decide) (Nat.le_of_ble_eq_true rfl) h15 (by decide) (by decide +kernel)) (fun q16 _ => ?_)
  refine j_gd (fun h18 => ?_)
  refine j_putR hx fwX0_29 wf104 kd104 h18 (by decide) (by decide +kernel) nr104 fr104 ?_
  refine j_ltw rfl (fun W19 hc20 => ?_)
  have h21 : jC W19 t = 1 := (congrFun hc20 _).trans h18
  refine j_runA hx 1 (tb := [(28, .aload_n 0)]) (jtb_ok (by decide +kernel)) (pc' := 29) (lv' := [(0, vR t)]) (st' := [vR t]) rfl ?_
  refine j_gd (fun h23 => ?_)
  refine j_new hx nlX0_26 (N := 18) rfl (by decide +kernel) h23 ?_
  refine j_ltn (fun W24 => ?_)
  refine j_runA hx 1 (tb := [(32, .dup)]) (jtb_ok (by decide +kernel)) (pc' := 33) (lv' := [(0, vR t)]) (st' := [vR (jX W19), vR (jX W19), vR t]) rfl ?_
  refine j_gd (fun h26 => ?_)
  refine j_WV (j_callI (av := []) (st := [vR (jX W19), vR t]) hx hr (Or.inr ⟨_, q269⟩) q270 rfl q271 md_fpg_init np_fpg_init (cpg_init (jX W19) W24) (by decide) (Nat.le_of_ble_eq_true rfl) h26 (by decide) (by decide +kernel)) (fun q27 _ => ?_)
  refine j_gd (fun h29 => ?_)
  refine j_putR hx fwX0_33 wf105 kd105 h29 (by decide) (by decide +kernel) nr105 fr105 ?_
  refine j_ltw rfl (fun W30 hc31 => ?_)
  have h32 : jC W30 t = 1 := (congrFun hc31 _).trans h29
  refine j_runA hx 1 (tb := [(39, .aload_n 0)]) (jtb_ok (by decide +kernel)) (pc' := 40) (lv' := [(0, vR t)]) (st' := [vR t]) rfl ?_
  refine j_gd (fun h34 => ?_)
  refine j_new hx nlX0_36 (N := 4) rfl (by decide +kernel) h34 ?_
  refine j_ltn (fun W35 => ?_)
  refine j_runA hx 1 (tb := [(43, .dup)]) (jtb_ok (by decide +kernel)) (pc' := 44) (lv' := [(0, vR t)]) (st' := [vR (jX W30), vR (jX W30), vR t]) rfl ?_
  refine j_gd (fun h37 => ?_)
  refine j_WV (j_callI (av := []) (st := [vR (jX W30), vR t]) hx hr (Or.inr ⟨_, q588⟩) q589 rfl q590 md_fco_init np_fco_init (cco_init (jX W30) W35) (by decide) (Nat.le_of_ble_eq_true rfl) h37 (by decide) (by decide +kernel)) (fun q38 _ => ?_)
  refine j_gd (fun h40 => ?_)
  refine j_putR hx fwX0_39 (wi108 hm) kd108 h40 (by decide) (by decide +kernel) nr108 fr108 ?_
  refine j_ltw rfl (fun W41 hc42 => ?_)
  have h43 : jC W41 t = 1 := (congrFun hc42 _).trans h40
  refine j_runA hx 1 (tb := [(50, .aload_n 0)]) (jtb_ok (by decide +kernel)) (pc' := 51) (lv' := [(0, vR t)]) (st' := [vR t]) rfl ?_
  refine j_gd (fun h45 => ?_)
  refine j_new hx nlX0_36 (N := 4) rfl (by decide +kernel) h45 ?_
  refine j_ltn (fun W46 => ?_)
  refine j_runA hx 1 (tb := [(54, .dup)]) (jtb_ok (by decide +kernel)) (pc' := 55) (lv' := [(0, vR t)]) (st' := [vR (jX W41), vR (jX W41), vR t]) rfl ?_
  refine j_gd (fun h48 => ?_)
  refine j_WV (j_callI (av := []) (st := [vR (jX W41), vR t]) hx hr (Or.inr ⟨_, q588⟩) q589 rfl q590 md_fco_init np_fco_init (cco_init (jX W41) W46) (by decide) (Nat.le_of_ble_eq_true rfl) h48 (by decide) (by decide +kernel)) (fun q49 _ => ?_)
  refine j_gd (fun h51 => ?_)
  refine j_putR hx fwX0_43 (wi109 hm) kd109 h51 (by decide) (by decide +kernel) nr109 fr109 ?_
  refine j_ltw rfl (fun W52 hc53 => ?_)
  have h54 : jC W52 t = 1 := (congrFun hc53 _).trans h51
  refine j_runA hx 1 (tb := [(61, .aload_n 0)]) (jtb_ok (by decide +kernel)) (pc' := 62) (lv' := [(0, vR t)]) (st' := [vR t]) rfl ?_
  refine j_gd (fun h56 => ?_)
  refine j_new hx nlX0_36 (N := 4) rfl (by decide +kernel) h56 ?_
  refine j_ltn (fun W57 => ?_)
  refine j_runA hx 1 (tb := [(65, .dup)]) (jtb_ok (by decide +kernel)) (pc' := 66) (lv' := [(0, vR t)]) (st' := [vR (jX W52), vR (jX W52), vR t]) rfl ?_
  refine j_gd (fun h59 => ?_)
  refine j_WV (j_callI (av := []) (st := [vR (jX W52), vR t]) hx hr (Or.inr ⟨_, q588⟩) q589 rfl q590 md_fco_init np_fco_init (cco_init (jX W52) W57) (by decide) (Nat.le_of_ble_eq_true rfl) h59 (by decide) (by decide +kernel)) (fun q60 _ => ?_)
  refine j_gd (fun h62 => ?_)
  refine j_putR hx fwX0_46 (wi110 hm) kd110 h62 (by decide) (by decide +kernel) nr110 fr110 ?_
  refine j_ltw rfl (fun W63 hc64 => ?_)
  have h65 : jC W63 t = 1 := (congrFun hc64 _).trans h62
  refine j_runA hx 2 (tb := [(72, .aload_n 0), (73, .iconst 3)]) (jtb_ok (by decide +kernel)) (pc' := 74) (lv' := [(0, vR t)]) (st' := [vI (kI 3), vR t]) rfl ?_
  refine j_gd (fun h67 => ?_)
  refine j_nwE (ci := 49) hx fwX0_51 (wi114 hm) kd114 h65 (by decide) nr114 fr114 q610 q611 (by decide +kernel) (by decide +kernel) h67 ?_
  refine j_ltw rfl (fun W68 hc69 => ?_)
  have h70 : jC W68 t = 1 := (congrFun hc69 _).trans h65
  refine j_runA hx 1 (tb := [(80, .aload_n 0)]) (jtb_ok (by decide +kernel)) (pc' := 81) (lv' := [(0, vR t)]) (st' := [vR t]) rfl ?_
  refine j_gd (fun h72 => ?_)
  refine j_new hx nlX0_55 (N := 3) rfl (by decide +kernel) h72 ?_
  refine j_ltn (fun W73 => ?_)
  refine j_runA hx 1 (tb := [(84, .dup)]) (jtb_ok (by decide +kernel)) (pc' := 85) (lv' := [(0, vR t)]) (st' := [vR (jX W68), vR (jX W68), vR t]) rfl ?_
  refine j_gd (fun h75 => ?_)
  refine j_WV (j_callI (av := []) (st := [vR (jX W68), vR t]) hx hr (Or.inl q614) q615 rfl q616 md_fal_init np_fal_init (cal_init (jX W68) W73) (by decide) (Nat.le_of_ble_eq_true rfl) h75 (by decide) (by decide +kernel)) (fun q76 _ => ?_)
  refine j_gd (fun h78 => ?_)
  refine j_putR hx fwX0_58 (wi116 hm) kd116 h78 (by decide) (by decide +kernel) nr116 fr116 ?_
  refine j_ltw rfl (fun W79 hc80 => ?_)
  have h81 : jC W79 t = 1 := (congrFun hc80 _).trans h78
  refine j_runA hx 1 (tb := [(91, .aload_n 0)]) (jtb_ok (by decide +kernel)) (pc' := 92) (lv' := [(0, vR t)]) (st' := [vR t]) rfl ?_
  refine j_gd (fun h83 => ?_)
  refine j_new hx nlX0_55 (N := 3) rfl (by decide +kernel) h83 ?_
  refine j_ltn (fun W84 => ?_)
  refine j_runA hx 1 (tb := [(95, .dup)]) (jtb_ok (by decide +kernel)) (pc' := 96) (lv' := [(0, vR t)]) (st' := [vR (jX W79), vR (jX W79), vR t]) rfl ?_
  refine j_gd (fun h86 => ?_)
  refine j_WV (j_callI (av := []) (st := [vR (jX W79), vR t]) hx hr (Or.inl q614) q615 rfl q616 md_fal_init np_fal_init (cal_init (jX W79) W84) (by decide) (Nat.le_of_ble_eq_true rfl) h86 (by decide) (by decide +kernel)) (fun q87 _ => ?_)
  refine j_gd (fun h89 => ?_)
  refine j_putR hx fwX0_62 (wi117 hm) kd117 h89 (by decide) (by decide +kernel) nr117 fr117 ?_
  refine j_ltw rfl (fun W90 hc91 => ?_)
  have h92 : jC W90 t = 1 := (congrFun hc91 _).trans h89
  refine j_runA hx 1 (tb := [(102, .aload_n 0)]) (jtb_ok (by decide +kernel)) (pc' := 103) (lv' := [(0, vR t)]) (st' := [vR t]) rfl ?_
  refine j_gd (fun h94 => ?_)
  refine j_new hx nlX0_55 (N := 3) rfl (by decide +kernel) h94 ?_
  refine j_ltn (fun W95 => ?_)
  refine j_runA hx 1 (tb := [(106, .dup)]) (jtb_ok (by decide +kernel)) (pc' := 107) (lv' := [(0, vR t)]) (st' := [vR (jX W90), vR (jX W90), vR t]) rfl ?_
  refine j_gd (fun h97 => ?_)
  refine j_WV (j_callI (av := []) (st := [vR (jX W90), vR t]) hx hr (Or.inl q614) q615 rfl q616 md_fal_init np_fal_init (cal_init (jX W90) W95) (by decide) (Nat.le_of_ble_eq_true rfl) h97 (by decide) (by decide +kernel)) (fun q98 _ => ?_)
  refine j_gd (fun h100 => ?_)
  refine j_putR hx fwX0_65 (wi118 hm) kd118 h100 (by decide) (by decide +kernel) nr118 fr118 ?_
  refine j_ltw rfl (fun W101 hc102 => ?_)
  have h103 : jC W101 t = 1 := (congrFun hc102 _).trans h100
  refine j_runA hx 1 (tb := [(113, .aload_n 0)]) (jtb_ok (by decide +kernel)) (pc' := 114) (lv' := [(0, vR t)]) (st' := [vR t]) rfl ?_
  refine j_gd (fun h105 => ?_)
  refine j_new hx nlX0_68 (N := 3) rfl (by decide +kernel) h105 ?_
  refine j_ltn (fun W106 => ?_)
  refine j_runA hx 1 (tb := [(117, .dup)]) (jtb_ok (by decide +kernel)) (pc' := 118) (lv' := [(0, vR t)]) (st' := [vR (jX W101), vR (jX W101), vR t]) rfl ?_
  refine j_gd (fun h108 => ?_)
  refine j_WV (j_callI (av := []) (st := [vR (jX W101), vR t]) hx hr (Or.inr ⟨_, q639⟩) q276 rfl q277 md_ftr_init np_ftr_init (ctr_init (jX W101) W106) (by decide) (Nat.le_of_ble_eq_true rfl) h108 (by decide) (by decide +kernel)) (fun q109 _ => ?_)
  refine j_gd (fun h111 => ?_)
  refine j_putR hx fwX0_71 (wi120 hm) kd120 h111 (by decide) (by decide +kernel) nr120 fr120 ?_
  refine j_ltw rfl (fun W112 hc113 => ?_)
  have h114 : jC W112 t = 1 := (congrFun hc113 _).trans h111
  refine j_runA hx 1 (tb := [(124, .aload_n 0)]) (jtb_ok (by decide +kernel)) (pc' := 125) (lv' := [(0, vR t)]) (st' := [vR t]) rfl ?_
  refine j_gd (fun h116 => ?_)
  refine j_new hx nlX0_75 (N := 22) rfl (by decide +kernel) h116 ?_
  refine j_ltn (fun W117 => ?_)
  refine j_runA hx 2 (tb := [(128, .dup), (129, .aload_n 0)]) (jtb_ok (by decide +kernel)) (pc' := 130) (lv' := [(0, vR t)]) (st' := [vR t, vR (jX W112), vR (jX W112), vR t]) rfl ?_
  refine j_gd (fun h119 => ?_)
  refine j_getR hx flX0_71 kl120 h119 (by decide) (by decide +kernel) ?_
  refine j_gd (fun h120 => ?_)
  refine j_WV (j_callI (av := [vR (jR W117 120 t)]) (st := [vR (jX W112), vR t]) hx hr (Or.inl q641) q357 rfl q358 md_fsh_init np_fsh_init (csh_init (jX W112) (jR W117 120 t) W117) (by decide) (Nat.le_of_ble_eq_true rfl) h120 (by decide) (by decide +kernel)) (fun q121 _ => ?_)
  refine j_gd (fun h123 => ?_)
  refine j_putR hx fwX0_80 (wi121 hm) kd121 h123 (by decide) (by decide +kernel) nr121 fr121 ?_
  refine j_ltw rfl (fun W124 hc125 => ?_)
  have h126 : jC W124 t = 1 := (congrFun hc125 _).trans h123
  refine j_runA hx 2 (tb := [(139, .aload_n 0), (140, .iconst 0)]) (jtb_ok (by decide +kernel)) (pc' := 141) (lv' := [(0, vR t)]) (st' := [vI (kI 0), vR t]) rfl ?_
  refine j_gd (fun h128 => ?_)
  refine j_newA hx (f := 9003) (by decide) ka9003 ja9003_3 (by decide +kernel) h128 ?_
  refine j_ltw rfl (fun W129 hc130 => ?_)
  have h131 : jC W129 t = 1 := (congrFun hc130 _).trans h126
  refine j_putR hx fwX0_84 wf122 kd122 h131 (by decide) (by decide +kernel) nr122 fr122 ?_
  refine j_ltw rfl (fun W133 hc134 => ?_)
  have h135 : jC W133 t = 1 := (congrFun hc134 _).trans h131
  exact j_vret hx hm (by decide +kernel) (he _)
theorem ccl_init (t : Nat) (W : jW) : jM yX0_init cX0_init 1 (Option.none : Option Jvm.ClassFile.FieldType) [] 10 149 [vR t] W ((fcl_init t W).bind (fun q => some (.returned none, q))) := 
  jM.of (Nat.le_of_ble_eq_true rfl) (fun x hx hm hr => wcl_init ⟨hx, hm, hr, fun _ => rfl⟩ W)
def hcl_word (x : jCx) (en : (fcl_word_S ⊕ (jW)) → Option (Outcome × jW)) (t : Nat) (a1 : Int32) : Prop :=
  jOK x RX0 cX0_word 3 ∧
  jMt x "word" (Option.none : Option Jvm.ClassFile.FieldType) [] ∧
  jRm x 0 0 ∧
  (∀ q : jW, en (.inr q) = some (.returned none, q)) ∧
  (∀ (l2 : Int32) (W : jW), jJ x 3 2 [(0, vR t), (1, vI a1), (2, vI l2)] [] W (some (.inl (l2, W))) en)
theorem wcl_word_2 {x : jCx} {en : (fcl_word_S ⊕ (jW)) → Option (Outcome × jW)} {t : Nat} {a1 : Int32} (h : hcl_word x en t a1) (l2 : Int32) (W : jW) : jJ x 3 2 [(0, vR t), (1, vI a1), (2, vI l2)] [] W (fcl_word_2 t a1 l2 W) en := by
  have h0 := h
  obtain ⟨hx, hm, hr, he, k2⟩ := h0
  unfold fcl_word_2
  refine j_runA hx 2 (tb := [(2, .iload_n 2), (3, .iconst 4)]) (jtb_ok (by decide +kernel)) (pc' := 4) (lv' := [(0, vR t), (1, vI a1), (2, vI l2)]) (st' := [vI (kI 4), vI l2]) rfl ?_
  refine j_icmp_ge hx (off := 38) (tgt := 42) (by decide +kernel) (by decide) (fun _ => ?_) (fun _ => ?_)
  · exact j_vret hx hm (by decide +kernel) (he _)
  refine j_runA hx 1 (tb := [(7, .aload_n 0)]) (jtb_ok (by decide +kernel)) (pc' := 8) (lv' := [(0, vR t), (1, vI a1), (2, vI l2)]) (st' := [vR t]) rfl ?_
  refine j_gd (fun h2 => ?_)
  refine j_getR hx flX0_18 kl100 h2 (by decide) (by decide +kernel) ?_
  refine j_runA hx 1 (tb := [(11, .aload_n 0)]) (jtb_ok (by decide +kernel)) (pc' := 12) (lv' := [(0, vR t), (1, vI a1), (2, vI l2)]) (st' := [vR t, vR (jR W 100 t)]) rfl ?_
  refine j_getI hx flX0_88 kd101 h2 (by decide) (by decide +kernel) ?_
  refine j_runA hx 8 (tb := [(15, .iload_n 1), (16, .bipush 24), (18, .bipush 8), (20, .iload_n 2), (21, .imul), (22, .isub), (23, .ishr), (24, .i2b)]) (jtb_ok (by decide +kernel)) (pc' := 25) (lv' := [(0, vR t), (1, vI a1), (2, vI l2)]) (st' := [vI (i2b (ixr a1 ((kI 24) - ((kI 8) * l2)))), vI (jI W 101 t), vR (jR W 100 t)]) rfl ?_
  refine j_gd (fun h3 => ?_)
  refine j_bast hx (f := 100) (o := t) kd100 rfl (by decide +kernel) h3 ?_
  refine j_ltw rfl (fun W4 hc5 => ?_)
  have h6 : jC W4 t = 1 := (congrFun hc5 _).trans h2
  refine j_runA hx 2 (tb := [(26, .aload_n 0), (27, .dup)]) (jtb_ok (by decide +kernel)) (pc' := 28) (lv' := [(0, vR t), (1, vI a1), (2, vI l2)]) (st' := [vR t, vR t]) rfl ?_
  refine j_getI hx flX0_88 kd101 h6 (by decide) (by decide +kernel) ?_
  refine j_runA hx 2 (tb := [(31, .iconst 1), (32, .iadd)]) (jtb_ok (by decide +kernel)) (pc' := 33) (lv' := [(0, vR t), (1, vI a1), (2, vI l2)]) (st' := [vI ((jI W4 101 t) + (kI 1)), vR t]) rfl ?_
  refine j_putI hx fwX0_88 wf101 kd101 h6 (by decide) (by decide +kernel) (ni101 _) (fi101 _) ?_
  refine j_ltw rfl (fun W8 hc9 => ?_)
  have h10 : jC W8 t = 1 := (congrFun hc9 _).trans h6
  refine j_runA hx 1 (tb := [(36, .iinc 2 1)]) (jtb_ok (by decide +kernel)) (pc' := 39) (lv' := [(2, vI (l2 + (kI 1))), (0, vR t), (1, vI a1)]) (st' := []) rfl ?_
  refine j_let (v := (l2 + (kI 1))) (lv := fun v12 => [(2, vI v12), (0, vR t), (1, vI a1)]) (st := fun _ => []) (fun v12 => ?_)
  refine j_goto hx (off := -37) (by decide +kernel) (tgt := 2) (by decide) ?_
  refine j_lv (lv' := [(0, vR t), (1, vI a1), (2, vI v12)]) ⟨rfl, rfl, rfl, trivial⟩ ?_
  exact k2 v12 W8
theorem wcl_word {x : jCx} {en : (fcl_word_S ⊕ (jW)) → Option (Outcome × jW)} {t : Nat} {a1 : Int32} (h : hcl_word x en t a1) (W : jW) : jJ x 3 0 [(0, vR t), (1, vI a1)] [] W (fcl_word_0 t a1 W) en := by
  have h0 := h
  obtain ⟨hx, hm, hr, he, k2⟩ := h0
  unfold fcl_word_0
  refine j_runA hx 2 (tb := [(0, .iconst 0), (1, .istore_n 2)]) (jtb_ok (by decide +kernel)) (pc' := 2) (lv' := [(2, vI (kI 0)), (0, vR t), (1, vI a1)]) (st' := []) rfl ?_
  refine j_lv (lv' := [(0, vR t), (1, vI a1), (2, vI (kI 0))]) ⟨rfl, rfl, rfl, trivial⟩ ?_
  exact k2 (kI 0) W
theorem ccl_word (t : Nat) (a1 : Int32) (W : jW) : jM yX0_word cX0_word 3 (Option.none : Option Jvm.ClassFile.FieldType) [] 0 0 [vR t, vI a1] W ((fcl_word t a1 W).bind (fun q => some (.returned none, q))) := by
  refine jM.of (Nat.le_of_ble_eq_true rfl) (fun x hx hm hr => ?_)
  refine j_begin (P := (fun s => (2, [(0, vR t), (1, vI a1), (2, vI s.1)], s.2))) (fun en he hk => ?_)
  have h : hcl_word x en t a1 := ⟨hx, hm, hr, fun q => he _, fun l2 W => hk (l2, W)⟩
  exact ⟨fun s => wcl_word_2 h s.1 s.2, wcl_word h W⟩
def hcl_feed (x : jCx) (en : (Int32 × jW) → Option (Outcome × jW)) (t : Nat) (a1 : Int32) (a2 : Int32) (a3 : Int32) (a4 : Int32) (a5 : Int32) : Prop :=
  jOK x RX0 cX0_feed 6 ∧
  jMt x "feed" (Option.some Jvm.ClassFile.FieldType.int) [] ∧
  jRm x 1 14 ∧
  (∀ q : Int32 × jW, en q = some (.returned (some (.int q.1)), q.2))
theorem wcl_feed_24 {x : jCx} {en : (Int32 × jW) → Option (Outcome × jW)} {t : Nat} {a1 : Int32} {a2 : Int32} {a3 : Int32} {a4 : Int32} {a5 : Int32} (h : hcl_feed x en t a1 a2 a3 a4 a5) (W : jW) : jJ x 6 24 [(0, vR t), (1, vI a1), (2, vI a2), (3, vI a3), (4, vI a4), (5, vI a5)] [] W (fcl_feed_24 t a1 a2 a3 a4 a5 W) en := by
  have h0 := h
  obtain ⟨hx, hm, hr, he⟩ := h0
  unfold fcl_feed_24
  refine j_runA hx 1 (tb := [(24, .iconst (-1))]) (jtb_ok (by decide +kernel)) (pc' := 25) (lv' := [(0, vR t), (1, vI a1), (2, vI a2), (3, vI a3), (4, vI a4), (5, vI a5)]) (st' := [vI (kI (-1))]) rfl ?_
  exact j_iret hx hm (by decide +kernel) rfl (he _)
theorem wcl_feed {x : jCx} {en : (Int32 × jW) → Option (Outcome × jW)} {t : Nat} {a1 : Int32} {a2 : Int32} {a3 : Int32} {a4 : Int32} {a5 : Int32} (h : hcl_feed x en t a1 a2 a3 a4 a5) (W : jW) : jJ x 6 0 [(0, vR t), (1, vI a1), (2, vI a2), (3, vI a3), (4, vI a4), (5, vI a5)] [] W (fcl_feed t a1 a2 a3 a4 a5 W) en := by
  have h0 := h
  obtain ⟨hx, hm, hr, he⟩ := h0
  unfold fcl_feed
  refine j_runA hx 1 (tb := [(0, .aload_n 0)]) (jtb_ok (by decide +kernel)) (pc' := 1) (lv' := [(0, vR t), (1, vI a1), (2, vI a2), (3, vI a3), (4, vI a4), (5, vI a5)]) (st' := [vR t]) rfl ?_
  refine j_gd (fun h1 => ?_)
  refine j_getI hx flX0_88 kd101 h1 (by decide) (by decide +kernel) ?_
  refine j_runA hx 2 (tb := [(4, .bipush 20), (6, .iadd)]) (jtb_ok (by decide +kernel)) (pc' := 7) (lv' := [(0, vR t), (1, vI a1), (2, vI a2), (3, vI a3), (4, vI a4), (5, vI a5)]) (st' := [vI ((jI W 101 t) + (kI 20))]) rfl ?_
  refine j_ldc hx (v := (kI 60000)) (jkc q266 (by decide +kernel)) (by decide +kernel) ?_
  refine j_icmp_gt hx (off := 15) (tgt := 24) (by decide +kernel) (by decide) (fun _ => ?_) (fun _ => ?_)
  · exact wcl_feed_24 h W
  refine j_runA hx 1 (tb := [(12, .aload_n 0)]) (jtb_ok (by decide +kernel)) (pc' := 13) (lv' := [(0, vR t), (1, vI a1), (2, vI a2), (3, vI a3), (4, vI a4), (5, vI a5)]) (st' := [vR t]) rfl ?_
  refine j_getI hx flX0_91 kd102 h1 (by decide) (by decide +kernel) ?_
  refine j_runA hx 2 (tb := [(16, .bipush 20), (18, .iadd)]) (jtb_ok (by decide +kernel)) (pc' := 19) (lv' := [(0, vR t), (1, vI a1), (2, vI a2), (3, vI a3), (4, vI a4), (5, vI a5)]) (st' := [vI ((jI W 102 t) + (kI 20))]) rfl ?_
  refine j_ldc hx (v := (kI 131072)) (jkc q719 (by decide +kernel)) (by decide +kernel) ?_
  refine j_icmp_le hx (off := 5) (tgt := 26) (by decide +kernel) (by decide) (fun _ => ?_) (fun _ => ?_)
  · refine j_runA hx 2 (tb := [(26, .aload_n 0), (27, .iload_n 1)]) (jtb_ok (by decide +kernel)) (pc' := 28) (lv' := [(0, vR t), (1, vI a1), (2, vI a2), (3, vI a3), (4, vI a4), (5, vI a5)]) (st' := [vI a1, vR t]) rfl ?_
    refine j_WV (j_callV (av := [vI a1]) (st := []) hx hr (Or.inl q720) q722 qs1 rfl md_fcl_word np_fcl_word (ccl_word t a1 W) (by decide) (Nat.le_of_ble_eq_true rfl) h1 (by decide) (by decide +kernel)) (fun q2 _ => ?_)
    refine j_runA hx 2 (tb := [(31, .aload_n 0), (32, .iload_n 2)]) (jtb_ok (by decide +kernel)) (pc' := 33) (lv' := [(0, vR t), (1, vI a1), (2, vI a2), (3, vI a3), (4, vI a4), (5, vI a5)]) (st' := [vI a2, vR t]) rfl ?_
    refine j_gd (fun h4 => ?_)
    refine j_WV (j_callV (av := [vI a2]) (st := []) hx hr (Or.inl q720) q722 qs1 rfl md_fcl_word np_fcl_word (ccl_word t a2 q2) (by decide) (Nat.le_of_ble_eq_true rfl) h4 (by decide) (by decide +kernel)) (fun q5 _ => ?_)
    refine j_runA hx 2 (tb := [(36, .aload_n 0), (37, .iload_n 3)]) (jtb_ok (by decide +kernel)) (pc' := 38) (lv' := [(0, vR t), (1, vI a1), (2, vI a2), (3, vI a3), (4, vI a4), (5, vI a5)]) (st' := [vI a3, vR t]) rfl ?_
    refine j_gd (fun h7 => ?_)
    refine j_WV (j_callV (av := [vI a3]) (st := []) hx hr (Or.inl q720) q722 qs1 rfl md_fcl_word np_fcl_word (ccl_word t a3 q5) (by decide) (Nat.le_of_ble_eq_true rfl) h7 (by decide) (by decide +kernel)) (fun q8 _ => ?_)
    refine j_runA hx 2 (tb := [(41, .aload_n 0), (42, .iload 4)]) (jtb_ok (by decide +kernel)) (pc' := 44) (lv' := [(0, vR t), (1, vI a1), (2, vI a2), (3, vI a3), (4, vI a4), (5, vI a5)]) (st' := [vI a4, vR t]) rfl ?_
    refine j_gd (fun h10 => ?_)
    refine j_WV (j_callV (av := [vI a4]) (st := []) hx hr (Or.inl q720) q722 qs1 rfl md_fcl_word np_fcl_word (ccl_word t a4 q8) (by decide) (Nat.le_of_ble_eq_true rfl) h10 (by decide) (by decide +kernel)) (fun q11 _ => ?_)
    refine j_runA hx 2 (tb := [(47, .aload_n 0), (48, .iload 5)]) (jtb_ok (by decide +kernel)) (pc' := 50) (lv' := [(0, vR t), (1, vI a1), (2, vI a2), (3, vI a3), (4, vI a4), (5, vI a5)]) (st' := [vI a5, vR t]) rfl ?_
    refine j_gd (fun h13 => ?_)
    refine j_WV (j_callV (av := [vI a5]) (st := []) hx hr (Or.inl q720) q722 qs1 rfl md_fcl_word np_fcl_word (ccl_word t a5 q11) (by decide) (Nat.le_of_ble_eq_true rfl) h13 (by decide) (by decide +kernel)) (fun q14 _ => ?_)
    refine j_runA hx 2 (tb := [(53, .aload_n 0), (54, .dup)]) (jtb_ok (by decide +kernel)) (pc' := 55) (lv' := [(0, vR t), (1, vI a1), (2, vI a2), (3, vI a3), (4, vI a4), (5, vI a5)]) (st' := [vR t, vR t]) rfl ?_
    refine j_gd (fun h16 => ?_)
    refine j_getI hx flX0_91 kd102 h16 (by decide) (by decide +kernel) ?_
    refine j_runA hx 2 (tb := [(58, .bipush 20), (60, .iadd)]) (jtb_ok (by decide +kernel)) (pc' := 61) (lv' := [(0, vR t), (1, vI a1), (2, vI a2), (3, vI a3), (4, vI a4), (5, vI a5)]) (st' := [vI ((jI q14 102 t) + (kI 20)), vR t]) rfl ?_
    refine j_putI hx fwX0_91 wf102 kd102 h16 (by decide) (by decide +kernel) (ni102 _) (fi102 _) ?_
    refine j_ltw rfl (fun W17 hc18 => ?_)
    have h19 : jC W17 t = 1 := (congrFun hc18 _).trans h16
    refine j_runA hx 1 (tb := [(64, .aload_n 0)]) (jtb_ok (by decide +kernel)) (pc' := 65) (lv' := [(0, vR t), (1, vI a1), (2, vI a2), (3, vI a3), (4, vI a4), (5, vI a5)]) (st' := [vR t]) rfl ?_
    refine j_getI hx flX0_88 kd101 h19 (by decide) (by decide +kernel) ?_
    exact j_iret hx hm (by decide +kernel) rfl (he _)
  exact wcl_feed_24 h W
theorem ccl_feed (t : Nat) (a1 : Int32) (a2 : Int32) (a3 : Int32) (a4 : Int32) (a5 : Int32) (W : jW) : jM yX0_feed cX0_feed 6 (Option.some Jvm.ClassFile.FieldType.int) [] 1 14 [vR t, vI a1, vI a2, vI a3, vI a4, vI a5] W ((fcl_feed t a1 a2 a3 a4 a5 W).bind (fun q => some (.returned (some (.int q.1)), q.2))) := 
  jM.of (Nat.le_of_ble_eq_true rfl) (fun x hx hm hr => wcl_feed ⟨hx, hm, hr, fun _ => rfl⟩ W)
def hcl_end (x : jCx) (en : (Int32 × jW) → Option (Outcome × jW)) (t : Nat) (a1 : Int32) : Prop :=
  jOK x RX0 cX0_end 2 ∧
  jMt x "end" (Option.some Jvm.ClassFile.FieldType.boolean) [] ∧
  jRm x 0 0 ∧
  (∀ q : Int32 × jW, en q = some (.returned (some (.int q.1)), q.2))
theorem wcl_end_12 {x : jCx} {en : (Int32 × jW) → Option (Outcome × jW)} {t : Nat} {a1 : Int32} (h : hcl_end x en t a1) (W : jW) : jJ x 2 12 [(0, vR t), (1, vI a1)] [] W (fcl_end_12 t a1 W) en := by
  have h0 := h
  obtain ⟨hx, hm, hr, he⟩ := h0
  unfold fcl_end_12
  refine j_runA hx 1 (tb := [(12, .iconst 0)]) (jtb_ok (by decide +kernel)) (pc' := 13) (lv' := [(0, vR t), (1, vI a1)]) (st' := [vI (kI 0)]) rfl ?_
  exact j_iret hx hm (by decide +kernel) jz0n (he _)
theorem wcl_end {x : jCx} {en : (Int32 × jW) → Option (Outcome × jW)} {t : Nat} {a1 : Int32} (h : hcl_end x en t a1) (W : jW) : jJ x 2 0 [(0, vR t), (1, vI a1)] [] W (fcl_end t a1 W) en := by
  have h0 := h
  obtain ⟨hx, hm, hr, he⟩ := h0
  unfold fcl_end
  refine j_runA hx 1 (tb := [(0, .iload_n 1)]) (jtb_ok (by decide +kernel)) (pc' := 1) (lv' := [(0, vR t), (1, vI a1)]) (st' := [vI a1]) rfl ?_
  refine j_if_lt hx (off := 11) (tgt := 12) (by decide +kernel) (by decide) (fun _ => ?_) (fun _ => ?_)
  · exact wcl_end_12 h W
  refine j_runA hx 2 (tb := [(4, .iload_n 1), (5, .aload_n 0)]) (jtb_ok (by decide +kernel)) (pc' := 6) (lv' := [(0, vR t), (1, vI a1)]) (st' := [vR t, vI a1]) rfl ?_
  refine j_gd (fun h1 => ?_)
  refine j_getI hx flX0_88 kd101 h1 (by decide) (by decide +kernel) ?_
  refine j_icmp_le hx (off := 5) (tgt := 14) (by decide +kernel) (by decide) (fun _ => ?_) (fun _ => ?_)
  · refine j_runA hx 2 (tb := [(14, .aload_n 0), (15, .iload_n 1)]) (jtb_ok (by decide +kernel)) (pc' := 16) (lv' := [(0, vR t), (1, vI a1)]) (st' := [vI a1, vR t]) rfl ?_
    refine j_putI hx fwX0_88 wf101 kd101 h1 (by decide) (by decide +kernel) (ni101 _) (fi101 _) ?_
    refine j_ltw rfl (fun W2 hc3 => ?_)
    have h4 : jC W2 t = 1 := (congrFun hc3 _).trans h1
    refine j_runA hx 1 (tb := [(19, .iconst 1)]) (jtb_ok (by decide +kernel)) (pc' := 20) (lv' := [(0, vR t), (1, vI a1)]) (st' := [vI (kI 1)]) rfl ?_
    exact j_iret hx hm (by decide +kernel) jz1n (he _)
  exact wcl_end_12 h W
theorem ccl_end (t : Nat) (a1 : Int32) (W : jW) : jM yX0_end cX0_end 2 (Option.some Jvm.ClassFile.FieldType.boolean) [] 0 0 [vR t, vI a1] W ((fcl_end t a1 W).bind (fun q => some (.returned (some (.int q.1)), q.2))) := 
  jM.of (Nat.le_of_ble_eq_true rfl) (fun x hx hm hr => wcl_end ⟨hx, hm, hr, fun _ => rfl⟩ W)
def hhe_size (x : jCx) (en : (Int32) → Option (Outcome × jW)) (t : Nat) (W : jW) : Prop :=
  jOK x RX5 cX5_size 1 ∧
  jMt x "size" (Option.some Jvm.ClassFile.FieldType.int) [] ∧
  jRm x 0 0 ∧
  (∀ q : Int32, en q = some (.returned (some (.int q)), W))
theorem whe_size {x : jCx} {en : (Int32) → Option (Outcome × jW)} {W : jW} {t : Nat} (h : hhe_size x en t W) : jJ x 1 0 [(0, vR t)] [] W (fhe_size t W) en := by
  have h0 := h
  obtain ⟨hx, hm, hr, he⟩ := h0
  unfold fhe_size
  refine j_runA hx 1 (tb := [(0, .aload_n 0)]) (jtb_ok (by decide +kernel)) (pc' := 1) (lv' := [(0, vR t)]) (st' := [vR t]) rfl ?_
  refine j_gd (fun h1 => ?_)
  refine j_getI hx flX5_16 kd501 h1 (by decide) (by decide +kernel) ?_
  exact j_iret hx hm (by decide +kernel) rfl (he _)
theorem che_size (t : Nat) (W : jW) : jM yX5_size cX5_size 1 (Option.some Jvm.ClassFile.FieldType.int) [] 0 0 [vR t] W ((fhe_size t W).bind (fun q => some (.returned (some (.int q)), W))) := 
  jM.of (Nat.le_of_ble_eq_true rfl) (fun x hx hm hr => whe_size ⟨hx, hm, hr, fun _ => rfl⟩)
def hwr_size (x : jCx) (en : (Int32) → Option (Outcome × jW)) (t : Nat) (W : jW) : Prop :=
  jOK x RX14 cX14_size 1 ∧
  jMt x "size" (Option.some Jvm.ClassFile.FieldType.int) [] ∧
  jRm x 0 0 ∧
  (∀ q : Int32, en q = some (.returned (some (.int q)), W))
theorem wwr_size {x : jCx} {en : (Int32) → Option (Outcome × jW)} {W : jW} {t : Nat} (h : hwr_size x en t W) : jJ x 1 0 [(0, vR t)] [] W (fwr_size t W) en := by
  have h0 := h
  obtain ⟨hx, hm, hr, he⟩ := h0
  unfold fwr_size
  refine j_runA hx 1 (tb := [(0, .aload_n 0)]) (jtb_ok (by decide +kernel)) (pc' := 1) (lv' := [(0, vR t)]) (st' := [vR t]) rfl ?_
  refine j_gd (fun h1 => ?_)
  refine j_getR hx flX14_30 kl900 h1 (by decide) (by decide +kernel) ?_
  refine j_gd (fun h2 => ?_)
  refine j_getR hx flX14_215 kl202 h2 (by decide) (by decide +kernel) ?_
  refine j_gd (fun h3 => ?_)
  refine j_getI hx flX14_218 kd501 h3 (by decide) (by decide +kernel) ?_
  refine j_runA hx 1 (tb := [(10, .aload_n 0)]) (jtb_ok (by decide +kernel)) (pc' := 11) (lv' := [(0, vR t)]) (st' := [vR t, vI (jI W 501 (jR W 202 (jR W 900 t)))]) rfl ?_
  refine j_getI hx flX14_223 kd914 h1 (by decide) (by decide +kernel) ?_
  refine j_runA hx 1 (tb := [(14, .iadd)]) (jtb_ok (by decide +kernel)) (pc' := 15) (lv' := [(0, vR t)]) (st' := [vI ((jI W 501 (jR W 202 (jR W 900 t))) + (jI W 914 t))]) rfl ?_
  exact j_iret hx hm (by decide +kernel) rfl (he _)
theorem cwr_size (t : Nat) (W : jW) : jM yX14_size cX14_size 1 (Option.some Jvm.ClassFile.FieldType.int) [] 0 0 [vR t] W ((fwr_size t W).bind (fun q => some (.returned (some (.int q)), W))) := 
  jM.of (Nat.le_of_ble_eq_true rfl) (fun x hx hm hr => wwr_size ⟨hx, hm, hr, fun _ => rfl⟩)
theorem vd_fsr_size_l {x : jCx} {nL pc : Nat} {lv : List (Nat × jV)} {stk st : List jV} {w : jW} {t : Nat} (h : jC w t = 5) (k : jCall x nL pc lv stk st w ((fhe_size t w).bind fun q => some (.returned (some (.int q)), w))) : jCall x nL pc lv stk st w ((fsr_size t w).bind fun q => some (.returned (some (.int q)), w)) := by
  unfold fsr_size
  rw [if_pos h]
  exact k
theorem vd_fsr_size_r {x : jCx} {nL pc : Nat} {lv : List (Nat × jV)} {stk st : List jV} {w : jW} {t : Nat} (h : jC w t = 9) (k : jCall x nL pc lv stk st w ((fwr_size t w).bind fun q => some (.returned (some (.int q)), w))) : jCall x nL pc lv stk st w ((fsr_size t w).bind fun q => some (.returned (some (.int q)), w)) := by
  unfold fsr_size
  rw [if_neg (by rw [h]; decide)]
  exact k
def htr_must (x : jCx) (en : ((Nat × jW) ⊕ jW) → Option (Outcome × jW)) (t : Nat) (a1 : Int32) (a2 : Int32) (a3 : Int32) : Prop :=
  jOK x RX2 cX2_must 4 ∧
  jMt x "must" (Option.none : Option Jvm.ClassFile.FieldType) [] ∧
  jRm x 0 0 ∧
  (∀ q : jW, en (.inr q) = some (.returned none, q)) ∧
  (∀ z : Nat × jW, en (.inl z) = some (.threw (z.1 - 1), z.2))
theorem wtr_must {x : jCx} {en : ((Nat × jW) ⊕ jW) → Option (Outcome × jW)} {t : Nat} {a1 : Int32} {a2 : Int32} {a3 : Int32} (h : htr_must x en t a1 a2 a3) (W : jW) : jJ x 4 0 [(0, vR t), (1, vI a1), (2, vI a2), (3, vI a3)] [] W (ftr_must t a1 a2 a3 W) en := by
  have h0 := h
  obtain ⟨hx, hm, hr, he, ht⟩ := h0
  unfold ftr_must
  refine j_runA hx 1 (tb := [(0, .iload_n 1)]) (jtb_ok (by decide +kernel)) (pc' := 1) (lv' := [(0, vR t), (1, vI a1), (2, vI a2), (3, vI a3)]) (st' := [vI a1]) rfl ?_
  refine j_if_eq hx (off := 4) (tgt := 5) (by decide +kernel) (by decide) (fun _ => ?_) (fun _ => ?_)
  · refine j_runA hx 2 (tb := [(5, .aload_n 0), (6, .iload_n 2)]) (jtb_ok (by decide +kernel)) (pc' := 7) (lv' := [(0, vR t), (1, vI a1), (2, vI a2), (3, vI a3)]) (st' := [vI a2, vR t]) rfl ?_
    refine j_gd (fun h1 => ?_)
    refine j_putI hx fwX2_16 wf300 kd300 h1 (by decide) (by decide +kernel) (ni300 _) (fi300 _) ?_
    refine j_ltw rfl (fun W2 hc3 => ?_)
    have h4 : jC W2 t = 3 := (congrFun hc3 _).trans h1
    refine j_runA hx 2 (tb := [(10, .aload_n 0), (11, .iload_n 3)]) (jtb_ok (by decide +kernel)) (pc' := 12) (lv' := [(0, vR t), (1, vI a1), (2, vI a2), (3, vI a3)]) (st' := [vI a3, vR t]) rfl ?_
    refine j_putI hx fwX2_20 wf301 kd301 h4 (by decide) (by decide +kernel) (ni301 _) (fi301 _) ?_
    refine j_ltw rfl (fun W6 hc7 => ?_)
    have h8 : jC W6 t = 3 := (congrFun hc7 _).trans h4
    refine j_runA hx 1 (tb := [(15, .aload_n 0)]) (jtb_ok (by decide +kernel)) (pc' := 16) (lv' := [(0, vR t), (1, vI a1), (2, vI a2), (3, vI a3)]) (st' := [vR t]) rfl ?_
    refine j_getR hx flX2_10 kl302 h8 (by decide) (by decide +kernel) ?_
    refine j_gd (fun h10 => ?_)
    exact j_athrow hx hm (by decide +kernel) h10 (ht _)
  exact j_vret hx hm (by decide +kernel) (he _)
theorem ctr_must (t : Nat) (a1 : Int32) (a2 : Int32) (a3 : Int32) (W : jW) : jM yX2_must cX2_must 4 (Option.none : Option Jvm.ClassFile.FieldType) [] 0 0 [vR t, vI a1, vI a2, vI a3] W ((ftr_must t a1 a2 a3 W).bind (fun q => some (Sum.elim (fun z => (.threw (z.1 - 1), z.2)) (fun q => (.returned none, q)) q))) := 
  jM.of (Nat.le_of_ble_eq_true rfl) (fun x hx hm hr => wtr_must ⟨hx, hm, hr, fun _ => rfl, fun _ => rfl⟩ W)
def hhe_at (x : jCx) (en : (Int32) → Option (Outcome × jW)) (t : Nat) (a1 : Int32) (W : jW) : Prop :=
  jOK x RX5 cX5_at 2 ∧
  jMt x "at" (Option.some Jvm.ClassFile.FieldType.int) [] ∧
  jRm x 0 0 ∧
  (∀ q : Int32, en q = some (.returned (some (.int q)), W))
theorem whe_at {x : jCx} {en : (Int32) → Option (Outcome × jW)} {W : jW} {t : Nat} {a1 : Int32} (h : hhe_at x en t a1 W) : jJ x 2 0 [(0, vR t), (1, vI a1)] [] W (fhe_at t a1 W) en := by
  have h0 := h
  obtain ⟨hx, hm, hr, he⟩ := h0
  unfold fhe_at
  refine j_runA hx 1 (tb := [(0, .aload_n 0)]) (jtb_ok (by decide +kernel)) (pc' := 1) (lv' := [(0, vR t), (1, vI a1)]) (st' := [vR t]) rfl ?_
  refine j_gd (fun h1 => ?_)
  refine j_getR hx flX5_10 kl500 h1 (by decide) (by decide +kernel) ?_
  refine j_runA hx 1 (tb := [(4, .iload_n 1)]) (jtb_ok (by decide +kernel)) (pc' := 5) (lv' := [(0, vR t), (1, vI a1)]) (st' := [vI a1, vR (jR W 500 t)]) rfl ?_
  refine j_gd (fun h2 => ?_)
  refine j_bald hx (f := 500) (o := t) kd500 rfl (by decide +kernel) h2 ?_
  refine j_runA hx 2 (tb := [(6, .sipush 255), (9, .iand)]) (jtb_ok (by decide +kernel)) (pc' := 10) (lv' := [(0, vR t), (1, vI a1)]) (st' := [vI ((jA W 500 t (ix a1)) &&& (kI 255))]) rfl ?_
  exact j_iret hx hm (by decide +kernel) rfl (he _)
theorem che_at (t : Nat) (a1 : Int32) (W : jW) : jM yX5_at cX5_at 2 (Option.some Jvm.ClassFile.FieldType.int) [] 0 0 [vR t, vI a1] W ((fhe_at t a1 W).bind (fun q => some (.returned (some (.int q)), W))) := 
  jM.of (Nat.le_of_ble_eq_true rfl) (fun x hx hm hr => whe_at ⟨hx, hm, hr, fun _ => rfl⟩)
def hsh_last (x : jCx) (en : (Int32) → Option (Outcome × jW)) (t : Nat) (W : jW) : Prop :=
  jOK x RX3 cX3_last 1 ∧
  jMt x "last" (Option.some Jvm.ClassFile.FieldType.int) [] ∧
  jRm x 0 0 ∧
  (∀ q : Int32, en q = some (.returned (some (.int q)), W))
theorem wsh_last {x : jCx} {en : (Int32) → Option (Outcome × jW)} {W : jW} {t : Nat} (h : hsh_last x en t W) : jJ x 1 0 [(0, vR t)] [] W (fsh_last t W) en := by
  have h0 := h
  obtain ⟨hx, hm, hr, he⟩ := h0
  unfold fsh_last
  refine j_runA hx 1 (tb := [(0, .aload_n 0)]) (jtb_ok (by decide +kernel)) (pc' := 1) (lv' := [(0, vR t)]) (st' := [vR t]) rfl ?_
  refine j_gd (fun h1 => ?_)
  refine j_getI hx flX3_64 kd402 h1 (by decide) (by decide +kernel) ?_
  refine j_runA hx 2 (tb := [(4, .iconst 1), (5, .isub)]) (jtb_ok (by decide +kernel)) (pc' := 6) (lv' := [(0, vR t)]) (st' := [vI ((jI W 402 t) - (kI 1))]) rfl ?_
  exact j_iret hx hm (by decide +kernel) rfl (he _)
theorem csh_last (t : Nat) (W : jW) : jM yX3_last cX3_last 1 (Option.some Jvm.ClassFile.FieldType.int) [] 0 0 [vR t] W ((fsh_last t W).bind (fun q => some (.returned (some (.int q)), W))) := 
  jM.of (Nat.le_of_ble_eq_true rfl) (fun x hx hm hr => wsh_last ⟨hx, hm, hr, fun _ => rfl⟩)
def hsh_textOffset (x : jCx) (en : (Int32) → Option (Outcome × jW)) (t : Nat) (W : jW) : Prop :=
  jOK x RX3 cX3_textOffset 1 ∧
  jMt x "textOffset" (Option.some Jvm.ClassFile.FieldType.int) [] ∧
  jRm x 1 13 ∧
  (∀ q : Int32, en q = some (.returned (some (.int q)), W))
theorem wsh_textOffset {x : jCx} {en : (Int32) → Option (Outcome × jW)} {W : jW} {t : Nat} (h : hsh_textOffset x en t W) : jJ x 1 0 [(0, vR t)] [] W (fsh_textOffset t W) en := by
  have h0 := h
  obtain ⟨hx, hm, hr, he⟩ := h0
  unfold fsh_textOffset
  refine j_runA hx 1 (tb := [(0, .aload_n 0)]) (jtb_ok (by decide +kernel)) (pc' := 1) (lv' := [(0, vR t)]) (st' := [vR t]) rfl ?_
  refine j_gd (fun h1 => ?_)
  refine j_getR hx flX3_19 kl409 h1 (by decide) (by decide +kernel) ?_
  refine j_runA hx 1 (tb := [(4, .aload_n 0)]) (jtb_ok (by decide +kernel)) (pc' := 5) (lv' := [(0, vR t)]) (st' := [vR t, vR (jR W 409 t)]) rfl ?_
  refine j_OI (j_callV (av := []) (st := [vR (jR W 409 t)]) hx hr (Or.inl q792) q793 q794 rfl md_fsh_last np_fsh_last (csh_last t W) (by decide) (Nat.le_of_ble_eq_true rfl) h1 (by decide) (by decide +kernel)) (fun q2 _ => ?_)
  refine j_gd (fun h3 => ?_)
  refine j_iald hx (f := 409) (o := t) kd409 rfl (by decide +kernel) h3 ?_
  exact j_iret hx hm (by decide +kernel) rfl (he _)
theorem csh_textOffset (t : Nat) (W : jW) : jM yX3_textOffset cX3_textOffset 1 (Option.some Jvm.ClassFile.FieldType.int) [] 1 13 [vR t] W ((fsh_textOffset t W).bind (fun q => some (.returned (some (.int q)), W))) := 
  jM.of (Nat.le_of_ble_eq_true rfl) (fun x hx hm hr => wsh_textOffset ⟨hx, hm, hr, fun _ => rfl⟩)
def hwr_wordAt (x : jCx) (en : (Int32) → Option (Outcome × jW)) (t : Nat) (a1 : Int32) (W : jW) : Prop :=
  jOK x RX14 cX14_wordAt 2 ∧
  jMt x "wordAt" (Option.some Jvm.ClassFile.FieldType.int) [] ∧
  jRm x 0 0 ∧
  (∀ q : Int32, en q = some (.returned (some (.int q)), W))
theorem wwr_wordAt {x : jCx} {en : (Int32) → Option (Outcome × jW)} {W : jW} {t : Nat} {a1 : Int32} (h : hwr_wordAt x en t a1 W) : jJ x 2 0 [(0, vR t), (1, vI a1)] [] W (fwr_wordAt t a1 W) en := by
  have h0 := h
  obtain ⟨hx, hm, hr, he⟩ := h0
  unfold fwr_wordAt
  refine j_runA hx 3 (tb := [(0, .iload_n 1), (1, .iconst 4), (2, .aload_n 0)]) (jtb_ok (by decide +kernel)) (pc' := 3) (lv' := [(0, vR t), (1, vI a1)]) (st' := [vR t, vI (kI 4), vI a1]) rfl ?_
  refine j_gd (fun h1 => ?_)
  refine j_getI hx flX14_107 kd910 h1 (by decide) (by decide +kernel) ?_
  refine j_runA hx 1 (tb := [(6, .imul)]) (jtb_ok (by decide +kernel)) (pc' := 7) (lv' := [(0, vR t), (1, vI a1)]) (st' := [vI ((kI 4) * (jI W 910 t)), vI a1]) rfl ?_
  refine j_icmp_ge hx (off := 12) (tgt := 19) (by decide +kernel) (by decide) (fun _ => ?_) (fun _ => ?_)
  · refine j_runA hx 2 (tb := [(19, .iload_n 1), (20, .aload_n 0)]) (jtb_ok (by decide +kernel)) (pc' := 21) (lv' := [(0, vR t), (1, vI a1)]) (st' := [vR t, vI a1]) rfl ?_
    refine j_getI hx flX14_114 kd911 h1 (by decide) (by decide +kernel) ?_
    refine j_icmp_ge hx (off := 7) (tgt := 31) (by decide +kernel) (by decide) (fun _ => ?_) (fun _ => ?_)
    · refine j_runA hx 1 (tb := [(31, .aload_n 0)]) (jtb_ok (by decide +kernel)) (pc' := 32) (lv' := [(0, vR t), (1, vI a1)]) (st' := [vR t]) rfl ?_
      refine j_getR hx flX14_22 kl908 h1 (by decide) (by decide +kernel) ?_
      refine j_runA hx 1 (tb := [(35, .aload_n 0)]) (jtb_ok (by decide +kernel)) (pc' := 36) (lv' := [(0, vR t), (1, vI a1)]) (st' := [vR t, vR (jR W 908 t)]) rfl ?_
      refine j_getI hx flX14_107 kd910 h1 (by decide) (by decide +kernel) ?_
      refine j_runA hx 2 (tb := [(39, .iload_n 1), (40, .aload_n 0)]) (jtb_ok (by decide +kernel)) (pc' := 41) (lv' := [(0, vR t), (1, vI a1)]) (st' := [vR t, vI a1, vI (jI W 910 t), vR (jR W 908 t)]) rfl ?_
      refine j_getI hx flX14_114 kd911 h1 (by decide) (by decide +kernel) ?_
      refine j_runA hx 2 (tb := [(44, .isub), (45, .iconst 4)]) (jtb_ok (by decide +kernel)) (pc' := 46) (lv' := [(0, vR t), (1, vI a1)]) (st' := [vI (kI 4), vI (a1 - (jI W 911 t)), vI (jI W 910 t), vR (jR W 908 t)]) rfl ?_
      refine j_idiv hx (by decide +kernel) (by decide +kernel) ?_
      refine j_runA hx 1 (tb := [(47, .iadd)]) (jtb_ok (by decide +kernel)) (pc' := 48) (lv' := [(0, vR t), (1, vI a1)]) (st' := [vI ((jI W 910 t) + ((a1 - (jI W 911 t)) / (kI 4))), vR (jR W 908 t)]) rfl ?_
      refine j_gd (fun h2 => ?_)
      refine j_iald hx (f := 908) (o := t) kd908 rfl (by decide +kernel) h2 ?_
      exact j_iret hx hm (by decide +kernel) rfl (he _)
    refine j_runA hx 1 (tb := [(27, .iconst 0)]) (jtb_ok (by decide +kernel)) (pc' := 28) (lv' := [(0, vR t), (1, vI a1)]) (st' := [vI (kI 0)]) rfl ?_
    refine j_goto hx (off := 21) (by decide +kernel) (tgt := 49) (by decide) ?_
    exact j_iret hx hm (by decide +kernel) rfl (he _)
  refine j_runA hx 1 (tb := [(10, .aload_n 0)]) (jtb_ok (by decide +kernel)) (pc' := 11) (lv' := [(0, vR t), (1, vI a1)]) (st' := [vR t]) rfl ?_
  refine j_getR hx flX14_22 kl908 h1 (by decide) (by decide +kernel) ?_
  refine j_runA hx 2 (tb := [(14, .iload_n 1), (15, .iconst 4)]) (jtb_ok (by decide +kernel)) (pc' := 16) (lv' := [(0, vR t), (1, vI a1)]) (st' := [vI (kI 4), vI a1, vR (jR W 908 t)]) rfl ?_
  refine j_idiv hx (by decide +kernel) (by decide +kernel) ?_
  refine j_gd (fun h3 => ?_)
  refine j_iald hx (f := 908) (o := t) kd908 rfl (by decide +kernel) h3 ?_
  exact j_iret hx hm (by decide +kernel) rfl (he _)
theorem cwr_wordAt (t : Nat) (a1 : Int32) (W : jW) : jM yX14_wordAt cX14_wordAt 2 (Option.some Jvm.ClassFile.FieldType.int) [] 0 0 [vR t, vI a1] W ((fwr_wordAt t a1 W).bind (fun q => some (.returned (some (.int q)), W))) := 
  jM.of (Nat.le_of_ble_eq_true rfl) (fun x hx hm hr => wwr_wordAt ⟨hx, hm, hr, fun _ => rfl⟩)
def hwr_at (x : jCx) (en : (Int32) → Option (Outcome × jW)) (t : Nat) (a1 : Int32) (W : jW) : Prop :=
  jOK x RX14 cX14_at 4 ∧
  jMt x "at" (Option.some Jvm.ClassFile.FieldType.int) [] ∧
  jRm x 2 25 ∧
  (∀ q : Int32, en q = some (.returned (some (.int q)), W))
theorem wwr_at {x : jCx} {en : (Int32) → Option (Outcome × jW)} {W : jW} {t : Nat} {a1 : Int32} (h : hwr_at x en t a1 W) : jJ x 4 0 [(0, vR t), (1, vI a1)] [] W (fwr_at t a1 W) en := by
  have h0 := h
  obtain ⟨hx, hm, hr, he⟩ := h0
  unfold fwr_at
  refine j_runA hx 1 (tb := [(0, .aload_n 0)]) (jtb_ok (by decide +kernel)) (pc' := 1) (lv' := [(0, vR t), (1, vI a1)]) (st' := [vR t]) rfl ?_
  refine j_gd (fun h1 => ?_)
  refine j_getR hx flX14_30 kl900 h1 (by decide) (by decide +kernel) ?_
  refine j_gd (fun h2 => ?_)
  refine j_getR hx flX14_181 kl201 h2 (by decide) (by decide +kernel) ?_
  refine j_gd (fun h3 => ?_)
  refine j_OI (j_callV (av := []) (st := []) hx hr (Or.inl q788) q789 q790 rfl md_fsh_textOffset np_fsh_textOffset (csh_textOffset (jR W 201 (jR W 900 t)) W) (by decide) (Nat.le_of_ble_eq_true rfl) h3 (by decide) (by decide +kernel)) (fun q4 _ => ?_)
  refine j_runA hx 4 (tb := [(10, .istore_n 2), (11, .iload_n 2), (12, .iconst 4), (13, .aload_n 0)]) (jtb_ok (by decide +kernel)) (pc' := 14) (lv' := [(2, vI q4), (0, vR t), (1, vI a1)]) (st' := [vR t, vI (kI 4), vI q4]) rfl ?_
  refine j_getR hx flX14_30 kl900 h1 (by decide) (by decide +kernel) ?_
  refine j_getI hx flX14_230 kd203 h2 (by decide) (by decide +kernel) ?_
  refine j_runA hx 3 (tb := [(20, .imul), (21, .iadd), (22, .istore_n 3)]) (jtb_ok (by decide +kernel)) (pc' := 23) (lv' := [(3, vI (q4 + ((kI 4) * (jI W 203 (jR W 900 t))))), (2, vI q4), (0, vR t), (1, vI a1)]) (st' := []) rfl ?_
  refine j_let (v := (q4 + ((kI 4) * (jI W 203 (jR W 900 t))))) (lv := fun v5 => [(3, vI v5), (2, vI q4), (0, vR t), (1, vI a1)]) (st := fun _ => []) (fun v5 => ?_)
  refine j_runA hx 2 (tb := [(23, .iload_n 1), (24, .iload_n 2)]) (jtb_ok (by decide +kernel)) (pc' := 25) (lv' := [(3, vI v5), (2, vI q4), (0, vR t), (1, vI a1)]) (st' := [vI q4, vI a1]) rfl ?_
  refine j_icmp_ge hx (off := 14) (tgt := 39) (by decide +kernel) (by decide) (fun _ => ?_) (fun _ => ?_)
  · refine j_runA hx 3 (tb := [(39, .iload_n 1), (40, .iload_n 2), (41, .aload_n 0)]) (jtb_ok (by decide +kernel)) (pc' := 42) (lv' := [(3, vI v5), (2, vI q4), (0, vR t), (1, vI a1)]) (st' := [vR t, vI q4, vI a1]) rfl ?_
    refine j_getI hx flX14_120 kd912 h1 (by decide) (by decide +kernel) ?_
    refine j_runA hx 1 (tb := [(45, .iadd)]) (jtb_ok (by decide +kernel)) (pc' := 46) (lv' := [(3, vI v5), (2, vI q4), (0, vR t), (1, vI a1)]) (st' := [vI (q4 + (jI W 912 t)), vI a1]) rfl ?_
    refine j_icmp_ge hx (off := 28) (tgt := 74) (by decide +kernel) (by decide) (fun _ => ?_) (fun _ => ?_)
    · refine j_runA hx 3 (tb := [(74, .iload_n 1), (75, .iload_n 3), (76, .aload_n 0)]) (jtb_ok (by decide +kernel)) (pc' := 77) (lv' := [(3, vI v5), (2, vI q4), (0, vR t), (1, vI a1)]) (st' := [vR t, vI v5, vI a1]) rfl ?_
      refine j_getI hx flX14_223 kd914 h1 (by decide) (by decide +kernel) ?_
      refine j_runA hx 1 (tb := [(80, .iadd)]) (jtb_ok (by decide +kernel)) (pc' := 81) (lv' := [(3, vI v5), (2, vI q4), (0, vR t), (1, vI a1)]) (st' := [vI (v5 + (jI W 914 t)), vI a1]) rfl ?_
      refine j_icmp_ge hx (off := 7) (tgt := 88) (by decide +kernel) (by decide) (fun _ => ?_) (fun _ => ?_)
      · refine j_runA hx 1 (tb := [(88, .aload_n 0)]) (jtb_ok (by decide +kernel)) (pc' := 89) (lv' := [(3, vI v5), (2, vI q4), (0, vR t), (1, vI a1)]) (st' := [vR t]) rfl ?_
        refine j_getR hx flX14_26 kl913 h1 (by decide) (by decide +kernel) ?_
        refine j_runA hx 2 (tb := [(92, .iload_n 1), (93, .aload_n 0)]) (jtb_ok (by decide +kernel)) (pc' := 94) (lv' := [(3, vI v5), (2, vI q4), (0, vR t), (1, vI a1)]) (st' := [vR t, vI a1, vR (jR W 913 t)]) rfl ?_
        refine j_getI hx flX14_223 kd914 h1 (by decide) (by decide +kernel) ?_
        refine j_runA hx 1 (tb := [(97, .isub)]) (jtb_ok (by decide +kernel)) (pc' := 98) (lv' := [(3, vI v5), (2, vI q4), (0, vR t), (1, vI a1)]) (st' := [vI (a1 - (jI W 914 t)), vR (jR W 913 t)]) rfl ?_
        refine j_gd (fun h6 => ?_)
        refine j_bald hx (f := 913) (o := t) kd913 rfl (by decide +kernel) h6 ?_
        refine j_runA hx 2 (tb := [(99, .sipush 255), (102, .iand)]) (jtb_ok (by decide +kernel)) (pc' := 103) (lv' := [(3, vI v5), (2, vI q4), (0, vR t), (1, vI a1)]) (st' := [vI ((jA W 913 t (ix (a1 - (jI W 914 t)))) &&& (kI 255))]) rfl ?_
        exact j_iret hx hm (by decide +kernel) rfl (he _)
      refine j_runA hx 1 (tb := [(84, .iconst 0)]) (jtb_ok (by decide +kernel)) (pc' := 85) (lv' := [(3, vI v5), (2, vI q4), (0, vR t), (1, vI a1)]) (st' := [vI (kI 0)]) rfl ?_
      refine j_goto hx (off := 18) (by decide +kernel) (tgt := 103) (by decide) ?_
      exact j_iret hx hm (by decide +kernel) rfl (he _)
    refine j_runA hx 5 (tb := [(49, .aload_n 0), (50, .iload_n 1), (51, .iload_n 2), (52, .isub), (53, .iconst 4)]) (jtb_ok (by decide +kernel)) (pc' := 54) (lv' := [(3, vI v5), (2, vI q4), (0, vR t), (1, vI a1)]) (st' := [vI (kI 4), vI (a1 - q4), vR t]) rfl ?_
    refine j_idiv hx (by decide +kernel) (by decide +kernel) ?_
    refine j_runA hx 2 (tb := [(55, .iconst 4), (56, .imul)]) (jtb_ok (by decide +kernel)) (pc' := 57) (lv' := [(3, vI v5), (2, vI q4), (0, vR t), (1, vI a1)]) (st' := [vI (((a1 - q4) / (kI 4)) * (kI 4)), vR t]) rfl ?_
    refine j_OI (j_callV (av := [vI (((a1 - q4) / (kI 4)) * (kI 4))]) (st := []) hx hr (Or.inl q796) q797 q798 rfl md_fwr_wordAt np_fwr_wordAt (cwr_wordAt t (((a1 - q4) / (kI 4)) * (kI 4)) W) (by decide) (Nat.le_of_ble_eq_true rfl) h1 (by decide) (by decide +kernel)) (fun q7 _ => ?_)
    refine j_runA hx 5 (tb := [(60, .bipush 8), (62, .iload_n 1), (63, .iload_n 2), (64, .isub), (65, .iconst 4)]) (jtb_ok (by decide +kernel)) (pc' := 66) (lv' := [(3, vI v5), (2, vI q4), (0, vR t), (1, vI a1)]) (st' := [vI (kI 4), vI (a1 - q4), vI (kI 8), vI q7]) rfl ?_
    refine j_irem hx (by decide +kernel) (by decide +kernel) ?_
    refine j_runA hx 4 (tb := [(67, .imul), (68, .ishr), (69, .sipush 255), (72, .iand)]) (jtb_ok (by decide +kernel)) (pc' := 73) (lv' := [(3, vI v5), (2, vI q4), (0, vR t), (1, vI a1)]) (st' := [vI ((ixr q7 ((kI 8) * (irm (a1 - q4) (kI 4)))) &&& (kI 255))]) rfl ?_
    exact j_iret hx hm (by decide +kernel) rfl (he _)
  refine j_runA hx 1 (tb := [(28, .aload_n 0)]) (jtb_ok (by decide +kernel)) (pc' := 29) (lv' := [(3, vI v5), (2, vI q4), (0, vR t), (1, vI a1)]) (st' := [vR t]) rfl ?_
  refine j_getR hx flX14_26 kl913 h1 (by decide) (by decide +kernel) ?_
  refine j_runA hx 1 (tb := [(32, .iload_n 1)]) (jtb_ok (by decide +kernel)) (pc' := 33) (lv' := [(3, vI v5), (2, vI q4), (0, vR t), (1, vI a1)]) (st' := [vI a1, vR (jR W 913 t)]) rfl ?_
  refine j_gd (fun h8 => ?_)
  refine j_bald hx (f := 913) (o := t) kd913 rfl (by decide +kernel) h8 ?_
  refine j_runA hx 2 (tb := [(34, .sipush 255), (37, .iand)]) (jtb_ok (by decide +kernel)) (pc' := 38) (lv' := [(3, vI v5), (2, vI q4), (0, vR t), (1, vI a1)]) (st' := [vI ((jA W 913 t (ix a1)) &&& (kI 255))]) rfl ?_
  exact j_iret hx hm (by decide +kernel) rfl (he _)
theorem cwr_at (t : Nat) (a1 : Int32) (W : jW) : jM yX14_at cX14_at 4 (Option.some Jvm.ClassFile.FieldType.int) [] 2 25 [vR t, vI a1] W ((fwr_at t a1 W).bind (fun q => some (.returned (some (.int q)), W))) := 
  jM.of (Nat.le_of_ble_eq_true rfl) (fun x hx hm hr => wwr_at ⟨hx, hm, hr, fun _ => rfl⟩)
theorem vd_fsr_at_l {x : jCx} {nL pc : Nat} {lv : List (Nat × jV)} {stk st : List jV} {w : jW} {t : Nat} {a1 : Int32} (h : jC w t = 5) (k : jCall x nL pc lv stk st w ((fhe_at t a1 w).bind fun q => some (.returned (some (.int q)), w))) : jCall x nL pc lv stk st w ((fsr_at t a1 w).bind fun q => some (.returned (some (.int q)), w)) := by
  unfold fsr_at
  rw [if_pos h]
  exact k
theorem vd_fsr_at_r {x : jCx} {nL pc : Nat} {lv : List (Nat × jV)} {stk st : List jV} {w : jW} {t : Nat} {a1 : Int32} (h : jC w t = 9) (k : jCall x nL pc lv stk st w ((fwr_at t a1 w).bind fun q => some (.returned (some (.int q)), w))) : jCall x nL pc lv stk st w ((fsr_at t a1 w).bind fun q => some (.returned (some (.int q)), w)) := by
  unfold fsr_at
  rw [if_neg (by rw [h]; decide)]
  exact k
def hsr_half (x : jCx) (en : (Int32) → Option (Outcome × jW)) (t : Nat) (a1 : Int32) (W : jW) : Prop :=
  jOK x RX4 cX4_half 2 ∧
  jMt x "half" (Option.some Jvm.ClassFile.FieldType.int) [] ∧
  jRm x 3 41 ∧
  (∀ q : Int32, en q = some (.returned (some (.int q)), W))
theorem wsr_half {x : jCx} {en : (Int32) → Option (Outcome × jW)} {W : jW} {t : Nat} {a1 : Int32} (h : hsr_half x en t a1 W) : jJ x 2 0 [(0, vR t), (1, vI a1)] [] W (fsr_half t a1 W) en := by
  have h0 := h
  obtain ⟨hx, hm, hr, he⟩ := h0
  unfold fsr_half
  refine j_runA hx 2 (tb := [(0, .aload_n 0), (1, .iload_n 1)]) (jtb_ok (by decide +kernel)) (pc' := 2) (lv' := [(0, vR t), (1, vI a1)]) (st' := [vI a1, vR t]) rfl ?_
  refine j_gd (fun h1 => ?_)
  refine j_OI (h1.elim (fun hh => vd_fsr_at_l hh (j_callU (av := [vI a1]) (st := []) hx hr q779 q781 (hde_fsr_at) (by decide) q783 q782 rfl md_fhe_at np_fsr_at (che_at t a1 W) (by decide) (Nat.le_of_ble_eq_true rfl) hh (by decide) (by decide +kernel))) (fun hh => vd_fsr_at_r hh (j_callU (av := [vI a1]) (st := []) hx hr q779 q781 (hde_fsr_at) (by decide) q786 q785 rfl md_fwr_at np_fsr_at (cwr_at t a1 W) (by decide) (Nat.le_of_ble_eq_true rfl) hh (by decide) (by decide +kernel)))) (fun q2 _ => ?_)
  refine j_runA hx 4 (tb := [(5, .aload_n 0), (6, .iload_n 1), (7, .iconst 1), (8, .iadd)]) (jtb_ok (by decide +kernel)) (pc' := 9) (lv' := [(0, vR t), (1, vI a1)]) (st' := [vI (a1 + (kI 1)), vR t, vI q2]) rfl ?_
  refine j_gd (fun h3 => ?_)
  refine j_OI (h3.elim (fun hh => vd_fsr_at_l hh (j_callU (av := [vI (a1 + (kI 1))]) (st := [vI q2]) hx hr q779 q781 (hde_fsr_at) (by decide) q783 q782 rfl md_fhe_at np_fsr_at (che_at t (a1 + (kI 1)) W) (by decide) (Nat.le_of_ble_eq_true rfl) hh (by decide) (by decide +kernel))) (fun hh => vd_fsr_at_r hh (j_callU (av := [vI (a1 + (kI 1))]) (st := [vI q2]) hx hr q779 q781 (hde_fsr_at) (by decide) q786 q785 rfl md_fwr_at np_fsr_at (cwr_at t (a1 + (kI 1)) W) (by decide) (Nat.le_of_ble_eq_true rfl) hh (by decide) (by decide +kernel)))) (fun q4 _ => ?_)
  refine j_runA hx 3 (tb := [(12, .bipush 8), (14, .ishl), (15, .ior)]) (jtb_ok (by decide +kernel)) (pc' := 16) (lv' := [(0, vR t), (1, vI a1)]) (st' := [vI (q2 ||| (ixl q4 (kI 8)))]) rfl ?_
  exact j_iret hx hm (by decide +kernel) rfl (he _)
theorem csr_half (t : Nat) (a1 : Int32) (W : jW) : jM yX4_half cX4_half 2 (Option.some Jvm.ClassFile.FieldType.int) [] 3 41 [vR t, vI a1] W ((fsr_half t a1 W).bind (fun q => some (.returned (some (.int q)), W))) := 
  jM.of (Nat.le_of_ble_eq_true rfl) (fun x hx hm hr => wsr_half ⟨hx, hm, hr, fun _ => rfl⟩)
def hsr_word (x : jCx) (en : (Int32) → Option (Outcome × jW)) (t : Nat) (a1 : Int32) (W : jW) : Prop :=
  jOK x RX4 cX4_word 2 ∧
  jMt x "word" (Option.some Jvm.ClassFile.FieldType.int) [] ∧
  jRm x 4 55 ∧
  (∀ q : Int32, en q = some (.returned (some (.int q)), W))
theorem wsr_word {x : jCx} {en : (Int32) → Option (Outcome × jW)} {W : jW} {t : Nat} {a1 : Int32} (h : hsr_word x en t a1 W) : jJ x 2 0 [(0, vR t), (1, vI a1)] [] W (fsr_word t a1 W) en := by
  have h0 := h
  obtain ⟨hx, hm, hr, he⟩ := h0
  unfold fsr_word
  refine j_runA hx 2 (tb := [(0, .aload_n 0), (1, .iload_n 1)]) (jtb_ok (by decide +kernel)) (pc' := 2) (lv' := [(0, vR t), (1, vI a1)]) (st' := [vI a1, vR t]) rfl ?_
  refine j_gd (fun h1 => ?_)
  refine j_OI (h1.elim (fun hh => j_callU (av := [vI a1]) (st := []) hx hr q773 q775 (hde_fsr_half) (by decide) q774 q776 rfl md_fsr_half np_fsr_half (csr_half t a1 W) (by decide) (Nat.le_of_ble_eq_true rfl) hh (by decide) (by decide +kernel)) (fun hh => j_callU (av := [vI a1]) (st := []) hx hr q773 q775 (hde_fsr_half) (by decide) q774 q777 rfl md_fsr_half np_fsr_half (csr_half t a1 W) (by decide) (Nat.le_of_ble_eq_true rfl) hh (by decide) (by decide +kernel))) (fun q2 _ => ?_)
  refine j_runA hx 4 (tb := [(5, .aload_n 0), (6, .iload_n 1), (7, .iconst 2), (8, .iadd)]) (jtb_ok (by decide +kernel)) (pc' := 9) (lv' := [(0, vR t), (1, vI a1)]) (st' := [vI (a1 + (kI 2)), vR t, vI q2]) rfl ?_
  refine j_gd (fun h3 => ?_)
  refine j_OI (h3.elim (fun hh => j_callU (av := [vI (a1 + (kI 2))]) (st := [vI q2]) hx hr q773 q775 (hde_fsr_half) (by decide) q774 q776 rfl md_fsr_half np_fsr_half (csr_half t (a1 + (kI 2)) W) (by decide) (Nat.le_of_ble_eq_true rfl) hh (by decide) (by decide +kernel)) (fun hh => j_callU (av := [vI (a1 + (kI 2))]) (st := [vI q2]) hx hr q773 q775 (hde_fsr_half) (by decide) q774 q777 rfl md_fsr_half np_fsr_half (csr_half t (a1 + (kI 2)) W) (by decide) (Nat.le_of_ble_eq_true rfl) hh (by decide) (by decide +kernel))) (fun q4 _ => ?_)
  refine j_runA hx 3 (tb := [(12, .bipush 16), (14, .ishl), (15, .ior)]) (jtb_ok (by decide +kernel)) (pc' := 16) (lv' := [(0, vR t), (1, vI a1)]) (st' := [vI (q2 ||| (ixl q4 (kI 16)))]) rfl ?_
  exact j_iret hx hm (by decide +kernel) rfl (he _)
theorem csr_word (t : Nat) (a1 : Int32) (W : jW) : jM yX4_word cX4_word 2 (Option.some Jvm.ClassFile.FieldType.int) [] 4 55 [vR t, vI a1] W ((fsr_word t a1 W).bind (fun q => some (.returned (some (.int q)), W))) := 
  jM.of (Nat.le_of_ble_eq_true rfl) (fun x hx hm hr => wsr_word ⟨hx, hm, hr, fun _ => rfl⟩)
def hsr_pair (x : jCx) (en : (Int64) → Option (Outcome × jW)) (t : Nat) (a1 : Int32) (W : jW) : Prop :=
  jOK x RX4 cX4_pair 2 ∧
  jMt x "pair" (Option.some Jvm.ClassFile.FieldType.long) [] ∧
  jRm x 5 70 ∧
  (∀ q : Int64, en q = some (.returned (some (.long q)), W))
theorem wsr_pair {x : jCx} {en : (Int64) → Option (Outcome × jW)} {W : jW} {t : Nat} {a1 : Int32} (h : hsr_pair x en t a1 W) : jJ x 2 0 [(0, vR t), (1, vI a1)] [] W (fsr_pair t a1 W) en := by
  have h0 := h
  obtain ⟨hx, hm, hr, he⟩ := h0
  unfold fsr_pair
  refine j_runA hx 2 (tb := [(0, .aload_n 0), (1, .iload_n 1)]) (jtb_ok (by decide +kernel)) (pc' := 2) (lv' := [(0, vR t), (1, vI a1)]) (st' := [vI a1, vR t]) rfl ?_
  refine j_gd (fun h1 => ?_)
  refine j_OI (h1.elim (fun hh => j_callU (av := [vI a1]) (st := []) hx hr q767 q769 (hde_fsr_word) (by decide) q768 q770 rfl md_fsr_word np_fsr_word (csr_word t a1 W) (by decide) (Nat.le_of_ble_eq_true rfl) hh (by decide) (by decide +kernel)) (fun hh => j_callU (av := [vI a1]) (st := []) hx hr q767 q769 (hde_fsr_word) (by decide) q768 q771 rfl md_fsr_word np_fsr_word (csr_word t a1 W) (by decide) (Nat.le_of_ble_eq_true rfl) hh (by decide) (by decide +kernel))) (fun q2 _ => ?_)
  refine j_runA hx 1 (tb := [(5, .i2l)]) (jtb_ok (by decide +kernel)) (pc' := 6) (lv' := [(0, vR t), (1, vI a1)]) (st' := [vL q2.toInt64]) rfl ?_
  refine j_ldc2 hx (v := (kJ 4294967295)) (jkd2 q800 (by decide +kernel)) (by decide +kernel) ?_
  refine j_runA hx 5 (tb := [(9, .land), (10, .aload_n 0), (11, .iload_n 1), (12, .iconst 4), (13, .iadd)]) (jtb_ok (by decide +kernel)) (pc' := 14) (lv' := [(0, vR t), (1, vI a1)]) (st' := [vI (a1 + (kI 4)), vR t, vL (q2.toInt64 &&& (kJ 4294967295))]) rfl ?_
  refine j_gd (fun h3 => ?_)
  refine j_OI (h3.elim (fun hh => j_callU (av := [vI (a1 + (kI 4))]) (st := [vL (q2.toInt64 &&& (kJ 4294967295))]) hx hr q767 q769 (hde_fsr_word) (by decide) q768 q770 rfl md_fsr_word np_fsr_word (csr_word t (a1 + (kI 4)) W) (by decide) (Nat.le_of_ble_eq_true rfl) hh (by decide) (by decide +kernel)) (fun hh => j_callU (av := [vI (a1 + (kI 4))]) (st := [vL (q2.toInt64 &&& (kJ 4294967295))]) hx hr q767 q769 (hde_fsr_word) (by decide) q768 q771 rfl md_fsr_word np_fsr_word (csr_word t (a1 + (kI 4)) W) (by decide) (Nat.le_of_ble_eq_true rfl) hh (by decide) (by decide +kernel))) (fun q4 _ => ?_)
  refine j_runA hx 4 (tb := [(17, .i2l), (18, .bipush 32), (20, .lshl), (21, .lor)]) (jtb_ok (by decide +kernel)) (pc' := 22) (lv' := [(0, vR t), (1, vI a1)]) (st' := [vL ((q2.toInt64 &&& (kJ 4294967295)) ||| (lxl q4.toInt64 (kI 32)))]) rfl ?_
  exact j_lret hx hm (by decide +kernel) (he _)
theorem csr_pair (t : Nat) (a1 : Int32) (W : jW) : jM yX4_pair cX4_pair 2 (Option.some Jvm.ClassFile.FieldType.long) [] 5 70 [vR t, vI a1] W ((fsr_pair t a1 W).bind (fun q => some (.returned (some (.long q)), W))) := 
  jM.of (Nat.le_of_ble_eq_true rfl) (fun x hx hm hr => wsr_pair ⟨hx, hm, hr, fun _ => rfl⟩)
