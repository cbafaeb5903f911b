/-! THE CLAIM OUT OF ONE WALK OF THE LAW'S BODY. Your part is whole_start (and what it stands on); all else here is the same for every law, but numbers. -/
def R_law : String := "CodeLayoutLaw"
def lw_P (b : Addr) (xs : List Int32) (args : Array Value) (s : State) : Prop := args = #[.ref b] ∧ s.IntsAt b xs ∧ xs.length ≤ 384 ∧ (Jvm.Cond.and given_1 narrow_1).before args s = true
def lw_Q (_ : Array Value) (s : State) (o : Outcome) (t : State) : Prop := o = .returned (some (.int 1)) ∧ Framed s o t [] 217943 8442276
def lw_Z (below : List Frame) (a : Array Value) (s : State) : State → Prop := fun t => ∃ o, t.status = .running ∧ Ended t below o ∧ lw_Q a s o t
/-- the law's own end, with 1 on the stack, nothing written that was there before, its room as the claim has it -/
theorem lw_ret {p : Program} {l : Launch} {e : Env} {s : State} {m : MethodId} {below : List Frame} {meth : Method} {c : Code} {b : Nat} (hx : p.tables.exec = Jvm.exec) (hb : c.code = code) (hr : meth.sig.returnType = ret) (hlocks : meth.locks = false) {pc : Nat} {H : Heap} {ls : Array Slot} (hdg : decode code pc = .ok (.ireturn, 1)) : W p l e room_1 s m #[Value.ref b] below meth c H [] 217943 8442276 (lw_Z below #[Value.ref b] s) (F0 m pc ls [.int 1]) := by
  intro T hT X
  obtain ⟨fs, hret, hrun, hended, hW, hframe⟩ := X.leave (v := some (.int 1)) (hlocks := hlocks) (fun h => by rw [hr] at h; cases h)
  have hmeth' : T.vm.method? m = some meth := X.method'
  refine ⟨T.setFrames fs, ?_, .returned (some (.int 1)), hrun, hended, rfl, ⟨_, rfl⟩, hW, hframe⟩
  jvm_step X.here [X.here.top, hx, hb, hdg, hmeth', hr, ret, narrow_b1]
  (try refine ⟨rfl, ?_⟩); (try refine ⟨rfl, ?_⟩)
  first | (intro acts; rw [hret _ acts rfl rfl rfl]) | rw [hret _ _ rfl rfl rfl]
  exact Steps.refl _
/-- what holds at the law's entry: the machine, the code, the tables' words (any of lw_tbl by 'hts w (by decide +kernel)'), the script of L ints xs at the cell b, what the Statement gives of the start (any of its parts by flat_of_before) -/
def lw_At (p : Program) (s : State) (m : MethodId) (meth : Method) (c : Code) (b L : Nat) (xs : Nat → Int32) : Prop :=
  p.tables.exec = Jvm.exec ∧ c.code = code ∧ meth.sig.returnType = ret ∧ c.maxLocals = 4 ∧ s.vm.findClass R_law = some m.cls ∧ (∀ w ∈ lw_tbl, w.before #[Value.ref b] s = true) ∧ va_X b L xs s s.heap ∧ b < s.heap.size ∧ meth.locks = false ∧ (Jvm.Cond.and given_1 narrow_1).before #[Value.ref b] s = true
/-- the world at the law's entry: nothing is made yet -/
def jW0 (x z : Nat) : jW := (fun _ => 0, fun _ _ => 0, fun _ _ => 0, fun f o => if o = 0 ∧ f = 1952 then z else 0, fun _ _ => 0, fun _ _ _ => 0, fun _ _ _ => 0, fun _ _ _ => 0, x, 217943, 8442276)
theorem jchoice {s : State} {A : Array Value} (hall : ∀ w ∈ lw_all, w.before A s = true) : ∀ c : Nat, ∃ (q : ClassId × (Nat → Nat)), ∀ r, jcl[c]? = some r → u_Kn s r.1 r.2.1 r.2.2 q.1 q.2 := by
  intro c
  match c with
  | 0 =>
    obtain ⟨cC, iS, h⟩ := u_known (C := RX6) (T := TX6) (N := 2) (n := 2) hall (in_X6) (hall _ q477)
    exact ⟨(cC, iS), fun r hr => by cases hr; exact h⟩
  | 1 =>
    obtain ⟨cC, iS, h⟩ := u_known (C := RX0) (T := TX0) (N := 24) (n := 24) hall (in_X0) (hall _ q259)
    exact ⟨(cC, iS), fun r hr => by cases hr; exact h⟩
  | 2 =>
    obtain ⟨cC, iS, h⟩ := u_known (C := RX1) (T := TX1) (N := 18) (n := 18) hall (in_X1) (hall _ q268)
    exact ⟨(cC, iS), fun r hr => by cases hr; exact h⟩
  | 3 =>
    obtain ⟨cC, iS, h⟩ := u_known (C := RX2) (T := TX2) (N := 3) (n := 3) hall (in_X2) (hall _ q274)
    exact ⟨(cC, iS), fun r hr => by cases hr; exact h⟩
  | 4 =>
    obtain ⟨cC, iS, h⟩ := u_known (C := RX3) (T := TX3) (N := 22) (n := 22) hall (in_X3) (hall _ q355)
    exact ⟨(cC, iS), fun r hr => by cases hr; exact h⟩
  | 5 =>
    obtain ⟨cC, iS, h⟩ := u_known (C := RX5) (T := TX5) (N := 2) (n := 2) hall (in_X5) (hall _ q456)
    exact ⟨(cC, iS), fun r hr => by cases hr; exact h⟩
  | 6 =>
    obtain ⟨cC, iS, h⟩ := u_known (C := RX6) (T := TX6) (N := 2) (n := 2) hall (in_X6) (hall _ q477)
    exact ⟨(cC, iS), fun r hr => by cases hr; exact h⟩
  | 7 =>
    obtain ⟨cC, iS, h⟩ := u_known (C := RX7) (T := TX7) (N := 4) (n := 4) hall (in_X7) (hall _ q587)
    exact ⟨(cC, iS), fun r hr => by cases hr; exact h⟩
  | 8 =>
    obtain ⟨cC, iS, h⟩ := u_known (C := RX13) (T := TX13) (N := 29) (n := 29) hall (in_X13) (hall _ q1158)
    exact ⟨(cC, iS), fun r hr => by cases hr; exact h⟩
  | 9 =>
    obtain ⟨cC, iS, h⟩ := u_known (C := RX14) (T := TX14) (N := 21) (n := 21) hall (in_X14) (hall _ q1258)
    exact ⟨(cC, iS), fun r hr => by cases hr; exact h⟩
  | 10 =>
    obtain ⟨cC, iS, h⟩ := u_known (C := RX15) (T := TX15) (N := 24) (n := 24) hall (in_X15) (hall _ q1399)
    exact ⟨(cC, iS), fun r hr => by cases hr; exact h⟩
  | 11 =>
    obtain ⟨cC, iS, h⟩ := u_known (C := RX16) (T := TX16) (N := 2) (n := 2) hall (in_X16) (hall _ q1405)
    exact ⟨(cC, iS), fun r hr => by cases hr; exact h⟩
  | 12 =>
    obtain ⟨cC, iS, h⟩ := u_known (C := RX17) (T := TX17) (N := 7) (n := 7) hall (in_X17) (hall _ q1421)
    exact ⟨(cC, iS), fun r hr => by cases hr; exact h⟩
  | 13 =>
    obtain ⟨cC, iS, h⟩ := u_known (C := RX8) (T := TX8) (N := 64) (n := 64) hall (in_X8) (hall _ q2330)
    exact ⟨(cC, iS), fun r hr => by cases hr; exact h⟩
  | 14 =>
    obtain ⟨cC, iS, h⟩ := u_known (C := RX9) (T := TX9) (N := 18) (n := 18) hall (in_X9) (hall _ q2337)
    exact ⟨(cC, iS), fun r hr => by cases hr; exact h⟩
  | 15 =>
    obtain ⟨cC, iS, h⟩ := u_known (C := RX10) (T := TX10) (N := 14) (n := 14) hall (in_X10) (hall _ q2419)
    exact ⟨(cC, iS), fun r hr => by cases hr; exact h⟩
  | 16 =>
    obtain ⟨cC, iS, h⟩ := u_known (C := RX11) (T := TX11) (N := 24) (n := 24) hall (in_X11) (hall _ q2479)
    exact ⟨(cC, iS), fun r hr => by cases hr; exact h⟩
  | 17 =>
    obtain ⟨cC, iS, h⟩ := u_known (C := RJ3) (T := TJ3) (N := 0) (n := 6) hall (fun w h => absurd h List.not_mem_nil) (hall _ q280)
    exact ⟨(cC, iS), fun r hr => by cases hr; exact h⟩
  | 18 =>
    obtain ⟨cC, iS, h⟩ := u_known (C := RJ6) (T := TJ6) (N := 3) (n := 3) hall (in_J6) (hall _ q613)
    exact ⟨(cC, iS), fun r hr => by cases hr; exact h⟩
  | n + 19 => exact ⟨(0, fun _ => 0), fun r hr => by
      rw [show jcl[n + 19]? = none from List.getElem?_eq_none (by show 19 ≤ n + 19; omega)] at hr
      cases hr⟩
theorem jarr {s : State} {A : Array Value} {ty : FieldType} (hp : ∀ C, ty ≠ .object C) (h : (Cond.arrayClass ty).before A s = true) : ∃ cA, ArrOfT s cA ty ∧ va_RA s cA ty := by
  obtain ⟨c, k, comp, h1, h2, h3⟩ := Cond.arrayClass_spec h
  refine ⟨c, fun n z => ⟨fun k h => (by cases h), k, h2, comp, h3⟩, ?_⟩
  cases ty with
  | object C => exact absurd rfl (hp C)
  | _ => exact h1
theorem jarrO {s : State} {A : Array Value} {C : String} (h : (Cond.arrayOver (.object C)).before A s = true) : ∃ cA, ArrOfT s cA (.object C) ∧ va_RA s cA (.object C) := by
  obtain ⟨comp, c, k, h1, -, h2, h3, h4⟩ := Cond.arrayOver_spec h
  exact ⟨c, fun n z => ⟨fun k h => (by cases h), k, h2, comp, h3⟩, k, comp, h2, h3, h1, h4⟩
theorem jlen0 {T : Term} {A : Array Value} {s : State} (hz : (Cond.eq (.length T) (.int 0)).before A s = true) : ∃ a cell, T.eval A s none [] s = some (.ref a) ∧ s.arrayAt? a = some cell ∧ cell.slots.size = 0 := by
  simp only [Cond.before, Cond.holds, Cond.value, Term.eval, Option.bind_eq_bind] at hz
  cases hT : T.eval A s none [] s with
  | none => simp [hT] at hz
  | some x =>
    cases x with
    | ref a =>
      simp only [hT, Option.bind_some] at hz
      cases ha : s.arrayAt? a with
      | none => simp [ha] at hz
      | some cell =>
        refine ⟨a, cell, rfl, ha, ?_⟩
        by_cases hlt : cell.slots.size < 2147483648
        · simp [ha, hlt] at hz
          have h1 := Int32.toInt_ofNat_of_lt (n := cell.slots.size) (by omega)
          have h2 : Int32.ofNat cell.slots.size = 0 := hz
          rw [h2] at h1
          have : (0 : Int) = (cell.slots.size : Int) := h1
          omega
        · simp [ha, hlt] at hz
    | _ => simp [hT] at hz
theorem jac_eq (t c3 c4 c5 c6 c7 c8 f : Nat) : (if 0 = 0 ∧ f = 1952 then t + 1 else 0) = (if 100 + f = 4 then c4 else if 100 + f = 5 then c5 else if 100 + f = 6 then c6 else if 100 + f = 7 then c7 else if 100 + f = 8 then c8 else if 100 + f = 2052 then t + 1 else if 100 + f < 9 then c3 else 0) := by
  rw [if_neg (show ¬ 100 + f = 4 by omega), if_neg (show ¬ 100 + f = 5 by omega), if_neg (show ¬ 100 + f = 6 by omega), if_neg (show ¬ 100 + f = 7 by omega), if_neg (show ¬ 100 + f = 8 by omega), if_neg (show ¬ 100 + f < 9 by omega)]
  by_cases hf : f = 1952
  · rw [if_pos ⟨rfl, hf⟩, if_pos (show 100 + f = 2052 by omega)]
  · rw [if_neg (fun h : (0 = 0 ∧ f = 1952) => hf h.2), if_neg (show ¬ 100 + f = 2052 by omega)]
/-- what is left: the pure law -/
def lawPure : Prop := ∀ (a : Nat) (sc : Nat → Int32) (n x z : Nat), n ≤ 384 → z ≠ 0 → z < x → ∃ W, flw_law a sc n (jW0 x z) = some (kI 1, W)
set_option maxRecDepth 100000 in
theorem whole_start (hpure : lawPure) {p : Program} {e : Env} {s : State} {m : MethodId} {below : List Frame} {meth : Method} {c : Code} (l : Launch) (hst : l.stackTraces = false) (hnm : meth.name = "law") (hex : c.exceptionTable.toList = []) {b L : Nat} {xs : Nat → Int32} (hL : L ≤ 384) (C0 : lw_At p s m meth c b L xs) : W p l e room_1 s m #[Value.ref b] below meth c s.heap [] 0 0 (lw_Z below #[Value.ref b] s) (entryFrame m ([Value.ref b] : List Value).toArray 4) := by
  obtain ⟨hexec, hcode, hret, hml, hown, hts, hX, hbl, hlocks, hgv⟩ := C0
  have hall : ∀ w ∈ lw_all, w.before #[Value.ref b] s = true := fun w h => hts w (lw_all_tbl h)
  obtain ⟨D0, hD0⟩ := Classical.axiomOfChoice (jchoice hall)
  obtain ⟨c3, a3⟩ := jarr (ty := .int) (fun C h => by cases h) (hts _ (lw_all_tbl q452))
  obtain ⟨c4, a4⟩ := jarr (ty := .byte) (fun C h => by cases h) (hts _ (lw_all_tbl q340))
  obtain ⟨c5, a5⟩ := jarr (ty := .boolean) (fun C h => by cases h) (hts _ (lw_all_tbl q454))
  obtain ⟨c6, a6⟩ := jarr (ty := .long) (fun C h => by cases h) (hts _ (lw_all_tbl q453))
  obtain ⟨c7, a7⟩ := jarrO (hts _ q611)
  obtain ⟨c8, a8⟩ := jarrO (hts _ q1391)
  have hflat := flat_of_before _ hgv
  have hz1 : (Cond.isRef (.static "java/lang/Throwable" "UNASSIGNED_STACK" "[Ljava/lang/StackTraceElement;")).before #[Value.ref b] s = true := hflat _ (by decide +kernel)
  have hz2 : (Cond.isRef (.static "java/lang/Throwable" "SUPPRESSED_SENTINEL" "Ljava/util/List;")).before #[Value.ref b] s = true := hflat _ (by decide +kernel)
  have hz3 : (Cond.arrayOf (.static "java/util/ArrayList" "DEFAULTCAPACITY_EMPTY_ELEMENTDATA" "[Ljava/lang/Object;") (.object "java/lang/Object")).before #[Value.ref b] s = true := hflat _ (by decide +kernel)
  have hz4 : (Cond.eq (.length (.static "java/util/ArrayList" "DEFAULTCAPACITY_EMPTY_ELEMENTDATA" "[Ljava/lang/Object;")) (.int 0)).before #[Value.ref b] s = true := hflat _ (by decide +kernel)
  obtain ⟨v1, e1, f1⟩ := Cond.isRef_spec hz1
  obtain ⟨v2, e2, f2⟩ := Cond.isRef_spec hz2
  obtain ⟨t, cell, ht, harr, hsz⟩ := jlen0 hz4
  obtain ⟨hcell, -, -, -⟩ := State.arrayAt?_spec harr
  have hof := (Cond.arrayOf_spec hz3 ht hcell).1
  have hA : ∀ a : Nat, a < s.heap.size → ¬ (fun q => s.heap.size ≤ q) a := fun a h1 h2 => by
    exact absurd h1 (Nat.not_lt.mpr h2)
  have tl : t < s.heap.size := (Array.getElem?_eq_some_iff.mp hcell).1
  have l1 := hts _ q306
  have l2 := hts _ q308
  have l3 := hts _ q625
  let ac : Nat → ClassId := fun k => if k = 4 then c4 else if k = 5 then c5 else if k = 6 then c6 else if k = 7 then c7 else if k = 8 then c8 else if k = 2052 then t + 1 else if k < 9 then c3 else 0
  have hK : va_K (fun c => (D0 c).1, fun c => (D0 c).2) jcl (jtys ac) s := by
    refine ⟨fun c q hq => hD0 c q hq, fun k q hq => ?_⟩
    match k, hq with
    | 0, hq => cases hq; exact a3
    | 1, hq => cases hq; exact a3
    | 2, hq => cases hq; exact a3
    | 3, hq => cases hq; exact a3
    | 4, hq => cases hq; exact a4
    | 5, hq => cases hq; exact a5
    | 6, hq => cases hq; exact a6
    | 7, hq => cases hq; exact a7
    | 8, hq => cases hq; exact a8
    | n + 9, hq => cases hq
  have hZ : jZ ac s.heap s := by
    refine ⟨?_, Nat.succ_ne_zero t, cell, by show s.heap[t + 1 - 1]? = _; exact hcell, hof, hsz, ⟨v1, f1⟩, ⟨v2, f2⟩, va_Zof l1 (hall _ q229) e1 hA, va_Zof l2 (hall _ q229) e2 hA, fun q _ => rfl, ?_, ?_⟩
    · exact va_Zof l3 (hall _ q240) ht hA
    · exact Cond.laysStatic_spec l1
    · exact Cond.laysStatic_spec l2
  obtain ⟨W, hW⟩ := hpure (b + 1) xs L (s.heap.size + 1) (t + 1) hL (Nat.succ_ne_zero t) (Nat.succ_lt_succ tl)
  have hjj := clw_law (x := (p, l, e, room_1, s, m, #[Value.ref b], below, meth, c, (fun c => (D0 c).1, fun c => (D0 c).2), ac, s.heap)) (en0 := fun q => some (.returned (some (.int q.1)), q.2)) (b + 1) xs L (jW0 (s.heap.size + 1) (t + 1))
    ⟨hexec, hcode, hml, hlocks, hown, ⟨hall, fun w hw hn => ?_⟩, hK⟩ ⟨hnm, hret, by rw [hex]; rfl⟩ ⟨by decide, by decide, hZ, hst⟩ (fun q => rfl) ⟨by omega, hX⟩
  · have hl := lv_entry [Value.ref b] (n := 4) (Nat.le_of_ble_eq_true rfl)
    have hG : jG (fun c => (D0 c).1, fun c => (D0 c).2) ac s.heap room_1 (jW0 (s.heap.size + 1) (t + 1)) s.heap [] 0 0 := by
      refine ⟨⟨by rw [jsh_size]; exact Nat.succ_le_succ (Nat.zero_le _), by rw [jsh_size]; rfl, Nat.le_refl _, fun q hq => rfl, fun o h => absurd rfl h, fun f o hk hr => ?_, fun f o hk hr => rfl, fun f o f2 o2 hk hk2 hr => ?_, fun f a ha => ⟨rfl, rfl, ?_, rfl⟩, fun f => ?_⟩, fun q hq => absurd hq List.not_mem_nil, by rw [show jF (jW0 (s.heap.size + 1) (t + 1)) = 217943 from rfl]; decide, by rw [show jS (jW0 (s.heap.size + 1) (t + 1)) = 8442276 from rfl]; decide⟩
      · refine absurd ?_ hr
        show (if o = 0 ∧ f = 1952 then t + 1 else 0) = 0
        rw [if_neg fun h => ?_]
        obtain ⟨-, rfl⟩ := h
        revert hk
        decide
      · refine absurd ?_ hr
        show (if o = 0 ∧ f = 1952 then t + 1 else 0) = 0
        rw [if_neg fun h => ?_]
        obtain ⟨-, rfl⟩ := h
        revert hk
        decide
      · show (if a = 0 ∧ f = 1952 then t + 1 else 0) = 0
        rw [if_neg fun h => ?_]
        exact absurd h.1 (Nat.ne_of_gt (Nat.lt_of_lt_of_le (Nat.succ_pos _) ha))
      · exact jac_eq t c3 c4 c5 c6 c7 c8 f
    have hT := jJ_iff.mp hjj (.returned (some (.int (kI 1))), W) (by rw [hW]; rfl)
    have hT := hT _ (by rw [show jmv [(0, vR (b + 1))] = lv_args 0 [Value.ref b] from rfl]; exact hl) s.heap [] 0 0 hG
    rw [lg_entry_eq]
    intro T0 hT0 X0
    obtain ⟨t1, s1, r1, r2, r3, Lc, k, n, r4, r5, r6, r7, r8⟩ := hT T0 hT0 X0
    refine ⟨t1, s1, _, r1, r2, rfl, ⟨_, rfl⟩, r3, ?_⟩
    exact r4.weaken (fun y hy hlt => absurd hlt (Nat.not_lt.mpr (r5 y hy))) (Nat.le_trans (Nat.le_add_right _ _) r7) (Nat.le_trans (Nat.le_add_right _ _) r8)
  · have h2 := hts w hw
    cases w <;> first | exact va_Nw.of rfl h2 | cases hn | (rename_i ty; cases ty <;> first | exact va_AO.of h2 | cases hn)

set_option maxHeartbeats 4000000 in
theorem lw_walk (hpure : lawPure) (l : Launch) (hst : l.stackTraces = false) (b : Addr) (xs : List Int32) : MetFree l x (headSpec (Jvm.Cond.code x code maxLocals ret :: tables_1) room_1) (lw_P b xs) (fun _ _ _ _ _ => True) lw_Q := by
  refine MetFree.of_bodyS (code := code) (maxLocals := maxLocals) (ret := ret) (by decide) ?_ ?_
  · intro args s m h hn
    obtain ⟨meth, c, h1, h2, h3, h4, h5, h6, -, -⟩ := Cond.code_spec hn (atoms_spec (ws := Jvm.Cond.code x code maxLocals ret :: tables_1) h _ List.mem_cons_self)
    exact ⟨meth, c, h1, h2, h3, h4, h5, h6⟩
  · intro p e s m args below meth c s₁ B hml0 hP _
    obtain ⟨rfl, hx, hbd, hgv⟩ := hP
    obtain ⟨scr, harrAt, hlist, hof, hsmall⟩ := hx
    obtain ⟨hcb, hkn, -, -⟩ := State.arrayAt?_spec harrAt
    have hown : s.vm.findClass R_law = some m.cls := findClass_of_methodNamed B.named
    have hts0 : ∀ c ∈ (Jvm.Cond.code x code maxLocals ret :: tables_1), c.before #[Value.ref b] s = true := atoms_spec (ws := Jvm.Cond.code x code maxLocals ret :: tables_1) B.pre
    have hts : ∀ w ∈ lw_tbl, w.before #[Value.ref b] s = true := k2_hts_sels lw_privs (fun w hw => hts0 w (List.mem_cons_of_mem _ hw)) lw_privs_ok
    have hml : c.maxLocals = 4 := B.maxLocals_eq (hts0 _ List.mem_cons_self)
    have X₀ : Stand p l e room_1 s m #[Value.ref b] below meth c s₁ [] 0 0 := Stand.of_body B
    have hh0 : s₁.heap = s.heap := by rw [B.state]; rfl
    have hsz : scr.slots.size = xs.length := by rw [← Array.length_toList, hlist, List.length_map]
    have hval : ∀ j : Nat, j < xs.length → scr.slots[j]? = some (.int (xs.getD j 0)) := fun j hj => by
      rw [← Array.getElem?_toList, hlist]
      simp [hj]
    have hbl : b < s.heap.size := (Array.getElem?_eq_some_iff.mp hcb).1
    have hX : va_X b xs.length (fun j => xs.getD j 0) s s.heap := ⟨scr, hcb, hof, hkn, hsz, hval⟩
    have K : W p l e room_1 s m #[Value.ref b] below meth c s₁.heap [] 0 0 (lw_Z below #[Value.ref b] s) (entryFrame m ([Value.ref b] : List Value).toArray 4) := by
      rw [hh0]
      obtain ⟨meth1, c1, k1, k2, -, -, -, -, k7, -⟩ := Cond.code_spec B.named (hts0 _ List.mem_cons_self)
      cases B.method.symm.trans k1
      cases X₀.code.symm.trans k2
      exact whole_start hpure l hst (name_of_methodNamed B.named B.method).1 (Array.toList_eq_nil_iff.mpr (Array.isEmpty_iff.mp k7)) hbd ⟨B.exec, B.bytes, B.returns, hml, hown, hts, hX, hbl, B.notSynchronized, hgv⟩
    obtain ⟨t, a1, o, b1, b2, b3⟩ := K s₁ rfl X₀
    exact ⟨t, o, a1, b1, b2, b3⟩
theorem lw_pre_spec {args : Array Value} {s : State} (h : (Jvm.Cond.and given_1 narrow_1).before args s = true) (hr : rest_1_c.before args s = true) : ∃ (b : Addr) (xs : List Int32), lw_P b xs args s := by
  have hs := flat_of_before _ h
  have hq := flat_of_before _ hr
  have hc : (Cond.count 1).before args s = true := hs _ (by decide +kernel)
  have harr : (Cond.arrayOf (.arg 0) .int).before args s = true := hs _ (by decide +kernel)
  have hle : (Cond.le (.length (.arg 0)) (.int 384)).before args s = true := hs _ (by decide +kernel)
  have hlen : (Cond.isInt (.length (.arg 0))).before args s = true := hq _ (by decide +kernel)
  have hall : (Cond.all (.arg 0) (.isInt (.elem (.arg 0) (.index 0)))).before args s = true := hq _ (by decide +kernel)
  obtain ⟨b, xs, hb, hx⟩ := State.ints_of_pre rfl harr hlen hall
  have hsm : xs.length < 2 ^ 31 := hx.choose_spec.2.2.2
  have hev : (Term.length (.arg 0)).eval args s none [] s = some (.int xs.length.toInt32) := hx.length_eval hb
  have hv := Cond.le_ints hev (show (Term.int 384).eval args s none [] s = some (.int 384) from rfl)
  have hd : xs.length.toInt32 ≤ 384 := by
    simpa [Cond.before, Cond.holds, hv] using hle
  have hN : xs.length ≤ 384 := (Int32.ofNat_le_ofNat hsm (by decide)).mp (show Int32.ofNat xs.length ≤ Int32.ofNat 384 from hd)
  exact ⟨b, xs, Cond.one_arg hc (show args[0]? = some (.ref b) from hb), hx, hN, h⟩
theorem lw_comes (hpure : lawPure) (l : Launch) (hst : l.stackTraces = false) : Comes l x (Jvm.Cond.code x code maxLocals ret :: tables_1) room_1 (fun tb e args s => Calls_1 tb e args s ∧ rest_1 tb e args s ∧ Pre_1 tb e args s)
    (fun _ _ args s o t => lw_Q args s o t) := by
  intro p e ha hc hk s m args below hf hfit hheap happ hpre
  obtain ⟨b, xs, hP⟩ := lw_pre_spec hpre.2.2 hpre.2.1
  obtain ⟨k, o, h1, h2, h3, hQ⟩   := lw_walk hpure l hst b xs p e ha hc hk s m args below hf ((Spec.applies_iff_loose hf).mp happ).1 hP trivial
  exact ⟨k, o, h1, h2, h3, hQ⟩
theorem lw_frame {s t : State} {o : Outcome} {args : Array Value} (h : Framed s o t [] 217943 8442276) :
    Framed s o t (fieldLocs frame_1_writes args s ++ arrayLocs frame_1_arrays args s ++ staticLocs frame_1_statics s) 217943 8442276 := h
theorem lw_limb (hpure : lawPure) (L : Cond) (hL : ∀ (args : Array Value) (s t : State), L.after args s (.returned (some (.int 1))) t = true) :
    ArmFor flags0 classFile x code maxLocals ret World_1 tables_1 room_1 Calls_1 rest_1 Pre_1
      (fun tb e a s o t => postC L tb e a s o t ∧ Framed s o t (fieldLocs frame_1_writes a s ++ arrayLocs frame_1_arrays a s ++ staticLocs frame_1_statics s) 217943 8442276) := by
  intro l hfl _ _ p e ha hc hk s m args below hf hfit hheap happ hpre
  have hst : l.stackTraces = false := by unfold Launch.stackTraces; rw [hfl]; decide +kernel
  obtain ⟨k, o, h1, h2, h3, rfl, hF⟩ := lw_comes hpure l hst p e ha hc hk s m args below hf hfit hheap happ hpre
  exact ⟨k, _, h1, h2, h3, hL args s _, lw_frame hF⟩
theorem i_vc_of (hpure : lawPure) : Claimed_1_1 ∧ Claimed_1_2 := ⟨lw_limb hpure limb_1_1 (fun args s t => by simp [limb_1_1, Cond.after, Cond.holds, Cond.value]), lw_limb hpure limb_1_2 (fun args s t => Cond.after_iff.mpr (by
  first | (rw [show limb_1_2 = Cond.eq .result (.int 1) from rfl, Cond.eq_ints (x := 1) (y := 1) rfl rfl]; simp; done) | (simp [limb_1_2, Cond.value, Term.eval]; done)))⟩
