/-! ===== calls: a row for each kind of invocation ===== -/
/-- a method's code word, with or without handlers -/
def jCd (y : MethodName) (cb : ByteArray) (nb : Nat) (rb : Option FieldType) (hh : List (Nat × Nat × Nat × Nat)) : Prop :=
  plainFor y = true ∧ (y.cls ≠ "java/lang/invoke/MethodHandle" ∧ y.cls ≠ "java/lang/invoke/VarHandle") ∧ ((hh = [] ∧ Cond.code y cb nb rb ∈ lw_all) ∨ Cond.codeWith y cb nb rb hh ∈ lw_all)
theorem jCd.spec {y : MethodName} {cb : ByteArray} {nb : Nat} {rb : Option FieldType} {hh : List (Nat × Nat × Nat × Nat)} (h : jCd y cb nb rb hh) {a : Array Value} {s : State} (hts : ∀ w ∈ lw_all, w.before a s = true) :
    ∃ mk methk ck, s.methodNamed? y = some mk ∧ s.vm.method? mk = some methk ∧ methk.code = some ck ∧ ck.code = cb ∧ ck.maxLocals = nb ∧ methk.sig.returnType = rb ∧ methk.locks = false ∧ ck.exceptionTable.toList.map (fun h => (h.startPc, h.endPc, h.handlerPc, h.catchType)) = hh ∧ parseMethodDescriptor y.desc = some methk.sig := by
  obtain ⟨-, -, ⟨rfl, h⟩ | h⟩ := h
  · have h := hts _ h
    obtain ⟨mk, hn⟩ := Cond.code_named h
    obtain ⟨methk, ck, h1, h2, h3, h4, h5, h6, h7, h8⟩ := Cond.code_spec hn h
    refine ⟨mk, methk, ck, hn, h1, h2, h3, h4, h5, h6, ?_, h8⟩
    rw [List.map_eq_nil_iff]
    exact Array.toList_eq_nil_iff.mpr (Array.isEmpty_iff.mp h7)
  · obtain ⟨mk, methk, ck, h0, h1, h2, h3, h4, h5, h6, h7, h8⟩ := Cond.codeWith_spec (hts _ h)
    exact ⟨mk, methk, ck, h0, h1, h2, h3, h4, h6, h7, h5, h8⟩
/-- the walk at pc with a fixed end -/
def jT (x : jCx) (nL pc : Nat) (lv : List (Nat × jV)) (st : List jV) (w : jW) (r : Outcome × jW) : Prop := match x with
  | (p, l, e, R, s, m, args, below, meth, c, D, ac, H0) => ∀ ls, lv_has ls nL (jmv lv) → ∀ H locs cells slots, jG D ac H0 R w H locs cells slots →
    Jvm.Pilot.CCodeLayoutLaw_law_r9976_571ee0.W p l e R s m args below meth c H locs cells slots (jQ D ac H0 R s below r) (F0 m pc ls (st.map jpv))
theorem jJ_iff {α : Type} {x : jCx} {nL pc : Nat} {lv : List (Nat × jV)} {st : List jV} {w : jW} {mm : Option α} {en : α → Option (Outcome × jW)} : jJ x nL pc lv st w mm en ↔ ∀ r, mm.bind en = some r → jT x nL pc lv st w r := by
  obtain ⟨p, l, e, R, s, m, args, below, meth, c, D, ac, H0⟩ := x
  exact Iff.rfl
/-- an exception has come to this frame -/
def jX1 (x : jCx) (nL pc : Nat) (lv : List (Nat × jV)) (w : jW) (a : Nat) (r : Outcome × jW) : Prop := match x with
  | (p, l, e, R, s, m, args, below, meth, c, D, ac, H0) => ∀ ls, lv_has ls nL (jmv lv) → ∀ (T : State) locs cells slots, Stand p l e R s m args below meth c T locs cells slots → jG D ac H0 R w T.heap locs cells slots → ∀ st : List Value,
    ∃ t, jQ D ac H0 R s below r t ∧ Steps p.tables e below ((T.setTop (F0 m pc ls st)).pushFrame (.throwing a)) t
/-- what lies behind a call, by its outcome -/
def jAf (x : jCx) (nL pc : Nat) (lv : List (Nat × jV)) (st : List jV) (o : Outcome × jW) (r : Outcome × jW) : Prop := match o with
  | (.returned none, w) => jT x nL (pc + 3) lv st w r
  | (.returned (some v), w) => ∃ u : jV, v = jpv u ∧ jT x nL (pc + 3) lv (u :: st) w r
  | (.threw a, w) => jX1 x nL pc lv w a r
theorem jRel.recv {D : va_G} {ac : Nat → ClassId} {H0 H : Heap} {w : jW} {s : State} (hRel : jRel D ac (jsh H0) w (jsh H)) (hK : va_K D jcl (jtys ac) s) {o c : Nat} (hC : jC w o = c) (h0 : c ≠ 0) {C : String} {T : u_T} {N : Nat} (hc : jcl[c]? = some (C, T, N)) :
    o ≠ 0 ∧ ∃ cell : Cell, H[o - 1]? = some cell ∧ cell.vm.isStatics = false ∧ s.vm.findClass C = some cell.cls := by
  have hc0 : jC w o ≠ 0 := by rw [hC]; exact h0
  have hOB := (t_OB_sh (hRel.ne hc0)).mp (hRel.2.2.2.2.1 o hc0).2
  rw [hC] at hOB
  have hN : jnf c = N := by unfold jnf; rw [hc]
  have hP : va_P D jcl [(o - 1, .inr (c, (List.range N).map fun j => jfv w (100 * c + j) o))] H := by
    intro k q hq
    have hk : k < 1 := (List.getElem?_eq_some_iff.mp hq).1
    have hk : k = 0 := by omega
    subst hk
    cases hq
    refine ⟨(C, T, N), hc, t_OB.to (V := fun j => jfv w (100 * c + j) o) (by rw [← hN]; exact hOB) fun j hj => ?_⟩
    simp [vp_V, hj]
  exact ⟨hRel.ne hc0, va_recv hK hP hc (q0 := 0) rfl⟩
section JI
variable {p : Program} {l : Launch} {e : Env} {R : Room} {s : State} {m : MethodId} {args : Array Value} {below : List Frame} {meth : Method} {c : Code} {T : State} {locs : List Loc} {cells slots : Nat} {D : va_G} {ac : Nat → ClassId} {H0 : Heap}
/-- behind the step into the callee: the callee's contract, then what lies behind -/
theorem jgo (X : Stand p l e R s m args below meth c T locs cells slots) (hexec : p.tables.exec = Jvm.exec) (hwd : jWds args s) (hK : va_K D jcl (jtys ac) s) (hz : jZ ac H0 s ∧ l.stackTraces = false)
    {y : MethodName} {cb : ByteArray} {nb : Nat} {rb : Option FieldType} {hh : List (Nat × Nat × Nat × Nat)} (hcd : jCd y cb nb rb hh) {mk : MethodId} (hn : T.methodNamed? y = some mk)
    {nL pc : Nat} {lv : List (Nat × jV)} {st : List jV} {ls : Array Slot} (hml : c.maxLocals = nL) (hl : lv_has ls nL (jmv lv)) {ig : Instr} (hdg : decode c.code pc = .ok (ig, 3))
    {rf rl : Nat} {av : List jV} {w : jW} {mf : Option (Outcome × jW)} (hM : jM y cb nb rb hh rf rl av w mf) (hrf : rf + 1 ≤ R.frames) (hrl : jws st + (nb + 11) + rl ≤ R.locals)
    (hG : jG D ac H0 R w T.heap locs cells slots) {o : Outcome × jW} (ho : mf = some o) {r : Outcome × jW} (k : jAf (p, l, e, R, s, m, args, below, meth, c, D, ac, H0) nL pc lv st o r) :
    ∃ t, jQ D ac H0 R s below r t ∧ ∀ acts, Steps p.tables e below (doInvoke e (T.setTop (F0 m pc ls (st.map jpv))) acts mk (av.map jpv).toArray).1 t := by
  have hW : s.WarmedH T.vm := X.warmed
  obtain ⟨mk', methk, ck, n1, n2, n3, n4, n5, n6, n7, n8, n9⟩ := hcd.spec (hwd.warm (a' := args) (U := T) hW).1
  cases hn.symm.trans n1
  obtain ⟨T', locs', cells', slots', X', hG', hgo⟩ := jcall X hexec hwd hK hz (g := F0 m pc ls (st.map jpv)) rfl (by show ls.size = _; rw [hml]; exact hl.1) hdg hn hcd.1 n2 n3 n4 n5 n6 n7 n8 hM hrf
    (by show 2 * 0 + ((st.map jpv).map fun v => v.category).sum + (nb + 11) + rl ≤ R.locals; rw [jws_sum]; omega) hG ho
  obtain ⟨o, w'⟩ := o
  cases o with
  | returned v =>
    cases v with
    | none =>
      obtain ⟨t, ht, hq⟩ := k ls hl T'.heap locs' cells' slots' hG' T' rfl X'
      exact ⟨t, hq, fun acts => hgo t ht acts⟩
    | some v =>
      obtain ⟨u, rfl, k⟩ := k
      obtain ⟨t, ht, hq⟩ := k ls hl T'.heap locs' cells' slots' hG' T' rfl X'
      exact ⟨t, hq, fun acts => hgo t ht acts⟩
  | threw a =>
    obtain ⟨t, hq, ht⟩ := k ls hl T' locs' cells' slots' X' hG' (st.map jpv)
    exact ⟨t, hq, fun acts => hgo t ht acts⟩
end JI
