/-! ===== contracts and calls ===== -/
def jRm (x : jCx) (rf rl : Nat) : Prop := match x with
  | (p, l, e, R, s, m, args, below, meth, c, D, ac, H0) => rf ≤ R.frames ∧ rl ≤ R.locals ∧ jZ ac H0 s ∧ l.stackTraces = false
theorem jZ.moved {ac : Nat → ClassId} {H0 : Heap} {s U : State} (hvm : s.vm.Alike U.vm) (hh : ∀ q : Nat, q < H0.size → U.heap[q]? = H0[q]?) (h : jZ ac H0 s) : jZ ac H0 U := by
  obtain ⟨h1, h2, cell, h3, h4, h5, u0, sen, h6, h7, -, h8, h9⟩ := h
  exact ⟨h1.moved hvm, h2, cell, h3, State.isArrayOf_alike hvm h4, h5, u0, sen, h6.moved hvm, h7.moved hvm, hh, h8.moved hvm, h9.moved hvm⟩
theorem jRel.old {D : va_G} {ac : Nat → ClassId} {H0 H : Heap} {w : jW} (h : jRel D ac (jsh H0) w (jsh H)) (q : Nat) (hq : q < H0.size) : H[q]? = H0[q]? := by
  have := h.2.2.2.1 (q + 1) (by rw [jsh_size]; omega)
  rw [jsh_get, jsh_get] at this
  exact this
/-- THE CONTRACT: method y, with code cb, nb locals, answer rb, handlers hh, in a room of rf frames and rl words, called with av in the world w, comes to what mf says -/
def jM (y : MethodName) (cb : ByteArray) (nb : Nat) (rb : Option FieldType) (hh : List (Nat × Nat × Nat × Nat)) (rf rl : Nat) (av : List jV) (w : jW) (mf : Option (Outcome × jW)) : Prop :=
  ∀ (p : Program) (l : Launch) (e : Env) (R : Room) (s : State) (m : MethodId) (below : List Frame) (meth : Method) (c : Code) (D : va_G) (ac : Nat → ClassId) (H0 : Heap),
    jOK (p, l, e, R, s, m, (av.map jpv).toArray, below, meth, c, D, ac, H0) y.cls cb nb → jMt (p, l, e, R, s, m, (av.map jpv).toArray, below, meth, c, D, ac, H0) y.name rb hh → jRm (p, l, e, R, s, m, (av.map jpv).toArray, below, meth, c, D, ac, H0) rf rl →
    ∀ r, mf = some r → ∀ H, jG D ac H0 R w H [] 0 0 → W p l e R s m (av.map jpv).toArray below meth c H [] 0 0 (jQ D ac H0 R s below r) (entryFrame m (av.map jpv).toArray nb)
def jar : Nat → List jV → List (Nat × jV)
  | _, [] => []
  | i, v :: l => (i, v) :: jar (i + jwd v) l
theorem jar_eq : ∀ (i : Nat) (av : List jV), lv_args i (av.map jpv) = jmv (jar i av)
  | _, [] => rfl
  | i, v :: l => by
    show (i, jpv v) :: lv_args (if (jpv v).category = 2 then i + 2 else i + 1) (l.map jpv) = (i, jpv v) :: jmv (jar (i + jwd v) l)
    rw [jpv_cat]
    rw [show (if jwd v = 2 then i + 2 else i + 1) = i + jwd v by rcases v with x | x | a <;> rfl]
    rw [jar_eq]
def jws : List jV → Nat
  | [] => 0
  | v :: l => jwd v + jws l
theorem jws_sl : ∀ (av : List jV), (lg_sl (av.map jpv)).length = jws av
  | [] => rfl
  | v :: l => by
    show ((if (jpv v).category = 2 then [Slot.val (jpv v), .second] else [Slot.val (jpv v)]) ++ lg_sl (l.map jpv)).length = jwd v + jws l
    rw [List.length_append, jws_sl, jpv_cat]
    rcases v with x | x | a <;> rfl
theorem jws_sum : ∀ (st : List jV), ((st.map jpv).map fun v => v.category).sum = jws st
  | [] => rfl
  | v :: l => by
    show (jpv v).category + ((l.map jpv).map fun v => v.category).sum = jwd v + jws l
    rw [jws_sum, jpv_cat]
theorem jM.of {y : MethodName} {cb : ByteArray} {nb : Nat} {rb : Option FieldType} {hh : List (Nat × Nat × Nat × Nat)} {rf rl : Nat} {av : List jV} {w : jW} {α : Type} {mm : Option α} {en : α → Option (Outcome × jW)} (hav : jws av ≤ nb)
    (h : ∀ x, jOK x y.cls cb nb → jMt x y.name rb hh → jRm x rf rl → jJ x nb 0 (jar 0 av) [] w mm en) : jM y cb nb rb hh rf rl av w (mm.bind en) := by
  intro p l e R s m below meth c D ac H0 h1 h2 h3 r hr H hG
  have hl := lv_entry (av.map jpv) (n := nb) (by rw [jws_sl]; exact hav)
  rw [jar_eq] at hl
  rw [lg_entry_eq]
  exact h _ h1 h2 h3 r hr _ hl H [] 0 0 hG
theorem jWds.warm {a a' : Array Value} {s U : State} (hW : s.WarmedH U.vm) (h : jWds a s) : jWds a' U := by
  refine ⟨fun w hw => word_at hW (lw_self w hw).2 (h.1 w hw), fun w hw hn => ?_⟩
  have h2 := h.2 w hw hn
  cases w <;> first | exact va_Nw.warmF hW h2 | exact va_Nw.warmM hW h2 | exact va_Nw.warmC hW h2 | exact va_Nw.warmD hW h2 | cases hn | (rename_i ty; cases ty <;> first | exact va_AO.moved hW.alike h2 | cases hn)
/-- where a call ends -/
def jEnd (g : JFrame) (len : Nat) (o : Outcome) (T : State) : State := match o with
  | .returned v => T.setTop { g with pc := g.pc + len, stack := v.toList ++ g.stack }
  | .threw a => (T.setTop g).pushFrame (.throwing a)
theorem jSteps_weaken {tb : Tables} {e : Env} {below : List Frame} {f : Frame} {s s' : State} (h : Steps tb e (f :: below) s s') : Steps tb e below s s' := by
  obtain ⟨n, h1, h2⟩ := h
  exact ⟨n, h1, fun k hk => Within.weaken (mid := [f]) (h2 k hk)⟩
theorem jcall {p : Program} {l : Launch} {e : Env} {R : Room} {s : State} {m : MethodId} {args : Array Value} {below : List Frame} {meth : Method} {c : Code} {T : State} {locs : List Loc} {cells slots : Nat} {D : va_G} {ac : Nat → ClassId} {H0 : Heap}
    (X : Stand p l e R s m args below meth c T locs cells slots) (hexec : p.tables.exec = Jvm.exec) (hwd : jWds args s) (hK : va_K D jcl (jtys ac) s) (hz : jZ ac H0 s ∧ l.stackTraces = false)
    {g : JFrame} (hg : g.method = m) (hsize : g.locals.size = c.maxLocals) {ig : Instr} {len : Nat} (hdg : decode c.code g.pc = .ok (ig, len))
    {y : MethodName} {mk : MethodId} {methk : Method} {ck : Code} {cb : ByteArray} {nb : Nat} {rb : Option FieldType} {hh : List (Nat × Nat × Nat × Nat)} (hn : T.methodNamed? y = some mk) (hpl : plainFor y = true) (hmk : T.vm.method? mk = some methk) (hck : methk.code = some ck)
    (h1 : ck.code = cb) (h2 : ck.maxLocals = nb) (h3 : methk.sig.returnType = rb) (h4 : methk.locks = false) (h5 : ck.exceptionTable.toList.map (fun h => (h.startPc, h.endPc, h.handlerPc, h.catchType)) = hh)
    {rf rl : Nat} {av : List jV} {w : jW} {mf : Option (Outcome × jW)} (hM : jM y cb nb rb hh rf rl av w mf) (hrf : rf + 1 ≤ R.frames) (hrl : 2 * g.monitorRoom + (g.stack.map fun v => v.category).sum + (nb + 11) + rl ≤ R.locals)
    (hG : jG D ac H0 R w T.heap locs cells slots) {r : Outcome × jW} (hr : mf = some r) :
    ∃ (T' : State) (locs' : List Loc) (cells' slots' : Nat), Stand p l e R s m args below meth c T' locs' cells' slots' ∧ jG D ac H0 R r.2 T'.heap locs' cells' slots' ∧ ∀ target, Steps p.tables e below (jEnd g len r.1 T') target → ∀ acts, Steps p.tables e below (doInvoke e (T.setTop g) acts mk (av.map jpv).toArray).1 target := by
  obtain ⟨hRel, hlo, hce, hsl⟩ := hG
  obtain ⟨Y, hin⟩ := X.into hg hsize hdg (av.map jpv).toArray (R' := { frames := R.frames - 1, cells := R.cells - cells, slots := R.slots - slots, locals := R.locals - (2 * g.monitorRoom + (g.stack.map fun v => v.category).sum + (nb + 11)) }) hmk hck h4 (State.plainMethod.of_named hpl hn hmk)
    (by show R.frames - 1 + 1 ≤ R.frames; omega) (by rw [h2]; show _ + _ + (nb + 11) + (R.locals - _) ≤ R.locals; omega) (by show cells + (R.cells - cells) ≤ R.cells; omega) (by show slots + (R.slots - slots) ≤ R.slots; omega)
  have hW : s.WarmedH (T.calling g mk (av.map jpv).toArray).vm := X.warmed
  have hn' : (T.calling g mk (av.map jpv).toArray).methodNamed? y = some mk := hn
  have hmn := name_of_methodNamed hn hmk
  have hb := hM p l e { frames := R.frames - 1, cells := R.cells - cells, slots := R.slots - slots, locals := R.locals - (2 * g.monitorRoom + (g.stack.map fun v => v.category).sum + (nb + 11)) } (T.calling g mk (av.map jpv).toArray) mk (.java g :: below) methk ck D ac H0
    ⟨hexec, h1, h2, h4, findClass_of_methodNamed hn', hwd.warm hW, va_K.moved hW.alike hK⟩ ⟨hmn.1, h3, h5⟩ ⟨by show rf ≤ R.frames - 1; omega, by show rl ≤ R.locals - _; omega, hz.1.moved hW.alike (fun q hq => hRel.old q hq), hz.2⟩ r hr T.heap
    ⟨hRel, fun q hq => absurd hq List.not_mem_nil, by show 0 + jF w ≤ R.cells - cells; omega, by show 0 + jS w ≤ R.slots - slots; omega⟩
  have hmax : ck.maxLocals = nb := h2
  obtain ⟨t, hst, hrun, hend, hWt, L, k, n, hsame, hL, hRel', hk1, hk2⟩ := hb ((T.setTop g).pushFrame (.java (entryFrame mk (av.map jpv).toArray nb))) (by simp [State.pushFrame, State.setFrames, State.setTop, State.modifyTopJava]) (by rw [hmax] at Y; exact Y)
  have hk1 : k + jF r.2 ≤ R.cells - cells := hk1
  have hk2 : n + jS r.2 ≤ R.slots - slots := hk2
  have hst : Steps p.tables e below (((T.setTop g).pushFrame (.java (entryFrame mk (av.map jpv).toArray nb))).setTop (entryFrame mk (av.map jpv).toArray nb)) t := jSteps_weaken hst
  obtain ⟨o, w'⟩ := r
  have hlo' : ∀ q ∈ locs ++ L, H0.size ≤ q.base := fun q hq => by
    rcases List.mem_append.mp hq with hq | hq
    · exact hlo q hq
    · exact hL q hq
  cases o with
  | returned v =>
    obtain ⟨T', X', hW', hB', ht⟩ := X.outOf hg hdg hend hWt hsame
    have hh : T'.heap = t.heap := by
      rw [ht]
      simp
    refine ⟨T', _, _, _, X', ⟨by rw [hh]; exact hRel', hlo', by show cells + k + jF w' ≤ R.cells; have : k + jF w' ≤ R.cells - cells := hk1; omega, by show slots + n + jS w' ≤ R.slots; have : n + jS w' ≤ R.slots - slots := hk2; omega⟩, fun target htg acts => ?_⟩
    rw [hin acts, hmax]
    refine hst.trans ?_
    rw [ht]
    exact htg
  | threw a =>
    obtain ⟨T', X', hW', hB', ht⟩ := X.outOfThrown hg hend hWt hsame
    have hh : T'.heap = t.heap := by
      rw [ht]
      exact (Stand.throwing_heap T' g a).symm
    refine ⟨T', _, _, _, X', ⟨by rw [hh]; exact hRel', hlo', by show cells + k + jF w' ≤ R.cells; have : k + jF w' ≤ R.cells - cells := hk1; omega, by show slots + n + jS w' ≤ R.slots; have : n + jS w' ≤ R.slots - slots := hk2; omega⟩, fun target htg acts => ?_⟩
    rw [hin acts, hmax]
    refine hst.trans ?_
    rw [ht]
    exact htg
