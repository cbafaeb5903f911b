/-! ===== rows of calls ===== -/
def jLk (own : String) (idx : Nat) (y : MethodName) : Prop := Cond.methodLink own idx y ∈ lw_all ∨ ∃ host, Cond.methodLinkNest own idx y host ∈ lw_tbl
/-- how many parameters -/
def jNp (y : MethodName) (n : Nat) : Prop := ∀ sig, parseMethodDescriptor y.desc = some sig → n = sig.parameters.length
theorem jNp.of {y : MethodName} {n : Nat} (h : (parseMethodDescriptor y.desc).map (fun s => s.parameters.length) = some n) : jNp y n := fun sig hs => by
  rw [hs] at h
  exact (Option.some.inj h).symm
/-- a call with this end mf: it goes on behind it -/
def jCall (x : jCx) (nL pc : Nat) (lv : List (Nat × jV)) (stk st : List jV) (w : jW) (mf : Option (Outcome × jW)) : Prop := ∀ o r, mf = some o → jAf x nL pc lv st o r → jT x nL pc lv stk w r
section JK
variable {x : jCx} {own : String} {cc : ByteArray} {nL pc : Nat} {lv : List (Nat × jV)} {st : List jV} {w : jW} {idx : Nat} {y : MethodName} {cb : ByteArray} {nb : Nat} {rb : Option FieldType} {hh : List (Nat × Nat × Nat × Nat)} {rf rl RF RL : Nat} {av : List jV} {mf : Option (Outcome × jW)} {o ci : Nat} {C : String} {T : u_T} {N : Nat}
theorem jstk (av : List jV) (o : Nat) (st : List jV) (ho : o ≠ 0) : (av.reverse ++ vR o :: st).map jpv = (av.map jpv).reverse ++ .ref (o - 1) :: st.map jpv := by
  rw [List.map_append, List.map_reverse, List.map_cons]
  show _ ++ jrv o :: _ = _
  rw [jrv_ne ho]
theorem j_callV (hx : jOK x own cc nL) (hr : jRm x RF RL) (hlk : jLk own idx y) (hin : Cond.instanceMethod y ∈ lw_all) (hse : Cond.selects C y y ∈ lw_all) (hc : jcl[ci]? = some (C, T, N)) (hcd : jCd y cb nb rb hh) (hnp : jNp y av.length)
    (hM : jM y cb nb rb hh rf rl (vR o :: av) w mf) (hrf : rf + 1 ≤ RF) (hrl : jws st + (nb + 11) + rl ≤ RL) (hC : jC w o = ci) (h0 : ci ≠ 0) (hd : decode cc pc = .ok (.invokevirtual idx, 3)) : jCall x nL pc lv (av.reverse ++ vR o :: st) st w mf := by
  intro o' r ho' k
  obtain ⟨p, l, e, R, s, m, args, below, meth, c, D, ac, H0⟩ := x
  obtain ⟨hexec, hb, hml, -, hown, hwd, hK⟩ := hx
  obtain ⟨hr1, hr2, hz⟩ := hr
  subst hb
  intro ls hl H locs cells slots hG T' hT X
  have hts := hwd.1
  obtain ⟨ho, cellB, hcB, hoB, hclB⟩ := hG.1.recv hK hC h0 hc
  rw [jstk av o st ho]
  obtain ⟨mk, methM, hnamed, hmethM, hstM, habM⟩ := Cond.instanceMethod_spec (hts _ hin)
  obtain ⟨mk', methM', cM, n1, hmethM', n3, n4, n5, n6, n7, n8, hsigM⟩ := hcd.spec hts
  cases hnamed.symm.trans n1
  cases hmethM.symm.trans hmethM'
  obtain ⟨c2, r2, m2, q1, q2, q3, q4, kP, hkP, hkPi⟩ := Cond.selects_spec (hts _ hse)
  cases hclB.symm.trans q1
  cases (State.methodFound?_of_named hnamed hcd.2.1).symm.trans q2
  cases hnamed.symm.trans q3
  have hselP : selectMethod e.platform s.vm cellB.cls mk = .method mk := by rw [Launch.admits_selectMethod X.admits]; exact q4
  have hlen : (av.map jpv).length = methM.sig.parameters.length := by rw [List.length_map]; exact hnp _ hsigM
  have hgo : ∃ vm₁, Stand p l e R s m args below meth c (T'.setVm vm₁) locs cells slots ∧ ∀ target, (∀ acts, Steps p.tables e below (doInvoke e ((T'.setVm vm₁).setTop (F0 m pc ls (st.map jpv))) acts mk (Value.ref (o - 1) :: av.map jpv).toArray).1 target) → Steps p.tables e below (T'.setTop (F0 m pc ls ((av.map jpv).reverse ++ .ref (o - 1) :: st.map jpv))) target := by
    rcases hlk with hq | ⟨host, hq⟩
    · exact X.invokevirtual hexec hown (hts _ hq) hnamed hmethM hstM hkP hkPi hcd.2.1 (a := o - 1) (cell := cellB) (by rw [hT]; exact hcB) (fun z h => by rw [h] at hoB; cases hoB) hselP hmethM habM hkP hkPi (g := F0 m pc ls ((av.map jpv).reverse ++ .ref (o - 1) :: st.map jpv)) rfl (argsL := av.map jpv) (rest := st.map jpv) hlen rfl hd
    · exact X.invokevirtualNest hexec hown (va_Nw.use rfl (hwd.2 _ hq rfl)) hnamed hmethM hstM hkP hkPi hcd.2.1 (a := o - 1) (cell := cellB) (by rw [hT]; exact hcB) (fun z h => by rw [h] at hoB; cases hoB) hselP hmethM habM hkP hkPi (g := F0 m pc ls ((av.map jpv).reverse ++ .ref (o - 1) :: st.map jpv)) rfl (argsL := av.map jpv) (rest := st.map jpv) hlen rfl hd
  obtain ⟨vm₁, X₁, hstep⟩ := hgo
  obtain ⟨t, hq, ht⟩ := jgo X₁ hexec hwd hK hz hcd (X₁.named hnamed) hml hl hd hM (by omega) (by omega) (by show jG D ac H0 R w T'.heap locs cells slots; rw [hT]; exact hG) ho' k
  refine ⟨t, hstep t fun acts => ?_, hq⟩
  have := ht acts
  rw [List.map_cons, show jpv (vR o) = .ref (o - 1) from jrv_ne ho] at this
  exact this
/-- a method that is found in a class above -/
theorem j_callU (hx : jOK x own cc nL) (hr : jRm x RF RL) {z : MethodName} {owner : String} (hlk : Cond.methodLink own idx z ∈ lw_all) (hsm : Cond.sameMethod z.cls owner z.name z.desc ∈ lw_all) (hde : ∀ (a : Array Value) (s : State), jWds a s → va_Decl s ⟨owner, z.name, z.desc⟩) (how : owner ≠ "java/lang/invoke/MethodHandle" ∧ owner ≠ "java/lang/invoke/VarHandle")
    (hin : Cond.instanceMethod y ∈ lw_all) (hse : Cond.selects C z y ∈ lw_all) (hc : jcl[ci]? = some (C, T, N)) (hcd : jCd y cb nb rb hh) (hnp : jNp z av.length)
    (hM : jM y cb nb rb hh rf rl (vR o :: av) w mf) (hrf : rf + 1 ≤ RF) (hrl : jws st + (nb + 11) + rl ≤ RL) (hC : jC w o = ci) (h0 : ci ≠ 0) (hd : decode cc pc = .ok (.invokevirtual idx, 3)) : jCall x nL pc lv (av.reverse ++ vR o :: st) st w mf := by
  intro o' r ho' k
  obtain ⟨p, l, e, R, s, m, args, below, meth, c, D, ac, H0⟩ := x
  obtain ⟨hexec, hb, hml, -, hown, hwd, hK⟩ := hx
  obtain ⟨hr1, hr2, hz⟩ := hr
  subst hb
  intro ls hl H locs cells slots hG T' hT X
  have hts := hwd.1
  obtain ⟨ho, cellB, hcB, hoB, hclB⟩ := hG.1.recv hK hC h0 hc
  rw [jstk av o st ho]
  obtain ⟨r0, r1, hn, hrm, hstR, hsigR⟩ := hde args s hwd
  obtain ⟨cn, ck, r2, hcn, hck, hni, hf, hn1⟩ := Cond.sameMethod_found (hts _ hsm)
  cases hn.symm.trans hn1
  obtain ⟨mk, methM, hnamed, hmethM, -, habM⟩ := Cond.instanceMethod_spec (hts _ hin)
  obtain ⟨c2, r2, m2, q1, q2, q3, q4, kP, hkP, hkPi⟩ := Cond.selects_spec (hts _ hse)
  cases hclB.symm.trans q1
  cases hf.symm.trans q2
  cases hnamed.symm.trans q3
  have hselP : selectMethod e.platform s.vm cellB.cls r0 = .method mk := by rw [Launch.admits_selectMethod X.admits]; exact q4
  have hlen : (av.map jpv).length = r1.sig.parameters.length := by rw [List.length_map]; exact hnp _ hsigR
  obtain ⟨vm₁, X₁, hstep⟩ := X.invokevirtualUp hexec hown (hts _ hlk) (hts _ hsm) how hn hrm hstR (a := o - 1) (cell := cellB) (by rw [hT]; exact hcB)
    (fun z h => by rw [h] at hoB; cases hoB) hselP hmethM habM hkP hkPi (g := F0 m pc ls ((av.map jpv).reverse ++ .ref (o - 1) :: st.map jpv)) rfl (argsL := av.map jpv) (rest := st.map jpv) hlen rfl hd
  obtain ⟨t, hq, ht⟩ := jgo X₁ hexec hwd hK hz hcd (X₁.named hnamed) hml hl hd hM (by omega) (by omega) (by show jG D ac H0 R w T'.heap locs cells slots; rw [hT]; exact hG) ho' k
  refine ⟨t, hstep t fun acts => ?_, hq⟩
  have := ht acts
  rw [List.map_cons, show jpv (vR o) = .ref (o - 1) from jrv_ne ho] at this
  exact this
theorem j_callS (hx : jOK x own cc nL) (hr : jRm x RF RL) (hlk : jLk own idx y) (hst : Cond.static y ∈ lw_all) (hini : Cond.initialized y.cls ∈ lw_all) (hcd : jCd y cb nb rb hh) (hnp : jNp y av.length)
    (hM : jM y cb nb rb hh rf rl av w mf) (hrf : rf + 1 ≤ RF) (hrl : jws st + (nb + 11) + rl ≤ RL) (hd : decode cc pc = .ok (.invokestatic idx, 3)) : jCall x nL pc lv (av.reverse ++ st) st w mf := by
  intro o' r ho' k
  obtain ⟨p, l, e, R, s, m, args, below, meth, c, D, ac, H0⟩ := x
  obtain ⟨hexec, hb, hml, -, hown, hwd, hK⟩ := hx
  obtain ⟨hr1, hr2, hz⟩ := hr
  subst hb
  intro ls hl H locs cells slots hG T' hT X
  have hts := hwd.1
  rw [List.map_append, List.map_reverse]
  obtain ⟨mk, methM, cM, hnamed, hmethM, n3, n4, n5, n6, n7, n8, hsigM⟩ := hcd.spec hts
  have hstatic : methM.isStatic = true := Cond.static_spec hnamed hmethM (hts _ hst)
  obtain ⟨kP, hkP, -⟩ := className_of_methodNamed hnamed
  have hinitP : kP.init = .initialized := Cond.initialized_spec (findClass_of_methodNamed hnamed) hkP (hts _ hini)
  have hlen : (av.map jpv).length = methM.sig.parameters.length := by rw [List.length_map]; exact hnp _ hsigM
  have hgo : ∃ vm₁, Stand p l e R s m args below meth c (T'.setVm vm₁) locs cells slots ∧ ∀ target, (∀ acts, Steps p.tables e below (doInvoke e ((T'.setVm vm₁).setTop (F0 m pc ls (st.map jpv))) acts mk (av.map jpv).toArray).1 target) → Steps p.tables e below (T'.setTop (F0 m pc ls ((av.map jpv).reverse ++ st.map jpv))) target := by
    rcases hlk with hq | ⟨host, hq⟩
    · exact X.invokestatic hexec hown (hts _ hq) hnamed hmethM hstatic hkP hinitP hcd.2.1 (g := F0 m pc ls ((av.map jpv).reverse ++ st.map jpv)) rfl (argsL := av.map jpv) (rest := st.map jpv) hlen rfl hd
    · exact X.invokestaticNest hexec hown (va_Nw.use rfl (hwd.2 _ hq rfl)) hnamed hmethM hstatic hkP hinitP hcd.2.1 (g := F0 m pc ls ((av.map jpv).reverse ++ st.map jpv)) rfl (argsL := av.map jpv) (rest := st.map jpv) hlen rfl hd
  obtain ⟨vm₁, X₁, hstep⟩ := hgo
  obtain ⟨t, hq, ht⟩ := jgo X₁ hexec hwd hK hz hcd (X₁.named hnamed) hml hl hd hM (by omega) (by omega) (by show jG D ac H0 R w T'.heap locs cells slots; rw [hT]; exact hG) ho' k
  exact ⟨t, hstep t fun acts => ht acts, hq⟩
theorem j_callI (hx : jOK x own cc nL) (hr : jRm x RF RL) (hlk : jLk own idx y) (hin : Cond.instanceMethod y ∈ lw_all) (hy1 : y.name = "<init>") (hcw : Cond.code y cb nb none ∈ lw_all) (hcd : jCd y cb nb none []) (hnp : jNp y av.length)
    (hM : jM y cb nb none [] rf rl (vR o :: av) w mf) (hrf : rf + 1 ≤ RF) (hrl : jws st + (nb + 11) + rl ≤ RL) (hC : jC w o = ci) (h0 : ci ≠ 0) (hd : decode cc pc = .ok (.invokespecial idx, 3)) : jCall x nL pc lv (av.reverse ++ vR o :: st) st w mf := by
  intro o' r ho' k
  obtain ⟨p, l, e, R, s, m, args, below, meth, c, D, ac, H0⟩ := x
  obtain ⟨hexec, hb, hml, -, hown, hwd, hK⟩ := hx
  obtain ⟨hr1, hr2, hz⟩ := hr
  subst hb
  intro ls hl H locs cells slots hG T' hT X
  have hts := hwd.1
  have ho : o ≠ 0 := hG.1.ne (by rw [hC]; exact h0)
  rw [jstk av o st ho]
  have hpl : e.platform.magicAccessors = ({} : Platform).magicAccessors := by rw [X.admits.platform]
  have hlen : ∀ sig, parseMethodDescriptor y.desc = some sig → (av.map jpv).length = sig.parameters.length := fun sig hs => by rw [List.length_map]; exact hnp _ hs
  have hgo : ∃ mk vm₁, s.methodNamed? y = some mk ∧ s.WarmedH vm₁ ∧ ∀ target, (∀ acts, Steps p.tables e below (doInvoke e ((T'.setVm vm₁).setTop (F0 m pc ls (st.map jpv))) acts mk (Value.ref (o - 1) :: av.map jpv).toArray).1 target) → Steps p.tables e below (T'.setTop (F0 m pc ls ((av.map jpv).reverse ++ .ref (o - 1) :: st.map jpv))) target := by
    rcases hlk with hq | ⟨host, hq⟩
    · obtain ⟨mk, methM, cM, kP, vm₁, hnamed, -, -, -, -, -, -, -, hW₁, hstep₁⟩ := Steps.initColdArgs (e := e) X.here hexec X.warmed hpl hown hy1 hcd.2.1 (hts _ hq) (hts _ hin) (hts _ hcw) (f := F0 m pc ls ((av.map jpv).reverse ++ .ref (o - 1) :: st.map jpv)) rfl hlen rfl hd
      exact ⟨mk, vm₁, hnamed, hW₁, fun target h => hstep₁ _ fun acts => h acts⟩
    · obtain ⟨mk, methM, cM, kP, vm₁, hnamed, -, -, -, -, -, -, -, hW₁, hstep₁⟩ := Steps.initColdArgsNest (e := e) X.here hexec X.warmed hpl hown hy1 hcd.2.1 (va_Nw.use rfl (hwd.2 _ hq rfl)) (hts _ hin) (hts _ hcw) (f := F0 m pc ls ((av.map jpv).reverse ++ .ref (o - 1) :: st.map jpv)) rfl hlen rfl hd
      exact ⟨mk, vm₁, hnamed, hW₁, fun target h => hstep₁ _ fun acts => h acts⟩
  obtain ⟨mk, vm₁, hnamed, hW₁, hstep⟩ := hgo
  have X₁ := X.noted hW₁
  obtain ⟨t, hq, ht⟩ := jgo X₁ hexec hwd hK hz hcd (X₁.named hnamed) hml hl hd hM (by omega) (by omega) (by show jG D ac H0 R w T'.heap locs cells slots; rw [hT]; exact hG) ho' k
  refine ⟨t, hstep t fun acts => ?_, hq⟩
  have := ht acts
  rw [List.map_cons, show jpv (vR o) = .ref (o - 1) from jrv_ne ho] at this
  exact this
end JK
