/-! ===== a handler whose catch type is resolved now ===== -/
theorem jfind {e : Env} {S : State} {f : JFrame} {a : Addr} {meth : Method} {code : Code} {z : ExceptionTableEntry} {c : ClassId} {vm' : Vm} {cell : Cell} (hm : S.vm.method? f.method = some meth) (hc : meth.code = some code) (htab : code.exceptionTable.toList = [z]) (hx : covers z f.pc = true) (h0 : z.catchType ≠ 0)
    (hg : (Jvm.resolveClass f.method.cls z.catchType).Gives e.toSetting S.vm (.ok c) vm') (hsz : vm'.classes.size ≤ S.vm.classes.size) (hcell : S.heap[a]? = some cell) (hobj : ∀ k, cell.vm ≠ .statics k) (hk : ∃ k, vm'.classes[cell.cls]? = some k) (hcl : ∃ k, vm'.classes[c]? = some k) (hfit : vm'.assignable cell.cls c = true) :
    ∀ (Q : Handler → Pre) (E : CtlPost) (d : Bool) (acts : List Action), wp (findHandler f a) Q E e d acts S ↔ Q (.found z.handlerPc) d acts (S.setVm vm') := by
  intro Q E d acts
  rw [W.findHandler_eq hm hc, htab]
  obtain ⟨ha, ht⟩ := hg.op (op := VmOp.resolveClass f.method.cls z.catchType) rfl
  simp only [covers] at hx
  simp [findHandler.go, hx, h0, ha, ht, hsz, hcell, hobj, hk, hcl, hfit, VmOp.dirties, VmOp.acts]
theorem jcatchS {e : Env} {s : State} {a : Addr} {f : JFrame} {r : List Frame} {pc : Nat} {vm' : Vm} (hfind : ∀ (Q : Handler → Pre) (E : CtlPost) (d : Bool) (acts : List Action), wp (findHandler f a) Q E e d acts s ↔ Q (.found pc) d acts (s.setVm vm')) :
    (stepThrowing e s a (.java f :: r)).Is ((s.setVm vm').setFrames (.java { f with pc := pc, stack := [.ref a] } :: r)) [] := by
  simp only [stepThrowing, searchFrame, vmDo]
  generalize hr : Sem.go _ e false [] s = res
  obtain ⟨as, rfl, ha⟩ := Sem.eq_ok_of hr (a := Handler.found pc) (s' := s.setVm vm') (acts' := []) (by simp [hfind _ _ _ _])
  exact ⟨rfl, ha⟩
theorem jcaught {tb : Tables} {e : Env} {s target : State} {g : JFrame} {c : Code} {below : List Frame} {a : Addr} {vm' : Vm} (h : At s g.method c below) {pc : Nat}
    (hfind : ∀ (Q : Handler → Pre) (E : CtlPost) (d : Bool) (acts : List Action), wp (findHandler g a) Q E e d acts ((s.setTop g).pushFrame (.throwing a)) ↔ Q (.found pc) d acts (((s.setTop g).pushFrame (.throwing a)).setVm vm'))
    (hrest : Steps tb e below ((s.setVm vm').setTop { g with pc := pc, stack := [.ref a] }) target) :
    Steps tb e below ((s.setTop g).pushFrame (.throwing a)) target := by
  obtain ⟨hgo, hw⟩ := h.throwing a
  refine Steps.head hgo hw ?_
  rw [stepThread_throwing (frames_entered h.top _), (jcatchS (s := (s.setTop g).pushFrame (.throwing a)) hfind).1]
  obtain ⟨g₀, hg⟩ := Option.isSome_iff_exists.mp h.top
  obtain ⟨r, hr⟩ := State.topJava?_eq_some.mp hg
  have hr' : (s.setVm vm').frames = .java g₀ :: r := hr
  rw [State.pushFrame, State.setTop_of_frames _ hr]
  rw [State.setTop_of_frames _ hr'] at hrest
  rw [hr, show (((s.setFrames (.java g :: r)).setFrames (.throwing a :: (s.setFrames (.java g :: r)).frames)).setVm vm') = (((s.setVm vm').setFrames (.java g :: r)).setFrames (.throwing a :: (s.setFrames (.java g :: r)).frames)) from rfl, State.setFrames_setFrames, State.setFrames_setFrames]
  exact hrest
section JCA
variable {α : Type} {x : jCx} {own : String} {cc : ByteArray} {nL pc : Nat} {lv : List (Nat × jV)} {st : List jV} {w : jW} {mm : Option α} {en : α → Option (Outcome × jW)} {idx f o : Nat}
/-- an exception of this class is caught -/
theorem j_catch {nm : String} {ret : Option FieldType} {a0 b0 hp ct : Nat} {z : Nat × jW} {B : Option α} (hx : jOK x own cc nL) (hm : jMt x nm ret [(a0, b0, hp, ct)]) (hl : Cond.classLink own ct "java/lang/IllegalStateException" ∈ lw_all) {c : Nat} {T : u_T} {N : Nat} (hc : jcl[c]? = some ("java/lang/IllegalStateException", T, N)) (h0 : c ≠ 0) (hin : a0 ≤ pc ∧ pc < b0 ∧ ct ≠ 0)
    (k : jC z.2 z.1 = c → jJ x nL hp lv [vR z.1] z.2 B en) : ∀ r, (gd (jC z.2 z.1 = c) B).bind en = some r → jX1 x nL pc lv z.2 (z.1 - 1) r := by
  intro r hr
  by_cases hC : jC z.2 z.1 = c
  · rw [gd_t hC] at hr
    have kk := jJ_iff.mp (k hC) r hr
    obtain ⟨p, l, e, R, s, m, args, below, meth, c', D, ac, H0⟩ := x
    obtain ⟨hexec, hb, hml, hlocks, hown, ⟨hts, htn⟩, hK⟩ := hx
    obtain ⟨-, hret, hhh⟩ := hm
    intro ls hl' T' locs cells slots X hG st
    obtain ⟨ho, cell, h1, h2, h3⟩ := hG.1.recv hK hC h0 hc
    obtain ⟨z0, hz0, hz1⟩ := List.map_eq_singleton_iff.mp hhh
    injection hz1 with e1 hz1
    injection hz1 with e2 hz1
    injection hz1 with e3 e4
    have hpl : e.platform.magicAccessors = ({} : Platform).magicAccessors := by rw [X.admits.platform]
    obtain ⟨cT, hcT, hcl⟩ := Cond.classLink_spec hown (hts _ hl) e.platform hpl
    obtain ⟨dk, _, _, kt, hd, _, _, _, _, hkt, _, hopen⟩ := hcl.here
    have hcl₀ := X.warmed.classLinks hcl
    have hW' : s.WarmedH (T'.vm.noted m.cls ct (.cls cT)) := X.warmed.noted hd hopen (State.rightAt_cls hcl)
    have hcls := (hK.1 c _ hc).2
    have hasg : s.vm.assignable cell.cls cT = true := by
      have e5 : D.1 c = cell.cls := Option.some.inj (hcls.1.symm.trans h3)
      have e6 : cT = cell.cls := Option.some.inj (hcT.symm.trans h3)
      rw [e6, ← e5]
      exact va_assign hcls
    obtain ⟨ks, hks⟩ := Vm.classAt_of_assignable hasg ⟨kt, hkt⟩
    obtain ⟨ks', hks', -⟩ := hW'.alike.2.2 _ _ hks
    obtain ⟨kt', hkt', -⟩ := hW'.alike.2.2 _ _ hkt
    have X' := X.noted hW'
    obtain ⟨t, ht, hq⟩ := kk ls hl' T'.heap locs cells slots hG (T'.setVm (T'.vm.noted m.cls ct (.cls cT))) rfl X'
    refine ⟨t, hq, ?_⟩
    have hv1 : ((T'.setTop (F0 m pc ls st)).pushFrame (.throwing (z.1 - 1))).vm = T'.vm := Stand.throwing_vm T' _ _
    have hv2 : ((T'.setTop (F0 m pc ls st)).pushFrame (.throwing (z.1 - 1))).heap = T'.heap := Stand.throwing_heap T' _ _
    refine jcaught (g := F0 m pc ls st) (vm' := T'.vm.noted m.cls ct (.cls cT)) (pc := hp) X.here ?_ ?_
    · have := jfind (e := e) (S := (T'.setTop (F0 m pc ls st)).pushFrame (.throwing (z.1 - 1))) (f := F0 m pc ls st) (a := z.1 - 1) (meth := meth) (code := c') (z := z0) (c := cT) (vm' := T'.vm.noted m.cls ct (.cls cT)) (cell := cell)
        (by rw [hv1]; exact X.method') X.code hz0 (by unfold covers; rw [e1, e2]; simp; exact ⟨hin.1, hin.2.1⟩) (by rw [e4]; exact hin.2.2) (by rw [hv1, e4]; exact resolveClass_links e.toSetting hcl₀) (by rw [hv1]; no_record) (by rw [hv2]; exact h1) (fun q h => by rw [h] at h2; cases h2) ⟨ks', hks'⟩ ⟨kt', hkt'⟩ (by rw [hW'.alike.assignable]; exact hasg)
      rw [e3] at this
      exact this
    · have ht : Steps p.tables e below ((T'.setVm (T'.vm.noted m.cls ct (.cls cT))).setTop (F0 m hp ls [jrv z.1])) t := ht
      rw [jrv_ne ho] at ht
      exact ht
  · unfold gd at hr
    rw [if_neg hC] at hr
    cases hr
end JCA
