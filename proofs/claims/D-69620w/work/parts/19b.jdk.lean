/-! ===== rows for the lists of the JDK ===== -/
section JDK
variable {α : Type} {x : jCx} {own : String} {cc : ByteArray} {nL pc : Nat} {lv : List (Nat × jV)} {st : List jV} {w : jW} {mm : Option α} {en : α → Option (Outcome × jW)} {idx f o a RF RL : Nat}
theorem jghost {D : va_G} {ac : Nat → ClassId} {H0 H : Heap} {w : jW} (h : jRel D ac H0 w H) (f : Nat) : jR w f 0 = ac (100 + f) := h.2.2.2.2.2.2.2.2.2 f
theorem j_gets (hx : jOK x own cc nL) (hr : jRm x RF RL) (hlk : Cond.fieldLink own idx "java/util/ArrayList" "DEFAULTCAPACITY_EMPTY_ELEMENTDATA" "[Ljava/lang/Object;" ∈ lw_all) (hd : decode cc pc = .ok (.getstatic idx, 3)) (k : jJ x nL (pc + 3) lv (vR (jR w 1952 0) :: st) w mm en) : jJ x nL pc lv st w mm en := by
  obtain ⟨p, l, e, R, s, m, args, below, meth, c, D, ac, H0⟩ := x
  obtain ⟨hx, hb, -, -, hown, ⟨hts, htn⟩, hK⟩ := hx
  obtain ⟨-, -, ⟨⟨cf, kf, fi, f, a, cell, h1, h2, h3, h4, h5, h6, h7, h8⟩, hne, -⟩, -⟩ := hr
  intro r hr ls hl H locs cells slots hG
  have hq : jR w 1952 0 = ac 2052 := jghost hG.1 1952
  have kk : Jvm.Pilot.CCodeLayoutLaw_law_r9976_571ee0.W p l e R s m args below meth c H locs cells slots _ (F0 m (pc + 3) ls (jrv (jR w 1952 0) :: st.map jpv)) := k r hr ls hl H locs cells slots hG
  rw [hq, jrv_ne hne] at kk
  have hlt : a < H0.size := (Array.getElem?_eq_some_iff.mp h5).1
  have ho : H[a]? = H0[a]? := by have := hG.1.2.2.2.1 (a + 1) (by rw [jsh_size]; omega); rw [jsh_get, jsh_get] at this; exact this
  exact W.gets hx hb hown (hts _ hlk) h1 h2 h3 h4 (by rw [ho]; exact h5) (fun e => by rw [e] at h6; cases h6) h7 rfl hd kk
theorem j_alenO (hx : jOK x own cc nL) (hr : jRm x RF RL) (hd : decode cc pc = .ok (.arraylength, 1)) (h : a = jR w 1952 0 ∨ jR w 9008 a = a ∧ ¬ a = 0) (k : jJ x nL (pc + 1) lv (vI (if a = jR w 1952 0 then kI 0 else nI (jN w 9008 a)) :: st) w mm en) : jJ x nL pc lv (vR a :: st) w mm en := by
  by_cases ha : a = jR w 1952 0
  · rw [if_pos ha] at k
    obtain ⟨p, l, e, R, s, m, args, below, meth, c, D, ac, H0⟩ := x
    obtain ⟨hx, hb, -, -, hown, ⟨hts, htn⟩, hK⟩ := hx
    obtain ⟨-, -, ⟨-, hne, cell, h1, h2, h3, -⟩, -⟩ := hr
    intro r hr ls hl H locs cells slots hG
    have hq : jR w 1952 0 = ac 2052 := jghost hG.1 1952
    have kk : Jvm.Pilot.CCodeLayoutLaw_law_r9976_571ee0.W p l e R s m args below meth c H locs cells slots _ (F0 m (pc + 1) ls (.int (kI 0) :: st.map jpv)) := k r hr ls hl H locs cells slots hG
    show Jvm.Pilot.CCodeLayoutLaw_law_r9976_571ee0.W p l e R s m args below meth c H locs cells slots _ (F0 m pc ls (jrv a :: st.map jpv))
    rw [ha, hq, jrv_ne hne]
    have hlt : (ac 2052 - 1 : Nat) < H0.size := (Array.getElem?_eq_some_iff.mp h1).1
    have ho : H[(ac 2052 - 1 : Nat)]? = H0[(ac 2052 - 1 : Nat)]? := by exact hG.1.old _ hlt
    exact W.alen hx hb (by rw [ho]; exact h1) h2 (by rw [h3]; decide +kernel) rfl rfl hd kk
  · rw [if_neg ha] at k
    obtain ⟨h1, h2⟩ := h.resolve_left ha
    exact j_alen hx (f := 9008) (o := a) kg9008 kh9008 h1 hd (by rw [h1]; exact h2) k
theorem j_aald8 {i : Int32} (hx : jOK x own cc nL) (hk : jkd f = 8) (ha : jR w f o = a) (hd : decode cc pc = .ok (.aaload, 1)) (hi : jin i (jN w f o)) (k : jJ x nL (pc + 1) lv (vR (jE w f o (ix i)) :: st) w mm en) : jJ x nL pc lv (vI i :: vR a :: st) w mm en := by
  obtain ⟨p, l, e, R, s, m, args, below, meth, c, D, ac, H0⟩ := x
  obtain ⟨hx, hb, -, -, hown, -, hK⟩ := hx
  intro r hr ls hl H locs cells slots hG
  have hk3 : 3 ≤ jkd f := by omega
  have hne := hG.1.live hk3 hi
  obtain ⟨-, -, hcell⟩ := hG.1.2.2.2.2.2.1 f o hk3 hne
  rw [jcn_e (Or.inr hk), hk, jsh_at hne] at hcell
  subst ha
  show Jvm.Pilot.CCodeLayoutLaw_law_r9976_571ee0.W p l e R s m args below meth c H locs cells slots _ (F0 m pc ls (.int i :: jrv (jR w f o) :: st.map jpv))
  rw [jrv_ne hne]
  refine va_aldq hx hb hK (j_one hcell) 0 8 rfl rfl hi hd ?_
  rw [jro_rf]
  exact k r hr ls hl H locs cells slots hG
theorem j_aast8G {i : Int32} {v ci N : Nat} {C : String} {T : u_T} (hx : jOK x own cc nL) (hk : jkd f = 8) (ha : jR w f o = a) (hd : decode cc pc = .ok (.aastore, 1)) (hi : jin i (jN w f o)) (hc : jcl[ci]? = some (C, T, N)) (hc0 : ci ≠ 0) (hca : Cond.castable C "java/lang/Object" ∈ lw_tbl) (hv : jC w v = ci) (k : jJ x nL (pc + 1) lv st (pE w f o (ix i) v) mm en) : jJ x nL pc lv (vR v :: vI i :: vR a :: st) w mm en := by
  obtain ⟨p, l, e, R, s, m, args, below, meth, c, D, ac, H0⟩ := x
  obtain ⟨hx, hb, -, -, hown, ⟨hts, htn⟩, hK⟩ := hx
  intro r hr ls hl H locs cells slots hG
  obtain ⟨hRel, hlo, hce, hsl0⟩ := hG
  have hk3 : 3 ≤ jkd f := by omega
  have hne := hRel.live hk3 hi
  obtain ⟨hlow, -, hcell⟩ := hRel.2.2.2.2.2.1 f o hk3 hne
  have hlow : H0.size ≤ jR w f o - 1 := by rw [jsh_size] at hlow; omega
  rw [jcn_e (Or.inr hk), hk, vp_cell_q, jsh_at hne] at hcell
  subst ha
  obtain ⟨hv0, cellV, g1, g3, g4⟩ := hRel.recv hK hv hc0 hc
  show Jvm.Pilot.CCodeLayoutLaw_law_r9976_571ee0.W p l e R s m args below meth c H locs cells slots _ (F0 m pc ls (jrv v :: .int i :: jrv (jR w f o) :: st.map jpv))
  rw [jrv_ne hne, jrv_ne hv0]
  obtain ⟨kA, comp, k1, k2, k3, -⟩ := (hK.2 8 _ rfl).2
  obtain ⟨c0, t0, f1, f2, f3⟩ := Cond.castable_spec (va_Nw.use (A := args) rfl (htn _ hca rfl))
  have hcomp : comp = t0 := Option.some.inj (k3.symm.trans f2)
  have g2 : cellV.cls = c0 := Option.some.inj (g4.symm.trans f1)
  obtain ⟨kC, hkC, -⟩ := (hK.1 ci _ hc).2.2
  have hkC : s.vm.classes[cellV.cls]? = some kC := by
    have : D.1 ci = cellV.cls := Option.some.inj (((hK.1 ci _ hc).2.1 : s.vm.findClass C = _).symm.trans g4)
    rw [← this]; exact hkC
  obtain ⟨kt, hkt⟩ : ∃ k, s.vm.classes[comp]? = some k := by
    obtain ⟨j, hj, -⟩ := Vm.findClass_spec k3
    exact ⟨j, hj⟩
  have h0 : ¬ i < 0 := fun q => hi (Or.inl q)
  have hlt : ix i < jN w f o := Nat.not_le.mp fun q => hi (Or.inr q)
  refine W.aast hx hb hcell (fun q h => by cases h) (fun h => by cases h) k1 k2 rfl hkt ⟨h0, by show _ < (arrV _ _ _).slots.size; rw [arrV_size]; exact hlt⟩ g1 (fun q h => by rw [h] at g3; cases g3) hkC (by rw [g2, hcomp]; exact f3) rfl rfl hd fun H' e1 e2 e3 => ?_
  refine k r hr ls hl H' _ cells slots ⟨hRel.arr (f := f) (o := o) (w' := pE w f o (ix i) v) hk3 hne rfl rfl rfl rfl rfl rfl (fun f' o' hs => jcn_same rfl rfl (u2_n _ _ hs)) ?_ (by rw [jsh_size, jsh_size, e2]) (jsh_oth hne e3), fun q hq => ?_, hce, hsl0⟩
  · rw [jsh_at hne, e1, jcn_e (Or.inr hk), hk, vp_cell_q, arrV_store]
    rw [show jE (pE w f o (ix i) v) f o = _ from u2_s _ _ _ _]
    congr 2
    funext q
    by_cases hq : q = ix i
    · subst hq
      unfold updV va_up
      rw [if_pos rfl, if_pos rfl, jro_rf, jrv_ne hv0]
    · unfold updV va_up
      rw [if_neg hq, if_neg hq]
  · rcases List.mem_append.mp hq with hq | hq
    · exact hlo q hq
    · rw [List.mem_singleton.mp hq]
      exact hlow
theorem j_aast8 {i : Int32} {v : Nat} (hx : jOK x own cc nL) (hk : jkd f = 8) (ha : jR w f o = a) (hd : decode cc pc = .ok (.aastore, 1)) (hi : jin i (jN w f o)) (hv : jC w v = 8 ∨ jC w v = 9 ∨ jC w v = 10) (k : jJ x nL (pc + 1) lv st (pE w f o (ix i) v) mm en) : jJ x nL pc lv (vR v :: vI i :: vR a :: st) w mm en := by
  rcases hv with hv | hv | hv
  · exact j_aast8G hx hk ha hd hi (ci := 8) rfl (by decide) q3629 hv k
  · exact j_aast8G hx hk ha hd hi (ci := 9) rfl (by decide) q3630 hv k
  · exact j_aast8G hx hk ha hd hi (ci := 10) rfl (by decide) q3615 hv k
theorem j_newE {n : Int32} {ci : Nat} (hx : jOK x own cc nL) (hcl : Cond.classLink own ci "java/lang/Object" ∈ lw_all) (hov : Cond.arrayOver (.object "java/lang/Object") ∈ lw_tbl) (hd : decode cc pc = .ok (.anewarray ci, 3)) (hr : jra w n) (k : jJ x nL (pc + 3) lv (vR (jX w) :: st) (nwE w 9008 (jX w) (ix n)) mm en) : jJ x nL pc lv (vI n :: st) w mm en := by
  obtain ⟨p, l, e, R, s, m, args, below, meth, c', D, ac, H0⟩ := x
  obtain ⟨hx, hb, -, -, hown, ⟨hts, htn⟩, hK⟩ := hx
  intro r hr' ls hl H locs cells slots hG
  obtain ⟨hRel, hlo, hce, hsl0⟩ := hG
  obtain ⟨r1, r2, r3, r4⟩ := hr
  refine W.anew hx hb hown (hts _ hcl) (va_AO.use (htn _ hov rfl)) rfl hd rfl r1 (Nat.le_trans (Nat.mul_le_mul_right 4 r2) (by decide)) (by omega) (Nat.le_trans (Nat.add_le_add_left r4 _) hsl0) fun cA kA comp f1 f2 f3 f4 => ?_
  generalize hH1 : H.push ({ cls := cA, slots := Array.replicate n.toNatClampNeg .null, vm := .none } : Cell) = H1
  have z1 : H1.size = H.size + 1 := by rw [← hH1, Array.size_push]
  have o1 : ∀ q, q < H.size → H1[q]? = H[q]? := fun q hq => by rw [← hH1, Array.getElem?_push, if_neg (by omega)]
  have e1 : H1[H.size]? = some (arrV cA n.toNatClampNeg (fun _ => .null)) := by rw [← hH1, Array.getElem?_push_size, ← arrV_new]
  have hsz : H.size + 1 = jX w := by have := hRel.2.1; rw [jsh_size] at this; exact this
  have hsz' : H.size = jX w - 1 := by omega
  have hX : jX w ≠ 0 := by omega
  have hcell : H1[jX w - 1]? = some (vp_cell (ac (jkd 9008)) (ix n, .inr (.inr (.inr (.inr (fun _ => none)))))) := by
    obtain ⟨kA', comp', -, -, -, k4⟩ := (hK.2 8 _ rfl).2
    rw [← hsz', e1, kd9008, show ac 8 = cA from Option.some.inj (k4.symm.trans f1)]
    rfl
  rw [hsz']
  have hRel' : jRel D ac (jsh H0) (nwE w 9008 (jX w) (ix n)) (jsh H1) := by
    refine hRel.newa (f := 9008) (n := ix n) (by rw [kd9008]; decide) (by decide) rfl rfl rfl rfl rfl rfl (fun f' o' hs => jcn_same rfl rfl (u2_n _ _ hs)) ?_ (by rw [jsh_size, jsh_size, z1]) (by rw [jsh_size]; exact jsh_lt o1)
    rw [jsh_at hX, hcell, jcn_e (Or.inr kd9008)]
    rw [show jE (nwE w 9008 (jX w) (ix n)) 9008 (jX w) = _ from u2_s _ _ _ _]
    rfl
  have hk := k r hr' ls hl H1 locs (cells + 1) (slots + ix n) ⟨hRel', hlo, ?_, ?_⟩
  · have hk : Jvm.Pilot.CCodeLayoutLaw_law_r9976_571ee0.W p l e R s m args below meth c' H1 locs (cells + 1) (slots + ix n) _ (F0 m (pc + 3) ls (jrv (jX w) :: st.map jpv)) := hk
    rw [jrv_ne hX] at hk
    exact hk
  · show cells + 1 + (jF w - 1) ≤ R.cells
    omega
  · show slots + ix n + (jS w - ix n) ≤ R.slots
    omega
set_option maxRecDepth 100000 in
theorem j_ise {i1 i2 : Nat} (hx : jOK x own cc nL) (hr : jRm x RF RL) (hcl : Cond.classLink own i1 "java/lang/IllegalStateException" ∈ lw_all) (hml : Cond.methodLink own i2 ⟨"java/lang/IllegalStateException", "<init>", "()V"⟩ ∈ lw_all) (hd1 : decode cc pc = .ok (.new i1, 3)) (hd2 : decode cc (pc + 3) = .ok (.dup, 1)) (hd3 : decode cc (pc + 4) = .ok (.invokespecial i2, 3)) (hrm : jrm w 6) (hrf : 8 ≤ RF) (hrl : jws st + 120 ≤ RL)
    (k : jJ x nL (pc + 7) lv (vR (jX w) :: st) (sC (sX w 6) (jX w) 17) mm en) : jJ x nL pc lv st w mm en := by
  obtain ⟨p, l, e, R, s, m, args, below, meth, c, D, ac, H0⟩ := x
  obtain ⟨hexec, hb, hmlc, hlocks, hown, ⟨hts, htn⟩, hK⟩ := hx
  obtain ⟨hr1, hr2, ⟨-, -, -, -, -, -, u0, sen, hzU, hzS, hoS, hl1, hl2⟩, hst⟩ := hr
  obtain ⟨rm1, rm2⟩ := hrm
  intro r hr ls hl H locs cells slots hG
  obtain ⟨hRel, hlo, hce, hsl0⟩ := hG
  have hKn := hK.1 17 (RJ3, TJ3, 0) rfl
  have hfoundX : s.vm.findClass "java/lang/IllegalStateException" = some (D.1 17) := hKn.2.1
  have hsz : H.size + 1 = jX w := by have := hRel.2.1; rw [jsh_size] at this; exact this
  have hX : jX w ≠ 0 := by omega
  have hHs : H0.size ≤ H.size := by have := hRel.2.2.1; rw [jsh_size, jsh_size] at this; omega
  obtain ⟨b, hbb⟩ : ∃ b, b + 1 = jX w := ⟨H.size, hsz⟩
  have hb1 : jX w - 1 = b := by omega
  refine W.newcK hexec hb hown (hts _ hcl) (hts _ q280) (hts _ q232) rfl hd1 (by omega) (by omega) hfoundX (h := b) (by omega) fun H1 kX hkX e1 z1 o1 => ?_
  refine lv_dup hexec hb hd2 rfl ?_
  intro W0 hW0 X
  have howns : e.platform.frameOwnsMonitors = true := by rw [X.admits.platform]
  have hfin : e.platform.finalization = false := by rw [X.admits.platform]
  have hpl : e.platform.magicAccessors = ({} : Platform).magicAccessors := by rw [X.admits.platform]
  have htr : e.platform.stackTraces = false := by rw [X.admits.platform]; exact hst
  have hA : ∀ z ∈ Bundle.throwableAtoms, z.before args s = true := List.forall_mem_cons.mpr ⟨hts _ q229, List.forall_mem_cons.mpr ⟨hts _ q301, List.forall_mem_cons.mpr ⟨hts _ q310, List.forall_mem_cons.mpr ⟨hts _ q312, List.forall_mem_cons.mpr ⟨hts _ q315, List.forall_mem_cons.mpr ⟨hts _ q317, List.forall_mem_cons.mpr ⟨hts _ q302, List.forall_mem_cons.mpr ⟨hts _ q303, List.forall_mem_cons.mpr ⟨hts _ q264, List.forall_mem_cons.mpr ⟨hts _ q265, List.forall_mem_cons.mpr ⟨hts _ q304, List.forall_mem_cons.mpr ⟨hts _ q309, List.forall_mem_cons.mpr ⟨hts _ q313, List.forall_mem_cons.mpr ⟨hts _ q329, List.forall_mem_cons.mpr ⟨hts _ q291, List.forall_mem_cons.mpr ⟨hts _ q330, List.forall_mem_cons.mpr ⟨hts _ q293, List.forall_mem_cons.mpr ⟨hts _ q331, List.forall_mem_cons.mpr ⟨hts _ q295, List.forall_mem_cons.mpr ⟨hts _ q305, List.forall_mem_cons.mpr ⟨hl1.use hoS, List.forall_mem_cons.mpr ⟨hts _ q307, List.forall_mem_cons.mpr ⟨hl2.use hoS, List.forall_mem_cons.mpr ⟨hts _ q297, fun _ h => absurd h List.not_mem_nil⟩⟩⟩⟩⟩⟩⟩⟩⟩⟩⟩⟩⟩⟩⟩⟩⟩⟩⟩⟩⟩⟩⟩⟩
  have hB : ∀ z ∈ Bundle.chain0Atoms "java/lang/IllegalStateException" ["java/lang/RuntimeException", "java/lang/Exception"], z.before args s = true := List.forall_mem_cons.mpr ⟨hts _ q319, List.forall_mem_cons.mpr ⟨hts _ q320, List.forall_mem_cons.mpr ⟨hts _ q321, List.forall_mem_cons.mpr ⟨hts _ q322, List.forall_mem_cons.mpr ⟨va_Nw.use rfl (htn _ q282 rfl), List.forall_mem_cons.mpr ⟨hts _ q322, List.forall_mem_cons.mpr ⟨hts _ q323, List.forall_mem_cons.mpr ⟨hts _ q324, List.forall_mem_cons.mpr ⟨hts _ q325, List.forall_mem_cons.mpr ⟨va_Nw.use rfl (htn _ q284 rfl), List.forall_mem_cons.mpr ⟨hts _ q325, List.forall_mem_cons.mpr ⟨hts _ q326, List.forall_mem_cons.mpr ⟨hts _ q327, List.forall_mem_cons.mpr ⟨hts _ q302, List.forall_mem_cons.mpr ⟨va_Nw.use rfl (htn _ q286 rfl), fun _ h => absurd h List.not_mem_nil⟩⟩⟩⟩⟩⟩⟩⟩⟩⟩⟩⟩⟩⟩⟩
  obtain ⟨T, Z, L, LZ, Y⟩ := ThrowableC.of_atoms (args := args) howns hfin hpl hA
  obtain ⟨P1, Ps, hlen, L1, hL, hP1m, hlink1, hlink⟩ := Bundle.chain0 (args := args) hpl Y.init0 ["java/lang/RuntimeException", "java/lang/Exception"] "java/lang/IllegalStateException" (by decide) (by decide) hB
  have hfound : s.vm.findClass "java/lang/IllegalStateException" = some P1.m.cls := findClass_of_methodNamed hP1m
  have hcc : D.1 17 = P1.m.cls := Option.some.inj (hfoundX.symm.trans hfound)
  rw [hcc] at hkX e1
  obtain ⟨c1, kX', hc1, hk, hord, -, -, hn6⟩ := Cond.instantiable_spec (hts _ q280)
  cases Option.some.inj (hc1.symm.trans hfound)
  cases Option.some.inj (hkX.symm.trans hk)
  have hsel0 : selectMethod e.platform s.vm P1.m.cls T.fill0 = .method T.fill0 := by
    obtain ⟨c2, r2, m2, q1, q2, q3, q4, -⟩ := Cond.selects_spec (hts _ q288)
    cases Option.some.inj (q1.symm.trans hfound)
    cases Option.some.inj (q2.symm.trans (State.methodFound?_of_named Y.fill0 (by decide)))
    cases Option.some.inj (q3.symm.trans Y.fill0)
    rw [Launch.admits_selectMethod X.admits]; exact q4
  have hselF : selectMethod e.platform s.vm P1.m.cls T.fill = .method T.fill := by
    obtain ⟨c2, r2, m2, q1, q2, q3, q4, -⟩ := Cond.selects_spec (hts _ q289)
    cases Option.some.inj (q1.symm.trans hfound)
    cases Option.some.inj (q2.symm.trans (State.methodFound?_of_named Y.fill (by decide)))
    cases Option.some.inj (q3.symm.trans Y.fill)
    rw [Launch.admits_selectMethod X.admits]; exact q4
  obtain ⟨cf, kf, fi, fU, aS, cellS, u1, u2', u3, u4, u5, u6, u7, u8⟩ := hzU
  obtain ⟨cf2, kf2, fi2, fS, aS2, cellS2, v1, v2, v3, v4, v5, v6, v7, v8⟩ := hzS
  cases Option.some.inj (u1.symm.trans Y.unassigned)
  cases Option.some.inj (v1.symm.trans Y.sentinel)
  cases Option.some.inj (u4.symm.trans L.statics)
  cases Option.some.inj (v4.symm.trans L.statics)
  cases Option.some.inj (u5.symm.trans v5)
  have haS : T.aS < H0.size := (Array.getElem?_eq_some_iff.mp u5).1
  have hcellS : W0.heap[T.aS]? = some cellS := by
    have ho : H[(T.aS : Nat)]? = H0[(T.aS : Nat)]? := by have := hRel.2.2.2.1 (T.aS + 1) (by rw [jsh_size]; omega); rw [jsh_get, jsh_get] at this; exact this
    rw [hW0, o1 _ (by omega), ho]
    exact u5
  have hknownS : cellS.vm ≠ .unknown := fun hu => by rw [hu] at u6; cases u6
  have hneS : T.aS ≠ b := Nat.ne_of_lt (Nat.lt_of_lt_of_le haS (by omega))
  obtain ⟨ci198, i198, fB, hk198, hg198, ha198, hsB, -, hnB, htB, hffB⟩ := Cond.ownField (t := .object "java/lang/Object") Y.found L.cls (by decide +kernel) (hts _ q328) (hts _ q299) e.platform hpl
  obtain ⟨tyC, dC, hdC, hdnC⟩ := Cond.laysAt hfound hk Y.cause (hts _ q290)
  obtain ⟨tyS, dS, hdS, hdnS⟩ := Cond.laysAt hfound hk Y.stack (hts _ q292)
  obtain ⟨tyP, dP, hdP, hdnP⟩ := Cond.laysAt hfound hk Y.supp (hts _ q294)
  obtain ⟨tyB, dB, hdB, hdnB⟩ := Cond.laysAt hfound hk hffB (hts _ q298)
  have bC := Cond.laysApart hdB hdC hdnB hdnC (by rw [hnB, Y.causeName]; decide)
  have bS := Cond.laysApart hdB hdS hdnB hdnS (by rw [hnB, Y.stackName]; decide)
  have bP := Cond.laysApart hdB hdP hdnB hdnP (by rw [hnB, Y.suppName]; decide)
  have hcell : W0.heap[b]? = some (freshCell P1.m.cls kX) := by rw [hW0]; exact e1
  have hskip : SkipFacts T e.platform s (fun u => u) u0 ((preparedCellV T.toThrowableT (freshCell P1.m.cls kX) (b) u0 sen).withEntry W0.cur) :=
    ⟨{ ci198 := ci198, i198 := i198, fBack := fB }, ⟨hk198, hg198, ha198, hsB⟩, by
      have := fresh_default (c := P1.m.cls) tyB
      rw [htB] at this
      simpa [preparedCellV, Cell.setSlot, Cell.withEntry, Array.getElem?_setIfInBounds, bC, bS, bP, bC.symm, bS.symm, bP.symm, defaultValue] using this, fun _ _ => rfl⟩
  subst hb
  obtain ⟨tm, methC, cdC, kC, vm₁, hnC, -, -, -, -, -, -, -, hW₁, st1⟩ := Steps.initCold (tb := p.tables) (e := e) (below := below) (s := s) (U := W0) X.here hexec X.warmed hpl hown (t := ⟨"java/lang/IllegalStateException", "<init>", "()V"⟩) rfl rfl (by decide)
    (hts _ hml) (hts _ q319) (bytes := Bundle.five) (maxL := 1) (hts _ q320)
    (f := F0 m (pc + 4) ls (.ref (b) :: .ref (b) :: st.map jpv)) rfl (a := b) (rest := .ref (b) :: st.map jpv) rfl hd3
  cases Option.some.inj (hnC.symm.trans hP1m)
  have X₁ := X.noted hW₁
  obtain ⟨vm₂, X₂, st2⟩ := X₁.ctorPlainOffV hexec (g := F0 m (pc + 4) ls (.ref (b) :: st.map jpv)) rfl (by show ls.size = _; rw [hmlc]; exact hl.1) T L Z LZ (P1 :: Ps)
    (fun P hP => by rcases List.mem_cons.mp hP with rfl | hP; exact L1; exact hL P hP) ⟨hlink1, hlink⟩ (u0 := u0) (sen := sen) (self := b) (cell := freshCell P1.m.cls kX) (cellS := cellS)
    hcell (fun _ => by simp) (by simp) rfl rfl hsel0 hselF hcellS hneS hknownS u7 v7
    (Takes.of_laid hk hord tyC (by rw [Y.causeType]; rfl)) (Takes.of_laid hk hord tyS (by rw [Y.stackType]; exact fits_refV_array _ u0)) (Takes.of_laid hk hord tyP (by rw [Y.suppType]; exact fits_refV_object _ sen)) Y.objLocals hskip htr [] hd3
    (by show Ps.length + 1 + 2 < R.frames; rw [hlen]; show 2 + 1 + 2 < R.frames; omega) (by show 2 * 0 + (1 + ((st.map jpv).map fun v => v.category).sum) + (13 * (Ps.length + 1) + 41) ≤ R.locals; rw [hlen, jws_sum]; show 2 * 0 + (1 + jws st) + (13 * (2 + 1) + 41) ≤ R.locals; omega)
  generalize hcv : (preparedCellV T.toThrowableT (freshCell P1.m.cls kX) (b) u0 sen).setSlot T.fStack.slot u0.v = cv at X₂ st2
  have hcvc : cv.cls = P1.m.cls := by rw [← hcv]; rfl
  have hcvv : cv.vm = .none := by rw [← hcv]; rfl
  have hlt1 : b < H1.size := by omega
  have hheap : (((W0.setVm vm₁).setVm vm₂).setCell (b) cv).heap = H1.setIfInBounds (b) cv := by rw [← hW0]; rfl
  have oq : ∀ q : Nat, q ≠ b → (H1.setIfInBounds (b) cv)[q]? = H1[q]? := fun q hq => by simp [Array.getElem?_setIfInBounds, Ne.symm hq]
  have e2 : (H1.setIfInBounds (b) cv)[b]? = some cv := by simp [Array.getElem?_setIfInBounds, hlt1]
  have hRel' : jRel D ac (jsh H0) (sC (sX w 6) (jX w) 17) (jsh (H1.setIfInBounds b cv)) := by
    refine hRel.new (n := 6) (c := 17) (by decide) ((t_OB_sh hX).mpr (by rw [hb1]; exact ⟨cv, e2, by rw [hcvc]; exact hcc.symm, hcvv, fun j hj => absurd hj (Nat.not_lt_zero j)⟩)) (by rw [jsh_size, jsh_size]; simp; omega) (by rw [jsh_size]; exact jsh_lt (fun q hq => by rw [oq q (by omega)]; exact o1 q (by omega)))
  have hkk : ∀ locs', (∀ q ∈ locs', H0.size ≤ Loc.base q) → Jvm.Pilot.CCodeLayoutLaw_law_r9976_571ee0.W p l e R s m args below meth c (H1.setIfInBounds b cv) locs' (cells + 1) (slots + 6) (jQ D ac H0 R s below r) (F0 m (pc + 7) ls (.ref b :: st.map jpv)) := by
    intro locs' hq
    have hkk : Jvm.Pilot.CCodeLayoutLaw_law_r9976_571ee0.W p l e R s m args below meth c (H1.setIfInBounds b cv) locs' (cells + 1) (slots + 6) (jQ D ac H0 R s below r) (F0 m (pc + 7) ls (jrv (jX w) :: st.map jpv)) := k r hr ls hl (H1.setIfInBounds b cv) locs' (cells + 1) (slots + 6) ⟨hRel', hq, by show cells + 1 + (jF w - 1) ≤ R.cells; omega, by show slots + 6 + (jS w - 6) ≤ R.slots; omega⟩
    rw [jrv_ne hX, hb1] at hkk
    exact hkk
  refine Exists.elim (hkk _ ?_ _ hheap X₂) fun t ⟨a1, b1⟩ => ⟨t, st1 _ fun acts => by rw [doInvoke_state]; exact st2 t a1, b1⟩
  intro q hq
  have hlow : H0.size ≤ b := by omega
  rcases List.mem_append.mp hq with hq | hq
  · exact hlo q hq
  · simp only [List.mem_cons, List.not_mem_nil, or_false] at hq
    rcases hq with rfl | rfl | rfl | rfl <;> exact hlow
/-- the script lies in the old heap -/
def jSc (x : jCx) (b : Nat) (sc : Nat → Int32) (n : Nat) : Prop := match x with
  | (p, l, e, R, s, m, args, below, meth, c, D, ac, H0) => b ≠ 0 ∧ va_X (b - 1) n sc s H0
theorem j_sld {b n : Nat} {sc : Nat → Int32} {i : Int32} (hx : jOK x own cc nL) (hs : jSc x b sc n) (hd : decode cc pc = .ok (.iaload, 1)) (hi : jin i n) (k : jJ x nL (pc + 1) lv (vI (sc (ix i)) :: st) w mm en) : jJ x nL pc lv (vI i :: vR b :: st) w mm en := by
  obtain ⟨p, l, e, R, s, m, args, below, meth, c, D, ac, H0⟩ := x
  obtain ⟨hx, hb, -, -, hown, -, hK⟩ := hx
  obtain ⟨hb0, scr, hcb, hof, hkn, hsz, hval⟩ := hs
  intro r hr ls hl H locs cells slots hG
  have hlt : b - 1 < H0.size := (Array.getElem?_eq_some_iff.mp hcb).1
  have ho : H[b - 1]? = H0[b - 1]? := by have := hG.1.2.2.2.1 (b - 1 + 1) (by rw [jsh_size]; omega); rw [jsh_get, jsh_get] at this; exact this
  show Jvm.Pilot.CCodeLayoutLaw_law_r9976_571ee0.W p l e R s m args below meth c H locs cells slots _ (F0 m pc ls (.int i :: jrv b :: st.map jpv))
  rw [jrv_ne hb0]
  have hn : ix i < n := Nat.not_le.mp fun q => hi (Or.inr q)
  exact W.iald hx hb (by rw [ho]; exact hcb) hof hkn (by rw [hsz]; exact hi) (hval _ hn) rfl rfl hd (k r hr ls hl H locs cells slots hG)
theorem j_slen {b n : Nat} {sc : Nat → Int32} (hx : jOK x own cc nL) (hs : jSc x b sc n) (hd : decode cc pc = .ok (.arraylength, 1)) (k : jJ x nL (pc + 1) lv (vI (nI n) :: st) w mm en) : jJ x nL pc lv (vR b :: st) w mm en := by
  obtain ⟨p, l, e, R, s, m, args, below, meth, c, D, ac, H0⟩ := x
  obtain ⟨hx, hb, -, -, hown, -, hK⟩ := hx
  obtain ⟨hb0, scr, hcb, hof, hkn, hsz, hval⟩ := hs
  intro r hr ls hl H locs cells slots hG
  have hlt : b - 1 < H0.size := (Array.getElem?_eq_some_iff.mp hcb).1
  have ho : H[b - 1]? = H0[b - 1]? := by have := hG.1.2.2.2.1 (b - 1 + 1) (by rw [jsh_size]; omega); rw [jsh_get, jsh_get] at this; exact this
  show Jvm.Pilot.CCodeLayoutLaw_law_r9976_571ee0.W p l e R s m args below meth c H locs cells slots _ (F0 m pc ls (jrv b :: st.map jpv))
  rw [jrv_ne hb0]
  exact W.alen hx hb (by rw [ho]; exact hcb) hof (by rw [hsz]; rfl) rfl rfl hd (k r hr ls hl H locs cells slots hG)
end JDK
