/-! ===== quotients, constants, returns, athrow ===== -/
section JU
variable {α : Type} {x : jCx} {own : String} {cc : ByteArray} {nL pc : Nat} {lv : List (Nat × jV)} {st : List jV} {w : jW} {mm : Option α} {en : α → Option (Outcome × jW)}
theorem j_idiv (hx : jOK x own cc nL) {u v : Int32} (hd : decode cc pc = .ok (.idiv, 1)) (hv : ¬ v = 0) (k : jJ x nL (pc + 1) lv (vI (u / v) :: st) w mm en) : jJ x nL pc lv (vI v :: vI u :: st) w mm en := by
  obtain ⟨p, l, e, R, s, m, args, below, meth, c, D, ac, H0⟩ := x
  obtain ⟨hx, hb, -⟩ := hx
  intro r hr ls hl H locs cells slots hG
  exact lv_idiv hx hb hd hv (k r hr ls hl H locs cells slots hG)
theorem j_irem (hx : jOK x own cc nL) {u v : Int32} (hd : decode cc pc = .ok (.irem, 1)) (hv : ¬ v = 0) (k : jJ x nL (pc + 1) lv (vI (irm u v) :: st) w mm en) : jJ x nL pc lv (vI v :: vI u :: st) w mm en := by
  obtain ⟨p, l, e, R, s, m, args, below, meth, c, D, ac, H0⟩ := x
  obtain ⟨hx, hb, -⟩ := hx
  intro r hr ls hl H locs cells slots hG
  exact lv_irem hx hb hd hv (k r hr ls hl H locs cells slots hG)
theorem j_ldiv (hx : jOK x own cc nL) {u v : Int64} (hd : decode cc pc = .ok (.ldiv, 1)) (hv : ¬ v = 0) (k : jJ x nL (pc + 1) lv (vL (u / v) :: st) w mm en) : jJ x nL pc lv (vL v :: vL u :: st) w mm en := by
  obtain ⟨p, l, e, R, s, m, args, below, meth, c, D, ac, H0⟩ := x
  obtain ⟨hx, hb, -⟩ := hx
  intro r hr ls hl H locs cells slots hG
  exact lv_ldiv hx hb hd hv (k r hr ls hl H locs cells slots hG)
theorem j_lrem (hx : jOK x own cc nL) {u v : Int64} (hd : decode cc pc = .ok (.lrem, 1)) (hv : ¬ v = 0) (k : jJ x nL (pc + 1) lv (vL (lrm u v) :: st) w mm en) : jJ x nL pc lv (vL v :: vL u :: st) w mm en := by
  obtain ⟨p, l, e, R, s, m, args, below, meth, c, D, ac, H0⟩ := x
  obtain ⟨hx, hb, -⟩ := hx
  intro r hr ls hl H locs cells slots hG
  exact lv_lrem hx hb hd hv (k r hr ls hl H locs cells slots hG)
theorem j_ldc (hx : jOK x own cc nL) {idx : Nat} {v : Int32} (hq : Cond.constant own idx v ∈ lw_all) (hd : decode cc pc = .ok (.ldc idx, 2)) (k : jJ x nL (pc + 2) lv (vI v :: st) w mm en) : jJ x nL pc lv st w mm en := by
  obtain ⟨p, l, e, R, s, m, args, below, meth, c, D, ac, H0⟩ := x
  obtain ⟨hx, hb, -, -, hown, ⟨hts, -⟩, -⟩ := hx
  intro r hr ls hl H locs cells slots hG
  exact lv_ldc hx hb hown (hts _ hq) hd (k r hr ls hl H locs cells slots hG)
theorem j_ldcw (hx : jOK x own cc nL) {idx : Nat} {v : Int32} (hq : Cond.constant own idx v ∈ lw_all) (hd : decode cc pc = .ok (.ldc_w idx, 3)) (k : jJ x nL (pc + 3) lv (vI v :: st) w mm en) : jJ x nL pc lv st w mm en := by
  obtain ⟨p, l, e, R, s, m, args, below, meth, c, D, ac, H0⟩ := x
  obtain ⟨hx, hb, -, -, hown, ⟨hts, -⟩, -⟩ := hx
  intro r hr ls hl H locs cells slots hG
  exact lv_ldcw hx hb hown (hts _ hq) hd (k r hr ls hl H locs cells slots hG)
theorem j_ldc2 (hx : jOK x own cc nL) {idx : Nat} {v : Int64} (hq : Cond.constantLong own idx v ∈ lw_all) (hd : decode cc pc = .ok (.ldc2_w idx, 3)) (k : jJ x nL (pc + 3) lv (vL v :: st) w mm en) : jJ x nL pc lv st w mm en := by
  obtain ⟨p, l, e, R, s, m, args, below, meth, c, D, ac, H0⟩ := x
  obtain ⟨hx, hb, -, -, hown, ⟨hts, -⟩, -⟩ := hx
  intro r hr ls hl H locs cells slots hG
  exact lv_ldc2 hx hb hown (hts _ hq) hd (k r hr ls hl H locs cells slots hG)
end JU
/-- the method's name, what it answers, its handlers -/
def jMt (x : jCx) (nm : String) (ret : Option FieldType) (hh : List (Nat × Nat × Nat × Nat)) : Prop := match x with
  | (p, l, e, R, s, m, args, below, meth, c, D, ac, H0) => meth.name = nm ∧ meth.sig.returnType = ret ∧ c.exceptionTable.toList.map (fun h => (h.startPc, h.endPc, h.handlerPc, h.catchType)) = hh
section JV
variable {α : Type} {x : jCx} {own nm : String} {hh : List (Nat × Nat × Nat × Nat)} {cc : ByteArray} {nL pc : Nat} {lv : List (Nat × jV)} {w : jW} {mm : Option α} {en : α → Option (Outcome × jW)}
theorem j_iret (hx : jOK x own cc nL) {ty : FieldType} (hm : jMt x nm (some ty) hh) {v : Int32} (hd : decode cc pc = .ok (.ireturn, 1)) (hn : narrow ty (.int v) = .int v) (hq : mm.bind en = some (.returned (some (.int v)), w)) : jJ x nL pc lv [vI v] w mm en := by
  obtain ⟨p, l, e, R, s, m, args, below, meth, c, D, ac, H0⟩ := x
  obtain ⟨hexec, hb, -, hlocks, -⟩ := hx
  obtain ⟨-, hr, -⟩ := hm
  intro r hrr ls hl H locs cells slots hG T hT X
  obtain ⟨hRel, hlo, hce, hsl⟩ := hG
  cases hq.symm.trans hrr
  obtain ⟨fs, hret, hrun, hended, hW, hframe⟩ := X.leave (v := some (.int v)) (hlocks := hlocks) (fun h => by rw [hr] at h; cases h)
  have hmeth' : T.vm.method? m = some meth := X.method'
  refine ⟨T.setFrames fs, ?_, hrun, hended, hW, locs, cells, slots, hframe, hlo, by show jRel D ac (jsh H0) w (jsh T.heap); rw [hT]; exact hRel, hce, hsl⟩
  show Steps p.tables e below (T.setTop (F0 m pc ls [.int v])) _
  jvm_step X.here [X.here.top, hexec, hb, hd, hmeth', hr, hn]
  (try refine ⟨rfl, ?_⟩); (try refine ⟨rfl, ?_⟩)
  first | (intro acts; rw [hret _ acts rfl rfl rfl]) | rw [hret _ _ rfl rfl rfl]
  exact Steps.refl _
theorem j_lret (hx : jOK x own cc nL) (hm : jMt x nm (some .long) hh) {v : Int64} (hd : decode cc pc = .ok (.lreturn, 1)) (hq : mm.bind en = some (.returned (some (.long v)), w)) : jJ x nL pc lv [vL v] w mm en := by
  obtain ⟨p, l, e, R, s, m, args, below, meth, c, D, ac, H0⟩ := x
  obtain ⟨hexec, hb, -, hlocks, -⟩ := hx
  obtain ⟨-, hr, -⟩ := hm
  intro r hrr ls hl H locs cells slots hG T hT X
  obtain ⟨hRel, hlo, hce, hsl⟩ := hG
  cases hq.symm.trans hrr
  obtain ⟨fs, hret, hrun, hended, hW, hframe⟩ := X.leave (v := some (.long v)) (hlocks := hlocks) (fun h => by rw [hr] at h; cases h)
  have hmeth' : T.vm.method? m = some meth := X.method'
  refine ⟨T.setFrames fs, ?_, hrun, hended, hW, locs, cells, slots, hframe, hlo, by show jRel D ac (jsh H0) w (jsh T.heap); rw [hT]; exact hRel, hce, hsl⟩
  show Steps p.tables e below (T.setTop (F0 m pc ls [.long v])) _
  jvm_step X.here [X.here.top, hexec, hb, hd, hmeth', hr, narrow]
  (try refine ⟨rfl, ?_⟩); (try refine ⟨rfl, ?_⟩)
  first | (intro acts; rw [hret _ acts rfl rfl rfl]) | rw [hret _ _ rfl rfl rfl]
  exact Steps.refl _
theorem j_vret (hx : jOK x own cc nL) (hm : jMt x nm none hh) (hd : decode cc pc = .ok (.return_, 1)) (hq : mm.bind en = some (.returned none, w)) : jJ x nL pc lv [] w mm en := by
  obtain ⟨p, l, e, R, s, m, args, below, meth, c, D, ac, H0⟩ := x
  obtain ⟨hexec, hb, -, hlocks, -⟩ := hx
  obtain ⟨-, hr, -⟩ := hm
  intro r hrr ls hl H locs cells slots hG T hT X
  obtain ⟨hRel, hlo, hce, hsl⟩ := hG
  cases hq.symm.trans hrr
  obtain ⟨fs, hret, hrun, hended, hW, hframe⟩ := X.leave (v := none) (hlocks := hlocks) (fun _ => rfl)
  have hmeth' : T.vm.method? m = some meth := X.method'
  refine ⟨T.setFrames fs, ?_, hrun, hended, hW, locs, cells, slots, hframe, hlo, by show jRel D ac (jsh H0) w (jsh T.heap); rw [hT]; exact hRel, hce, hsl⟩
  show Steps p.tables e below (T.setTop (F0 m pc ls [])) _
  jvm_step X.here [X.here.top, hexec, hb, hd, hmeth', hr]
  (try refine ⟨rfl, ?_⟩); (try refine ⟨rfl, ?_⟩)
  first | (intro acts; rw [hret _ acts rfl rfl rfl]) | rw [hret _ _ rfl rfl rfl]
  exact Steps.refl _
theorem j_aret (hx : jOK x own cc nL) {ty : FieldType} (hm : jMt x nm (some ty) hh) (hrt : (∃ n, ty = .object n) ∨ ∃ t, ty = .array t) {a : Nat} (hd : decode cc pc = .ok (.areturn, 1)) (hq : mm.bind en = some (.returned (some (jrv a)), w)) : jJ x nL pc lv [vR a] w mm en := by
  obtain ⟨p, l, e, R, s, m, args, below, meth, c, D, ac, H0⟩ := x
  obtain ⟨hexec, hb, -, hlocks, -⟩ := hx
  obtain ⟨-, hr, -⟩ := hm
  intro r hrr ls hl H locs cells slots hG T hT X
  obtain ⟨hRel, hlo, hce, hsl⟩ := hG
  cases hq.symm.trans hrr
  obtain ⟨fs, hret, hrun, hended, hW, hframe⟩ := X.leave (v := some (jrv a)) (hlocks := hlocks) (fun h => by rw [hr] at h; cases h)
  have hmeth' : T.vm.method? m = some meth := X.method'
  refine ⟨T.setFrames fs, ?_, hrun, hended, hW, locs, cells, slots, hframe, hlo, by show jRel D ac (jsh H0) w (jsh T.heap); rw [hT]; exact hRel, hce, hsl⟩
  show Steps p.tables e below (T.setTop (F0 m pc ls [jrv a])) _
  have hv : jrv a = .null ∨ ∃ b, jrv a = .ref b := by unfold jrv; split <;> simp
  rcases hrt with ⟨n, rfl⟩ | ⟨t, rfl⟩ <;> rcases hv with hv | ⟨b, hv⟩ <;> rw [hv] at hret ⊢ <;>
    (jvm_step X.here [X.here.top, hexec, hb, hd, hmeth', hr]
     (try refine ⟨rfl, ?_⟩); (try refine ⟨rfl, ?_⟩)
     first | (intro acts; rw [hret _ acts rfl rfl rfl]) | rw [hret _ _ rfl rfl rfl]
     exact Steps.refl _)
/-- athrow in a method without handlers -/
theorem j_athrow (hx : jOK x own cc nL) {ret : Option FieldType} (hm : jMt x nm ret []) {a : Nat} {st : List jV} (hd : decode cc pc = .ok (.athrow, 1)) (ha : ¬ a = 0) (hq : mm.bind en = some (.threw (a - 1), w)) : jJ x nL pc lv (vR a :: st) w mm en := by
  obtain ⟨p, l, e, R, s, m, args, below, meth, c, D, ac, H0⟩ := x
  obtain ⟨hexec, hb, -, hlocks, -⟩ := hx
  obtain ⟨-, hr, hhh⟩ := hm
  intro r hrr ls hl H locs cells slots hG T hT X
  obtain ⟨hRel, hlo, hce, hsl⟩ := hG
  cases hq.symm.trans hrr
  subst hb
  have hem : c.exceptionTable.toList = [] := List.map_eq_nil_iff.mp hhh
  obtain ⟨h1, h2, h3, h4, h5⟩ := X.athrowLeaves hexec (g := F0 m pc ls (.ref (a - 1) :: st.map jpv)) rfl rfl rfl (fun z hz => by rw [hem] at hz; cases hz) rfl hd hlocks
  refine ⟨_, ?_, h2, h3, h4, locs, cells, slots, h5, hlo, by show jRel D ac (jsh H0) w (jsh T.heap); rw [hT]; exact hRel, hce, hsl⟩
  show Steps p.tables e below (T.setTop (F0 m pc ls (jrv a :: st.map jpv))) _
  rw [jrv_ne ha]
  exact h1
end JV
