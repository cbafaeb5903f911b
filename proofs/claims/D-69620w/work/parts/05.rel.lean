/-! ===== the machine's heap and the pure world; the judgement ===== -/
def jnf (c : Nat) : Nat := match jcl[c]? with
  | some q => q.2.2
  | none => 0
def jfv (W : jW) (f o : Nat) : Value := match jkd f with
  | 0 => .int (jI W f o)
  | 1 => .long (jL W f o)
  | _ => jrv (jR W f o)
def jro (a : Nat) : Option Nat := if a = 0 then none else some (a - 1)
theorem jro_rf (a : Nat) : va_rf (jro a) = jrv a := by unfold jro jrv; split <;> rfl
def jcn (W : jW) (f o : Nat) : (Nat → Int32) ⊕ (Nat → Int64) ⊕ (Nat → UInt32) ⊕ (Nat → UInt64) ⊕ (Nat → Option Nat) := match jkd f with
  | 6 => .inr (.inl (jB W f o))
  | 7 => .inr (.inr (.inr (.inr fun i => jro (jE W f o i))))
  | 8 => .inr (.inr (.inr (.inr fun i => jro (jE W f o i))))
  | _ => .inl (jA W f o)
def jtys (ac : Nat → ClassId) : List (ClassId × FieldType) := [(ac 0, .int), (ac 1, .int), (ac 2, .int), (ac 3, .int), (ac 4, .byte), (ac 5, .boolean), (ac 6, .long), (ac 7, .object "CodeLayout$Machine"), (ac 8, .object "java/lang/Object")]
def jRel (D : va_G) (ac : Nat → ClassId) (H0 : Heap) (W : jW) (H : Heap) : Prop :=
  1 ≤ H0.size ∧ H.size = jX W ∧ H0.size ≤ H.size ∧ (∀ q : Nat, q < H0.size → H[q]? = H0[q]?) ∧
  (∀ o : Nat, jC W o ≠ 0 → H0.size ≤ o ∧ t_OB o (D.1 (jC W o)) (jnf (jC W o)) (D.2 (jC W o)) H (fun j => jfv W (100 * jC W o + j) o)) ∧
  (∀ f o : Nat, 3 ≤ jkd f → jR W f o ≠ 0 → H0.size ≤ jR W f o ∧ jC W (jR W f o) = 0 ∧ H[jR W f o]? = some (vp_cell (ac (jkd f)) (jN W f o, jcn W f o))) ∧
  (∀ f o : Nat, 3 ≤ jkd f → jR W f o = 0 → jN W f o = 0) ∧
  (∀ f o f' o' : Nat, 3 ≤ jkd f → 3 ≤ jkd f' → jR W f o ≠ 0 → jR W f o = jR W f' o' → f = f' ∧ o = o') ∧
  (∀ f a : Nat, jX W ≤ a → jI W f a = 0 ∧ jL W f a = 0 ∧ jR W f a = 0 ∧ jN W f a = 0) ∧
  (∀ f : Nat, jR W f 0 = ac (100 + f))
/-- the heap with a cell ahead of all: the world's references count from it -/
def jsh (H : Heap) : Heap := #[({ cls := 0, slots := #[], vm := .none } : Cell)] ++ H
theorem jsh_size (H : Heap) : (jsh H).size = H.size + 1 := by unfold jsh; rw [Array.size_append]; simp; omega
theorem jsh_get (H : Heap) (q : Nat) : (jsh H)[q + 1]? = H[q]? := by unfold jsh; rw [Array.getElem?_append]; simp
theorem jsh_at {H : Heap} {a : Nat} (h : a ≠ 0) : (jsh H)[a]? = H[a - 1]? := by
  obtain ⟨b, rfl⟩ := Nat.exists_eq_succ_of_ne_zero h
  exact jsh_get H b
theorem jsh_0 (H H' : Heap) : (jsh H)[0]? = (jsh H')[0]? := by unfold jsh; rw [Array.getElem?_append, Array.getElem?_append]; simp
theorem jsh_oth {H H' : Heap} {a : Nat} (ha : a ≠ 0) (h : ∀ q, q ≠ a - 1 → H'[q]? = H[q]?) : ∀ q, q ≠ a → (jsh H')[q]? = (jsh H)[q]? := by
  intro q hq
  by_cases h0 : q = 0
  · rw [h0]; exact jsh_0 _ _
  · rw [jsh_at h0, jsh_at h0]; exact h (q - 1) (by omega)
theorem jsh_lt {H H' : Heap} {n : Nat} (h : ∀ q, q < n → H'[q]? = H[q]?) : ∀ q, q < n + 1 → (jsh H')[q]? = (jsh H)[q]? := by
  intro q hq
  by_cases h0 : q = 0
  · rw [h0]; exact jsh_0 _ _
  · rw [jsh_at h0, jsh_at h0]; exact h (q - 1) (by omega)
theorem t_OB_sh {o : Nat} {cC : ClassId} {N : Nat} {iS : Nat → Nat} {H : Heap} {V : Nat → Value} (ho : o ≠ 0) : t_OB o cC N iS (jsh H) V ↔ t_OB (o - 1) cC N iS H V := by
  unfold t_OB
  rw [jsh_at ho]
/-- a static field is laid, by the old heap -/
def jlS (H0 : Heap) (s : State) (C n d : String) : Prop := ∃ c k i f a cell, s.vm.findClass C = some c ∧ s.fieldFound? C n d = some (c, k, i, f) ∧ f.isStatic = true ∧ k.statics = some a ∧ H0[a]? = some cell ∧ cell.vm.isStatics = true ∧ cell.cls = c ∧ f.slot < cell.slots.size ∧ k.staticTypes[f.slot]? = some f.type
theorem jlS.moved {H0 : Heap} {s U : State} {C n d : String} (h : s.vm.Alike U.vm) (hl : jlS H0 s C n d) : jlS H0 U C n d := by
  obtain ⟨c, k, i, f, a, cell, hc, hi, hst, ha, hcell, hs, hcls, hlt, hty⟩ := hl
  obtain ⟨k', hi', hek⟩ := State.fieldFound?_setVm h hi
  exact ⟨c, k', i, f, a, cell, by rw [h.findClass]; exact hc, hi', hst, by rw [hek]; exact ha, hcell, hs, hcls, hlt, by rw [hek]; exact hty⟩
theorem jlS.use {H0 : Heap} {s : State} {C n d : String} (hl : jlS H0 s C n d) (hh : ∀ q : Nat, q < H0.size → s.heap[q]? = H0[q]?) {A : Array Value} : (Cond.laysStatic C n d).before A s = true := by
  obtain ⟨c, k, i, f, a, cell, hc, hi, hst, ha, hcell, hs, hcls, hlt, hty⟩ := hl
  exact Cond.laysStatic_of hc hi hst ha (by rw [hh a (Array.getElem?_eq_some_iff.mp hcell).1]; exact hcell) hs hcls hlt hty
/-- what the statics of the JDK hold that are read -/
def jZ (ac : Nat → ClassId) (H0 : Heap) (s : State) : Prop :=
  va_Z "java/util/ArrayList" "DEFAULTCAPACITY_EMPTY_ELEMENTDATA" "[Ljava/lang/Object;" (.ref (ac 2052 - 1)) (fun q => H0.size ≤ q) s H0 ∧ ac 2052 ≠ 0 ∧
  ∃ cell : Cell, H0[(ac 2052 - 1 : Nat)]? = some cell ∧ s.isArrayOf cell (.object "java/lang/Object") ∧ cell.slots.size = 0 ∧
  ∃ u0 sen : RefV, va_Z "java/lang/Throwable" "UNASSIGNED_STACK" "[Ljava/lang/StackTraceElement;" u0.v (fun q => H0.size ≤ q) s H0 ∧ va_Z "java/lang/Throwable" "SUPPRESSED_SENTINEL" "Ljava/util/List;" sen.v (fun q => H0.size ≤ q) s H0 ∧ (∀ q : Nat, q < H0.size → s.heap[q]? = H0[q]?) ∧ jlS H0 s "java/lang/Throwable" "UNASSIGNED_STACK" "[Ljava/lang/StackTraceElement;" ∧ jlS H0 s "java/lang/Throwable" "SUPPRESSED_SENTINEL" "Ljava/util/List;"
/-- program, launch, environment, room, first state, method, arguments, frames below, method, code; classes' numbers, arrays' classes, the heap of old -/
abbrev jCx : Type := Program × Launch × Env × Room × State × MethodId × Array Value × List Frame × Method × Code × va_G × (Nat → ClassId) × Heap
def jnest : Cond → Bool
  | .fieldLinkNest .. => true
  | .methodLinkNest .. => true
  | .castable .. => true
  | .declares .. => true
  | .arrayOver (.object _) => true
  | _ => false
def jWds (args : Array Value) (s : State) : Prop := (∀ w ∈ lw_all, w.before args s = true) ∧ ∀ w ∈ lw_tbl, jnest w = true → va_Nw w s
/-- the walk stands in a method with code cc of class own, with nL locals, called nm, that answers ret and has the handlers hh -/
def jOK (x : jCx) (own : String) (cc : ByteArray) (nL : Nat) : Prop := match x with
  | (p, l, e, R, s, m, args, below, meth, c, D, ac, H0) => p.tables.exec = Jvm.exec ∧ c.code = cc ∧ c.maxLocals = nL ∧ meth.locks = false ∧ s.vm.findClass own = some m.cls ∧ jWds args s ∧ va_K D jcl (jtys ac) s
def jG (D : va_G) (ac : Nat → ClassId) (H0 : Heap) (R : Room) (W : jW) (H : Heap) (locs : List Loc) (cells slots : Nat) : Prop :=
  jRel D ac (jsh H0) W (jsh H) ∧ (∀ q ∈ locs, H0.size ≤ q.base) ∧ cells + jF W ≤ R.cells ∧ slots + jS W ≤ R.slots
def jQ (D : va_G) (ac : Nat → ClassId) (H0 : Heap) (R : Room) (s : State) (below : List Frame) (r : Outcome × jW) : State → Prop := fun t =>
  t.status = .running ∧ Ended t below r.1 ∧ s.WarmedH t.vm ∧ ∃ (L : List Loc) (k n : Nat), s.sameButNew ({ t with vm := s.vm } : State) L k n ∧ (∀ q ∈ L, H0.size ≤ q.base) ∧ jRel D ac (jsh H0) r.2 (jsh t.heap) ∧ k + jF r.2 ≤ R.cells ∧ n + jS r.2 ≤ R.slots
/-- code at pc, with these locals, this operand stack and this world, does what the pure program mm, handed on to en, says -/
def jJ {α : Type} (x : jCx) (nL pc : Nat) (lv : List (Nat × jV)) (st : List jV) (W : jW) (mm : Option α) (en : α → Option (Outcome × jW)) : Prop := match x with
  | (p, l, e, R, s, m, args, below, meth, c, D, ac, H0) => ∀ r, mm.bind en = some r → ∀ ls, lv_has ls nL (jmv lv) → ∀ H locs cells slots, jG D ac H0 R W H locs cells slots →
    Jvm.Pilot.CCodeLayoutLaw_law_r9976_571ee0.W p l e R s m args below meth c H locs cells slots (jQ D ac H0 R s below r) (F0 m pc ls (st.map jpv))
/-- a table of instructions of a code -/
def jTab (cc : ByteArray) (tb : List (Nat × Instr)) : Prop := ∀ q ∈ tb, decode cc q.1 = .ok (q.2, jln q.2)
theorem jTab.at {cc : ByteArray} {tb : List (Nat × Instr)} (h : jTab cc tb) (j : Nat) {pc : Nat} {ins : Instr} (hj : tb[j]? = some (pc, ins)) : decode cc pc = .ok (ins, jln ins) := h (pc, ins) (List.mem_of_getElem? hj)
def jrun (nL : Nat) : List (Nat × Instr) → Nat → Nat → List (Nat × jV) → List jV → Option (Nat × List (Nat × jV) × List jV)
  | _, 0, pc, lv, st => some (pc, lv, st)
  | [], _ + 1, _, _, _ => none
  | q :: tb, n + 1, pc, lv, st => match Nat.beq q.1 pc with
    | true => match jev nL q.2 lv st with
      | some r => jrun nL tb n (pc + jln q.2) r.1 r.2
      | none => none
    | false => none
section JR
variable {α : Type} {x : jCx} {own : String} {cc : ByteArray} {nL pc : Nat} {lv : List (Nat × jV)} {st : List jV} {W : jW} {mm : Option α} {en : α → Option (Outcome × jW)}
theorem j_ev (hx : jOK x own cc nL) {ins : Instr} {lv' : List (Nat × jV)} {st' : List jV} (hd : decode cc pc = .ok (ins, jln ins)) (h : jev nL ins lv st = some (lv', st')) (k : jJ x nL (pc + jln ins) lv' st' W mm en) : jJ x nL pc lv st W mm en := by
  obtain ⟨p, l, e, R, s, m, args, below, meth, c, D, ac, H0⟩ := x
  obtain ⟨hx, hb, -⟩ := hx
  intro r hr ls hl H locs cells slots hG
  exact jstep hx hb hd h (fun ls' hl' => k r hr ls' hl' H locs cells slots hG) ls hl
theorem j_runA (hx : jOK x own cc nL) : ∀ (n : Nat) {tb : List (Nat × Instr)} (_ : jTab cc tb) {pc pc' : Nat} {lv lv' : List (Nat × jV)} {st st' : List jV} (_ : jrun nL tb n pc lv st = some (pc', lv', st')) (_ : jJ x nL pc' lv' st' W mm en), jJ x nL pc lv st W mm en
  | 0, tb, _, pc, pc', lv, lv', st, st', hr, k => by
    unfold jrun at hr
    cases hr
    exact k
  | n + 1, [], _, pc, pc', lv, lv', st, st', hr, k => by cases hr
  | n + 1, q :: tb, ht, pc, pc', lv, lv', st, st', hr, k => by
    unfold jrun at hr
    split at hr
    · rename_i e1
      split at hr
      · rename_i r e2
        have e1 := Nat.eq_of_beq_eq_true e1
        subst e1
        exact j_ev hx (ht q List.mem_cons_self) e2 (j_runA hx n (fun z hz => ht z (List.mem_cons_of_mem _ hz)) hr k)
      · cases hr
    · cases hr
/-- n plain instructions from place j of the table on -/
theorem j_run (hx : jOK x own cc nL) {tb : List (Nat × Instr)} (ht : jTab cc tb) (j n : Nat) {pc' : Nat} {lv' : List (Nat × jV)} {st' : List jV} (hr : jrun nL (tb.drop j) n pc lv st = some (pc', lv', st')) (k : jJ x nL pc' lv' st' W mm en) : jJ x nL pc lv st W mm en :=
  j_runA hx n (fun q hq => ht q (List.mem_of_mem_drop hq)) hr k
/-- fewer or other listed locals -/
def jsb (l : List (Nat × jV)) : List (Nat × jV) → Prop
  | [] => True
  | q :: l' => jlk l q.1 = some q.2 ∧ jsb l l'
theorem jsb_mem {l : List (Nat × jV)} : ∀ {l' : List (Nat × jV)}, jsb l l' → ∀ q ∈ l', q ∈ l
  | [], _, q, h => by cases h
  | a :: l', h, q, hq => by
    rcases List.mem_cons.mp hq with rfl | hq
    · exact jlk_mem h.1
    · exact jsb_mem h.2 q hq
theorem j_lv {lv' : List (Nat × jV)} (hs : jsb lv lv') (k : jJ x nL pc lv' st W mm en) : jJ x nL pc lv st W mm en := by
  obtain ⟨p, l, e, R, s, m, args, below, meth, c, D, ac, H0⟩ := x
  intro r hr ls hl H locs cells slots hG
  refine k r hr ls ⟨hl.1, hl.2.1, fun q hq => hl.2.2 q ?_⟩ H locs cells slots hG
  obtain ⟨q0, h0, rfl⟩ := List.mem_map.mp hq
  exact List.mem_map.mpr ⟨q0, jsb_mem hs q0 h0, rfl⟩
theorem j_none {en : α → Option (Outcome × jW)} : jJ x nL pc lv st W none en := by
  obtain ⟨p, l, e, R, s, m, args, below, meth, c, D, ac, H0⟩ := x
  intro r hr
  cases hr
/-- another spelling of the same pure program -/
theorem j_eq {β : Type} {mm' : Option β} {en' : β → Option (Outcome × jW)} (h : mm.bind en = mm'.bind en') (k : jJ x nL pc lv st W mm' en') : jJ x nL pc lv st W mm en := by
  obtain ⟨p, l, e, R, s, m, args, below, meth, c, D, ac, H0⟩ := x
  intro r hr
  exact k r (h ▸ hr)
theorem j_if (c : Prop) [hc : Decidable c] {a b : Option α} (ht : c → jJ x nL pc lv st W a en) (hf : ¬ c → jJ x nL pc lv st W b en) : jJ x nL pc lv st W (if c then a else b) en := by
  by_cases h : c
  · rw [if_pos h]; exact ht h
  · rw [if_neg h]; exact hf h
end JR
/-- a guard: the machine would throw, or leave what is modelled, where it fails -/
def gd {α : Type} (c : Prop) [Decidable c] (m : Option α) : Option α := if c then m else none
theorem gd_t {α : Type} {c : Prop} [Decidable c] {m : Option α} (h : c) : gd c m = m := if_pos h
section JB
variable {α : Type} {x : jCx} {own : String} {cc : ByteArray} {nL pc : Nat} {lv : List (Nat × jV)} {st : List jV} {W : jW} {mm : Option α} {en : α → Option (Outcome × jW)}
theorem j_gd {c : Prop} [Decidable c] (k : c → jJ x nL pc lv st W mm en) : jJ x nL pc lv st W (gd c mm) en := by
  unfold gd
  exact j_if c k (fun _ => j_none)
theorem j_goto (hx : jOK x own cc nL) {off : Int} {tgt : Nat} (hd : decode cc pc = .ok (.goto off, 3)) (ht : (pc : Int) + off = (tgt : Int)) (k : jJ x nL tgt lv st W mm en) : jJ x nL pc lv st W mm en := by
  obtain ⟨p, l, e, R, s, m, args, below, meth, c, D, ac, H0⟩ := x
  obtain ⟨hx, hb, -⟩ := hx
  intro r hr ls hl H locs cells slots hG
  exact lv_goto hx hb hd ht (k r hr ls hl H locs cells slots hG)
end JB
