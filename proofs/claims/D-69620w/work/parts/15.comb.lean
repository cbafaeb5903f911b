/-! ===== pure programs: let, loops, switches ===== -/
def jlt {α β : Type} (v : α) (k : α → β) : β := k v
def jit {S R : Type} (step : S → Option (S ⊕ R)) : Nat → S → Option R
  | 0, _ => none
  | n + 1, s => (step s).bind (Sum.elim (jit step n) some)
theorem jit_mono {S R : Type} {step : S → Option (S ⊕ R)} : ∀ {n : Nat} {s : S} {r : R}, jit step n s = some r → jit step (n + 1) s = some r
  | 0, s, r, h => by cases h
  | n + 1, s, r, h => by
    unfold jit at h ⊢
    cases e : step s with
    | none => rw [e] at h; cases h
    | some q =>
      rw [e] at h
      cases q with
      | inl s' => exact jit_mono (n := n) h
      | inr q => exact h
theorem jit_add {S R : Type} {step : S → Option (S ⊕ R)} {n : Nat} {s : S} {r : R} (h : jit step n s = some r) : ∀ k, jit step (n + k) s = some r
  | 0 => h
  | k + 1 => jit_mono (jit_add h k)
theorem jit_det {S R : Type} {step : S → Option (S ⊕ R)} {n m : Nat} {s : S} {r q : R} (h : jit step n s = some r) (g : jit step m s = some q) : r = q := by
  have h1 := jit_add h m
  have h2 := jit_add g n
  rw [Nat.add_comm] at h2
  exact Option.some.inj (h1.symm.trans h2)
theorem jfx_ex {S R : Type} (step : S → Option (S ⊕ R)) (s : S) : ∃ o : Option R, ∀ r, o = some r ↔ ∃ n, jit step n s = some r := by
  rcases Classical.em (∃ n r, jit step n s = some r) with ⟨n, r, h⟩ | h
  · exact ⟨some r, fun q => ⟨fun e => ⟨n, by cases e; exact h⟩, fun ⟨m, g⟩ => by rw [jit_det h g]⟩⟩
  · exact ⟨none, fun q => ⟨fun e => (by cases e), fun ⟨m, g⟩ => absurd ⟨m, q, g⟩ h⟩⟩
/-- a loop run to its end -/
noncomputable def jfx {S R : Type} (step : S → Option (S ⊕ R)) (s : S) : Option R := Classical.choose (jfx_ex step s)
theorem jfx_iff {S R : Type} {step : S → Option (S ⊕ R)} {s : S} {r : R} : jfx step s = some r ↔ ∃ n, jit step n s = some r := Classical.choose_spec (jfx_ex step s) r
theorem jfx_eq {S R : Type} (step : S → Option (S ⊕ R)) (s : S) : jfx step s = (step s).bind (Sum.elim (jfx step) some) := by
  refine Option.ext fun r => ?_
  constructor
  · intro h
    obtain ⟨n, h⟩ := jfx_iff.mp h
    cases n with
    | zero => cases h
    | succ n =>
      unfold jit at h
      cases e : step s with
      | none => rw [e] at h; cases h
      | some q =>
        rw [e] at h
        cases q with
        | inl s' => exact jfx_iff.mpr ⟨n, h⟩
        | inr q => exact h
  · intro h
    cases e : step s with
    | none => rw [e] at h; cases h
    | some q =>
      rw [e] at h
      cases q with
      | inl s' =>
        obtain ⟨n, h⟩ := jfx_iff.mp h
        refine jfx_iff.mpr ⟨n + 1, ?_⟩
        unfold jit
        rw [e]
        exact h
      | inr q =>
        refine jfx_iff.mpr ⟨1, ?_⟩
        unfold jit
        rw [e]
        exact h
/-- go on from here to the end -/
noncomputable def jrn {S R : Type} (step : S → Option (S ⊕ R)) (e : Option (S ⊕ R)) : Option R := e.bind (Sum.elim (jfx step) some)
theorem jrn_l {S R : Type} (step : S → Option (S ⊕ R)) (s : S) : jrn step (some (.inl s)) = jrn step (step s) := jfx_eq step s
theorem jrn_r {S R : Type} (step : S → Option (S ⊕ R)) (r : R) : jrn step (some (.inr r)) = some r := rfl
theorem jrn_n {S R : Type} (step : S → Option (S ⊕ R)) : jrn step none = none := rfl
section JLP
variable {α : Type} {x : jCx} {own : String} {cc : ByteArray} {nL pc : Nat} {lv : List (Nat × jV)} {st : List jV} {w : jW} {mm : Option α} {en : α → Option (Outcome × jW)}
/-- loops: P tells of each state of a loop its place, its locals and its world -/
theorem j_loopA {S R : Type} {step : S → Option (S ⊕ R)} {en0 : R → Option (Outcome × jW)} {P : S → Nat × List (Nat × jV) × jW}
    (H : ∀ en : S ⊕ R → Option (Outcome × jW), (∀ q, en (.inr q) = en0 q) → (∀ s, jJ x nL (P s).1 (P s).2.1 [] (P s).2.2 (some (.inl s : S ⊕ R)) en) → ∀ s, jJ x nL (P s).1 (P s).2.1 [] (P s).2.2 (step s) en) :
    ∀ n s, jJ x nL (P s).1 (P s).2.1 [] (P s).2.2 (jit step n s) en0
  | 0, s => j_none
  | n + 1, s => by
    have ih := j_loopA H n
    have := H (Sum.elim (fun s' => (jit step n s').bind en0) en0) (fun q => rfl) (fun s' => j_eq (mm' := jit step n s') (en' := en0) rfl (ih s')) s
    refine j_eq ?_ this
    show ((step s).bind (Sum.elim (jit step n) some)).bind en0 = _
    cases e : step s with
    | none => rfl
    | some q => cases q <;> rfl
theorem j_loop {S R : Type} {step : S → Option (S ⊕ R)} {en0 : R → Option (Outcome × jW)} {P : S → Nat × List (Nat × jV) × jW}
    (H : ∀ en : S ⊕ R → Option (Outcome × jW), (∀ q, en (.inr q) = en0 q) → (∀ s, jJ x nL (P s).1 (P s).2.1 [] (P s).2.2 (some (.inl s : S ⊕ R)) en) → ∀ s, jJ x nL (P s).1 (P s).2.1 [] (P s).2.2 (step s) en) (s : S) :
    jJ x nL (P s).1 (P s).2.1 [] (P s).2.2 (jfx step s) en0 := by
  refine jJ_iff.mpr fun r hr => ?_
  obtain ⟨q, hq, h2⟩ := Option.bind_eq_some_iff.mp hr
  obtain ⟨n, hn⟩ := jfx_iff.mp hq
  exact jJ_iff.mp (j_loopA H n s) r (by rw [hn]; exact h2)
/-- a method with loops, from its beginning -/
theorem j_begin {S R : Type} {step : S → Option (S ⊕ R)} {en0 : R → Option (Outcome × jW)} {P : S → Nat × List (Nat × jV) × jW} {e : Option (S ⊕ R)}
    (H : ∀ en : S ⊕ R → Option (Outcome × jW), (∀ q, en (.inr q) = en0 q) → (∀ s, jJ x nL (P s).1 (P s).2.1 [] (P s).2.2 (some (.inl s : S ⊕ R)) en) → (∀ s, jJ x nL (P s).1 (P s).2.1 [] (P s).2.2 (step s) en) ∧ jJ x nL pc lv st w e en) :
    jJ x nL pc lv st w (jrn step e) en0 := by
  have hl := j_loop (fun en h1 h2 => (H en h1 h2).1) (x := x) (nL := nL) (P := P) (step := step) (en0 := en0)
  refine j_eq (mm' := e) (en' := Sum.elim (fun s => (jfx step s).bind en0) en0) ?_ (H _ (fun q => rfl) (fun s => j_eq (mm' := jfx step s) (en' := en0) rfl (hl s))).2
  unfold jrn
  cases e with
  | none => rfl
  | some q => cases q <;> rfl
theorem j_let {β : Type} {v : β} {k : β → Option α} {lv : β → List (Nat × jV)} {st : β → List jV} (h : ∀ v, jJ x nL pc (lv v) (st v) w (k v) en) : jJ x nL pc (lv v) (st v) w (jlt v k) en := h v
/-- keys in order, then the rest -/
def jsw {β : Type} (v : Int32) : List (Int32 × β) → β → β
  | [], d => d
  | q :: l, d => if v = q.1 then q.2 else jsw v l d
theorem j_tot {c : Prop} [Decidable c] {a b : α} (h : jJ x nL pc lv st w (if c then some a else some b) en) : jJ x nL pc lv st w (some (if c then a else b)) en := by
  by_cases hc : c
  · rw [if_pos hc] at h ⊢; exact h
  · rw [if_neg hc] at h ⊢; exact h
/-! calls, by the callee's kind -/
variable {stk : List jV}
theorem j_T0 {o : Outcome} (h : jCall x nL pc lv stk st w (some (o, w))) (k : ∀ r, mm.bind en = some r → jAf x nL pc lv st (o, w) r) : jJ x nL pc lv stk w mm en :=
  jJ_iff.mpr fun r hr => h _ r rfl (k r hr)
theorem j_TI {v : Int32} (h : jCall x nL pc lv stk st w (some (.returned (some (.int v)), w))) (k : jJ x nL (pc + 3) lv (vI v :: st) w mm en) : jJ x nL pc lv stk w mm en :=
  j_T0 h fun r hr => ⟨vI v, rfl, jJ_iff.mp k r hr⟩
theorem j_TL {v : Int64} (h : jCall x nL pc lv stk st w (some (.returned (some (.long v)), w))) (k : jJ x nL (pc + 3) lv (vL v :: st) w mm en) : jJ x nL pc lv stk w mm en :=
  j_T0 h fun r hr => ⟨vL v, rfl, jJ_iff.mp k r hr⟩
theorem j_R0 {β : Type} {f : Option β} {g : β → Outcome × jW} {rest : β → Option α} (h : jCall x nL pc lv stk st w (f.bind fun q => some (g q))) (k : ∀ q, f = some q → ∀ r, (rest q).bind en = some r → jAf x nL pc lv st (g q) r) : jJ x nL pc lv stk w (f.bind rest) en := by
  refine jJ_iff.mpr fun r hr => ?_
  cases e : f with
  | none => rw [e] at hr; cases hr
  | some q =>
    rw [e] at hr h
    exact h _ r rfl (k q e r hr)
theorem j_OI {f : Option Int32} {rest : Int32 → Option α} (h : jCall x nL pc lv stk st w (f.bind fun q => some (.returned (some (.int q)), w))) (k : ∀ q, f = some q → jJ x nL (pc + 3) lv (vI q :: st) w (rest q) en) : jJ x nL pc lv stk w (f.bind rest) en :=
  j_R0 (g := fun q => (.returned (some (.int q)), w)) h fun q hq r hr => ⟨vI q, rfl, jJ_iff.mp (k q hq) r hr⟩
theorem j_OL {f : Option Int64} {rest : Int64 → Option α} (h : jCall x nL pc lv stk st w (f.bind fun q => some (.returned (some (.long q)), w))) (k : ∀ q, f = some q → jJ x nL (pc + 3) lv (vL q :: st) w (rest q) en) : jJ x nL pc lv stk w (f.bind rest) en :=
  j_R0 (g := fun q => (.returned (some (.long q)), w)) h fun q hq r hr => ⟨vL q, rfl, jJ_iff.mp (k q hq) r hr⟩
theorem j_OR {f : Option Nat} {rest : Nat → Option α} (h : jCall x nL pc lv stk st w (f.bind fun q => some (.returned (some (jrv q)), w))) (k : ∀ q, f = some q → jJ x nL (pc + 3) lv (vR q :: st) w (rest q) en) : jJ x nL pc lv stk w (f.bind rest) en :=
  j_R0 (g := fun q => (.returned (some (jrv q)), w)) h fun q hq r hr => ⟨vR q, rfl, jJ_iff.mp (k q hq) r hr⟩
theorem j_WV {f : Option jW} {rest : jW → Option α} (h : jCall x nL pc lv stk st w (f.bind fun q => some (.returned none, q))) (k : ∀ q, f = some q → jJ x nL (pc + 3) lv st q (rest q) en) : jJ x nL pc lv stk w (f.bind rest) en :=
  j_R0 (g := fun q => (.returned none, q)) h fun q hq r hr => jJ_iff.mp (k q hq) r hr
theorem j_WI {f : Option (Int32 × jW)} {rest : Int32 × jW → Option α} (h : jCall x nL pc lv stk st w (f.bind fun q => some (.returned (some (.int q.1)), q.2))) (k : ∀ q, f = some q → jJ x nL (pc + 3) lv (vI q.1 :: st) q.2 (rest q) en) : jJ x nL pc lv stk w (f.bind rest) en :=
  j_R0 (g := fun q => (.returned (some (.int q.1)), q.2)) h fun q hq r hr => ⟨vI q.1, rfl, jJ_iff.mp (k q hq) r hr⟩
theorem j_WL {f : Option (Int64 × jW)} {rest : Int64 × jW → Option α} (h : jCall x nL pc lv stk st w (f.bind fun q => some (.returned (some (.long q.1)), q.2))) (k : ∀ q, f = some q → jJ x nL (pc + 3) lv (vL q.1 :: st) q.2 (rest q) en) : jJ x nL pc lv stk w (f.bind rest) en :=
  j_R0 (g := fun q => (.returned (some (.long q.1)), q.2)) h fun q hq r hr => ⟨vL q.1, rfl, jJ_iff.mp (k q hq) r hr⟩
theorem j_WR {f : Option (Nat × jW)} {rest : Nat × jW → Option α} (h : jCall x nL pc lv stk st w (f.bind fun q => some (.returned (some (jrv q.1)), q.2))) (k : ∀ q, f = some q → jJ x nL (pc + 3) lv (vR q.1 :: st) q.2 (rest q) en) : jJ x nL pc lv stk w (f.bind rest) en :=
  j_R0 (g := fun q => (.returned (some (jrv q.1)), q.2)) h fun q hq r hr => ⟨vR q.1, rfl, jJ_iff.mp (k q hq) r hr⟩
/-- an exception goes on to the caller -/
theorem j_up {nm : String} {ret : Option FieldType} {hh : List (Nat × Nat × Nat × Nat)} (hm : jMt x nm ret hh) (hno : ∀ h ∈ hh, ¬ (h.1 ≤ pc ∧ pc < h.2.1)) (hlk : jOK x own cc nL) {a : Nat} : jX1 x nL pc lv w a (.threw a, w) := by
  obtain ⟨p, l, e, R, s, m, args, below, meth, c, D, ac, H0⟩ := x
  obtain ⟨-, hr, hhh⟩ := hm
  obtain ⟨-, -, -, hlocks, -⟩ := hlk
  intro ls hl T locs cells slots X hG st
  obtain ⟨hRel, hlo, hce, hsl⟩ := hG
  obtain ⟨h1, h2, h3, h4, h5⟩ := X.leaveThrown a (g := F0 m pc ls st) rfl rfl rfl (fun z hz => by
    have := hno (z.startPc, z.endPc, z.handlerPc, z.catchType) (by rw [← hhh]; exact List.mem_map.mpr ⟨z, hz, rfl⟩)
    unfold covers
    simp only [Bool.and_eq_false_iff, decide_eq_false_iff_not]
    rcases Decidable.not_and_iff_or_not.mp this with h | h
    · exact Or.inl h
    · exact Or.inr h) hlocks
  exact ⟨_, ⟨h2, h3, h4, locs, cells, slots, h5, hlo, hRel, hce, hsl⟩, h1⟩
theorem j_E0 {β : Type} {f : Option ((Nat × jW) ⊕ β)} {g : β → Outcome × jW} {rest : (Nat × jW) ⊕ β → Option α} (h : jCall x nL pc lv stk st w (f.bind fun q => some (Sum.elim (fun z => (.threw (z.1 - 1), z.2)) g q))) (k1 : ∀ z, f = some (.inl z) → ∀ r, (rest (.inl z)).bind en = some r → jX1 x nL pc lv z.2 (z.1 - 1) r) (k2 : ∀ q, f = some (.inr q) → ∀ r, (rest (.inr q)).bind en = some r → jAf x nL pc lv st (g q) r) : jJ x nL pc lv stk w (f.bind rest) en := by
  refine jJ_iff.mpr fun r hr => ?_
  cases e : f with
  | none => rw [e] at hr; cases hr
  | some q =>
    rw [e] at hr h
    cases q with
    | inl z => exact h _ r rfl (k1 z e r hr)
    | inr q => exact h _ r rfl (k2 q e r hr)
theorem j_EV {f : Option ((Nat × jW) ⊕ jW)} {g : Nat × jW → Option α} {rest : jW → Option α} (h : jCall x nL pc lv stk st w (f.bind fun q => some (Sum.elim (fun z => (.threw (z.1 - 1), z.2)) (fun q => (.returned none, q)) q))) (k1 : ∀ z, f = some (.inl z) → ∀ r, (g z).bind en = some r → jX1 x nL pc lv z.2 (z.1 - 1) r) (k : ∀ q, f = some (.inr q) → jJ x nL (pc + 3) lv st q (rest q) en) : jJ x nL pc lv stk w (f.bind (Sum.elim g rest)) en :=
  j_E0 (g := fun q => (.returned none, q)) h k1 fun q hq r hr => jJ_iff.mp (k q hq) r hr
theorem j_EI {f : Option ((Nat × jW) ⊕ Int32 × jW)} {g : Nat × jW → Option α} {rest : Int32 × jW → Option α} (h : jCall x nL pc lv stk st w (f.bind fun q => some (Sum.elim (fun z => (.threw (z.1 - 1), z.2)) (fun q => (.returned (some (.int q.1)), q.2)) q))) (k1 : ∀ z, f = some (.inl z) → ∀ r, (g z).bind en = some r → jX1 x nL pc lv z.2 (z.1 - 1) r) (k : ∀ q, f = some (.inr q) → jJ x nL (pc + 3) lv (vI q.1 :: st) q.2 (rest q) en) : jJ x nL pc lv stk w (f.bind (Sum.elim g rest)) en :=
  j_E0 (g := fun q => (.returned (some (.int q.1)), q.2)) h k1 fun q hq r hr => ⟨vI q.1, rfl, jJ_iff.mp (k q hq) r hr⟩
theorem j_EL {f : Option ((Nat × jW) ⊕ Int64 × jW)} {g : Nat × jW → Option α} {rest : Int64 × jW → Option α} (h : jCall x nL pc lv stk st w (f.bind fun q => some (Sum.elim (fun z => (.threw (z.1 - 1), z.2)) (fun q => (.returned (some (.long q.1)), q.2)) q))) (k1 : ∀ z, f = some (.inl z) → ∀ r, (g z).bind en = some r → jX1 x nL pc lv z.2 (z.1 - 1) r) (k : ∀ q, f = some (.inr q) → jJ x nL (pc + 3) lv (vL q.1 :: st) q.2 (rest q) en) : jJ x nL pc lv stk w (f.bind (Sum.elim g rest)) en :=
  j_E0 (g := fun q => (.returned (some (.long q.1)), q.2)) h k1 fun q hq r hr => ⟨vL q.1, rfl, jJ_iff.mp (k q hq) r hr⟩
end JLP
