/-! ===== values of the pure world, runs of plain instructions ===== -/
abbrev jV : Type := Int32 ⊕ Int64 ⊕ Nat
abbrev vI (x : Int32) : jV := .inl x
abbrev vL (x : Int64) : jV := .inr (.inl x)
abbrev vR (a : Nat) : jV := .inr (.inr a)
/-- references: 0 is null, a + 1 the cell a -/
def jrv (a : Nat) : Value := if a = 0 then .null else .ref (a - 1)
def jpv (v : jV) : Value := match v with
  | .inl x => .int x
  | .inr (.inl x) => .long x
  | .inr (.inr a) => jrv a
def jwd (v : jV) : Nat := match v with
  | .inl _ => 1
  | .inr (.inl _) => 2
  | .inr (.inr _) => 1
theorem jrv_cat (a : Nat) : (jrv a).category = 1 := by unfold jrv; split <;> rfl
theorem jpv_cat (v : jV) : (jpv v).category = jwd v := by
  rcases v with x | x | a
  · rfl
  · rfl
  · exact jrv_cat a
theorem jrv_ne {a : Nat} (h : a ≠ 0) : jrv a = .ref (a - 1) := if_neg h
def jmv (l : List (Nat × jV)) : List (Nat × Value) := l.map fun q => (q.1, jpv q.2)
/-- a local by its number -/
def jlk : List (Nat × jV) → Nat → Option jV
  | [], _ => none
  | q :: l, i => match Nat.beq q.1 i with
    | true => some q.2
    | false => jlk l i
theorem jlk_mem : ∀ {l : List (Nat × jV)} {i : Nat} {v : jV}, jlk l i = some v → (i, v) ∈ l
  | [], _, _, h => by cases h
  | q :: l, i, v, h => by
    unfold jlk at h
    split at h
    · rename_i e
      have e := Nat.eq_of_beq_eq_true e
      cases h
      subst e
      exact List.mem_cons_self
    · exact List.mem_cons_of_mem _ (jlk_mem h)
theorem jlk_at {ls : Array Slot} {nL : Nat} {lv : List (Nat × jV)} (h : lv_has ls nL (jmv lv)) {i : Nat} {v : jV} (hi : jlk lv i = some v) : ls[i]? = some (.val (jpv v)) :=
  h.2.2 (i, jpv v) (List.mem_map.mpr ⟨(i, v), jlk_mem hi, rfl⟩)
/-- what remains listed when a word is stored at i -/
def jd1 : List (Nat × jV) → Nat → List (Nat × jV)
  | [], _ => []
  | q :: l, i => match Nat.beq q.1 i with
    | true => jd1 l i
    | false => match Nat.beq (q.1 + 1) i && Nat.beq (jwd q.2) 2 with
      | true => jd1 l i
      | false => q :: jd1 l i
def jd2 (l : List (Nat × jV)) (i : Nat) : List (Nat × jV) := (jd1 l i).filter fun q => !(Nat.beq q.1 (i + 1))
theorem jd1_sub : ∀ (l : List (Nat × jV)) (i : Nat) (q : Nat × jV), q ∈ jd1 l i → q ∈ l ∧ ¬ q.1 = i ∧ ¬ (q.1 + 1 = i ∧ jwd q.2 = 2)
  | [], _, _, h => by cases h
  | a :: l, i, q, h => by
    unfold jd1 at h
    split at h
    · have := jd1_sub l i q h
      exact ⟨List.mem_cons_of_mem _ this.1, this.2⟩
    · rename_i e
      split at h
      · have := jd1_sub l i q h
        exact ⟨List.mem_cons_of_mem _ this.1, this.2⟩
      · rename_i e2
        rcases List.mem_cons.mp h with rfl | h
        · refine ⟨List.mem_cons_self, fun z => ?_, fun z => ?_⟩
          · rw [z] at e
            simp at e
          · rw [z.1, z.2] at e2
            simp at e2
        · have := jd1_sub l i q h
          exact ⟨List.mem_cons_of_mem _ this.1, this.2⟩
theorem jst1 {ls : Array Slot} {nL : Nat} {lv : List (Nat × jV)} {i : Nat} {v : jV} (h : lv_has ls nL ((i, jpv v) :: (jmv lv).filter (fun q => !(q.1 == i) && !(q.1 + 1 == i && q.2.category == 2)))) : lv_has ls nL (jmv ((i, v) :: jd1 lv i)) := by
  refine ⟨h.1, h.2.1, fun q hq => h.2.2 q ?_⟩
  rcases List.mem_cons.mp hq with rfl | hq
  · exact List.mem_cons_self
  · refine List.mem_cons_of_mem _ ?_
    obtain ⟨q0, h0, rfl⟩ := List.mem_map.mp hq
    obtain ⟨h1, h2, h3⟩ := jd1_sub lv i q0 h0
    refine List.mem_filter.mpr ⟨List.mem_map.mpr ⟨q0, h1, rfl⟩, ?_⟩
    rw [← jpv_cat] at h3
    simp [h2]
    exact Decidable.not_and_iff_or_not.mp h3
theorem jst2 {ls : Array Slot} {nL : Nat} {lv : List (Nat × jV)} {i : Nat} {v : jV} (h : lv_has ls nL ((i, jpv v) :: (jmv lv).filter (fun q => !(q.1 == i) && (!(q.1 == i + 1) && !(q.1 + 1 == i && q.2.category == 2))))) : lv_has ls nL (jmv ((i, v) :: jd2 lv i)) := by
  refine ⟨h.1, h.2.1, fun q hq => h.2.2 q ?_⟩
  rcases List.mem_cons.mp hq with rfl | hq
  · exact List.mem_cons_self
  · refine List.mem_cons_of_mem _ ?_
    obtain ⟨q0, h0, rfl⟩ := List.mem_map.mp hq
    obtain ⟨h0, h4⟩ := List.mem_filter.mp h0
    obtain ⟨h1, h2, h3⟩ := jd1_sub lv i q0 h0
    refine List.mem_filter.mpr ⟨List.mem_map.mpr ⟨q0, h1, rfl⟩, ?_⟩
    rw [← jpv_cat] at h3
    have h4 : ¬ q0.1 = i + 1 := fun z => by rw [z] at h4; simp at h4
    simp [h2, h4]
    exact Decidable.not_and_iff_or_not.mp h3
/-! numbers as the instructions make them -/
def kI (n : Int) : Int32 := Int32.ofInt n
def kJ (n : Int) : Int64 := Int64.ofInt n
def jby (n : Int) : Bool := match n with
  | .ofNat k => Nat.blt k 128
  | .negSucc k => Nat.blt k 128
def jsr (n : Int) : Bool := match n with
  | .ofNat k => Nat.blt k 32768
  | .negSucc k => Nat.blt k 32768
theorem jby_ok {n : Int} (h : jby n = true) : (Int8.ofInt n).toInt32 = kI n := by
  have h1 : -128 ≤ n ∧ n < 128 := by
    unfold jby at h
    split at h <;> (have := Nat.le_of_ble_eq_true h; (try simp only [Int.ofNat_eq_natCast]); omega)
  apply Int32.toInt_inj.mp
  unfold kI
  rw [Int8.toInt_toInt32, Int8.toInt_ofInt_of_le (by omega) (by omega), Int32.toInt_ofInt_of_le (by omega) (by omega)]
theorem jsr_ok {n : Int} (h : jsr n = true) : (Int16.ofInt n).toInt32 = kI n := by
  have h1 : -32768 ≤ n ∧ n < 32768 := by
    unfold jsr at h
    split at h <;> (have := Nat.le_of_ble_eq_true h; (try simp only [Int.ofNat_eq_natCast]); omega)
  apply Int32.toInt_inj.mp
  unfold kI
  rw [Int16.toInt_toInt32, Int16.toInt_ofInt_of_le (by omega) (by omega), Int32.toInt_ofInt_of_le (by omega) (by omega)]
theorem kJ_nat (n : Nat) : Int64.ofNat n = kJ n := by
  unfold kJ
  exact (Int64.ofInt_eq_ofNat).symm
def ixl (x y : Int32) : Int32 := x <<< (y &&& 31)
def ixr (x y : Int32) : Int32 := x >>> (y &&& 31)
def ixu (x y : Int32) : Int32 := (x.toUInt32 >>> (y.toUInt32 &&& Int32.toUInt32 31)).toInt32
def lxl (x : Int64) (y : Int32) : Int64 := x <<< (y.toInt64 &&& 63)
def lxr (x : Int64) (y : Int32) : Int64 := x >>> (y.toInt64 &&& 63)
def lxu (x : Int64) (y : Int32) : Int64 := (x.toUInt64 >>> (y.toInt64.toUInt64 &&& Int64.toUInt64 63)).toInt64
def i2b (x : Int32) : Int32 := x.toInt8.toInt32
def irm (x y : Int32) : Int32 := x - x / y * y
def lrm (x y : Int64) : Int64 := x - x / y * y
/-- how long an instruction is -/
def jln : Instr → Nat
  | .aload _ | .astore _ | .bipush _ | .iload _ | .istore _ | .ldc _ | .lload _ | .lstore _ | .newarray _ => 2
  | .anewarray _ | .checkcast _ | .getfield _ | .getstatic _ | .goto _ | .if_acmp _ _ | .if_icmp _ _ | .ifCond _ _ | .ifnonnull _ | .ifnull _ | .iinc _ _ | .instanceof _ | .invokespecial _ | .invokestatic _ | .invokevirtual _ | .ldc_w _ | .ldc2_w _ | .new _ | .putfield _ | .putstatic _ | .sipush _ => 3
  | _ => 1
/-- one plain instruction: locals and operand stack behind it -/
def jev (nL : Nat) (ins : Instr) (lv : List (Nat × jV)) (st : List jV) : Option (List (Nat × jV) × List jV) := match ins with
  | .iconst n => some (lv, vI (kI n) :: st)
  | .bipush n => match jby n with | true => some (lv, vI (kI n) :: st) | false => none
  | .sipush n => match jsr n with | true => some (lv, vI (kI n) :: st) | false => none
  | .lconst n => some (lv, vL (kJ n) :: st)
  | .aconst_null => some (lv, vR 0 :: st)
  | .iload_n k => match jlk lv k with | some (.inl x) => some (lv, vI x :: st) | _ => none
  | .iload k => match jlk lv k with | some (.inl x) => some (lv, vI x :: st) | _ => none
  | .lload_n k => match jlk lv k with | some (.inr (.inl x)) => some (lv, vL x :: st) | _ => none
  | .lload k => match jlk lv k with | some (.inr (.inl x)) => some (lv, vL x :: st) | _ => none
  | .aload_n k => match jlk lv k with | some (.inr (.inr x)) => some (lv, vR x :: st) | _ => none
  | .aload k => match jlk lv k with | some (.inr (.inr x)) => some (lv, vR x :: st) | _ => none
  | .istore_n k => match Nat.blt k nL, st with | true, .inl x :: st => some ((k.val, vI x) :: jd1 lv k, st) | _, _ => none
  | .istore k => match Nat.blt k nL, st with | true, .inl x :: st => some ((k, vI x) :: jd1 lv k, st) | _, _ => none
  | .lstore_n k => match Nat.blt (k.val + 1) nL, st with | true, .inr (.inl x) :: st => some ((k.val, vL x) :: jd2 lv k, st) | _, _ => none
  | .lstore k => match Nat.blt (k + 1) nL, st with | true, .inr (.inl x) :: st => some ((k, vL x) :: jd2 lv k, st) | _, _ => none
  | .astore_n k => match Nat.blt k nL, st with | true, .inr (.inr x) :: st => some ((k.val, vR x) :: jd1 lv k, st) | _, _ => none
  | .astore k => match Nat.blt k nL, st with | true, .inr (.inr x) :: st => some ((k, vR x) :: jd1 lv k, st) | _, _ => none
  | .iinc k n => match Nat.blt k nL, jlk lv k with | true, some (.inl x) => some ((k, vI (x + kI n)) :: jd1 lv k, st) | _, _ => none
  | .iadd => match st with | .inl y :: .inl x :: st => some (lv, vI (x + y) :: st) | _ => none
  | .isub => match st with | .inl y :: .inl x :: st => some (lv, vI (x - y) :: st) | _ => none
  | .imul => match st with | .inl y :: .inl x :: st => some (lv, vI (x * y) :: st) | _ => none
  | .iand => match st with | .inl y :: .inl x :: st => some (lv, vI (x &&& y) :: st) | _ => none
  | .ior => match st with | .inl y :: .inl x :: st => some (lv, vI (x ||| y) :: st) | _ => none
  | .ixor => match st with | .inl y :: .inl x :: st => some (lv, vI (x ^^^ y) :: st) | _ => none
  | .ishl => match st with | .inl y :: .inl x :: st => some (lv, vI (ixl x y) :: st) | _ => none
  | .ishr => match st with | .inl y :: .inl x :: st => some (lv, vI (ixr x y) :: st) | _ => none
  | .iushr => match st with | .inl y :: .inl x :: st => some (lv, vI (ixu x y) :: st) | _ => none
  | .ineg => match st with | .inl x :: st => some (lv, vI (-x) :: st) | _ => none
  | .i2l => match st with | .inl x :: st => some (lv, vL x.toInt64 :: st) | _ => none
  | .i2b => match st with | .inl x :: st => some (lv, vI (i2b x) :: st) | _ => none
  | .l2i => match st with | .inr (.inl x) :: st => some (lv, vI x.toInt32 :: st) | _ => none
  | .lneg => match st with | .inr (.inl x) :: st => some (lv, vL (-x) :: st) | _ => none
  | .ladd => match st with | .inr (.inl y) :: .inr (.inl x) :: st => some (lv, vL (x + y) :: st) | _ => none
  | .lsub => match st with | .inr (.inl y) :: .inr (.inl x) :: st => some (lv, vL (x - y) :: st) | _ => none
  | .lmul => match st with | .inr (.inl y) :: .inr (.inl x) :: st => some (lv, vL (x * y) :: st) | _ => none
  | .land => match st with | .inr (.inl y) :: .inr (.inl x) :: st => some (lv, vL (x &&& y) :: st) | _ => none
  | .lor => match st with | .inr (.inl y) :: .inr (.inl x) :: st => some (lv, vL (x ||| y) :: st) | _ => none
  | .lxor => match st with | .inr (.inl y) :: .inr (.inl x) :: st => some (lv, vL (x ^^^ y) :: st) | _ => none
  | .lshl => match st with | .inl y :: .inr (.inl x) :: st => some (lv, vL (lxl x y) :: st) | _ => none
  | .lshr => match st with | .inl y :: .inr (.inl x) :: st => some (lv, vL (lxr x y) :: st) | _ => none
  | .lushr => match st with | .inl y :: .inr (.inl x) :: st => some (lv, vL (lxu x y) :: st) | _ => none
  | .dup => match st with | .inl x :: st => some (lv, .inl x :: .inl x :: st) | .inr (.inr x) :: st => some (lv, .inr (.inr x) :: .inr (.inr x) :: st) | _ => none
  | .pop => match st with | .inl _ :: st => some (lv, st) | .inr (.inr _) :: st => some (lv, st) | _ => none
  | .dup2 => match st with | .inl x :: .inr (.inr y) :: st => some (lv, .inl x :: .inr (.inr y) :: .inl x :: .inr (.inr y) :: st) | _ => none
  | .dup_x1 => match st with | .inl x :: .inr (.inr y) :: st => some (lv, .inl x :: .inr (.inr y) :: .inl x :: st) | .inr (.inr x) :: .inr (.inr y) :: st => some (lv, .inr (.inr x) :: .inr (.inr y) :: .inr (.inr x) :: st) | _ => none
  | _ => none

section JS
variable {p : Program} {l : Launch} {e : Env} {R : Room} {s : State} {m : MethodId} {args : Array Value} {below : List Frame} {meth : Method} {c : Code} {H : Heap} {locs : List Loc} {cells slots : Nat} {Q : State → Prop} {cc : ByteArray} {pc nL : Nat}
set_option maxHeartbeats 4000000 in
theorem jstep (hx : p.tables.exec = Jvm.exec) (hb : c.code = cc) {ins : Instr} {lv lv' : List (Nat × jV)} {st st' : List jV} (hd : decode cc pc = .ok (ins, jln ins)) (h : jev nL ins lv st = some (lv', st'))
    (k : ∀ ls, lv_has ls nL (jmv lv') → W p l e R s m args below meth c H locs cells slots Q (F0 m (pc + jln ins) ls (st'.map jpv))) :
    ∀ ls, lv_has ls nL (jmv lv) → W p l e R s m args below meth c H locs cells slots Q (F0 m pc ls (st.map jpv)) := by
  intro ls hl
  cases ins <;> simp only [jev] at h <;> (try (cases h; done))
  case iconst n => cases h; exact lv_iconst hx hb hd rfl (k ls hl)
  case bipush n => split at h <;> cases h; rename_i hn; exact lv_bipush hx hb hd (jby_ok hn) (k ls hl)
  case sipush n => split at h <;> cases h; rename_i hn; exact lv_sipush hx hb hd (jsr_ok hn) (k ls hl)
  case lconst n => cases h; exact lv_lconst hx hb hd (kJ_nat n) (k ls hl)
  case aconst_null => cases h; exact lv_null hx hb hd (k ls hl)
  case iload_n i => split at h <;> cases h; rename_i hi; exact lv_iload_n hx hb hd rfl (jlk_at hl hi) (k ls hl)
  case iload i => split at h <;> cases h; rename_i hi; exact lv_iload hx hb hd (jlk_at hl hi) (k ls hl)
  case lload_n i => split at h <;> cases h; rename_i hi; exact lv_lload_n hx hb hd rfl (jlk_at hl hi) (k ls hl)
  case lload i => split at h <;> cases h; rename_i hi; exact lv_lload hx hb hd (jlk_at hl hi) (k ls hl)
  case aload_n i =>
    split at h <;> cases h
    rename_i a hi
    have h1 := jlk_at hl hi
    have k1 := k ls hl
    simp only [List.map_cons, jpv] at k1 h1
    unfold jrv at h1 k1
    split at h1
    · rename_i z
      rw [if_pos z] at k1
      exact lv_aload_nN hx hb hd rfl h1 k1
    · rename_i z
      rw [if_neg z] at k1
      exact lv_aload_n hx hb hd rfl h1 k1
  case aload i =>
    split at h <;> cases h
    rename_i a hi
    have h1 := jlk_at hl hi
    have k1 := k ls hl
    simp only [List.map_cons, jpv] at k1 h1
    unfold jrv at h1 k1
    split at h1
    · rename_i z
      rw [if_pos z] at k1
      exact lv_aloadN hx hb hd h1 k1
    · rename_i z
      rw [if_neg z] at k1
      exact lv_aload hx hb hd h1 k1
  case istore_n i => split at h <;> cases h; rename_i hn; exact lv_istore_n hx hb hd rfl hl (Nat.le_of_ble_eq_true hn) rfl (fun ls' h' => k ls' (jst1 (v := vI _) h'))
  case istore i => split at h <;> cases h; rename_i hn; exact lv_istore hx hb hd hl (Nat.le_of_ble_eq_true hn) rfl (fun ls' h' => k ls' (jst1 (v := vI _) h'))
  case lstore_n i => split at h <;> cases h; rename_i hn; exact lv_lstore_n hx hb hd rfl hl (Nat.le_of_ble_eq_true hn) rfl (fun ls' h' => k ls' (jst2 (v := vL _) h'))
  case lstore i => split at h <;> cases h; rename_i hn; exact lv_lstore hx hb hd hl (Nat.le_of_ble_eq_true hn) rfl (fun ls' h' => k ls' (jst2 (v := vL _) h'))
  case astore_n i =>
    split at h <;> cases h
    rename_i a hn
    have hn : i.val < nL := Nat.le_of_ble_eq_true hn
    have k1 := fun ls' h' => k ls' (jst1 (v := vR a) h')
    simp only [List.map_cons, jpv] at k1 ⊢
    unfold jrv at k1 ⊢
    split
    · rename_i z
      exact lv_astore_nN hx hb hd rfl hl hn rfl (fun ls' h' => k1 ls' (by rw [if_pos z]; exact h'))
    · rename_i z
      exact lv_astore_n hx hb hd rfl hl hn rfl (fun ls' h' => k1 ls' (by rw [if_neg z]; exact h'))
  case astore i =>
    split at h <;> cases h
    rename_i a hn
    have hn : i < nL := Nat.le_of_ble_eq_true hn
    have k1 := fun ls' h' => k ls' (jst1 (v := vR a) h')
    simp only [List.map_cons, jpv] at k1 ⊢
    unfold jrv at k1 ⊢
    split
    · rename_i z
      exact lv_astoreN hx hb hd hl hn rfl (fun ls' h' => k1 ls' (by rw [if_pos z]; exact h'))
    · rename_i z
      exact lv_astore hx hb hd hl hn rfl (fun ls' h' => k1 ls' (by rw [if_neg z]; exact h'))
  case iinc i n =>
    split at h <;> cases h
    rename_i x hn hi
    have hn : i < nL := Nat.le_of_ble_eq_true hn
    obtain ⟨j, hj⟩ := List.getElem?_of_mem (List.mem_map.mpr ⟨(i, vI x), jlk_mem hi, rfl⟩ : (i, jpv (vI x)) ∈ jmv lv)
    exact lv_iinc hx hb hd hl hj rfl hn rfl (fun ls' h' => k ls' (jst1 (v := vI _) h'))
  case iadd => split at h <;> cases h; exact lv_iadd hx hb hd (k ls hl)
  case isub => split at h <;> cases h; exact lv_isub hx hb hd (k ls hl)
  case imul => split at h <;> cases h; exact lv_imul hx hb hd (k ls hl)
  case iand => split at h <;> cases h; exact lv_iand hx hb hd (k ls hl)
  case ior => split at h <;> cases h; exact lv_ior hx hb hd (k ls hl)
  case ixor => split at h <;> cases h; exact lv_ixor hx hb hd (k ls hl)
  case ishl => split at h <;> cases h; exact lv_ishl hx hb hd (k ls hl)
  case ishr => split at h <;> cases h; exact lv_ishr hx hb hd (k ls hl)
  case iushr => split at h <;> cases h; exact lv_iushr hx hb hd rfl (k ls hl)
  case ineg => split at h <;> cases h; exact lv_ineg hx hb hd (k ls hl)
  case i2l => split at h <;> cases h; exact lv_i2l hx hb hd rfl (k ls hl)
  case i2b => split at h <;> cases h; exact lv_i2b hx hb hd rfl (k ls hl)
  case l2i => split at h <;> cases h; exact lv_l2i hx hb hd rfl (k ls hl)
  case lneg => split at h <;> cases h; exact lv_lneg hx hb hd (k ls hl)
  case ladd => split at h <;> cases h; exact lv_ladd hx hb hd (k ls hl)
  case lsub => split at h <;> cases h; exact lv_lsub hx hb hd (k ls hl)
  case lmul => split at h <;> cases h; exact lv_lmul hx hb hd (k ls hl)
  case land => split at h <;> cases h; exact lv_land hx hb hd (k ls hl)
  case lor => split at h <;> cases h; exact lv_lor hx hb hd (k ls hl)
  case lxor => split at h <;> cases h; exact lv_lxor hx hb hd (k ls hl)
  case lshl => split at h <;> cases h; exact lv_lshl hx hb hd rfl (k ls hl)
  case lshr => split at h <;> cases h; exact lv_lshr hx hb hd rfl (k ls hl)
  case lushr => split at h <;> cases h; exact lv_lushr hx hb hd rfl (k ls hl)
  case dup =>
    split at h <;> cases h
    · exact lv_dup hx hb hd rfl (k ls hl)
    · exact lv_dup hx hb hd (jrv_cat _) (k ls hl)
  case pop =>
    split at h <;> cases h
    · exact lv_pop hx hb hd rfl (k ls hl)
    · exact lv_pop hx hb hd (jrv_cat _) (k ls hl)
  case dup2 => split at h <;> cases h; exact lv_dup2_11 hx hb hd rfl (jrv_cat _) (k ls hl)
  case dup_x1 =>
    split at h <;> cases h
    · exact lv_dup_x1 hx hb hd rfl (jrv_cat _) (k ls hl)
    · exact lv_dup_x1 hx hb hd (jrv_cat _) (jrv_cat _) (k ls hl)
end JS
