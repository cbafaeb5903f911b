/-! ===== the pure world ===== -/
abbrev jW : Type := (Nat → Nat) × (Nat → Nat → Int32) × (Nat → Nat → Int64) × (Nat → Nat → Nat) × (Nat → Nat → Nat) × (Nat → Nat → Nat → Int32) × (Nat → Nat → Nat → Int64) × (Nat → Nat → Nat → Nat) × Nat × Nat × Nat
/-- class of the object at an address (0: none); fields: ints, longs, refs (0: null); lengths and contents of arrays; next address, cells left, slots left -/
def jC (W : jW) : Nat → Nat := W.1
def jI (W : jW) : Nat → Nat → Int32 := W.2.1
def jL (W : jW) : Nat → Nat → Int64 := W.2.2.1
def jR (W : jW) : Nat → Nat → Nat := W.2.2.2.1
def jN (W : jW) : Nat → Nat → Nat := W.2.2.2.2.1
def jA (W : jW) : Nat → Nat → Nat → Int32 := W.2.2.2.2.2.1
def jB (W : jW) : Nat → Nat → Nat → Int64 := W.2.2.2.2.2.2.1
def jE (W : jW) : Nat → Nat → Nat → Nat := W.2.2.2.2.2.2.2.1
def jX (W : jW) : Nat := W.2.2.2.2.2.2.2.2.1
def jF (W : jW) : Nat := W.2.2.2.2.2.2.2.2.2.1
def jS (W : jW) : Nat := W.2.2.2.2.2.2.2.2.2.2
def u1 {α : Type} (f : Nat → α) (a : Nat) (v : α) : Nat → α := fun x => if x = a then v else f x
def u2 {α : Type} (f : Nat → Nat → α) (a b : Nat) (v : α) : Nat → Nat → α := fun x y => if x = a ∧ y = b then v else f x y
def sC (W : jW) (o c : Nat) : jW := (u1 W.1 o c, W.2)
def sI (W : jW) (f o : Nat) (v : Int32) : jW := (W.1, u2 W.2.1 f o v, W.2.2)
def sL (W : jW) (f o : Nat) (v : Int64) : jW := (W.1, W.2.1, u2 W.2.2.1 f o v, W.2.2.2)
def sR (W : jW) (f o v : Nat) : jW := (W.1, W.2.1, W.2.2.1, u2 W.2.2.2.1 f o v, W.2.2.2.2)
def sN (W : jW) (f o v : Nat) : jW := (W.1, W.2.1, W.2.2.1, W.2.2.2.1, u2 W.2.2.2.2.1 f o v, W.2.2.2.2.2)
def sA (W : jW) (f o : Nat) (v : Nat → Int32) : jW := (W.1, W.2.1, W.2.2.1, W.2.2.2.1, W.2.2.2.2.1, u2 W.2.2.2.2.2.1 f o v, W.2.2.2.2.2.2)
def sB (W : jW) (f o : Nat) (v : Nat → Int64) : jW := (W.1, W.2.1, W.2.2.1, W.2.2.2.1, W.2.2.2.2.1, W.2.2.2.2.2.1, u2 W.2.2.2.2.2.2.1 f o v, W.2.2.2.2.2.2.2)
def sE (W : jW) (f o : Nat) (v : Nat → Nat) : jW := (W.1, W.2.1, W.2.2.1, W.2.2.2.1, W.2.2.2.2.1, W.2.2.2.2.2.1, W.2.2.2.2.2.2.1, u2 W.2.2.2.2.2.2.2.1 f o v, W.2.2.2.2.2.2.2.2)
/-- a cell of n slots is made -/
def sX (W : jW) (n : Nat) : jW := (W.1, W.2.1, W.2.2.1, W.2.2.2.1, W.2.2.2.2.1, W.2.2.2.2.2.1, W.2.2.2.2.2.2.1, W.2.2.2.2.2.2.2.1, jX W + 1, jF W - 1, jS W - n)
/-! what each reader sees behind each writer -/
theorem WS : (∀ W o c, jC (sC W o c) = u1 (jC W) o c) ∧ (∀ W o c, jI (sC W o c) = jI W) ∧ (∀ W o c, jL (sC W o c) = jL W) ∧ (∀ W o c, jR (sC W o c) = jR W) ∧ (∀ W o c, jN (sC W o c) = jN W) ∧ (∀ W o c, jA (sC W o c) = jA W) ∧ (∀ W o c, jB (sC W o c) = jB W) ∧ (∀ W o c, jE (sC W o c) = jE W) ∧ (∀ W o c, jX (sC W o c) = jX W) ∧ (∀ W o c, jF (sC W o c) = jF W) ∧ (∀ W o c, jS (sC W o c) = jS W)
  ∧ (∀ W f o v, jC (sI W f o v) = jC W) ∧ (∀ W f o v, jI (sI W f o v) = u2 (jI W) f o v) ∧ (∀ W f o v, jL (sI W f o v) = jL W) ∧ (∀ W f o v, jR (sI W f o v) = jR W) ∧ (∀ W f o v, jN (sI W f o v) = jN W) ∧ (∀ W f o v, jA (sI W f o v) = jA W) ∧ (∀ W f o v, jB (sI W f o v) = jB W) ∧ (∀ W f o v, jE (sI W f o v) = jE W) ∧ (∀ W f o v, jX (sI W f o v) = jX W) ∧ (∀ W f o v, jF (sI W f o v) = jF W) ∧ (∀ W f o v, jS (sI W f o v) = jS W)
  ∧ (∀ W f o v, jC (sL W f o v) = jC W) ∧ (∀ W f o v, jI (sL W f o v) = jI W) ∧ (∀ W f o v, jL (sL W f o v) = u2 (jL W) f o v) ∧ (∀ W f o v, jR (sL W f o v) = jR W) ∧ (∀ W f o v, jN (sL W f o v) = jN W) ∧ (∀ W f o v, jA (sL W f o v) = jA W) ∧ (∀ W f o v, jB (sL W f o v) = jB W) ∧ (∀ W f o v, jE (sL W f o v) = jE W) ∧ (∀ W f o v, jX (sL W f o v) = jX W) ∧ (∀ W f o v, jF (sL W f o v) = jF W) ∧ (∀ W f o v, jS (sL W f o v) = jS W)
  ∧ (∀ W f o v, jC (sR W f o v) = jC W) ∧ (∀ W f o v, jI (sR W f o v) = jI W) ∧ (∀ W f o v, jL (sR W f o v) = jL W) ∧ (∀ W f o v, jR (sR W f o v) = u2 (jR W) f o v) ∧ (∀ W f o v, jN (sR W f o v) = jN W) ∧ (∀ W f o v, jA (sR W f o v) = jA W) ∧ (∀ W f o v, jB (sR W f o v) = jB W) ∧ (∀ W f o v, jE (sR W f o v) = jE W) ∧ (∀ W f o v, jX (sR W f o v) = jX W) ∧ (∀ W f o v, jF (sR W f o v) = jF W) ∧ (∀ W f o v, jS (sR W f o v) = jS W)
  ∧ (∀ W f o v, jC (sN W f o v) = jC W) ∧ (∀ W f o v, jI (sN W f o v) = jI W) ∧ (∀ W f o v, jL (sN W f o v) = jL W) ∧ (∀ W f o v, jR (sN W f o v) = jR W) ∧ (∀ W f o v, jN (sN W f o v) = u2 (jN W) f o v) ∧ (∀ W f o v, jA (sN W f o v) = jA W) ∧ (∀ W f o v, jB (sN W f o v) = jB W) ∧ (∀ W f o v, jE (sN W f o v) = jE W) ∧ (∀ W f o v, jX (sN W f o v) = jX W) ∧ (∀ W f o v, jF (sN W f o v) = jF W) ∧ (∀ W f o v, jS (sN W f o v) = jS W)
  ∧ (∀ W f o v, jC (sA W f o v) = jC W) ∧ (∀ W f o v, jI (sA W f o v) = jI W) ∧ (∀ W f o v, jL (sA W f o v) = jL W) ∧ (∀ W f o v, jR (sA W f o v) = jR W) ∧ (∀ W f o v, jN (sA W f o v) = jN W) ∧ (∀ W f o v, jA (sA W f o v) = u2 (jA W) f o v) ∧ (∀ W f o v, jB (sA W f o v) = jB W) ∧ (∀ W f o v, jE (sA W f o v) = jE W) ∧ (∀ W f o v, jX (sA W f o v) = jX W) ∧ (∀ W f o v, jF (sA W f o v) = jF W) ∧ (∀ W f o v, jS (sA W f o v) = jS W)
  ∧ (∀ W f o v, jC (sB W f o v) = jC W) ∧ (∀ W f o v, jI (sB W f o v) = jI W) ∧ (∀ W f o v, jL (sB W f o v) = jL W) ∧ (∀ W f o v, jR (sB W f o v) = jR W) ∧ (∀ W f o v, jN (sB W f o v) = jN W) ∧ (∀ W f o v, jA (sB W f o v) = jA W) ∧ (∀ W f o v, jB (sB W f o v) = u2 (jB W) f o v) ∧ (∀ W f o v, jE (sB W f o v) = jE W) ∧ (∀ W f o v, jX (sB W f o v) = jX W) ∧ (∀ W f o v, jF (sB W f o v) = jF W) ∧ (∀ W f o v, jS (sB W f o v) = jS W)
  ∧ (∀ W f o v, jC (sE W f o v) = jC W) ∧ (∀ W f o v, jI (sE W f o v) = jI W) ∧ (∀ W f o v, jL (sE W f o v) = jL W) ∧ (∀ W f o v, jR (sE W f o v) = jR W) ∧ (∀ W f o v, jN (sE W f o v) = jN W) ∧ (∀ W f o v, jA (sE W f o v) = jA W) ∧ (∀ W f o v, jB (sE W f o v) = jB W) ∧ (∀ W f o v, jE (sE W f o v) = u2 (jE W) f o v) ∧ (∀ W f o v, jX (sE W f o v) = jX W) ∧ (∀ W f o v, jF (sE W f o v) = jF W) ∧ (∀ W f o v, jS (sE W f o v) = jS W)
  ∧ (∀ W n, jC (sX W n) = jC W) ∧ (∀ W n, jI (sX W n) = jI W) ∧ (∀ W n, jL (sX W n) = jL W) ∧ (∀ W n, jR (sX W n) = jR W) ∧ (∀ W n, jN (sX W n) = jN W) ∧ (∀ W n, jA (sX W n) = jA W) ∧ (∀ W n, jB (sX W n) = jB W) ∧ (∀ W n, jE (sX W n) = jE W) ∧ (∀ W n, jX (sX W n) = jX W + 1) ∧ (∀ W n, jF (sX W n) = jF W - 1) ∧ (∀ W n, jS (sX W n) = jS W - n) := by
  refine ⟨?_, ?_, ?_, ?_, ?_, ?_, ?_, ?_, ?_, ?_, ?_, ?_, ?_, ?_, ?_, ?_, ?_, ?_, ?_, ?_, ?_, ?_, ?_, ?_, ?_, ?_, ?_, ?_, ?_, ?_, ?_, ?_, ?_, ?_, ?_, ?_, ?_, ?_, ?_, ?_, ?_, ?_, ?_, ?_, ?_, ?_, ?_, ?_, ?_, ?_, ?_, ?_, ?_, ?_, ?_, ?_, ?_, ?_, ?_, ?_, ?_, ?_, ?_, ?_, ?_, ?_, ?_, ?_, ?_, ?_, ?_, ?_, ?_, ?_, ?_, ?_, ?_, ?_, ?_, ?_, ?_, ?_, ?_, ?_, ?_, ?_, ?_, ?_, ?_, ?_, ?_, ?_, ?_, ?_, ?_, ?_, ?_, ?_, ?_⟩ <;> intros <;> rfl
theorem u1_s {α : Type} (f : Nat → α) (a : Nat) (v : α) : u1 f a v a = v := if_pos rfl
theorem u1_n {α : Type} (f : Nat → α) {a b : Nat} (v : α) (h : b ≠ a) : u1 f a v b = f b := if_neg h
theorem u2_s {α : Type} (f : Nat → Nat → α) (a b : Nat) (v : α) : u2 f a b v a b = v := if_pos ⟨rfl, rfl⟩
theorem u2_f {α : Type} (f : Nat → Nat → α) {a b x y : Nat} (v : α) (h : x ≠ a) : u2 f a b v x y = f x y := if_neg fun q => h q.1
theorem u2_o {α : Type} (f : Nat → Nat → α) {a b x y : Nat} (v : α) (h : y ≠ b) : u2 f a b v x y = f x y := if_neg fun q => h q.2
theorem u2_n {α : Type} (f : Nat → Nat → α) {a b x y : Nat} (v : α) (h : ¬ (x = a ∧ y = b)) : u2 f a b v x y = f x y := if_neg h
