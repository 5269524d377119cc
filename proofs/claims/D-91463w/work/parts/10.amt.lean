/-! THE PURE MACHINE: a deterministic interpreter of the bytecode over a simple heap. ints, longs, references by cell and place; kinds; next cell; places made -/
set_option maxRecDepth 100000
abbrev Sg : Type := (Nat → Nat → Int32) × (Nat → Nat → Int64) × (Nat → Nat → Option Nat) × (Nat → Nat × Nat) × Nat × Nat
abbrev Lo : Type := List (Option Value)
abbrev Fr : Type := Nat × Lo × List Value × Sg
/-- an end: a value, or what was thrown (1 Fault, 2 Broken, 3 index, 4 cast) and its cell -/
abbrev Ou : Type := Option Value ⊕ (Nat × Nat)
/-- a step's outcome: the next frame; an end; a call of a method with its arguments, to go on at a place -/
abbrev Rs : Type := Fr ⊕ ((Ou × Sg) ⊕ (Nat × List Value × Nat × Lo × List Value × Sg))
/-- a method: its code by pieces of 32 bytes, its owner's number, how many locals, what it answers (0 nothing, 1 int, 2 boolean, 3 long, 4 float, 5 reference, 6 char, 7 byte), whether it is a constructor, its handlers, the locals that are dead at a place -/
abbrev Mi : Type := List (List (Nat × Instr × Nat)) × Nat × Nat × Nat × Bool × List (Nat × Nat × Nat × Nat) × List (Nat × List Bool)
def am_chk (cc : ByteArray) (q : Nat × Instr × Nat) : Bool := match decode cc q.1 with
  | .ok x => decide (x = q.2)
  | .error _ => false
