/-! WHAT THE TEXTS SAY: closed forms of both readings -/
set_option maxRecDepth 100000
/-- how far f holds without a break, of t -/
def runLen (f : Nat → Bool) : Nat → Nat
  | 0 => 0
  | t + 1 => if runLen f t = t ∧ f t = true then t + 1 else runLen f t
/-- a byte as it was typed -/
def ubyte (b : Int32) : Nat := (b &&& 255).toNatClampNeg
def isDig (c : Nat) : Bool := decide (48 ≤ c) && decide (c ≤ 57)
/-- the stone's ints fi (1 typed, 4 fault, 6 n) and its figures al are what its bytes say -/
def stoneOK (fi al bs : Nat → Int32) : Prop :=
  if runLen (fun j => isDig (ubyte (bs j))) (fi 1).toNatClampNeg = (fi 1).toNatClampNeg then
    fi 4 = -1 ∧ fi 6 = fi 1 ∧ ∀ q, q < 12 → al q = if q < (fi 1).toNatClampNeg then nI (ubyte (bs q) - 48) else 5
  else fi 4 = nI (runLen (fun j => isDig (ubyte (bs j))) (fi 1).toNatClampNeg) ∧ fi 6 = 0 ∧ ∀ q, q < 12 → al q = 5
/-- which sign may stand at a place of the roll -/
def rOk (c : Nat → Nat) (j : Nat) : Bool :=
  if j % 4 = 0 then c j == 112 || c j == 103 || c j == 111
  else if j % 4 = 1 then decide (97 ≤ c j) && decide (c j ≤ 108)
  else if j % 4 = 2 then c j == 100 || c j == 117
  else c j == 59
def sortIx (c : Nat) : Nat := if c = 112 then 0 else if c = 103 then 1 else 2
/-- the roll's ints fi (1 typed, 4 fault), the size of its list, its members mb (0 sort, 1 place, 2 upright) are what its bytes say -/
def rollOK (fi : Nat → Int32) (sz : Int32) (mb : Nat → Nat → Int32) (bs : Nat → Int32) : Prop :=
  if runLen (rOk (fun j => ubyte (bs j))) (fi 1).toNatClampNeg = (fi 1).toNatClampNeg ∧ ((fi 1).toNatClampNeg = 0 ∨ (fi 1).toNatClampNeg % 4 = 3) then
    fi 4 = -1 ∧ sz = nI (((fi 1).toNatClampNeg + 1) / 4) ∧ ∀ k, k < ((fi 1).toNatClampNeg + 1) / 4 → mb k 0 = nI (sortIx (ubyte (bs (4 * k)))) ∧ mb k 1 = nI (ubyte (bs (4 * k + 1)) - 97) ∧ mb k 2 = (if ubyte (bs (4 * k + 2)) = 117 then 1 else 0)
  else fi 4 = nI (runLen (rOk (fun j => ubyte (bs j))) (fi 1).toNatClampNeg) ∧ sz = 0
