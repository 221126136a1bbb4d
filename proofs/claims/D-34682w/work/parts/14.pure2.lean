/-! PURE 2: the class' numbers. N 0: the loans, N 1: the list's capacity, N (10 + j): the parts of loan j -/
def nOk (N : Nat → Nat) : Prop := N 0 ≤ 24 ∧ N 0 ≤ N 1 ∧ N 1 ≤ 100
theorem sh_06 {Γ : Gm} {ad : Nat → Nat → Nat} {N : Nat → Nat} {o : Nat → Int64} (h : N 1 ≠ 0) (z : Nat → Int32) : sh Γ ad N o 0 6 z = some (.inr (1, [.int (z 0), .ref (ad 0 7), .int (nI (N 0))])) := by
  simp only [sh, sh0]
  rw [if_neg h]
/-- how many parts of loan j are paid back -/
def cQ (Z : Nat → Nat → Nat → Int32) (j : Nat) : Nat := nz (Z 3 j 0)
def cLeft (Z : Nat → Nat → Nat → Int32) (N : Nat → Nat) (j : Nat) : Int32 := sm (Z 5 j) (cQ Z j) (N (10 + j))
def cInt (Z : Nat → Nat → Nat → Int32) (N : Nat → Nat) (j : Nat) : Int32 := ((cLeft Z N j).toInt64 * (Z 4 j 2).toInt64 / 120000).toInt32
def cFun (Z : Nat → Nat → Nat → Int32) (N : Nat → Nat) (j : Nat) : Int32 := (smL (fun k => (Z 5 j k).toInt64 * (Z 6 j k).toInt64) (cQ Z j) (N (10 + j)) / 120000).toInt32
def cOpt (Z : Nat → Nat → Nat → Int32) (N : Nat → Nat) (j : Nat) : Int32 := ((cLeft Z N j).toInt64 * (Z 4 j 3).toInt64 / 120000).toInt32
def cMar (Z : Nat → Nat → Nat → Int32) (N : Nat → Nat) (j : Nat) : Int32 := cInt Z N j - cFun Z N j - cOpt Z N j
/-- what is known of loan j -/
def cLo (Z : Nat → Nat → Nat → Int32) (N : Nat → Nat) (j : Nat) : Prop := Z 3 j 0 = nI (cQ Z j) ∧ cQ Z j ≤ N (10 + j) ∧ N (10 + j) ≤ 6 ∧ (Z 4 j 4 = 0 ∨ Z 4 j 4 = 1) ∧ (Z 4 j 0 = nI (nz (Z 4 j 0)) ∧ nz (Z 4 j 0) < 3) ∧ Z 4 j 1 = nI (nz (Z 4 j 1)) ∧ nz (Z 4 j 1) < 3
