/-! PURE 1: places by naturals, the paths of the model's public methods -/
theorem inI {a b i : Nat} (h1 : a ≤ i) (h2 : i ≤ b) (hb : b < 2 ^ 31) : nI a ≤ nI i ∧ nI i ≤ nI b := ⟨nI_le h1 (by omega), nI_le h2 hb⟩
theorem inL {j n : Nat} {z : Int32} (h1 : j < n) (h2 : n < 2 ^ 31) (hz : z = nI n) : (0 : Int32) ≤ nI j ∧ nI j ≤ z - 1 := by
  rw [hz, show nI n - 1 = nI (n - 1) from pk_sub (b := 1) (by omega)]
  exact inI (a := 0) (Nat.zero_le _) (by omega) (by omega)
theorem lt_m1 {i k : Nat} (h0 : 1 ≤ k) (hk : k < 2 ^ 31) (hi : i < 2 ^ 31) : ¬ (nI k - 1 ≤ nI i) ↔ i + 1 < k := by
  rw [show nI k - 1 = nI (k - 1) from pk_sub (b := 1) h0, nI_leI (by omega) hi]
  omega
theorem uz_same {Z : Nat → Nat → Nat → Int32} {g a k : Nat} {v : Int32} : uz Z g a k v g a k = v := by
  unfold uz
  rw [fu_same]
  exact if_pos rfl
theorem ix6s {i mo b : Nat} (h : b ≤ mo) : 6 * (nI i) + (nI mo) - (nI b) = nI (6 * i + mo - b) := by
  rw [ix6, pk_sub (by omega)]
def sb (x : Int32) (f : Nat → Int32) : Nat → Int32 | 0 => x | i + 1 => sb x f i - f i
/-- lend's rows in the model, before its loop -/
def mLd (Z : Nat → Nat → Nat → Int32) (b p r h : Int32) (n : Nat) : Nat → Nat → Nat → Int32 := uz (uz (uz (uz (uz (uz (uz Z 8 0 0 0) 8 2 n b) 8 3 n p) 8 4 n r) 8 5 n (Z 8 0 3)) 8 6 n h) 8 7 n (Z 8 0 1)
theorem rem6 {a : Nat} (h : a < 2 ^ 31) : nI a - nI a / 6 * 6 = nI (a % 6) := by
  have e : (6 : Int32) = nI 6 := rfl
  rw [e]
  exact pk_rem h (by decide) (by decide)
