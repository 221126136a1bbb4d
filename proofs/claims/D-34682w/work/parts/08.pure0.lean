/-! PURE: sums, and the words of the contracts -/
def bI (h : Prop) [Decidable h] : Int32 := if h then 1 else 0
/-- the sum of f over a ≤ k < n -/
def sm (f : Nat → Int32) (a : Nat) : Nat → Int32 | 0 => 0 | k + 1 => if k < a then 0 else sm f a k + f k
def smL (f : Nat → Int64) (a : Nat) : Nat → Int64 | 0 => 0 | k + 1 => if k < a then 0 else smL f a k + f k
theorem sm_s {f : Nat → Int32} {a i : Nat} (h : a ≤ i) : sm f a i + f i = sm f a (i + 1) := (if_neg (Nat.not_lt.mpr h)).symm
theorem smL_s {f : Nat → Int64} {a i : Nat} (h : a ≤ i) : smL f a i + f i = smL f a (i + 1) := (if_neg (Nat.not_lt.mpr h)).symm
theorem sm_0 {f : Nat → Int32} : ∀ a : Nat, (0 : Int32) = sm f a a
  | 0 => rfl
  | a + 1 => (if_pos (Nat.lt_succ_self a)).symm
theorem smL_0 {f : Nat → Int64} : ∀ a : Nat, (0 : Int64) = smL f a a
  | 0 => rfl
  | a + 1 => (if_pos (Nat.lt_succ_self a)).symm
theorem ix6 (j i : Nat) : 6 * (nI j) + (nI i) = nI (6 * j + i) := by
  rw [show (6 : Int32) = nI 6 from rfl, pk_mul, nI_add]
theorem ix3 (j i : Nat) : 3 * (nI j) + (nI i) = nI (3 * j + i) := by
  rw [show (3 : Int32) = nI 3 from rfl, pk_mul, nI_add]
/-! the model's numbers -/
def mLeft (Z : Nat → Nat → Nat → Int32) (j : Nat) : Int32 := sm (fun k => Z 8 8 (6 * j + k)) 0 6
def mInt (Z : Nat → Nat → Nat → Int32) (j : Nat) : Int32 := ((mLeft Z j).toInt64 * (Z 8 4 j).toInt64 / 120000).toInt32
def mFund (Z : Nat → Nat → Nat → Int32) (j : Nat) : Int32 := (smL (fun k => (Z 8 8 (6 * j + k)).toInt64 * (Z 8 9 (6 * j + k)).toInt64) 0 6 / 120000).toInt32
def mOpt (Z : Nat → Nat → Nat → Int32) (j : Nat) : Int32 := if Z 8 6 j = 0 then 0 else ((mLeft Z j).toInt64 * (Z 8 5 j).toInt64 / 120000).toInt32
def mBear (Z : Nat → Nat → Nat → Int32) (j : Nat) (x : Int32) : Int32 := if x = 0 then mInt Z j else if x = 1 then mFund Z j else if x = 2 then mOpt Z j else mInt Z j - mFund Z j - mOpt Z j
def mCore (Z : Nat → Nat → Nat → Int32) : Int32 := (smL (fun b => (Z 8 10 b).toInt64) 0 3 * (Z 8 0 4).toInt64 / 100).toInt32
def mRs (Z : Nat → Nat → Nat → Int32) : Int64 := smL (fun t => (Z 8 11 t).toInt64 * (Z 8 12 t).toInt64) 0 6
def mRa (Z : Nat → Nat → Nat → Int32) : Int64 := smL (fun t => (Z 8 11 t).toInt64) 0 6
def mRep (Z : Nat → Nat → Nat → Int32) : Int32 := if mRa Z = 0 then 0 else (mRs Z / mRa Z).toInt32
def mOwn (Z : Nat → Nat → Nat → Int32) (b : Nat) : Int64 := (Z 8 10 b).toInt64 * (Z 8 0 4).toInt64 / 100
def mPaid (Z : Nat → Nat → Nat → Int32) (b : Nat) : Int32 := ((mOwn Z b * (mRep Z).toInt64 + ((Z 8 10 b).toInt64 - mOwn Z b) * (Z 8 1 1).toInt64) / 120000).toInt32
def mPays (Z : Nat → Nat → Nat → Int32) (b : Nat) : Int32 := ((Z 8 10 b).toInt64 * (Z 8 0 2).toInt64 / 120000).toInt32
def mLay (Z : Nat → Nat → Nat → Int32) (t : Nat) : Nat → Nat → Nat → Int32 := uz (uz Z 8 11 t (mCore Z / 6)) 8 12 t (Z 8 1 6)
/-- a loan's parts -/
def prt (a m : Int32) (n k : Nat) : Int32 := if k + 1 < n then a / m else a - a / m * (m - 1)
/-- lend's loop in the model: the loan is j -/
def mLend (Z : Nat → Nat → Nat → Int32) (a m : Int32) (n j : Nat) : Nat → Nat → Nat → Nat → Int32
  | 0 => Z
  | i + 1 => uz (uz (mLend Z a m n j i) 8 8 (6 * j + i) (prt a m n i)) 8 9 (6 * j + i) (Z 8 1 (i + 1))
/-- repay's loop -/
def mClr (Z : Nat → Nat → Nat → Int32) (j : Nat) : Nat → Nat → Nat → Nat → Int32
  | 0 => Z
  | i + 1 => uz (mClr Z j i) 8 8 (6 * j + i) 0
/-- deposit's loop -/
def mLays (Z : Nat → Nat → Nat → Int32) : Nat → Nat → Nat → Nat → Int32
  | 0 => Z
  | i + 1 => mLay (mLays Z i) i
def nz (x : Int32) : Nat := x.toNatClampNeg
/-- closeMonth's loop over the loans -/
def mMon (Z : Nat → Nat → Nat → Int32) (mo : Nat) : Nat → Nat → Nat → Nat → Int32
  | 0 => Z
  | i + 1 => uz (uz (mMon Z mo i) 8 13 (3 * mo + nz (Z 8 2 i)) (mMon Z mo i 8 13 (3 * mo + nz (Z 8 2 i)) + mBear Z i 3)) 8 14 (3 * mo + nz (Z 8 3 i)) (mMon Z mo i 8 14 (3 * mo + nz (Z 8 3 i)) + mBear Z i 3)
/-- closeMonth's loop over the branches -/
def mMob (Z : Nat → Nat → Nat → Int32) (mo : Nat) : Nat → Nat → Nat → Nat → Int32
  | 0 => Z
  | i + 1 => uz (mMob Z mo i) 8 13 (3 * mo + i) (mMob Z mo i 8 13 (3 * mo + i) + (mPaid Z i - mPays Z i))
/-- closeMonth's loop that takes the month's parts away -/
def mOut (Z : Nat → Nat → Nat → Int32) (mo : Nat) : Nat → Nat → Nat → Nat → Int32
  | 0 => Z
  | i + 1 => if mo - nz (Z 8 7 i) < 6 then uz (mOut Z mo i) 8 8 (6 * i + mo - nz (Z 8 7 i)) 0 else mOut Z mo i
/-- due's sum -/
def mDue (Z : Nat → Nat → Nat → Int32) (mo ah : Nat) (j : Nat) : Int32 := if mo + ah - nz (Z 8 7 j) < 6 then Z 8 8 (6 * j + (mo + ah - nz (Z 8 7 j))) else 0
theorem uz_o {Z : Nat → Nat → Nat → Int32} {g a k : Nat} {v : Int32} {x y : Nat} (h : ¬ (x = g ∧ y = a)) : uz Z g a k v x y = Z x y := fu_ne _ _ h
theorem mMon_o (Z : Nat → Nat → Nat → Int32) (mo : Nat) {x y : Nat} (h : ¬ (x = 8 ∧ (y = 13 ∨ y = 14))) : ∀ i, mMon Z mo i x y = Z x y
  | 0 => rfl
  | i + 1 => by
    rw [mMon, uz_o (fun q => h ⟨q.1, Or.inr q.2⟩), uz_o (fun q => h ⟨q.1, Or.inl q.2⟩)]
    exact mMon_o Z mo h i
theorem mMob_o (Z : Nat → Nat → Nat → Int32) (mo : Nat) {x y : Nat} (h : ¬ (x = 8 ∧ y = 13)) : ∀ i, mMob Z mo i x y = Z x y
  | 0 => rfl
  | i + 1 => by
    rw [mMob, uz_o h]
    exact mMob_o Z mo h i
theorem mOut_o (Z : Nat → Nat → Nat → Int32) (mo : Nat) {x y : Nat} (h : ¬ (x = 8 ∧ y = 8)) : ∀ i, mOut Z mo i x y = Z x y
  | 0 => rfl
  | i + 1 => by
    rw [mOut]
    split
    · rw [uz_o h]
      exact mOut_o Z mo h i
    · exact mOut_o Z mo h i
theorem mLend_o (Z : Nat → Nat → Nat → Int32) (a m : Int32) (n j : Nat) {x y : Nat} (h : ¬ (x = 8 ∧ (y = 8 ∨ y = 9))) : ∀ i, mLend Z a m n j i x y = Z x y
  | 0 => rfl
  | i + 1 => by
    rw [mLend, uz_o (fun q => h ⟨q.1, Or.inr q.2⟩), uz_o (fun q => h ⟨q.1, Or.inl q.2⟩)]
    exact mLend_o Z a m n j h i
theorem mClr_o (Z : Nat → Nat → Nat → Int32) (j : Nat) {x y : Nat} (h : ¬ (x = 8 ∧ y = 8)) : ∀ i, mClr Z j i x y = Z x y
  | 0 => rfl
  | i + 1 => by
    rw [mClr, uz_o h]
    exact mClr_o Z j h i
theorem mLays_o (Z : Nat → Nat → Nat → Int32) {x y : Nat} (h : ¬ (x = 8 ∧ (y = 11 ∨ y = 12))) : ∀ i, mLays Z i x y = Z x y
  | 0 => rfl
  | i + 1 => by
    rw [mLays, mLay, uz_o (fun q => h ⟨q.1, Or.inr q.2⟩), uz_o (fun q => h ⟨q.1, Or.inl q.2⟩)]
    exact mLays_o Z h i
/-- bear reads these alone -/
theorem mBear_c {Z Y : Nat → Nat → Nat → Int32} (h4 : Y 8 4 = Z 8 4) (h5 : Y 8 5 = Z 8 5) (h6 : Y 8 6 = Z 8 6) (h8 : Y 8 8 = Z 8 8) (h9 : Y 8 9 = Z 8 9) (j : Nat) (x : Int32) : mBear Y j x = mBear Z j x := by
  unfold mBear mInt mFund mOpt mLeft
  rw [h4, h5, h6, h8, h9]
theorem mPaid_c {Z Y : Nat → Nat → Nat → Int32} (h0 : Y 8 0 = Z 8 0) (h1 : Y 8 1 = Z 8 1) (h10 : Y 8 10 = Z 8 10) (h11 : Y 8 11 = Z 8 11) (h12 : Y 8 12 = Z 8 12) (b : Nat) : mPaid Y b = mPaid Z b := by
  unfold mPaid mOwn mRep mRs mRa
  rw [h0, h1, h10, h11, h12]
theorem mPays_c {Z Y : Nat → Nat → Nat → Int32} (h0 : Y 8 0 = Z 8 0) (h10 : Y 8 10 = Z 8 10) (b : Nat) : mPays Y b = mPays Z b := by
  unfold mPays
  rw [h0, h10]
theorem bI1 {h : Prop} {d : Decidable h} (q : h) : bI h = 1 := if_pos q
theorem bI0 {h : Prop} {d : Decidable h} (q : ¬ h) : bI h = 0 := if_neg q
theorem bI_t {h : Prop} {d : Decidable h} (q : ¬ bI h = 0) : h := Decidable.byContradiction fun z => q (if_neg z)
theorem bI_f {h : Prop} {d : Decidable h} (q : bI h = 0) : ¬ h := fun z => by rw [bI1 z] at q; exact absurd q (by decide)
theorem Met.val {l : Launch} {y : MethodName} {ws : List Cond} {rm : Room} {Pc : Array Value → State → Prop} {Γ : Gm} {v v' : Int32} {ad : Nat → Nat → Nat} {P : Pic} {mc ms : Nat} {fr : Addr → Prop} (h : Met l y ws rm Pc (gEi Γ v ad P) mc ms fr) (e : v = v') : Met l y ws rm Pc (gEi Γ v' ad P) mc ms fr := e ▸ h
section RE
variable {p : Program} {l : Launch} {e : Env} {R : Room} {s : State} {m : MethodId} {args : Array Value} {below : List Frame} {meth : Method} {c : Code} {H : Heap} {locs : List Loc} {cells slots : Nat} {Q : State → Prop}
theorem lv_re {x y : Int32} {pc : Nat} {ls : Array Slot} {rest : List Value} (h : x = y) (k : W p l e R s m args below meth c H locs cells slots Q (F0 m pc ls (.int y :: rest))) : W p l e R s m args below meth c H locs cells slots Q (F0 m pc ls (.int x :: rest)) := h ▸ k
end RE
theorem nzI {n : Nat} (h : n < 2 ^ 31) : nz (nI n) = n := nI_clamp h
