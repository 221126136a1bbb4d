/-! PURE 3: what the class' methods compute -/
theorem exI {j n : Nat} (h : j < n) (hn : n < 2 ^ 31) : (0 : Int32) ≤ nI j ∧ nI j < nI n := ⟨nI_pos' (by omega), nI_lt h hn⟩
def cCore (Z : Nat → Nat → Nat → Int32) : Int32 := ((sm (fun k => Z 7 k 0) 0 3).toInt64 * (Z 0 0 2).toInt64 / 100).toInt32
def cLay (Z : Nat → Nat → Nat → Int32) (t : Nat) : Nat → Nat → Nat → Int32 := uz (uz Z 0 2 t (cCore Z / 6)) 0 3 t (Z 0 1 5)
def cLays (Z : Nat → Nat → Nat → Int32) : Nat → Nat → Nat → Nat → Int32
  | 0 => Z
  | i + 1 => cLay (cLays Z i) i
def cRs (Z : Nat → Nat → Nat → Int32) : Int64 := smL (fun t => (Z 0 2 t).toInt64 * (Z 0 3 t).toInt64) 0 6
def cRa (Z : Nat → Nat → Nat → Int32) : Int64 := smL (fun t => (Z 0 2 t).toInt64) 0 6
def cRep (Z : Nat → Nat → Nat → Int32) : Int32 := if cRa Z = 0 then 0 else (cRs Z / cRa Z).toInt32
def cOwn (Z : Nat → Nat → Nat → Int32) (b : Nat) : Int64 := (Z 7 b 0).toInt64 * (Z 0 0 2).toInt64 / 100
def cCred (Z : Nat → Nat → Nat → Int32) (b : Nat) : Int32 := ((cOwn Z b * (cRep Z).toInt64 + ((Z 7 b 0).toInt64 - cOwn Z b) * (Z 0 1 0).toInt64) / 120000).toInt32
def cCost (Z : Nat → Nat → Nat → Int32) (b : Nat) : Int32 := ((Z 7 b 0).toInt64 * (Z 0 0 0).toInt64 / 120000).toInt32
def cMon (Y : Nat → Nat → Nat → Int32) (N : Nat → Nat) (mo : Nat) : Nat → Nat → Nat → Nat → Int32
  | 0 => Y
  | i + 1 => uz (uz (uz (uz (cMon Y N mo i) 1 mo (nz (Y 4 i 0)) (cMon Y N mo i 1 mo (nz (Y 4 i 0)) + cMar Y N i)) 2 mo (nz (Y 4 i 1)) (cMon Y N mo i 2 mo (nz (Y 4 i 1)) + cMar Y N i)) 0 4 mo (cMon Y N mo i 0 4 mo + (cFun Y N i + cOpt Y N i))) 0 5 mo (cMon Y N mo i 0 5 mo + cInt Y N i)
def cMob (Y : Nat → Nat → Nat → Int32) (mo : Nat) : Nat → Nat → Nat → Nat → Int32
  | 0 => Y
  | i + 1 => uz (uz (uz (cMob Y mo i) 1 mo i (cMob Y mo i 1 mo i + (cCred Y i - cCost Y i))) 0 4 mo (cMob Y mo i 0 4 mo - cCred Y i)) 0 5 mo (cMob Y mo i 0 5 mo - cCost Y i)
def pY (Z : Nat → Nat → Nat → Int32) (N : Nat → Nat) (i : Nat) : Int32 := if Z 3 i 0 = nI (N (10 + i)) then 0 else 1
def cPay (Y : Nat → Nat → Nat → Int32) (N : Nat → Nat) : Nat → Nat → Nat → Nat → Int32
  | 0 => Y
  | i + 1 => uz (cPay Y N i) 3 i 0 (Y 3 i 0 + pY Y N i)
def cDue (Z : Nat → Nat → Nat → Int32) (N : Nat → Nat) (t i : Nat) : Int32 := if cQ Z i + t < N (10 + i) then Z 5 i (cQ Z i + t) else 0
theorem cLays_o (Z : Nat → Nat → Nat → Int32) {x y : Nat} (h : ¬ (x = 0 ∧ (y = 2 ∨ y = 3))) : ∀ i, cLays Z i x y = Z x y
  | 0 => rfl
  | i + 1 => by
    rw [cLays, cLay, uz_o (fun q => h ⟨q.1, Or.inr q.2⟩), uz_o (fun q => h ⟨q.1, Or.inl q.2⟩)]
    exact cLays_o Z h i
theorem cMon_o (Y : Nat → Nat → Nat → Int32) (N : Nat → Nat) (mo : Nat) {x y : Nat} (h : ¬ (x = 1 ∨ x = 2 ∨ (x = 0 ∧ (y = 4 ∨ y = 5)))) : ∀ i, cMon Y N mo i x y = Y x y
  | 0 => rfl
  | i + 1 => by
    rw [cMon, uz_o (fun q => h (Or.inr (Or.inr ⟨q.1, Or.inr q.2⟩))), uz_o (fun q => h (Or.inr (Or.inr ⟨q.1, Or.inl q.2⟩))), uz_o (fun q => h (Or.inr (Or.inl q.1))), uz_o (fun q => h (Or.inl q.1))]
    exact cMon_o Y N mo h i
theorem cMob_o (Y : Nat → Nat → Nat → Int32) (mo : Nat) {x y : Nat} (h : ¬ (x = 1 ∨ (x = 0 ∧ (y = 4 ∨ y = 5)))) : ∀ i, cMob Y mo i x y = Y x y
  | 0 => rfl
  | i + 1 => by
    rw [cMob, uz_o (fun q => h (Or.inr ⟨q.1, Or.inr q.2⟩)), uz_o (fun q => h (Or.inr ⟨q.1, Or.inl q.2⟩)), uz_o (fun q => h (Or.inl q.1))]
    exact cMob_o Y mo h i
theorem cPay_o (Y : Nat → Nat → Nat → Int32) (N : Nat → Nat) {x y : Nat} (h : ¬ x = 3) : ∀ i, cPay Y N i x y = Y x y
  | 0 => rfl
  | i + 1 => by
    rw [cPay, uz_o (fun q => h q.1)]
    exact cPay_o Y N h i
/-- loans not yet reached by the loop -/
theorem cPay_a (Y : Nat → Nat → Nat → Int32) (N : Nat → Nat) {j : Nat} : ∀ i, i ≤ j → cPay Y N i 3 j = Y 3 j
  | 0, _ => rfl
  | i + 1, h => by
    rw [cPay, uz_o (fun q => by omega)]
    exact cPay_a Y N i (by omega)
theorem cLo_c {Z Y : Nat → Nat → Nat → Int32} {N : Nat → Nat} {j : Nat} (h3 : Y 3 j = Z 3 j) (h4 : Y 4 j = Z 4 j) (h : cLo Z N j) : cLo Y N j := by
  unfold cLo cQ at h ⊢
  rw [h3, h4]
  exact h
theorem cLeft_c {Z Y : Nat → Nat → Nat → Int32} {N : Nat → Nat} {j : Nat} (h3 : Y 3 j = Z 3 j) (h5 : Y 5 j = Z 5 j) : cLeft Y N j = cLeft Z N j := by
  unfold cLeft cQ
  rw [h3, h5]
theorem cInt_c {Z Y : Nat → Nat → Nat → Int32} {N : Nat → Nat} {j : Nat} (h3 : Y 3 j = Z 3 j) (h4 : Y 4 j = Z 4 j) (h5 : Y 5 j = Z 5 j) (h6 : Y 6 j = Z 6 j) : cInt Y N j = cInt Z N j := by
  unfold cInt
  rw [cLeft_c h3 h5, h4]
theorem cFun_c {Z Y : Nat → Nat → Nat → Int32} {N : Nat → Nat} {j : Nat} (h3 : Y 3 j = Z 3 j) (h4 : Y 4 j = Z 4 j) (h5 : Y 5 j = Z 5 j) (h6 : Y 6 j = Z 6 j) : cFun Y N j = cFun Z N j := by
  unfold cFun cQ
  rw [h3, h5, h6]
theorem cOpt_c {Z Y : Nat → Nat → Nat → Int32} {N : Nat → Nat} {j : Nat} (h3 : Y 3 j = Z 3 j) (h4 : Y 4 j = Z 4 j) (h5 : Y 5 j = Z 5 j) (h6 : Y 6 j = Z 6 j) : cOpt Y N j = cOpt Z N j := by
  unfold cOpt
  rw [cLeft_c h3 h5, h4]
theorem cMar_c {Z Y : Nat → Nat → Nat → Int32} {N : Nat → Nat} {j : Nat} (h3 : Y 3 j = Z 3 j) (h4 : Y 4 j = Z 4 j) (h5 : Y 5 j = Z 5 j) (h6 : Y 6 j = Z 6 j) : cMar Y N j = cMar Z N j := by
  unfold cMar
  rw [cInt_c h3 h4 h5 h6, cFun_c h3 h4 h5 h6, cOpt_c h3 h4 h5 h6]
theorem cCred_c {Z Y : Nat → Nat → Nat → Int32} {b : Nat} (h0 : Y 0 0 = Z 0 0) (h1 : Y 0 1 = Z 0 1) (h2 : Y 0 2 = Z 0 2) (h3 : Y 0 3 = Z 0 3) (h7 : Y 7 b = Z 7 b) : cCred Y b = cCred Z b := by
  unfold cCred cOwn cRep cRs cRa
  rw [h0, h1, h2, h3, h7]
theorem cCost_c {Z Y : Nat → Nat → Nat → Int32} {b : Nat} (h0 : Y 0 0 = Z 0 0) (h7 : Y 7 b = Z 7 b) : cCost Y b = cCost Z b := by
  unfold cCost
  rw [h0, h7]
theorem rw_val {l : Launch} {y : MethodName} {ws : List Cond} {rm : Room} {Pc : Array Value → State → Prop} {Γ : Gm} {v v' : Int32} {ad : Nat → Nat → Nat} {P : Pic} {mc ms : Nat} {fr : Addr → Prop} (h : rw_Met l y ws rm Pc (gEi Γ v ad P) mc ms fr) (e : v = v') : rw_Met l y ws rm Pc (gEi Γ v' ad P) mc ms fr := e ▸ h
