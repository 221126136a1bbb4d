/-! PURE 4: lend and deposit in the class: what is made, and how it joins the steady picture -/
def lP (a m : Int32) (n i : Nat) : Nat → Int32 := fun j => if j < i then prt a m n j else 0
def lC (c : Nat → Int32) (i : Nat) : Nat → Int32 := fun j => if j < i then c j else 0
theorem lP_0 {a m : Int32} {n : Nat} : (fun _ => 0) = lP a m n 0 := by
  funext j
  exact (if_neg (Nat.not_lt_zero j)).symm
theorem lC_0 {c : Nat → Int32} : (fun _ => 0) = lC c 0 := by
  funext j
  exact (if_neg (Nat.not_lt_zero j)).symm
theorem upd_step {F : Nat → Int32} {i : Nat} : upd (fun j => if j < i then F j else 0) i (F i) = fun j => if j < i + 1 then F j else 0 := by
  funext j
  unfold upd
  by_cases h : j = i
  · subst h
    simp
  · by_cases h2 : j < i
    · rw [if_neg h]
      show (if j < i then F j else 0) = _
      rw [if_pos h2, if_pos (by omega)]
    · rw [if_neg h]
      show (if j < i then F j else 0) = _
      rw [if_neg h2, if_neg (by omega)]
theorem lP_s {a m : Int32} {n i : Nat} : upd (lP a m n i) i (prt a m n i) = lP a m n (i + 1) := upd_step
theorem lC_s {c : Nat → Int32} {i : Nat} : upd (lC c i) i (c i) = lC c (i + 1) := upd_step
def cOp (Z : Nat → Nat → Nat → Int32) (h : Int32) : Int32 := if h = 0 then 0 else Z 0 0 1
def lRow (b p r op h : Int32) : Nat → Int32
  | 0 => b | 1 => p | 2 => r | 3 => op | 4 => h | _ => 0
def dRow (bal b : Int32) : Nat → Int32
  | 0 => bal | 1 => b | _ => 0
/-- lend in the class -/
def cLend (Z : Nat → Nat → Nat → Int32) (n : Nat) (b p a r : Int32) (k : Nat) (h : Int32) : Nat → Nat → Nat → Int32 := fu (fu (fu (fu (uz Z 0 6 0 (Z 0 6 0 + 1)) 3 n (fun _ => 0)) 4 n (lRow b p r (cOp Z h) h)) 5 n (lP a (nI k) k k)) 6 n (lC (Z 0 1) k)
def lendN (N : Nat → Nat) (k cap : Nat) : Nat → Nat := fun i => if i = 0 then N 0 + 1 else if i = 1 then cap else if i = 10 + N 0 then k else N i
/-- the ids that a loan's making leaves alone tell the same -/
theorem sh_same {Γ : Gm} {ad ad' : Nat → Nat → Nat} {N N' : Nat → Nat} {o : Nat → Int64} {n : Nat} (hN : N' 0 = n + 1) (hn : N 0 = n) (hNj : ∀ j, j < n → N' (10 + j) = N (10 + j)) (h : ∀ x y, ¬ (x = 0 ∧ y = 7) → (x = 0 ∨ x = 1 ∨ x = 2 ∨ x = 7 ∨ x = 8 ∨ x = 9 ∨ y < n) → ad' x y = ad x y) (z : Nat → Int32) :
    ∀ g a, ¬ (g = 0 ∧ (a = 6 ∨ a = 7)) → ¬ ((g = 3 ∨ g = 4 ∨ g = 5 ∨ g = 6) ∧ a = n) → sh Γ ad' N' o g a z = sh Γ ad N o g a z := by
  intro g a h1 h2
  have e0 : ∀ y, y ≠ 7 → ad' 0 y = ad 0 y := fun y hy => h 0 y (fun q => hy q.2) (Or.inl rfl)
  have e1 : ∀ y, ad' 1 y = ad 1 y := fun y => h 1 y (by omega) (by omega)
  have e2 : ∀ y, ad' 2 y = ad 2 y := fun y => h 2 y (by omega) (by omega)
  have e7 : ∀ y, ad' 7 y = ad 7 y := fun y => h 7 y (by omega) (by omega)
  have e8 : ∀ y, ad' 8 y = ad 8 y := fun y => h 8 y (by omega) (by omega)
  match g with
  | 0 =>
    match a with
    | 0 => simp only [sh, sh0]; rw [e0 9 (by decide), e0 1 (by decide), e0 6 (by decide), e0 8 (by decide), e0 2 (by decide), e0 3 (by decide), e0 10 (by decide), e0 11 (by decide), e0 4 (by decide), e0 5 (by decide)]
    | 1 => rfl
    | 2 => rfl
    | 3 => rfl
    | 4 => rfl
    | 5 => rfl
    | 6 => exact absurd ⟨rfl, Or.inl rfl⟩ h1
    | 7 => exact absurd ⟨rfl, Or.inr rfl⟩ h1
    | 8 => simp only [sh, sh0, e7]
    | 9 => rfl
    | 10 => simp only [sh, sh0, e1]
    | 11 => simp only [sh, sh0, e2]
    | a + 12 => rfl
  | 1 => rfl
  | 2 => rfl
  | 3 =>
    have ha : a ≠ n := fun q => h2 ⟨Or.inl rfl, q⟩
    simp only [sh]
    by_cases hl : a < n
    · rw [if_pos (by omega), if_pos (by omega), h 4 a (by omega) (by omega)]
    · rw [if_neg (by omega), if_neg (by omega)]
  | 4 =>
    have ha : a ≠ n := fun q => h2 ⟨Or.inr (Or.inl rfl), q⟩
    simp only [sh]
    by_cases hl : a < n
    · rw [if_pos (by omega), if_pos (by omega), h 5 a (by omega) (by omega), h 6 a (by omega) (by omega)]
    · rw [if_neg (by omega), if_neg (by omega)]
  | 5 =>
    have ha : a ≠ n := fun q => h2 ⟨Or.inr (Or.inr (Or.inl rfl)), q⟩
    simp only [sh]
    by_cases hl : a < n
    · rw [if_pos (by omega), if_pos (by omega), hNj a hl]
    · rw [if_neg (by omega), if_neg (by omega)]
  | 6 =>
    have ha : a ≠ n := fun q => h2 ⟨Or.inr (Or.inr (Or.inr rfl)), q⟩
    simp only [sh]
    by_cases hl : a < n
    · rw [if_pos (by omega), if_pos (by omega), hNj a hl]
    · rw [if_neg (by omega), if_neg (by omega)]
  | 7 => rfl
  | 8 =>
    match a with
    | 0 => simp only [sh, sh8, e8]
    | 1 => rfl
    | 2 => rfl
    | 3 => rfl
    | 4 => rfl
    | 5 => rfl
    | 6 => rfl
    | 7 => rfl
    | 8 => rfl
    | 9 => rfl
    | 10 => rfl
    | 11 => rfl
    | 12 => rfl
    | 13 => rfl
    | 14 => rfl
    | 15 => rfl
    | 16 => rfl
    | a + 17 => rfl
  | 9 => rfl
  | g + 10 => rfl
theorem cLend_o {Z : Nat → Nat → Nat → Int32} {n : Nat} {b p a r : Int32} {k : Nat} {h : Int32} {x y : Nat} (h6 : ¬ (x = 0 ∧ y = 6)) (hn : ¬ ((x = 3 ∨ x = 4 ∨ x = 5 ∨ x = 6) ∧ y = n)) : cLend Z n b p a r k h x y = Z x y := by
  unfold cLend
  rw [fu_ne _ _ (fun q => hn ⟨by omega, q.2⟩), fu_ne _ _ (fun q => hn ⟨by omega, q.2⟩), fu_ne _ _ (fun q => hn ⟨by omega, q.2⟩), fu_ne _ _ (fun q => hn ⟨by omega, q.2⟩), uz_o h6]
theorem lend_join {Γ : Gm} {ad adF : Nat → Nat → Nat} {N : Nat → Nat} {o : Nat → Int64} {Z : Nat → Nat → Nat → Int32} {H : Heap} {b p a r : Int32} {k : Nat} {h : Int32} {cap : Nat} (hN : nOk N) (hcap : N 0 < cap)
    (hA : ∀ x y, ¬ (x = 0 ∧ y = 7) → (x = 0 ∨ x = 1 ∨ x = 2 ∨ x = 7 ∨ x = 8 ∨ x = 9 ∨ y < N 0) → adF x y = ad x y)
    (hF : FF Γ adF (fu (fu (fu (fu (fu (fu (shp Γ ad N o Z) 5 (N 0) (some (.inl (Γ.2.1 0, k, .inl (lP a (nI k) k k))))) 6 (N 0) (some (.inl (Γ.2.1 0, k, .inl (lC (Z 0 1) k))))) 3 (N 0) (some (.inr (3, [.ref (adF 4 (N 0)), .int 0])))) 4 (N 0) (some (.inr (4, [.int b, .int p, .int r, .int (cOp Z h), .int h, .ref (adF 5 (N 0)), .ref (adF 6 (N 0))])))) 0 7 (some (.inl (Γ.2.1 3, cap, rfs (fun j => if j < N 0 then (if j < N 0 then some (ad 3 j) else none) else if j = N 0 then some (adF 3 (N 0)) else none))))) 0 6 (some (.inr (1, [.int (Z 0 6 0 + 1), .ref (adF 0 7), .int (nI (N 0 + 1))])))) H) :
    FF Γ adF (shp Γ adF (lendN N k cap) o (cLend Z (N 0) b p a r k h)) H := by
  have n0 : lendN N k cap 0 = N 0 + 1 := rfl
  have n1 : lendN N k cap 1 = cap := rfl
  have nn : lendN N k cap (10 + N 0) = k := by
    unfold lendN
    rw [if_neg (by omega), if_neg (by omega), if_pos rfl]
  have nj : ∀ j, j < N 0 → lendN N k cap (10 + j) = N (10 + j) := fun j hj => by
    unfold lendN
    rw [if_neg (by omega), if_neg (by omega), if_neg (by omega)]
  refine hF.to (fun g x e' he' => ?_)
  have he : sh Γ adF (lendN N k cap) o g x (cLend Z (N 0) b p a r k h g x) = some e' := he'
  by_cases c6 : g = 0 ∧ x = 6
  · obtain ⟨rfl, rfl⟩ := c6
    rw [sh_06 (by rw [n1]; omega), n0] at he
    exact ⟨_, fu_same _ _ _ _, va_like.of (Option.some.inj he), rfl⟩
  · rw [fu_ne _ _ c6]
    by_cases c7 : g = 0 ∧ x = 7
    · obtain ⟨rfl, rfl⟩ := c7
      rw [sh_07 (by rw [n1]; omega), n1, n0] at he
      refine ⟨_, fu_same _ _ _ _, ?_, rfl⟩
      rw [← Option.some.inj he]
      refine like_ref (fun j _ => ?_)
      by_cases h1 : j < N 0
      · rw [if_pos h1, if_pos h1, if_pos (by omega), hA 3 j (by omega) (by omega)]
      · by_cases h2 : j = N 0
        · subst h2
          rw [if_neg h1, if_pos rfl, if_pos (by omega)]
        · rw [if_neg h1, if_neg h2, if_neg (by omega)]
    · rw [fu_ne _ _ c7]
      by_cases c4 : g = 4 ∧ x = N 0
      · obtain ⟨rfl, rfl⟩ := c4
        rw [sh_4 (by rw [n0]; omega)] at he
        refine ⟨_, fu_same _ _ _ _, va_like.of ?_, rfl⟩
        rw [← Option.some.inj he]
        have e : cLend Z (N 0) b p a r k h 4 (N 0) = lRow b p r (cOp Z h) h := by
          unfold cLend
          rw [fu_neg _ _ (by decide), fu_neg _ _ (by decide), fu_same]
        rw [e]
        rfl
      · rw [fu_ne _ _ c4]
        by_cases c3 : g = 3 ∧ x = N 0
        · obtain ⟨rfl, rfl⟩ := c3
          rw [sh_3 (by rw [n0]; omega)] at he
          refine ⟨_, fu_same _ _ _ _, va_like.of ?_, rfl⟩
          rw [← Option.some.inj he]
          have e : cLend Z (N 0) b p a r k h 3 (N 0) = fun _ => 0 := by
            unfold cLend
            rw [fu_neg _ _ (by decide), fu_neg _ _ (by decide), fu_neg _ _ (by decide), fu_same]
          rw [e]
        · rw [fu_ne _ _ c3]
          by_cases c66 : g = 6 ∧ x = N 0
          · obtain ⟨rfl, rfl⟩ := c66
            rw [sh_6 (by rw [n0]; omega), nn] at he
            refine ⟨_, fu_same _ _ _ _, va_like.of ?_, rfl⟩
            rw [← Option.some.inj he]
            have e : cLend Z (N 0) b p a r k h 6 (N 0) = lC (Z 0 1) k := fu_same _ _ _ _
            rw [e]
          · rw [fu_ne _ _ c66]
            by_cases c5 : g = 5 ∧ x = N 0
            · obtain ⟨rfl, rfl⟩ := c5
              rw [sh_5 (by rw [n0]; omega), nn] at he
              refine ⟨_, fu_same _ _ _ _, va_like.of ?_, rfl⟩
              rw [← Option.some.inj he]
              have e : cLend Z (N 0) b p a r k h 5 (N 0) = lP a (nI k) k k := by
                unfold cLend
                rw [fu_neg _ _ (by decide), fu_same]
              rw [e]
            · rw [fu_ne _ _ c5]
              have q1 : ¬ (g = 0 ∧ (x = 6 ∨ x = 7)) := fun q => q.2.elim (fun z => c6 ⟨q.1, z⟩) (fun z => c7 ⟨q.1, z⟩)
              have q2 : ¬ ((g = 3 ∨ g = 4 ∨ g = 5 ∨ g = 6) ∧ x = N 0) := fun q => by
                rcases q.1 with z | z | z | z
                · exact c3 ⟨z, q.2⟩
                · exact c4 ⟨z, q.2⟩
                · exact c5 ⟨z, q.2⟩
                · exact c66 ⟨z, q.2⟩
              refine ⟨e', ?_, va_like.rf, rfl⟩
              rw [← he, cLend_o c6 q2]
              exact (sh_same n0 rfl nj hA _ g x q1 q2).symm
/-- a deposit's object is another -/
theorem dep_join {Γ : Gm} {ad : Nat → Nat → Nat} {N : Nat → Nat} {o : Nat → Int64} {Z : Nat → Nat → Nat → Int32} {H : Heap} {b q : Nat} {bal : Int32} (hb : b < 3)
    (hF : FF Γ (fu ad 20 0 q) (fu (fu (shp Γ ad N o Z) 20 0 (some (.inr (2, [.int (nI b), .int bal])))) 0 8 (some (.inl (Γ.2.1 4, 3, rfs (va_up (fun j => some (ad 7 j)) b (some q)))))) H) :
    FF Γ (fu ad 7 b q) (shp Γ (fu ad 7 b q) N o (fu Z 7 b (dRow bal (nI b)))) H := by
  have hM := hF.move 20 0 7 b (by omega)
  refine hM.to (fun g x e' he' => ?_)
  have he : sh Γ (fu ad 7 b q) N o g x (fu Z 7 b (dRow bal (nI b)) g x) = some e' := he'
  by_cases c7 : g = 7 ∧ x = b
  · obtain ⟨rfl, rfl⟩ := c7
    rw [sh_7 hb, fu_same] at he
    refine ⟨.inr (2, [.int (nI x), .int bal]), ?_, va_like.of (Option.some.inj he), ?_⟩
    · rw [fu_neg _ _ (by decide), fu_same]
      rfl
    · rw [fu_same, fu_same]
      rfl
  · rw [fu_ne Z _ c7] at he
    have h20 : ¬ (g = 20 ∧ x = 0) := fun z => by
      rw [z.1, z.2] at he
      cases he
    have had : fu ad 7 b q g x = fu (fu ad 20 0 q) 7 b (fu ad 20 0 q 20 0) g x := by
      rw [fu_ne _ _ c7, fu_ne _ _ c7, fu_ne _ _ h20]
    rw [fu_ne _ _ h20, fu_ne _ _ c7]
    by_cases c8 : g = 0 ∧ x = 8
    · obtain ⟨rfl, rfl⟩ := c8
      have e : (fun j => some (fu ad 7 b q 7 j)) = va_up (fun j => some (ad 7 j)) b (some q) := by
        funext j
        unfold va_up
        by_cases hj : j = b
        · subst hj
          rw [if_pos rfl, fu_same]
        · rw [if_neg hj, fu_nea _ _ hj]
      refine ⟨_, fu_same _ _ _ _, va_like.of ?_, had⟩
      rw [← Option.some.inj he, e]
    · rw [fu_ne _ _ c8, fu_ne _ _ h20]
      refine ⟨e', ?_, va_like.rf, had⟩
      show sh Γ ad N o g x (Z g x) = some e'
      rw [← he]
      match g with
      | 0 =>
        match x with
        | 0 => rfl
        | 1 => rfl
        | 2 => rfl
        | 3 => rfl
        | 4 => rfl
        | 5 => rfl
        | 6 => rfl
        | 7 => rfl
        | 8 => exact absurd ⟨rfl, rfl⟩ c8
        | 9 => rfl
        | 10 => rfl
        | 11 => rfl
        | x + 12 => rfl
      | 1 => rfl
      | 2 => rfl
      | 3 => rfl
      | 4 => rfl
      | 5 => rfl
      | 6 => rfl
      | 7 => rfl
      | 8 => rfl
      | 9 => rfl
      | g + 10 => rfl
theorem vb_f01 {v : Int32} (h : v = 0 ∨ v = 1) : fits .boolean (.int v) = true := by
  rcases h with rfl | rfl <;> rfl
