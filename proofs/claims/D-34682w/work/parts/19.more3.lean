/-! MORE ROWS 3: references told otherwise, cells told otherwise, copies -/
section MORE3
variable {p : Program} {l : Launch} {e : Env} {R : Room} {s : State} {m : MethodId} {args : Array Value} {below : List Frame} {meth : Method} {c : Code} {H : Heap} {locs : List Loc} {cells slots : Nat} {Q : State → Prop}
variable {cc : ByteArray} {pc : Nat} {ls : Array Slot} {rest st0 : List Value} {a : Array Value} {mc ms : Nat} {Γ : Gm} {ad ad' : Nat → Nat → Nat} {P P' : Pic}
theorem lv_rr {x y : Nat} (h : x = y) (k : W p l e R s m args below meth c H locs cells slots Q (F0 m pc ls (.ref y :: rest))) : W p l e R s m args below meth c H locs cells slots Q (F0 m pc ls (.ref x :: rest)) := h ▸ k
/-- ends with what was found on the way -/
theorem g_aretu {S : Type} {post : S → Prop} {va : S → Nat} {ad' : S → Nat → Nat → Nat} {P' : S → Pic} (u : S) {rt : FieldType} {v : Nat} (hv : v = va u) (hp : post u) (hx : p.tables.exec = Jvm.exec) (hb : c.code = cc) (hr : meth.sig.returnType = some rt) (hrt : (∃ n, rt = .object n) ∨ ∃ t, rt = .array t) (hlocks : meth.locks = false) (hF : FF Γ (ad' u) (P' u) H) (hS : va_S (AA Γ) s.heap H locs) (hdg : decode cc pc = .ok (.areturn, 1)) : W p l e R s m args below meth c H locs cells slots (MQ below (gQr Γ post va ad' P') args s cells slots (AA Γ)) (F0 m pc ls [.ref v]) :=
  W.aret hx hb hr hrt (Or.inr ⟨v, rfl⟩) (fun t ht _ => ⟨⟨u, v, rfl, hp, hv, by subst ht; exact hF⟩, hS.F ht⟩) hS.2.2 hdg hlocks
theorem g_iretu {S : Type} {post : Int32 → S → Prop} {ad' : S → Nat → Nat → Nat} {P' : S → Pic} (u : S) {v : Int32} (hp : post v u) (hx : p.tables.exec = Jvm.exec) (hb : c.code = cc) (hr : meth.sig.returnType = some .int) (hlocks : meth.locks = false) (hF : FF Γ (ad' u) (P' u) H) (hS : va_S (AA Γ) s.heap H locs) (hdg : decode cc pc = .ok (.ireturn, 1)) : W p l e R s m args below meth c H locs cells slots (MQ below (gQi Γ post ad' P') args s cells slots (AA Γ)) (F0 m pc ls [.int v]) :=
  W.iret hx hb hr (fun t ht _ => ⟨⟨v, u, rfl, hp, by subst ht; exact hF⟩, hS.F ht⟩) hS.2.2 hdg hlocks
theorem g_zretu {S : Type} {post : Int32 → S → Prop} {ad' : S → Nat → Nat → Nat} {P' : S → Pic} (u : S) {v : Int32} (hp : post v u) (hx : p.tables.exec = Jvm.exec) (hb : c.code = cc) (hr : meth.sig.returnType = some .boolean) (hlocks : meth.locks = false) (hn : narrow .boolean (.int v) = .int v) (hF : FF Γ (ad' u) (P' u) H) (hS : va_S (AA Γ) s.heap H locs) (hdg : decode cc pc = .ok (.ireturn, 1)) : W p l e R s m args below meth c H locs cells slots (MQ below (gQi Γ post ad' P') args s cells slots (AA Γ)) (F0 m pc ls [.int v]) :=
  W.zret hx hb hr hn (fun t ht _ => ⟨⟨v, u, rfl, hp, by subst ht; exact hF⟩, hS.F ht⟩) hS.2.2 hdg hlocks
theorem g_vretu {S : Type} {post : S → Prop} {ad' : S → Nat → Nat → Nat} {P' : S → Pic} (u : S) (hp : post u) (hx : p.tables.exec = Jvm.exec) (hb : c.code = cc) (hr : meth.sig.returnType = none) (hlocks : meth.locks = false) (hF : FF Γ (ad' u) (P' u) H) (hS : va_S (AA Γ) s.heap H locs) (hdg : decode cc pc = .ok (.return_, 1)) : W p l e R s m args below meth c H locs cells slots (MQ below (gQv Γ post ad' P') args s cells slots (AA Γ)) (F0 m pc ls []) :=
  W.vret hx hb hr (fun t ht _ => ⟨⟨u, rfl, hp, by subst ht; exact hF⟩, hS.F ht⟩) hS.2.2 hdg hlocks
/-- the receiver is an array of objects -/
theorem recvA {g x : Nat} (hK : Kn Γ s s.heap) (hF : FF Γ ad P H) {n : Nat} {f : Nat → Option Nat} (he : P g x = some (.inl (Γ.2.1 3, n, rfs f))) : ∃ cell : Cell, H[ad g x]? = some cell ∧ cell.vm.isStatics = false ∧ s.vm.findClass "[Ljava/lang/Object;" = some cell.cls := by
  have h0 : H[ad g x]? = some (vp_cell (Γ.2.1 3) (n, rfs f)) := (hF.2.1 g x _ he).1
  obtain ⟨-, -, -, -, -, h4⟩ := (hK.1.2 3 _ rfl).2
  exact ⟨_, h0, rfl, h4⟩
theorem r_copyM (hx : p.tables.exec = Jvm.exec) (hb : c.code = cc) (hml : c.maxLocals = ls.size) {own : String} {index : Nat} (hown : s.vm.findClass own = some m.cls) (hlink : (Cond.methodLink own index arraycopyName).before args s = true) (hnat : (Cond.native arraycopyName).before args s = true) (hstat : (Cond.static arraycopyName).before args s = true) (hini : (Cond.initialized "java/lang/System").before args s = true)
    (hK : Kn Γ s s.heap) (hF : FF Γ ad P H) (hS : va_S (AA Γ) s.heap H locs) (g x g1 x1 : Nat) {n0 n1 : Nat} {f f1 : Nat → Option Nat} (he0 : P g x = some (.inl (Γ.2.1 3, n0, rfs f))) (he1 : P g1 x1 = some (.inl (Γ.2.1 3, n1, rfs f1))) (n : Nat) (h0 : n ≤ n0) (h1 : n ≤ n1) (h31 : n < 2 ^ 31) (hel : ∀ i : Nat, i < n → ∀ y : Nat, f i = some y → va_Any "java/lang/Object" s H y)
    (hframes : 1 ≤ R.frames) (hlocals : (rest.map fun v => v.category).sum + (nativeFrameWords "java/lang/System" "arraycopy" 5 + 11) ≤ R.locals) (hdg : decode cc pc = .ok (.invokestatic index, 3))
    (kk : ∀ (H1 : Heap) (locs1 : List Loc), FF Γ ad (fu P g1 x1 (some (.inl (Γ.2.1 3, n1, rfs (va_cpy f f1 0 0 n))))) H1 → va_S (AA Γ) s.heap H1 locs1 → W p l e R s m args below meth c H1 locs1 cells slots Q (F0 m (pc + 3) ls rest)) : W p l e R s m args below meth c H locs cells slots Q (F0 m pc ls (.int (nI n) :: .int 0 :: .ref (ad g1 x1) :: .int 0 :: .ref (ad g x) :: rest)) := by
  obtain ⟨L, hn0, hm, hP, hD⟩ := hF.out
  obtain ⟨j0, hj0⟩ := List.getElem?_of_mem ((hm g x).mpr (by rw [he0]; exact Option.some_ne_none _))
  obtain ⟨j1, hj1⟩ := List.getElem?_of_mem ((hm g1 x1).mpr (by rw [he1]; exact Option.some_ne_none _))
  have e0 : (0 : Int32).toNatClampNeg = 0 := rfl
  have en : (nI n).toNatClampNeg = n := nI_clamp h31
  refine va_copyM hx hb hml hown hlink hnat hstat hini hK.1 hP hD hS j0 j1 3 3 (fw_get hj0 he0) (fw_get hj1 he1) rfl rfl (by decide) (by decide) (nI_pos h31) (by rw [e0, en]; omega) (by rw [e0, en]; omega) (fun i hi y hy => hel i (by rw [en] at hi; exact hi) y (by rw [e0, Nat.zero_add] at hy; exact hy)) hframes hlocals hdg (fun H1 locs1 hP1 _ hS1 => ?_)
  rw [e0, en] at hP1
  exact kk H1 locs1 (hF.set hm hj1 hP1) hS1
end MORE3
theorem fu_fu {α : Type} (f : Nat → Nat → α) (g a : Nat) (v w : α) : fu (fu f g a v) g a w = fu f g a w := by
  funext x y
  by_cases h : x = g ∧ y = a
  · obtain ⟨rfl, rfl⟩ := h
    rw [fu_same, fu_same]
  · rw [fu_ne _ _ h, fu_ne _ _ h, fu_ne _ _ h]
theorem fu_sw {α : Type} (f : Nat → Nat → α) (g a x y : Nat) (v w : α) (h : ¬ (x = g ∧ y = a)) : fu (fu f g a v) x y w = fu (fu f x y w) g a v := by
  funext p q
  by_cases h1 : p = g ∧ q = a
  · obtain ⟨rfl, rfl⟩ := h1
    rw [fu_same, fu_ne _ _ (fun k => h ⟨k.1.symm, k.2.symm⟩), fu_same]
  · rw [fu_ne (fu f x y w) v h1]
    by_cases h2 : p = x ∧ q = y
    · obtain ⟨rfl, rfl⟩ := h2
      rw [fu_same, fu_same]
    · rw [fu_ne _ _ h2, fu_ne _ _ h1, fu_ne _ _ h2]
/-- a cell told otherwise -/
theorem st_like {Γ : Gm} {ad : Nat → Nat → Nat} {P : Pic} {H : Heap} {g a : Nat} {e e' : va_E} (h : FF Γ ad (fu P g a (some e)) H) (hl : va_like e e') : FF Γ ad (fu P g a (some e')) H := by
  refine h.to (fun x y e1 he1 => ?_)
  by_cases hq : x = g ∧ y = a
  · obtain ⟨rfl, rfl⟩ := hq
    rw [fu_same] at he1
    cases he1
    exact ⟨e, fu_same _ _ _ _, hl, rfl⟩
  · rw [fu_ne _ _ hq] at he1
    exact ⟨e1, by rw [fu_ne _ _ hq]; exact he1, va_like.rf, rfl⟩
theorem nI_max {a b : Nat} (ha : a < 2 ^ 31) (hb : b < 2 ^ 31) : (if nI a < nI b then nI b else nI a) = nI (max a b) := by
  by_cases h : a < b
  · rw [if_pos (nI_lt h hb), Nat.max_eq_right (by omega)]
  · rw [if_neg (nI_nlt (by omega) ha), Nat.max_eq_left (by omega)]
theorem fu_id {α : Type} (f : Nat → Nat → α) (g a : Nat) : fu f g a (f g a) = f := by
  funext x y
  by_cases h : x = g ∧ y = a
  · obtain ⟨rfl, rfl⟩ := h
    rw [fu_same]
  · rw [fu_ne _ _ h]
theorem grow_join {Γ : Gm} {ad : Nat → Nat → Nat} {P : Pic} {H : Heap} {q cap n : Nat} {f : Nat → Option Nat} {obj : va_E} (hM : FF Γ (fu (fu ad 20 0 q) 0 7 (fu ad 20 0 q 20 0)) (fu (fu (fu (fu P 20 0 (some (.inl (Γ.2.1 3, cap, rfs (va_cpy f (fun _ => none) 0 0 n))))) 0 6 (some obj)) 0 7 (fu (fu P 20 0 (some (.inl (Γ.2.1 3, cap, rfs (va_cpy f (fun _ => none) 0 0 n))))) 0 6 (some obj) 20 0)) 20 0 none) H) (hnone : P 20 0 = none) :
    FF Γ (fu ad 0 7 q) (fu (fu P 0 7 (some (.inl (Γ.2.1 3, cap, rfs (fun j => if j < n then f j else none))))) 0 6 (some obj)) H := by
  refine hM.to (fun g a e' he' => ?_)
  by_cases h7 : g = 0 ∧ a = 7
  · obtain ⟨rfl, rfl⟩ := h7
    have e7 : e' = .inl (Γ.2.1 3, cap, rfs (fun j => if j < n then f j else none)) := (Option.some.inj he').symm
    refine ⟨.inl (Γ.2.1 3, cap, rfs (va_cpy f (fun _ => none) 0 0 n)), rfl, ?_, rfl⟩
    rw [e7]
    refine like_ref (fun j _ => ?_)
    show (if 0 ≤ j ∧ j < 0 + n then f (0 + (j - 0)) else none) = _
    by_cases hj : j < n
    · rw [if_pos ⟨Nat.zero_le _, by omega⟩, if_pos hj]
      congr 1
      omega
    · rw [if_neg (by omega), if_neg hj]
  · by_cases h6 : g = 0 ∧ a = 6
    · obtain ⟨rfl, rfl⟩ := h6
      exact ⟨e', he', va_like.rf, rfl⟩
    · rw [fu_ne _ _ h6, fu_ne _ _ h7] at he'
      have h20 : ¬ (g = 20 ∧ a = 0) := by
        intro q
        rw [q.1, q.2, hnone] at he'
        cases he'
      refine ⟨e', by rw [fu_ne _ _ h20, fu_ne _ _ h7, fu_ne _ _ h6, fu_ne _ _ h20]; exact he', va_like.rf, ?_⟩
      rw [fu_ne _ _ h7, fu_ne _ _ h7, fu_ne _ _ h20]
theorem add_join {Γ : Gm} {ad : Nat → Nat → Nat} {P : Pic} {H : Heap} {cap n x : Nat} {f F : Nat → Option Nat} {e6 e : va_E} (hF : FF Γ ad (fu (fu P 0 7 (some (.inl (Γ.2.1 3, cap, rfs (va_up F n (some x)))))) 0 6 (some e)) H) (h : ∀ j, j ≠ n → F j = if j < n then f j else none) :
    FF Γ ad (fu (fu P 0 7 (some (.inl (Γ.2.1 3, cap, rfs (fun j => if j < n then f j else if j = n then some x else none))))) 0 6 (some e)) H := by
  rw [fu_sw _ 0 7 0 6 _ _ (by decide)] at hF ⊢
  refine st_like hF (like_ref (fun j _ => ?_))
  by_cases hj : j = n
  · subst hj
    rw [va_up_self, if_neg (Nat.lt_irrefl _), if_pos rfl]
  · rw [va_up_ne _ _ hj, h j hj]
    by_cases h2 : j < n
    · rw [if_pos h2, if_pos h2]
    · rw [if_neg h2, if_neg h2, if_neg hj]
theorem nI_min {a b : Nat} (ha : a < 2 ^ 31) (hb : b < 2 ^ 31) : (if nI b < nI a then nI b else nI a) = nI (min a b) := by
  by_cases h : b < a
  · rw [if_pos (nI_lt h ha), Nat.min_eq_right (by omega)]
  · rw [if_neg (nI_nlt (by omega) hb), Nat.min_eq_left (by omega)]
