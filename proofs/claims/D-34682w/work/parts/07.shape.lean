/-! SHAPE: the steady picture. Z g a k: what cell (g, a) holds at place k; N 0: how many loans, N 1: the capacity of the list's array (0: the shared empty one), N (10 + j): how many parts loan j has; o: the law's out -/
abbrev rfs (f : Nat → Option Nat) : (Nat → Int32) ⊕ (Nat → Int64) ⊕ (Nat → UInt32) ⊕ (Nat → UInt64) ⊕ (Nat → Option Nat) := .inr (.inr (.inr (.inr f)))
def sh0 (Γ : Gm) (ad : Nat → Nat → Nat) (N : Nat → Nat) (a : Nat) (z : Nat → Int32) : Option va_E := match a with
  | 0 => some (.inr (0, [.ref (ad 0 9), .ref (ad 0 1), .ref (ad 0 6), .ref (ad 0 8), .ref (ad 0 2), .ref (ad 0 3), .ref (ad 0 10), .ref (ad 0 11), .ref (ad 0 4), .ref (ad 0 5), .int (z 0), .int (z 1), .int (z 2), .int (z 3)]))
  | 1 => some (.inl (Γ.2.1 0, 6, .inl z))
  | 2 => some (.inl (Γ.2.1 0, 6, .inl z))
  | 3 => some (.inl (Γ.2.1 0, 6, .inl z))
  | 4 => some (.inl (Γ.2.1 0, 48, .inl z))
  | 5 => some (.inl (Γ.2.1 0, 48, .inl z))
  | 6 => some (.inr (1, [.int (z 0), .ref (if N 1 = 0 then Γ.2.2 1 else ad 0 7), .int (nI (N 0))]))
  | 7 => if N 1 = 0 then none else some (.inl (Γ.2.1 3, N 1, rfs (fun j => if j < N 0 then some (ad 3 j) else none)))
  | 8 => some (.inl (Γ.2.1 4, 3, rfs (fun j => some (ad 7 j))))
  | 9 => some (.inl (Γ.2.1 5, 4, rfs (fun j => some (Γ.2.2 (10 + j)))))
  | 10 => some (.inl (Γ.2.1 6, 48, rfs (fun j => some (ad 1 j))))
  | 11 => some (.inl (Γ.2.1 6, 48, rfs (fun j => some (ad 2 j))))
  | _ => none
def sh8 (Γ : Gm) (ad : Nat → Nat → Nat) (a : Nat) (z : Nat → Int32) : Option va_E := match a with
  | 0 => some (.inr (5, [.int (z 0), .int (z 1), .ref (ad 8 1), .int (z 2), .int (z 3), .int (z 4), .int (z 5), .ref (ad 8 2), .ref (ad 8 3), .ref (ad 8 4), .ref (ad 8 5), .ref (ad 8 6), .ref (ad 8 7), .ref (ad 8 8), .ref (ad 8 9), .ref (ad 8 10), .ref (ad 8 11), .ref (ad 8 12), .ref (ad 8 13), .ref (ad 8 14), .ref (ad 8 15), .ref (ad 8 16)]))
  | 1 => some (.inl (Γ.2.1 0, 7, .inl z))
  | 2 => some (.inl (Γ.2.1 0, 24, .inl z))
  | 3 => some (.inl (Γ.2.1 0, 24, .inl z))
  | 4 => some (.inl (Γ.2.1 0, 24, .inl z))
  | 5 => some (.inl (Γ.2.1 0, 24, .inl z))
  | 6 => some (.inl (Γ.2.1 1, 24, .inl z))
  | 7 => some (.inl (Γ.2.1 0, 24, .inl z))
  | 8 => some (.inl (Γ.2.1 0, 144, .inl z))
  | 9 => some (.inl (Γ.2.1 0, 144, .inl z))
  | 10 => some (.inl (Γ.2.1 0, 3, .inl z))
  | 11 => some (.inl (Γ.2.1 0, 6, .inl z))
  | 12 => some (.inl (Γ.2.1 0, 6, .inl z))
  | 13 => some (.inl (Γ.2.1 0, 144, .inl z))
  | 14 => some (.inl (Γ.2.1 0, 144, .inl z))
  | 15 => some (.inl (Γ.2.1 0, 48, .inl z))
  | 16 => some (.inl (Γ.2.1 0, 48, .inl z))
  | _ => none
def sh9 (Γ : Gm) (o : Nat → Int64) (a : Nat) : Option va_E := match a with
  | 0 => some (.inl (Γ.2.1 2, 1, .inr (.inl o)))
  | _ => none
def sh (Γ : Gm) (ad : Nat → Nat → Nat) (N : Nat → Nat) (o : Nat → Int64) (g a : Nat) (z : Nat → Int32) : Option va_E := match g with
  | 0 => sh0 Γ ad N a z
  | 1 => if a < 48 then some (.inl (Γ.2.1 0, 3, .inl z)) else none
  | 2 => if a < 48 then some (.inl (Γ.2.1 0, 3, .inl z)) else none
  | 3 => if a < N 0 then some (.inr (3, [.ref (ad 4 a), .int (z 0)])) else none
  | 4 => if a < N 0 then some (.inr (4, [.int (z 0), .int (z 1), .int (z 2), .int (z 3), .int (z 4), .ref (ad 5 a), .ref (ad 6 a)])) else none
  | 5 => if a < N 0 then some (.inl (Γ.2.1 0, N (10 + a), .inl z)) else none
  | 6 => if a < N 0 then some (.inl (Γ.2.1 0, N (10 + a), .inl z)) else none
  | 7 => if a < 3 then some (.inr (2, [.int (z 1), .int (z 0)])) else none
  | 8 => sh8 Γ ad a z
  | 9 => sh9 Γ o a
  | _ => none
def shp (Γ : Gm) (ad : Nat → Nat → Nat) (N : Nat → Nat) (o : Nat → Int64) (Z : Nat → Nat → Nat → Int32) : Pic := fun g a => sh Γ ad N o g a (Z g a)
theorem sh_1 {Γ : Gm} {ad : Nat → Nat → Nat} {N : Nat → Nat} {o : Nat → Int64} {a : Nat} (h : a < 48) (z : Nat → Int32) : sh Γ ad N o 1 a z = some (.inl (Γ.2.1 0, 3, .inl z)) := if_pos h
theorem sh_2 {Γ : Gm} {ad : Nat → Nat → Nat} {N : Nat → Nat} {o : Nat → Int64} {a : Nat} (h : a < 48) (z : Nat → Int32) : sh Γ ad N o 2 a z = some (.inl (Γ.2.1 0, 3, .inl z)) := if_pos h
theorem sh_3 {Γ : Gm} {ad : Nat → Nat → Nat} {N : Nat → Nat} {o : Nat → Int64} {a : Nat} (h : a < N 0) (z : Nat → Int32) : sh Γ ad N o 3 a z = some (.inr (3, [.ref (ad 4 a), .int (z 0)])) := if_pos h
theorem sh_4 {Γ : Gm} {ad : Nat → Nat → Nat} {N : Nat → Nat} {o : Nat → Int64} {a : Nat} (h : a < N 0) (z : Nat → Int32) : sh Γ ad N o 4 a z = some (.inr (4, [.int (z 0), .int (z 1), .int (z 2), .int (z 3), .int (z 4), .ref (ad 5 a), .ref (ad 6 a)])) := if_pos h
theorem sh_5 {Γ : Gm} {ad : Nat → Nat → Nat} {N : Nat → Nat} {o : Nat → Int64} {a : Nat} (h : a < N 0) (z : Nat → Int32) : sh Γ ad N o 5 a z = some (.inl (Γ.2.1 0, N (10 + a), .inl z)) := if_pos h
theorem sh_6 {Γ : Gm} {ad : Nat → Nat → Nat} {N : Nat → Nat} {o : Nat → Int64} {a : Nat} (h : a < N 0) (z : Nat → Int32) : sh Γ ad N o 6 a z = some (.inl (Γ.2.1 0, N (10 + a), .inl z)) := if_pos h
theorem sh_7 {Γ : Gm} {ad : Nat → Nat → Nat} {N : Nat → Nat} {o : Nat → Int64} {a : Nat} (h : a < 3) (z : Nat → Int32) : sh Γ ad N o 7 a z = some (.inr (2, [.int (z 1), .int (z 0)])) := if_pos h
theorem sh_07 {Γ : Gm} {ad : Nat → Nat → Nat} {N : Nat → Nat} {o : Nat → Int64} (h : N 1 ≠ 0) (z : Nat → Int32) : sh Γ ad N o 0 7 z = some (.inl (Γ.2.1 3, N 1, rfs (fun j => if j < N 0 then some (ad 3 j) else none))) := if_neg h
/-- a place of a cell gets x -/
def uz (Z : Nat → Nat → Nat → Int32) (g a k : Nat) (x : Int32) : Nat → Nat → Nat → Int32 := fu Z g a (upd (Z g a) k x)
theorem st_set {Γ : Gm} {ad : Nat → Nat → Nat} {N : Nat → Nat} {o : Nat → Int64} {Z : Nat → Nat → Nat → Int32} {g a : Nat} {e : va_E} {z : Nat → Int32} {H : Heap} (h : FF Γ ad (fu (shp Γ ad N o Z) g a (some e)) H) (hs : sh Γ ad N o g a z = some e) : FF Γ ad (shp Γ ad N o (fu Z g a z)) H := by
  refine h.to (fun x y e' he' => ⟨e', ?_, va_like.rf, rfl⟩)
  have he2 : sh Γ ad N o x y (fu Z g a z x y) = some e' := he'
  by_cases hxy : x = g ∧ y = a
  · obtain ⟨rfl, rfl⟩ := hxy
    rw [fu_same] at he2
    rw [fu_same, ← he2, hs]
  · rw [fu_ne _ _ hxy] at he2
    rw [fu_ne _ _ hxy]
    exact he2
theorem st_seto {Γ : Gm} {ad : Nat → Nat → Nat} {N : Nat → Nat} {o o' : Nat → Int64} {Z : Nat → Nat → Nat → Int32} {H : Heap} (h : FF Γ ad (fu (shp Γ ad N o Z) 9 0 (some (.inl (Γ.2.1 2, 1, .inr (.inl o'))))) H) : FF Γ ad (shp Γ ad N o' Z) H := by
  refine h.to (fun x y e' he' => ⟨e', ?_, va_like.rf, rfl⟩)
  have he2 : sh Γ ad N o' x y (Z x y) = some e' := he'
  by_cases hxy : x = 9 ∧ y = 0
  · obtain ⟨rfl, rfl⟩ := hxy
    rw [fu_same]
    exact he2
  · rw [fu_ne _ _ hxy]
    show sh Γ ad N o x y (Z x y) = some e'
    rw [← he2]
    by_cases h9 : x = 9
    · subst h9
      cases y with
      | zero => exact absurd ⟨rfl, rfl⟩ hxy
      | succ y => rfl
    · unfold sh
      split <;> first | rfl | exact absurd rfl h9
section SROWS
variable {p : Program} {l : Launch} {e : Env} {R : Room} {s : State} {m : MethodId} {args : Array Value} {below : List Frame} {meth : Method} {c : Code} {H : Heap} {locs : List Loc} {cells slots : Nat} {Q : State → Prop}
variable {cc : ByteArray} {pc : Nat} {ls : Array Slot} {rest : List Value} {Γ : Gm} {ad : Nat → Nat → Nat} {N : Nat → Nat} {o : Nat → Int64} {Z : Nat → Nat → Nat → Int32}
/-- an int field of a cell of the picture is written -/
theorem s_put (hx : p.tables.exec = Jvm.exec) (hb : c.code = cc) {own ref C : String} {T : u_T} {NC ci index : Nat} (hts : ∀ w ∈ lw_all, w.before args s = true) (hin : ∀ w ∈ u_ws C T NC, w ∈ lw_all) (ty0 : Nat → FieldType) (hty : ∀ k, k < NC → parseFieldDescriptor (T k).2.2.1 = some (ty0 k)) (hnm : ∀ a, a < NC → ∀ b, b < NC → a ≠ b → (T a).2.1 ≠ (T b).2.1) (hown : s.vm.findClass own = some m.cls) (hK : Kn Γ s s.heap) (hF : FF Γ ad (shp Γ ad N o Z) H) (hS : va_S (AA Γ) s.heap H locs) (g a kz : Nat) {x : Int32} {fs : List Value} (he : sh Γ ad N o g a (Z g a) = some (.inr (ci, fs))) (hc : clF[ci]? = some (C, T, NC)) (k : Nat) (hk : k < NC) (he2 : sh Γ ad N o g a (upd (Z g a) kz x) = some (.inr (ci, fs.set k (.int x)))) (hlink : (Cond.fieldLink own index ref (T k).2.1 (T k).2.2.1).before args s = true) (hsame : ∀ x, s.fieldFound? (T k).1 (T k).2.1 (T k).2.2.1 = some x → s.fieldFound? ref (T k).2.1 (T k).2.2.1 = some x) (hfin : (T k).2.2.2 = false) (hd : parseFieldDescriptor (T k).2.2.1 = some .int) (hl : k < fs.length) (hdg : decode cc pc = .ok (.putfield index, 3))
    (kk : ∀ (H1 : Heap) (locs1 : List Loc), FF Γ ad (shp Γ ad N o (uz Z g a kz x)) H1 → va_S (AA Γ) s.heap H1 locs1 → W p l e R s m args below meth c H1 locs1 cells slots Q (F0 m (pc + 3) ls rest)) : W p l e R s m args below meth c H locs cells slots Q (F0 m pc ls (.int x :: .ref (ad g a) :: rest)) :=
  r_put hx hb hts hin ty0 hty hnm hown hK hF hS g a he hc k hk hlink hsame hfin hd rfl rfl hl hdg (fun H1 locs1 hF1 hS1 => kk H1 locs1 (st_set hF1 he2) hS1)
theorem s_iald (hx : p.tables.exec = Jvm.exec) (hb : c.code = cc) (hK : Kn Γ s s.heap) (hF : FF Γ ad (shp Γ ad N o Z) H) (g a : Nat) {n : Nat} (he : sh Γ ad N o g a (Z g a) = some (.inl (Γ.2.1 0, n, .inl (Z g a)))) {i : Int32} (k : Nat) (hi : i = nI k) (hk : k < n) (hn : n < 2 ^ 31) (hdg : decode cc pc = .ok (.iaload, 1))
    (kk : W p l e R s m args below meth c H locs cells slots Q (F0 m (pc + 1) ls (.int (Z g a k) :: rest))) : W p l e R s m args below meth c H locs cells slots Q (F0 m pc ls (.int i :: .ref (ad g a) :: rest)) :=
  r_iald hx hb hK hF g a he k hi hk hn hdg kk
theorem s_iast (hx : p.tables.exec = Jvm.exec) (hb : c.code = cc) (hK : Kn Γ s s.heap) (hF : FF Γ ad (shp Γ ad N o Z) H) (hS : va_S (AA Γ) s.heap H locs) (g a : Nat) {n : Nat} (he : ∀ z, sh Γ ad N o g a z = some (.inl (Γ.2.1 0, n, .inl z))) {i x : Int32} (k : Nat) (hi : i = nI k) (hk : k < n) (hn : n < 2 ^ 31) (hdg : decode cc pc = .ok (.iastore, 1))
    (kk : ∀ (H1 : Heap) (locs1 : List Loc), FF Γ ad (shp Γ ad N o (uz Z g a k x)) H1 → va_S (AA Γ) s.heap H1 locs1 → W p l e R s m args below meth c H1 locs1 cells slots Q (F0 m (pc + 1) ls rest)) : W p l e R s m args below meth c H locs cells slots Q (F0 m pc ls (.int x :: .int i :: .ref (ad g a) :: rest)) :=
  r_iast hx hb hK hF hS g a (he _) k hi hk hn hdg (fun H1 locs1 hF1 hS1 => kk H1 locs1 (st_set hF1 (he _)) hS1)
theorem s_zald (hx : p.tables.exec = Jvm.exec) (hb : c.code = cc) (hK : Kn Γ s s.heap) (hF : FF Γ ad (shp Γ ad N o Z) H) (g a : Nat) {n : Nat} (he : sh Γ ad N o g a (Z g a) = some (.inl (Γ.2.1 1, n, .inl (Z g a)))) {i : Int32} (k : Nat) (hi : i = nI k) (hk : k < n) (hn : n < 2 ^ 31) (hdg : decode cc pc = .ok (.baload, 1))
    (kk : W p l e R s m args below meth c H locs cells slots Q (F0 m (pc + 1) ls (.int (Z g a k) :: rest))) : W p l e R s m args below meth c H locs cells slots Q (F0 m pc ls (.int i :: .ref (ad g a) :: rest)) :=
  r_zald hx hb hK hF g a he k hi hk hn hdg kk
theorem s_zast (hx : p.tables.exec = Jvm.exec) (hb : c.code = cc) (hK : Kn Γ s s.heap) (hF : FF Γ ad (shp Γ ad N o Z) H) (hS : va_S (AA Γ) s.heap H locs) (g a : Nat) {n : Nat} (he : ∀ z, sh Γ ad N o g a z = some (.inl (Γ.2.1 1, n, .inl z))) {i x : Int32} (k : Nat) (hi : i = nI k) (hk : k < n) (hn : n < 2 ^ 31) (hxb : vp_nar .boolean x = x) (hdg : decode cc pc = .ok (.bastore, 1))
    (kk : ∀ (H1 : Heap) (locs1 : List Loc), FF Γ ad (shp Γ ad N o (uz Z g a k x)) H1 → va_S (AA Γ) s.heap H1 locs1 → W p l e R s m args below meth c H1 locs1 cells slots Q (F0 m (pc + 1) ls rest)) : W p l e R s m args below meth c H locs cells slots Q (F0 m pc ls (.int x :: .int i :: .ref (ad g a) :: rest)) :=
  r_zast hx hb hK hF hS g a (he _) k hi hk hn hxb hdg (fun H1 locs1 hF1 hS1 => kk H1 locs1 (st_set hF1 (he _)) hS1)
end SROWS
