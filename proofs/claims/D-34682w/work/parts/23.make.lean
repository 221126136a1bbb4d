/-! MAKING: a copy of Bearing's $VALUES; rows of rows of ints; both join the family -/
theorem cell_eq {c d : Cell} (h1 : c.cls = d.cls) (h2 : c.slots = d.slots) : ({ cls := c.cls, slots := c.slots } : Cell) = { cls := d.cls, slots := d.slots } := by rw [h1, h2]
section MAKE
variable {p : Program} {l : Launch} {e : Env} {R : Room} {s : State} {m : MethodId} {args : Array Value} {below : List Frame} {meth : Method} {c : Code} {H : Heap} {locs : List Loc} {cells slots : Nat} {Q : State → Prop}
variable {cc : ByteArray} {pc : Nat} {ls : Array Slot} {rest : List Value} {Γ : Gm} {ad : Nat → Nat → Nat} {P : Pic}
/-- a clone of the constants' row (follows va_clone of the kit) -/
theorem r_cloneV (hexec : p.tables.exec = Jvm.exec) (hb : c.code = cc) (hml : c.maxLocals = ls.size) {own : String} {index : Nat} (hown : s.vm.findClass own = some m.cls)
    (hlink : (Cond.methodLink own index ⟨"[LFundBook$Bearing;", "clone", "()Ljava/lang/Object;"⟩).before args s = true) (hsame : (Cond.sameMethod "[LFundBook$Bearing;" "java/lang/Object" "clone" "()Ljava/lang/Object;").before args s = true)
    (hnat : (Cond.native ⟨"java/lang/Object", "clone", "()Ljava/lang/Object;"⟩).before args s = true) (hinst : (Cond.instanceMethod ⟨"java/lang/Object", "clone", "()Ljava/lang/Object;"⟩).before args s = true)
    (hsel : (Cond.selects "[LFundBook$Bearing;" ⟨"[LFundBook$Bearing;", "clone", "()Ljava/lang/Object;"⟩ ⟨"java/lang/Object", "clone", "()Ljava/lang/Object;"⟩).before args s = true) (hcl : va_Nw (.castable "[LFundBook$Bearing;" "java/lang/Cloneable") s)
    (hK : Kn Γ s s.heap) (hF : FF Γ ad P H) (hS : va_S (AA Γ) s.heap H locs) (g a : Nat) (hnone : P g a = none)
    (hframes : 1 ≤ R.frames) (hlocals : (rest.map fun v => v.category).sum + 14 ≤ R.locals) (hcells : cells + 1 ≤ R.cells) (hslots : slots + 4 ≤ R.slots) (hdg : decode cc pc = .ok (.invokevirtual index, 3))
    (kk : ∀ (q : Nat) (H1 : Heap), FF Γ (fu ad g a q) (fu P g a (some (.inl (Γ.2.1 5, 4, rfs (fun j => some (Γ.2.2 (10 + j))))))) H1 → va_S (AA Γ) s.heap H1 locs → W p l e R s m args below meth c H1 locs (cells + 1) (slots + 4) Q (F0 m (pc + 3) ls (.ref q :: rest))) : W p l e R s m args below meth c H locs cells slots Q (F0 m pc ls (.ref (Γ.2.2 3) :: rest)) := by
  obtain ⟨L, hn0, hm, hP, hD⟩ := hF.out
  obtain ⟨cell, k1, k2, k3, k4, k5, k6, k7⟩ := hK.2.2.2.2.1.2
  have hcellE : ({ cls := cell.cls, slots := cell.slots } : Cell) = vp_cell (Γ.2.1 5) (4, rfs (fun j => some (Γ.2.2 (10 + j)))) := by
    have e2 : cell.slots = (arrV (Γ.2.1 5) 4 (fun j => va_rf (some (Γ.2.2 (10 + j))))).slots := by
      apply Array.ext_getElem?
      intro i
      by_cases hi : i < 4
      · rw [k6 i hi, arrV_read _ _ hi]
        rfl
      · rw [Array.getElem?_eq_none (by omega), Array.getElem?_eq_none (by rw [arrV_size]; omega)]
    rw [e2, k2]
    rfl
  obtain ⟨-, -, -, -, -, hnm⟩ := (hK.1.2 5 _ rfl).2
  have hnm2 : s.vm.findClass "[LFundBook$Bearing;" = some cell.cls := by rw [k2]; exact hnm
  obtain ⟨c0, t0', f1, f2, f3⟩ := Cond.castable_spec (va_Nw.use (A := args) rfl hcl)
  cases hnm2.symm.trans f1
  intro T hT X
  have hcellT : T.heap[Γ.2.2 3]? = some cell := by rw [hT, hS.2.1 _ (Array.getElem?_eq_some_iff.mp k1).1 k7]; exact k1
  obtain ⟨-, kA, hkA, comp, hkind⟩ := State.isArrayOf_alike X.warmed.alike ((hK.1.2 5 _ rfl).1 0 (fun _ => .null))
  obtain ⟨-, kS, hkS, compS, hkindS⟩ := (hK.1.2 5 _ rfl).1 0 (fun _ => .null)
  obtain ⟨vm', X', st⟩ := X.cloneArray hexec hown hlink hsame hnat hinst hsel (a := Γ.2.2 3) (cell := cell) hcellT k3 k4 hnm2 f2 f3
    (fun i v hv => by
      have hi : i < 4 := by rw [← k5]; exact (Array.getElem?_eq_some_iff.mp hv).1
      rw [k6 i hi] at hv
      cases hv
      have hk' : T.vm.classes[cell.cls]? = some kA := by rw [k2]; exact hkA
      simp [State.fitsSlot, State.slotType?, hk', hkind]
      rfl)
    (g := F0 m pc ls (.ref (Γ.2.2 3) :: rest)) rfl (by rw [hml]) rfl (by rw [hb]; exact hdg) hframes (by show 2 * 0 + _ + 14 ≤ _; omega) hcells (by rw [k5]; exact hslots) (hloader := Vm.clonesLoader_of_array (by rw [k2]; exact hkS) hkindS)
  rw [hcellE, k5] at X'
  generalize hH1 : H.push (vp_cell (Γ.2.1 5) (4, rfs (fun j => some (Γ.2.2 (10 + j))))) = H1
  have z1 : H1.size = H.size + 1 := by rw [← hH1, Array.size_push]
  have e1 : H1[H.size]? = some (vp_cell (Γ.2.1 5) (4, rfs (fun j => some (Γ.2.2 (10 + j))))) := by rw [← hH1, Array.getElem?_push_size]
  have o1 : ∀ q : Nat, q < H.size → H1[q]? = H[q]? := fun q hq => by rw [← hH1, Array.getElem?_push, if_neg (Nat.ne_of_lt hq)]
  have hk : ∀ (k : Nat) (y : Nat × va_E), (fw ad P L)[k]? = some y → H1[y.1]? = H[y.1]? := fun k y hy => o1 y.1 ((hP k y hy).lt)
  have hF1 : FF Γ (fu ad g a H.size) (fu P g a (some (.inl (Γ.2.1 5, 4, rfs (fun j => some (Γ.2.2 (10 + j))))))) H1 := hF.push hnone hm ((hP.kept hk).app (fun k y hy => by
      have hz : k < 1 := (List.getElem?_eq_some_iff.mp hy).1
      rw [show k = 0 by omega] at hy
      cases hy
      exact e1)) (hD.push hP rfl (AA_new hK _ hS.1))
  obtain ⟨t, b1, b2⟩ := kk H.size H1 hF1 ⟨Nat.le_trans hS.1 (by omega), fun y h1 h2 => (o1 y (Nat.lt_of_lt_of_le h1 hS.1)).trans (hS.2.1 y h1 h2), hS.2.2⟩
    ((T.setVm vm').pushCell (vp_cell (Γ.2.1 5) (4, rfs (fun j => some (Γ.2.2 (10 + j)))))) (by rw [← hH1, ← hT]; rfl) X'
  refine ⟨t, st t ?_, b2⟩
  rw [hcellE, hT]
  exact b1
end MAKE
theorem rep_arrV {comp : ClassId} {M : Nat} : Jvm.Free.Multi.innerC comp M (.int 0) = arrV comp M (fun _ => .int 0) := by
  have e : Array.replicate M (Value.int 0) = (arrV comp M (fun _ => .int 0)).slots := by
    apply Array.ext_getElem?
    intro i
    by_cases hi : i < M
    · rw [arrV_read _ _ hi]
      simp [hi]
    · rw [Array.getElem?_eq_none (by simp; omega), Array.getElem?_eq_none (by rw [arrV_size]; omega)]
  show ({ cls := comp, slots := Array.replicate M (Value.int 0), vm := .none } : Cell) = _
  rw [e]
  rfl
theorem outC_form {cA : ClassId} {N h0 : Nat} : ∀ i, Jvm.Free.Multi.outerC cA N h0 i = { cls := cA, slots := (Jvm.Free.Multi.outerC cA N h0 i).slots, vm := .none }
  | 0 => rfl
  | i + 1 => by
    show (Jvm.Free.Multi.outerC cA N h0 i).setSlot i _ = { cls := cA, slots := ((Jvm.Free.Multi.outerC cA N h0 i).setSlot i _).slots, vm := .none }
    rw [outC_form i]
    rfl
theorem out_arrV {cA : ClassId} {N h0 : Nat} : Jvm.Free.Multi.outerC cA N h0 N = arrV cA N (fun j => .ref (h0 + 1 + j)) := by
  obtain ⟨o1, o2, o3⟩ := Jvm.Free.Multi.outerC_facts cA N h0 N
  have e : (Jvm.Free.Multi.outerC cA N h0 N).slots = (arrV cA N (fun j => .ref (h0 + 1 + j))).slots := by
    apply Array.ext_getElem?
    intro i
    by_cases hi : i < N
    · rw [arrV_read _ _ hi, Jvm.Free.Multi.outerC_slot cA N h0 N i hi, if_pos hi]
    · rw [Array.getElem?_eq_none (by omega), Array.getElem?_eq_none (by rw [arrV_size]; omega)]
  rw [outC_form N, e]
  rfl
theorem nodup_gi (gi n : Nat) : ((List.range n).map (fun i => (gi, i))).Nodup := by
  refine List.pairwise_map.mpr ?_
  refine List.Pairwise.imp ?_ (List.nodup_range (n := n))
  intro x y h q
  exact h (congrArg Prod.snd q)
/-- one id and n of another group come at once -/
def mAd (ad : Nat → Nat → Nat) (g a gi z : Nat) : Nat → Nat → Nat := fun x y => if x = g ∧ y = a then z else if x = gi then z + 1 + y else ad x y
def mP (P : Pic) (g a gi n : Nat) (e : va_E) (ei : va_E) : Pic := fun x y => if x = g ∧ y = a then some e else if x = gi then (if y < n then some ei else none) else P x y
theorem Fam.multi {D : va_G} {cl : List vw_C} {A : Nat → Prop} {ad : Nat → Nat → Nat} {P : Pic} {H H1 : Heap} (h : Fam D cl A ad P H) {g a gi n : Nat} (hne : g ≠ gi) (hg : P g a = none) {e ei : va_E}
    (hold : ∀ q : Nat, q < H.size → H1[q]? = H[q]?) (he : va_at D cl (H.size, e) H1) (hei : ∀ i, i < n → va_at D cl (H.size + 1 + i, ei) H1) (hA : ∀ q : Nat, H.size ≤ q → A q) :
    Fam D cl A (mAd ad g a gi H.size) (mP P g a gi n e ei) H1 := by
  have hlt : ∀ x y e1, P x y = some e1 → ad x y < H.size := fun x y e1 h1 => (h.2.1 x y e1 h1).1.lt
  obtain ⟨⟨L0, hn0, hL0⟩, hA0, hi⟩ := h
  have cs : ∀ x y e1, mP P g a gi n e ei x y = some e1 → (x = g ∧ y = a ∧ e1 = e ∧ mAd ad g a gi H.size x y = H.size) ∨ (x = gi ∧ y < n ∧ e1 = ei ∧ mAd ad g a gi H.size x y = H.size + 1 + y) ∨ (¬ (x = g ∧ y = a) ∧ x ≠ gi ∧ P x y = some e1 ∧ mAd ad g a gi H.size x y = ad x y) := by
    intro x y e1 h1
    unfold mP at h1
    unfold mAd
    by_cases c1 : x = g ∧ y = a
    · rw [if_pos c1] at h1 ⊢
      exact Or.inl ⟨c1.1, c1.2, (Option.some.inj h1).symm, rfl⟩
    · rw [if_neg c1] at h1 ⊢
      by_cases c2 : x = gi
      · rw [if_pos c2] at h1 ⊢
        by_cases c3 : y < n
        · rw [if_pos c3] at h1
          exact Or.inr (Or.inl ⟨c2, c3, (Option.some.inj h1).symm, rfl⟩)
        · rw [if_neg c3] at h1
          cases h1
      · rw [if_neg c2] at h1 ⊢
        exact Or.inr (Or.inr ⟨c1, c2, h1, rfl⟩)
  have some_of : ∀ (o : Option va_E), o ≠ none → ∃ e1, o = some e1 := fun o ho => by
    cases o with
    | none => exact absurd rfl ho
    | some e1 => exact ⟨e1, rfl⟩
  refine ⟨?_, ?_, ?_⟩
  · refine ⟨(g, a) :: ((List.range n).map (fun i => (gi, i)) ++ L0.filter (fun i => decide (i ≠ (g, a)) && decide (i.1 ≠ gi))), List.nodup_cons.mpr ⟨fun hc => ?_, List.pairwise_append.mpr ⟨nodup_gi gi n, List.Pairwise.filter _ hn0, fun u hu v hv q => ?_⟩⟩, fun x y hx => ?_⟩
    · rcases List.mem_append.mp hc with hc | hc
      · obtain ⟨i, -, hi2⟩ := List.mem_map.mp hc
        exact hne (congrArg Prod.fst hi2).symm
      · have := (List.mem_filter.mp hc).2
        simp at this
    · obtain ⟨i, -, rfl⟩ := List.mem_map.mp hu
      have := (List.mem_filter.mp hv).2
      rw [← q] at this
      simp at this
    obtain ⟨e1, he1⟩ := some_of _ hx
    rcases cs x y e1 he1 with ⟨c1, c2, -, -⟩ | ⟨c1, c2, -, -⟩ | ⟨d1, d2, c3, -⟩
    · rw [c1, c2]; exact List.mem_cons_self
    · refine List.mem_cons_of_mem _ (List.mem_append_left _ (List.mem_map.mpr ⟨y, List.mem_range.mpr c2, by rw [c1]⟩))
    · refine List.mem_cons_of_mem _ (List.mem_append_right _ (List.mem_filter.mpr ⟨hL0 x y (by rw [c3]; exact Option.some_ne_none _), ?_⟩))
      have d3 : (x, y) ≠ (g, a) := fun q => d1 ⟨congrArg Prod.fst q, congrArg Prod.snd q⟩
      simp [d2]
      by_cases q1 : x = g
      · exact Or.inr (fun q2 => d1 ⟨q1, q2⟩)
      · exact Or.inl q1
  · intro x y e1 he1
    rcases cs x y e1 he1 with ⟨-, -, c3, c4⟩ | ⟨-, c2, c3, c4⟩ | ⟨-, -, c3, c4⟩
    · rw [c3, c4]; exact ⟨he, hA _ (Nat.le_refl _)⟩
    · rw [c3, c4]; exact ⟨hei y c2, hA _ (by omega)⟩
    · rw [c4]
      exact ⟨(hA0 x y e1 c3).1.kept (hold _ (hlt x y e1 c3)), (hA0 x y e1 c3).2⟩
  · intro x y x' y' h1 h2 h3
    obtain ⟨e1, he1⟩ := some_of _ h1
    obtain ⟨e2, he2⟩ := some_of _ h2
    rcases cs x y e1 he1 with ⟨a1, a2, -, a4⟩ | ⟨a1, a2, -, a4⟩ | ⟨a1, a2, a3, a4⟩ <;> rcases cs x' y' e2 he2 with ⟨b1, b2, -, b4⟩ | ⟨b1, b2, -, b4⟩ | ⟨b1, b2, b3, b4⟩ <;> rw [a4, b4] at h3
    · exact ⟨a1.trans b1.symm, a2.trans b2.symm⟩
    · omega
    · have := hlt _ _ _ b3; omega
    · omega
    · exact ⟨a1.trans b1.symm, by omega⟩
    · have := hlt _ _ _ b3; omega
    · have := hlt _ _ _ a3; omega
    · have := hlt _ _ _ a3; omega
    · exact hi x y x' y' (by rw [a3]; exact Option.some_ne_none _) (by rw [b3]; exact Option.some_ne_none _) h3
section MULTI
variable {p : Program} {l : Launch} {e : Env} {R : Room} {s : State} {m : MethodId} {args : Array Value} {below : List Frame} {meth : Method} {c : Code} {H : Heap} {locs : List Loc} {cells slots : Nat} {Q : State → Prop}
variable {cc : ByteArray} {pc : Nat} {ls : Array Slot} {rest : List Value} {Γ : Gm} {ad : Nat → Nat → Nat} {P : Pic}
/-- 'new int[48][3]' -/
theorem r_multi (hx : p.tables.exec = Jvm.exec) (hb : c.code = cc) {own : String} {index : Nat} (hown : s.vm.findClass own = some m.cls) (hclink : (Cond.classLink own index "[[I").before args s = true) (harr : (Cond.arrayClass .int).before args s = true)
    (hK : Kn Γ s s.heap) (hF : FF Γ ad P H) (hS : va_S (AA Γ) s.heap H locs) (g a gi : Nat) (hne : g ≠ gi) (hg : P g a = none)
    (hcells : cells + 49 ≤ R.cells) (hslots : slots + 192 ≤ R.slots) (hdg : decode cc pc = .ok (.multianewarray index 2, 4))
    (kk : ∀ (q : Nat) (H1 : Heap), FF Γ (mAd ad g a gi q) (mP P g a gi 48 (.inl (Γ.2.1 6, 48, rfs (fun j => some (q + 1 + j)))) (.inl (Γ.2.1 0, 3, .inl (fun _ => 0)))) H1 → va_S (AA Γ) s.heap H1 locs → W p l e R s m args below meth c H1 locs (cells + 49) (slots + 192) Q (F0 m (pc + 4) ls (.ref q :: rest))) : W p l e R s m args below meth c H locs cells slots Q (F0 m pc ls (.int 3 :: .int 48 :: rest)) := by
  intro T hT X
  have e48 : (48 : Int32).toNatClampNeg = 48 := rfl
  have e3 : (3 : Int32).toNatClampNeg = 3 := rfl
  obtain ⟨vm₁, cA, comp, hW, hfA, hfC, -, -, X1, step⟩ := X.multianewarray2F hx (own := own) (index := index) (ty := .int) hown hclink (show (Cond.arrayOver (.array .int)).before args s = true from hK.over 2 rfl) harr (g := F0 m pc ls (.int 3 :: .int 48 :: rest)) rfl (by rw [hb]; exact hdg) (n := 48) (k := 3) (rest := rest) rfl (by decide) (by decide) (by decide) (by decide) (by decide) rfl rfl (by rw [e48]; exact hcells) (by rw [e48, e3]; exact hslots)
  have hcA : cA = Γ.2.1 6 := tyF_one hK (k := 6) rfl hfA
  have hcC : comp = Γ.2.1 0 := tyF_one hK (k := 0) rfl hfC
  subst hcA
  subst hcC
  rw [e48, e3] at X1 step
  obtain ⟨f1, f2, f3, f4⟩ := Jvm.Free.Multi.fill_facts (T.setVm vm₁) (Γ.2.1 6) (Γ.2.1 0) 48 3 (defaultValue .int) 48
  have hsz : (T.setVm vm₁).heap.size = H.size := by rw [← hT]; rfl
  have hh : (T.setVm vm₁).heap = H := by rw [← hT]; rfl
  generalize hT1 : Jvm.Free.Multi.fill (T.setVm vm₁) (Γ.2.1 6) (Γ.2.1 0) 48 3 (defaultValue .int) 48 = T1 at X1 step f1 f2 f3 f4
  have hold : ∀ q : Nat, q < H.size → T1.heap[q]? = H[q]? := fun q hq => by
    rw [← hT1, ← hh]
    exact Jvm.Free.Multi.fill_old (T.setVm vm₁) (Γ.2.1 6) (Γ.2.1 0) 48 3 (defaultValue .int) (by rw [hsz]; exact hq) 48
  have hF1 := hF.multi (H1 := T1.heap) (g := g) (a := a) (gi := gi) (n := 48) hne hg (e := .inl (Γ.2.1 6, 48, rfs (fun j => some (H.size + 1 + j)))) (ei := .inl (Γ.2.1 0, 3, .inl (fun _ => 0))) hold
    (by
      show T1.heap[H.size]? = some (arrV (Γ.2.1 6) 48 (fun j => .ref (H.size + 1 + j)))
      rw [← out_arrV, ← hsz]
      exact f2)
    (fun i hi => by
      show T1.heap[H.size + 1 + i]? = some (arrV (Γ.2.1 0) 3 (fun _ => .int 0))
      rw [← rep_arrV, ← hsz, ← hT1]
      exact Jvm.Free.Multi.fill_inner (T.setVm vm₁) (Γ.2.1 6) (Γ.2.1 0) 48 3 (defaultValue .int) 48 i hi)
    (fun q hq => AA_new hK q (Nat.le_trans hS.1 hq))
  obtain ⟨t, b1, b2⟩ := kk H.size T1.heap hF1 ⟨by rw [f1, hsz]; have := hS.1; omega, fun y h1 h2 => (hold y (Nat.lt_of_lt_of_le h1 hS.1)).trans (hS.2.1 y h1 h2), hS.2.2⟩ T1 rfl X1
  refine ⟨t, step t ?_, b2⟩
  rw [hT]
  exact b1
end MULTI
