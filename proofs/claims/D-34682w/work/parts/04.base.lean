/-! BASE: one world as a family of cells told by ids (group, number); ad: where each lies, P: what each holds -/
def fu {α : Type} (f : Nat → Nat → α) (g a : Nat) (v : α) : Nat → Nat → α := fun x y => if x = g then (if y = a then v else f x y) else f x y
theorem fu_same {α : Type} (f : Nat → Nat → α) (g a : Nat) (v : α) : fu f g a v g a = v := by simp [fu]
theorem fu_ne {α : Type} (f : Nat → Nat → α) {g a x y : Nat} (v : α) (h : ¬ (x = g ∧ y = a)) : fu f g a v x y = f x y := by
  unfold fu
  by_cases h1 : x = g
  · rw [if_pos h1, if_neg (fun h2 => h ⟨h1, h2⟩)]
  · rw [if_neg h1]
theorem fu_neg {α : Type} (f : Nat → Nat → α) {g a x y : Nat} (v : α) (h : x ≠ g) : fu f g a v x y = f x y := fu_ne f v (fun q => h q.1)
theorem fu_nea {α : Type} (f : Nat → Nat → α) {g a x y : Nat} (v : α) (h : y ≠ a) : fu f g a v x y = f x y := fu_ne f v (fun q => h q.2)
abbrev Pic : Type := Nat → Nat → Option va_E
def Fam (D : va_G) (cl : List vw_C) (A : Nat → Prop) (ad : Nat → Nat → Nat) (P : Pic) (H : Heap) : Prop :=
  (∃ L : List (Nat × Nat), L.Nodup ∧ ∀ g a, P g a ≠ none → (g, a) ∈ L) ∧
  (∀ g a e, P g a = some e → va_at D cl (ad g a, e) H ∧ A (ad g a)) ∧
  ∀ g a x y, P g a ≠ none → P x y ≠ none → ad g a = ad x y → g = x ∧ a = y
def fw (ad : Nat → Nat → Nat) (P : Pic) (L : List (Nat × Nat)) : va_W := L.map (fun i => (ad i.1 i.2, (P i.1 i.2).getD (.inr (0, []))))
theorem fw_get {ad : Nat → Nat → Nat} {P : Pic} {L : List (Nat × Nat)} {k g a : Nat} {e : va_E} (hk : L[k]? = some (g, a)) (he : P g a = some e) : (fw ad P L)[k]? = some (ad g a, e) := by
  unfold fw
  rw [List.getElem?_map, hk]
  simp [he]
theorem fw_inv {ad : Nat → Nat → Nat} {P : Pic} {L : List (Nat × Nat)} {k : Nat} {q : Nat × va_E} (hq : (fw ad P L)[k]? = some q) : ∃ g a, L[k]? = some (g, a) ∧ q = (ad g a, (P g a).getD (.inr (0, []))) := by
  unfold fw at hq
  rw [List.getElem?_map] at hq
  cases hi : L[k]? with
  | none => rw [hi] at hq; cases hq
  | some i => rw [hi] at hq; exact ⟨i.1, i.2, rfl, (Option.some.inj hq).symm⟩
theorem fw_len (ad : Nat → Nat → Nat) (P : Pic) (L : List (Nat × Nat)) : (fw ad P L).length = L.length := List.length_map ..
/-- the family as one of the kit's worlds -/
theorem Fam.out {D : va_G} {cl : List vw_C} {A : Nat → Prop} {ad : Nat → Nat → Nat} {P : Pic} {H : Heap} (h : Fam D cl A ad P H) :
    ∃ L : List (Nat × Nat), L.Nodup ∧ (∀ g a, (g, a) ∈ L ↔ P g a ≠ none) ∧ va_P D cl (fw ad P L) H ∧ va_D A (fw ad P L) := by
  obtain ⟨⟨L, hn, hL⟩, hA, hi⟩ := h
  have hm : ∀ g a, (g, a) ∈ L.filter (fun i => (P i.1 i.2).isSome) ↔ P g a ≠ none := by
    intro g a
    rw [List.mem_filter]
    constructor
    · intro h e
      have h2 := h.2
      simp [e] at h2
    · intro h
      refine ⟨hL g a h, ?_⟩
      cases hp : P g a with
      | none => exact absurd hp h
      | some e => simp [hp]
  have hn' : (L.filter (fun i => (P i.1 i.2).isSome)).Nodup := List.Pairwise.filter _ hn
  refine ⟨L.filter (fun i => (P i.1 i.2).isSome), hn', hm, ?_, ?_, ?_⟩
  · intro k q hq
    obtain ⟨g, a, h1, rfl⟩ := fw_inv hq
    cases hp : P g a with
    | none => exact absurd hp ((hm g a).mp (List.mem_of_getElem? h1))
    | some e => exact (hA g a e hp).1
  · intro i j p q hp hq hpq
    obtain ⟨g, a, h1, rfl⟩ := fw_inv hp
    obtain ⟨x, y, h2, rfl⟩ := fw_inv hq
    obtain ⟨rfl, rfl⟩ := hi g a x y ((hm g a).mp (List.mem_of_getElem? h1)) ((hm x y).mp (List.mem_of_getElem? h2)) hpq
    exact (List.getElem?_inj (List.getElem?_eq_some_iff.mp h1).1 hn').mp (h1.trans h2.symm)
  · intro k q hq
    obtain ⟨g, a, h1, rfl⟩ := fw_inv hq
    cases hp : P g a with
    | none => exact absurd hp ((hm g a).mp (List.mem_of_getElem? h1))
    | some e => exact (hA g a e hp).2
theorem Fam.one {D : va_G} {cl : List vw_C} {A : Nat → Prop} {ad : Nat → Nat → Nat} {P : Pic} {H : Heap} (h : Fam D cl A ad P H) {g a : Nat} {e : va_E} (he : P g a = some e) : va_P D cl [(ad g a, e)] H := by
  intro k q hk
  cases k with
  | zero => cases hk; exact (h.2.1 g a e he).1
  | succ k => cases hk
theorem Fam.lt {D : va_G} {cl : List vw_C} {A : Nat → Prop} {ad : Nat → Nat → Nat} {P : Pic} {H : Heap} (h : Fam D cl A ad P H) {g a : Nat} {e : va_E} (he : P g a = some e) : ad g a < H.size := (h.2.1 g a e he).1.lt
/-- a cell is written -/
theorem Fam.set {D : va_G} {cl : List vw_C} {A : Nat → Prop} {ad : Nat → Nat → Nat} {P : Pic} {H H1 : Heap} {L : List (Nat × Nat)} {g a k : Nat} {e : va_E} (h : Fam D cl A ad P H) (hm : ∀ g a, (g, a) ∈ L ↔ P g a ≠ none) (hk : L[k]? = some (g, a)) (hP : va_P D cl ((fw ad P L).set k (ad g a, e)) H1) : Fam D cl A ad (fu P g a (some e)) H1 := by
  obtain ⟨⟨L0, hn0, hL0⟩, hA, hi⟩ := h
  have hga : P g a ≠ none := (hm g a).mp (List.mem_of_getElem? hk)
  have live : ∀ x y, fu P g a (some e) x y ≠ none → P x y ≠ none := by
    intro x y hx
    by_cases hxy : x = g ∧ y = a
    · rw [hxy.1, hxy.2]; exact hga
    · rw [fu_ne _ _ hxy] at hx; exact hx
  refine ⟨⟨L0, hn0, fun x y hx => hL0 x y (live x y hx)⟩, ?_, fun x y x' y' h1 h2 => hi x y x' y' (live x y h1) (live x' y' h2)⟩
  intro x y e' he'
  by_cases hxy : x = g ∧ y = a
  · obtain ⟨rfl, rfl⟩ := hxy
    rw [fu_same] at he'
    cases he'
    have hlt : k < (fw ad P L).length := by rw [fw_len]; exact (List.getElem?_eq_some_iff.mp hk).1
    refine ⟨hP k _ (List.getElem?_set_self hlt), ?_⟩
    cases hp : P x y with
    | none => exact absurd hp hga
    | some e0 => exact (hA x y e0 hp).2
  · rw [fu_ne _ _ hxy] at he'
    obtain ⟨j, hj⟩ := List.getElem?_of_mem ((hm x y).mpr (by rw [he']; exact Option.some_ne_none _))
    have hjk : k ≠ j := by
      intro q
      subst q
      have := Option.some.inj (hk.symm.trans hj)
      exact hxy ⟨(congrArg Prod.fst this).symm, (congrArg Prod.snd this).symm⟩
    refine ⟨hP j _ ?_, (hA x y e' he').2⟩
    rw [List.getElem?_set_ne hjk]
    exact fw_get hj he'
/-- a cell is made -/
theorem Fam.push {D : va_G} {cl : List vw_C} {A : Nat → Prop} {ad : Nat → Nat → Nat} {P : Pic} {H H1 : Heap} {L : List (Nat × Nat)} {g a q : Nat} {e : va_E} (h : Fam D cl A ad P H) (hnone : P g a = none) (hm : ∀ g a, (g, a) ∈ L ↔ P g a ≠ none) (hP : va_P D cl (fw ad P L ++ [(q, e)]) H1) (hD : va_D A (fw ad P L ++ [(q, e)])) : Fam D cl A (fu ad g a q) (fu P g a (some e)) H1 := by
  obtain ⟨⟨L0, hn0, hL0⟩, hA, hi⟩ := h
  have hlast : (fw ad P L ++ [(q, e)])[(fw ad P L).length]? = some (q, e) := by
    rw [List.getElem?_append_right (Nat.le_refl _), Nat.sub_self]
    rfl
  have old : ∀ x y e', ¬ (x = g ∧ y = a) → P x y = some e' → ∃ j, j < (fw ad P L).length ∧ (fw ad P L ++ [(q, e)])[j]? = some (ad x y, e') := by
    intro x y e' _ he'
    obtain ⟨j, hj⟩ := List.getElem?_of_mem ((hm x y).mpr (by rw [he']; exact Option.some_ne_none _))
    have hlt : j < (fw ad P L).length := by rw [fw_len]; exact (List.getElem?_eq_some_iff.mp hj).1
    exact ⟨j, hlt, by rw [List.getElem?_append_left hlt]; exact fw_get hj he'⟩
  have ne : ∀ x y, ¬ (x = g ∧ y = a) → P x y ≠ none → q ≠ ad x y := by
    intro x y hxy hp hq
    cases he' : P x y with
    | none => exact hp he'
    | some e' =>
      obtain ⟨j, hlt, hj⟩ := old x y e' hxy he'
      have := hD.1 _ _ _ _ hlast hj hq
      omega
  refine ⟨?_, ?_, ?_⟩
  · refine ⟨(g, a) :: L0.filter (fun i => decide (i ≠ (g, a))), List.nodup_cons.mpr ⟨fun hc => ?_, List.Pairwise.filter _ hn0⟩, fun x y hx => ?_⟩
    · have := (List.mem_filter.mp hc).2
      simp at this
    · by_cases hxy : x = g ∧ y = a
      · rw [hxy.1, hxy.2]; exact List.mem_cons_self
      · rw [fu_ne _ _ hxy] at hx
        refine List.mem_cons_of_mem _ (List.mem_filter.mpr ⟨hL0 x y hx, ?_⟩)
        simp only [decide_eq_true_eq]
        intro hc
        exact hxy ⟨congrArg Prod.fst hc, congrArg Prod.snd hc⟩
  · intro x y e' he'
    by_cases hxy : x = g ∧ y = a
    · obtain ⟨rfl, rfl⟩ := hxy
      rw [fu_same] at he' ⊢
      cases he'
      exact ⟨hP _ _ hlast, hD.2 _ _ hlast⟩
    · rw [fu_ne _ _ hxy] at he' ⊢
      obtain ⟨j, hlt, hj⟩ := old x y e' hxy he'
      exact ⟨hP _ _ hj, (hA x y e' he').2⟩
  · intro x y x' y' h1 h2 h3
    by_cases hxy : x = g ∧ y = a <;> by_cases hxy' : x' = g ∧ y' = a
    · exact ⟨hxy.1.trans hxy'.1.symm, hxy.2.trans hxy'.2.symm⟩
    · rw [fu_ne _ _ hxy'] at h2 h3
      obtain ⟨rfl, rfl⟩ := hxy
      rw [fu_same] at h3
      exact absurd h3 (ne x' y' hxy' h2)
    · rw [fu_ne _ _ hxy] at h1 h3
      obtain ⟨rfl, rfl⟩ := hxy'
      rw [fu_same] at h3
      exact absurd h3.symm (ne x y hxy h1)
    · rw [fu_ne _ _ hxy] at h1 h3
      rw [fu_ne _ _ hxy'] at h2 h3
      exact hi x y x' y' h1 h2 h3
/-- cells that hold the same -/
def va_like (e e' : va_E) : Prop := ∀ (D : va_G) (cl : List vw_C) (q : Nat) (H : Heap), va_at D cl (q, e) H → va_at D cl (q, e') H
theorem va_like.rf {e : va_E} : va_like e e := fun _ _ _ _ h => h
theorem va_like.of {e e' : va_E} (h : e = e') : va_like e e' := by subst h; exact va_like.rf
/-- the same family, told otherwise: fewer ids, other names -/
theorem Fam.as {D : va_G} {cl : List vw_C} {A : Nat → Prop} {ad ad' : Nat → Nat → Nat} {P P' : Pic} {H : Heap} (h : Fam D cl A ad P H) (φ : Nat → Nat → Nat × Nat)
    (h1 : ∀ g a e', P' g a = some e' → ∃ e, P (φ g a).1 (φ g a).2 = some e ∧ va_like e e' ∧ ad' g a = ad (φ g a).1 (φ g a).2)
    (h2 : ∀ g a x y, P' g a ≠ none → P' x y ≠ none → φ g a = φ x y → g = x ∧ a = y) (h3 : ∃ L : List (Nat × Nat), L.Nodup ∧ ∀ g a, P' g a ≠ none → (g, a) ∈ L) : Fam D cl A ad' P' H := by
  obtain ⟨-, hA, hi⟩ := h
  refine ⟨h3, fun g a e' he' => ?_, fun g a x y hg hx hgx => ?_⟩
  · obtain ⟨e, k1, k2, k3⟩ := h1 g a e' he'
    rw [k3]
    exact ⟨k2 _ _ _ _ (hA _ _ e k1).1, (hA _ _ e k1).2⟩
  · cases he : P' g a with
    | none => exact absurd he hg
    | some e1 =>
      cases hx' : P' x y with
      | none => exact absurd hx' hx
      | some e2 =>
        obtain ⟨f1, k1, -, k3⟩ := h1 g a e1 he
        obtain ⟨f2, m1, -, m3⟩ := h1 x y e2 hx'
        have := hi _ _ _ _ (by rw [k1]; exact Option.some_ne_none _) (by rw [m1]; exact Option.some_ne_none _) (k3.symm.trans (hgx.trans m3))
        exact h2 g a x y hg hx (Prod.ext this.1 this.2)
/-- fewer ids, or cells told otherwise -/
theorem Fam.to {D : va_G} {cl : List vw_C} {A : Nat → Prop} {ad ad' : Nat → Nat → Nat} {P P' : Pic} {H : Heap} (h : Fam D cl A ad P H) (h1 : ∀ g a e', P' g a = some e' → ∃ e, P g a = some e ∧ va_like e e' ∧ ad' g a = ad g a) : Fam D cl A ad' P' H := by
  obtain ⟨L, hn, hL⟩ := h.1
  refine h.as (fun g a => (g, a)) h1 (fun g a x y _ _ q => ⟨congrArg Prod.fst q, congrArg Prod.snd q⟩) ⟨L, hn, fun g a hp => hL g a ?_⟩
  cases he : P' g a with
  | none => exact absurd he hp
  | some e1 =>
    obtain ⟨e, k1, -⟩ := h1 g a e1 he
    rw [k1]
    exact Option.some_ne_none _
/-- one id gets another's cell -/
theorem Fam.move {D : va_G} {cl : List vw_C} {A : Nat → Prop} {ad : Nat → Nat → Nat} {P : Pic} {H : Heap} (h : Fam D cl A ad P H) (t u g a : Nat) (hne : ¬ (t = g ∧ u = a)) : Fam D cl A (fu ad g a (ad t u)) (fu (fu P g a (P t u)) t u none) H := by
  obtain ⟨L, hn, hL⟩ := h.1
  have hval : ∀ x y, fu (fu P g a (P t u)) t u none x y ≠ none → ¬ (x = t ∧ y = u) := by
    intro x y hx hq
    rw [hq.1, hq.2, fu_same] at hx
    exact hx rfl
  refine h.as (fun x y => if x = g ∧ y = a then (t, u) else (x, y)) (fun x y e' he' => ?_) (fun x y x' y' h1 h2 q => ?_) ⟨(g, a) :: L.filter (fun i => decide (i ≠ (g, a))), List.nodup_cons.mpr ⟨fun hc => ?_, List.Pairwise.filter _ hn⟩, fun x y hx => ?_⟩
  · have hxy := hval x y (by rw [he']; exact Option.some_ne_none _)
    rw [fu_ne _ _ hxy] at he'
    by_cases hq : x = g ∧ y = a
    · obtain ⟨rfl, rfl⟩ := hq
      rw [fu_same] at he'
      refine ⟨e', ?_, va_like.rf, ?_⟩
      · simp only [and_self, if_true]; exact he'
      · simp only [and_self, if_true]; exact fu_same ..
    · rw [fu_ne _ _ hq] at he'
      refine ⟨e', ?_, va_like.rf, ?_⟩
      · rw [if_neg hq]; exact he'
      · rw [if_neg hq]; exact fu_ne _ _ hq
  · have hxy := hval x y h1
    have hxy' := hval x' y' h2
    by_cases hq : x = g ∧ y = a <;> by_cases hq' : x' = g ∧ y' = a
    · exact ⟨hq.1.trans hq'.1.symm, hq.2.trans hq'.2.symm⟩
    · rw [if_pos hq, if_neg hq'] at q
      exact absurd ⟨(congrArg Prod.fst q).symm, (congrArg Prod.snd q).symm⟩ hxy'
    · rw [if_neg hq, if_pos hq'] at q
      exact absurd ⟨congrArg Prod.fst q, congrArg Prod.snd q⟩ hxy
    · rw [if_neg hq, if_neg hq'] at q
      exact ⟨congrArg Prod.fst q, congrArg Prod.snd q⟩
  · have := (List.mem_filter.mp hc).2
    simp at this
  · have hxy := hval x y hx
    rw [fu_ne _ _ hxy] at hx
    by_cases hq : x = g ∧ y = a
    · rw [hq.1, hq.2]; exact List.mem_cons_self
    · rw [fu_ne _ _ hq] at hx
      refine List.mem_cons_of_mem _ (List.mem_filter.mpr ⟨hL x y hx, ?_⟩)
      simp only [decide_eq_true_eq]
      intro hc
      exact hq ⟨congrArg Prod.fst hc, congrArg Prod.snd hc⟩
/-- the heap has grown, what was there stays -/
theorem Fam.grown {D : va_G} {cl : List vw_C} {A : Nat → Prop} {ad : Nat → Nat → Nat} {P : Pic} {H H1 : Heap} (h : Fam D cl A ad P H) (hk : ∀ q : Nat, q < H.size → H1[q]? = H[q]?) : Fam D cl A ad P H1 :=
  ⟨h.1, fun g a e he => ⟨(h.2.1 g a e he).1.kept (hk _ (h.2.1 g a e he).1.lt), (h.2.1 g a e he).2⟩, h.2.2⟩
theorem arrV_like {cA : ClassId} {N : Nat} {f g : Nat → Value} (h : ∀ j, j < N → f j = g j) : arrV cA N f = arrV cA N g := by
  have e : (fun j : Fin N => f j.val) = (fun j : Fin N => g j.val) := funext fun j => h j.val j.isLt
  unfold arrV
  rw [e]
theorem like_arr {cA : ClassId} {n : Nat} {f g : Nat → Int32} (h : ∀ j, j < n → f j = g j) : va_like (.inl (cA, n, .inl f)) (.inl (cA, n, .inl g)) := by
  intro D cl q H hq
  have e : vp_cell cA (n, .inl f) = vp_cell cA (n, .inl g) := by
    rw [vp_cell_i, vp_cell_i]
    exact arrV_like (fun j hj => by rw [h j hj])
  exact (show H[q]? = some (vp_cell cA (n, .inl f)) from hq).trans (congrArg some e)
theorem like_ref {cA : ClassId} {n : Nat} {f g : Nat → Option Nat} (h : ∀ j, j < n → f j = g j) : va_like (.inl (cA, n, .inr (.inr (.inr (.inr f))))) (.inl (cA, n, .inr (.inr (.inr (.inr g))))) := by
  intro D cl q H hq
  have e : vp_cell cA (n, .inr (.inr (.inr (.inr f)))) = vp_cell cA (n, .inr (.inr (.inr (.inr g)))) := by
    rw [vp_cell_q, vp_cell_q]
    exact arrV_like (fun j hj => by rw [h j hj])
  exact (show H[q]? = some (vp_cell cA (n, .inr (.inr (.inr (.inr f))))) from hq).trans (congrArg some e)
