set_option maxHeartbeats 4000000 in
set_option maxRecDepth 100000 in
/-- newLength -/
theorem met_J12_newLength (l : Launch) (Γ : Gm) (ad : Nat → Nat → Nat) (P : Pic) (n m0 p0 : Nat) (hn : n < 1000) (hm0 : m0 < 1000) (hp0 : p0 < 1000) (h1 : 1 ≤ m0) : Met l yJ12_newLength (ws_ yJ12_newLength cJ12_newLength 4 (some .int)) ({ frames := 1, cells := 0, slots := 0, locals := 21 }) (va_Pc [.int (nI n), .int (nI m0), .int (nI p0)] (SF Γ ad (P))) (gEi Γ (nI (n + max m0 p0)) ad P) 0 0 (AA Γ) := by
  refine Met.ofW (cc := cJ12_newLength) (maxL := 4) (ret := (some .int)) (by decide) rfl ?_
  intro p e s m args below meth c s₁ B hml hv
  obtain ⟨rfl, hK, hF⟩ := hv
  have hx := B.exec
  have hb := B.bytes
  have hr := B.returns
  have hts := atoms_spec (ws := ws_ yJ12_newLength cJ12_newLength 4 (some .int)) B.pre
  have hts : ∀ w ∈ lw_all, w.before _ s = true := fun w h => hts w (List.mem_cons_of_mem _ h)
  have hown : s.vm.findClass RJ12 = some m.cls := findClass_of_methodNamed B.named
  have hlocks := B.notSynchronized
  have hS : va_S (AA Γ) s.heap s.heap [] := va_S.rf
  have hl := lv_entry ([.int (nI n), .int (nI m0), .int (nI p0)]) (n := 4) (Nat.le_of_ble_eq_true rfl)
  rw [lg_entry_eq]
  generalize (lg_sl ([.int (nI n), .int (nI m0), .int (nI p0)]) ++ List.replicate (4 - (lg_sl ([.int (nI n), .int (nI m0), .int (nI p0)])).length) Slot.unset).toArray = ls at hl ⊢
  have hl : lv_has ls 4 [(0, .int (nI n)), (1, .int (nI m0)), (2, .int (nI p0))] := hl
  have hmx : max m0 p0 < 1000 := by omega
  have hmy : 1 ≤ max m0 p0 := by omega
  refine lv_iload_n hx hb dJ12_newLength_0 rfl (lv_at hl 0 rfl) ?_
  refine lv_iload_n hx hb dJ12_newLength_1 rfl (lv_at hl 1 rfl) ?_
  refine lv_iload_n hx hb dJ12_newLength_2 rfl (lv_at hl 2 rfl) ?_
  refine va_mmax (x := nI m0) (y := nI p0) hx hb (hml.trans hl.1.symm) hown (hts _ q418) (hts _ q419) (hts _ q43) (hts _ q420) (Nat.le_of_ble_eq_true rfl) (Nat.le_of_ble_eq_true rfl) (Nat.le_of_ble_eq_true rfl) (Nat.le_of_ble_eq_true rfl) dJ12_newLength_3 ?_
  refine lv_re (nI_max (a := m0) (b := p0) (by omega) (by omega)) ?_
  refine lv_iadd hx hb dJ12_newLength_6 ?_
  refine lv_re (nI_add _ _) ?_
  refine lv_istore_n (lv' := [(3, .int (nI (n + max m0 p0))), (0, .int (nI n)), (1, .int (nI m0)), (2, .int (nI p0))]) hx hb dJ12_newLength_7 rfl hl (by decide) rfl (fun ls hl => ?_)
  refine lv_iconst (v := 0) hx hb dJ12_newLength_8 (by decide) ?_
  refine lv_iload_n hx hb dJ12_newLength_9 rfl (lv_at hl 0 rfl) ?_
  refine lv_icmp_ge (tgt := 21) hx hb dJ12_newLength_10 (by decide) (fun c10 => absurd c10 (nI_nle (n := n + max m0 p0) (by omega) (by omega))) (fun c10 => ?_)
  refine lv_iload_n hx hb dJ12_newLength_13 rfl (lv_at hl 0 rfl) ?_
  refine lv_ldc (v := 2147483639) hx hb hown (hts _ q421) dJ12_newLength_14 ?_
  refine lv_icmp_gt (tgt := 21) hx hb dJ12_newLength_16 (by decide) (fun c16 => absurd c16 (fun q => absurd (nI_le (a := n + max m0 p0) (b := 2147483639) (by omega) (by decide)) (Int32.not_le.mpr q))) (fun c16 => ?_)
  refine lv_iload_n hx hb dJ12_newLength_19 rfl (lv_at hl 0 rfl) ?_
  exact g_iret hx hb hr hlocks hF hS dJ12_newLength_20
set_option maxHeartbeats 4000000 in
set_option maxRecDepth 100000 in
/-- copyOf -/
theorem met_J14_copyOf_2 (l : Launch) (Γ : Gm) (ad : Nat → Nat → Nat) (P : Pic) {n cap : Nat} {f : Nat → Option Nat} (he7 : P 0 7 = some (.inl (Γ.2.1 3, n, rfs f))) (hnone : P 20 0 = none) (hnc : n ≤ cap) (hcap : cap ≤ 100) (hel : ∀ i : Nat, i < n → ∃ fs, f i = some (ad 3 i) ∧ P 3 i = some (.inr (3, fs))) : Met l yJ14_copyOf_2 (ws_ yJ14_copyOf_2 cJ14_copyOf_2 4 (some (.array (.object "java/lang/Object")))) ({ frames := 1, cells := 1, slots := 100, locals := 100 }) (va_Pc [.ref (ad 0 7), .int (nI cap), .ref (Γ.2.2 2)] (SF Γ ad (P))) (gQr Γ (fun (_ : Nat) => True) (fun q => q) (fun q => fu ad 20 0 q) (fun q => fu P 20 0 (some (.inl (Γ.2.1 3, cap, rfs (va_cpy f (fun _ => none) 0 0 n)))))) 1 100 (AA Γ) := by
  refine Met.ofW (cc := cJ14_copyOf_2) (maxL := 4) (ret := (some (.array (.object "java/lang/Object")))) (by decide) rfl ?_
  intro p e s m args below meth c s₁ B hml hv
  obtain ⟨rfl, hK, hF⟩ := hv
  have hx := B.exec
  have hb := B.bytes
  have hr := B.returns
  have hts := atoms_spec (ws := ws_ yJ14_copyOf_2 cJ14_copyOf_2 4 (some (.array (.object "java/lang/Object")))) B.pre
  have hts : ∀ w ∈ lw_all, w.before _ s = true := fun w h => hts w (List.mem_cons_of_mem _ h)
  have hown : s.vm.findClass RJ14 = some m.cls := findClass_of_methodNamed B.named
  have hlocks := B.notSynchronized
  have hS : va_S (AA Γ) s.heap s.heap [] := va_S.rf
  have hl := lv_entry ([.ref (ad 0 7), .int (nI cap), .ref (Γ.2.2 2)]) (n := 4) (Nat.le_of_ble_eq_true rfl)
  rw [lg_entry_eq]
  generalize (lg_sl ([.ref (ad 0 7), .int (nI cap), .ref (Γ.2.2 2)]) ++ List.replicate (4 - (lg_sl ([.ref (ad 0 7), .int (nI cap), .ref (Γ.2.2 2)])).length) Slot.unset).toArray = ls at hl ⊢
  have hl : lv_has ls 4 [(0, .ref (ad 0 7)), (1, .int (nI cap)), (2, .ref (Γ.2.2 2))] := hl
  refine lv_aload_n hx hb dJ14_copyOf_2_0 rfl (lv_at hl 2 rfl) ?_
  refine va_ldcM hx hb hown (hts _ q449) hK.2.2.2.2.2.2.1 dJ14_copyOf_2_1 ?_
  refine lv_acmp_ne (rx := some (Γ.2.2 2)) (ry := some (Γ.2.2 2)) (tgt := 13) hx hb dJ14_copyOf_2_3 (by decide) (fun c => absurd rfl c) (fun _ => ?_)
  refine lv_iload_n hx hb dJ14_copyOf_2_6 rfl (lv_at hl 1 rfl) ?_
  refine r_newq hx hb hown (hts _ q451) 3 1 rfl rfl hK hF hS 20 0 hnone cap rfl (by omega) (Nat.le_of_ble_eq_true rfl) (Nat.le_trans (Nat.add_le_add_left hcap _) (Nat.le_of_ble_eq_true rfl)) dJ14_copyOf_2_7 (fun q H hF hS => ?_)
  refine W.widen (k := 1) (n := 100) (by omega) (by omega) ?_
  refine lv_goto (tgt := 24) hx hb dJ14_copyOf_2_10 (by decide) ?_
  refine lv_astore_n (lv' := [(3, .ref q), (0, .ref (ad 0 7)), (1, .int (nI cap)), (2, .ref (Γ.2.2 2))]) hx hb dJ14_copyOf_2_24 rfl hl (by decide) rfl (fun ls hl => ?_)
  refine lv_aload_n hx hb dJ14_copyOf_2_25 rfl (lv_at hl 1 rfl) ?_
  refine lv_iconst (v := 0) hx hb dJ14_copyOf_2_26 (by decide) ?_
  refine lv_aload_n hx hb dJ14_copyOf_2_27 rfl (lv_at hl 0 rfl) ?_
  refine lv_iconst (v := 0) hx hb dJ14_copyOf_2_28 (by decide) ?_
  refine lv_aload_n hx hb dJ14_copyOf_2_29 rfl (lv_at hl 1 rfl) ?_
  refine r_alen (v := nI n) hx hb hK hF 0 7 3 rfl he7 rfl dJ14_copyOf_2_30 ?_
  refine lv_iload_n hx hb dJ14_copyOf_2_31 rfl (lv_at hl 2 rfl) ?_
  refine va_mmin (x := nI n) (y := nI cap) hx hb (hml.trans hl.1.symm) hown (hts _ q452) (hts _ q453) (hts _ q43) (hts _ q454) (Nat.le_of_ble_eq_true rfl) (Nat.le_of_ble_eq_true rfl) (Nat.le_of_ble_eq_true rfl) (Nat.le_of_ble_eq_true rfl) dJ14_copyOf_2_32 ?_
  refine lv_re (nI_min (a := n) (b := cap) (by omega) (by omega)) ?_
  refine lv_re (show nI (min n cap) = nI n by rw [Nat.min_eq_left hnc]) ?_
  refine r_copyM (H := H) hx hb (hml.trans hl.1.symm) hown (hts _ q455) (hts _ q457) (hts _ q456) (hts _ q45) hK hF hS 0 7 20 0 he7 rfl n (Nat.le_refl _) hnc (by omega) (fun i hi y hy => ?_) (Nat.le_of_ble_eq_true rfl) (Nat.le_of_ble_eq_true rfl) dJ14_copyOf_2_35 (fun H locs hF hS => ?_)
  · obtain ⟨fs, h1, h2⟩ := hel i hi
    cases h1.symm.trans hy
    exact anyF hK hF 3 i h2 rfl (asgAO hK)
  rw [fu_fu] at hF
  refine lv_aload_n hx hb dJ14_copyOf_2_38 rfl (lv_at hl 0 rfl) ?_
  exact g_aretu (S := Nat) q rfl trivial hx hb hr (Or.inr ⟨_, rfl⟩) hlocks hF hS dJ14_copyOf_2_39
set_option maxHeartbeats 4000000 in
set_option maxRecDepth 100000 in
/-- copyOf -/
theorem met_J14_copyOf (l : Launch) (Γ : Gm) (ad : Nat → Nat → Nat) (P : Pic) {n cap : Nat} {f : Nat → Option Nat} (he7 : P 0 7 = some (.inl (Γ.2.1 3, n, rfs f))) (hnone : P 20 0 = none) (hnc : n ≤ cap) (hcap : cap ≤ 100) (hel : ∀ i : Nat, i < n → ∃ fs, f i = some (ad 3 i) ∧ P 3 i = some (.inr (3, fs))) : Met l yJ14_copyOf (ws_ yJ14_copyOf cJ14_copyOf 2 (some (.array (.object "java/lang/Object")))) ({ frames := 2, cells := 1, slots := 100, locals := 123 }) (va_Pc [.ref (ad 0 7), .int (nI cap)] (SF Γ ad (P))) (gQr Γ (fun (_ : Nat) => True) (fun q => q) (fun q => fu ad 20 0 q) (fun q => fu P 20 0 (some (.inl (Γ.2.1 3, cap, rfs (va_cpy f (fun _ => none) 0 0 n)))))) 1 100 (AA Γ) := by
  refine Met.ofW (cc := cJ14_copyOf) (maxL := 2) (ret := (some (.array (.object "java/lang/Object")))) (by decide) rfl ?_
  intro p e s m args below meth c s₁ B hml hv
  obtain ⟨rfl, hK, hF⟩ := hv
  have hx := B.exec
  have hb := B.bytes
  have hr := B.returns
  have hts := atoms_spec (ws := ws_ yJ14_copyOf cJ14_copyOf 2 (some (.array (.object "java/lang/Object")))) B.pre
  have hts : ∀ w ∈ lw_all, w.before _ s = true := fun w h => hts w (List.mem_cons_of_mem _ h)
  have hown : s.vm.findClass RJ14 = some m.cls := findClass_of_methodNamed B.named
  have hlocks := B.notSynchronized
  have hS : va_S (AA Γ) s.heap s.heap [] := va_S.rf
  have hl := lv_entry ([.ref (ad 0 7), .int (nI cap)]) (n := 2) (Nat.le_of_ble_eq_true rfl)
  rw [lg_entry_eq]
  generalize (lg_sl ([.ref (ad 0 7), .int (nI cap)]) ++ List.replicate (2 - (lg_sl ([.ref (ad 0 7), .int (nI cap)])).length) Slot.unset).toArray = ls at hl ⊢
  have hl : lv_has ls 2 [(0, .ref (ad 0 7)), (1, .int (nI cap))] := hl
  refine lv_aload_n hx hb dJ14_copyOf_0 rfl (lv_at hl 0 rfl) ?_
  refine lv_iload_n hx hb dJ14_copyOf_1 rfl (lv_at hl 1 rfl) ?_
  refine lv_aload_n hx hb dJ14_copyOf_2 rfl (lv_at hl 0 rfl) ?_
  refine va_getC hx hb (hml.trans hl.1.symm) hown (hts _ q428) (hK.word 0 rfl) (hts _ q900) (hts _ q429) (hts _ q445) hK.2.2.2.2.2.2.1 (recvA hK hF he7) (Nat.le_of_ble_eq_true rfl) (Nat.le_of_ble_eq_true rfl) dJ14_copyOf_3 ?_
  refine g_callr (va_runS (As := [.ref (ad 0 7), .int (nI cap), .ref (Γ.2.2 2)]) (rest := []) ⟨hx, hb, hml, hown, hts⟩ (met_J14_copyOf_2 l Γ ad P he7 hnone hnc hcap hel) (va_cwS 3 hts (lw_S q446 q447 q44 q448) rfl rfl rfl (by decide +kernel) ⟨Nat.le_of_ble_eq_true rfl, Nat.le_of_ble_eq_true rfl⟩) (SF_S hK hS hF) rfl rfl hl.1 rfl (lv_room (Nat.le_of_ble_eq_true rfl)) dJ14_copyOf_6 ⟨Nat.le_of_ble_eq_true rfl, Nat.le_of_ble_eq_true rfl⟩) hS (fun q H locs _ hF hS => ?_)
  exact g_aretu (S := Nat) q rfl trivial hx hb hr (Or.inr ⟨_, rfl⟩) hlocks hF hS dJ14_copyOf_9
set_option maxHeartbeats 4000000 in
set_option maxRecDepth 100000 in
/-- grow -/
theorem met_J2_grow_2a (l : Launch) (Γ : Gm) (ad : Nat → Nat → Nat) (P : Pic) {mc0 : Int32} {n : Nat} {f : Nat → Option Nat} (he6 : P 0 6 = some (.inr (1, [.int mc0, .ref (Γ.2.2 1), .int (nI n)]))) (hn : n = 0) (h7 : P 0 7 = none) : Met l yJ2_grow_2 (ws_ yJ2_grow_2 cJ2_grow_2 4 (some (.array (.object "java/lang/Object")))) ({ frames := 3, cells := 1, slots := 100, locals := 144 }) (va_Pc [.ref (ad 0 6), .int (nI (n + 1))] (SF Γ ad (P))) (gQr Γ (fun (u : Nat × Nat) => n < u.2 ∧ u.2 ≤ 100) (fun u => u.1) (fun u => fu ad 0 7 u.1) (fun u => fu (fu P 0 7 (some (.inl (Γ.2.1 3, u.2, rfs (fun j => if j < n then f j else none))))) 0 6 (some (.inr (1, [.int mc0, .ref u.1, .int (nI n)]))))) 1 100 (AA Γ) := by
  refine Met.ofW (cc := cJ2_grow_2) (maxL := 4) (ret := (some (.array (.object "java/lang/Object")))) (by decide) rfl ?_
  intro p e s m args below meth c s₁ B hml hv
  obtain ⟨rfl, hK, hF⟩ := hv
  have hx := B.exec
  have hb := B.bytes
  have hr := B.returns
  have hts := atoms_spec (ws := ws_ yJ2_grow_2 cJ2_grow_2 4 (some (.array (.object "java/lang/Object")))) B.pre
  have hts : ∀ w ∈ lw_all, w.before _ s = true := fun w h => hts w (List.mem_cons_of_mem _ h)
  have hown : s.vm.findClass RJ2 = some m.cls := findClass_of_methodNamed B.named
  have hlocks := B.notSynchronized
  have hS : va_S (AA Γ) s.heap s.heap [] := va_S.rf
  have hl := lv_entry ([.ref (ad 0 6), .int (nI (n + 1))]) (n := 4) (Nat.le_of_ble_eq_true rfl)
  rw [lg_entry_eq]
  generalize (lg_sl ([.ref (ad 0 6), .int (nI (n + 1))]) ++ List.replicate (4 - (lg_sl ([.ref (ad 0 6), .int (nI (n + 1))])).length) Slot.unset).toArray = ls at hl ⊢
  have hl : lv_has ls 4 [(0, .ref (ad 0 6)), (1, .int (nI (n + 1)))] := hl
  refine lv_aload_n hx hb dJ2_grow_2_0 rfl (lv_at hl 0 rfl) ?_
  refine r_get (ci := 1) (v := .ref (Γ.2.2 1)) (T := TJ2) (N := 3) hx hb hts in_J2 hown hK hF 0 6 he6 rfl 1 (by decide) (hts _ q84) (fun _ h9 => h9) rfl dJ2_grow_2_1 ?_
  refine va_tlen hx hb hK.2.2.2.1.2 hS (v := 0) rfl dJ2_grow_2_4 ?_
  refine lv_istore_n (lv' := [(2, .int 0), (0, .ref (ad 0 6)), (1, .int (nI (n + 1)))]) hx hb dJ2_grow_2_5 rfl hl (by decide) rfl (fun ls hl => ?_)
  refine lv_iload_n hx hb dJ2_grow_2_6 rfl (lv_at hl 0 rfl) ?_
  refine lv_if_gt (tgt := 20) hx hb dJ2_grow_2_7 (by decide) (fun c7 => absurd c7 (by decide)) (fun _ => ?_)
  refine lv_aload_n hx hb dJ2_grow_2_10 rfl (lv_at hl 1 rfl) ?_
  refine r_get (ci := 1) (v := .ref (Γ.2.2 1)) (T := TJ2) (N := 3) hx hb hts in_J2 hown hK hF 0 6 he6 rfl 1 (by decide) (hts _ q84) (fun _ h9 => h9) rfl dJ2_grow_2_11 ?_
  refine va_gets hx hb hK.2.2.2.1.1 hS hown (hts _ q82) (fun _ h9 => h9) dJ2_grow_2_14 ?_
  refine lv_acmp_eq (rx := some (Γ.2.2 1)) (ry := some (Γ.2.2 1)) (tgt := 45) hx hb dJ2_grow_2_17 (by decide) (fun _ => ?_) (fun c => absurd rfl c)
  refine lv_aload_n hx hb dJ2_grow_2_45 rfl (lv_at hl 1 rfl) ?_
  refine lv_bipush (v := 10) hx hb dJ2_grow_2_46 (by decide) ?_
  refine lv_iload_n hx hb dJ2_grow_2_48 rfl (lv_at hl 2 rfl) ?_
  refine va_mmax (x := 10) (y := nI (n + 1)) hx hb (hml.trans hl.1.symm) hown (hts _ q458) (hts _ q419) (hts _ q43) (hts _ q420) (Nat.le_of_ble_eq_true rfl) (Nat.le_of_ble_eq_true rfl) (Nat.le_of_ble_eq_true rfl) (Nat.le_of_ble_eq_true rfl) dJ2_grow_2_49 ?_
  refine lv_re (nI_max (a := 10) (b := (n + 1)) (by omega) (by omega)) ?_
  refine lv_re (by rw [show max 10 (n + 1) = 10 by omega]) ?_
  refine r_newq hx hb hown (hts _ q459) 3 1 rfl rfl hK hF hS 0 7 h7 10 rfl (by omega) (Nat.le_of_ble_eq_true rfl) (Nat.le_of_ble_eq_true rfl) dJ2_grow_2_52 (fun q H hF hS => ?_)
  refine W.widen (k := 1) (n := 100) (by omega) (by omega) ?_
  refine lv_dup_x1 hx hb dJ2_grow_2_55 rfl rfl ?_
  refine r_put (ci := 1) (T := TJ2) (N := 3) (ty := (.array (.object "java/lang/Object"))) hx hb hts in_J2 tyJ2 tyJ2_ok nmJ2 hown hK hF hS 0 6 ((fu_ne _ _ (by decide)).trans he6) rfl 1 (by decide) (hts _ q84) (fun _ h9 => h9) rfl (by decide +kernel) rfl rfl (Nat.le_of_ble_eq_true rfl) dJ2_grow_2_56 (fun H locs hF hS => ?_)
  have hF : FF Γ (fu ad 0 7 q) (fu (fu P 0 7 (some (.inl (Γ.2.1 3, 10, rfs (fun _ => none))))) 0 6 (some (.inr (1, [.int mc0, .ref q, .int (nI n)])))) H := hF
  exact g_aretu (S := Nat × Nat) (q, 10) rfl ⟨by omega, by omega⟩ hx hb hr (Or.inr ⟨_, rfl⟩) hlocks (by
    have e : (fun j => if j < n then f j else none) = fun (_ : Nat) => (none : Option Nat) := by funext j; rw [hn]; rfl
    show FF Γ (fu ad 0 7 q) (fu (fu P 0 7 (some (.inl (Γ.2.1 3, 10, rfs (fun j => if j < n then f j else none))))) 0 6 (some (.inr (1, [.int mc0, .ref q, .int (nI n)])))) H
    rw [e]
    exact hF) hS dJ2_grow_2_59
set_option maxHeartbeats 4000000 in
set_option maxRecDepth 100000 in
/-- grow -/
theorem met_J2_grow_2b (l : Launch) (Γ : Gm) (ad : Nat → Nat → Nat) (P : Pic) {mc0 : Int32} {n : Nat} {f : Nat → Option Nat} (he6 : P 0 6 = some (.inr (1, [.int mc0, .ref (ad 0 7), .int (nI n)]))) (hn0 : 0 < n) (hn9 : n ≤ 24) (he7 : P 0 7 = some (.inl (Γ.2.1 3, n, rfs f))) (hnone : P 20 0 = none) (hel : ∀ i : Nat, i < n → ∃ fs, f i = some (ad 3 i) ∧ P 3 i = some (.inr (3, fs))) : Met l yJ2_grow_2 (ws_ yJ2_grow_2 cJ2_grow_2 4 (some (.array (.object "java/lang/Object")))) ({ frames := 3, cells := 1, slots := 100, locals := 144 }) (va_Pc [.ref (ad 0 6), .int (nI (n + 1))] (SF Γ ad (P))) (gQr Γ (fun (u : Nat × Nat) => n < u.2 ∧ u.2 ≤ 100) (fun u => u.1) (fun u => fu ad 0 7 u.1) (fun u => fu (fu P 0 7 (some (.inl (Γ.2.1 3, u.2, rfs (fun j => if j < n then f j else none))))) 0 6 (some (.inr (1, [.int mc0, .ref u.1, .int (nI n)]))))) 1 100 (AA Γ) := by
  refine Met.ofW (cc := cJ2_grow_2) (maxL := 4) (ret := (some (.array (.object "java/lang/Object")))) (by decide) rfl ?_
  intro p e s m args below meth c s₁ B hml hv
  obtain ⟨rfl, hK, hF⟩ := hv
  have hx := B.exec
  have hb := B.bytes
  have hr := B.returns
  have hts := atoms_spec (ws := ws_ yJ2_grow_2 cJ2_grow_2 4 (some (.array (.object "java/lang/Object")))) B.pre
  have hts : ∀ w ∈ lw_all, w.before _ s = true := fun w h => hts w (List.mem_cons_of_mem _ h)
  have hown : s.vm.findClass RJ2 = some m.cls := findClass_of_methodNamed B.named
  have hlocks := B.notSynchronized
  have hS : va_S (AA Γ) s.heap s.heap [] := va_S.rf
  have hl := lv_entry ([.ref (ad 0 6), .int (nI (n + 1))]) (n := 4) (Nat.le_of_ble_eq_true rfl)
  rw [lg_entry_eq]
  generalize (lg_sl ([.ref (ad 0 6), .int (nI (n + 1))]) ++ List.replicate (4 - (lg_sl ([.ref (ad 0 6), .int (nI (n + 1))])).length) Slot.unset).toArray = ls at hl ⊢
  have hl : lv_has ls 4 [(0, .ref (ad 0 6)), (1, .int (nI (n + 1)))] := hl
  refine lv_aload_n hx hb dJ2_grow_2_0 rfl (lv_at hl 0 rfl) ?_
  refine r_get (ci := 1) (v := .ref (ad 0 7)) (T := TJ2) (N := 3) hx hb hts in_J2 hown hK hF 0 6 he6 rfl 1 (by decide) (hts _ q84) (fun _ h9 => h9) rfl dJ2_grow_2_1 ?_
  refine r_alen (v := nI n) hx hb hK hF 0 7 3 rfl he7 rfl dJ2_grow_2_4 ?_
  refine lv_istore_n (lv' := [(2, .int (nI n)), (0, .ref (ad 0 6)), (1, .int (nI (n + 1)))]) hx hb dJ2_grow_2_5 rfl hl (by decide) rfl (fun ls hl => ?_)
  refine lv_iload_n hx hb dJ2_grow_2_6 rfl (lv_at hl 0 rfl) ?_
  refine lv_if_gt (tgt := 20) hx hb dJ2_grow_2_7 (by decide) (fun c7 => ?_) (fun c7 => absurd (Int32.not_le.mp (nI_nle hn0 (by omega))) c7)
  have hd2 : n / 2 ^ 1 ≤ n := Nat.div_le_self _ _
  refine lv_iload_n hx hb dJ2_grow_2_20 rfl (lv_at hl 0 rfl) ?_
  refine lv_iload_n hx hb dJ2_grow_2_21 rfl (lv_at hl 2 rfl) ?_
  refine lv_iload_n hx hb dJ2_grow_2_22 rfl (lv_at hl 0 rfl) ?_
  refine lv_isub hx hb dJ2_grow_2_23 ?_
  refine lv_re (show nI (n + 1) - nI n = nI 1 by rw [pk_sub (by omega)]; congr 1; omega) ?_
  refine lv_iload_n hx hb dJ2_grow_2_24 rfl (lv_at hl 0 rfl) ?_
  refine lv_iconst (v := 1) hx hb dJ2_grow_2_25 (by decide) ?_
  refine lv_ishr hx hb dJ2_grow_2_26 ?_
  refine lv_re (pk_shrN (by omega) _ 1 (by decide)) ?_
  refine g_ci (va_runS (As := [.int (nI n), .int (nI 1), .int (nI (n / 2 ^ 1))]) (rest := []) ⟨hx, hb, hml, hown, hts⟩ (met_J12_newLength l Γ ad P n 1 (n / 2 ^ 1) (by omega) (by omega) (by omega) (by omega)) (va_cwS 3 hts (lw_S q415 q416 q42 q417) rfl rfl rfl (by decide +kernel) ⟨Nat.le_of_ble_eq_true rfl, Nat.le_of_ble_eq_true rfl⟩) (SF_S hK hS hF) rfl rfl hl.1 rfl (lv_room (Nat.le_of_ble_eq_true rfl)) dJ2_grow_2_27 ⟨Nat.le_of_ble_eq_true rfl, Nat.le_of_ble_eq_true rfl⟩) hS (fun H locs hF hS => ?_)
  refine lv_istore_n (lv' := [(3, .int (nI (n + max 1 (n / 2 ^ 1)))), (2, .int (nI n)), (0, .ref (ad 0 6)), (1, .int (nI (n + 1)))]) hx hb dJ2_grow_2_30 rfl hl (by decide) rfl (fun ls hl => ?_)
  refine lv_aload_n hx hb dJ2_grow_2_31 rfl (lv_at hl 2 rfl) ?_
  refine lv_aload_n hx hb dJ2_grow_2_32 rfl (lv_at hl 2 rfl) ?_
  refine r_get (ci := 1) (v := .ref (ad 0 7)) (T := TJ2) (N := 3) hx hb hts in_J2 hown hK hF 0 6 he6 rfl 1 (by decide) (hts _ q84) (fun _ h9 => h9) rfl dJ2_grow_2_33 ?_
  refine lv_iload_n hx hb dJ2_grow_2_36 rfl (lv_at hl 0 rfl) ?_
  refine g_callr (va_runS (As := [.ref (ad 0 7), .int (nI (n + max 1 (n / 2 ^ 1)))]) (rest := [.ref (ad 0 6)]) ⟨hx, hb, hml, hown, hts⟩ (met_J14_copyOf l Γ ad P (cap := n + max 1 (n / 2 ^ 1)) he7 hnone (by omega) (by omega) hel) (va_cwS 2 hts (lw_S q425 q426 q44 q427) rfl rfl rfl (by decide +kernel) ⟨Nat.le_of_ble_eq_true rfl, Nat.le_of_ble_eq_true rfl⟩) (SF_S hK hS hF) rfl rfl hl.1 rfl (lv_room (Nat.le_of_ble_eq_true rfl)) dJ2_grow_2_37 ⟨Nat.le_of_ble_eq_true rfl, Nat.le_of_ble_eq_true rfl⟩) hS (fun q H locs _ hF hS => ?_)
  refine lv_dup_x1 hx hb dJ2_grow_2_40 rfl rfl ?_
  refine r_put (ci := 1) (T := TJ2) (N := 3) (ty := (.array (.object "java/lang/Object"))) hx hb hts in_J2 tyJ2 tyJ2_ok nmJ2 hown hK hF hS 0 6 ((fu_ne _ _ (by decide)).trans he6) rfl 1 (by decide) (hts _ q84) (fun _ h9 => h9) rfl (by decide +kernel) rfl rfl (Nat.le_of_ble_eq_true rfl) dJ2_grow_2_41 (fun H locs hF hS => ?_)
  have hF : FF Γ (fu ad 20 0 q) (fu (fu P 20 0 (some (.inl (Γ.2.1 3, n + max 1 (n / 2 ^ 1), rfs (va_cpy f (fun _ => none) 0 0 n))))) 0 6 (some (.inr (1, [.int mc0, .ref q, .int (nI n)])))) H := hF
  have hM := hF.move 20 0 0 7 (by decide)
  exact g_aretu (S := Nat × Nat) (q, n + max 1 (n / 2 ^ 1)) rfl ⟨by omega, by omega⟩ hx hb hr (Or.inr ⟨_, rfl⟩) hlocks (grow_join hM hnone) hS dJ2_grow_2_44
theorem met_J2_grow_2 (l : Launch) (Γ : Gm) (ad : Nat → Nat → Nat) (P : Pic) {mc0 : Int32} {n : Nat} {f : Nat → Option Nat} {ed : Nat} (he6 : P 0 6 = some (.inr (1, [.int mc0, .ref ed, .int (nI n)]))) (hc : (ed = Γ.2.2 1 ∧ n = 0 ∧ P 0 7 = none) ∨ (ed = ad 0 7 ∧ 0 < n ∧ n ≤ 24 ∧ P 0 7 = some (.inl (Γ.2.1 3, n, rfs f)) ∧ P 20 0 = none ∧ ∀ i : Nat, i < n → ∃ fs, f i = some (ad 3 i) ∧ P 3 i = some (.inr (3, fs)))) : Met l yJ2_grow_2 (ws_ yJ2_grow_2 cJ2_grow_2 4 (some (.array (.object "java/lang/Object")))) ({ frames := 3, cells := 1, slots := 100, locals := 144 }) (va_Pc [.ref (ad 0 6), .int (nI (n + 1))] (SF Γ ad (P))) (gQr Γ (fun (u : Nat × Nat) => n < u.2 ∧ u.2 ≤ 100) (fun u => u.1) (fun u => fu ad 0 7 u.1) (fun u => fu (fu P 0 7 (some (.inl (Γ.2.1 3, u.2, rfs (fun j => if j < n then f j else none))))) 0 6 (some (.inr (1, [.int mc0, .ref u.1, .int (nI n)]))))) 1 100 (AA Γ) := by
  rcases hc with ⟨rfl, h1, h2⟩ | ⟨rfl, h1, h2, h3, h4, h5⟩
  · exact met_J2_grow_2a l Γ ad P he6 h1 h2
  · exact met_J2_grow_2b l Γ ad P he6 h1 h2 h3 h4 h5
set_option maxHeartbeats 4000000 in
set_option maxRecDepth 100000 in
/-- grow -/
theorem met_J2_grow (l : Launch) (Γ : Gm) (ad : Nat → Nat → Nat) (P : Pic) {mc0 : Int32} {n : Nat} {f : Nat → Option Nat} {ed : Nat} (he6 : P 0 6 = some (.inr (1, [.int mc0, .ref ed, .int (nI n)]))) (hc : (ed = Γ.2.2 1 ∧ n = 0 ∧ P 0 7 = none) ∨ (ed = ad 0 7 ∧ 0 < n ∧ n ≤ 24 ∧ P 0 7 = some (.inl (Γ.2.1 3, n, rfs f)) ∧ P 20 0 = none ∧ ∀ i : Nat, i < n → ∃ fs, f i = some (ad 3 i) ∧ P 3 i = some (.inr (3, fs)))) : Met l yJ2_grow (ws_ yJ2_grow cJ2_grow 1 (some (.array (.object "java/lang/Object")))) ({ frames := 4, cells := 1, slots := 100, locals := 167 }) (va_Pc [.ref (ad 0 6)] (SF Γ ad (P))) (gQr Γ (fun (u : Nat × Nat) => n < u.2 ∧ u.2 ≤ 100) (fun u => u.1) (fun u => fu ad 0 7 u.1) (fun u => fu (fu P 0 7 (some (.inl (Γ.2.1 3, u.2, rfs (fun j => if j < n then f j else none))))) 0 6 (some (.inr (1, [.int mc0, .ref u.1, .int (nI n)]))))) 1 100 (AA Γ) := by
  refine Met.ofW (cc := cJ2_grow) (maxL := 1) (ret := (some (.array (.object "java/lang/Object")))) (by decide) rfl ?_
  intro p e s m args below meth c s₁ B hml hv
  obtain ⟨rfl, hK, hF⟩ := hv
  have hx := B.exec
  have hb := B.bytes
  have hr := B.returns
  have hts := atoms_spec (ws := ws_ yJ2_grow cJ2_grow 1 (some (.array (.object "java/lang/Object")))) B.pre
  have hts : ∀ w ∈ lw_all, w.before _ s = true := fun w h => hts w (List.mem_cons_of_mem _ h)
  have hown : s.vm.findClass RJ2 = some m.cls := findClass_of_methodNamed B.named
  have hlocks := B.notSynchronized
  have hS : va_S (AA Γ) s.heap s.heap [] := va_S.rf
  have hl := lv_entry ([.ref (ad 0 6)]) (n := 1) (Nat.le_of_ble_eq_true rfl)
  rw [lg_entry_eq]
  generalize (lg_sl ([.ref (ad 0 6)]) ++ List.replicate (1 - (lg_sl ([.ref (ad 0 6)])).length) Slot.unset).toArray = ls at hl ⊢
  have hl : lv_has ls 1 [(0, .ref (ad 0 6))] := hl
  refine lv_aload_n hx hb dJ2_grow_0 rfl (lv_at hl 0 rfl) ?_
  refine lv_aload_n hx hb dJ2_grow_1 rfl (lv_at hl 0 rfl) ?_
  refine r_get (ci := 1) (v := .int (nI n)) (T := TJ2) (N := 3) hx hb hts in_J2 hown hK hF 0 6 he6 rfl 2 (by decide) (hts _ q85) (fun _ h9 => h9) rfl dJ2_grow_2 ?_
  refine lv_iconst (v := 1) hx hb dJ2_grow_5 (by decide) ?_
  refine lv_iadd hx hb dJ2_grow_6 ?_
  refine lv_re (nI_1 n) ?_
  refine g_callr (va_runV (As := [.int (nI (n + 1))]) (rest := []) ⟨hx, hb, hml, hown, hts⟩ (met_J2_grow_2 l Γ ad P he6 hc) (cwV 1 hts (lw_V q411 q413 qs4 q28 q414) rfl rfl rfl (by decide +kernel) ⟨Nat.le_of_ble_eq_true rfl, Nat.le_of_ble_eq_true rfl⟩) (SF_V hK hS hF (recvF hK hF 0 6 he6 rfl)) rfl rfl hl.1 rfl (lv_room (Nat.le_of_ble_eq_true rfl)) dJ2_grow_7 ⟨Nat.le_of_ble_eq_true rfl, Nat.le_of_ble_eq_true rfl⟩) hS (fun u H locs hu hF hS => ?_)
  exact g_aretu (S := Nat × Nat) u rfl hu hx hb hr (Or.inr ⟨_, rfl⟩) hlocks hF hS dJ2_grow_10
set_option maxHeartbeats 4000000 in
set_option maxRecDepth 100000 in
/-- add -/
theorem met_J2_add_2a (l : Launch) (Γ : Gm) (ad : Nat → Nat → Nat) (P : Pic) {mc0 : Int32} {n : Nat} {f : Nat → Option Nat} {ed : Nat} (he6 : P 0 6 = some (.inr (1, [.int mc0, .ref ed, .int (nI n)]))) (hc : (ed = Γ.2.2 1 ∧ n = 0 ∧ P 0 7 = none) ∨ (ed = ad 0 7 ∧ 0 < n ∧ n ≤ 24 ∧ P 0 7 = some (.inl (Γ.2.1 3, n, rfs f)) ∧ P 20 0 = none ∧ ∀ i : Nat, i < n → ∃ fs, f i = some (ad 3 i) ∧ P 3 i = some (.inr (3, fs)))) (k0 : Nat) {fs0 : List Value} (he3 : P 3 k0 = some (.inr (3, fs0))) : Met l yJ2_add_2 (ws_ yJ2_add_2 cJ2_add_2 4 none) ({ frames := 5, cells := 1, slots := 100, locals := 187 }) (va_Pc [.ref (ad 0 6), .ref (ad 3 k0), .ref ed, .int (nI n)] (SF Γ ad (P))) (gQv Γ (fun (u : Nat × Nat) => n < u.2 ∧ u.2 ≤ 100) (fun u => fu ad 0 7 u.1) (fun u => (fu (fu P 0 7 (some (.inl (Γ.2.1 3, u.2, rfs (fun j => if j < n then f j else if j = n then some (ad 3 k0) else none))))) 0 6 (some (.inr (1, [.int mc0, .ref u.1, .int (nI (n + 1))])))))) 1 100 (AA Γ) := by
  refine Met.ofW (cc := cJ2_add_2) (maxL := 4) (ret := none) (by decide) rfl ?_
  intro p e s m args below meth c s₁ B hml hv
  obtain ⟨rfl, hK, hF⟩ := hv
  have hx := B.exec
  have hb := B.bytes
  have hr := B.returns
  have hts := atoms_spec (ws := ws_ yJ2_add_2 cJ2_add_2 4 none) B.pre
  have hts : ∀ w ∈ lw_all, w.before _ s = true := fun w h => hts w (List.mem_cons_of_mem _ h)
  have hown : s.vm.findClass RJ2 = some m.cls := findClass_of_methodNamed B.named
  have hlocks := B.notSynchronized
  have hS : va_S (AA Γ) s.heap s.heap [] := va_S.rf
  have hl := lv_entry ([.ref (ad 0 6), .ref (ad 3 k0), .ref ed, .int (nI n)]) (n := 4) (Nat.le_of_ble_eq_true rfl)
  rw [lg_entry_eq]
  generalize (lg_sl ([.ref (ad 0 6), .ref (ad 3 k0), .ref ed, .int (nI n)]) ++ List.replicate (4 - (lg_sl ([.ref (ad 0 6), .ref (ad 3 k0), .ref ed, .int (nI n)])).length) Slot.unset).toArray = ls at hl ⊢
  have hl : lv_has ls 4 [(0, .ref (ad 0 6)), (1, .ref (ad 3 k0)), (2, .ref ed), (3, .int (nI n))] := hl
  refine lv_iload_n hx hb dJ2_add_2_0 rfl (lv_at hl 3 rfl) ?_
  refine lv_aload_n hx hb dJ2_add_2_1 rfl (lv_at hl 2 rfl) ?_
  have hlen : W p l e (headSpec (ws_ yJ2_add_2 cJ2_add_2 4 none) ({ frames := 5, cells := 1, slots := 100, locals := 187 })).room s m ([.ref (ad 0 6), .ref (ad 3 k0), .ref ed, .int (nI n)] : List Value).toArray below meth c s.heap [] 0 0 (MQ below (gQv Γ (fun (u : Nat × Nat) => n < u.2 ∧ u.2 ≤ 100) (fun u => fu ad 0 7 u.1) (fun u => (fu (fu P 0 7 (some (.inl (Γ.2.1 3, u.2, rfs (fun j => if j < n then f j else if j = n then some (ad 3 k0) else none))))) 0 6 (some (.inr (1, [.int mc0, .ref u.1, .int (nI (n + 1))])))))) ([.ref (ad 0 6), .ref (ad 3 k0), .ref ed, .int (nI n)] : List Value).toArray s 1 100 (AA Γ)) (F0 m 3 ls [.int (nI n), .int (nI n)]) := by
    refine lv_icmp_ne (tgt := 11) hx hb dJ2_add_2_3 (by decide) (fun c3 => absurd rfl c3) (fun _ => ?_)
    refine lv_aload_n hx hb dJ2_add_2_6 rfl (lv_at hl 0 rfl) ?_
    refine g_callr (va_runV (As := []) (rest := []) ⟨hx, hb, hml, hown, hts⟩ (met_J2_grow l Γ ad P he6 hc) (cwV 0 hts (lw_V q407 q409 qs3 q28 q410) rfl rfl rfl (by decide +kernel) ⟨Nat.le_of_ble_eq_true rfl, Nat.le_of_ble_eq_true rfl⟩) (SF_V hK hS hF (recvF hK hF 0 6 he6 rfl)) rfl rfl hl.1 rfl (lv_room (Nat.le_of_ble_eq_true rfl)) dJ2_add_2_7 ⟨Nat.le_of_ble_eq_true rfl, Nat.le_of_ble_eq_true rfl⟩) hS (fun u H locs hu hF hS => ?_)
    obtain ⟨q, cap⟩ := u
    obtain ⟨hu1, hu2⟩ := hu
    dsimp only at hu1 hu2 hF ⊢
    refine lv_astore_n (lv' := [(2, .ref q), (0, .ref (ad 0 6)), (1, .ref (ad 3 k0)), (3, .int (nI n))]) hx hb dJ2_add_2_10 rfl hl (by decide) rfl (fun ls hl => ?_)
    refine lv_aload_n hx hb dJ2_add_2_11 rfl (lv_at hl 0 rfl) ?_
    refine lv_iload_n hx hb dJ2_add_2_12 rfl (lv_at hl 3 rfl) ?_
    refine lv_aload_n hx hb dJ2_add_2_13 rfl (lv_at hl 2 rfl) ?_
    refine r_aast hx hb hK hF hS 0 7 3 rfl ((fu_ne _ _ (by decide)).trans (fu_same _ _ _ _)) (anyF hK hF 3 k0 ((fu_ne _ _ (fun h => absurd h.1 (by decide))).trans ((fu_ne _ _ (fun h => absurd h.1 (by decide))).trans he3)) rfl (asgAO hK)) n rfl (by omega) (by omega) dJ2_add_2_14 (fun H locs hF hS => ?_)
    refine lv_aload_n hx hb dJ2_add_2_15 rfl (lv_at hl 1 rfl) ?_
    refine lv_iload_n hx hb dJ2_add_2_16 rfl (lv_at hl 3 rfl) ?_
    refine lv_iconst (v := 1) hx hb dJ2_add_2_17 (by decide) ?_
    refine lv_iadd hx hb dJ2_add_2_18 ?_
    refine lv_re (nI_1 n) ?_
    refine r_put (ci := 1) (T := TJ2) (N := 3) (ty := .int) hx hb hts in_J2 tyJ2 tyJ2_ok nmJ2 hown hK hF hS 0 6 ((fu_ne _ _ (by decide)).trans (fu_same _ _ _ _)) rfl 2 (by decide) (hts _ q85) (fun _ h9 => h9) rfl (by decide +kernel) rfl rfl (Nat.le_of_ble_eq_true rfl) dJ2_add_2_19 (fun H locs hF hS => ?_)
    rw [fu_sw _ 0 6 0 7 _ _ (by decide), fu_fu, fu_fu] at hF
    exact g_vretu (S := Nat × Nat) (q, cap) ⟨hu1, hu2⟩ hx hb hr hlocks (add_join (e6 := .inr (1, [])) (f := f) hF (fun j _ => rfl)) hS dJ2_add_2_22
  rcases hc with ⟨h1, h2, h3⟩ | ⟨h1, h2, h3, h4, h5, h6⟩
  · refine lv_rr h1 ?_
    refine va_tlen hx hb hK.2.2.2.1.2 hS (v := nI n) (by rw [h2]; rfl) dJ2_add_2_2 hlen
  · refine lv_rr h1 ?_
    exact r_alen (v := nI n) hx hb hK hF 0 7 3 rfl h4 rfl dJ2_add_2_2 hlen
set_option maxHeartbeats 4000000 in
set_option maxRecDepth 100000 in
/-- add -/
theorem met_J2_add_2c (l : Launch) (Γ : Gm) (ad : Nat → Nat → Nat) (P : Pic) {mc0 : Int32} {n cap : Nat} {f : Nat → Option Nat} {ed : Nat} (he6 : P 0 6 = some (.inr (1, [.int mc0, .ref ed, .int (nI n)]))) (hed : ed = ad 0 7) (hn : n < cap) (hcap : cap ≤ 100) (he7 : P 0 7 = some (.inl (Γ.2.1 3, cap, rfs f))) (hf0 : ∀ j, n ≤ j → f j = none) (k0 : Nat) {fs0 : List Value} (he3 : P 3 k0 = some (.inr (3, fs0))) : Met l yJ2_add_2 (ws_ yJ2_add_2 cJ2_add_2 4 none) ({ frames := 5, cells := 1, slots := 100, locals := 187 }) (va_Pc [.ref (ad 0 6), .ref (ad 3 k0), .ref ed, .int (nI n)] (SF Γ ad (P))) (gQv Γ (fun (u : Nat × Nat) => n < u.2 ∧ u.2 ≤ 100) (fun u => fu ad 0 7 u.1) (fun u => (fu (fu P 0 7 (some (.inl (Γ.2.1 3, u.2, rfs (fun j => if j < n then f j else if j = n then some (ad 3 k0) else none))))) 0 6 (some (.inr (1, [.int mc0, .ref u.1, .int (nI (n + 1))])))))) 1 100 (AA Γ) := by
  refine Met.ofW (cc := cJ2_add_2) (maxL := 4) (ret := none) (by decide) rfl ?_
  intro p e s m args below meth c s₁ B hml hv
  obtain ⟨rfl, hK, hF⟩ := hv
  have hx := B.exec
  have hb := B.bytes
  have hr := B.returns
  have hts := atoms_spec (ws := ws_ yJ2_add_2 cJ2_add_2 4 none) B.pre
  have hts : ∀ w ∈ lw_all, w.before _ s = true := fun w h => hts w (List.mem_cons_of_mem _ h)
  have hown : s.vm.findClass RJ2 = some m.cls := findClass_of_methodNamed B.named
  have hlocks := B.notSynchronized
  have hS : va_S (AA Γ) s.heap s.heap [] := va_S.rf
  have hl := lv_entry ([.ref (ad 0 6), .ref (ad 3 k0), .ref ed, .int (nI n)]) (n := 4) (Nat.le_of_ble_eq_true rfl)
  rw [lg_entry_eq]
  generalize (lg_sl ([.ref (ad 0 6), .ref (ad 3 k0), .ref ed, .int (nI n)]) ++ List.replicate (4 - (lg_sl ([.ref (ad 0 6), .ref (ad 3 k0), .ref ed, .int (nI n)])).length) Slot.unset).toArray = ls at hl ⊢
  have hl : lv_has ls 4 [(0, .ref (ad 0 6)), (1, .ref (ad 3 k0)), (2, .ref ed), (3, .int (nI n))] := hl
  subst hed
  refine lv_iload_n hx hb dJ2_add_2_0 rfl (lv_at hl 3 rfl) ?_
  refine lv_aload_n hx hb dJ2_add_2_1 rfl (lv_at hl 2 rfl) ?_
  refine r_alen (v := nI cap) hx hb hK hF 0 7 3 rfl he7 rfl dJ2_add_2_2 ?_
  refine lv_icmp_ne (tgt := 11) hx hb dJ2_add_2_3 (by decide) (fun _ => ?_) (fun c3 => absurd c3 (fun q => absurd ((nI_eq (by omega) (by omega)).mp q) (by omega)))
  refine lv_aload_n hx hb dJ2_add_2_11 rfl (lv_at hl 2 rfl) ?_
  refine lv_iload_n hx hb dJ2_add_2_12 rfl (lv_at hl 3 rfl) ?_
  refine lv_aload_n hx hb dJ2_add_2_13 rfl (lv_at hl 1 rfl) ?_
  refine r_aast hx hb hK hF hS 0 7 3 rfl he7 (anyF hK hF 3 k0 he3 rfl (asgAO hK)) n rfl (by omega) (by omega) dJ2_add_2_14 (fun H locs hF hS => ?_)
  refine lv_aload_n hx hb dJ2_add_2_15 rfl (lv_at hl 0 rfl) ?_
  refine lv_iload_n hx hb dJ2_add_2_16 rfl (lv_at hl 3 rfl) ?_
  refine lv_iconst (v := 1) hx hb dJ2_add_2_17 (by decide) ?_
  refine lv_iadd hx hb dJ2_add_2_18 ?_
  refine lv_re (nI_1 n) ?_
  refine r_put (ci := 1) (T := TJ2) (N := 3) (ty := .int) hx hb hts in_J2 tyJ2 tyJ2_ok nmJ2 hown hK hF hS 0 6 ((fu_ne _ _ (by decide)).trans he6) rfl 2 (by decide) (hts _ q85) (fun _ h9 => h9) rfl (by decide +kernel) rfl rfl (Nat.le_of_ble_eq_true rfl) dJ2_add_2_19 (fun H locs hF hS => ?_)
  refine W.widen (k := 1) (n := 100) (by omega) (by omega) ?_
  exact g_vretu (S := Nat × Nat) (ad 0 7, cap) ⟨hn, hcap⟩ hx hb hr hlocks (by
    show FF Γ (fu ad 0 7 (ad 0 7)) _ H
    rw [fu_id]
    refine add_join (e6 := .inr (1, [])) (f := f) hF (fun j hj => ?_)
    by_cases h2 : j < n
    · rw [if_pos h2]
    · rw [if_neg h2]; exact hf0 j (by omega)) hS dJ2_add_2_22
theorem met_J2_add_2 (l : Launch) (Γ : Gm) (ad : Nat → Nat → Nat) (P : Pic) {mc0 : Int32} {n cap : Nat} {f : Nat → Option Nat} {ed : Nat} (he6 : P 0 6 = some (.inr (1, [.int mc0, .ref ed, .int (nI n)]))) (hc : ((ed = Γ.2.2 1 ∧ n = 0 ∧ P 0 7 = none) ∨ (ed = ad 0 7 ∧ 0 < n ∧ n ≤ 24 ∧ P 0 7 = some (.inl (Γ.2.1 3, n, rfs f)) ∧ P 20 0 = none ∧ ∀ i : Nat, i < n → ∃ fs, f i = some (ad 3 i) ∧ P 3 i = some (.inr (3, fs)))) ∨ (ed = ad 0 7 ∧ n < cap ∧ cap ≤ 100 ∧ P 0 7 = some (.inl (Γ.2.1 3, cap, rfs f)) ∧ ∀ j, n ≤ j → f j = none)) (k0 : Nat) {fs0 : List Value} (he3 : P 3 k0 = some (.inr (3, fs0))) : Met l yJ2_add_2 (ws_ yJ2_add_2 cJ2_add_2 4 none) ({ frames := 5, cells := 1, slots := 100, locals := 187 }) (va_Pc [.ref (ad 0 6), .ref (ad 3 k0), .ref ed, .int (nI n)] (SF Γ ad (P))) (gQv Γ (fun (u : Nat × Nat) => n < u.2 ∧ u.2 ≤ 100) (fun u => fu ad 0 7 u.1) (fun u => (fu (fu P 0 7 (some (.inl (Γ.2.1 3, u.2, rfs (fun j => if j < n then f j else if j = n then some (ad 3 k0) else none))))) 0 6 (some (.inr (1, [.int mc0, .ref u.1, .int (nI (n + 1))])))))) 1 100 (AA Γ) := by
  rcases hc with h | ⟨h1, h2, h3, h4, h5⟩
  · exact met_J2_add_2a l Γ ad P he6 h k0 he3
  · exact met_J2_add_2c l Γ ad P he6 h1 h2 h3 h4 h5 k0 he3
set_option maxHeartbeats 4000000 in
set_option maxRecDepth 100000 in
/-- add -/
theorem met_J2_add (l : Launch) (Γ : Gm) (ad : Nat → Nat → Nat) (P : Pic) {mc0 : Int32} {n cap : Nat} {f : Nat → Option Nat} {ed : Nat} (he6 : P 0 6 = some (.inr (1, [.int mc0, .ref ed, .int (nI n)]))) (hc : ((ed = Γ.2.2 1 ∧ n = 0 ∧ P 0 7 = none) ∨ (ed = ad 0 7 ∧ 0 < n ∧ n ≤ 24 ∧ P 0 7 = some (.inl (Γ.2.1 3, n, rfs f)) ∧ P 20 0 = none ∧ ∀ i : Nat, i < n → ∃ fs, f i = some (ad 3 i) ∧ P 3 i = some (.inr (3, fs)))) ∨ (ed = ad 0 7 ∧ n < cap ∧ cap ≤ 100 ∧ P 0 7 = some (.inl (Γ.2.1 3, cap, rfs f)) ∧ ∀ j, n ≤ j → f j = none)) (k0 : Nat) {fs0 : List Value} (he3 : P 3 k0 = some (.inr (3, fs0))) : Met l yJ2_add (ws_ yJ2_add cJ2_add 2 (some .boolean)) ({ frames := 6, cells := 1, slots := 100, locals := 210 }) (va_Pc [.ref (ad 0 6), .ref (ad 3 k0)] (SF Γ ad (P))) (gQi Γ (fun r (u : Nat × Nat) => r = 1 ∧ n < u.2 ∧ u.2 ≤ 100) (fun u => fu ad 0 7 u.1) (fun u => (fu (fu P 0 7 (some (.inl (Γ.2.1 3, u.2, rfs (fun j => if j < n then f j else if j = n then some (ad 3 k0) else none))))) 0 6 (some (.inr (1, [.int (mc0 + 1), .ref u.1, .int (nI (n + 1))])))))) 1 100 (AA Γ) := by
  refine Met.ofW (cc := cJ2_add) (maxL := 2) (ret := (some .boolean)) (by decide) rfl ?_
  intro p e s m args below meth c s₁ B hml hv
  obtain ⟨rfl, hK, hF⟩ := hv
  have hx := B.exec
  have hb := B.bytes
  have hr := B.returns
  have hts := atoms_spec (ws := ws_ yJ2_add cJ2_add 2 (some .boolean)) B.pre
  have hts : ∀ w ∈ lw_all, w.before _ s = true := fun w h => hts w (List.mem_cons_of_mem _ h)
  have hown : s.vm.findClass RJ2 = some m.cls := findClass_of_methodNamed B.named
  have hlocks := B.notSynchronized
  have hS : va_S (AA Γ) s.heap s.heap [] := va_S.rf
  have hl := lv_entry ([.ref (ad 0 6), .ref (ad 3 k0)]) (n := 2) (Nat.le_of_ble_eq_true rfl)
  rw [lg_entry_eq]
  generalize (lg_sl ([.ref (ad 0 6), .ref (ad 3 k0)]) ++ List.replicate (2 - (lg_sl ([.ref (ad 0 6), .ref (ad 3 k0)])).length) Slot.unset).toArray = ls at hl ⊢
  have hl : lv_has ls 2 [(0, .ref (ad 0 6)), (1, .ref (ad 3 k0))] := hl
  refine lv_aload_n hx hb dJ2_add_0 rfl (lv_at hl 0 rfl) ?_
  refine lv_dup hx hb dJ2_add_1 rfl ?_
  refine r_get (ci := 1) (v := .int mc0) (T := TJ2) (N := 3) hx hb hts in_J2 hown hK hF 0 6 he6 rfl 0 (by decide) (hts _ q87) (fun x h9 => u_same (hts _ q88) x h9) rfl dJ2_add_2 ?_
  refine lv_iconst (v := 1) hx hb dJ2_add_5 (by decide) ?_
  refine lv_iadd hx hb dJ2_add_6 ?_
  refine r_put (ci := 1) (T := TJ2) (N := 3) (ty := .int) hx hb hts in_J2 tyJ2 tyJ2_ok nmJ2 hown hK hF hS 0 6 he6 rfl 0 (by decide) (hts _ q87) (fun x h9 => u_same (hts _ q88) x h9) rfl (by decide +kernel) rfl rfl (Nat.le_of_ble_eq_true rfl) dJ2_add_7 (fun H locs hF hS => ?_)
  have hF : FF Γ ad (fu P 0 6 (some (.inr (1, [.int (mc0 + 1), .ref ed, .int (nI n)])))) H := hF
  refine lv_aload_n hx hb dJ2_add_10 rfl (lv_at hl 0 rfl) ?_
  refine lv_aload_n hx hb dJ2_add_11 rfl (lv_at hl 1 rfl) ?_
  refine lv_aload_n hx hb dJ2_add_12 rfl (lv_at hl 0 rfl) ?_
  refine r_get (ci := 1) (v := .ref ed) (T := TJ2) (N := 3) hx hb hts in_J2 hown hK hF 0 6 (fu_same _ _ _ _) rfl 1 (by decide) (hts _ q84) (fun _ h9 => h9) rfl dJ2_add_13 ?_
  refine lv_aload_n hx hb dJ2_add_16 rfl (lv_at hl 0 rfl) ?_
  refine r_get (ci := 1) (v := .int (nI n)) (T := TJ2) (N := 3) hx hb hts in_J2 hown hK hF 0 6 (fu_same _ _ _ _) rfl 2 (by decide) (hts _ q85) (fun _ h9 => h9) rfl dJ2_add_17 ?_
  have hc1 : ((ed = Γ.2.2 1 ∧ n = 0 ∧ (fu P 0 6 (some (.inr (1, [.int (mc0 + 1), .ref ed, .int (nI n)])))) 0 7 = none) ∨ (ed = ad 0 7 ∧ 0 < n ∧ n ≤ 24 ∧ (fu P 0 6 (some (.inr (1, [.int (mc0 + 1), .ref ed, .int (nI n)])))) 0 7 = some (.inl (Γ.2.1 3, n, rfs f)) ∧ (fu P 0 6 (some (.inr (1, [.int (mc0 + 1), .ref ed, .int (nI n)])))) 20 0 = none ∧ ∀ i : Nat, i < n → ∃ fs, f i = some (ad 3 i) ∧ (fu P 0 6 (some (.inr (1, [.int (mc0 + 1), .ref ed, .int (nI n)])))) 3 i = some (.inr (3, fs)))) ∨ (ed = ad 0 7 ∧ n < cap ∧ cap ≤ 100 ∧ (fu P 0 6 (some (.inr (1, [.int (mc0 + 1), .ref ed, .int (nI n)])))) 0 7 = some (.inl (Γ.2.1 3, cap, rfs f)) ∧ ∀ j, n ≤ j → f j = none) := hc
  refine g_callv (va_runV (As := [.ref (ad 3 k0), .ref ed, .int (nI n)]) (rest := []) ⟨hx, hb, hml, hown, hts⟩ (met_J2_add_2 l Γ ad (fu P 0 6 (some (.inr (1, [.int (mc0 + 1), .ref ed, .int (nI n)])))) (fu_same _ _ _ _) hc1 k0 (fs0 := fs0) he3) (cwV 3 hts (lw_V q403 q405 qs2 q28 q406) rfl rfl rfl (by decide +kernel) ⟨Nat.le_of_ble_eq_true rfl, Nat.le_of_ble_eq_true rfl⟩) (SF_V hK hS hF (recvF hK hF 0 6 (fu_same _ _ _ _) rfl)) rfl rfl hl.1 rfl (lv_room (Nat.le_of_ble_eq_true rfl)) dJ2_add_20 ⟨Nat.le_of_ble_eq_true rfl, Nat.le_of_ble_eq_true rfl⟩) hS (fun u H locs hu hF hS => ?_)
  rw [fu_sw _ 0 6 0 7 _ _ (by decide), fu_fu] at hF
  refine lv_iconst (v := 1) hx hb dJ2_add_23 (by decide) ?_
  exact g_zretu (S := Nat × Nat) u ⟨rfl, hu⟩ hx hb hr hlocks rfl hF hS dJ2_add_24
