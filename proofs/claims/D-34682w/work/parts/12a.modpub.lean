set_option maxHeartbeats 4000000 in
set_option maxRecDepth 100000 in
/-- setCurve, path A -/
theorem mm_setCurve_A (l : Launch) (Γ : Gm) (ad : Nat → Nat → Nat) (N : Nat → Nat) (o : Nat → Int64) (Z : Nat → Nat → Nat → Int32) (t r : Int32) (h : ¬ (1 ≤ t ∧ t ≤ 6)) : Met l yX4_setCurve (ws_ yX4_setCurve cX4_setCurve 4 (some .int)) ({ frames := 1, cells := 0, slots := 0, locals := 22 }) (va_Pc [.ref (ad 8 0), .int t, .int r] (SF Γ ad (shp Γ ad N o Z))) (gEi Γ (0) ad (shp Γ ad N o (uz (uz Z 8 0 0 0) 8 0 0 1))) 0 0 (AA Γ) := by
  refine Met.ofW (cc := cX4_setCurve) (maxL := 4) (ret := (some .int)) (by decide) rfl ?_
  intro p e s m args below meth c s₁ B hml hv
  obtain ⟨rfl, hK, hF⟩ := hv
  have hx := B.exec
  have hb := B.bytes
  have hr := B.returns
  have hts := atoms_spec (ws := ws_ yX4_setCurve cX4_setCurve 4 (some .int)) B.pre
  have hts : ∀ w ∈ lw_all, w.before _ s = true := fun w h => hts w (List.mem_cons_of_mem _ h)
  have hown : s.vm.findClass RX4 = some m.cls := findClass_of_methodNamed B.named
  have hlocks := B.notSynchronized
  have hS : va_S (AA Γ) s.heap s.heap [] := va_S.rf
  have hl := lv_entry ([.ref (ad 8 0), .int t, .int r]) (n := 4) (Nat.le_of_ble_eq_true rfl)
  rw [lg_entry_eq]
  generalize (lg_sl ([.ref (ad 8 0), .int t, .int r]) ++ List.replicate (4 - (lg_sl ([.ref (ad 8 0), .int t, .int r])).length) Slot.unset).toArray = ls at hl ⊢
  have hl : lv_has ls 4 [(0, .ref (ad 8 0)), (1, .int t), (2, .int r)] := hl
  refine lv_aload_n hx hb dX4_setCurve_0 rfl (lv_at hl 0 rfl) ?_
  refine lv_iconst (v := 0) hx hb dX4_setCurve_1 (by decide) ?_
  refine s_put (ci := 5) (T := TX4) (NC := 22) hx hb hts in_X4 tyX4 tyX4_ok nmX4 hown hK hF hS 8 0 0 rfl rfl 0 (by decide) rfl (hts _ q680) (fun _ h9 => h9) rfl (by decide +kernel) (Nat.le_of_ble_eq_true rfl) dX4_setCurve_2 (fun H locs hF hS => ?_)
  refine lv_iload_n hx hb dX4_setCurve_5 rfl (lv_at hl 1 rfl) ?_
  refine lv_iconst (v := 1) hx hb dX4_setCurve_6 (by decide) ?_
  refine lv_bipush (v := 6) hx hb dX4_setCurve_7 (by decide) ?_
  refine g_ci (va_runS (As := [.int t, .int 1, .int 6]) (rest := []) ⟨hx, hb, hml, hown, hts⟩ (Met.val (met_X4_in l Γ ad (shp Γ ad N o (uz Z 8 0 0 0)) t 1 6) (bI0 h)) (va_cwS 3 hts (lw_S q756 q757 q31 q758) rfl rfl rfl (by decide +kernel) ⟨Nat.le_of_ble_eq_true rfl, Nat.le_of_ble_eq_true rfl⟩) (SF_S hK hS hF) rfl rfl hl.1 rfl (lv_room (Nat.le_of_ble_eq_true rfl)) dX4_setCurve_9 ⟨Nat.le_of_ble_eq_true rfl, Nat.le_of_ble_eq_true rfl⟩) hS (fun H locs hF hS => ?_)
  refine lv_if_ne (tgt := 21) hx hb dX4_setCurve_12 (by decide) (fun c12 => absurd (by decide) c12) (fun _ => ?_)
  refine lv_aload_n hx hb dX4_setCurve_15 rfl (lv_at hl 0 rfl) ?_
  refine lv_iconst (v := 1) hx hb dX4_setCurve_16 (by decide) ?_
  refine g_callw (va_runV (As := [.int 1]) (rest := []) ⟨hx, hb, hml, hown, hts⟩ (met_X4_fails l Γ ad N o (uz Z 8 0 0 0) 1) (cwV 1 hts (lw_V q759 q761 qs12 q31 q762) rfl rfl rfl (by decide +kernel) ⟨Nat.le_of_ble_eq_true rfl, Nat.le_of_ble_eq_true rfl⟩) (SF_V hK hS hF (recvF hK hF 8 0 rfl rfl)) rfl rfl hl.1 rfl (lv_room (Nat.le_of_ble_eq_true rfl)) dX4_setCurve_17 ⟨Nat.le_of_ble_eq_true rfl, Nat.le_of_ble_eq_true rfl⟩) hS (fun H locs hF hS => ?_)
  exact g_iret hx hb hr hlocks hF hS dX4_setCurve_20
set_option maxHeartbeats 4000000 in
set_option maxRecDepth 100000 in
/-- setCurve, path B -/
theorem mm_setCurve_B (l : Launch) (Γ : Gm) (ad : Nat → Nat → Nat) (N : Nat → Nat) (o : Nat → Int64) (Z : Nat → Nat → Nat → Int32) (i : Nat) (hi : i < 6) (r : Int32) (h : ¬ (0 ≤ r ∧ r ≤ 5000)) : Met l yX4_setCurve (ws_ yX4_setCurve cX4_setCurve 4 (some .int)) ({ frames := 1, cells := 0, slots := 0, locals := 22 }) (va_Pc [.ref (ad 8 0), .int (nI (i + 1)), .int r] (SF Γ ad (shp Γ ad N o Z))) (gEi Γ (0) ad (shp Γ ad N o (uz (uz Z 8 0 0 0) 8 0 0 2))) 0 0 (AA Γ) := by
  refine Met.ofW (cc := cX4_setCurve) (maxL := 4) (ret := (some .int)) (by decide) rfl ?_
  intro p e s m args below meth c s₁ B hml hv
  obtain ⟨rfl, hK, hF⟩ := hv
  have hx := B.exec
  have hb := B.bytes
  have hr := B.returns
  have hts := atoms_spec (ws := ws_ yX4_setCurve cX4_setCurve 4 (some .int)) B.pre
  have hts : ∀ w ∈ lw_all, w.before _ s = true := fun w h => hts w (List.mem_cons_of_mem _ h)
  have hown : s.vm.findClass RX4 = some m.cls := findClass_of_methodNamed B.named
  have hlocks := B.notSynchronized
  have hS : va_S (AA Γ) s.heap s.heap [] := va_S.rf
  have hl := lv_entry ([.ref (ad 8 0), .int (nI (i + 1)), .int r]) (n := 4) (Nat.le_of_ble_eq_true rfl)
  rw [lg_entry_eq]
  generalize (lg_sl ([.ref (ad 8 0), .int (nI (i + 1)), .int r]) ++ List.replicate (4 - (lg_sl ([.ref (ad 8 0), .int (nI (i + 1)), .int r])).length) Slot.unset).toArray = ls at hl ⊢
  have hl : lv_has ls 4 [(0, .ref (ad 8 0)), (1, .int (nI (i + 1))), (2, .int r)] := hl
  refine lv_aload_n hx hb dX4_setCurve_0 rfl (lv_at hl 0 rfl) ?_
  refine lv_iconst (v := 0) hx hb dX4_setCurve_1 (by decide) ?_
  refine s_put (ci := 5) (T := TX4) (NC := 22) hx hb hts in_X4 tyX4 tyX4_ok nmX4 hown hK hF hS 8 0 0 rfl rfl 0 (by decide) rfl (hts _ q680) (fun _ h9 => h9) rfl (by decide +kernel) (Nat.le_of_ble_eq_true rfl) dX4_setCurve_2 (fun H locs hF hS => ?_)
  refine lv_iload_n hx hb dX4_setCurve_5 rfl (lv_at hl 1 rfl) ?_
  refine lv_iconst (v := 1) hx hb dX4_setCurve_6 (by decide) ?_
  refine lv_bipush (v := 6) hx hb dX4_setCurve_7 (by decide) ?_
  refine g_ci (va_runS (As := [.int (nI (i + 1)), .int 1, .int 6]) (rest := []) ⟨hx, hb, hml, hown, hts⟩ (Met.val (met_X4_in l Γ ad (shp Γ ad N o (uz Z 8 0 0 0)) (nI (i + 1)) 1 6) (bI1 (inI (a := 1) (b := 6) (by omega) (by omega) (by decide)))) (va_cwS 3 hts (lw_S q756 q757 q31 q758) rfl rfl rfl (by decide +kernel) ⟨Nat.le_of_ble_eq_true rfl, Nat.le_of_ble_eq_true rfl⟩) (SF_S hK hS hF) rfl rfl hl.1 rfl (lv_room (Nat.le_of_ble_eq_true rfl)) dX4_setCurve_9 ⟨Nat.le_of_ble_eq_true rfl, Nat.le_of_ble_eq_true rfl⟩) hS (fun H locs hF hS => ?_)
  refine lv_if_ne (tgt := 21) hx hb dX4_setCurve_12 (by decide) (fun _ => ?_) (fun c12 => absurd c12 (by decide))
  refine lv_iload_n hx hb dX4_setCurve_21 rfl (lv_at hl 2 rfl) ?_
  refine lv_iconst (v := 0) hx hb dX4_setCurve_22 (by decide) ?_
  refine lv_sipush (v := 5000) hx hb dX4_setCurve_23 (by decide) ?_
  refine g_ci (va_runS (As := [.int r, .int 0, .int 5000]) (rest := []) ⟨hx, hb, hml, hown, hts⟩ (Met.val (met_X4_in l Γ ad (shp Γ ad N o (uz Z 8 0 0 0)) r 0 5000) (bI0 h)) (va_cwS 3 hts (lw_S q756 q757 q31 q758) rfl rfl rfl (by decide +kernel) ⟨Nat.le_of_ble_eq_true rfl, Nat.le_of_ble_eq_true rfl⟩) (SF_S hK hS hF) rfl rfl hl.1 rfl (lv_room (Nat.le_of_ble_eq_true rfl)) dX4_setCurve_26 ⟨Nat.le_of_ble_eq_true rfl, Nat.le_of_ble_eq_true rfl⟩) hS (fun H locs hF hS => ?_)
  refine lv_if_ne (tgt := 38) hx hb dX4_setCurve_29 (by decide) (fun c29 => absurd (by decide) c29) (fun _ => ?_)
  refine lv_aload_n hx hb dX4_setCurve_32 rfl (lv_at hl 0 rfl) ?_
  refine lv_iconst (v := 2) hx hb dX4_setCurve_33 (by decide) ?_
  refine g_callw (va_runV (As := [.int 2]) (rest := []) ⟨hx, hb, hml, hown, hts⟩ (met_X4_fails l Γ ad N o (uz Z 8 0 0 0) 2) (cwV 1 hts (lw_V q759 q761 qs12 q31 q762) rfl rfl rfl (by decide +kernel) ⟨Nat.le_of_ble_eq_true rfl, Nat.le_of_ble_eq_true rfl⟩) (SF_V hK hS hF (recvF hK hF 8 0 rfl rfl)) rfl rfl hl.1 rfl (lv_room (Nat.le_of_ble_eq_true rfl)) dX4_setCurve_34 ⟨Nat.le_of_ble_eq_true rfl, Nat.le_of_ble_eq_true rfl⟩) hS (fun H locs hF hS => ?_)
  exact g_iret hx hb hr hlocks hF hS dX4_setCurve_37
set_option maxHeartbeats 4000000 in
set_option maxRecDepth 100000 in
/-- setCurve, path C -/
theorem mm_setCurve_C (l : Launch) (Γ : Gm) (ad : Nat → Nat → Nat) (N : Nat → Nat) (o : Nat → Int64) (Z : Nat → Nat → Nat → Int32) (i : Nat) (hi : i < 6) (r : Int32) (h : 0 ≤ r ∧ r ≤ 5000) : Met l yX4_setCurve (ws_ yX4_setCurve cX4_setCurve 4 (some .int)) ({ frames := 1, cells := 0, slots := 0, locals := 22 }) (va_Pc [.ref (ad 8 0), .int (nI (i + 1)), .int r] (SF Γ ad (shp Γ ad N o Z))) (gEi Γ (Z 8 1 (i + 1)) ad (shp Γ ad N o (uz (uz Z 8 0 0 0) 8 1 (i + 1) r))) 0 0 (AA Γ) := by
  refine Met.ofW (cc := cX4_setCurve) (maxL := 4) (ret := (some .int)) (by decide) rfl ?_
  intro p e s m args below meth c s₁ B hml hv
  obtain ⟨rfl, hK, hF⟩ := hv
  have hx := B.exec
  have hb := B.bytes
  have hr := B.returns
  have hts := atoms_spec (ws := ws_ yX4_setCurve cX4_setCurve 4 (some .int)) B.pre
  have hts : ∀ w ∈ lw_all, w.before _ s = true := fun w h => hts w (List.mem_cons_of_mem _ h)
  have hown : s.vm.findClass RX4 = some m.cls := findClass_of_methodNamed B.named
  have hlocks := B.notSynchronized
  have hS : va_S (AA Γ) s.heap s.heap [] := va_S.rf
  have hl := lv_entry ([.ref (ad 8 0), .int (nI (i + 1)), .int r]) (n := 4) (Nat.le_of_ble_eq_true rfl)
  rw [lg_entry_eq]
  generalize (lg_sl ([.ref (ad 8 0), .int (nI (i + 1)), .int r]) ++ List.replicate (4 - (lg_sl ([.ref (ad 8 0), .int (nI (i + 1)), .int r])).length) Slot.unset).toArray = ls at hl ⊢
  have hl : lv_has ls 4 [(0, .ref (ad 8 0)), (1, .int (nI (i + 1))), (2, .int r)] := hl
  refine lv_aload_n hx hb dX4_setCurve_0 rfl (lv_at hl 0 rfl) ?_
  refine lv_iconst (v := 0) hx hb dX4_setCurve_1 (by decide) ?_
  refine s_put (ci := 5) (T := TX4) (NC := 22) hx hb hts in_X4 tyX4 tyX4_ok nmX4 hown hK hF hS 8 0 0 rfl rfl 0 (by decide) rfl (hts _ q680) (fun _ h9 => h9) rfl (by decide +kernel) (Nat.le_of_ble_eq_true rfl) dX4_setCurve_2 (fun H locs hF hS => ?_)
  refine lv_iload_n hx hb dX4_setCurve_5 rfl (lv_at hl 1 rfl) ?_
  refine lv_iconst (v := 1) hx hb dX4_setCurve_6 (by decide) ?_
  refine lv_bipush (v := 6) hx hb dX4_setCurve_7 (by decide) ?_
  refine g_ci (va_runS (As := [.int (nI (i + 1)), .int 1, .int 6]) (rest := []) ⟨hx, hb, hml, hown, hts⟩ (Met.val (met_X4_in l Γ ad (shp Γ ad N o (uz Z 8 0 0 0)) (nI (i + 1)) 1 6) (bI1 (inI (a := 1) (b := 6) (by omega) (by omega) (by decide)))) (va_cwS 3 hts (lw_S q756 q757 q31 q758) rfl rfl rfl (by decide +kernel) ⟨Nat.le_of_ble_eq_true rfl, Nat.le_of_ble_eq_true rfl⟩) (SF_S hK hS hF) rfl rfl hl.1 rfl (lv_room (Nat.le_of_ble_eq_true rfl)) dX4_setCurve_9 ⟨Nat.le_of_ble_eq_true rfl, Nat.le_of_ble_eq_true rfl⟩) hS (fun H locs hF hS => ?_)
  refine lv_if_ne (tgt := 21) hx hb dX4_setCurve_12 (by decide) (fun _ => ?_) (fun c12 => absurd c12 (by decide))
  refine lv_iload_n hx hb dX4_setCurve_21 rfl (lv_at hl 2 rfl) ?_
  refine lv_iconst (v := 0) hx hb dX4_setCurve_22 (by decide) ?_
  refine lv_sipush (v := 5000) hx hb dX4_setCurve_23 (by decide) ?_
  refine g_ci (va_runS (As := [.int r, .int 0, .int 5000]) (rest := []) ⟨hx, hb, hml, hown, hts⟩ (Met.val (met_X4_in l Γ ad (shp Γ ad N o (uz Z 8 0 0 0)) r 0 5000) (bI1 h)) (va_cwS 3 hts (lw_S q756 q757 q31 q758) rfl rfl rfl (by decide +kernel) ⟨Nat.le_of_ble_eq_true rfl, Nat.le_of_ble_eq_true rfl⟩) (SF_S hK hS hF) rfl rfl hl.1 rfl (lv_room (Nat.le_of_ble_eq_true rfl)) dX4_setCurve_26 ⟨Nat.le_of_ble_eq_true rfl, Nat.le_of_ble_eq_true rfl⟩) hS (fun H locs hF hS => ?_)
  refine lv_if_ne (tgt := 38) hx hb dX4_setCurve_29 (by decide) (fun _ => ?_) (fun c29 => absurd c29 (by decide))
  refine lv_aload_n hx hb dX4_setCurve_38 rfl (lv_at hl 0 rfl) ?_
  refine r_get (ci := 5) (v := .ref (ad 8 1)) (T := TX4) (N := 22) hx hb hts in_X4 hown hK hF 8 0 rfl rfl 2 (by decide) (hts _ q682) (fun _ h9 => h9) rfl dX4_setCurve_39 ?_
  refine lv_iload_n hx hb dX4_setCurve_42 rfl (lv_at hl 1 rfl) ?_
  refine s_iald hx hb hK hF 8 1 rfl (i + 1) rfl (by omega) (by omega) dX4_setCurve_43 ?_
  refine lv_istore_n (lv' := [(3, .int (Z 8 1 (i + 1))), (0, .ref (ad 8 0)), (1, .int (nI (i + 1))), (2, .int r)]) hx hb dX4_setCurve_44 rfl hl (by decide) rfl (fun ls hl => ?_)
  refine lv_aload_n hx hb dX4_setCurve_45 rfl (lv_at hl 1 rfl) ?_
  refine r_get (ci := 5) (v := .ref (ad 8 1)) (T := TX4) (N := 22) hx hb hts in_X4 hown hK hF 8 0 rfl rfl 2 (by decide) (hts _ q682) (fun _ h9 => h9) rfl dX4_setCurve_46 ?_
  refine lv_iload_n hx hb dX4_setCurve_49 rfl (lv_at hl 2 rfl) ?_
  refine lv_iload_n hx hb dX4_setCurve_50 rfl (lv_at hl 3 rfl) ?_
  refine s_iast hx hb hK hF hS 8 1 (fun _ => rfl) (i + 1) rfl (by omega) (by omega) dX4_setCurve_51 (fun H locs hF hS => ?_)
  refine lv_iload_n hx hb dX4_setCurve_52 rfl (lv_at hl 0 rfl) ?_
  exact g_iret hx hb hr hlocks hF hS dX4_setCurve_53
set_option maxHeartbeats 4000000 in
set_option maxRecDepth 100000 in
/-- setRates, path A -/
theorem mm_setRates_A (l : Launch) (Γ : Gm) (ad : Nat → Nat → Nat) (N : Nat → Nat) (o : Nat → Int64) (Z : Nat → Nat → Nat → Int32) (d q c0 : Int32) (h : ¬ ((0 ≤ d ∧ d ≤ 5000) ∧ (0 ≤ q ∧ q ≤ 5000) ∧ (0 ≤ c0 ∧ c0 ≤ 100))) : Met l yX4_setRates (ws_ yX4_setRates cX4_setRates 4 none) ({ frames := 1, cells := 0, slots := 0, locals := 22 }) (va_Pc [.ref (ad 8 0), .int d, .int q, .int c0] (SF Γ ad (shp Γ ad N o Z))) (gEv Γ ad (shp Γ ad N o (uz Z 8 0 0 1))) 0 0 (AA Γ) := by
  refine Met.ofW (cc := cX4_setRates) (maxL := 4) (ret := none) (by decide) rfl ?_
  intro p e s m args below meth c s₁ B hml hv
  obtain ⟨rfl, hK, hF⟩ := hv
  have hx := B.exec
  have hb := B.bytes
  have hr := B.returns
  have hts := atoms_spec (ws := ws_ yX4_setRates cX4_setRates 4 none) B.pre
  have hts : ∀ w ∈ lw_all, w.before _ s = true := fun w h => hts w (List.mem_cons_of_mem _ h)
  have hown : s.vm.findClass RX4 = some m.cls := findClass_of_methodNamed B.named
  have hlocks := B.notSynchronized
  have hS : va_S (AA Γ) s.heap s.heap [] := va_S.rf
  have hl := lv_entry ([.ref (ad 8 0), .int d, .int q, .int c0]) (n := 4) (Nat.le_of_ble_eq_true rfl)
  rw [lg_entry_eq]
  generalize (lg_sl ([.ref (ad 8 0), .int d, .int q, .int c0]) ++ List.replicate (4 - (lg_sl ([.ref (ad 8 0), .int d, .int q, .int c0])).length) Slot.unset).toArray = ls at hl ⊢
  have hl : lv_has ls 4 [(0, .ref (ad 8 0)), (1, .int d), (2, .int q), (3, .int c0)] := hl
  refine lv_aload_n hx hb dX4_setRates_0 rfl (lv_at hl 0 rfl) ?_
  refine lv_iload_n hx hb dX4_setRates_1 rfl (lv_at hl 1 rfl) ?_
  refine lv_iconst (v := 0) hx hb dX4_setRates_2 (by decide) ?_
  refine lv_sipush (v := 5000) hx hb dX4_setRates_3 (by decide) ?_
  refine g_ci (va_runS (As := [.int d, .int 0, .int 5000]) (rest := [.ref (ad 8 0)]) ⟨hx, hb, hml, hown, hts⟩ (met_X4_in l Γ ad (shp Γ ad N o Z) d 0 5000) (va_cwS 3 hts (lw_S q756 q757 q31 q758) rfl rfl rfl (by decide +kernel) ⟨Nat.le_of_ble_eq_true rfl, Nat.le_of_ble_eq_true rfl⟩) (SF_S hK hS hF) rfl rfl hl.1 rfl (lv_room (Nat.le_of_ble_eq_true rfl)) dX4_setRates_6 ⟨Nat.le_of_ble_eq_true rfl, Nat.le_of_ble_eq_true rfl⟩) hS (fun H locs hF hS => ?_)
  refine lv_if_eq (tgt := 37) hx hb dX4_setRates_9 (by decide) (fun c9 => ?_) (fun c9 => ?_)
  · refine lv_iconst (v := 1) hx hb dX4_setRates_37 (by decide) ?_
    refine s_put (ci := 5) (T := TX4) (NC := 22) hx hb hts in_X4 tyX4 tyX4_ok nmX4 hown hK hF hS 8 0 0 rfl rfl 0 (by decide) rfl (hts _ q680) (fun _ h9 => h9) rfl (by decide +kernel) (Nat.le_of_ble_eq_true rfl) dX4_setRates_38 (fun H locs hF hS => ?_)
    refine lv_aload_n hx hb dX4_setRates_41 rfl (lv_at hl 0 rfl) ?_
    refine r_get (ci := 5) (v := .int 1) (T := TX4) (N := 22) hx hb hts in_X4 hown hK hF 8 0 rfl rfl 0 (by decide) (hts _ q680) (fun _ h9 => h9) rfl dX4_setRates_42 ?_
    refine lv_if_ne (tgt := 63) hx hb dX4_setRates_45 (by decide) (fun _ => ?_) (fun c45 => absurd c45 (by decide))
    exact g_vret hx hb hr hlocks hF hS dX4_setRates_63
  · refine lv_iload_n hx hb dX4_setRates_12 rfl (lv_at hl 2 rfl) ?_
    refine lv_iconst (v := 0) hx hb dX4_setRates_13 (by decide) ?_
    refine lv_sipush (v := 5000) hx hb dX4_setRates_14 (by decide) ?_
    refine g_ci (va_runS (As := [.int q, .int 0, .int 5000]) (rest := [.ref (ad 8 0)]) ⟨hx, hb, hml, hown, hts⟩ (met_X4_in l Γ ad (shp Γ ad N o Z) q 0 5000) (va_cwS 3 hts (lw_S q756 q757 q31 q758) rfl rfl rfl (by decide +kernel) ⟨Nat.le_of_ble_eq_true rfl, Nat.le_of_ble_eq_true rfl⟩) (SF_S hK hS hF) rfl rfl hl.1 rfl (lv_room (Nat.le_of_ble_eq_true rfl)) dX4_setRates_17 ⟨Nat.le_of_ble_eq_true rfl, Nat.le_of_ble_eq_true rfl⟩) hS (fun H locs hF hS => ?_)
    refine lv_if_eq (tgt := 37) hx hb dX4_setRates_20 (by decide) (fun c20 => ?_) (fun c20 => ?_)
    · refine lv_iconst (v := 1) hx hb dX4_setRates_37 (by decide) ?_
      refine s_put (ci := 5) (T := TX4) (NC := 22) hx hb hts in_X4 tyX4 tyX4_ok nmX4 hown hK hF hS 8 0 0 rfl rfl 0 (by decide) rfl (hts _ q680) (fun _ h9 => h9) rfl (by decide +kernel) (Nat.le_of_ble_eq_true rfl) dX4_setRates_38 (fun H locs hF hS => ?_)
      refine lv_aload_n hx hb dX4_setRates_41 rfl (lv_at hl 0 rfl) ?_
      refine r_get (ci := 5) (v := .int 1) (T := TX4) (N := 22) hx hb hts in_X4 hown hK hF 8 0 rfl rfl 0 (by decide) (hts _ q680) (fun _ h9 => h9) rfl dX4_setRates_42 ?_
      refine lv_if_ne (tgt := 63) hx hb dX4_setRates_45 (by decide) (fun _ => ?_) (fun c45 => absurd c45 (by decide))
      exact g_vret hx hb hr hlocks hF hS dX4_setRates_63
    · refine lv_iload_n hx hb dX4_setRates_23 rfl (lv_at hl 3 rfl) ?_
      refine lv_iconst (v := 0) hx hb dX4_setRates_24 (by decide) ?_
      refine lv_bipush (v := 100) hx hb dX4_setRates_25 (by decide) ?_
      refine g_ci (va_runS (As := [.int c0, .int 0, .int 100]) (rest := [.ref (ad 8 0)]) ⟨hx, hb, hml, hown, hts⟩ (met_X4_in l Γ ad (shp Γ ad N o Z) c0 0 100) (va_cwS 3 hts (lw_S q756 q757 q31 q758) rfl rfl rfl (by decide +kernel) ⟨Nat.le_of_ble_eq_true rfl, Nat.le_of_ble_eq_true rfl⟩) (SF_S hK hS hF) rfl rfl hl.1 rfl (lv_room (Nat.le_of_ble_eq_true rfl)) dX4_setRates_27 ⟨Nat.le_of_ble_eq_true rfl, Nat.le_of_ble_eq_true rfl⟩) hS (fun H locs hF hS => ?_)
      refine lv_if_eq (tgt := 37) hx hb dX4_setRates_30 (by decide) (fun c30 => ?_) (fun c30 => ?_)
      · refine lv_iconst (v := 1) hx hb dX4_setRates_37 (by decide) ?_
        refine s_put (ci := 5) (T := TX4) (NC := 22) hx hb hts in_X4 tyX4 tyX4_ok nmX4 hown hK hF hS 8 0 0 rfl rfl 0 (by decide) rfl (hts _ q680) (fun _ h9 => h9) rfl (by decide +kernel) (Nat.le_of_ble_eq_true rfl) dX4_setRates_38 (fun H locs hF hS => ?_)
        refine lv_aload_n hx hb dX4_setRates_41 rfl (lv_at hl 0 rfl) ?_
        refine r_get (ci := 5) (v := .int 1) (T := TX4) (N := 22) hx hb hts in_X4 hown hK hF 8 0 rfl rfl 0 (by decide) (hts _ q680) (fun _ h9 => h9) rfl dX4_setRates_42 ?_
        refine lv_if_ne (tgt := 63) hx hb dX4_setRates_45 (by decide) (fun _ => ?_) (fun c45 => absurd c45 (by decide))
        exact g_vret hx hb hr hlocks hF hS dX4_setRates_63
      · exact absurd ⟨bI_t c9, bI_t c20, bI_t c30⟩ h
set_option maxHeartbeats 4000000 in
set_option maxRecDepth 100000 in
/-- setRates, path B -/
theorem mm_setRates_B (l : Launch) (Γ : Gm) (ad : Nat → Nat → Nat) (N : Nat → Nat) (o : Nat → Int64) (Z : Nat → Nat → Nat → Int32) (d q c0 : Int32) (h1 : 0 ≤ d ∧ d ≤ 5000) (h2 : 0 ≤ q ∧ q ≤ 5000) (h3 : 0 ≤ c0 ∧ c0 ≤ 100) : Met l yX4_setRates (ws_ yX4_setRates cX4_setRates 4 none) ({ frames := 1, cells := 0, slots := 0, locals := 22 }) (va_Pc [.ref (ad 8 0), .int d, .int q, .int c0] (SF Γ ad (shp Γ ad N o Z))) (gEv Γ ad (shp Γ ad N o (uz (uz (uz (uz Z 8 0 0 0) 8 0 2 d) 8 0 3 q) 8 0 4 c0))) 0 0 (AA Γ) := by
  refine Met.ofW (cc := cX4_setRates) (maxL := 4) (ret := none) (by decide) rfl ?_
  intro p e s m args below meth c s₁ B hml hv
  obtain ⟨rfl, hK, hF⟩ := hv
  have hx := B.exec
  have hb := B.bytes
  have hr := B.returns
  have hts := atoms_spec (ws := ws_ yX4_setRates cX4_setRates 4 none) B.pre
  have hts : ∀ w ∈ lw_all, w.before _ s = true := fun w h => hts w (List.mem_cons_of_mem _ h)
  have hown : s.vm.findClass RX4 = some m.cls := findClass_of_methodNamed B.named
  have hlocks := B.notSynchronized
  have hS : va_S (AA Γ) s.heap s.heap [] := va_S.rf
  have hl := lv_entry ([.ref (ad 8 0), .int d, .int q, .int c0]) (n := 4) (Nat.le_of_ble_eq_true rfl)
  rw [lg_entry_eq]
  generalize (lg_sl ([.ref (ad 8 0), .int d, .int q, .int c0]) ++ List.replicate (4 - (lg_sl ([.ref (ad 8 0), .int d, .int q, .int c0])).length) Slot.unset).toArray = ls at hl ⊢
  have hl : lv_has ls 4 [(0, .ref (ad 8 0)), (1, .int d), (2, .int q), (3, .int c0)] := hl
  refine lv_aload_n hx hb dX4_setRates_0 rfl (lv_at hl 0 rfl) ?_
  refine lv_iload_n hx hb dX4_setRates_1 rfl (lv_at hl 1 rfl) ?_
  refine lv_iconst (v := 0) hx hb dX4_setRates_2 (by decide) ?_
  refine lv_sipush (v := 5000) hx hb dX4_setRates_3 (by decide) ?_
  refine g_ci (va_runS (As := [.int d, .int 0, .int 5000]) (rest := [.ref (ad 8 0)]) ⟨hx, hb, hml, hown, hts⟩ (Met.val (met_X4_in l Γ ad (shp Γ ad N o Z) d 0 5000) (bI1 h1)) (va_cwS 3 hts (lw_S q756 q757 q31 q758) rfl rfl rfl (by decide +kernel) ⟨Nat.le_of_ble_eq_true rfl, Nat.le_of_ble_eq_true rfl⟩) (SF_S hK hS hF) rfl rfl hl.1 rfl (lv_room (Nat.le_of_ble_eq_true rfl)) dX4_setRates_6 ⟨Nat.le_of_ble_eq_true rfl, Nat.le_of_ble_eq_true rfl⟩) hS (fun H locs hF hS => ?_)
  refine lv_if_eq (tgt := 37) hx hb dX4_setRates_9 (by decide) (fun c9 => absurd c9 (by decide)) (fun _ => ?_)
  refine lv_iload_n hx hb dX4_setRates_12 rfl (lv_at hl 2 rfl) ?_
  refine lv_iconst (v := 0) hx hb dX4_setRates_13 (by decide) ?_
  refine lv_sipush (v := 5000) hx hb dX4_setRates_14 (by decide) ?_
  refine g_ci (va_runS (As := [.int q, .int 0, .int 5000]) (rest := [.ref (ad 8 0)]) ⟨hx, hb, hml, hown, hts⟩ (Met.val (met_X4_in l Γ ad (shp Γ ad N o Z) q 0 5000) (bI1 h2)) (va_cwS 3 hts (lw_S q756 q757 q31 q758) rfl rfl rfl (by decide +kernel) ⟨Nat.le_of_ble_eq_true rfl, Nat.le_of_ble_eq_true rfl⟩) (SF_S hK hS hF) rfl rfl hl.1 rfl (lv_room (Nat.le_of_ble_eq_true rfl)) dX4_setRates_17 ⟨Nat.le_of_ble_eq_true rfl, Nat.le_of_ble_eq_true rfl⟩) hS (fun H locs hF hS => ?_)
  refine lv_if_eq (tgt := 37) hx hb dX4_setRates_20 (by decide) (fun c20 => absurd c20 (by decide)) (fun _ => ?_)
  refine lv_iload_n hx hb dX4_setRates_23 rfl (lv_at hl 3 rfl) ?_
  refine lv_iconst (v := 0) hx hb dX4_setRates_24 (by decide) ?_
  refine lv_bipush (v := 100) hx hb dX4_setRates_25 (by decide) ?_
  refine g_ci (va_runS (As := [.int c0, .int 0, .int 100]) (rest := [.ref (ad 8 0)]) ⟨hx, hb, hml, hown, hts⟩ (Met.val (met_X4_in l Γ ad (shp Γ ad N o Z) c0 0 100) (bI1 h3)) (va_cwS 3 hts (lw_S q756 q757 q31 q758) rfl rfl rfl (by decide +kernel) ⟨Nat.le_of_ble_eq_true rfl, Nat.le_of_ble_eq_true rfl⟩) (SF_S hK hS hF) rfl rfl hl.1 rfl (lv_room (Nat.le_of_ble_eq_true rfl)) dX4_setRates_27 ⟨Nat.le_of_ble_eq_true rfl, Nat.le_of_ble_eq_true rfl⟩) hS (fun H locs hF hS => ?_)
  refine lv_if_eq (tgt := 37) hx hb dX4_setRates_30 (by decide) (fun c30 => absurd c30 (by decide)) (fun _ => ?_)
  refine lv_iconst (v := 0) hx hb dX4_setRates_33 (by decide) ?_
  refine lv_goto (tgt := 38) hx hb dX4_setRates_34 (by decide) ?_
  refine s_put (ci := 5) (T := TX4) (NC := 22) hx hb hts in_X4 tyX4 tyX4_ok nmX4 hown hK hF hS 8 0 0 rfl rfl 0 (by decide) rfl (hts _ q680) (fun _ h9 => h9) rfl (by decide +kernel) (Nat.le_of_ble_eq_true rfl) dX4_setRates_38 (fun H locs hF hS => ?_)
  refine lv_aload_n hx hb dX4_setRates_41 rfl (lv_at hl 0 rfl) ?_
  refine r_get (ci := 5) (v := .int 0) (T := TX4) (N := 22) hx hb hts in_X4 hown hK hF 8 0 rfl rfl 0 (by decide) (hts _ q680) (fun _ h9 => h9) rfl dX4_setRates_42 ?_
  refine lv_if_ne (tgt := 63) hx hb dX4_setRates_45 (by decide) (fun c45 => absurd (by decide) c45) (fun _ => ?_)
  refine lv_aload_n hx hb dX4_setRates_48 rfl (lv_at hl 0 rfl) ?_
  refine lv_iload_n hx hb dX4_setRates_49 rfl (lv_at hl 1 rfl) ?_
  refine s_put (ci := 5) (T := TX4) (NC := 22) hx hb hts in_X4 tyX4 tyX4_ok nmX4 hown hK hF hS 8 0 2 rfl rfl 3 (by decide) rfl (hts _ q683) (fun _ h9 => h9) rfl (by decide +kernel) (Nat.le_of_ble_eq_true rfl) dX4_setRates_50 (fun H locs hF hS => ?_)
  refine lv_aload_n hx hb dX4_setRates_53 rfl (lv_at hl 0 rfl) ?_
  refine lv_iload_n hx hb dX4_setRates_54 rfl (lv_at hl 2 rfl) ?_
  refine s_put (ci := 5) (T := TX4) (NC := 22) hx hb hts in_X4 tyX4 tyX4_ok nmX4 hown hK hF hS 8 0 3 rfl rfl 4 (by decide) rfl (hts _ q684) (fun _ h9 => h9) rfl (by decide +kernel) (Nat.le_of_ble_eq_true rfl) dX4_setRates_55 (fun H locs hF hS => ?_)
  refine lv_aload_n hx hb dX4_setRates_58 rfl (lv_at hl 0 rfl) ?_
  refine lv_iload_n hx hb dX4_setRates_59 rfl (lv_at hl 3 rfl) ?_
  refine s_put (ci := 5) (T := TX4) (NC := 22) hx hb hts in_X4 tyX4 tyX4_ok nmX4 hown hK hF hS 8 0 4 rfl rfl 5 (by decide) rfl (hts _ q685) (fun _ h9 => h9) rfl (by decide +kernel) (Nat.le_of_ble_eq_true rfl) dX4_setRates_60 (fun H locs hF hS => ?_)
  exact g_vret hx hb hr hlocks hF hS dX4_setRates_63
set_option maxHeartbeats 4000000 in
set_option maxRecDepth 100000 in
/-- lend, path A -/
theorem mm_lend_A (l : Launch) (Γ : Gm) (ad : Nat → Nat → Nat) (N : Nat → Nat) (o : Nat → Int64) (Z : Nat → Nat → Nat → Int32) (b p0 a r k h6 : Int32) (h : ¬ ((0 ≤ b ∧ b ≤ 2) ∧ (0 ≤ p0 ∧ p0 ≤ 2))) : Met l yX4_lend (ws_ yX4_lend cX4_lend 8 (some .int)) ({ frames := 2, cells := 0, slots := 0, locals := 42 }) (va_Pc [.ref (ad 8 0), .int b, .int p0, .int a, .int r, .int k, .int h6] (SF Γ ad (shp Γ ad N o Z))) (gEi Γ (0) ad (shp Γ ad N o (uz (uz Z 8 0 0 0) 8 0 0 1))) 0 0 (AA Γ) := by
  refine Met.ofW (cc := cX4_lend) (maxL := 8) (ret := (some .int)) (by decide) rfl ?_
  intro p e s m args below meth c s₁ B hml hv
  obtain ⟨rfl, hK, hF⟩ := hv
  have hx := B.exec
  have hb := B.bytes
  have hr := B.returns
  have hts := atoms_spec (ws := ws_ yX4_lend cX4_lend 8 (some .int)) B.pre
  have hts : ∀ w ∈ lw_all, w.before _ s = true := fun w h => hts w (List.mem_cons_of_mem _ h)
  have hown : s.vm.findClass RX4 = some m.cls := findClass_of_methodNamed B.named
  have hlocks := B.notSynchronized
  have hS : va_S (AA Γ) s.heap s.heap [] := va_S.rf
  have hl := lv_entry ([.ref (ad 8 0), .int b, .int p0, .int a, .int r, .int k, .int h6]) (n := 8) (Nat.le_of_ble_eq_true rfl)
  rw [lg_entry_eq]
  generalize (lg_sl ([.ref (ad 8 0), .int b, .int p0, .int a, .int r, .int k, .int h6]) ++ List.replicate (8 - (lg_sl ([.ref (ad 8 0), .int b, .int p0, .int a, .int r, .int k, .int h6])).length) Slot.unset).toArray = ls at hl ⊢
  have hl : lv_has ls 8 [(0, .ref (ad 8 0)), (1, .int b), (2, .int p0), (3, .int a), (4, .int r), (5, .int k), (6, .int h6)] := hl
  refine lv_aload_n hx hb dX4_lend_0 rfl (lv_at hl 0 rfl) ?_
  refine lv_iconst (v := 0) hx hb dX4_lend_1 (by decide) ?_
  refine s_put (ci := 5) (T := TX4) (NC := 22) hx hb hts in_X4 tyX4 tyX4_ok nmX4 hown hK hF hS 8 0 0 rfl rfl 0 (by decide) rfl (hts _ q680) (fun _ h9 => h9) rfl (by decide +kernel) (Nat.le_of_ble_eq_true rfl) dX4_lend_2 (fun H locs hF hS => ?_)
  refine lv_iload_n hx hb dX4_lend_5 rfl (lv_at hl 1 rfl) ?_
  refine g_ci (va_runS (As := [.int b]) (rest := []) ⟨hx, hb, hml, hown, hts⟩ (met_X4_isBranch l Γ ad N o (uz Z 8 0 0 0) b) (va_cwS 1 hts (lw_S q771 q772 q31 q773) rfl rfl rfl (by decide +kernel) ⟨Nat.le_of_ble_eq_true rfl, Nat.le_of_ble_eq_true rfl⟩) (SF_S hK hS hF) rfl rfl hl.1 rfl (lv_room (Nat.le_of_ble_eq_true rfl)) dX4_lend_6 ⟨Nat.le_of_ble_eq_true rfl, Nat.le_of_ble_eq_true rfl⟩) hS (fun H locs hF hS => ?_)
  refine lv_if_eq (tgt := 21) hx hb dX4_lend_9 (by decide) (fun c9 => ?_) (fun c9 => ?_)
  · refine lv_aload_n hx hb dX4_lend_21 rfl (lv_at hl 0 rfl) ?_
    refine lv_iconst (v := 1) hx hb dX4_lend_22 (by decide) ?_
    refine g_callw (va_runV (As := [.int 1]) (rest := []) ⟨hx, hb, hml, hown, hts⟩ (met_X4_fails l Γ ad N o (uz Z 8 0 0 0) 1) (cwV 1 hts (lw_V q759 q761 qs12 q31 q762) rfl rfl rfl (by decide +kernel) ⟨Nat.le_of_ble_eq_true rfl, Nat.le_of_ble_eq_true rfl⟩) (SF_V hK hS hF (recvF hK hF 8 0 rfl rfl)) rfl rfl hl.1 rfl (lv_room (Nat.le_of_ble_eq_true rfl)) dX4_lend_23 ⟨Nat.le_of_ble_eq_true rfl, Nat.le_of_ble_eq_true rfl⟩) hS (fun H locs hF hS => ?_)
    exact g_iret hx hb hr hlocks hF hS dX4_lend_26
  · refine lv_iload_n hx hb dX4_lend_12 rfl (lv_at hl 2 rfl) ?_
    refine lv_iconst (v := 0) hx hb dX4_lend_13 (by decide) ?_
    refine lv_iconst (v := 2) hx hb dX4_lend_14 (by decide) ?_
    refine g_ci (va_runS (As := [.int p0, .int 0, .int 2]) (rest := []) ⟨hx, hb, hml, hown, hts⟩ (met_X4_in l Γ ad (shp Γ ad N o (uz Z 8 0 0 0)) p0 0 2) (va_cwS 3 hts (lw_S q756 q757 q31 q758) rfl rfl rfl (by decide +kernel) ⟨Nat.le_of_ble_eq_true rfl, Nat.le_of_ble_eq_true rfl⟩) (SF_S hK hS hF) rfl rfl hl.1 rfl (lv_room (Nat.le_of_ble_eq_true rfl)) dX4_lend_15 ⟨Nat.le_of_ble_eq_true rfl, Nat.le_of_ble_eq_true rfl⟩) hS (fun H locs hF hS => ?_)
    refine lv_if_ne (tgt := 27) hx hb dX4_lend_18 (by decide) (fun c18 => ?_) (fun c18 => ?_)
    · exact absurd ⟨bI_t c9, bI_t c18⟩ h
    · refine lv_aload_n hx hb dX4_lend_21 rfl (lv_at hl 0 rfl) ?_
      refine lv_iconst (v := 1) hx hb dX4_lend_22 (by decide) ?_
      refine g_callw (va_runV (As := [.int 1]) (rest := []) ⟨hx, hb, hml, hown, hts⟩ (met_X4_fails l Γ ad N o (uz Z 8 0 0 0) 1) (cwV 1 hts (lw_V q759 q761 qs12 q31 q762) rfl rfl rfl (by decide +kernel) ⟨Nat.le_of_ble_eq_true rfl, Nat.le_of_ble_eq_true rfl⟩) (SF_V hK hS hF (recvF hK hF 8 0 rfl rfl)) rfl rfl hl.1 rfl (lv_room (Nat.le_of_ble_eq_true rfl)) dX4_lend_23 ⟨Nat.le_of_ble_eq_true rfl, Nat.le_of_ble_eq_true rfl⟩) hS (fun H locs hF hS => ?_)
      exact g_iret hx hb hr hlocks hF hS dX4_lend_26
set_option maxHeartbeats 4000000 in
set_option maxRecDepth 100000 in
/-- lend, path B -/
theorem mm_lend_B (l : Launch) (Γ : Gm) (ad : Nat → Nat → Nat) (N : Nat → Nat) (o : Nat → Int64) (Z : Nat → Nat → Nat → Int32) (b p0 a r k h6 : Int32) (hb1 : 0 ≤ b ∧ b ≤ 2) (hp1 : 0 ≤ p0 ∧ p0 ≤ 2) (h : ¬ ((1 ≤ a ∧ a ≤ 10000000) ∧ (0 ≤ r ∧ r ≤ 5000) ∧ (1 ≤ k ∧ k ≤ 6))) : Met l yX4_lend (ws_ yX4_lend cX4_lend 8 (some .int)) ({ frames := 2, cells := 0, slots := 0, locals := 42 }) (va_Pc [.ref (ad 8 0), .int b, .int p0, .int a, .int r, .int k, .int h6] (SF Γ ad (shp Γ ad N o Z))) (gEi Γ (0) ad (shp Γ ad N o (uz (uz Z 8 0 0 0) 8 0 0 2))) 0 0 (AA Γ) := by
  refine Met.ofW (cc := cX4_lend) (maxL := 8) (ret := (some .int)) (by decide) rfl ?_
  intro p e s m args below meth c s₁ B hml hv
  obtain ⟨rfl, hK, hF⟩ := hv
  have hx := B.exec
  have hb := B.bytes
  have hr := B.returns
  have hts := atoms_spec (ws := ws_ yX4_lend cX4_lend 8 (some .int)) B.pre
  have hts : ∀ w ∈ lw_all, w.before _ s = true := fun w h => hts w (List.mem_cons_of_mem _ h)
  have hown : s.vm.findClass RX4 = some m.cls := findClass_of_methodNamed B.named
  have hlocks := B.notSynchronized
  have hS : va_S (AA Γ) s.heap s.heap [] := va_S.rf
  have hl := lv_entry ([.ref (ad 8 0), .int b, .int p0, .int a, .int r, .int k, .int h6]) (n := 8) (Nat.le_of_ble_eq_true rfl)
  rw [lg_entry_eq]
  generalize (lg_sl ([.ref (ad 8 0), .int b, .int p0, .int a, .int r, .int k, .int h6]) ++ List.replicate (8 - (lg_sl ([.ref (ad 8 0), .int b, .int p0, .int a, .int r, .int k, .int h6])).length) Slot.unset).toArray = ls at hl ⊢
  have hl : lv_has ls 8 [(0, .ref (ad 8 0)), (1, .int b), (2, .int p0), (3, .int a), (4, .int r), (5, .int k), (6, .int h6)] := hl
  refine lv_aload_n hx hb dX4_lend_0 rfl (lv_at hl 0 rfl) ?_
  refine lv_iconst (v := 0) hx hb dX4_lend_1 (by decide) ?_
  refine s_put (ci := 5) (T := TX4) (NC := 22) hx hb hts in_X4 tyX4 tyX4_ok nmX4 hown hK hF hS 8 0 0 rfl rfl 0 (by decide) rfl (hts _ q680) (fun _ h9 => h9) rfl (by decide +kernel) (Nat.le_of_ble_eq_true rfl) dX4_lend_2 (fun H locs hF hS => ?_)
  refine lv_iload_n hx hb dX4_lend_5 rfl (lv_at hl 1 rfl) ?_
  refine g_ci (va_runS (As := [.int b]) (rest := []) ⟨hx, hb, hml, hown, hts⟩ (Met.val (met_X4_isBranch l Γ ad N o (uz Z 8 0 0 0) b) (bI1 hb1)) (va_cwS 1 hts (lw_S q771 q772 q31 q773) rfl rfl rfl (by decide +kernel) ⟨Nat.le_of_ble_eq_true rfl, Nat.le_of_ble_eq_true rfl⟩) (SF_S hK hS hF) rfl rfl hl.1 rfl (lv_room (Nat.le_of_ble_eq_true rfl)) dX4_lend_6 ⟨Nat.le_of_ble_eq_true rfl, Nat.le_of_ble_eq_true rfl⟩) hS (fun H locs hF hS => ?_)
  refine lv_if_eq (tgt := 21) hx hb dX4_lend_9 (by decide) (fun c9 => absurd c9 (by decide)) (fun _ => ?_)
  refine lv_iload_n hx hb dX4_lend_12 rfl (lv_at hl 2 rfl) ?_
  refine lv_iconst (v := 0) hx hb dX4_lend_13 (by decide) ?_
  refine lv_iconst (v := 2) hx hb dX4_lend_14 (by decide) ?_
  refine g_ci (va_runS (As := [.int p0, .int 0, .int 2]) (rest := []) ⟨hx, hb, hml, hown, hts⟩ (Met.val (met_X4_in l Γ ad (shp Γ ad N o (uz Z 8 0 0 0)) p0 0 2) (bI1 hp1)) (va_cwS 3 hts (lw_S q756 q757 q31 q758) rfl rfl rfl (by decide +kernel) ⟨Nat.le_of_ble_eq_true rfl, Nat.le_of_ble_eq_true rfl⟩) (SF_S hK hS hF) rfl rfl hl.1 rfl (lv_room (Nat.le_of_ble_eq_true rfl)) dX4_lend_15 ⟨Nat.le_of_ble_eq_true rfl, Nat.le_of_ble_eq_true rfl⟩) hS (fun H locs hF hS => ?_)
  refine lv_if_ne (tgt := 27) hx hb dX4_lend_18 (by decide) (fun _ => ?_) (fun c18 => absurd c18 (by decide))
  refine lv_iload_n hx hb dX4_lend_27 rfl (lv_at hl 3 rfl) ?_
  refine lv_iconst (v := 1) hx hb dX4_lend_28 (by decide) ?_
  refine lv_ldc (v := 10000000) hx hb hown (hts _ q774) dX4_lend_29 ?_
  refine g_ci (va_runS (As := [.int a, .int 1, .int 10000000]) (rest := []) ⟨hx, hb, hml, hown, hts⟩ (met_X4_in l Γ ad (shp Γ ad N o (uz Z 8 0 0 0)) a 1 10000000) (va_cwS 3 hts (lw_S q756 q757 q31 q758) rfl rfl rfl (by decide +kernel) ⟨Nat.le_of_ble_eq_true rfl, Nat.le_of_ble_eq_true rfl⟩) (SF_S hK hS hF) rfl rfl hl.1 rfl (lv_room (Nat.le_of_ble_eq_true rfl)) dX4_lend_31 ⟨Nat.le_of_ble_eq_true rfl, Nat.le_of_ble_eq_true rfl⟩) hS (fun H locs hF hS => ?_)
  refine lv_if_eq (tgt := 60) hx hb dX4_lend_34 (by decide) (fun c34 => ?_) (fun c34 => ?_)
  · refine lv_aload_n hx hb dX4_lend_60 rfl (lv_at hl 0 rfl) ?_
    refine lv_iconst (v := 2) hx hb dX4_lend_61 (by decide) ?_
    refine g_callw (va_runV (As := [.int 2]) (rest := []) ⟨hx, hb, hml, hown, hts⟩ (met_X4_fails l Γ ad N o (uz Z 8 0 0 0) 2) (cwV 1 hts (lw_V q759 q761 qs12 q31 q762) rfl rfl rfl (by decide +kernel) ⟨Nat.le_of_ble_eq_true rfl, Nat.le_of_ble_eq_true rfl⟩) (SF_V hK hS hF (recvF hK hF 8 0 rfl rfl)) rfl rfl hl.1 rfl (lv_room (Nat.le_of_ble_eq_true rfl)) dX4_lend_62 ⟨Nat.le_of_ble_eq_true rfl, Nat.le_of_ble_eq_true rfl⟩) hS (fun H locs hF hS => ?_)
    exact g_iret hx hb hr hlocks hF hS dX4_lend_65
  · refine lv_iload hx hb dX4_lend_37 (lv_at hl 4 rfl) ?_
    refine lv_iconst (v := 0) hx hb dX4_lend_39 (by decide) ?_
    refine lv_sipush (v := 5000) hx hb dX4_lend_40 (by decide) ?_
    refine g_ci (va_runS (As := [.int r, .int 0, .int 5000]) (rest := []) ⟨hx, hb, hml, hown, hts⟩ (met_X4_in l Γ ad (shp Γ ad N o (uz Z 8 0 0 0)) r 0 5000) (va_cwS 3 hts (lw_S q756 q757 q31 q758) rfl rfl rfl (by decide +kernel) ⟨Nat.le_of_ble_eq_true rfl, Nat.le_of_ble_eq_true rfl⟩) (SF_S hK hS hF) rfl rfl hl.1 rfl (lv_room (Nat.le_of_ble_eq_true rfl)) dX4_lend_43 ⟨Nat.le_of_ble_eq_true rfl, Nat.le_of_ble_eq_true rfl⟩) hS (fun H locs hF hS => ?_)
    refine lv_if_eq (tgt := 60) hx hb dX4_lend_46 (by decide) (fun c46 => ?_) (fun c46 => ?_)
    · refine lv_aload_n hx hb dX4_lend_60 rfl (lv_at hl 0 rfl) ?_
      refine lv_iconst (v := 2) hx hb dX4_lend_61 (by decide) ?_
      refine g_callw (va_runV (As := [.int 2]) (rest := []) ⟨hx, hb, hml, hown, hts⟩ (met_X4_fails l Γ ad N o (uz Z 8 0 0 0) 2) (cwV 1 hts (lw_V q759 q761 qs12 q31 q762) rfl rfl rfl (by decide +kernel) ⟨Nat.le_of_ble_eq_true rfl, Nat.le_of_ble_eq_true rfl⟩) (SF_V hK hS hF (recvF hK hF 8 0 rfl rfl)) rfl rfl hl.1 rfl (lv_room (Nat.le_of_ble_eq_true rfl)) dX4_lend_62 ⟨Nat.le_of_ble_eq_true rfl, Nat.le_of_ble_eq_true rfl⟩) hS (fun H locs hF hS => ?_)
      exact g_iret hx hb hr hlocks hF hS dX4_lend_65
    · refine lv_iload hx hb dX4_lend_49 (lv_at hl 5 rfl) ?_
      refine lv_iconst (v := 1) hx hb dX4_lend_51 (by decide) ?_
      refine lv_bipush (v := 6) hx hb dX4_lend_52 (by decide) ?_
      refine g_ci (va_runS (As := [.int k, .int 1, .int 6]) (rest := []) ⟨hx, hb, hml, hown, hts⟩ (met_X4_in l Γ ad (shp Γ ad N o (uz Z 8 0 0 0)) k 1 6) (va_cwS 3 hts (lw_S q756 q757 q31 q758) rfl rfl rfl (by decide +kernel) ⟨Nat.le_of_ble_eq_true rfl, Nat.le_of_ble_eq_true rfl⟩) (SF_S hK hS hF) rfl rfl hl.1 rfl (lv_room (Nat.le_of_ble_eq_true rfl)) dX4_lend_54 ⟨Nat.le_of_ble_eq_true rfl, Nat.le_of_ble_eq_true rfl⟩) hS (fun H locs hF hS => ?_)
      refine lv_if_ne (tgt := 66) hx hb dX4_lend_57 (by decide) (fun c57 => ?_) (fun c57 => ?_)
      · exact absurd ⟨bI_t c34, bI_t c46, bI_t c57⟩ h
      · refine lv_aload_n hx hb dX4_lend_60 rfl (lv_at hl 0 rfl) ?_
        refine lv_iconst (v := 2) hx hb dX4_lend_61 (by decide) ?_
        refine g_callw (va_runV (As := [.int 2]) (rest := []) ⟨hx, hb, hml, hown, hts⟩ (met_X4_fails l Γ ad N o (uz Z 8 0 0 0) 2) (cwV 1 hts (lw_V q759 q761 qs12 q31 q762) rfl rfl rfl (by decide +kernel) ⟨Nat.le_of_ble_eq_true rfl, Nat.le_of_ble_eq_true rfl⟩) (SF_V hK hS hF (recvF hK hF 8 0 rfl rfl)) rfl rfl hl.1 rfl (lv_room (Nat.le_of_ble_eq_true rfl)) dX4_lend_62 ⟨Nat.le_of_ble_eq_true rfl, Nat.le_of_ble_eq_true rfl⟩) hS (fun H locs hF hS => ?_)
        exact g_iret hx hb hr hlocks hF hS dX4_lend_65
set_option maxHeartbeats 4000000 in
set_option maxRecDepth 100000 in
/-- lend, path C -/
theorem mm_lend_C (l : Launch) (Γ : Gm) (ad : Nat → Nat → Nat) (N : Nat → Nat) (o : Nat → Int64) (Z : Nat → Nat → Nat → Int32) (b p0 a r k h6 : Int32) (hb1 : 0 ≤ b ∧ b ≤ 2) (hp1 : 0 ≤ p0 ∧ p0 ≤ 2) (ha : 1 ≤ a ∧ a ≤ 10000000) (hr1 : 0 ≤ r ∧ r ≤ 5000) (hk1 : 1 ≤ k ∧ k ≤ 6) (hlo : Z 8 0 5 = 24) : Met l yX4_lend (ws_ yX4_lend cX4_lend 8 (some .int)) ({ frames := 2, cells := 0, slots := 0, locals := 42 }) (va_Pc [.ref (ad 8 0), .int b, .int p0, .int a, .int r, .int k, .int h6] (SF Γ ad (shp Γ ad N o Z))) (gEi Γ (0) ad (shp Γ ad N o (uz (uz Z 8 0 0 0) 8 0 0 3))) 0 0 (AA Γ) := by
  refine Met.ofW (cc := cX4_lend) (maxL := 8) (ret := (some .int)) (by decide) rfl ?_
  intro p e s m args below meth c s₁ B hml hv
  obtain ⟨rfl, hK, hF⟩ := hv
  have hx := B.exec
  have hb := B.bytes
  have hr := B.returns
  have hts := atoms_spec (ws := ws_ yX4_lend cX4_lend 8 (some .int)) B.pre
  have hts : ∀ w ∈ lw_all, w.before _ s = true := fun w h => hts w (List.mem_cons_of_mem _ h)
  have hown : s.vm.findClass RX4 = some m.cls := findClass_of_methodNamed B.named
  have hlocks := B.notSynchronized
  have hS : va_S (AA Γ) s.heap s.heap [] := va_S.rf
  have hl := lv_entry ([.ref (ad 8 0), .int b, .int p0, .int a, .int r, .int k, .int h6]) (n := 8) (Nat.le_of_ble_eq_true rfl)
  rw [lg_entry_eq]
  generalize (lg_sl ([.ref (ad 8 0), .int b, .int p0, .int a, .int r, .int k, .int h6]) ++ List.replicate (8 - (lg_sl ([.ref (ad 8 0), .int b, .int p0, .int a, .int r, .int k, .int h6])).length) Slot.unset).toArray = ls at hl ⊢
  have hl : lv_has ls 8 [(0, .ref (ad 8 0)), (1, .int b), (2, .int p0), (3, .int a), (4, .int r), (5, .int k), (6, .int h6)] := hl
  refine lv_aload_n hx hb dX4_lend_0 rfl (lv_at hl 0 rfl) ?_
  refine lv_iconst (v := 0) hx hb dX4_lend_1 (by decide) ?_
  refine s_put (ci := 5) (T := TX4) (NC := 22) hx hb hts in_X4 tyX4 tyX4_ok nmX4 hown hK hF hS 8 0 0 rfl rfl 0 (by decide) rfl (hts _ q680) (fun _ h9 => h9) rfl (by decide +kernel) (Nat.le_of_ble_eq_true rfl) dX4_lend_2 (fun H locs hF hS => ?_)
  refine lv_iload_n hx hb dX4_lend_5 rfl (lv_at hl 1 rfl) ?_
  refine g_ci (va_runS (As := [.int b]) (rest := []) ⟨hx, hb, hml, hown, hts⟩ (Met.val (met_X4_isBranch l Γ ad N o (uz Z 8 0 0 0) b) (bI1 hb1)) (va_cwS 1 hts (lw_S q771 q772 q31 q773) rfl rfl rfl (by decide +kernel) ⟨Nat.le_of_ble_eq_true rfl, Nat.le_of_ble_eq_true rfl⟩) (SF_S hK hS hF) rfl rfl hl.1 rfl (lv_room (Nat.le_of_ble_eq_true rfl)) dX4_lend_6 ⟨Nat.le_of_ble_eq_true rfl, Nat.le_of_ble_eq_true rfl⟩) hS (fun H locs hF hS => ?_)
  refine lv_if_eq (tgt := 21) hx hb dX4_lend_9 (by decide) (fun c9 => absurd c9 (by decide)) (fun _ => ?_)
  refine lv_iload_n hx hb dX4_lend_12 rfl (lv_at hl 2 rfl) ?_
  refine lv_iconst (v := 0) hx hb dX4_lend_13 (by decide) ?_
  refine lv_iconst (v := 2) hx hb dX4_lend_14 (by decide) ?_
  refine g_ci (va_runS (As := [.int p0, .int 0, .int 2]) (rest := []) ⟨hx, hb, hml, hown, hts⟩ (Met.val (met_X4_in l Γ ad (shp Γ ad N o (uz Z 8 0 0 0)) p0 0 2) (bI1 hp1)) (va_cwS 3 hts (lw_S q756 q757 q31 q758) rfl rfl rfl (by decide +kernel) ⟨Nat.le_of_ble_eq_true rfl, Nat.le_of_ble_eq_true rfl⟩) (SF_S hK hS hF) rfl rfl hl.1 rfl (lv_room (Nat.le_of_ble_eq_true rfl)) dX4_lend_15 ⟨Nat.le_of_ble_eq_true rfl, Nat.le_of_ble_eq_true rfl⟩) hS (fun H locs hF hS => ?_)
  refine lv_if_ne (tgt := 27) hx hb dX4_lend_18 (by decide) (fun _ => ?_) (fun c18 => absurd c18 (by decide))
  refine lv_iload_n hx hb dX4_lend_27 rfl (lv_at hl 3 rfl) ?_
  refine lv_iconst (v := 1) hx hb dX4_lend_28 (by decide) ?_
  refine lv_ldc (v := 10000000) hx hb hown (hts _ q774) dX4_lend_29 ?_
  refine g_ci (va_runS (As := [.int a, .int 1, .int 10000000]) (rest := []) ⟨hx, hb, hml, hown, hts⟩ (Met.val (met_X4_in l Γ ad (shp Γ ad N o (uz Z 8 0 0 0)) a 1 10000000) (bI1 ha)) (va_cwS 3 hts (lw_S q756 q757 q31 q758) rfl rfl rfl (by decide +kernel) ⟨Nat.le_of_ble_eq_true rfl, Nat.le_of_ble_eq_true rfl⟩) (SF_S hK hS hF) rfl rfl hl.1 rfl (lv_room (Nat.le_of_ble_eq_true rfl)) dX4_lend_31 ⟨Nat.le_of_ble_eq_true rfl, Nat.le_of_ble_eq_true rfl⟩) hS (fun H locs hF hS => ?_)
  refine lv_if_eq (tgt := 60) hx hb dX4_lend_34 (by decide) (fun c34 => absurd c34 (by decide)) (fun _ => ?_)
  refine lv_iload hx hb dX4_lend_37 (lv_at hl 4 rfl) ?_
  refine lv_iconst (v := 0) hx hb dX4_lend_39 (by decide) ?_
  refine lv_sipush (v := 5000) hx hb dX4_lend_40 (by decide) ?_
  refine g_ci (va_runS (As := [.int r, .int 0, .int 5000]) (rest := []) ⟨hx, hb, hml, hown, hts⟩ (Met.val (met_X4_in l Γ ad (shp Γ ad N o (uz Z 8 0 0 0)) r 0 5000) (bI1 hr1)) (va_cwS 3 hts (lw_S q756 q757 q31 q758) rfl rfl rfl (by decide +kernel) ⟨Nat.le_of_ble_eq_true rfl, Nat.le_of_ble_eq_true rfl⟩) (SF_S hK hS hF) rfl rfl hl.1 rfl (lv_room (Nat.le_of_ble_eq_true rfl)) dX4_lend_43 ⟨Nat.le_of_ble_eq_true rfl, Nat.le_of_ble_eq_true rfl⟩) hS (fun H locs hF hS => ?_)
  refine lv_if_eq (tgt := 60) hx hb dX4_lend_46 (by decide) (fun c46 => absurd c46 (by decide)) (fun _ => ?_)
  refine lv_iload hx hb dX4_lend_49 (lv_at hl 5 rfl) ?_
  refine lv_iconst (v := 1) hx hb dX4_lend_51 (by decide) ?_
  refine lv_bipush (v := 6) hx hb dX4_lend_52 (by decide) ?_
  refine g_ci (va_runS (As := [.int k, .int 1, .int 6]) (rest := []) ⟨hx, hb, hml, hown, hts⟩ (Met.val (met_X4_in l Γ ad (shp Γ ad N o (uz Z 8 0 0 0)) k 1 6) (bI1 hk1)) (va_cwS 3 hts (lw_S q756 q757 q31 q758) rfl rfl rfl (by decide +kernel) ⟨Nat.le_of_ble_eq_true rfl, Nat.le_of_ble_eq_true rfl⟩) (SF_S hK hS hF) rfl rfl hl.1 rfl (lv_room (Nat.le_of_ble_eq_true rfl)) dX4_lend_54 ⟨Nat.le_of_ble_eq_true rfl, Nat.le_of_ble_eq_true rfl⟩) hS (fun H locs hF hS => ?_)
  refine lv_if_ne (tgt := 66) hx hb dX4_lend_57 (by decide) (fun _ => ?_) (fun c57 => absurd c57 (by decide))
  refine lv_aload_n hx hb dX4_lend_66 rfl (lv_at hl 0 rfl) ?_
  refine r_get (ci := 5) (v := .int (Z 8 0 5)) (T := TX4) (N := 22) hx hb hts in_X4 hown hK hF 8 0 rfl rfl 6 (by decide) (hts _ q686) (fun _ h9 => h9) rfl dX4_lend_67 ?_
  refine lv_re hlo ?_
  refine lv_bipush (v := 24) hx hb dX4_lend_70 (by decide) ?_
  refine lv_icmp_ne (tgt := 81) hx hb dX4_lend_72 (by decide) (fun c72 => absurd (by decide) c72) (fun _ => ?_)
  refine lv_aload_n hx hb dX4_lend_75 rfl (lv_at hl 0 rfl) ?_
  refine lv_iconst (v := 3) hx hb dX4_lend_76 (by decide) ?_
  refine g_callw (va_runV (As := [.int 3]) (rest := []) ⟨hx, hb, hml, hown, hts⟩ (met_X4_fails l Γ ad N o (uz Z 8 0 0 0) 3) (cwV 1 hts (lw_V q759 q761 qs12 q31 q762) rfl rfl rfl (by decide +kernel) ⟨Nat.le_of_ble_eq_true rfl, Nat.le_of_ble_eq_true rfl⟩) (SF_V hK hS hF (recvF hK hF 8 0 rfl rfl)) rfl rfl hl.1 rfl (lv_room (Nat.le_of_ble_eq_true rfl)) dX4_lend_77 ⟨Nat.le_of_ble_eq_true rfl, Nat.le_of_ble_eq_true rfl⟩) hS (fun H locs hF hS => ?_)
  exact g_iret hx hb hr hlocks hF hS dX4_lend_80
set_option maxHeartbeats 4000000 in
set_option maxRecDepth 100000 in
/-- lend, path D -/
theorem mm_lend_D (l : Launch) (Γ : Gm) (ad : Nat → Nat → Nat) (N : Nat → Nat) (o : Nat → Int64) (Z : Nat → Nat → Nat → Int32) (b p0 a r : Int32) (k : Nat) (h6 : Int32) (hb1 : 0 ≤ b ∧ b ≤ 2) (hp1 : 0 ≤ p0 ∧ p0 ≤ 2) (ha : 1 ≤ a ∧ a ≤ 10000000) (hr1 : 0 ≤ r ∧ r ≤ 5000) (hk0 : 1 ≤ k) (hk6 : k ≤ 6) (hh6 : vp_nar .boolean h6 = h6) (n : Nat) (hn : n < 24) (hlo : Z 8 0 5 = nI n) : Met l yX4_lend (ws_ yX4_lend cX4_lend 8 (some .int)) ({ frames := 2, cells := 0, slots := 0, locals := 42 }) (va_Pc [.ref (ad 8 0), .int b, .int p0, .int a, .int r, .int (nI k), .int h6] (SF Γ ad (shp Γ ad N o Z))) (gEi Γ (nI n) ad (shp Γ ad N o (uz (mLend (mLd Z b p0 r h6 n) a (nI k) k n k) 8 0 5 (nI (n + 1))))) 0 0 (AA Γ) := by
  refine Met.ofW (cc := cX4_lend) (maxL := 8) (ret := (some .int)) (by decide) rfl ?_
  intro p e s m args below meth c s₁ B hml hv
  obtain ⟨rfl, hK, hF⟩ := hv
  have hx := B.exec
  have hb := B.bytes
  have hr := B.returns
  have hts := atoms_spec (ws := ws_ yX4_lend cX4_lend 8 (some .int)) B.pre
  have hts : ∀ w ∈ lw_all, w.before _ s = true := fun w h => hts w (List.mem_cons_of_mem _ h)
  have hown : s.vm.findClass RX4 = some m.cls := findClass_of_methodNamed B.named
  have hlocks := B.notSynchronized
  have hS : va_S (AA Γ) s.heap s.heap [] := va_S.rf
  have hl := lv_entry ([.ref (ad 8 0), .int b, .int p0, .int a, .int r, .int (nI k), .int h6]) (n := 8) (Nat.le_of_ble_eq_true rfl)
  rw [lg_entry_eq]
  generalize (lg_sl ([.ref (ad 8 0), .int b, .int p0, .int a, .int r, .int (nI k), .int h6]) ++ List.replicate (8 - (lg_sl ([.ref (ad 8 0), .int b, .int p0, .int a, .int r, .int (nI k), .int h6])).length) Slot.unset).toArray = ls at hl ⊢
  have hl : lv_has ls 8 [(0, .ref (ad 8 0)), (1, .int b), (2, .int p0), (3, .int a), (4, .int r), (5, .int (nI k)), (6, .int h6)] := hl
  refine lv_aload_n hx hb dX4_lend_0 rfl (lv_at hl 0 rfl) ?_
  refine lv_iconst (v := 0) hx hb dX4_lend_1 (by decide) ?_
  refine s_put (ci := 5) (T := TX4) (NC := 22) hx hb hts in_X4 tyX4 tyX4_ok nmX4 hown hK hF hS 8 0 0 rfl rfl 0 (by decide) rfl (hts _ q680) (fun _ h9 => h9) rfl (by decide +kernel) (Nat.le_of_ble_eq_true rfl) dX4_lend_2 (fun H locs hF hS => ?_)
  refine lv_iload_n hx hb dX4_lend_5 rfl (lv_at hl 1 rfl) ?_
  refine g_ci (va_runS (As := [.int b]) (rest := []) ⟨hx, hb, hml, hown, hts⟩ (Met.val (met_X4_isBranch l Γ ad N o (uz Z 8 0 0 0) b) (bI1 hb1)) (va_cwS 1 hts (lw_S q771 q772 q31 q773) rfl rfl rfl (by decide +kernel) ⟨Nat.le_of_ble_eq_true rfl, Nat.le_of_ble_eq_true rfl⟩) (SF_S hK hS hF) rfl rfl hl.1 rfl (lv_room (Nat.le_of_ble_eq_true rfl)) dX4_lend_6 ⟨Nat.le_of_ble_eq_true rfl, Nat.le_of_ble_eq_true rfl⟩) hS (fun H locs hF hS => ?_)
  refine lv_if_eq (tgt := 21) hx hb dX4_lend_9 (by decide) (fun c9 => absurd c9 (by decide)) (fun _ => ?_)
  refine lv_iload_n hx hb dX4_lend_12 rfl (lv_at hl 2 rfl) ?_
  refine lv_iconst (v := 0) hx hb dX4_lend_13 (by decide) ?_
  refine lv_iconst (v := 2) hx hb dX4_lend_14 (by decide) ?_
  refine g_ci (va_runS (As := [.int p0, .int 0, .int 2]) (rest := []) ⟨hx, hb, hml, hown, hts⟩ (Met.val (met_X4_in l Γ ad (shp Γ ad N o (uz Z 8 0 0 0)) p0 0 2) (bI1 hp1)) (va_cwS 3 hts (lw_S q756 q757 q31 q758) rfl rfl rfl (by decide +kernel) ⟨Nat.le_of_ble_eq_true rfl, Nat.le_of_ble_eq_true rfl⟩) (SF_S hK hS hF) rfl rfl hl.1 rfl (lv_room (Nat.le_of_ble_eq_true rfl)) dX4_lend_15 ⟨Nat.le_of_ble_eq_true rfl, Nat.le_of_ble_eq_true rfl⟩) hS (fun H locs hF hS => ?_)
  refine lv_if_ne (tgt := 27) hx hb dX4_lend_18 (by decide) (fun _ => ?_) (fun c18 => absurd c18 (by decide))
  refine lv_iload_n hx hb dX4_lend_27 rfl (lv_at hl 3 rfl) ?_
  refine lv_iconst (v := 1) hx hb dX4_lend_28 (by decide) ?_
  refine lv_ldc (v := 10000000) hx hb hown (hts _ q774) dX4_lend_29 ?_
  refine g_ci (va_runS (As := [.int a, .int 1, .int 10000000]) (rest := []) ⟨hx, hb, hml, hown, hts⟩ (Met.val (met_X4_in l Γ ad (shp Γ ad N o (uz Z 8 0 0 0)) a 1 10000000) (bI1 ha)) (va_cwS 3 hts (lw_S q756 q757 q31 q758) rfl rfl rfl (by decide +kernel) ⟨Nat.le_of_ble_eq_true rfl, Nat.le_of_ble_eq_true rfl⟩) (SF_S hK hS hF) rfl rfl hl.1 rfl (lv_room (Nat.le_of_ble_eq_true rfl)) dX4_lend_31 ⟨Nat.le_of_ble_eq_true rfl, Nat.le_of_ble_eq_true rfl⟩) hS (fun H locs hF hS => ?_)
  refine lv_if_eq (tgt := 60) hx hb dX4_lend_34 (by decide) (fun c34 => absurd c34 (by decide)) (fun _ => ?_)
  refine lv_iload hx hb dX4_lend_37 (lv_at hl 4 rfl) ?_
  refine lv_iconst (v := 0) hx hb dX4_lend_39 (by decide) ?_
  refine lv_sipush (v := 5000) hx hb dX4_lend_40 (by decide) ?_
  refine g_ci (va_runS (As := [.int r, .int 0, .int 5000]) (rest := []) ⟨hx, hb, hml, hown, hts⟩ (Met.val (met_X4_in l Γ ad (shp Γ ad N o (uz Z 8 0 0 0)) r 0 5000) (bI1 hr1)) (va_cwS 3 hts (lw_S q756 q757 q31 q758) rfl rfl rfl (by decide +kernel) ⟨Nat.le_of_ble_eq_true rfl, Nat.le_of_ble_eq_true rfl⟩) (SF_S hK hS hF) rfl rfl hl.1 rfl (lv_room (Nat.le_of_ble_eq_true rfl)) dX4_lend_43 ⟨Nat.le_of_ble_eq_true rfl, Nat.le_of_ble_eq_true rfl⟩) hS (fun H locs hF hS => ?_)
  refine lv_if_eq (tgt := 60) hx hb dX4_lend_46 (by decide) (fun c46 => absurd c46 (by decide)) (fun _ => ?_)
  refine lv_iload hx hb dX4_lend_49 (lv_at hl 5 rfl) ?_
  refine lv_iconst (v := 1) hx hb dX4_lend_51 (by decide) ?_
  refine lv_bipush (v := 6) hx hb dX4_lend_52 (by decide) ?_
  refine g_ci (va_runS (As := [.int (nI k), .int 1, .int 6]) (rest := []) ⟨hx, hb, hml, hown, hts⟩ (Met.val (met_X4_in l Γ ad (shp Γ ad N o (uz Z 8 0 0 0)) (nI k) 1 6) (bI1 (inI (a := 1) (b := 6) hk0 hk6 (by decide)))) (va_cwS 3 hts (lw_S q756 q757 q31 q758) rfl rfl rfl (by decide +kernel) ⟨Nat.le_of_ble_eq_true rfl, Nat.le_of_ble_eq_true rfl⟩) (SF_S hK hS hF) rfl rfl hl.1 rfl (lv_room (Nat.le_of_ble_eq_true rfl)) dX4_lend_54 ⟨Nat.le_of_ble_eq_true rfl, Nat.le_of_ble_eq_true rfl⟩) hS (fun H locs hF hS => ?_)
  refine lv_if_ne (tgt := 66) hx hb dX4_lend_57 (by decide) (fun _ => ?_) (fun c57 => absurd c57 (by decide))
  refine lv_aload_n hx hb dX4_lend_66 rfl (lv_at hl 0 rfl) ?_
  refine r_get (ci := 5) (v := .int (Z 8 0 5)) (T := TX4) (N := 22) hx hb hts in_X4 hown hK hF 8 0 rfl rfl 6 (by decide) (hts _ q686) (fun _ h9 => h9) rfl dX4_lend_67 ?_
  refine lv_re hlo ?_
  refine lv_bipush (v := 24) hx hb dX4_lend_70 (by decide) ?_
  refine lv_icmp_ne (tgt := 81) hx hb dX4_lend_72 (by decide) (fun c72 => ?_) (fun c72 => absurd c72 (fun q => absurd ((nI_eq (b := 24) (by omega) (by decide)).mp q) (by omega)))
  refine lv_aload_n hx hb dX4_lend_81 rfl (lv_at hl 0 rfl) ?_
  refine r_get (ci := 5) (v := .ref (ad 8 2)) (T := TX4) (N := 22) hx hb hts in_X4 hown hK hF 8 0 rfl rfl 7 (by decide) (hts _ q687) (fun _ h9 => h9) rfl dX4_lend_82 ?_
  refine lv_aload_n hx hb dX4_lend_85 rfl (lv_at hl 0 rfl) ?_
  refine r_get (ci := 5) (v := .int (Z 8 0 5)) (T := TX4) (N := 22) hx hb hts in_X4 hown hK hF 8 0 rfl rfl 6 (by decide) (hts _ q686) (fun _ h9 => h9) rfl dX4_lend_86 ?_
  refine lv_re hlo ?_
  refine lv_iload_n hx hb dX4_lend_89 rfl (lv_at hl 1 rfl) ?_
  refine s_iast hx hb hK hF hS 8 2 (fun _ => rfl) n rfl (by omega) (by omega) dX4_lend_90 (fun H locs hF hS => ?_)
  refine lv_aload_n hx hb dX4_lend_91 rfl (lv_at hl 0 rfl) ?_
  refine r_get (ci := 5) (v := .ref (ad 8 3)) (T := TX4) (N := 22) hx hb hts in_X4 hown hK hF 8 0 rfl rfl 8 (by decide) (hts _ q688) (fun _ h9 => h9) rfl dX4_lend_92 ?_
  refine lv_aload_n hx hb dX4_lend_95 rfl (lv_at hl 0 rfl) ?_
  refine r_get (ci := 5) (v := .int (Z 8 0 5)) (T := TX4) (N := 22) hx hb hts in_X4 hown hK hF 8 0 rfl rfl 6 (by decide) (hts _ q686) (fun _ h9 => h9) rfl dX4_lend_96 ?_
  refine lv_re hlo ?_
  refine lv_iload_n hx hb dX4_lend_99 rfl (lv_at hl 2 rfl) ?_
  refine s_iast hx hb hK hF hS 8 3 (fun _ => rfl) n rfl (by omega) (by omega) dX4_lend_100 (fun H locs hF hS => ?_)
  refine lv_aload_n hx hb dX4_lend_101 rfl (lv_at hl 0 rfl) ?_
  refine r_get (ci := 5) (v := .ref (ad 8 4)) (T := TX4) (N := 22) hx hb hts in_X4 hown hK hF 8 0 rfl rfl 9 (by decide) (hts _ q689) (fun _ h9 => h9) rfl dX4_lend_102 ?_
  refine lv_aload_n hx hb dX4_lend_105 rfl (lv_at hl 0 rfl) ?_
  refine r_get (ci := 5) (v := .int (Z 8 0 5)) (T := TX4) (N := 22) hx hb hts in_X4 hown hK hF 8 0 rfl rfl 6 (by decide) (hts _ q686) (fun _ h9 => h9) rfl dX4_lend_106 ?_
  refine lv_re hlo ?_
  refine lv_iload hx hb dX4_lend_109 (lv_at hl 4 rfl) ?_
  refine s_iast hx hb hK hF hS 8 4 (fun _ => rfl) n rfl (by omega) (by omega) dX4_lend_111 (fun H locs hF hS => ?_)
  refine lv_aload_n hx hb dX4_lend_112 rfl (lv_at hl 0 rfl) ?_
  refine r_get (ci := 5) (v := .ref (ad 8 5)) (T := TX4) (N := 22) hx hb hts in_X4 hown hK hF 8 0 rfl rfl 10 (by decide) (hts _ q690) (fun _ h9 => h9) rfl dX4_lend_113 ?_
  refine lv_aload_n hx hb dX4_lend_116 rfl (lv_at hl 0 rfl) ?_
  refine r_get (ci := 5) (v := .int (Z 8 0 5)) (T := TX4) (N := 22) hx hb hts in_X4 hown hK hF 8 0 rfl rfl 6 (by decide) (hts _ q686) (fun _ h9 => h9) rfl dX4_lend_117 ?_
  refine lv_re hlo ?_
  refine lv_aload_n hx hb dX4_lend_120 rfl (lv_at hl 0 rfl) ?_
  refine r_get (ci := 5) (v := .int (Z 8 0 3)) (T := TX4) (N := 22) hx hb hts in_X4 hown hK hF 8 0 rfl rfl 4 (by decide) (hts _ q684) (fun _ h9 => h9) rfl dX4_lend_121 ?_
  refine s_iast hx hb hK hF hS 8 5 (fun _ => rfl) n rfl (by omega) (by omega) dX4_lend_124 (fun H locs hF hS => ?_)
  refine lv_aload_n hx hb dX4_lend_125 rfl (lv_at hl 0 rfl) ?_
  refine r_get (ci := 5) (v := .ref (ad 8 6)) (T := TX4) (N := 22) hx hb hts in_X4 hown hK hF 8 0 rfl rfl 11 (by decide) (hts _ q691) (fun _ h9 => h9) rfl dX4_lend_126 ?_
  refine lv_aload_n hx hb dX4_lend_129 rfl (lv_at hl 0 rfl) ?_
  refine r_get (ci := 5) (v := .int (Z 8 0 5)) (T := TX4) (N := 22) hx hb hts in_X4 hown hK hF 8 0 rfl rfl 6 (by decide) (hts _ q686) (fun _ h9 => h9) rfl dX4_lend_130 ?_
  refine lv_re hlo ?_
  refine lv_iload hx hb dX4_lend_133 (lv_at hl 6 rfl) ?_
  refine s_zast hx hb hK hF hS 8 6 (fun _ => rfl) n rfl (by omega) (by omega) hh6 dX4_lend_135 (fun H locs hF hS => ?_)
  refine lv_aload_n hx hb dX4_lend_136 rfl (lv_at hl 0 rfl) ?_
  refine r_get (ci := 5) (v := .ref (ad 8 7)) (T := TX4) (N := 22) hx hb hts in_X4 hown hK hF 8 0 rfl rfl 12 (by decide) (hts _ q692) (fun _ h9 => h9) rfl dX4_lend_137 ?_
  refine lv_aload_n hx hb dX4_lend_140 rfl (lv_at hl 0 rfl) ?_
  refine r_get (ci := 5) (v := .int (Z 8 0 5)) (T := TX4) (N := 22) hx hb hts in_X4 hown hK hF 8 0 rfl rfl 6 (by decide) (hts _ q686) (fun _ h9 => h9) rfl dX4_lend_141 ?_
  refine lv_re hlo ?_
  refine lv_aload_n hx hb dX4_lend_144 rfl (lv_at hl 0 rfl) ?_
  refine r_get (ci := 5) (v := .int (Z 8 0 1)) (T := TX4) (N := 22) hx hb hts in_X4 hown hK hF 8 0 rfl rfl 1 (by decide) (hts _ q681) (fun _ h9 => h9) rfl dX4_lend_145 ?_
  refine s_iast hx hb hK hF hS 8 7 (fun _ => rfl) n rfl (by omega) (by omega) dX4_lend_148 (fun H locs hF hS => ?_)
  refine lv_iconst (v := 0) hx hb dX4_lend_149 (by decide) ?_
  refine lv_istore (lv' := [(7, .int 0), (0, .ref (ad 8 0)), (1, .int b), (2, .int p0), (3, .int a), (4, .int r), (5, .int (nI k)), (6, .int h6)]) hx hb dX4_lend_150 hl (by decide) rfl (fun ls hl => ?_)
  have LP : ∀ (u7 i : Nat) (x7 : Int32) , i + u7 = k → 0 ≤ i → x7 = nI i → ∀ (H : Heap) (locs : List Loc), FF Γ ad (shp Γ ad N o (mLend (mLd Z b p0 r h6 n) a (nI k) k n i)) H → va_S (AA Γ) s.heap H locs → ∀ (ls : Array Slot), lv_has ls 8 [(7, .int x7), (0, .ref (ad 8 0)), (1, .int b), (2, .int p0), (3, .int a), (4, .int r), (5, .int (nI k)), (6, .int h6)] → W p l e (headSpec (ws_ yX4_lend cX4_lend 8 (some .int)) ({ frames := 2, cells := 0, slots := 0, locals := 42 })).room s m ([.ref (ad 8 0), .int b, .int p0, .int a, .int r, .int (nI k), .int h6] : List Value).toArray below meth c H locs 0 0 (MQ below (gEi Γ (nI n) ad (shp Γ ad N o (uz (mLend (mLd Z b p0 r h6 n) a (nI k) k n k) 8 0 5 (nI (n + 1))))) ([.ref (ad 8 0), .int b, .int p0, .int a, .int r, .int (nI k), .int h6] : List Value).toArray s 0 0 (AA Γ)) (F0 m 152 ls []) := by
    intro u7
    induction u7 with
    | zero =>
      intro i x7  hi hs e7 H locs hF hS ls hl
      subst e7
      obtain rfl : k = i := by omega
      refine lv_iload hx hb dX4_lend_152 (lv_at hl 0 rfl) ?_
      refine lv_iload hx hb dX4_lend_154 (lv_at hl 6 rfl) ?_
      refine lv_icmp_ge (tgt := 231) hx hb dX4_lend_156 (by decide) (fun c156 => ?_) (fun c156 => ?_)
      · refine lv_aload_n hx hb dX4_lend_231 rfl (lv_at hl 1 rfl) ?_
        refine lv_dup hx hb dX4_lend_232 rfl ?_
        refine r_get (ci := 5) (v := .int ((mLend (mLd Z b p0 r h6 n) a (nI k) k n k) 8 0 5)) (T := TX4) (N := 22) hx hb hts in_X4 hown hK hF 8 0 rfl rfl 6 (by decide) (hts _ q686) (fun _ h9 => h9) rfl dX4_lend_233 ?_
        refine lv_re ((congrFun (mLend_o (mLd Z b p0 r h6 n) a (nI k) k n (x := 8) (y := 0) (by decide) k) 5).trans hlo) ?_
        refine lv_iconst (v := 1) hx hb dX4_lend_236 (by decide) ?_
        refine lv_iadd hx hb dX4_lend_237 ?_
        refine lv_re (nI_1 n) ?_
        refine s_put (ci := 5) (T := TX4) (NC := 22) hx hb hts in_X4 tyX4 tyX4_ok nmX4 hown hK hF hS 8 0 5 rfl rfl 6 (by decide) rfl (hts _ q686) (fun _ h9 => h9) rfl (by decide +kernel) (Nat.le_of_ble_eq_true rfl) dX4_lend_238 (fun H locs hF hS => ?_)
        refine lv_aload_n hx hb dX4_lend_241 rfl (lv_at hl 1 rfl) ?_
        refine r_get (ci := 5) (v := .int (nI (n + 1))) (T := TX4) (N := 22) hx hb hts in_X4 hown hK hF 8 0 rfl rfl 6 (by decide) (hts _ q686) (fun _ h9 => h9) rfl dX4_lend_242 ?_
        refine lv_iconst (v := 1) hx hb dX4_lend_245 (by decide) ?_
        refine lv_isub hx hb dX4_lend_246 ?_
        refine lv_re (nI_pred n) ?_
        exact g_iret hx hb hr hlocks hF hS dX4_lend_247
      · exact absurd (nI_le (a := k) (b := k) (Nat.le_refl _) (by omega)) c156
    | succ u7 ih =>
      intro i x7  hi hs e7 H locs hF hS ls hl
      subst e7
      refine lv_iload hx hb dX4_lend_152 (lv_at hl 0 rfl) ?_
      refine lv_iload hx hb dX4_lend_154 (lv_at hl 6 rfl) ?_
      refine lv_icmp_ge (tgt := 231) hx hb dX4_lend_156 (by decide) (fun c156 => ?_) (fun c156 => ?_)
      · exact absurd c156 (nI_ge (a := i) (b := k) (by omega) (by omega))
      · refine lv_aload_n hx hb dX4_lend_159 rfl (lv_at hl 1 rfl) ?_
        refine r_get (ci := 5) (v := .ref (ad 8 8)) (T := TX4) (N := 22) hx hb hts in_X4 hown hK hF 8 0 rfl rfl 13 (by decide) (hts _ q693) (fun _ h9 => h9) rfl dX4_lend_160 ?_
        refine lv_bipush (v := 6) hx hb dX4_lend_163 (by decide) ?_
        refine lv_aload_n hx hb dX4_lend_165 rfl (lv_at hl 1 rfl) ?_
        refine r_get (ci := 5) (v := .int ((mLend (mLd Z b p0 r h6 n) a (nI k) k n i) 8 0 5)) (T := TX4) (N := 22) hx hb hts in_X4 hown hK hF 8 0 rfl rfl 6 (by decide) (hts _ q686) (fun _ h9 => h9) rfl dX4_lend_166 ?_
        refine lv_re ((congrFun (mLend_o (mLd Z b p0 r h6 n) a (nI k) k n (x := 8) (y := 0) (by decide) i) 5).trans hlo) ?_
        refine lv_imul hx hb dX4_lend_169 ?_
        refine lv_iload hx hb dX4_lend_170 (lv_at hl 0 rfl) ?_
        refine lv_iadd hx hb dX4_lend_172 ?_
        refine lv_iload hx hb dX4_lend_173 (lv_at hl 0 rfl) ?_
        refine lv_iload hx hb dX4_lend_175 (lv_at hl 6 rfl) ?_
        refine lv_iconst (v := 1) hx hb dX4_lend_177 (by decide) ?_
        refine lv_isub hx hb dX4_lend_178 ?_
        have K : W p l e (headSpec (ws_ yX4_lend cX4_lend 8 (some .int)) ({ frames := 2, cells := 0, slots := 0, locals := 42 })).room s m ([.ref (ad 8 0), .int b, .int p0, .int a, .int r, .int (nI k), .int h6] : List Value).toArray below meth c H locs 0 0 (MQ below (gEi Γ (nI n) ad (shp Γ ad N o (uz (mLend (mLd Z b p0 r h6 n) a (nI k) k n k) 8 0 5 (nI (n + 1))))) ([.ref (ad 8 0), .int b, .int p0, .int a, .int r, .int (nI k), .int h6] : List Value).toArray s 0 0 (AA Γ)) (F0 m 200 ls [.int (prt a (nI k) k i), .int ((6 * (nI n)) + (nI i)), .ref (ad 8 8)]) := by
          refine s_iast hx hb hK hF hS 8 8 (fun _ => rfl) (6 * n + i) (ix6 n i) (by omega) (by omega) dX4_lend_200 (fun H locs hF hS => ?_)
          refine lv_aload_n hx hb dX4_lend_201 rfl (lv_at hl 1 rfl) ?_
          refine r_get (ci := 5) (v := .ref (ad 8 9)) (T := TX4) (N := 22) hx hb hts in_X4 hown hK hF 8 0 rfl rfl 14 (by decide) (hts _ q694) (fun _ h9 => h9) rfl dX4_lend_202 ?_
          refine lv_bipush (v := 6) hx hb dX4_lend_205 (by decide) ?_
          refine lv_aload_n hx hb dX4_lend_207 rfl (lv_at hl 1 rfl) ?_
          refine r_get (ci := 5) (v := .int ((mLend (mLd Z b p0 r h6 n) a (nI k) k n i) 8 0 5)) (T := TX4) (N := 22) hx hb hts in_X4 hown hK hF 8 0 rfl rfl 6 (by decide) (hts _ q686) (fun _ h9 => h9) rfl dX4_lend_208 ?_
          refine lv_re ((congrFun (mLend_o (mLd Z b p0 r h6 n) a (nI k) k n (x := 8) (y := 0) (by decide) i) 5).trans hlo) ?_
          refine lv_imul hx hb dX4_lend_211 ?_
          refine lv_iload hx hb dX4_lend_212 (lv_at hl 0 rfl) ?_
          refine lv_iadd hx hb dX4_lend_214 ?_
          refine lv_aload_n hx hb dX4_lend_215 rfl (lv_at hl 1 rfl) ?_
          refine r_get (ci := 5) (v := .ref (ad 8 1)) (T := TX4) (N := 22) hx hb hts in_X4 hown hK hF 8 0 rfl rfl 2 (by decide) (hts _ q682) (fun _ h9 => h9) rfl dX4_lend_216 ?_
          refine lv_iload hx hb dX4_lend_219 (lv_at hl 0 rfl) ?_
          refine lv_iconst (v := 1) hx hb dX4_lend_221 (by decide) ?_
          refine lv_iadd hx hb dX4_lend_222 ?_
          refine lv_re (nI_1 i) ?_
          refine s_iald hx hb hK hF 8 1 rfl (i + 1) rfl (by omega) (by omega) dX4_lend_223 ?_
          refine lv_re (congrFun (mLend_o (mLd Z b p0 r h6 n) a (nI k) k n (x := 8) (y := 1) (by decide) i) (i + 1)) ?_
          refine s_iast hx hb hK hF hS 8 9 (fun _ => rfl) (6 * n + i) (ix6 n i) (by omega) (by omega) dX4_lend_224 (fun H locs hF hS => ?_)
          refine lv_iinc (v := nI (i + 1)) (lv' := [(7, .int (nI (i + 1))), (0, .ref (ad 8 0)), (1, .int b), (2, .int p0), (3, .int a), (4, .int r), (5, .int (nI k)), (6, .int h6)]) hx hb dX4_lend_225 hl (k := 0) rfl (nI_1 _) (by decide) rfl (fun ls hl => ?_)
          refine lv_goto (tgt := 152) hx hb dX4_lend_228 (by decide) ?_
          exact ih (i + 1) _ (by omega) (by omega) rfl _ _ hF hS ls (lv_sub hl [0, 1, 2, 3, 4, 5, 6, 7] rfl)
        refine lv_icmp_ge (tgt := 189) hx hb dX4_lend_179 (by decide) (fun c179 => ?_) (fun c179 => ?_)
        · refine lv_iload_n hx hb dX4_lend_189 rfl (lv_at hl 4 rfl) ?_
          refine lv_iload_n hx hb dX4_lend_190 rfl (lv_at hl 4 rfl) ?_
          refine lv_iload hx hb dX4_lend_191 (lv_at hl 6 rfl) ?_
          refine lv_idiv hx hb dX4_lend_193 (nI_ne0 hk0 (by omega)) ?_
          refine lv_iload hx hb dX4_lend_194 (lv_at hl 6 rfl) ?_
          refine lv_iconst (v := 1) hx hb dX4_lend_196 (by decide) ?_
          refine lv_isub hx hb dX4_lend_197 ?_
          refine lv_imul hx hb dX4_lend_198 ?_
          refine lv_isub hx hb dX4_lend_199 ?_
          rw [show prt a (nI k) k i = _ from if_neg (fun q => (lt_m1 hk0 (by omega) (by omega)).mpr q c179)] at K
          exact K
        · refine lv_iload_n hx hb dX4_lend_182 rfl (lv_at hl 4 rfl) ?_
          refine lv_iload hx hb dX4_lend_183 (lv_at hl 6 rfl) ?_
          refine lv_idiv hx hb dX4_lend_185 (nI_ne0 hk0 (by omega)) ?_
          refine lv_goto (tgt := 200) hx hb dX4_lend_186 (by decide) ?_
          rw [show prt a (nI k) k i = _ from if_pos ((lt_m1 hk0 (by omega) (by omega)).mp c179)] at K
          exact K
  exact LP (k - 0) 0 _ (by omega) (Nat.le_refl _) rfl _ _ hF hS ls hl
