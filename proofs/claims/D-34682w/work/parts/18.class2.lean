set_option maxHeartbeats 4000000 in
set_option maxRecDepth 100000 in
/-- setCurve, path A -/
theorem cc_setCurve_A (l : Launch) (hst : l.stackTraces = false) (Γ : Gm) (ad : Nat → Nat → Nat) (N : Nat → Nat) (o : Nat → Int64) (Z : Nat → Nat → Nat → Int32) (t r : Int32) (h : ¬ (0 ≤ t - 1 ∧ t - 1 < 6)) : vx_Met l yX1_setCurve (ws_ yX1_setCurve cX1_setCurve 4 (some .int)) ({ frames := 7, cells := 1, slots := 6, locals := 102 }) (va_Pc [.ref (ad 0 0), .int t, .int r] (SF Γ ad (shp Γ ad N o Z))) (gNi Γ) (gX Γ (fun E => E = xOB) ad (shp Γ ad N o Z)) 1 6 (AA Γ) := by
  refine vx_ofW (cc := cX1_setCurve) (maxL := 4) (ret := (some .int)) (by decide) rfl ?_
  intro p e s m args below meth c s₁ B hml hno hv
  obtain ⟨rfl, hK, hF⟩ := hv
  have hx := B.exec
  have hb := B.bytes
  have hr := B.returns
  have hts := atoms_spec (ws := ws_ yX1_setCurve cX1_setCurve 4 (some .int)) B.pre
  have hts : ∀ w ∈ lw_all, w.before _ s = true := fun w h => hts w (List.mem_cons_of_mem _ h)
  have hown : s.vm.findClass RX1 = some m.cls := findClass_of_methodNamed B.named
  have hlocks := B.notSynchronized
  have hS : va_S (AA Γ) s.heap s.heap [] := va_S.rf
  have hl := lv_entry ([.ref (ad 0 0), .int t, .int r]) (n := 4) (Nat.le_of_ble_eq_true rfl)
  rw [lg_entry_eq]
  generalize (lg_sl ([.ref (ad 0 0), .int t, .int r]) ++ List.replicate (4 - (lg_sl ([.ref (ad 0 0), .int t, .int r])).length) Slot.unset).toArray = ls at hl ⊢
  have hl : lv_has ls 4 [(0, .ref (ad 0 0)), (1, .int t), (2, .int r)] := hl
  refine lv_iload_n hx hb dX1_setCurve_0 rfl (lv_at hl 1 rfl) ?_
  refine lv_iconst (v := 1) hx hb dX1_setCurve_1 (by decide) ?_
  refine lv_isub hx hb dX1_setCurve_2 ?_
  refine lv_bipush (v := 6) hx hb dX1_setCurve_3 (by decide) ?_
  exact gx_callv (vx_runS (As := [.int (t - 1), .int 6]) (rest := []) ⟨hx, hb, hml, hown, hts⟩ (xet_X1_exists l hst Γ ad (shp Γ ad N o Z) (t - 1) 6 h) (va_cwS 2 hts (lw_S q270 q271 q23 q272) rfl rfl rfl (by decide +kernel) ⟨Nat.le_of_ble_eq_true rfl, Nat.le_of_ble_eq_true rfl⟩) (SF_S hK hS hF) rfl rfl hl.1 rfl (lv_room (Nat.le_of_ble_eq_true rfl)) dX1_setCurve_5 ⟨Nat.le_of_ble_eq_true rfl, Nat.le_of_ble_eq_true rfl⟩) hS (gx_pass hno hlocks (Nat.le_of_ble_eq_true rfl) (Nat.le_of_ble_eq_true rfl) (fun _ h => h)) (fun _ _ _ h => h.elim)
set_option maxHeartbeats 4000000 in
set_option maxRecDepth 100000 in
/-- setCurve, path B -/
theorem cc_setCurve_B (l : Launch) (hst : l.stackTraces = false) (Γ : Gm) (ad : Nat → Nat → Nat) (N : Nat → Nat) (o : Nat → Int64) (Z : Nat → Nat → Nat → Int32) (i : Nat) (hi : i < 6) (r : Int32) (h : ¬ (0 ≤ r ∧ r ≤ 5000)) : vx_Met l yX1_setCurve (ws_ yX1_setCurve cX1_setCurve 4 (some .int)) ({ frames := 7, cells := 1, slots := 6, locals := 101 }) (va_Pc [.ref (ad 0 0), .int (nI (i + 1)), .int r] (SF Γ ad (shp Γ ad N o Z))) (gNi Γ) (gX Γ (fun E => E = xIA) ad (shp Γ ad N o Z)) 1 6 (AA Γ) := by
  refine vx_ofW (cc := cX1_setCurve) (maxL := 4) (ret := (some .int)) (by decide) rfl ?_
  intro p e s m args below meth c s₁ B hml hno hv
  obtain ⟨rfl, hK, hF⟩ := hv
  have hx := B.exec
  have hb := B.bytes
  have hr := B.returns
  have hts := atoms_spec (ws := ws_ yX1_setCurve cX1_setCurve 4 (some .int)) B.pre
  have hts : ∀ w ∈ lw_all, w.before _ s = true := fun w h => hts w (List.mem_cons_of_mem _ h)
  have hown : s.vm.findClass RX1 = some m.cls := findClass_of_methodNamed B.named
  have hlocks := B.notSynchronized
  have hS : va_S (AA Γ) s.heap s.heap [] := va_S.rf
  have hl := lv_entry ([.ref (ad 0 0), .int (nI (i + 1)), .int r]) (n := 4) (Nat.le_of_ble_eq_true rfl)
  rw [lg_entry_eq]
  generalize (lg_sl ([.ref (ad 0 0), .int (nI (i + 1)), .int r]) ++ List.replicate (4 - (lg_sl ([.ref (ad 0 0), .int (nI (i + 1)), .int r])).length) Slot.unset).toArray = ls at hl ⊢
  have hl : lv_has ls 4 [(0, .ref (ad 0 0)), (1, .int (nI (i + 1))), (2, .int r)] := hl
  refine lv_iload_n hx hb dX1_setCurve_0 rfl (lv_at hl 1 rfl) ?_
  refine lv_iconst (v := 1) hx hb dX1_setCurve_1 (by decide) ?_
  refine lv_isub hx hb dX1_setCurve_2 ?_
  refine lv_re (nI_pred i) ?_
  refine lv_bipush (v := 6) hx hb dX1_setCurve_3 (by decide) ?_
  refine g_cv (va_runS (As := [.int (nI i), .int 6]) (rest := []) ⟨hx, hb, hml, hown, hts⟩ (met_X1_exists l Γ ad (shp Γ ad N o Z) (nI i) 6 (exI (n := 6) hi (by decide))) (va_cwS 2 hts (lw_S q270 q271 q23 q272) rfl rfl rfl (by decide +kernel) ⟨Nat.le_of_ble_eq_true rfl, Nat.le_of_ble_eq_true rfl⟩) (SF_S hK hS hF) rfl rfl hl.1 rfl (lv_room (Nat.le_of_ble_eq_true rfl)) dX1_setCurve_5 ⟨Nat.le_of_ble_eq_true rfl, Nat.le_of_ble_eq_true rfl⟩) hS (fun H locs hF hS => ?_)
  refine lv_iload_n hx hb dX1_setCurve_8 rfl (lv_at hl 2 rfl) ?_
  refine lv_iconst (v := 0) hx hb dX1_setCurve_9 (by decide) ?_
  refine lv_sipush (v := 5000) hx hb dX1_setCurve_10 (by decide) ?_
  refine g_ci (va_runS (As := [.int r, .int 0, .int 5000]) (rest := []) ⟨hx, hb, hml, hown, hts⟩ (Met.val (met_X1_isIn l Γ ad (shp Γ ad N o Z) r 0 5000) (bI0 h)) (va_cwS 3 hts (lw_S q294 q295 q23 q296) rfl rfl rfl (by decide +kernel) ⟨Nat.le_of_ble_eq_true rfl, Nat.le_of_ble_eq_true rfl⟩) (SF_S hK hS hF) rfl rfl hl.1 rfl (lv_room (Nat.le_of_ble_eq_true rfl)) dX1_setCurve_13 ⟨Nat.le_of_ble_eq_true rfl, Nat.le_of_ble_eq_true rfl⟩) hS (fun H locs hF hS => ?_)
  exact gx_callv (vx_runS (As := [.int 0]) (rest := []) ⟨hx, hb, hml, hown, hts⟩ (xet_X1_want l hst Γ ad (shp Γ ad N o Z)) (va_cwS 1 hts (lw_S q297 q298 q23 q299) rfl rfl rfl (by decide +kernel) ⟨Nat.le_of_ble_eq_true rfl, Nat.le_of_ble_eq_true rfl⟩) (SF_S hK hS hF) rfl rfl hl.1 rfl (lv_room (Nat.le_of_ble_eq_true rfl)) dX1_setCurve_16 ⟨Nat.le_of_ble_eq_true rfl, Nat.le_of_ble_eq_true rfl⟩) hS (gx_pass hno hlocks (Nat.le_of_ble_eq_true rfl) (Nat.le_of_ble_eq_true rfl) (fun _ h => h)) (fun _ _ _ h => h.elim)
set_option maxHeartbeats 4000000 in
set_option maxRecDepth 100000 in
/-- setCurve, path C -/
theorem cc_setCurve_C (l : Launch) (Γ : Gm) (ad : Nat → Nat → Nat) (N : Nat → Nat) (o : Nat → Int64) (Z : Nat → Nat → Nat → Int32) (i : Nat) (hi : i < 6) (r : Int32) (h : 0 ≤ r ∧ r ≤ 5000) : Met l yX1_setCurve (ws_ yX1_setCurve cX1_setCurve 4 (some .int)) ({ frames := 1, cells := 0, slots := 0, locals := 22 }) (va_Pc [.ref (ad 0 0), .int (nI (i + 1)), .int r] (SF Γ ad (shp Γ ad N o Z))) (gEi Γ (Z 0 1 i) ad (shp Γ ad N o (uz Z 0 1 i r))) 0 0 (AA Γ) := by
  refine Met.ofW (cc := cX1_setCurve) (maxL := 4) (ret := (some .int)) (by decide) rfl ?_
  intro p e s m args below meth c s₁ B hml hv
  obtain ⟨rfl, hK, hF⟩ := hv
  have hx := B.exec
  have hb := B.bytes
  have hr := B.returns
  have hts := atoms_spec (ws := ws_ yX1_setCurve cX1_setCurve 4 (some .int)) B.pre
  have hts : ∀ w ∈ lw_all, w.before _ s = true := fun w h => hts w (List.mem_cons_of_mem _ h)
  have hown : s.vm.findClass RX1 = some m.cls := findClass_of_methodNamed B.named
  have hlocks := B.notSynchronized
  have hS : va_S (AA Γ) s.heap s.heap [] := va_S.rf
  have hl := lv_entry ([.ref (ad 0 0), .int (nI (i + 1)), .int r]) (n := 4) (Nat.le_of_ble_eq_true rfl)
  rw [lg_entry_eq]
  generalize (lg_sl ([.ref (ad 0 0), .int (nI (i + 1)), .int r]) ++ List.replicate (4 - (lg_sl ([.ref (ad 0 0), .int (nI (i + 1)), .int r])).length) Slot.unset).toArray = ls at hl ⊢
  have hl : lv_has ls 4 [(0, .ref (ad 0 0)), (1, .int (nI (i + 1))), (2, .int r)] := hl
  refine lv_iload_n hx hb dX1_setCurve_0 rfl (lv_at hl 1 rfl) ?_
  refine lv_iconst (v := 1) hx hb dX1_setCurve_1 (by decide) ?_
  refine lv_isub hx hb dX1_setCurve_2 ?_
  refine lv_re (nI_pred i) ?_
  refine lv_bipush (v := 6) hx hb dX1_setCurve_3 (by decide) ?_
  refine g_cv (va_runS (As := [.int (nI i), .int 6]) (rest := []) ⟨hx, hb, hml, hown, hts⟩ (met_X1_exists l Γ ad (shp Γ ad N o Z) (nI i) 6 (exI (n := 6) hi (by decide))) (va_cwS 2 hts (lw_S q270 q271 q23 q272) rfl rfl rfl (by decide +kernel) ⟨Nat.le_of_ble_eq_true rfl, Nat.le_of_ble_eq_true rfl⟩) (SF_S hK hS hF) rfl rfl hl.1 rfl (lv_room (Nat.le_of_ble_eq_true rfl)) dX1_setCurve_5 ⟨Nat.le_of_ble_eq_true rfl, Nat.le_of_ble_eq_true rfl⟩) hS (fun H locs hF hS => ?_)
  refine lv_iload_n hx hb dX1_setCurve_8 rfl (lv_at hl 2 rfl) ?_
  refine lv_iconst (v := 0) hx hb dX1_setCurve_9 (by decide) ?_
  refine lv_sipush (v := 5000) hx hb dX1_setCurve_10 (by decide) ?_
  refine g_ci (va_runS (As := [.int r, .int 0, .int 5000]) (rest := []) ⟨hx, hb, hml, hown, hts⟩ (Met.val (met_X1_isIn l Γ ad (shp Γ ad N o Z) r 0 5000) (bI1 h)) (va_cwS 3 hts (lw_S q294 q295 q23 q296) rfl rfl rfl (by decide +kernel) ⟨Nat.le_of_ble_eq_true rfl, Nat.le_of_ble_eq_true rfl⟩) (SF_S hK hS hF) rfl rfl hl.1 rfl (lv_room (Nat.le_of_ble_eq_true rfl)) dX1_setCurve_13 ⟨Nat.le_of_ble_eq_true rfl, Nat.le_of_ble_eq_true rfl⟩) hS (fun H locs hF hS => ?_)
  refine g_cv (va_runS (As := [.int 1]) (rest := []) ⟨hx, hb, hml, hown, hts⟩ (met_X1_want l Γ ad (shp Γ ad N o Z)) (va_cwS 1 hts (lw_S q297 q298 q23 q299) rfl rfl rfl (by decide +kernel) ⟨Nat.le_of_ble_eq_true rfl, Nat.le_of_ble_eq_true rfl⟩) (SF_S hK hS hF) rfl rfl hl.1 rfl (lv_room (Nat.le_of_ble_eq_true rfl)) dX1_setCurve_16 ⟨Nat.le_of_ble_eq_true rfl, Nat.le_of_ble_eq_true rfl⟩) hS (fun H locs hF hS => ?_)
  refine lv_aload_n hx hb dX1_setCurve_19 rfl (lv_at hl 0 rfl) ?_
  refine r_get (ci := 0) (v := .ref (ad 0 1)) (T := TX1) (N := 14) hx hb hts in_X1 hown hK hF 0 0 rfl rfl 1 (by decide) (hts _ q117) (fun _ h9 => h9) rfl dX1_setCurve_20 ?_
  refine lv_iload_n hx hb dX1_setCurve_23 rfl (lv_at hl 1 rfl) ?_
  refine lv_iconst (v := 1) hx hb dX1_setCurve_24 (by decide) ?_
  refine lv_isub hx hb dX1_setCurve_25 ?_
  refine lv_re (nI_pred i) ?_
  refine s_iald hx hb hK hF 0 1 rfl i rfl (by omega) (by omega) dX1_setCurve_26 ?_
  refine lv_istore_n (lv' := [(3, .int (Z 0 1 i)), (0, .ref (ad 0 0)), (1, .int (nI (i + 1))), (2, .int r)]) hx hb dX1_setCurve_27 rfl hl (by decide) rfl (fun ls hl => ?_)
  refine lv_aload_n hx hb dX1_setCurve_28 rfl (lv_at hl 1 rfl) ?_
  refine r_get (ci := 0) (v := .ref (ad 0 1)) (T := TX1) (N := 14) hx hb hts in_X1 hown hK hF 0 0 rfl rfl 1 (by decide) (hts _ q117) (fun _ h9 => h9) rfl dX1_setCurve_29 ?_
  refine lv_iload_n hx hb dX1_setCurve_32 rfl (lv_at hl 2 rfl) ?_
  refine lv_iconst (v := 1) hx hb dX1_setCurve_33 (by decide) ?_
  refine lv_isub hx hb dX1_setCurve_34 ?_
  refine lv_re (nI_pred i) ?_
  refine lv_iload_n hx hb dX1_setCurve_35 rfl (lv_at hl 3 rfl) ?_
  refine s_iast hx hb hK hF hS 0 1 (fun _ => rfl) i rfl (by omega) (by omega) dX1_setCurve_36 (fun H locs hF hS => ?_)
  refine lv_iload_n hx hb dX1_setCurve_37 rfl (lv_at hl 0 rfl) ?_
  exact g_iret hx hb hr hlocks hF hS dX1_setCurve_38
set_option maxHeartbeats 4000000 in
set_option maxRecDepth 100000 in
/-- setRates, path A -/
theorem cc_setRates_A (l : Launch) (hst : l.stackTraces = false) (Γ : Gm) (ad : Nat → Nat → Nat) (N : Nat → Nat) (o : Nat → Int64) (Z : Nat → Nat → Nat → Int32) (d q c0 : Int32) (h : ¬ ((0 ≤ d ∧ d ≤ 5000) ∧ (0 ≤ q ∧ q ≤ 5000) ∧ (0 ≤ c0 ∧ c0 ≤ 100))) : vx_Met l yX1_setRates (ws_ yX1_setRates cX1_setRates 4 none) ({ frames := 7, cells := 1, slots := 6, locals := 101 }) (va_Pc [.ref (ad 0 0), .int d, .int q, .int c0] (SF Γ ad (shp Γ ad N o Z))) (gNv Γ) (gX Γ (fun E => E = xIA) ad (shp Γ ad N o Z)) 1 6 (AA Γ) := by
  refine vx_ofW (cc := cX1_setRates) (maxL := 4) (ret := none) (by decide) rfl ?_
  intro p e s m args below meth c s₁ B hml hno hv
  obtain ⟨rfl, hK, hF⟩ := hv
  have hx := B.exec
  have hb := B.bytes
  have hr := B.returns
  have hts := atoms_spec (ws := ws_ yX1_setRates cX1_setRates 4 none) B.pre
  have hts : ∀ w ∈ lw_all, w.before _ s = true := fun w h => hts w (List.mem_cons_of_mem _ h)
  have hown : s.vm.findClass RX1 = some m.cls := findClass_of_methodNamed B.named
  have hlocks := B.notSynchronized
  have hS : va_S (AA Γ) s.heap s.heap [] := va_S.rf
  have hl := lv_entry ([.ref (ad 0 0), .int d, .int q, .int c0]) (n := 4) (Nat.le_of_ble_eq_true rfl)
  rw [lg_entry_eq]
  generalize (lg_sl ([.ref (ad 0 0), .int d, .int q, .int c0]) ++ List.replicate (4 - (lg_sl ([.ref (ad 0 0), .int d, .int q, .int c0])).length) Slot.unset).toArray = ls at hl ⊢
  have hl : lv_has ls 4 [(0, .ref (ad 0 0)), (1, .int d), (2, .int q), (3, .int c0)] := hl
  refine lv_iload_n hx hb dX1_setRates_0 rfl (lv_at hl 1 rfl) ?_
  refine lv_iconst (v := 0) hx hb dX1_setRates_1 (by decide) ?_
  refine lv_sipush (v := 5000) hx hb dX1_setRates_2 (by decide) ?_
  refine g_ci (va_runS (As := [.int d, .int 0, .int 5000]) (rest := []) ⟨hx, hb, hml, hown, hts⟩ (met_X1_isIn l Γ ad (shp Γ ad N o Z) d 0 5000) (va_cwS 3 hts (lw_S q294 q295 q23 q296) rfl rfl rfl (by decide +kernel) ⟨Nat.le_of_ble_eq_true rfl, Nat.le_of_ble_eq_true rfl⟩) (SF_S hK hS hF) rfl rfl hl.1 rfl (lv_room (Nat.le_of_ble_eq_true rfl)) dX1_setRates_5 ⟨Nat.le_of_ble_eq_true rfl, Nat.le_of_ble_eq_true rfl⟩) hS (fun H locs hF hS => ?_)
  refine lv_if_eq (tgt := 36) hx hb dX1_setRates_8 (by decide) (fun c8 => ?_) (fun c8 => ?_)
  · refine lv_iconst (v := 0) hx hb dX1_setRates_36 (by decide) ?_
    exact gx_callv (vx_runS (As := [.int 0]) (rest := []) ⟨hx, hb, hml, hown, hts⟩ (xet_X1_want l hst Γ ad (shp Γ ad N o Z)) (va_cwS 1 hts (lw_S q297 q298 q23 q299) rfl rfl rfl (by decide +kernel) ⟨Nat.le_of_ble_eq_true rfl, Nat.le_of_ble_eq_true rfl⟩) (SF_S hK hS hF) rfl rfl hl.1 rfl (lv_room (Nat.le_of_ble_eq_true rfl)) dX1_setRates_37 ⟨Nat.le_of_ble_eq_true rfl, Nat.le_of_ble_eq_true rfl⟩) hS (gx_pass hno hlocks (Nat.le_of_ble_eq_true rfl) (Nat.le_of_ble_eq_true rfl) (fun _ h => h)) (fun _ _ _ h => h.elim)
  · refine lv_iload_n hx hb dX1_setRates_11 rfl (lv_at hl 2 rfl) ?_
    refine lv_iconst (v := 0) hx hb dX1_setRates_12 (by decide) ?_
    refine lv_sipush (v := 5000) hx hb dX1_setRates_13 (by decide) ?_
    refine g_ci (va_runS (As := [.int q, .int 0, .int 5000]) (rest := []) ⟨hx, hb, hml, hown, hts⟩ (met_X1_isIn l Γ ad (shp Γ ad N o Z) q 0 5000) (va_cwS 3 hts (lw_S q294 q295 q23 q296) rfl rfl rfl (by decide +kernel) ⟨Nat.le_of_ble_eq_true rfl, Nat.le_of_ble_eq_true rfl⟩) (SF_S hK hS hF) rfl rfl hl.1 rfl (lv_room (Nat.le_of_ble_eq_true rfl)) dX1_setRates_16 ⟨Nat.le_of_ble_eq_true rfl, Nat.le_of_ble_eq_true rfl⟩) hS (fun H locs hF hS => ?_)
    refine lv_if_eq (tgt := 36) hx hb dX1_setRates_19 (by decide) (fun c19 => ?_) (fun c19 => ?_)
    · refine lv_iconst (v := 0) hx hb dX1_setRates_36 (by decide) ?_
      exact gx_callv (vx_runS (As := [.int 0]) (rest := []) ⟨hx, hb, hml, hown, hts⟩ (xet_X1_want l hst Γ ad (shp Γ ad N o Z)) (va_cwS 1 hts (lw_S q297 q298 q23 q299) rfl rfl rfl (by decide +kernel) ⟨Nat.le_of_ble_eq_true rfl, Nat.le_of_ble_eq_true rfl⟩) (SF_S hK hS hF) rfl rfl hl.1 rfl (lv_room (Nat.le_of_ble_eq_true rfl)) dX1_setRates_37 ⟨Nat.le_of_ble_eq_true rfl, Nat.le_of_ble_eq_true rfl⟩) hS (gx_pass hno hlocks (Nat.le_of_ble_eq_true rfl) (Nat.le_of_ble_eq_true rfl) (fun _ h => h)) (fun _ _ _ h => h.elim)
    · refine lv_iload_n hx hb dX1_setRates_22 rfl (lv_at hl 3 rfl) ?_
      refine lv_iconst (v := 0) hx hb dX1_setRates_23 (by decide) ?_
      refine lv_bipush (v := 100) hx hb dX1_setRates_24 (by decide) ?_
      refine g_ci (va_runS (As := [.int c0, .int 0, .int 100]) (rest := []) ⟨hx, hb, hml, hown, hts⟩ (met_X1_isIn l Γ ad (shp Γ ad N o Z) c0 0 100) (va_cwS 3 hts (lw_S q294 q295 q23 q296) rfl rfl rfl (by decide +kernel) ⟨Nat.le_of_ble_eq_true rfl, Nat.le_of_ble_eq_true rfl⟩) (SF_S hK hS hF) rfl rfl hl.1 rfl (lv_room (Nat.le_of_ble_eq_true rfl)) dX1_setRates_26 ⟨Nat.le_of_ble_eq_true rfl, Nat.le_of_ble_eq_true rfl⟩) hS (fun H locs hF hS => ?_)
      refine lv_if_eq (tgt := 36) hx hb dX1_setRates_29 (by decide) (fun c29 => ?_) (fun c29 => ?_)
      · refine lv_iconst (v := 0) hx hb dX1_setRates_36 (by decide) ?_
        exact gx_callv (vx_runS (As := [.int 0]) (rest := []) ⟨hx, hb, hml, hown, hts⟩ (xet_X1_want l hst Γ ad (shp Γ ad N o Z)) (va_cwS 1 hts (lw_S q297 q298 q23 q299) rfl rfl rfl (by decide +kernel) ⟨Nat.le_of_ble_eq_true rfl, Nat.le_of_ble_eq_true rfl⟩) (SF_S hK hS hF) rfl rfl hl.1 rfl (lv_room (Nat.le_of_ble_eq_true rfl)) dX1_setRates_37 ⟨Nat.le_of_ble_eq_true rfl, Nat.le_of_ble_eq_true rfl⟩) hS (gx_pass hno hlocks (Nat.le_of_ble_eq_true rfl) (Nat.le_of_ble_eq_true rfl) (fun _ h => h)) (fun _ _ _ h => h.elim)
      · exact absurd ⟨bI_t c8, bI_t c19, bI_t c29⟩ h
set_option maxHeartbeats 4000000 in
set_option maxRecDepth 100000 in
/-- setRates, path B -/
theorem cc_setRates_B (l : Launch) (Γ : Gm) (ad : Nat → Nat → Nat) (N : Nat → Nat) (o : Nat → Int64) (Z : Nat → Nat → Nat → Int32) (d q c0 : Int32) (h1 : 0 ≤ d ∧ d ≤ 5000) (h2 : 0 ≤ q ∧ q ≤ 5000) (h3 : 0 ≤ c0 ∧ c0 ≤ 100) : Met l yX1_setRates (ws_ yX1_setRates cX1_setRates 4 none) ({ frames := 1, cells := 0, slots := 0, locals := 22 }) (va_Pc [.ref (ad 0 0), .int d, .int q, .int c0] (SF Γ ad (shp Γ ad N o Z))) (gEv Γ ad (shp Γ ad N o (uz (uz (uz Z 0 0 0 d) 0 0 1 q) 0 0 2 c0))) 0 0 (AA Γ) := by
  refine Met.ofW (cc := cX1_setRates) (maxL := 4) (ret := none) (by decide) rfl ?_
  intro p e s m args below meth c s₁ B hml hv
  obtain ⟨rfl, hK, hF⟩ := hv
  have hx := B.exec
  have hb := B.bytes
  have hr := B.returns
  have hts := atoms_spec (ws := ws_ yX1_setRates cX1_setRates 4 none) B.pre
  have hts : ∀ w ∈ lw_all, w.before _ s = true := fun w h => hts w (List.mem_cons_of_mem _ h)
  have hown : s.vm.findClass RX1 = some m.cls := findClass_of_methodNamed B.named
  have hlocks := B.notSynchronized
  have hS : va_S (AA Γ) s.heap s.heap [] := va_S.rf
  have hl := lv_entry ([.ref (ad 0 0), .int d, .int q, .int c0]) (n := 4) (Nat.le_of_ble_eq_true rfl)
  rw [lg_entry_eq]
  generalize (lg_sl ([.ref (ad 0 0), .int d, .int q, .int c0]) ++ List.replicate (4 - (lg_sl ([.ref (ad 0 0), .int d, .int q, .int c0])).length) Slot.unset).toArray = ls at hl ⊢
  have hl : lv_has ls 4 [(0, .ref (ad 0 0)), (1, .int d), (2, .int q), (3, .int c0)] := hl
  refine lv_iload_n hx hb dX1_setRates_0 rfl (lv_at hl 1 rfl) ?_
  refine lv_iconst (v := 0) hx hb dX1_setRates_1 (by decide) ?_
  refine lv_sipush (v := 5000) hx hb dX1_setRates_2 (by decide) ?_
  refine g_ci (va_runS (As := [.int d, .int 0, .int 5000]) (rest := []) ⟨hx, hb, hml, hown, hts⟩ (Met.val (met_X1_isIn l Γ ad (shp Γ ad N o Z) d 0 5000) (bI1 h1)) (va_cwS 3 hts (lw_S q294 q295 q23 q296) rfl rfl rfl (by decide +kernel) ⟨Nat.le_of_ble_eq_true rfl, Nat.le_of_ble_eq_true rfl⟩) (SF_S hK hS hF) rfl rfl hl.1 rfl (lv_room (Nat.le_of_ble_eq_true rfl)) dX1_setRates_5 ⟨Nat.le_of_ble_eq_true rfl, Nat.le_of_ble_eq_true rfl⟩) hS (fun H locs hF hS => ?_)
  refine lv_if_eq (tgt := 36) hx hb dX1_setRates_8 (by decide) (fun c8 => absurd c8 (by decide)) (fun _ => ?_)
  refine lv_iload_n hx hb dX1_setRates_11 rfl (lv_at hl 2 rfl) ?_
  refine lv_iconst (v := 0) hx hb dX1_setRates_12 (by decide) ?_
  refine lv_sipush (v := 5000) hx hb dX1_setRates_13 (by decide) ?_
  refine g_ci (va_runS (As := [.int q, .int 0, .int 5000]) (rest := []) ⟨hx, hb, hml, hown, hts⟩ (Met.val (met_X1_isIn l Γ ad (shp Γ ad N o Z) q 0 5000) (bI1 h2)) (va_cwS 3 hts (lw_S q294 q295 q23 q296) rfl rfl rfl (by decide +kernel) ⟨Nat.le_of_ble_eq_true rfl, Nat.le_of_ble_eq_true rfl⟩) (SF_S hK hS hF) rfl rfl hl.1 rfl (lv_room (Nat.le_of_ble_eq_true rfl)) dX1_setRates_16 ⟨Nat.le_of_ble_eq_true rfl, Nat.le_of_ble_eq_true rfl⟩) hS (fun H locs hF hS => ?_)
  refine lv_if_eq (tgt := 36) hx hb dX1_setRates_19 (by decide) (fun c19 => absurd c19 (by decide)) (fun _ => ?_)
  refine lv_iload_n hx hb dX1_setRates_22 rfl (lv_at hl 3 rfl) ?_
  refine lv_iconst (v := 0) hx hb dX1_setRates_23 (by decide) ?_
  refine lv_bipush (v := 100) hx hb dX1_setRates_24 (by decide) ?_
  refine g_ci (va_runS (As := [.int c0, .int 0, .int 100]) (rest := []) ⟨hx, hb, hml, hown, hts⟩ (Met.val (met_X1_isIn l Γ ad (shp Γ ad N o Z) c0 0 100) (bI1 h3)) (va_cwS 3 hts (lw_S q294 q295 q23 q296) rfl rfl rfl (by decide +kernel) ⟨Nat.le_of_ble_eq_true rfl, Nat.le_of_ble_eq_true rfl⟩) (SF_S hK hS hF) rfl rfl hl.1 rfl (lv_room (Nat.le_of_ble_eq_true rfl)) dX1_setRates_26 ⟨Nat.le_of_ble_eq_true rfl, Nat.le_of_ble_eq_true rfl⟩) hS (fun H locs hF hS => ?_)
  refine lv_if_eq (tgt := 36) hx hb dX1_setRates_29 (by decide) (fun c29 => absurd c29 (by decide)) (fun _ => ?_)
  refine lv_iconst (v := 1) hx hb dX1_setRates_32 (by decide) ?_
  refine lv_goto (tgt := 37) hx hb dX1_setRates_33 (by decide) ?_
  refine g_cv (va_runS (As := [.int 1]) (rest := []) ⟨hx, hb, hml, hown, hts⟩ (met_X1_want l Γ ad (shp Γ ad N o Z)) (va_cwS 1 hts (lw_S q297 q298 q23 q299) rfl rfl rfl (by decide +kernel) ⟨Nat.le_of_ble_eq_true rfl, Nat.le_of_ble_eq_true rfl⟩) (SF_S hK hS hF) rfl rfl hl.1 rfl (lv_room (Nat.le_of_ble_eq_true rfl)) dX1_setRates_37 ⟨Nat.le_of_ble_eq_true rfl, Nat.le_of_ble_eq_true rfl⟩) hS (fun H locs hF hS => ?_)
  refine lv_aload_n hx hb dX1_setRates_40 rfl (lv_at hl 0 rfl) ?_
  refine lv_iload_n hx hb dX1_setRates_41 rfl (lv_at hl 1 rfl) ?_
  refine s_put (ci := 0) (T := TX1) (NC := 14) hx hb hts in_X1 tyX1 tyX1_ok nmX1 hown hK hF hS 0 0 0 rfl rfl 10 (by decide) rfl (hts _ q126) (fun _ h9 => h9) rfl (by decide +kernel) (Nat.le_of_ble_eq_true rfl) dX1_setRates_42 (fun H locs hF hS => ?_)
  refine lv_aload_n hx hb dX1_setRates_45 rfl (lv_at hl 0 rfl) ?_
  refine lv_iload_n hx hb dX1_setRates_46 rfl (lv_at hl 2 rfl) ?_
  refine s_put (ci := 0) (T := TX1) (NC := 14) hx hb hts in_X1 tyX1 tyX1_ok nmX1 hown hK hF hS 0 0 1 rfl rfl 11 (by decide) rfl (hts _ q127) (fun _ h9 => h9) rfl (by decide +kernel) (Nat.le_of_ble_eq_true rfl) dX1_setRates_47 (fun H locs hF hS => ?_)
  refine lv_aload_n hx hb dX1_setRates_50 rfl (lv_at hl 0 rfl) ?_
  refine lv_iload_n hx hb dX1_setRates_51 rfl (lv_at hl 3 rfl) ?_
  refine s_put (ci := 0) (T := TX1) (NC := 14) hx hb hts in_X1 tyX1 tyX1_ok nmX1 hown hK hF hS 0 0 2 rfl rfl 12 (by decide) rfl (hts _ q128) (fun _ h9 => h9) rfl (by decide +kernel) (Nat.le_of_ble_eq_true rfl) dX1_setRates_52 (fun H locs hF hS => ?_)
  exact g_vret hx hb hr hlocks hF hS dX1_setRates_55
set_option maxHeartbeats 4000000 in
set_option maxRecDepth 100000 in
/-- lend, path A -/
theorem cc_lend_A (l : Launch) (hst : l.stackTraces = false) (Γ : Gm) (ad : Nat → Nat → Nat) (N : Nat → Nat) (o : Nat → Int64) (Z : Nat → Nat → Nat → Int32) (b p0 a r k h6 : Int32) (h : ¬ (0 ≤ b ∧ b < 3)) : vx_Met l yX1_lend (ws_ yX1_lend cX1_lend 10 (some .int)) ({ frames := 7, cells := 1, slots := 6, locals := 102 }) (va_Pc [.ref (ad 0 0), .int b, .int p0, .int a, .int r, .int k, .int h6] (SF Γ ad (shp Γ ad N o Z))) (gNi Γ) (gX Γ (fun E => E = xOB) ad (shp Γ ad N o Z)) 1 6 (AA Γ) := by
  refine vx_ofW (cc := cX1_lend) (maxL := 10) (ret := (some .int)) (by decide) rfl ?_
  intro p e s m args below meth c s₁ B hml hno hv
  obtain ⟨rfl, hK, hF⟩ := hv
  have hx := B.exec
  have hb := B.bytes
  have hr := B.returns
  have hts := atoms_spec (ws := ws_ yX1_lend cX1_lend 10 (some .int)) B.pre
  have hts : ∀ w ∈ lw_all, w.before _ s = true := fun w h => hts w (List.mem_cons_of_mem _ h)
  have hown : s.vm.findClass RX1 = some m.cls := findClass_of_methodNamed B.named
  have hlocks := B.notSynchronized
  have hS : va_S (AA Γ) s.heap s.heap [] := va_S.rf
  have hl := lv_entry ([.ref (ad 0 0), .int b, .int p0, .int a, .int r, .int k, .int h6]) (n := 10) (Nat.le_of_ble_eq_true rfl)
  rw [lg_entry_eq]
  generalize (lg_sl ([.ref (ad 0 0), .int b, .int p0, .int a, .int r, .int k, .int h6]) ++ List.replicate (10 - (lg_sl ([.ref (ad 0 0), .int b, .int p0, .int a, .int r, .int k, .int h6])).length) Slot.unset).toArray = ls at hl ⊢
  have hl : lv_has ls 10 [(0, .ref (ad 0 0)), (1, .int b), (2, .int p0), (3, .int a), (4, .int r), (5, .int k), (6, .int h6)] := hl
  refine lv_iload_n hx hb dX1_lend_0 rfl (lv_at hl 1 rfl) ?_
  refine lv_iconst (v := 3) hx hb dX1_lend_1 (by decide) ?_
  exact gx_callv (vx_runS (As := [.int b, .int 3]) (rest := []) ⟨hx, hb, hml, hown, hts⟩ (xet_X1_exists l hst Γ ad (shp Γ ad N o Z) b 3 h) (va_cwS 2 hts (lw_S q270 q271 q23 q272) rfl rfl rfl (by decide +kernel) ⟨Nat.le_of_ble_eq_true rfl, Nat.le_of_ble_eq_true rfl⟩) (SF_S hK hS hF) rfl rfl hl.1 rfl (lv_room (Nat.le_of_ble_eq_true rfl)) dX1_lend_2 ⟨Nat.le_of_ble_eq_true rfl, Nat.le_of_ble_eq_true rfl⟩) hS (gx_pass hno hlocks (Nat.le_of_ble_eq_true rfl) (Nat.le_of_ble_eq_true rfl) (fun _ h => h)) (fun _ _ _ h => h.elim)
set_option maxHeartbeats 4000000 in
set_option maxRecDepth 100000 in
/-- lend, path E -/
theorem cc_lend_E (l : Launch) (hst : l.stackTraces = false) (Γ : Gm) (ad : Nat → Nat → Nat) (N : Nat → Nat) (o : Nat → Int64) (Z : Nat → Nat → Nat → Int32) (b p0 a r k h6 : Int32) (hb1 : (0 ≤ b ∧ b < 3)) (h : ¬ (0 ≤ p0 ∧ p0 < 3)) : vx_Met l yX1_lend (ws_ yX1_lend cX1_lend 10 (some .int)) ({ frames := 7, cells := 1, slots := 6, locals := 102 }) (va_Pc [.ref (ad 0 0), .int b, .int p0, .int a, .int r, .int k, .int h6] (SF Γ ad (shp Γ ad N o Z))) (gNi Γ) (gX Γ (fun E => E = xOB) ad (shp Γ ad N o Z)) 1 6 (AA Γ) := by
  refine vx_ofW (cc := cX1_lend) (maxL := 10) (ret := (some .int)) (by decide) rfl ?_
  intro p e s m args below meth c s₁ B hml hno hv
  obtain ⟨rfl, hK, hF⟩ := hv
  have hx := B.exec
  have hb := B.bytes
  have hr := B.returns
  have hts := atoms_spec (ws := ws_ yX1_lend cX1_lend 10 (some .int)) B.pre
  have hts : ∀ w ∈ lw_all, w.before _ s = true := fun w h => hts w (List.mem_cons_of_mem _ h)
  have hown : s.vm.findClass RX1 = some m.cls := findClass_of_methodNamed B.named
  have hlocks := B.notSynchronized
  have hS : va_S (AA Γ) s.heap s.heap [] := va_S.rf
  have hl := lv_entry ([.ref (ad 0 0), .int b, .int p0, .int a, .int r, .int k, .int h6]) (n := 10) (Nat.le_of_ble_eq_true rfl)
  rw [lg_entry_eq]
  generalize (lg_sl ([.ref (ad 0 0), .int b, .int p0, .int a, .int r, .int k, .int h6]) ++ List.replicate (10 - (lg_sl ([.ref (ad 0 0), .int b, .int p0, .int a, .int r, .int k, .int h6])).length) Slot.unset).toArray = ls at hl ⊢
  have hl : lv_has ls 10 [(0, .ref (ad 0 0)), (1, .int b), (2, .int p0), (3, .int a), (4, .int r), (5, .int k), (6, .int h6)] := hl
  refine lv_iload_n hx hb dX1_lend_0 rfl (lv_at hl 1 rfl) ?_
  refine lv_iconst (v := 3) hx hb dX1_lend_1 (by decide) ?_
  refine g_cv (va_runS (As := [.int b, .int 3]) (rest := []) ⟨hx, hb, hml, hown, hts⟩ (met_X1_exists l Γ ad (shp Γ ad N o Z) b 3 hb1) (va_cwS 2 hts (lw_S q270 q271 q23 q272) rfl rfl rfl (by decide +kernel) ⟨Nat.le_of_ble_eq_true rfl, Nat.le_of_ble_eq_true rfl⟩) (SF_S hK hS hF) rfl rfl hl.1 rfl (lv_room (Nat.le_of_ble_eq_true rfl)) dX1_lend_2 ⟨Nat.le_of_ble_eq_true rfl, Nat.le_of_ble_eq_true rfl⟩) hS (fun H locs hF hS => ?_)
  refine lv_iload_n hx hb dX1_lend_5 rfl (lv_at hl 2 rfl) ?_
  refine lv_iconst (v := 3) hx hb dX1_lend_6 (by decide) ?_
  exact gx_callv (vx_runS (As := [.int p0, .int 3]) (rest := []) ⟨hx, hb, hml, hown, hts⟩ (xet_X1_exists l hst Γ ad (shp Γ ad N o Z) p0 3 h) (va_cwS 2 hts (lw_S q270 q271 q23 q272) rfl rfl rfl (by decide +kernel) ⟨Nat.le_of_ble_eq_true rfl, Nat.le_of_ble_eq_true rfl⟩) (SF_S hK hS hF) rfl rfl hl.1 rfl (lv_room (Nat.le_of_ble_eq_true rfl)) dX1_lend_7 ⟨Nat.le_of_ble_eq_true rfl, Nat.le_of_ble_eq_true rfl⟩) hS (gx_pass hno hlocks (Nat.le_of_ble_eq_true rfl) (Nat.le_of_ble_eq_true rfl) (fun _ h => h)) (fun _ _ _ h => h.elim)
set_option maxHeartbeats 4000000 in
set_option maxRecDepth 100000 in
/-- lend, path B -/
theorem cc_lend_B (l : Launch) (hst : l.stackTraces = false) (Γ : Gm) (ad : Nat → Nat → Nat) (N : Nat → Nat) (o : Nat → Int64) (Z : Nat → Nat → Nat → Int32) (b p0 a r k h6 : Int32) (hb1 : (0 ≤ b ∧ b < 3)) (hp1 : (0 ≤ p0 ∧ p0 < 3)) (h : ¬ ((1 ≤ a ∧ a ≤ 10000000) ∧ (0 ≤ r ∧ r ≤ 5000) ∧ (1 ≤ k ∧ k ≤ 6))) : vx_Met l yX1_lend (ws_ yX1_lend cX1_lend 10 (some .int)) ({ frames := 7, cells := 1, slots := 6, locals := 101 }) (va_Pc [.ref (ad 0 0), .int b, .int p0, .int a, .int r, .int k, .int h6] (SF Γ ad (shp Γ ad N o Z))) (gNi Γ) (gX Γ (fun E => E = xIA) ad (shp Γ ad N o Z)) 1 6 (AA Γ) := by
  refine vx_ofW (cc := cX1_lend) (maxL := 10) (ret := (some .int)) (by decide) rfl ?_
  intro p e s m args below meth c s₁ B hml hno hv
  obtain ⟨rfl, hK, hF⟩ := hv
  have hx := B.exec
  have hb := B.bytes
  have hr := B.returns
  have hts := atoms_spec (ws := ws_ yX1_lend cX1_lend 10 (some .int)) B.pre
  have hts : ∀ w ∈ lw_all, w.before _ s = true := fun w h => hts w (List.mem_cons_of_mem _ h)
  have hown : s.vm.findClass RX1 = some m.cls := findClass_of_methodNamed B.named
  have hlocks := B.notSynchronized
  have hS : va_S (AA Γ) s.heap s.heap [] := va_S.rf
  have hl := lv_entry ([.ref (ad 0 0), .int b, .int p0, .int a, .int r, .int k, .int h6]) (n := 10) (Nat.le_of_ble_eq_true rfl)
  rw [lg_entry_eq]
  generalize (lg_sl ([.ref (ad 0 0), .int b, .int p0, .int a, .int r, .int k, .int h6]) ++ List.replicate (10 - (lg_sl ([.ref (ad 0 0), .int b, .int p0, .int a, .int r, .int k, .int h6])).length) Slot.unset).toArray = ls at hl ⊢
  have hl : lv_has ls 10 [(0, .ref (ad 0 0)), (1, .int b), (2, .int p0), (3, .int a), (4, .int r), (5, .int k), (6, .int h6)] := hl
  refine lv_iload_n hx hb dX1_lend_0 rfl (lv_at hl 1 rfl) ?_
  refine lv_iconst (v := 3) hx hb dX1_lend_1 (by decide) ?_
  refine g_cv (va_runS (As := [.int b, .int 3]) (rest := []) ⟨hx, hb, hml, hown, hts⟩ (met_X1_exists l Γ ad (shp Γ ad N o Z) b 3 hb1) (va_cwS 2 hts (lw_S q270 q271 q23 q272) rfl rfl rfl (by decide +kernel) ⟨Nat.le_of_ble_eq_true rfl, Nat.le_of_ble_eq_true rfl⟩) (SF_S hK hS hF) rfl rfl hl.1 rfl (lv_room (Nat.le_of_ble_eq_true rfl)) dX1_lend_2 ⟨Nat.le_of_ble_eq_true rfl, Nat.le_of_ble_eq_true rfl⟩) hS (fun H locs hF hS => ?_)
  refine lv_iload_n hx hb dX1_lend_5 rfl (lv_at hl 2 rfl) ?_
  refine lv_iconst (v := 3) hx hb dX1_lend_6 (by decide) ?_
  refine g_cv (va_runS (As := [.int p0, .int 3]) (rest := []) ⟨hx, hb, hml, hown, hts⟩ (met_X1_exists l Γ ad (shp Γ ad N o Z) p0 3 hp1) (va_cwS 2 hts (lw_S q270 q271 q23 q272) rfl rfl rfl (by decide +kernel) ⟨Nat.le_of_ble_eq_true rfl, Nat.le_of_ble_eq_true rfl⟩) (SF_S hK hS hF) rfl rfl hl.1 rfl (lv_room (Nat.le_of_ble_eq_true rfl)) dX1_lend_7 ⟨Nat.le_of_ble_eq_true rfl, Nat.le_of_ble_eq_true rfl⟩) hS (fun H locs hF hS => ?_)
  refine lv_iload_n hx hb dX1_lend_10 rfl (lv_at hl 3 rfl) ?_
  refine lv_iconst (v := 1) hx hb dX1_lend_11 (by decide) ?_
  refine lv_ldc (v := 10000000) hx hb hown (hts _ q330) dX1_lend_12 ?_
  refine g_ci (va_runS (As := [.int a, .int 1, .int 10000000]) (rest := []) ⟨hx, hb, hml, hown, hts⟩ (met_X1_isIn l Γ ad (shp Γ ad N o Z) a 1 10000000) (va_cwS 3 hts (lw_S q294 q295 q23 q296) rfl rfl rfl (by decide +kernel) ⟨Nat.le_of_ble_eq_true rfl, Nat.le_of_ble_eq_true rfl⟩) (SF_S hK hS hF) rfl rfl hl.1 rfl (lv_room (Nat.le_of_ble_eq_true rfl)) dX1_lend_14 ⟨Nat.le_of_ble_eq_true rfl, Nat.le_of_ble_eq_true rfl⟩) hS (fun H locs hF hS => ?_)
  refine lv_if_eq (tgt := 47) hx hb dX1_lend_17 (by decide) (fun c17 => ?_) (fun c17 => ?_)
  · refine lv_iconst (v := 0) hx hb dX1_lend_47 (by decide) ?_
    exact gx_callv (vx_runS (As := [.int 0]) (rest := []) ⟨hx, hb, hml, hown, hts⟩ (xet_X1_want l hst Γ ad (shp Γ ad N o Z)) (va_cwS 1 hts (lw_S q297 q298 q23 q299) rfl rfl rfl (by decide +kernel) ⟨Nat.le_of_ble_eq_true rfl, Nat.le_of_ble_eq_true rfl⟩) (SF_S hK hS hF) rfl rfl hl.1 rfl (lv_room (Nat.le_of_ble_eq_true rfl)) dX1_lend_48 ⟨Nat.le_of_ble_eq_true rfl, Nat.le_of_ble_eq_true rfl⟩) hS (gx_pass hno hlocks (Nat.le_of_ble_eq_true rfl) (Nat.le_of_ble_eq_true rfl) (fun _ h => h)) (fun _ _ _ h => h.elim)
  · refine lv_iload hx hb dX1_lend_20 (lv_at hl 4 rfl) ?_
    refine lv_iconst (v := 0) hx hb dX1_lend_22 (by decide) ?_
    refine lv_sipush (v := 5000) hx hb dX1_lend_23 (by decide) ?_
    refine g_ci (va_runS (As := [.int r, .int 0, .int 5000]) (rest := []) ⟨hx, hb, hml, hown, hts⟩ (met_X1_isIn l Γ ad (shp Γ ad N o Z) r 0 5000) (va_cwS 3 hts (lw_S q294 q295 q23 q296) rfl rfl rfl (by decide +kernel) ⟨Nat.le_of_ble_eq_true rfl, Nat.le_of_ble_eq_true rfl⟩) (SF_S hK hS hF) rfl rfl hl.1 rfl (lv_room (Nat.le_of_ble_eq_true rfl)) dX1_lend_26 ⟨Nat.le_of_ble_eq_true rfl, Nat.le_of_ble_eq_true rfl⟩) hS (fun H locs hF hS => ?_)
    refine lv_if_eq (tgt := 47) hx hb dX1_lend_29 (by decide) (fun c29 => ?_) (fun c29 => ?_)
    · refine lv_iconst (v := 0) hx hb dX1_lend_47 (by decide) ?_
      exact gx_callv (vx_runS (As := [.int 0]) (rest := []) ⟨hx, hb, hml, hown, hts⟩ (xet_X1_want l hst Γ ad (shp Γ ad N o Z)) (va_cwS 1 hts (lw_S q297 q298 q23 q299) rfl rfl rfl (by decide +kernel) ⟨Nat.le_of_ble_eq_true rfl, Nat.le_of_ble_eq_true rfl⟩) (SF_S hK hS hF) rfl rfl hl.1 rfl (lv_room (Nat.le_of_ble_eq_true rfl)) dX1_lend_48 ⟨Nat.le_of_ble_eq_true rfl, Nat.le_of_ble_eq_true rfl⟩) hS (gx_pass hno hlocks (Nat.le_of_ble_eq_true rfl) (Nat.le_of_ble_eq_true rfl) (fun _ h => h)) (fun _ _ _ h => h.elim)
    · refine lv_iload hx hb dX1_lend_32 (lv_at hl 5 rfl) ?_
      refine lv_iconst (v := 1) hx hb dX1_lend_34 (by decide) ?_
      refine lv_bipush (v := 6) hx hb dX1_lend_35 (by decide) ?_
      refine g_ci (va_runS (As := [.int k, .int 1, .int 6]) (rest := []) ⟨hx, hb, hml, hown, hts⟩ (met_X1_isIn l Γ ad (shp Γ ad N o Z) k 1 6) (va_cwS 3 hts (lw_S q294 q295 q23 q296) rfl rfl rfl (by decide +kernel) ⟨Nat.le_of_ble_eq_true rfl, Nat.le_of_ble_eq_true rfl⟩) (SF_S hK hS hF) rfl rfl hl.1 rfl (lv_room (Nat.le_of_ble_eq_true rfl)) dX1_lend_37 ⟨Nat.le_of_ble_eq_true rfl, Nat.le_of_ble_eq_true rfl⟩) hS (fun H locs hF hS => ?_)
      refine lv_if_eq (tgt := 47) hx hb dX1_lend_40 (by decide) (fun c40 => ?_) (fun c40 => ?_)
      · refine lv_iconst (v := 0) hx hb dX1_lend_47 (by decide) ?_
        exact gx_callv (vx_runS (As := [.int 0]) (rest := []) ⟨hx, hb, hml, hown, hts⟩ (xet_X1_want l hst Γ ad (shp Γ ad N o Z)) (va_cwS 1 hts (lw_S q297 q298 q23 q299) rfl rfl rfl (by decide +kernel) ⟨Nat.le_of_ble_eq_true rfl, Nat.le_of_ble_eq_true rfl⟩) (SF_S hK hS hF) rfl rfl hl.1 rfl (lv_room (Nat.le_of_ble_eq_true rfl)) dX1_lend_48 ⟨Nat.le_of_ble_eq_true rfl, Nat.le_of_ble_eq_true rfl⟩) hS (gx_pass hno hlocks (Nat.le_of_ble_eq_true rfl) (Nat.le_of_ble_eq_true rfl) (fun _ h => h)) (fun _ _ _ h => h.elim)
      · exact absurd ⟨bI_t c17, bI_t c29, bI_t c40⟩ h
set_option maxHeartbeats 4000000 in
set_option maxRecDepth 100000 in
/-- lend, path C -/
theorem cc_lend_C (l : Launch) (hst : l.stackTraces = false) (Γ : Gm) (ad : Nat → Nat → Nat) (N : Nat → Nat) (o : Nat → Int64) (Z : Nat → Nat → Nat → Int32) (b p0 a r k h6 : Int32) (hb1 : (0 ≤ b ∧ b < 3)) (hp1 : (0 ≤ p0 ∧ p0 < 3)) (ha : 1 ≤ a ∧ a ≤ 10000000) (hr1 : 0 ≤ r ∧ r ≤ 5000) (hk1 : 1 ≤ k ∧ k ≤ 6) (hn24 : N 0 = 24) : vx_Met l yX1_lend (ws_ yX1_lend cX1_lend 10 (some .int)) ({ frames := 7, cells := 1, slots := 6, locals := 101 }) (va_Pc [.ref (ad 0 0), .int b, .int p0, .int a, .int r, .int k, .int h6] (SF Γ ad (shp Γ ad N o Z))) (gNi Γ) (gX Γ (fun E => E = xIS) ad (shp Γ ad N o Z)) 1 6 (AA Γ) := by
  refine vx_ofW (cc := cX1_lend) (maxL := 10) (ret := (some .int)) (by decide) rfl ?_
  intro p e s m args below meth c s₁ B hml hno hv
  obtain ⟨rfl, hK, hF⟩ := hv
  have hx := B.exec
  have hb := B.bytes
  have hr := B.returns
  have hts := atoms_spec (ws := ws_ yX1_lend cX1_lend 10 (some .int)) B.pre
  have hts : ∀ w ∈ lw_all, w.before _ s = true := fun w h => hts w (List.mem_cons_of_mem _ h)
  have hown : s.vm.findClass RX1 = some m.cls := findClass_of_methodNamed B.named
  have hlocks := B.notSynchronized
  have hS : va_S (AA Γ) s.heap s.heap [] := va_S.rf
  have hl := lv_entry ([.ref (ad 0 0), .int b, .int p0, .int a, .int r, .int k, .int h6]) (n := 10) (Nat.le_of_ble_eq_true rfl)
  rw [lg_entry_eq]
  generalize (lg_sl ([.ref (ad 0 0), .int b, .int p0, .int a, .int r, .int k, .int h6]) ++ List.replicate (10 - (lg_sl ([.ref (ad 0 0), .int b, .int p0, .int a, .int r, .int k, .int h6])).length) Slot.unset).toArray = ls at hl ⊢
  have hl : lv_has ls 10 [(0, .ref (ad 0 0)), (1, .int b), (2, .int p0), (3, .int a), (4, .int r), (5, .int k), (6, .int h6)] := hl
  refine lv_iload_n hx hb dX1_lend_0 rfl (lv_at hl 1 rfl) ?_
  refine lv_iconst (v := 3) hx hb dX1_lend_1 (by decide) ?_
  refine g_cv (va_runS (As := [.int b, .int 3]) (rest := []) ⟨hx, hb, hml, hown, hts⟩ (met_X1_exists l Γ ad (shp Γ ad N o Z) b 3 hb1) (va_cwS 2 hts (lw_S q270 q271 q23 q272) rfl rfl rfl (by decide +kernel) ⟨Nat.le_of_ble_eq_true rfl, Nat.le_of_ble_eq_true rfl⟩) (SF_S hK hS hF) rfl rfl hl.1 rfl (lv_room (Nat.le_of_ble_eq_true rfl)) dX1_lend_2 ⟨Nat.le_of_ble_eq_true rfl, Nat.le_of_ble_eq_true rfl⟩) hS (fun H locs hF hS => ?_)
  refine lv_iload_n hx hb dX1_lend_5 rfl (lv_at hl 2 rfl) ?_
  refine lv_iconst (v := 3) hx hb dX1_lend_6 (by decide) ?_
  refine g_cv (va_runS (As := [.int p0, .int 3]) (rest := []) ⟨hx, hb, hml, hown, hts⟩ (met_X1_exists l Γ ad (shp Γ ad N o Z) p0 3 hp1) (va_cwS 2 hts (lw_S q270 q271 q23 q272) rfl rfl rfl (by decide +kernel) ⟨Nat.le_of_ble_eq_true rfl, Nat.le_of_ble_eq_true rfl⟩) (SF_S hK hS hF) rfl rfl hl.1 rfl (lv_room (Nat.le_of_ble_eq_true rfl)) dX1_lend_7 ⟨Nat.le_of_ble_eq_true rfl, Nat.le_of_ble_eq_true rfl⟩) hS (fun H locs hF hS => ?_)
  refine lv_iload_n hx hb dX1_lend_10 rfl (lv_at hl 3 rfl) ?_
  refine lv_iconst (v := 1) hx hb dX1_lend_11 (by decide) ?_
  refine lv_ldc (v := 10000000) hx hb hown (hts _ q330) dX1_lend_12 ?_
  refine g_ci (va_runS (As := [.int a, .int 1, .int 10000000]) (rest := []) ⟨hx, hb, hml, hown, hts⟩ (Met.val (met_X1_isIn l Γ ad (shp Γ ad N o Z) a 1 10000000) (bI1 ha)) (va_cwS 3 hts (lw_S q294 q295 q23 q296) rfl rfl rfl (by decide +kernel) ⟨Nat.le_of_ble_eq_true rfl, Nat.le_of_ble_eq_true rfl⟩) (SF_S hK hS hF) rfl rfl hl.1 rfl (lv_room (Nat.le_of_ble_eq_true rfl)) dX1_lend_14 ⟨Nat.le_of_ble_eq_true rfl, Nat.le_of_ble_eq_true rfl⟩) hS (fun H locs hF hS => ?_)
  refine lv_if_eq (tgt := 47) hx hb dX1_lend_17 (by decide) (fun c17 => absurd c17 (by decide)) (fun _ => ?_)
  refine lv_iload hx hb dX1_lend_20 (lv_at hl 4 rfl) ?_
  refine lv_iconst (v := 0) hx hb dX1_lend_22 (by decide) ?_
  refine lv_sipush (v := 5000) hx hb dX1_lend_23 (by decide) ?_
  refine g_ci (va_runS (As := [.int r, .int 0, .int 5000]) (rest := []) ⟨hx, hb, hml, hown, hts⟩ (Met.val (met_X1_isIn l Γ ad (shp Γ ad N o Z) r 0 5000) (bI1 hr1)) (va_cwS 3 hts (lw_S q294 q295 q23 q296) rfl rfl rfl (by decide +kernel) ⟨Nat.le_of_ble_eq_true rfl, Nat.le_of_ble_eq_true rfl⟩) (SF_S hK hS hF) rfl rfl hl.1 rfl (lv_room (Nat.le_of_ble_eq_true rfl)) dX1_lend_26 ⟨Nat.le_of_ble_eq_true rfl, Nat.le_of_ble_eq_true rfl⟩) hS (fun H locs hF hS => ?_)
  refine lv_if_eq (tgt := 47) hx hb dX1_lend_29 (by decide) (fun c29 => absurd c29 (by decide)) (fun _ => ?_)
  refine lv_iload hx hb dX1_lend_32 (lv_at hl 5 rfl) ?_
  refine lv_iconst (v := 1) hx hb dX1_lend_34 (by decide) ?_
  refine lv_bipush (v := 6) hx hb dX1_lend_35 (by decide) ?_
  refine g_ci (va_runS (As := [.int k, .int 1, .int 6]) (rest := []) ⟨hx, hb, hml, hown, hts⟩ (Met.val (met_X1_isIn l Γ ad (shp Γ ad N o Z) k 1 6) (bI1 hk1)) (va_cwS 3 hts (lw_S q294 q295 q23 q296) rfl rfl rfl (by decide +kernel) ⟨Nat.le_of_ble_eq_true rfl, Nat.le_of_ble_eq_true rfl⟩) (SF_S hK hS hF) rfl rfl hl.1 rfl (lv_room (Nat.le_of_ble_eq_true rfl)) dX1_lend_37 ⟨Nat.le_of_ble_eq_true rfl, Nat.le_of_ble_eq_true rfl⟩) hS (fun H locs hF hS => ?_)
  refine lv_if_eq (tgt := 47) hx hb dX1_lend_40 (by decide) (fun c40 => absurd c40 (by decide)) (fun _ => ?_)
  refine lv_iconst (v := 1) hx hb dX1_lend_43 (by decide) ?_
  refine lv_goto (tgt := 48) hx hb dX1_lend_44 (by decide) ?_
  refine g_cv (va_runS (As := [.int 1]) (rest := []) ⟨hx, hb, hml, hown, hts⟩ (met_X1_want l Γ ad (shp Γ ad N o Z)) (va_cwS 1 hts (lw_S q297 q298 q23 q299) rfl rfl rfl (by decide +kernel) ⟨Nat.le_of_ble_eq_true rfl, Nat.le_of_ble_eq_true rfl⟩) (SF_S hK hS hF) rfl rfl hl.1 rfl (lv_room (Nat.le_of_ble_eq_true rfl)) dX1_lend_48 ⟨Nat.le_of_ble_eq_true rfl, Nat.le_of_ble_eq_true rfl⟩) hS (fun H locs hF hS => ?_)
  refine lv_aload_n hx hb dX1_lend_51 rfl (lv_at hl 0 rfl) ?_
  refine r_get (ci := 0) (v := .ref (ad 0 6)) (T := TX1) (N := 14) hx hb hts in_X1 hown hK hF 0 0 rfl rfl 2 (by decide) (hts _ q118) (fun _ h9 => h9) rfl dX1_lend_52 ?_
  refine g_cFi (va_runF (As := []) (rest := []) (hK.1.1 1 _ rfl).2 ⟨hx, hb, hml, hown, hts⟩ (met_J2_size l Γ ad (shp Γ ad N o Z) (z := nI (N 0)) rfl) (va_cwF 0 hts (lw_F q168 q172 q174 q28 q176) rfl rfl rfl (hK.face 0 rfl) (by decide +kernel) ⟨Nat.le_of_ble_eq_true rfl, Nat.le_of_ble_eq_true rfl⟩) (SF_V hK hS hF (recvF hK hF 0 6 rfl rfl)) rfl rfl hl.1 rfl (lv_room (Nat.le_of_ble_eq_true rfl)) dX1_lend_55 ⟨Nat.le_of_ble_eq_true rfl, Nat.le_of_ble_eq_true rfl⟩) hS (fun H locs hF hS => ?_)
  refine lv_bipush (v := 24) hx hb dX1_lend_60 (by decide) ?_
  refine lv_icmp_ge (tgt := 69) hx hb dX1_lend_62 (by decide) (fun c62 => ?_) (fun c62 => absurd (by rw [hn24]; exact nI_le (a := 24) (Nat.le_refl _) (by decide)) c62)
  refine lv_iconst (v := 0) hx hb dX1_lend_69 (by decide) ?_
  exact gx_callv (vx_runS (As := [.int 0]) (rest := []) ⟨hx, hb, hml, hown, hts⟩ (xet_X1_allow l hst Γ ad (shp Γ ad N o Z)) (va_cwS 1 hts (lw_S q331 q332 q23 q333) rfl rfl rfl (by decide +kernel) ⟨Nat.le_of_ble_eq_true rfl, Nat.le_of_ble_eq_true rfl⟩) (SF_S hK hS hF) rfl rfl hl.1 rfl (lv_room (Nat.le_of_ble_eq_true rfl)) dX1_lend_70 ⟨Nat.le_of_ble_eq_true rfl, Nat.le_of_ble_eq_true rfl⟩) hS (gx_pass hno hlocks (Nat.le_of_ble_eq_true rfl) (Nat.le_of_ble_eq_true rfl) (fun _ h => h)) (fun _ _ _ h => h.elim)
set_option maxHeartbeats 4000000 in
set_option maxRecDepth 100000 in
/-- repay, path A -/
theorem cc_repay_A (l : Launch) (hst : l.stackTraces = false) (Γ : Gm) (ad : Nat → Nat → Nat) (N : Nat → Nat) (o : Nat → Int64) (Z : Nat → Nat → Nat → Int32) (l0 : Int32) (h : ¬ (0 ≤ l0 ∧ l0 < nI (N 0))) : vx_Met l yX1_repay (ws_ yX1_repay cX1_repay 4 (some .int)) ({ frames := 8, cells := 1, slots := 6, locals := 123 }) (va_Pc [.ref (ad 0 0), .int l0] (SF Γ ad (shp Γ ad N o Z))) (gNi Γ) (gX Γ (fun E => E = xOB) ad (shp Γ ad N o Z)) 1 6 (AA Γ) := by
  refine vx_ofW (cc := cX1_repay) (maxL := 4) (ret := (some .int)) (by decide) rfl ?_
  intro p e s m args below meth c s₁ B hml hno hv
  obtain ⟨rfl, hK, hF⟩ := hv
  have hx := B.exec
  have hb := B.bytes
  have hr := B.returns
  have hts := atoms_spec (ws := ws_ yX1_repay cX1_repay 4 (some .int)) B.pre
  have hts : ∀ w ∈ lw_all, w.before _ s = true := fun w h => hts w (List.mem_cons_of_mem _ h)
  have hown : s.vm.findClass RX1 = some m.cls := findClass_of_methodNamed B.named
  have hlocks := B.notSynchronized
  have hS : va_S (AA Γ) s.heap s.heap [] := va_S.rf
  have hl := lv_entry ([.ref (ad 0 0), .int l0]) (n := 4) (Nat.le_of_ble_eq_true rfl)
  rw [lg_entry_eq]
  generalize (lg_sl ([.ref (ad 0 0), .int l0]) ++ List.replicate (4 - (lg_sl ([.ref (ad 0 0), .int l0])).length) Slot.unset).toArray = ls at hl ⊢
  have hl : lv_has ls 4 [(0, .ref (ad 0 0)), (1, .int l0)] := hl
  refine lv_aload_n hx hb dX1_repay_0 rfl (lv_at hl 0 rfl) ?_
  refine lv_iload_n hx hb dX1_repay_1 rfl (lv_at hl 1 rfl) ?_
  exact gx_callr (vx_runV (As := [.int l0]) (rest := []) ⟨hx, hb, hml, hown, hts⟩ (cc_account_A l hst Γ ad N o Z l0 h) (cwV 1 hts (lw_V q467 q469 qs5 q23 q470) rfl rfl rfl (by decide +kernel) ⟨Nat.le_of_ble_eq_true rfl, Nat.le_of_ble_eq_true rfl⟩) (SF_V hK hS hF (recvF hK hF 0 0 rfl rfl)) rfl rfl hl.1 rfl (lv_room (Nat.le_of_ble_eq_true rfl)) dX1_repay_2 ⟨Nat.le_of_ble_eq_true rfl, Nat.le_of_ble_eq_true rfl⟩) hS (gx_pass hno hlocks (Nat.le_of_ble_eq_true rfl) (Nat.le_of_ble_eq_true rfl) (fun _ h => h)) (fun _ _ _ h => h.elim)
set_option maxHeartbeats 4000000 in
set_option maxRecDepth 100000 in
/-- repay, path B -/
theorem cc_repay_B (l : Launch) (hst : l.stackTraces = false) (Γ : Gm) (ad : Nat → Nat → Nat) (N : Nat → Nat) (o : Nat → Int64) (Z : Nat → Nat → Nat → Int32) (hN : nOk N) (j : Nat) (hj : j < N 0) (hlo : cLo Z N j) (h : Z 4 j 4 = 0 ∨ Z 3 j 0 = nI (N (10 + j))) : vx_Met l yX1_repay (ws_ yX1_repay cX1_repay 4 (some .int)) ({ frames := 7, cells := 1, slots := 6, locals := 101 }) (va_Pc [.ref (ad 0 0), .int (nI j)] (SF Γ ad (shp Γ ad N o Z))) (gNi Γ) (gX Γ (fun E => E = xIS) ad (shp Γ ad N o Z)) 1 6 (AA Γ) := by
  refine vx_ofW (cc := cX1_repay) (maxL := 4) (ret := (some .int)) (by decide) rfl ?_
  intro p e s m args below meth c s₁ B hml hno hv
  obtain ⟨rfl, hK, hF⟩ := hv
  have hx := B.exec
  have hb := B.bytes
  have hr := B.returns
  have hts := atoms_spec (ws := ws_ yX1_repay cX1_repay 4 (some .int)) B.pre
  have hts : ∀ w ∈ lw_all, w.before _ s = true := fun w h => hts w (List.mem_cons_of_mem _ h)
  have hown : s.vm.findClass RX1 = some m.cls := findClass_of_methodNamed B.named
  have hlocks := B.notSynchronized
  have hS : va_S (AA Γ) s.heap s.heap [] := va_S.rf
  have hl := lv_entry ([.ref (ad 0 0), .int (nI j)]) (n := 4) (Nat.le_of_ble_eq_true rfl)
  rw [lg_entry_eq]
  generalize (lg_sl ([.ref (ad 0 0), .int (nI j)]) ++ List.replicate (4 - (lg_sl ([.ref (ad 0 0), .int (nI j)])).length) Slot.unset).toArray = ls at hl ⊢
  have hl : lv_has ls 4 [(0, .ref (ad 0 0)), (1, .int (nI j))] := hl
  have hlo := id hlo
  obtain ⟨hq, hql, hq6, hopt, -⟩ := id hlo
  refine lv_aload_n hx hb dX1_repay_0 rfl (lv_at hl 0 rfl) ?_
  refine lv_iload_n hx hb dX1_repay_1 rfl (lv_at hl 1 rfl) ?_
  refine g_cr (va_runV (As := [.int (nI j)]) (rest := []) ⟨hx, hb, hml, hown, hts⟩ (cc_account_B l Γ ad N o Z hN j hj) (cwV 1 hts (lw_V q467 q469 qs5 q23 q470) rfl rfl rfl (by decide +kernel) ⟨Nat.le_of_ble_eq_true rfl, Nat.le_of_ble_eq_true rfl⟩) (SF_V hK hS hF (recvF hK hF 0 0 rfl rfl)) rfl rfl hl.1 rfl (lv_room (Nat.le_of_ble_eq_true rfl)) dX1_repay_2 ⟨Nat.le_of_ble_eq_true rfl, Nat.le_of_ble_eq_true rfl⟩) hS (fun H locs hF hS => ?_)
  refine lv_astore_n (lv' := [(2, .ref (ad 3 j)), (0, .ref (ad 0 0)), (1, .int (nI j))]) hx hb dX1_repay_5 rfl hl (by decide) rfl (fun ls hl => ?_)
  refine lv_aload_n hx hb dX1_repay_6 rfl (lv_at hl 0 rfl) ?_
  refine r_get (ci := 3) (v := .ref (ad 4 j)) (T := TX5) (N := 2) hx hb hts in_X5 hown hK hF 3 j (sh_3 hj _) rfl 0 (by decide) (hts _ q386) (fun _ h9 => h9) rfl dX1_repay_7 ?_
  refine g_ci (va_runV (As := []) (rest := []) ⟨hx, hb, hml, hown, hts⟩ (met_X6_hasOption l Γ ad N o Z j hj hopt) (cwV 0 hts (lw_V q490 q491 q492 q41 q493) rfl rfl rfl (by decide +kernel) ⟨Nat.le_of_ble_eq_true rfl, Nat.le_of_ble_eq_true rfl⟩) (SF_V hK hS hF (recvF hK hF 4 j (sh_4 hj _) rfl)) rfl rfl hl.1 rfl (lv_room (Nat.le_of_ble_eq_true rfl)) dX1_repay_10 ⟨Nat.le_of_ble_eq_true rfl, Nat.le_of_ble_eq_true rfl⟩) hS (fun H locs hF hS => ?_)
  refine lv_if_eq (tgt := 27) hx hb dX1_repay_13 (by decide) (fun c13 => ?_) (fun c13 => ?_)
  · refine lv_iconst (v := 0) hx hb dX1_repay_27 (by decide) ?_
    exact gx_callv (vx_runS (As := [.int 0]) (rest := []) ⟨hx, hb, hml, hown, hts⟩ (xet_X1_allow l hst Γ ad (shp Γ ad N o Z)) (va_cwS 1 hts (lw_S q331 q332 q23 q333) rfl rfl rfl (by decide +kernel) ⟨Nat.le_of_ble_eq_true rfl, Nat.le_of_ble_eq_true rfl⟩) (SF_S hK hS hF) rfl rfl hl.1 rfl (lv_room (Nat.le_of_ble_eq_true rfl)) dX1_repay_28 ⟨Nat.le_of_ble_eq_true rfl, Nat.le_of_ble_eq_true rfl⟩) hS (gx_pass hno hlocks (Nat.le_of_ble_eq_true rfl) (Nat.le_of_ble_eq_true rfl) (fun _ h => h)) (fun _ _ _ h => h.elim)
  · refine lv_aload_n hx hb dX1_repay_16 rfl (lv_at hl 0 rfl) ?_
    refine g_ci (va_runV (As := []) (rest := []) ⟨hx, hb, hml, hown, hts⟩ (met_X5_isPaid l Γ ad N o Z j hj) (cwV 0 hts (lw_V q494 q495 q496 q40 q497) rfl rfl rfl (by decide +kernel) ⟨Nat.le_of_ble_eq_true rfl, Nat.le_of_ble_eq_true rfl⟩) (SF_V hK hS hF (recvF hK hF 3 j (sh_3 hj _) rfl)) rfl rfl hl.1 rfl (lv_room (Nat.le_of_ble_eq_true rfl)) dX1_repay_17 ⟨Nat.le_of_ble_eq_true rfl, Nat.le_of_ble_eq_true rfl⟩) hS (fun H locs hF hS => ?_)
    refine lv_if_ne (tgt := 27) hx hb dX1_repay_20 (by decide) (fun c20 => ?_) (fun c20 => ?_)
    · refine lv_iconst (v := 0) hx hb dX1_repay_27 (by decide) ?_
      exact gx_callv (vx_runS (As := [.int 0]) (rest := []) ⟨hx, hb, hml, hown, hts⟩ (xet_X1_allow l hst Γ ad (shp Γ ad N o Z)) (va_cwS 1 hts (lw_S q331 q332 q23 q333) rfl rfl rfl (by decide +kernel) ⟨Nat.le_of_ble_eq_true rfl, Nat.le_of_ble_eq_true rfl⟩) (SF_S hK hS hF) rfl rfl hl.1 rfl (lv_room (Nat.le_of_ble_eq_true rfl)) dX1_repay_28 ⟨Nat.le_of_ble_eq_true rfl, Nat.le_of_ble_eq_true rfl⟩) hS (gx_pass hno hlocks (Nat.le_of_ble_eq_true rfl) (Nat.le_of_ble_eq_true rfl) (fun _ h => h)) (fun _ _ _ h => h.elim)
    · exact h.elim (fun q => absurd q c13) (fun q => by rw [bI1 q] at c20; exact absurd c20 (by decide))
set_option maxHeartbeats 4000000 in
set_option maxRecDepth 100000 in
/-- repay, path C -/
theorem cc_repay_C (l : Launch) (Γ : Gm) (ad : Nat → Nat → Nat) (N : Nat → Nat) (o : Nat → Int64) (Z : Nat → Nat → Nat → Int32) (hN : nOk N) (j : Nat) (hj : j < N 0) (hlo : cLo Z N j) (h6 : ¬ Z 4 j 4 = 0) (h : ¬ Z 3 j 0 = nI (N (10 + j))) : Met l yX1_repay (ws_ yX1_repay cX1_repay 4 (some .int)) ({ frames := 4, cells := 0, slots := 0, locals := 85 }) (va_Pc [.ref (ad 0 0), .int (nI j)] (SF Γ ad (shp Γ ad N o Z))) (gEi Γ (cLeft Z N j) ad (shp Γ ad N o (uz Z 3 j 0 (nI (N (10 + j)))))) 0 0 (AA Γ) := by
  refine Met.ofW (cc := cX1_repay) (maxL := 4) (ret := (some .int)) (by decide) rfl ?_
  intro p e s m args below meth c s₁ B hml hv
  obtain ⟨rfl, hK, hF⟩ := hv
  have hx := B.exec
  have hb := B.bytes
  have hr := B.returns
  have hts := atoms_spec (ws := ws_ yX1_repay cX1_repay 4 (some .int)) B.pre
  have hts : ∀ w ∈ lw_all, w.before _ s = true := fun w h => hts w (List.mem_cons_of_mem _ h)
  have hown : s.vm.findClass RX1 = some m.cls := findClass_of_methodNamed B.named
  have hlocks := B.notSynchronized
  have hS : va_S (AA Γ) s.heap s.heap [] := va_S.rf
  have hl := lv_entry ([.ref (ad 0 0), .int (nI j)]) (n := 4) (Nat.le_of_ble_eq_true rfl)
  rw [lg_entry_eq]
  generalize (lg_sl ([.ref (ad 0 0), .int (nI j)]) ++ List.replicate (4 - (lg_sl ([.ref (ad 0 0), .int (nI j)])).length) Slot.unset).toArray = ls at hl ⊢
  have hl : lv_has ls 4 [(0, .ref (ad 0 0)), (1, .int (nI j))] := hl
  have hlo := id hlo
  obtain ⟨hq, hql, hq6, hopt, -⟩ := id hlo
  refine lv_aload_n hx hb dX1_repay_0 rfl (lv_at hl 0 rfl) ?_
  refine lv_iload_n hx hb dX1_repay_1 rfl (lv_at hl 1 rfl) ?_
  refine g_cr (va_runV (As := [.int (nI j)]) (rest := []) ⟨hx, hb, hml, hown, hts⟩ (cc_account_B l Γ ad N o Z hN j hj) (cwV 1 hts (lw_V q467 q469 qs5 q23 q470) rfl rfl rfl (by decide +kernel) ⟨Nat.le_of_ble_eq_true rfl, Nat.le_of_ble_eq_true rfl⟩) (SF_V hK hS hF (recvF hK hF 0 0 rfl rfl)) rfl rfl hl.1 rfl (lv_room (Nat.le_of_ble_eq_true rfl)) dX1_repay_2 ⟨Nat.le_of_ble_eq_true rfl, Nat.le_of_ble_eq_true rfl⟩) hS (fun H locs hF hS => ?_)
  refine lv_astore_n (lv' := [(2, .ref (ad 3 j)), (0, .ref (ad 0 0)), (1, .int (nI j))]) hx hb dX1_repay_5 rfl hl (by decide) rfl (fun ls hl => ?_)
  refine lv_aload_n hx hb dX1_repay_6 rfl (lv_at hl 0 rfl) ?_
  refine r_get (ci := 3) (v := .ref (ad 4 j)) (T := TX5) (N := 2) hx hb hts in_X5 hown hK hF 3 j (sh_3 hj _) rfl 0 (by decide) (hts _ q386) (fun _ h9 => h9) rfl dX1_repay_7 ?_
  refine g_ci (va_runV (As := []) (rest := []) ⟨hx, hb, hml, hown, hts⟩ (met_X6_hasOption l Γ ad N o Z j hj hopt) (cwV 0 hts (lw_V q490 q491 q492 q41 q493) rfl rfl rfl (by decide +kernel) ⟨Nat.le_of_ble_eq_true rfl, Nat.le_of_ble_eq_true rfl⟩) (SF_V hK hS hF (recvF hK hF 4 j (sh_4 hj _) rfl)) rfl rfl hl.1 rfl (lv_room (Nat.le_of_ble_eq_true rfl)) dX1_repay_10 ⟨Nat.le_of_ble_eq_true rfl, Nat.le_of_ble_eq_true rfl⟩) hS (fun H locs hF hS => ?_)
  refine lv_if_eq (tgt := 27) hx hb dX1_repay_13 (by decide) (fun c13 => absurd c13 h6) (fun c13 => ?_)
  refine lv_aload_n hx hb dX1_repay_16 rfl (lv_at hl 0 rfl) ?_
  refine g_ci (va_runV (As := []) (rest := []) ⟨hx, hb, hml, hown, hts⟩ (Met.val (met_X5_isPaid l Γ ad N o Z j hj) (bI0 h)) (cwV 0 hts (lw_V q494 q495 q496 q40 q497) rfl rfl rfl (by decide +kernel) ⟨Nat.le_of_ble_eq_true rfl, Nat.le_of_ble_eq_true rfl⟩) (SF_V hK hS hF (recvF hK hF 3 j (sh_3 hj _) rfl)) rfl rfl hl.1 rfl (lv_room (Nat.le_of_ble_eq_true rfl)) dX1_repay_17 ⟨Nat.le_of_ble_eq_true rfl, Nat.le_of_ble_eq_true rfl⟩) hS (fun H locs hF hS => ?_)
  refine lv_if_ne (tgt := 27) hx hb dX1_repay_20 (by decide) (fun c20 => absurd (by decide) c20) (fun _ => ?_)
  refine lv_iconst (v := 1) hx hb dX1_repay_23 (by decide) ?_
  refine lv_goto (tgt := 28) hx hb dX1_repay_24 (by decide) ?_
  refine g_cv (va_runS (As := [.int 1]) (rest := []) ⟨hx, hb, hml, hown, hts⟩ (met_X1_allow l Γ ad (shp Γ ad N o Z)) (va_cwS 1 hts (lw_S q331 q332 q23 q333) rfl rfl rfl (by decide +kernel) ⟨Nat.le_of_ble_eq_true rfl, Nat.le_of_ble_eq_true rfl⟩) (SF_S hK hS hF) rfl rfl hl.1 rfl (lv_room (Nat.le_of_ble_eq_true rfl)) dX1_repay_28 ⟨Nat.le_of_ble_eq_true rfl, Nat.le_of_ble_eq_true rfl⟩) hS (fun H locs hF hS => ?_)
  refine lv_aload_n hx hb dX1_repay_31 rfl (lv_at hl 0 rfl) ?_
  refine g_ci (va_runV (As := []) (rest := []) ⟨hx, hb, hml, hown, hts⟩ (met_X5_left l Γ ad N o Z j hj hlo) (cwV 0 hts (lw_V q502 q503 q504 q40 q505) rfl rfl rfl (by decide +kernel) ⟨Nat.le_of_ble_eq_true rfl, Nat.le_of_ble_eq_true rfl⟩) (SF_V hK hS hF (recvF hK hF 3 j (sh_3 hj _) rfl)) rfl rfl hl.1 rfl (lv_room (Nat.le_of_ble_eq_true rfl)) dX1_repay_32 ⟨Nat.le_of_ble_eq_true rfl, Nat.le_of_ble_eq_true rfl⟩) hS (fun H locs hF hS => ?_)
  refine lv_istore_n (lv' := [(3, .int (cLeft Z N j)), (2, .ref (ad 3 j)), (0, .ref (ad 0 0)), (1, .int (nI j))]) hx hb dX1_repay_35 rfl hl (by decide) rfl (fun ls hl => ?_)
  refine lv_aload_n hx hb dX1_repay_36 rfl (lv_at hl 1 rfl) ?_
  refine lv_aload_n hx hb dX1_repay_37 rfl (lv_at hl 1 rfl) ?_
  refine r_get (ci := 3) (v := .ref (ad 4 j)) (T := TX5) (N := 2) hx hb hts in_X5 hown hK hF 3 j (sh_3 hj _) rfl 0 (by decide) (hts _ q386) (fun _ h9 => h9) rfl dX1_repay_38 ?_
  refine g_cr (va_runV (As := []) (rest := [.ref (ad 3 j)]) ⟨hx, hb, hml, hown, hts⟩ (met_X6_parts l Γ ad N o Z j hj) (cwV 0 hts (lw_V q506 q499 q500 q41 q501) rfl rfl rfl (by decide +kernel) ⟨Nat.le_of_ble_eq_true rfl, Nat.le_of_ble_eq_true rfl⟩) (SF_V hK hS hF (recvF hK hF 4 j (sh_4 hj _) rfl)) rfl rfl hl.1 rfl (lv_room (Nat.le_of_ble_eq_true rfl)) dX1_repay_41 ⟨Nat.le_of_ble_eq_true rfl, Nat.le_of_ble_eq_true rfl⟩) hS (fun H locs hF hS => ?_)
  refine r_alen (v := nI (N (10 + j))) hx hb hK hF 5 j 0 rfl (sh_5 hj _) rfl dX1_repay_44 ?_
  refine s_put (ci := 3) (T := TX5) (NC := 2) hx hb hts in_X5 tyX5 tyX5_ok nmX5 hown hK hF hS 3 j 0 (sh_3 hj _) rfl 1 (by decide) (sh_3 hj _) (hts _ q388) (fun _ h9 => h9) rfl (by decide +kernel) (Nat.le_of_ble_eq_true rfl) dX1_repay_45 (fun H locs hF hS => ?_)
  refine lv_iload_n hx hb dX1_repay_48 rfl (lv_at hl 0 rfl) ?_
  exact g_iret hx hb hr hlocks hF hS dX1_repay_49
set_option maxHeartbeats 4000000 in
set_option maxRecDepth 100000 in
/-- deposit, path A -/
theorem cc_deposit_A (l : Launch) (hst : l.stackTraces = false) (Γ : Gm) (ad : Nat → Nat → Nat) (N : Nat → Nat) (o : Nat → Int64) (Z : Nat → Nat → Nat → Int32) (b c0 : Int32) (h : ¬ (0 ≤ b ∧ b < 3)) : vx_Met l yX1_deposit (ws_ yX1_deposit cX1_deposit 5 (some .int)) ({ frames := 7, cells := 1, slots := 6, locals := 102 }) (va_Pc [.ref (ad 0 0), .int b, .int c0] (SF Γ ad (shp Γ ad N o Z))) (gNi Γ) (gX Γ (fun E => E = xOB) ad (shp Γ ad N o Z)) 1 6 (AA Γ) := by
  refine vx_ofW (cc := cX1_deposit) (maxL := 5) (ret := (some .int)) (by decide) rfl ?_
  intro p e s m args below meth c s₁ B hml hno hv
  obtain ⟨rfl, hK, hF⟩ := hv
  have hx := B.exec
  have hb := B.bytes
  have hr := B.returns
  have hts := atoms_spec (ws := ws_ yX1_deposit cX1_deposit 5 (some .int)) B.pre
  have hts : ∀ w ∈ lw_all, w.before _ s = true := fun w h => hts w (List.mem_cons_of_mem _ h)
  have hown : s.vm.findClass RX1 = some m.cls := findClass_of_methodNamed B.named
  have hlocks := B.notSynchronized
  have hS : va_S (AA Γ) s.heap s.heap [] := va_S.rf
  have hl := lv_entry ([.ref (ad 0 0), .int b, .int c0]) (n := 5) (Nat.le_of_ble_eq_true rfl)
  rw [lg_entry_eq]
  generalize (lg_sl ([.ref (ad 0 0), .int b, .int c0]) ++ List.replicate (5 - (lg_sl ([.ref (ad 0 0), .int b, .int c0])).length) Slot.unset).toArray = ls at hl ⊢
  have hl : lv_has ls 5 [(0, .ref (ad 0 0)), (1, .int b), (2, .int c0)] := hl
  refine lv_iload_n hx hb dX1_deposit_0 rfl (lv_at hl 1 rfl) ?_
  refine lv_iconst (v := 3) hx hb dX1_deposit_1 (by decide) ?_
  exact gx_callv (vx_runS (As := [.int b, .int 3]) (rest := []) ⟨hx, hb, hml, hown, hts⟩ (xet_X1_exists l hst Γ ad (shp Γ ad N o Z) b 3 h) (va_cwS 2 hts (lw_S q270 q271 q23 q272) rfl rfl rfl (by decide +kernel) ⟨Nat.le_of_ble_eq_true rfl, Nat.le_of_ble_eq_true rfl⟩) (SF_S hK hS hF) rfl rfl hl.1 rfl (lv_room (Nat.le_of_ble_eq_true rfl)) dX1_deposit_2 ⟨Nat.le_of_ble_eq_true rfl, Nat.le_of_ble_eq_true rfl⟩) hS (gx_pass hno hlocks (Nat.le_of_ble_eq_true rfl) (Nat.le_of_ble_eq_true rfl) (fun _ h => h)) (fun _ _ _ h => h.elim)
set_option maxHeartbeats 4000000 in
set_option maxRecDepth 100000 in
/-- deposit, path B -/
theorem cc_deposit_B (l : Launch) (hst : l.stackTraces = false) (Γ : Gm) (ad : Nat → Nat → Nat) (N : Nat → Nat) (o : Nat → Int64) (Z : Nat → Nat → Nat → Int32) (b : Nat) (hb3 : b < 3) (c0 : Int32) (h : ¬ ((-10000000) ≤ c0 ∧ c0 ≤ 10000000)) : vx_Met l yX1_deposit (ws_ yX1_deposit cX1_deposit 5 (some .int)) ({ frames := 7, cells := 1, slots := 6, locals := 101 }) (va_Pc [.ref (ad 0 0), .int (nI b), .int c0] (SF Γ ad (shp Γ ad N o Z))) (gNi Γ) (gX Γ (fun E => E = xIA) ad (shp Γ ad N o Z)) 1 6 (AA Γ) := by
  refine vx_ofW (cc := cX1_deposit) (maxL := 5) (ret := (some .int)) (by decide) rfl ?_
  intro p e s m args below meth c s₁ B hml hno hv
  obtain ⟨rfl, hK, hF⟩ := hv
  have hx := B.exec
  have hb := B.bytes
  have hr := B.returns
  have hts := atoms_spec (ws := ws_ yX1_deposit cX1_deposit 5 (some .int)) B.pre
  have hts : ∀ w ∈ lw_all, w.before _ s = true := fun w h => hts w (List.mem_cons_of_mem _ h)
  have hown : s.vm.findClass RX1 = some m.cls := findClass_of_methodNamed B.named
  have hlocks := B.notSynchronized
  have hS : va_S (AA Γ) s.heap s.heap [] := va_S.rf
  have hl := lv_entry ([.ref (ad 0 0), .int (nI b), .int c0]) (n := 5) (Nat.le_of_ble_eq_true rfl)
  rw [lg_entry_eq]
  generalize (lg_sl ([.ref (ad 0 0), .int (nI b), .int c0]) ++ List.replicate (5 - (lg_sl ([.ref (ad 0 0), .int (nI b), .int c0])).length) Slot.unset).toArray = ls at hl ⊢
  have hl : lv_has ls 5 [(0, .ref (ad 0 0)), (1, .int (nI b)), (2, .int c0)] := hl
  refine lv_iload_n hx hb dX1_deposit_0 rfl (lv_at hl 1 rfl) ?_
  refine lv_iconst (v := 3) hx hb dX1_deposit_1 (by decide) ?_
  refine g_cv (va_runS (As := [.int (nI b), .int 3]) (rest := []) ⟨hx, hb, hml, hown, hts⟩ (met_X1_exists l Γ ad (shp Γ ad N o Z) (nI b) 3 (exI (n := 3) hb3 (by decide))) (va_cwS 2 hts (lw_S q270 q271 q23 q272) rfl rfl rfl (by decide +kernel) ⟨Nat.le_of_ble_eq_true rfl, Nat.le_of_ble_eq_true rfl⟩) (SF_S hK hS hF) rfl rfl hl.1 rfl (lv_room (Nat.le_of_ble_eq_true rfl)) dX1_deposit_2 ⟨Nat.le_of_ble_eq_true rfl, Nat.le_of_ble_eq_true rfl⟩) hS (fun H locs hF hS => ?_)
  refine lv_iload_n hx hb dX1_deposit_5 rfl (lv_at hl 2 rfl) ?_
  refine lv_ldc (v := (-10000000)) hx hb hown (hts _ q514) dX1_deposit_6 ?_
  refine lv_ldc (v := 10000000) hx hb hown (hts _ q330) dX1_deposit_8 ?_
  refine g_ci (va_runS (As := [.int c0, .int (-10000000), .int 10000000]) (rest := []) ⟨hx, hb, hml, hown, hts⟩ (Met.val (met_X1_isIn l Γ ad (shp Γ ad N o Z) c0 (-10000000) 10000000) (bI0 h)) (va_cwS 3 hts (lw_S q294 q295 q23 q296) rfl rfl rfl (by decide +kernel) ⟨Nat.le_of_ble_eq_true rfl, Nat.le_of_ble_eq_true rfl⟩) (SF_S hK hS hF) rfl rfl hl.1 rfl (lv_room (Nat.le_of_ble_eq_true rfl)) dX1_deposit_10 ⟨Nat.le_of_ble_eq_true rfl, Nat.le_of_ble_eq_true rfl⟩) hS (fun H locs hF hS => ?_)
  exact gx_callv (vx_runS (As := [.int 0]) (rest := []) ⟨hx, hb, hml, hown, hts⟩ (xet_X1_want l hst Γ ad (shp Γ ad N o Z)) (va_cwS 1 hts (lw_S q297 q298 q23 q299) rfl rfl rfl (by decide +kernel) ⟨Nat.le_of_ble_eq_true rfl, Nat.le_of_ble_eq_true rfl⟩) (SF_S hK hS hF) rfl rfl hl.1 rfl (lv_room (Nat.le_of_ble_eq_true rfl)) dX1_deposit_13 ⟨Nat.le_of_ble_eq_true rfl, Nat.le_of_ble_eq_true rfl⟩) hS (gx_pass hno hlocks (Nat.le_of_ble_eq_true rfl) (Nat.le_of_ble_eq_true rfl) (fun _ h => h)) (fun _ _ _ h => h.elim)
set_option maxHeartbeats 4000000 in
set_option maxRecDepth 100000 in
/-- deposit, path C -/
theorem cc_deposit_C (l : Launch) (hst : l.stackTraces = false) (Γ : Gm) (ad : Nat → Nat → Nat) (N : Nat → Nat) (o : Nat → Int64) (Z : Nat → Nat → Nat → Int32) (b : Nat) (hb3 : b < 3) (c0 : Int32) (h1 : (-10000000) ≤ c0 ∧ c0 ≤ 10000000) (h : ¬ (0 ≤ Z 7 b 0 + c0 ∧ Z 7 b 0 + c0 ≤ 10000000)) : vx_Met l yX1_deposit (ws_ yX1_deposit cX1_deposit 5 (some .int)) ({ frames := 7, cells := 1, slots := 6, locals := 101 }) (va_Pc [.ref (ad 0 0), .int (nI b), .int c0] (SF Γ ad (shp Γ ad N o Z))) (gNi Γ) (gX Γ (fun E => E = xIS) ad (shp Γ ad N o Z)) 1 6 (AA Γ) := by
  refine vx_ofW (cc := cX1_deposit) (maxL := 5) (ret := (some .int)) (by decide) rfl ?_
  intro p e s m args below meth c s₁ B hml hno hv
  obtain ⟨rfl, hK, hF⟩ := hv
  have hx := B.exec
  have hb := B.bytes
  have hr := B.returns
  have hts := atoms_spec (ws := ws_ yX1_deposit cX1_deposit 5 (some .int)) B.pre
  have hts : ∀ w ∈ lw_all, w.before _ s = true := fun w h => hts w (List.mem_cons_of_mem _ h)
  have hown : s.vm.findClass RX1 = some m.cls := findClass_of_methodNamed B.named
  have hlocks := B.notSynchronized
  have hS : va_S (AA Γ) s.heap s.heap [] := va_S.rf
  have hl := lv_entry ([.ref (ad 0 0), .int (nI b), .int c0]) (n := 5) (Nat.le_of_ble_eq_true rfl)
  rw [lg_entry_eq]
  generalize (lg_sl ([.ref (ad 0 0), .int (nI b), .int c0]) ++ List.replicate (5 - (lg_sl ([.ref (ad 0 0), .int (nI b), .int c0])).length) Slot.unset).toArray = ls at hl ⊢
  have hl : lv_has ls 5 [(0, .ref (ad 0 0)), (1, .int (nI b)), (2, .int c0)] := hl
  refine lv_iload_n hx hb dX1_deposit_0 rfl (lv_at hl 1 rfl) ?_
  refine lv_iconst (v := 3) hx hb dX1_deposit_1 (by decide) ?_
  refine g_cv (va_runS (As := [.int (nI b), .int 3]) (rest := []) ⟨hx, hb, hml, hown, hts⟩ (met_X1_exists l Γ ad (shp Γ ad N o Z) (nI b) 3 (exI (n := 3) hb3 (by decide))) (va_cwS 2 hts (lw_S q270 q271 q23 q272) rfl rfl rfl (by decide +kernel) ⟨Nat.le_of_ble_eq_true rfl, Nat.le_of_ble_eq_true rfl⟩) (SF_S hK hS hF) rfl rfl hl.1 rfl (lv_room (Nat.le_of_ble_eq_true rfl)) dX1_deposit_2 ⟨Nat.le_of_ble_eq_true rfl, Nat.le_of_ble_eq_true rfl⟩) hS (fun H locs hF hS => ?_)
  refine lv_iload_n hx hb dX1_deposit_5 rfl (lv_at hl 2 rfl) ?_
  refine lv_ldc (v := (-10000000)) hx hb hown (hts _ q514) dX1_deposit_6 ?_
  refine lv_ldc (v := 10000000) hx hb hown (hts _ q330) dX1_deposit_8 ?_
  refine g_ci (va_runS (As := [.int c0, .int (-10000000), .int 10000000]) (rest := []) ⟨hx, hb, hml, hown, hts⟩ (Met.val (met_X1_isIn l Γ ad (shp Γ ad N o Z) c0 (-10000000) 10000000) (bI1 h1)) (va_cwS 3 hts (lw_S q294 q295 q23 q296) rfl rfl rfl (by decide +kernel) ⟨Nat.le_of_ble_eq_true rfl, Nat.le_of_ble_eq_true rfl⟩) (SF_S hK hS hF) rfl rfl hl.1 rfl (lv_room (Nat.le_of_ble_eq_true rfl)) dX1_deposit_10 ⟨Nat.le_of_ble_eq_true rfl, Nat.le_of_ble_eq_true rfl⟩) hS (fun H locs hF hS => ?_)
  refine g_cv (va_runS (As := [.int 1]) (rest := []) ⟨hx, hb, hml, hown, hts⟩ (met_X1_want l Γ ad (shp Γ ad N o Z)) (va_cwS 1 hts (lw_S q297 q298 q23 q299) rfl rfl rfl (by decide +kernel) ⟨Nat.le_of_ble_eq_true rfl, Nat.le_of_ble_eq_true rfl⟩) (SF_S hK hS hF) rfl rfl hl.1 rfl (lv_room (Nat.le_of_ble_eq_true rfl)) dX1_deposit_13 ⟨Nat.le_of_ble_eq_true rfl, Nat.le_of_ble_eq_true rfl⟩) hS (fun H locs hF hS => ?_)
  refine lv_aload_n hx hb dX1_deposit_16 rfl (lv_at hl 0 rfl) ?_
  refine r_get (ci := 0) (v := .ref (ad 0 8)) (T := TX1) (N := 14) hx hb hts in_X1 hown hK hF 0 0 rfl rfl 3 (by decide) (hts _ q119) (fun _ h9 => h9) rfl dX1_deposit_17 ?_
  refine lv_iload_n hx hb dX1_deposit_20 rfl (lv_at hl 1 rfl) ?_
  refine r_aald (v := .ref (ad 7 b)) hx hb hK hF 0 8 4 rfl rfl rfl b rfl (by omega) (by omega) rfl dX1_deposit_21 ?_
  refine g_ci (va_runV (As := []) (rest := []) ⟨hx, hb, hml, hown, hts⟩ (met_X3_balance l Γ ad N o Z b hb3) (cwV 0 hts (lw_V q515 q516 q517 q30 q518) rfl rfl rfl (by decide +kernel) ⟨Nat.le_of_ble_eq_true rfl, Nat.le_of_ble_eq_true rfl⟩) (SF_V hK hS hF (recvF hK hF 7 b (sh_7 hb3 _) rfl)) rfl rfl hl.1 rfl (lv_room (Nat.le_of_ble_eq_true rfl)) dX1_deposit_22 ⟨Nat.le_of_ble_eq_true rfl, Nat.le_of_ble_eq_true rfl⟩) hS (fun H locs hF hS => ?_)
  refine lv_iload_n hx hb dX1_deposit_25 rfl (lv_at hl 2 rfl) ?_
  refine lv_iadd hx hb dX1_deposit_26 ?_
  refine lv_istore_n (lv' := [(3, .int ((Z 7 b 0) + c0)), (0, .ref (ad 0 0)), (1, .int (nI b)), (2, .int c0)]) hx hb dX1_deposit_27 rfl hl (by decide) rfl (fun ls hl => ?_)
  refine lv_iload_n hx hb dX1_deposit_28 rfl (lv_at hl 0 rfl) ?_
  refine lv_iconst (v := 0) hx hb dX1_deposit_29 (by decide) ?_
  refine lv_ldc (v := 10000000) hx hb hown (hts _ q330) dX1_deposit_30 ?_
  refine g_ci (va_runS (As := [.int ((Z 7 b 0) + c0), .int 0, .int 10000000]) (rest := []) ⟨hx, hb, hml, hown, hts⟩ (Met.val (met_X1_isIn l Γ ad (shp Γ ad N o Z) ((Z 7 b 0) + c0) 0 10000000) (bI0 h)) (va_cwS 3 hts (lw_S q294 q295 q23 q296) rfl rfl rfl (by decide +kernel) ⟨Nat.le_of_ble_eq_true rfl, Nat.le_of_ble_eq_true rfl⟩) (SF_S hK hS hF) rfl rfl hl.1 rfl (lv_room (Nat.le_of_ble_eq_true rfl)) dX1_deposit_32 ⟨Nat.le_of_ble_eq_true rfl, Nat.le_of_ble_eq_true rfl⟩) hS (fun H locs hF hS => ?_)
  exact gx_callv (vx_runS (As := [.int 0]) (rest := []) ⟨hx, hb, hml, hown, hts⟩ (xet_X1_allow l hst Γ ad (shp Γ ad N o Z)) (va_cwS 1 hts (lw_S q331 q332 q23 q333) rfl rfl rfl (by decide +kernel) ⟨Nat.le_of_ble_eq_true rfl, Nat.le_of_ble_eq_true rfl⟩) (SF_S hK hS hF) rfl rfl hl.1 rfl (lv_room (Nat.le_of_ble_eq_true rfl)) dX1_deposit_35 ⟨Nat.le_of_ble_eq_true rfl, Nat.le_of_ble_eq_true rfl⟩) hS (gx_pass hno hlocks (Nat.le_of_ble_eq_true rfl) (Nat.le_of_ble_eq_true rfl) (fun _ h => h)) (fun _ _ _ h => h.elim)
set_option maxHeartbeats 4000000 in
set_option maxRecDepth 100000 in
/-- month, path B -/
theorem cc_month_B (l : Launch) (Γ : Gm) (ad : Nat → Nat → Nat) (N : Nat → Nat) (o : Nat → Int64) (Z : Nat → Nat → Nat → Int32)  : Met l yX1_month (ws_ yX1_month cX1_month 1 (some .int)) ({ frames := 0, cells := 0, slots := 0, locals := 0 }) (va_Pc [.ref (ad 0 0)] (SF Γ ad (shp Γ ad N o Z))) (gEi Γ (Z 0 0 3) ad (shp Γ ad N o Z)) 0 0 (AA Γ) := by
  refine Met.ofW (cc := cX1_month) (maxL := 1) (ret := (some .int)) (by decide) rfl ?_
  intro p e s m args below meth c s₁ B hml hv
  obtain ⟨rfl, hK, hF⟩ := hv
  have hx := B.exec
  have hb := B.bytes
  have hr := B.returns
  have hts := atoms_spec (ws := ws_ yX1_month cX1_month 1 (some .int)) B.pre
  have hts : ∀ w ∈ lw_all, w.before _ s = true := fun w h => hts w (List.mem_cons_of_mem _ h)
  have hown : s.vm.findClass RX1 = some m.cls := findClass_of_methodNamed B.named
  have hlocks := B.notSynchronized
  have hS : va_S (AA Γ) s.heap s.heap [] := va_S.rf
  have hl := lv_entry ([.ref (ad 0 0)]) (n := 1) (Nat.le_of_ble_eq_true rfl)
  rw [lg_entry_eq]
  generalize (lg_sl ([.ref (ad 0 0)]) ++ List.replicate (1 - (lg_sl ([.ref (ad 0 0)])).length) Slot.unset).toArray = ls at hl ⊢
  have hl : lv_has ls 1 [(0, .ref (ad 0 0))] := hl
  refine lv_aload_n hx hb dX1_month_0 rfl (lv_at hl 0 rfl) ?_
  refine r_get (ci := 0) (v := .int (Z 0 0 3)) (T := TX1) (N := 14) hx hb hts in_X1 hown hK hF 0 0 rfl rfl 13 (by decide) (hts _ q129) (fun _ h9 => h9) rfl dX1_month_1 ?_
  exact g_iret hx hb hr hlocks hF hS dX1_month_4
set_option maxHeartbeats 4000000 in
set_option maxRecDepth 100000 in
/-- loans, path B -/
theorem cc_loans_B (l : Launch) (Γ : Gm) (ad : Nat → Nat → Nat) (N : Nat → Nat) (o : Nat → Int64) (Z : Nat → Nat → Nat → Int32)  : Met l yX1_loans (ws_ yX1_loans cX1_loans 1 (some .int)) ({ frames := 1, cells := 0, slots := 0, locals := 20 }) (va_Pc [.ref (ad 0 0)] (SF Γ ad (shp Γ ad N o Z))) (gEi Γ (nI (N 0)) ad (shp Γ ad N o Z)) 0 0 (AA Γ) := by
  refine Met.ofW (cc := cX1_loans) (maxL := 1) (ret := (some .int)) (by decide) rfl ?_
  intro p e s m args below meth c s₁ B hml hv
  obtain ⟨rfl, hK, hF⟩ := hv
  have hx := B.exec
  have hb := B.bytes
  have hr := B.returns
  have hts := atoms_spec (ws := ws_ yX1_loans cX1_loans 1 (some .int)) B.pre
  have hts : ∀ w ∈ lw_all, w.before _ s = true := fun w h => hts w (List.mem_cons_of_mem _ h)
  have hown : s.vm.findClass RX1 = some m.cls := findClass_of_methodNamed B.named
  have hlocks := B.notSynchronized
  have hS : va_S (AA Γ) s.heap s.heap [] := va_S.rf
  have hl := lv_entry ([.ref (ad 0 0)]) (n := 1) (Nat.le_of_ble_eq_true rfl)
  rw [lg_entry_eq]
  generalize (lg_sl ([.ref (ad 0 0)]) ++ List.replicate (1 - (lg_sl ([.ref (ad 0 0)])).length) Slot.unset).toArray = ls at hl ⊢
  have hl : lv_has ls 1 [(0, .ref (ad 0 0))] := hl
  refine lv_aload_n hx hb dX1_loans_0 rfl (lv_at hl 0 rfl) ?_
  refine r_get (ci := 0) (v := .ref (ad 0 6)) (T := TX1) (N := 14) hx hb hts in_X1 hown hK hF 0 0 rfl rfl 2 (by decide) (hts _ q118) (fun _ h9 => h9) rfl dX1_loans_1 ?_
  refine g_cFi (va_runF (As := []) (rest := []) (hK.1.1 1 _ rfl).2 ⟨hx, hb, hml, hown, hts⟩ (met_J2_size l Γ ad (shp Γ ad N o Z) (z := nI (N 0)) rfl) (va_cwF 0 hts (lw_F q168 q172 q174 q28 q176) rfl rfl rfl (hK.face 0 rfl) (by decide +kernel) ⟨Nat.le_of_ble_eq_true rfl, Nat.le_of_ble_eq_true rfl⟩) (SF_V hK hS hF (recvF hK hF 0 6 rfl rfl)) rfl rfl hl.1 rfl (lv_room (Nat.le_of_ble_eq_true rfl)) dX1_loans_4 ⟨Nat.le_of_ble_eq_true rfl, Nat.le_of_ble_eq_true rfl⟩) hS (fun H locs hF hS => ?_)
  exact g_iret hx hb hr hlocks hF hS dX1_loans_9
set_option maxHeartbeats 4000000 in
set_option maxRecDepth 100000 in
/-- left, path A -/
theorem cc_left_A (l : Launch) (hst : l.stackTraces = false) (Γ : Gm) (ad : Nat → Nat → Nat) (N : Nat → Nat) (o : Nat → Int64) (Z : Nat → Nat → Nat → Int32) (l0 : Int32) (h : ¬ (0 ≤ l0 ∧ l0 < nI (N 0))) : vx_Met l yX1_left (ws_ yX1_left cX1_left 2 (some .int)) ({ frames := 8, cells := 1, slots := 6, locals := 123 }) (va_Pc [.ref (ad 0 0), .int l0] (SF Γ ad (shp Γ ad N o Z))) (gNi Γ) (gX Γ (fun E => E = xOB) ad (shp Γ ad N o Z)) 1 6 (AA Γ) := by
  refine vx_ofW (cc := cX1_left) (maxL := 2) (ret := (some .int)) (by decide) rfl ?_
  intro p e s m args below meth c s₁ B hml hno hv
  obtain ⟨rfl, hK, hF⟩ := hv
  have hx := B.exec
  have hb := B.bytes
  have hr := B.returns
  have hts := atoms_spec (ws := ws_ yX1_left cX1_left 2 (some .int)) B.pre
  have hts : ∀ w ∈ lw_all, w.before _ s = true := fun w h => hts w (List.mem_cons_of_mem _ h)
  have hown : s.vm.findClass RX1 = some m.cls := findClass_of_methodNamed B.named
  have hlocks := B.notSynchronized
  have hS : va_S (AA Γ) s.heap s.heap [] := va_S.rf
  have hl := lv_entry ([.ref (ad 0 0), .int l0]) (n := 2) (Nat.le_of_ble_eq_true rfl)
  rw [lg_entry_eq]
  generalize (lg_sl ([.ref (ad 0 0), .int l0]) ++ List.replicate (2 - (lg_sl ([.ref (ad 0 0), .int l0])).length) Slot.unset).toArray = ls at hl ⊢
  have hl : lv_has ls 2 [(0, .ref (ad 0 0)), (1, .int l0)] := hl
  refine lv_aload_n hx hb dX1_left_0 rfl (lv_at hl 0 rfl) ?_
  refine lv_iload_n hx hb dX1_left_1 rfl (lv_at hl 1 rfl) ?_
  exact gx_callr (vx_runV (As := [.int l0]) (rest := []) ⟨hx, hb, hml, hown, hts⟩ (cc_account_A l hst Γ ad N o Z l0 h) (cwV 1 hts (lw_V q467 q469 qs5 q23 q470) rfl rfl rfl (by decide +kernel) ⟨Nat.le_of_ble_eq_true rfl, Nat.le_of_ble_eq_true rfl⟩) (SF_V hK hS hF (recvF hK hF 0 0 rfl rfl)) rfl rfl hl.1 rfl (lv_room (Nat.le_of_ble_eq_true rfl)) dX1_left_2 ⟨Nat.le_of_ble_eq_true rfl, Nat.le_of_ble_eq_true rfl⟩) hS (gx_pass hno hlocks (Nat.le_of_ble_eq_true rfl) (Nat.le_of_ble_eq_true rfl) (fun _ h => h)) (fun _ _ _ h => h.elim)
set_option maxHeartbeats 4000000 in
set_option maxRecDepth 100000 in
/-- left, path B -/
theorem cc_left_B (l : Launch) (Γ : Gm) (ad : Nat → Nat → Nat) (N : Nat → Nat) (o : Nat → Int64) (Z : Nat → Nat → Nat → Int32) (hN : nOk N) (j : Nat) (hj : j < N 0) (hlo : cLo Z N j) : Met l yX1_left (ws_ yX1_left cX1_left 2 (some .int)) ({ frames := 4, cells := 0, slots := 0, locals := 85 }) (va_Pc [.ref (ad 0 0), .int (nI j)] (SF Γ ad (shp Γ ad N o Z))) (gEi Γ (cLeft Z N j) ad (shp Γ ad N o Z)) 0 0 (AA Γ) := by
  refine Met.ofW (cc := cX1_left) (maxL := 2) (ret := (some .int)) (by decide) rfl ?_
  intro p e s m args below meth c s₁ B hml hv
  obtain ⟨rfl, hK, hF⟩ := hv
  have hx := B.exec
  have hb := B.bytes
  have hr := B.returns
  have hts := atoms_spec (ws := ws_ yX1_left cX1_left 2 (some .int)) B.pre
  have hts : ∀ w ∈ lw_all, w.before _ s = true := fun w h => hts w (List.mem_cons_of_mem _ h)
  have hown : s.vm.findClass RX1 = some m.cls := findClass_of_methodNamed B.named
  have hlocks := B.notSynchronized
  have hS : va_S (AA Γ) s.heap s.heap [] := va_S.rf
  have hl := lv_entry ([.ref (ad 0 0), .int (nI j)]) (n := 2) (Nat.le_of_ble_eq_true rfl)
  rw [lg_entry_eq]
  generalize (lg_sl ([.ref (ad 0 0), .int (nI j)]) ++ List.replicate (2 - (lg_sl ([.ref (ad 0 0), .int (nI j)])).length) Slot.unset).toArray = ls at hl ⊢
  have hl : lv_has ls 2 [(0, .ref (ad 0 0)), (1, .int (nI j))] := hl
  refine lv_aload_n hx hb dX1_left_0 rfl (lv_at hl 0 rfl) ?_
  refine lv_iload_n hx hb dX1_left_1 rfl (lv_at hl 1 rfl) ?_
  refine g_cr (va_runV (As := [.int (nI j)]) (rest := []) ⟨hx, hb, hml, hown, hts⟩ (cc_account_B l Γ ad N o Z hN j hj) (cwV 1 hts (lw_V q467 q469 qs5 q23 q470) rfl rfl rfl (by decide +kernel) ⟨Nat.le_of_ble_eq_true rfl, Nat.le_of_ble_eq_true rfl⟩) (SF_V hK hS hF (recvF hK hF 0 0 rfl rfl)) rfl rfl hl.1 rfl (lv_room (Nat.le_of_ble_eq_true rfl)) dX1_left_2 ⟨Nat.le_of_ble_eq_true rfl, Nat.le_of_ble_eq_true rfl⟩) hS (fun H locs hF hS => ?_)
  refine g_ci (va_runV (As := []) (rest := []) ⟨hx, hb, hml, hown, hts⟩ (met_X5_left l Γ ad N o Z j hj hlo) (cwV 0 hts (lw_V q502 q503 q504 q40 q505) rfl rfl rfl (by decide +kernel) ⟨Nat.le_of_ble_eq_true rfl, Nat.le_of_ble_eq_true rfl⟩) (SF_V hK hS hF (recvF hK hF 3 j (sh_3 hj _) rfl)) rfl rfl hl.1 rfl (lv_room (Nat.le_of_ble_eq_true rfl)) dX1_left_5 ⟨Nat.le_of_ble_eq_true rfl, Nat.le_of_ble_eq_true rfl⟩) hS (fun H locs hF hS => ?_)
  exact g_iret hx hb hr hlocks hF hS dX1_left_8
set_option maxHeartbeats 4000000 in
set_option maxRecDepth 100000 in
/-- bears, path A -/
theorem cc_bears_A (l : Launch) (hst : l.stackTraces = false) (Γ : Gm) (ad : Nat → Nat → Nat) (N : Nat → Nat) (o : Nat → Int64) (Z : Nat → Nat → Nat → Int32) (l0 x0 : Int32) (h : ¬ (0 ≤ l0 ∧ l0 < nI (N 0))) : vx_Met l yX1_bears (ws_ yX1_bears cX1_bears 4 (some .int)) ({ frames := 8, cells := 1, slots := 6, locals := 123 }) (va_Pc [.ref (ad 0 0), .int l0, .int x0] (SF Γ ad (shp Γ ad N o Z))) (gNi Γ) (gX Γ (fun E => E = xOB) ad (shp Γ ad N o Z)) 1 6 (AA Γ) := by
  refine vx_ofW (cc := cX1_bears) (maxL := 4) (ret := (some .int)) (by decide) rfl ?_
  intro p e s m args below meth c s₁ B hml hno hv
  obtain ⟨rfl, hK, hF⟩ := hv
  have hx := B.exec
  have hb := B.bytes
  have hr := B.returns
  have hts := atoms_spec (ws := ws_ yX1_bears cX1_bears 4 (some .int)) B.pre
  have hts : ∀ w ∈ lw_all, w.before _ s = true := fun w h => hts w (List.mem_cons_of_mem _ h)
  have hown : s.vm.findClass RX1 = some m.cls := findClass_of_methodNamed B.named
  have hlocks := B.notSynchronized
  have hS : va_S (AA Γ) s.heap s.heap [] := va_S.rf
  have hl := lv_entry ([.ref (ad 0 0), .int l0, .int x0]) (n := 4) (Nat.le_of_ble_eq_true rfl)
  rw [lg_entry_eq]
  generalize (lg_sl ([.ref (ad 0 0), .int l0, .int x0]) ++ List.replicate (4 - (lg_sl ([.ref (ad 0 0), .int l0, .int x0])).length) Slot.unset).toArray = ls at hl ⊢
  have hl : lv_has ls 4 [(0, .ref (ad 0 0)), (1, .int l0), (2, .int x0)] := hl
  refine lv_aload_n hx hb dX1_bears_0 rfl (lv_at hl 0 rfl) ?_
  refine lv_iload_n hx hb dX1_bears_1 rfl (lv_at hl 1 rfl) ?_
  exact gx_callr (vx_runV (As := [.int l0]) (rest := []) ⟨hx, hb, hml, hown, hts⟩ (cc_account_A l hst Γ ad N o Z l0 h) (cwV 1 hts (lw_V q467 q469 qs5 q23 q470) rfl rfl rfl (by decide +kernel) ⟨Nat.le_of_ble_eq_true rfl, Nat.le_of_ble_eq_true rfl⟩) (SF_V hK hS hF (recvF hK hF 0 0 rfl rfl)) rfl rfl hl.1 rfl (lv_room (Nat.le_of_ble_eq_true rfl)) dX1_bears_2 ⟨Nat.le_of_ble_eq_true rfl, Nat.le_of_ble_eq_true rfl⟩) hS (gx_pass hno hlocks (Nat.le_of_ble_eq_true rfl) (Nat.le_of_ble_eq_true rfl) (fun _ h => h)) (fun _ _ _ h => h.elim)
set_option maxHeartbeats 4000000 in
set_option maxRecDepth 100000 in
/-- bears, path B -/
theorem cc_bears_B (l : Launch) (hst : l.stackTraces = false) (Γ : Gm) (ad : Nat → Nat → Nat) (N : Nat → Nat) (o : Nat → Int64) (Z : Nat → Nat → Nat → Int32) (hN : nOk N) (j : Nat) (hj : j < N 0) (x0 : Int32) (h : ¬ (0 ≤ x0 ∧ x0 ≤ 3)) : vx_Met l yX1_bears (ws_ yX1_bears cX1_bears 4 (some .int)) ({ frames := 7, cells := 1, slots := 6, locals := 101 }) (va_Pc [.ref (ad 0 0), .int (nI j), .int x0] (SF Γ ad (shp Γ ad N o Z))) (gNi Γ) (gX Γ (fun E => E = xIA) ad (shp Γ ad N o Z)) 1 6 (AA Γ) := by
  refine vx_ofW (cc := cX1_bears) (maxL := 4) (ret := (some .int)) (by decide) rfl ?_
  intro p e s m args below meth c s₁ B hml hno hv
  obtain ⟨rfl, hK, hF⟩ := hv
  have hx := B.exec
  have hb := B.bytes
  have hr := B.returns
  have hts := atoms_spec (ws := ws_ yX1_bears cX1_bears 4 (some .int)) B.pre
  have hts : ∀ w ∈ lw_all, w.before _ s = true := fun w h => hts w (List.mem_cons_of_mem _ h)
  have hown : s.vm.findClass RX1 = some m.cls := findClass_of_methodNamed B.named
  have hlocks := B.notSynchronized
  have hS : va_S (AA Γ) s.heap s.heap [] := va_S.rf
  have hl := lv_entry ([.ref (ad 0 0), .int (nI j), .int x0]) (n := 4) (Nat.le_of_ble_eq_true rfl)
  rw [lg_entry_eq]
  generalize (lg_sl ([.ref (ad 0 0), .int (nI j), .int x0]) ++ List.replicate (4 - (lg_sl ([.ref (ad 0 0), .int (nI j), .int x0])).length) Slot.unset).toArray = ls at hl ⊢
  have hl : lv_has ls 4 [(0, .ref (ad 0 0)), (1, .int (nI j)), (2, .int x0)] := hl
  refine lv_aload_n hx hb dX1_bears_0 rfl (lv_at hl 0 rfl) ?_
  refine lv_iload_n hx hb dX1_bears_1 rfl (lv_at hl 1 rfl) ?_
  refine g_cr (va_runV (As := [.int (nI j)]) (rest := []) ⟨hx, hb, hml, hown, hts⟩ (cc_account_B l Γ ad N o Z hN j hj) (cwV 1 hts (lw_V q467 q469 qs5 q23 q470) rfl rfl rfl (by decide +kernel) ⟨Nat.le_of_ble_eq_true rfl, Nat.le_of_ble_eq_true rfl⟩) (SF_V hK hS hF (recvF hK hF 0 0 rfl rfl)) rfl rfl hl.1 rfl (lv_room (Nat.le_of_ble_eq_true rfl)) dX1_bears_2 ⟨Nat.le_of_ble_eq_true rfl, Nat.le_of_ble_eq_true rfl⟩) hS (fun H locs hF hS => ?_)
  refine lv_astore_n (lv' := [(3, .ref (ad 3 j)), (0, .ref (ad 0 0)), (1, .int (nI j)), (2, .int x0)]) hx hb dX1_bears_5 rfl hl (by decide) rfl (fun ls hl => ?_)
  refine lv_iload_n hx hb dX1_bears_6 rfl (lv_at hl 3 rfl) ?_
  refine lv_iconst (v := 0) hx hb dX1_bears_7 (by decide) ?_
  refine lv_aload_n hx hb dX1_bears_8 rfl (lv_at hl 1 rfl) ?_
  refine r_get (ci := 0) (v := .ref (ad 0 9)) (T := TX1) (N := 14) hx hb hts in_X1 hown hK hF 0 0 rfl rfl 0 (by decide) (hts _ q116) (fun _ h9 => h9) rfl dX1_bears_9 ?_
  refine r_alen (v := 4) hx hb hK hF 0 9 5 rfl rfl rfl dX1_bears_12 ?_
  refine lv_iconst (v := 1) hx hb dX1_bears_13 (by decide) ?_
  refine lv_isub hx hb dX1_bears_14 ?_
  refine lv_re rfl ?_
  refine g_ci (va_runS (As := [.int x0, .int 0, .int 3]) (rest := []) ⟨hx, hb, hml, hown, hts⟩ (Met.val (met_X1_isIn l Γ ad (shp Γ ad N o Z) x0 0 3) (bI0 h)) (va_cwS 3 hts (lw_S q294 q295 q23 q296) rfl rfl rfl (by decide +kernel) ⟨Nat.le_of_ble_eq_true rfl, Nat.le_of_ble_eq_true rfl⟩) (SF_S hK hS hF) rfl rfl hl.1 rfl (lv_room (Nat.le_of_ble_eq_true rfl)) dX1_bears_15 ⟨Nat.le_of_ble_eq_true rfl, Nat.le_of_ble_eq_true rfl⟩) hS (fun H locs hF hS => ?_)
  exact gx_callv (vx_runS (As := [.int 0]) (rest := []) ⟨hx, hb, hml, hown, hts⟩ (xet_X1_want l hst Γ ad (shp Γ ad N o Z)) (va_cwS 1 hts (lw_S q297 q298 q23 q299) rfl rfl rfl (by decide +kernel) ⟨Nat.le_of_ble_eq_true rfl, Nat.le_of_ble_eq_true rfl⟩) (SF_S hK hS hF) rfl rfl hl.1 rfl (lv_room (Nat.le_of_ble_eq_true rfl)) dX1_bears_18 ⟨Nat.le_of_ble_eq_true rfl, Nat.le_of_ble_eq_true rfl⟩) hS (gx_pass hno hlocks (Nat.le_of_ble_eq_true rfl) (Nat.le_of_ble_eq_true rfl) (fun _ h => h)) (fun _ _ _ h => h.elim)
set_option maxHeartbeats 4000000 in
set_option maxRecDepth 100000 in
/-- bears, path C0 -/
theorem cc_bears_C0 (l : Launch) (Γ : Gm) (ad : Nat → Nat → Nat) (N : Nat → Nat) (o : Nat → Int64) (Z : Nat → Nat → Nat → Int32) (hN : nOk N) (j : Nat) (hj : j < N 0) (hlo : cLo Z N j) : Met l yX1_bears (ws_ yX1_bears cX1_bears 4 (some .int)) ({ frames := 4, cells := 0, slots := 0, locals := 85 }) (va_Pc [.ref (ad 0 0), .int (nI j), .int 0] (SF Γ ad (shp Γ ad N o Z))) (gEi Γ (cInt Z N j) ad (shp Γ ad N o Z)) 0 0 (AA Γ) := by
  refine Met.ofW (cc := cX1_bears) (maxL := 4) (ret := (some .int)) (by decide) rfl ?_
  intro p e s m args below meth c s₁ B hml hv
  obtain ⟨rfl, hK, hF⟩ := hv
  have hx := B.exec
  have hb := B.bytes
  have hr := B.returns
  have hts := atoms_spec (ws := ws_ yX1_bears cX1_bears 4 (some .int)) B.pre
  have hts : ∀ w ∈ lw_all, w.before _ s = true := fun w h => hts w (List.mem_cons_of_mem _ h)
  have hown : s.vm.findClass RX1 = some m.cls := findClass_of_methodNamed B.named
  have hlocks := B.notSynchronized
  have hS : va_S (AA Γ) s.heap s.heap [] := va_S.rf
  have hl := lv_entry ([.ref (ad 0 0), .int (nI j), .int 0]) (n := 4) (Nat.le_of_ble_eq_true rfl)
  rw [lg_entry_eq]
  generalize (lg_sl ([.ref (ad 0 0), .int (nI j), .int 0]) ++ List.replicate (4 - (lg_sl ([.ref (ad 0 0), .int (nI j), .int 0])).length) Slot.unset).toArray = ls at hl ⊢
  have hl : lv_has ls 4 [(0, .ref (ad 0 0)), (1, .int (nI j)), (2, .int 0)] := hl
  refine lv_aload_n hx hb dX1_bears_0 rfl (lv_at hl 0 rfl) ?_
  refine lv_iload_n hx hb dX1_bears_1 rfl (lv_at hl 1 rfl) ?_
  refine g_cr (va_runV (As := [.int (nI j)]) (rest := []) ⟨hx, hb, hml, hown, hts⟩ (cc_account_B l Γ ad N o Z hN j hj) (cwV 1 hts (lw_V q467 q469 qs5 q23 q470) rfl rfl rfl (by decide +kernel) ⟨Nat.le_of_ble_eq_true rfl, Nat.le_of_ble_eq_true rfl⟩) (SF_V hK hS hF (recvF hK hF 0 0 rfl rfl)) rfl rfl hl.1 rfl (lv_room (Nat.le_of_ble_eq_true rfl)) dX1_bears_2 ⟨Nat.le_of_ble_eq_true rfl, Nat.le_of_ble_eq_true rfl⟩) hS (fun H locs hF hS => ?_)
  refine lv_astore_n (lv' := [(3, .ref (ad 3 j)), (0, .ref (ad 0 0)), (1, .int (nI j)), (2, .int 0)]) hx hb dX1_bears_5 rfl hl (by decide) rfl (fun ls hl => ?_)
  refine lv_iload_n hx hb dX1_bears_6 rfl (lv_at hl 3 rfl) ?_
  refine lv_iconst (v := 0) hx hb dX1_bears_7 (by decide) ?_
  refine lv_aload_n hx hb dX1_bears_8 rfl (lv_at hl 1 rfl) ?_
  refine r_get (ci := 0) (v := .ref (ad 0 9)) (T := TX1) (N := 14) hx hb hts in_X1 hown hK hF 0 0 rfl rfl 0 (by decide) (hts _ q116) (fun _ h9 => h9) rfl dX1_bears_9 ?_
  refine r_alen (v := 4) hx hb hK hF 0 9 5 rfl rfl rfl dX1_bears_12 ?_
  refine lv_iconst (v := 1) hx hb dX1_bears_13 (by decide) ?_
  refine lv_isub hx hb dX1_bears_14 ?_
  refine lv_re rfl ?_
  refine g_ci (va_runS (As := [.int 0, .int 0, .int 3]) (rest := []) ⟨hx, hb, hml, hown, hts⟩ (Met.val (met_X1_isIn l Γ ad (shp Γ ad N o Z) 0 0 3) (bI1 (by decide))) (va_cwS 3 hts (lw_S q294 q295 q23 q296) rfl rfl rfl (by decide +kernel) ⟨Nat.le_of_ble_eq_true rfl, Nat.le_of_ble_eq_true rfl⟩) (SF_S hK hS hF) rfl rfl hl.1 rfl (lv_room (Nat.le_of_ble_eq_true rfl)) dX1_bears_15 ⟨Nat.le_of_ble_eq_true rfl, Nat.le_of_ble_eq_true rfl⟩) hS (fun H locs hF hS => ?_)
  refine g_cv (va_runS (As := [.int 1]) (rest := []) ⟨hx, hb, hml, hown, hts⟩ (met_X1_want l Γ ad (shp Γ ad N o Z)) (va_cwS 1 hts (lw_S q297 q298 q23 q299) rfl rfl rfl (by decide +kernel) ⟨Nat.le_of_ble_eq_true rfl, Nat.le_of_ble_eq_true rfl⟩) (SF_S hK hS hF) rfl rfl hl.1 rfl (lv_room (Nat.le_of_ble_eq_true rfl)) dX1_bears_18 ⟨Nat.le_of_ble_eq_true rfl, Nat.le_of_ble_eq_true rfl⟩) hS (fun H locs hF hS => ?_)
  refine lv_aload_n hx hb dX1_bears_21 rfl (lv_at hl 1 rfl) ?_
  refine r_get (ci := 0) (v := .ref (ad 0 9)) (T := TX1) (N := 14) hx hb hts in_X1 hown hK hF 0 0 rfl rfl 0 (by decide) (hts _ q116) (fun _ h9 => h9) rfl dX1_bears_22 ?_
  refine lv_iload_n hx hb dX1_bears_25 rfl (lv_at hl 3 rfl) ?_
  refine r_aald (v := .ref (Γ.2.2 (10 + 0))) hx hb hK hF 0 9 5 rfl rfl rfl 0 rfl (by decide) (by omega) rfl dX1_bears_26 ?_
  refine lv_aload_n hx hb dX1_bears_27 rfl (lv_at hl 0 rfl) ?_
  refine g_ci (rw_runU (n := 1) (As := [.ref (ad 3 j)]) (rest := []) ⟨hx, hb, hml, hown, hts⟩ (met_X8_of l Γ ad N o Z j hj hlo) hts (rw_U q545 q547 q548 q549 q550) rfl rfl rfl (hK.word (args := #[]) 1 rfl) (by decide +kernel) ⟨Nat.le_of_ble_eq_true rfl, Nat.le_of_ble_eq_true rfl⟩ (SF_V hK hS hF (recvB hK hS (i := 0) (by decide))) rfl rfl hl.1 rfl (lv_room (Nat.le_of_ble_eq_true rfl)) dX1_bears_28 ⟨Nat.le_of_ble_eq_true rfl, Nat.le_of_ble_eq_true rfl⟩) hS (fun H locs hF hS => ?_)
  exact g_iret hx hb hr hlocks hF hS dX1_bears_31
set_option maxHeartbeats 4000000 in
set_option maxRecDepth 100000 in
/-- bears, path C1 -/
theorem cc_bears_C1 (l : Launch) (Γ : Gm) (ad : Nat → Nat → Nat) (N : Nat → Nat) (o : Nat → Int64) (Z : Nat → Nat → Nat → Int32) (hN : nOk N) (j : Nat) (hj : j < N 0) (hlo : cLo Z N j) : Met l yX1_bears (ws_ yX1_bears cX1_bears 4 (some .int)) ({ frames := 4, cells := 0, slots := 0, locals := 85 }) (va_Pc [.ref (ad 0 0), .int (nI j), .int 1] (SF Γ ad (shp Γ ad N o Z))) (gEi Γ (cFun Z N j) ad (shp Γ ad N o Z)) 0 0 (AA Γ) := by
  refine Met.ofW (cc := cX1_bears) (maxL := 4) (ret := (some .int)) (by decide) rfl ?_
  intro p e s m args below meth c s₁ B hml hv
  obtain ⟨rfl, hK, hF⟩ := hv
  have hx := B.exec
  have hb := B.bytes
  have hr := B.returns
  have hts := atoms_spec (ws := ws_ yX1_bears cX1_bears 4 (some .int)) B.pre
  have hts : ∀ w ∈ lw_all, w.before _ s = true := fun w h => hts w (List.mem_cons_of_mem _ h)
  have hown : s.vm.findClass RX1 = some m.cls := findClass_of_methodNamed B.named
  have hlocks := B.notSynchronized
  have hS : va_S (AA Γ) s.heap s.heap [] := va_S.rf
  have hl := lv_entry ([.ref (ad 0 0), .int (nI j), .int 1]) (n := 4) (Nat.le_of_ble_eq_true rfl)
  rw [lg_entry_eq]
  generalize (lg_sl ([.ref (ad 0 0), .int (nI j), .int 1]) ++ List.replicate (4 - (lg_sl ([.ref (ad 0 0), .int (nI j), .int 1])).length) Slot.unset).toArray = ls at hl ⊢
  have hl : lv_has ls 4 [(0, .ref (ad 0 0)), (1, .int (nI j)), (2, .int 1)] := hl
  refine lv_aload_n hx hb dX1_bears_0 rfl (lv_at hl 0 rfl) ?_
  refine lv_iload_n hx hb dX1_bears_1 rfl (lv_at hl 1 rfl) ?_
  refine g_cr (va_runV (As := [.int (nI j)]) (rest := []) ⟨hx, hb, hml, hown, hts⟩ (cc_account_B l Γ ad N o Z hN j hj) (cwV 1 hts (lw_V q467 q469 qs5 q23 q470) rfl rfl rfl (by decide +kernel) ⟨Nat.le_of_ble_eq_true rfl, Nat.le_of_ble_eq_true rfl⟩) (SF_V hK hS hF (recvF hK hF 0 0 rfl rfl)) rfl rfl hl.1 rfl (lv_room (Nat.le_of_ble_eq_true rfl)) dX1_bears_2 ⟨Nat.le_of_ble_eq_true rfl, Nat.le_of_ble_eq_true rfl⟩) hS (fun H locs hF hS => ?_)
  refine lv_astore_n (lv' := [(3, .ref (ad 3 j)), (0, .ref (ad 0 0)), (1, .int (nI j)), (2, .int 1)]) hx hb dX1_bears_5 rfl hl (by decide) rfl (fun ls hl => ?_)
  refine lv_iload_n hx hb dX1_bears_6 rfl (lv_at hl 3 rfl) ?_
  refine lv_iconst (v := 0) hx hb dX1_bears_7 (by decide) ?_
  refine lv_aload_n hx hb dX1_bears_8 rfl (lv_at hl 1 rfl) ?_
  refine r_get (ci := 0) (v := .ref (ad 0 9)) (T := TX1) (N := 14) hx hb hts in_X1 hown hK hF 0 0 rfl rfl 0 (by decide) (hts _ q116) (fun _ h9 => h9) rfl dX1_bears_9 ?_
  refine r_alen (v := 4) hx hb hK hF 0 9 5 rfl rfl rfl dX1_bears_12 ?_
  refine lv_iconst (v := 1) hx hb dX1_bears_13 (by decide) ?_
  refine lv_isub hx hb dX1_bears_14 ?_
  refine lv_re rfl ?_
  refine g_ci (va_runS (As := [.int 1, .int 0, .int 3]) (rest := []) ⟨hx, hb, hml, hown, hts⟩ (Met.val (met_X1_isIn l Γ ad (shp Γ ad N o Z) 1 0 3) (bI1 (by decide))) (va_cwS 3 hts (lw_S q294 q295 q23 q296) rfl rfl rfl (by decide +kernel) ⟨Nat.le_of_ble_eq_true rfl, Nat.le_of_ble_eq_true rfl⟩) (SF_S hK hS hF) rfl rfl hl.1 rfl (lv_room (Nat.le_of_ble_eq_true rfl)) dX1_bears_15 ⟨Nat.le_of_ble_eq_true rfl, Nat.le_of_ble_eq_true rfl⟩) hS (fun H locs hF hS => ?_)
  refine g_cv (va_runS (As := [.int 1]) (rest := []) ⟨hx, hb, hml, hown, hts⟩ (met_X1_want l Γ ad (shp Γ ad N o Z)) (va_cwS 1 hts (lw_S q297 q298 q23 q299) rfl rfl rfl (by decide +kernel) ⟨Nat.le_of_ble_eq_true rfl, Nat.le_of_ble_eq_true rfl⟩) (SF_S hK hS hF) rfl rfl hl.1 rfl (lv_room (Nat.le_of_ble_eq_true rfl)) dX1_bears_18 ⟨Nat.le_of_ble_eq_true rfl, Nat.le_of_ble_eq_true rfl⟩) hS (fun H locs hF hS => ?_)
  refine lv_aload_n hx hb dX1_bears_21 rfl (lv_at hl 1 rfl) ?_
  refine r_get (ci := 0) (v := .ref (ad 0 9)) (T := TX1) (N := 14) hx hb hts in_X1 hown hK hF 0 0 rfl rfl 0 (by decide) (hts _ q116) (fun _ h9 => h9) rfl dX1_bears_22 ?_
  refine lv_iload_n hx hb dX1_bears_25 rfl (lv_at hl 3 rfl) ?_
  refine r_aald (v := .ref (Γ.2.2 (10 + 1))) hx hb hK hF 0 9 5 rfl rfl rfl 1 rfl (by decide) (by omega) rfl dX1_bears_26 ?_
  refine lv_aload_n hx hb dX1_bears_27 rfl (lv_at hl 0 rfl) ?_
  refine g_ci (rw_runU (n := 1) (As := [.ref (ad 3 j)]) (rest := []) ⟨hx, hb, hml, hown, hts⟩ (met_X10_of l Γ ad N o Z j hj hlo) hts (rw_U q545 q547 q557 q558 q559) rfl rfl rfl (hK.word (args := #[]) 1 rfl) (by decide +kernel) ⟨Nat.le_of_ble_eq_true rfl, Nat.le_of_ble_eq_true rfl⟩ (SF_V hK hS hF (recvB hK hS (i := 1) (by decide))) rfl rfl hl.1 rfl (lv_room (Nat.le_of_ble_eq_true rfl)) dX1_bears_28 ⟨Nat.le_of_ble_eq_true rfl, Nat.le_of_ble_eq_true rfl⟩) hS (fun H locs hF hS => ?_)
  exact g_iret hx hb hr hlocks hF hS dX1_bears_31
set_option maxHeartbeats 4000000 in
set_option maxRecDepth 100000 in
/-- bears, path C2 -/
theorem cc_bears_C2 (l : Launch) (Γ : Gm) (ad : Nat → Nat → Nat) (N : Nat → Nat) (o : Nat → Int64) (Z : Nat → Nat → Nat → Int32) (hN : nOk N) (j : Nat) (hj : j < N 0) (hlo : cLo Z N j) : Met l yX1_bears (ws_ yX1_bears cX1_bears 4 (some .int)) ({ frames := 4, cells := 0, slots := 0, locals := 85 }) (va_Pc [.ref (ad 0 0), .int (nI j), .int 2] (SF Γ ad (shp Γ ad N o Z))) (gEi Γ (cOpt Z N j) ad (shp Γ ad N o Z)) 0 0 (AA Γ) := by
  refine Met.ofW (cc := cX1_bears) (maxL := 4) (ret := (some .int)) (by decide) rfl ?_
  intro p e s m args below meth c s₁ B hml hv
  obtain ⟨rfl, hK, hF⟩ := hv
  have hx := B.exec
  have hb := B.bytes
  have hr := B.returns
  have hts := atoms_spec (ws := ws_ yX1_bears cX1_bears 4 (some .int)) B.pre
  have hts : ∀ w ∈ lw_all, w.before _ s = true := fun w h => hts w (List.mem_cons_of_mem _ h)
  have hown : s.vm.findClass RX1 = some m.cls := findClass_of_methodNamed B.named
  have hlocks := B.notSynchronized
  have hS : va_S (AA Γ) s.heap s.heap [] := va_S.rf
  have hl := lv_entry ([.ref (ad 0 0), .int (nI j), .int 2]) (n := 4) (Nat.le_of_ble_eq_true rfl)
  rw [lg_entry_eq]
  generalize (lg_sl ([.ref (ad 0 0), .int (nI j), .int 2]) ++ List.replicate (4 - (lg_sl ([.ref (ad 0 0), .int (nI j), .int 2])).length) Slot.unset).toArray = ls at hl ⊢
  have hl : lv_has ls 4 [(0, .ref (ad 0 0)), (1, .int (nI j)), (2, .int 2)] := hl
  refine lv_aload_n hx hb dX1_bears_0 rfl (lv_at hl 0 rfl) ?_
  refine lv_iload_n hx hb dX1_bears_1 rfl (lv_at hl 1 rfl) ?_
  refine g_cr (va_runV (As := [.int (nI j)]) (rest := []) ⟨hx, hb, hml, hown, hts⟩ (cc_account_B l Γ ad N o Z hN j hj) (cwV 1 hts (lw_V q467 q469 qs5 q23 q470) rfl rfl rfl (by decide +kernel) ⟨Nat.le_of_ble_eq_true rfl, Nat.le_of_ble_eq_true rfl⟩) (SF_V hK hS hF (recvF hK hF 0 0 rfl rfl)) rfl rfl hl.1 rfl (lv_room (Nat.le_of_ble_eq_true rfl)) dX1_bears_2 ⟨Nat.le_of_ble_eq_true rfl, Nat.le_of_ble_eq_true rfl⟩) hS (fun H locs hF hS => ?_)
  refine lv_astore_n (lv' := [(3, .ref (ad 3 j)), (0, .ref (ad 0 0)), (1, .int (nI j)), (2, .int 2)]) hx hb dX1_bears_5 rfl hl (by decide) rfl (fun ls hl => ?_)
  refine lv_iload_n hx hb dX1_bears_6 rfl (lv_at hl 3 rfl) ?_
  refine lv_iconst (v := 0) hx hb dX1_bears_7 (by decide) ?_
  refine lv_aload_n hx hb dX1_bears_8 rfl (lv_at hl 1 rfl) ?_
  refine r_get (ci := 0) (v := .ref (ad 0 9)) (T := TX1) (N := 14) hx hb hts in_X1 hown hK hF 0 0 rfl rfl 0 (by decide) (hts _ q116) (fun _ h9 => h9) rfl dX1_bears_9 ?_
  refine r_alen (v := 4) hx hb hK hF 0 9 5 rfl rfl rfl dX1_bears_12 ?_
  refine lv_iconst (v := 1) hx hb dX1_bears_13 (by decide) ?_
  refine lv_isub hx hb dX1_bears_14 ?_
  refine lv_re rfl ?_
  refine g_ci (va_runS (As := [.int 2, .int 0, .int 3]) (rest := []) ⟨hx, hb, hml, hown, hts⟩ (Met.val (met_X1_isIn l Γ ad (shp Γ ad N o Z) 2 0 3) (bI1 (by decide))) (va_cwS 3 hts (lw_S q294 q295 q23 q296) rfl rfl rfl (by decide +kernel) ⟨Nat.le_of_ble_eq_true rfl, Nat.le_of_ble_eq_true rfl⟩) (SF_S hK hS hF) rfl rfl hl.1 rfl (lv_room (Nat.le_of_ble_eq_true rfl)) dX1_bears_15 ⟨Nat.le_of_ble_eq_true rfl, Nat.le_of_ble_eq_true rfl⟩) hS (fun H locs hF hS => ?_)
  refine g_cv (va_runS (As := [.int 1]) (rest := []) ⟨hx, hb, hml, hown, hts⟩ (met_X1_want l Γ ad (shp Γ ad N o Z)) (va_cwS 1 hts (lw_S q297 q298 q23 q299) rfl rfl rfl (by decide +kernel) ⟨Nat.le_of_ble_eq_true rfl, Nat.le_of_ble_eq_true rfl⟩) (SF_S hK hS hF) rfl rfl hl.1 rfl (lv_room (Nat.le_of_ble_eq_true rfl)) dX1_bears_18 ⟨Nat.le_of_ble_eq_true rfl, Nat.le_of_ble_eq_true rfl⟩) hS (fun H locs hF hS => ?_)
  refine lv_aload_n hx hb dX1_bears_21 rfl (lv_at hl 1 rfl) ?_
  refine r_get (ci := 0) (v := .ref (ad 0 9)) (T := TX1) (N := 14) hx hb hts in_X1 hown hK hF 0 0 rfl rfl 0 (by decide) (hts _ q116) (fun _ h9 => h9) rfl dX1_bears_22 ?_
  refine lv_iload_n hx hb dX1_bears_25 rfl (lv_at hl 3 rfl) ?_
  refine r_aald (v := .ref (Γ.2.2 (10 + 2))) hx hb hK hF 0 9 5 rfl rfl rfl 2 rfl (by decide) (by omega) rfl dX1_bears_26 ?_
  refine lv_aload_n hx hb dX1_bears_27 rfl (lv_at hl 0 rfl) ?_
  refine g_ci (rw_runU (n := 1) (As := [.ref (ad 3 j)]) (rest := []) ⟨hx, hb, hml, hown, hts⟩ (met_X9_of l Γ ad N o Z j hj hlo) hts (rw_U q545 q547 q569 q570 q571) rfl rfl rfl (hK.word (args := #[]) 1 rfl) (by decide +kernel) ⟨Nat.le_of_ble_eq_true rfl, Nat.le_of_ble_eq_true rfl⟩ (SF_V hK hS hF (recvB hK hS (i := 2) (by decide))) rfl rfl hl.1 rfl (lv_room (Nat.le_of_ble_eq_true rfl)) dX1_bears_28 ⟨Nat.le_of_ble_eq_true rfl, Nat.le_of_ble_eq_true rfl⟩) hS (fun H locs hF hS => ?_)
  exact g_iret hx hb hr hlocks hF hS dX1_bears_31
set_option maxHeartbeats 4000000 in
set_option maxRecDepth 100000 in
/-- bears, path C3 -/
theorem cc_bears_C3 (l : Launch) (Γ : Gm) (ad : Nat → Nat → Nat) (N : Nat → Nat) (o : Nat → Int64) (Z : Nat → Nat → Nat → Int32) (hN : nOk N) (j : Nat) (hj : j < N 0) (hlo : cLo Z N j) : Met l yX1_bears (ws_ yX1_bears cX1_bears 4 (some .int)) ({ frames := 4, cells := 0, slots := 0, locals := 85 }) (va_Pc [.ref (ad 0 0), .int (nI j), .int 3] (SF Γ ad (shp Γ ad N o Z))) (gEi Γ (cMar Z N j) ad (shp Γ ad N o Z)) 0 0 (AA Γ) := by
  refine Met.ofW (cc := cX1_bears) (maxL := 4) (ret := (some .int)) (by decide) rfl ?_
  intro p e s m args below meth c s₁ B hml hv
  obtain ⟨rfl, hK, hF⟩ := hv
  have hx := B.exec
  have hb := B.bytes
  have hr := B.returns
  have hts := atoms_spec (ws := ws_ yX1_bears cX1_bears 4 (some .int)) B.pre
  have hts : ∀ w ∈ lw_all, w.before _ s = true := fun w h => hts w (List.mem_cons_of_mem _ h)
  have hown : s.vm.findClass RX1 = some m.cls := findClass_of_methodNamed B.named
  have hlocks := B.notSynchronized
  have hS : va_S (AA Γ) s.heap s.heap [] := va_S.rf
  have hl := lv_entry ([.ref (ad 0 0), .int (nI j), .int 3]) (n := 4) (Nat.le_of_ble_eq_true rfl)
  rw [lg_entry_eq]
  generalize (lg_sl ([.ref (ad 0 0), .int (nI j), .int 3]) ++ List.replicate (4 - (lg_sl ([.ref (ad 0 0), .int (nI j), .int 3])).length) Slot.unset).toArray = ls at hl ⊢
  have hl : lv_has ls 4 [(0, .ref (ad 0 0)), (1, .int (nI j)), (2, .int 3)] := hl
  refine lv_aload_n hx hb dX1_bears_0 rfl (lv_at hl 0 rfl) ?_
  refine lv_iload_n hx hb dX1_bears_1 rfl (lv_at hl 1 rfl) ?_
  refine g_cr (va_runV (As := [.int (nI j)]) (rest := []) ⟨hx, hb, hml, hown, hts⟩ (cc_account_B l Γ ad N o Z hN j hj) (cwV 1 hts (lw_V q467 q469 qs5 q23 q470) rfl rfl rfl (by decide +kernel) ⟨Nat.le_of_ble_eq_true rfl, Nat.le_of_ble_eq_true rfl⟩) (SF_V hK hS hF (recvF hK hF 0 0 rfl rfl)) rfl rfl hl.1 rfl (lv_room (Nat.le_of_ble_eq_true rfl)) dX1_bears_2 ⟨Nat.le_of_ble_eq_true rfl, Nat.le_of_ble_eq_true rfl⟩) hS (fun H locs hF hS => ?_)
  refine lv_astore_n (lv' := [(3, .ref (ad 3 j)), (0, .ref (ad 0 0)), (1, .int (nI j)), (2, .int 3)]) hx hb dX1_bears_5 rfl hl (by decide) rfl (fun ls hl => ?_)
  refine lv_iload_n hx hb dX1_bears_6 rfl (lv_at hl 3 rfl) ?_
  refine lv_iconst (v := 0) hx hb dX1_bears_7 (by decide) ?_
  refine lv_aload_n hx hb dX1_bears_8 rfl (lv_at hl 1 rfl) ?_
  refine r_get (ci := 0) (v := .ref (ad 0 9)) (T := TX1) (N := 14) hx hb hts in_X1 hown hK hF 0 0 rfl rfl 0 (by decide) (hts _ q116) (fun _ h9 => h9) rfl dX1_bears_9 ?_
  refine r_alen (v := 4) hx hb hK hF 0 9 5 rfl rfl rfl dX1_bears_12 ?_
  refine lv_iconst (v := 1) hx hb dX1_bears_13 (by decide) ?_
  refine lv_isub hx hb dX1_bears_14 ?_
  refine lv_re rfl ?_
  refine g_ci (va_runS (As := [.int 3, .int 0, .int 3]) (rest := []) ⟨hx, hb, hml, hown, hts⟩ (Met.val (met_X1_isIn l Γ ad (shp Γ ad N o Z) 3 0 3) (bI1 (by decide))) (va_cwS 3 hts (lw_S q294 q295 q23 q296) rfl rfl rfl (by decide +kernel) ⟨Nat.le_of_ble_eq_true rfl, Nat.le_of_ble_eq_true rfl⟩) (SF_S hK hS hF) rfl rfl hl.1 rfl (lv_room (Nat.le_of_ble_eq_true rfl)) dX1_bears_15 ⟨Nat.le_of_ble_eq_true rfl, Nat.le_of_ble_eq_true rfl⟩) hS (fun H locs hF hS => ?_)
  refine g_cv (va_runS (As := [.int 1]) (rest := []) ⟨hx, hb, hml, hown, hts⟩ (met_X1_want l Γ ad (shp Γ ad N o Z)) (va_cwS 1 hts (lw_S q297 q298 q23 q299) rfl rfl rfl (by decide +kernel) ⟨Nat.le_of_ble_eq_true rfl, Nat.le_of_ble_eq_true rfl⟩) (SF_S hK hS hF) rfl rfl hl.1 rfl (lv_room (Nat.le_of_ble_eq_true rfl)) dX1_bears_18 ⟨Nat.le_of_ble_eq_true rfl, Nat.le_of_ble_eq_true rfl⟩) hS (fun H locs hF hS => ?_)
  refine lv_aload_n hx hb dX1_bears_21 rfl (lv_at hl 1 rfl) ?_
  refine r_get (ci := 0) (v := .ref (ad 0 9)) (T := TX1) (N := 14) hx hb hts in_X1 hown hK hF 0 0 rfl rfl 0 (by decide) (hts _ q116) (fun _ h9 => h9) rfl dX1_bears_22 ?_
  refine lv_iload_n hx hb dX1_bears_25 rfl (lv_at hl 3 rfl) ?_
  refine r_aald (v := .ref (Γ.2.2 (10 + 3))) hx hb hK hF 0 9 5 rfl rfl rfl 3 rfl (by decide) (by omega) rfl dX1_bears_26 ?_
  refine lv_aload_n hx hb dX1_bears_27 rfl (lv_at hl 0 rfl) ?_
  refine g_ci (va_runU (As := [.ref (ad 3 j)]) (rest := []) ⟨hx, hb, hml, hown, hts⟩ (met_X7_of l Γ ad N o Z j hj hlo) (va_cwA 1 hts (lw_U q545 q547 q578 q579 q48 q580) rfl rfl rfl (hK.word (args := #[]) 1 rfl) (by decide +kernel) ⟨Nat.le_of_ble_eq_true rfl, Nat.le_of_ble_eq_true rfl⟩) (SF_V hK hS hF (recvB hK hS (i := 3) (by decide))) rfl rfl hl.1 rfl (lv_room (Nat.le_of_ble_eq_true rfl)) dX1_bears_28 ⟨Nat.le_of_ble_eq_true rfl, Nat.le_of_ble_eq_true rfl⟩) hS (fun H locs hF hS => ?_)
  exact g_iret hx hb hr hlocks hF hS dX1_bears_31
set_option maxHeartbeats 4000000 in
set_option maxRecDepth 100000 in
/-- due, path A -/
theorem cc_due_A (l : Launch) (hst : l.stackTraces = false) (Γ : Gm) (ad : Nat → Nat → Nat) (N : Nat → Nat) (o : Nat → Int64) (Z : Nat → Nat → Nat → Int32) (t : Int32) (h : ¬ (0 ≤ t ∧ t ≤ 5)) : vx_Met l yX1_due (ws_ yX1_due cX1_due 6 (some .int)) ({ frames := 7, cells := 1, slots := 6, locals := 101 }) (va_Pc [.ref (ad 0 0), .int t] (SF Γ ad (shp Γ ad N o Z))) (gNi Γ) (gX Γ (fun E => E = xIA) ad (shp Γ ad N o Z)) 1 6 (AA Γ) := by
  refine vx_ofW (cc := cX1_due) (maxL := 6) (ret := (some .int)) (by decide) rfl ?_
  intro p e s m args below meth c s₁ B hml hno hv
  obtain ⟨rfl, hK, hF⟩ := hv
  have hx := B.exec
  have hb := B.bytes
  have hr := B.returns
  have hts := atoms_spec (ws := ws_ yX1_due cX1_due 6 (some .int)) B.pre
  have hts : ∀ w ∈ lw_all, w.before _ s = true := fun w h => hts w (List.mem_cons_of_mem _ h)
  have hown : s.vm.findClass RX1 = some m.cls := findClass_of_methodNamed B.named
  have hlocks := B.notSynchronized
  have hS : va_S (AA Γ) s.heap s.heap [] := va_S.rf
  have hl := lv_entry ([.ref (ad 0 0), .int t]) (n := 6) (Nat.le_of_ble_eq_true rfl)
  rw [lg_entry_eq]
  generalize (lg_sl ([.ref (ad 0 0), .int t]) ++ List.replicate (6 - (lg_sl ([.ref (ad 0 0), .int t])).length) Slot.unset).toArray = ls at hl ⊢
  have hl : lv_has ls 6 [(0, .ref (ad 0 0)), (1, .int t)] := hl
  refine lv_iload_n hx hb dX1_due_0 rfl (lv_at hl 1 rfl) ?_
  refine lv_iconst (v := 0) hx hb dX1_due_1 (by decide) ?_
  refine lv_iconst (v := 5) hx hb dX1_due_2 (by decide) ?_
  refine g_ci (va_runS (As := [.int t, .int 0, .int 5]) (rest := []) ⟨hx, hb, hml, hown, hts⟩ (Met.val (met_X1_isIn l Γ ad (shp Γ ad N o Z) t 0 5) (bI0 h)) (va_cwS 3 hts (lw_S q294 q295 q23 q296) rfl rfl rfl (by decide +kernel) ⟨Nat.le_of_ble_eq_true rfl, Nat.le_of_ble_eq_true rfl⟩) (SF_S hK hS hF) rfl rfl hl.1 rfl (lv_room (Nat.le_of_ble_eq_true rfl)) dX1_due_3 ⟨Nat.le_of_ble_eq_true rfl, Nat.le_of_ble_eq_true rfl⟩) hS (fun H locs hF hS => ?_)
  exact gx_callv (vx_runS (As := [.int 0]) (rest := []) ⟨hx, hb, hml, hown, hts⟩ (xet_X1_want l hst Γ ad (shp Γ ad N o Z)) (va_cwS 1 hts (lw_S q297 q298 q23 q299) rfl rfl rfl (by decide +kernel) ⟨Nat.le_of_ble_eq_true rfl, Nat.le_of_ble_eq_true rfl⟩) (SF_S hK hS hF) rfl rfl hl.1 rfl (lv_room (Nat.le_of_ble_eq_true rfl)) dX1_due_6 ⟨Nat.le_of_ble_eq_true rfl, Nat.le_of_ble_eq_true rfl⟩) hS (gx_pass hno hlocks (Nat.le_of_ble_eq_true rfl) (Nat.le_of_ble_eq_true rfl) (fun _ h => h)) (fun _ _ _ h => h.elim)
set_option maxHeartbeats 4000000 in
set_option maxRecDepth 100000 in
/-- due, path B -/
theorem cc_due_B (l : Launch) (Γ : Gm) (ad : Nat → Nat → Nat) (N : Nat → Nat) (o : Nat → Int64) (Z : Nat → Nat → Nat → Int32) (hN : nOk N) (hL : ∀ j, j < N 0 → cLo Z N j) (t : Nat) (ht : t < 6) : Met l yX1_due (ws_ yX1_due cX1_due 6 (some .int)) ({ frames := 3, cells := 0, slots := 0, locals := 64 }) (va_Pc [.ref (ad 0 0), .int (nI t)] (SF Γ ad (shp Γ ad N o Z))) (gEi Γ (sm (cDue Z N t) 0 (N 0)) ad (shp Γ ad N o Z)) 0 0 (AA Γ) := by
  refine Met.ofW (cc := cX1_due) (maxL := 6) (ret := (some .int)) (by decide) rfl ?_
  intro p e s m args below meth c s₁ B hml hv
  obtain ⟨rfl, hK, hF⟩ := hv
  have hx := B.exec
  have hb := B.bytes
  have hr := B.returns
  have hts := atoms_spec (ws := ws_ yX1_due cX1_due 6 (some .int)) B.pre
  have hts : ∀ w ∈ lw_all, w.before _ s = true := fun w h => hts w (List.mem_cons_of_mem _ h)
  have hown : s.vm.findClass RX1 = some m.cls := findClass_of_methodNamed B.named
  have hlocks := B.notSynchronized
  have hS : va_S (AA Γ) s.heap s.heap [] := va_S.rf
  have hl := lv_entry ([.ref (ad 0 0), .int (nI t)]) (n := 6) (Nat.le_of_ble_eq_true rfl)
  rw [lg_entry_eq]
  generalize (lg_sl ([.ref (ad 0 0), .int (nI t)]) ++ List.replicate (6 - (lg_sl ([.ref (ad 0 0), .int (nI t)])).length) Slot.unset).toArray = ls at hl ⊢
  have hl : lv_has ls 6 [(0, .ref (ad 0 0)), (1, .int (nI t))] := hl
  have hN1 := hN
  unfold nOk at hN1
  refine lv_iload_n hx hb dX1_due_0 rfl (lv_at hl 1 rfl) ?_
  refine lv_iconst (v := 0) hx hb dX1_due_1 (by decide) ?_
  refine lv_iconst (v := 5) hx hb dX1_due_2 (by decide) ?_
  refine g_ci (va_runS (As := [.int (nI t), .int 0, .int 5]) (rest := []) ⟨hx, hb, hml, hown, hts⟩ (Met.val (met_X1_isIn l Γ ad (shp Γ ad N o Z) (nI t) 0 5) (bI1 (inI (a := 0) (b := 5) (Nat.zero_le _) (by omega) (by decide)))) (va_cwS 3 hts (lw_S q294 q295 q23 q296) rfl rfl rfl (by decide +kernel) ⟨Nat.le_of_ble_eq_true rfl, Nat.le_of_ble_eq_true rfl⟩) (SF_S hK hS hF) rfl rfl hl.1 rfl (lv_room (Nat.le_of_ble_eq_true rfl)) dX1_due_3 ⟨Nat.le_of_ble_eq_true rfl, Nat.le_of_ble_eq_true rfl⟩) hS (fun H locs hF hS => ?_)
  refine g_cv (va_runS (As := [.int 1]) (rest := []) ⟨hx, hb, hml, hown, hts⟩ (met_X1_want l Γ ad (shp Γ ad N o Z)) (va_cwS 1 hts (lw_S q297 q298 q23 q299) rfl rfl rfl (by decide +kernel) ⟨Nat.le_of_ble_eq_true rfl, Nat.le_of_ble_eq_true rfl⟩) (SF_S hK hS hF) rfl rfl hl.1 rfl (lv_room (Nat.le_of_ble_eq_true rfl)) dX1_due_6 ⟨Nat.le_of_ble_eq_true rfl, Nat.le_of_ble_eq_true rfl⟩) hS (fun H locs hF hS => ?_)
  refine lv_iconst (v := 0) hx hb dX1_due_9 (by decide) ?_
  refine lv_istore_n (lv' := [(2, .int 0), (0, .ref (ad 0 0)), (1, .int (nI t))]) hx hb dX1_due_10 rfl hl (by decide) rfl (fun ls hl => ?_)
  refine lv_iconst (v := 0) hx hb dX1_due_11 (by decide) ?_
  refine lv_istore_n (lv' := [(3, .int 0), (2, .int 0), (0, .ref (ad 0 0)), (1, .int (nI t))]) hx hb dX1_due_12 rfl hl (by decide) rfl (fun ls hl => ?_)
  have LP : ∀ (u7 i : Nat) (x2 : Int32) (x3 : Int32) , i + u7 = N 0 → 0 ≤ i → x2 = sm (cDue Z N t) 0 i → x3 = nI i → ∀ (H : Heap) (locs : List Loc), FF Γ ad (shp Γ ad N o Z) H → va_S (AA Γ) s.heap H locs → ∀ (ls : Array Slot), lv_has ls 6 [(3, .int x3), (2, .int x2), (0, .ref (ad 0 0)), (1, .int (nI t))] → W p l e (headSpec (ws_ yX1_due cX1_due 6 (some .int)) ({ frames := 3, cells := 0, slots := 0, locals := 64 })).room s m ([.ref (ad 0 0), .int (nI t)] : List Value).toArray below meth c H locs 0 0 (MQ below (gEi Γ (sm (cDue Z N t) 0 (N 0)) ad (shp Γ ad N o Z)) ([.ref (ad 0 0), .int (nI t)] : List Value).toArray s 0 0 (AA Γ)) (F0 m 13 ls []) := by
    intro u7
    induction u7 with
    | zero =>
      intro i x2 x3  hi hs e2 e3 H locs hF hS ls hl
      subst e2
      subst e3
      obtain rfl : N 0 = i := by omega
      refine lv_iload_n hx hb dX1_due_13 rfl (lv_at hl 0 rfl) ?_
      refine lv_aload_n hx hb dX1_due_14 rfl (lv_at hl 2 rfl) ?_
      refine r_get (ci := 0) (v := .ref (ad 0 6)) (T := TX1) (N := 14) hx hb hts in_X1 hown hK hF 0 0 rfl rfl 2 (by decide) (hts _ q118) (fun _ h9 => h9) rfl dX1_due_15 ?_
      refine g_cFi (va_runF (As := []) (rest := [.int (nI (N 0))]) (hK.1.1 1 _ rfl).2 ⟨hx, hb, hml, hown, hts⟩ (met_J2_size l Γ ad (shp Γ ad N o Z) (z := nI (N 0)) rfl) (va_cwF 0 hts (lw_F q168 q172 q174 q28 q176) rfl rfl rfl (hK.face 0 rfl) (by decide +kernel) ⟨Nat.le_of_ble_eq_true rfl, Nat.le_of_ble_eq_true rfl⟩) (SF_V hK hS hF (recvF hK hF 0 6 rfl rfl)) rfl rfl hl.1 rfl (lv_room (Nat.le_of_ble_eq_true rfl)) dX1_due_18 ⟨Nat.le_of_ble_eq_true rfl, Nat.le_of_ble_eq_true rfl⟩) hS (fun H locs hF hS => ?_)
      refine lv_icmp_ge (tgt := 88) hx hb dX1_due_23 (by decide) (fun c23 => ?_) (fun c23 => ?_)
      · refine lv_iload_n hx hb dX1_due_88 rfl (lv_at hl 1 rfl) ?_
        exact g_iret hx hb hr hlocks hF hS dX1_due_89
      · exact absurd (nI_le (a := N 0) (b := N 0) (Nat.le_refl _) (by omega)) c23
    | succ u7 ih =>
      intro i x2 x3  hi hs e2 e3 H locs hF hS ls hl
      subst e2
      subst e3
      refine lv_iload_n hx hb dX1_due_13 rfl (lv_at hl 0 rfl) ?_
      refine lv_aload_n hx hb dX1_due_14 rfl (lv_at hl 2 rfl) ?_
      refine r_get (ci := 0) (v := .ref (ad 0 6)) (T := TX1) (N := 14) hx hb hts in_X1 hown hK hF 0 0 rfl rfl 2 (by decide) (hts _ q118) (fun _ h9 => h9) rfl dX1_due_15 ?_
      refine g_cFi (va_runF (As := []) (rest := [.int (nI i)]) (hK.1.1 1 _ rfl).2 ⟨hx, hb, hml, hown, hts⟩ (met_J2_size l Γ ad (shp Γ ad N o Z) (z := nI (N 0)) rfl) (va_cwF 0 hts (lw_F q168 q172 q174 q28 q176) rfl rfl rfl (hK.face 0 rfl) (by decide +kernel) ⟨Nat.le_of_ble_eq_true rfl, Nat.le_of_ble_eq_true rfl⟩) (SF_V hK hS hF (recvF hK hF 0 6 rfl rfl)) rfl rfl hl.1 rfl (lv_room (Nat.le_of_ble_eq_true rfl)) dX1_due_18 ⟨Nat.le_of_ble_eq_true rfl, Nat.le_of_ble_eq_true rfl⟩) hS (fun H locs hF hS => ?_)
      refine lv_icmp_ge (tgt := 88) hx hb dX1_due_23 (by decide) (fun c23 => ?_) (fun c23 => ?_)
      · exact absurd c23 (nI_ge (a := i) (b := N 0) (by omega) (by omega))
      · obtain ⟨hq, hql, hq6, -⟩ := hL i (by omega)
        refine lv_aload_n hx hb dX1_due_26 rfl (lv_at hl 2 rfl) ?_
        refine r_get (ci := 0) (v := .ref (ad 0 6)) (T := TX1) (N := 14) hx hb hts in_X1 hown hK hF 0 0 rfl rfl 2 (by decide) (hts _ q118) (fun _ h9 => h9) rfl dX1_due_27 ?_
        refine lv_iload_n hx hb dX1_due_30 rfl (lv_at hl 0 rfl) ?_
        refine g_cFr (va_runF (As := [.int (nI i)]) (rest := []) (hK.1.1 1 _ rfl).2 ⟨hx, hb, hml, hown, hts⟩ (met_J2_get l Γ ad (shp Γ ad N o Z) (n := N 0) (cap := N 1) (v := ad 3 i) (sh_06 (by have := hN; unfold nOk at this; omega) _) (sh_07 (by have := hN; unfold nOk at this; omega) _) i (by omega) (by have := hN; unfold nOk at this; omega) (by have := hN; unfold nOk at this; omega) (if_pos (by omega))) (va_cwF 1 hts (lw_F q472 q475 q477 q28 q479) rfl rfl rfl (hK.face 2 rfl) (by decide +kernel) ⟨Nat.le_of_ble_eq_true rfl, Nat.le_of_ble_eq_true rfl⟩) (SF_V hK hS hF (recvF hK hF 0 6 rfl rfl)) rfl rfl hl.1 rfl (lv_room (Nat.le_of_ble_eq_true rfl)) dX1_due_31 ⟨Nat.le_of_ble_eq_true rfl, Nat.le_of_ble_eq_true rfl⟩) hS (fun H locs hF hS => ?_)
        refine va_castS hx hb hown (hts _ q349) (hK.1.1 3 _ rfl).2 (recvF hK hF 3 i (sh_3 (by omega) _) rfl) dX1_due_36 ?_
        refine lv_astore (lv' := [(4, .ref (ad 3 i)), (3, .int (nI i)), (2, .int (sm (cDue Z N t) 0 i)), (0, .ref (ad 0 0)), (1, .int (nI t))]) hx hb dX1_due_39 hl (by decide) rfl (fun ls hl => ?_)
        refine lv_aload hx hb dX1_due_41 (lv_at hl 0 rfl) ?_
        refine r_get (ci := 3) (v := .int (Z 3 i 0)) (T := TX5) (N := 2) hx hb hts in_X5 hown hK hF 3 i (sh_3 (by omega) _) rfl 1 (by decide) (hts _ q388) (fun _ h9 => h9) rfl dX1_due_43 ?_
        refine lv_re hq ?_
        refine lv_iload_n hx hb dX1_due_46 rfl (lv_at hl 4 rfl) ?_
        refine lv_iadd hx hb dX1_due_47 ?_
        refine lv_re (nI_add _ t) ?_
        refine lv_istore (lv' := [(5, .int (nI (cQ Z i + t))), (4, .ref (ad 3 i)), (3, .int (nI i)), (2, .int (sm (cDue Z N t) 0 i)), (0, .ref (ad 0 0)), (1, .int (nI t))]) hx hb dX1_due_48 hl (by decide) rfl (fun ls hl => ?_)
        refine lv_iload_n hx hb dX1_due_50 rfl (lv_at hl 3 rfl) ?_
        refine lv_iload hx hb dX1_due_51 (lv_at hl 0 rfl) ?_
        refine lv_aload hx hb dX1_due_53 (lv_at hl 1 rfl) ?_
        refine r_get (ci := 3) (v := .ref (ad 4 i)) (T := TX5) (N := 2) hx hb hts in_X5 hown hK hF 3 i (sh_3 (by omega) _) rfl 0 (by decide) (hts _ q386) (fun _ h9 => h9) rfl dX1_due_55 ?_
        refine g_cr (va_runV (As := []) (rest := [.int (nI (cQ Z i + t)), .int (sm (cDue Z N t) 0 i)]) ⟨hx, hb, hml, hown, hts⟩ (met_X6_parts l Γ ad N o Z i (by omega)) (cwV 0 hts (lw_V q506 q499 q500 q41 q501) rfl rfl rfl (by decide +kernel) ⟨Nat.le_of_ble_eq_true rfl, Nat.le_of_ble_eq_true rfl⟩) (SF_V hK hS hF (recvF hK hF 4 i (sh_4 (by omega) _) rfl)) rfl rfl hl.1 rfl (lv_room (Nat.le_of_ble_eq_true rfl)) dX1_due_58 ⟨Nat.le_of_ble_eq_true rfl, Nat.le_of_ble_eq_true rfl⟩) hS (fun H locs hF hS => ?_)
        refine r_alen (v := nI (N (10 + i))) hx hb hK hF 5 i 0 rfl (sh_5 (by omega) _) rfl dX1_due_61 ?_
        have K : ∀ (H : Heap) (locs : List Loc), FF Γ ad (shp Γ ad N o Z) H → va_S (AA Γ) s.heap H locs → W p l e (headSpec (ws_ yX1_due cX1_due 6 (some .int)) ({ frames := 3, cells := 0, slots := 0, locals := 64 })).room s m ([.ref (ad 0 0), .int (nI t)] : List Value).toArray below meth c H locs 0 0 (MQ below (gEi Γ (sm (cDue Z N t) 0 (N 0)) ad (shp Γ ad N o Z)) ([.ref (ad 0 0), .int (nI t)] : List Value).toArray s 0 0 (AA Γ)) (F0 m 80 ls [.int (cDue Z N t i), .int (sm (cDue Z N t) 0 i)]) := by
          intro H locs hF hS
          refine lv_iadd hx hb dX1_due_80 ?_
          refine lv_istore_n (lv' := [(2, .int ((sm (cDue Z N t) 0 i) + (cDue Z N t i))), (5, .int (nI (cQ Z i + t))), (4, .ref (ad 3 i)), (3, .int (nI i)), (0, .ref (ad 0 0)), (1, .int (nI t))]) hx hb dX1_due_81 rfl hl (by decide) rfl (fun ls hl => ?_)
          refine lv_iinc (v := nI (i + 1)) (lv' := [(3, .int (nI (i + 1))), (2, .int ((sm (cDue Z N t) 0 i) + (cDue Z N t i))), (5, .int (nI (cQ Z i + t))), (4, .ref (ad 3 i)), (0, .ref (ad 0 0)), (1, .int (nI t))]) hx hb dX1_due_82 hl (k := 3) rfl (nI_1 _) (by decide) rfl (fun ls hl => ?_)
          refine lv_goto (tgt := 13) hx hb dX1_due_85 (by decide) ?_
          exact ih (i + 1) _ _ (by omega) (by omega) (sm_s (Nat.zero_le _)) rfl _ _ hF hS ls (lv_sub hl [0, 1, 4, 5] rfl)
        refine lv_icmp_ge (tgt := 79) hx hb dX1_due_62 (by decide) (fun c62 => ?_) (fun c62 => ?_)
        · refine lv_iconst (v := 0) hx hb dX1_due_79 (by decide) ?_
          rw [show cDue Z N t i = _ from if_neg (fun q => absurd c62 (nI_ge q (by omega)))] at K
          exact K _ _ hF hS
        · have h6 : cQ Z i + t < N (10 + i) := Nat.lt_of_not_le (fun q => c62 (nI_le q (by omega)))
          refine lv_aload hx hb dX1_due_65 (lv_at hl 1 rfl) ?_
          refine r_get (ci := 3) (v := .ref (ad 4 i)) (T := TX5) (N := 2) hx hb hts in_X5 hown hK hF 3 i (sh_3 (by omega) _) rfl 0 (by decide) (hts _ q386) (fun _ h9 => h9) rfl dX1_due_67 ?_
          refine g_cr (va_runV (As := []) (rest := [.int (sm (cDue Z N t) 0 i)]) ⟨hx, hb, hml, hown, hts⟩ (met_X6_parts l Γ ad N o Z i (by omega)) (cwV 0 hts (lw_V q506 q499 q500 q41 q501) rfl rfl rfl (by decide +kernel) ⟨Nat.le_of_ble_eq_true rfl, Nat.le_of_ble_eq_true rfl⟩) (SF_V hK hS hF (recvF hK hF 4 i (sh_4 (by omega) _) rfl)) rfl rfl hl.1 rfl (lv_room (Nat.le_of_ble_eq_true rfl)) dX1_due_70 ⟨Nat.le_of_ble_eq_true rfl, Nat.le_of_ble_eq_true rfl⟩) hS (fun H locs hF hS => ?_)
          refine lv_iload hx hb dX1_due_73 (lv_at hl 0 rfl) ?_
          refine s_iald hx hb hK hF 5 i (sh_5 (by omega) _) (cQ Z i + t) rfl (by omega) (by omega) dX1_due_75 ?_
          refine lv_goto (tgt := 80) hx hb dX1_due_76 (by decide) ?_
          rw [show cDue Z N t i = _ from if_pos h6] at K
          exact K _ _ hF hS
  exact LP ((N 0) - 0) 0 _ _ (by omega) (Nat.le_refl _) rfl rfl _ _ hF hS ls hl
set_option maxHeartbeats 4000000 in
set_option maxRecDepth 100000 in
/-- balance, path A -/
theorem cc_balance_A (l : Launch) (hst : l.stackTraces = false) (Γ : Gm) (ad : Nat → Nat → Nat) (N : Nat → Nat) (o : Nat → Int64) (Z : Nat → Nat → Nat → Int32) (b : Int32) (h : ¬ (0 ≤ b ∧ b < 3)) : vx_Met l yX1_balance (ws_ yX1_balance cX1_balance 2 (some .int)) ({ frames := 7, cells := 1, slots := 6, locals := 102 }) (va_Pc [.ref (ad 0 0), .int b] (SF Γ ad (shp Γ ad N o Z))) (gNi Γ) (gX Γ (fun E => E = xOB) ad (shp Γ ad N o Z)) 1 6 (AA Γ) := by
  refine vx_ofW (cc := cX1_balance) (maxL := 2) (ret := (some .int)) (by decide) rfl ?_
  intro p e s m args below meth c s₁ B hml hno hv
  obtain ⟨rfl, hK, hF⟩ := hv
  have hx := B.exec
  have hb := B.bytes
  have hr := B.returns
  have hts := atoms_spec (ws := ws_ yX1_balance cX1_balance 2 (some .int)) B.pre
  have hts : ∀ w ∈ lw_all, w.before _ s = true := fun w h => hts w (List.mem_cons_of_mem _ h)
  have hown : s.vm.findClass RX1 = some m.cls := findClass_of_methodNamed B.named
  have hlocks := B.notSynchronized
  have hS : va_S (AA Γ) s.heap s.heap [] := va_S.rf
  have hl := lv_entry ([.ref (ad 0 0), .int b]) (n := 2) (Nat.le_of_ble_eq_true rfl)
  rw [lg_entry_eq]
  generalize (lg_sl ([.ref (ad 0 0), .int b]) ++ List.replicate (2 - (lg_sl ([.ref (ad 0 0), .int b])).length) Slot.unset).toArray = ls at hl ⊢
  have hl : lv_has ls 2 [(0, .ref (ad 0 0)), (1, .int b)] := hl
  refine lv_iload_n hx hb dX1_balance_0 rfl (lv_at hl 1 rfl) ?_
  refine lv_iconst (v := 3) hx hb dX1_balance_1 (by decide) ?_
  exact gx_callv (vx_runS (As := [.int b, .int 3]) (rest := []) ⟨hx, hb, hml, hown, hts⟩ (xet_X1_exists l hst Γ ad (shp Γ ad N o Z) b 3 h) (va_cwS 2 hts (lw_S q270 q271 q23 q272) rfl rfl rfl (by decide +kernel) ⟨Nat.le_of_ble_eq_true rfl, Nat.le_of_ble_eq_true rfl⟩) (SF_S hK hS hF) rfl rfl hl.1 rfl (lv_room (Nat.le_of_ble_eq_true rfl)) dX1_balance_2 ⟨Nat.le_of_ble_eq_true rfl, Nat.le_of_ble_eq_true rfl⟩) hS (gx_pass hno hlocks (Nat.le_of_ble_eq_true rfl) (Nat.le_of_ble_eq_true rfl) (fun _ h => h)) (fun _ _ _ h => h.elim)
set_option maxHeartbeats 4000000 in
set_option maxRecDepth 100000 in
/-- balance, path B -/
theorem cc_balance_B (l : Launch) (Γ : Gm) (ad : Nat → Nat → Nat) (N : Nat → Nat) (o : Nat → Int64) (Z : Nat → Nat → Nat → Int32) (b : Nat) (hb3 : b < 3) : Met l yX1_balance (ws_ yX1_balance cX1_balance 2 (some .int)) ({ frames := 1, cells := 0, slots := 0, locals := 21 }) (va_Pc [.ref (ad 0 0), .int (nI b)] (SF Γ ad (shp Γ ad N o Z))) (gEi Γ (Z 7 b 0) ad (shp Γ ad N o Z)) 0 0 (AA Γ) := by
  refine Met.ofW (cc := cX1_balance) (maxL := 2) (ret := (some .int)) (by decide) rfl ?_
  intro p e s m args below meth c s₁ B hml hv
  obtain ⟨rfl, hK, hF⟩ := hv
  have hx := B.exec
  have hb := B.bytes
  have hr := B.returns
  have hts := atoms_spec (ws := ws_ yX1_balance cX1_balance 2 (some .int)) B.pre
  have hts : ∀ w ∈ lw_all, w.before _ s = true := fun w h => hts w (List.mem_cons_of_mem _ h)
  have hown : s.vm.findClass RX1 = some m.cls := findClass_of_methodNamed B.named
  have hlocks := B.notSynchronized
  have hS : va_S (AA Γ) s.heap s.heap [] := va_S.rf
  have hl := lv_entry ([.ref (ad 0 0), .int (nI b)]) (n := 2) (Nat.le_of_ble_eq_true rfl)
  rw [lg_entry_eq]
  generalize (lg_sl ([.ref (ad 0 0), .int (nI b)]) ++ List.replicate (2 - (lg_sl ([.ref (ad 0 0), .int (nI b)])).length) Slot.unset).toArray = ls at hl ⊢
  have hl : lv_has ls 2 [(0, .ref (ad 0 0)), (1, .int (nI b))] := hl
  refine lv_iload_n hx hb dX1_balance_0 rfl (lv_at hl 1 rfl) ?_
  refine lv_iconst (v := 3) hx hb dX1_balance_1 (by decide) ?_
  refine g_cv (va_runS (As := [.int (nI b), .int 3]) (rest := []) ⟨hx, hb, hml, hown, hts⟩ (met_X1_exists l Γ ad (shp Γ ad N o Z) (nI b) 3 (exI (n := 3) hb3 (by decide))) (va_cwS 2 hts (lw_S q270 q271 q23 q272) rfl rfl rfl (by decide +kernel) ⟨Nat.le_of_ble_eq_true rfl, Nat.le_of_ble_eq_true rfl⟩) (SF_S hK hS hF) rfl rfl hl.1 rfl (lv_room (Nat.le_of_ble_eq_true rfl)) dX1_balance_2 ⟨Nat.le_of_ble_eq_true rfl, Nat.le_of_ble_eq_true rfl⟩) hS (fun H locs hF hS => ?_)
  refine lv_aload_n hx hb dX1_balance_5 rfl (lv_at hl 0 rfl) ?_
  refine r_get (ci := 0) (v := .ref (ad 0 8)) (T := TX1) (N := 14) hx hb hts in_X1 hown hK hF 0 0 rfl rfl 3 (by decide) (hts _ q119) (fun _ h9 => h9) rfl dX1_balance_6 ?_
  refine lv_iload_n hx hb dX1_balance_9 rfl (lv_at hl 1 rfl) ?_
  refine r_aald (v := .ref (ad 7 b)) hx hb hK hF 0 8 4 rfl rfl rfl b rfl (by omega) (by omega) rfl dX1_balance_10 ?_
  refine g_ci (va_runV (As := []) (rest := []) ⟨hx, hb, hml, hown, hts⟩ (met_X3_balance l Γ ad N o Z b hb3) (cwV 0 hts (lw_V q515 q516 q517 q30 q518) rfl rfl rfl (by decide +kernel) ⟨Nat.le_of_ble_eq_true rfl, Nat.le_of_ble_eq_true rfl⟩) (SF_V hK hS hF (recvF hK hF 7 b (sh_7 hb3 _) rfl)) rfl rfl hl.1 rfl (lv_room (Nat.le_of_ble_eq_true rfl)) dX1_balance_11 ⟨Nat.le_of_ble_eq_true rfl, Nat.le_of_ble_eq_true rfl⟩) hS (fun H locs hF hS => ?_)
  exact g_iret hx hb hr hlocks hF hS dX1_balance_14
set_option maxHeartbeats 4000000 in
set_option maxRecDepth 100000 in
/-- tranche, path A -/
theorem cc_tranche_A (l : Launch) (hst : l.stackTraces = false) (Γ : Gm) (ad : Nat → Nat → Nat) (N : Nat → Nat) (o : Nat → Int64) (Z : Nat → Nat → Nat → Int32) (t : Int32) (h : ¬ (0 ≤ t ∧ t < 6)) : vx_Met l yX1_tranche (ws_ yX1_tranche cX1_tranche 2 (some .int)) ({ frames := 7, cells := 1, slots := 6, locals := 102 }) (va_Pc [.ref (ad 0 0), .int t] (SF Γ ad (shp Γ ad N o Z))) (gNi Γ) (gX Γ (fun E => E = xOB) ad (shp Γ ad N o Z)) 1 6 (AA Γ) := by
  refine vx_ofW (cc := cX1_tranche) (maxL := 2) (ret := (some .int)) (by decide) rfl ?_
  intro p e s m args below meth c s₁ B hml hno hv
  obtain ⟨rfl, hK, hF⟩ := hv
  have hx := B.exec
  have hb := B.bytes
  have hr := B.returns
  have hts := atoms_spec (ws := ws_ yX1_tranche cX1_tranche 2 (some .int)) B.pre
  have hts : ∀ w ∈ lw_all, w.before _ s = true := fun w h => hts w (List.mem_cons_of_mem _ h)
  have hown : s.vm.findClass RX1 = some m.cls := findClass_of_methodNamed B.named
  have hlocks := B.notSynchronized
  have hS : va_S (AA Γ) s.heap s.heap [] := va_S.rf
  have hl := lv_entry ([.ref (ad 0 0), .int t]) (n := 2) (Nat.le_of_ble_eq_true rfl)
  rw [lg_entry_eq]
  generalize (lg_sl ([.ref (ad 0 0), .int t]) ++ List.replicate (2 - (lg_sl ([.ref (ad 0 0), .int t])).length) Slot.unset).toArray = ls at hl ⊢
  have hl : lv_has ls 2 [(0, .ref (ad 0 0)), (1, .int t)] := hl
  refine lv_iload_n hx hb dX1_tranche_0 rfl (lv_at hl 1 rfl) ?_
  refine lv_bipush (v := 6) hx hb dX1_tranche_1 (by decide) ?_
  exact gx_callv (vx_runS (As := [.int t, .int 6]) (rest := []) ⟨hx, hb, hml, hown, hts⟩ (xet_X1_exists l hst Γ ad (shp Γ ad N o Z) t 6 h) (va_cwS 2 hts (lw_S q270 q271 q23 q272) rfl rfl rfl (by decide +kernel) ⟨Nat.le_of_ble_eq_true rfl, Nat.le_of_ble_eq_true rfl⟩) (SF_S hK hS hF) rfl rfl hl.1 rfl (lv_room (Nat.le_of_ble_eq_true rfl)) dX1_tranche_3 ⟨Nat.le_of_ble_eq_true rfl, Nat.le_of_ble_eq_true rfl⟩) hS (gx_pass hno hlocks (Nat.le_of_ble_eq_true rfl) (Nat.le_of_ble_eq_true rfl) (fun _ h => h)) (fun _ _ _ h => h.elim)
set_option maxHeartbeats 4000000 in
set_option maxRecDepth 100000 in
/-- tranche, path B -/
theorem cc_tranche_B (l : Launch) (Γ : Gm) (ad : Nat → Nat → Nat) (N : Nat → Nat) (o : Nat → Int64) (Z : Nat → Nat → Nat → Int32) (t : Nat) (ht : t < 6) : Met l yX1_tranche (ws_ yX1_tranche cX1_tranche 2 (some .int)) ({ frames := 1, cells := 0, slots := 0, locals := 21 }) (va_Pc [.ref (ad 0 0), .int (nI t)] (SF Γ ad (shp Γ ad N o Z))) (gEi Γ (Z 0 2 t) ad (shp Γ ad N o Z)) 0 0 (AA Γ) := by
  refine Met.ofW (cc := cX1_tranche) (maxL := 2) (ret := (some .int)) (by decide) rfl ?_
  intro p e s m args below meth c s₁ B hml hv
  obtain ⟨rfl, hK, hF⟩ := hv
  have hx := B.exec
  have hb := B.bytes
  have hr := B.returns
  have hts := atoms_spec (ws := ws_ yX1_tranche cX1_tranche 2 (some .int)) B.pre
  have hts : ∀ w ∈ lw_all, w.before _ s = true := fun w h => hts w (List.mem_cons_of_mem _ h)
  have hown : s.vm.findClass RX1 = some m.cls := findClass_of_methodNamed B.named
  have hlocks := B.notSynchronized
  have hS : va_S (AA Γ) s.heap s.heap [] := va_S.rf
  have hl := lv_entry ([.ref (ad 0 0), .int (nI t)]) (n := 2) (Nat.le_of_ble_eq_true rfl)
  rw [lg_entry_eq]
  generalize (lg_sl ([.ref (ad 0 0), .int (nI t)]) ++ List.replicate (2 - (lg_sl ([.ref (ad 0 0), .int (nI t)])).length) Slot.unset).toArray = ls at hl ⊢
  have hl : lv_has ls 2 [(0, .ref (ad 0 0)), (1, .int (nI t))] := hl
  refine lv_iload_n hx hb dX1_tranche_0 rfl (lv_at hl 1 rfl) ?_
  refine lv_bipush (v := 6) hx hb dX1_tranche_1 (by decide) ?_
  refine g_cv (va_runS (As := [.int (nI t), .int 6]) (rest := []) ⟨hx, hb, hml, hown, hts⟩ (met_X1_exists l Γ ad (shp Γ ad N o Z) (nI t) 6 (exI (n := 6) ht (by decide))) (va_cwS 2 hts (lw_S q270 q271 q23 q272) rfl rfl rfl (by decide +kernel) ⟨Nat.le_of_ble_eq_true rfl, Nat.le_of_ble_eq_true rfl⟩) (SF_S hK hS hF) rfl rfl hl.1 rfl (lv_room (Nat.le_of_ble_eq_true rfl)) dX1_tranche_3 ⟨Nat.le_of_ble_eq_true rfl, Nat.le_of_ble_eq_true rfl⟩) hS (fun H locs hF hS => ?_)
  refine lv_aload_n hx hb dX1_tranche_6 rfl (lv_at hl 0 rfl) ?_
  refine r_get (ci := 0) (v := .ref (ad 0 2)) (T := TX1) (N := 14) hx hb hts in_X1 hown hK hF 0 0 rfl rfl 4 (by decide) (hts _ q120) (fun _ h9 => h9) rfl dX1_tranche_7 ?_
  refine lv_iload_n hx hb dX1_tranche_10 rfl (lv_at hl 1 rfl) ?_
  refine s_iald hx hb hK hF 0 2 rfl t rfl (by omega) (by omega) dX1_tranche_11 ?_
  exact g_iret hx hb hr hlocks hF hS dX1_tranche_12
set_option maxHeartbeats 4000000 in
set_option maxRecDepth 100000 in
/-- replicaRate, path B -/
theorem cc_replicaRate_B (l : Launch) (Γ : Gm) (ad : Nat → Nat → Nat) (N : Nat → Nat) (o : Nat → Int64) (Z : Nat → Nat → Nat → Int32)  : Met l yX1_replicaRate (ws_ yX1_replicaRate cX1_replicaRate 1 (some .int)) ({ frames := 1, cells := 0, slots := 0, locals := 25 }) (va_Pc [.ref (ad 0 0)] (SF Γ ad (shp Γ ad N o Z))) (gEi Γ (cRep Z) ad (shp Γ ad N o Z)) 0 0 (AA Γ) := by
  refine Met.ofW (cc := cX1_replicaRate) (maxL := 1) (ret := (some .int)) (by decide) rfl ?_
  intro p e s m args below meth c s₁ B hml hv
  obtain ⟨rfl, hK, hF⟩ := hv
  have hx := B.exec
  have hb := B.bytes
  have hr := B.returns
  have hts := atoms_spec (ws := ws_ yX1_replicaRate cX1_replicaRate 1 (some .int)) B.pre
  have hts : ∀ w ∈ lw_all, w.before _ s = true := fun w h => hts w (List.mem_cons_of_mem _ h)
  have hown : s.vm.findClass RX1 = some m.cls := findClass_of_methodNamed B.named
  have hlocks := B.notSynchronized
  have hS : va_S (AA Γ) s.heap s.heap [] := va_S.rf
  have hl := lv_entry ([.ref (ad 0 0)]) (n := 1) (Nat.le_of_ble_eq_true rfl)
  rw [lg_entry_eq]
  generalize (lg_sl ([.ref (ad 0 0)]) ++ List.replicate (1 - (lg_sl ([.ref (ad 0 0)])).length) Slot.unset).toArray = ls at hl ⊢
  have hl : lv_has ls 1 [(0, .ref (ad 0 0))] := hl
  refine lv_aload_n hx hb dX1_replicaRate_0 rfl (lv_at hl 0 rfl) ?_
  refine g_ci (va_runV (As := []) (rest := []) ⟨hx, hb, hml, hown, hts⟩ (cc_replica_B l Γ ad N o Z) (cwV 0 hts (lw_V q181 q183 qs0 q23 q184) rfl rfl rfl (by decide +kernel) ⟨Nat.le_of_ble_eq_true rfl, Nat.le_of_ble_eq_true rfl⟩) (SF_V hK hS hF (recvF hK hF 0 0 rfl rfl)) rfl rfl hl.1 rfl (lv_room (Nat.le_of_ble_eq_true rfl)) dX1_replicaRate_1 ⟨Nat.le_of_ble_eq_true rfl, Nat.le_of_ble_eq_true rfl⟩) hS (fun H locs hF hS => ?_)
  exact g_iret hx hb hr hlocks hF hS dX1_replicaRate_4
set_option maxHeartbeats 4000000 in
set_option maxRecDepth 100000 in
/-- margin, path A -/
theorem cc_margin_A (l : Launch) (hst : l.stackTraces = false) (Γ : Gm) (ad : Nat → Nat → Nat) (N : Nat → Nat) (o : Nat → Int64) (Z : Nat → Nat → Nat → Int32) (b q : Int32) (h : ¬ (0 ≤ b ∧ b < 3)) : vx_Met l yX1_margin (ws_ yX1_margin cX1_margin 3 (some .int)) ({ frames := 7, cells := 1, slots := 6, locals := 102 }) (va_Pc [.ref (ad 0 0), .int b, .int q] (SF Γ ad (shp Γ ad N o Z))) (gNi Γ) (gX Γ (fun E => E = xOB) ad (shp Γ ad N o Z)) 1 6 (AA Γ) := by
  refine vx_ofW (cc := cX1_margin) (maxL := 3) (ret := (some .int)) (by decide) rfl ?_
  intro p e s m args below meth c s₁ B hml hno hv
  obtain ⟨rfl, hK, hF⟩ := hv
  have hx := B.exec
  have hb := B.bytes
  have hr := B.returns
  have hts := atoms_spec (ws := ws_ yX1_margin cX1_margin 3 (some .int)) B.pre
  have hts : ∀ w ∈ lw_all, w.before _ s = true := fun w h => hts w (List.mem_cons_of_mem _ h)
  have hown : s.vm.findClass RX1 = some m.cls := findClass_of_methodNamed B.named
  have hlocks := B.notSynchronized
  have hS : va_S (AA Γ) s.heap s.heap [] := va_S.rf
  have hl := lv_entry ([.ref (ad 0 0), .int b, .int q]) (n := 3) (Nat.le_of_ble_eq_true rfl)
  rw [lg_entry_eq]
  generalize (lg_sl ([.ref (ad 0 0), .int b, .int q]) ++ List.replicate (3 - (lg_sl ([.ref (ad 0 0), .int b, .int q])).length) Slot.unset).toArray = ls at hl ⊢
  have hl : lv_has ls 3 [(0, .ref (ad 0 0)), (1, .int b), (2, .int q)] := hl
  refine lv_iload_n hx hb dX1_margin_0 rfl (lv_at hl 1 rfl) ?_
  refine lv_iconst (v := 3) hx hb dX1_margin_1 (by decide) ?_
  exact gx_callv (vx_runS (As := [.int b, .int 3]) (rest := []) ⟨hx, hb, hml, hown, hts⟩ (xet_X1_exists l hst Γ ad (shp Γ ad N o Z) b 3 h) (va_cwS 2 hts (lw_S q270 q271 q23 q272) rfl rfl rfl (by decide +kernel) ⟨Nat.le_of_ble_eq_true rfl, Nat.le_of_ble_eq_true rfl⟩) (SF_S hK hS hF) rfl rfl hl.1 rfl (lv_room (Nat.le_of_ble_eq_true rfl)) dX1_margin_2 ⟨Nat.le_of_ble_eq_true rfl, Nat.le_of_ble_eq_true rfl⟩) hS (gx_pass hno hlocks (Nat.le_of_ble_eq_true rfl) (Nat.le_of_ble_eq_true rfl) (fun _ h => h)) (fun _ _ _ h => h.elim)
set_option maxHeartbeats 4000000 in
set_option maxRecDepth 100000 in
/-- margin, path E -/
theorem cc_margin_E (l : Launch) (hst : l.stackTraces = false) (Γ : Gm) (ad : Nat → Nat → Nat) (N : Nat → Nat) (o : Nat → Int64) (Z : Nat → Nat → Nat → Int32) (b q : Int32) (h1 : (0 ≤ b ∧ b < 3)) (h : ¬ (0 ≤ q ∧ q < Z 0 0 3)) : vx_Met l yX1_margin (ws_ yX1_margin cX1_margin 3 (some .int)) ({ frames := 7, cells := 1, slots := 6, locals := 102 }) (va_Pc [.ref (ad 0 0), .int b, .int q] (SF Γ ad (shp Γ ad N o Z))) (gNi Γ) (gX Γ (fun E => E = xOB) ad (shp Γ ad N o Z)) 1 6 (AA Γ) := by
  refine vx_ofW (cc := cX1_margin) (maxL := 3) (ret := (some .int)) (by decide) rfl ?_
  intro p e s m args below meth c s₁ B hml hno hv
  obtain ⟨rfl, hK, hF⟩ := hv
  have hx := B.exec
  have hb := B.bytes
  have hr := B.returns
  have hts := atoms_spec (ws := ws_ yX1_margin cX1_margin 3 (some .int)) B.pre
  have hts : ∀ w ∈ lw_all, w.before _ s = true := fun w h => hts w (List.mem_cons_of_mem _ h)
  have hown : s.vm.findClass RX1 = some m.cls := findClass_of_methodNamed B.named
  have hlocks := B.notSynchronized
  have hS : va_S (AA Γ) s.heap s.heap [] := va_S.rf
  have hl := lv_entry ([.ref (ad 0 0), .int b, .int q]) (n := 3) (Nat.le_of_ble_eq_true rfl)
  rw [lg_entry_eq]
  generalize (lg_sl ([.ref (ad 0 0), .int b, .int q]) ++ List.replicate (3 - (lg_sl ([.ref (ad 0 0), .int b, .int q])).length) Slot.unset).toArray = ls at hl ⊢
  have hl : lv_has ls 3 [(0, .ref (ad 0 0)), (1, .int b), (2, .int q)] := hl
  refine lv_iload_n hx hb dX1_margin_0 rfl (lv_at hl 1 rfl) ?_
  refine lv_iconst (v := 3) hx hb dX1_margin_1 (by decide) ?_
  refine g_cv (va_runS (As := [.int b, .int 3]) (rest := []) ⟨hx, hb, hml, hown, hts⟩ (met_X1_exists l Γ ad (shp Γ ad N o Z) b 3 h1) (va_cwS 2 hts (lw_S q270 q271 q23 q272) rfl rfl rfl (by decide +kernel) ⟨Nat.le_of_ble_eq_true rfl, Nat.le_of_ble_eq_true rfl⟩) (SF_S hK hS hF) rfl rfl hl.1 rfl (lv_room (Nat.le_of_ble_eq_true rfl)) dX1_margin_2 ⟨Nat.le_of_ble_eq_true rfl, Nat.le_of_ble_eq_true rfl⟩) hS (fun H locs hF hS => ?_)
  refine lv_iload_n hx hb dX1_margin_5 rfl (lv_at hl 2 rfl) ?_
  refine lv_aload_n hx hb dX1_margin_6 rfl (lv_at hl 0 rfl) ?_
  refine r_get (ci := 0) (v := .int (Z 0 0 3)) (T := TX1) (N := 14) hx hb hts in_X1 hown hK hF 0 0 rfl rfl 13 (by decide) (hts _ q129) (fun _ h9 => h9) rfl dX1_margin_7 ?_
  exact gx_callv (vx_runS (As := [.int q, .int (Z 0 0 3)]) (rest := []) ⟨hx, hb, hml, hown, hts⟩ (xet_X1_exists l hst Γ ad (shp Γ ad N o Z) q (Z 0 0 3) h) (va_cwS 2 hts (lw_S q270 q271 q23 q272) rfl rfl rfl (by decide +kernel) ⟨Nat.le_of_ble_eq_true rfl, Nat.le_of_ble_eq_true rfl⟩) (SF_S hK hS hF) rfl rfl hl.1 rfl (lv_room (Nat.le_of_ble_eq_true rfl)) dX1_margin_10 ⟨Nat.le_of_ble_eq_true rfl, Nat.le_of_ble_eq_true rfl⟩) hS (gx_pass hno hlocks (Nat.le_of_ble_eq_true rfl) (Nat.le_of_ble_eq_true rfl) (fun _ h => h)) (fun _ _ _ h => h.elim)
set_option maxHeartbeats 4000000 in
set_option maxRecDepth 100000 in
/-- margin, path B -/
theorem cc_margin_B (l : Launch) (Γ : Gm) (ad : Nat → Nat → Nat) (N : Nat → Nat) (o : Nat → Int64) (Z : Nat → Nat → Nat → Int32) (b : Nat) (hb3 : b < 3) (k0 mo : Nat) (hk0 : k0 < mo) (hmo : mo ≤ 47) (hnow : Z 0 0 3 = nI mo) : Met l yX1_margin (ws_ yX1_margin cX1_margin 3 (some .int)) ({ frames := 1, cells := 0, slots := 0, locals := 21 }) (va_Pc [.ref (ad 0 0), .int (nI b), .int (nI k0)] (SF Γ ad (shp Γ ad N o Z))) (gEi Γ (Z 1 k0 b) ad (shp Γ ad N o Z)) 0 0 (AA Γ) := by
  refine Met.ofW (cc := cX1_margin) (maxL := 3) (ret := (some .int)) (by decide) rfl ?_
  intro p e s m args below meth c s₁ B hml hv
  obtain ⟨rfl, hK, hF⟩ := hv
  have hx := B.exec
  have hb := B.bytes
  have hr := B.returns
  have hts := atoms_spec (ws := ws_ yX1_margin cX1_margin 3 (some .int)) B.pre
  have hts : ∀ w ∈ lw_all, w.before _ s = true := fun w h => hts w (List.mem_cons_of_mem _ h)
  have hown : s.vm.findClass RX1 = some m.cls := findClass_of_methodNamed B.named
  have hlocks := B.notSynchronized
  have hS : va_S (AA Γ) s.heap s.heap [] := va_S.rf
  have hl := lv_entry ([.ref (ad 0 0), .int (nI b), .int (nI k0)]) (n := 3) (Nat.le_of_ble_eq_true rfl)
  rw [lg_entry_eq]
  generalize (lg_sl ([.ref (ad 0 0), .int (nI b), .int (nI k0)]) ++ List.replicate (3 - (lg_sl ([.ref (ad 0 0), .int (nI b), .int (nI k0)])).length) Slot.unset).toArray = ls at hl ⊢
  have hl : lv_has ls 3 [(0, .ref (ad 0 0)), (1, .int (nI b)), (2, .int (nI k0))] := hl
  refine lv_iload_n hx hb dX1_margin_0 rfl (lv_at hl 1 rfl) ?_
  refine lv_iconst (v := 3) hx hb dX1_margin_1 (by decide) ?_
  refine g_cv (va_runS (As := [.int (nI b), .int 3]) (rest := []) ⟨hx, hb, hml, hown, hts⟩ (met_X1_exists l Γ ad (shp Γ ad N o Z) (nI b) 3 (exI (n := 3) hb3 (by decide))) (va_cwS 2 hts (lw_S q270 q271 q23 q272) rfl rfl rfl (by decide +kernel) ⟨Nat.le_of_ble_eq_true rfl, Nat.le_of_ble_eq_true rfl⟩) (SF_S hK hS hF) rfl rfl hl.1 rfl (lv_room (Nat.le_of_ble_eq_true rfl)) dX1_margin_2 ⟨Nat.le_of_ble_eq_true rfl, Nat.le_of_ble_eq_true rfl⟩) hS (fun H locs hF hS => ?_)
  refine lv_iload_n hx hb dX1_margin_5 rfl (lv_at hl 2 rfl) ?_
  refine lv_aload_n hx hb dX1_margin_6 rfl (lv_at hl 0 rfl) ?_
  refine r_get (ci := 0) (v := .int (Z 0 0 3)) (T := TX1) (N := 14) hx hb hts in_X1 hown hK hF 0 0 rfl rfl 13 (by decide) (hts _ q129) (fun _ h9 => h9) rfl dX1_margin_7 ?_
  refine lv_re hnow ?_
  refine g_cv (va_runS (As := [.int (nI k0), .int (nI mo)]) (rest := []) ⟨hx, hb, hml, hown, hts⟩ (met_X1_exists l Γ ad (shp Γ ad N o Z) (nI k0) (nI mo) (exI hk0 (by omega))) (va_cwS 2 hts (lw_S q270 q271 q23 q272) rfl rfl rfl (by decide +kernel) ⟨Nat.le_of_ble_eq_true rfl, Nat.le_of_ble_eq_true rfl⟩) (SF_S hK hS hF) rfl rfl hl.1 rfl (lv_room (Nat.le_of_ble_eq_true rfl)) dX1_margin_10 ⟨Nat.le_of_ble_eq_true rfl, Nat.le_of_ble_eq_true rfl⟩) hS (fun H locs hF hS => ?_)
  refine lv_aload_n hx hb dX1_margin_13 rfl (lv_at hl 0 rfl) ?_
  refine r_get (ci := 0) (v := .ref (ad 0 10)) (T := TX1) (N := 14) hx hb hts in_X1 hown hK hF 0 0 rfl rfl 6 (by decide) (hts _ q122) (fun _ h9 => h9) rfl dX1_margin_14 ?_
  refine lv_iload_n hx hb dX1_margin_17 rfl (lv_at hl 2 rfl) ?_
  refine r_aald (v := .ref (ad 1 k0)) hx hb hK hF 0 10 6 rfl rfl rfl k0 rfl (by omega) (by omega) rfl dX1_margin_18 ?_
  refine lv_iload_n hx hb dX1_margin_19 rfl (lv_at hl 1 rfl) ?_
  refine s_iald hx hb hK hF 1 k0 (sh_1 (by omega) _) b rfl (by omega) (by omega) dX1_margin_20 ?_
  exact g_iret hx hb hr hlocks hF hS dX1_margin_21
set_option maxHeartbeats 4000000 in
set_option maxRecDepth 100000 in
/-- byProduct, path A -/
theorem cc_byProduct_A (l : Launch) (hst : l.stackTraces = false) (Γ : Gm) (ad : Nat → Nat → Nat) (N : Nat → Nat) (o : Nat → Int64) (Z : Nat → Nat → Nat → Int32) (b q : Int32) (h : ¬ (0 ≤ b ∧ b < 3)) : vx_Met l yX1_byProduct (ws_ yX1_byProduct cX1_byProduct 3 (some .int)) ({ frames := 7, cells := 1, slots := 6, locals := 102 }) (va_Pc [.ref (ad 0 0), .int b, .int q] (SF Γ ad (shp Γ ad N o Z))) (gNi Γ) (gX Γ (fun E => E = xOB) ad (shp Γ ad N o Z)) 1 6 (AA Γ) := by
  refine vx_ofW (cc := cX1_byProduct) (maxL := 3) (ret := (some .int)) (by decide) rfl ?_
  intro p e s m args below meth c s₁ B hml hno hv
  obtain ⟨rfl, hK, hF⟩ := hv
  have hx := B.exec
  have hb := B.bytes
  have hr := B.returns
  have hts := atoms_spec (ws := ws_ yX1_byProduct cX1_byProduct 3 (some .int)) B.pre
  have hts : ∀ w ∈ lw_all, w.before _ s = true := fun w h => hts w (List.mem_cons_of_mem _ h)
  have hown : s.vm.findClass RX1 = some m.cls := findClass_of_methodNamed B.named
  have hlocks := B.notSynchronized
  have hS : va_S (AA Γ) s.heap s.heap [] := va_S.rf
  have hl := lv_entry ([.ref (ad 0 0), .int b, .int q]) (n := 3) (Nat.le_of_ble_eq_true rfl)
  rw [lg_entry_eq]
  generalize (lg_sl ([.ref (ad 0 0), .int b, .int q]) ++ List.replicate (3 - (lg_sl ([.ref (ad 0 0), .int b, .int q])).length) Slot.unset).toArray = ls at hl ⊢
  have hl : lv_has ls 3 [(0, .ref (ad 0 0)), (1, .int b), (2, .int q)] := hl
  refine lv_iload_n hx hb dX1_byProduct_0 rfl (lv_at hl 1 rfl) ?_
  refine lv_iconst (v := 3) hx hb dX1_byProduct_1 (by decide) ?_
  exact gx_callv (vx_runS (As := [.int b, .int 3]) (rest := []) ⟨hx, hb, hml, hown, hts⟩ (xet_X1_exists l hst Γ ad (shp Γ ad N o Z) b 3 h) (va_cwS 2 hts (lw_S q270 q271 q23 q272) rfl rfl rfl (by decide +kernel) ⟨Nat.le_of_ble_eq_true rfl, Nat.le_of_ble_eq_true rfl⟩) (SF_S hK hS hF) rfl rfl hl.1 rfl (lv_room (Nat.le_of_ble_eq_true rfl)) dX1_byProduct_2 ⟨Nat.le_of_ble_eq_true rfl, Nat.le_of_ble_eq_true rfl⟩) hS (gx_pass hno hlocks (Nat.le_of_ble_eq_true rfl) (Nat.le_of_ble_eq_true rfl) (fun _ h => h)) (fun _ _ _ h => h.elim)
set_option maxHeartbeats 4000000 in
set_option maxRecDepth 100000 in
/-- byProduct, path E -/
theorem cc_byProduct_E (l : Launch) (hst : l.stackTraces = false) (Γ : Gm) (ad : Nat → Nat → Nat) (N : Nat → Nat) (o : Nat → Int64) (Z : Nat → Nat → Nat → Int32) (b q : Int32) (h1 : (0 ≤ b ∧ b < 3)) (h : ¬ (0 ≤ q ∧ q < Z 0 0 3)) : vx_Met l yX1_byProduct (ws_ yX1_byProduct cX1_byProduct 3 (some .int)) ({ frames := 7, cells := 1, slots := 6, locals := 102 }) (va_Pc [.ref (ad 0 0), .int b, .int q] (SF Γ ad (shp Γ ad N o Z))) (gNi Γ) (gX Γ (fun E => E = xOB) ad (shp Γ ad N o Z)) 1 6 (AA Γ) := by
  refine vx_ofW (cc := cX1_byProduct) (maxL := 3) (ret := (some .int)) (by decide) rfl ?_
  intro p e s m args below meth c s₁ B hml hno hv
  obtain ⟨rfl, hK, hF⟩ := hv
  have hx := B.exec
  have hb := B.bytes
  have hr := B.returns
  have hts := atoms_spec (ws := ws_ yX1_byProduct cX1_byProduct 3 (some .int)) B.pre
  have hts : ∀ w ∈ lw_all, w.before _ s = true := fun w h => hts w (List.mem_cons_of_mem _ h)
  have hown : s.vm.findClass RX1 = some m.cls := findClass_of_methodNamed B.named
  have hlocks := B.notSynchronized
  have hS : va_S (AA Γ) s.heap s.heap [] := va_S.rf
  have hl := lv_entry ([.ref (ad 0 0), .int b, .int q]) (n := 3) (Nat.le_of_ble_eq_true rfl)
  rw [lg_entry_eq]
  generalize (lg_sl ([.ref (ad 0 0), .int b, .int q]) ++ List.replicate (3 - (lg_sl ([.ref (ad 0 0), .int b, .int q])).length) Slot.unset).toArray = ls at hl ⊢
  have hl : lv_has ls 3 [(0, .ref (ad 0 0)), (1, .int b), (2, .int q)] := hl
  refine lv_iload_n hx hb dX1_byProduct_0 rfl (lv_at hl 1 rfl) ?_
  refine lv_iconst (v := 3) hx hb dX1_byProduct_1 (by decide) ?_
  refine g_cv (va_runS (As := [.int b, .int 3]) (rest := []) ⟨hx, hb, hml, hown, hts⟩ (met_X1_exists l Γ ad (shp Γ ad N o Z) b 3 h1) (va_cwS 2 hts (lw_S q270 q271 q23 q272) rfl rfl rfl (by decide +kernel) ⟨Nat.le_of_ble_eq_true rfl, Nat.le_of_ble_eq_true rfl⟩) (SF_S hK hS hF) rfl rfl hl.1 rfl (lv_room (Nat.le_of_ble_eq_true rfl)) dX1_byProduct_2 ⟨Nat.le_of_ble_eq_true rfl, Nat.le_of_ble_eq_true rfl⟩) hS (fun H locs hF hS => ?_)
  refine lv_iload_n hx hb dX1_byProduct_5 rfl (lv_at hl 2 rfl) ?_
  refine lv_aload_n hx hb dX1_byProduct_6 rfl (lv_at hl 0 rfl) ?_
  refine r_get (ci := 0) (v := .int (Z 0 0 3)) (T := TX1) (N := 14) hx hb hts in_X1 hown hK hF 0 0 rfl rfl 13 (by decide) (hts _ q129) (fun _ h9 => h9) rfl dX1_byProduct_7 ?_
  exact gx_callv (vx_runS (As := [.int q, .int (Z 0 0 3)]) (rest := []) ⟨hx, hb, hml, hown, hts⟩ (xet_X1_exists l hst Γ ad (shp Γ ad N o Z) q (Z 0 0 3) h) (va_cwS 2 hts (lw_S q270 q271 q23 q272) rfl rfl rfl (by decide +kernel) ⟨Nat.le_of_ble_eq_true rfl, Nat.le_of_ble_eq_true rfl⟩) (SF_S hK hS hF) rfl rfl hl.1 rfl (lv_room (Nat.le_of_ble_eq_true rfl)) dX1_byProduct_10 ⟨Nat.le_of_ble_eq_true rfl, Nat.le_of_ble_eq_true rfl⟩) hS (gx_pass hno hlocks (Nat.le_of_ble_eq_true rfl) (Nat.le_of_ble_eq_true rfl) (fun _ h => h)) (fun _ _ _ h => h.elim)
set_option maxHeartbeats 4000000 in
set_option maxRecDepth 100000 in
/-- byProduct, path B -/
theorem cc_byProduct_B (l : Launch) (Γ : Gm) (ad : Nat → Nat → Nat) (N : Nat → Nat) (o : Nat → Int64) (Z : Nat → Nat → Nat → Int32) (b : Nat) (hb3 : b < 3) (k0 mo : Nat) (hk0 : k0 < mo) (hmo : mo ≤ 47) (hnow : Z 0 0 3 = nI mo) : Met l yX1_byProduct (ws_ yX1_byProduct cX1_byProduct 3 (some .int)) ({ frames := 1, cells := 0, slots := 0, locals := 21 }) (va_Pc [.ref (ad 0 0), .int (nI b), .int (nI k0)] (SF Γ ad (shp Γ ad N o Z))) (gEi Γ (Z 2 k0 b) ad (shp Γ ad N o Z)) 0 0 (AA Γ) := by
  refine Met.ofW (cc := cX1_byProduct) (maxL := 3) (ret := (some .int)) (by decide) rfl ?_
  intro p e s m args below meth c s₁ B hml hv
  obtain ⟨rfl, hK, hF⟩ := hv
  have hx := B.exec
  have hb := B.bytes
  have hr := B.returns
  have hts := atoms_spec (ws := ws_ yX1_byProduct cX1_byProduct 3 (some .int)) B.pre
  have hts : ∀ w ∈ lw_all, w.before _ s = true := fun w h => hts w (List.mem_cons_of_mem _ h)
  have hown : s.vm.findClass RX1 = some m.cls := findClass_of_methodNamed B.named
  have hlocks := B.notSynchronized
  have hS : va_S (AA Γ) s.heap s.heap [] := va_S.rf
  have hl := lv_entry ([.ref (ad 0 0), .int (nI b), .int (nI k0)]) (n := 3) (Nat.le_of_ble_eq_true rfl)
  rw [lg_entry_eq]
  generalize (lg_sl ([.ref (ad 0 0), .int (nI b), .int (nI k0)]) ++ List.replicate (3 - (lg_sl ([.ref (ad 0 0), .int (nI b), .int (nI k0)])).length) Slot.unset).toArray = ls at hl ⊢
  have hl : lv_has ls 3 [(0, .ref (ad 0 0)), (1, .int (nI b)), (2, .int (nI k0))] := hl
  refine lv_iload_n hx hb dX1_byProduct_0 rfl (lv_at hl 1 rfl) ?_
  refine lv_iconst (v := 3) hx hb dX1_byProduct_1 (by decide) ?_
  refine g_cv (va_runS (As := [.int (nI b), .int 3]) (rest := []) ⟨hx, hb, hml, hown, hts⟩ (met_X1_exists l Γ ad (shp Γ ad N o Z) (nI b) 3 (exI (n := 3) hb3 (by decide))) (va_cwS 2 hts (lw_S q270 q271 q23 q272) rfl rfl rfl (by decide +kernel) ⟨Nat.le_of_ble_eq_true rfl, Nat.le_of_ble_eq_true rfl⟩) (SF_S hK hS hF) rfl rfl hl.1 rfl (lv_room (Nat.le_of_ble_eq_true rfl)) dX1_byProduct_2 ⟨Nat.le_of_ble_eq_true rfl, Nat.le_of_ble_eq_true rfl⟩) hS (fun H locs hF hS => ?_)
  refine lv_iload_n hx hb dX1_byProduct_5 rfl (lv_at hl 2 rfl) ?_
  refine lv_aload_n hx hb dX1_byProduct_6 rfl (lv_at hl 0 rfl) ?_
  refine r_get (ci := 0) (v := .int (Z 0 0 3)) (T := TX1) (N := 14) hx hb hts in_X1 hown hK hF 0 0 rfl rfl 13 (by decide) (hts _ q129) (fun _ h9 => h9) rfl dX1_byProduct_7 ?_
  refine lv_re hnow ?_
  refine g_cv (va_runS (As := [.int (nI k0), .int (nI mo)]) (rest := []) ⟨hx, hb, hml, hown, hts⟩ (met_X1_exists l Γ ad (shp Γ ad N o Z) (nI k0) (nI mo) (exI hk0 (by omega))) (va_cwS 2 hts (lw_S q270 q271 q23 q272) rfl rfl rfl (by decide +kernel) ⟨Nat.le_of_ble_eq_true rfl, Nat.le_of_ble_eq_true rfl⟩) (SF_S hK hS hF) rfl rfl hl.1 rfl (lv_room (Nat.le_of_ble_eq_true rfl)) dX1_byProduct_10 ⟨Nat.le_of_ble_eq_true rfl, Nat.le_of_ble_eq_true rfl⟩) hS (fun H locs hF hS => ?_)
  refine lv_aload_n hx hb dX1_byProduct_13 rfl (lv_at hl 0 rfl) ?_
  refine r_get (ci := 0) (v := .ref (ad 0 11)) (T := TX1) (N := 14) hx hb hts in_X1 hown hK hF 0 0 rfl rfl 7 (by decide) (hts _ q123) (fun _ h9 => h9) rfl dX1_byProduct_14 ?_
  refine lv_iload_n hx hb dX1_byProduct_17 rfl (lv_at hl 2 rfl) ?_
  refine r_aald (v := .ref (ad 2 k0)) hx hb hK hF 0 11 6 rfl rfl rfl k0 rfl (by omega) (by omega) rfl dX1_byProduct_18 ?_
  refine lv_iload_n hx hb dX1_byProduct_19 rfl (lv_at hl 1 rfl) ?_
  refine s_iald hx hb hK hF 2 k0 (sh_2 (by omega) _) b rfl (by omega) (by omega) dX1_byProduct_20 ?_
  exact g_iret hx hb hr hlocks hF hS dX1_byProduct_21
set_option maxHeartbeats 4000000 in
set_option maxRecDepth 100000 in
/-- treasury, path A -/
theorem cc_treasury_A (l : Launch) (hst : l.stackTraces = false) (Γ : Gm) (ad : Nat → Nat → Nat) (N : Nat → Nat) (o : Nat → Int64) (Z : Nat → Nat → Nat → Int32) (q : Int32) (h : ¬ (0 ≤ q ∧ q < Z 0 0 3)) : vx_Met l yX1_treasury (ws_ yX1_treasury cX1_treasury 2 (some .int)) ({ frames := 7, cells := 1, slots := 6, locals := 102 }) (va_Pc [.ref (ad 0 0), .int q] (SF Γ ad (shp Γ ad N o Z))) (gNi Γ) (gX Γ (fun E => E = xOB) ad (shp Γ ad N o Z)) 1 6 (AA Γ) := by
  refine vx_ofW (cc := cX1_treasury) (maxL := 2) (ret := (some .int)) (by decide) rfl ?_
  intro p e s m args below meth c s₁ B hml hno hv
  obtain ⟨rfl, hK, hF⟩ := hv
  have hx := B.exec
  have hb := B.bytes
  have hr := B.returns
  have hts := atoms_spec (ws := ws_ yX1_treasury cX1_treasury 2 (some .int)) B.pre
  have hts : ∀ w ∈ lw_all, w.before _ s = true := fun w h => hts w (List.mem_cons_of_mem _ h)
  have hown : s.vm.findClass RX1 = some m.cls := findClass_of_methodNamed B.named
  have hlocks := B.notSynchronized
  have hS : va_S (AA Γ) s.heap s.heap [] := va_S.rf
  have hl := lv_entry ([.ref (ad 0 0), .int q]) (n := 2) (Nat.le_of_ble_eq_true rfl)
  rw [lg_entry_eq]
  generalize (lg_sl ([.ref (ad 0 0), .int q]) ++ List.replicate (2 - (lg_sl ([.ref (ad 0 0), .int q])).length) Slot.unset).toArray = ls at hl ⊢
  have hl : lv_has ls 2 [(0, .ref (ad 0 0)), (1, .int q)] := hl
  refine lv_iload_n hx hb dX1_treasury_0 rfl (lv_at hl 1 rfl) ?_
  refine lv_aload_n hx hb dX1_treasury_1 rfl (lv_at hl 0 rfl) ?_
  refine r_get (ci := 0) (v := .int (Z 0 0 3)) (T := TX1) (N := 14) hx hb hts in_X1 hown hK hF 0 0 rfl rfl 13 (by decide) (hts _ q129) (fun _ h9 => h9) rfl dX1_treasury_2 ?_
  exact gx_callv (vx_runS (As := [.int q, .int (Z 0 0 3)]) (rest := []) ⟨hx, hb, hml, hown, hts⟩ (xet_X1_exists l hst Γ ad (shp Γ ad N o Z) q (Z 0 0 3) h) (va_cwS 2 hts (lw_S q270 q271 q23 q272) rfl rfl rfl (by decide +kernel) ⟨Nat.le_of_ble_eq_true rfl, Nat.le_of_ble_eq_true rfl⟩) (SF_S hK hS hF) rfl rfl hl.1 rfl (lv_room (Nat.le_of_ble_eq_true rfl)) dX1_treasury_5 ⟨Nat.le_of_ble_eq_true rfl, Nat.le_of_ble_eq_true rfl⟩) hS (gx_pass hno hlocks (Nat.le_of_ble_eq_true rfl) (Nat.le_of_ble_eq_true rfl) (fun _ h => h)) (fun _ _ _ h => h.elim)
set_option maxHeartbeats 4000000 in
set_option maxRecDepth 100000 in
/-- treasury, path B -/
theorem cc_treasury_B (l : Launch) (Γ : Gm) (ad : Nat → Nat → Nat) (N : Nat → Nat) (o : Nat → Int64) (Z : Nat → Nat → Nat → Int32) (k0 mo : Nat) (hk0 : k0 < mo) (hmo : mo ≤ 47) (hnow : Z 0 0 3 = nI mo) : Met l yX1_treasury (ws_ yX1_treasury cX1_treasury 2 (some .int)) ({ frames := 1, cells := 0, slots := 0, locals := 21 }) (va_Pc [.ref (ad 0 0), .int (nI k0)] (SF Γ ad (shp Γ ad N o Z))) (gEi Γ (Z 0 4 k0) ad (shp Γ ad N o Z)) 0 0 (AA Γ) := by
  refine Met.ofW (cc := cX1_treasury) (maxL := 2) (ret := (some .int)) (by decide) rfl ?_
  intro p e s m args below meth c s₁ B hml hv
  obtain ⟨rfl, hK, hF⟩ := hv
  have hx := B.exec
  have hb := B.bytes
  have hr := B.returns
  have hts := atoms_spec (ws := ws_ yX1_treasury cX1_treasury 2 (some .int)) B.pre
  have hts : ∀ w ∈ lw_all, w.before _ s = true := fun w h => hts w (List.mem_cons_of_mem _ h)
  have hown : s.vm.findClass RX1 = some m.cls := findClass_of_methodNamed B.named
  have hlocks := B.notSynchronized
  have hS : va_S (AA Γ) s.heap s.heap [] := va_S.rf
  have hl := lv_entry ([.ref (ad 0 0), .int (nI k0)]) (n := 2) (Nat.le_of_ble_eq_true rfl)
  rw [lg_entry_eq]
  generalize (lg_sl ([.ref (ad 0 0), .int (nI k0)]) ++ List.replicate (2 - (lg_sl ([.ref (ad 0 0), .int (nI k0)])).length) Slot.unset).toArray = ls at hl ⊢
  have hl : lv_has ls 2 [(0, .ref (ad 0 0)), (1, .int (nI k0))] := hl
  refine lv_iload_n hx hb dX1_treasury_0 rfl (lv_at hl 1 rfl) ?_
  refine lv_aload_n hx hb dX1_treasury_1 rfl (lv_at hl 0 rfl) ?_
  refine r_get (ci := 0) (v := .int (Z 0 0 3)) (T := TX1) (N := 14) hx hb hts in_X1 hown hK hF 0 0 rfl rfl 13 (by decide) (hts _ q129) (fun _ h9 => h9) rfl dX1_treasury_2 ?_
  refine lv_re hnow ?_
  refine g_cv (va_runS (As := [.int (nI k0), .int (nI mo)]) (rest := []) ⟨hx, hb, hml, hown, hts⟩ (met_X1_exists l Γ ad (shp Γ ad N o Z) (nI k0) (nI mo) (exI hk0 (by omega))) (va_cwS 2 hts (lw_S q270 q271 q23 q272) rfl rfl rfl (by decide +kernel) ⟨Nat.le_of_ble_eq_true rfl, Nat.le_of_ble_eq_true rfl⟩) (SF_S hK hS hF) rfl rfl hl.1 rfl (lv_room (Nat.le_of_ble_eq_true rfl)) dX1_treasury_5 ⟨Nat.le_of_ble_eq_true rfl, Nat.le_of_ble_eq_true rfl⟩) hS (fun H locs hF hS => ?_)
  refine lv_aload_n hx hb dX1_treasury_8 rfl (lv_at hl 0 rfl) ?_
  refine r_get (ci := 0) (v := .ref (ad 0 4)) (T := TX1) (N := 14) hx hb hts in_X1 hown hK hF 0 0 rfl rfl 8 (by decide) (hts _ q124) (fun _ h9 => h9) rfl dX1_treasury_9 ?_
  refine lv_iload_n hx hb dX1_treasury_12 rfl (lv_at hl 1 rfl) ?_
  refine s_iald hx hb hK hF 0 4 rfl k0 rfl (by omega) (by omega) dX1_treasury_13 ?_
  exact g_iret hx hb hr hlocks hF hS dX1_treasury_14
set_option maxHeartbeats 4000000 in
set_option maxRecDepth 100000 in
/-- interest, path A -/
theorem cc_interest_A (l : Launch) (hst : l.stackTraces = false) (Γ : Gm) (ad : Nat → Nat → Nat) (N : Nat → Nat) (o : Nat → Int64) (Z : Nat → Nat → Nat → Int32) (q : Int32) (h : ¬ (0 ≤ q ∧ q < Z 0 0 3)) : vx_Met l yX1_interest (ws_ yX1_interest cX1_interest 2 (some .int)) ({ frames := 7, cells := 1, slots := 6, locals := 102 }) (va_Pc [.ref (ad 0 0), .int q] (SF Γ ad (shp Γ ad N o Z))) (gNi Γ) (gX Γ (fun E => E = xOB) ad (shp Γ ad N o Z)) 1 6 (AA Γ) := by
  refine vx_ofW (cc := cX1_interest) (maxL := 2) (ret := (some .int)) (by decide) rfl ?_
  intro p e s m args below meth c s₁ B hml hno hv
  obtain ⟨rfl, hK, hF⟩ := hv
  have hx := B.exec
  have hb := B.bytes
  have hr := B.returns
  have hts := atoms_spec (ws := ws_ yX1_interest cX1_interest 2 (some .int)) B.pre
  have hts : ∀ w ∈ lw_all, w.before _ s = true := fun w h => hts w (List.mem_cons_of_mem _ h)
  have hown : s.vm.findClass RX1 = some m.cls := findClass_of_methodNamed B.named
  have hlocks := B.notSynchronized
  have hS : va_S (AA Γ) s.heap s.heap [] := va_S.rf
  have hl := lv_entry ([.ref (ad 0 0), .int q]) (n := 2) (Nat.le_of_ble_eq_true rfl)
  rw [lg_entry_eq]
  generalize (lg_sl ([.ref (ad 0 0), .int q]) ++ List.replicate (2 - (lg_sl ([.ref (ad 0 0), .int q])).length) Slot.unset).toArray = ls at hl ⊢
  have hl : lv_has ls 2 [(0, .ref (ad 0 0)), (1, .int q)] := hl
  refine lv_iload_n hx hb dX1_interest_0 rfl (lv_at hl 1 rfl) ?_
  refine lv_aload_n hx hb dX1_interest_1 rfl (lv_at hl 0 rfl) ?_
  refine r_get (ci := 0) (v := .int (Z 0 0 3)) (T := TX1) (N := 14) hx hb hts in_X1 hown hK hF 0 0 rfl rfl 13 (by decide) (hts _ q129) (fun _ h9 => h9) rfl dX1_interest_2 ?_
  exact gx_callv (vx_runS (As := [.int q, .int (Z 0 0 3)]) (rest := []) ⟨hx, hb, hml, hown, hts⟩ (xet_X1_exists l hst Γ ad (shp Γ ad N o Z) q (Z 0 0 3) h) (va_cwS 2 hts (lw_S q270 q271 q23 q272) rfl rfl rfl (by decide +kernel) ⟨Nat.le_of_ble_eq_true rfl, Nat.le_of_ble_eq_true rfl⟩) (SF_S hK hS hF) rfl rfl hl.1 rfl (lv_room (Nat.le_of_ble_eq_true rfl)) dX1_interest_5 ⟨Nat.le_of_ble_eq_true rfl, Nat.le_of_ble_eq_true rfl⟩) hS (gx_pass hno hlocks (Nat.le_of_ble_eq_true rfl) (Nat.le_of_ble_eq_true rfl) (fun _ h => h)) (fun _ _ _ h => h.elim)
set_option maxHeartbeats 4000000 in
set_option maxRecDepth 100000 in
/-- interest, path B -/
theorem cc_interest_B (l : Launch) (Γ : Gm) (ad : Nat → Nat → Nat) (N : Nat → Nat) (o : Nat → Int64) (Z : Nat → Nat → Nat → Int32) (k0 mo : Nat) (hk0 : k0 < mo) (hmo : mo ≤ 47) (hnow : Z 0 0 3 = nI mo) : Met l yX1_interest (ws_ yX1_interest cX1_interest 2 (some .int)) ({ frames := 1, cells := 0, slots := 0, locals := 21 }) (va_Pc [.ref (ad 0 0), .int (nI k0)] (SF Γ ad (shp Γ ad N o Z))) (gEi Γ (Z 0 5 k0) ad (shp Γ ad N o Z)) 0 0 (AA Γ) := by
  refine Met.ofW (cc := cX1_interest) (maxL := 2) (ret := (some .int)) (by decide) rfl ?_
  intro p e s m args below meth c s₁ B hml hv
  obtain ⟨rfl, hK, hF⟩ := hv
  have hx := B.exec
  have hb := B.bytes
  have hr := B.returns
  have hts := atoms_spec (ws := ws_ yX1_interest cX1_interest 2 (some .int)) B.pre
  have hts : ∀ w ∈ lw_all, w.before _ s = true := fun w h => hts w (List.mem_cons_of_mem _ h)
  have hown : s.vm.findClass RX1 = some m.cls := findClass_of_methodNamed B.named
  have hlocks := B.notSynchronized
  have hS : va_S (AA Γ) s.heap s.heap [] := va_S.rf
  have hl := lv_entry ([.ref (ad 0 0), .int (nI k0)]) (n := 2) (Nat.le_of_ble_eq_true rfl)
  rw [lg_entry_eq]
  generalize (lg_sl ([.ref (ad 0 0), .int (nI k0)]) ++ List.replicate (2 - (lg_sl ([.ref (ad 0 0), .int (nI k0)])).length) Slot.unset).toArray = ls at hl ⊢
  have hl : lv_has ls 2 [(0, .ref (ad 0 0)), (1, .int (nI k0))] := hl
  refine lv_iload_n hx hb dX1_interest_0 rfl (lv_at hl 1 rfl) ?_
  refine lv_aload_n hx hb dX1_interest_1 rfl (lv_at hl 0 rfl) ?_
  refine r_get (ci := 0) (v := .int (Z 0 0 3)) (T := TX1) (N := 14) hx hb hts in_X1 hown hK hF 0 0 rfl rfl 13 (by decide) (hts _ q129) (fun _ h9 => h9) rfl dX1_interest_2 ?_
  refine lv_re hnow ?_
  refine g_cv (va_runS (As := [.int (nI k0), .int (nI mo)]) (rest := []) ⟨hx, hb, hml, hown, hts⟩ (met_X1_exists l Γ ad (shp Γ ad N o Z) (nI k0) (nI mo) (exI hk0 (by omega))) (va_cwS 2 hts (lw_S q270 q271 q23 q272) rfl rfl rfl (by decide +kernel) ⟨Nat.le_of_ble_eq_true rfl, Nat.le_of_ble_eq_true rfl⟩) (SF_S hK hS hF) rfl rfl hl.1 rfl (lv_room (Nat.le_of_ble_eq_true rfl)) dX1_interest_5 ⟨Nat.le_of_ble_eq_true rfl, Nat.le_of_ble_eq_true rfl⟩) hS (fun H locs hF hS => ?_)
  refine lv_aload_n hx hb dX1_interest_8 rfl (lv_at hl 0 rfl) ?_
  refine r_get (ci := 0) (v := .ref (ad 0 5)) (T := TX1) (N := 14) hx hb hts in_X1 hown hK hF 0 0 rfl rfl 9 (by decide) (hts _ q125) (fun _ h9 => h9) rfl dX1_interest_9 ?_
  refine lv_iload_n hx hb dX1_interest_12 rfl (lv_at hl 1 rfl) ?_
  refine s_iald hx hb hK hF 0 5 rfl k0 rfl (by omega) (by omega) dX1_interest_13 ?_
  exact g_iret hx hb hr hlocks hF hS dX1_interest_14
