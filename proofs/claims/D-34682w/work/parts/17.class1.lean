set_option maxHeartbeats 4000000 in
set_option maxRecDepth 100000 in
/-- account, path B -/
theorem cc_account_B (l : Launch) (Γ : Gm) (ad : Nat → Nat → Nat) (N : Nat → Nat) (o : Nat → Int64) (Z : Nat → Nat → Nat → Int32) (hN : nOk N) (j : Nat) (hj : j < N 0) : Met l yX1_account (ws_ yX1_account cX1_account 2 (some (.object "FundBook$Account"))) ({ frames := 3, cells := 0, slots := 0, locals := 64 }) (va_Pc [.ref (ad 0 0), .int (nI j)] (SF Γ ad (shp Γ ad N o Z))) (gEr Γ (ad 3 j) ad (shp Γ ad N o Z)) 0 0 (AA Γ) := by
  refine Met.ofW (cc := cX1_account) (maxL := 2) (ret := (some (.object "FundBook$Account"))) (by decide) rfl ?_
  intro p e s m args below meth c s₁ B hml hv
  obtain ⟨rfl, hK, hF⟩ := hv
  have hx := B.exec
  have hb := B.bytes
  have hr := B.returns
  have hts := atoms_spec (ws := ws_ yX1_account cX1_account 2 (some (.object "FundBook$Account"))) B.pre
  have hts : ∀ w ∈ lw_all, w.before _ s = true := fun w h => hts w (List.mem_cons_of_mem _ h)
  have hown : s.vm.findClass RX1 = some m.cls := findClass_of_methodNamed B.named
  have hlocks := B.notSynchronized
  have hS : va_S (AA Γ) s.heap s.heap [] := va_S.rf
  have hl := lv_entry ([.ref (ad 0 0), .int (nI j)]) (n := 2) (Nat.le_of_ble_eq_true rfl)
  rw [lg_entry_eq]
  generalize (lg_sl ([.ref (ad 0 0), .int (nI j)]) ++ List.replicate (2 - (lg_sl ([.ref (ad 0 0), .int (nI j)])).length) Slot.unset).toArray = ls at hl ⊢
  have hl : lv_has ls 2 [(0, .ref (ad 0 0)), (1, .int (nI j))] := hl
  refine lv_iload_n hx hb dX1_account_0 rfl (lv_at hl 1 rfl) ?_
  refine lv_aload_n hx hb dX1_account_1 rfl (lv_at hl 0 rfl) ?_
  refine r_get (ci := 0) (v := .ref (ad 0 6)) (T := TX1) (N := 14) hx hb hts in_X1 hown hK hF 0 0 rfl rfl 2 (by decide) (hts _ q118) (fun _ h9 => h9) rfl dX1_account_2 ?_
  refine g_cFi (va_runF (As := []) (rest := [.int (nI j)]) (hK.1.1 1 _ rfl).2 ⟨hx, hb, hml, hown, hts⟩ (met_J2_size l Γ ad (shp Γ ad N o Z) (z := nI (N 0)) rfl) (va_cwF 0 hts (lw_F q168 q172 q174 q28 q176) rfl rfl rfl (hK.face 0 rfl) (by decide +kernel) ⟨Nat.le_of_ble_eq_true rfl, Nat.le_of_ble_eq_true rfl⟩) (SF_V hK hS hF (recvF hK hF 0 6 rfl rfl)) rfl rfl hl.1 rfl (lv_room (Nat.le_of_ble_eq_true rfl)) dX1_account_5 ⟨Nat.le_of_ble_eq_true rfl, Nat.le_of_ble_eq_true rfl⟩) hS (fun H locs hF hS => ?_)
  refine g_cv (va_runS (As := [.int (nI j), .int (nI (N 0))]) (rest := []) ⟨hx, hb, hml, hown, hts⟩ (met_X1_exists l Γ ad (shp Γ ad N o Z) (nI j) (nI (N 0)) (exI hj (by have := hN; unfold nOk at this; omega))) (va_cwS 2 hts (lw_S q270 q271 q23 q272) rfl rfl rfl (by decide +kernel) ⟨Nat.le_of_ble_eq_true rfl, Nat.le_of_ble_eq_true rfl⟩) (SF_S hK hS hF) rfl rfl hl.1 rfl (lv_room (Nat.le_of_ble_eq_true rfl)) dX1_account_10 ⟨Nat.le_of_ble_eq_true rfl, Nat.le_of_ble_eq_true rfl⟩) hS (fun H locs hF hS => ?_)
  refine lv_aload_n hx hb dX1_account_13 rfl (lv_at hl 0 rfl) ?_
  refine r_get (ci := 0) (v := .ref (ad 0 6)) (T := TX1) (N := 14) hx hb hts in_X1 hown hK hF 0 0 rfl rfl 2 (by decide) (hts _ q118) (fun _ h9 => h9) rfl dX1_account_14 ?_
  refine lv_iload_n hx hb dX1_account_17 rfl (lv_at hl 1 rfl) ?_
  refine g_cFr (va_runF (As := [.int (nI j)]) (rest := []) (hK.1.1 1 _ rfl).2 ⟨hx, hb, hml, hown, hts⟩ (met_J2_get l Γ ad (shp Γ ad N o Z) (n := N 0) (cap := N 1) (v := ad 3 j) (sh_06 (by have := hN; unfold nOk at this; omega) _) (sh_07 (by have := hN; unfold nOk at this; omega) _) j hj (by have := hN; unfold nOk at this; omega) (by have := hN; unfold nOk at this; omega) (if_pos hj)) (va_cwF 1 hts (lw_F q472 q475 q477 q28 q479) rfl rfl rfl (hK.face 2 rfl) (by decide +kernel) ⟨Nat.le_of_ble_eq_true rfl, Nat.le_of_ble_eq_true rfl⟩) (SF_V hK hS hF (recvF hK hF 0 6 rfl rfl)) rfl rfl hl.1 rfl (lv_room (Nat.le_of_ble_eq_true rfl)) dX1_account_18 ⟨Nat.le_of_ble_eq_true rfl, Nat.le_of_ble_eq_true rfl⟩) hS (fun H locs hF hS => ?_)
  refine va_castS hx hb hown (hts _ q349) (hK.1.1 3 _ rfl).2 (recvF hK hF 3 j (sh_3 hj _) rfl) dX1_account_23 ?_
  exact g_aret hx hb hr (Or.inl ⟨_, rfl⟩) hlocks hF hS dX1_account_26
set_option maxHeartbeats 4000000 in
set_option maxRecDepth 100000 in
/-- account, path A -/
theorem cc_account_A (l : Launch) (hst : l.stackTraces = false) (Γ : Gm) (ad : Nat → Nat → Nat) (N : Nat → Nat) (o : Nat → Int64) (Z : Nat → Nat → Nat → Int32) (l0 : Int32) (h : ¬ (0 ≤ l0 ∧ l0 < nI (N 0))) : vx_Met l yX1_account (ws_ yX1_account cX1_account 2 (some (.object "FundBook$Account"))) ({ frames := 7, cells := 1, slots := 6, locals := 102 }) (va_Pc [.ref (ad 0 0), .int l0] (SF Γ ad (shp Γ ad N o Z))) (gNr Γ) (gX Γ (fun E => E = xOB) ad (shp Γ ad N o Z)) 1 6 (AA Γ) := by
  refine vx_ofW (cc := cX1_account) (maxL := 2) (ret := (some (.object "FundBook$Account"))) (by decide) rfl ?_
  intro p e s m args below meth c s₁ B hml hno hv
  obtain ⟨rfl, hK, hF⟩ := hv
  have hx := B.exec
  have hb := B.bytes
  have hr := B.returns
  have hts := atoms_spec (ws := ws_ yX1_account cX1_account 2 (some (.object "FundBook$Account"))) B.pre
  have hts : ∀ w ∈ lw_all, w.before _ s = true := fun w h => hts w (List.mem_cons_of_mem _ h)
  have hown : s.vm.findClass RX1 = some m.cls := findClass_of_methodNamed B.named
  have hlocks := B.notSynchronized
  have hS : va_S (AA Γ) s.heap s.heap [] := va_S.rf
  have hl := lv_entry ([.ref (ad 0 0), .int l0]) (n := 2) (Nat.le_of_ble_eq_true rfl)
  rw [lg_entry_eq]
  generalize (lg_sl ([.ref (ad 0 0), .int l0]) ++ List.replicate (2 - (lg_sl ([.ref (ad 0 0), .int l0])).length) Slot.unset).toArray = ls at hl ⊢
  have hl : lv_has ls 2 [(0, .ref (ad 0 0)), (1, .int l0)] := hl
  refine lv_iload_n hx hb dX1_account_0 rfl (lv_at hl 1 rfl) ?_
  refine lv_aload_n hx hb dX1_account_1 rfl (lv_at hl 0 rfl) ?_
  refine r_get (ci := 0) (v := .ref (ad 0 6)) (T := TX1) (N := 14) hx hb hts in_X1 hown hK hF 0 0 rfl rfl 2 (by decide) (hts _ q118) (fun _ h9 => h9) rfl dX1_account_2 ?_
  refine g_cFi (va_runF (As := []) (rest := [.int l0]) (hK.1.1 1 _ rfl).2 ⟨hx, hb, hml, hown, hts⟩ (met_J2_size l Γ ad (shp Γ ad N o Z) (z := nI (N 0)) rfl) (va_cwF 0 hts (lw_F q168 q172 q174 q28 q176) rfl rfl rfl (hK.face 0 rfl) (by decide +kernel) ⟨Nat.le_of_ble_eq_true rfl, Nat.le_of_ble_eq_true rfl⟩) (SF_V hK hS hF (recvF hK hF 0 6 rfl rfl)) rfl rfl hl.1 rfl (lv_room (Nat.le_of_ble_eq_true rfl)) dX1_account_5 ⟨Nat.le_of_ble_eq_true rfl, Nat.le_of_ble_eq_true rfl⟩) hS (fun H locs hF hS => ?_)
  exact gx_callv (vx_runS (As := [.int l0, .int (nI (N 0))]) (rest := []) ⟨hx, hb, hml, hown, hts⟩ (xet_X1_exists l hst Γ ad (shp Γ ad N o Z) l0 (nI (N 0)) h) (va_cwS 2 hts (lw_S q270 q271 q23 q272) rfl rfl rfl (by decide +kernel) ⟨Nat.le_of_ble_eq_true rfl, Nat.le_of_ble_eq_true rfl⟩) (SF_S hK hS hF) rfl rfl hl.1 rfl (lv_room (Nat.le_of_ble_eq_true rfl)) dX1_account_10 ⟨Nat.le_of_ble_eq_true rfl, Nat.le_of_ble_eq_true rfl⟩) hS (gx_pass hno hlocks (Nat.le_of_ble_eq_true rfl) (Nat.le_of_ble_eq_true rfl) (fun _ h => h)) (fun _ _ _ h => h.elim)
set_option maxHeartbeats 4000000 in
set_option maxRecDepth 100000 in
/-- core, path B -/
theorem cc_core_B (l : Launch) (Γ : Gm) (ad : Nat → Nat → Nat) (N : Nat → Nat) (o : Nat → Int64) (Z : Nat → Nat → Nat → Int32)  : Met l yX1_core (ws_ yX1_core cX1_core 3 (some .int)) ({ frames := 1, cells := 0, slots := 0, locals := 20 }) (va_Pc [.ref (ad 0 0)] (SF Γ ad (shp Γ ad N o Z))) (gEi Γ (cCore Z) ad (shp Γ ad N o Z)) 0 0 (AA Γ) := by
  refine Met.ofW (cc := cX1_core) (maxL := 3) (ret := (some .int)) (by decide) rfl ?_
  intro p e s m args below meth c s₁ B hml hv
  obtain ⟨rfl, hK, hF⟩ := hv
  have hx := B.exec
  have hb := B.bytes
  have hr := B.returns
  have hts := atoms_spec (ws := ws_ yX1_core cX1_core 3 (some .int)) B.pre
  have hts : ∀ w ∈ lw_all, w.before _ s = true := fun w h => hts w (List.mem_cons_of_mem _ h)
  have hown : s.vm.findClass RX1 = some m.cls := findClass_of_methodNamed B.named
  have hlocks := B.notSynchronized
  have hS : va_S (AA Γ) s.heap s.heap [] := va_S.rf
  have hl := lv_entry ([.ref (ad 0 0)]) (n := 3) (Nat.le_of_ble_eq_true rfl)
  rw [lg_entry_eq]
  generalize (lg_sl ([.ref (ad 0 0)]) ++ List.replicate (3 - (lg_sl ([.ref (ad 0 0)])).length) Slot.unset).toArray = ls at hl ⊢
  have hl : lv_has ls 3 [(0, .ref (ad 0 0))] := hl
  refine lv_iconst (v := 0) hx hb dX1_core_0 (by decide) ?_
  refine lv_istore_n (lv' := [(1, .int 0), (0, .ref (ad 0 0))]) hx hb dX1_core_1 rfl hl (by decide) rfl (fun ls hl => ?_)
  refine lv_iconst (v := 0) hx hb dX1_core_2 (by decide) ?_
  refine lv_istore_n (lv' := [(2, .int 0), (1, .int 0), (0, .ref (ad 0 0))]) hx hb dX1_core_3 rfl hl (by decide) rfl (fun ls hl => ?_)
  have LP : ∀ (u7 i : Nat) (x1 : Int32) (x2 : Int32) , i + u7 = 3 → 0 ≤ i → x1 = sm (fun k => Z 7 k 0) 0 i → x2 = nI i → ∀ (H : Heap) (locs : List Loc), FF Γ ad (shp Γ ad N o Z) H → va_S (AA Γ) s.heap H locs → ∀ (ls : Array Slot), lv_has ls 3 [(2, .int x2), (1, .int x1), (0, .ref (ad 0 0))] → W p l e (headSpec (ws_ yX1_core cX1_core 3 (some .int)) ({ frames := 1, cells := 0, slots := 0, locals := 20 })).room s m ([.ref (ad 0 0)] : List Value).toArray below meth c H locs 0 0 (MQ below (gEi Γ (cCore Z) ad (shp Γ ad N o Z)) ([.ref (ad 0 0)] : List Value).toArray s 0 0 (AA Γ)) (F0 m 4 ls []) := by
    intro u7
    induction u7 with
    | zero =>
      intro i x1 x2  hi hs e1 e2 H locs hF hS ls hl
      subst e1
      subst e2
      obtain rfl : 3 = i := by omega
      refine lv_iload_n hx hb dX1_core_4 rfl (lv_at hl 0 rfl) ?_
      refine lv_iconst (v := 3) hx hb dX1_core_5 (by decide) ?_
      refine lv_icmp_ge (tgt := 27) hx hb dX1_core_6 (by decide) (fun c6 => ?_) (fun c6 => ?_)
      · refine lv_iload_n hx hb dX1_core_27 rfl (lv_at hl 1 rfl) ?_
        refine lv_i2l hx hb dX1_core_28 rfl ?_
        refine lv_aload_n hx hb dX1_core_29 rfl (lv_at hl 2 rfl) ?_
        refine r_get (ci := 0) (v := .int (Z 0 0 2)) (T := TX1) (N := 14) hx hb hts in_X1 hown hK hF 0 0 rfl rfl 12 (by decide) (hts _ q128) (fun _ h9 => h9) rfl dX1_core_30 ?_
        refine lv_i2l hx hb dX1_core_33 rfl ?_
        refine lv_lmul hx hb dX1_core_34 ?_
        refine lv_ldc2 (v := 100) hx hb hown (hts _ q527) dX1_core_35 ?_
        refine lv_ldiv hx hb dX1_core_38 (by decide) ?_
        refine lv_l2i hx hb dX1_core_39 rfl ?_
        exact g_iret hx hb hr hlocks hF hS dX1_core_40
      · exact absurd (nI_le (a := 3) (b := 3) (Nat.le_refl _) (by omega)) c6
    | succ u7 ih =>
      intro i x1 x2  hi hs e1 e2 H locs hF hS ls hl
      subst e1
      subst e2
      refine lv_iload_n hx hb dX1_core_4 rfl (lv_at hl 0 rfl) ?_
      refine lv_iconst (v := 3) hx hb dX1_core_5 (by decide) ?_
      refine lv_icmp_ge (tgt := 27) hx hb dX1_core_6 (by decide) (fun c6 => ?_) (fun c6 => ?_)
      · exact absurd c6 (nI_ge (a := i) (b := 3) (by omega) (by omega))
      · refine lv_iload_n hx hb dX1_core_9 rfl (lv_at hl 1 rfl) ?_
        refine lv_aload_n hx hb dX1_core_10 rfl (lv_at hl 2 rfl) ?_
        refine r_get (ci := 0) (v := .ref (ad 0 8)) (T := TX1) (N := 14) hx hb hts in_X1 hown hK hF 0 0 rfl rfl 3 (by decide) (hts _ q119) (fun _ h9 => h9) rfl dX1_core_11 ?_
        refine lv_iload_n hx hb dX1_core_14 rfl (lv_at hl 0 rfl) ?_
        refine r_aald (v := .ref (ad 7 i)) hx hb hK hF 0 8 4 rfl rfl rfl i rfl (by omega) (by omega) rfl dX1_core_15 ?_
        refine g_ci (va_runV (As := []) (rest := [.int (sm (fun k => Z 7 k 0) 0 i)]) ⟨hx, hb, hml, hown, hts⟩ (met_X3_balance l Γ ad N o Z i (by omega)) (cwV 0 hts (lw_V q515 q516 q517 q30 q518) rfl rfl rfl (by decide +kernel) ⟨Nat.le_of_ble_eq_true rfl, Nat.le_of_ble_eq_true rfl⟩) (SF_V hK hS hF (recvF hK hF 7 i (sh_7 (by omega) _) rfl)) rfl rfl hl.1 rfl (lv_room (Nat.le_of_ble_eq_true rfl)) dX1_core_16 ⟨Nat.le_of_ble_eq_true rfl, Nat.le_of_ble_eq_true rfl⟩) hS (fun H locs hF hS => ?_)
        refine lv_iadd hx hb dX1_core_19 ?_
        refine lv_istore_n (lv' := [(1, .int ((sm (fun k => Z 7 k 0) 0 i) + (Z 7 i 0))), (2, .int (nI i)), (0, .ref (ad 0 0))]) hx hb dX1_core_20 rfl hl (by decide) rfl (fun ls hl => ?_)
        refine lv_iinc (v := nI (i + 1)) (lv' := [(2, .int (nI (i + 1))), (1, .int ((sm (fun k => Z 7 k 0) 0 i) + (Z 7 i 0))), (0, .ref (ad 0 0))]) hx hb dX1_core_21 hl (k := 1) rfl (nI_1 _) (by decide) rfl (fun ls hl => ?_)
        refine lv_goto (tgt := 4) hx hb dX1_core_24 (by decide) ?_
        exact ih (i + 1) _ _ (by omega) (by omega) (sm_s (Nat.zero_le _)) rfl _ _ hF hS ls (lv_sub hl [0, 1, 2] rfl)
  exact LP (3 - 0) 0 _ _ (by omega) (Nat.le_refl _) rfl rfl _ _ hF hS ls hl
set_option maxHeartbeats 4000000 in
set_option maxRecDepth 100000 in
/-- lay, path B -/
theorem cc_lay_B (l : Launch) (Γ : Gm) (ad : Nat → Nat → Nat) (N : Nat → Nat) (o : Nat → Int64) (Z : Nat → Nat → Nat → Int32) (t : Nat) (ht : t < 6) : Met l yX1_lay (ws_ yX1_lay cX1_lay 2 none) ({ frames := 2, cells := 0, slots := 0, locals := 42 }) (va_Pc [.ref (ad 0 0), .int (nI t)] (SF Γ ad (shp Γ ad N o Z))) (gEv Γ ad (shp Γ ad N o (cLay Z t))) 0 0 (AA Γ) := by
  refine Met.ofW (cc := cX1_lay) (maxL := 2) (ret := none) (by decide) rfl ?_
  intro p e s m args below meth c s₁ B hml hv
  obtain ⟨rfl, hK, hF⟩ := hv
  have hx := B.exec
  have hb := B.bytes
  have hr := B.returns
  have hts := atoms_spec (ws := ws_ yX1_lay cX1_lay 2 none) B.pre
  have hts : ∀ w ∈ lw_all, w.before _ s = true := fun w h => hts w (List.mem_cons_of_mem _ h)
  have hown : s.vm.findClass RX1 = some m.cls := findClass_of_methodNamed B.named
  have hlocks := B.notSynchronized
  have hS : va_S (AA Γ) s.heap s.heap [] := va_S.rf
  have hl := lv_entry ([.ref (ad 0 0), .int (nI t)]) (n := 2) (Nat.le_of_ble_eq_true rfl)
  rw [lg_entry_eq]
  generalize (lg_sl ([.ref (ad 0 0), .int (nI t)]) ++ List.replicate (2 - (lg_sl ([.ref (ad 0 0), .int (nI t)])).length) Slot.unset).toArray = ls at hl ⊢
  have hl : lv_has ls 2 [(0, .ref (ad 0 0)), (1, .int (nI t))] := hl
  refine lv_aload_n hx hb dX1_lay_0 rfl (lv_at hl 0 rfl) ?_
  refine r_get (ci := 0) (v := .ref (ad 0 2)) (T := TX1) (N := 14) hx hb hts in_X1 hown hK hF 0 0 rfl rfl 4 (by decide) (hts _ q120) (fun _ h9 => h9) rfl dX1_lay_1 ?_
  refine lv_iload_n hx hb dX1_lay_4 rfl (lv_at hl 1 rfl) ?_
  refine lv_aload_n hx hb dX1_lay_5 rfl (lv_at hl 0 rfl) ?_
  refine g_ci (va_runV (As := []) (rest := [.int (nI t), .ref (ad 0 2)]) ⟨hx, hb, hml, hown, hts⟩ (cc_core_B l Γ ad N o Z) (cwV 0 hts (lw_V q523 q525 qs7 q23 q526) rfl rfl rfl (by decide +kernel) ⟨Nat.le_of_ble_eq_true rfl, Nat.le_of_ble_eq_true rfl⟩) (SF_V hK hS hF (recvF hK hF 0 0 rfl rfl)) rfl rfl hl.1 rfl (lv_room (Nat.le_of_ble_eq_true rfl)) dX1_lay_6 ⟨Nat.le_of_ble_eq_true rfl, Nat.le_of_ble_eq_true rfl⟩) hS (fun H locs hF hS => ?_)
  refine lv_bipush (v := 6) hx hb dX1_lay_9 (by decide) ?_
  refine lv_idiv hx hb dX1_lay_11 (by decide) ?_
  refine s_iast hx hb hK hF hS 0 2 (fun _ => rfl) t rfl (by omega) (by omega) dX1_lay_12 (fun H locs hF hS => ?_)
  refine lv_aload_n hx hb dX1_lay_13 rfl (lv_at hl 0 rfl) ?_
  refine r_get (ci := 0) (v := .ref (ad 0 3)) (T := TX1) (N := 14) hx hb hts in_X1 hown hK hF 0 0 rfl rfl 5 (by decide) (hts _ q121) (fun _ h9 => h9) rfl dX1_lay_14 ?_
  refine lv_iload_n hx hb dX1_lay_17 rfl (lv_at hl 1 rfl) ?_
  refine lv_aload_n hx hb dX1_lay_18 rfl (lv_at hl 0 rfl) ?_
  refine r_get (ci := 0) (v := .ref (ad 0 1)) (T := TX1) (N := 14) hx hb hts in_X1 hown hK hF 0 0 rfl rfl 1 (by decide) (hts _ q117) (fun _ h9 => h9) rfl dX1_lay_19 ?_
  refine lv_iconst (v := 5) hx hb dX1_lay_22 (by decide) ?_
  refine s_iald hx hb hK hF 0 1 rfl 5 rfl (by decide) (by omega) dX1_lay_23 ?_
  refine s_iast hx hb hK hF hS 0 3 (fun _ => rfl) t rfl (by omega) (by omega) dX1_lay_24 (fun H locs hF hS => ?_)
  exact g_vret hx hb hr hlocks hF hS dX1_lay_25
set_option maxHeartbeats 4000000 in
set_option maxRecDepth 100000 in
/-- replica, path B -/
theorem cc_replica_B (l : Launch) (Γ : Gm) (ad : Nat → Nat → Nat) (N : Nat → Nat) (o : Nat → Int64) (Z : Nat → Nat → Nat → Int32)  : Met l yX1_replica (ws_ yX1_replica cX1_replica 6 (some .int)) ({ frames := 0, cells := 0, slots := 0, locals := 0 }) (va_Pc [.ref (ad 0 0)] (SF Γ ad (shp Γ ad N o Z))) (gEi Γ (cRep Z) ad (shp Γ ad N o Z)) 0 0 (AA Γ) := by
  refine Met.ofW (cc := cX1_replica) (maxL := 6) (ret := (some .int)) (by decide) rfl ?_
  intro p e s m args below meth c s₁ B hml hv
  obtain ⟨rfl, hK, hF⟩ := hv
  have hx := B.exec
  have hb := B.bytes
  have hr := B.returns
  have hts := atoms_spec (ws := ws_ yX1_replica cX1_replica 6 (some .int)) B.pre
  have hts : ∀ w ∈ lw_all, w.before _ s = true := fun w h => hts w (List.mem_cons_of_mem _ h)
  have hown : s.vm.findClass RX1 = some m.cls := findClass_of_methodNamed B.named
  have hlocks := B.notSynchronized
  have hS : va_S (AA Γ) s.heap s.heap [] := va_S.rf
  have hl := lv_entry ([.ref (ad 0 0)]) (n := 6) (Nat.le_of_ble_eq_true rfl)
  rw [lg_entry_eq]
  generalize (lg_sl ([.ref (ad 0 0)]) ++ List.replicate (6 - (lg_sl ([.ref (ad 0 0)])).length) Slot.unset).toArray = ls at hl ⊢
  have hl : lv_has ls 6 [(0, .ref (ad 0 0))] := hl
  refine lv_lconst (v := 0) hx hb dX1_replica_0 (by decide) ?_
  refine lv_lstore_n (lv' := [(1, .long 0), (0, .ref (ad 0 0))]) hx hb dX1_replica_1 rfl hl (by decide) rfl (fun ls hl => ?_)
  refine lv_lconst (v := 0) hx hb dX1_replica_2 (by decide) ?_
  refine lv_lstore_n (lv' := [(3, .long 0), (1, .long 0), (0, .ref (ad 0 0))]) hx hb dX1_replica_3 rfl hl (by decide) rfl (fun ls hl => ?_)
  refine lv_iconst (v := 0) hx hb dX1_replica_4 (by decide) ?_
  refine lv_istore (lv' := [(5, .int 0), (3, .long 0), (1, .long 0), (0, .ref (ad 0 0))]) hx hb dX1_replica_5 hl (by decide) rfl (fun ls hl => ?_)
  have LP : ∀ (u7 i : Nat) (x1 : Int64) (x3 : Int64) (x5 : Int32) , i + u7 = 6 → 0 ≤ i → x1 = smL (fun t => (Z 0 2 t).toInt64 * (Z 0 3 t).toInt64) 0 i → x3 = smL (fun t => (Z 0 2 t).toInt64) 0 i → x5 = nI i → ∀ (H : Heap) (locs : List Loc), FF Γ ad (shp Γ ad N o Z) H → va_S (AA Γ) s.heap H locs → ∀ (ls : Array Slot), lv_has ls 6 [(5, .int x5), (3, .long x3), (1, .long x1), (0, .ref (ad 0 0))] → W p l e (headSpec (ws_ yX1_replica cX1_replica 6 (some .int)) ({ frames := 0, cells := 0, slots := 0, locals := 0 })).room s m ([.ref (ad 0 0)] : List Value).toArray below meth c H locs 0 0 (MQ below (gEi Γ (cRep Z) ad (shp Γ ad N o Z)) ([.ref (ad 0 0)] : List Value).toArray s 0 0 (AA Γ)) (F0 m 7 ls []) := by
    intro u7
    induction u7 with
    | zero =>
      intro i x1 x3 x5  hi hs e1 e3 e5 H locs hF hS ls hl
      subst e1
      subst e3
      subst e5
      obtain rfl : 6 = i := by omega
      refine lv_iload hx hb dX1_replica_7 (lv_at hl 0 rfl) ?_
      refine lv_bipush (v := 6) hx hb dX1_replica_9 (by decide) ?_
      refine lv_icmp_ge (tgt := 51) hx hb dX1_replica_11 (by decide) (fun c11 => ?_) (fun c11 => ?_)
      · refine lv_lload_n hx hb dX1_replica_51 rfl (lv_at hl 1 rfl) ?_
        refine lv_lconst (v := 0) hx hb dX1_replica_52 (by decide) ?_
        refine W.lcmp hx hb dX1_replica_53 ?_
        refine lv_if_ne (tgt := 61) hx hb dX1_replica_54 (by decide) (fun c54 => ?_) (fun c54 => ?_)
        · refine lv_lload_n hx hb dX1_replica_61 rfl (lv_at hl 2 rfl) ?_
          refine lv_lload_n hx hb dX1_replica_62 rfl (lv_at hl 1 rfl) ?_
          refine lv_ldiv hx hb dX1_replica_63 (fun q => c54 ((lg_cmp_eq _ _).mpr q)) ?_
          refine lv_l2i hx hb dX1_replica_64 rfl ?_
          rw [show cRep Z = _ from if_neg (fun q => c54 ((lg_cmp_eq _ _).mpr q))]
          exact g_iret hx hb hr hlocks hF hS dX1_replica_65
        · refine lv_iconst (v := 0) hx hb dX1_replica_57 (by decide) ?_
          refine lv_goto (tgt := 65) hx hb dX1_replica_58 (by decide) ?_
          rw [show cRep Z = _ from if_pos ((lg_cmp_eq _ _).mp c54)]
          exact g_iret hx hb hr hlocks hF hS dX1_replica_65
      · exact absurd (nI_le (a := 6) (b := 6) (Nat.le_refl _) (by omega)) c11
    | succ u7 ih =>
      intro i x1 x3 x5  hi hs e1 e3 e5 H locs hF hS ls hl
      subst e1
      subst e3
      subst e5
      refine lv_iload hx hb dX1_replica_7 (lv_at hl 0 rfl) ?_
      refine lv_bipush (v := 6) hx hb dX1_replica_9 (by decide) ?_
      refine lv_icmp_ge (tgt := 51) hx hb dX1_replica_11 (by decide) (fun c11 => ?_) (fun c11 => ?_)
      · exact absurd c11 (nI_ge (a := i) (b := 6) (by omega) (by omega))
      · refine lv_lload_n hx hb dX1_replica_14 rfl (lv_at hl 2 rfl) ?_
        refine lv_aload_n hx hb dX1_replica_15 rfl (lv_at hl 3 rfl) ?_
        refine r_get (ci := 0) (v := .ref (ad 0 2)) (T := TX1) (N := 14) hx hb hts in_X1 hown hK hF 0 0 rfl rfl 4 (by decide) (hts _ q120) (fun _ h9 => h9) rfl dX1_replica_16 ?_
        refine lv_iload hx hb dX1_replica_19 (lv_at hl 0 rfl) ?_
        refine s_iald hx hb hK hF 0 2 rfl i rfl (by omega) (by omega) dX1_replica_21 ?_
        refine lv_i2l hx hb dX1_replica_22 rfl ?_
        refine lv_aload_n hx hb dX1_replica_23 rfl (lv_at hl 3 rfl) ?_
        refine r_get (ci := 0) (v := .ref (ad 0 3)) (T := TX1) (N := 14) hx hb hts in_X1 hown hK hF 0 0 rfl rfl 5 (by decide) (hts _ q121) (fun _ h9 => h9) rfl dX1_replica_24 ?_
        refine lv_iload hx hb dX1_replica_27 (lv_at hl 0 rfl) ?_
        refine s_iald hx hb hK hF 0 3 rfl i rfl (by omega) (by omega) dX1_replica_29 ?_
        refine lv_i2l hx hb dX1_replica_30 rfl ?_
        refine lv_lmul hx hb dX1_replica_31 ?_
        refine lv_ladd hx hb dX1_replica_32 ?_
        refine lv_lstore_n (lv' := [(1, .long ((smL (fun t => (Z 0 2 t).toInt64 * (Z 0 3 t).toInt64) 0 i) + (((Z 0 2 i).toInt64) * ((Z 0 3 i).toInt64)))), (5, .int (nI i)), (3, .long (smL (fun t => (Z 0 2 t).toInt64) 0 i)), (0, .ref (ad 0 0))]) hx hb dX1_replica_33 rfl hl (by decide) rfl (fun ls hl => ?_)
        refine lv_lload_n hx hb dX1_replica_34 rfl (lv_at hl 2 rfl) ?_
        refine lv_aload_n hx hb dX1_replica_35 rfl (lv_at hl 3 rfl) ?_
        refine r_get (ci := 0) (v := .ref (ad 0 2)) (T := TX1) (N := 14) hx hb hts in_X1 hown hK hF 0 0 rfl rfl 4 (by decide) (hts _ q120) (fun _ h9 => h9) rfl dX1_replica_36 ?_
        refine lv_iload hx hb dX1_replica_39 (lv_at hl 1 rfl) ?_
        refine s_iald hx hb hK hF 0 2 rfl i rfl (by omega) (by omega) dX1_replica_41 ?_
        refine lv_i2l hx hb dX1_replica_42 rfl ?_
        refine lv_ladd hx hb dX1_replica_43 ?_
        refine lv_lstore_n (lv' := [(3, .long ((smL (fun t => (Z 0 2 t).toInt64) 0 i) + ((Z 0 2 i).toInt64))), (1, .long ((smL (fun t => (Z 0 2 t).toInt64 * (Z 0 3 t).toInt64) 0 i) + (((Z 0 2 i).toInt64) * ((Z 0 3 i).toInt64)))), (5, .int (nI i)), (0, .ref (ad 0 0))]) hx hb dX1_replica_44 rfl hl (by decide) rfl (fun ls hl => ?_)
        refine lv_iinc (v := nI (i + 1)) (lv' := [(5, .int (nI (i + 1))), (3, .long ((smL (fun t => (Z 0 2 t).toInt64) 0 i) + ((Z 0 2 i).toInt64))), (1, .long ((smL (fun t => (Z 0 2 t).toInt64 * (Z 0 3 t).toInt64) 0 i) + (((Z 0 2 i).toInt64) * ((Z 0 3 i).toInt64)))), (0, .ref (ad 0 0))]) hx hb dX1_replica_45 hl (k := 2) rfl (nI_1 _) (by decide) rfl (fun ls hl => ?_)
        refine lv_goto (tgt := 7) hx hb dX1_replica_48 (by decide) ?_
        exact ih (i + 1) _ _ _ (by omega) (by omega) (smL_s (Nat.zero_le _)) (smL_s (Nat.zero_le _)) rfl _ _ hF hS ls (lv_sub hl [0, 1, 2, 3] rfl)
  exact LP (6 - 0) 0 _ _ _ (by omega) (Nat.le_refl _) rfl rfl rfl _ _ hF hS ls hl
set_option maxHeartbeats 4000000 in
set_option maxRecDepth 100000 in
/-- credit, path B -/
theorem cc_credit_B (l : Launch) (Γ : Gm) (ad : Nat → Nat → Nat) (N : Nat → Nat) (o : Nat → Int64) (Z : Nat → Nat → Nat → Int32) (k0 : Nat) (hk0 : k0 < 3) : Met l yX1_credit (ws_ yX1_credit cX1_credit 4 (some .int)) ({ frames := 1, cells := 0, slots := 0, locals := 25 }) (va_Pc [.ref (ad 0 0), .ref (ad 7 k0)] (SF Γ ad (shp Γ ad N o Z))) (gEi Γ (cCred Z k0) ad (shp Γ ad N o Z)) 0 0 (AA Γ) := by
  refine Met.ofW (cc := cX1_credit) (maxL := 4) (ret := (some .int)) (by decide) rfl ?_
  intro p e s m args below meth c s₁ B hml hv
  obtain ⟨rfl, hK, hF⟩ := hv
  have hx := B.exec
  have hb := B.bytes
  have hr := B.returns
  have hts := atoms_spec (ws := ws_ yX1_credit cX1_credit 4 (some .int)) B.pre
  have hts : ∀ w ∈ lw_all, w.before _ s = true := fun w h => hts w (List.mem_cons_of_mem _ h)
  have hown : s.vm.findClass RX1 = some m.cls := findClass_of_methodNamed B.named
  have hlocks := B.notSynchronized
  have hS : va_S (AA Γ) s.heap s.heap [] := va_S.rf
  have hl := lv_entry ([.ref (ad 0 0), .ref (ad 7 k0)]) (n := 4) (Nat.le_of_ble_eq_true rfl)
  rw [lg_entry_eq]
  generalize (lg_sl ([.ref (ad 0 0), .ref (ad 7 k0)]) ++ List.replicate (4 - (lg_sl ([.ref (ad 0 0), .ref (ad 7 k0)])).length) Slot.unset).toArray = ls at hl ⊢
  have hl : lv_has ls 4 [(0, .ref (ad 0 0)), (1, .ref (ad 7 k0))] := hl
  refine lv_aload_n hx hb dX1_credit_0 rfl (lv_at hl 1 rfl) ?_
  refine g_ci (va_runV (As := []) (rest := []) ⟨hx, hb, hml, hown, hts⟩ (met_X3_balance l Γ ad N o Z k0 hk0) (cwV 0 hts (lw_V q515 q516 q517 q30 q518) rfl rfl rfl (by decide +kernel) ⟨Nat.le_of_ble_eq_true rfl, Nat.le_of_ble_eq_true rfl⟩) (SF_V hK hS hF (recvF hK hF 7 k0 (sh_7 hk0 _) rfl)) rfl rfl hl.1 rfl (lv_room (Nat.le_of_ble_eq_true rfl)) dX1_credit_1 ⟨Nat.le_of_ble_eq_true rfl, Nat.le_of_ble_eq_true rfl⟩) hS (fun H locs hF hS => ?_)
  refine lv_i2l hx hb dX1_credit_4 rfl ?_
  refine lv_aload_n hx hb dX1_credit_5 rfl (lv_at hl 0 rfl) ?_
  refine r_get (ci := 0) (v := .int (Z 0 0 2)) (T := TX1) (N := 14) hx hb hts in_X1 hown hK hF 0 0 rfl rfl 12 (by decide) (hts _ q128) (fun _ h9 => h9) rfl dX1_credit_6 ?_
  refine lv_i2l hx hb dX1_credit_9 rfl ?_
  refine lv_lmul hx hb dX1_credit_10 ?_
  refine lv_ldc2 (v := 100) hx hb hown (hts _ q527) dX1_credit_11 ?_
  refine lv_ldiv hx hb dX1_credit_14 (by decide) ?_
  refine lv_lstore_n (lv' := [(2, .long ((((Z 7 k0 0).toInt64) * ((Z 0 0 2).toInt64)) / 100)), (0, .ref (ad 0 0)), (1, .ref (ad 7 k0))]) hx hb dX1_credit_15 rfl hl (by decide) rfl (fun ls hl => ?_)
  refine lv_lload_n hx hb dX1_credit_16 rfl (lv_at hl 0 rfl) ?_
  refine lv_aload_n hx hb dX1_credit_17 rfl (lv_at hl 1 rfl) ?_
  refine g_ci (va_runV (As := []) (rest := [.long ((((Z 7 k0 0).toInt64) * ((Z 0 0 2).toInt64)) / 100)]) ⟨hx, hb, hml, hown, hts⟩ (cc_replica_B l Γ ad N o Z) (cwV 0 hts (lw_V q181 q183 qs0 q23 q184) rfl rfl rfl (by decide +kernel) ⟨Nat.le_of_ble_eq_true rfl, Nat.le_of_ble_eq_true rfl⟩) (SF_V hK hS hF (recvF hK hF 0 0 rfl rfl)) rfl rfl hl.1 rfl (lv_room (Nat.le_of_ble_eq_true rfl)) dX1_credit_18 ⟨Nat.le_of_ble_eq_true rfl, Nat.le_of_ble_eq_true rfl⟩) hS (fun H locs hF hS => ?_)
  refine lv_i2l hx hb dX1_credit_21 rfl ?_
  refine lv_lmul hx hb dX1_credit_22 ?_
  refine lv_aload_n hx hb dX1_credit_23 rfl (lv_at hl 2 rfl) ?_
  refine g_ci (va_runV (As := []) (rest := [.long (((((Z 7 k0 0).toInt64) * ((Z 0 0 2).toInt64)) / 100) * ((cRep Z).toInt64))]) ⟨hx, hb, hml, hown, hts⟩ (met_X3_balance l Γ ad N o Z k0 hk0) (cwV 0 hts (lw_V q515 q516 q517 q30 q518) rfl rfl rfl (by decide +kernel) ⟨Nat.le_of_ble_eq_true rfl, Nat.le_of_ble_eq_true rfl⟩) (SF_V hK hS hF (recvF hK hF 7 k0 (sh_7 hk0 _) rfl)) rfl rfl hl.1 rfl (lv_room (Nat.le_of_ble_eq_true rfl)) dX1_credit_24 ⟨Nat.le_of_ble_eq_true rfl, Nat.le_of_ble_eq_true rfl⟩) hS (fun H locs hF hS => ?_)
  refine lv_i2l hx hb dX1_credit_27 rfl ?_
  refine lv_lload_n hx hb dX1_credit_28 rfl (lv_at hl 0 rfl) ?_
  refine lv_lsub hx hb dX1_credit_29 ?_
  refine lv_aload_n hx hb dX1_credit_30 rfl (lv_at hl 1 rfl) ?_
  refine r_get (ci := 0) (v := .ref (ad 0 1)) (T := TX1) (N := 14) hx hb hts in_X1 hown hK hF 0 0 rfl rfl 1 (by decide) (hts _ q117) (fun _ h9 => h9) rfl dX1_credit_31 ?_
  refine lv_iconst (v := 0) hx hb dX1_credit_34 (by decide) ?_
  refine s_iald hx hb hK hF 0 1 rfl 0 rfl (by decide) (by omega) dX1_credit_35 ?_
  refine lv_i2l hx hb dX1_credit_36 rfl ?_
  refine lv_lmul hx hb dX1_credit_37 ?_
  refine lv_ladd hx hb dX1_credit_38 ?_
  refine lv_ldc2 (v := 120000) hx hb hown (hts _ q595) dX1_credit_39 ?_
  refine lv_ldiv hx hb dX1_credit_42 (by decide) ?_
  refine lv_l2i hx hb dX1_credit_43 rfl ?_
  exact g_iret hx hb hr hlocks hF hS dX1_credit_44
set_option maxHeartbeats 4000000 in
set_option maxRecDepth 100000 in
/-- cost, path B -/
theorem cc_cost_B (l : Launch) (Γ : Gm) (ad : Nat → Nat → Nat) (N : Nat → Nat) (o : Nat → Int64) (Z : Nat → Nat → Nat → Int32) (k0 : Nat) (hk0 : k0 < 3) : Met l yX1_cost (ws_ yX1_cost cX1_cost 2 (some .int)) ({ frames := 1, cells := 0, slots := 0, locals := 20 }) (va_Pc [.ref (ad 0 0), .ref (ad 7 k0)] (SF Γ ad (shp Γ ad N o Z))) (gEi Γ (cCost Z k0) ad (shp Γ ad N o Z)) 0 0 (AA Γ) := by
  refine Met.ofW (cc := cX1_cost) (maxL := 2) (ret := (some .int)) (by decide) rfl ?_
  intro p e s m args below meth c s₁ B hml hv
  obtain ⟨rfl, hK, hF⟩ := hv
  have hx := B.exec
  have hb := B.bytes
  have hr := B.returns
  have hts := atoms_spec (ws := ws_ yX1_cost cX1_cost 2 (some .int)) B.pre
  have hts : ∀ w ∈ lw_all, w.before _ s = true := fun w h => hts w (List.mem_cons_of_mem _ h)
  have hown : s.vm.findClass RX1 = some m.cls := findClass_of_methodNamed B.named
  have hlocks := B.notSynchronized
  have hS : va_S (AA Γ) s.heap s.heap [] := va_S.rf
  have hl := lv_entry ([.ref (ad 0 0), .ref (ad 7 k0)]) (n := 2) (Nat.le_of_ble_eq_true rfl)
  rw [lg_entry_eq]
  generalize (lg_sl ([.ref (ad 0 0), .ref (ad 7 k0)]) ++ List.replicate (2 - (lg_sl ([.ref (ad 0 0), .ref (ad 7 k0)])).length) Slot.unset).toArray = ls at hl ⊢
  have hl : lv_has ls 2 [(0, .ref (ad 0 0)), (1, .ref (ad 7 k0))] := hl
  refine lv_aload_n hx hb dX1_cost_0 rfl (lv_at hl 1 rfl) ?_
  refine g_ci (va_runV (As := []) (rest := []) ⟨hx, hb, hml, hown, hts⟩ (met_X3_balance l Γ ad N o Z k0 hk0) (cwV 0 hts (lw_V q515 q516 q517 q30 q518) rfl rfl rfl (by decide +kernel) ⟨Nat.le_of_ble_eq_true rfl, Nat.le_of_ble_eq_true rfl⟩) (SF_V hK hS hF (recvF hK hF 7 k0 (sh_7 hk0 _) rfl)) rfl rfl hl.1 rfl (lv_room (Nat.le_of_ble_eq_true rfl)) dX1_cost_1 ⟨Nat.le_of_ble_eq_true rfl, Nat.le_of_ble_eq_true rfl⟩) hS (fun H locs hF hS => ?_)
  refine lv_i2l hx hb dX1_cost_4 rfl ?_
  refine lv_aload_n hx hb dX1_cost_5 rfl (lv_at hl 0 rfl) ?_
  refine r_get (ci := 0) (v := .int (Z 0 0 0)) (T := TX1) (N := 14) hx hb hts in_X1 hown hK hF 0 0 rfl rfl 10 (by decide) (hts _ q126) (fun _ h9 => h9) rfl dX1_cost_6 ?_
  refine lv_i2l hx hb dX1_cost_9 rfl ?_
  refine lv_lmul hx hb dX1_cost_10 ?_
  refine lv_ldc2 (v := 120000) hx hb hown (hts _ q595) dX1_cost_11 ?_
  refine lv_ldiv hx hb dX1_cost_14 (by decide) ?_
  refine lv_l2i hx hb dX1_cost_15 rfl ?_
  exact g_iret hx hb hr hlocks hF hS dX1_cost_16
set_option maxHeartbeats 4000000 in
set_option maxRecDepth 100000 in
/-- marginOf, path D -/
theorem cc_marginOf_D (l : Launch) (Γ : Gm) (ad : Nat → Nat → Nat) (N : Nat → Nat) (o : Nat → Int64) (Z : Nat → Nat → Nat → Int32) (k0 : Nat) (hk0 : k0 < 3) : Met l yX1_marginOf (ws_ yX1_marginOf cX1_marginOf 4 (some .int)) ({ frames := 2, cells := 0, slots := 0, locals := 48 }) (va_Pc [.ref (ad 0 0), .ref (ad 7 k0), .null] (SF Γ ad (shp Γ ad N o Z))) (gEi Γ (cCred Z k0 - cCost Z k0) ad (shp Γ ad N o Z)) 0 0 (AA Γ) := by
  refine Met.ofW (cc := cX1_marginOf) (maxL := 4) (ret := (some .int)) (by decide) rfl ?_
  intro p e s m args below meth c s₁ B hml hv
  obtain ⟨rfl, hK, hF⟩ := hv
  have hx := B.exec
  have hb := B.bytes
  have hr := B.returns
  have hts := atoms_spec (ws := ws_ yX1_marginOf cX1_marginOf 4 (some .int)) B.pre
  have hts : ∀ w ∈ lw_all, w.before _ s = true := fun w h => hts w (List.mem_cons_of_mem _ h)
  have hown : s.vm.findClass RX1 = some m.cls := findClass_of_methodNamed B.named
  have hlocks := B.notSynchronized
  have hS : va_S (AA Γ) s.heap s.heap [] := va_S.rf
  have hl := lv_entry ([.ref (ad 0 0), .ref (ad 7 k0), .null]) (n := 4) (Nat.le_of_ble_eq_true rfl)
  rw [lg_entry_eq]
  generalize (lg_sl ([.ref (ad 0 0), .ref (ad 7 k0), .null]) ++ List.replicate (4 - (lg_sl ([.ref (ad 0 0), .ref (ad 7 k0), .null])).length) Slot.unset).toArray = ls at hl ⊢
  have hl : lv_has ls 4 [(0, .ref (ad 0 0)), (1, .ref (ad 7 k0)), (2, .null)] := hl
  refine lv_aload_n hx hb dX1_marginOf_0 rfl (lv_at hl 1 rfl) ?_
  refine va_instNo hx hb hown (hts _ q351) (hK.nocast 3 rfl) (recvF hK hF 7 k0 (sh_7 hk0 _) rfl) dX1_marginOf_1 ?_
  refine lv_if_eq (tgt := 15) hx hb dX1_marginOf_4 (by decide) (fun _ => ?_) (fun c4 => absurd (by decide) c4)
  refine lv_aload_n hx hb dX1_marginOf_15 rfl (lv_at hl 1 rfl) ?_
  refine va_castS hx hb hown (hts _ q97) (hK.1.1 2 _ rfl).2 (recvF hK hF 7 k0 (sh_7 hk0 _) rfl) dX1_marginOf_16 ?_
  refine lv_astore_n (lv' := [(3, .ref (ad 7 k0)), (0, .ref (ad 0 0)), (1, .ref (ad 7 k0)), (2, .null)]) hx hb dX1_marginOf_19 rfl hl (by decide) rfl (fun ls hl => ?_)
  refine lv_aload_n hx hb dX1_marginOf_20 rfl (lv_at hl 1 rfl) ?_
  refine lv_aload_n hx hb dX1_marginOf_21 rfl (lv_at hl 0 rfl) ?_
  refine g_ci (va_runV (As := [.ref (ad 7 k0)]) (rest := []) ⟨hx, hb, hml, hown, hts⟩ (cc_credit_B l Γ ad N o Z k0 hk0) (cwV 1 hts (lw_V q591 q593 qs10 q23 q594) rfl rfl rfl (by decide +kernel) ⟨Nat.le_of_ble_eq_true rfl, Nat.le_of_ble_eq_true rfl⟩) (SF_V hK hS hF (recvF hK hF 0 0 rfl rfl)) rfl rfl hl.1 rfl (lv_room (Nat.le_of_ble_eq_true rfl)) dX1_marginOf_22 ⟨Nat.le_of_ble_eq_true rfl, Nat.le_of_ble_eq_true rfl⟩) hS (fun H locs hF hS => ?_)
  refine lv_aload_n hx hb dX1_marginOf_25 rfl (lv_at hl 1 rfl) ?_
  refine lv_aload_n hx hb dX1_marginOf_26 rfl (lv_at hl 0 rfl) ?_
  refine g_ci (va_runV (As := [.ref (ad 7 k0)]) (rest := [.int (cCred Z k0)]) ⟨hx, hb, hml, hown, hts⟩ (cc_cost_B l Γ ad N o Z k0 hk0) (cwV 1 hts (lw_V q596 q598 qs11 q23 q599) rfl rfl rfl (by decide +kernel) ⟨Nat.le_of_ble_eq_true rfl, Nat.le_of_ble_eq_true rfl⟩) (SF_V hK hS hF (recvF hK hF 0 0 rfl rfl)) rfl rfl hl.1 rfl (lv_room (Nat.le_of_ble_eq_true rfl)) dX1_marginOf_27 ⟨Nat.le_of_ble_eq_true rfl, Nat.le_of_ble_eq_true rfl⟩) hS (fun H locs hF hS => ?_)
  refine lv_isub hx hb dX1_marginOf_30 ?_
  exact g_iret hx hb hr hlocks hF hS dX1_marginOf_31
set_option maxHeartbeats 4000000 in
set_option maxRecDepth 100000 in
/-- marginOf, path L -/
theorem cc_marginOf_L (l : Launch) (Γ : Gm) (ad : Nat → Nat → Nat) (N : Nat → Nat) (o : Nat → Int64) (Z : Nat → Nat → Nat → Int32) (j : Nat) (hj : j < N 0) (hlo : cLo Z N j) : Met l yX1_marginOf (ws_ yX1_marginOf cX1_marginOf 4 (some .int)) ({ frames := 4, cells := 0, slots := 0, locals := 85 }) (va_Pc [.ref (ad 0 0), .ref (ad 4 j), .ref (ad 3 j)] (SF Γ ad (shp Γ ad N o Z))) (gEi Γ (cMar Z N j) ad (shp Γ ad N o Z)) 0 0 (AA Γ) := by
  refine Met.ofW (cc := cX1_marginOf) (maxL := 4) (ret := (some .int)) (by decide) rfl ?_
  intro p e s m args below meth c s₁ B hml hv
  obtain ⟨rfl, hK, hF⟩ := hv
  have hx := B.exec
  have hb := B.bytes
  have hr := B.returns
  have hts := atoms_spec (ws := ws_ yX1_marginOf cX1_marginOf 4 (some .int)) B.pre
  have hts : ∀ w ∈ lw_all, w.before _ s = true := fun w h => hts w (List.mem_cons_of_mem _ h)
  have hown : s.vm.findClass RX1 = some m.cls := findClass_of_methodNamed B.named
  have hlocks := B.notSynchronized
  have hS : va_S (AA Γ) s.heap s.heap [] := va_S.rf
  have hl := lv_entry ([.ref (ad 0 0), .ref (ad 4 j), .ref (ad 3 j)]) (n := 4) (Nat.le_of_ble_eq_true rfl)
  rw [lg_entry_eq]
  generalize (lg_sl ([.ref (ad 0 0), .ref (ad 4 j), .ref (ad 3 j)]) ++ List.replicate (4 - (lg_sl ([.ref (ad 0 0), .ref (ad 4 j), .ref (ad 3 j)])).length) Slot.unset).toArray = ls at hl ⊢
  have hl : lv_has ls 4 [(0, .ref (ad 0 0)), (1, .ref (ad 4 j)), (2, .ref (ad 3 j))] := hl
  refine lv_aload_n hx hb dX1_marginOf_0 rfl (lv_at hl 1 rfl) ?_
  refine va_instS hx hb hown (hts _ q351) (hK.1.1 4 _ rfl).2 (recvF hK hF 4 j (sh_4 hj _) rfl) dX1_marginOf_1 ?_
  refine lv_if_eq (tgt := 15) hx hb dX1_marginOf_4 (by decide) (fun c4 => absurd c4 (by decide)) (fun _ => ?_)
  refine va_gets hx hb (hK.2.2.2.2.2.1 3 (by decide)).1 hS hown (hts _ q543) (fun _ h9 => h9) dX1_marginOf_7 ?_
  refine lv_aload_n hx hb dX1_marginOf_10 rfl (lv_at hl 2 rfl) ?_
  refine g_ci (va_runU (As := [.ref (ad 3 j)]) (rest := []) ⟨hx, hb, hml, hown, hts⟩ (met_X7_of l Γ ad N o Z j hj hlo) (va_cwA 1 hts (lw_U q545 q547 q578 q579 q48 q580) rfl rfl rfl (hK.word (args := #[]) 1 rfl) (by decide +kernel) ⟨Nat.le_of_ble_eq_true rfl, Nat.le_of_ble_eq_true rfl⟩) (SF_V hK hS hF (recvB hK hS (i := 3) (by decide))) rfl rfl hl.1 rfl (lv_room (Nat.le_of_ble_eq_true rfl)) dX1_marginOf_11 ⟨Nat.le_of_ble_eq_true rfl, Nat.le_of_ble_eq_true rfl⟩) hS (fun H locs hF hS => ?_)
  exact g_iret hx hb hr hlocks hF hS dX1_marginOf_14
set_option maxHeartbeats 4000000 in
set_option maxRecDepth 100000 in
/-- reckon: rows 2 to 133 -/
theorem rk_1 (l : Launch) (Γ : Gm) (ad : Nat → Nat → Nat) (N : Nat → Nat) (o : Nat → Int64) (Y : Nat → Nat → Nat → Int32) (hN : nOk N) (mo : Nat) (hmo : mo < 47) (hnow : Y 0 0 3 = nI mo) {p : Program} {e : Env} {s : State} {m : MethodId} {args : Array Value} {below : List Frame} {meth : Method} {c : Code} {Q : State → Prop} {H : Heap} {locs : List Loc} {ls : Array Slot} (hml : c.maxLocals = 4) (hx : p.tables.exec = Jvm.exec) (hb : c.code = cX1_reckon) (hown : s.vm.findClass RX1 = some m.cls) (hts : ∀ w ∈ lw_all, w.before args s = true) (hK : Kn Γ s s.heap) (hL : ∀ j, j < N 0 → cLo Y N j) (hF : FF Γ ad (shp Γ ad N o Y) H) (hS : va_S (AA Γ) s.heap H locs) (hl : lv_has ls 4 [(1, .int 0), (0, .ref (ad 0 0))])
    (kk : ∀ (H : Heap) (locs : List Loc) (ls : Array Slot), FF Γ ad (shp Γ ad N o (cMon Y N mo (N 0))) H → va_S (AA Γ) s.heap H locs → lv_has ls 4 [(0, .ref (ad 0 0))] → W p l e (headSpec (ws_ yX1_reckon cX1_reckon 4 none) ({ frames := 8, cells := 0, slots := 0, locals := 260 })).room s m args below meth c H locs 0 0 Q (F0 m 133 ls [])) :
    W p l e (headSpec (ws_ yX1_reckon cX1_reckon 4 none) ({ frames := 8, cells := 0, slots := 0, locals := 260 })).room s m args below meth c H locs 0 0 Q (F0 m 2 ls []) := by
  have hN1 := hN
  unfold nOk at hN1
  have L1 : ∀ (u7 i : Nat) (x1 : Int32) , i + u7 = N 0 → 0 ≤ i → x1 = nI i → ∀ (H : Heap) (locs : List Loc), FF Γ ad (shp Γ ad N o (cMon Y N mo i)) H → va_S (AA Γ) s.heap H locs → ∀ (ls : Array Slot), lv_has ls 4 [(1, .int x1), (0, .ref (ad 0 0))] → W p l e (headSpec (ws_ yX1_reckon cX1_reckon 4 none) ({ frames := 8, cells := 0, slots := 0, locals := 260 })).room s m args below meth c H locs 0 0 Q (F0 m 2 ls []) := by
    intro u7
    induction u7 with
    | zero =>
      intro i x1  hi hs e1 H locs hF hS ls hl
      subst e1
      obtain rfl : N 0 = i := by omega
      refine lv_iload_n hx hb dX1_reckon_2 rfl (lv_at hl 0 rfl) ?_
      refine lv_aload_n hx hb dX1_reckon_3 rfl (lv_at hl 1 rfl) ?_
      refine r_get (ci := 0) (v := .ref (ad 0 6)) (T := TX1) (N := 14) hx hb hts in_X1 hown hK hF 0 0 rfl rfl 2 (by decide) (hts _ q118) (fun _ h9 => h9) rfl dX1_reckon_4 ?_
      refine g_cFi (va_runF (As := []) (rest := [.int (nI (N 0))]) (hK.1.1 1 _ rfl).2 ⟨hx, hb, hml, hown, hts⟩ (met_J2_size l Γ ad (shp Γ ad N o (cMon Y N mo (N 0))) (z := nI (N 0)) rfl) (va_cwF 0 hts (lw_F q168 q172 q174 q28 q176) rfl rfl rfl (hK.face 0 rfl) (by decide +kernel) ⟨Nat.le_of_ble_eq_true rfl, Nat.le_of_ble_eq_true rfl⟩) (SF_V hK hS hF (recvF hK hF 0 6 rfl rfl)) rfl rfl hl.1 rfl (lv_room (Nat.le_of_ble_eq_true rfl)) dX1_reckon_7 ⟨Nat.le_of_ble_eq_true rfl, Nat.le_of_ble_eq_true rfl⟩) hS (fun H locs hF hS => ?_)
      refine lv_icmp_ge (tgt := 133) hx hb dX1_reckon_12 (by decide) (fun c12 => ?_) (fun c12 => ?_)
      · exact kk _ _ _ hF hS (lv_sub hl [1] rfl)
      · exact absurd (nI_le (a := N 0) (b := N 0) (Nat.le_refl _) (by omega)) c12
    | succ u7 ih =>
      intro i x1  hi hs e1 H locs hF hS ls hl
      subst e1
      refine lv_iload_n hx hb dX1_reckon_2 rfl (lv_at hl 0 rfl) ?_
      refine lv_aload_n hx hb dX1_reckon_3 rfl (lv_at hl 1 rfl) ?_
      refine r_get (ci := 0) (v := .ref (ad 0 6)) (T := TX1) (N := 14) hx hb hts in_X1 hown hK hF 0 0 rfl rfl 2 (by decide) (hts _ q118) (fun _ h9 => h9) rfl dX1_reckon_4 ?_
      refine g_cFi (va_runF (As := []) (rest := [.int (nI i)]) (hK.1.1 1 _ rfl).2 ⟨hx, hb, hml, hown, hts⟩ (met_J2_size l Γ ad (shp Γ ad N o (cMon Y N mo i)) (z := nI (N 0)) rfl) (va_cwF 0 hts (lw_F q168 q172 q174 q28 q176) rfl rfl rfl (hK.face 0 rfl) (by decide +kernel) ⟨Nat.le_of_ble_eq_true rfl, Nat.le_of_ble_eq_true rfl⟩) (SF_V hK hS hF (recvF hK hF 0 6 rfl rfl)) rfl rfl hl.1 rfl (lv_room (Nat.le_of_ble_eq_true rfl)) dX1_reckon_7 ⟨Nat.le_of_ble_eq_true rfl, Nat.le_of_ble_eq_true rfl⟩) hS (fun H locs hF hS => ?_)
      refine lv_icmp_ge (tgt := 133) hx hb dX1_reckon_12 (by decide) (fun c12 => ?_) (fun c12 => ?_)
      · exact absurd c12 (nI_ge (a := i) (b := N 0) (by omega) (by omega))
      · have hLi := hL i (by omega)
        obtain ⟨-, -, -, -, hbr, hpr⟩ := id hLi
        have hbr2 := hbr.2
        have hpr2 := hpr.2
        refine lv_aload_n hx hb dX1_reckon_15 rfl (lv_at hl 1 rfl) ?_
        refine r_get (ci := 0) (v := .ref (ad 0 6)) (T := TX1) (N := 14) hx hb hts in_X1 hown hK hF 0 0 rfl rfl 2 (by decide) (hts _ q118) (fun _ h9 => h9) rfl dX1_reckon_16 ?_
        refine lv_iload_n hx hb dX1_reckon_19 rfl (lv_at hl 0 rfl) ?_
        refine g_cFr (va_runF (As := [.int (nI i)]) (rest := []) (hK.1.1 1 _ rfl).2 ⟨hx, hb, hml, hown, hts⟩ (met_J2_get l Γ ad (shp Γ ad N o (cMon Y N mo i)) (n := N 0) (cap := N 1) (v := ad 3 i) (sh_06 (by have := hN; unfold nOk at this; omega) _) (sh_07 (by have := hN; unfold nOk at this; omega) _) i (by omega) (by have := hN; unfold nOk at this; omega) (by have := hN; unfold nOk at this; omega) (if_pos (by omega))) (va_cwF 1 hts (lw_F q472 q475 q477 q28 q479) rfl rfl rfl (hK.face 2 rfl) (by decide +kernel) ⟨Nat.le_of_ble_eq_true rfl, Nat.le_of_ble_eq_true rfl⟩) (SF_V hK hS hF (recvF hK hF 0 6 rfl rfl)) rfl rfl hl.1 rfl (lv_room (Nat.le_of_ble_eq_true rfl)) dX1_reckon_20 ⟨Nat.le_of_ble_eq_true rfl, Nat.le_of_ble_eq_true rfl⟩) hS (fun H locs hF hS => ?_)
        refine va_castS hx hb hown (hts _ q349) (hK.1.1 3 _ rfl).2 (recvF hK hF 3 i (sh_3 (by omega) _) rfl) dX1_reckon_25 ?_
        refine lv_astore_n (lv' := [(2, .ref (ad 3 i)), (1, .int (nI i)), (0, .ref (ad 0 0))]) hx hb dX1_reckon_28 rfl hl (by decide) rfl (fun ls hl => ?_)
        refine lv_aload_n hx hb dX1_reckon_29 rfl (lv_at hl 2 rfl) ?_
        refine lv_aload_n hx hb dX1_reckon_30 rfl (lv_at hl 0 rfl) ?_
        refine r_get (ci := 3) (v := .ref (ad 4 i)) (T := TX5) (N := 2) hx hb hts in_X5 hown hK hF 3 i (sh_3 (by omega) _) rfl 0 (by decide) (hts _ q386) (fun _ h9 => h9) rfl dX1_reckon_31 ?_
        refine lv_aload_n hx hb dX1_reckon_34 rfl (lv_at hl 0 rfl) ?_
        refine g_ci (va_runV (As := [.ref (ad 4 i), .ref (ad 3 i)]) (rest := []) ⟨hx, hb, hml, hown, hts⟩ (Met.val (cc_marginOf_L l Γ ad N o (cMon Y N mo i) i (by omega) (cLo_c (cMon_o Y N mo (x := 3) (y := i) (by simp) i) (cMon_o Y N mo (x := 4) (y := i) (by simp) i) hLi)) (cMar_c (cMon_o Y N mo (x := 3) (y := i) (by simp) i) (cMon_o Y N mo (x := 4) (y := i) (by simp) i) (cMon_o Y N mo (x := 5) (y := i) (by simp) i) (cMon_o Y N mo (x := 6) (y := i) (by simp) i))) (cwV 2 hts (lw_V q539 q541 qs9 q23 q542) rfl rfl rfl (by decide +kernel) ⟨Nat.le_of_ble_eq_true rfl, Nat.le_of_ble_eq_true rfl⟩) (SF_V hK hS hF (recvF hK hF 0 0 rfl rfl)) rfl rfl hl.1 rfl (lv_room (Nat.le_of_ble_eq_true rfl)) dX1_reckon_35 ⟨Nat.le_of_ble_eq_true rfl, Nat.le_of_ble_eq_true rfl⟩) hS (fun H locs hF hS => ?_)
        refine lv_istore_n (lv' := [(3, .int (cMar Y N i)), (2, .ref (ad 3 i)), (1, .int (nI i)), (0, .ref (ad 0 0))]) hx hb dX1_reckon_38 rfl hl (by decide) rfl (fun ls hl => ?_)
        refine lv_aload_n hx hb dX1_reckon_39 rfl (lv_at hl 3 rfl) ?_
        refine r_get (ci := 0) (v := .ref (ad 0 10)) (T := TX1) (N := 14) hx hb hts in_X1 hown hK hF 0 0 rfl rfl 6 (by decide) (hts _ q122) (fun _ h9 => h9) rfl dX1_reckon_40 ?_
        refine lv_aload_n hx hb dX1_reckon_43 rfl (lv_at hl 3 rfl) ?_
        refine r_get (ci := 0) (v := .int ((cMon Y N mo i) 0 0 3)) (T := TX1) (N := 14) hx hb hts in_X1 hown hK hF 0 0 rfl rfl 13 (by decide) (hts _ q129) (fun _ h9 => h9) rfl dX1_reckon_44 ?_
        refine lv_re ((congrFun (cMon_o Y N mo (x := 0) (y := 0) (by simp) i) 3).trans hnow) ?_
        refine r_aald (v := .ref (ad 1 mo)) hx hb hK hF 0 10 6 rfl rfl rfl mo rfl (by omega) (by omega) rfl dX1_reckon_47 ?_
        refine lv_aload_n hx hb dX1_reckon_48 rfl (lv_at hl 1 rfl) ?_
        refine r_get (ci := 3) (v := .ref (ad 4 i)) (T := TX5) (N := 2) hx hb hts in_X5 hown hK hF 3 i (sh_3 (by omega) _) rfl 0 (by decide) (hts _ q386) (fun _ h9 => h9) rfl dX1_reckon_49 ?_
        refine g_ci (va_runV (As := []) (rest := [.ref (ad 1 mo)]) ⟨hx, hb, hml, hown, hts⟩ (met_X6_branch l Γ ad N o (cMon Y N mo i) i (by omega)) (cwV 0 hts (lw_V q600 q601 q602 q41 q603) rfl rfl rfl (by decide +kernel) ⟨Nat.le_of_ble_eq_true rfl, Nat.le_of_ble_eq_true rfl⟩) (SF_V hK hS hF (recvF hK hF 4 i (sh_4 (by omega) _) rfl)) rfl rfl hl.1 rfl (lv_room (Nat.le_of_ble_eq_true rfl)) dX1_reckon_52 ⟨Nat.le_of_ble_eq_true rfl, Nat.le_of_ble_eq_true rfl⟩) hS (fun H locs hF hS => ?_)
        refine lv_re ((congrFun (cMon_o Y N mo (x := 4) (y := i) (by simp) i) 0).trans hbr.1) ?_
        refine lv_dup2_11 hx hb dX1_reckon_55 rfl rfl ?_
        refine s_iald hx hb hK hF 1 mo (sh_1 (by omega) _) (nz (Y 4 i 0)) rfl (by omega) (by omega) dX1_reckon_56 ?_
        refine lv_iload_n hx hb dX1_reckon_57 rfl (lv_at hl 0 rfl) ?_
        refine lv_iadd hx hb dX1_reckon_58 ?_
        refine s_iast hx hb hK hF hS 1 mo (fun _ => sh_1 (by omega) _) (nz (Y 4 i 0)) rfl (by omega) (by omega) dX1_reckon_59 (fun H locs hF hS => ?_)
        refine lv_aload_n hx hb dX1_reckon_60 rfl (lv_at hl 3 rfl) ?_
        refine r_get (ci := 0) (v := .ref (ad 0 11)) (T := TX1) (N := 14) hx hb hts in_X1 hown hK hF 0 0 rfl rfl 7 (by decide) (hts _ q123) (fun _ h9 => h9) rfl dX1_reckon_61 ?_
        refine lv_aload_n hx hb dX1_reckon_64 rfl (lv_at hl 3 rfl) ?_
        refine r_get (ci := 0) (v := .int ((cMon Y N mo i) 0 0 3)) (T := TX1) (N := 14) hx hb hts in_X1 hown hK hF 0 0 rfl rfl 13 (by decide) (hts _ q129) (fun _ h9 => h9) rfl dX1_reckon_65 ?_
        refine lv_re ((congrFun (cMon_o Y N mo (x := 0) (y := 0) (by simp) i) 3).trans hnow) ?_
        refine r_aald (v := .ref (ad 2 mo)) hx hb hK hF 0 11 6 rfl rfl rfl mo rfl (by omega) (by omega) rfl dX1_reckon_68 ?_
        refine lv_aload_n hx hb dX1_reckon_69 rfl (lv_at hl 1 rfl) ?_
        refine r_get (ci := 3) (v := .ref (ad 4 i)) (T := TX5) (N := 2) hx hb hts in_X5 hown hK hF 3 i (sh_3 (by omega) _) rfl 0 (by decide) (hts _ q386) (fun _ h9 => h9) rfl dX1_reckon_70 ?_
        refine g_ci (va_runV (As := []) (rest := [.ref (ad 2 mo)]) ⟨hx, hb, hml, hown, hts⟩ (met_X6_product l Γ ad N o (uz (cMon Y N mo i) 1 mo (nz (Y 4 i 0)) (((cMon Y N mo i) 1 mo (nz (Y 4 i 0))) + (cMar Y N i))) i (by omega)) (cwV 0 hts (lw_V q604 q605 q606 q41 q607) rfl rfl rfl (by decide +kernel) ⟨Nat.le_of_ble_eq_true rfl, Nat.le_of_ble_eq_true rfl⟩) (SF_V hK hS hF (recvF hK hF 4 i (sh_4 (by omega) _) rfl)) rfl rfl hl.1 rfl (lv_room (Nat.le_of_ble_eq_true rfl)) dX1_reckon_73 ⟨Nat.le_of_ble_eq_true rfl, Nat.le_of_ble_eq_true rfl⟩) hS (fun H locs hF hS => ?_)
        refine lv_re ((congrFun (cMon_o Y N mo (x := 4) (y := i) (by simp) i) 1).trans hpr.1) ?_
        refine lv_dup2_11 hx hb dX1_reckon_76 rfl rfl ?_
        refine s_iald hx hb hK hF 2 mo (sh_2 (by omega) _) (nz (Y 4 i 1)) rfl (by omega) (by omega) dX1_reckon_77 ?_
        refine lv_iload_n hx hb dX1_reckon_78 rfl (lv_at hl 0 rfl) ?_
        refine lv_iadd hx hb dX1_reckon_79 ?_
        refine s_iast hx hb hK hF hS 2 mo (fun _ => sh_2 (by omega) _) (nz (Y 4 i 1)) rfl (by omega) (by omega) dX1_reckon_80 (fun H locs hF hS => ?_)
        refine lv_aload_n hx hb dX1_reckon_81 rfl (lv_at hl 3 rfl) ?_
        refine r_get (ci := 0) (v := .ref (ad 0 4)) (T := TX1) (N := 14) hx hb hts in_X1 hown hK hF 0 0 rfl rfl 8 (by decide) (hts _ q124) (fun _ h9 => h9) rfl dX1_reckon_82 ?_
        refine lv_aload_n hx hb dX1_reckon_85 rfl (lv_at hl 3 rfl) ?_
        refine r_get (ci := 0) (v := .int ((cMon Y N mo i) 0 0 3)) (T := TX1) (N := 14) hx hb hts in_X1 hown hK hF 0 0 rfl rfl 13 (by decide) (hts _ q129) (fun _ h9 => h9) rfl dX1_reckon_86 ?_
        refine lv_re ((congrFun (cMon_o Y N mo (x := 0) (y := 0) (by simp) i) 3).trans hnow) ?_
        refine lv_dup2_11 hx hb dX1_reckon_89 rfl rfl ?_
        refine s_iald hx hb hK hF 0 4 rfl mo rfl (by omega) (by omega) dX1_reckon_90 ?_
        refine va_gets hx hb (hK.2.2.2.2.2.1 1 (by decide)).1 hS hown (hts _ q608) (fun _ h9 => h9) dX1_reckon_91 ?_
        refine lv_aload_n hx hb dX1_reckon_94 rfl (lv_at hl 1 rfl) ?_
        refine g_ci (rw_runU (n := 1) (As := [.ref (ad 3 i)]) (rest := [.int ((cMon Y N mo i) 0 4 mo), .int (nI mo), .ref (ad 0 4)]) ⟨hx, hb, hml, hown, hts⟩ (rw_val (met_X10_of l Γ ad N o (uz (uz (cMon Y N mo i) 1 mo (nz (Y 4 i 0)) (((cMon Y N mo i) 1 mo (nz (Y 4 i 0))) + (cMar Y N i))) 2 mo (nz (Y 4 i 1)) (((cMon Y N mo i) 2 mo (nz (Y 4 i 1))) + (cMar Y N i))) i (by omega) (cLo_c (cMon_o Y N mo (x := 3) (y := i) (by simp) i) (cMon_o Y N mo (x := 4) (y := i) (by simp) i) hLi)) (cFun_c (cMon_o Y N mo (x := 3) (y := i) (by simp) i) (cMon_o Y N mo (x := 4) (y := i) (by simp) i) (cMon_o Y N mo (x := 5) (y := i) (by simp) i) (cMon_o Y N mo (x := 6) (y := i) (by simp) i))) hts (rw_U q545 q547 q557 q558 q559) rfl rfl rfl (hK.word (args := #[]) 1 rfl) (by decide +kernel) ⟨Nat.le_of_ble_eq_true rfl, Nat.le_of_ble_eq_true rfl⟩ (SF_V hK hS hF (recvB hK hS (i := 1) (by decide))) rfl rfl hl.1 rfl (lv_room (Nat.le_of_ble_eq_true rfl)) dX1_reckon_95 ⟨Nat.le_of_ble_eq_true rfl, Nat.le_of_ble_eq_true rfl⟩) hS (fun H locs hF hS => ?_)
        refine va_gets hx hb (hK.2.2.2.2.2.1 2 (by decide)).1 hS hown (hts _ q609) (fun _ h9 => h9) dX1_reckon_98 ?_
        refine lv_aload_n hx hb dX1_reckon_101 rfl (lv_at hl 1 rfl) ?_
        refine g_ci (rw_runU (n := 1) (As := [.ref (ad 3 i)]) (rest := [.int (cFun Y N i), .int ((cMon Y N mo i) 0 4 mo), .int (nI mo), .ref (ad 0 4)]) ⟨hx, hb, hml, hown, hts⟩ (rw_val (met_X9_of l Γ ad N o (uz (uz (cMon Y N mo i) 1 mo (nz (Y 4 i 0)) (((cMon Y N mo i) 1 mo (nz (Y 4 i 0))) + (cMar Y N i))) 2 mo (nz (Y 4 i 1)) (((cMon Y N mo i) 2 mo (nz (Y 4 i 1))) + (cMar Y N i))) i (by omega) (cLo_c (cMon_o Y N mo (x := 3) (y := i) (by simp) i) (cMon_o Y N mo (x := 4) (y := i) (by simp) i) hLi)) (cOpt_c (cMon_o Y N mo (x := 3) (y := i) (by simp) i) (cMon_o Y N mo (x := 4) (y := i) (by simp) i) (cMon_o Y N mo (x := 5) (y := i) (by simp) i) (cMon_o Y N mo (x := 6) (y := i) (by simp) i))) hts (rw_U q545 q547 q569 q570 q571) rfl rfl rfl (hK.word (args := #[]) 1 rfl) (by decide +kernel) ⟨Nat.le_of_ble_eq_true rfl, Nat.le_of_ble_eq_true rfl⟩ (SF_V hK hS hF (recvB hK hS (i := 2) (by decide))) rfl rfl hl.1 rfl (lv_room (Nat.le_of_ble_eq_true rfl)) dX1_reckon_102 ⟨Nat.le_of_ble_eq_true rfl, Nat.le_of_ble_eq_true rfl⟩) hS (fun H locs hF hS => ?_)
        refine lv_iadd hx hb dX1_reckon_105 ?_
        refine lv_iadd hx hb dX1_reckon_106 ?_
        refine s_iast hx hb hK hF hS 0 4 (fun _ => rfl) mo rfl (by omega) (by omega) dX1_reckon_107 (fun H locs hF hS => ?_)
        refine lv_aload_n hx hb dX1_reckon_108 rfl (lv_at hl 3 rfl) ?_
        refine r_get (ci := 0) (v := .ref (ad 0 5)) (T := TX1) (N := 14) hx hb hts in_X1 hown hK hF 0 0 rfl rfl 9 (by decide) (hts _ q125) (fun _ h9 => h9) rfl dX1_reckon_109 ?_
        refine lv_aload_n hx hb dX1_reckon_112 rfl (lv_at hl 3 rfl) ?_
        refine r_get (ci := 0) (v := .int ((cMon Y N mo i) 0 0 3)) (T := TX1) (N := 14) hx hb hts in_X1 hown hK hF 0 0 rfl rfl 13 (by decide) (hts _ q129) (fun _ h9 => h9) rfl dX1_reckon_113 ?_
        refine lv_re ((congrFun (cMon_o Y N mo (x := 0) (y := 0) (by simp) i) 3).trans hnow) ?_
        refine lv_dup2_11 hx hb dX1_reckon_116 rfl rfl ?_
        refine s_iald hx hb hK hF 0 5 rfl mo rfl (by omega) (by omega) dX1_reckon_117 ?_
        refine va_gets hx hb (hK.2.2.2.2.2.1 0 (by decide)).1 hS hown (hts _ q610) (fun _ h9 => h9) dX1_reckon_118 ?_
        refine lv_aload_n hx hb dX1_reckon_121 rfl (lv_at hl 1 rfl) ?_
        refine g_ci (rw_runU (n := 1) (As := [.ref (ad 3 i)]) (rest := [.int ((cMon Y N mo i) 0 5 mo), .int (nI mo), .ref (ad 0 5)]) ⟨hx, hb, hml, hown, hts⟩ (rw_val (met_X8_of l Γ ad N o (uz (uz (uz (cMon Y N mo i) 1 mo (nz (Y 4 i 0)) (((cMon Y N mo i) 1 mo (nz (Y 4 i 0))) + (cMar Y N i))) 2 mo (nz (Y 4 i 1)) (((cMon Y N mo i) 2 mo (nz (Y 4 i 1))) + (cMar Y N i))) 0 4 mo (((cMon Y N mo i) 0 4 mo) + ((cFun Y N i) + (cOpt Y N i)))) i (by omega) (cLo_c (cMon_o Y N mo (x := 3) (y := i) (by simp) i) (cMon_o Y N mo (x := 4) (y := i) (by simp) i) hLi)) (cInt_c (cMon_o Y N mo (x := 3) (y := i) (by simp) i) (cMon_o Y N mo (x := 4) (y := i) (by simp) i) (cMon_o Y N mo (x := 5) (y := i) (by simp) i) (cMon_o Y N mo (x := 6) (y := i) (by simp) i))) hts (rw_U q545 q547 q548 q549 q550) rfl rfl rfl (hK.word (args := #[]) 1 rfl) (by decide +kernel) ⟨Nat.le_of_ble_eq_true rfl, Nat.le_of_ble_eq_true rfl⟩ (SF_V hK hS hF (recvB hK hS (i := 0) (by decide))) rfl rfl hl.1 rfl (lv_room (Nat.le_of_ble_eq_true rfl)) dX1_reckon_122 ⟨Nat.le_of_ble_eq_true rfl, Nat.le_of_ble_eq_true rfl⟩) hS (fun H locs hF hS => ?_)
        refine lv_iadd hx hb dX1_reckon_125 ?_
        refine s_iast hx hb hK hF hS 0 5 (fun _ => rfl) mo rfl (by omega) (by omega) dX1_reckon_126 (fun H locs hF hS => ?_)
        refine lv_iinc (v := nI (i + 1)) (lv' := [(1, .int (nI (i + 1))), (3, .int (cMar Y N i)), (2, .ref (ad 3 i)), (0, .ref (ad 0 0))]) hx hb dX1_reckon_127 hl (k := 2) rfl (nI_1 _) (by decide) rfl (fun ls hl => ?_)
        refine lv_goto (tgt := 2) hx hb dX1_reckon_130 (by decide) ?_
        exact ih (i + 1) _ (by omega) (by omega) rfl _ _ hF hS ls (lv_sub hl [0, 3] rfl)
  exact L1 ((N 0) - 0) 0 _ (by omega) (Nat.le_refl _) rfl _ _ hF hS ls hl
set_option maxHeartbeats 4000000 in
set_option maxRecDepth 100000 in
/-- reckon: rows 135 to 215 -/
theorem rk_2 (l : Launch) (Γ : Gm) (ad : Nat → Nat → Nat) (N : Nat → Nat) (o : Nat → Int64) (Y : Nat → Nat → Nat → Int32) (hN : nOk N) (mo : Nat) (hmo : mo < 47) (hnow : Y 0 0 3 = nI mo) {p : Program} {e : Env} {s : State} {m : MethodId} {args : Array Value} {below : List Frame} {meth : Method} {c : Code} {Q : State → Prop} {H : Heap} {locs : List Loc} {ls : Array Slot} (hml : c.maxLocals = 4) (hx : p.tables.exec = Jvm.exec) (hb : c.code = cX1_reckon) (hown : s.vm.findClass RX1 = some m.cls) (hts : ∀ w ∈ lw_all, w.before args s = true) (hK : Kn Γ s s.heap)  (hF : FF Γ ad (shp Γ ad N o Y) H) (hS : va_S (AA Γ) s.heap H locs) (hl : lv_has ls 4 [(1, .int 0), (0, .ref (ad 0 0))])
    (kk : ∀ (H : Heap) (locs : List Loc) (ls : Array Slot), FF Γ ad (shp Γ ad N o (cMob Y mo 3)) H → va_S (AA Γ) s.heap H locs → lv_has ls 4 [(0, .ref (ad 0 0))] → W p l e (headSpec (ws_ yX1_reckon cX1_reckon 4 none) ({ frames := 8, cells := 0, slots := 0, locals := 260 })).room s m args below meth c H locs 0 0 Q (F0 m 215 ls [])) :
    W p l e (headSpec (ws_ yX1_reckon cX1_reckon 4 none) ({ frames := 8, cells := 0, slots := 0, locals := 260 })).room s m args below meth c H locs 0 0 Q (F0 m 135 ls []) := by
  have L2 : ∀ (u7 i : Nat) (x1 : Int32) , i + u7 = 3 → 0 ≤ i → x1 = nI i → ∀ (H : Heap) (locs : List Loc), FF Γ ad (shp Γ ad N o (cMob Y mo i)) H → va_S (AA Γ) s.heap H locs → ∀ (ls : Array Slot), lv_has ls 4 [(1, .int x1), (0, .ref (ad 0 0))] → W p l e (headSpec (ws_ yX1_reckon cX1_reckon 4 none) ({ frames := 8, cells := 0, slots := 0, locals := 260 })).room s m args below meth c H locs 0 0 Q (F0 m 135 ls []) := by
    intro u7
    induction u7 with
    | zero =>
      intro i x1  hi hs e1 H locs hF hS ls hl
      subst e1
      obtain rfl : 3 = i := by omega
      refine lv_iload_n hx hb dX1_reckon_135 rfl (lv_at hl 0 rfl) ?_
      refine lv_iconst (v := 3) hx hb dX1_reckon_136 (by decide) ?_
      refine lv_icmp_ge (tgt := 215) hx hb dX1_reckon_137 (by decide) (fun c137 => ?_) (fun c137 => ?_)
      · exact kk _ _ _ hF hS (lv_sub hl [1] rfl)
      · exact absurd (nI_le (a := 3) (b := 3) (Nat.le_refl _) (by omega)) c137
    | succ u7 ih =>
      intro i x1  hi hs e1 H locs hF hS ls hl
      subst e1
      refine lv_iload_n hx hb dX1_reckon_135 rfl (lv_at hl 0 rfl) ?_
      refine lv_iconst (v := 3) hx hb dX1_reckon_136 (by decide) ?_
      refine lv_icmp_ge (tgt := 215) hx hb dX1_reckon_137 (by decide) (fun c137 => ?_) (fun c137 => ?_)
      · exact absurd c137 (nI_ge (a := i) (b := 3) (by omega) (by omega))
      · refine lv_aload_n hx hb dX1_reckon_140 rfl (lv_at hl 1 rfl) ?_
        refine r_get (ci := 0) (v := .ref (ad 0 10)) (T := TX1) (N := 14) hx hb hts in_X1 hown hK hF 0 0 rfl rfl 6 (by decide) (hts _ q122) (fun _ h9 => h9) rfl dX1_reckon_141 ?_
        refine lv_aload_n hx hb dX1_reckon_144 rfl (lv_at hl 1 rfl) ?_
        refine r_get (ci := 0) (v := .int ((cMob Y mo i) 0 0 3)) (T := TX1) (N := 14) hx hb hts in_X1 hown hK hF 0 0 rfl rfl 13 (by decide) (hts _ q129) (fun _ h9 => h9) rfl dX1_reckon_145 ?_
        refine lv_re ((congrFun (cMob_o Y mo (x := 0) (y := 0) (by simp) i) 3).trans hnow) ?_
        refine r_aald (v := .ref (ad 1 mo)) hx hb hK hF 0 10 6 rfl rfl rfl mo rfl (by omega) (by omega) rfl dX1_reckon_148 ?_
        refine lv_iload_n hx hb dX1_reckon_149 rfl (lv_at hl 0 rfl) ?_
        refine lv_dup2_11 hx hb dX1_reckon_150 rfl rfl ?_
        refine s_iald hx hb hK hF 1 mo (sh_1 (by omega) _) i rfl (by omega) (by omega) dX1_reckon_151 ?_
        refine lv_aload_n hx hb dX1_reckon_152 rfl (lv_at hl 1 rfl) ?_
        refine lv_aload_n hx hb dX1_reckon_153 rfl (lv_at hl 1 rfl) ?_
        refine r_get (ci := 0) (v := .ref (ad 0 8)) (T := TX1) (N := 14) hx hb hts in_X1 hown hK hF 0 0 rfl rfl 3 (by decide) (hts _ q119) (fun _ h9 => h9) rfl dX1_reckon_154 ?_
        refine lv_iload_n hx hb dX1_reckon_157 rfl (lv_at hl 0 rfl) ?_
        refine r_aald (v := .ref (ad 7 i)) hx hb hK hF 0 8 4 rfl rfl rfl i rfl (by omega) (by omega) rfl dX1_reckon_158 ?_
        refine lv_null hx hb dX1_reckon_159 ?_
        refine g_ci (va_runV (As := [.ref (ad 7 i), .null]) (rest := [.int ((cMob Y mo i) 1 mo i), .int (nI i), .ref (ad 1 mo)]) ⟨hx, hb, hml, hown, hts⟩ (Met.val (cc_marginOf_D l Γ ad N o (cMob Y mo i) i (by omega)) (by rw [show cCred _ i = cCred Y i from (cCred_c (cMob_o Y mo (x := 0) (y := 0) (by simp) i) (cMob_o Y mo (x := 0) (y := 1) (by simp) i) (cMob_o Y mo (x := 0) (y := 2) (by simp) i) (cMob_o Y mo (x := 0) (y := 3) (by simp) i) (cMob_o Y mo (x := 7) (y := i) (by simp) i)), show cCost _ i = cCost Y i from (cCost_c (cMob_o Y mo (x := 0) (y := 0) (by simp) i) (cMob_o Y mo (x := 7) (y := i) (by simp) i))])) (cwV 2 hts (lw_V q539 q541 qs9 q23 q542) rfl rfl rfl (by decide +kernel) ⟨Nat.le_of_ble_eq_true rfl, Nat.le_of_ble_eq_true rfl⟩) (SF_V hK hS hF (recvF hK hF 0 0 rfl rfl)) rfl rfl hl.1 rfl (lv_room (Nat.le_of_ble_eq_true rfl)) dX1_reckon_160 ⟨Nat.le_of_ble_eq_true rfl, Nat.le_of_ble_eq_true rfl⟩) hS (fun H locs hF hS => ?_)
        refine lv_iadd hx hb dX1_reckon_163 ?_
        refine s_iast hx hb hK hF hS 1 mo (fun _ => sh_1 (by omega) _) i rfl (by omega) (by omega) dX1_reckon_164 (fun H locs hF hS => ?_)
        refine lv_aload_n hx hb dX1_reckon_165 rfl (lv_at hl 1 rfl) ?_
        refine r_get (ci := 0) (v := .ref (ad 0 4)) (T := TX1) (N := 14) hx hb hts in_X1 hown hK hF 0 0 rfl rfl 8 (by decide) (hts _ q124) (fun _ h9 => h9) rfl dX1_reckon_166 ?_
        refine lv_aload_n hx hb dX1_reckon_169 rfl (lv_at hl 1 rfl) ?_
        refine r_get (ci := 0) (v := .int ((cMob Y mo i) 0 0 3)) (T := TX1) (N := 14) hx hb hts in_X1 hown hK hF 0 0 rfl rfl 13 (by decide) (hts _ q129) (fun _ h9 => h9) rfl dX1_reckon_170 ?_
        refine lv_re ((congrFun (cMob_o Y mo (x := 0) (y := 0) (by simp) i) 3).trans hnow) ?_
        refine lv_dup2_11 hx hb dX1_reckon_173 rfl rfl ?_
        refine s_iald hx hb hK hF 0 4 rfl mo rfl (by omega) (by omega) dX1_reckon_174 ?_
        refine lv_aload_n hx hb dX1_reckon_175 rfl (lv_at hl 1 rfl) ?_
        refine lv_aload_n hx hb dX1_reckon_176 rfl (lv_at hl 1 rfl) ?_
        refine r_get (ci := 0) (v := .ref (ad 0 8)) (T := TX1) (N := 14) hx hb hts in_X1 hown hK hF 0 0 rfl rfl 3 (by decide) (hts _ q119) (fun _ h9 => h9) rfl dX1_reckon_177 ?_
        refine lv_iload_n hx hb dX1_reckon_180 rfl (lv_at hl 0 rfl) ?_
        refine r_aald (v := .ref (ad 7 i)) hx hb hK hF 0 8 4 rfl rfl rfl i rfl (by omega) (by omega) rfl dX1_reckon_181 ?_
        refine g_ci (va_runV (As := [.ref (ad 7 i)]) (rest := [.int ((cMob Y mo i) 0 4 mo), .int (nI mo), .ref (ad 0 4)]) ⟨hx, hb, hml, hown, hts⟩ (Met.val (cc_credit_B l Γ ad N o (uz (cMob Y mo i) 1 mo i (((cMob Y mo i) 1 mo i) + (cCred Y i - cCost Y i))) i (by omega)) (cCred_c (cMob_o Y mo (x := 0) (y := 0) (by simp) i) (cMob_o Y mo (x := 0) (y := 1) (by simp) i) (cMob_o Y mo (x := 0) (y := 2) (by simp) i) (cMob_o Y mo (x := 0) (y := 3) (by simp) i) (cMob_o Y mo (x := 7) (y := i) (by simp) i))) (cwV 1 hts (lw_V q591 q593 qs10 q23 q594) rfl rfl rfl (by decide +kernel) ⟨Nat.le_of_ble_eq_true rfl, Nat.le_of_ble_eq_true rfl⟩) (SF_V hK hS hF (recvF hK hF 0 0 rfl rfl)) rfl rfl hl.1 rfl (lv_room (Nat.le_of_ble_eq_true rfl)) dX1_reckon_182 ⟨Nat.le_of_ble_eq_true rfl, Nat.le_of_ble_eq_true rfl⟩) hS (fun H locs hF hS => ?_)
        refine lv_isub hx hb dX1_reckon_185 ?_
        refine s_iast hx hb hK hF hS 0 4 (fun _ => rfl) mo rfl (by omega) (by omega) dX1_reckon_186 (fun H locs hF hS => ?_)
        refine lv_aload_n hx hb dX1_reckon_187 rfl (lv_at hl 1 rfl) ?_
        refine r_get (ci := 0) (v := .ref (ad 0 5)) (T := TX1) (N := 14) hx hb hts in_X1 hown hK hF 0 0 rfl rfl 9 (by decide) (hts _ q125) (fun _ h9 => h9) rfl dX1_reckon_188 ?_
        refine lv_aload_n hx hb dX1_reckon_191 rfl (lv_at hl 1 rfl) ?_
        refine r_get (ci := 0) (v := .int ((cMob Y mo i) 0 0 3)) (T := TX1) (N := 14) hx hb hts in_X1 hown hK hF 0 0 rfl rfl 13 (by decide) (hts _ q129) (fun _ h9 => h9) rfl dX1_reckon_192 ?_
        refine lv_re ((congrFun (cMob_o Y mo (x := 0) (y := 0) (by simp) i) 3).trans hnow) ?_
        refine lv_dup2_11 hx hb dX1_reckon_195 rfl rfl ?_
        refine s_iald hx hb hK hF 0 5 rfl mo rfl (by omega) (by omega) dX1_reckon_196 ?_
        refine lv_aload_n hx hb dX1_reckon_197 rfl (lv_at hl 1 rfl) ?_
        refine lv_aload_n hx hb dX1_reckon_198 rfl (lv_at hl 1 rfl) ?_
        refine r_get (ci := 0) (v := .ref (ad 0 8)) (T := TX1) (N := 14) hx hb hts in_X1 hown hK hF 0 0 rfl rfl 3 (by decide) (hts _ q119) (fun _ h9 => h9) rfl dX1_reckon_199 ?_
        refine lv_iload_n hx hb dX1_reckon_202 rfl (lv_at hl 0 rfl) ?_
        refine r_aald (v := .ref (ad 7 i)) hx hb hK hF 0 8 4 rfl rfl rfl i rfl (by omega) (by omega) rfl dX1_reckon_203 ?_
        refine g_ci (va_runV (As := [.ref (ad 7 i)]) (rest := [.int ((cMob Y mo i) 0 5 mo), .int (nI mo), .ref (ad 0 5)]) ⟨hx, hb, hml, hown, hts⟩ (Met.val (cc_cost_B l Γ ad N o (uz (uz (cMob Y mo i) 1 mo i (((cMob Y mo i) 1 mo i) + (cCred Y i - cCost Y i))) 0 4 mo (((cMob Y mo i) 0 4 mo) - (cCred Y i))) i (by omega)) (cCost_c (cMob_o Y mo (x := 0) (y := 0) (by simp) i) (cMob_o Y mo (x := 7) (y := i) (by simp) i))) (cwV 1 hts (lw_V q596 q598 qs11 q23 q599) rfl rfl rfl (by decide +kernel) ⟨Nat.le_of_ble_eq_true rfl, Nat.le_of_ble_eq_true rfl⟩) (SF_V hK hS hF (recvF hK hF 0 0 rfl rfl)) rfl rfl hl.1 rfl (lv_room (Nat.le_of_ble_eq_true rfl)) dX1_reckon_204 ⟨Nat.le_of_ble_eq_true rfl, Nat.le_of_ble_eq_true rfl⟩) hS (fun H locs hF hS => ?_)
        refine lv_isub hx hb dX1_reckon_207 ?_
        refine s_iast hx hb hK hF hS 0 5 (fun _ => rfl) mo rfl (by omega) (by omega) dX1_reckon_208 (fun H locs hF hS => ?_)
        refine lv_iinc (v := nI (i + 1)) (lv' := [(1, .int (nI (i + 1))), (0, .ref (ad 0 0))]) hx hb dX1_reckon_209 hl (k := 0) rfl (nI_1 _) (by decide) rfl (fun ls hl => ?_)
        refine lv_goto (tgt := 135) hx hb dX1_reckon_212 (by decide) ?_
        exact ih (i + 1) _ (by omega) (by omega) rfl _ _ hF hS ls (lv_sub hl [0, 1] rfl)
  exact L2 (3 - 0) 0 _ (by omega) (Nat.le_refl _) rfl _ _ hF hS ls hl
set_option maxHeartbeats 4000000 in
set_option maxRecDepth 100000 in
/-- reckon, path B -/
theorem cc_reckon_B (l : Launch) (Γ : Gm) (ad : Nat → Nat → Nat) (N : Nat → Nat) (o : Nat → Int64) (Z : Nat → Nat → Nat → Int32) (hN : nOk N) (mo : Nat) (hmo : mo < 47) (hnow : Z 0 0 3 = nI mo) (hL : ∀ j, j < N 0 → cLo Z N j) (Y1 : Nat → Nat → Nat → Int32) (hY1 : Y1 = cMon Z N mo (N 0)) : Met l yX1_reckon (ws_ yX1_reckon cX1_reckon 4 none) ({ frames := 8, cells := 0, slots := 0, locals := 260 }) (va_Pc [.ref (ad 0 0)] (SF Γ ad (shp Γ ad N o Z))) (gEv Γ ad (shp Γ ad N o (cMob Y1 mo 3))) 0 0 (AA Γ) := by
  refine Met.ofW (cc := cX1_reckon) (maxL := 4) (ret := none) (by decide) rfl ?_
  intro p e s m args below meth c s₁ B hml hv
  obtain ⟨rfl, hK, hF⟩ := hv
  have hx := B.exec
  have hb := B.bytes
  have hr := B.returns
  have hts := atoms_spec (ws := ws_ yX1_reckon cX1_reckon 4 none) B.pre
  have hts : ∀ w ∈ lw_all, w.before _ s = true := fun w h => hts w (List.mem_cons_of_mem _ h)
  have hown : s.vm.findClass RX1 = some m.cls := findClass_of_methodNamed B.named
  have hlocks := B.notSynchronized
  have hS : va_S (AA Γ) s.heap s.heap [] := va_S.rf
  have hl := lv_entry ([.ref (ad 0 0)]) (n := 4) (Nat.le_of_ble_eq_true rfl)
  rw [lg_entry_eq]
  generalize (lg_sl ([.ref (ad 0 0)]) ++ List.replicate (4 - (lg_sl ([.ref (ad 0 0)])).length) Slot.unset).toArray = ls at hl ⊢
  have hl : lv_has ls 4 [(0, .ref (ad 0 0))] := hl
  refine lv_iconst (v := 0) hx hb dX1_reckon_0 (by decide) ?_
  refine lv_istore_n (lv' := [(1, .int 0), (0, .ref (ad 0 0))]) hx hb dX1_reckon_1 rfl hl (by decide) rfl (fun ls hl => ?_)
  refine rk_1 l Γ ad N o Z hN mo hmo hnow hml hx hb hown hts hK hL hF hS (lv_sub hl [0, 1] rfl) (fun H locs ls hF hS hl => ?_)
  rw [← hY1] at hF
  refine lv_iconst (v := 0) hx hb dX1_reckon_133 (by decide) ?_
  refine lv_istore_n (lv' := [(1, .int 0), (0, .ref (ad 0 0))]) hx hb dX1_reckon_134 rfl hl (by decide) rfl (fun ls hl => ?_)
  refine rk_2 l Γ ad N o Y1 hN mo hmo (by rw [hY1, cMon_o Z N mo (x := 0) (y := 0) (by simp) (N 0)]; exact hnow) hml hx hb hown hts hK hF hS (lv_sub hl [0, 1] rfl) (fun H locs ls hF hS hl => ?_)
  exact g_vret hx hb hr hlocks hF hS dX1_reckon_215
set_option maxHeartbeats 4000000 in
set_option maxRecDepth 100000 in
/-- closeMonth: rows 23 to 87 -/
theorem cc_3 (l : Launch) (Γ : Gm) (ad : Nat → Nat → Nat) (N : Nat → Nat) (o : Nat → Int64) (Y : Nat → Nat → Nat → Int32) (hN : nOk N) {p : Program} {e : Env} {s : State} {m : MethodId} {args : Array Value} {below : List Frame} {meth : Method} {c : Code} {Q : State → Prop} {H : Heap} {locs : List Loc} {ls : Array Slot} (hml : c.maxLocals = 2) (hx : p.tables.exec = Jvm.exec) (hb : c.code = cX1_closeMonth) (hown : s.vm.findClass RX1 = some m.cls) (hts : ∀ w ∈ lw_all, w.before args s = true) (hK : Kn Γ s s.heap)  (hF : FF Γ ad (shp Γ ad N o Y) H) (hS : va_S (AA Γ) s.heap H locs) (hl : lv_has ls 2 [(1, .int 0), (0, .ref (ad 0 0))])
    (kk : ∀ (H : Heap) (locs : List Loc) (ls : Array Slot), FF Γ ad (shp Γ ad N o (cPay Y N (N 0))) H → va_S (AA Γ) s.heap H locs → lv_has ls 2 [(0, .ref (ad 0 0))] → W p l e (headSpec (ws_ yX1_closeMonth cX1_closeMonth 2 (some .int)) ({ frames := 10, cells := 0, slots := 0, locals := 330 })).room s m args below meth c H locs 0 0 Q (F0 m 87 ls [])) :
    W p l e (headSpec (ws_ yX1_closeMonth cX1_closeMonth 2 (some .int)) ({ frames := 10, cells := 0, slots := 0, locals := 330 })).room s m args below meth c H locs 0 0 Q (F0 m 23 ls []) := by
  have hN1 := hN
  unfold nOk at hN1
  have L3 : ∀ (u7 i : Nat) (x1 : Int32) , i + u7 = N 0 → 0 ≤ i → x1 = nI i → ∀ (H : Heap) (locs : List Loc), FF Γ ad (shp Γ ad N o (cPay Y N i)) H → va_S (AA Γ) s.heap H locs → ∀ (ls : Array Slot), lv_has ls 2 [(1, .int x1), (0, .ref (ad 0 0))] → W p l e (headSpec (ws_ yX1_closeMonth cX1_closeMonth 2 (some .int)) ({ frames := 10, cells := 0, slots := 0, locals := 330 })).room s m args below meth c H locs 0 0 Q (F0 m 23 ls []) := by
    intro u7
    induction u7 with
    | zero =>
      intro i x1  hi hs e1 H locs hF hS ls hl
      subst e1
      obtain rfl : N 0 = i := by omega
      refine lv_iload_n hx hb dX1_closeMonth_23 rfl (lv_at hl 0 rfl) ?_
      refine lv_aload_n hx hb dX1_closeMonth_24 rfl (lv_at hl 1 rfl) ?_
      refine r_get (ci := 0) (v := .ref (ad 0 6)) (T := TX1) (N := 14) hx hb hts in_X1 hown hK hF 0 0 rfl rfl 2 (by decide) (hts _ q118) (fun _ h9 => h9) rfl dX1_closeMonth_25 ?_
      refine g_cFi (va_runF (As := []) (rest := [.int (nI (N 0))]) (hK.1.1 1 _ rfl).2 ⟨hx, hb, hml, hown, hts⟩ (met_J2_size l Γ ad (shp Γ ad N o (cPay Y N (N 0))) (z := nI (N 0)) rfl) (va_cwF 0 hts (lw_F q168 q172 q174 q28 q176) rfl rfl rfl (hK.face 0 rfl) (by decide +kernel) ⟨Nat.le_of_ble_eq_true rfl, Nat.le_of_ble_eq_true rfl⟩) (SF_V hK hS hF (recvF hK hF 0 6 rfl rfl)) rfl rfl hl.1 rfl (lv_room (Nat.le_of_ble_eq_true rfl)) dX1_closeMonth_28 ⟨Nat.le_of_ble_eq_true rfl, Nat.le_of_ble_eq_true rfl⟩) hS (fun H locs hF hS => ?_)
      refine lv_icmp_ge (tgt := 87) hx hb dX1_closeMonth_33 (by decide) (fun c33 => ?_) (fun c33 => ?_)
      · exact kk _ _ _ hF hS (lv_sub hl [1] rfl)
      · exact absurd (nI_le (a := N 0) (b := N 0) (Nat.le_refl _) (by omega)) c33
    | succ u7 ih =>
      intro i x1  hi hs e1 H locs hF hS ls hl
      subst e1
      refine lv_iload_n hx hb dX1_closeMonth_23 rfl (lv_at hl 0 rfl) ?_
      refine lv_aload_n hx hb dX1_closeMonth_24 rfl (lv_at hl 1 rfl) ?_
      refine r_get (ci := 0) (v := .ref (ad 0 6)) (T := TX1) (N := 14) hx hb hts in_X1 hown hK hF 0 0 rfl rfl 2 (by decide) (hts _ q118) (fun _ h9 => h9) rfl dX1_closeMonth_25 ?_
      refine g_cFi (va_runF (As := []) (rest := [.int (nI i)]) (hK.1.1 1 _ rfl).2 ⟨hx, hb, hml, hown, hts⟩ (met_J2_size l Γ ad (shp Γ ad N o (cPay Y N i)) (z := nI (N 0)) rfl) (va_cwF 0 hts (lw_F q168 q172 q174 q28 q176) rfl rfl rfl (hK.face 0 rfl) (by decide +kernel) ⟨Nat.le_of_ble_eq_true rfl, Nat.le_of_ble_eq_true rfl⟩) (SF_V hK hS hF (recvF hK hF 0 6 rfl rfl)) rfl rfl hl.1 rfl (lv_room (Nat.le_of_ble_eq_true rfl)) dX1_closeMonth_28 ⟨Nat.le_of_ble_eq_true rfl, Nat.le_of_ble_eq_true rfl⟩) hS (fun H locs hF hS => ?_)
      refine lv_icmp_ge (tgt := 87) hx hb dX1_closeMonth_33 (by decide) (fun c33 => ?_) (fun c33 => ?_)
      · exact absurd c33 (nI_ge (a := i) (b := N 0) (by omega) (by omega))
      · refine lv_aload_n hx hb dX1_closeMonth_36 rfl (lv_at hl 1 rfl) ?_
        refine r_get (ci := 0) (v := .ref (ad 0 6)) (T := TX1) (N := 14) hx hb hts in_X1 hown hK hF 0 0 rfl rfl 2 (by decide) (hts _ q118) (fun _ h9 => h9) rfl dX1_closeMonth_37 ?_
        refine lv_iload_n hx hb dX1_closeMonth_40 rfl (lv_at hl 0 rfl) ?_
        refine g_cFr (va_runF (As := [.int (nI i)]) (rest := []) (hK.1.1 1 _ rfl).2 ⟨hx, hb, hml, hown, hts⟩ (met_J2_get l Γ ad (shp Γ ad N o (cPay Y N i)) (n := N 0) (cap := N 1) (v := ad 3 i) (sh_06 (by have := hN; unfold nOk at this; omega) _) (sh_07 (by have := hN; unfold nOk at this; omega) _) i (by omega) (by have := hN; unfold nOk at this; omega) (by have := hN; unfold nOk at this; omega) (if_pos (by omega))) (va_cwF 1 hts (lw_F q472 q475 q477 q28 q479) rfl rfl rfl (hK.face 2 rfl) (by decide +kernel) ⟨Nat.le_of_ble_eq_true rfl, Nat.le_of_ble_eq_true rfl⟩) (SF_V hK hS hF (recvF hK hF 0 6 rfl rfl)) rfl rfl hl.1 rfl (lv_room (Nat.le_of_ble_eq_true rfl)) dX1_closeMonth_41 ⟨Nat.le_of_ble_eq_true rfl, Nat.le_of_ble_eq_true rfl⟩) hS (fun H locs hF hS => ?_)
        refine va_castS hx hb hown (hts _ q349) (hK.1.1 3 _ rfl).2 (recvF hK hF 3 i (sh_3 (by omega) _) rfl) dX1_closeMonth_46 ?_
        refine lv_dup hx hb dX1_closeMonth_49 rfl ?_
        refine r_get (ci := 3) (v := .int ((cPay Y N i) 3 i 0)) (T := TX5) (N := 2) hx hb hts in_X5 hown hK hF 3 i (sh_3 (by omega) _) rfl 1 (by decide) (hts _ q388) (fun _ h9 => h9) rfl dX1_closeMonth_50 ?_
        refine lv_re (congrFun (cPay_a Y N (j := i) i (Nat.le_refl _)) 0) ?_
        refine lv_aload_n hx hb dX1_closeMonth_53 rfl (lv_at hl 1 rfl) ?_
        refine r_get (ci := 0) (v := .ref (ad 0 6)) (T := TX1) (N := 14) hx hb hts in_X1 hown hK hF 0 0 rfl rfl 2 (by decide) (hts _ q118) (fun _ h9 => h9) rfl dX1_closeMonth_54 ?_
        refine lv_iload_n hx hb dX1_closeMonth_57 rfl (lv_at hl 0 rfl) ?_
        refine g_cFr (va_runF (As := [.int (nI i)]) (rest := [.int (Y 3 i 0), .ref (ad 3 i)]) (hK.1.1 1 _ rfl).2 ⟨hx, hb, hml, hown, hts⟩ (met_J2_get l Γ ad (shp Γ ad N o (cPay Y N i)) (n := N 0) (cap := N 1) (v := ad 3 i) (sh_06 (by have := hN; unfold nOk at this; omega) _) (sh_07 (by have := hN; unfold nOk at this; omega) _) i (by omega) (by have := hN; unfold nOk at this; omega) (by have := hN; unfold nOk at this; omega) (if_pos (by omega))) (va_cwF 1 hts (lw_F q472 q475 q477 q28 q479) rfl rfl rfl (hK.face 2 rfl) (by decide +kernel) ⟨Nat.le_of_ble_eq_true rfl, Nat.le_of_ble_eq_true rfl⟩) (SF_V hK hS hF (recvF hK hF 0 6 rfl rfl)) rfl rfl hl.1 rfl (lv_room (Nat.le_of_ble_eq_true rfl)) dX1_closeMonth_58 ⟨Nat.le_of_ble_eq_true rfl, Nat.le_of_ble_eq_true rfl⟩) hS (fun H locs hF hS => ?_)
        refine va_castS hx hb hown (hts _ q349) (hK.1.1 3 _ rfl).2 (recvF hK hF 3 i (sh_3 (by omega) _) rfl) dX1_closeMonth_63 ?_
        refine g_ci (va_runV (As := []) (rest := [.int (Y 3 i 0), .ref (ad 3 i)]) ⟨hx, hb, hml, hown, hts⟩ (met_X5_isPaid l Γ ad N o (cPay Y N i) i (by omega)) (cwV 0 hts (lw_V q494 q495 q496 q40 q497) rfl rfl rfl (by decide +kernel) ⟨Nat.le_of_ble_eq_true rfl, Nat.le_of_ble_eq_true rfl⟩) (SF_V hK hS hF (recvF hK hF 3 i (sh_3 (by omega) _) rfl)) rfl rfl hl.1 rfl (lv_room (Nat.le_of_ble_eq_true rfl)) dX1_closeMonth_66 ⟨Nat.le_of_ble_eq_true rfl, Nat.le_of_ble_eq_true rfl⟩) hS (fun H locs hF hS => ?_)
        have K : W p l e (headSpec (ws_ yX1_closeMonth cX1_closeMonth 2 (some .int)) ({ frames := 10, cells := 0, slots := 0, locals := 330 })).room s m args below meth c H locs 0 0 Q (F0 m 77 ls [.int (pY Y N i), .int (Y 3 i 0), .ref (ad 3 i)]) := by
          refine lv_iadd hx hb dX1_closeMonth_77 ?_
          refine s_put (ci := 3) (T := TX5) (NC := 2) hx hb hts in_X5 tyX5 tyX5_ok nmX5 hown hK hF hS 3 i 0 (sh_3 (by omega) _) rfl 1 (by decide) (sh_3 (by omega) _) (hts _ q388) (fun _ h9 => h9) rfl (by decide +kernel) (Nat.le_of_ble_eq_true rfl) dX1_closeMonth_78 (fun H locs hF hS => ?_)
          refine lv_iinc (v := nI (i + 1)) (lv' := [(1, .int (nI (i + 1))), (0, .ref (ad 0 0))]) hx hb dX1_closeMonth_81 hl (k := 0) rfl (nI_1 _) (by decide) rfl (fun ls hl => ?_)
          refine lv_goto (tgt := 23) hx hb dX1_closeMonth_84 (by decide) ?_
          exact ih (i + 1) _ (by omega) (by omega) rfl _ _ hF hS ls (lv_sub hl [0, 1] rfl)
        refine lv_if_eq (tgt := 76) hx hb dX1_closeMonth_69 (by decide) (fun c69 => ?_) (fun c69 => ?_)
        · refine lv_iconst (v := 1) hx hb dX1_closeMonth_76 (by decide) ?_
          rw [show pY Y N i = _ from if_neg (by rw [← (congrFun (cPay_a Y N (j := i) i (Nat.le_refl _)) 0)]; exact bI_f c69)] at K
          exact K
        · refine lv_iconst (v := 0) hx hb dX1_closeMonth_72 (by decide) ?_
          refine lv_goto (tgt := 77) hx hb dX1_closeMonth_73 (by decide) ?_
          rw [show pY Y N i = _ from if_pos (by rw [← (congrFun (cPay_a Y N (j := i) i (Nat.le_refl _)) 0)]; exact bI_t c69)] at K
          exact K
  exact L3 ((N 0) - 0) 0 _ (by omega) (Nat.le_refl _) rfl _ _ hF hS ls hl
set_option maxHeartbeats 4000000 in
set_option maxRecDepth 100000 in
/-- closeMonth, path B -/
theorem cc_closeMonth_B (l : Launch) (Γ : Gm) (ad : Nat → Nat → Nat) (N : Nat → Nat) (o : Nat → Int64) (Z : Nat → Nat → Nat → Int32) (hN : nOk N) (mo : Nat) (hmo : mo < 47) (hnow : Z 0 0 3 = nI mo) (hL : ∀ j, j < N 0 → cLo Z N j) (Y1 Y2 Y3 : Nat → Nat → Nat → Int32) (hY1 : Y1 = cMon Z N mo (N 0)) (hY2 : Y2 = cMob Y1 mo 3) (hY3 : Y3 = cPay Y2 N (N 0)) : Met l yX1_closeMonth (ws_ yX1_closeMonth cX1_closeMonth 2 (some .int)) ({ frames := 10, cells := 0, slots := 0, locals := 330 }) (va_Pc [.ref (ad 0 0)] (SF Γ ad (shp Γ ad N o Z))) (gEi Γ (nI (mo + 1)) ad (shp Γ ad N o (cLay (uz Y3 0 0 3 (nI (mo + 1))) ((mo + 1) % 6)))) 0 0 (AA Γ) := by
  refine Met.ofW (cc := cX1_closeMonth) (maxL := 2) (ret := (some .int)) (by decide) rfl ?_
  intro p e s m args below meth c s₁ B hml hv
  obtain ⟨rfl, hK, hF⟩ := hv
  have hx := B.exec
  have hb := B.bytes
  have hr := B.returns
  have hts := atoms_spec (ws := ws_ yX1_closeMonth cX1_closeMonth 2 (some .int)) B.pre
  have hts : ∀ w ∈ lw_all, w.before _ s = true := fun w h => hts w (List.mem_cons_of_mem _ h)
  have hown : s.vm.findClass RX1 = some m.cls := findClass_of_methodNamed B.named
  have hlocks := B.notSynchronized
  have hS : va_S (AA Γ) s.heap s.heap [] := va_S.rf
  have hl := lv_entry ([.ref (ad 0 0)]) (n := 2) (Nat.le_of_ble_eq_true rfl)
  rw [lg_entry_eq]
  generalize (lg_sl ([.ref (ad 0 0)]) ++ List.replicate (2 - (lg_sl ([.ref (ad 0 0)])).length) Slot.unset).toArray = ls at hl ⊢
  have hl : lv_has ls 2 [(0, .ref (ad 0 0))] := hl
  have o1 : Y3 0 0 = Z 0 0 := by rw [hY3, cPay_o Y2 N (x := 0) (by decide) (N 0), hY2, cMob_o Y1 mo (x := 0) (y := 0) (by simp) 3, hY1]; exact cMon_o Z N mo (x := 0) (y := 0) (by simp) (N 0)
  refine lv_aload_n hx hb dX1_closeMonth_0 rfl (lv_at hl 0 rfl) ?_
  refine r_get (ci := 0) (v := .int (Z 0 0 3)) (T := TX1) (N := 14) hx hb hts in_X1 hown hK hF 0 0 rfl rfl 13 (by decide) (hts _ q129) (fun _ h9 => h9) rfl dX1_closeMonth_1 ?_
  refine lv_re hnow ?_
  refine lv_bipush (v := 47) hx hb dX1_closeMonth_4 (by decide) ?_
  refine lv_icmp_ge (tgt := 13) hx hb dX1_closeMonth_6 (by decide) (fun c6 => absurd c6 (nI_ge (a := mo) (b := 47) hmo (by decide))) (fun c6 => ?_)
  refine lv_iconst (v := 1) hx hb dX1_closeMonth_9 (by decide) ?_
  refine lv_goto (tgt := 14) hx hb dX1_closeMonth_10 (by decide) ?_
  refine g_cv (va_runS (As := [.int 1]) (rest := []) ⟨hx, hb, hml, hown, hts⟩ (met_X1_allow l Γ ad (shp Γ ad N o Z)) (va_cwS 1 hts (lw_S q331 q332 q23 q333) rfl rfl rfl (by decide +kernel) ⟨Nat.le_of_ble_eq_true rfl, Nat.le_of_ble_eq_true rfl⟩) (SF_S hK hS hF) rfl rfl hl.1 rfl (lv_room (Nat.le_of_ble_eq_true rfl)) dX1_closeMonth_14 ⟨Nat.le_of_ble_eq_true rfl, Nat.le_of_ble_eq_true rfl⟩) hS (fun H locs hF hS => ?_)
  refine lv_aload_n hx hb dX1_closeMonth_17 rfl (lv_at hl 0 rfl) ?_
  refine g_cvw (va_runV (As := []) (rest := []) ⟨hx, hb, hml, hown, hts⟩ (cc_reckon_B l Γ ad N o Z hN mo hmo hnow hL Y1 hY1) (cwV 0 hts (lw_V q535 q537 qs8 q23 q538) rfl rfl rfl (by decide +kernel) ⟨Nat.le_of_ble_eq_true rfl, Nat.le_of_ble_eq_true rfl⟩) (SF_V hK hS hF (recvF hK hF 0 0 rfl rfl)) rfl rfl hl.1 rfl (lv_room (Nat.le_of_ble_eq_true rfl)) dX1_closeMonth_18 ⟨Nat.le_of_ble_eq_true rfl, Nat.le_of_ble_eq_true rfl⟩) hS (fun H locs hF hS => ?_)
  rw [← hY2] at hF
  refine lv_iconst (v := 0) hx hb dX1_closeMonth_21 (by decide) ?_
  refine lv_istore_n (lv' := [(1, .int 0), (0, .ref (ad 0 0))]) hx hb dX1_closeMonth_22 rfl hl (by decide) rfl (fun ls hl => ?_)
  refine cc_3 l Γ ad N o Y2 hN hml hx hb hown hts hK hF hS (lv_sub hl [0, 1] rfl) (fun H locs ls hF hS hl => ?_)
  rw [← hY3] at hF
  refine lv_aload_n hx hb dX1_closeMonth_87 rfl (lv_at hl 0 rfl) ?_
  refine lv_dup hx hb dX1_closeMonth_88 rfl ?_
  refine r_get (ci := 0) (v := .int (Y3 0 0 3)) (T := TX1) (N := 14) hx hb hts in_X1 hown hK hF 0 0 rfl rfl 13 (by decide) (hts _ q129) (fun _ h9 => h9) rfl dX1_closeMonth_89 ?_
  refine lv_re ((congrFun o1 3).trans hnow) ?_
  refine lv_iconst (v := 1) hx hb dX1_closeMonth_92 (by decide) ?_
  refine lv_iadd hx hb dX1_closeMonth_93 ?_
  refine lv_re (nI_1 mo) ?_
  refine s_put (ci := 0) (T := TX1) (NC := 14) hx hb hts in_X1 tyX1 tyX1_ok nmX1 hown hK hF hS 0 0 3 rfl rfl 13 (by decide) rfl (hts _ q129) (fun _ h9 => h9) rfl (by decide +kernel) (Nat.le_of_ble_eq_true rfl) dX1_closeMonth_94 (fun H locs hF hS => ?_)
  refine lv_aload_n hx hb dX1_closeMonth_97 rfl (lv_at hl 0 rfl) ?_
  refine lv_aload_n hx hb dX1_closeMonth_98 rfl (lv_at hl 0 rfl) ?_
  refine r_get (ci := 0) (v := .int (nI (mo + 1))) (T := TX1) (N := 14) hx hb hts in_X1 hown hK hF 0 0 rfl rfl 13 (by decide) (hts _ q129) (fun _ h9 => h9) rfl dX1_closeMonth_99 ?_
  refine lv_bipush (v := 6) hx hb dX1_closeMonth_102 (by decide) ?_
  refine lv_irem hx hb dX1_closeMonth_104 (by decide) ?_
  refine lv_re (rem6 (by omega)) ?_
  refine g_cvw (va_runV (As := [.int (nI ((mo + 1) % 6))]) (rest := []) ⟨hx, hb, hml, hown, hts⟩ (cc_lay_B l Γ ad N o (uz Y3 0 0 3 (nI (mo + 1))) ((mo + 1) % 6) (by omega)) (cwV 1 hts (lw_V q519 q521 qs6 q23 q522) rfl rfl rfl (by decide +kernel) ⟨Nat.le_of_ble_eq_true rfl, Nat.le_of_ble_eq_true rfl⟩) (SF_V hK hS hF (recvF hK hF 0 0 rfl rfl)) rfl rfl hl.1 rfl (lv_room (Nat.le_of_ble_eq_true rfl)) dX1_closeMonth_105 ⟨Nat.le_of_ble_eq_true rfl, Nat.le_of_ble_eq_true rfl⟩) hS (fun H locs hF hS => ?_)
  refine lv_aload_n hx hb dX1_closeMonth_108 rfl (lv_at hl 0 rfl) ?_
  refine r_get (ci := 0) (v := .int ((cLay (uz Y3 0 0 3 (nI (mo + 1))) ((mo + 1) % 6)) 0 0 3)) (T := TX1) (N := 14) hx hb hts in_X1 hown hK hF 0 0 rfl rfl 13 (by decide) (hts _ q129) (fun _ h9 => h9) rfl dX1_closeMonth_109 ?_
  exact g_iret hx hb hr hlocks hF hS dX1_closeMonth_112
set_option maxHeartbeats 4000000 in
set_option maxRecDepth 100000 in
/-- closeMonth, path A -/
theorem cc_closeMonth_A (l : Launch) (hst : l.stackTraces = false) (Γ : Gm) (ad : Nat → Nat → Nat) (N : Nat → Nat) (o : Nat → Int64) (Z : Nat → Nat → Nat → Int32) (hnow : Z 0 0 3 = 47) : vx_Met l yX1_closeMonth (ws_ yX1_closeMonth cX1_closeMonth 2 (some .int)) ({ frames := 7, cells := 1, slots := 6, locals := 101 }) (va_Pc [.ref (ad 0 0)] (SF Γ ad (shp Γ ad N o Z))) (gNi Γ) (gX Γ (fun E => E = xIS) ad (shp Γ ad N o Z)) 1 6 (AA Γ) := by
  refine vx_ofW (cc := cX1_closeMonth) (maxL := 2) (ret := (some .int)) (by decide) rfl ?_
  intro p e s m args below meth c s₁ B hml hno hv
  obtain ⟨rfl, hK, hF⟩ := hv
  have hx := B.exec
  have hb := B.bytes
  have hr := B.returns
  have hts := atoms_spec (ws := ws_ yX1_closeMonth cX1_closeMonth 2 (some .int)) B.pre
  have hts : ∀ w ∈ lw_all, w.before _ s = true := fun w h => hts w (List.mem_cons_of_mem _ h)
  have hown : s.vm.findClass RX1 = some m.cls := findClass_of_methodNamed B.named
  have hlocks := B.notSynchronized
  have hS : va_S (AA Γ) s.heap s.heap [] := va_S.rf
  have hl := lv_entry ([.ref (ad 0 0)]) (n := 2) (Nat.le_of_ble_eq_true rfl)
  rw [lg_entry_eq]
  generalize (lg_sl ([.ref (ad 0 0)]) ++ List.replicate (2 - (lg_sl ([.ref (ad 0 0)])).length) Slot.unset).toArray = ls at hl ⊢
  have hl : lv_has ls 2 [(0, .ref (ad 0 0))] := hl
  refine lv_aload_n hx hb dX1_closeMonth_0 rfl (lv_at hl 0 rfl) ?_
  refine r_get (ci := 0) (v := .int (Z 0 0 3)) (T := TX1) (N := 14) hx hb hts in_X1 hown hK hF 0 0 rfl rfl 13 (by decide) (hts _ q129) (fun _ h9 => h9) rfl dX1_closeMonth_1 ?_
  refine lv_re hnow ?_
  refine lv_bipush (v := 47) hx hb dX1_closeMonth_4 (by decide) ?_
  refine lv_icmp_ge (tgt := 13) hx hb dX1_closeMonth_6 (by decide) (fun _ => ?_) (fun c6 => absurd (by decide) c6)
  refine lv_iconst (v := 0) hx hb dX1_closeMonth_13 (by decide) ?_
  exact gx_callv (vx_runS (As := [.int 0]) (rest := []) ⟨hx, hb, hml, hown, hts⟩ (xet_X1_allow l hst Γ ad (shp Γ ad N o Z)) (va_cwS 1 hts (lw_S q331 q332 q23 q333) rfl rfl rfl (by decide +kernel) ⟨Nat.le_of_ble_eq_true rfl, Nat.le_of_ble_eq_true rfl⟩) (SF_S hK hS hF) rfl rfl hl.1 rfl (lv_room (Nat.le_of_ble_eq_true rfl)) dX1_closeMonth_14 ⟨Nat.le_of_ble_eq_true rfl, Nat.le_of_ble_eq_true rfl⟩) hS (gx_pass hno hlocks (Nat.le_of_ble_eq_true rfl) (Nat.le_of_ble_eq_true rfl) (fun _ h => h)) (fun _ _ _ h => h.elim)
