set_option maxHeartbeats 4000000 in
set_option maxRecDepth 100000 in
/-- repay, path A -/
theorem mm_repay_A (l : Launch) (Γ : Gm) (ad : Nat → Nat → Nat) (N : Nat → Nat) (o : Nat → Int64) (Z : Nat → Nat → Nat → Int32) (l0 : Int32) (h : ¬ (0 ≤ l0 ∧ l0 ≤ Z 8 0 5 - 1)) : Met l yX4_repay (ws_ yX4_repay cX4_repay 4 (some .int)) ({ frames := 2, cells := 0, slots := 0, locals := 43 }) (va_Pc [.ref (ad 8 0), .int l0] (SF Γ ad (shp Γ ad N o Z))) (gEi Γ (0) ad (shp Γ ad N o (uz (uz Z 8 0 0 0) 8 0 0 1))) 0 0 (AA Γ) := by
  refine Met.ofW (cc := cX4_repay) (maxL := 4) (ret := (some .int)) (by decide) rfl ?_
  intro p e s m args below meth c s₁ B hml hv
  obtain ⟨rfl, hK, hF⟩ := hv
  have hx := B.exec
  have hb := B.bytes
  have hr := B.returns
  have hts := atoms_spec (ws := ws_ yX4_repay cX4_repay 4 (some .int)) B.pre
  have hts : ∀ w ∈ lw_all, w.before _ s = true := fun w h => hts w (List.mem_cons_of_mem _ h)
  have hown : s.vm.findClass RX4 = some m.cls := findClass_of_methodNamed B.named
  have hlocks := B.notSynchronized
  have hS : va_S (AA Γ) s.heap s.heap [] := va_S.rf
  have hl := lv_entry ([.ref (ad 8 0), .int l0]) (n := 4) (Nat.le_of_ble_eq_true rfl)
  rw [lg_entry_eq]
  generalize (lg_sl ([.ref (ad 8 0), .int l0]) ++ List.replicate (4 - (lg_sl ([.ref (ad 8 0), .int l0])).length) Slot.unset).toArray = ls at hl ⊢
  have hl : lv_has ls 4 [(0, .ref (ad 8 0)), (1, .int l0)] := hl
  refine lv_aload_n hx hb dX4_repay_0 rfl (lv_at hl 0 rfl) ?_
  refine lv_iconst (v := 0) hx hb dX4_repay_1 (by decide) ?_
  refine s_put (ci := 5) (T := TX4) (NC := 22) hx hb hts in_X4 tyX4 tyX4_ok nmX4 hown hK hF hS 8 0 0 rfl rfl 0 (by decide) rfl (hts _ q680) (fun _ h9 => h9) rfl (by decide +kernel) (Nat.le_of_ble_eq_true rfl) dX4_repay_2 (fun H locs hF hS => ?_)
  refine lv_aload_n hx hb dX4_repay_5 rfl (lv_at hl 0 rfl) ?_
  refine lv_iload_n hx hb dX4_repay_6 rfl (lv_at hl 1 rfl) ?_
  refine g_ci (va_runV (As := [.int l0]) (rest := []) ⟨hx, hb, hml, hown, hts⟩ (Met.val (met_X4_isLoan l Γ ad N o (uz Z 8 0 0 0) l0) (bI0 h)) (cwV 1 hts (lw_V q779 q781 qs13 q31 q782) rfl rfl rfl (by decide +kernel) ⟨Nat.le_of_ble_eq_true rfl, Nat.le_of_ble_eq_true rfl⟩) (SF_V hK hS hF (recvF hK hF 8 0 rfl rfl)) rfl rfl hl.1 rfl (lv_room (Nat.le_of_ble_eq_true rfl)) dX4_repay_7 ⟨Nat.le_of_ble_eq_true rfl, Nat.le_of_ble_eq_true rfl⟩) hS (fun H locs hF hS => ?_)
  refine lv_if_ne (tgt := 19) hx hb dX4_repay_10 (by decide) (fun c10 => absurd (by decide) c10) (fun _ => ?_)
  refine lv_aload_n hx hb dX4_repay_13 rfl (lv_at hl 0 rfl) ?_
  refine lv_iconst (v := 1) hx hb dX4_repay_14 (by decide) ?_
  refine g_callw (va_runV (As := [.int 1]) (rest := []) ⟨hx, hb, hml, hown, hts⟩ (met_X4_fails l Γ ad N o (uz Z 8 0 0 0) 1) (cwV 1 hts (lw_V q759 q761 qs12 q31 q762) rfl rfl rfl (by decide +kernel) ⟨Nat.le_of_ble_eq_true rfl, Nat.le_of_ble_eq_true rfl⟩) (SF_V hK hS hF (recvF hK hF 8 0 rfl rfl)) rfl rfl hl.1 rfl (lv_room (Nat.le_of_ble_eq_true rfl)) dX4_repay_15 ⟨Nat.le_of_ble_eq_true rfl, Nat.le_of_ble_eq_true rfl⟩) hS (fun H locs hF hS => ?_)
  exact g_iret hx hb hr hlocks hF hS dX4_repay_18
set_option maxHeartbeats 4000000 in
set_option maxRecDepth 100000 in
/-- repay, path B -/
theorem mm_repay_B (l : Launch) (Γ : Gm) (ad : Nat → Nat → Nat) (N : Nat → Nat) (o : Nat → Int64) (Z : Nat → Nat → Nat → Int32) (j n : Nat) (hj : j < n) (hn : n ≤ 24) (hlo : Z 8 0 5 = nI n) (h : Z 8 6 j = 0 ∨ mLeft Z j = 0) : Met l yX4_repay (ws_ yX4_repay cX4_repay 4 (some .int)) ({ frames := 2, cells := 0, slots := 0, locals := 43 }) (va_Pc [.ref (ad 8 0), .int (nI j)] (SF Γ ad (shp Γ ad N o Z))) (gEi Γ (0) ad (shp Γ ad N o (uz (uz Z 8 0 0 0) 8 0 0 2))) 0 0 (AA Γ) := by
  refine Met.ofW (cc := cX4_repay) (maxL := 4) (ret := (some .int)) (by decide) rfl ?_
  intro p e s m args below meth c s₁ B hml hv
  obtain ⟨rfl, hK, hF⟩ := hv
  have hx := B.exec
  have hb := B.bytes
  have hr := B.returns
  have hts := atoms_spec (ws := ws_ yX4_repay cX4_repay 4 (some .int)) B.pre
  have hts : ∀ w ∈ lw_all, w.before _ s = true := fun w h => hts w (List.mem_cons_of_mem _ h)
  have hown : s.vm.findClass RX4 = some m.cls := findClass_of_methodNamed B.named
  have hlocks := B.notSynchronized
  have hS : va_S (AA Γ) s.heap s.heap [] := va_S.rf
  have hl := lv_entry ([.ref (ad 8 0), .int (nI j)]) (n := 4) (Nat.le_of_ble_eq_true rfl)
  rw [lg_entry_eq]
  generalize (lg_sl ([.ref (ad 8 0), .int (nI j)]) ++ List.replicate (4 - (lg_sl ([.ref (ad 8 0), .int (nI j)])).length) Slot.unset).toArray = ls at hl ⊢
  have hl : lv_has ls 4 [(0, .ref (ad 8 0)), (1, .int (nI j))] := hl
  refine lv_aload_n hx hb dX4_repay_0 rfl (lv_at hl 0 rfl) ?_
  refine lv_iconst (v := 0) hx hb dX4_repay_1 (by decide) ?_
  refine s_put (ci := 5) (T := TX4) (NC := 22) hx hb hts in_X4 tyX4 tyX4_ok nmX4 hown hK hF hS 8 0 0 rfl rfl 0 (by decide) rfl (hts _ q680) (fun _ h9 => h9) rfl (by decide +kernel) (Nat.le_of_ble_eq_true rfl) dX4_repay_2 (fun H locs hF hS => ?_)
  refine lv_aload_n hx hb dX4_repay_5 rfl (lv_at hl 0 rfl) ?_
  refine lv_iload_n hx hb dX4_repay_6 rfl (lv_at hl 1 rfl) ?_
  refine g_ci (va_runV (As := [.int (nI j)]) (rest := []) ⟨hx, hb, hml, hown, hts⟩ (Met.val (met_X4_isLoan l Γ ad N o (uz Z 8 0 0 0) (nI j)) (bI1 (inL hj (by omega) hlo))) (cwV 1 hts (lw_V q779 q781 qs13 q31 q782) rfl rfl rfl (by decide +kernel) ⟨Nat.le_of_ble_eq_true rfl, Nat.le_of_ble_eq_true rfl⟩) (SF_V hK hS hF (recvF hK hF 8 0 rfl rfl)) rfl rfl hl.1 rfl (lv_room (Nat.le_of_ble_eq_true rfl)) dX4_repay_7 ⟨Nat.le_of_ble_eq_true rfl, Nat.le_of_ble_eq_true rfl⟩) hS (fun H locs hF hS => ?_)
  refine lv_if_ne (tgt := 19) hx hb dX4_repay_10 (by decide) (fun _ => ?_) (fun c10 => absurd c10 (by decide))
  refine lv_aload_n hx hb dX4_repay_19 rfl (lv_at hl 0 rfl) ?_
  refine lv_iload_n hx hb dX4_repay_20 rfl (lv_at hl 1 rfl) ?_
  refine g_ci (va_runV (As := [.int (nI j)]) (rest := []) ⟨hx, hb, hml, hown, hts⟩ (met_X4_leftOf l Γ ad N o (uz Z 8 0 0 0) j (by omega)) (cwV 1 hts (lw_V q783 q785 qs14 q31 q786) rfl rfl rfl (by decide +kernel) ⟨Nat.le_of_ble_eq_true rfl, Nat.le_of_ble_eq_true rfl⟩) (SF_V hK hS hF (recvF hK hF 8 0 rfl rfl)) rfl rfl hl.1 rfl (lv_room (Nat.le_of_ble_eq_true rfl)) dX4_repay_21 ⟨Nat.le_of_ble_eq_true rfl, Nat.le_of_ble_eq_true rfl⟩) hS (fun H locs hF hS => ?_)
  refine lv_istore_n (lv' := [(2, .int (mLeft Z j)), (0, .ref (ad 8 0)), (1, .int (nI j))]) hx hb dX4_repay_24 rfl hl (by decide) rfl (fun ls hl => ?_)
  refine lv_aload_n hx hb dX4_repay_25 rfl (lv_at hl 1 rfl) ?_
  refine r_get (ci := 5) (v := .ref (ad 8 6)) (T := TX4) (N := 22) hx hb hts in_X4 hown hK hF 8 0 rfl rfl 11 (by decide) (hts _ q691) (fun _ h9 => h9) rfl dX4_repay_26 ?_
  refine lv_iload_n hx hb dX4_repay_29 rfl (lv_at hl 2 rfl) ?_
  refine s_zald hx hb hK hF 8 6 rfl j rfl (by omega) (by omega) dX4_repay_30 ?_
  refine lv_if_eq (tgt := 38) hx hb dX4_repay_31 (by decide) (fun c31 => ?_) (fun c31 => ?_)
  · refine lv_aload_n hx hb dX4_repay_38 rfl (lv_at hl 1 rfl) ?_
    refine lv_iconst (v := 2) hx hb dX4_repay_39 (by decide) ?_
    refine g_callw (va_runV (As := [.int 2]) (rest := []) ⟨hx, hb, hml, hown, hts⟩ (met_X4_fails l Γ ad N o (uz Z 8 0 0 0) 2) (cwV 1 hts (lw_V q759 q761 qs12 q31 q762) rfl rfl rfl (by decide +kernel) ⟨Nat.le_of_ble_eq_true rfl, Nat.le_of_ble_eq_true rfl⟩) (SF_V hK hS hF (recvF hK hF 8 0 rfl rfl)) rfl rfl hl.1 rfl (lv_room (Nat.le_of_ble_eq_true rfl)) dX4_repay_40 ⟨Nat.le_of_ble_eq_true rfl, Nat.le_of_ble_eq_true rfl⟩) hS (fun H locs hF hS => ?_)
    exact g_iret hx hb hr hlocks hF hS dX4_repay_43
  · refine lv_iload_n hx hb dX4_repay_34 rfl (lv_at hl 0 rfl) ?_
    refine lv_if_ne (tgt := 44) hx hb dX4_repay_35 (by decide) (fun c35 => ?_) (fun c35 => ?_)
    · exact absurd (h.resolve_left c31) c35
    · refine lv_aload_n hx hb dX4_repay_38 rfl (lv_at hl 1 rfl) ?_
      refine lv_iconst (v := 2) hx hb dX4_repay_39 (by decide) ?_
      refine g_callw (va_runV (As := [.int 2]) (rest := []) ⟨hx, hb, hml, hown, hts⟩ (met_X4_fails l Γ ad N o (uz Z 8 0 0 0) 2) (cwV 1 hts (lw_V q759 q761 qs12 q31 q762) rfl rfl rfl (by decide +kernel) ⟨Nat.le_of_ble_eq_true rfl, Nat.le_of_ble_eq_true rfl⟩) (SF_V hK hS hF (recvF hK hF 8 0 rfl rfl)) rfl rfl hl.1 rfl (lv_room (Nat.le_of_ble_eq_true rfl)) dX4_repay_40 ⟨Nat.le_of_ble_eq_true rfl, Nat.le_of_ble_eq_true rfl⟩) hS (fun H locs hF hS => ?_)
      exact g_iret hx hb hr hlocks hF hS dX4_repay_43
set_option maxHeartbeats 4000000 in
set_option maxRecDepth 100000 in
/-- repay, path C -/
theorem mm_repay_C (l : Launch) (Γ : Gm) (ad : Nat → Nat → Nat) (N : Nat → Nat) (o : Nat → Int64) (Z : Nat → Nat → Nat → Int32) (j n : Nat) (hj : j < n) (hn : n ≤ 24) (hlo : Z 8 0 5 = nI n) (h6 : ¬ Z 8 6 j = 0) (hl0 : ¬ mLeft Z j = 0) : Met l yX4_repay (ws_ yX4_repay cX4_repay 4 (some .int)) ({ frames := 2, cells := 0, slots := 0, locals := 43 }) (va_Pc [.ref (ad 8 0), .int (nI j)] (SF Γ ad (shp Γ ad N o Z))) (gEi Γ (mLeft Z j) ad (shp Γ ad N o (mClr (uz Z 8 0 0 0) j 6))) 0 0 (AA Γ) := by
  refine Met.ofW (cc := cX4_repay) (maxL := 4) (ret := (some .int)) (by decide) rfl ?_
  intro p e s m args below meth c s₁ B hml hv
  obtain ⟨rfl, hK, hF⟩ := hv
  have hx := B.exec
  have hb := B.bytes
  have hr := B.returns
  have hts := atoms_spec (ws := ws_ yX4_repay cX4_repay 4 (some .int)) B.pre
  have hts : ∀ w ∈ lw_all, w.before _ s = true := fun w h => hts w (List.mem_cons_of_mem _ h)
  have hown : s.vm.findClass RX4 = some m.cls := findClass_of_methodNamed B.named
  have hlocks := B.notSynchronized
  have hS : va_S (AA Γ) s.heap s.heap [] := va_S.rf
  have hl := lv_entry ([.ref (ad 8 0), .int (nI j)]) (n := 4) (Nat.le_of_ble_eq_true rfl)
  rw [lg_entry_eq]
  generalize (lg_sl ([.ref (ad 8 0), .int (nI j)]) ++ List.replicate (4 - (lg_sl ([.ref (ad 8 0), .int (nI j)])).length) Slot.unset).toArray = ls at hl ⊢
  have hl : lv_has ls 4 [(0, .ref (ad 8 0)), (1, .int (nI j))] := hl
  refine lv_aload_n hx hb dX4_repay_0 rfl (lv_at hl 0 rfl) ?_
  refine lv_iconst (v := 0) hx hb dX4_repay_1 (by decide) ?_
  refine s_put (ci := 5) (T := TX4) (NC := 22) hx hb hts in_X4 tyX4 tyX4_ok nmX4 hown hK hF hS 8 0 0 rfl rfl 0 (by decide) rfl (hts _ q680) (fun _ h9 => h9) rfl (by decide +kernel) (Nat.le_of_ble_eq_true rfl) dX4_repay_2 (fun H locs hF hS => ?_)
  refine lv_aload_n hx hb dX4_repay_5 rfl (lv_at hl 0 rfl) ?_
  refine lv_iload_n hx hb dX4_repay_6 rfl (lv_at hl 1 rfl) ?_
  refine g_ci (va_runV (As := [.int (nI j)]) (rest := []) ⟨hx, hb, hml, hown, hts⟩ (Met.val (met_X4_isLoan l Γ ad N o (uz Z 8 0 0 0) (nI j)) (bI1 (inL hj (by omega) hlo))) (cwV 1 hts (lw_V q779 q781 qs13 q31 q782) rfl rfl rfl (by decide +kernel) ⟨Nat.le_of_ble_eq_true rfl, Nat.le_of_ble_eq_true rfl⟩) (SF_V hK hS hF (recvF hK hF 8 0 rfl rfl)) rfl rfl hl.1 rfl (lv_room (Nat.le_of_ble_eq_true rfl)) dX4_repay_7 ⟨Nat.le_of_ble_eq_true rfl, Nat.le_of_ble_eq_true rfl⟩) hS (fun H locs hF hS => ?_)
  refine lv_if_ne (tgt := 19) hx hb dX4_repay_10 (by decide) (fun _ => ?_) (fun c10 => absurd c10 (by decide))
  refine lv_aload_n hx hb dX4_repay_19 rfl (lv_at hl 0 rfl) ?_
  refine lv_iload_n hx hb dX4_repay_20 rfl (lv_at hl 1 rfl) ?_
  refine g_ci (va_runV (As := [.int (nI j)]) (rest := []) ⟨hx, hb, hml, hown, hts⟩ (met_X4_leftOf l Γ ad N o (uz Z 8 0 0 0) j (by omega)) (cwV 1 hts (lw_V q783 q785 qs14 q31 q786) rfl rfl rfl (by decide +kernel) ⟨Nat.le_of_ble_eq_true rfl, Nat.le_of_ble_eq_true rfl⟩) (SF_V hK hS hF (recvF hK hF 8 0 rfl rfl)) rfl rfl hl.1 rfl (lv_room (Nat.le_of_ble_eq_true rfl)) dX4_repay_21 ⟨Nat.le_of_ble_eq_true rfl, Nat.le_of_ble_eq_true rfl⟩) hS (fun H locs hF hS => ?_)
  refine lv_istore_n (lv' := [(2, .int (mLeft Z j)), (0, .ref (ad 8 0)), (1, .int (nI j))]) hx hb dX4_repay_24 rfl hl (by decide) rfl (fun ls hl => ?_)
  refine lv_aload_n hx hb dX4_repay_25 rfl (lv_at hl 1 rfl) ?_
  refine r_get (ci := 5) (v := .ref (ad 8 6)) (T := TX4) (N := 22) hx hb hts in_X4 hown hK hF 8 0 rfl rfl 11 (by decide) (hts _ q691) (fun _ h9 => h9) rfl dX4_repay_26 ?_
  refine lv_iload_n hx hb dX4_repay_29 rfl (lv_at hl 2 rfl) ?_
  refine s_zald hx hb hK hF 8 6 rfl j rfl (by omega) (by omega) dX4_repay_30 ?_
  refine lv_if_eq (tgt := 38) hx hb dX4_repay_31 (by decide) (fun c31 => absurd c31 h6) (fun c31 => ?_)
  refine lv_iload_n hx hb dX4_repay_34 rfl (lv_at hl 0 rfl) ?_
  refine lv_if_ne (tgt := 44) hx hb dX4_repay_35 (by decide) (fun c35 => ?_) (fun c35 => absurd c35 hl0)
  refine lv_iconst (v := 0) hx hb dX4_repay_44 (by decide) ?_
  refine lv_istore_n (lv' := [(3, .int 0), (2, .int (mLeft Z j)), (0, .ref (ad 8 0)), (1, .int (nI j))]) hx hb dX4_repay_45 rfl hl (by decide) rfl (fun ls hl => ?_)
  have LP : ∀ (u7 i : Nat) (x3 : Int32) , i + u7 = 6 → 0 ≤ i → x3 = nI i → ∀ (H : Heap) (locs : List Loc), FF Γ ad (shp Γ ad N o (mClr (uz Z 8 0 0 0) j i)) H → va_S (AA Γ) s.heap H locs → ∀ (ls : Array Slot), lv_has ls 4 [(3, .int x3), (2, .int (mLeft Z j)), (0, .ref (ad 8 0)), (1, .int (nI j))] → W p l e (headSpec (ws_ yX4_repay cX4_repay 4 (some .int)) ({ frames := 2, cells := 0, slots := 0, locals := 43 })).room s m ([.ref (ad 8 0), .int (nI j)] : List Value).toArray below meth c H locs 0 0 (MQ below (gEi Γ (mLeft Z j) ad (shp Γ ad N o (mClr (uz Z 8 0 0 0) j 6))) ([.ref (ad 8 0), .int (nI j)] : List Value).toArray s 0 0 (AA Γ)) (F0 m 46 ls []) := by
    intro u7
    induction u7 with
    | zero =>
      intro i x3  hi hs e3 H locs hF hS ls hl
      subst e3
      obtain rfl : 6 = i := by omega
      refine lv_iload_n hx hb dX4_repay_46 rfl (lv_at hl 0 rfl) ?_
      refine lv_bipush (v := 6) hx hb dX4_repay_47 (by decide) ?_
      refine lv_icmp_ge (tgt := 70) hx hb dX4_repay_49 (by decide) (fun c49 => ?_) (fun c49 => ?_)
      · refine lv_iload_n hx hb dX4_repay_70 rfl (lv_at hl 1 rfl) ?_
        exact g_iret hx hb hr hlocks hF hS dX4_repay_71
      · exact absurd (nI_le (a := 6) (b := 6) (Nat.le_refl _) (by omega)) c49
    | succ u7 ih =>
      intro i x3  hi hs e3 H locs hF hS ls hl
      subst e3
      refine lv_iload_n hx hb dX4_repay_46 rfl (lv_at hl 0 rfl) ?_
      refine lv_bipush (v := 6) hx hb dX4_repay_47 (by decide) ?_
      refine lv_icmp_ge (tgt := 70) hx hb dX4_repay_49 (by decide) (fun c49 => ?_) (fun c49 => ?_)
      · exact absurd c49 (nI_ge (a := i) (b := 6) (by omega) (by omega))
      · refine lv_aload_n hx hb dX4_repay_52 rfl (lv_at hl 2 rfl) ?_
        refine r_get (ci := 5) (v := .ref (ad 8 8)) (T := TX4) (N := 22) hx hb hts in_X4 hown hK hF 8 0 rfl rfl 13 (by decide) (hts _ q693) (fun _ h9 => h9) rfl dX4_repay_53 ?_
        refine lv_bipush (v := 6) hx hb dX4_repay_56 (by decide) ?_
        refine lv_iload_n hx hb dX4_repay_58 rfl (lv_at hl 3 rfl) ?_
        refine lv_imul hx hb dX4_repay_59 ?_
        refine lv_iload_n hx hb dX4_repay_60 rfl (lv_at hl 0 rfl) ?_
        refine lv_iadd hx hb dX4_repay_61 ?_
        refine lv_iconst (v := 0) hx hb dX4_repay_62 (by decide) ?_
        refine s_iast hx hb hK hF hS 8 8 (fun _ => rfl) (6 * j + i) (ix6 j i) (by omega) (by omega) dX4_repay_63 (fun H locs hF hS => ?_)
        refine lv_iinc (v := nI (i + 1)) (lv' := [(3, .int (nI (i + 1))), (2, .int (mLeft Z j)), (0, .ref (ad 8 0)), (1, .int (nI j))]) hx hb dX4_repay_64 hl (k := 0) rfl (nI_1 _) (by decide) rfl (fun ls hl => ?_)
        refine lv_goto (tgt := 46) hx hb dX4_repay_67 (by decide) ?_
        exact ih (i + 1) _ (by omega) (by omega) rfl _ _ hF hS ls (lv_sub hl [0, 1, 2, 3] rfl)
  exact LP (6 - 0) 0 _ (by omega) (Nat.le_refl _) rfl _ _ hF hS ls hl
set_option maxHeartbeats 4000000 in
set_option maxRecDepth 100000 in
/-- deposit, path A -/
theorem mm_deposit_A (l : Launch) (Γ : Gm) (ad : Nat → Nat → Nat) (N : Nat → Nat) (o : Nat → Int64) (Z : Nat → Nat → Nat → Int32) (b c0 : Int32) (h : ¬ (0 ≤ b ∧ b ≤ 2)) : Met l yX4_deposit (ws_ yX4_deposit cX4_deposit 4 (some .int)) ({ frames := 2, cells := 0, slots := 0, locals := 42 }) (va_Pc [.ref (ad 8 0), .int b, .int c0] (SF Γ ad (shp Γ ad N o Z))) (gEi Γ (0) ad (shp Γ ad N o (uz (uz Z 8 0 0 0) 8 0 0 1))) 0 0 (AA Γ) := by
  refine Met.ofW (cc := cX4_deposit) (maxL := 4) (ret := (some .int)) (by decide) rfl ?_
  intro p e s m args below meth c s₁ B hml hv
  obtain ⟨rfl, hK, hF⟩ := hv
  have hx := B.exec
  have hb := B.bytes
  have hr := B.returns
  have hts := atoms_spec (ws := ws_ yX4_deposit cX4_deposit 4 (some .int)) B.pre
  have hts : ∀ w ∈ lw_all, w.before _ s = true := fun w h => hts w (List.mem_cons_of_mem _ h)
  have hown : s.vm.findClass RX4 = some m.cls := findClass_of_methodNamed B.named
  have hlocks := B.notSynchronized
  have hS : va_S (AA Γ) s.heap s.heap [] := va_S.rf
  have hl := lv_entry ([.ref (ad 8 0), .int b, .int c0]) (n := 4) (Nat.le_of_ble_eq_true rfl)
  rw [lg_entry_eq]
  generalize (lg_sl ([.ref (ad 8 0), .int b, .int c0]) ++ List.replicate (4 - (lg_sl ([.ref (ad 8 0), .int b, .int c0])).length) Slot.unset).toArray = ls at hl ⊢
  have hl : lv_has ls 4 [(0, .ref (ad 8 0)), (1, .int b), (2, .int c0)] := hl
  refine lv_aload_n hx hb dX4_deposit_0 rfl (lv_at hl 0 rfl) ?_
  refine lv_iconst (v := 0) hx hb dX4_deposit_1 (by decide) ?_
  refine s_put (ci := 5) (T := TX4) (NC := 22) hx hb hts in_X4 tyX4 tyX4_ok nmX4 hown hK hF hS 8 0 0 rfl rfl 0 (by decide) rfl (hts _ q680) (fun _ h9 => h9) rfl (by decide +kernel) (Nat.le_of_ble_eq_true rfl) dX4_deposit_2 (fun H locs hF hS => ?_)
  refine lv_iload_n hx hb dX4_deposit_5 rfl (lv_at hl 1 rfl) ?_
  refine g_ci (va_runS (As := [.int b]) (rest := []) ⟨hx, hb, hml, hown, hts⟩ (Met.val (met_X4_isBranch l Γ ad N o (uz Z 8 0 0 0) b) (bI0 h)) (va_cwS 1 hts (lw_S q771 q772 q31 q773) rfl rfl rfl (by decide +kernel) ⟨Nat.le_of_ble_eq_true rfl, Nat.le_of_ble_eq_true rfl⟩) (SF_S hK hS hF) rfl rfl hl.1 rfl (lv_room (Nat.le_of_ble_eq_true rfl)) dX4_deposit_6 ⟨Nat.le_of_ble_eq_true rfl, Nat.le_of_ble_eq_true rfl⟩) hS (fun H locs hF hS => ?_)
  refine lv_if_ne (tgt := 18) hx hb dX4_deposit_9 (by decide) (fun c9 => absurd (by decide) c9) (fun _ => ?_)
  refine lv_aload_n hx hb dX4_deposit_12 rfl (lv_at hl 0 rfl) ?_
  refine lv_iconst (v := 1) hx hb dX4_deposit_13 (by decide) ?_
  refine g_callw (va_runV (As := [.int 1]) (rest := []) ⟨hx, hb, hml, hown, hts⟩ (met_X4_fails l Γ ad N o (uz Z 8 0 0 0) 1) (cwV 1 hts (lw_V q759 q761 qs12 q31 q762) rfl rfl rfl (by decide +kernel) ⟨Nat.le_of_ble_eq_true rfl, Nat.le_of_ble_eq_true rfl⟩) (SF_V hK hS hF (recvF hK hF 8 0 rfl rfl)) rfl rfl hl.1 rfl (lv_room (Nat.le_of_ble_eq_true rfl)) dX4_deposit_14 ⟨Nat.le_of_ble_eq_true rfl, Nat.le_of_ble_eq_true rfl⟩) hS (fun H locs hF hS => ?_)
  exact g_iret hx hb hr hlocks hF hS dX4_deposit_17
set_option maxHeartbeats 4000000 in
set_option maxRecDepth 100000 in
/-- deposit, path B -/
theorem mm_deposit_B (l : Launch) (Γ : Gm) (ad : Nat → Nat → Nat) (N : Nat → Nat) (o : Nat → Int64) (Z : Nat → Nat → Nat → Int32) (b : Nat) (hb3 : b < 3) (c0 : Int32) (h : ¬ ((-10000000) ≤ c0 ∧ c0 ≤ 10000000)) : Met l yX4_deposit (ws_ yX4_deposit cX4_deposit 4 (some .int)) ({ frames := 2, cells := 0, slots := 0, locals := 42 }) (va_Pc [.ref (ad 8 0), .int (nI b), .int c0] (SF Γ ad (shp Γ ad N o Z))) (gEi Γ (0) ad (shp Γ ad N o (uz (uz Z 8 0 0 0) 8 0 0 2))) 0 0 (AA Γ) := by
  refine Met.ofW (cc := cX4_deposit) (maxL := 4) (ret := (some .int)) (by decide) rfl ?_
  intro p e s m args below meth c s₁ B hml hv
  obtain ⟨rfl, hK, hF⟩ := hv
  have hx := B.exec
  have hb := B.bytes
  have hr := B.returns
  have hts := atoms_spec (ws := ws_ yX4_deposit cX4_deposit 4 (some .int)) B.pre
  have hts : ∀ w ∈ lw_all, w.before _ s = true := fun w h => hts w (List.mem_cons_of_mem _ h)
  have hown : s.vm.findClass RX4 = some m.cls := findClass_of_methodNamed B.named
  have hlocks := B.notSynchronized
  have hS : va_S (AA Γ) s.heap s.heap [] := va_S.rf
  have hl := lv_entry ([.ref (ad 8 0), .int (nI b), .int c0]) (n := 4) (Nat.le_of_ble_eq_true rfl)
  rw [lg_entry_eq]
  generalize (lg_sl ([.ref (ad 8 0), .int (nI b), .int c0]) ++ List.replicate (4 - (lg_sl ([.ref (ad 8 0), .int (nI b), .int c0])).length) Slot.unset).toArray = ls at hl ⊢
  have hl : lv_has ls 4 [(0, .ref (ad 8 0)), (1, .int (nI b)), (2, .int c0)] := hl
  refine lv_aload_n hx hb dX4_deposit_0 rfl (lv_at hl 0 rfl) ?_
  refine lv_iconst (v := 0) hx hb dX4_deposit_1 (by decide) ?_
  refine s_put (ci := 5) (T := TX4) (NC := 22) hx hb hts in_X4 tyX4 tyX4_ok nmX4 hown hK hF hS 8 0 0 rfl rfl 0 (by decide) rfl (hts _ q680) (fun _ h9 => h9) rfl (by decide +kernel) (Nat.le_of_ble_eq_true rfl) dX4_deposit_2 (fun H locs hF hS => ?_)
  refine lv_iload_n hx hb dX4_deposit_5 rfl (lv_at hl 1 rfl) ?_
  refine g_ci (va_runS (As := [.int (nI b)]) (rest := []) ⟨hx, hb, hml, hown, hts⟩ (Met.val (met_X4_isBranch l Γ ad N o (uz Z 8 0 0 0) (nI b)) (bI1 (inI (a := 0) (b := 2) (Nat.zero_le _) (by omega) (by decide)))) (va_cwS 1 hts (lw_S q771 q772 q31 q773) rfl rfl rfl (by decide +kernel) ⟨Nat.le_of_ble_eq_true rfl, Nat.le_of_ble_eq_true rfl⟩) (SF_S hK hS hF) rfl rfl hl.1 rfl (lv_room (Nat.le_of_ble_eq_true rfl)) dX4_deposit_6 ⟨Nat.le_of_ble_eq_true rfl, Nat.le_of_ble_eq_true rfl⟩) hS (fun H locs hF hS => ?_)
  refine lv_if_ne (tgt := 18) hx hb dX4_deposit_9 (by decide) (fun _ => ?_) (fun c9 => absurd c9 (by decide))
  refine lv_iload_n hx hb dX4_deposit_18 rfl (lv_at hl 2 rfl) ?_
  refine lv_ldc (v := (-10000000)) hx hb hown (hts _ q791) dX4_deposit_19 ?_
  refine lv_ldc (v := 10000000) hx hb hown (hts _ q774) dX4_deposit_21 ?_
  refine g_ci (va_runS (As := [.int c0, .int (-10000000), .int 10000000]) (rest := []) ⟨hx, hb, hml, hown, hts⟩ (Met.val (met_X4_in l Γ ad (shp Γ ad N o (uz Z 8 0 0 0)) c0 (-10000000) 10000000) (bI0 h)) (va_cwS 3 hts (lw_S q756 q757 q31 q758) rfl rfl rfl (by decide +kernel) ⟨Nat.le_of_ble_eq_true rfl, Nat.le_of_ble_eq_true rfl⟩) (SF_S hK hS hF) rfl rfl hl.1 rfl (lv_room (Nat.le_of_ble_eq_true rfl)) dX4_deposit_23 ⟨Nat.le_of_ble_eq_true rfl, Nat.le_of_ble_eq_true rfl⟩) hS (fun H locs hF hS => ?_)
  refine lv_if_ne (tgt := 35) hx hb dX4_deposit_26 (by decide) (fun c26 => absurd (by decide) c26) (fun _ => ?_)
  refine lv_aload_n hx hb dX4_deposit_29 rfl (lv_at hl 0 rfl) ?_
  refine lv_iconst (v := 2) hx hb dX4_deposit_30 (by decide) ?_
  refine g_callw (va_runV (As := [.int 2]) (rest := []) ⟨hx, hb, hml, hown, hts⟩ (met_X4_fails l Γ ad N o (uz Z 8 0 0 0) 2) (cwV 1 hts (lw_V q759 q761 qs12 q31 q762) rfl rfl rfl (by decide +kernel) ⟨Nat.le_of_ble_eq_true rfl, Nat.le_of_ble_eq_true rfl⟩) (SF_V hK hS hF (recvF hK hF 8 0 rfl rfl)) rfl rfl hl.1 rfl (lv_room (Nat.le_of_ble_eq_true rfl)) dX4_deposit_31 ⟨Nat.le_of_ble_eq_true rfl, Nat.le_of_ble_eq_true rfl⟩) hS (fun H locs hF hS => ?_)
  exact g_iret hx hb hr hlocks hF hS dX4_deposit_34
set_option maxHeartbeats 4000000 in
set_option maxRecDepth 100000 in
/-- deposit, path C -/
theorem mm_deposit_C (l : Launch) (Γ : Gm) (ad : Nat → Nat → Nat) (N : Nat → Nat) (o : Nat → Int64) (Z : Nat → Nat → Nat → Int32) (b : Nat) (hb3 : b < 3) (c0 : Int32) (h1 : (-10000000) ≤ c0 ∧ c0 ≤ 10000000) (h : ¬ (0 ≤ Z 8 10 b + c0 ∧ Z 8 10 b + c0 ≤ 10000000)) : Met l yX4_deposit (ws_ yX4_deposit cX4_deposit 4 (some .int)) ({ frames := 2, cells := 0, slots := 0, locals := 42 }) (va_Pc [.ref (ad 8 0), .int (nI b), .int c0] (SF Γ ad (shp Γ ad N o Z))) (gEi Γ (0) ad (shp Γ ad N o (uz (uz Z 8 0 0 0) 8 0 0 3))) 0 0 (AA Γ) := by
  refine Met.ofW (cc := cX4_deposit) (maxL := 4) (ret := (some .int)) (by decide) rfl ?_
  intro p e s m args below meth c s₁ B hml hv
  obtain ⟨rfl, hK, hF⟩ := hv
  have hx := B.exec
  have hb := B.bytes
  have hr := B.returns
  have hts := atoms_spec (ws := ws_ yX4_deposit cX4_deposit 4 (some .int)) B.pre
  have hts : ∀ w ∈ lw_all, w.before _ s = true := fun w h => hts w (List.mem_cons_of_mem _ h)
  have hown : s.vm.findClass RX4 = some m.cls := findClass_of_methodNamed B.named
  have hlocks := B.notSynchronized
  have hS : va_S (AA Γ) s.heap s.heap [] := va_S.rf
  have hl := lv_entry ([.ref (ad 8 0), .int (nI b), .int c0]) (n := 4) (Nat.le_of_ble_eq_true rfl)
  rw [lg_entry_eq]
  generalize (lg_sl ([.ref (ad 8 0), .int (nI b), .int c0]) ++ List.replicate (4 - (lg_sl ([.ref (ad 8 0), .int (nI b), .int c0])).length) Slot.unset).toArray = ls at hl ⊢
  have hl : lv_has ls 4 [(0, .ref (ad 8 0)), (1, .int (nI b)), (2, .int c0)] := hl
  refine lv_aload_n hx hb dX4_deposit_0 rfl (lv_at hl 0 rfl) ?_
  refine lv_iconst (v := 0) hx hb dX4_deposit_1 (by decide) ?_
  refine s_put (ci := 5) (T := TX4) (NC := 22) hx hb hts in_X4 tyX4 tyX4_ok nmX4 hown hK hF hS 8 0 0 rfl rfl 0 (by decide) rfl (hts _ q680) (fun _ h9 => h9) rfl (by decide +kernel) (Nat.le_of_ble_eq_true rfl) dX4_deposit_2 (fun H locs hF hS => ?_)
  refine lv_iload_n hx hb dX4_deposit_5 rfl (lv_at hl 1 rfl) ?_
  refine g_ci (va_runS (As := [.int (nI b)]) (rest := []) ⟨hx, hb, hml, hown, hts⟩ (Met.val (met_X4_isBranch l Γ ad N o (uz Z 8 0 0 0) (nI b)) (bI1 (inI (a := 0) (b := 2) (Nat.zero_le _) (by omega) (by decide)))) (va_cwS 1 hts (lw_S q771 q772 q31 q773) rfl rfl rfl (by decide +kernel) ⟨Nat.le_of_ble_eq_true rfl, Nat.le_of_ble_eq_true rfl⟩) (SF_S hK hS hF) rfl rfl hl.1 rfl (lv_room (Nat.le_of_ble_eq_true rfl)) dX4_deposit_6 ⟨Nat.le_of_ble_eq_true rfl, Nat.le_of_ble_eq_true rfl⟩) hS (fun H locs hF hS => ?_)
  refine lv_if_ne (tgt := 18) hx hb dX4_deposit_9 (by decide) (fun _ => ?_) (fun c9 => absurd c9 (by decide))
  refine lv_iload_n hx hb dX4_deposit_18 rfl (lv_at hl 2 rfl) ?_
  refine lv_ldc (v := (-10000000)) hx hb hown (hts _ q791) dX4_deposit_19 ?_
  refine lv_ldc (v := 10000000) hx hb hown (hts _ q774) dX4_deposit_21 ?_
  refine g_ci (va_runS (As := [.int c0, .int (-10000000), .int 10000000]) (rest := []) ⟨hx, hb, hml, hown, hts⟩ (Met.val (met_X4_in l Γ ad (shp Γ ad N o (uz Z 8 0 0 0)) c0 (-10000000) 10000000) (bI1 h1)) (va_cwS 3 hts (lw_S q756 q757 q31 q758) rfl rfl rfl (by decide +kernel) ⟨Nat.le_of_ble_eq_true rfl, Nat.le_of_ble_eq_true rfl⟩) (SF_S hK hS hF) rfl rfl hl.1 rfl (lv_room (Nat.le_of_ble_eq_true rfl)) dX4_deposit_23 ⟨Nat.le_of_ble_eq_true rfl, Nat.le_of_ble_eq_true rfl⟩) hS (fun H locs hF hS => ?_)
  refine lv_if_ne (tgt := 35) hx hb dX4_deposit_26 (by decide) (fun _ => ?_) (fun c26 => absurd c26 (by decide))
  refine lv_aload_n hx hb dX4_deposit_35 rfl (lv_at hl 0 rfl) ?_
  refine r_get (ci := 5) (v := .ref (ad 8 10)) (T := TX4) (N := 22) hx hb hts in_X4 hown hK hF 8 0 rfl rfl 15 (by decide) (hts _ q695) (fun _ h9 => h9) rfl dX4_deposit_36 ?_
  refine lv_iload_n hx hb dX4_deposit_39 rfl (lv_at hl 1 rfl) ?_
  refine s_iald hx hb hK hF 8 10 rfl b rfl (by omega) (by omega) dX4_deposit_40 ?_
  refine lv_iload_n hx hb dX4_deposit_41 rfl (lv_at hl 2 rfl) ?_
  refine lv_iadd hx hb dX4_deposit_42 ?_
  refine lv_iconst (v := 0) hx hb dX4_deposit_43 (by decide) ?_
  refine lv_ldc (v := 10000000) hx hb hown (hts _ q774) dX4_deposit_44 ?_
  refine g_ci (va_runS (As := [.int ((Z 8 10 b) + c0), .int 0, .int 10000000]) (rest := []) ⟨hx, hb, hml, hown, hts⟩ (Met.val (met_X4_in l Γ ad (shp Γ ad N o (uz Z 8 0 0 0)) ((Z 8 10 b) + c0) 0 10000000) (bI0 h)) (va_cwS 3 hts (lw_S q756 q757 q31 q758) rfl rfl rfl (by decide +kernel) ⟨Nat.le_of_ble_eq_true rfl, Nat.le_of_ble_eq_true rfl⟩) (SF_S hK hS hF) rfl rfl hl.1 rfl (lv_room (Nat.le_of_ble_eq_true rfl)) dX4_deposit_46 ⟨Nat.le_of_ble_eq_true rfl, Nat.le_of_ble_eq_true rfl⟩) hS (fun H locs hF hS => ?_)
  refine lv_if_ne (tgt := 58) hx hb dX4_deposit_49 (by decide) (fun c49 => absurd (by decide) c49) (fun _ => ?_)
  refine lv_aload_n hx hb dX4_deposit_52 rfl (lv_at hl 0 rfl) ?_
  refine lv_iconst (v := 3) hx hb dX4_deposit_53 (by decide) ?_
  refine g_callw (va_runV (As := [.int 3]) (rest := []) ⟨hx, hb, hml, hown, hts⟩ (met_X4_fails l Γ ad N o (uz Z 8 0 0 0) 3) (cwV 1 hts (lw_V q759 q761 qs12 q31 q762) rfl rfl rfl (by decide +kernel) ⟨Nat.le_of_ble_eq_true rfl, Nat.le_of_ble_eq_true rfl⟩) (SF_V hK hS hF (recvF hK hF 8 0 rfl rfl)) rfl rfl hl.1 rfl (lv_room (Nat.le_of_ble_eq_true rfl)) dX4_deposit_54 ⟨Nat.le_of_ble_eq_true rfl, Nat.le_of_ble_eq_true rfl⟩) hS (fun H locs hF hS => ?_)
  exact g_iret hx hb hr hlocks hF hS dX4_deposit_57
set_option maxHeartbeats 4000000 in
set_option maxRecDepth 100000 in
/-- deposit, path D -/
theorem mm_deposit_D (l : Launch) (Γ : Gm) (ad : Nat → Nat → Nat) (N : Nat → Nat) (o : Nat → Int64) (Z : Nat → Nat → Nat → Int32) (b : Nat) (hb3 : b < 3) (c0 : Int32) (h1 : (-10000000) ≤ c0 ∧ c0 ≤ 10000000) (h : 0 ≤ Z 8 10 b + c0 ∧ Z 8 10 b + c0 ≤ 10000000) (hnow : Z 8 0 1 = 0) (hc0 : ¬ c0 = 0) : Met l yX4_deposit (ws_ yX4_deposit cX4_deposit 4 (some .int)) ({ frames := 2, cells := 0, slots := 0, locals := 44 }) (va_Pc [.ref (ad 8 0), .int (nI b), .int c0] (SF Γ ad (shp Γ ad N o Z))) (gEi Γ (Z 8 10 b + c0) ad (shp Γ ad N o (mLays (uz (uz Z 8 0 0 0) 8 10 b (Z 8 10 b + c0)) 6))) 0 0 (AA Γ) := by
  refine Met.ofW (cc := cX4_deposit) (maxL := 4) (ret := (some .int)) (by decide) rfl ?_
  intro p e s m args below meth c s₁ B hml hv
  obtain ⟨rfl, hK, hF⟩ := hv
  have hx := B.exec
  have hb := B.bytes
  have hr := B.returns
  have hts := atoms_spec (ws := ws_ yX4_deposit cX4_deposit 4 (some .int)) B.pre
  have hts : ∀ w ∈ lw_all, w.before _ s = true := fun w h => hts w (List.mem_cons_of_mem _ h)
  have hown : s.vm.findClass RX4 = some m.cls := findClass_of_methodNamed B.named
  have hlocks := B.notSynchronized
  have hS : va_S (AA Γ) s.heap s.heap [] := va_S.rf
  have hl := lv_entry ([.ref (ad 8 0), .int (nI b), .int c0]) (n := 4) (Nat.le_of_ble_eq_true rfl)
  rw [lg_entry_eq]
  generalize (lg_sl ([.ref (ad 8 0), .int (nI b), .int c0]) ++ List.replicate (4 - (lg_sl ([.ref (ad 8 0), .int (nI b), .int c0])).length) Slot.unset).toArray = ls at hl ⊢
  have hl : lv_has ls 4 [(0, .ref (ad 8 0)), (1, .int (nI b)), (2, .int c0)] := hl
  refine lv_aload_n hx hb dX4_deposit_0 rfl (lv_at hl 0 rfl) ?_
  refine lv_iconst (v := 0) hx hb dX4_deposit_1 (by decide) ?_
  refine s_put (ci := 5) (T := TX4) (NC := 22) hx hb hts in_X4 tyX4 tyX4_ok nmX4 hown hK hF hS 8 0 0 rfl rfl 0 (by decide) rfl (hts _ q680) (fun _ h9 => h9) rfl (by decide +kernel) (Nat.le_of_ble_eq_true rfl) dX4_deposit_2 (fun H locs hF hS => ?_)
  refine lv_iload_n hx hb dX4_deposit_5 rfl (lv_at hl 1 rfl) ?_
  refine g_ci (va_runS (As := [.int (nI b)]) (rest := []) ⟨hx, hb, hml, hown, hts⟩ (Met.val (met_X4_isBranch l Γ ad N o (uz Z 8 0 0 0) (nI b)) (bI1 (inI (a := 0) (b := 2) (Nat.zero_le _) (by omega) (by decide)))) (va_cwS 1 hts (lw_S q771 q772 q31 q773) rfl rfl rfl (by decide +kernel) ⟨Nat.le_of_ble_eq_true rfl, Nat.le_of_ble_eq_true rfl⟩) (SF_S hK hS hF) rfl rfl hl.1 rfl (lv_room (Nat.le_of_ble_eq_true rfl)) dX4_deposit_6 ⟨Nat.le_of_ble_eq_true rfl, Nat.le_of_ble_eq_true rfl⟩) hS (fun H locs hF hS => ?_)
  refine lv_if_ne (tgt := 18) hx hb dX4_deposit_9 (by decide) (fun _ => ?_) (fun c9 => absurd c9 (by decide))
  refine lv_iload_n hx hb dX4_deposit_18 rfl (lv_at hl 2 rfl) ?_
  refine lv_ldc (v := (-10000000)) hx hb hown (hts _ q791) dX4_deposit_19 ?_
  refine lv_ldc (v := 10000000) hx hb hown (hts _ q774) dX4_deposit_21 ?_
  refine g_ci (va_runS (As := [.int c0, .int (-10000000), .int 10000000]) (rest := []) ⟨hx, hb, hml, hown, hts⟩ (Met.val (met_X4_in l Γ ad (shp Γ ad N o (uz Z 8 0 0 0)) c0 (-10000000) 10000000) (bI1 h1)) (va_cwS 3 hts (lw_S q756 q757 q31 q758) rfl rfl rfl (by decide +kernel) ⟨Nat.le_of_ble_eq_true rfl, Nat.le_of_ble_eq_true rfl⟩) (SF_S hK hS hF) rfl rfl hl.1 rfl (lv_room (Nat.le_of_ble_eq_true rfl)) dX4_deposit_23 ⟨Nat.le_of_ble_eq_true rfl, Nat.le_of_ble_eq_true rfl⟩) hS (fun H locs hF hS => ?_)
  refine lv_if_ne (tgt := 35) hx hb dX4_deposit_26 (by decide) (fun _ => ?_) (fun c26 => absurd c26 (by decide))
  refine lv_aload_n hx hb dX4_deposit_35 rfl (lv_at hl 0 rfl) ?_
  refine r_get (ci := 5) (v := .ref (ad 8 10)) (T := TX4) (N := 22) hx hb hts in_X4 hown hK hF 8 0 rfl rfl 15 (by decide) (hts _ q695) (fun _ h9 => h9) rfl dX4_deposit_36 ?_
  refine lv_iload_n hx hb dX4_deposit_39 rfl (lv_at hl 1 rfl) ?_
  refine s_iald hx hb hK hF 8 10 rfl b rfl (by omega) (by omega) dX4_deposit_40 ?_
  refine lv_iload_n hx hb dX4_deposit_41 rfl (lv_at hl 2 rfl) ?_
  refine lv_iadd hx hb dX4_deposit_42 ?_
  refine lv_iconst (v := 0) hx hb dX4_deposit_43 (by decide) ?_
  refine lv_ldc (v := 10000000) hx hb hown (hts _ q774) dX4_deposit_44 ?_
  refine g_ci (va_runS (As := [.int ((Z 8 10 b) + c0), .int 0, .int 10000000]) (rest := []) ⟨hx, hb, hml, hown, hts⟩ (Met.val (met_X4_in l Γ ad (shp Γ ad N o (uz Z 8 0 0 0)) ((Z 8 10 b) + c0) 0 10000000) (bI1 h)) (va_cwS 3 hts (lw_S q756 q757 q31 q758) rfl rfl rfl (by decide +kernel) ⟨Nat.le_of_ble_eq_true rfl, Nat.le_of_ble_eq_true rfl⟩) (SF_S hK hS hF) rfl rfl hl.1 rfl (lv_room (Nat.le_of_ble_eq_true rfl)) dX4_deposit_46 ⟨Nat.le_of_ble_eq_true rfl, Nat.le_of_ble_eq_true rfl⟩) hS (fun H locs hF hS => ?_)
  refine lv_if_ne (tgt := 58) hx hb dX4_deposit_49 (by decide) (fun _ => ?_) (fun c49 => absurd c49 (by decide))
  refine lv_aload_n hx hb dX4_deposit_58 rfl (lv_at hl 0 rfl) ?_
  refine r_get (ci := 5) (v := .ref (ad 8 10)) (T := TX4) (N := 22) hx hb hts in_X4 hown hK hF 8 0 rfl rfl 15 (by decide) (hts _ q695) (fun _ h9 => h9) rfl dX4_deposit_59 ?_
  refine lv_iload_n hx hb dX4_deposit_62 rfl (lv_at hl 1 rfl) ?_
  refine lv_dup2_11 hx hb dX4_deposit_63 rfl rfl ?_
  refine s_iald hx hb hK hF 8 10 rfl b rfl (by omega) (by omega) dX4_deposit_64 ?_
  refine lv_iload_n hx hb dX4_deposit_65 rfl (lv_at hl 2 rfl) ?_
  refine lv_iadd hx hb dX4_deposit_66 ?_
  refine s_iast hx hb hK hF hS 8 10 (fun _ => rfl) b rfl (by omega) (by omega) dX4_deposit_67 (fun H locs hF hS => ?_)
  refine lv_iconst (v := 0) hx hb dX4_deposit_68 (by decide) ?_
  refine lv_istore_n (lv' := [(3, .int 0), (0, .ref (ad 8 0)), (1, .int (nI b)), (2, .int c0)]) hx hb dX4_deposit_69 rfl hl (by decide) rfl (fun ls hl => ?_)
  have LP : ∀ (u7 i : Nat) (x3 : Int32) , i + u7 = 6 → 0 ≤ i → x3 = nI i → ∀ (H : Heap) (locs : List Loc), FF Γ ad (shp Γ ad N o (mLays (uz (uz Z 8 0 0 0) 8 10 b (Z 8 10 b + c0)) i)) H → va_S (AA Γ) s.heap H locs → ∀ (ls : Array Slot), lv_has ls 4 [(3, .int x3), (0, .ref (ad 8 0)), (1, .int (nI b)), (2, .int c0)] → W p l e (headSpec (ws_ yX4_deposit cX4_deposit 4 (some .int)) ({ frames := 2, cells := 0, slots := 0, locals := 44 })).room s m ([.ref (ad 8 0), .int (nI b), .int c0] : List Value).toArray below meth c H locs 0 0 (MQ below (gEi Γ (Z 8 10 b + c0) ad (shp Γ ad N o (mLays (uz (uz Z 8 0 0 0) 8 10 b (Z 8 10 b + c0)) 6))) ([.ref (ad 8 0), .int (nI b), .int c0] : List Value).toArray s 0 0 (AA Γ)) (F0 m 70 ls []) := by
    intro u7
    induction u7 with
    | zero =>
      intro i x3  hi hs e3 H locs hF hS ls hl
      subst e3
      obtain rfl : 6 = i := by omega
      refine lv_iload_n hx hb dX4_deposit_70 rfl (lv_at hl 0 rfl) ?_
      refine lv_bipush (v := 6) hx hb dX4_deposit_71 (by decide) ?_
      refine lv_icmp_ge (tgt := 98) hx hb dX4_deposit_73 (by decide) (fun c73 => ?_) (fun c73 => ?_)
      · refine lv_aload_n hx hb dX4_deposit_98 rfl (lv_at hl 1 rfl) ?_
        refine r_get (ci := 5) (v := .ref (ad 8 10)) (T := TX4) (N := 22) hx hb hts in_X4 hown hK hF 8 0 rfl rfl 15 (by decide) (hts _ q695) (fun _ h9 => h9) rfl dX4_deposit_99 ?_
        refine lv_iload_n hx hb dX4_deposit_102 rfl (lv_at hl 2 rfl) ?_
        refine s_iald hx hb hK hF 8 10 rfl b rfl (by omega) (by omega) dX4_deposit_103 ?_
        refine lv_re ((congrFun (mLays_o (uz (uz Z 8 0 0 0) 8 10 b (Z 8 10 b + c0)) (x := 8) (y := 10) (by decide) 6) b).trans (uz_same ..)) ?_
        exact g_iret hx hb hr hlocks hF hS dX4_deposit_104
      · exact absurd (nI_le (a := 6) (b := 6) (Nat.le_refl _) (by omega)) c73
    | succ u7 ih =>
      intro i x3  hi hs e3 H locs hF hS ls hl
      subst e3
      refine lv_iload_n hx hb dX4_deposit_70 rfl (lv_at hl 0 rfl) ?_
      refine lv_bipush (v := 6) hx hb dX4_deposit_71 (by decide) ?_
      refine lv_icmp_ge (tgt := 98) hx hb dX4_deposit_73 (by decide) (fun c73 => ?_) (fun c73 => ?_)
      · exact absurd c73 (nI_ge (a := i) (b := 6) (by omega) (by omega))
      · refine lv_aload_n hx hb dX4_deposit_76 rfl (lv_at hl 1 rfl) ?_
        refine r_get (ci := 5) (v := .int ((mLays (uz (uz Z 8 0 0 0) 8 10 b (Z 8 10 b + c0)) i) 8 0 1)) (T := TX4) (N := 22) hx hb hts in_X4 hown hK hF 8 0 rfl rfl 1 (by decide) (hts _ q681) (fun _ h9 => h9) rfl dX4_deposit_77 ?_
        refine lv_re ((congrFun (mLays_o (uz (uz Z 8 0 0 0) 8 10 b (Z 8 10 b + c0)) (x := 8) (y := 0) (by decide) i) 1).trans hnow) ?_
        refine lv_if_ne (tgt := 98) hx hb dX4_deposit_80 (by decide) (fun c80 => absurd (by decide) c80) (fun _ => ?_)
        refine lv_iload_n hx hb dX4_deposit_83 rfl (lv_at hl 3 rfl) ?_
        refine lv_if_eq (tgt := 98) hx hb dX4_deposit_84 (by decide) (fun c84 => absurd c84 hc0) (fun c84 => ?_)
        refine lv_aload_n hx hb dX4_deposit_87 rfl (lv_at hl 1 rfl) ?_
        refine lv_iload_n hx hb dX4_deposit_88 rfl (lv_at hl 0 rfl) ?_
        refine g_cvw (va_runV (As := [.int (nI i)]) (rest := []) ⟨hx, hb, hml, hown, hts⟩ (met_X4_lays l Γ ad N o (mLays (uz (uz Z 8 0 0 0) 8 10 b (Z 8 10 b + c0)) i) i (by omega)) (cwV 1 hts (lw_V q792 q794 qs15 q31 q795) rfl rfl rfl (by decide +kernel) ⟨Nat.le_of_ble_eq_true rfl, Nat.le_of_ble_eq_true rfl⟩) (SF_V hK hS hF (recvF hK hF 8 0 rfl rfl)) rfl rfl hl.1 rfl (lv_room (Nat.le_of_ble_eq_true rfl)) dX4_deposit_89 ⟨Nat.le_of_ble_eq_true rfl, Nat.le_of_ble_eq_true rfl⟩) hS (fun H locs hF hS => ?_)
        refine lv_iinc (v := nI (i + 1)) (lv' := [(3, .int (nI (i + 1))), (0, .ref (ad 8 0)), (1, .int (nI b)), (2, .int c0)]) hx hb dX4_deposit_92 hl (k := 0) rfl (nI_1 _) (by decide) rfl (fun ls hl => ?_)
        refine lv_goto (tgt := 70) hx hb dX4_deposit_95 (by decide) ?_
        exact ih (i + 1) _ (by omega) (by omega) rfl _ _ hF hS ls (lv_sub hl [0, 1, 2, 3] rfl)
  exact LP (6 - 0) 0 _ (by omega) (Nat.le_refl _) rfl _ _ hF hS ls hl
set_option maxHeartbeats 4000000 in
set_option maxRecDepth 100000 in
/-- deposit, path E -/
theorem mm_deposit_E (l : Launch) (Γ : Gm) (ad : Nat → Nat → Nat) (N : Nat → Nat) (o : Nat → Int64) (Z : Nat → Nat → Nat → Int32) (b : Nat) (hb3 : b < 3) (c0 : Int32) (h1 : (-10000000) ≤ c0 ∧ c0 ≤ 10000000) (h : 0 ≤ Z 8 10 b + c0 ∧ Z 8 10 b + c0 ≤ 10000000) (hno : ¬ (Z 8 0 1 = 0 ∧ ¬ c0 = 0)) : Met l yX4_deposit (ws_ yX4_deposit cX4_deposit 4 (some .int)) ({ frames := 2, cells := 0, slots := 0, locals := 42 }) (va_Pc [.ref (ad 8 0), .int (nI b), .int c0] (SF Γ ad (shp Γ ad N o Z))) (gEi Γ (Z 8 10 b + c0) ad (shp Γ ad N o (uz (uz Z 8 0 0 0) 8 10 b (Z 8 10 b + c0)))) 0 0 (AA Γ) := by
  refine Met.ofW (cc := cX4_deposit) (maxL := 4) (ret := (some .int)) (by decide) rfl ?_
  intro p e s m args below meth c s₁ B hml hv
  obtain ⟨rfl, hK, hF⟩ := hv
  have hx := B.exec
  have hb := B.bytes
  have hr := B.returns
  have hts := atoms_spec (ws := ws_ yX4_deposit cX4_deposit 4 (some .int)) B.pre
  have hts : ∀ w ∈ lw_all, w.before _ s = true := fun w h => hts w (List.mem_cons_of_mem _ h)
  have hown : s.vm.findClass RX4 = some m.cls := findClass_of_methodNamed B.named
  have hlocks := B.notSynchronized
  have hS : va_S (AA Γ) s.heap s.heap [] := va_S.rf
  have hl := lv_entry ([.ref (ad 8 0), .int (nI b), .int c0]) (n := 4) (Nat.le_of_ble_eq_true rfl)
  rw [lg_entry_eq]
  generalize (lg_sl ([.ref (ad 8 0), .int (nI b), .int c0]) ++ List.replicate (4 - (lg_sl ([.ref (ad 8 0), .int (nI b), .int c0])).length) Slot.unset).toArray = ls at hl ⊢
  have hl : lv_has ls 4 [(0, .ref (ad 8 0)), (1, .int (nI b)), (2, .int c0)] := hl
  refine lv_aload_n hx hb dX4_deposit_0 rfl (lv_at hl 0 rfl) ?_
  refine lv_iconst (v := 0) hx hb dX4_deposit_1 (by decide) ?_
  refine s_put (ci := 5) (T := TX4) (NC := 22) hx hb hts in_X4 tyX4 tyX4_ok nmX4 hown hK hF hS 8 0 0 rfl rfl 0 (by decide) rfl (hts _ q680) (fun _ h9 => h9) rfl (by decide +kernel) (Nat.le_of_ble_eq_true rfl) dX4_deposit_2 (fun H locs hF hS => ?_)
  refine lv_iload_n hx hb dX4_deposit_5 rfl (lv_at hl 1 rfl) ?_
  refine g_ci (va_runS (As := [.int (nI b)]) (rest := []) ⟨hx, hb, hml, hown, hts⟩ (Met.val (met_X4_isBranch l Γ ad N o (uz Z 8 0 0 0) (nI b)) (bI1 (inI (a := 0) (b := 2) (Nat.zero_le _) (by omega) (by decide)))) (va_cwS 1 hts (lw_S q771 q772 q31 q773) rfl rfl rfl (by decide +kernel) ⟨Nat.le_of_ble_eq_true rfl, Nat.le_of_ble_eq_true rfl⟩) (SF_S hK hS hF) rfl rfl hl.1 rfl (lv_room (Nat.le_of_ble_eq_true rfl)) dX4_deposit_6 ⟨Nat.le_of_ble_eq_true rfl, Nat.le_of_ble_eq_true rfl⟩) hS (fun H locs hF hS => ?_)
  refine lv_if_ne (tgt := 18) hx hb dX4_deposit_9 (by decide) (fun _ => ?_) (fun c9 => absurd c9 (by decide))
  refine lv_iload_n hx hb dX4_deposit_18 rfl (lv_at hl 2 rfl) ?_
  refine lv_ldc (v := (-10000000)) hx hb hown (hts _ q791) dX4_deposit_19 ?_
  refine lv_ldc (v := 10000000) hx hb hown (hts _ q774) dX4_deposit_21 ?_
  refine g_ci (va_runS (As := [.int c0, .int (-10000000), .int 10000000]) (rest := []) ⟨hx, hb, hml, hown, hts⟩ (Met.val (met_X4_in l Γ ad (shp Γ ad N o (uz Z 8 0 0 0)) c0 (-10000000) 10000000) (bI1 h1)) (va_cwS 3 hts (lw_S q756 q757 q31 q758) rfl rfl rfl (by decide +kernel) ⟨Nat.le_of_ble_eq_true rfl, Nat.le_of_ble_eq_true rfl⟩) (SF_S hK hS hF) rfl rfl hl.1 rfl (lv_room (Nat.le_of_ble_eq_true rfl)) dX4_deposit_23 ⟨Nat.le_of_ble_eq_true rfl, Nat.le_of_ble_eq_true rfl⟩) hS (fun H locs hF hS => ?_)
  refine lv_if_ne (tgt := 35) hx hb dX4_deposit_26 (by decide) (fun _ => ?_) (fun c26 => absurd c26 (by decide))
  refine lv_aload_n hx hb dX4_deposit_35 rfl (lv_at hl 0 rfl) ?_
  refine r_get (ci := 5) (v := .ref (ad 8 10)) (T := TX4) (N := 22) hx hb hts in_X4 hown hK hF 8 0 rfl rfl 15 (by decide) (hts _ q695) (fun _ h9 => h9) rfl dX4_deposit_36 ?_
  refine lv_iload_n hx hb dX4_deposit_39 rfl (lv_at hl 1 rfl) ?_
  refine s_iald hx hb hK hF 8 10 rfl b rfl (by omega) (by omega) dX4_deposit_40 ?_
  refine lv_iload_n hx hb dX4_deposit_41 rfl (lv_at hl 2 rfl) ?_
  refine lv_iadd hx hb dX4_deposit_42 ?_
  refine lv_iconst (v := 0) hx hb dX4_deposit_43 (by decide) ?_
  refine lv_ldc (v := 10000000) hx hb hown (hts _ q774) dX4_deposit_44 ?_
  refine g_ci (va_runS (As := [.int ((Z 8 10 b) + c0), .int 0, .int 10000000]) (rest := []) ⟨hx, hb, hml, hown, hts⟩ (Met.val (met_X4_in l Γ ad (shp Γ ad N o (uz Z 8 0 0 0)) ((Z 8 10 b) + c0) 0 10000000) (bI1 h)) (va_cwS 3 hts (lw_S q756 q757 q31 q758) rfl rfl rfl (by decide +kernel) ⟨Nat.le_of_ble_eq_true rfl, Nat.le_of_ble_eq_true rfl⟩) (SF_S hK hS hF) rfl rfl hl.1 rfl (lv_room (Nat.le_of_ble_eq_true rfl)) dX4_deposit_46 ⟨Nat.le_of_ble_eq_true rfl, Nat.le_of_ble_eq_true rfl⟩) hS (fun H locs hF hS => ?_)
  refine lv_if_ne (tgt := 58) hx hb dX4_deposit_49 (by decide) (fun _ => ?_) (fun c49 => absurd c49 (by decide))
  refine lv_aload_n hx hb dX4_deposit_58 rfl (lv_at hl 0 rfl) ?_
  refine r_get (ci := 5) (v := .ref (ad 8 10)) (T := TX4) (N := 22) hx hb hts in_X4 hown hK hF 8 0 rfl rfl 15 (by decide) (hts _ q695) (fun _ h9 => h9) rfl dX4_deposit_59 ?_
  refine lv_iload_n hx hb dX4_deposit_62 rfl (lv_at hl 1 rfl) ?_
  refine lv_dup2_11 hx hb dX4_deposit_63 rfl rfl ?_
  refine s_iald hx hb hK hF 8 10 rfl b rfl (by omega) (by omega) dX4_deposit_64 ?_
  refine lv_iload_n hx hb dX4_deposit_65 rfl (lv_at hl 2 rfl) ?_
  refine lv_iadd hx hb dX4_deposit_66 ?_
  refine s_iast hx hb hK hF hS 8 10 (fun _ => rfl) b rfl (by omega) (by omega) dX4_deposit_67 (fun H locs hF hS => ?_)
  refine lv_iconst (v := 0) hx hb dX4_deposit_68 (by decide) ?_
  refine lv_istore_n (lv' := [(3, .int 0), (0, .ref (ad 8 0)), (1, .int (nI b)), (2, .int c0)]) hx hb dX4_deposit_69 rfl hl (by decide) rfl (fun ls hl => ?_)
  refine lv_iload_n hx hb dX4_deposit_70 rfl (lv_at hl 0 rfl) ?_
  refine lv_bipush (v := 6) hx hb dX4_deposit_71 (by decide) ?_
  refine lv_icmp_ge (tgt := 98) hx hb dX4_deposit_73 (by decide) (fun c73 => absurd c73 (by decide)) (fun _ => ?_)
  refine lv_aload_n hx hb dX4_deposit_76 rfl (lv_at hl 1 rfl) ?_
  refine r_get (ci := 5) (v := .int (Z 8 0 1)) (T := TX4) (N := 22) hx hb hts in_X4 hown hK hF 8 0 rfl rfl 1 (by decide) (hts _ q681) (fun _ h9 => h9) rfl dX4_deposit_77 ?_
  refine lv_if_ne (tgt := 98) hx hb dX4_deposit_80 (by decide) (fun c80 => ?_) (fun c80 => ?_)
  · refine lv_aload_n hx hb dX4_deposit_98 rfl (lv_at hl 1 rfl) ?_
    refine r_get (ci := 5) (v := .ref (ad 8 10)) (T := TX4) (N := 22) hx hb hts in_X4 hown hK hF 8 0 rfl rfl 15 (by decide) (hts _ q695) (fun _ h9 => h9) rfl dX4_deposit_99 ?_
    refine lv_iload_n hx hb dX4_deposit_102 rfl (lv_at hl 2 rfl) ?_
    refine s_iald hx hb hK hF 8 10 rfl b rfl (by omega) (by omega) dX4_deposit_103 ?_
    refine lv_re (uz_same (Z := (uz Z 8 0 0 0)) (g := 8) (a := 10) (k := b) (v := (Z 8 10 b) + c0)) ?_
    exact g_iret hx hb hr hlocks hF hS dX4_deposit_104
  · refine lv_iload_n hx hb dX4_deposit_83 rfl (lv_at hl 3 rfl) ?_
    refine lv_if_eq (tgt := 98) hx hb dX4_deposit_84 (by decide) (fun c84 => ?_) (fun c84 => ?_)
    · refine lv_aload_n hx hb dX4_deposit_98 rfl (lv_at hl 1 rfl) ?_
      refine r_get (ci := 5) (v := .ref (ad 8 10)) (T := TX4) (N := 22) hx hb hts in_X4 hown hK hF 8 0 rfl rfl 15 (by decide) (hts _ q695) (fun _ h9 => h9) rfl dX4_deposit_99 ?_
      refine lv_iload_n hx hb dX4_deposit_102 rfl (lv_at hl 2 rfl) ?_
      refine s_iald hx hb hK hF 8 10 rfl b rfl (by omega) (by omega) dX4_deposit_103 ?_
      refine lv_re (uz_same (Z := (uz Z 8 0 0 0)) (g := 8) (a := 10) (k := b) (v := (Z 8 10 b) + c0)) ?_
      exact g_iret hx hb hr hlocks hF hS dX4_deposit_104
    · exact absurd ⟨c80, c84⟩ hno
set_option maxHeartbeats 4000000 in
set_option maxRecDepth 100000 in
/-- month, path A -/
theorem mm_month_A (l : Launch) (Γ : Gm) (ad : Nat → Nat → Nat) (N : Nat → Nat) (o : Nat → Int64) (Z : Nat → Nat → Nat → Int32)  : Met l yX4_month (ws_ yX4_month cX4_month 1 (some .int)) ({ frames := 0, cells := 0, slots := 0, locals := 0 }) (va_Pc [.ref (ad 8 0)] (SF Γ ad (shp Γ ad N o Z))) (gEi Γ (Z 8 0 1) ad (shp Γ ad N o (uz Z 8 0 0 0))) 0 0 (AA Γ) := by
  refine Met.ofW (cc := cX4_month) (maxL := 1) (ret := (some .int)) (by decide) rfl ?_
  intro p e s m args below meth c s₁ B hml hv
  obtain ⟨rfl, hK, hF⟩ := hv
  have hx := B.exec
  have hb := B.bytes
  have hr := B.returns
  have hts := atoms_spec (ws := ws_ yX4_month cX4_month 1 (some .int)) B.pre
  have hts : ∀ w ∈ lw_all, w.before _ s = true := fun w h => hts w (List.mem_cons_of_mem _ h)
  have hown : s.vm.findClass RX4 = some m.cls := findClass_of_methodNamed B.named
  have hlocks := B.notSynchronized
  have hS : va_S (AA Γ) s.heap s.heap [] := va_S.rf
  have hl := lv_entry ([.ref (ad 8 0)]) (n := 1) (Nat.le_of_ble_eq_true rfl)
  rw [lg_entry_eq]
  generalize (lg_sl ([.ref (ad 8 0)]) ++ List.replicate (1 - (lg_sl ([.ref (ad 8 0)])).length) Slot.unset).toArray = ls at hl ⊢
  have hl : lv_has ls 1 [(0, .ref (ad 8 0))] := hl
  refine lv_aload_n hx hb dX4_month_0 rfl (lv_at hl 0 rfl) ?_
  refine lv_iconst (v := 0) hx hb dX4_month_1 (by decide) ?_
  refine s_put (ci := 5) (T := TX4) (NC := 22) hx hb hts in_X4 tyX4 tyX4_ok nmX4 hown hK hF hS 8 0 0 rfl rfl 0 (by decide) rfl (hts _ q680) (fun _ h9 => h9) rfl (by decide +kernel) (Nat.le_of_ble_eq_true rfl) dX4_month_2 (fun H locs hF hS => ?_)
  refine lv_aload_n hx hb dX4_month_5 rfl (lv_at hl 0 rfl) ?_
  refine r_get (ci := 5) (v := .int (Z 8 0 1)) (T := TX4) (N := 22) hx hb hts in_X4 hown hK hF 8 0 rfl rfl 1 (by decide) (hts _ q681) (fun _ h9 => h9) rfl dX4_month_6 ?_
  exact g_iret hx hb hr hlocks hF hS dX4_month_9
set_option maxHeartbeats 4000000 in
set_option maxRecDepth 100000 in
/-- loans, path A -/
theorem mm_loans_A (l : Launch) (Γ : Gm) (ad : Nat → Nat → Nat) (N : Nat → Nat) (o : Nat → Int64) (Z : Nat → Nat → Nat → Int32)  : Met l yX4_loans (ws_ yX4_loans cX4_loans 1 (some .int)) ({ frames := 0, cells := 0, slots := 0, locals := 0 }) (va_Pc [.ref (ad 8 0)] (SF Γ ad (shp Γ ad N o Z))) (gEi Γ (Z 8 0 5) ad (shp Γ ad N o (uz Z 8 0 0 0))) 0 0 (AA Γ) := by
  refine Met.ofW (cc := cX4_loans) (maxL := 1) (ret := (some .int)) (by decide) rfl ?_
  intro p e s m args below meth c s₁ B hml hv
  obtain ⟨rfl, hK, hF⟩ := hv
  have hx := B.exec
  have hb := B.bytes
  have hr := B.returns
  have hts := atoms_spec (ws := ws_ yX4_loans cX4_loans 1 (some .int)) B.pre
  have hts : ∀ w ∈ lw_all, w.before _ s = true := fun w h => hts w (List.mem_cons_of_mem _ h)
  have hown : s.vm.findClass RX4 = some m.cls := findClass_of_methodNamed B.named
  have hlocks := B.notSynchronized
  have hS : va_S (AA Γ) s.heap s.heap [] := va_S.rf
  have hl := lv_entry ([.ref (ad 8 0)]) (n := 1) (Nat.le_of_ble_eq_true rfl)
  rw [lg_entry_eq]
  generalize (lg_sl ([.ref (ad 8 0)]) ++ List.replicate (1 - (lg_sl ([.ref (ad 8 0)])).length) Slot.unset).toArray = ls at hl ⊢
  have hl : lv_has ls 1 [(0, .ref (ad 8 0))] := hl
  refine lv_aload_n hx hb dX4_loans_0 rfl (lv_at hl 0 rfl) ?_
  refine lv_iconst (v := 0) hx hb dX4_loans_1 (by decide) ?_
  refine s_put (ci := 5) (T := TX4) (NC := 22) hx hb hts in_X4 tyX4 tyX4_ok nmX4 hown hK hF hS 8 0 0 rfl rfl 0 (by decide) rfl (hts _ q680) (fun _ h9 => h9) rfl (by decide +kernel) (Nat.le_of_ble_eq_true rfl) dX4_loans_2 (fun H locs hF hS => ?_)
  refine lv_aload_n hx hb dX4_loans_5 rfl (lv_at hl 0 rfl) ?_
  refine r_get (ci := 5) (v := .int (Z 8 0 5)) (T := TX4) (N := 22) hx hb hts in_X4 hown hK hF 8 0 rfl rfl 6 (by decide) (hts _ q686) (fun _ h9 => h9) rfl dX4_loans_6 ?_
  exact g_iret hx hb hr hlocks hF hS dX4_loans_9
set_option maxHeartbeats 4000000 in
set_option maxRecDepth 100000 in
/-- left, path A -/
theorem mm_left_A (l : Launch) (Γ : Gm) (ad : Nat → Nat → Nat) (N : Nat → Nat) (o : Nat → Int64) (Z : Nat → Nat → Nat → Int32) (l0 : Int32) (h : ¬ (0 ≤ l0 ∧ l0 ≤ Z 8 0 5 - 1)) : Met l yX4_left (ws_ yX4_left cX4_left 2 (some .int)) ({ frames := 2, cells := 0, slots := 0, locals := 43 }) (va_Pc [.ref (ad 8 0), .int l0] (SF Γ ad (shp Γ ad N o Z))) (gEi Γ (0) ad (shp Γ ad N o (uz (uz Z 8 0 0 0) 8 0 0 1))) 0 0 (AA Γ) := by
  refine Met.ofW (cc := cX4_left) (maxL := 2) (ret := (some .int)) (by decide) rfl ?_
  intro p e s m args below meth c s₁ B hml hv
  obtain ⟨rfl, hK, hF⟩ := hv
  have hx := B.exec
  have hb := B.bytes
  have hr := B.returns
  have hts := atoms_spec (ws := ws_ yX4_left cX4_left 2 (some .int)) B.pre
  have hts : ∀ w ∈ lw_all, w.before _ s = true := fun w h => hts w (List.mem_cons_of_mem _ h)
  have hown : s.vm.findClass RX4 = some m.cls := findClass_of_methodNamed B.named
  have hlocks := B.notSynchronized
  have hS : va_S (AA Γ) s.heap s.heap [] := va_S.rf
  have hl := lv_entry ([.ref (ad 8 0), .int l0]) (n := 2) (Nat.le_of_ble_eq_true rfl)
  rw [lg_entry_eq]
  generalize (lg_sl ([.ref (ad 8 0), .int l0]) ++ List.replicate (2 - (lg_sl ([.ref (ad 8 0), .int l0])).length) Slot.unset).toArray = ls at hl ⊢
  have hl : lv_has ls 2 [(0, .ref (ad 8 0)), (1, .int l0)] := hl
  refine lv_aload_n hx hb dX4_left_0 rfl (lv_at hl 0 rfl) ?_
  refine lv_iconst (v := 0) hx hb dX4_left_1 (by decide) ?_
  refine s_put (ci := 5) (T := TX4) (NC := 22) hx hb hts in_X4 tyX4 tyX4_ok nmX4 hown hK hF hS 8 0 0 rfl rfl 0 (by decide) rfl (hts _ q680) (fun _ h9 => h9) rfl (by decide +kernel) (Nat.le_of_ble_eq_true rfl) dX4_left_2 (fun H locs hF hS => ?_)
  refine lv_aload_n hx hb dX4_left_5 rfl (lv_at hl 0 rfl) ?_
  refine lv_iload_n hx hb dX4_left_6 rfl (lv_at hl 1 rfl) ?_
  refine g_ci (va_runV (As := [.int l0]) (rest := []) ⟨hx, hb, hml, hown, hts⟩ (Met.val (met_X4_isLoan l Γ ad N o (uz Z 8 0 0 0) l0) (bI0 h)) (cwV 1 hts (lw_V q779 q781 qs13 q31 q782) rfl rfl rfl (by decide +kernel) ⟨Nat.le_of_ble_eq_true rfl, Nat.le_of_ble_eq_true rfl⟩) (SF_V hK hS hF (recvF hK hF 8 0 rfl rfl)) rfl rfl hl.1 rfl (lv_room (Nat.le_of_ble_eq_true rfl)) dX4_left_7 ⟨Nat.le_of_ble_eq_true rfl, Nat.le_of_ble_eq_true rfl⟩) hS (fun H locs hF hS => ?_)
  refine lv_if_eq (tgt := 21) hx hb dX4_left_10 (by decide) (fun _ => ?_) (fun c10 => absurd (by decide) c10)
  refine lv_aload_n hx hb dX4_left_21 rfl (lv_at hl 0 rfl) ?_
  refine lv_iconst (v := 1) hx hb dX4_left_22 (by decide) ?_
  refine g_callw (va_runV (As := [.int 1]) (rest := []) ⟨hx, hb, hml, hown, hts⟩ (met_X4_fails l Γ ad N o (uz Z 8 0 0 0) 1) (cwV 1 hts (lw_V q759 q761 qs12 q31 q762) rfl rfl rfl (by decide +kernel) ⟨Nat.le_of_ble_eq_true rfl, Nat.le_of_ble_eq_true rfl⟩) (SF_V hK hS hF (recvF hK hF 8 0 rfl rfl)) rfl rfl hl.1 rfl (lv_room (Nat.le_of_ble_eq_true rfl)) dX4_left_23 ⟨Nat.le_of_ble_eq_true rfl, Nat.le_of_ble_eq_true rfl⟩) hS (fun H locs hF hS => ?_)
  exact g_iret hx hb hr hlocks hF hS dX4_left_26
set_option maxHeartbeats 4000000 in
set_option maxRecDepth 100000 in
/-- left, path B -/
theorem mm_left_B (l : Launch) (Γ : Gm) (ad : Nat → Nat → Nat) (N : Nat → Nat) (o : Nat → Int64) (Z : Nat → Nat → Nat → Int32) (j n : Nat) (hj : j < n) (hn : n ≤ 24) (hlo : Z 8 0 5 = nI n) : Met l yX4_left (ws_ yX4_left cX4_left 2 (some .int)) ({ frames := 2, cells := 0, slots := 0, locals := 43 }) (va_Pc [.ref (ad 8 0), .int (nI j)] (SF Γ ad (shp Γ ad N o Z))) (gEi Γ (mLeft Z j) ad (shp Γ ad N o (uz Z 8 0 0 0))) 0 0 (AA Γ) := by
  refine Met.ofW (cc := cX4_left) (maxL := 2) (ret := (some .int)) (by decide) rfl ?_
  intro p e s m args below meth c s₁ B hml hv
  obtain ⟨rfl, hK, hF⟩ := hv
  have hx := B.exec
  have hb := B.bytes
  have hr := B.returns
  have hts := atoms_spec (ws := ws_ yX4_left cX4_left 2 (some .int)) B.pre
  have hts : ∀ w ∈ lw_all, w.before _ s = true := fun w h => hts w (List.mem_cons_of_mem _ h)
  have hown : s.vm.findClass RX4 = some m.cls := findClass_of_methodNamed B.named
  have hlocks := B.notSynchronized
  have hS : va_S (AA Γ) s.heap s.heap [] := va_S.rf
  have hl := lv_entry ([.ref (ad 8 0), .int (nI j)]) (n := 2) (Nat.le_of_ble_eq_true rfl)
  rw [lg_entry_eq]
  generalize (lg_sl ([.ref (ad 8 0), .int (nI j)]) ++ List.replicate (2 - (lg_sl ([.ref (ad 8 0), .int (nI j)])).length) Slot.unset).toArray = ls at hl ⊢
  have hl : lv_has ls 2 [(0, .ref (ad 8 0)), (1, .int (nI j))] := hl
  refine lv_aload_n hx hb dX4_left_0 rfl (lv_at hl 0 rfl) ?_
  refine lv_iconst (v := 0) hx hb dX4_left_1 (by decide) ?_
  refine s_put (ci := 5) (T := TX4) (NC := 22) hx hb hts in_X4 tyX4 tyX4_ok nmX4 hown hK hF hS 8 0 0 rfl rfl 0 (by decide) rfl (hts _ q680) (fun _ h9 => h9) rfl (by decide +kernel) (Nat.le_of_ble_eq_true rfl) dX4_left_2 (fun H locs hF hS => ?_)
  refine lv_aload_n hx hb dX4_left_5 rfl (lv_at hl 0 rfl) ?_
  refine lv_iload_n hx hb dX4_left_6 rfl (lv_at hl 1 rfl) ?_
  refine g_ci (va_runV (As := [.int (nI j)]) (rest := []) ⟨hx, hb, hml, hown, hts⟩ (Met.val (met_X4_isLoan l Γ ad N o (uz Z 8 0 0 0) (nI j)) (bI1 (inL hj (by omega) hlo))) (cwV 1 hts (lw_V q779 q781 qs13 q31 q782) rfl rfl rfl (by decide +kernel) ⟨Nat.le_of_ble_eq_true rfl, Nat.le_of_ble_eq_true rfl⟩) (SF_V hK hS hF (recvF hK hF 8 0 rfl rfl)) rfl rfl hl.1 rfl (lv_room (Nat.le_of_ble_eq_true rfl)) dX4_left_7 ⟨Nat.le_of_ble_eq_true rfl, Nat.le_of_ble_eq_true rfl⟩) hS (fun H locs hF hS => ?_)
  refine lv_if_eq (tgt := 21) hx hb dX4_left_10 (by decide) (fun c10 => absurd c10 (by decide)) (fun _ => ?_)
  refine lv_aload_n hx hb dX4_left_13 rfl (lv_at hl 0 rfl) ?_
  refine lv_iload_n hx hb dX4_left_14 rfl (lv_at hl 1 rfl) ?_
  refine g_ci (va_runV (As := [.int (nI j)]) (rest := []) ⟨hx, hb, hml, hown, hts⟩ (met_X4_leftOf l Γ ad N o (uz Z 8 0 0 0) j (by omega)) (cwV 1 hts (lw_V q783 q785 qs14 q31 q786) rfl rfl rfl (by decide +kernel) ⟨Nat.le_of_ble_eq_true rfl, Nat.le_of_ble_eq_true rfl⟩) (SF_V hK hS hF (recvF hK hF 8 0 rfl rfl)) rfl rfl hl.1 rfl (lv_room (Nat.le_of_ble_eq_true rfl)) dX4_left_15 ⟨Nat.le_of_ble_eq_true rfl, Nat.le_of_ble_eq_true rfl⟩) hS (fun H locs hF hS => ?_)
  refine lv_goto (tgt := 26) hx hb dX4_left_18 (by decide) ?_
  exact g_iret hx hb hr hlocks hF hS dX4_left_26
set_option maxHeartbeats 4000000 in
set_option maxRecDepth 100000 in
/-- bears, path A -/
theorem mm_bears_A (l : Launch) (Γ : Gm) (ad : Nat → Nat → Nat) (N : Nat → Nat) (o : Nat → Int64) (Z : Nat → Nat → Nat → Int32) (l0 x0 : Int32) (h : ¬ (0 ≤ l0 ∧ l0 ≤ Z 8 0 5 - 1)) : Met l yX4_bears (ws_ yX4_bears cX4_bears 3 (some .int)) ({ frames := 2, cells := 0, slots := 0, locals := 43 }) (va_Pc [.ref (ad 8 0), .int l0, .int x0] (SF Γ ad (shp Γ ad N o Z))) (gEi Γ (0) ad (shp Γ ad N o (uz (uz Z 8 0 0 0) 8 0 0 1))) 0 0 (AA Γ) := by
  refine Met.ofW (cc := cX4_bears) (maxL := 3) (ret := (some .int)) (by decide) rfl ?_
  intro p e s m args below meth c s₁ B hml hv
  obtain ⟨rfl, hK, hF⟩ := hv
  have hx := B.exec
  have hb := B.bytes
  have hr := B.returns
  have hts := atoms_spec (ws := ws_ yX4_bears cX4_bears 3 (some .int)) B.pre
  have hts : ∀ w ∈ lw_all, w.before _ s = true := fun w h => hts w (List.mem_cons_of_mem _ h)
  have hown : s.vm.findClass RX4 = some m.cls := findClass_of_methodNamed B.named
  have hlocks := B.notSynchronized
  have hS : va_S (AA Γ) s.heap s.heap [] := va_S.rf
  have hl := lv_entry ([.ref (ad 8 0), .int l0, .int x0]) (n := 3) (Nat.le_of_ble_eq_true rfl)
  rw [lg_entry_eq]
  generalize (lg_sl ([.ref (ad 8 0), .int l0, .int x0]) ++ List.replicate (3 - (lg_sl ([.ref (ad 8 0), .int l0, .int x0])).length) Slot.unset).toArray = ls at hl ⊢
  have hl : lv_has ls 3 [(0, .ref (ad 8 0)), (1, .int l0), (2, .int x0)] := hl
  refine lv_aload_n hx hb dX4_bears_0 rfl (lv_at hl 0 rfl) ?_
  refine lv_iconst (v := 0) hx hb dX4_bears_1 (by decide) ?_
  refine s_put (ci := 5) (T := TX4) (NC := 22) hx hb hts in_X4 tyX4 tyX4_ok nmX4 hown hK hF hS 8 0 0 rfl rfl 0 (by decide) rfl (hts _ q680) (fun _ h9 => h9) rfl (by decide +kernel) (Nat.le_of_ble_eq_true rfl) dX4_bears_2 (fun H locs hF hS => ?_)
  refine lv_aload_n hx hb dX4_bears_5 rfl (lv_at hl 0 rfl) ?_
  refine lv_iload_n hx hb dX4_bears_6 rfl (lv_at hl 1 rfl) ?_
  refine g_ci (va_runV (As := [.int l0]) (rest := []) ⟨hx, hb, hml, hown, hts⟩ (Met.val (met_X4_isLoan l Γ ad N o (uz Z 8 0 0 0) l0) (bI0 h)) (cwV 1 hts (lw_V q779 q781 qs13 q31 q782) rfl rfl rfl (by decide +kernel) ⟨Nat.le_of_ble_eq_true rfl, Nat.le_of_ble_eq_true rfl⟩) (SF_V hK hS hF (recvF hK hF 8 0 rfl rfl)) rfl rfl hl.1 rfl (lv_room (Nat.le_of_ble_eq_true rfl)) dX4_bears_7 ⟨Nat.le_of_ble_eq_true rfl, Nat.le_of_ble_eq_true rfl⟩) hS (fun H locs hF hS => ?_)
  refine lv_if_ne (tgt := 19) hx hb dX4_bears_10 (by decide) (fun c10 => absurd (by decide) c10) (fun _ => ?_)
  refine lv_aload_n hx hb dX4_bears_13 rfl (lv_at hl 0 rfl) ?_
  refine lv_iconst (v := 1) hx hb dX4_bears_14 (by decide) ?_
  refine g_callw (va_runV (As := [.int 1]) (rest := []) ⟨hx, hb, hml, hown, hts⟩ (met_X4_fails l Γ ad N o (uz Z 8 0 0 0) 1) (cwV 1 hts (lw_V q759 q761 qs12 q31 q762) rfl rfl rfl (by decide +kernel) ⟨Nat.le_of_ble_eq_true rfl, Nat.le_of_ble_eq_true rfl⟩) (SF_V hK hS hF (recvF hK hF 8 0 rfl rfl)) rfl rfl hl.1 rfl (lv_room (Nat.le_of_ble_eq_true rfl)) dX4_bears_15 ⟨Nat.le_of_ble_eq_true rfl, Nat.le_of_ble_eq_true rfl⟩) hS (fun H locs hF hS => ?_)
  exact g_iret hx hb hr hlocks hF hS dX4_bears_18
set_option maxHeartbeats 4000000 in
set_option maxRecDepth 100000 in
/-- bears, path B -/
theorem mm_bears_B (l : Launch) (Γ : Gm) (ad : Nat → Nat → Nat) (N : Nat → Nat) (o : Nat → Int64) (Z : Nat → Nat → Nat → Int32) (j n : Nat) (hj : j < n) (hn : n ≤ 24) (hlo : Z 8 0 5 = nI n) (x0 : Int32) (h : ¬ (0 ≤ x0 ∧ x0 ≤ 3)) : Met l yX4_bears (ws_ yX4_bears cX4_bears 3 (some .int)) ({ frames := 2, cells := 0, slots := 0, locals := 43 }) (va_Pc [.ref (ad 8 0), .int (nI j), .int x0] (SF Γ ad (shp Γ ad N o Z))) (gEi Γ (0) ad (shp Γ ad N o (uz (uz Z 8 0 0 0) 8 0 0 2))) 0 0 (AA Γ) := by
  refine Met.ofW (cc := cX4_bears) (maxL := 3) (ret := (some .int)) (by decide) rfl ?_
  intro p e s m args below meth c s₁ B hml hv
  obtain ⟨rfl, hK, hF⟩ := hv
  have hx := B.exec
  have hb := B.bytes
  have hr := B.returns
  have hts := atoms_spec (ws := ws_ yX4_bears cX4_bears 3 (some .int)) B.pre
  have hts : ∀ w ∈ lw_all, w.before _ s = true := fun w h => hts w (List.mem_cons_of_mem _ h)
  have hown : s.vm.findClass RX4 = some m.cls := findClass_of_methodNamed B.named
  have hlocks := B.notSynchronized
  have hS : va_S (AA Γ) s.heap s.heap [] := va_S.rf
  have hl := lv_entry ([.ref (ad 8 0), .int (nI j), .int x0]) (n := 3) (Nat.le_of_ble_eq_true rfl)
  rw [lg_entry_eq]
  generalize (lg_sl ([.ref (ad 8 0), .int (nI j), .int x0]) ++ List.replicate (3 - (lg_sl ([.ref (ad 8 0), .int (nI j), .int x0])).length) Slot.unset).toArray = ls at hl ⊢
  have hl : lv_has ls 3 [(0, .ref (ad 8 0)), (1, .int (nI j)), (2, .int x0)] := hl
  refine lv_aload_n hx hb dX4_bears_0 rfl (lv_at hl 0 rfl) ?_
  refine lv_iconst (v := 0) hx hb dX4_bears_1 (by decide) ?_
  refine s_put (ci := 5) (T := TX4) (NC := 22) hx hb hts in_X4 tyX4 tyX4_ok nmX4 hown hK hF hS 8 0 0 rfl rfl 0 (by decide) rfl (hts _ q680) (fun _ h9 => h9) rfl (by decide +kernel) (Nat.le_of_ble_eq_true rfl) dX4_bears_2 (fun H locs hF hS => ?_)
  refine lv_aload_n hx hb dX4_bears_5 rfl (lv_at hl 0 rfl) ?_
  refine lv_iload_n hx hb dX4_bears_6 rfl (lv_at hl 1 rfl) ?_
  refine g_ci (va_runV (As := [.int (nI j)]) (rest := []) ⟨hx, hb, hml, hown, hts⟩ (Met.val (met_X4_isLoan l Γ ad N o (uz Z 8 0 0 0) (nI j)) (bI1 (inL hj (by omega) hlo))) (cwV 1 hts (lw_V q779 q781 qs13 q31 q782) rfl rfl rfl (by decide +kernel) ⟨Nat.le_of_ble_eq_true rfl, Nat.le_of_ble_eq_true rfl⟩) (SF_V hK hS hF (recvF hK hF 8 0 rfl rfl)) rfl rfl hl.1 rfl (lv_room (Nat.le_of_ble_eq_true rfl)) dX4_bears_7 ⟨Nat.le_of_ble_eq_true rfl, Nat.le_of_ble_eq_true rfl⟩) hS (fun H locs hF hS => ?_)
  refine lv_if_ne (tgt := 19) hx hb dX4_bears_10 (by decide) (fun _ => ?_) (fun c10 => absurd c10 (by decide))
  refine lv_iload_n hx hb dX4_bears_19 rfl (lv_at hl 2 rfl) ?_
  refine lv_iconst (v := 0) hx hb dX4_bears_20 (by decide) ?_
  refine lv_iconst (v := 3) hx hb dX4_bears_21 (by decide) ?_
  refine g_ci (va_runS (As := [.int x0, .int 0, .int 3]) (rest := []) ⟨hx, hb, hml, hown, hts⟩ (Met.val (met_X4_in l Γ ad (shp Γ ad N o (uz Z 8 0 0 0)) x0 0 3) (bI0 h)) (va_cwS 3 hts (lw_S q756 q757 q31 q758) rfl rfl rfl (by decide +kernel) ⟨Nat.le_of_ble_eq_true rfl, Nat.le_of_ble_eq_true rfl⟩) (SF_S hK hS hF) rfl rfl hl.1 rfl (lv_room (Nat.le_of_ble_eq_true rfl)) dX4_bears_22 ⟨Nat.le_of_ble_eq_true rfl, Nat.le_of_ble_eq_true rfl⟩) hS (fun H locs hF hS => ?_)
  refine lv_if_eq (tgt := 37) hx hb dX4_bears_25 (by decide) (fun _ => ?_) (fun c25 => absurd (by decide) c25)
  refine lv_aload_n hx hb dX4_bears_37 rfl (lv_at hl 0 rfl) ?_
  refine lv_iconst (v := 2) hx hb dX4_bears_38 (by decide) ?_
  refine g_callw (va_runV (As := [.int 2]) (rest := []) ⟨hx, hb, hml, hown, hts⟩ (met_X4_fails l Γ ad N o (uz Z 8 0 0 0) 2) (cwV 1 hts (lw_V q759 q761 qs12 q31 q762) rfl rfl rfl (by decide +kernel) ⟨Nat.le_of_ble_eq_true rfl, Nat.le_of_ble_eq_true rfl⟩) (SF_V hK hS hF (recvF hK hF 8 0 rfl rfl)) rfl rfl hl.1 rfl (lv_room (Nat.le_of_ble_eq_true rfl)) dX4_bears_39 ⟨Nat.le_of_ble_eq_true rfl, Nat.le_of_ble_eq_true rfl⟩) hS (fun H locs hF hS => ?_)
  exact g_iret hx hb hr hlocks hF hS dX4_bears_42
set_option maxHeartbeats 4000000 in
set_option maxRecDepth 100000 in
/-- bears, path C -/
theorem mm_bears_C (l : Launch) (Γ : Gm) (ad : Nat → Nat → Nat) (N : Nat → Nat) (o : Nat → Int64) (Z : Nat → Nat → Nat → Int32) (j n : Nat) (hj : j < n) (hn : n ≤ 24) (hlo : Z 8 0 5 = nI n) (x0 : Int32) (h : 0 ≤ x0 ∧ x0 ≤ 3) : Met l yX4_bears (ws_ yX4_bears cX4_bears 3 (some .int)) ({ frames := 2, cells := 0, slots := 0, locals := 52 }) (va_Pc [.ref (ad 8 0), .int (nI j), .int x0] (SF Γ ad (shp Γ ad N o Z))) (gEi Γ (mBear Z j x0) ad (shp Γ ad N o (uz Z 8 0 0 0))) 0 0 (AA Γ) := by
  refine Met.ofW (cc := cX4_bears) (maxL := 3) (ret := (some .int)) (by decide) rfl ?_
  intro p e s m args below meth c s₁ B hml hv
  obtain ⟨rfl, hK, hF⟩ := hv
  have hx := B.exec
  have hb := B.bytes
  have hr := B.returns
  have hts := atoms_spec (ws := ws_ yX4_bears cX4_bears 3 (some .int)) B.pre
  have hts : ∀ w ∈ lw_all, w.before _ s = true := fun w h => hts w (List.mem_cons_of_mem _ h)
  have hown : s.vm.findClass RX4 = some m.cls := findClass_of_methodNamed B.named
  have hlocks := B.notSynchronized
  have hS : va_S (AA Γ) s.heap s.heap [] := va_S.rf
  have hl := lv_entry ([.ref (ad 8 0), .int (nI j), .int x0]) (n := 3) (Nat.le_of_ble_eq_true rfl)
  rw [lg_entry_eq]
  generalize (lg_sl ([.ref (ad 8 0), .int (nI j), .int x0]) ++ List.replicate (3 - (lg_sl ([.ref (ad 8 0), .int (nI j), .int x0])).length) Slot.unset).toArray = ls at hl ⊢
  have hl : lv_has ls 3 [(0, .ref (ad 8 0)), (1, .int (nI j)), (2, .int x0)] := hl
  refine lv_aload_n hx hb dX4_bears_0 rfl (lv_at hl 0 rfl) ?_
  refine lv_iconst (v := 0) hx hb dX4_bears_1 (by decide) ?_
  refine s_put (ci := 5) (T := TX4) (NC := 22) hx hb hts in_X4 tyX4 tyX4_ok nmX4 hown hK hF hS 8 0 0 rfl rfl 0 (by decide) rfl (hts _ q680) (fun _ h9 => h9) rfl (by decide +kernel) (Nat.le_of_ble_eq_true rfl) dX4_bears_2 (fun H locs hF hS => ?_)
  refine lv_aload_n hx hb dX4_bears_5 rfl (lv_at hl 0 rfl) ?_
  refine lv_iload_n hx hb dX4_bears_6 rfl (lv_at hl 1 rfl) ?_
  refine g_ci (va_runV (As := [.int (nI j)]) (rest := []) ⟨hx, hb, hml, hown, hts⟩ (Met.val (met_X4_isLoan l Γ ad N o (uz Z 8 0 0 0) (nI j)) (bI1 (inL hj (by omega) hlo))) (cwV 1 hts (lw_V q779 q781 qs13 q31 q782) rfl rfl rfl (by decide +kernel) ⟨Nat.le_of_ble_eq_true rfl, Nat.le_of_ble_eq_true rfl⟩) (SF_V hK hS hF (recvF hK hF 8 0 rfl rfl)) rfl rfl hl.1 rfl (lv_room (Nat.le_of_ble_eq_true rfl)) dX4_bears_7 ⟨Nat.le_of_ble_eq_true rfl, Nat.le_of_ble_eq_true rfl⟩) hS (fun H locs hF hS => ?_)
  refine lv_if_ne (tgt := 19) hx hb dX4_bears_10 (by decide) (fun _ => ?_) (fun c10 => absurd c10 (by decide))
  refine lv_iload_n hx hb dX4_bears_19 rfl (lv_at hl 2 rfl) ?_
  refine lv_iconst (v := 0) hx hb dX4_bears_20 (by decide) ?_
  refine lv_iconst (v := 3) hx hb dX4_bears_21 (by decide) ?_
  refine g_ci (va_runS (As := [.int x0, .int 0, .int 3]) (rest := []) ⟨hx, hb, hml, hown, hts⟩ (Met.val (met_X4_in l Γ ad (shp Γ ad N o (uz Z 8 0 0 0)) x0 0 3) (bI1 h)) (va_cwS 3 hts (lw_S q756 q757 q31 q758) rfl rfl rfl (by decide +kernel) ⟨Nat.le_of_ble_eq_true rfl, Nat.le_of_ble_eq_true rfl⟩) (SF_S hK hS hF) rfl rfl hl.1 rfl (lv_room (Nat.le_of_ble_eq_true rfl)) dX4_bears_22 ⟨Nat.le_of_ble_eq_true rfl, Nat.le_of_ble_eq_true rfl⟩) hS (fun H locs hF hS => ?_)
  refine lv_if_eq (tgt := 37) hx hb dX4_bears_25 (by decide) (fun c25 => absurd c25 (by decide)) (fun _ => ?_)
  refine lv_aload_n hx hb dX4_bears_28 rfl (lv_at hl 0 rfl) ?_
  refine lv_iload_n hx hb dX4_bears_29 rfl (lv_at hl 1 rfl) ?_
  refine lv_iload_n hx hb dX4_bears_30 rfl (lv_at hl 2 rfl) ?_
  refine g_ci (va_runV (As := [.int (nI j), .int x0]) (rest := []) ⟨hx, hb, hml, hown, hts⟩ (met_X4_bear l Γ ad N o (uz Z 8 0 0 0) j (by omega) x0) (cwV 2 hts (lw_V q805 q807 qs17 q31 q808) rfl rfl rfl (by decide +kernel) ⟨Nat.le_of_ble_eq_true rfl, Nat.le_of_ble_eq_true rfl⟩) (SF_V hK hS hF (recvF hK hF 8 0 rfl rfl)) rfl rfl hl.1 rfl (lv_room (Nat.le_of_ble_eq_true rfl)) dX4_bears_31 ⟨Nat.le_of_ble_eq_true rfl, Nat.le_of_ble_eq_true rfl⟩) hS (fun H locs hF hS => ?_)
  refine lv_goto (tgt := 42) hx hb dX4_bears_34 (by decide) ?_
  exact g_iret hx hb hr hlocks hF hS dX4_bears_42
set_option maxHeartbeats 4000000 in
set_option maxRecDepth 100000 in
/-- balance, path A -/
theorem mm_balance_A (l : Launch) (Γ : Gm) (ad : Nat → Nat → Nat) (N : Nat → Nat) (o : Nat → Int64) (Z : Nat → Nat → Nat → Int32) (b : Int32) (h : ¬ (0 ≤ b ∧ b ≤ 2)) : Met l yX4_balance (ws_ yX4_balance cX4_balance 2 (some .int)) ({ frames := 2, cells := 0, slots := 0, locals := 42 }) (va_Pc [.ref (ad 8 0), .int b] (SF Γ ad (shp Γ ad N o Z))) (gEi Γ (0) ad (shp Γ ad N o (uz (uz Z 8 0 0 0) 8 0 0 1))) 0 0 (AA Γ) := by
  refine Met.ofW (cc := cX4_balance) (maxL := 2) (ret := (some .int)) (by decide) rfl ?_
  intro p e s m args below meth c s₁ B hml hv
  obtain ⟨rfl, hK, hF⟩ := hv
  have hx := B.exec
  have hb := B.bytes
  have hr := B.returns
  have hts := atoms_spec (ws := ws_ yX4_balance cX4_balance 2 (some .int)) B.pre
  have hts : ∀ w ∈ lw_all, w.before _ s = true := fun w h => hts w (List.mem_cons_of_mem _ h)
  have hown : s.vm.findClass RX4 = some m.cls := findClass_of_methodNamed B.named
  have hlocks := B.notSynchronized
  have hS : va_S (AA Γ) s.heap s.heap [] := va_S.rf
  have hl := lv_entry ([.ref (ad 8 0), .int b]) (n := 2) (Nat.le_of_ble_eq_true rfl)
  rw [lg_entry_eq]
  generalize (lg_sl ([.ref (ad 8 0), .int b]) ++ List.replicate (2 - (lg_sl ([.ref (ad 8 0), .int b])).length) Slot.unset).toArray = ls at hl ⊢
  have hl : lv_has ls 2 [(0, .ref (ad 8 0)), (1, .int b)] := hl
  refine lv_aload_n hx hb dX4_balance_0 rfl (lv_at hl 0 rfl) ?_
  refine lv_iconst (v := 0) hx hb dX4_balance_1 (by decide) ?_
  refine s_put (ci := 5) (T := TX4) (NC := 22) hx hb hts in_X4 tyX4 tyX4_ok nmX4 hown hK hF hS 8 0 0 rfl rfl 0 (by decide) rfl (hts _ q680) (fun _ h9 => h9) rfl (by decide +kernel) (Nat.le_of_ble_eq_true rfl) dX4_balance_2 (fun H locs hF hS => ?_)
  refine lv_iload_n hx hb dX4_balance_5 rfl (lv_at hl 1 rfl) ?_
  refine g_ci (va_runS (As := [.int b]) (rest := []) ⟨hx, hb, hml, hown, hts⟩ (Met.val (met_X4_isBranch l Γ ad N o (uz Z 8 0 0 0) b) (bI0 h)) (va_cwS 1 hts (lw_S q771 q772 q31 q773) rfl rfl rfl (by decide +kernel) ⟨Nat.le_of_ble_eq_true rfl, Nat.le_of_ble_eq_true rfl⟩) (SF_S hK hS hF) rfl rfl hl.1 rfl (lv_room (Nat.le_of_ble_eq_true rfl)) dX4_balance_6 ⟨Nat.le_of_ble_eq_true rfl, Nat.le_of_ble_eq_true rfl⟩) hS (fun H locs hF hS => ?_)
  refine lv_if_eq (tgt := 21) hx hb dX4_balance_9 (by decide) (fun _ => ?_) (fun c9 => absurd (by decide) c9)
  refine lv_aload_n hx hb dX4_balance_21 rfl (lv_at hl 0 rfl) ?_
  refine lv_iconst (v := 1) hx hb dX4_balance_22 (by decide) ?_
  refine g_callw (va_runV (As := [.int 1]) (rest := []) ⟨hx, hb, hml, hown, hts⟩ (met_X4_fails l Γ ad N o (uz Z 8 0 0 0) 1) (cwV 1 hts (lw_V q759 q761 qs12 q31 q762) rfl rfl rfl (by decide +kernel) ⟨Nat.le_of_ble_eq_true rfl, Nat.le_of_ble_eq_true rfl⟩) (SF_V hK hS hF (recvF hK hF 8 0 rfl rfl)) rfl rfl hl.1 rfl (lv_room (Nat.le_of_ble_eq_true rfl)) dX4_balance_23 ⟨Nat.le_of_ble_eq_true rfl, Nat.le_of_ble_eq_true rfl⟩) hS (fun H locs hF hS => ?_)
  exact g_iret hx hb hr hlocks hF hS dX4_balance_26
set_option maxHeartbeats 4000000 in
set_option maxRecDepth 100000 in
/-- balance, path B -/
theorem mm_balance_B (l : Launch) (Γ : Gm) (ad : Nat → Nat → Nat) (N : Nat → Nat) (o : Nat → Int64) (Z : Nat → Nat → Nat → Int32) (b : Nat) (hb3 : b < 3) : Met l yX4_balance (ws_ yX4_balance cX4_balance 2 (some .int)) ({ frames := 2, cells := 0, slots := 0, locals := 42 }) (va_Pc [.ref (ad 8 0), .int (nI b)] (SF Γ ad (shp Γ ad N o Z))) (gEi Γ (Z 8 10 b) ad (shp Γ ad N o (uz Z 8 0 0 0))) 0 0 (AA Γ) := by
  refine Met.ofW (cc := cX4_balance) (maxL := 2) (ret := (some .int)) (by decide) rfl ?_
  intro p e s m args below meth c s₁ B hml hv
  obtain ⟨rfl, hK, hF⟩ := hv
  have hx := B.exec
  have hb := B.bytes
  have hr := B.returns
  have hts := atoms_spec (ws := ws_ yX4_balance cX4_balance 2 (some .int)) B.pre
  have hts : ∀ w ∈ lw_all, w.before _ s = true := fun w h => hts w (List.mem_cons_of_mem _ h)
  have hown : s.vm.findClass RX4 = some m.cls := findClass_of_methodNamed B.named
  have hlocks := B.notSynchronized
  have hS : va_S (AA Γ) s.heap s.heap [] := va_S.rf
  have hl := lv_entry ([.ref (ad 8 0), .int (nI b)]) (n := 2) (Nat.le_of_ble_eq_true rfl)
  rw [lg_entry_eq]
  generalize (lg_sl ([.ref (ad 8 0), .int (nI b)]) ++ List.replicate (2 - (lg_sl ([.ref (ad 8 0), .int (nI b)])).length) Slot.unset).toArray = ls at hl ⊢
  have hl : lv_has ls 2 [(0, .ref (ad 8 0)), (1, .int (nI b))] := hl
  refine lv_aload_n hx hb dX4_balance_0 rfl (lv_at hl 0 rfl) ?_
  refine lv_iconst (v := 0) hx hb dX4_balance_1 (by decide) ?_
  refine s_put (ci := 5) (T := TX4) (NC := 22) hx hb hts in_X4 tyX4 tyX4_ok nmX4 hown hK hF hS 8 0 0 rfl rfl 0 (by decide) rfl (hts _ q680) (fun _ h9 => h9) rfl (by decide +kernel) (Nat.le_of_ble_eq_true rfl) dX4_balance_2 (fun H locs hF hS => ?_)
  refine lv_iload_n hx hb dX4_balance_5 rfl (lv_at hl 1 rfl) ?_
  refine g_ci (va_runS (As := [.int (nI b)]) (rest := []) ⟨hx, hb, hml, hown, hts⟩ (Met.val (met_X4_isBranch l Γ ad N o (uz Z 8 0 0 0) (nI b)) (bI1 (inI (a := 0) (b := 2) (Nat.zero_le _) (by omega) (by decide)))) (va_cwS 1 hts (lw_S q771 q772 q31 q773) rfl rfl rfl (by decide +kernel) ⟨Nat.le_of_ble_eq_true rfl, Nat.le_of_ble_eq_true rfl⟩) (SF_S hK hS hF) rfl rfl hl.1 rfl (lv_room (Nat.le_of_ble_eq_true rfl)) dX4_balance_6 ⟨Nat.le_of_ble_eq_true rfl, Nat.le_of_ble_eq_true rfl⟩) hS (fun H locs hF hS => ?_)
  refine lv_if_eq (tgt := 21) hx hb dX4_balance_9 (by decide) (fun c9 => absurd c9 (by decide)) (fun _ => ?_)
  refine lv_aload_n hx hb dX4_balance_12 rfl (lv_at hl 0 rfl) ?_
  refine r_get (ci := 5) (v := .ref (ad 8 10)) (T := TX4) (N := 22) hx hb hts in_X4 hown hK hF 8 0 rfl rfl 15 (by decide) (hts _ q695) (fun _ h9 => h9) rfl dX4_balance_13 ?_
  refine lv_iload_n hx hb dX4_balance_16 rfl (lv_at hl 1 rfl) ?_
  refine s_iald hx hb hK hF 8 10 rfl b rfl (by omega) (by omega) dX4_balance_17 ?_
  refine lv_goto (tgt := 26) hx hb dX4_balance_18 (by decide) ?_
  exact g_iret hx hb hr hlocks hF hS dX4_balance_26
set_option maxHeartbeats 4000000 in
set_option maxRecDepth 100000 in
/-- tranche, path A -/
theorem mm_tranche_A (l : Launch) (Γ : Gm) (ad : Nat → Nat → Nat) (N : Nat → Nat) (o : Nat → Int64) (Z : Nat → Nat → Nat → Int32) (t : Int32) (h : ¬ (0 ≤ t ∧ t ≤ 5)) : Met l yX4_tranche (ws_ yX4_tranche cX4_tranche 2 (some .int)) ({ frames := 1, cells := 0, slots := 0, locals := 22 }) (va_Pc [.ref (ad 8 0), .int t] (SF Γ ad (shp Γ ad N o Z))) (gEi Γ (0) ad (shp Γ ad N o (uz (uz Z 8 0 0 0) 8 0 0 1))) 0 0 (AA Γ) := by
  refine Met.ofW (cc := cX4_tranche) (maxL := 2) (ret := (some .int)) (by decide) rfl ?_
  intro p e s m args below meth c s₁ B hml hv
  obtain ⟨rfl, hK, hF⟩ := hv
  have hx := B.exec
  have hb := B.bytes
  have hr := B.returns
  have hts := atoms_spec (ws := ws_ yX4_tranche cX4_tranche 2 (some .int)) B.pre
  have hts : ∀ w ∈ lw_all, w.before _ s = true := fun w h => hts w (List.mem_cons_of_mem _ h)
  have hown : s.vm.findClass RX4 = some m.cls := findClass_of_methodNamed B.named
  have hlocks := B.notSynchronized
  have hS : va_S (AA Γ) s.heap s.heap [] := va_S.rf
  have hl := lv_entry ([.ref (ad 8 0), .int t]) (n := 2) (Nat.le_of_ble_eq_true rfl)
  rw [lg_entry_eq]
  generalize (lg_sl ([.ref (ad 8 0), .int t]) ++ List.replicate (2 - (lg_sl ([.ref (ad 8 0), .int t])).length) Slot.unset).toArray = ls at hl ⊢
  have hl : lv_has ls 2 [(0, .ref (ad 8 0)), (1, .int t)] := hl
  refine lv_aload_n hx hb dX4_tranche_0 rfl (lv_at hl 0 rfl) ?_
  refine lv_iconst (v := 0) hx hb dX4_tranche_1 (by decide) ?_
  refine s_put (ci := 5) (T := TX4) (NC := 22) hx hb hts in_X4 tyX4 tyX4_ok nmX4 hown hK hF hS 8 0 0 rfl rfl 0 (by decide) rfl (hts _ q680) (fun _ h9 => h9) rfl (by decide +kernel) (Nat.le_of_ble_eq_true rfl) dX4_tranche_2 (fun H locs hF hS => ?_)
  refine lv_iload_n hx hb dX4_tranche_5 rfl (lv_at hl 1 rfl) ?_
  refine lv_iconst (v := 0) hx hb dX4_tranche_6 (by decide) ?_
  refine lv_iconst (v := 5) hx hb dX4_tranche_7 (by decide) ?_
  refine g_ci (va_runS (As := [.int t, .int 0, .int 5]) (rest := []) ⟨hx, hb, hml, hown, hts⟩ (Met.val (met_X4_in l Γ ad (shp Γ ad N o (uz Z 8 0 0 0)) t 0 5) (bI0 h)) (va_cwS 3 hts (lw_S q756 q757 q31 q758) rfl rfl rfl (by decide +kernel) ⟨Nat.le_of_ble_eq_true rfl, Nat.le_of_ble_eq_true rfl⟩) (SF_S hK hS hF) rfl rfl hl.1 rfl (lv_room (Nat.le_of_ble_eq_true rfl)) dX4_tranche_8 ⟨Nat.le_of_ble_eq_true rfl, Nat.le_of_ble_eq_true rfl⟩) hS (fun H locs hF hS => ?_)
  refine lv_if_eq (tgt := 23) hx hb dX4_tranche_11 (by decide) (fun _ => ?_) (fun c11 => absurd (by decide) c11)
  refine lv_aload_n hx hb dX4_tranche_23 rfl (lv_at hl 0 rfl) ?_
  refine lv_iconst (v := 1) hx hb dX4_tranche_24 (by decide) ?_
  refine g_callw (va_runV (As := [.int 1]) (rest := []) ⟨hx, hb, hml, hown, hts⟩ (met_X4_fails l Γ ad N o (uz Z 8 0 0 0) 1) (cwV 1 hts (lw_V q759 q761 qs12 q31 q762) rfl rfl rfl (by decide +kernel) ⟨Nat.le_of_ble_eq_true rfl, Nat.le_of_ble_eq_true rfl⟩) (SF_V hK hS hF (recvF hK hF 8 0 rfl rfl)) rfl rfl hl.1 rfl (lv_room (Nat.le_of_ble_eq_true rfl)) dX4_tranche_25 ⟨Nat.le_of_ble_eq_true rfl, Nat.le_of_ble_eq_true rfl⟩) hS (fun H locs hF hS => ?_)
  exact g_iret hx hb hr hlocks hF hS dX4_tranche_28
set_option maxHeartbeats 4000000 in
set_option maxRecDepth 100000 in
/-- tranche, path B -/
theorem mm_tranche_B (l : Launch) (Γ : Gm) (ad : Nat → Nat → Nat) (N : Nat → Nat) (o : Nat → Int64) (Z : Nat → Nat → Nat → Int32) (t : Nat) (ht : t < 6) : Met l yX4_tranche (ws_ yX4_tranche cX4_tranche 2 (some .int)) ({ frames := 1, cells := 0, slots := 0, locals := 22 }) (va_Pc [.ref (ad 8 0), .int (nI t)] (SF Γ ad (shp Γ ad N o Z))) (gEi Γ (Z 8 11 t) ad (shp Γ ad N o (uz Z 8 0 0 0))) 0 0 (AA Γ) := by
  refine Met.ofW (cc := cX4_tranche) (maxL := 2) (ret := (some .int)) (by decide) rfl ?_
  intro p e s m args below meth c s₁ B hml hv
  obtain ⟨rfl, hK, hF⟩ := hv
  have hx := B.exec
  have hb := B.bytes
  have hr := B.returns
  have hts := atoms_spec (ws := ws_ yX4_tranche cX4_tranche 2 (some .int)) B.pre
  have hts : ∀ w ∈ lw_all, w.before _ s = true := fun w h => hts w (List.mem_cons_of_mem _ h)
  have hown : s.vm.findClass RX4 = some m.cls := findClass_of_methodNamed B.named
  have hlocks := B.notSynchronized
  have hS : va_S (AA Γ) s.heap s.heap [] := va_S.rf
  have hl := lv_entry ([.ref (ad 8 0), .int (nI t)]) (n := 2) (Nat.le_of_ble_eq_true rfl)
  rw [lg_entry_eq]
  generalize (lg_sl ([.ref (ad 8 0), .int (nI t)]) ++ List.replicate (2 - (lg_sl ([.ref (ad 8 0), .int (nI t)])).length) Slot.unset).toArray = ls at hl ⊢
  have hl : lv_has ls 2 [(0, .ref (ad 8 0)), (1, .int (nI t))] := hl
  refine lv_aload_n hx hb dX4_tranche_0 rfl (lv_at hl 0 rfl) ?_
  refine lv_iconst (v := 0) hx hb dX4_tranche_1 (by decide) ?_
  refine s_put (ci := 5) (T := TX4) (NC := 22) hx hb hts in_X4 tyX4 tyX4_ok nmX4 hown hK hF hS 8 0 0 rfl rfl 0 (by decide) rfl (hts _ q680) (fun _ h9 => h9) rfl (by decide +kernel) (Nat.le_of_ble_eq_true rfl) dX4_tranche_2 (fun H locs hF hS => ?_)
  refine lv_iload_n hx hb dX4_tranche_5 rfl (lv_at hl 1 rfl) ?_
  refine lv_iconst (v := 0) hx hb dX4_tranche_6 (by decide) ?_
  refine lv_iconst (v := 5) hx hb dX4_tranche_7 (by decide) ?_
  refine g_ci (va_runS (As := [.int (nI t), .int 0, .int 5]) (rest := []) ⟨hx, hb, hml, hown, hts⟩ (Met.val (met_X4_in l Γ ad (shp Γ ad N o (uz Z 8 0 0 0)) (nI t) 0 5) (bI1 (inI (a := 0) (b := 5) (Nat.zero_le _) (by omega) (by decide)))) (va_cwS 3 hts (lw_S q756 q757 q31 q758) rfl rfl rfl (by decide +kernel) ⟨Nat.le_of_ble_eq_true rfl, Nat.le_of_ble_eq_true rfl⟩) (SF_S hK hS hF) rfl rfl hl.1 rfl (lv_room (Nat.le_of_ble_eq_true rfl)) dX4_tranche_8 ⟨Nat.le_of_ble_eq_true rfl, Nat.le_of_ble_eq_true rfl⟩) hS (fun H locs hF hS => ?_)
  refine lv_if_eq (tgt := 23) hx hb dX4_tranche_11 (by decide) (fun c11 => absurd c11 (by decide)) (fun _ => ?_)
  refine lv_aload_n hx hb dX4_tranche_14 rfl (lv_at hl 0 rfl) ?_
  refine r_get (ci := 5) (v := .ref (ad 8 11)) (T := TX4) (N := 22) hx hb hts in_X4 hown hK hF 8 0 rfl rfl 16 (by decide) (hts _ q696) (fun _ h9 => h9) rfl dX4_tranche_15 ?_
  refine lv_iload_n hx hb dX4_tranche_18 rfl (lv_at hl 1 rfl) ?_
  refine s_iald hx hb hK hF 8 11 rfl t rfl (by omega) (by omega) dX4_tranche_19 ?_
  refine lv_goto (tgt := 28) hx hb dX4_tranche_20 (by decide) ?_
  exact g_iret hx hb hr hlocks hF hS dX4_tranche_28
set_option maxHeartbeats 4000000 in
set_option maxRecDepth 100000 in
/-- replicaRate, path A -/
theorem mm_replicaRate_A (l : Launch) (Γ : Gm) (ad : Nat → Nat → Nat) (N : Nat → Nat) (o : Nat → Int64) (Z : Nat → Nat → Nat → Int32)  : Met l yX4_replicaRate (ws_ yX4_replicaRate cX4_replicaRate 1 (some .int)) ({ frames := 1, cells := 0, slots := 0, locals := 25 }) (va_Pc [.ref (ad 8 0)] (SF Γ ad (shp Γ ad N o Z))) (gEi Γ (mRep Z) ad (shp Γ ad N o (uz Z 8 0 0 0))) 0 0 (AA Γ) := by
  refine Met.ofW (cc := cX4_replicaRate) (maxL := 1) (ret := (some .int)) (by decide) rfl ?_
  intro p e s m args below meth c s₁ B hml hv
  obtain ⟨rfl, hK, hF⟩ := hv
  have hx := B.exec
  have hb := B.bytes
  have hr := B.returns
  have hts := atoms_spec (ws := ws_ yX4_replicaRate cX4_replicaRate 1 (some .int)) B.pre
  have hts : ∀ w ∈ lw_all, w.before _ s = true := fun w h => hts w (List.mem_cons_of_mem _ h)
  have hown : s.vm.findClass RX4 = some m.cls := findClass_of_methodNamed B.named
  have hlocks := B.notSynchronized
  have hS : va_S (AA Γ) s.heap s.heap [] := va_S.rf
  have hl := lv_entry ([.ref (ad 8 0)]) (n := 1) (Nat.le_of_ble_eq_true rfl)
  rw [lg_entry_eq]
  generalize (lg_sl ([.ref (ad 8 0)]) ++ List.replicate (1 - (lg_sl ([.ref (ad 8 0)])).length) Slot.unset).toArray = ls at hl ⊢
  have hl : lv_has ls 1 [(0, .ref (ad 8 0))] := hl
  refine lv_aload_n hx hb dX4_replicaRate_0 rfl (lv_at hl 0 rfl) ?_
  refine lv_iconst (v := 0) hx hb dX4_replicaRate_1 (by decide) ?_
  refine s_put (ci := 5) (T := TX4) (NC := 22) hx hb hts in_X4 tyX4 tyX4_ok nmX4 hown hK hF hS 8 0 0 rfl rfl 0 (by decide) rfl (hts _ q680) (fun _ h9 => h9) rfl (by decide +kernel) (Nat.le_of_ble_eq_true rfl) dX4_replicaRate_2 (fun H locs hF hS => ?_)
  refine lv_aload_n hx hb dX4_replicaRate_5 rfl (lv_at hl 0 rfl) ?_
  refine g_ci (va_runV (As := []) (rest := []) ⟨hx, hb, hml, hown, hts⟩ (met_X4_replica l Γ ad N o (uz Z 8 0 0 0)) (cwV 0 hts (lw_V q814 q816 qs19 q31 q817) rfl rfl rfl (by decide +kernel) ⟨Nat.le_of_ble_eq_true rfl, Nat.le_of_ble_eq_true rfl⟩) (SF_V hK hS hF (recvF hK hF 8 0 rfl rfl)) rfl rfl hl.1 rfl (lv_room (Nat.le_of_ble_eq_true rfl)) dX4_replicaRate_6 ⟨Nat.le_of_ble_eq_true rfl, Nat.le_of_ble_eq_true rfl⟩) hS (fun H locs hF hS => ?_)
  exact g_iret hx hb hr hlocks hF hS dX4_replicaRate_9
set_option maxHeartbeats 4000000 in
set_option maxRecDepth 100000 in
/-- margin, path A -/
theorem mm_margin_A (l : Launch) (Γ : Gm) (ad : Nat → Nat → Nat) (N : Nat → Nat) (o : Nat → Int64) (Z : Nat → Nat → Nat → Int32) (b q : Int32) (h : ¬ ((0 ≤ b ∧ b ≤ 2) ∧ (0 ≤ q ∧ q ≤ Z 8 0 1 - 1))) : Met l yX4_margin (ws_ yX4_margin cX4_margin 3 (some .int)) ({ frames := 2, cells := 0, slots := 0, locals := 43 }) (va_Pc [.ref (ad 8 0), .int b, .int q] (SF Γ ad (shp Γ ad N o Z))) (gEi Γ (0) ad (shp Γ ad N o (uz (uz Z 8 0 0 0) 8 0 0 1))) 0 0 (AA Γ) := by
  refine Met.ofW (cc := cX4_margin) (maxL := 3) (ret := (some .int)) (by decide) rfl ?_
  intro p e s m args below meth c s₁ B hml hv
  obtain ⟨rfl, hK, hF⟩ := hv
  have hx := B.exec
  have hb := B.bytes
  have hr := B.returns
  have hts := atoms_spec (ws := ws_ yX4_margin cX4_margin 3 (some .int)) B.pre
  have hts : ∀ w ∈ lw_all, w.before _ s = true := fun w h => hts w (List.mem_cons_of_mem _ h)
  have hown : s.vm.findClass RX4 = some m.cls := findClass_of_methodNamed B.named
  have hlocks := B.notSynchronized
  have hS : va_S (AA Γ) s.heap s.heap [] := va_S.rf
  have hl := lv_entry ([.ref (ad 8 0), .int b, .int q]) (n := 3) (Nat.le_of_ble_eq_true rfl)
  rw [lg_entry_eq]
  generalize (lg_sl ([.ref (ad 8 0), .int b, .int q]) ++ List.replicate (3 - (lg_sl ([.ref (ad 8 0), .int b, .int q])).length) Slot.unset).toArray = ls at hl ⊢
  have hl : lv_has ls 3 [(0, .ref (ad 8 0)), (1, .int b), (2, .int q)] := hl
  refine lv_aload_n hx hb dX4_margin_0 rfl (lv_at hl 0 rfl) ?_
  refine lv_iconst (v := 0) hx hb dX4_margin_1 (by decide) ?_
  refine s_put (ci := 5) (T := TX4) (NC := 22) hx hb hts in_X4 tyX4 tyX4_ok nmX4 hown hK hF hS 8 0 0 rfl rfl 0 (by decide) rfl (hts _ q680) (fun _ h9 => h9) rfl (by decide +kernel) (Nat.le_of_ble_eq_true rfl) dX4_margin_2 (fun H locs hF hS => ?_)
  refine lv_iload_n hx hb dX4_margin_5 rfl (lv_at hl 1 rfl) ?_
  refine g_ci (va_runS (As := [.int b]) (rest := []) ⟨hx, hb, hml, hown, hts⟩ (met_X4_isBranch l Γ ad N o (uz Z 8 0 0 0) b) (va_cwS 1 hts (lw_S q771 q772 q31 q773) rfl rfl rfl (by decide +kernel) ⟨Nat.le_of_ble_eq_true rfl, Nat.le_of_ble_eq_true rfl⟩) (SF_S hK hS hF) rfl rfl hl.1 rfl (lv_room (Nat.le_of_ble_eq_true rfl)) dX4_margin_6 ⟨Nat.le_of_ble_eq_true rfl, Nat.le_of_ble_eq_true rfl⟩) hS (fun H locs hF hS => ?_)
  refine lv_if_eq (tgt := 33) hx hb dX4_margin_9 (by decide) (fun c9 => ?_) (fun c9 => ?_)
  · refine lv_aload_n hx hb dX4_margin_33 rfl (lv_at hl 0 rfl) ?_
    refine lv_iconst (v := 1) hx hb dX4_margin_34 (by decide) ?_
    refine g_callw (va_runV (As := [.int 1]) (rest := []) ⟨hx, hb, hml, hown, hts⟩ (met_X4_fails l Γ ad N o (uz Z 8 0 0 0) 1) (cwV 1 hts (lw_V q759 q761 qs12 q31 q762) rfl rfl rfl (by decide +kernel) ⟨Nat.le_of_ble_eq_true rfl, Nat.le_of_ble_eq_true rfl⟩) (SF_V hK hS hF (recvF hK hF 8 0 rfl rfl)) rfl rfl hl.1 rfl (lv_room (Nat.le_of_ble_eq_true rfl)) dX4_margin_35 ⟨Nat.le_of_ble_eq_true rfl, Nat.le_of_ble_eq_true rfl⟩) hS (fun H locs hF hS => ?_)
    exact g_iret hx hb hr hlocks hF hS dX4_margin_38
  · refine lv_aload_n hx hb dX4_margin_12 rfl (lv_at hl 0 rfl) ?_
    refine lv_iload_n hx hb dX4_margin_13 rfl (lv_at hl 2 rfl) ?_
    refine g_ci (va_runV (As := [.int q]) (rest := []) ⟨hx, hb, hml, hown, hts⟩ (met_X4_isEnded l Γ ad N o (uz Z 8 0 0 0) q) (cwV 1 hts (lw_V q858 q860 qs21 q31 q861) rfl rfl rfl (by decide +kernel) ⟨Nat.le_of_ble_eq_true rfl, Nat.le_of_ble_eq_true rfl⟩) (SF_V hK hS hF (recvF hK hF 8 0 rfl rfl)) rfl rfl hl.1 rfl (lv_room (Nat.le_of_ble_eq_true rfl)) dX4_margin_14 ⟨Nat.le_of_ble_eq_true rfl, Nat.le_of_ble_eq_true rfl⟩) hS (fun H locs hF hS => ?_)
    refine lv_if_eq (tgt := 33) hx hb dX4_margin_17 (by decide) (fun c17 => ?_) (fun c17 => ?_)
    · refine lv_aload_n hx hb dX4_margin_33 rfl (lv_at hl 0 rfl) ?_
      refine lv_iconst (v := 1) hx hb dX4_margin_34 (by decide) ?_
      refine g_callw (va_runV (As := [.int 1]) (rest := []) ⟨hx, hb, hml, hown, hts⟩ (met_X4_fails l Γ ad N o (uz Z 8 0 0 0) 1) (cwV 1 hts (lw_V q759 q761 qs12 q31 q762) rfl rfl rfl (by decide +kernel) ⟨Nat.le_of_ble_eq_true rfl, Nat.le_of_ble_eq_true rfl⟩) (SF_V hK hS hF (recvF hK hF 8 0 rfl rfl)) rfl rfl hl.1 rfl (lv_room (Nat.le_of_ble_eq_true rfl)) dX4_margin_35 ⟨Nat.le_of_ble_eq_true rfl, Nat.le_of_ble_eq_true rfl⟩) hS (fun H locs hF hS => ?_)
      exact g_iret hx hb hr hlocks hF hS dX4_margin_38
    · exact absurd ⟨bI_t c9, bI_t c17⟩ h
set_option maxHeartbeats 4000000 in
set_option maxRecDepth 100000 in
/-- margin, path B -/
theorem mm_margin_B (l : Launch) (Γ : Gm) (ad : Nat → Nat → Nat) (N : Nat → Nat) (o : Nat → Int64) (Z : Nat → Nat → Nat → Int32) (b : Nat) (hb3 : b < 3) (k0 mo : Nat) (hk0 : k0 < mo) (hmo : mo ≤ 48) (hnow : Z 8 0 1 = nI mo) : Met l yX4_margin (ws_ yX4_margin cX4_margin 3 (some .int)) ({ frames := 2, cells := 0, slots := 0, locals := 43 }) (va_Pc [.ref (ad 8 0), .int (nI b), .int (nI k0)] (SF Γ ad (shp Γ ad N o Z))) (gEi Γ (Z 8 13 (3 * k0 + b)) ad (shp Γ ad N o (uz Z 8 0 0 0))) 0 0 (AA Γ) := by
  refine Met.ofW (cc := cX4_margin) (maxL := 3) (ret := (some .int)) (by decide) rfl ?_
  intro p e s m args below meth c s₁ B hml hv
  obtain ⟨rfl, hK, hF⟩ := hv
  have hx := B.exec
  have hb := B.bytes
  have hr := B.returns
  have hts := atoms_spec (ws := ws_ yX4_margin cX4_margin 3 (some .int)) B.pre
  have hts : ∀ w ∈ lw_all, w.before _ s = true := fun w h => hts w (List.mem_cons_of_mem _ h)
  have hown : s.vm.findClass RX4 = some m.cls := findClass_of_methodNamed B.named
  have hlocks := B.notSynchronized
  have hS : va_S (AA Γ) s.heap s.heap [] := va_S.rf
  have hl := lv_entry ([.ref (ad 8 0), .int (nI b), .int (nI k0)]) (n := 3) (Nat.le_of_ble_eq_true rfl)
  rw [lg_entry_eq]
  generalize (lg_sl ([.ref (ad 8 0), .int (nI b), .int (nI k0)]) ++ List.replicate (3 - (lg_sl ([.ref (ad 8 0), .int (nI b), .int (nI k0)])).length) Slot.unset).toArray = ls at hl ⊢
  have hl : lv_has ls 3 [(0, .ref (ad 8 0)), (1, .int (nI b)), (2, .int (nI k0))] := hl
  refine lv_aload_n hx hb dX4_margin_0 rfl (lv_at hl 0 rfl) ?_
  refine lv_iconst (v := 0) hx hb dX4_margin_1 (by decide) ?_
  refine s_put (ci := 5) (T := TX4) (NC := 22) hx hb hts in_X4 tyX4 tyX4_ok nmX4 hown hK hF hS 8 0 0 rfl rfl 0 (by decide) rfl (hts _ q680) (fun _ h9 => h9) rfl (by decide +kernel) (Nat.le_of_ble_eq_true rfl) dX4_margin_2 (fun H locs hF hS => ?_)
  refine lv_iload_n hx hb dX4_margin_5 rfl (lv_at hl 1 rfl) ?_
  refine g_ci (va_runS (As := [.int (nI b)]) (rest := []) ⟨hx, hb, hml, hown, hts⟩ (Met.val (met_X4_isBranch l Γ ad N o (uz Z 8 0 0 0) (nI b)) (bI1 (inI (a := 0) (b := 2) (Nat.zero_le _) (by omega) (by decide)))) (va_cwS 1 hts (lw_S q771 q772 q31 q773) rfl rfl rfl (by decide +kernel) ⟨Nat.le_of_ble_eq_true rfl, Nat.le_of_ble_eq_true rfl⟩) (SF_S hK hS hF) rfl rfl hl.1 rfl (lv_room (Nat.le_of_ble_eq_true rfl)) dX4_margin_6 ⟨Nat.le_of_ble_eq_true rfl, Nat.le_of_ble_eq_true rfl⟩) hS (fun H locs hF hS => ?_)
  refine lv_if_eq (tgt := 33) hx hb dX4_margin_9 (by decide) (fun c9 => absurd c9 (by decide)) (fun _ => ?_)
  refine lv_aload_n hx hb dX4_margin_12 rfl (lv_at hl 0 rfl) ?_
  refine lv_iload_n hx hb dX4_margin_13 rfl (lv_at hl 2 rfl) ?_
  refine g_ci (va_runV (As := [.int (nI k0)]) (rest := []) ⟨hx, hb, hml, hown, hts⟩ (Met.val (met_X4_isEnded l Γ ad N o (uz Z 8 0 0 0) (nI k0)) (bI1 (inL hk0 (by omega) hnow))) (cwV 1 hts (lw_V q858 q860 qs21 q31 q861) rfl rfl rfl (by decide +kernel) ⟨Nat.le_of_ble_eq_true rfl, Nat.le_of_ble_eq_true rfl⟩) (SF_V hK hS hF (recvF hK hF 8 0 rfl rfl)) rfl rfl hl.1 rfl (lv_room (Nat.le_of_ble_eq_true rfl)) dX4_margin_14 ⟨Nat.le_of_ble_eq_true rfl, Nat.le_of_ble_eq_true rfl⟩) hS (fun H locs hF hS => ?_)
  refine lv_if_eq (tgt := 33) hx hb dX4_margin_17 (by decide) (fun c17 => absurd c17 (by decide)) (fun _ => ?_)
  refine lv_aload_n hx hb dX4_margin_20 rfl (lv_at hl 0 rfl) ?_
  refine r_get (ci := 5) (v := .ref (ad 8 13)) (T := TX4) (N := 22) hx hb hts in_X4 hown hK hF 8 0 rfl rfl 18 (by decide) (hts _ q698) (fun _ h9 => h9) rfl dX4_margin_21 ?_
  refine lv_iconst (v := 3) hx hb dX4_margin_24 (by decide) ?_
  refine lv_iload_n hx hb dX4_margin_25 rfl (lv_at hl 2 rfl) ?_
  refine lv_imul hx hb dX4_margin_26 ?_
  refine lv_iload_n hx hb dX4_margin_27 rfl (lv_at hl 1 rfl) ?_
  refine lv_iadd hx hb dX4_margin_28 ?_
  refine s_iald hx hb hK hF 8 13 rfl (3 * k0 + b) (ix3 k0 b) (by omega) (by omega) dX4_margin_29 ?_
  refine lv_goto (tgt := 38) hx hb dX4_margin_30 (by decide) ?_
  exact g_iret hx hb hr hlocks hF hS dX4_margin_38
set_option maxHeartbeats 4000000 in
set_option maxRecDepth 100000 in
/-- byProduct, path A -/
theorem mm_byProduct_A (l : Launch) (Γ : Gm) (ad : Nat → Nat → Nat) (N : Nat → Nat) (o : Nat → Int64) (Z : Nat → Nat → Nat → Int32) (b q : Int32) (h : ¬ ((0 ≤ b ∧ b ≤ 2) ∧ (0 ≤ q ∧ q ≤ Z 8 0 1 - 1))) : Met l yX4_byProduct (ws_ yX4_byProduct cX4_byProduct 3 (some .int)) ({ frames := 2, cells := 0, slots := 0, locals := 43 }) (va_Pc [.ref (ad 8 0), .int b, .int q] (SF Γ ad (shp Γ ad N o Z))) (gEi Γ (0) ad (shp Γ ad N o (uz (uz Z 8 0 0 0) 8 0 0 1))) 0 0 (AA Γ) := by
  refine Met.ofW (cc := cX4_byProduct) (maxL := 3) (ret := (some .int)) (by decide) rfl ?_
  intro p e s m args below meth c s₁ B hml hv
  obtain ⟨rfl, hK, hF⟩ := hv
  have hx := B.exec
  have hb := B.bytes
  have hr := B.returns
  have hts := atoms_spec (ws := ws_ yX4_byProduct cX4_byProduct 3 (some .int)) B.pre
  have hts : ∀ w ∈ lw_all, w.before _ s = true := fun w h => hts w (List.mem_cons_of_mem _ h)
  have hown : s.vm.findClass RX4 = some m.cls := findClass_of_methodNamed B.named
  have hlocks := B.notSynchronized
  have hS : va_S (AA Γ) s.heap s.heap [] := va_S.rf
  have hl := lv_entry ([.ref (ad 8 0), .int b, .int q]) (n := 3) (Nat.le_of_ble_eq_true rfl)
  rw [lg_entry_eq]
  generalize (lg_sl ([.ref (ad 8 0), .int b, .int q]) ++ List.replicate (3 - (lg_sl ([.ref (ad 8 0), .int b, .int q])).length) Slot.unset).toArray = ls at hl ⊢
  have hl : lv_has ls 3 [(0, .ref (ad 8 0)), (1, .int b), (2, .int q)] := hl
  refine lv_aload_n hx hb dX4_byProduct_0 rfl (lv_at hl 0 rfl) ?_
  refine lv_iconst (v := 0) hx hb dX4_byProduct_1 (by decide) ?_
  refine s_put (ci := 5) (T := TX4) (NC := 22) hx hb hts in_X4 tyX4 tyX4_ok nmX4 hown hK hF hS 8 0 0 rfl rfl 0 (by decide) rfl (hts _ q680) (fun _ h9 => h9) rfl (by decide +kernel) (Nat.le_of_ble_eq_true rfl) dX4_byProduct_2 (fun H locs hF hS => ?_)
  refine lv_iload_n hx hb dX4_byProduct_5 rfl (lv_at hl 1 rfl) ?_
  refine lv_iconst (v := 0) hx hb dX4_byProduct_6 (by decide) ?_
  refine lv_iconst (v := 2) hx hb dX4_byProduct_7 (by decide) ?_
  refine g_ci (va_runS (As := [.int b, .int 0, .int 2]) (rest := []) ⟨hx, hb, hml, hown, hts⟩ (met_X4_in l Γ ad (shp Γ ad N o (uz Z 8 0 0 0)) b 0 2) (va_cwS 3 hts (lw_S q756 q757 q31 q758) rfl rfl rfl (by decide +kernel) ⟨Nat.le_of_ble_eq_true rfl, Nat.le_of_ble_eq_true rfl⟩) (SF_S hK hS hF) rfl rfl hl.1 rfl (lv_room (Nat.le_of_ble_eq_true rfl)) dX4_byProduct_8 ⟨Nat.le_of_ble_eq_true rfl, Nat.le_of_ble_eq_true rfl⟩) hS (fun H locs hF hS => ?_)
  refine lv_if_eq (tgt := 35) hx hb dX4_byProduct_11 (by decide) (fun c11 => ?_) (fun c11 => ?_)
  · refine lv_aload_n hx hb dX4_byProduct_35 rfl (lv_at hl 0 rfl) ?_
    refine lv_iconst (v := 1) hx hb dX4_byProduct_36 (by decide) ?_
    refine g_callw (va_runV (As := [.int 1]) (rest := []) ⟨hx, hb, hml, hown, hts⟩ (met_X4_fails l Γ ad N o (uz Z 8 0 0 0) 1) (cwV 1 hts (lw_V q759 q761 qs12 q31 q762) rfl rfl rfl (by decide +kernel) ⟨Nat.le_of_ble_eq_true rfl, Nat.le_of_ble_eq_true rfl⟩) (SF_V hK hS hF (recvF hK hF 8 0 rfl rfl)) rfl rfl hl.1 rfl (lv_room (Nat.le_of_ble_eq_true rfl)) dX4_byProduct_37 ⟨Nat.le_of_ble_eq_true rfl, Nat.le_of_ble_eq_true rfl⟩) hS (fun H locs hF hS => ?_)
    exact g_iret hx hb hr hlocks hF hS dX4_byProduct_40
  · refine lv_aload_n hx hb dX4_byProduct_14 rfl (lv_at hl 0 rfl) ?_
    refine lv_iload_n hx hb dX4_byProduct_15 rfl (lv_at hl 2 rfl) ?_
    refine g_ci (va_runV (As := [.int q]) (rest := []) ⟨hx, hb, hml, hown, hts⟩ (met_X4_isEnded l Γ ad N o (uz Z 8 0 0 0) q) (cwV 1 hts (lw_V q858 q860 qs21 q31 q861) rfl rfl rfl (by decide +kernel) ⟨Nat.le_of_ble_eq_true rfl, Nat.le_of_ble_eq_true rfl⟩) (SF_V hK hS hF (recvF hK hF 8 0 rfl rfl)) rfl rfl hl.1 rfl (lv_room (Nat.le_of_ble_eq_true rfl)) dX4_byProduct_16 ⟨Nat.le_of_ble_eq_true rfl, Nat.le_of_ble_eq_true rfl⟩) hS (fun H locs hF hS => ?_)
    refine lv_if_eq (tgt := 35) hx hb dX4_byProduct_19 (by decide) (fun c19 => ?_) (fun c19 => ?_)
    · refine lv_aload_n hx hb dX4_byProduct_35 rfl (lv_at hl 0 rfl) ?_
      refine lv_iconst (v := 1) hx hb dX4_byProduct_36 (by decide) ?_
      refine g_callw (va_runV (As := [.int 1]) (rest := []) ⟨hx, hb, hml, hown, hts⟩ (met_X4_fails l Γ ad N o (uz Z 8 0 0 0) 1) (cwV 1 hts (lw_V q759 q761 qs12 q31 q762) rfl rfl rfl (by decide +kernel) ⟨Nat.le_of_ble_eq_true rfl, Nat.le_of_ble_eq_true rfl⟩) (SF_V hK hS hF (recvF hK hF 8 0 rfl rfl)) rfl rfl hl.1 rfl (lv_room (Nat.le_of_ble_eq_true rfl)) dX4_byProduct_37 ⟨Nat.le_of_ble_eq_true rfl, Nat.le_of_ble_eq_true rfl⟩) hS (fun H locs hF hS => ?_)
      exact g_iret hx hb hr hlocks hF hS dX4_byProduct_40
    · exact absurd ⟨bI_t c11, bI_t c19⟩ h
set_option maxHeartbeats 4000000 in
set_option maxRecDepth 100000 in
/-- byProduct, path B -/
theorem mm_byProduct_B (l : Launch) (Γ : Gm) (ad : Nat → Nat → Nat) (N : Nat → Nat) (o : Nat → Int64) (Z : Nat → Nat → Nat → Int32) (b : Nat) (hb3 : b < 3) (k0 mo : Nat) (hk0 : k0 < mo) (hmo : mo ≤ 48) (hnow : Z 8 0 1 = nI mo) : Met l yX4_byProduct (ws_ yX4_byProduct cX4_byProduct 3 (some .int)) ({ frames := 2, cells := 0, slots := 0, locals := 43 }) (va_Pc [.ref (ad 8 0), .int (nI b), .int (nI k0)] (SF Γ ad (shp Γ ad N o Z))) (gEi Γ (Z 8 14 (3 * k0 + b)) ad (shp Γ ad N o (uz Z 8 0 0 0))) 0 0 (AA Γ) := by
  refine Met.ofW (cc := cX4_byProduct) (maxL := 3) (ret := (some .int)) (by decide) rfl ?_
  intro p e s m args below meth c s₁ B hml hv
  obtain ⟨rfl, hK, hF⟩ := hv
  have hx := B.exec
  have hb := B.bytes
  have hr := B.returns
  have hts := atoms_spec (ws := ws_ yX4_byProduct cX4_byProduct 3 (some .int)) B.pre
  have hts : ∀ w ∈ lw_all, w.before _ s = true := fun w h => hts w (List.mem_cons_of_mem _ h)
  have hown : s.vm.findClass RX4 = some m.cls := findClass_of_methodNamed B.named
  have hlocks := B.notSynchronized
  have hS : va_S (AA Γ) s.heap s.heap [] := va_S.rf
  have hl := lv_entry ([.ref (ad 8 0), .int (nI b), .int (nI k0)]) (n := 3) (Nat.le_of_ble_eq_true rfl)
  rw [lg_entry_eq]
  generalize (lg_sl ([.ref (ad 8 0), .int (nI b), .int (nI k0)]) ++ List.replicate (3 - (lg_sl ([.ref (ad 8 0), .int (nI b), .int (nI k0)])).length) Slot.unset).toArray = ls at hl ⊢
  have hl : lv_has ls 3 [(0, .ref (ad 8 0)), (1, .int (nI b)), (2, .int (nI k0))] := hl
  refine lv_aload_n hx hb dX4_byProduct_0 rfl (lv_at hl 0 rfl) ?_
  refine lv_iconst (v := 0) hx hb dX4_byProduct_1 (by decide) ?_
  refine s_put (ci := 5) (T := TX4) (NC := 22) hx hb hts in_X4 tyX4 tyX4_ok nmX4 hown hK hF hS 8 0 0 rfl rfl 0 (by decide) rfl (hts _ q680) (fun _ h9 => h9) rfl (by decide +kernel) (Nat.le_of_ble_eq_true rfl) dX4_byProduct_2 (fun H locs hF hS => ?_)
  refine lv_iload_n hx hb dX4_byProduct_5 rfl (lv_at hl 1 rfl) ?_
  refine lv_iconst (v := 0) hx hb dX4_byProduct_6 (by decide) ?_
  refine lv_iconst (v := 2) hx hb dX4_byProduct_7 (by decide) ?_
  refine g_ci (va_runS (As := [.int (nI b), .int 0, .int 2]) (rest := []) ⟨hx, hb, hml, hown, hts⟩ (Met.val (met_X4_in l Γ ad (shp Γ ad N o (uz Z 8 0 0 0)) (nI b) 0 2) (bI1 (inI (a := 0) (b := 2) (Nat.zero_le _) (by omega) (by decide)))) (va_cwS 3 hts (lw_S q756 q757 q31 q758) rfl rfl rfl (by decide +kernel) ⟨Nat.le_of_ble_eq_true rfl, Nat.le_of_ble_eq_true rfl⟩) (SF_S hK hS hF) rfl rfl hl.1 rfl (lv_room (Nat.le_of_ble_eq_true rfl)) dX4_byProduct_8 ⟨Nat.le_of_ble_eq_true rfl, Nat.le_of_ble_eq_true rfl⟩) hS (fun H locs hF hS => ?_)
  refine lv_if_eq (tgt := 35) hx hb dX4_byProduct_11 (by decide) (fun c11 => absurd c11 (by decide)) (fun _ => ?_)
  refine lv_aload_n hx hb dX4_byProduct_14 rfl (lv_at hl 0 rfl) ?_
  refine lv_iload_n hx hb dX4_byProduct_15 rfl (lv_at hl 2 rfl) ?_
  refine g_ci (va_runV (As := [.int (nI k0)]) (rest := []) ⟨hx, hb, hml, hown, hts⟩ (Met.val (met_X4_isEnded l Γ ad N o (uz Z 8 0 0 0) (nI k0)) (bI1 (inL hk0 (by omega) hnow))) (cwV 1 hts (lw_V q858 q860 qs21 q31 q861) rfl rfl rfl (by decide +kernel) ⟨Nat.le_of_ble_eq_true rfl, Nat.le_of_ble_eq_true rfl⟩) (SF_V hK hS hF (recvF hK hF 8 0 rfl rfl)) rfl rfl hl.1 rfl (lv_room (Nat.le_of_ble_eq_true rfl)) dX4_byProduct_16 ⟨Nat.le_of_ble_eq_true rfl, Nat.le_of_ble_eq_true rfl⟩) hS (fun H locs hF hS => ?_)
  refine lv_if_eq (tgt := 35) hx hb dX4_byProduct_19 (by decide) (fun c19 => absurd c19 (by decide)) (fun _ => ?_)
  refine lv_aload_n hx hb dX4_byProduct_22 rfl (lv_at hl 0 rfl) ?_
  refine r_get (ci := 5) (v := .ref (ad 8 14)) (T := TX4) (N := 22) hx hb hts in_X4 hown hK hF 8 0 rfl rfl 19 (by decide) (hts _ q699) (fun _ h9 => h9) rfl dX4_byProduct_23 ?_
  refine lv_iconst (v := 3) hx hb dX4_byProduct_26 (by decide) ?_
  refine lv_iload_n hx hb dX4_byProduct_27 rfl (lv_at hl 2 rfl) ?_
  refine lv_imul hx hb dX4_byProduct_28 ?_
  refine lv_iload_n hx hb dX4_byProduct_29 rfl (lv_at hl 1 rfl) ?_
  refine lv_iadd hx hb dX4_byProduct_30 ?_
  refine s_iald hx hb hK hF 8 14 rfl (3 * k0 + b) (ix3 k0 b) (by omega) (by omega) dX4_byProduct_31 ?_
  refine lv_goto (tgt := 40) hx hb dX4_byProduct_32 (by decide) ?_
  exact g_iret hx hb hr hlocks hF hS dX4_byProduct_40
set_option maxHeartbeats 4000000 in
set_option maxRecDepth 100000 in
/-- treasury, path A -/
theorem mm_treasury_A (l : Launch) (Γ : Gm) (ad : Nat → Nat → Nat) (N : Nat → Nat) (o : Nat → Int64) (Z : Nat → Nat → Nat → Int32) (q : Int32) (h : ¬ (0 ≤ q ∧ q ≤ Z 8 0 1 - 1)) : Met l yX4_treasury (ws_ yX4_treasury cX4_treasury 2 (some .int)) ({ frames := 2, cells := 0, slots := 0, locals := 43 }) (va_Pc [.ref (ad 8 0), .int q] (SF Γ ad (shp Γ ad N o Z))) (gEi Γ (0) ad (shp Γ ad N o (uz (uz Z 8 0 0 0) 8 0 0 1))) 0 0 (AA Γ) := by
  refine Met.ofW (cc := cX4_treasury) (maxL := 2) (ret := (some .int)) (by decide) rfl ?_
  intro p e s m args below meth c s₁ B hml hv
  obtain ⟨rfl, hK, hF⟩ := hv
  have hx := B.exec
  have hb := B.bytes
  have hr := B.returns
  have hts := atoms_spec (ws := ws_ yX4_treasury cX4_treasury 2 (some .int)) B.pre
  have hts : ∀ w ∈ lw_all, w.before _ s = true := fun w h => hts w (List.mem_cons_of_mem _ h)
  have hown : s.vm.findClass RX4 = some m.cls := findClass_of_methodNamed B.named
  have hlocks := B.notSynchronized
  have hS : va_S (AA Γ) s.heap s.heap [] := va_S.rf
  have hl := lv_entry ([.ref (ad 8 0), .int q]) (n := 2) (Nat.le_of_ble_eq_true rfl)
  rw [lg_entry_eq]
  generalize (lg_sl ([.ref (ad 8 0), .int q]) ++ List.replicate (2 - (lg_sl ([.ref (ad 8 0), .int q])).length) Slot.unset).toArray = ls at hl ⊢
  have hl : lv_has ls 2 [(0, .ref (ad 8 0)), (1, .int q)] := hl
  refine lv_aload_n hx hb dX4_treasury_0 rfl (lv_at hl 0 rfl) ?_
  refine lv_iconst (v := 0) hx hb dX4_treasury_1 (by decide) ?_
  refine s_put (ci := 5) (T := TX4) (NC := 22) hx hb hts in_X4 tyX4 tyX4_ok nmX4 hown hK hF hS 8 0 0 rfl rfl 0 (by decide) rfl (hts _ q680) (fun _ h9 => h9) rfl (by decide +kernel) (Nat.le_of_ble_eq_true rfl) dX4_treasury_2 (fun H locs hF hS => ?_)
  refine lv_aload_n hx hb dX4_treasury_5 rfl (lv_at hl 0 rfl) ?_
  refine lv_iload_n hx hb dX4_treasury_6 rfl (lv_at hl 1 rfl) ?_
  refine g_ci (va_runV (As := [.int q]) (rest := []) ⟨hx, hb, hml, hown, hts⟩ (Met.val (met_X4_isEnded l Γ ad N o (uz Z 8 0 0 0) q) (bI0 h)) (cwV 1 hts (lw_V q858 q860 qs21 q31 q861) rfl rfl rfl (by decide +kernel) ⟨Nat.le_of_ble_eq_true rfl, Nat.le_of_ble_eq_true rfl⟩) (SF_V hK hS hF (recvF hK hF 8 0 rfl rfl)) rfl rfl hl.1 rfl (lv_room (Nat.le_of_ble_eq_true rfl)) dX4_treasury_7 ⟨Nat.le_of_ble_eq_true rfl, Nat.le_of_ble_eq_true rfl⟩) hS (fun H locs hF hS => ?_)
  refine lv_if_eq (tgt := 22) hx hb dX4_treasury_10 (by decide) (fun _ => ?_) (fun c10 => absurd (by decide) c10)
  refine lv_aload_n hx hb dX4_treasury_22 rfl (lv_at hl 0 rfl) ?_
  refine lv_iconst (v := 1) hx hb dX4_treasury_23 (by decide) ?_
  refine g_callw (va_runV (As := [.int 1]) (rest := []) ⟨hx, hb, hml, hown, hts⟩ (met_X4_fails l Γ ad N o (uz Z 8 0 0 0) 1) (cwV 1 hts (lw_V q759 q761 qs12 q31 q762) rfl rfl rfl (by decide +kernel) ⟨Nat.le_of_ble_eq_true rfl, Nat.le_of_ble_eq_true rfl⟩) (SF_V hK hS hF (recvF hK hF 8 0 rfl rfl)) rfl rfl hl.1 rfl (lv_room (Nat.le_of_ble_eq_true rfl)) dX4_treasury_24 ⟨Nat.le_of_ble_eq_true rfl, Nat.le_of_ble_eq_true rfl⟩) hS (fun H locs hF hS => ?_)
  exact g_iret hx hb hr hlocks hF hS dX4_treasury_27
set_option maxHeartbeats 4000000 in
set_option maxRecDepth 100000 in
/-- treasury, path B -/
theorem mm_treasury_B (l : Launch) (Γ : Gm) (ad : Nat → Nat → Nat) (N : Nat → Nat) (o : Nat → Int64) (Z : Nat → Nat → Nat → Int32) (k0 mo : Nat) (hk0 : k0 < mo) (hmo : mo ≤ 48) (hnow : Z 8 0 1 = nI mo) : Met l yX4_treasury (ws_ yX4_treasury cX4_treasury 2 (some .int)) ({ frames := 2, cells := 0, slots := 0, locals := 43 }) (va_Pc [.ref (ad 8 0), .int (nI k0)] (SF Γ ad (shp Γ ad N o Z))) (gEi Γ (Z 8 15 k0) ad (shp Γ ad N o (uz Z 8 0 0 0))) 0 0 (AA Γ) := by
  refine Met.ofW (cc := cX4_treasury) (maxL := 2) (ret := (some .int)) (by decide) rfl ?_
  intro p e s m args below meth c s₁ B hml hv
  obtain ⟨rfl, hK, hF⟩ := hv
  have hx := B.exec
  have hb := B.bytes
  have hr := B.returns
  have hts := atoms_spec (ws := ws_ yX4_treasury cX4_treasury 2 (some .int)) B.pre
  have hts : ∀ w ∈ lw_all, w.before _ s = true := fun w h => hts w (List.mem_cons_of_mem _ h)
  have hown : s.vm.findClass RX4 = some m.cls := findClass_of_methodNamed B.named
  have hlocks := B.notSynchronized
  have hS : va_S (AA Γ) s.heap s.heap [] := va_S.rf
  have hl := lv_entry ([.ref (ad 8 0), .int (nI k0)]) (n := 2) (Nat.le_of_ble_eq_true rfl)
  rw [lg_entry_eq]
  generalize (lg_sl ([.ref (ad 8 0), .int (nI k0)]) ++ List.replicate (2 - (lg_sl ([.ref (ad 8 0), .int (nI k0)])).length) Slot.unset).toArray = ls at hl ⊢
  have hl : lv_has ls 2 [(0, .ref (ad 8 0)), (1, .int (nI k0))] := hl
  refine lv_aload_n hx hb dX4_treasury_0 rfl (lv_at hl 0 rfl) ?_
  refine lv_iconst (v := 0) hx hb dX4_treasury_1 (by decide) ?_
  refine s_put (ci := 5) (T := TX4) (NC := 22) hx hb hts in_X4 tyX4 tyX4_ok nmX4 hown hK hF hS 8 0 0 rfl rfl 0 (by decide) rfl (hts _ q680) (fun _ h9 => h9) rfl (by decide +kernel) (Nat.le_of_ble_eq_true rfl) dX4_treasury_2 (fun H locs hF hS => ?_)
  refine lv_aload_n hx hb dX4_treasury_5 rfl (lv_at hl 0 rfl) ?_
  refine lv_iload_n hx hb dX4_treasury_6 rfl (lv_at hl 1 rfl) ?_
  refine g_ci (va_runV (As := [.int (nI k0)]) (rest := []) ⟨hx, hb, hml, hown, hts⟩ (Met.val (met_X4_isEnded l Γ ad N o (uz Z 8 0 0 0) (nI k0)) (bI1 (inL hk0 (by omega) hnow))) (cwV 1 hts (lw_V q858 q860 qs21 q31 q861) rfl rfl rfl (by decide +kernel) ⟨Nat.le_of_ble_eq_true rfl, Nat.le_of_ble_eq_true rfl⟩) (SF_V hK hS hF (recvF hK hF 8 0 rfl rfl)) rfl rfl hl.1 rfl (lv_room (Nat.le_of_ble_eq_true rfl)) dX4_treasury_7 ⟨Nat.le_of_ble_eq_true rfl, Nat.le_of_ble_eq_true rfl⟩) hS (fun H locs hF hS => ?_)
  refine lv_if_eq (tgt := 22) hx hb dX4_treasury_10 (by decide) (fun c10 => absurd c10 (by decide)) (fun _ => ?_)
  refine lv_aload_n hx hb dX4_treasury_13 rfl (lv_at hl 0 rfl) ?_
  refine r_get (ci := 5) (v := .ref (ad 8 15)) (T := TX4) (N := 22) hx hb hts in_X4 hown hK hF 8 0 rfl rfl 20 (by decide) (hts _ q700) (fun _ h9 => h9) rfl dX4_treasury_14 ?_
  refine lv_iload_n hx hb dX4_treasury_17 rfl (lv_at hl 1 rfl) ?_
  refine s_iald hx hb hK hF 8 15 rfl k0 rfl (by omega) (by omega) dX4_treasury_18 ?_
  refine lv_goto (tgt := 27) hx hb dX4_treasury_19 (by decide) ?_
  exact g_iret hx hb hr hlocks hF hS dX4_treasury_27
set_option maxHeartbeats 4000000 in
set_option maxRecDepth 100000 in
/-- interest, path A -/
theorem mm_interest_A (l : Launch) (Γ : Gm) (ad : Nat → Nat → Nat) (N : Nat → Nat) (o : Nat → Int64) (Z : Nat → Nat → Nat → Int32) (q : Int32) (h : ¬ (0 ≤ q ∧ q ≤ Z 8 0 1 - 1)) : Met l yX4_interest (ws_ yX4_interest cX4_interest 2 (some .int)) ({ frames := 2, cells := 0, slots := 0, locals := 43 }) (va_Pc [.ref (ad 8 0), .int q] (SF Γ ad (shp Γ ad N o Z))) (gEi Γ (0) ad (shp Γ ad N o (uz (uz Z 8 0 0 0) 8 0 0 1))) 0 0 (AA Γ) := by
  refine Met.ofW (cc := cX4_interest) (maxL := 2) (ret := (some .int)) (by decide) rfl ?_
  intro p e s m args below meth c s₁ B hml hv
  obtain ⟨rfl, hK, hF⟩ := hv
  have hx := B.exec
  have hb := B.bytes
  have hr := B.returns
  have hts := atoms_spec (ws := ws_ yX4_interest cX4_interest 2 (some .int)) B.pre
  have hts : ∀ w ∈ lw_all, w.before _ s = true := fun w h => hts w (List.mem_cons_of_mem _ h)
  have hown : s.vm.findClass RX4 = some m.cls := findClass_of_methodNamed B.named
  have hlocks := B.notSynchronized
  have hS : va_S (AA Γ) s.heap s.heap [] := va_S.rf
  have hl := lv_entry ([.ref (ad 8 0), .int q]) (n := 2) (Nat.le_of_ble_eq_true rfl)
  rw [lg_entry_eq]
  generalize (lg_sl ([.ref (ad 8 0), .int q]) ++ List.replicate (2 - (lg_sl ([.ref (ad 8 0), .int q])).length) Slot.unset).toArray = ls at hl ⊢
  have hl : lv_has ls 2 [(0, .ref (ad 8 0)), (1, .int q)] := hl
  refine lv_aload_n hx hb dX4_interest_0 rfl (lv_at hl 0 rfl) ?_
  refine lv_iconst (v := 0) hx hb dX4_interest_1 (by decide) ?_
  refine s_put (ci := 5) (T := TX4) (NC := 22) hx hb hts in_X4 tyX4 tyX4_ok nmX4 hown hK hF hS 8 0 0 rfl rfl 0 (by decide) rfl (hts _ q680) (fun _ h9 => h9) rfl (by decide +kernel) (Nat.le_of_ble_eq_true rfl) dX4_interest_2 (fun H locs hF hS => ?_)
  refine lv_aload_n hx hb dX4_interest_5 rfl (lv_at hl 0 rfl) ?_
  refine lv_iload_n hx hb dX4_interest_6 rfl (lv_at hl 1 rfl) ?_
  refine g_ci (va_runV (As := [.int q]) (rest := []) ⟨hx, hb, hml, hown, hts⟩ (Met.val (met_X4_isEnded l Γ ad N o (uz Z 8 0 0 0) q) (bI0 h)) (cwV 1 hts (lw_V q858 q860 qs21 q31 q861) rfl rfl rfl (by decide +kernel) ⟨Nat.le_of_ble_eq_true rfl, Nat.le_of_ble_eq_true rfl⟩) (SF_V hK hS hF (recvF hK hF 8 0 rfl rfl)) rfl rfl hl.1 rfl (lv_room (Nat.le_of_ble_eq_true rfl)) dX4_interest_7 ⟨Nat.le_of_ble_eq_true rfl, Nat.le_of_ble_eq_true rfl⟩) hS (fun H locs hF hS => ?_)
  refine lv_if_eq (tgt := 22) hx hb dX4_interest_10 (by decide) (fun _ => ?_) (fun c10 => absurd (by decide) c10)
  refine lv_aload_n hx hb dX4_interest_22 rfl (lv_at hl 0 rfl) ?_
  refine lv_iconst (v := 1) hx hb dX4_interest_23 (by decide) ?_
  refine g_callw (va_runV (As := [.int 1]) (rest := []) ⟨hx, hb, hml, hown, hts⟩ (met_X4_fails l Γ ad N o (uz Z 8 0 0 0) 1) (cwV 1 hts (lw_V q759 q761 qs12 q31 q762) rfl rfl rfl (by decide +kernel) ⟨Nat.le_of_ble_eq_true rfl, Nat.le_of_ble_eq_true rfl⟩) (SF_V hK hS hF (recvF hK hF 8 0 rfl rfl)) rfl rfl hl.1 rfl (lv_room (Nat.le_of_ble_eq_true rfl)) dX4_interest_24 ⟨Nat.le_of_ble_eq_true rfl, Nat.le_of_ble_eq_true rfl⟩) hS (fun H locs hF hS => ?_)
  exact g_iret hx hb hr hlocks hF hS dX4_interest_27
set_option maxHeartbeats 4000000 in
set_option maxRecDepth 100000 in
/-- interest, path B -/
theorem mm_interest_B (l : Launch) (Γ : Gm) (ad : Nat → Nat → Nat) (N : Nat → Nat) (o : Nat → Int64) (Z : Nat → Nat → Nat → Int32) (k0 mo : Nat) (hk0 : k0 < mo) (hmo : mo ≤ 48) (hnow : Z 8 0 1 = nI mo) : Met l yX4_interest (ws_ yX4_interest cX4_interest 2 (some .int)) ({ frames := 2, cells := 0, slots := 0, locals := 43 }) (va_Pc [.ref (ad 8 0), .int (nI k0)] (SF Γ ad (shp Γ ad N o Z))) (gEi Γ (Z 8 16 k0) ad (shp Γ ad N o (uz Z 8 0 0 0))) 0 0 (AA Γ) := by
  refine Met.ofW (cc := cX4_interest) (maxL := 2) (ret := (some .int)) (by decide) rfl ?_
  intro p e s m args below meth c s₁ B hml hv
  obtain ⟨rfl, hK, hF⟩ := hv
  have hx := B.exec
  have hb := B.bytes
  have hr := B.returns
  have hts := atoms_spec (ws := ws_ yX4_interest cX4_interest 2 (some .int)) B.pre
  have hts : ∀ w ∈ lw_all, w.before _ s = true := fun w h => hts w (List.mem_cons_of_mem _ h)
  have hown : s.vm.findClass RX4 = some m.cls := findClass_of_methodNamed B.named
  have hlocks := B.notSynchronized
  have hS : va_S (AA Γ) s.heap s.heap [] := va_S.rf
  have hl := lv_entry ([.ref (ad 8 0), .int (nI k0)]) (n := 2) (Nat.le_of_ble_eq_true rfl)
  rw [lg_entry_eq]
  generalize (lg_sl ([.ref (ad 8 0), .int (nI k0)]) ++ List.replicate (2 - (lg_sl ([.ref (ad 8 0), .int (nI k0)])).length) Slot.unset).toArray = ls at hl ⊢
  have hl : lv_has ls 2 [(0, .ref (ad 8 0)), (1, .int (nI k0))] := hl
  refine lv_aload_n hx hb dX4_interest_0 rfl (lv_at hl 0 rfl) ?_
  refine lv_iconst (v := 0) hx hb dX4_interest_1 (by decide) ?_
  refine s_put (ci := 5) (T := TX4) (NC := 22) hx hb hts in_X4 tyX4 tyX4_ok nmX4 hown hK hF hS 8 0 0 rfl rfl 0 (by decide) rfl (hts _ q680) (fun _ h9 => h9) rfl (by decide +kernel) (Nat.le_of_ble_eq_true rfl) dX4_interest_2 (fun H locs hF hS => ?_)
  refine lv_aload_n hx hb dX4_interest_5 rfl (lv_at hl 0 rfl) ?_
  refine lv_iload_n hx hb dX4_interest_6 rfl (lv_at hl 1 rfl) ?_
  refine g_ci (va_runV (As := [.int (nI k0)]) (rest := []) ⟨hx, hb, hml, hown, hts⟩ (Met.val (met_X4_isEnded l Γ ad N o (uz Z 8 0 0 0) (nI k0)) (bI1 (inL hk0 (by omega) hnow))) (cwV 1 hts (lw_V q858 q860 qs21 q31 q861) rfl rfl rfl (by decide +kernel) ⟨Nat.le_of_ble_eq_true rfl, Nat.le_of_ble_eq_true rfl⟩) (SF_V hK hS hF (recvF hK hF 8 0 rfl rfl)) rfl rfl hl.1 rfl (lv_room (Nat.le_of_ble_eq_true rfl)) dX4_interest_7 ⟨Nat.le_of_ble_eq_true rfl, Nat.le_of_ble_eq_true rfl⟩) hS (fun H locs hF hS => ?_)
  refine lv_if_eq (tgt := 22) hx hb dX4_interest_10 (by decide) (fun c10 => absurd c10 (by decide)) (fun _ => ?_)
  refine lv_aload_n hx hb dX4_interest_13 rfl (lv_at hl 0 rfl) ?_
  refine r_get (ci := 5) (v := .ref (ad 8 16)) (T := TX4) (N := 22) hx hb hts in_X4 hown hK hF 8 0 rfl rfl 21 (by decide) (hts _ q701) (fun _ h9 => h9) rfl dX4_interest_14 ?_
  refine lv_iload_n hx hb dX4_interest_17 rfl (lv_at hl 1 rfl) ?_
  refine s_iald hx hb hK hF 8 16 rfl k0 rfl (by omega) (by omega) dX4_interest_18 ?_
  refine lv_goto (tgt := 27) hx hb dX4_interest_19 (by decide) ?_
  exact g_iret hx hb hr hlocks hF hS dX4_interest_27
