set_option maxHeartbeats 4000000 in
set_option maxRecDepth 100000 in
/-- due, path A -/
theorem mm_due_A (l : Launch) (Γ : Gm) (ad : Nat → Nat → Nat) (N : Nat → Nat) (o : Nat → Int64) (Z : Nat → Nat → Nat → Int32) (t : Int32) (h : ¬ (0 ≤ t ∧ t ≤ 5)) : Met l yX4_due (ws_ yX4_due cX4_due 5 (some .int)) ({ frames := 1, cells := 0, slots := 0, locals := 22 }) (va_Pc [.ref (ad 8 0), .int t] (SF Γ ad (shp Γ ad N o Z))) (gEi Γ (0) ad (shp Γ ad N o (uz (uz Z 8 0 0 0) 8 0 0 1))) 0 0 (AA Γ) := by
  refine Met.ofW (cc := cX4_due) (maxL := 5) (ret := (some .int)) (by decide) rfl ?_
  intro p e s m args below meth c s₁ B hml hv
  obtain ⟨rfl, hK, hF⟩ := hv
  have hx := B.exec
  have hb := B.bytes
  have hr := B.returns
  have hts := atoms_spec (ws := ws_ yX4_due cX4_due 5 (some .int)) B.pre
  have hts : ∀ w ∈ lw_all, w.before _ s = true := fun w h => hts w (List.mem_cons_of_mem _ h)
  have hown : s.vm.findClass RX4 = some m.cls := findClass_of_methodNamed B.named
  have hlocks := B.notSynchronized
  have hS : va_S (AA Γ) s.heap s.heap [] := va_S.rf
  have hl := lv_entry ([.ref (ad 8 0), .int t]) (n := 5) (Nat.le_of_ble_eq_true rfl)
  rw [lg_entry_eq]
  generalize (lg_sl ([.ref (ad 8 0), .int t]) ++ List.replicate (5 - (lg_sl ([.ref (ad 8 0), .int t])).length) Slot.unset).toArray = ls at hl ⊢
  have hl : lv_has ls 5 [(0, .ref (ad 8 0)), (1, .int t)] := hl
  refine lv_aload_n hx hb dX4_due_0 rfl (lv_at hl 0 rfl) ?_
  refine lv_iconst (v := 0) hx hb dX4_due_1 (by decide) ?_
  refine s_put (ci := 5) (T := TX4) (NC := 22) hx hb hts in_X4 tyX4 tyX4_ok nmX4 hown hK hF hS 8 0 0 rfl rfl 0 (by decide) rfl (hts _ q680) (fun _ h9 => h9) rfl (by decide +kernel) (Nat.le_of_ble_eq_true rfl) dX4_due_2 (fun H locs hF hS => ?_)
  refine lv_iload_n hx hb dX4_due_5 rfl (lv_at hl 1 rfl) ?_
  refine lv_iconst (v := 0) hx hb dX4_due_6 (by decide) ?_
  refine lv_iconst (v := 5) hx hb dX4_due_7 (by decide) ?_
  refine g_ci (va_runS (As := [.int t, .int 0, .int 5]) (rest := []) ⟨hx, hb, hml, hown, hts⟩ (Met.val (met_X4_in l Γ ad (shp Γ ad N o (uz Z 8 0 0 0)) t 0 5) (bI0 h)) (va_cwS 3 hts (lw_S q756 q757 q31 q758) rfl rfl rfl (by decide +kernel) ⟨Nat.le_of_ble_eq_true rfl, Nat.le_of_ble_eq_true rfl⟩) (SF_S hK hS hF) rfl rfl hl.1 rfl (lv_room (Nat.le_of_ble_eq_true rfl)) dX4_due_8 ⟨Nat.le_of_ble_eq_true rfl, Nat.le_of_ble_eq_true rfl⟩) hS (fun H locs hF hS => ?_)
  refine lv_if_ne (tgt := 20) hx hb dX4_due_11 (by decide) (fun c11 => absurd (by decide) c11) (fun _ => ?_)
  refine lv_aload_n hx hb dX4_due_14 rfl (lv_at hl 0 rfl) ?_
  refine lv_iconst (v := 1) hx hb dX4_due_15 (by decide) ?_
  refine g_callw (va_runV (As := [.int 1]) (rest := []) ⟨hx, hb, hml, hown, hts⟩ (met_X4_fails l Γ ad N o (uz Z 8 0 0 0) 1) (cwV 1 hts (lw_V q759 q761 qs12 q31 q762) rfl rfl rfl (by decide +kernel) ⟨Nat.le_of_ble_eq_true rfl, Nat.le_of_ble_eq_true rfl⟩) (SF_V hK hS hF (recvF hK hF 8 0 rfl rfl)) rfl rfl hl.1 rfl (lv_room (Nat.le_of_ble_eq_true rfl)) dX4_due_16 ⟨Nat.le_of_ble_eq_true rfl, Nat.le_of_ble_eq_true rfl⟩) hS (fun H locs hF hS => ?_)
  exact g_iret hx hb hr hlocks hF hS dX4_due_19
set_option maxHeartbeats 4000000 in
set_option maxRecDepth 100000 in
/-- due, path B -/
theorem mm_due_B (l : Launch) (Γ : Gm) (ad : Nat → Nat → Nat) (N : Nat → Nat) (o : Nat → Int64) (Z : Nat → Nat → Nat → Int32) (t : Nat) (ht : t < 6) (n mo : Nat) (hn : n ≤ 24) (hmo : mo ≤ 48) (hlo : Z 8 0 5 = nI n) (hnow : Z 8 0 1 = nI mo) (hbo : ∀ j, j < n → Z 8 7 j = nI (nz (Z 8 7 j)) ∧ nz (Z 8 7 j) ≤ mo) : Met l yX4_due (ws_ yX4_due cX4_due 5 (some .int)) ({ frames := 1, cells := 0, slots := 0, locals := 22 }) (va_Pc [.ref (ad 8 0), .int (nI t)] (SF Γ ad (shp Γ ad N o Z))) (gEi Γ (sm (mDue Z mo t) 0 n) ad (shp Γ ad N o (uz Z 8 0 0 0))) 0 0 (AA Γ) := by
  refine Met.ofW (cc := cX4_due) (maxL := 5) (ret := (some .int)) (by decide) rfl ?_
  intro p e s m args below meth c s₁ B hml hv
  obtain ⟨rfl, hK, hF⟩ := hv
  have hx := B.exec
  have hb := B.bytes
  have hr := B.returns
  have hts := atoms_spec (ws := ws_ yX4_due cX4_due 5 (some .int)) B.pre
  have hts : ∀ w ∈ lw_all, w.before _ s = true := fun w h => hts w (List.mem_cons_of_mem _ h)
  have hown : s.vm.findClass RX4 = some m.cls := findClass_of_methodNamed B.named
  have hlocks := B.notSynchronized
  have hS : va_S (AA Γ) s.heap s.heap [] := va_S.rf
  have hl := lv_entry ([.ref (ad 8 0), .int (nI t)]) (n := 5) (Nat.le_of_ble_eq_true rfl)
  rw [lg_entry_eq]
  generalize (lg_sl ([.ref (ad 8 0), .int (nI t)]) ++ List.replicate (5 - (lg_sl ([.ref (ad 8 0), .int (nI t)])).length) Slot.unset).toArray = ls at hl ⊢
  have hl : lv_has ls 5 [(0, .ref (ad 8 0)), (1, .int (nI t))] := hl
  refine lv_aload_n hx hb dX4_due_0 rfl (lv_at hl 0 rfl) ?_
  refine lv_iconst (v := 0) hx hb dX4_due_1 (by decide) ?_
  refine s_put (ci := 5) (T := TX4) (NC := 22) hx hb hts in_X4 tyX4 tyX4_ok nmX4 hown hK hF hS 8 0 0 rfl rfl 0 (by decide) rfl (hts _ q680) (fun _ h9 => h9) rfl (by decide +kernel) (Nat.le_of_ble_eq_true rfl) dX4_due_2 (fun H locs hF hS => ?_)
  refine lv_iload_n hx hb dX4_due_5 rfl (lv_at hl 1 rfl) ?_
  refine lv_iconst (v := 0) hx hb dX4_due_6 (by decide) ?_
  refine lv_iconst (v := 5) hx hb dX4_due_7 (by decide) ?_
  refine g_ci (va_runS (As := [.int (nI t), .int 0, .int 5]) (rest := []) ⟨hx, hb, hml, hown, hts⟩ (Met.val (met_X4_in l Γ ad (shp Γ ad N o (uz Z 8 0 0 0)) (nI t) 0 5) (bI1 (inI (a := 0) (b := 5) (Nat.zero_le _) (by omega) (by decide)))) (va_cwS 3 hts (lw_S q756 q757 q31 q758) rfl rfl rfl (by decide +kernel) ⟨Nat.le_of_ble_eq_true rfl, Nat.le_of_ble_eq_true rfl⟩) (SF_S hK hS hF) rfl rfl hl.1 rfl (lv_room (Nat.le_of_ble_eq_true rfl)) dX4_due_8 ⟨Nat.le_of_ble_eq_true rfl, Nat.le_of_ble_eq_true rfl⟩) hS (fun H locs hF hS => ?_)
  refine lv_if_ne (tgt := 20) hx hb dX4_due_11 (by decide) (fun _ => ?_) (fun c11 => absurd c11 (by decide))
  refine lv_iconst (v := 0) hx hb dX4_due_20 (by decide) ?_
  refine lv_istore_n (lv' := [(2, .int 0), (0, .ref (ad 8 0)), (1, .int (nI t))]) hx hb dX4_due_21 rfl hl (by decide) rfl (fun ls hl => ?_)
  refine lv_iconst (v := 0) hx hb dX4_due_22 (by decide) ?_
  refine lv_istore_n (lv' := [(3, .int 0), (2, .int 0), (0, .ref (ad 8 0)), (1, .int (nI t))]) hx hb dX4_due_23 rfl hl (by decide) rfl (fun ls hl => ?_)
  have LP : ∀ (u7 i : Nat) (x2 : Int32) (x3 : Int32) , i + u7 = n → 0 ≤ i → x2 = sm (mDue Z mo t) 0 i → x3 = nI i → ∀ (H : Heap) (locs : List Loc), FF Γ ad (shp Γ ad N o (uz Z 8 0 0 0)) H → va_S (AA Γ) s.heap H locs → ∀ (ls : Array Slot), lv_has ls 5 [(3, .int x3), (2, .int x2), (0, .ref (ad 8 0)), (1, .int (nI t))] → W p l e (headSpec (ws_ yX4_due cX4_due 5 (some .int)) ({ frames := 1, cells := 0, slots := 0, locals := 22 })).room s m ([.ref (ad 8 0), .int (nI t)] : List Value).toArray below meth c H locs 0 0 (MQ below (gEi Γ (sm (mDue Z mo t) 0 n) ad (shp Γ ad N o (uz Z 8 0 0 0))) ([.ref (ad 8 0), .int (nI t)] : List Value).toArray s 0 0 (AA Γ)) (F0 m 24 ls []) := by
    intro u7
    induction u7 with
    | zero =>
      intro i x2 x3  hi hs e2 e3 H locs hF hS ls hl
      subst e2
      subst e3
      obtain rfl : n = i := by omega
      refine lv_iload_n hx hb dX4_due_24 rfl (lv_at hl 0 rfl) ?_
      refine lv_aload_n hx hb dX4_due_25 rfl (lv_at hl 2 rfl) ?_
      refine r_get (ci := 5) (v := .int (Z 8 0 5)) (T := TX4) (N := 22) hx hb hts in_X4 hown hK hF 8 0 rfl rfl 6 (by decide) (hts _ q686) (fun _ h9 => h9) rfl dX4_due_26 ?_
      refine lv_re hlo ?_
      refine lv_icmp_ge (tgt := 79) hx hb dX4_due_29 (by decide) (fun c29 => ?_) (fun c29 => ?_)
      · refine lv_iload_n hx hb dX4_due_79 rfl (lv_at hl 1 rfl) ?_
        exact g_iret hx hb hr hlocks hF hS dX4_due_80
      · exact absurd (nI_le (a := n) (b := n) (Nat.le_refl _) (by omega)) c29
    | succ u7 ih =>
      intro i x2 x3  hi hs e2 e3 H locs hF hS ls hl
      subst e2
      subst e3
      refine lv_iload_n hx hb dX4_due_24 rfl (lv_at hl 0 rfl) ?_
      refine lv_aload_n hx hb dX4_due_25 rfl (lv_at hl 2 rfl) ?_
      refine r_get (ci := 5) (v := .int (Z 8 0 5)) (T := TX4) (N := 22) hx hb hts in_X4 hown hK hF 8 0 rfl rfl 6 (by decide) (hts _ q686) (fun _ h9 => h9) rfl dX4_due_26 ?_
      refine lv_re hlo ?_
      refine lv_icmp_ge (tgt := 79) hx hb dX4_due_29 (by decide) (fun c29 => ?_) (fun c29 => ?_)
      · exact absurd c29 (nI_ge (a := i) (b := n) (by omega) (by omega))
      · have hbi := (hbo i (by omega)).2
        refine lv_aload_n hx hb dX4_due_32 rfl (lv_at hl 2 rfl) ?_
        refine r_get (ci := 5) (v := .int (Z 8 0 1)) (T := TX4) (N := 22) hx hb hts in_X4 hown hK hF 8 0 rfl rfl 1 (by decide) (hts _ q681) (fun _ h9 => h9) rfl dX4_due_33 ?_
        refine lv_re hnow ?_
        refine lv_iload_n hx hb dX4_due_36 rfl (lv_at hl 3 rfl) ?_
        refine lv_iadd hx hb dX4_due_37 ?_
        refine lv_re (nI_add mo t) ?_
        refine lv_aload_n hx hb dX4_due_38 rfl (lv_at hl 2 rfl) ?_
        refine r_get (ci := 5) (v := .ref (ad 8 7)) (T := TX4) (N := 22) hx hb hts in_X4 hown hK hF 8 0 rfl rfl 12 (by decide) (hts _ q692) (fun _ h9 => h9) rfl dX4_due_39 ?_
        refine lv_iload_n hx hb dX4_due_42 rfl (lv_at hl 0 rfl) ?_
        refine s_iald hx hb hK hF 8 7 rfl i rfl (by omega) (by omega) dX4_due_43 ?_
        refine lv_re (hbo i (by omega)).1 ?_
        refine lv_isub hx hb dX4_due_44 ?_
        refine lv_re (pk_sub (by omega)) ?_
        refine lv_istore (lv' := [(4, .int (nI (mo + t - nz (Z 8 7 i)))), (3, .int (nI i)), (2, .int (sm (mDue Z mo t) 0 i)), (0, .ref (ad 8 0)), (1, .int (nI t))]) hx hb dX4_due_45 hl (by decide) rfl (fun ls hl => ?_)
        refine lv_iload_n hx hb dX4_due_47 rfl (lv_at hl 2 rfl) ?_
        refine lv_iload hx hb dX4_due_48 (lv_at hl 0 rfl) ?_
        refine lv_bipush (v := 6) hx hb dX4_due_50 (by decide) ?_
        have K : W p l e (headSpec (ws_ yX4_due cX4_due 5 (some .int)) ({ frames := 1, cells := 0, slots := 0, locals := 22 })).room s m ([.ref (ad 8 0), .int (nI t)] : List Value).toArray below meth c H locs 0 0 (MQ below (gEi Γ (sm (mDue Z mo t) 0 n) ad (shp Γ ad N o (uz Z 8 0 0 0))) ([.ref (ad 8 0), .int (nI t)] : List Value).toArray s 0 0 (AA Γ)) (F0 m 71 ls [.int (mDue Z mo t i), .int (sm (mDue Z mo t) 0 i)]) := by
          refine lv_iadd hx hb dX4_due_71 ?_
          refine lv_istore_n (lv' := [(2, .int ((sm (mDue Z mo t) 0 i) + (mDue Z mo t i))), (4, .int (nI (mo + t - nz (Z 8 7 i)))), (3, .int (nI i)), (0, .ref (ad 8 0)), (1, .int (nI t))]) hx hb dX4_due_72 rfl hl (by decide) rfl (fun ls hl => ?_)
          refine lv_iinc (v := nI (i + 1)) (lv' := [(3, .int (nI (i + 1))), (2, .int ((sm (mDue Z mo t) 0 i) + (mDue Z mo t i))), (4, .int (nI (mo + t - nz (Z 8 7 i)))), (0, .ref (ad 8 0)), (1, .int (nI t))]) hx hb dX4_due_73 hl (k := 2) rfl (nI_1 _) (by decide) rfl (fun ls hl => ?_)
          refine lv_goto (tgt := 24) hx hb dX4_due_76 (by decide) ?_
          exact ih (i + 1) _ _ (by omega) (by omega) (sm_s (Nat.zero_le _)) rfl _ _ hF hS ls (lv_sub hl [0, 1, 3, 4] rfl)
        refine lv_icmp_ge (tgt := 70) hx hb dX4_due_52 (by decide) (fun c52 => ?_) (fun c52 => ?_)
        · refine lv_iconst (v := 0) hx hb dX4_due_70 (by decide) ?_
          rw [show mDue Z mo t i = _ from if_neg (fun q => absurd c52 (nI_ge (b := 6) q (by decide)))] at K
          exact K
        · have h6 : mo + t - nz (Z 8 7 i) < 6 := Nat.lt_of_not_le (fun q => c52 (nI_le (a := 6) q (by omega)))
          refine lv_aload_n hx hb dX4_due_55 rfl (lv_at hl 3 rfl) ?_
          refine r_get (ci := 5) (v := .ref (ad 8 8)) (T := TX4) (N := 22) hx hb hts in_X4 hown hK hF 8 0 rfl rfl 13 (by decide) (hts _ q693) (fun _ h9 => h9) rfl dX4_due_56 ?_
          refine lv_bipush (v := 6) hx hb dX4_due_59 (by decide) ?_
          refine lv_iload_n hx hb dX4_due_61 rfl (lv_at hl 1 rfl) ?_
          refine lv_imul hx hb dX4_due_62 ?_
          refine lv_iload hx hb dX4_due_63 (lv_at hl 0 rfl) ?_
          refine lv_iadd hx hb dX4_due_65 ?_
          refine s_iald hx hb hK hF 8 8 rfl (6 * i + (mo + t - nz (Z 8 7 i))) (ix6 i _) (by omega) (by omega) dX4_due_66 ?_
          refine lv_goto (tgt := 71) hx hb dX4_due_67 (by decide) ?_
          rw [show mDue Z mo t i = _ from if_pos h6] at K
          exact K
  exact LP (n - 0) 0 _ _ (by omega) (Nat.le_refl _) rfl rfl _ _ hF hS ls hl
set_option maxHeartbeats 4000000 in
set_option maxRecDepth 100000 in
/-- closeMonth, path A -/
theorem mm_closeMonth_A (l : Launch) (Γ : Gm) (ad : Nat → Nat → Nat) (N : Nat → Nat) (o : Nat → Int64) (Z : Nat → Nat → Nat → Int32) (hnow : Z 8 0 1 = 47) : Met l yX4_closeMonth (ws_ yX4_closeMonth cX4_closeMonth 4 (some .int)) ({ frames := 1, cells := 0, slots := 0, locals := 21 }) (va_Pc [.ref (ad 8 0)] (SF Γ ad (shp Γ ad N o Z))) (gEi Γ (0) ad (shp Γ ad N o (uz (uz Z 8 0 0 0) 8 0 0 1))) 0 0 (AA Γ) := by
  refine Met.ofW (cc := cX4_closeMonth) (maxL := 4) (ret := (some .int)) (by decide) rfl ?_
  intro p e s m args below meth c s₁ B hml hv
  obtain ⟨rfl, hK, hF⟩ := hv
  have hx := B.exec
  have hb := B.bytes
  have hr := B.returns
  have hts := atoms_spec (ws := ws_ yX4_closeMonth cX4_closeMonth 4 (some .int)) B.pre
  have hts : ∀ w ∈ lw_all, w.before _ s = true := fun w h => hts w (List.mem_cons_of_mem _ h)
  have hown : s.vm.findClass RX4 = some m.cls := findClass_of_methodNamed B.named
  have hlocks := B.notSynchronized
  have hS : va_S (AA Γ) s.heap s.heap [] := va_S.rf
  have hl := lv_entry ([.ref (ad 8 0)]) (n := 4) (Nat.le_of_ble_eq_true rfl)
  rw [lg_entry_eq]
  generalize (lg_sl ([.ref (ad 8 0)]) ++ List.replicate (4 - (lg_sl ([.ref (ad 8 0)])).length) Slot.unset).toArray = ls at hl ⊢
  have hl : lv_has ls 4 [(0, .ref (ad 8 0))] := hl
  refine lv_aload_n hx hb dX4_closeMonth_0 rfl (lv_at hl 0 rfl) ?_
  refine lv_iconst (v := 0) hx hb dX4_closeMonth_1 (by decide) ?_
  refine s_put (ci := 5) (T := TX4) (NC := 22) hx hb hts in_X4 tyX4 tyX4_ok nmX4 hown hK hF hS 8 0 0 rfl rfl 0 (by decide) rfl (hts _ q680) (fun _ h9 => h9) rfl (by decide +kernel) (Nat.le_of_ble_eq_true rfl) dX4_closeMonth_2 (fun H locs hF hS => ?_)
  refine lv_aload_n hx hb dX4_closeMonth_5 rfl (lv_at hl 0 rfl) ?_
  refine r_get (ci := 5) (v := .int (Z 8 0 1)) (T := TX4) (N := 22) hx hb hts in_X4 hown hK hF 8 0 rfl rfl 1 (by decide) (hts _ q681) (fun _ h9 => h9) rfl dX4_closeMonth_6 ?_
  refine lv_re hnow ?_
  refine lv_bipush (v := 47) hx hb dX4_closeMonth_9 (by decide) ?_
  refine lv_icmp_ne (tgt := 20) hx hb dX4_closeMonth_11 (by decide) (fun c11 => absurd (by decide) c11) (fun _ => ?_)
  refine lv_aload_n hx hb dX4_closeMonth_14 rfl (lv_at hl 0 rfl) ?_
  refine lv_iconst (v := 1) hx hb dX4_closeMonth_15 (by decide) ?_
  refine g_callw (va_runV (As := [.int 1]) (rest := []) ⟨hx, hb, hml, hown, hts⟩ (met_X4_fails l Γ ad N o (uz Z 8 0 0 0) 1) (cwV 1 hts (lw_V q759 q761 qs12 q31 q762) rfl rfl rfl (by decide +kernel) ⟨Nat.le_of_ble_eq_true rfl, Nat.le_of_ble_eq_true rfl⟩) (SF_V hK hS hF (recvF hK hF 8 0 rfl rfl)) rfl rfl hl.1 rfl (lv_room (Nat.le_of_ble_eq_true rfl)) dX4_closeMonth_16 ⟨Nat.le_of_ble_eq_true rfl, Nat.le_of_ble_eq_true rfl⟩) hS (fun H locs hF hS => ?_)
  exact g_iret hx hb hr hlocks hF hS dX4_closeMonth_19
set_option maxHeartbeats 4000000 in
set_option maxRecDepth 100000 in
/-- closeMonth: rows 26 to 119 -/
theorem cm_1 (l : Launch) (Γ : Gm) (ad : Nat → Nat → Nat) (N : Nat → Nat) (o : Nat → Int64) (Y : Nat → Nat → Nat → Int32) (n mo : Nat) (hn : n ≤ 24) (hmo : mo < 47) (hlo : Y 8 0 5 = nI n) (hnow : Y 8 0 1 = nI mo) {p : Program} {e : Env} {s : State} {m : MethodId} {args : Array Value} {below : List Frame} {meth : Method} {c : Code} {Q : State → Prop} {H : Heap} {locs : List Loc} {ls : Array Slot} (hml : c.maxLocals = 4) (hx : p.tables.exec = Jvm.exec) (hb : c.code = cX4_closeMonth) (hown : s.vm.findClass RX4 = some m.cls) (hts : ∀ w ∈ lw_all, w.before args s = true) (hK : Kn Γ s s.heap) (hbr : ∀ j, j < n → Y 8 2 j = nI (nz (Y 8 2 j)) ∧ nz (Y 8 2 j) < 3) (hpr : ∀ j, j < n → Y 8 3 j = nI (nz (Y 8 3 j)) ∧ nz (Y 8 3 j) < 3) (hF : FF Γ ad (shp Γ ad N o Y) H) (hS : va_S (AA Γ) s.heap H locs) (hl : lv_has ls 4 [(3, .int 0), (2, .int 0), (1, .int 0), (0, .ref (ad 8 0))])
    (kk : ∀ (H : Heap) (locs : List Loc) (ls : Array Slot), FF Γ ad (shp Γ ad N o (mMon Y mo n)) H → va_S (AA Γ) s.heap H locs → lv_has ls 4 [(0, .ref (ad 8 0)), (1, .int (sm (fun k => mBear Y k 1 + mBear Y k 2) 0 n)), (2, .int (sm (fun k => mBear Y k 0) 0 n))] → W p l e (headSpec (ws_ yX4_closeMonth cX4_closeMonth 4 (some .int)) ({ frames := 4, cells := 0, slots := 0, locals := 120 })).room s m args below meth c H locs 0 0 Q (F0 m 119 ls [])) :
    W p l e (headSpec (ws_ yX4_closeMonth cX4_closeMonth 4 (some .int)) ({ frames := 4, cells := 0, slots := 0, locals := 120 })).room s m args below meth c H locs 0 0 Q (F0 m 26 ls []) := by
  have L1 : ∀ (u7 i : Nat) (x1 : Int32) (x2 : Int32) (x3 : Int32) , i + u7 = n → 0 ≤ i → x1 = sm (fun k => mBear Y k 1 + mBear Y k 2) 0 i → x2 = sm (fun k => mBear Y k 0) 0 i → x3 = nI i → ∀ (H : Heap) (locs : List Loc), FF Γ ad (shp Γ ad N o (mMon Y mo i)) H → va_S (AA Γ) s.heap H locs → ∀ (ls : Array Slot), lv_has ls 4 [(3, .int x3), (2, .int x2), (1, .int x1), (0, .ref (ad 8 0))] → W p l e (headSpec (ws_ yX4_closeMonth cX4_closeMonth 4 (some .int)) ({ frames := 4, cells := 0, slots := 0, locals := 120 })).room s m args below meth c H locs 0 0 Q (F0 m 26 ls []) := by
    intro u7
    induction u7 with
    | zero =>
      intro i x1 x2 x3  hi hs e1 e2 e3 H locs hF hS ls hl
      subst e1
      subst e2
      subst e3
      obtain rfl : n = i := by omega
      refine lv_iload_n hx hb dX4_closeMonth_26 rfl (lv_at hl 0 rfl) ?_
      refine lv_aload_n hx hb dX4_closeMonth_27 rfl (lv_at hl 3 rfl) ?_
      refine r_get (ci := 5) (v := .int ((mMon Y mo n) 8 0 5)) (T := TX4) (N := 22) hx hb hts in_X4 hown hK hF 8 0 rfl rfl 6 (by decide) (hts _ q686) (fun _ h9 => h9) rfl dX4_closeMonth_28 ?_
      refine lv_re ((congrFun (mMon_o Y mo (x := 8) (y := 0) (by decide) n) 5).trans hlo) ?_
      refine lv_icmp_ge (tgt := 119) hx hb dX4_closeMonth_31 (by decide) (fun c31 => ?_) (fun c31 => ?_)
      · exact kk _ _ _ hF hS (lv_sub hl [3, 2, 1] rfl)
      · exact absurd (nI_le (a := n) (b := n) (Nat.le_refl _) (by omega)) c31
    | succ u7 ih =>
      intro i x1 x2 x3  hi hs e1 e2 e3 H locs hF hS ls hl
      subst e1
      subst e2
      subst e3
      refine lv_iload_n hx hb dX4_closeMonth_26 rfl (lv_at hl 0 rfl) ?_
      refine lv_aload_n hx hb dX4_closeMonth_27 rfl (lv_at hl 3 rfl) ?_
      refine r_get (ci := 5) (v := .int ((mMon Y mo i) 8 0 5)) (T := TX4) (N := 22) hx hb hts in_X4 hown hK hF 8 0 rfl rfl 6 (by decide) (hts _ q686) (fun _ h9 => h9) rfl dX4_closeMonth_28 ?_
      refine lv_re ((congrFun (mMon_o Y mo (x := 8) (y := 0) (by decide) i) 5).trans hlo) ?_
      refine lv_icmp_ge (tgt := 119) hx hb dX4_closeMonth_31 (by decide) (fun c31 => ?_) (fun c31 => ?_)
      · exact absurd c31 (nI_ge (a := i) (b := n) (by omega) (by omega))
      · have hb1 := hbr i (by omega)
        have hp1 := hpr i (by omega)
        refine lv_aload_n hx hb dX4_closeMonth_34 rfl (lv_at hl 3 rfl) ?_
        refine r_get (ci := 5) (v := .ref (ad 8 13)) (T := TX4) (N := 22) hx hb hts in_X4 hown hK hF 8 0 rfl rfl 18 (by decide) (hts _ q698) (fun _ h9 => h9) rfl dX4_closeMonth_35 ?_
        refine lv_iconst (v := 3) hx hb dX4_closeMonth_38 (by decide) ?_
        refine lv_aload_n hx hb dX4_closeMonth_39 rfl (lv_at hl 3 rfl) ?_
        refine r_get (ci := 5) (v := .int ((mMon Y mo i) 8 0 1)) (T := TX4) (N := 22) hx hb hts in_X4 hown hK hF 8 0 rfl rfl 1 (by decide) (hts _ q681) (fun _ h9 => h9) rfl dX4_closeMonth_40 ?_
        refine lv_re ((congrFun (mMon_o Y mo (x := 8) (y := 0) (by decide) i) 1).trans hnow) ?_
        refine lv_imul hx hb dX4_closeMonth_43 ?_
        refine lv_aload_n hx hb dX4_closeMonth_44 rfl (lv_at hl 3 rfl) ?_
        refine r_get (ci := 5) (v := .ref (ad 8 2)) (T := TX4) (N := 22) hx hb hts in_X4 hown hK hF 8 0 rfl rfl 7 (by decide) (hts _ q687) (fun _ h9 => h9) rfl dX4_closeMonth_45 ?_
        refine lv_iload_n hx hb dX4_closeMonth_48 rfl (lv_at hl 0 rfl) ?_
        refine s_iald hx hb hK hF 8 2 rfl i rfl (by omega) (by omega) dX4_closeMonth_49 ?_
        refine lv_re ((congrFun (mMon_o Y mo (x := 8) (y := 2) (by decide) i) i).trans hb1.1) ?_
        refine lv_iadd hx hb dX4_closeMonth_50 ?_
        refine lv_dup2_11 hx hb dX4_closeMonth_51 rfl rfl ?_
        refine s_iald hx hb hK hF 8 13 rfl (3 * mo + nz (Y 8 2 i)) (ix3 mo _) (by omega) (by omega) dX4_closeMonth_52 ?_
        refine lv_aload_n hx hb dX4_closeMonth_53 rfl (lv_at hl 3 rfl) ?_
        refine lv_iload_n hx hb dX4_closeMonth_54 rfl (lv_at hl 0 rfl) ?_
        refine lv_iconst (v := 3) hx hb dX4_closeMonth_55 (by decide) ?_
        refine g_ci (va_runV (As := [.int (nI i), .int 3]) (rest := [.int ((mMon Y mo i) 8 13 (3 * mo + nz (Y 8 2 i))), .int ((3 * (nI mo)) + (nI (nz (Y 8 2 i)))), .ref (ad 8 13)]) ⟨hx, hb, hml, hown, hts⟩ (Met.val (met_X4_bear l Γ ad N o (mMon Y mo i) i (by omega) 3) (mBear_c (mMon_o Y mo (x := 8) (y := 4) (by decide) i) (mMon_o Y mo (x := 8) (y := 5) (by decide) i) (mMon_o Y mo (x := 8) (y := 6) (by decide) i) (mMon_o Y mo (x := 8) (y := 8) (by decide) i) (mMon_o Y mo (x := 8) (y := 9) (by decide) i) i 3)) (cwV 2 hts (lw_V q805 q807 qs17 q31 q808) rfl rfl rfl (by decide +kernel) ⟨Nat.le_of_ble_eq_true rfl, Nat.le_of_ble_eq_true rfl⟩) (SF_V hK hS hF (recvF hK hF 8 0 rfl rfl)) rfl rfl hl.1 rfl (lv_room (Nat.le_of_ble_eq_true rfl)) dX4_closeMonth_56 ⟨Nat.le_of_ble_eq_true rfl, Nat.le_of_ble_eq_true rfl⟩) hS (fun H locs hF hS => ?_)
        refine lv_iadd hx hb dX4_closeMonth_59 ?_
        refine s_iast hx hb hK hF hS 8 13 (fun _ => rfl) (3 * mo + nz (Y 8 2 i)) (ix3 mo _) (by omega) (by omega) dX4_closeMonth_60 (fun H locs hF hS => ?_)
        refine lv_aload_n hx hb dX4_closeMonth_61 rfl (lv_at hl 3 rfl) ?_
        refine r_get (ci := 5) (v := .ref (ad 8 14)) (T := TX4) (N := 22) hx hb hts in_X4 hown hK hF 8 0 rfl rfl 19 (by decide) (hts _ q699) (fun _ h9 => h9) rfl dX4_closeMonth_62 ?_
        refine lv_iconst (v := 3) hx hb dX4_closeMonth_65 (by decide) ?_
        refine lv_aload_n hx hb dX4_closeMonth_66 rfl (lv_at hl 3 rfl) ?_
        refine r_get (ci := 5) (v := .int ((mMon Y mo i) 8 0 1)) (T := TX4) (N := 22) hx hb hts in_X4 hown hK hF 8 0 rfl rfl 1 (by decide) (hts _ q681) (fun _ h9 => h9) rfl dX4_closeMonth_67 ?_
        refine lv_re ((congrFun (mMon_o Y mo (x := 8) (y := 0) (by decide) i) 1).trans hnow) ?_
        refine lv_imul hx hb dX4_closeMonth_70 ?_
        refine lv_aload_n hx hb dX4_closeMonth_71 rfl (lv_at hl 3 rfl) ?_
        refine r_get (ci := 5) (v := .ref (ad 8 3)) (T := TX4) (N := 22) hx hb hts in_X4 hown hK hF 8 0 rfl rfl 8 (by decide) (hts _ q688) (fun _ h9 => h9) rfl dX4_closeMonth_72 ?_
        refine lv_iload_n hx hb dX4_closeMonth_75 rfl (lv_at hl 0 rfl) ?_
        refine s_iald hx hb hK hF 8 3 rfl i rfl (by omega) (by omega) dX4_closeMonth_76 ?_
        refine lv_re ((congrFun (mMon_o Y mo (x := 8) (y := 3) (by decide) i) i).trans hp1.1) ?_
        refine lv_iadd hx hb dX4_closeMonth_77 ?_
        refine lv_dup2_11 hx hb dX4_closeMonth_78 rfl rfl ?_
        refine s_iald hx hb hK hF 8 14 rfl (3 * mo + nz (Y 8 3 i)) (ix3 mo _) (by omega) (by omega) dX4_closeMonth_79 ?_
        refine lv_aload_n hx hb dX4_closeMonth_80 rfl (lv_at hl 3 rfl) ?_
        refine lv_iload_n hx hb dX4_closeMonth_81 rfl (lv_at hl 0 rfl) ?_
        refine lv_iconst (v := 3) hx hb dX4_closeMonth_82 (by decide) ?_
        refine g_ci (va_runV (As := [.int (nI i), .int 3]) (rest := [.int ((mMon Y mo i) 8 14 (3 * mo + nz (Y 8 3 i))), .int ((3 * (nI mo)) + (nI (nz (Y 8 3 i)))), .ref (ad 8 14)]) ⟨hx, hb, hml, hown, hts⟩ (Met.val (met_X4_bear l Γ ad N o (uz (mMon Y mo i) 8 13 (3 * mo + nz (Y 8 2 i)) (((mMon Y mo i) 8 13 (3 * mo + nz (Y 8 2 i))) + (mBear Y i 3))) i (by omega) 3) (mBear_c (mMon_o Y mo (x := 8) (y := 4) (by decide) i) (mMon_o Y mo (x := 8) (y := 5) (by decide) i) (mMon_o Y mo (x := 8) (y := 6) (by decide) i) (mMon_o Y mo (x := 8) (y := 8) (by decide) i) (mMon_o Y mo (x := 8) (y := 9) (by decide) i) i 3)) (cwV 2 hts (lw_V q805 q807 qs17 q31 q808) rfl rfl rfl (by decide +kernel) ⟨Nat.le_of_ble_eq_true rfl, Nat.le_of_ble_eq_true rfl⟩) (SF_V hK hS hF (recvF hK hF 8 0 rfl rfl)) rfl rfl hl.1 rfl (lv_room (Nat.le_of_ble_eq_true rfl)) dX4_closeMonth_83 ⟨Nat.le_of_ble_eq_true rfl, Nat.le_of_ble_eq_true rfl⟩) hS (fun H locs hF hS => ?_)
        refine lv_iadd hx hb dX4_closeMonth_86 ?_
        refine s_iast hx hb hK hF hS 8 14 (fun _ => rfl) (3 * mo + nz (Y 8 3 i)) (ix3 mo _) (by omega) (by omega) dX4_closeMonth_87 (fun H locs hF hS => ?_)
        refine lv_iload_n hx hb dX4_closeMonth_88 rfl (lv_at hl 2 rfl) ?_
        refine lv_aload_n hx hb dX4_closeMonth_89 rfl (lv_at hl 3 rfl) ?_
        refine lv_iload_n hx hb dX4_closeMonth_90 rfl (lv_at hl 0 rfl) ?_
        refine lv_iconst (v := 1) hx hb dX4_closeMonth_91 (by decide) ?_
        refine g_ci (va_runV (As := [.int (nI i), .int 1]) (rest := [.int (sm (fun k => mBear Y k 1 + mBear Y k 2) 0 i)]) ⟨hx, hb, hml, hown, hts⟩ (Met.val (met_X4_bear l Γ ad N o (uz (uz (mMon Y mo i) 8 13 (3 * mo + nz (Y 8 2 i)) (((mMon Y mo i) 8 13 (3 * mo + nz (Y 8 2 i))) + (mBear Y i 3))) 8 14 (3 * mo + nz (Y 8 3 i)) (((mMon Y mo i) 8 14 (3 * mo + nz (Y 8 3 i))) + (mBear Y i 3))) i (by omega) 1) (mBear_c (mMon_o Y mo (x := 8) (y := 4) (by decide) i) (mMon_o Y mo (x := 8) (y := 5) (by decide) i) (mMon_o Y mo (x := 8) (y := 6) (by decide) i) (mMon_o Y mo (x := 8) (y := 8) (by decide) i) (mMon_o Y mo (x := 8) (y := 9) (by decide) i) i 1)) (cwV 2 hts (lw_V q805 q807 qs17 q31 q808) rfl rfl rfl (by decide +kernel) ⟨Nat.le_of_ble_eq_true rfl, Nat.le_of_ble_eq_true rfl⟩) (SF_V hK hS hF (recvF hK hF 8 0 rfl rfl)) rfl rfl hl.1 rfl (lv_room (Nat.le_of_ble_eq_true rfl)) dX4_closeMonth_92 ⟨Nat.le_of_ble_eq_true rfl, Nat.le_of_ble_eq_true rfl⟩) hS (fun H locs hF hS => ?_)
        refine lv_aload_n hx hb dX4_closeMonth_95 rfl (lv_at hl 3 rfl) ?_
        refine lv_iload_n hx hb dX4_closeMonth_96 rfl (lv_at hl 0 rfl) ?_
        refine lv_iconst (v := 2) hx hb dX4_closeMonth_97 (by decide) ?_
        refine g_ci (va_runV (As := [.int (nI i), .int 2]) (rest := [.int (mBear Y i 1), .int (sm (fun k => mBear Y k 1 + mBear Y k 2) 0 i)]) ⟨hx, hb, hml, hown, hts⟩ (Met.val (met_X4_bear l Γ ad N o (uz (uz (mMon Y mo i) 8 13 (3 * mo + nz (Y 8 2 i)) (((mMon Y mo i) 8 13 (3 * mo + nz (Y 8 2 i))) + (mBear Y i 3))) 8 14 (3 * mo + nz (Y 8 3 i)) (((mMon Y mo i) 8 14 (3 * mo + nz (Y 8 3 i))) + (mBear Y i 3))) i (by omega) 2) (mBear_c (mMon_o Y mo (x := 8) (y := 4) (by decide) i) (mMon_o Y mo (x := 8) (y := 5) (by decide) i) (mMon_o Y mo (x := 8) (y := 6) (by decide) i) (mMon_o Y mo (x := 8) (y := 8) (by decide) i) (mMon_o Y mo (x := 8) (y := 9) (by decide) i) i 2)) (cwV 2 hts (lw_V q805 q807 qs17 q31 q808) rfl rfl rfl (by decide +kernel) ⟨Nat.le_of_ble_eq_true rfl, Nat.le_of_ble_eq_true rfl⟩) (SF_V hK hS hF (recvF hK hF 8 0 rfl rfl)) rfl rfl hl.1 rfl (lv_room (Nat.le_of_ble_eq_true rfl)) dX4_closeMonth_98 ⟨Nat.le_of_ble_eq_true rfl, Nat.le_of_ble_eq_true rfl⟩) hS (fun H locs hF hS => ?_)
        refine lv_iadd hx hb dX4_closeMonth_101 ?_
        refine lv_iadd hx hb dX4_closeMonth_102 ?_
        refine lv_istore_n (lv' := [(1, .int ((sm (fun k => mBear Y k 1 + mBear Y k 2) 0 i) + ((mBear Y i 1) + (mBear Y i 2)))), (3, .int (nI i)), (2, .int (sm (fun k => mBear Y k 0) 0 i)), (0, .ref (ad 8 0))]) hx hb dX4_closeMonth_103 rfl hl (by decide) rfl (fun ls hl => ?_)
        refine lv_iload_n hx hb dX4_closeMonth_104 rfl (lv_at hl 2 rfl) ?_
        refine lv_aload_n hx hb dX4_closeMonth_105 rfl (lv_at hl 3 rfl) ?_
        refine lv_iload_n hx hb dX4_closeMonth_106 rfl (lv_at hl 1 rfl) ?_
        refine lv_iconst (v := 0) hx hb dX4_closeMonth_107 (by decide) ?_
        refine g_ci (va_runV (As := [.int (nI i), .int 0]) (rest := [.int (sm (fun k => mBear Y k 0) 0 i)]) ⟨hx, hb, hml, hown, hts⟩ (Met.val (met_X4_bear l Γ ad N o (uz (uz (mMon Y mo i) 8 13 (3 * mo + nz (Y 8 2 i)) (((mMon Y mo i) 8 13 (3 * mo + nz (Y 8 2 i))) + (mBear Y i 3))) 8 14 (3 * mo + nz (Y 8 3 i)) (((mMon Y mo i) 8 14 (3 * mo + nz (Y 8 3 i))) + (mBear Y i 3))) i (by omega) 0) (mBear_c (mMon_o Y mo (x := 8) (y := 4) (by decide) i) (mMon_o Y mo (x := 8) (y := 5) (by decide) i) (mMon_o Y mo (x := 8) (y := 6) (by decide) i) (mMon_o Y mo (x := 8) (y := 8) (by decide) i) (mMon_o Y mo (x := 8) (y := 9) (by decide) i) i 0)) (cwV 2 hts (lw_V q805 q807 qs17 q31 q808) rfl rfl rfl (by decide +kernel) ⟨Nat.le_of_ble_eq_true rfl, Nat.le_of_ble_eq_true rfl⟩) (SF_V hK hS hF (recvF hK hF 8 0 rfl rfl)) rfl rfl hl.1 rfl (lv_room (Nat.le_of_ble_eq_true rfl)) dX4_closeMonth_108 ⟨Nat.le_of_ble_eq_true rfl, Nat.le_of_ble_eq_true rfl⟩) hS (fun H locs hF hS => ?_)
        refine lv_iadd hx hb dX4_closeMonth_111 ?_
        refine lv_istore_n (lv' := [(2, .int ((sm (fun k => mBear Y k 0) 0 i) + (mBear Y i 0))), (1, .int ((sm (fun k => mBear Y k 1 + mBear Y k 2) 0 i) + ((mBear Y i 1) + (mBear Y i 2)))), (3, .int (nI i)), (0, .ref (ad 8 0))]) hx hb dX4_closeMonth_112 rfl hl (by decide) rfl (fun ls hl => ?_)
        refine lv_iinc (v := nI (i + 1)) (lv' := [(3, .int (nI (i + 1))), (2, .int ((sm (fun k => mBear Y k 0) 0 i) + (mBear Y i 0))), (1, .int ((sm (fun k => mBear Y k 1 + mBear Y k 2) 0 i) + ((mBear Y i 1) + (mBear Y i 2)))), (0, .ref (ad 8 0))]) hx hb dX4_closeMonth_113 hl (k := 2) rfl (nI_1 _) (by decide) rfl (fun ls hl => ?_)
        refine lv_goto (tgt := 26) hx hb dX4_closeMonth_116 (by decide) ?_
        exact ih (i + 1) _ _ _ (by omega) (by omega) (sm_s (Nat.zero_le _)) (sm_s (Nat.zero_le _)) rfl _ _ hF hS ls (lv_sub hl [0, 1, 2, 3] rfl)
  exact L1 (n - 0) 0 _ _ _ (by omega) (Nat.le_refl _) rfl rfl rfl _ _ hF hS ls hl
set_option maxHeartbeats 4000000 in
set_option maxRecDepth 100000 in
/-- closeMonth: rows 121 to 175 -/
theorem cm_2 (l : Launch) (Γ : Gm) (ad : Nat → Nat → Nat) (N : Nat → Nat) (o : Nat → Int64) (Y : Nat → Nat → Nat → Int32) (y1 y2 : Int32) (n mo : Nat) (hn : n ≤ 24) (hmo : mo < 47) (hlo : Y 8 0 5 = nI n) (hnow : Y 8 0 1 = nI mo) {p : Program} {e : Env} {s : State} {m : MethodId} {args : Array Value} {below : List Frame} {meth : Method} {c : Code} {Q : State → Prop} {H : Heap} {locs : List Loc} {ls : Array Slot} (hml : c.maxLocals = 4) (hx : p.tables.exec = Jvm.exec) (hb : c.code = cX4_closeMonth) (hown : s.vm.findClass RX4 = some m.cls) (hts : ∀ w ∈ lw_all, w.before args s = true) (hK : Kn Γ s s.heap)  (hF : FF Γ ad (shp Γ ad N o Y) H) (hS : va_S (AA Γ) s.heap H locs) (hl : lv_has ls 4 [(3, .int 0), (0, .ref (ad 8 0)), (1, .int y1), (2, .int y2)])
    (kk : ∀ (H : Heap) (locs : List Loc) (ls : Array Slot), FF Γ ad (shp Γ ad N o (mMob Y mo 3)) H → va_S (AA Γ) s.heap H locs → lv_has ls 4 [(0, .ref (ad 8 0)), (1, .int (sb y1 (mPaid Y) 3)), (2, .int (sb y2 (mPays Y) 3))] → W p l e (headSpec (ws_ yX4_closeMonth cX4_closeMonth 4 (some .int)) ({ frames := 4, cells := 0, slots := 0, locals := 120 })).room s m args below meth c H locs 0 0 Q (F0 m 175 ls [])) :
    W p l e (headSpec (ws_ yX4_closeMonth cX4_closeMonth 4 (some .int)) ({ frames := 4, cells := 0, slots := 0, locals := 120 })).room s m args below meth c H locs 0 0 Q (F0 m 121 ls []) := by
  have L2 : ∀ (u7 i : Nat) (x1 : Int32) (x2 : Int32) (x3 : Int32) , i + u7 = 3 → 0 ≤ i → x1 = sb y1 (mPaid Y) i → x2 = sb y2 (mPays Y) i → x3 = nI i → ∀ (H : Heap) (locs : List Loc), FF Γ ad (shp Γ ad N o (mMob Y mo i)) H → va_S (AA Γ) s.heap H locs → ∀ (ls : Array Slot), lv_has ls 4 [(3, .int x3), (0, .ref (ad 8 0)), (1, .int x1), (2, .int x2)] → W p l e (headSpec (ws_ yX4_closeMonth cX4_closeMonth 4 (some .int)) ({ frames := 4, cells := 0, slots := 0, locals := 120 })).room s m args below meth c H locs 0 0 Q (F0 m 121 ls []) := by
    intro u7
    induction u7 with
    | zero =>
      intro i x1 x2 x3  hi hs e1 e2 e3 H locs hF hS ls hl
      subst e1
      subst e2
      subst e3
      obtain rfl : 3 = i := by omega
      refine lv_iload_n hx hb dX4_closeMonth_121 rfl (lv_at hl 0 rfl) ?_
      refine lv_iconst (v := 3) hx hb dX4_closeMonth_122 (by decide) ?_
      refine lv_icmp_ge (tgt := 175) hx hb dX4_closeMonth_123 (by decide) (fun c123 => ?_) (fun c123 => ?_)
      · exact kk _ _ _ hF hS (lv_sub hl [1, 2, 3] rfl)
      · exact absurd (nI_le (a := 3) (b := 3) (Nat.le_refl _) (by omega)) c123
    | succ u7 ih =>
      intro i x1 x2 x3  hi hs e1 e2 e3 H locs hF hS ls hl
      subst e1
      subst e2
      subst e3
      refine lv_iload_n hx hb dX4_closeMonth_121 rfl (lv_at hl 0 rfl) ?_
      refine lv_iconst (v := 3) hx hb dX4_closeMonth_122 (by decide) ?_
      refine lv_icmp_ge (tgt := 175) hx hb dX4_closeMonth_123 (by decide) (fun c123 => ?_) (fun c123 => ?_)
      · exact absurd c123 (nI_ge (a := i) (b := 3) (by omega) (by omega))
      · refine lv_aload_n hx hb dX4_closeMonth_126 rfl (lv_at hl 1 rfl) ?_
        refine r_get (ci := 5) (v := .ref (ad 8 13)) (T := TX4) (N := 22) hx hb hts in_X4 hown hK hF 8 0 rfl rfl 18 (by decide) (hts _ q698) (fun _ h9 => h9) rfl dX4_closeMonth_127 ?_
        refine lv_iconst (v := 3) hx hb dX4_closeMonth_130 (by decide) ?_
        refine lv_aload_n hx hb dX4_closeMonth_131 rfl (lv_at hl 1 rfl) ?_
        refine r_get (ci := 5) (v := .int ((mMob Y mo i) 8 0 1)) (T := TX4) (N := 22) hx hb hts in_X4 hown hK hF 8 0 rfl rfl 1 (by decide) (hts _ q681) (fun _ h9 => h9) rfl dX4_closeMonth_132 ?_
        refine lv_re ((congrFun (mMob_o Y mo (x := 8) (y := 0) (by decide) i) 1).trans hnow) ?_
        refine lv_imul hx hb dX4_closeMonth_135 ?_
        refine lv_iload_n hx hb dX4_closeMonth_136 rfl (lv_at hl 0 rfl) ?_
        refine lv_iadd hx hb dX4_closeMonth_137 ?_
        refine lv_dup2_11 hx hb dX4_closeMonth_138 rfl rfl ?_
        refine s_iald hx hb hK hF 8 13 rfl (3 * mo + i) (ix3 mo i) (by omega) (by omega) dX4_closeMonth_139 ?_
        refine lv_aload_n hx hb dX4_closeMonth_140 rfl (lv_at hl 1 rfl) ?_
        refine lv_iload_n hx hb dX4_closeMonth_141 rfl (lv_at hl 0 rfl) ?_
        refine g_ci (va_runV (As := [.int (nI i)]) (rest := [.int ((mMob Y mo i) 8 13 (3 * mo + i)), .int ((3 * (nI mo)) + (nI i)), .ref (ad 8 13)]) ⟨hx, hb, hml, hown, hts⟩ (Met.val (met_X4_isPaid l Γ ad N o (mMob Y mo i) i (by omega)) (mPaid_c (mMob_o Y mo (x := 8) (y := 0) (by decide) i) (mMob_o Y mo (x := 8) (y := 1) (by decide) i) (mMob_o Y mo (x := 8) (y := 10) (by decide) i) (mMob_o Y mo (x := 8) (y := 11) (by decide) i) (mMob_o Y mo (x := 8) (y := 12) (by decide) i) i)) (cwV 1 hts (lw_V q810 q812 qs18 q31 q813) rfl rfl rfl (by decide +kernel) ⟨Nat.le_of_ble_eq_true rfl, Nat.le_of_ble_eq_true rfl⟩) (SF_V hK hS hF (recvF hK hF 8 0 rfl rfl)) rfl rfl hl.1 rfl (lv_room (Nat.le_of_ble_eq_true rfl)) dX4_closeMonth_142 ⟨Nat.le_of_ble_eq_true rfl, Nat.le_of_ble_eq_true rfl⟩) hS (fun H locs hF hS => ?_)
        refine lv_aload_n hx hb dX4_closeMonth_145 rfl (lv_at hl 1 rfl) ?_
        refine lv_iload_n hx hb dX4_closeMonth_146 rfl (lv_at hl 0 rfl) ?_
        refine g_ci (va_runV (As := [.int (nI i)]) (rest := [.int (mPaid Y i), .int ((mMob Y mo i) 8 13 (3 * mo + i)), .int ((3 * (nI mo)) + (nI i)), .ref (ad 8 13)]) ⟨hx, hb, hml, hown, hts⟩ (Met.val (met_X4_pays l Γ ad N o (mMob Y mo i) i (by omega)) (mPays_c (mMob_o Y mo (x := 8) (y := 0) (by decide) i) (mMob_o Y mo (x := 8) (y := 10) (by decide) i) i)) (cwV 1 hts (lw_V q818 q820 qs20 q31 q821) rfl rfl rfl (by decide +kernel) ⟨Nat.le_of_ble_eq_true rfl, Nat.le_of_ble_eq_true rfl⟩) (SF_V hK hS hF (recvF hK hF 8 0 rfl rfl)) rfl rfl hl.1 rfl (lv_room (Nat.le_of_ble_eq_true rfl)) dX4_closeMonth_147 ⟨Nat.le_of_ble_eq_true rfl, Nat.le_of_ble_eq_true rfl⟩) hS (fun H locs hF hS => ?_)
        refine lv_isub hx hb dX4_closeMonth_150 ?_
        refine lv_iadd hx hb dX4_closeMonth_151 ?_
        refine s_iast hx hb hK hF hS 8 13 (fun _ => rfl) (3 * mo + i) (ix3 mo i) (by omega) (by omega) dX4_closeMonth_152 (fun H locs hF hS => ?_)
        refine lv_iload_n hx hb dX4_closeMonth_153 rfl (lv_at hl 2 rfl) ?_
        refine lv_aload_n hx hb dX4_closeMonth_154 rfl (lv_at hl 1 rfl) ?_
        refine lv_iload_n hx hb dX4_closeMonth_155 rfl (lv_at hl 0 rfl) ?_
        refine g_ci (va_runV (As := [.int (nI i)]) (rest := [.int (sb y1 (mPaid Y) i)]) ⟨hx, hb, hml, hown, hts⟩ (Met.val (met_X4_isPaid l Γ ad N o (uz (mMob Y mo i) 8 13 (3 * mo + i) (((mMob Y mo i) 8 13 (3 * mo + i)) + ((mPaid Y i) - (mPays Y i)))) i (by omega)) (mPaid_c (mMob_o Y mo (x := 8) (y := 0) (by decide) i) (mMob_o Y mo (x := 8) (y := 1) (by decide) i) (mMob_o Y mo (x := 8) (y := 10) (by decide) i) (mMob_o Y mo (x := 8) (y := 11) (by decide) i) (mMob_o Y mo (x := 8) (y := 12) (by decide) i) i)) (cwV 1 hts (lw_V q810 q812 qs18 q31 q813) rfl rfl rfl (by decide +kernel) ⟨Nat.le_of_ble_eq_true rfl, Nat.le_of_ble_eq_true rfl⟩) (SF_V hK hS hF (recvF hK hF 8 0 rfl rfl)) rfl rfl hl.1 rfl (lv_room (Nat.le_of_ble_eq_true rfl)) dX4_closeMonth_156 ⟨Nat.le_of_ble_eq_true rfl, Nat.le_of_ble_eq_true rfl⟩) hS (fun H locs hF hS => ?_)
        refine lv_isub hx hb dX4_closeMonth_159 ?_
        refine lv_istore_n (lv' := [(1, .int ((sb y1 (mPaid Y) i) - (mPaid Y i))), (3, .int (nI i)), (0, .ref (ad 8 0)), (2, .int (sb y2 (mPays Y) i))]) hx hb dX4_closeMonth_160 rfl hl (by decide) rfl (fun ls hl => ?_)
        refine lv_iload_n hx hb dX4_closeMonth_161 rfl (lv_at hl 3 rfl) ?_
        refine lv_aload_n hx hb dX4_closeMonth_162 rfl (lv_at hl 2 rfl) ?_
        refine lv_iload_n hx hb dX4_closeMonth_163 rfl (lv_at hl 1 rfl) ?_
        refine g_ci (va_runV (As := [.int (nI i)]) (rest := [.int (sb y2 (mPays Y) i)]) ⟨hx, hb, hml, hown, hts⟩ (Met.val (met_X4_pays l Γ ad N o (uz (mMob Y mo i) 8 13 (3 * mo + i) (((mMob Y mo i) 8 13 (3 * mo + i)) + ((mPaid Y i) - (mPays Y i)))) i (by omega)) (mPays_c (mMob_o Y mo (x := 8) (y := 0) (by decide) i) (mMob_o Y mo (x := 8) (y := 10) (by decide) i) i)) (cwV 1 hts (lw_V q818 q820 qs20 q31 q821) rfl rfl rfl (by decide +kernel) ⟨Nat.le_of_ble_eq_true rfl, Nat.le_of_ble_eq_true rfl⟩) (SF_V hK hS hF (recvF hK hF 8 0 rfl rfl)) rfl rfl hl.1 rfl (lv_room (Nat.le_of_ble_eq_true rfl)) dX4_closeMonth_164 ⟨Nat.le_of_ble_eq_true rfl, Nat.le_of_ble_eq_true rfl⟩) hS (fun H locs hF hS => ?_)
        refine lv_isub hx hb dX4_closeMonth_167 ?_
        refine lv_istore_n (lv' := [(2, .int ((sb y2 (mPays Y) i) - (mPays Y i))), (1, .int ((sb y1 (mPaid Y) i) - (mPaid Y i))), (3, .int (nI i)), (0, .ref (ad 8 0))]) hx hb dX4_closeMonth_168 rfl hl (by decide) rfl (fun ls hl => ?_)
        refine lv_iinc (v := nI (i + 1)) (lv' := [(3, .int (nI (i + 1))), (2, .int ((sb y2 (mPays Y) i) - (mPays Y i))), (1, .int ((sb y1 (mPaid Y) i) - (mPaid Y i))), (0, .ref (ad 8 0))]) hx hb dX4_closeMonth_169 hl (k := 2) rfl (nI_1 _) (by decide) rfl (fun ls hl => ?_)
        refine lv_goto (tgt := 121) hx hb dX4_closeMonth_172 (by decide) ?_
        exact ih (i + 1) _ _ _ (by omega) (by omega) rfl rfl rfl _ _ hF hS ls (lv_sub hl [0, 3, 2, 1] rfl)
  exact L2 (3 - 0) 0 _ _ _ (by omega) (Nat.le_refl _) rfl rfl rfl _ _ hF hS ls hl
set_option maxHeartbeats 4000000 in
set_option maxRecDepth 100000 in
/-- closeMonth: rows 197 to 249 -/
theorem cm_3 (l : Launch) (Γ : Gm) (ad : Nat → Nat → Nat) (N : Nat → Nat) (o : Nat → Int64) (Y : Nat → Nat → Nat → Int32) (n mo : Nat) (hn : n ≤ 24) (hmo : mo < 47) (hlo : Y 8 0 5 = nI n) (hnow : Y 8 0 1 = nI mo) {p : Program} {e : Env} {s : State} {m : MethodId} {args : Array Value} {below : List Frame} {meth : Method} {c : Code} {Q : State → Prop} {H : Heap} {locs : List Loc} {ls : Array Slot} (hml : c.maxLocals = 4) (hx : p.tables.exec = Jvm.exec) (hb : c.code = cX4_closeMonth) (hown : s.vm.findClass RX4 = some m.cls) (hts : ∀ w ∈ lw_all, w.before args s = true) (hK : Kn Γ s s.heap) (hbo : ∀ j, j < n → Y 8 7 j = nI (nz (Y 8 7 j)) ∧ nz (Y 8 7 j) ≤ mo) (hF : FF Γ ad (shp Γ ad N o Y) H) (hS : va_S (AA Γ) s.heap H locs) (hl : lv_has ls 4 [(3, .int 0), (0, .ref (ad 8 0))])
    (kk : ∀ (H : Heap) (locs : List Loc) (ls : Array Slot), FF Γ ad (shp Γ ad N o (mOut Y mo n)) H → va_S (AA Γ) s.heap H locs → lv_has ls 4 [(0, .ref (ad 8 0))] → W p l e (headSpec (ws_ yX4_closeMonth cX4_closeMonth 4 (some .int)) ({ frames := 4, cells := 0, slots := 0, locals := 120 })).room s m args below meth c H locs 0 0 Q (F0 m 249 ls [])) :
    W p l e (headSpec (ws_ yX4_closeMonth cX4_closeMonth 4 (some .int)) ({ frames := 4, cells := 0, slots := 0, locals := 120 })).room s m args below meth c H locs 0 0 Q (F0 m 197 ls []) := by
  have L3 : ∀ (u7 i : Nat) (x3 : Int32) , i + u7 = n → 0 ≤ i → x3 = nI i → ∀ (H : Heap) (locs : List Loc), FF Γ ad (shp Γ ad N o (mOut Y mo i)) H → va_S (AA Γ) s.heap H locs → ∀ (ls : Array Slot), lv_has ls 4 [(3, .int x3), (0, .ref (ad 8 0))] → W p l e (headSpec (ws_ yX4_closeMonth cX4_closeMonth 4 (some .int)) ({ frames := 4, cells := 0, slots := 0, locals := 120 })).room s m args below meth c H locs 0 0 Q (F0 m 197 ls []) := by
    intro u7
    induction u7 with
    | zero =>
      intro i x3  hi hs e3 H locs hF hS ls hl
      subst e3
      obtain rfl : n = i := by omega
      refine lv_iload_n hx hb dX4_closeMonth_197 rfl (lv_at hl 0 rfl) ?_
      refine lv_aload_n hx hb dX4_closeMonth_198 rfl (lv_at hl 1 rfl) ?_
      refine r_get (ci := 5) (v := .int ((mOut Y mo n) 8 0 5)) (T := TX4) (N := 22) hx hb hts in_X4 hown hK hF 8 0 rfl rfl 6 (by decide) (hts _ q686) (fun _ h9 => h9) rfl dX4_closeMonth_199 ?_
      refine lv_re ((congrFun (mOut_o Y mo (x := 8) (y := 0) (by decide) n) 5).trans hlo) ?_
      refine lv_icmp_ge (tgt := 249) hx hb dX4_closeMonth_202 (by decide) (fun c202 => ?_) (fun c202 => ?_)
      · exact kk _ _ _ hF hS (lv_sub hl [1] rfl)
      · exact absurd (nI_le (a := n) (b := n) (Nat.le_refl _) (by omega)) c202
    | succ u7 ih =>
      intro i x3  hi hs e3 H locs hF hS ls hl
      subst e3
      refine lv_iload_n hx hb dX4_closeMonth_197 rfl (lv_at hl 0 rfl) ?_
      refine lv_aload_n hx hb dX4_closeMonth_198 rfl (lv_at hl 1 rfl) ?_
      refine r_get (ci := 5) (v := .int ((mOut Y mo i) 8 0 5)) (T := TX4) (N := 22) hx hb hts in_X4 hown hK hF 8 0 rfl rfl 6 (by decide) (hts _ q686) (fun _ h9 => h9) rfl dX4_closeMonth_199 ?_
      refine lv_re ((congrFun (mOut_o Y mo (x := 8) (y := 0) (by decide) i) 5).trans hlo) ?_
      refine lv_icmp_ge (tgt := 249) hx hb dX4_closeMonth_202 (by decide) (fun c202 => ?_) (fun c202 => ?_)
      · exact absurd c202 (nI_ge (a := i) (b := n) (by omega) (by omega))
      · have hbi := hbo i (by omega)
        refine lv_aload_n hx hb dX4_closeMonth_205 rfl (lv_at hl 1 rfl) ?_
        refine r_get (ci := 5) (v := .int ((mOut Y mo i) 8 0 1)) (T := TX4) (N := 22) hx hb hts in_X4 hown hK hF 8 0 rfl rfl 1 (by decide) (hts _ q681) (fun _ h9 => h9) rfl dX4_closeMonth_206 ?_
        refine lv_re ((congrFun (mOut_o Y mo (x := 8) (y := 0) (by decide) i) 1).trans hnow) ?_
        refine lv_aload_n hx hb dX4_closeMonth_209 rfl (lv_at hl 1 rfl) ?_
        refine r_get (ci := 5) (v := .ref (ad 8 7)) (T := TX4) (N := 22) hx hb hts in_X4 hown hK hF 8 0 rfl rfl 12 (by decide) (hts _ q692) (fun _ h9 => h9) rfl dX4_closeMonth_210 ?_
        refine lv_iload_n hx hb dX4_closeMonth_213 rfl (lv_at hl 0 rfl) ?_
        refine s_iald hx hb hK hF 8 7 rfl i rfl (by omega) (by omega) dX4_closeMonth_214 ?_
        refine lv_re ((congrFun (mOut_o Y mo (x := 8) (y := 7) (by decide) i) i).trans hbi.1) ?_
        refine lv_isub hx hb dX4_closeMonth_215 ?_
        refine lv_re (pk_sub hbi.2) ?_
        refine lv_bipush (v := 6) hx hb dX4_closeMonth_216 (by decide) ?_
        have K : ∀ (H : Heap) (locs : List Loc), FF Γ ad (shp Γ ad N o (mOut Y mo (i + 1))) H → va_S (AA Γ) s.heap H locs → W p l e (headSpec (ws_ yX4_closeMonth cX4_closeMonth 4 (some .int)) ({ frames := 4, cells := 0, slots := 0, locals := 120 })).room s m args below meth c H locs 0 0 Q (F0 m 243 ls []) := by
          intro H locs hF hS
          refine lv_iinc (v := nI (i + 1)) (lv' := [(3, .int (nI (i + 1))), (0, .ref (ad 8 0))]) hx hb dX4_closeMonth_243 hl (k := 0) rfl (nI_1 _) (by decide) rfl (fun ls hl => ?_)
          refine lv_goto (tgt := 197) hx hb dX4_closeMonth_246 (by decide) ?_
          exact ih (i + 1) _ (by omega) (by omega) rfl _ _ hF hS ls (lv_sub hl [0, 1] rfl)
        refine lv_icmp_ge (tgt := 243) hx hb dX4_closeMonth_218 (by decide) (fun c218 => ?_) (fun c218 => ?_)
        · rw [show mOut Y mo (i + 1) = _ from if_neg (fun q => absurd c218 (nI_ge (b := 6) q (by decide)))] at K
          exact K _ _ hF hS
        · have h6 : mo - nz (Y 8 7 i) < 6 := Nat.lt_of_not_le (fun q => c218 (nI_le (a := 6) q (by omega)))
          refine lv_aload_n hx hb dX4_closeMonth_221 rfl (lv_at hl 1 rfl) ?_
          refine r_get (ci := 5) (v := .ref (ad 8 8)) (T := TX4) (N := 22) hx hb hts in_X4 hown hK hF 8 0 rfl rfl 13 (by decide) (hts _ q693) (fun _ h9 => h9) rfl dX4_closeMonth_222 ?_
          refine lv_bipush (v := 6) hx hb dX4_closeMonth_225 (by decide) ?_
          refine lv_iload_n hx hb dX4_closeMonth_227 rfl (lv_at hl 0 rfl) ?_
          refine lv_imul hx hb dX4_closeMonth_228 ?_
          refine lv_aload_n hx hb dX4_closeMonth_229 rfl (lv_at hl 1 rfl) ?_
          refine r_get (ci := 5) (v := .int ((mOut Y mo i) 8 0 1)) (T := TX4) (N := 22) hx hb hts in_X4 hown hK hF 8 0 rfl rfl 1 (by decide) (hts _ q681) (fun _ h9 => h9) rfl dX4_closeMonth_230 ?_
          refine lv_re ((congrFun (mOut_o Y mo (x := 8) (y := 0) (by decide) i) 1).trans hnow) ?_
          refine lv_iadd hx hb dX4_closeMonth_233 ?_
          refine lv_aload_n hx hb dX4_closeMonth_234 rfl (lv_at hl 1 rfl) ?_
          refine r_get (ci := 5) (v := .ref (ad 8 7)) (T := TX4) (N := 22) hx hb hts in_X4 hown hK hF 8 0 rfl rfl 12 (by decide) (hts _ q692) (fun _ h9 => h9) rfl dX4_closeMonth_235 ?_
          refine lv_iload_n hx hb dX4_closeMonth_238 rfl (lv_at hl 0 rfl) ?_
          refine s_iald hx hb hK hF 8 7 rfl i rfl (by omega) (by omega) dX4_closeMonth_239 ?_
          refine lv_re ((congrFun (mOut_o Y mo (x := 8) (y := 7) (by decide) i) i).trans hbi.1) ?_
          refine lv_isub hx hb dX4_closeMonth_240 ?_
          refine lv_iconst (v := 0) hx hb dX4_closeMonth_241 (by decide) ?_
          refine s_iast hx hb hK hF hS 8 8 (fun _ => rfl) (6 * i + mo - nz (Y 8 7 i)) (ix6s hbi.2) (by omega) (by omega) dX4_closeMonth_242 (fun H locs hF hS => ?_)
          rw [show mOut Y mo (i + 1) = _ from if_pos h6] at K
          exact K _ _ hF hS
  exact L3 (n - 0) 0 _ (by omega) (Nat.le_refl _) rfl _ _ hF hS ls hl
set_option maxHeartbeats 4000000 in
set_option maxRecDepth 100000 in
/-- closeMonth, path B -/
theorem mm_closeMonth_B (l : Launch) (Γ : Gm) (ad : Nat → Nat → Nat) (N : Nat → Nat) (o : Nat → Int64) (Z : Nat → Nat → Nat → Int32) (n mo : Nat) (hn : n ≤ 24) (hmo : mo < 47) (hlo : Z 8 0 5 = nI n) (hnow : Z 8 0 1 = nI mo) (hbr : ∀ j, j < n → Z 8 2 j = nI (nz (Z 8 2 j)) ∧ nz (Z 8 2 j) < 3) (hpr : ∀ j, j < n → Z 8 3 j = nI (nz (Z 8 3 j)) ∧ nz (Z 8 3 j) < 3) (hbo : ∀ j, j < n → Z 8 7 j = nI (nz (Z 8 7 j)) ∧ nz (Z 8 7 j) ≤ mo) (Y1 Y2 Y3 Y4 : Nat → Nat → Nat → Int32) (t1 t2 : Int32) (hY1 : Y1 = mMon (uz Z 8 0 0 0) mo n) (hY2 : Y2 = mMob Y1 mo 3) (ht1 : t1 = sb (sm (fun k => mBear (uz Z 8 0 0 0) k 1 + mBear (uz Z 8 0 0 0) k 2) 0 n) (mPaid Y1) 3) (ht2 : t2 = sb (sm (fun k => mBear (uz Z 8 0 0 0) k 0) 0 n) (mPays Y1) 3) (hY3 : Y3 = uz (uz Y2 8 15 mo t1) 8 16 mo t2) (hY4 : Y4 = mOut Y3 mo n) : Met l yX4_closeMonth (ws_ yX4_closeMonth cX4_closeMonth 4 (some .int)) ({ frames := 4, cells := 0, slots := 0, locals := 120 }) (va_Pc [.ref (ad 8 0)] (SF Γ ad (shp Γ ad N o Z))) (gEi Γ (nI (mo + 1)) ad (shp Γ ad N o (mLay (uz Y4 8 0 1 (nI (mo + 1))) ((mo + 1) % 6)))) 0 0 (AA Γ) := by
  refine Met.ofW (cc := cX4_closeMonth) (maxL := 4) (ret := (some .int)) (by decide) rfl ?_
  intro p e s m args below meth c s₁ B hml hv
  obtain ⟨rfl, hK, hF⟩ := hv
  have hx := B.exec
  have hb := B.bytes
  have hr := B.returns
  have hts := atoms_spec (ws := ws_ yX4_closeMonth cX4_closeMonth 4 (some .int)) B.pre
  have hts : ∀ w ∈ lw_all, w.before _ s = true := fun w h => hts w (List.mem_cons_of_mem _ h)
  have hown : s.vm.findClass RX4 = some m.cls := findClass_of_methodNamed B.named
  have hlocks := B.notSynchronized
  have hS : va_S (AA Γ) s.heap s.heap [] := va_S.rf
  have hl := lv_entry ([.ref (ad 8 0)]) (n := 4) (Nat.le_of_ble_eq_true rfl)
  rw [lg_entry_eq]
  generalize (lg_sl ([.ref (ad 8 0)]) ++ List.replicate (4 - (lg_sl ([.ref (ad 8 0)])).length) Slot.unset).toArray = ls at hl ⊢
  have hl : lv_has ls 4 [(0, .ref (ad 8 0))] := hl
  refine lv_aload_n hx hb dX4_closeMonth_0 rfl (lv_at hl 0 rfl) ?_
  refine lv_iconst (v := 0) hx hb dX4_closeMonth_1 (by decide) ?_
  refine s_put (ci := 5) (T := TX4) (NC := 22) hx hb hts in_X4 tyX4 tyX4_ok nmX4 hown hK hF hS 8 0 0 rfl rfl 0 (by decide) rfl (hts _ q680) (fun _ h9 => h9) rfl (by decide +kernel) (Nat.le_of_ble_eq_true rfl) dX4_closeMonth_2 (fun H locs hF hS => ?_)
  refine lv_aload_n hx hb dX4_closeMonth_5 rfl (lv_at hl 0 rfl) ?_
  refine r_get (ci := 5) (v := .int (Z 8 0 1)) (T := TX4) (N := 22) hx hb hts in_X4 hown hK hF 8 0 rfl rfl 1 (by decide) (hts _ q681) (fun _ h9 => h9) rfl dX4_closeMonth_6 ?_
  refine lv_re hnow ?_
  refine lv_bipush (v := 47) hx hb dX4_closeMonth_9 (by decide) ?_
  refine lv_icmp_ne (tgt := 20) hx hb dX4_closeMonth_11 (by decide) (fun c11 => ?_) (fun c11 => absurd c11 (fun q => absurd ((nI_eq (b := 47) (by omega) (by decide)).mp q) (by omega)))
  refine lv_iconst (v := 0) hx hb dX4_closeMonth_20 (by decide) ?_
  refine lv_istore_n (lv' := [(1, .int 0), (0, .ref (ad 8 0))]) hx hb dX4_closeMonth_21 rfl hl (by decide) rfl (fun ls hl => ?_)
  refine lv_iconst (v := 0) hx hb dX4_closeMonth_22 (by decide) ?_
  refine lv_istore_n (lv' := [(2, .int 0), (1, .int 0), (0, .ref (ad 8 0))]) hx hb dX4_closeMonth_23 rfl hl (by decide) rfl (fun ls hl => ?_)
  refine lv_iconst (v := 0) hx hb dX4_closeMonth_24 (by decide) ?_
  refine lv_istore_n (lv' := [(3, .int 0), (2, .int 0), (1, .int 0), (0, .ref (ad 8 0))]) hx hb dX4_closeMonth_25 rfl hl (by decide) rfl (fun ls hl => ?_)
  have o1 : ∀ y, ¬ (8 = 8 ∧ (y = 13 ∨ y = 14)) → Y1 8 y = (uz Z 8 0 0 0) 8 y := fun y h => by rw [hY1]; exact mMon_o _ mo h n
  have o2 : ∀ y, ¬ (8 = 8 ∧ (y = 13 ∨ y = 14)) → Y2 8 y = (uz Z 8 0 0 0) 8 y := fun y h => by rw [hY2]; exact (mMob_o _ mo (fun q => h ⟨q.1, Or.inl q.2⟩) 3).trans (o1 y h)
  have o3 : ∀ y, y = 0 ∨ y = 7 → Y3 8 y = (uz Z 8 0 0 0) 8 y := fun y h => by
    rw [hY3]
    rcases h with rfl | rfl
    · exact o2 0 (by decide)
    · exact o2 7 (by decide)
  have o4 : Y4 8 0 = (uz Z 8 0 0 0) 8 0 := by rw [hY4]; exact (mOut_o _ mo (x := 8) (y := 0) (by decide) n).trans (o3 0 (Or.inl rfl))
  refine cm_1 l Γ ad N o (uz Z 8 0 0 0) n mo hn hmo hlo hnow hml hx hb hown hts hK hbr hpr hF hS (lv_sub hl [0, 1, 2, 3] rfl) (fun H locs ls hF hS hl => ?_)
  rw [← hY1] at hF
  refine lv_iconst (v := 0) hx hb dX4_closeMonth_119 (by decide) ?_
  refine lv_istore_n (lv' := [(3, .int 0), (0, .ref (ad 8 0)), (1, .int (sm (fun k => mBear (uz Z 8 0 0 0) k 1 + mBear (uz Z 8 0 0 0) k 2) 0 n)), (2, .int (sm (fun k => mBear (uz Z 8 0 0 0) k 0) 0 n))]) hx hb dX4_closeMonth_120 rfl hl (by decide) rfl (fun ls hl => ?_)
  refine cm_2 l Γ ad N o Y1 (sm (fun k => mBear (uz Z 8 0 0 0) k 1 + mBear (uz Z 8 0 0 0) k 2) 0 n) (sm (fun k => mBear (uz Z 8 0 0 0) k 0) 0 n) n mo hn hmo ((congrFun (o1 0 (by decide)) 5).trans hlo) ((congrFun (o1 0 (by decide)) 1).trans hnow) hml hx hb hown hts hK hF hS (lv_sub hl [0, 1, 2, 3] rfl) (fun H locs ls hF hS hl => ?_)
  rw [← hY2] at hF
  rw [← ht1, ← ht2] at hl
  refine lv_aload_n hx hb dX4_closeMonth_175 rfl (lv_at hl 0 rfl) ?_
  refine r_get (ci := 5) (v := .ref (ad 8 15)) (T := TX4) (N := 22) hx hb hts in_X4 hown hK hF 8 0 rfl rfl 20 (by decide) (hts _ q700) (fun _ h9 => h9) rfl dX4_closeMonth_176 ?_
  refine lv_aload_n hx hb dX4_closeMonth_179 rfl (lv_at hl 0 rfl) ?_
  refine r_get (ci := 5) (v := .int (Y2 8 0 1)) (T := TX4) (N := 22) hx hb hts in_X4 hown hK hF 8 0 rfl rfl 1 (by decide) (hts _ q681) (fun _ h9 => h9) rfl dX4_closeMonth_180 ?_
  refine lv_re ((congrFun (o2 0 (by decide)) 1).trans hnow) ?_
  refine lv_iload_n hx hb dX4_closeMonth_183 rfl (lv_at hl 1 rfl) ?_
  refine s_iast hx hb hK hF hS 8 15 (fun _ => rfl) mo rfl (by omega) (by omega) dX4_closeMonth_184 (fun H locs hF hS => ?_)
  refine lv_aload_n hx hb dX4_closeMonth_185 rfl (lv_at hl 0 rfl) ?_
  refine r_get (ci := 5) (v := .ref (ad 8 16)) (T := TX4) (N := 22) hx hb hts in_X4 hown hK hF 8 0 rfl rfl 21 (by decide) (hts _ q701) (fun _ h9 => h9) rfl dX4_closeMonth_186 ?_
  refine lv_aload_n hx hb dX4_closeMonth_189 rfl (lv_at hl 0 rfl) ?_
  refine r_get (ci := 5) (v := .int (Y2 8 0 1)) (T := TX4) (N := 22) hx hb hts in_X4 hown hK hF 8 0 rfl rfl 1 (by decide) (hts _ q681) (fun _ h9 => h9) rfl dX4_closeMonth_190 ?_
  refine lv_re ((congrFun (o2 0 (by decide)) 1).trans hnow) ?_
  refine lv_iload_n hx hb dX4_closeMonth_193 rfl (lv_at hl 2 rfl) ?_
  refine s_iast hx hb hK hF hS 8 16 (fun _ => rfl) mo rfl (by omega) (by omega) dX4_closeMonth_194 (fun H locs hF hS => ?_)
  refine lv_iconst (v := 0) hx hb dX4_closeMonth_195 (by decide) ?_
  refine lv_istore_n (lv' := [(3, .int 0), (0, .ref (ad 8 0)), (1, .int t1), (2, .int t2)]) hx hb dX4_closeMonth_196 rfl hl (by decide) rfl (fun ls hl => ?_)
  rw [← hY3] at hF
  have hbo3 : ∀ j, j < n → Y3 8 7 j = nI (nz (Y3 8 7 j)) ∧ nz (Y3 8 7 j) ≤ mo := fun j hj => by
    have e7 : Y3 8 7 j = Z 8 7 j := congrFun (o3 7 (Or.inr rfl)) j
    rw [e7]
    exact hbo j hj
  refine cm_3 l Γ ad N o Y3 n mo hn hmo ((congrFun (o3 0 (Or.inl rfl)) 5).trans hlo) ((congrFun (o3 0 (Or.inl rfl)) 1).trans hnow) hml hx hb hown hts hK hbo3 hF hS (lv_sub hl [0, 1] rfl) (fun H locs ls hF hS hl => ?_)
  rw [← hY4] at hF
  refine lv_aload_n hx hb dX4_closeMonth_249 rfl (lv_at hl 0 rfl) ?_
  refine lv_dup hx hb dX4_closeMonth_250 rfl ?_
  refine r_get (ci := 5) (v := .int (Y4 8 0 1)) (T := TX4) (N := 22) hx hb hts in_X4 hown hK hF 8 0 rfl rfl 1 (by decide) (hts _ q681) (fun _ h9 => h9) rfl dX4_closeMonth_251 ?_
  refine lv_re ((congrFun o4 1).trans hnow) ?_
  refine lv_iconst (v := 1) hx hb dX4_closeMonth_254 (by decide) ?_
  refine lv_iadd hx hb dX4_closeMonth_255 ?_
  refine lv_re (nI_1 mo) ?_
  refine s_put (ci := 5) (T := TX4) (NC := 22) hx hb hts in_X4 tyX4 tyX4_ok nmX4 hown hK hF hS 8 0 1 rfl rfl 1 (by decide) rfl (hts _ q681) (fun _ h9 => h9) rfl (by decide +kernel) (Nat.le_of_ble_eq_true rfl) dX4_closeMonth_256 (fun H locs hF hS => ?_)
  refine lv_aload_n hx hb dX4_closeMonth_259 rfl (lv_at hl 0 rfl) ?_
  refine lv_aload_n hx hb dX4_closeMonth_260 rfl (lv_at hl 0 rfl) ?_
  refine r_get (ci := 5) (v := .int (nI (mo + 1))) (T := TX4) (N := 22) hx hb hts in_X4 hown hK hF 8 0 rfl rfl 1 (by decide) (hts _ q681) (fun _ h9 => h9) rfl dX4_closeMonth_261 ?_
  refine lv_bipush (v := 6) hx hb dX4_closeMonth_264 (by decide) ?_
  refine lv_irem hx hb dX4_closeMonth_266 (by decide) ?_
  refine lv_re (rem6 (by omega)) ?_
  refine g_cvw (va_runV (As := [.int (nI ((mo + 1) % 6))]) (rest := []) ⟨hx, hb, hml, hown, hts⟩ (met_X4_lays l Γ ad N o (uz Y4 8 0 1 (nI (mo + 1))) ((mo + 1) % 6) (by omega)) (cwV 1 hts (lw_V q792 q794 qs15 q31 q795) rfl rfl rfl (by decide +kernel) ⟨Nat.le_of_ble_eq_true rfl, Nat.le_of_ble_eq_true rfl⟩) (SF_V hK hS hF (recvF hK hF 8 0 rfl rfl)) rfl rfl hl.1 rfl (lv_room (Nat.le_of_ble_eq_true rfl)) dX4_closeMonth_267 ⟨Nat.le_of_ble_eq_true rfl, Nat.le_of_ble_eq_true rfl⟩) hS (fun H locs hF hS => ?_)
  refine lv_aload_n hx hb dX4_closeMonth_270 rfl (lv_at hl 0 rfl) ?_
  refine r_get (ci := 5) (v := .int ((mLay (uz Y4 8 0 1 (nI (mo + 1))) ((mo + 1) % 6)) 8 0 1)) (T := TX4) (N := 22) hx hb hts in_X4 hown hK hF 8 0 rfl rfl 1 (by decide) (hts _ q681) (fun _ h9 => h9) rfl dX4_closeMonth_271 ?_
  exact g_iret hx hb hr hlocks hF hS dX4_closeMonth_274
