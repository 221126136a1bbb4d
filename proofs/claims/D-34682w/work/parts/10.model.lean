set_option maxHeartbeats 4000000 in
set_option maxRecDepth 100000 in
/-- in -/
theorem met_X4_in (l : Launch) (Γ : Gm) (ad : Nat → Nat → Nat) (P : Pic) (v a b : Int32) : Met l yX4_in (ws_ yX4_in cX4_in 3 (some .boolean)) ({ frames := 0, cells := 0, slots := 0, locals := 0 }) (va_Pc [.int v, .int a, .int b] (SF Γ ad (P))) (gEi Γ (bI (a ≤ v ∧ v ≤ b)) ad P) 0 0 (AA Γ) := by
  refine Met.ofW (cc := cX4_in) (maxL := 3) (ret := (some .boolean)) (by decide) rfl ?_
  intro p e s m args below meth c s₁ B hml hv
  obtain ⟨rfl, hK, hF⟩ := hv
  have hx := B.exec
  have hb := B.bytes
  have hr := B.returns
  have hts := atoms_spec (ws := ws_ yX4_in cX4_in 3 (some .boolean)) B.pre
  have hts : ∀ w ∈ lw_all, w.before _ s = true := fun w h => hts w (List.mem_cons_of_mem _ h)
  have hown : s.vm.findClass RX4 = some m.cls := findClass_of_methodNamed B.named
  have hlocks := B.notSynchronized
  have hS : va_S (AA Γ) s.heap s.heap [] := va_S.rf
  have hl := lv_entry ([.int v, .int a, .int b]) (n := 3) (Nat.le_of_ble_eq_true rfl)
  rw [lg_entry_eq]
  generalize (lg_sl ([.int v, .int a, .int b]) ++ List.replicate (3 - (lg_sl ([.int v, .int a, .int b])).length) Slot.unset).toArray = ls at hl ⊢
  have hl : lv_has ls 3 [(0, .int v), (1, .int a), (2, .int b)] := hl
  refine lv_iload_n hx hb dX4_in_0 rfl (lv_at hl 0 rfl) ?_
  refine lv_iload_n hx hb dX4_in_1 rfl (lv_at hl 1 rfl) ?_
  refine lv_icmp_lt (tgt := 14) hx hb dX4_in_2 (by decide) (fun c2 => ?_) (fun c2 => ?_)
  · refine lv_iconst (v := 0) hx hb dX4_in_14 (by decide) ?_
    rw [show bI (a ≤ v ∧ v ≤ b) = 0 from if_neg (fun h => absurd h.1 (Int32.not_le.mpr c2))]
    exact g_zret hx hb hr hlocks rfl hF hS dX4_in_15
  · refine lv_iload_n hx hb dX4_in_5 rfl (lv_at hl 0 rfl) ?_
    refine lv_iload_n hx hb dX4_in_6 rfl (lv_at hl 2 rfl) ?_
    refine lv_icmp_gt (tgt := 14) hx hb dX4_in_7 (by decide) (fun c7 => ?_) (fun c7 => ?_)
    · refine lv_iconst (v := 0) hx hb dX4_in_14 (by decide) ?_
      rw [show bI (a ≤ v ∧ v ≤ b) = 0 from if_neg (fun h => absurd h.2 (Int32.not_le.mpr c7))]
      exact g_zret hx hb hr hlocks rfl hF hS dX4_in_15
    · refine lv_iconst (v := 1) hx hb dX4_in_10 (by decide) ?_
      refine lv_goto (tgt := 15) hx hb dX4_in_11 (by decide) ?_
      rw [show bI (a ≤ v ∧ v ≤ b) = 1 from if_pos ⟨Int32.not_lt.mp c2, Int32.not_lt.mp c7⟩]
      exact g_zret hx hb hr hlocks rfl hF hS dX4_in_15
set_option maxHeartbeats 4000000 in
set_option maxRecDepth 100000 in
/-- fails -/
theorem met_X4_fails (l : Launch) (Γ : Gm) (ad : Nat → Nat → Nat) (N : Nat → Nat) (o : Nat → Int64) (Z : Nat → Nat → Nat → Int32) (k : Int32) : Met l yX4_fails (ws_ yX4_fails cX4_fails 2 (some .int)) ({ frames := 0, cells := 0, slots := 0, locals := 0 }) (va_Pc [.ref (ad 8 0), .int k] (SF Γ ad (shp Γ ad N o Z))) (gEi Γ 0 ad (shp Γ ad N o (uz Z 8 0 0 k))) 0 0 (AA Γ) := by
  refine Met.ofW (cc := cX4_fails) (maxL := 2) (ret := (some .int)) (by decide) rfl ?_
  intro p e s m args below meth c s₁ B hml hv
  obtain ⟨rfl, hK, hF⟩ := hv
  have hx := B.exec
  have hb := B.bytes
  have hr := B.returns
  have hts := atoms_spec (ws := ws_ yX4_fails cX4_fails 2 (some .int)) B.pre
  have hts : ∀ w ∈ lw_all, w.before _ s = true := fun w h => hts w (List.mem_cons_of_mem _ h)
  have hown : s.vm.findClass RX4 = some m.cls := findClass_of_methodNamed B.named
  have hlocks := B.notSynchronized
  have hS : va_S (AA Γ) s.heap s.heap [] := va_S.rf
  have hl := lv_entry ([.ref (ad 8 0), .int k]) (n := 2) (Nat.le_of_ble_eq_true rfl)
  rw [lg_entry_eq]
  generalize (lg_sl ([.ref (ad 8 0), .int k]) ++ List.replicate (2 - (lg_sl ([.ref (ad 8 0), .int k])).length) Slot.unset).toArray = ls at hl ⊢
  have hl : lv_has ls 2 [(0, .ref (ad 8 0)), (1, .int k)] := hl
  refine lv_aload_n hx hb dX4_fails_0 rfl (lv_at hl 0 rfl) ?_
  refine lv_iload_n hx hb dX4_fails_1 rfl (lv_at hl 1 rfl) ?_
  refine s_put (ci := 5) (T := TX4) (NC := 22) hx hb hts in_X4 tyX4 tyX4_ok nmX4 hown hK hF hS 8 0 0 rfl rfl 0 (by decide) rfl (hts _ q680) (fun _ h9 => h9) rfl (by decide +kernel) (Nat.le_of_ble_eq_true rfl) dX4_fails_2 (fun H locs hF hS => ?_)
  refine lv_iconst (v := 0) hx hb dX4_fails_5 (by decide) ?_
  exact g_iret hx hb hr hlocks hF hS dX4_fails_6
set_option maxHeartbeats 4000000 in
set_option maxRecDepth 100000 in
/-- thrown -/
theorem met_X4_thrown (l : Launch) (Γ : Gm) (ad : Nat → Nat → Nat) (N : Nat → Nat) (o : Nat → Int64) (Z : Nat → Nat → Nat → Int32) : Met l yX4_thrown (ws_ yX4_thrown cX4_thrown 1 (some .int)) ({ frames := 0, cells := 0, slots := 0, locals := 0 }) (va_Pc [.ref (ad 8 0)] (SF Γ ad (shp Γ ad N o Z))) (gEi Γ (Z 8 0 0) ad (shp Γ ad N o Z)) 0 0 (AA Γ) := by
  refine Met.ofW (cc := cX4_thrown) (maxL := 1) (ret := (some .int)) (by decide) rfl ?_
  intro p e s m args below meth c s₁ B hml hv
  obtain ⟨rfl, hK, hF⟩ := hv
  have hx := B.exec
  have hb := B.bytes
  have hr := B.returns
  have hts := atoms_spec (ws := ws_ yX4_thrown cX4_thrown 1 (some .int)) B.pre
  have hts : ∀ w ∈ lw_all, w.before _ s = true := fun w h => hts w (List.mem_cons_of_mem _ h)
  have hown : s.vm.findClass RX4 = some m.cls := findClass_of_methodNamed B.named
  have hlocks := B.notSynchronized
  have hS : va_S (AA Γ) s.heap s.heap [] := va_S.rf
  have hl := lv_entry ([.ref (ad 8 0)]) (n := 1) (Nat.le_of_ble_eq_true rfl)
  rw [lg_entry_eq]
  generalize (lg_sl ([.ref (ad 8 0)]) ++ List.replicate (1 - (lg_sl ([.ref (ad 8 0)])).length) Slot.unset).toArray = ls at hl ⊢
  have hl : lv_has ls 1 [(0, .ref (ad 8 0))] := hl
  refine lv_aload_n hx hb dX4_thrown_0 rfl (lv_at hl 0 rfl) ?_
  refine r_get (ci := 5) (v := .int (Z 8 0 0)) (T := TX4) (N := 22) hx hb hts in_X4 hown hK hF 8 0 rfl rfl 0 (by decide) (hts _ q680) (fun _ h9 => h9) rfl dX4_thrown_1 ?_
  exact g_iret hx hb hr hlocks hF hS dX4_thrown_4
set_option maxHeartbeats 4000000 in
set_option maxRecDepth 100000 in
/-- isLoan -/
theorem met_X4_isLoan (l : Launch) (Γ : Gm) (ad : Nat → Nat → Nat) (N : Nat → Nat) (o : Nat → Int64) (Z : Nat → Nat → Nat → Int32) (q : Int32) : Met l yX4_isLoan (ws_ yX4_isLoan cX4_isLoan 2 (some .boolean)) ({ frames := 1, cells := 0, slots := 0, locals := 22 }) (va_Pc [.ref (ad 8 0), .int q] (SF Γ ad (shp Γ ad N o Z))) (gEi Γ (bI (0 ≤ q ∧ q ≤ Z 8 0 5 - 1)) ad (shp Γ ad N o Z)) 0 0 (AA Γ) := by
  refine Met.ofW (cc := cX4_isLoan) (maxL := 2) (ret := (some .boolean)) (by decide) rfl ?_
  intro p e s m args below meth c s₁ B hml hv
  obtain ⟨rfl, hK, hF⟩ := hv
  have hx := B.exec
  have hb := B.bytes
  have hr := B.returns
  have hts := atoms_spec (ws := ws_ yX4_isLoan cX4_isLoan 2 (some .boolean)) B.pre
  have hts : ∀ w ∈ lw_all, w.before _ s = true := fun w h => hts w (List.mem_cons_of_mem _ h)
  have hown : s.vm.findClass RX4 = some m.cls := findClass_of_methodNamed B.named
  have hlocks := B.notSynchronized
  have hS : va_S (AA Γ) s.heap s.heap [] := va_S.rf
  have hl := lv_entry ([.ref (ad 8 0), .int q]) (n := 2) (Nat.le_of_ble_eq_true rfl)
  rw [lg_entry_eq]
  generalize (lg_sl ([.ref (ad 8 0), .int q]) ++ List.replicate (2 - (lg_sl ([.ref (ad 8 0), .int q])).length) Slot.unset).toArray = ls at hl ⊢
  have hl : lv_has ls 2 [(0, .ref (ad 8 0)), (1, .int q)] := hl
  refine lv_iload_n hx hb dX4_isLoan_0 rfl (lv_at hl 1 rfl) ?_
  refine lv_iconst (v := 0) hx hb dX4_isLoan_1 (by decide) ?_
  refine lv_aload_n hx hb dX4_isLoan_2 rfl (lv_at hl 0 rfl) ?_
  refine r_get (ci := 5) (v := .int (Z 8 0 5)) (T := TX4) (N := 22) hx hb hts in_X4 hown hK hF 8 0 rfl rfl 6 (by decide) (hts _ q686) (fun _ h9 => h9) rfl dX4_isLoan_3 ?_
  refine lv_iconst (v := 1) hx hb dX4_isLoan_6 (by decide) ?_
  refine lv_isub hx hb dX4_isLoan_7 ?_
  refine g_ci (va_runS (As := [.int q, .int 0, .int ((Z 8 0 5) - 1)]) (rest := []) ⟨hx, hb, hml, hown, hts⟩ (met_X4_in l Γ ad (shp Γ ad N o Z) q 0 ((Z 8 0 5) - 1)) (va_cwS 3 hts (lw_S q756 q757 q31 q758) rfl rfl rfl (by decide +kernel) ⟨Nat.le_of_ble_eq_true rfl, Nat.le_of_ble_eq_true rfl⟩) (SF_S hK hS hF) rfl rfl hl.1 rfl (lv_room (Nat.le_of_ble_eq_true rfl)) dX4_isLoan_8 ⟨Nat.le_of_ble_eq_true rfl, Nat.le_of_ble_eq_true rfl⟩) hS (fun H locs hF hS => ?_)
  exact g_zret hx hb hr hlocks vb_bI hF hS dX4_isLoan_11
set_option maxHeartbeats 4000000 in
set_option maxRecDepth 100000 in
/-- isEnded -/
theorem met_X4_isEnded (l : Launch) (Γ : Gm) (ad : Nat → Nat → Nat) (N : Nat → Nat) (o : Nat → Int64) (Z : Nat → Nat → Nat → Int32) (q : Int32) : Met l yX4_isEnded (ws_ yX4_isEnded cX4_isEnded 2 (some .boolean)) ({ frames := 1, cells := 0, slots := 0, locals := 22 }) (va_Pc [.ref (ad 8 0), .int q] (SF Γ ad (shp Γ ad N o Z))) (gEi Γ (bI (0 ≤ q ∧ q ≤ Z 8 0 1 - 1)) ad (shp Γ ad N o Z)) 0 0 (AA Γ) := by
  refine Met.ofW (cc := cX4_isEnded) (maxL := 2) (ret := (some .boolean)) (by decide) rfl ?_
  intro p e s m args below meth c s₁ B hml hv
  obtain ⟨rfl, hK, hF⟩ := hv
  have hx := B.exec
  have hb := B.bytes
  have hr := B.returns
  have hts := atoms_spec (ws := ws_ yX4_isEnded cX4_isEnded 2 (some .boolean)) B.pre
  have hts : ∀ w ∈ lw_all, w.before _ s = true := fun w h => hts w (List.mem_cons_of_mem _ h)
  have hown : s.vm.findClass RX4 = some m.cls := findClass_of_methodNamed B.named
  have hlocks := B.notSynchronized
  have hS : va_S (AA Γ) s.heap s.heap [] := va_S.rf
  have hl := lv_entry ([.ref (ad 8 0), .int q]) (n := 2) (Nat.le_of_ble_eq_true rfl)
  rw [lg_entry_eq]
  generalize (lg_sl ([.ref (ad 8 0), .int q]) ++ List.replicate (2 - (lg_sl ([.ref (ad 8 0), .int q])).length) Slot.unset).toArray = ls at hl ⊢
  have hl : lv_has ls 2 [(0, .ref (ad 8 0)), (1, .int q)] := hl
  refine lv_iload_n hx hb dX4_isEnded_0 rfl (lv_at hl 1 rfl) ?_
  refine lv_iconst (v := 0) hx hb dX4_isEnded_1 (by decide) ?_
  refine lv_aload_n hx hb dX4_isEnded_2 rfl (lv_at hl 0 rfl) ?_
  refine r_get (ci := 5) (v := .int (Z 8 0 1)) (T := TX4) (N := 22) hx hb hts in_X4 hown hK hF 8 0 rfl rfl 1 (by decide) (hts _ q681) (fun _ h9 => h9) rfl dX4_isEnded_3 ?_
  refine lv_iconst (v := 1) hx hb dX4_isEnded_6 (by decide) ?_
  refine lv_isub hx hb dX4_isEnded_7 ?_
  refine g_ci (va_runS (As := [.int q, .int 0, .int ((Z 8 0 1) - 1)]) (rest := []) ⟨hx, hb, hml, hown, hts⟩ (met_X4_in l Γ ad (shp Γ ad N o Z) q 0 ((Z 8 0 1) - 1)) (va_cwS 3 hts (lw_S q756 q757 q31 q758) rfl rfl rfl (by decide +kernel) ⟨Nat.le_of_ble_eq_true rfl, Nat.le_of_ble_eq_true rfl⟩) (SF_S hK hS hF) rfl rfl hl.1 rfl (lv_room (Nat.le_of_ble_eq_true rfl)) dX4_isEnded_8 ⟨Nat.le_of_ble_eq_true rfl, Nat.le_of_ble_eq_true rfl⟩) hS (fun H locs hF hS => ?_)
  exact g_zret hx hb hr hlocks vb_bI hF hS dX4_isEnded_11
set_option maxHeartbeats 4000000 in
set_option maxRecDepth 100000 in
/-- isBranch -/
theorem met_X4_isBranch (l : Launch) (Γ : Gm) (ad : Nat → Nat → Nat) (N : Nat → Nat) (o : Nat → Int64) (Z : Nat → Nat → Nat → Int32) (q : Int32) : Met l yX4_isBranch (ws_ yX4_isBranch cX4_isBranch 1 (some .boolean)) ({ frames := 1, cells := 0, slots := 0, locals := 22 }) (va_Pc [.int q] (SF Γ ad (shp Γ ad N o Z))) (gEi Γ (bI (0 ≤ q ∧ q ≤ 2)) ad (shp Γ ad N o Z)) 0 0 (AA Γ) := by
  refine Met.ofW (cc := cX4_isBranch) (maxL := 1) (ret := (some .boolean)) (by decide) rfl ?_
  intro p e s m args below meth c s₁ B hml hv
  obtain ⟨rfl, hK, hF⟩ := hv
  have hx := B.exec
  have hb := B.bytes
  have hr := B.returns
  have hts := atoms_spec (ws := ws_ yX4_isBranch cX4_isBranch 1 (some .boolean)) B.pre
  have hts : ∀ w ∈ lw_all, w.before _ s = true := fun w h => hts w (List.mem_cons_of_mem _ h)
  have hown : s.vm.findClass RX4 = some m.cls := findClass_of_methodNamed B.named
  have hlocks := B.notSynchronized
  have hS : va_S (AA Γ) s.heap s.heap [] := va_S.rf
  have hl := lv_entry ([.int q]) (n := 1) (Nat.le_of_ble_eq_true rfl)
  rw [lg_entry_eq]
  generalize (lg_sl ([.int q]) ++ List.replicate (1 - (lg_sl ([.int q])).length) Slot.unset).toArray = ls at hl ⊢
  have hl : lv_has ls 1 [(0, .int q)] := hl
  refine lv_iload_n hx hb dX4_isBranch_0 rfl (lv_at hl 0 rfl) ?_
  refine lv_iconst (v := 0) hx hb dX4_isBranch_1 (by decide) ?_
  refine lv_iconst (v := 2) hx hb dX4_isBranch_2 (by decide) ?_
  refine g_ci (va_runS (As := [.int q, .int 0, .int 2]) (rest := []) ⟨hx, hb, hml, hown, hts⟩ (met_X4_in l Γ ad (shp Γ ad N o Z) q 0 2) (va_cwS 3 hts (lw_S q756 q757 q31 q758) rfl rfl rfl (by decide +kernel) ⟨Nat.le_of_ble_eq_true rfl, Nat.le_of_ble_eq_true rfl⟩) (SF_S hK hS hF) rfl rfl hl.1 rfl (lv_room (Nat.le_of_ble_eq_true rfl)) dX4_isBranch_3 ⟨Nat.le_of_ble_eq_true rfl, Nat.le_of_ble_eq_true rfl⟩) hS (fun H locs hF hS => ?_)
  exact g_zret hx hb hr hlocks vb_bI hF hS dX4_isBranch_6
set_option maxHeartbeats 4000000 in
set_option maxRecDepth 100000 in
/-- leftOf -/
theorem met_X4_leftOf (l : Launch) (Γ : Gm) (ad : Nat → Nat → Nat) (N : Nat → Nat) (o : Nat → Int64) (Z : Nat → Nat → Nat → Int32) (j : Nat) (hj : j < 24) : Met l yX4_leftOf (ws_ yX4_leftOf cX4_leftOf 4 (some .int)) ({ frames := 0, cells := 0, slots := 0, locals := 0 }) (va_Pc [.ref (ad 8 0), .int (nI j)] (SF Γ ad (shp Γ ad N o Z))) (gEi Γ (mLeft Z j) ad (shp Γ ad N o Z)) 0 0 (AA Γ) := by
  refine Met.ofW (cc := cX4_leftOf) (maxL := 4) (ret := (some .int)) (by decide) rfl ?_
  intro p e s m args below meth c s₁ B hml hv
  obtain ⟨rfl, hK, hF⟩ := hv
  have hx := B.exec
  have hb := B.bytes
  have hr := B.returns
  have hts := atoms_spec (ws := ws_ yX4_leftOf cX4_leftOf 4 (some .int)) B.pre
  have hts : ∀ w ∈ lw_all, w.before _ s = true := fun w h => hts w (List.mem_cons_of_mem _ h)
  have hown : s.vm.findClass RX4 = some m.cls := findClass_of_methodNamed B.named
  have hlocks := B.notSynchronized
  have hS : va_S (AA Γ) s.heap s.heap [] := va_S.rf
  have hl := lv_entry ([.ref (ad 8 0), .int (nI j)]) (n := 4) (Nat.le_of_ble_eq_true rfl)
  rw [lg_entry_eq]
  generalize (lg_sl ([.ref (ad 8 0), .int (nI j)]) ++ List.replicate (4 - (lg_sl ([.ref (ad 8 0), .int (nI j)])).length) Slot.unset).toArray = ls at hl ⊢
  have hl : lv_has ls 4 [(0, .ref (ad 8 0)), (1, .int (nI j))] := hl
  refine lv_iconst (v := 0) hx hb dX4_leftOf_0 (by decide) ?_
  refine lv_istore_n (lv' := [(2, .int 0), (0, .ref (ad 8 0)), (1, .int (nI j))]) hx hb dX4_leftOf_1 rfl hl (by decide) rfl (fun ls hl => ?_)
  refine lv_iconst (v := 0) hx hb dX4_leftOf_2 (by decide) ?_
  refine lv_istore_n (lv' := [(3, .int 0), (2, .int 0), (0, .ref (ad 8 0)), (1, .int (nI j))]) hx hb dX4_leftOf_3 rfl hl (by decide) rfl (fun ls hl => ?_)
  have LP : ∀ (u7 i : Nat) (x2 : Int32) (x3 : Int32) , i + u7 = 6 → 0 ≤ i → x2 = sm (fun k => Z 8 8 (6 * j + k)) 0 i → x3 = nI i → ∀ (H : Heap) (locs : List Loc), FF Γ ad (shp Γ ad N o Z) H → va_S (AA Γ) s.heap H locs → ∀ (ls : Array Slot), lv_has ls 4 [(3, .int x3), (2, .int x2), (0, .ref (ad 8 0)), (1, .int (nI j))] → W p l e (headSpec (ws_ yX4_leftOf cX4_leftOf 4 (some .int)) ({ frames := 0, cells := 0, slots := 0, locals := 0 })).room s m ([.ref (ad 8 0), .int (nI j)] : List Value).toArray below meth c H locs 0 0 (MQ below (gEi Γ (mLeft Z j) ad (shp Γ ad N o Z)) ([.ref (ad 8 0), .int (nI j)] : List Value).toArray s 0 0 (AA Γ)) (F0 m 4 ls []) := by
    intro u7
    induction u7 with
    | zero =>
      intro i x2 x3  hi hs e2 e3 H locs hF hS ls hl
      subst e2
      subst e3
      obtain rfl : i = 6 := by omega
      refine lv_iload_n hx hb dX4_leftOf_4 rfl (lv_at hl 0 rfl) ?_
      refine lv_bipush (v := 6) hx hb dX4_leftOf_5 (by decide) ?_
      refine lv_icmp_ge (tgt := 30) hx hb dX4_leftOf_7 (by decide) (fun c7 => ?_) (fun c7 => ?_)
      · refine lv_iload_n hx hb dX4_leftOf_30 rfl (lv_at hl 1 rfl) ?_
        exact g_iret hx hb hr hlocks hF hS dX4_leftOf_31
      · exact absurd (nI_le (a := 6) (b := 6) (Nat.le_refl _) (by omega)) c7
    | succ u7 ih =>
      intro i x2 x3  hi hs e2 e3 H locs hF hS ls hl
      subst e2
      subst e3
      refine lv_iload_n hx hb dX4_leftOf_4 rfl (lv_at hl 0 rfl) ?_
      refine lv_bipush (v := 6) hx hb dX4_leftOf_5 (by decide) ?_
      refine lv_icmp_ge (tgt := 30) hx hb dX4_leftOf_7 (by decide) (fun c7 => ?_) (fun c7 => ?_)
      · exact absurd c7 (nI_ge (a := i) (b := 6) (by omega) (by omega))
      · refine lv_iload_n hx hb dX4_leftOf_10 rfl (lv_at hl 1 rfl) ?_
        refine lv_aload_n hx hb dX4_leftOf_11 rfl (lv_at hl 2 rfl) ?_
        refine r_get (ci := 5) (v := .ref (ad 8 8)) (T := TX4) (N := 22) hx hb hts in_X4 hown hK hF 8 0 rfl rfl 13 (by decide) (hts _ q693) (fun _ h9 => h9) rfl dX4_leftOf_12 ?_
        refine lv_bipush (v := 6) hx hb dX4_leftOf_15 (by decide) ?_
        refine lv_iload_n hx hb dX4_leftOf_17 rfl (lv_at hl 3 rfl) ?_
        refine lv_imul hx hb dX4_leftOf_18 ?_
        refine lv_iload_n hx hb dX4_leftOf_19 rfl (lv_at hl 0 rfl) ?_
        refine lv_iadd hx hb dX4_leftOf_20 ?_
        refine s_iald hx hb hK hF 8 8 rfl (6 * j + i) (ix6 j i) (by omega) (by omega) dX4_leftOf_21 ?_
        refine lv_iadd hx hb dX4_leftOf_22 ?_
        refine lv_istore_n (lv' := [(2, .int ((sm (fun k => Z 8 8 (6 * j + k)) 0 i) + (Z 8 8 (6 * j + i)))), (3, .int (nI i)), (0, .ref (ad 8 0)), (1, .int (nI j))]) hx hb dX4_leftOf_23 rfl hl (by decide) rfl (fun ls hl => ?_)
        refine lv_iinc (v := nI (i + 1)) (lv' := [(3, .int (nI (i + 1))), (2, .int ((sm (fun k => Z 8 8 (6 * j + k)) 0 i) + (Z 8 8 (6 * j + i)))), (0, .ref (ad 8 0)), (1, .int (nI j))]) hx hb dX4_leftOf_24 hl (k := 1) rfl (nI_1 _) (by decide) rfl (fun ls hl => ?_)
        refine lv_goto (tgt := 4) hx hb dX4_leftOf_27 (by decide) ?_
        exact ih (i + 1) _ _ (by omega) (by omega) (sm_s (Nat.zero_le _)) rfl _ _ hF hS ls (lv_sub hl [0, 1, 2, 3] rfl)
  exact LP (6 - 0) 0 _ _ (by omega) (Nat.le_refl _) rfl rfl _ _ hF hS ls hl
set_option maxHeartbeats 4000000 in
set_option maxRecDepth 100000 in
/-- bear -/
theorem met_X4_bear (l : Launch) (Γ : Gm) (ad : Nat → Nat → Nat) (N : Nat → Nat) (o : Nat → Int64) (Z : Nat → Nat → Nat → Int32) (j : Nat) (hj : j < 24) (x : Int32) : Met l yX4_bear (ws_ yX4_bear cX4_bear 10 (some .int)) ({ frames := 1, cells := 0, slots := 0, locals := 23 }) (va_Pc [.ref (ad 8 0), .int (nI j), .int x] (SF Γ ad (shp Γ ad N o Z))) (gEi Γ (mBear Z j x) ad (shp Γ ad N o Z)) 0 0 (AA Γ) := by
  refine Met.ofW (cc := cX4_bear) (maxL := 10) (ret := (some .int)) (by decide) rfl ?_
  intro p e s m args below meth c s₁ B hml hv
  obtain ⟨rfl, hK, hF⟩ := hv
  have hx := B.exec
  have hb := B.bytes
  have hr := B.returns
  have hts := atoms_spec (ws := ws_ yX4_bear cX4_bear 10 (some .int)) B.pre
  have hts : ∀ w ∈ lw_all, w.before _ s = true := fun w h => hts w (List.mem_cons_of_mem _ h)
  have hown : s.vm.findClass RX4 = some m.cls := findClass_of_methodNamed B.named
  have hlocks := B.notSynchronized
  have hS : va_S (AA Γ) s.heap s.heap [] := va_S.rf
  have hl := lv_entry ([.ref (ad 8 0), .int (nI j), .int x]) (n := 10) (Nat.le_of_ble_eq_true rfl)
  rw [lg_entry_eq]
  generalize (lg_sl ([.ref (ad 8 0), .int (nI j), .int x]) ++ List.replicate (10 - (lg_sl ([.ref (ad 8 0), .int (nI j), .int x])).length) Slot.unset).toArray = ls at hl ⊢
  have hl : lv_has ls 10 [(0, .ref (ad 8 0)), (1, .int (nI j)), (2, .int x)] := hl
  refine lv_aload_n hx hb dX4_bear_0 rfl (lv_at hl 0 rfl) ?_
  refine lv_iload_n hx hb dX4_bear_1 rfl (lv_at hl 1 rfl) ?_
  refine g_ci (va_runV (As := [.int (nI j)]) (rest := []) ⟨hx, hb, hml, hown, hts⟩ (met_X4_leftOf l Γ ad N o Z j hj) (cwV 1 hts (lw_V q783 q785 qs14 q31 q786) rfl rfl rfl (by decide +kernel) ⟨Nat.le_of_ble_eq_true rfl, Nat.le_of_ble_eq_true rfl⟩) (SF_V hK hS hF (recvF hK hF 8 0 rfl rfl)) rfl rfl hl.1 rfl (lv_room (Nat.le_of_ble_eq_true rfl)) dX4_bear_2 ⟨Nat.le_of_ble_eq_true rfl, Nat.le_of_ble_eq_true rfl⟩) hS (fun H locs hF hS => ?_)
  refine lv_i2l hx hb dX4_bear_5 rfl ?_
  refine lv_lstore_n (lv' := [(3, .long ((mLeft Z j).toInt64)), (0, .ref (ad 8 0)), (1, .int (nI j)), (2, .int x)]) hx hb dX4_bear_6 rfl hl (by decide) rfl (fun ls hl => ?_)
  refine lv_lconst (v := 0) hx hb dX4_bear_7 (by decide) ?_
  refine lv_lstore (lv' := [(5, .long 0), (3, .long ((mLeft Z j).toInt64)), (0, .ref (ad 8 0)), (1, .int (nI j)), (2, .int x)]) hx hb dX4_bear_8 hl (by decide) rfl (fun ls hl => ?_)
  refine lv_iconst (v := 0) hx hb dX4_bear_10 (by decide) ?_
  refine lv_istore (lv' := [(7, .int 0), (5, .long 0), (3, .long ((mLeft Z j).toInt64)), (0, .ref (ad 8 0)), (1, .int (nI j)), (2, .int x)]) hx hb dX4_bear_11 hl (by decide) rfl (fun ls hl => ?_)
  have LP : ∀ (u7 i : Nat) (x5 : Int64) (x7 : Int32) , i + u7 = 6 → 0 ≤ i → x5 = smL (fun k => (Z 8 8 (6 * j + k)).toInt64 * (Z 8 9 (6 * j + k)).toInt64) 0 i → x7 = nI i → ∀ (H : Heap) (locs : List Loc), FF Γ ad (shp Γ ad N o Z) H → va_S (AA Γ) s.heap H locs → ∀ (ls : Array Slot), lv_has ls 10 [(7, .int x7), (5, .long x5), (3, .long ((mLeft Z j).toInt64)), (0, .ref (ad 8 0)), (1, .int (nI j)), (2, .int x)] → W p l e (headSpec (ws_ yX4_bear cX4_bear 10 (some .int)) ({ frames := 1, cells := 0, slots := 0, locals := 23 })).room s m ([.ref (ad 8 0), .int (nI j), .int x] : List Value).toArray below meth c H locs 0 0 (MQ below (gEi Γ (mBear Z j x) ad (shp Γ ad N o Z)) ([.ref (ad 8 0), .int (nI j), .int x] : List Value).toArray s 0 0 (AA Γ)) (F0 m 13 ls []) := by
    intro u7
    induction u7 with
    | zero =>
      intro i x5 x7  hi hs e5 e7 H locs hF hS ls hl
      subst e5
      subst e7
      obtain rfl : i = 6 := by omega
      refine lv_iload hx hb dX4_bear_13 (lv_at hl 0 rfl) ?_
      refine lv_bipush (v := 6) hx hb dX4_bear_15 (by decide) ?_
      refine lv_icmp_ge (tgt := 58) hx hb dX4_bear_17 (by decide) (fun c17 => ?_) (fun c17 => ?_)
      · refine lv_lload_n hx hb dX4_bear_58 rfl (lv_at hl 2 rfl) ?_
        refine lv_aload_n hx hb dX4_bear_59 rfl (lv_at hl 3 rfl) ?_
        refine r_get (ci := 5) (v := .ref (ad 8 4)) (T := TX4) (N := 22) hx hb hts in_X4 hown hK hF 8 0 rfl rfl 9 (by decide) (hts _ q689) (fun _ h9 => h9) rfl dX4_bear_60 ?_
        refine lv_iload_n hx hb dX4_bear_63 rfl (lv_at hl 4 rfl) ?_
        refine s_iald hx hb hK hF 8 4 rfl j rfl (by omega) (by omega) dX4_bear_64 ?_
        refine lv_i2l hx hb dX4_bear_65 rfl ?_
        refine lv_lmul hx hb dX4_bear_66 ?_
        refine lv_ldc2 (v := 120000) hx hb hown (hts _ q809) dX4_bear_67 ?_
        refine lv_ldiv hx hb dX4_bear_70 (by decide) ?_
        refine lv_l2i hx hb dX4_bear_71 rfl ?_
        refine lv_istore (lv' := [(7, .int (((((mLeft Z j).toInt64) * ((Z 8 4 j).toInt64)) / 120000).toInt32)), (5, .long (smL (fun k => (Z 8 8 (6 * j + k)).toInt64 * (Z 8 9 (6 * j + k)).toInt64) 0 6)), (3, .long ((mLeft Z j).toInt64)), (0, .ref (ad 8 0)), (1, .int (nI j)), (2, .int x)]) hx hb dX4_bear_72 hl (by decide) rfl (fun ls hl => ?_)
        refine lv_lload hx hb dX4_bear_74 (lv_at hl 1 rfl) ?_
        refine lv_ldc2 (v := 120000) hx hb hown (hts _ q809) dX4_bear_76 ?_
        refine lv_ldiv hx hb dX4_bear_79 (by decide) ?_
        refine lv_l2i hx hb dX4_bear_80 rfl ?_
        refine lv_istore (lv' := [(8, .int (((smL (fun k => (Z 8 8 (6 * j + k)).toInt64 * (Z 8 9 (6 * j + k)).toInt64) 0 6) / 120000).toInt32)), (7, .int (((((mLeft Z j).toInt64) * ((Z 8 4 j).toInt64)) / 120000).toInt32)), (5, .long (smL (fun k => (Z 8 8 (6 * j + k)).toInt64 * (Z 8 9 (6 * j + k)).toInt64) 0 6)), (3, .long ((mLeft Z j).toInt64)), (0, .ref (ad 8 0)), (1, .int (nI j)), (2, .int x)]) hx hb dX4_bear_81 hl (by decide) rfl (fun ls hl => ?_)
        refine lv_aload_n hx hb dX4_bear_83 rfl (lv_at hl 4 rfl) ?_
        refine r_get (ci := 5) (v := .ref (ad 8 6)) (T := TX4) (N := 22) hx hb hts in_X4 hown hK hF 8 0 rfl rfl 11 (by decide) (hts _ q691) (fun _ h9 => h9) rfl dX4_bear_84 ?_
        refine lv_iload_n hx hb dX4_bear_87 rfl (lv_at hl 5 rfl) ?_
        refine s_zald hx hb hK hF 8 6 rfl j rfl (by omega) (by omega) dX4_bear_88 ?_
        have K : W p l e (headSpec (ws_ yX4_bear cX4_bear 10 (some .int)) ({ frames := 1, cells := 0, slots := 0, locals := 23 })).room s m ([.ref (ad 8 0), .int (nI j), .int x] : List Value).toArray below meth c H locs 0 0 (MQ below (gEi Γ (mBear Z j x) ad (shp Γ ad N o Z)) ([.ref (ad 8 0), .int (nI j), .int x] : List Value).toArray s 0 0 (AA Γ)) (F0 m 110 ls [.int (mOpt Z j)]) := by
          refine lv_istore (lv' := [(9, .int (mOpt Z j)), (8, .int (((smL (fun k => (Z 8 8 (6 * j + k)).toInt64 * (Z 8 9 (6 * j + k)).toInt64) 0 6) / 120000).toInt32)), (7, .int (((((mLeft Z j).toInt64) * ((Z 8 4 j).toInt64)) / 120000).toInt32)), (5, .long (smL (fun k => (Z 8 8 (6 * j + k)).toInt64 * (Z 8 9 (6 * j + k)).toInt64) 0 6)), (3, .long ((mLeft Z j).toInt64)), (0, .ref (ad 8 0)), (1, .int (nI j)), (2, .int x)]) hx hb dX4_bear_110 hl (by decide) rfl (fun ls hl => ?_)
          refine lv_iload_n hx hb dX4_bear_112 rfl (lv_at hl 7 rfl) ?_
          refine lv_if_ne (tgt := 121) hx hb dX4_bear_113 (by decide) (fun c113 => ?_) (fun c113 => ?_)
          · refine lv_iload_n hx hb dX4_bear_121 rfl (lv_at hl 7 rfl) ?_
            refine lv_iconst (v := 1) hx hb dX4_bear_122 (by decide) ?_
            refine lv_icmp_ne (tgt := 131) hx hb dX4_bear_123 (by decide) (fun c123 => ?_) (fun c123 => ?_)
            · refine lv_iload_n hx hb dX4_bear_131 rfl (lv_at hl 7 rfl) ?_
              refine lv_iconst (v := 2) hx hb dX4_bear_132 (by decide) ?_
              refine lv_icmp_ne (tgt := 141) hx hb dX4_bear_133 (by decide) (fun c133 => ?_) (fun c133 => ?_)
              · refine lv_iload hx hb dX4_bear_141 (lv_at hl 2 rfl) ?_
                refine lv_iload hx hb dX4_bear_143 (lv_at hl 1 rfl) ?_
                refine lv_isub hx hb dX4_bear_145 ?_
                refine lv_iload hx hb dX4_bear_146 (lv_at hl 0 rfl) ?_
                refine lv_isub hx hb dX4_bear_148 ?_
                rw [show mBear Z j x = _ from (if_neg c113).trans ((if_neg c123).trans (if_neg c133))]
                exact g_iret hx hb hr hlocks hF hS dX4_bear_149
              · refine lv_iload hx hb dX4_bear_136 (lv_at hl 0 rfl) ?_
                refine lv_goto (tgt := 149) hx hb dX4_bear_138 (by decide) ?_
                rw [show mBear Z j x = _ from (if_neg c113).trans ((if_neg c123).trans (if_pos c133))]
                exact g_iret hx hb hr hlocks hF hS dX4_bear_149
            · refine lv_iload hx hb dX4_bear_126 (lv_at hl 1 rfl) ?_
              refine lv_goto (tgt := 149) hx hb dX4_bear_128 (by decide) ?_
              rw [show mBear Z j x = _ from (if_neg c113).trans (if_pos c123)]
              exact g_iret hx hb hr hlocks hF hS dX4_bear_149
          · refine lv_iload hx hb dX4_bear_116 (lv_at hl 2 rfl) ?_
            refine lv_goto (tgt := 149) hx hb dX4_bear_118 (by decide) ?_
            rw [show mBear Z j x = _ from if_pos c113]
            exact g_iret hx hb hr hlocks hF hS dX4_bear_149
        refine lv_if_eq (tgt := 109) hx hb dX4_bear_89 (by decide) (fun c89 => ?_) (fun c89 => ?_)
        · refine lv_iconst (v := 0) hx hb dX4_bear_109 (by decide) ?_
          rw [show mOpt Z j = 0 from if_pos c89] at K
          exact K
        · refine lv_lload_n hx hb dX4_bear_92 rfl (lv_at hl 3 rfl) ?_
          refine lv_aload_n hx hb dX4_bear_93 rfl (lv_at hl 4 rfl) ?_
          refine r_get (ci := 5) (v := .ref (ad 8 5)) (T := TX4) (N := 22) hx hb hts in_X4 hown hK hF 8 0 rfl rfl 10 (by decide) (hts _ q690) (fun _ h9 => h9) rfl dX4_bear_94 ?_
          refine lv_iload_n hx hb dX4_bear_97 rfl (lv_at hl 5 rfl) ?_
          refine s_iald hx hb hK hF 8 5 rfl j rfl (by omega) (by omega) dX4_bear_98 ?_
          refine lv_i2l hx hb dX4_bear_99 rfl ?_
          refine lv_lmul hx hb dX4_bear_100 ?_
          refine lv_ldc2 (v := 120000) hx hb hown (hts _ q809) dX4_bear_101 ?_
          refine lv_ldiv hx hb dX4_bear_104 (by decide) ?_
          refine lv_l2i hx hb dX4_bear_105 rfl ?_
          refine lv_goto (tgt := 110) hx hb dX4_bear_106 (by decide) ?_
          rw [show mOpt Z j = _ from if_neg c89] at K
          exact K
      · exact absurd (nI_le (a := 6) (b := 6) (Nat.le_refl _) (by omega)) c17
    | succ u7 ih =>
      intro i x5 x7  hi hs e5 e7 H locs hF hS ls hl
      subst e5
      subst e7
      refine lv_iload hx hb dX4_bear_13 (lv_at hl 0 rfl) ?_
      refine lv_bipush (v := 6) hx hb dX4_bear_15 (by decide) ?_
      refine lv_icmp_ge (tgt := 58) hx hb dX4_bear_17 (by decide) (fun c17 => ?_) (fun c17 => ?_)
      · exact absurd c17 (nI_ge (a := i) (b := 6) (by omega) (by omega))
      · refine lv_lload hx hb dX4_bear_20 (lv_at hl 1 rfl) ?_
        refine lv_aload_n hx hb dX4_bear_22 rfl (lv_at hl 3 rfl) ?_
        refine r_get (ci := 5) (v := .ref (ad 8 8)) (T := TX4) (N := 22) hx hb hts in_X4 hown hK hF 8 0 rfl rfl 13 (by decide) (hts _ q693) (fun _ h9 => h9) rfl dX4_bear_23 ?_
        refine lv_bipush (v := 6) hx hb dX4_bear_26 (by decide) ?_
        refine lv_iload_n hx hb dX4_bear_28 rfl (lv_at hl 4 rfl) ?_
        refine lv_imul hx hb dX4_bear_29 ?_
        refine lv_iload hx hb dX4_bear_30 (lv_at hl 0 rfl) ?_
        refine lv_iadd hx hb dX4_bear_32 ?_
        refine s_iald hx hb hK hF 8 8 rfl (6 * j + i) (ix6 j i) (by omega) (by omega) dX4_bear_33 ?_
        refine lv_i2l hx hb dX4_bear_34 rfl ?_
        refine lv_aload_n hx hb dX4_bear_35 rfl (lv_at hl 3 rfl) ?_
        refine r_get (ci := 5) (v := .ref (ad 8 9)) (T := TX4) (N := 22) hx hb hts in_X4 hown hK hF 8 0 rfl rfl 14 (by decide) (hts _ q694) (fun _ h9 => h9) rfl dX4_bear_36 ?_
        refine lv_bipush (v := 6) hx hb dX4_bear_39 (by decide) ?_
        refine lv_iload_n hx hb dX4_bear_41 rfl (lv_at hl 4 rfl) ?_
        refine lv_imul hx hb dX4_bear_42 ?_
        refine lv_iload hx hb dX4_bear_43 (lv_at hl 0 rfl) ?_
        refine lv_iadd hx hb dX4_bear_45 ?_
        refine s_iald hx hb hK hF 8 9 rfl (6 * j + i) (ix6 j i) (by omega) (by omega) dX4_bear_46 ?_
        refine lv_i2l hx hb dX4_bear_47 rfl ?_
        refine lv_lmul hx hb dX4_bear_48 ?_
        refine lv_ladd hx hb dX4_bear_49 ?_
        refine lv_lstore (lv' := [(5, .long ((smL (fun k => (Z 8 8 (6 * j + k)).toInt64 * (Z 8 9 (6 * j + k)).toInt64) 0 i) + (((Z 8 8 (6 * j + i)).toInt64) * ((Z 8 9 (6 * j + i)).toInt64)))), (7, .int (nI i)), (3, .long ((mLeft Z j).toInt64)), (0, .ref (ad 8 0)), (1, .int (nI j)), (2, .int x)]) hx hb dX4_bear_50 hl (by decide) rfl (fun ls hl => ?_)
        refine lv_iinc (v := nI (i + 1)) (lv' := [(7, .int (nI (i + 1))), (5, .long ((smL (fun k => (Z 8 8 (6 * j + k)).toInt64 * (Z 8 9 (6 * j + k)).toInt64) 0 i) + (((Z 8 8 (6 * j + i)).toInt64) * ((Z 8 9 (6 * j + i)).toInt64)))), (3, .long ((mLeft Z j).toInt64)), (0, .ref (ad 8 0)), (1, .int (nI j)), (2, .int x)]) hx hb dX4_bear_52 hl (k := 1) rfl (nI_1 _) (by decide) rfl (fun ls hl => ?_)
        refine lv_goto (tgt := 13) hx hb dX4_bear_55 (by decide) ?_
        exact ih (i + 1) _ _ (by omega) (by omega) (smL_s (Nat.zero_le _)) rfl _ _ hF hS ls (lv_sub hl [0, 1, 2, 3, 4, 5] rfl)
  exact LP (6 - 0) 0 _ _ (by omega) (Nat.le_refl _) rfl rfl _ _ hF hS ls hl
set_option maxHeartbeats 4000000 in
set_option maxRecDepth 100000 in
/-- core -/
theorem met_X4_core (l : Launch) (Γ : Gm) (ad : Nat → Nat → Nat) (N : Nat → Nat) (o : Nat → Int64) (Z : Nat → Nat → Nat → Int32) : Met l yX4_core (ws_ yX4_core cX4_core 4 (some .int)) ({ frames := 0, cells := 0, slots := 0, locals := 0 }) (va_Pc [.ref (ad 8 0)] (SF Γ ad (shp Γ ad N o Z))) (gEi Γ (mCore Z) ad (shp Γ ad N o Z)) 0 0 (AA Γ) := by
  refine Met.ofW (cc := cX4_core) (maxL := 4) (ret := (some .int)) (by decide) rfl ?_
  intro p e s m args below meth c s₁ B hml hv
  obtain ⟨rfl, hK, hF⟩ := hv
  have hx := B.exec
  have hb := B.bytes
  have hr := B.returns
  have hts := atoms_spec (ws := ws_ yX4_core cX4_core 4 (some .int)) B.pre
  have hts : ∀ w ∈ lw_all, w.before _ s = true := fun w h => hts w (List.mem_cons_of_mem _ h)
  have hown : s.vm.findClass RX4 = some m.cls := findClass_of_methodNamed B.named
  have hlocks := B.notSynchronized
  have hS : va_S (AA Γ) s.heap s.heap [] := va_S.rf
  have hl := lv_entry ([.ref (ad 8 0)]) (n := 4) (Nat.le_of_ble_eq_true rfl)
  rw [lg_entry_eq]
  generalize (lg_sl ([.ref (ad 8 0)]) ++ List.replicate (4 - (lg_sl ([.ref (ad 8 0)])).length) Slot.unset).toArray = ls at hl ⊢
  have hl : lv_has ls 4 [(0, .ref (ad 8 0))] := hl
  refine lv_lconst (v := 0) hx hb dX4_core_0 (by decide) ?_
  refine lv_lstore_n (lv' := [(1, .long 0), (0, .ref (ad 8 0))]) hx hb dX4_core_1 rfl hl (by decide) rfl (fun ls hl => ?_)
  refine lv_iconst (v := 0) hx hb dX4_core_2 (by decide) ?_
  refine lv_istore_n (lv' := [(3, .int 0), (1, .long 0), (0, .ref (ad 8 0))]) hx hb dX4_core_3 rfl hl (by decide) rfl (fun ls hl => ?_)
  have LP : ∀ (u7 i : Nat) (x1 : Int64) (x3 : Int32) , i + u7 = 3 → 0 ≤ i → x1 = smL (fun b => (Z 8 10 b).toInt64) 0 i → x3 = nI i → ∀ (H : Heap) (locs : List Loc), FF Γ ad (shp Γ ad N o Z) H → va_S (AA Γ) s.heap H locs → ∀ (ls : Array Slot), lv_has ls 4 [(3, .int x3), (1, .long x1), (0, .ref (ad 8 0))] → W p l e (headSpec (ws_ yX4_core cX4_core 4 (some .int)) ({ frames := 0, cells := 0, slots := 0, locals := 0 })).room s m ([.ref (ad 8 0)] : List Value).toArray below meth c H locs 0 0 (MQ below (gEi Γ (mCore Z) ad (shp Γ ad N o Z)) ([.ref (ad 8 0)] : List Value).toArray s 0 0 (AA Γ)) (F0 m 4 ls []) := by
    intro u7
    induction u7 with
    | zero =>
      intro i x1 x3  hi hs e1 e3 H locs hF hS ls hl
      subst e1
      subst e3
      obtain rfl : i = 3 := by omega
      refine lv_iload_n hx hb dX4_core_4 rfl (lv_at hl 0 rfl) ?_
      refine lv_iconst (v := 3) hx hb dX4_core_5 (by decide) ?_
      refine lv_icmp_ge (tgt := 25) hx hb dX4_core_6 (by decide) (fun c6 => ?_) (fun c6 => ?_)
      · refine lv_lload_n hx hb dX4_core_25 rfl (lv_at hl 1 rfl) ?_
        refine lv_aload_n hx hb dX4_core_26 rfl (lv_at hl 2 rfl) ?_
        refine r_get (ci := 5) (v := .int (Z 8 0 4)) (T := TX4) (N := 22) hx hb hts in_X4 hown hK hF 8 0 rfl rfl 5 (by decide) (hts _ q685) (fun _ h9 => h9) rfl dX4_core_27 ?_
        refine lv_i2l hx hb dX4_core_30 rfl ?_
        refine lv_lmul hx hb dX4_core_31 ?_
        refine lv_ldc2 (v := 100) hx hb hown (hts _ q800) dX4_core_32 ?_
        refine lv_ldiv hx hb dX4_core_35 (by decide) ?_
        refine lv_l2i hx hb dX4_core_36 rfl ?_
        exact g_iret hx hb hr hlocks hF hS dX4_core_37
      · exact absurd (nI_le (a := 3) (b := 3) (Nat.le_refl _) (by omega)) c6
    | succ u7 ih =>
      intro i x1 x3  hi hs e1 e3 H locs hF hS ls hl
      subst e1
      subst e3
      refine lv_iload_n hx hb dX4_core_4 rfl (lv_at hl 0 rfl) ?_
      refine lv_iconst (v := 3) hx hb dX4_core_5 (by decide) ?_
      refine lv_icmp_ge (tgt := 25) hx hb dX4_core_6 (by decide) (fun c6 => ?_) (fun c6 => ?_)
      · exact absurd c6 (nI_ge (a := i) (b := 3) (by omega) (by omega))
      · refine lv_lload_n hx hb dX4_core_9 rfl (lv_at hl 1 rfl) ?_
        refine lv_aload_n hx hb dX4_core_10 rfl (lv_at hl 2 rfl) ?_
        refine r_get (ci := 5) (v := .ref (ad 8 10)) (T := TX4) (N := 22) hx hb hts in_X4 hown hK hF 8 0 rfl rfl 15 (by decide) (hts _ q695) (fun _ h9 => h9) rfl dX4_core_11 ?_
        refine lv_iload_n hx hb dX4_core_14 rfl (lv_at hl 0 rfl) ?_
        refine s_iald hx hb hK hF 8 10 rfl i rfl (by omega) (by omega) dX4_core_15 ?_
        refine lv_i2l hx hb dX4_core_16 rfl ?_
        refine lv_ladd hx hb dX4_core_17 ?_
        refine lv_lstore_n (lv' := [(1, .long ((smL (fun b => (Z 8 10 b).toInt64) 0 i) + ((Z 8 10 i).toInt64))), (3, .int (nI i)), (0, .ref (ad 8 0))]) hx hb dX4_core_18 rfl hl (by decide) rfl (fun ls hl => ?_)
        refine lv_iinc (v := nI (i + 1)) (lv' := [(3, .int (nI (i + 1))), (1, .long ((smL (fun b => (Z 8 10 b).toInt64) 0 i) + ((Z 8 10 i).toInt64))), (0, .ref (ad 8 0))]) hx hb dX4_core_19 hl (k := 1) rfl (nI_1 _) (by decide) rfl (fun ls hl => ?_)
        refine lv_goto (tgt := 4) hx hb dX4_core_22 (by decide) ?_
        exact ih (i + 1) _ _ (by omega) (by omega) (smL_s (Nat.zero_le _)) rfl _ _ hF hS ls (lv_sub hl [0, 1, 2] rfl)
  exact LP (3 - 0) 0 _ _ (by omega) (Nat.le_refl _) rfl rfl _ _ hF hS ls hl
set_option maxHeartbeats 4000000 in
set_option maxRecDepth 100000 in
/-- lays -/
theorem met_X4_lays (l : Launch) (Γ : Gm) (ad : Nat → Nat → Nat) (N : Nat → Nat) (o : Nat → Int64) (Z : Nat → Nat → Nat → Int32) (t : Nat) (ht : t < 6) : Met l yX4_lays (ws_ yX4_lays cX4_lays 2 none) ({ frames := 1, cells := 0, slots := 0, locals := 23 }) (va_Pc [.ref (ad 8 0), .int (nI t)] (SF Γ ad (shp Γ ad N o Z))) (gEv Γ ad (shp Γ ad N o (mLay Z t))) 0 0 (AA Γ) := by
  refine Met.ofW (cc := cX4_lays) (maxL := 2) (ret := none) (by decide) rfl ?_
  intro p e s m args below meth c s₁ B hml hv
  obtain ⟨rfl, hK, hF⟩ := hv
  have hx := B.exec
  have hb := B.bytes
  have hr := B.returns
  have hts := atoms_spec (ws := ws_ yX4_lays cX4_lays 2 none) B.pre
  have hts : ∀ w ∈ lw_all, w.before _ s = true := fun w h => hts w (List.mem_cons_of_mem _ h)
  have hown : s.vm.findClass RX4 = some m.cls := findClass_of_methodNamed B.named
  have hlocks := B.notSynchronized
  have hS : va_S (AA Γ) s.heap s.heap [] := va_S.rf
  have hl := lv_entry ([.ref (ad 8 0), .int (nI t)]) (n := 2) (Nat.le_of_ble_eq_true rfl)
  rw [lg_entry_eq]
  generalize (lg_sl ([.ref (ad 8 0), .int (nI t)]) ++ List.replicate (2 - (lg_sl ([.ref (ad 8 0), .int (nI t)])).length) Slot.unset).toArray = ls at hl ⊢
  have hl : lv_has ls 2 [(0, .ref (ad 8 0)), (1, .int (nI t))] := hl
  refine lv_aload_n hx hb dX4_lays_0 rfl (lv_at hl 0 rfl) ?_
  refine r_get (ci := 5) (v := .ref (ad 8 11)) (T := TX4) (N := 22) hx hb hts in_X4 hown hK hF 8 0 rfl rfl 16 (by decide) (hts _ q696) (fun _ h9 => h9) rfl dX4_lays_1 ?_
  refine lv_iload_n hx hb dX4_lays_4 rfl (lv_at hl 1 rfl) ?_
  refine lv_aload_n hx hb dX4_lays_5 rfl (lv_at hl 0 rfl) ?_
  refine g_ci (va_runV (As := []) (rest := [.int (nI t), .ref (ad 8 11)]) ⟨hx, hb, hml, hown, hts⟩ (met_X4_core l Γ ad N o Z) (cwV 0 hts (lw_V q796 q798 qs16 q31 q799) rfl rfl rfl (by decide +kernel) ⟨Nat.le_of_ble_eq_true rfl, Nat.le_of_ble_eq_true rfl⟩) (SF_V hK hS hF (recvF hK hF 8 0 rfl rfl)) rfl rfl hl.1 rfl (lv_room (Nat.le_of_ble_eq_true rfl)) dX4_lays_6 ⟨Nat.le_of_ble_eq_true rfl, Nat.le_of_ble_eq_true rfl⟩) hS (fun H locs hF hS => ?_)
  refine lv_bipush (v := 6) hx hb dX4_lays_9 (by decide) ?_
  refine lv_idiv hx hb dX4_lays_11 (by decide) ?_
  refine s_iast hx hb hK hF hS 8 11 (fun _ => rfl) t rfl (by omega) (by omega) dX4_lays_12 (fun H locs hF hS => ?_)
  refine lv_aload_n hx hb dX4_lays_13 rfl (lv_at hl 0 rfl) ?_
  refine r_get (ci := 5) (v := .ref (ad 8 12)) (T := TX4) (N := 22) hx hb hts in_X4 hown hK hF 8 0 rfl rfl 17 (by decide) (hts _ q697) (fun _ h9 => h9) rfl dX4_lays_14 ?_
  refine lv_iload_n hx hb dX4_lays_17 rfl (lv_at hl 1 rfl) ?_
  refine lv_aload_n hx hb dX4_lays_18 rfl (lv_at hl 0 rfl) ?_
  refine r_get (ci := 5) (v := .ref (ad 8 1)) (T := TX4) (N := 22) hx hb hts in_X4 hown hK hF 8 0 rfl rfl 2 (by decide) (hts _ q682) (fun _ h9 => h9) rfl dX4_lays_19 ?_
  refine lv_bipush (v := 6) hx hb dX4_lays_22 (by decide) ?_
  refine s_iald hx hb hK hF 8 1 rfl 6 rfl (by decide) (by omega) dX4_lays_24 ?_
  refine s_iast hx hb hK hF hS 8 12 (fun _ => rfl) t rfl (by omega) (by omega) dX4_lays_25 (fun H locs hF hS => ?_)
  exact g_vret hx hb hr hlocks hF hS dX4_lays_26
set_option maxHeartbeats 4000000 in
set_option maxRecDepth 100000 in
/-- replica -/
theorem met_X4_replica (l : Launch) (Γ : Gm) (ad : Nat → Nat → Nat) (N : Nat → Nat) (o : Nat → Int64) (Z : Nat → Nat → Nat → Int32) : Met l yX4_replica (ws_ yX4_replica cX4_replica 6 (some .int)) ({ frames := 0, cells := 0, slots := 0, locals := 0 }) (va_Pc [.ref (ad 8 0)] (SF Γ ad (shp Γ ad N o Z))) (gEi Γ (mRep Z) ad (shp Γ ad N o Z)) 0 0 (AA Γ) := by
  refine Met.ofW (cc := cX4_replica) (maxL := 6) (ret := (some .int)) (by decide) rfl ?_
  intro p e s m args below meth c s₁ B hml hv
  obtain ⟨rfl, hK, hF⟩ := hv
  have hx := B.exec
  have hb := B.bytes
  have hr := B.returns
  have hts := atoms_spec (ws := ws_ yX4_replica cX4_replica 6 (some .int)) B.pre
  have hts : ∀ w ∈ lw_all, w.before _ s = true := fun w h => hts w (List.mem_cons_of_mem _ h)
  have hown : s.vm.findClass RX4 = some m.cls := findClass_of_methodNamed B.named
  have hlocks := B.notSynchronized
  have hS : va_S (AA Γ) s.heap s.heap [] := va_S.rf
  have hl := lv_entry ([.ref (ad 8 0)]) (n := 6) (Nat.le_of_ble_eq_true rfl)
  rw [lg_entry_eq]
  generalize (lg_sl ([.ref (ad 8 0)]) ++ List.replicate (6 - (lg_sl ([.ref (ad 8 0)])).length) Slot.unset).toArray = ls at hl ⊢
  have hl : lv_has ls 6 [(0, .ref (ad 8 0))] := hl
  refine lv_lconst (v := 0) hx hb dX4_replica_0 (by decide) ?_
  refine lv_lstore_n (lv' := [(1, .long 0), (0, .ref (ad 8 0))]) hx hb dX4_replica_1 rfl hl (by decide) rfl (fun ls hl => ?_)
  refine lv_lconst (v := 0) hx hb dX4_replica_2 (by decide) ?_
  refine lv_lstore_n (lv' := [(3, .long 0), (1, .long 0), (0, .ref (ad 8 0))]) hx hb dX4_replica_3 rfl hl (by decide) rfl (fun ls hl => ?_)
  refine lv_iconst (v := 0) hx hb dX4_replica_4 (by decide) ?_
  refine lv_istore (lv' := [(5, .int 0), (3, .long 0), (1, .long 0), (0, .ref (ad 8 0))]) hx hb dX4_replica_5 hl (by decide) rfl (fun ls hl => ?_)
  have LP : ∀ (u7 i : Nat) (x1 : Int64) (x3 : Int64) (x5 : Int32) , i + u7 = 6 → 0 ≤ i → x1 = smL (fun t => (Z 8 11 t).toInt64 * (Z 8 12 t).toInt64) 0 i → x3 = smL (fun t => (Z 8 11 t).toInt64) 0 i → x5 = nI i → ∀ (H : Heap) (locs : List Loc), FF Γ ad (shp Γ ad N o Z) H → va_S (AA Γ) s.heap H locs → ∀ (ls : Array Slot), lv_has ls 6 [(5, .int x5), (3, .long x3), (1, .long x1), (0, .ref (ad 8 0))] → W p l e (headSpec (ws_ yX4_replica cX4_replica 6 (some .int)) ({ frames := 0, cells := 0, slots := 0, locals := 0 })).room s m ([.ref (ad 8 0)] : List Value).toArray below meth c H locs 0 0 (MQ below (gEi Γ (mRep Z) ad (shp Γ ad N o Z)) ([.ref (ad 8 0)] : List Value).toArray s 0 0 (AA Γ)) (F0 m 7 ls []) := by
    intro u7
    induction u7 with
    | zero =>
      intro i x1 x3 x5  hi hs e1 e3 e5 H locs hF hS ls hl
      subst e1
      subst e3
      subst e5
      obtain rfl : i = 6 := by omega
      refine lv_iload hx hb dX4_replica_7 (lv_at hl 0 rfl) ?_
      refine lv_bipush (v := 6) hx hb dX4_replica_9 (by decide) ?_
      refine lv_icmp_ge (tgt := 51) hx hb dX4_replica_11 (by decide) (fun c11 => ?_) (fun c11 => ?_)
      · refine lv_lload_n hx hb dX4_replica_51 rfl (lv_at hl 1 rfl) ?_
        refine lv_lconst (v := 0) hx hb dX4_replica_52 (by decide) ?_
        refine W.lcmp hx hb dX4_replica_53 ?_
        refine lv_if_ne (tgt := 61) hx hb dX4_replica_54 (by decide) (fun c54 => ?_) (fun c54 => ?_)
        · refine lv_lload_n hx hb dX4_replica_61 rfl (lv_at hl 2 rfl) ?_
          refine lv_lload_n hx hb dX4_replica_62 rfl (lv_at hl 1 rfl) ?_
          refine lv_ldiv hx hb dX4_replica_63 (fun q => c54 ((lg_cmp_eq _ _).mpr q)) ?_
          refine lv_l2i hx hb dX4_replica_64 rfl ?_
          rw [show mRep Z = _ from if_neg (fun q => c54 ((lg_cmp_eq _ _).mpr q))]
          exact g_iret hx hb hr hlocks hF hS dX4_replica_65
        · refine lv_iconst (v := 0) hx hb dX4_replica_57 (by decide) ?_
          refine lv_goto (tgt := 65) hx hb dX4_replica_58 (by decide) ?_
          rw [show mRep Z = _ from if_pos ((lg_cmp_eq _ _).mp c54)]
          exact g_iret hx hb hr hlocks hF hS dX4_replica_65
      · exact absurd (nI_le (a := 6) (b := 6) (Nat.le_refl _) (by omega)) c11
    | succ u7 ih =>
      intro i x1 x3 x5  hi hs e1 e3 e5 H locs hF hS ls hl
      subst e1
      subst e3
      subst e5
      refine lv_iload hx hb dX4_replica_7 (lv_at hl 0 rfl) ?_
      refine lv_bipush (v := 6) hx hb dX4_replica_9 (by decide) ?_
      refine lv_icmp_ge (tgt := 51) hx hb dX4_replica_11 (by decide) (fun c11 => ?_) (fun c11 => ?_)
      · exact absurd c11 (nI_ge (a := i) (b := 6) (by omega) (by omega))
      · refine lv_lload_n hx hb dX4_replica_14 rfl (lv_at hl 2 rfl) ?_
        refine lv_aload_n hx hb dX4_replica_15 rfl (lv_at hl 3 rfl) ?_
        refine r_get (ci := 5) (v := .ref (ad 8 11)) (T := TX4) (N := 22) hx hb hts in_X4 hown hK hF 8 0 rfl rfl 16 (by decide) (hts _ q696) (fun _ h9 => h9) rfl dX4_replica_16 ?_
        refine lv_iload hx hb dX4_replica_19 (lv_at hl 0 rfl) ?_
        refine s_iald hx hb hK hF 8 11 rfl i rfl (by omega) (by omega) dX4_replica_21 ?_
        refine lv_i2l hx hb dX4_replica_22 rfl ?_
        refine lv_aload_n hx hb dX4_replica_23 rfl (lv_at hl 3 rfl) ?_
        refine r_get (ci := 5) (v := .ref (ad 8 12)) (T := TX4) (N := 22) hx hb hts in_X4 hown hK hF 8 0 rfl rfl 17 (by decide) (hts _ q697) (fun _ h9 => h9) rfl dX4_replica_24 ?_
        refine lv_iload hx hb dX4_replica_27 (lv_at hl 0 rfl) ?_
        refine s_iald hx hb hK hF 8 12 rfl i rfl (by omega) (by omega) dX4_replica_29 ?_
        refine lv_i2l hx hb dX4_replica_30 rfl ?_
        refine lv_lmul hx hb dX4_replica_31 ?_
        refine lv_ladd hx hb dX4_replica_32 ?_
        refine lv_lstore_n (lv' := [(1, .long ((smL (fun t => (Z 8 11 t).toInt64 * (Z 8 12 t).toInt64) 0 i) + (((Z 8 11 i).toInt64) * ((Z 8 12 i).toInt64)))), (5, .int (nI i)), (3, .long (smL (fun t => (Z 8 11 t).toInt64) 0 i)), (0, .ref (ad 8 0))]) hx hb dX4_replica_33 rfl hl (by decide) rfl (fun ls hl => ?_)
        refine lv_lload_n hx hb dX4_replica_34 rfl (lv_at hl 2 rfl) ?_
        refine lv_aload_n hx hb dX4_replica_35 rfl (lv_at hl 3 rfl) ?_
        refine r_get (ci := 5) (v := .ref (ad 8 11)) (T := TX4) (N := 22) hx hb hts in_X4 hown hK hF 8 0 rfl rfl 16 (by decide) (hts _ q696) (fun _ h9 => h9) rfl dX4_replica_36 ?_
        refine lv_iload hx hb dX4_replica_39 (lv_at hl 1 rfl) ?_
        refine s_iald hx hb hK hF 8 11 rfl i rfl (by omega) (by omega) dX4_replica_41 ?_
        refine lv_i2l hx hb dX4_replica_42 rfl ?_
        refine lv_ladd hx hb dX4_replica_43 ?_
        refine lv_lstore_n (lv' := [(3, .long ((smL (fun t => (Z 8 11 t).toInt64) 0 i) + ((Z 8 11 i).toInt64))), (1, .long ((smL (fun t => (Z 8 11 t).toInt64 * (Z 8 12 t).toInt64) 0 i) + (((Z 8 11 i).toInt64) * ((Z 8 12 i).toInt64)))), (5, .int (nI i)), (0, .ref (ad 8 0))]) hx hb dX4_replica_44 rfl hl (by decide) rfl (fun ls hl => ?_)
        refine lv_iinc (v := nI (i + 1)) (lv' := [(5, .int (nI (i + 1))), (3, .long ((smL (fun t => (Z 8 11 t).toInt64) 0 i) + ((Z 8 11 i).toInt64))), (1, .long ((smL (fun t => (Z 8 11 t).toInt64 * (Z 8 12 t).toInt64) 0 i) + (((Z 8 11 i).toInt64) * ((Z 8 12 i).toInt64)))), (0, .ref (ad 8 0))]) hx hb dX4_replica_45 hl (k := 2) rfl (nI_1 _) (by decide) rfl (fun ls hl => ?_)
        refine lv_goto (tgt := 7) hx hb dX4_replica_48 (by decide) ?_
        exact ih (i + 1) _ _ _ (by omega) (by omega) (smL_s (Nat.zero_le _)) (smL_s (Nat.zero_le _)) rfl _ _ hF hS ls (lv_sub hl [0, 1, 2, 3] rfl)
  exact LP (6 - 0) 0 _ _ _ (by omega) (Nat.le_refl _) rfl rfl rfl _ _ hF hS ls hl
set_option maxHeartbeats 4000000 in
set_option maxRecDepth 100000 in
/-- isPaid -/
theorem met_X4_isPaid (l : Launch) (Γ : Gm) (ad : Nat → Nat → Nat) (N : Nat → Nat) (o : Nat → Int64) (Z : Nat → Nat → Nat → Int32) (b : Nat) (hb3 : b < 3) : Met l yX4_isPaid (ws_ yX4_isPaid cX4_isPaid 4 (some .int)) ({ frames := 1, cells := 0, slots := 0, locals := 25 }) (va_Pc [.ref (ad 8 0), .int (nI b)] (SF Γ ad (shp Γ ad N o Z))) (gEi Γ (mPaid Z b) ad (shp Γ ad N o Z)) 0 0 (AA Γ) := by
  refine Met.ofW (cc := cX4_isPaid) (maxL := 4) (ret := (some .int)) (by decide) rfl ?_
  intro p e s m args below meth c s₁ B hml hv
  obtain ⟨rfl, hK, hF⟩ := hv
  have hx := B.exec
  have hb := B.bytes
  have hr := B.returns
  have hts := atoms_spec (ws := ws_ yX4_isPaid cX4_isPaid 4 (some .int)) B.pre
  have hts : ∀ w ∈ lw_all, w.before _ s = true := fun w h => hts w (List.mem_cons_of_mem _ h)
  have hown : s.vm.findClass RX4 = some m.cls := findClass_of_methodNamed B.named
  have hlocks := B.notSynchronized
  have hS : va_S (AA Γ) s.heap s.heap [] := va_S.rf
  have hl := lv_entry ([.ref (ad 8 0), .int (nI b)]) (n := 4) (Nat.le_of_ble_eq_true rfl)
  rw [lg_entry_eq]
  generalize (lg_sl ([.ref (ad 8 0), .int (nI b)]) ++ List.replicate (4 - (lg_sl ([.ref (ad 8 0), .int (nI b)])).length) Slot.unset).toArray = ls at hl ⊢
  have hl : lv_has ls 4 [(0, .ref (ad 8 0)), (1, .int (nI b))] := hl
  refine lv_aload_n hx hb dX4_isPaid_0 rfl (lv_at hl 0 rfl) ?_
  refine r_get (ci := 5) (v := .ref (ad 8 10)) (T := TX4) (N := 22) hx hb hts in_X4 hown hK hF 8 0 rfl rfl 15 (by decide) (hts _ q695) (fun _ h9 => h9) rfl dX4_isPaid_1 ?_
  refine lv_iload_n hx hb dX4_isPaid_4 rfl (lv_at hl 1 rfl) ?_
  refine s_iald hx hb hK hF 8 10 rfl b rfl (by omega) (by omega) dX4_isPaid_5 ?_
  refine lv_i2l hx hb dX4_isPaid_6 rfl ?_
  refine lv_aload_n hx hb dX4_isPaid_7 rfl (lv_at hl 0 rfl) ?_
  refine r_get (ci := 5) (v := .int (Z 8 0 4)) (T := TX4) (N := 22) hx hb hts in_X4 hown hK hF 8 0 rfl rfl 5 (by decide) (hts _ q685) (fun _ h9 => h9) rfl dX4_isPaid_8 ?_
  refine lv_i2l hx hb dX4_isPaid_11 rfl ?_
  refine lv_lmul hx hb dX4_isPaid_12 ?_
  refine lv_ldc2 (v := 100) hx hb hown (hts _ q800) dX4_isPaid_13 ?_
  refine lv_ldiv hx hb dX4_isPaid_16 (by decide) ?_
  refine lv_lstore_n (lv' := [(2, .long ((((Z 8 10 b).toInt64) * ((Z 8 0 4).toInt64)) / 100)), (0, .ref (ad 8 0)), (1, .int (nI b))]) hx hb dX4_isPaid_17 rfl hl (by decide) rfl (fun ls hl => ?_)
  refine lv_lload_n hx hb dX4_isPaid_18 rfl (lv_at hl 0 rfl) ?_
  refine lv_aload_n hx hb dX4_isPaid_19 rfl (lv_at hl 1 rfl) ?_
  refine g_ci (va_runV (As := []) (rest := [.long ((((Z 8 10 b).toInt64) * ((Z 8 0 4).toInt64)) / 100)]) ⟨hx, hb, hml, hown, hts⟩ (met_X4_replica l Γ ad N o Z) (cwV 0 hts (lw_V q814 q816 qs19 q31 q817) rfl rfl rfl (by decide +kernel) ⟨Nat.le_of_ble_eq_true rfl, Nat.le_of_ble_eq_true rfl⟩) (SF_V hK hS hF (recvF hK hF 8 0 rfl rfl)) rfl rfl hl.1 rfl (lv_room (Nat.le_of_ble_eq_true rfl)) dX4_isPaid_20 ⟨Nat.le_of_ble_eq_true rfl, Nat.le_of_ble_eq_true rfl⟩) hS (fun H locs hF hS => ?_)
  refine lv_i2l hx hb dX4_isPaid_23 rfl ?_
  refine lv_lmul hx hb dX4_isPaid_24 ?_
  refine lv_aload_n hx hb dX4_isPaid_25 rfl (lv_at hl 1 rfl) ?_
  refine r_get (ci := 5) (v := .ref (ad 8 10)) (T := TX4) (N := 22) hx hb hts in_X4 hown hK hF 8 0 rfl rfl 15 (by decide) (hts _ q695) (fun _ h9 => h9) rfl dX4_isPaid_26 ?_
  refine lv_iload_n hx hb dX4_isPaid_29 rfl (lv_at hl 2 rfl) ?_
  refine s_iald hx hb hK hF 8 10 rfl b rfl (by omega) (by omega) dX4_isPaid_30 ?_
  refine lv_i2l hx hb dX4_isPaid_31 rfl ?_
  refine lv_lload_n hx hb dX4_isPaid_32 rfl (lv_at hl 0 rfl) ?_
  refine lv_lsub hx hb dX4_isPaid_33 ?_
  refine lv_aload_n hx hb dX4_isPaid_34 rfl (lv_at hl 1 rfl) ?_
  refine r_get (ci := 5) (v := .ref (ad 8 1)) (T := TX4) (N := 22) hx hb hts in_X4 hown hK hF 8 0 rfl rfl 2 (by decide) (hts _ q682) (fun _ h9 => h9) rfl dX4_isPaid_35 ?_
  refine lv_iconst (v := 1) hx hb dX4_isPaid_38 (by decide) ?_
  refine s_iald hx hb hK hF 8 1 rfl 1 rfl (by decide) (by omega) dX4_isPaid_39 ?_
  refine lv_i2l hx hb dX4_isPaid_40 rfl ?_
  refine lv_lmul hx hb dX4_isPaid_41 ?_
  refine lv_ladd hx hb dX4_isPaid_42 ?_
  refine lv_ldc2 (v := 120000) hx hb hown (hts _ q809) dX4_isPaid_43 ?_
  refine lv_ldiv hx hb dX4_isPaid_46 (by decide) ?_
  refine lv_l2i hx hb dX4_isPaid_47 rfl ?_
  exact g_iret hx hb hr hlocks hF hS dX4_isPaid_48
set_option maxHeartbeats 4000000 in
set_option maxRecDepth 100000 in
/-- pays -/
theorem met_X4_pays (l : Launch) (Γ : Gm) (ad : Nat → Nat → Nat) (N : Nat → Nat) (o : Nat → Int64) (Z : Nat → Nat → Nat → Int32) (b : Nat) (hb3 : b < 3) : Met l yX4_pays (ws_ yX4_pays cX4_pays 2 (some .int)) ({ frames := 0, cells := 0, slots := 0, locals := 0 }) (va_Pc [.ref (ad 8 0), .int (nI b)] (SF Γ ad (shp Γ ad N o Z))) (gEi Γ (mPays Z b) ad (shp Γ ad N o Z)) 0 0 (AA Γ) := by
  refine Met.ofW (cc := cX4_pays) (maxL := 2) (ret := (some .int)) (by decide) rfl ?_
  intro p e s m args below meth c s₁ B hml hv
  obtain ⟨rfl, hK, hF⟩ := hv
  have hx := B.exec
  have hb := B.bytes
  have hr := B.returns
  have hts := atoms_spec (ws := ws_ yX4_pays cX4_pays 2 (some .int)) B.pre
  have hts : ∀ w ∈ lw_all, w.before _ s = true := fun w h => hts w (List.mem_cons_of_mem _ h)
  have hown : s.vm.findClass RX4 = some m.cls := findClass_of_methodNamed B.named
  have hlocks := B.notSynchronized
  have hS : va_S (AA Γ) s.heap s.heap [] := va_S.rf
  have hl := lv_entry ([.ref (ad 8 0), .int (nI b)]) (n := 2) (Nat.le_of_ble_eq_true rfl)
  rw [lg_entry_eq]
  generalize (lg_sl ([.ref (ad 8 0), .int (nI b)]) ++ List.replicate (2 - (lg_sl ([.ref (ad 8 0), .int (nI b)])).length) Slot.unset).toArray = ls at hl ⊢
  have hl : lv_has ls 2 [(0, .ref (ad 8 0)), (1, .int (nI b))] := hl
  refine lv_aload_n hx hb dX4_pays_0 rfl (lv_at hl 0 rfl) ?_
  refine r_get (ci := 5) (v := .ref (ad 8 10)) (T := TX4) (N := 22) hx hb hts in_X4 hown hK hF 8 0 rfl rfl 15 (by decide) (hts _ q695) (fun _ h9 => h9) rfl dX4_pays_1 ?_
  refine lv_iload_n hx hb dX4_pays_4 rfl (lv_at hl 1 rfl) ?_
  refine s_iald hx hb hK hF 8 10 rfl b rfl (by omega) (by omega) dX4_pays_5 ?_
  refine lv_i2l hx hb dX4_pays_6 rfl ?_
  refine lv_aload_n hx hb dX4_pays_7 rfl (lv_at hl 0 rfl) ?_
  refine r_get (ci := 5) (v := .int (Z 8 0 2)) (T := TX4) (N := 22) hx hb hts in_X4 hown hK hF 8 0 rfl rfl 3 (by decide) (hts _ q683) (fun _ h9 => h9) rfl dX4_pays_8 ?_
  refine lv_i2l hx hb dX4_pays_11 rfl ?_
  refine lv_lmul hx hb dX4_pays_12 ?_
  refine lv_ldc2 (v := 120000) hx hb hown (hts _ q809) dX4_pays_13 ?_
  refine lv_ldiv hx hb dX4_pays_16 (by decide) ?_
  refine lv_l2i hx hb dX4_pays_17 rfl ?_
  exact g_iret hx hb hr hlocks hF hS dX4_pays_18
