set_option maxHeartbeats 4000000 in
set_option maxRecDepth 100000 in
/-- isIn -/
theorem met_X1_isIn (l : Launch) (Γ : Gm) (ad : Nat → Nat → Nat) (P : Pic) (v a b : Int32) : Met l yX1_isIn (ws_ yX1_isIn cX1_isIn 3 (some .boolean)) ({ frames := 0, cells := 0, slots := 0, locals := 0 }) (va_Pc [.int v, .int a, .int b] (SF Γ ad (P))) (gEi Γ (bI (a ≤ v ∧ v ≤ b)) ad P) 0 0 (AA Γ) := by
  refine Met.ofW (cc := cX1_isIn) (maxL := 3) (ret := (some .boolean)) (by decide) rfl ?_
  intro p e s m args below meth c s₁ B hml hv
  obtain ⟨rfl, hK, hF⟩ := hv
  have hx := B.exec
  have hb := B.bytes
  have hr := B.returns
  have hts := atoms_spec (ws := ws_ yX1_isIn cX1_isIn 3 (some .boolean)) B.pre
  have hts : ∀ w ∈ lw_all, w.before _ s = true := fun w h => hts w (List.mem_cons_of_mem _ h)
  have hown : s.vm.findClass RX1 = some m.cls := findClass_of_methodNamed B.named
  have hlocks := B.notSynchronized
  have hS : va_S (AA Γ) s.heap s.heap [] := va_S.rf
  have hl := lv_entry ([.int v, .int a, .int b]) (n := 3) (Nat.le_of_ble_eq_true rfl)
  rw [lg_entry_eq]
  generalize (lg_sl ([.int v, .int a, .int b]) ++ List.replicate (3 - (lg_sl ([.int v, .int a, .int b])).length) Slot.unset).toArray = ls at hl ⊢
  have hl : lv_has ls 3 [(0, .int v), (1, .int a), (2, .int b)] := hl
  refine lv_iload_n hx hb dX1_isIn_0 rfl (lv_at hl 0 rfl) ?_
  refine lv_iload_n hx hb dX1_isIn_1 rfl (lv_at hl 1 rfl) ?_
  refine lv_icmp_lt (tgt := 14) hx hb dX1_isIn_2 (by decide) (fun c2 => ?_) (fun c2 => ?_)
  · refine lv_iconst (v := 0) hx hb dX1_isIn_14 (by decide) ?_
    rw [show bI (a ≤ v ∧ v ≤ b) = 0 from if_neg (fun h => absurd h.1 (Int32.not_le.mpr c2))]
    exact g_zret hx hb hr hlocks rfl hF hS dX1_isIn_15
  · refine lv_iload_n hx hb dX1_isIn_5 rfl (lv_at hl 0 rfl) ?_
    refine lv_iload_n hx hb dX1_isIn_6 rfl (lv_at hl 2 rfl) ?_
    refine lv_icmp_gt (tgt := 14) hx hb dX1_isIn_7 (by decide) (fun c7 => ?_) (fun c7 => ?_)
    · refine lv_iconst (v := 0) hx hb dX1_isIn_14 (by decide) ?_
      rw [show bI (a ≤ v ∧ v ≤ b) = 0 from if_neg (fun h => absurd h.2 (Int32.not_le.mpr c7))]
      exact g_zret hx hb hr hlocks rfl hF hS dX1_isIn_15
    · refine lv_iconst (v := 1) hx hb dX1_isIn_10 (by decide) ?_
      refine lv_goto (tgt := 15) hx hb dX1_isIn_11 (by decide) ?_
      rw [show bI (a ≤ v ∧ v ≤ b) = 1 from if_pos ⟨Int32.not_lt.mp c2, Int32.not_lt.mp c7⟩]
      exact g_zret hx hb hr hlocks rfl hF hS dX1_isIn_15
set_option maxHeartbeats 4000000 in
set_option maxRecDepth 100000 in
/-- exists -/
theorem met_X1_exists (l : Launch) (Γ : Gm) (ad : Nat → Nat → Nat) (P : Pic) (k n : Int32) (h : 0 ≤ k ∧ k < n) : Met l yX1_exists (ws_ yX1_exists cX1_exists 2 none) ({ frames := 0, cells := 0, slots := 0, locals := 0 }) (va_Pc [.int k, .int n] (SF Γ ad (P))) (gEv Γ ad P) 0 0 (AA Γ) := by
  refine Met.ofW (cc := cX1_exists) (maxL := 2) (ret := none) (by decide) rfl ?_
  intro p e s m args below meth c s₁ B hml hv
  obtain ⟨rfl, hK, hF⟩ := hv
  have hx := B.exec
  have hb := B.bytes
  have hr := B.returns
  have hts := atoms_spec (ws := ws_ yX1_exists cX1_exists 2 none) B.pre
  have hts : ∀ w ∈ lw_all, w.before _ s = true := fun w h => hts w (List.mem_cons_of_mem _ h)
  have hown : s.vm.findClass RX1 = some m.cls := findClass_of_methodNamed B.named
  have hlocks := B.notSynchronized
  have hS : va_S (AA Γ) s.heap s.heap [] := va_S.rf
  have hl := lv_entry ([.int k, .int n]) (n := 2) (Nat.le_of_ble_eq_true rfl)
  rw [lg_entry_eq]
  generalize (lg_sl ([.int k, .int n]) ++ List.replicate (2 - (lg_sl ([.int k, .int n])).length) Slot.unset).toArray = ls at hl ⊢
  have hl : lv_has ls 2 [(0, .int k), (1, .int n)] := hl
  refine lv_iload_n hx hb dX1_exists_0 rfl (lv_at hl 0 rfl) ?_
  refine lv_if_lt (tgt := 9) hx hb dX1_exists_1 (by decide) (fun c1 => absurd c1 (Int32.not_lt.mpr h.1)) (fun c1 => ?_)
  refine lv_iload_n hx hb dX1_exists_4 rfl (lv_at hl 0 rfl) ?_
  refine lv_iload_n hx hb dX1_exists_5 rfl (lv_at hl 1 rfl) ?_
  refine lv_icmp_lt (tgt := 17) hx hb dX1_exists_6 (by decide) (fun c6 => ?_) (fun c6 => absurd h.2 c6)
  exact g_vret hx hb hr hlocks hF hS dX1_exists_17
set_option maxHeartbeats 4000000 in
set_option maxRecDepth 100000 in
/-- exists -/
theorem xet_X1_exists (l : Launch) (hst : l.stackTraces = false) (Γ : Gm) (ad : Nat → Nat → Nat) (P : Pic) (k n : Int32) (h : ¬ (0 ≤ k ∧ k < n)) : vx_Met l yX1_exists (ws_ yX1_exists cX1_exists 2 none) ({ frames := 6, cells := 1, slots := 6, locals := 81 }) (va_Pc [.int k, .int n] (SF Γ ad (P))) (gNv Γ) (gX Γ (fun E => E = xOB) ad (P)) 1 6 (AA Γ) := by
  refine vx_ofW (cc := cX1_exists) (maxL := 2) (ret := none) (by decide) rfl ?_
  intro p e s m args below meth c s₁ B hml hno hv
  obtain ⟨rfl, hK, hF⟩ := hv
  have hx := B.exec
  have hb := B.bytes
  have hr := B.returns
  have hts := atoms_spec (ws := ws_ yX1_exists cX1_exists 2 none) B.pre
  have hts : ∀ w ∈ lw_all, w.before _ s = true := fun w h => hts w (List.mem_cons_of_mem _ h)
  have hown : s.vm.findClass RX1 = some m.cls := findClass_of_methodNamed B.named
  have hlocks := B.notSynchronized
  have hS : va_S (AA Γ) s.heap s.heap [] := va_S.rf
  have hl := lv_entry ([.int k, .int n]) (n := 2) (Nat.le_of_ble_eq_true rfl)
  rw [lg_entry_eq]
  generalize (lg_sl ([.int k, .int n]) ++ List.replicate (2 - (lg_sl ([.int k, .int n])).length) Slot.unset).toArray = ls at hl ⊢
  have hl : lv_has ls 2 [(0, .int k), (1, .int n)] := hl
  refine lv_iload_n hx hb dX1_exists_0 rfl (lv_at hl 0 rfl) ?_
  refine lv_if_lt (tgt := 9) hx hb dX1_exists_1 (by decide) (fun c1 => ?_) (fun c1 => ?_)
  · exact gx_throw hx hb hst (names := ["java/lang/RuntimeException", "java/lang/Exception"]) hown (by decide) (by decide) (hts _ q273) (hts _ q35) (ex_OB hts hK) (by decide +kernel) hK hF hS (hl.1.trans hml.symm) dX1_exists_9 dX1_exists_12 dX1_exists_13 dX1_exists_16 hno (Nat.le_of_ble_eq_true rfl) (Nat.le_of_ble_eq_true rfl) (Nat.le_of_ble_eq_true rfl) (Nat.le_of_ble_eq_true rfl) hlocks rfl (Nat.le_of_ble_eq_true rfl) (Nat.le_of_ble_eq_true rfl)
  · refine lv_iload_n hx hb dX1_exists_4 rfl (lv_at hl 0 rfl) ?_
    refine lv_iload_n hx hb dX1_exists_5 rfl (lv_at hl 1 rfl) ?_
    refine lv_icmp_lt (tgt := 17) hx hb dX1_exists_6 (by decide) (fun c6 => ?_) (fun c6 => ?_)
    · exact absurd ⟨Int32.not_lt.mp c1, c6⟩ h
    · exact gx_throw hx hb hst (names := ["java/lang/RuntimeException", "java/lang/Exception"]) hown (by decide) (by decide) (hts _ q273) (hts _ q35) (ex_OB hts hK) (by decide +kernel) hK hF hS (hl.1.trans hml.symm) dX1_exists_9 dX1_exists_12 dX1_exists_13 dX1_exists_16 hno (Nat.le_of_ble_eq_true rfl) (Nat.le_of_ble_eq_true rfl) (Nat.le_of_ble_eq_true rfl) (Nat.le_of_ble_eq_true rfl) hlocks rfl (Nat.le_of_ble_eq_true rfl) (Nat.le_of_ble_eq_true rfl)
set_option maxHeartbeats 4000000 in
set_option maxRecDepth 100000 in
/-- want -/
theorem met_X1_want (l : Launch) (Γ : Gm) (ad : Nat → Nat → Nat) (P : Pic) : Met l yX1_want (ws_ yX1_want cX1_want 1 none) ({ frames := 0, cells := 0, slots := 0, locals := 0 }) (va_Pc [.int 1] (SF Γ ad (P))) (gEv Γ ad P) 0 0 (AA Γ) := by
  refine Met.ofW (cc := cX1_want) (maxL := 1) (ret := none) (by decide) rfl ?_
  intro p e s m args below meth c s₁ B hml hv
  obtain ⟨rfl, hK, hF⟩ := hv
  have hx := B.exec
  have hb := B.bytes
  have hr := B.returns
  have hts := atoms_spec (ws := ws_ yX1_want cX1_want 1 none) B.pre
  have hts : ∀ w ∈ lw_all, w.before _ s = true := fun w h => hts w (List.mem_cons_of_mem _ h)
  have hown : s.vm.findClass RX1 = some m.cls := findClass_of_methodNamed B.named
  have hlocks := B.notSynchronized
  have hS : va_S (AA Γ) s.heap s.heap [] := va_S.rf
  have hl := lv_entry ([.int 1]) (n := 1) (Nat.le_of_ble_eq_true rfl)
  rw [lg_entry_eq]
  generalize (lg_sl ([.int 1]) ++ List.replicate (1 - (lg_sl ([.int 1])).length) Slot.unset).toArray = ls at hl ⊢
  have hl : lv_has ls 1 [(0, .int 1)] := hl
  refine lv_iload_n hx hb dX1_want_0 rfl (lv_at hl 0 rfl) ?_
  refine lv_if_ne (tgt := 12) hx hb dX1_want_1 (by decide) (fun _ => ?_) (fun c1 => absurd c1 (by decide))
  exact g_vret hx hb hr hlocks hF hS dX1_want_12
set_option maxHeartbeats 4000000 in
set_option maxRecDepth 100000 in
/-- want -/
theorem xet_X1_want (l : Launch) (hst : l.stackTraces = false) (Γ : Gm) (ad : Nat → Nat → Nat) (P : Pic) : vx_Met l yX1_want (ws_ yX1_want cX1_want 1 none) ({ frames := 6, cells := 1, slots := 6, locals := 81 }) (va_Pc [.int 0] (SF Γ ad (P))) (gNv Γ) (gX Γ (fun E => E = xIA) ad (P)) 1 6 (AA Γ) := by
  refine vx_ofW (cc := cX1_want) (maxL := 1) (ret := none) (by decide) rfl ?_
  intro p e s m args below meth c s₁ B hml hno hv
  obtain ⟨rfl, hK, hF⟩ := hv
  have hx := B.exec
  have hb := B.bytes
  have hr := B.returns
  have hts := atoms_spec (ws := ws_ yX1_want cX1_want 1 none) B.pre
  have hts : ∀ w ∈ lw_all, w.before _ s = true := fun w h => hts w (List.mem_cons_of_mem _ h)
  have hown : s.vm.findClass RX1 = some m.cls := findClass_of_methodNamed B.named
  have hlocks := B.notSynchronized
  have hS : va_S (AA Γ) s.heap s.heap [] := va_S.rf
  have hl := lv_entry ([.int 0]) (n := 1) (Nat.le_of_ble_eq_true rfl)
  rw [lg_entry_eq]
  generalize (lg_sl ([.int 0]) ++ List.replicate (1 - (lg_sl ([.int 0])).length) Slot.unset).toArray = ls at hl ⊢
  have hl : lv_has ls 1 [(0, .int 0)] := hl
  refine lv_iload_n hx hb dX1_want_0 rfl (lv_at hl 0 rfl) ?_
  refine lv_if_ne (tgt := 12) hx hb dX1_want_1 (by decide) (fun c1 => absurd (by decide) c1) (fun _ => ?_)
  exact gx_throw hx hb hst (names := ["java/lang/RuntimeException", "java/lang/Exception"]) hown (by decide) (by decide) (hts _ q300) (hts _ q38) (ex_IA hts hK) (by decide +kernel) hK hF hS (hl.1.trans hml.symm) dX1_want_4 dX1_want_7 dX1_want_8 dX1_want_11 hno (Nat.le_of_ble_eq_true rfl) (Nat.le_of_ble_eq_true rfl) (Nat.le_of_ble_eq_true rfl) (Nat.le_of_ble_eq_true rfl) hlocks rfl (Nat.le_of_ble_eq_true rfl) (Nat.le_of_ble_eq_true rfl)
set_option maxHeartbeats 4000000 in
set_option maxRecDepth 100000 in
/-- allow -/
theorem met_X1_allow (l : Launch) (Γ : Gm) (ad : Nat → Nat → Nat) (P : Pic) : Met l yX1_allow (ws_ yX1_allow cX1_allow 1 none) ({ frames := 0, cells := 0, slots := 0, locals := 0 }) (va_Pc [.int 1] (SF Γ ad (P))) (gEv Γ ad P) 0 0 (AA Γ) := by
  refine Met.ofW (cc := cX1_allow) (maxL := 1) (ret := none) (by decide) rfl ?_
  intro p e s m args below meth c s₁ B hml hv
  obtain ⟨rfl, hK, hF⟩ := hv
  have hx := B.exec
  have hb := B.bytes
  have hr := B.returns
  have hts := atoms_spec (ws := ws_ yX1_allow cX1_allow 1 none) B.pre
  have hts : ∀ w ∈ lw_all, w.before _ s = true := fun w h => hts w (List.mem_cons_of_mem _ h)
  have hown : s.vm.findClass RX1 = some m.cls := findClass_of_methodNamed B.named
  have hlocks := B.notSynchronized
  have hS : va_S (AA Γ) s.heap s.heap [] := va_S.rf
  have hl := lv_entry ([.int 1]) (n := 1) (Nat.le_of_ble_eq_true rfl)
  rw [lg_entry_eq]
  generalize (lg_sl ([.int 1]) ++ List.replicate (1 - (lg_sl ([.int 1])).length) Slot.unset).toArray = ls at hl ⊢
  have hl : lv_has ls 1 [(0, .int 1)] := hl
  refine lv_iload_n hx hb dX1_allow_0 rfl (lv_at hl 0 rfl) ?_
  refine lv_if_ne (tgt := 12) hx hb dX1_allow_1 (by decide) (fun _ => ?_) (fun c1 => absurd c1 (by decide))
  exact g_vret hx hb hr hlocks hF hS dX1_allow_12
set_option maxHeartbeats 4000000 in
set_option maxRecDepth 100000 in
/-- allow -/
theorem xet_X1_allow (l : Launch) (hst : l.stackTraces = false) (Γ : Gm) (ad : Nat → Nat → Nat) (P : Pic) : vx_Met l yX1_allow (ws_ yX1_allow cX1_allow 1 none) ({ frames := 6, cells := 1, slots := 6, locals := 81 }) (va_Pc [.int 0] (SF Γ ad (P))) (gNv Γ) (gX Γ (fun E => E = xIS) ad (P)) 1 6 (AA Γ) := by
  refine vx_ofW (cc := cX1_allow) (maxL := 1) (ret := none) (by decide) rfl ?_
  intro p e s m args below meth c s₁ B hml hno hv
  obtain ⟨rfl, hK, hF⟩ := hv
  have hx := B.exec
  have hb := B.bytes
  have hr := B.returns
  have hts := atoms_spec (ws := ws_ yX1_allow cX1_allow 1 none) B.pre
  have hts : ∀ w ∈ lw_all, w.before _ s = true := fun w h => hts w (List.mem_cons_of_mem _ h)
  have hown : s.vm.findClass RX1 = some m.cls := findClass_of_methodNamed B.named
  have hlocks := B.notSynchronized
  have hS : va_S (AA Γ) s.heap s.heap [] := va_S.rf
  have hl := lv_entry ([.int 0]) (n := 1) (Nat.le_of_ble_eq_true rfl)
  rw [lg_entry_eq]
  generalize (lg_sl ([.int 0]) ++ List.replicate (1 - (lg_sl ([.int 0])).length) Slot.unset).toArray = ls at hl ⊢
  have hl : lv_has ls 1 [(0, .int 0)] := hl
  refine lv_iload_n hx hb dX1_allow_0 rfl (lv_at hl 0 rfl) ?_
  refine lv_if_ne (tgt := 12) hx hb dX1_allow_1 (by decide) (fun c1 => absurd (by decide) c1) (fun _ => ?_)
  exact gx_throw hx hb hst (names := ["java/lang/RuntimeException", "java/lang/Exception"]) hown (by decide) (by decide) (hts _ q334) (hts _ q39) (ex_IS hts hK) (by decide +kernel) hK hF hS (hl.1.trans hml.symm) dX1_allow_4 dX1_allow_7 dX1_allow_8 dX1_allow_11 hno (Nat.le_of_ble_eq_true rfl) (Nat.le_of_ble_eq_true rfl) (Nat.le_of_ble_eq_true rfl) (Nat.le_of_ble_eq_true rfl) hlocks rfl (Nat.le_of_ble_eq_true rfl) (Nat.le_of_ble_eq_true rfl)
set_option maxHeartbeats 4000000 in
set_option maxRecDepth 100000 in
/-- size -/
theorem met_J2_size (l : Launch) (Γ : Gm) (ad : Nat → Nat → Nat) (P : Pic) {x y : Value} {z : Int32} (he6 : P 0 6 = some (.inr (1, [x, y, .int z]))) : Met l yJ2_size (ws_ yJ2_size cJ2_size 1 (some .int)) ({ frames := 0, cells := 0, slots := 0, locals := 0 }) (va_Pc [.ref (ad 0 6)] (SF Γ ad (P))) (gEi Γ z ad P) 0 0 (AA Γ) := by
  refine Met.ofW (cc := cJ2_size) (maxL := 1) (ret := (some .int)) (by decide) rfl ?_
  intro p e s m args below meth c s₁ B hml hv
  obtain ⟨rfl, hK, hF⟩ := hv
  have hx := B.exec
  have hb := B.bytes
  have hr := B.returns
  have hts := atoms_spec (ws := ws_ yJ2_size cJ2_size 1 (some .int)) B.pre
  have hts : ∀ w ∈ lw_all, w.before _ s = true := fun w h => hts w (List.mem_cons_of_mem _ h)
  have hown : s.vm.findClass RJ2 = some m.cls := findClass_of_methodNamed B.named
  have hlocks := B.notSynchronized
  have hS : va_S (AA Γ) s.heap s.heap [] := va_S.rf
  have hl := lv_entry ([.ref (ad 0 6)]) (n := 1) (Nat.le_of_ble_eq_true rfl)
  rw [lg_entry_eq]
  generalize (lg_sl ([.ref (ad 0 6)]) ++ List.replicate (1 - (lg_sl ([.ref (ad 0 6)])).length) Slot.unset).toArray = ls at hl ⊢
  have hl : lv_has ls 1 [(0, .ref (ad 0 6))] := hl
  refine lv_aload_n hx hb dJ2_size_0 rfl (lv_at hl 0 rfl) ?_
  refine r_get (ci := 1) (v := .int z) (T := TJ2) (N := 3) hx hb hts in_J2 hown hK hF 0 6 he6 rfl 2 (by decide) (hts _ q85) (fun _ h9 => h9) rfl dJ2_size_1 ?_
  exact g_iret hx hb hr hlocks hF hS dJ2_size_4
set_option maxHeartbeats 4000000 in
set_option maxRecDepth 100000 in
/-- checkIndex -/
theorem met_J16_checkIndex (l : Launch) (Γ : Gm) (ad : Nat → Nat → Nat) (P : Pic) (j n : Nat) (hj : j < n) (hn : n < 2 ^ 31) : Met l yJ16_checkIndex (ws_ yJ16_checkIndex cJ16_checkIndex 3 (some .int)) ({ frames := 0, cells := 0, slots := 0, locals := 0 }) (va_Pc [.int (nI j), .int (nI n), .null] (SF Γ ad (P))) (gEi Γ (nI j) ad P) 0 0 (AA Γ) := by
  refine Met.ofW (cc := cJ16_checkIndex) (maxL := 3) (ret := (some .int)) (by decide) rfl ?_
  intro p e s m args below meth c s₁ B hml hv
  obtain ⟨rfl, hK, hF⟩ := hv
  have hx := B.exec
  have hb := B.bytes
  have hr := B.returns
  have hts := atoms_spec (ws := ws_ yJ16_checkIndex cJ16_checkIndex 3 (some .int)) B.pre
  have hts : ∀ w ∈ lw_all, w.before _ s = true := fun w h => hts w (List.mem_cons_of_mem _ h)
  have hown : s.vm.findClass RJ16 = some m.cls := findClass_of_methodNamed B.named
  have hlocks := B.notSynchronized
  have hS : va_S (AA Γ) s.heap s.heap [] := va_S.rf
  have hl := lv_entry ([.int (nI j), .int (nI n), .null]) (n := 3) (Nat.le_of_ble_eq_true rfl)
  rw [lg_entry_eq]
  generalize (lg_sl ([.int (nI j), .int (nI n), .null]) ++ List.replicate (3 - (lg_sl ([.int (nI j), .int (nI n), .null])).length) Slot.unset).toArray = ls at hl ⊢
  have hl : lv_has ls 3 [(0, .int (nI j)), (1, .int (nI n)), (2, .null)] := hl
  refine lv_iload_n hx hb dJ16_checkIndex_0 rfl (lv_at hl 0 rfl) ?_
  refine lv_if_lt (tgt := 9) hx hb dJ16_checkIndex_1 (by decide) (fun c1 => absurd c1 (nI_pos (by omega))) (fun c1 => ?_)
  refine lv_iload_n hx hb dJ16_checkIndex_4 rfl (lv_at hl 0 rfl) ?_
  refine lv_iload_n hx hb dJ16_checkIndex_5 rfl (lv_at hl 1 rfl) ?_
  refine lv_icmp_lt (tgt := 16) hx hb dJ16_checkIndex_6 (by decide) (fun c6 => ?_) (fun c6 => absurd (nI_lt hj hn) c6)
  refine lv_iload_n hx hb dJ16_checkIndex_16 rfl (lv_at hl 0 rfl) ?_
  exact g_iret hx hb hr hlocks hF hS dJ16_checkIndex_17
set_option maxHeartbeats 4000000 in
set_option maxRecDepth 100000 in
/-- checkIndex -/
theorem met_J15_checkIndex (l : Launch) (Γ : Gm) (ad : Nat → Nat → Nat) (P : Pic) (j n : Nat) (hj : j < n) (hn : n < 2 ^ 31) : Met l yJ15_checkIndex (ws_ yJ15_checkIndex cJ15_checkIndex 2 (some .int)) ({ frames := 1, cells := 0, slots := 0, locals := 22 }) (va_Pc [.int (nI j), .int (nI n)] (SF Γ ad (P))) (gEi Γ (nI j) ad P) 0 0 (AA Γ) := by
  refine Met.ofW (cc := cJ15_checkIndex) (maxL := 2) (ret := (some .int)) (by decide) rfl ?_
  intro p e s m args below meth c s₁ B hml hv
  obtain ⟨rfl, hK, hF⟩ := hv
  have hx := B.exec
  have hb := B.bytes
  have hr := B.returns
  have hts := atoms_spec (ws := ws_ yJ15_checkIndex cJ15_checkIndex 2 (some .int)) B.pre
  have hts : ∀ w ∈ lw_all, w.before _ s = true := fun w h => hts w (List.mem_cons_of_mem _ h)
  have hown : s.vm.findClass RJ15 = some m.cls := findClass_of_methodNamed B.named
  have hlocks := B.notSynchronized
  have hS : va_S (AA Γ) s.heap s.heap [] := va_S.rf
  have hl := lv_entry ([.int (nI j), .int (nI n)]) (n := 2) (Nat.le_of_ble_eq_true rfl)
  rw [lg_entry_eq]
  generalize (lg_sl ([.int (nI j), .int (nI n)]) ++ List.replicate (2 - (lg_sl ([.int (nI j), .int (nI n)])).length) Slot.unset).toArray = ls at hl ⊢
  have hl : lv_has ls 2 [(0, .int (nI j)), (1, .int (nI n))] := hl
  refine lv_iload_n hx hb dJ15_checkIndex_0 rfl (lv_at hl 0 rfl) ?_
  refine lv_iload_n hx hb dJ15_checkIndex_1 rfl (lv_at hl 1 rfl) ?_
  refine lv_null hx hb dJ15_checkIndex_2 ?_
  refine g_ci (va_runS (As := [.int (nI j), .int (nI n), .null]) (rest := []) ⟨hx, hb, hml, hown, hts⟩ (met_J16_checkIndex l Γ ad P j n hj hn) (va_cwS 3 hts (lw_S q483 q484 q47 q485) rfl rfl rfl (by decide +kernel) ⟨Nat.le_of_ble_eq_true rfl, Nat.le_of_ble_eq_true rfl⟩) (SF_S hK hS hF) rfl rfl hl.1 rfl (lv_room (Nat.le_of_ble_eq_true rfl)) dJ15_checkIndex_3 ⟨Nat.le_of_ble_eq_true rfl, Nat.le_of_ble_eq_true rfl⟩) hS (fun H locs hF hS => ?_)
  exact g_iret hx hb hr hlocks hF hS dJ15_checkIndex_6
set_option maxHeartbeats 4000000 in
set_option maxRecDepth 100000 in
/-- elementData -/
theorem met_J2_elementData (l : Launch) (Γ : Gm) (ad : Nat → Nat → Nat) (P : Pic) {x : Value} {n cap : Nat} {f : Nat → Option Nat} {v : Nat} (he6 : P 0 6 = some (.inr (1, [x, .ref (ad 0 7), .int (nI n)]))) (he7 : P 0 7 = some (.inl (Γ.2.1 3, cap, rfs f))) (j : Nat) (hj : j < n) (hc : n ≤ cap) (hb31 : cap < 2 ^ 31) (hv : f j = some v) : Met l yJ2_elementData (ws_ yJ2_elementData cJ2_elementData 2 (some (.object "java/lang/Object"))) ({ frames := 0, cells := 0, slots := 0, locals := 0 }) (va_Pc [.ref (ad 0 6), .int (nI j)] (SF Γ ad (P))) (gEr Γ v ad P) 0 0 (AA Γ) := by
  refine Met.ofW (cc := cJ2_elementData) (maxL := 2) (ret := (some (.object "java/lang/Object"))) (by decide) rfl ?_
  intro p e s m args below meth c s₁ B hml hv
  obtain ⟨rfl, hK, hF⟩ := hv
  have hx := B.exec
  have hb := B.bytes
  have hr := B.returns
  have hts := atoms_spec (ws := ws_ yJ2_elementData cJ2_elementData 2 (some (.object "java/lang/Object"))) B.pre
  have hts : ∀ w ∈ lw_all, w.before _ s = true := fun w h => hts w (List.mem_cons_of_mem _ h)
  have hown : s.vm.findClass RJ2 = some m.cls := findClass_of_methodNamed B.named
  have hlocks := B.notSynchronized
  have hS : va_S (AA Γ) s.heap s.heap [] := va_S.rf
  have hl := lv_entry ([.ref (ad 0 6), .int (nI j)]) (n := 2) (Nat.le_of_ble_eq_true rfl)
  rw [lg_entry_eq]
  generalize (lg_sl ([.ref (ad 0 6), .int (nI j)]) ++ List.replicate (2 - (lg_sl ([.ref (ad 0 6), .int (nI j)])).length) Slot.unset).toArray = ls at hl ⊢
  have hl : lv_has ls 2 [(0, .ref (ad 0 6)), (1, .int (nI j))] := hl
  refine lv_aload_n hx hb dJ2_elementData_0 rfl (lv_at hl 0 rfl) ?_
  refine r_get (ci := 1) (v := .ref (ad 0 7)) (T := TJ2) (N := 3) hx hb hts in_J2 hown hK hF 0 6 he6 rfl 1 (by decide) (hts _ q84) (fun _ h9 => h9) rfl dJ2_elementData_1 ?_
  refine lv_iload_n hx hb dJ2_elementData_4 rfl (lv_at hl 1 rfl) ?_
  refine r_aald (v := .ref v) hx hb hK hF 0 7 3 rfl rfl he7 j rfl (by omega) (by omega) (congrArg va_rf hv) dJ2_elementData_5 ?_
  exact g_aret hx hb hr (Or.inl ⟨_, rfl⟩) hlocks hF hS dJ2_elementData_6
set_option maxHeartbeats 4000000 in
set_option maxRecDepth 100000 in
/-- get -/
theorem met_J2_get (l : Launch) (Γ : Gm) (ad : Nat → Nat → Nat) (P : Pic) {x : Value} {n cap : Nat} {f : Nat → Option Nat} {v : Nat} (he6 : P 0 6 = some (.inr (1, [x, .ref (ad 0 7), .int (nI n)]))) (he7 : P 0 7 = some (.inl (Γ.2.1 3, cap, rfs f))) (j : Nat) (hj : j < n) (hc : n ≤ cap) (hb31 : cap < 2 ^ 31) (hv : f j = some v) : Met l yJ2_get (ws_ yJ2_get cJ2_get 2 (some (.object "java/lang/Object"))) ({ frames := 2, cells := 0, slots := 0, locals := 43 }) (va_Pc [.ref (ad 0 6), .int (nI j)] (SF Γ ad (P))) (gEr Γ v ad P) 0 0 (AA Γ) := by
  refine Met.ofW (cc := cJ2_get) (maxL := 2) (ret := (some (.object "java/lang/Object"))) (by decide) rfl ?_
  intro p e s m args below meth c s₁ B hml hv
  obtain ⟨rfl, hK, hF⟩ := hv
  have hx := B.exec
  have hb := B.bytes
  have hr := B.returns
  have hts := atoms_spec (ws := ws_ yJ2_get cJ2_get 2 (some (.object "java/lang/Object"))) B.pre
  have hts : ∀ w ∈ lw_all, w.before _ s = true := fun w h => hts w (List.mem_cons_of_mem _ h)
  have hown : s.vm.findClass RJ2 = some m.cls := findClass_of_methodNamed B.named
  have hlocks := B.notSynchronized
  have hS : va_S (AA Γ) s.heap s.heap [] := va_S.rf
  have hl := lv_entry ([.ref (ad 0 6), .int (nI j)]) (n := 2) (Nat.le_of_ble_eq_true rfl)
  rw [lg_entry_eq]
  generalize (lg_sl ([.ref (ad 0 6), .int (nI j)]) ++ List.replicate (2 - (lg_sl ([.ref (ad 0 6), .int (nI j)])).length) Slot.unset).toArray = ls at hl ⊢
  have hl : lv_has ls 2 [(0, .ref (ad 0 6)), (1, .int (nI j))] := hl
  have hn : n < 2 ^ 31 := by omega
  refine lv_iload_n hx hb dJ2_get_0 rfl (lv_at hl 1 rfl) ?_
  refine lv_aload_n hx hb dJ2_get_1 rfl (lv_at hl 0 rfl) ?_
  refine r_get (ci := 1) (v := .int (nI n)) (T := TJ2) (N := 3) hx hb hts in_J2 hown hK hF 0 6 he6 rfl 2 (by decide) (hts _ q85) (fun _ h9 => h9) rfl dJ2_get_2 ?_
  refine g_ci (va_runS (As := [.int (nI j), .int (nI n)]) (rest := []) ⟨hx, hb, hml, hown, hts⟩ (met_J15_checkIndex l Γ ad P j n hj hn) (va_cwS 2 hts (lw_S q480 q481 q46 q482) rfl rfl rfl (by decide +kernel) ⟨Nat.le_of_ble_eq_true rfl, Nat.le_of_ble_eq_true rfl⟩) (SF_S hK hS hF) rfl rfl hl.1 rfl (lv_room (Nat.le_of_ble_eq_true rfl)) dJ2_get_5 ⟨Nat.le_of_ble_eq_true rfl, Nat.le_of_ble_eq_true rfl⟩) hS (fun H locs hF hS => ?_)
  refine lv_pop hx hb dJ2_get_8 rfl ?_
  refine lv_aload_n hx hb dJ2_get_9 rfl (lv_at hl 0 rfl) ?_
  refine lv_iload_n hx hb dJ2_get_10 rfl (lv_at hl 1 rfl) ?_
  refine g_cr (va_runV (As := [.int (nI j)]) (rest := []) ⟨hx, hb, hml, hown, hts⟩ (met_J2_elementData l Γ ad P he6 he7 j hj hc hb31 hv) (cwV 1 hts (lw_V q486 q487 q488 q28 q489) rfl rfl rfl (by decide +kernel) ⟨Nat.le_of_ble_eq_true rfl, Nat.le_of_ble_eq_true rfl⟩) (SF_V hK hS hF (recvF hK hF 0 6 he6 rfl)) rfl rfl hl.1 rfl (lv_room (Nat.le_of_ble_eq_true rfl)) dJ2_get_11 ⟨Nat.le_of_ble_eq_true rfl, Nat.le_of_ble_eq_true rfl⟩) hS (fun H locs hF hS => ?_)
  exact g_aret hx hb hr (Or.inl ⟨_, rfl⟩) hlocks hF hS dJ2_get_14
set_option maxHeartbeats 4000000 in
set_option maxRecDepth 100000 in
/-- branch -/
theorem met_X6_branch (l : Launch) (Γ : Gm) (ad : Nat → Nat → Nat) (N : Nat → Nat) (o : Nat → Int64) (Z : Nat → Nat → Nat → Int32) (j : Nat) (hj : j < N 0) : Met l yX6_branch (ws_ yX6_branch cX6_branch 1 (some .int)) ({ frames := 0, cells := 0, slots := 0, locals := 0 }) (va_Pc [.ref (ad 4 j)] (SF Γ ad (shp Γ ad N o Z))) (gEi Γ (Z 4 j 0) ad (shp Γ ad N o Z)) 0 0 (AA Γ) := by
  refine Met.ofW (cc := cX6_branch) (maxL := 1) (ret := (some .int)) (by decide) rfl ?_
  intro p e s m args below meth c s₁ B hml hv
  obtain ⟨rfl, hK, hF⟩ := hv
  have hx := B.exec
  have hb := B.bytes
  have hr := B.returns
  have hts := atoms_spec (ws := ws_ yX6_branch cX6_branch 1 (some .int)) B.pre
  have hts : ∀ w ∈ lw_all, w.before _ s = true := fun w h => hts w (List.mem_cons_of_mem _ h)
  have hown : s.vm.findClass RX6 = some m.cls := findClass_of_methodNamed B.named
  have hlocks := B.notSynchronized
  have hS : va_S (AA Γ) s.heap s.heap [] := va_S.rf
  have hl := lv_entry ([.ref (ad 4 j)]) (n := 1) (Nat.le_of_ble_eq_true rfl)
  rw [lg_entry_eq]
  generalize (lg_sl ([.ref (ad 4 j)]) ++ List.replicate (1 - (lg_sl ([.ref (ad 4 j)])).length) Slot.unset).toArray = ls at hl ⊢
  have hl : lv_has ls 1 [(0, .ref (ad 4 j))] := hl
  refine lv_aload_n hx hb dX6_branch_0 rfl (lv_at hl 0 rfl) ?_
  refine r_get (ci := 4) (v := .int (Z 4 j 0)) (T := TX6) (N := 7) hx hb hts in_X6 hown hK hF 4 j (sh_4 hj _) rfl 0 (by decide) (hts _ q357) (fun _ h9 => h9) rfl dX6_branch_1 ?_
  exact g_iret hx hb hr hlocks hF hS dX6_branch_4
set_option maxHeartbeats 4000000 in
set_option maxRecDepth 100000 in
/-- product -/
theorem met_X6_product (l : Launch) (Γ : Gm) (ad : Nat → Nat → Nat) (N : Nat → Nat) (o : Nat → Int64) (Z : Nat → Nat → Nat → Int32) (j : Nat) (hj : j < N 0) : Met l yX6_product (ws_ yX6_product cX6_product 1 (some .int)) ({ frames := 0, cells := 0, slots := 0, locals := 0 }) (va_Pc [.ref (ad 4 j)] (SF Γ ad (shp Γ ad N o Z))) (gEi Γ (Z 4 j 1) ad (shp Γ ad N o Z)) 0 0 (AA Γ) := by
  refine Met.ofW (cc := cX6_product) (maxL := 1) (ret := (some .int)) (by decide) rfl ?_
  intro p e s m args below meth c s₁ B hml hv
  obtain ⟨rfl, hK, hF⟩ := hv
  have hx := B.exec
  have hb := B.bytes
  have hr := B.returns
  have hts := atoms_spec (ws := ws_ yX6_product cX6_product 1 (some .int)) B.pre
  have hts : ∀ w ∈ lw_all, w.before _ s = true := fun w h => hts w (List.mem_cons_of_mem _ h)
  have hown : s.vm.findClass RX6 = some m.cls := findClass_of_methodNamed B.named
  have hlocks := B.notSynchronized
  have hS : va_S (AA Γ) s.heap s.heap [] := va_S.rf
  have hl := lv_entry ([.ref (ad 4 j)]) (n := 1) (Nat.le_of_ble_eq_true rfl)
  rw [lg_entry_eq]
  generalize (lg_sl ([.ref (ad 4 j)]) ++ List.replicate (1 - (lg_sl ([.ref (ad 4 j)])).length) Slot.unset).toArray = ls at hl ⊢
  have hl : lv_has ls 1 [(0, .ref (ad 4 j))] := hl
  refine lv_aload_n hx hb dX6_product_0 rfl (lv_at hl 0 rfl) ?_
  refine r_get (ci := 4) (v := .int (Z 4 j 1)) (T := TX6) (N := 7) hx hb hts in_X6 hown hK hF 4 j (sh_4 hj _) rfl 1 (by decide) (hts _ q358) (fun _ h9 => h9) rfl dX6_product_1 ?_
  exact g_iret hx hb hr hlocks hF hS dX6_product_4
set_option maxHeartbeats 4000000 in
set_option maxRecDepth 100000 in
/-- rate -/
theorem met_X6_rate (l : Launch) (Γ : Gm) (ad : Nat → Nat → Nat) (N : Nat → Nat) (o : Nat → Int64) (Z : Nat → Nat → Nat → Int32) (j : Nat) (hj : j < N 0) : Met l yX6_rate (ws_ yX6_rate cX6_rate 1 (some .int)) ({ frames := 0, cells := 0, slots := 0, locals := 0 }) (va_Pc [.ref (ad 4 j)] (SF Γ ad (shp Γ ad N o Z))) (gEi Γ (Z 4 j 2) ad (shp Γ ad N o Z)) 0 0 (AA Γ) := by
  refine Met.ofW (cc := cX6_rate) (maxL := 1) (ret := (some .int)) (by decide) rfl ?_
  intro p e s m args below meth c s₁ B hml hv
  obtain ⟨rfl, hK, hF⟩ := hv
  have hx := B.exec
  have hb := B.bytes
  have hr := B.returns
  have hts := atoms_spec (ws := ws_ yX6_rate cX6_rate 1 (some .int)) B.pre
  have hts : ∀ w ∈ lw_all, w.before _ s = true := fun w h => hts w (List.mem_cons_of_mem _ h)
  have hown : s.vm.findClass RX6 = some m.cls := findClass_of_methodNamed B.named
  have hlocks := B.notSynchronized
  have hS : va_S (AA Γ) s.heap s.heap [] := va_S.rf
  have hl := lv_entry ([.ref (ad 4 j)]) (n := 1) (Nat.le_of_ble_eq_true rfl)
  rw [lg_entry_eq]
  generalize (lg_sl ([.ref (ad 4 j)]) ++ List.replicate (1 - (lg_sl ([.ref (ad 4 j)])).length) Slot.unset).toArray = ls at hl ⊢
  have hl : lv_has ls 1 [(0, .ref (ad 4 j))] := hl
  refine lv_aload_n hx hb dX6_rate_0 rfl (lv_at hl 0 rfl) ?_
  refine r_get (ci := 4) (v := .int (Z 4 j 2)) (T := TX6) (N := 7) hx hb hts in_X6 hown hK hF 4 j (sh_4 hj _) rfl 2 (by decide) (hts _ q359) (fun _ h9 => h9) rfl dX6_rate_1 ?_
  exact g_iret hx hb hr hlocks hF hS dX6_rate_4
set_option maxHeartbeats 4000000 in
set_option maxRecDepth 100000 in
/-- option -/
theorem met_X6_option (l : Launch) (Γ : Gm) (ad : Nat → Nat → Nat) (N : Nat → Nat) (o : Nat → Int64) (Z : Nat → Nat → Nat → Int32) (j : Nat) (hj : j < N 0) : Met l yX6_option (ws_ yX6_option cX6_option 1 (some .int)) ({ frames := 0, cells := 0, slots := 0, locals := 0 }) (va_Pc [.ref (ad 4 j)] (SF Γ ad (shp Γ ad N o Z))) (gEi Γ (Z 4 j 3) ad (shp Γ ad N o Z)) 0 0 (AA Γ) := by
  refine Met.ofW (cc := cX6_option) (maxL := 1) (ret := (some .int)) (by decide) rfl ?_
  intro p e s m args below meth c s₁ B hml hv
  obtain ⟨rfl, hK, hF⟩ := hv
  have hx := B.exec
  have hb := B.bytes
  have hr := B.returns
  have hts := atoms_spec (ws := ws_ yX6_option cX6_option 1 (some .int)) B.pre
  have hts : ∀ w ∈ lw_all, w.before _ s = true := fun w h => hts w (List.mem_cons_of_mem _ h)
  have hown : s.vm.findClass RX6 = some m.cls := findClass_of_methodNamed B.named
  have hlocks := B.notSynchronized
  have hS : va_S (AA Γ) s.heap s.heap [] := va_S.rf
  have hl := lv_entry ([.ref (ad 4 j)]) (n := 1) (Nat.le_of_ble_eq_true rfl)
  rw [lg_entry_eq]
  generalize (lg_sl ([.ref (ad 4 j)]) ++ List.replicate (1 - (lg_sl ([.ref (ad 4 j)])).length) Slot.unset).toArray = ls at hl ⊢
  have hl : lv_has ls 1 [(0, .ref (ad 4 j))] := hl
  refine lv_aload_n hx hb dX6_option_0 rfl (lv_at hl 0 rfl) ?_
  refine r_get (ci := 4) (v := .int (Z 4 j 3)) (T := TX6) (N := 7) hx hb hts in_X6 hown hK hF 4 j (sh_4 hj _) rfl 3 (by decide) (hts _ q360) (fun _ h9 => h9) rfl dX6_option_1 ?_
  exact g_iret hx hb hr hlocks hF hS dX6_option_4
set_option maxHeartbeats 4000000 in
set_option maxRecDepth 100000 in
/-- hasOption -/
theorem met_X6_hasOption (l : Launch) (Γ : Gm) (ad : Nat → Nat → Nat) (N : Nat → Nat) (o : Nat → Int64) (Z : Nat → Nat → Nat → Int32) (j : Nat) (hj : j < N 0) (hz : Z 4 j 4 = 0 ∨ Z 4 j 4 = 1) : Met l yX6_hasOption (ws_ yX6_hasOption cX6_hasOption 1 (some .boolean)) ({ frames := 0, cells := 0, slots := 0, locals := 0 }) (va_Pc [.ref (ad 4 j)] (SF Γ ad (shp Γ ad N o Z))) (gEi Γ (Z 4 j 4) ad (shp Γ ad N o Z)) 0 0 (AA Γ) := by
  refine Met.ofW (cc := cX6_hasOption) (maxL := 1) (ret := (some .boolean)) (by decide) rfl ?_
  intro p e s m args below meth c s₁ B hml hv
  obtain ⟨rfl, hK, hF⟩ := hv
  have hx := B.exec
  have hb := B.bytes
  have hr := B.returns
  have hts := atoms_spec (ws := ws_ yX6_hasOption cX6_hasOption 1 (some .boolean)) B.pre
  have hts : ∀ w ∈ lw_all, w.before _ s = true := fun w h => hts w (List.mem_cons_of_mem _ h)
  have hown : s.vm.findClass RX6 = some m.cls := findClass_of_methodNamed B.named
  have hlocks := B.notSynchronized
  have hS : va_S (AA Γ) s.heap s.heap [] := va_S.rf
  have hl := lv_entry ([.ref (ad 4 j)]) (n := 1) (Nat.le_of_ble_eq_true rfl)
  rw [lg_entry_eq]
  generalize (lg_sl ([.ref (ad 4 j)]) ++ List.replicate (1 - (lg_sl ([.ref (ad 4 j)])).length) Slot.unset).toArray = ls at hl ⊢
  have hl : lv_has ls 1 [(0, .ref (ad 4 j))] := hl
  refine lv_aload_n hx hb dX6_hasOption_0 rfl (lv_at hl 0 rfl) ?_
  refine r_get (ci := 4) (v := .int (Z 4 j 4)) (T := TX6) (N := 7) hx hb hts in_X6 hown hK hF 4 j (sh_4 hj _) rfl 4 (by decide) (hts _ q361) (fun _ h9 => h9) rfl dX6_hasOption_1 ?_
  exact g_zret hx hb hr hlocks (vb_01 hz) hF hS dX6_hasOption_4
set_option maxHeartbeats 4000000 in
set_option maxRecDepth 100000 in
/-- parts -/
theorem met_X6_parts (l : Launch) (Γ : Gm) (ad : Nat → Nat → Nat) (N : Nat → Nat) (o : Nat → Int64) (Z : Nat → Nat → Nat → Int32) (j : Nat) (hj : j < N 0) : Met l yX6_parts (ws_ yX6_parts cX6_parts 1 (some (.array .int))) ({ frames := 0, cells := 0, slots := 0, locals := 0 }) (va_Pc [.ref (ad 4 j)] (SF Γ ad (shp Γ ad N o Z))) (gEr Γ (ad 5 j) ad (shp Γ ad N o Z)) 0 0 (AA Γ) := by
  refine Met.ofW (cc := cX6_parts) (maxL := 1) (ret := (some (.array .int))) (by decide) rfl ?_
  intro p e s m args below meth c s₁ B hml hv
  obtain ⟨rfl, hK, hF⟩ := hv
  have hx := B.exec
  have hb := B.bytes
  have hr := B.returns
  have hts := atoms_spec (ws := ws_ yX6_parts cX6_parts 1 (some (.array .int))) B.pre
  have hts : ∀ w ∈ lw_all, w.before _ s = true := fun w h => hts w (List.mem_cons_of_mem _ h)
  have hown : s.vm.findClass RX6 = some m.cls := findClass_of_methodNamed B.named
  have hlocks := B.notSynchronized
  have hS : va_S (AA Γ) s.heap s.heap [] := va_S.rf
  have hl := lv_entry ([.ref (ad 4 j)]) (n := 1) (Nat.le_of_ble_eq_true rfl)
  rw [lg_entry_eq]
  generalize (lg_sl ([.ref (ad 4 j)]) ++ List.replicate (1 - (lg_sl ([.ref (ad 4 j)])).length) Slot.unset).toArray = ls at hl ⊢
  have hl : lv_has ls 1 [(0, .ref (ad 4 j))] := hl
  refine lv_aload_n hx hb dX6_parts_0 rfl (lv_at hl 0 rfl) ?_
  refine r_get (ci := 4) (v := .ref (ad 5 j)) (T := TX6) (N := 7) hx hb hts in_X6 hown hK hF 4 j (sh_4 hj _) rfl 5 (by decide) (hts _ q362) (fun _ h9 => h9) rfl dX6_parts_1 ?_
  exact g_aret hx hb hr (Or.inr ⟨_, rfl⟩) hlocks hF hS dX6_parts_4
set_option maxHeartbeats 4000000 in
set_option maxRecDepth 100000 in
/-- fundings -/
theorem met_X6_fundings (l : Launch) (Γ : Gm) (ad : Nat → Nat → Nat) (N : Nat → Nat) (o : Nat → Int64) (Z : Nat → Nat → Nat → Int32) (j : Nat) (hj : j < N 0) : Met l yX6_fundings (ws_ yX6_fundings cX6_fundings 1 (some (.array .int))) ({ frames := 0, cells := 0, slots := 0, locals := 0 }) (va_Pc [.ref (ad 4 j)] (SF Γ ad (shp Γ ad N o Z))) (gEr Γ (ad 6 j) ad (shp Γ ad N o Z)) 0 0 (AA Γ) := by
  refine Met.ofW (cc := cX6_fundings) (maxL := 1) (ret := (some (.array .int))) (by decide) rfl ?_
  intro p e s m args below meth c s₁ B hml hv
  obtain ⟨rfl, hK, hF⟩ := hv
  have hx := B.exec
  have hb := B.bytes
  have hr := B.returns
  have hts := atoms_spec (ws := ws_ yX6_fundings cX6_fundings 1 (some (.array .int))) B.pre
  have hts : ∀ w ∈ lw_all, w.before _ s = true := fun w h => hts w (List.mem_cons_of_mem _ h)
  have hown : s.vm.findClass RX6 = some m.cls := findClass_of_methodNamed B.named
  have hlocks := B.notSynchronized
  have hS : va_S (AA Γ) s.heap s.heap [] := va_S.rf
  have hl := lv_entry ([.ref (ad 4 j)]) (n := 1) (Nat.le_of_ble_eq_true rfl)
  rw [lg_entry_eq]
  generalize (lg_sl ([.ref (ad 4 j)]) ++ List.replicate (1 - (lg_sl ([.ref (ad 4 j)])).length) Slot.unset).toArray = ls at hl ⊢
  have hl : lv_has ls 1 [(0, .ref (ad 4 j))] := hl
  refine lv_aload_n hx hb dX6_fundings_0 rfl (lv_at hl 0 rfl) ?_
  refine r_get (ci := 4) (v := .ref (ad 6 j)) (T := TX6) (N := 7) hx hb hts in_X6 hown hK hF 4 j (sh_4 hj _) rfl 6 (by decide) (hts _ q363) (fun _ h9 => h9) rfl dX6_fundings_1 ?_
  exact g_aret hx hb hr (Or.inr ⟨_, rfl⟩) hlocks hF hS dX6_fundings_4
set_option maxHeartbeats 4000000 in
set_option maxRecDepth 100000 in
/-- balance -/
theorem met_X3_balance (l : Launch) (Γ : Gm) (ad : Nat → Nat → Nat) (N : Nat → Nat) (o : Nat → Int64) (Z : Nat → Nat → Nat → Int32) (j : Nat) (hj : j < 3) : Met l yX3_balance (ws_ yX3_balance cX3_balance 1 (some .int)) ({ frames := 0, cells := 0, slots := 0, locals := 0 }) (va_Pc [.ref (ad 7 j)] (SF Γ ad (shp Γ ad N o Z))) (gEi Γ (Z 7 j 0) ad (shp Γ ad N o Z)) 0 0 (AA Γ) := by
  refine Met.ofW (cc := cX3_balance) (maxL := 1) (ret := (some .int)) (by decide) rfl ?_
  intro p e s m args below meth c s₁ B hml hv
  obtain ⟨rfl, hK, hF⟩ := hv
  have hx := B.exec
  have hb := B.bytes
  have hr := B.returns
  have hts := atoms_spec (ws := ws_ yX3_balance cX3_balance 1 (some .int)) B.pre
  have hts : ∀ w ∈ lw_all, w.before _ s = true := fun w h => hts w (List.mem_cons_of_mem _ h)
  have hown : s.vm.findClass RX3 = some m.cls := findClass_of_methodNamed B.named
  have hlocks := B.notSynchronized
  have hS : va_S (AA Γ) s.heap s.heap [] := va_S.rf
  have hl := lv_entry ([.ref (ad 7 j)]) (n := 1) (Nat.le_of_ble_eq_true rfl)
  rw [lg_entry_eq]
  generalize (lg_sl ([.ref (ad 7 j)]) ++ List.replicate (1 - (lg_sl ([.ref (ad 7 j)])).length) Slot.unset).toArray = ls at hl ⊢
  have hl : lv_has ls 1 [(0, .ref (ad 7 j))] := hl
  refine lv_aload_n hx hb dX3_balance_0 rfl (lv_at hl 0 rfl) ?_
  refine r_get (ci := 2) (v := .int (Z 7 j 0)) (T := TX3) (N := 2) hx hb hts in_X3 hown hK hF 7 j (sh_7 hj _) rfl 1 (by decide) (hts _ q110) (fun _ h9 => h9) rfl dX3_balance_1 ?_
  exact g_iret hx hb hr hlocks hF hS dX3_balance_4
set_option maxHeartbeats 4000000 in
set_option maxRecDepth 100000 in
/-- isPaid -/
theorem met_X5_isPaid (l : Launch) (Γ : Gm) (ad : Nat → Nat → Nat) (N : Nat → Nat) (o : Nat → Int64) (Z : Nat → Nat → Nat → Int32) (j : Nat) (hj : j < N 0) : Met l yX5_isPaid (ws_ yX5_isPaid cX5_isPaid 1 (some .boolean)) ({ frames := 1, cells := 0, slots := 0, locals := 20 }) (va_Pc [.ref (ad 3 j)] (SF Γ ad (shp Γ ad N o Z))) (gEi Γ (bI (Z 3 j 0 = nI (N (10 + j)))) ad (shp Γ ad N o Z)) 0 0 (AA Γ) := by
  refine Met.ofW (cc := cX5_isPaid) (maxL := 1) (ret := (some .boolean)) (by decide) rfl ?_
  intro p e s m args below meth c s₁ B hml hv
  obtain ⟨rfl, hK, hF⟩ := hv
  have hx := B.exec
  have hb := B.bytes
  have hr := B.returns
  have hts := atoms_spec (ws := ws_ yX5_isPaid cX5_isPaid 1 (some .boolean)) B.pre
  have hts : ∀ w ∈ lw_all, w.before _ s = true := fun w h => hts w (List.mem_cons_of_mem _ h)
  have hown : s.vm.findClass RX5 = some m.cls := findClass_of_methodNamed B.named
  have hlocks := B.notSynchronized
  have hS : va_S (AA Γ) s.heap s.heap [] := va_S.rf
  have hl := lv_entry ([.ref (ad 3 j)]) (n := 1) (Nat.le_of_ble_eq_true rfl)
  rw [lg_entry_eq]
  generalize (lg_sl ([.ref (ad 3 j)]) ++ List.replicate (1 - (lg_sl ([.ref (ad 3 j)])).length) Slot.unset).toArray = ls at hl ⊢
  have hl : lv_has ls 1 [(0, .ref (ad 3 j))] := hl
  refine lv_aload_n hx hb dX5_isPaid_0 rfl (lv_at hl 0 rfl) ?_
  refine r_get (ci := 3) (v := .int (Z 3 j 0)) (T := TX5) (N := 2) hx hb hts in_X5 hown hK hF 3 j (sh_3 hj _) rfl 1 (by decide) (hts _ q387) (fun _ h9 => h9) rfl dX5_isPaid_1 ?_
  refine lv_aload_n hx hb dX5_isPaid_4 rfl (lv_at hl 0 rfl) ?_
  refine r_get (ci := 3) (v := .ref (ad 4 j)) (T := TX5) (N := 2) hx hb hts in_X5 hown hK hF 3 j (sh_3 hj _) rfl 0 (by decide) (hts _ q383) (fun _ h9 => h9) rfl dX5_isPaid_5 ?_
  refine g_cr (va_runV (As := []) (rest := [.int (Z 3 j 0)]) ⟨hx, hb, hml, hown, hts⟩ (met_X6_parts l Γ ad N o Z j hj) (cwV 0 hts (lw_V q498 q499 q500 q41 q501) rfl rfl rfl (by decide +kernel) ⟨Nat.le_of_ble_eq_true rfl, Nat.le_of_ble_eq_true rfl⟩) (SF_V hK hS hF (recvF hK hF 4 j (sh_4 hj _) rfl)) rfl rfl hl.1 rfl (lv_room (Nat.le_of_ble_eq_true rfl)) dX5_isPaid_8 ⟨Nat.le_of_ble_eq_true rfl, Nat.le_of_ble_eq_true rfl⟩) hS (fun H locs hF hS => ?_)
  refine r_alen (v := nI (N (10 + j))) hx hb hK hF 5 j 0 rfl (sh_5 hj _) rfl dX5_isPaid_11 ?_
  refine lv_icmp_ne (tgt := 19) hx hb dX5_isPaid_12 (by decide) (fun c12 => ?_) (fun c12 => ?_)
  · refine lv_iconst (v := 0) hx hb dX5_isPaid_19 (by decide) ?_
    rw [show bI (Z 3 j 0 = nI (N (10 + j))) = 0 from if_neg c12]
    exact g_zret hx hb hr hlocks rfl hF hS dX5_isPaid_20
  · refine lv_iconst (v := 1) hx hb dX5_isPaid_15 (by decide) ?_
    refine lv_goto (tgt := 20) hx hb dX5_isPaid_16 (by decide) ?_
    rw [show bI (Z 3 j 0 = nI (N (10 + j))) = 1 from if_pos c12]
    exact g_zret hx hb hr hlocks rfl hF hS dX5_isPaid_20
set_option maxHeartbeats 4000000 in
set_option maxRecDepth 100000 in
/-- left -/
theorem met_X5_left (l : Launch) (Γ : Gm) (ad : Nat → Nat → Nat) (N : Nat → Nat) (o : Nat → Int64) (Z : Nat → Nat → Nat → Int32) (j : Nat) (hj : j < N 0) (hlo : cLo Z N j) : Met l yX5_left (ws_ yX5_left cX5_left 3 (some .int)) ({ frames := 1, cells := 0, slots := 0, locals := 20 }) (va_Pc [.ref (ad 3 j)] (SF Γ ad (shp Γ ad N o Z))) (gEi Γ (cLeft Z N j) ad (shp Γ ad N o Z)) 0 0 (AA Γ) := by
  refine Met.ofW (cc := cX5_left) (maxL := 3) (ret := (some .int)) (by decide) rfl ?_
  intro p e s m args below meth c s₁ B hml hv
  obtain ⟨rfl, hK, hF⟩ := hv
  have hx := B.exec
  have hb := B.bytes
  have hr := B.returns
  have hts := atoms_spec (ws := ws_ yX5_left cX5_left 3 (some .int)) B.pre
  have hts : ∀ w ∈ lw_all, w.before _ s = true := fun w h => hts w (List.mem_cons_of_mem _ h)
  have hown : s.vm.findClass RX5 = some m.cls := findClass_of_methodNamed B.named
  have hlocks := B.notSynchronized
  have hS : va_S (AA Γ) s.heap s.heap [] := va_S.rf
  have hl := lv_entry ([.ref (ad 3 j)]) (n := 3) (Nat.le_of_ble_eq_true rfl)
  rw [lg_entry_eq]
  generalize (lg_sl ([.ref (ad 3 j)]) ++ List.replicate (3 - (lg_sl ([.ref (ad 3 j)])).length) Slot.unset).toArray = ls at hl ⊢
  have hl : lv_has ls 3 [(0, .ref (ad 3 j))] := hl
  have hlo := id hlo
  obtain ⟨hq, hql, hq6, -⟩ := hlo
  refine lv_iconst (v := 0) hx hb dX5_left_0 (by decide) ?_
  refine lv_istore_n (lv' := [(1, .int 0), (0, .ref (ad 3 j))]) hx hb dX5_left_1 rfl hl (by decide) rfl (fun ls hl => ?_)
  refine lv_aload_n hx hb dX5_left_2 rfl (lv_at hl 1 rfl) ?_
  refine r_get (ci := 3) (v := .int (Z 3 j 0)) (T := TX5) (N := 2) hx hb hts in_X5 hown hK hF 3 j (sh_3 hj _) rfl 1 (by decide) (hts _ q387) (fun _ h9 => h9) rfl dX5_left_3 ?_
  refine lv_re hq ?_
  refine lv_istore_n (lv' := [(2, .int (nI (cQ Z j))), (1, .int 0), (0, .ref (ad 3 j))]) hx hb dX5_left_6 rfl hl (by decide) rfl (fun ls hl => ?_)
  have LP : ∀ (u7 i : Nat) (x1 : Int32) (x2 : Int32) , i + u7 = N (10 + j) → (cQ Z j) ≤ i → x1 = sm (Z 5 j) (cQ Z j) i → x2 = nI i → ∀ (H : Heap) (locs : List Loc), FF Γ ad (shp Γ ad N o Z) H → va_S (AA Γ) s.heap H locs → ∀ (ls : Array Slot), lv_has ls 3 [(2, .int x2), (1, .int x1), (0, .ref (ad 3 j))] → W p l e (headSpec (ws_ yX5_left cX5_left 3 (some .int)) ({ frames := 1, cells := 0, slots := 0, locals := 20 })).room s m ([.ref (ad 3 j)] : List Value).toArray below meth c H locs 0 0 (MQ below (gEi Γ (cLeft Z N j) ad (shp Γ ad N o Z)) ([.ref (ad 3 j)] : List Value).toArray s 0 0 (AA Γ)) (F0 m 7 ls []) := by
    intro u7
    induction u7 with
    | zero =>
      intro i x1 x2  hi hs e1 e2 H locs hF hS ls hl
      subst e1
      subst e2
      obtain rfl : N (10 + j) = i := by omega
      refine lv_iload_n hx hb dX5_left_7 rfl (lv_at hl 0 rfl) ?_
      refine lv_aload_n hx hb dX5_left_8 rfl (lv_at hl 2 rfl) ?_
      refine r_get (ci := 3) (v := .ref (ad 4 j)) (T := TX5) (N := 2) hx hb hts in_X5 hown hK hF 3 j (sh_3 hj _) rfl 0 (by decide) (hts _ q383) (fun _ h9 => h9) rfl dX5_left_9 ?_
      refine g_cr (va_runV (As := []) (rest := [.int (nI (N (10 + j)))]) ⟨hx, hb, hml, hown, hts⟩ (met_X6_parts l Γ ad N o Z j hj) (cwV 0 hts (lw_V q498 q499 q500 q41 q501) rfl rfl rfl (by decide +kernel) ⟨Nat.le_of_ble_eq_true rfl, Nat.le_of_ble_eq_true rfl⟩) (SF_V hK hS hF (recvF hK hF 4 j (sh_4 hj _) rfl)) rfl rfl hl.1 rfl (lv_room (Nat.le_of_ble_eq_true rfl)) dX5_left_12 ⟨Nat.le_of_ble_eq_true rfl, Nat.le_of_ble_eq_true rfl⟩) hS (fun H locs hF hS => ?_)
      refine r_alen (v := nI (N (10 + j))) hx hb hK hF 5 j 0 rfl (sh_5 hj _) rfl dX5_left_15 ?_
      refine lv_icmp_ge (tgt := 37) hx hb dX5_left_16 (by decide) (fun c16 => ?_) (fun c16 => ?_)
      · refine lv_iload_n hx hb dX5_left_37 rfl (lv_at hl 1 rfl) ?_
        exact g_iret hx hb hr hlocks hF hS dX5_left_38
      · exact absurd (nI_le (a := N (10 + j)) (b := N (10 + j)) (Nat.le_refl _) (by omega)) c16
    | succ u7 ih =>
      intro i x1 x2  hi hs e1 e2 H locs hF hS ls hl
      subst e1
      subst e2
      refine lv_iload_n hx hb dX5_left_7 rfl (lv_at hl 0 rfl) ?_
      refine lv_aload_n hx hb dX5_left_8 rfl (lv_at hl 2 rfl) ?_
      refine r_get (ci := 3) (v := .ref (ad 4 j)) (T := TX5) (N := 2) hx hb hts in_X5 hown hK hF 3 j (sh_3 hj _) rfl 0 (by decide) (hts _ q383) (fun _ h9 => h9) rfl dX5_left_9 ?_
      refine g_cr (va_runV (As := []) (rest := [.int (nI i)]) ⟨hx, hb, hml, hown, hts⟩ (met_X6_parts l Γ ad N o Z j hj) (cwV 0 hts (lw_V q498 q499 q500 q41 q501) rfl rfl rfl (by decide +kernel) ⟨Nat.le_of_ble_eq_true rfl, Nat.le_of_ble_eq_true rfl⟩) (SF_V hK hS hF (recvF hK hF 4 j (sh_4 hj _) rfl)) rfl rfl hl.1 rfl (lv_room (Nat.le_of_ble_eq_true rfl)) dX5_left_12 ⟨Nat.le_of_ble_eq_true rfl, Nat.le_of_ble_eq_true rfl⟩) hS (fun H locs hF hS => ?_)
      refine r_alen (v := nI (N (10 + j))) hx hb hK hF 5 j 0 rfl (sh_5 hj _) rfl dX5_left_15 ?_
      refine lv_icmp_ge (tgt := 37) hx hb dX5_left_16 (by decide) (fun c16 => ?_) (fun c16 => ?_)
      · exact absurd c16 (nI_ge (a := i) (b := N (10 + j)) (by omega) (by omega))
      · refine lv_iload_n hx hb dX5_left_19 rfl (lv_at hl 1 rfl) ?_
        refine lv_aload_n hx hb dX5_left_20 rfl (lv_at hl 2 rfl) ?_
        refine r_get (ci := 3) (v := .ref (ad 4 j)) (T := TX5) (N := 2) hx hb hts in_X5 hown hK hF 3 j (sh_3 hj _) rfl 0 (by decide) (hts _ q383) (fun _ h9 => h9) rfl dX5_left_21 ?_
        refine g_cr (va_runV (As := []) (rest := [.int (sm (Z 5 j) (cQ Z j) i)]) ⟨hx, hb, hml, hown, hts⟩ (met_X6_parts l Γ ad N o Z j hj) (cwV 0 hts (lw_V q498 q499 q500 q41 q501) rfl rfl rfl (by decide +kernel) ⟨Nat.le_of_ble_eq_true rfl, Nat.le_of_ble_eq_true rfl⟩) (SF_V hK hS hF (recvF hK hF 4 j (sh_4 hj _) rfl)) rfl rfl hl.1 rfl (lv_room (Nat.le_of_ble_eq_true rfl)) dX5_left_24 ⟨Nat.le_of_ble_eq_true rfl, Nat.le_of_ble_eq_true rfl⟩) hS (fun H locs hF hS => ?_)
        refine lv_iload_n hx hb dX5_left_27 rfl (lv_at hl 0 rfl) ?_
        refine s_iald hx hb hK hF 5 j (sh_5 hj _) i rfl (by omega) (by omega) dX5_left_28 ?_
        refine lv_iadd hx hb dX5_left_29 ?_
        refine lv_istore_n (lv' := [(1, .int ((sm (Z 5 j) (cQ Z j) i) + (Z 5 j i))), (2, .int (nI i)), (0, .ref (ad 3 j))]) hx hb dX5_left_30 rfl hl (by decide) rfl (fun ls hl => ?_)
        refine lv_iinc (v := nI (i + 1)) (lv' := [(2, .int (nI (i + 1))), (1, .int ((sm (Z 5 j) (cQ Z j) i) + (Z 5 j i))), (0, .ref (ad 3 j))]) hx hb dX5_left_31 hl (k := 1) rfl (nI_1 _) (by decide) rfl (fun ls hl => ?_)
        refine lv_goto (tgt := 7) hx hb dX5_left_34 (by decide) ?_
        exact ih (i + 1) _ _ (by omega) (by omega) (sm_s hs) rfl _ _ hF hS ls (lv_sub hl [0, 1, 2] rfl)
  exact LP ((N (10 + j)) - (cQ Z j)) (cQ Z j) _ _ (by omega) (Nat.le_refl _) (sm_0 _) rfl _ _ hF hS ls hl
set_option maxHeartbeats 4000000 in
set_option maxRecDepth 100000 in
/-- funding -/
theorem met_X5_funding (l : Launch) (Γ : Gm) (ad : Nat → Nat → Nat) (N : Nat → Nat) (o : Nat → Int64) (Z : Nat → Nat → Nat → Int32) (j : Nat) (hj : j < N 0) (hlo : cLo Z N j) : Met l yX5_funding (ws_ yX5_funding cX5_funding 4 (some .int)) ({ frames := 1, cells := 0, slots := 0, locals := 20 }) (va_Pc [.ref (ad 3 j)] (SF Γ ad (shp Γ ad N o Z))) (gEi Γ (cFun Z N j) ad (shp Γ ad N o Z)) 0 0 (AA Γ) := by
  refine Met.ofW (cc := cX5_funding) (maxL := 4) (ret := (some .int)) (by decide) rfl ?_
  intro p e s m args below meth c s₁ B hml hv
  obtain ⟨rfl, hK, hF⟩ := hv
  have hx := B.exec
  have hb := B.bytes
  have hr := B.returns
  have hts := atoms_spec (ws := ws_ yX5_funding cX5_funding 4 (some .int)) B.pre
  have hts : ∀ w ∈ lw_all, w.before _ s = true := fun w h => hts w (List.mem_cons_of_mem _ h)
  have hown : s.vm.findClass RX5 = some m.cls := findClass_of_methodNamed B.named
  have hlocks := B.notSynchronized
  have hS : va_S (AA Γ) s.heap s.heap [] := va_S.rf
  have hl := lv_entry ([.ref (ad 3 j)]) (n := 4) (Nat.le_of_ble_eq_true rfl)
  rw [lg_entry_eq]
  generalize (lg_sl ([.ref (ad 3 j)]) ++ List.replicate (4 - (lg_sl ([.ref (ad 3 j)])).length) Slot.unset).toArray = ls at hl ⊢
  have hl : lv_has ls 4 [(0, .ref (ad 3 j))] := hl
  have hlo := id hlo
  obtain ⟨hq, hql, hq6, -⟩ := hlo
  refine lv_lconst (v := 0) hx hb dX5_funding_0 (by decide) ?_
  refine lv_lstore_n (lv' := [(1, .long 0), (0, .ref (ad 3 j))]) hx hb dX5_funding_1 rfl hl (by decide) rfl (fun ls hl => ?_)
  refine lv_aload_n hx hb dX5_funding_2 rfl (lv_at hl 1 rfl) ?_
  refine r_get (ci := 3) (v := .int (Z 3 j 0)) (T := TX5) (N := 2) hx hb hts in_X5 hown hK hF 3 j (sh_3 hj _) rfl 1 (by decide) (hts _ q387) (fun _ h9 => h9) rfl dX5_funding_3 ?_
  refine lv_re hq ?_
  refine lv_istore_n (lv' := [(3, .int (nI (cQ Z j))), (1, .long 0), (0, .ref (ad 3 j))]) hx hb dX5_funding_6 rfl hl (by decide) rfl (fun ls hl => ?_)
  have LP : ∀ (u7 i : Nat) (x1 : Int64) (x3 : Int32) , i + u7 = N (10 + j) → (cQ Z j) ≤ i → x1 = smL (fun k => (Z 5 j k).toInt64 * (Z 6 j k).toInt64) (cQ Z j) i → x3 = nI i → ∀ (H : Heap) (locs : List Loc), FF Γ ad (shp Γ ad N o Z) H → va_S (AA Γ) s.heap H locs → ∀ (ls : Array Slot), lv_has ls 4 [(3, .int x3), (1, .long x1), (0, .ref (ad 3 j))] → W p l e (headSpec (ws_ yX5_funding cX5_funding 4 (some .int)) ({ frames := 1, cells := 0, slots := 0, locals := 20 })).room s m ([.ref (ad 3 j)] : List Value).toArray below meth c H locs 0 0 (MQ below (gEi Γ (cFun Z N j) ad (shp Γ ad N o Z)) ([.ref (ad 3 j)] : List Value).toArray s 0 0 (AA Γ)) (F0 m 7 ls []) := by
    intro u7
    induction u7 with
    | zero =>
      intro i x1 x3  hi hs e1 e3 H locs hF hS ls hl
      subst e1
      subst e3
      obtain rfl : N (10 + j) = i := by omega
      refine lv_iload_n hx hb dX5_funding_7 rfl (lv_at hl 0 rfl) ?_
      refine lv_aload_n hx hb dX5_funding_8 rfl (lv_at hl 2 rfl) ?_
      refine r_get (ci := 3) (v := .ref (ad 4 j)) (T := TX5) (N := 2) hx hb hts in_X5 hown hK hF 3 j (sh_3 hj _) rfl 0 (by decide) (hts _ q383) (fun _ h9 => h9) rfl dX5_funding_9 ?_
      refine g_cr (va_runV (As := []) (rest := [.int (nI (N (10 + j)))]) ⟨hx, hb, hml, hown, hts⟩ (met_X6_parts l Γ ad N o Z j hj) (cwV 0 hts (lw_V q498 q499 q500 q41 q501) rfl rfl rfl (by decide +kernel) ⟨Nat.le_of_ble_eq_true rfl, Nat.le_of_ble_eq_true rfl⟩) (SF_V hK hS hF (recvF hK hF 4 j (sh_4 hj _) rfl)) rfl rfl hl.1 rfl (lv_room (Nat.le_of_ble_eq_true rfl)) dX5_funding_12 ⟨Nat.le_of_ble_eq_true rfl, Nat.le_of_ble_eq_true rfl⟩) hS (fun H locs hF hS => ?_)
      refine r_alen (v := nI (N (10 + j))) hx hb hK hF 5 j 0 rfl (sh_5 hj _) rfl dX5_funding_15 ?_
      refine lv_icmp_ge (tgt := 49) hx hb dX5_funding_16 (by decide) (fun c16 => ?_) (fun c16 => ?_)
      · refine lv_lload_n hx hb dX5_funding_49 rfl (lv_at hl 1 rfl) ?_
        refine lv_ldc2 (v := 120000) hx hb hown (hts _ q568) dX5_funding_50 ?_
        refine lv_ldiv hx hb dX5_funding_53 (by decide) ?_
        refine lv_l2i hx hb dX5_funding_54 rfl ?_
        exact g_iret hx hb hr hlocks hF hS dX5_funding_55
      · exact absurd (nI_le (a := N (10 + j)) (b := N (10 + j)) (Nat.le_refl _) (by omega)) c16
    | succ u7 ih =>
      intro i x1 x3  hi hs e1 e3 H locs hF hS ls hl
      subst e1
      subst e3
      refine lv_iload_n hx hb dX5_funding_7 rfl (lv_at hl 0 rfl) ?_
      refine lv_aload_n hx hb dX5_funding_8 rfl (lv_at hl 2 rfl) ?_
      refine r_get (ci := 3) (v := .ref (ad 4 j)) (T := TX5) (N := 2) hx hb hts in_X5 hown hK hF 3 j (sh_3 hj _) rfl 0 (by decide) (hts _ q383) (fun _ h9 => h9) rfl dX5_funding_9 ?_
      refine g_cr (va_runV (As := []) (rest := [.int (nI i)]) ⟨hx, hb, hml, hown, hts⟩ (met_X6_parts l Γ ad N o Z j hj) (cwV 0 hts (lw_V q498 q499 q500 q41 q501) rfl rfl rfl (by decide +kernel) ⟨Nat.le_of_ble_eq_true rfl, Nat.le_of_ble_eq_true rfl⟩) (SF_V hK hS hF (recvF hK hF 4 j (sh_4 hj _) rfl)) rfl rfl hl.1 rfl (lv_room (Nat.le_of_ble_eq_true rfl)) dX5_funding_12 ⟨Nat.le_of_ble_eq_true rfl, Nat.le_of_ble_eq_true rfl⟩) hS (fun H locs hF hS => ?_)
      refine r_alen (v := nI (N (10 + j))) hx hb hK hF 5 j 0 rfl (sh_5 hj _) rfl dX5_funding_15 ?_
      refine lv_icmp_ge (tgt := 49) hx hb dX5_funding_16 (by decide) (fun c16 => ?_) (fun c16 => ?_)
      · exact absurd c16 (nI_ge (a := i) (b := N (10 + j)) (by omega) (by omega))
      · refine lv_lload_n hx hb dX5_funding_19 rfl (lv_at hl 1 rfl) ?_
        refine lv_aload_n hx hb dX5_funding_20 rfl (lv_at hl 2 rfl) ?_
        refine r_get (ci := 3) (v := .ref (ad 4 j)) (T := TX5) (N := 2) hx hb hts in_X5 hown hK hF 3 j (sh_3 hj _) rfl 0 (by decide) (hts _ q383) (fun _ h9 => h9) rfl dX5_funding_21 ?_
        refine g_cr (va_runV (As := []) (rest := [.long (smL (fun k => (Z 5 j k).toInt64 * (Z 6 j k).toInt64) (cQ Z j) i)]) ⟨hx, hb, hml, hown, hts⟩ (met_X6_parts l Γ ad N o Z j hj) (cwV 0 hts (lw_V q498 q499 q500 q41 q501) rfl rfl rfl (by decide +kernel) ⟨Nat.le_of_ble_eq_true rfl, Nat.le_of_ble_eq_true rfl⟩) (SF_V hK hS hF (recvF hK hF 4 j (sh_4 hj _) rfl)) rfl rfl hl.1 rfl (lv_room (Nat.le_of_ble_eq_true rfl)) dX5_funding_24 ⟨Nat.le_of_ble_eq_true rfl, Nat.le_of_ble_eq_true rfl⟩) hS (fun H locs hF hS => ?_)
        refine lv_iload_n hx hb dX5_funding_27 rfl (lv_at hl 0 rfl) ?_
        refine s_iald hx hb hK hF 5 j (sh_5 hj _) i rfl (by omega) (by omega) dX5_funding_28 ?_
        refine lv_i2l hx hb dX5_funding_29 rfl ?_
        refine lv_aload_n hx hb dX5_funding_30 rfl (lv_at hl 2 rfl) ?_
        refine r_get (ci := 3) (v := .ref (ad 4 j)) (T := TX5) (N := 2) hx hb hts in_X5 hown hK hF 3 j (sh_3 hj _) rfl 0 (by decide) (hts _ q383) (fun _ h9 => h9) rfl dX5_funding_31 ?_
        refine g_cr (va_runV (As := []) (rest := [.long ((Z 5 j i).toInt64), .long (smL (fun k => (Z 5 j k).toInt64 * (Z 6 j k).toInt64) (cQ Z j) i)]) ⟨hx, hb, hml, hown, hts⟩ (met_X6_fundings l Γ ad N o Z j hj) (cwV 0 hts (lw_V q564 q565 q566 q41 q567) rfl rfl rfl (by decide +kernel) ⟨Nat.le_of_ble_eq_true rfl, Nat.le_of_ble_eq_true rfl⟩) (SF_V hK hS hF (recvF hK hF 4 j (sh_4 hj _) rfl)) rfl rfl hl.1 rfl (lv_room (Nat.le_of_ble_eq_true rfl)) dX5_funding_34 ⟨Nat.le_of_ble_eq_true rfl, Nat.le_of_ble_eq_true rfl⟩) hS (fun H locs hF hS => ?_)
        refine lv_iload_n hx hb dX5_funding_37 rfl (lv_at hl 0 rfl) ?_
        refine s_iald hx hb hK hF 6 j (sh_6 hj _) i rfl (by omega) (by omega) dX5_funding_38 ?_
        refine lv_i2l hx hb dX5_funding_39 rfl ?_
        refine lv_lmul hx hb dX5_funding_40 ?_
        refine lv_ladd hx hb dX5_funding_41 ?_
        refine lv_lstore_n (lv' := [(1, .long ((smL (fun k => (Z 5 j k).toInt64 * (Z 6 j k).toInt64) (cQ Z j) i) + (((Z 5 j i).toInt64) * ((Z 6 j i).toInt64)))), (3, .int (nI i)), (0, .ref (ad 3 j))]) hx hb dX5_funding_42 rfl hl (by decide) rfl (fun ls hl => ?_)
        refine lv_iinc (v := nI (i + 1)) (lv' := [(3, .int (nI (i + 1))), (1, .long ((smL (fun k => (Z 5 j k).toInt64 * (Z 6 j k).toInt64) (cQ Z j) i) + (((Z 5 j i).toInt64) * ((Z 6 j i).toInt64)))), (0, .ref (ad 3 j))]) hx hb dX5_funding_43 hl (k := 1) rfl (nI_1 _) (by decide) rfl (fun ls hl => ?_)
        refine lv_goto (tgt := 7) hx hb dX5_funding_46 (by decide) ?_
        exact ih (i + 1) _ _ (by omega) (by omega) (smL_s hs) rfl _ _ hF hS ls (lv_sub hl [0, 1, 2] rfl)
  exact LP ((N (10 + j)) - (cQ Z j)) (cQ Z j) _ _ (by omega) (Nat.le_refl _) (smL_0 _) rfl _ _ hF hS ls hl
set_option maxHeartbeats 4000000 in
set_option maxRecDepth 100000 in
/-- of -/
theorem met_X8_of (l : Launch) (Γ : Gm) (ad : Nat → Nat → Nat) (N : Nat → Nat) (o : Nat → Int64) (Z : Nat → Nat → Nat → Int32) (j : Nat) (hj : j < N 0) (hlo : cLo Z N j) : rw_Met l yX8_of (ws_ yX8_of cX8_of 2 (some .int)) ({ frames := 2, cells := 0, slots := 0, locals := 42 }) (va_Pc [.ref (Γ.2.2 (10 + 0)), .ref (ad 3 j)] (SF Γ ad (shp Γ ad N o Z))) (gEi Γ (cInt Z N j) ad (shp Γ ad N o Z)) 0 0 (AA Γ) := by
  refine rw_ofW (cc := cX8_of) (maxL := 2) (ret := (some .int)) (by decide) rfl ?_
  intro p e s m args below meth c hx hb hr hnamed hlocks hpre hml hv
  obtain ⟨rfl, hK, hF⟩ := hv
  have hts := atoms_spec (ws := ws_ yX8_of cX8_of 2 (some .int)) hpre
  have hts : ∀ w ∈ lw_all, w.before _ s = true := fun w h => hts w (List.mem_cons_of_mem _ h)
  have hown : s.vm.findClass RX8 = some m.cls := findClass_of_methodNamed hnamed
  have hS : va_S (AA Γ) s.heap s.heap [] := va_S.rf
  have hl := lv_entry ([.ref (Γ.2.2 (10 + 0)), .ref (ad 3 j)]) (n := 2) (Nat.le_of_ble_eq_true rfl)
  rw [lg_entry_eq]
  generalize (lg_sl ([.ref (Γ.2.2 (10 + 0)), .ref (ad 3 j)]) ++ List.replicate (2 - (lg_sl ([.ref (Γ.2.2 (10 + 0)), .ref (ad 3 j)])).length) Slot.unset).toArray = ls at hl ⊢
  have hl : lv_has ls 2 [(0, .ref (Γ.2.2 (10 + 0))), (1, .ref (ad 3 j))] := hl
  refine lv_aload_n hx hb dX8_of_0 rfl (lv_at hl 1 rfl) ?_
  refine g_ci (va_runV (As := []) (rest := []) ⟨hx, hb, hml, hown, hts⟩ (met_X5_left l Γ ad N o Z j hj hlo) (cwV 0 hts (lw_V q551 q503 q504 q40 q505) rfl rfl rfl (by decide +kernel) ⟨Nat.le_of_ble_eq_true rfl, Nat.le_of_ble_eq_true rfl⟩) (SF_V hK hS hF (recvF hK hF 3 j (sh_3 hj _) rfl)) rfl rfl hl.1 rfl (lv_room (Nat.le_of_ble_eq_true rfl)) dX8_of_1 ⟨Nat.le_of_ble_eq_true rfl, Nat.le_of_ble_eq_true rfl⟩) hS (fun H locs hF hS => ?_)
  refine lv_i2l hx hb dX8_of_4 rfl ?_
  refine lv_aload_n hx hb dX8_of_5 rfl (lv_at hl 1 rfl) ?_
  refine r_get (ci := 3) (v := .ref (ad 4 j)) (T := TX5) (N := 2) hx hb hts in_X5 hown hK hF 3 j (sh_3 hj _) rfl 0 (by decide) (hts _ q384) (fun _ h9 => h9) rfl dX8_of_6 ?_
  refine g_ci (va_runV (As := []) (rest := [.long ((cLeft Z N j).toInt64)]) ⟨hx, hb, hml, hown, hts⟩ (met_X6_rate l Γ ad N o Z j hj) (cwV 0 hts (lw_V q552 q553 q554 q41 q555) rfl rfl rfl (by decide +kernel) ⟨Nat.le_of_ble_eq_true rfl, Nat.le_of_ble_eq_true rfl⟩) (SF_V hK hS hF (recvF hK hF 4 j (sh_4 hj _) rfl)) rfl rfl hl.1 rfl (lv_room (Nat.le_of_ble_eq_true rfl)) dX8_of_9 ⟨Nat.le_of_ble_eq_true rfl, Nat.le_of_ble_eq_true rfl⟩) hS (fun H locs hF hS => ?_)
  refine lv_i2l hx hb dX8_of_12 rfl ?_
  refine lv_lmul hx hb dX8_of_13 ?_
  refine lv_ldc2 (v := 120000) hx hb hown (hts _ q556) dX8_of_14 ?_
  refine lv_ldiv hx hb dX8_of_17 (by decide) ?_
  refine lv_l2i hx hb dX8_of_18 rfl ?_
  exact g_iret hx hb hr hlocks hF hS dX8_of_19
set_option maxHeartbeats 4000000 in
set_option maxRecDepth 100000 in
/-- of -/
theorem met_X10_of (l : Launch) (Γ : Gm) (ad : Nat → Nat → Nat) (N : Nat → Nat) (o : Nat → Int64) (Z : Nat → Nat → Nat → Int32) (j : Nat) (hj : j < N 0) (hlo : cLo Z N j) : rw_Met l yX10_of (ws_ yX10_of cX10_of 2 (some .int)) ({ frames := 2, cells := 0, slots := 0, locals := 43 }) (va_Pc [.ref (Γ.2.2 (10 + 1)), .ref (ad 3 j)] (SF Γ ad (shp Γ ad N o Z))) (gEi Γ (cFun Z N j) ad (shp Γ ad N o Z)) 0 0 (AA Γ) := by
  refine rw_ofW (cc := cX10_of) (maxL := 2) (ret := (some .int)) (by decide) rfl ?_
  intro p e s m args below meth c hx hb hr hnamed hlocks hpre hml hv
  obtain ⟨rfl, hK, hF⟩ := hv
  have hts := atoms_spec (ws := ws_ yX10_of cX10_of 2 (some .int)) hpre
  have hts : ∀ w ∈ lw_all, w.before _ s = true := fun w h => hts w (List.mem_cons_of_mem _ h)
  have hown : s.vm.findClass RX10 = some m.cls := findClass_of_methodNamed hnamed
  have hS : va_S (AA Γ) s.heap s.heap [] := va_S.rf
  have hl := lv_entry ([.ref (Γ.2.2 (10 + 1)), .ref (ad 3 j)]) (n := 2) (Nat.le_of_ble_eq_true rfl)
  rw [lg_entry_eq]
  generalize (lg_sl ([.ref (Γ.2.2 (10 + 1)), .ref (ad 3 j)]) ++ List.replicate (2 - (lg_sl ([.ref (Γ.2.2 (10 + 1)), .ref (ad 3 j)])).length) Slot.unset).toArray = ls at hl ⊢
  have hl : lv_has ls 2 [(0, .ref (Γ.2.2 (10 + 1))), (1, .ref (ad 3 j))] := hl
  refine lv_aload_n hx hb dX10_of_0 rfl (lv_at hl 1 rfl) ?_
  refine g_ci (va_runV (As := []) (rest := []) ⟨hx, hb, hml, hown, hts⟩ (met_X5_funding l Γ ad N o Z j hj hlo) (cwV 0 hts (lw_V q560 q561 q562 q40 q563) rfl rfl rfl (by decide +kernel) ⟨Nat.le_of_ble_eq_true rfl, Nat.le_of_ble_eq_true rfl⟩) (SF_V hK hS hF (recvF hK hF 3 j (sh_3 hj _) rfl)) rfl rfl hl.1 rfl (lv_room (Nat.le_of_ble_eq_true rfl)) dX10_of_1 ⟨Nat.le_of_ble_eq_true rfl, Nat.le_of_ble_eq_true rfl⟩) hS (fun H locs hF hS => ?_)
  exact g_iret hx hb hr hlocks hF hS dX10_of_4
set_option maxHeartbeats 4000000 in
set_option maxRecDepth 100000 in
/-- of -/
theorem met_X9_of (l : Launch) (Γ : Gm) (ad : Nat → Nat → Nat) (N : Nat → Nat) (o : Nat → Int64) (Z : Nat → Nat → Nat → Int32) (j : Nat) (hj : j < N 0) (hlo : cLo Z N j) : rw_Met l yX9_of (ws_ yX9_of cX9_of 2 (some .int)) ({ frames := 2, cells := 0, slots := 0, locals := 42 }) (va_Pc [.ref (Γ.2.2 (10 + 2)), .ref (ad 3 j)] (SF Γ ad (shp Γ ad N o Z))) (gEi Γ (cOpt Z N j) ad (shp Γ ad N o Z)) 0 0 (AA Γ) := by
  refine rw_ofW (cc := cX9_of) (maxL := 2) (ret := (some .int)) (by decide) rfl ?_
  intro p e s m args below meth c hx hb hr hnamed hlocks hpre hml hv
  obtain ⟨rfl, hK, hF⟩ := hv
  have hts := atoms_spec (ws := ws_ yX9_of cX9_of 2 (some .int)) hpre
  have hts : ∀ w ∈ lw_all, w.before _ s = true := fun w h => hts w (List.mem_cons_of_mem _ h)
  have hown : s.vm.findClass RX9 = some m.cls := findClass_of_methodNamed hnamed
  have hS : va_S (AA Γ) s.heap s.heap [] := va_S.rf
  have hl := lv_entry ([.ref (Γ.2.2 (10 + 2)), .ref (ad 3 j)]) (n := 2) (Nat.le_of_ble_eq_true rfl)
  rw [lg_entry_eq]
  generalize (lg_sl ([.ref (Γ.2.2 (10 + 2)), .ref (ad 3 j)]) ++ List.replicate (2 - (lg_sl ([.ref (Γ.2.2 (10 + 2)), .ref (ad 3 j)])).length) Slot.unset).toArray = ls at hl ⊢
  have hl : lv_has ls 2 [(0, .ref (Γ.2.2 (10 + 2))), (1, .ref (ad 3 j))] := hl
  refine lv_aload_n hx hb dX9_of_0 rfl (lv_at hl 1 rfl) ?_
  refine g_ci (va_runV (As := []) (rest := []) ⟨hx, hb, hml, hown, hts⟩ (met_X5_left l Γ ad N o Z j hj hlo) (cwV 0 hts (lw_V q572 q503 q504 q40 q505) rfl rfl rfl (by decide +kernel) ⟨Nat.le_of_ble_eq_true rfl, Nat.le_of_ble_eq_true rfl⟩) (SF_V hK hS hF (recvF hK hF 3 j (sh_3 hj _) rfl)) rfl rfl hl.1 rfl (lv_room (Nat.le_of_ble_eq_true rfl)) dX9_of_1 ⟨Nat.le_of_ble_eq_true rfl, Nat.le_of_ble_eq_true rfl⟩) hS (fun H locs hF hS => ?_)
  refine lv_i2l hx hb dX9_of_4 rfl ?_
  refine lv_aload_n hx hb dX9_of_5 rfl (lv_at hl 1 rfl) ?_
  refine r_get (ci := 3) (v := .ref (ad 4 j)) (T := TX5) (N := 2) hx hb hts in_X5 hown hK hF 3 j (sh_3 hj _) rfl 0 (by decide) (hts _ q385) (fun _ h9 => h9) rfl dX9_of_6 ?_
  refine g_ci (va_runV (As := []) (rest := [.long ((cLeft Z N j).toInt64)]) ⟨hx, hb, hml, hown, hts⟩ (met_X6_option l Γ ad N o Z j hj) (cwV 0 hts (lw_V q573 q574 q575 q41 q576) rfl rfl rfl (by decide +kernel) ⟨Nat.le_of_ble_eq_true rfl, Nat.le_of_ble_eq_true rfl⟩) (SF_V hK hS hF (recvF hK hF 4 j (sh_4 hj _) rfl)) rfl rfl hl.1 rfl (lv_room (Nat.le_of_ble_eq_true rfl)) dX9_of_9 ⟨Nat.le_of_ble_eq_true rfl, Nat.le_of_ble_eq_true rfl⟩) hS (fun H locs hF hS => ?_)
  refine lv_i2l hx hb dX9_of_12 rfl ?_
  refine lv_lmul hx hb dX9_of_13 ?_
  refine lv_ldc2 (v := 120000) hx hb hown (hts _ q577) dX9_of_14 ?_
  refine lv_ldiv hx hb dX9_of_17 (by decide) ?_
  refine lv_l2i hx hb dX9_of_18 rfl ?_
  exact g_iret hx hb hr hlocks hF hS dX9_of_19
set_option maxHeartbeats 4000000 in
set_option maxRecDepth 100000 in
/-- of -/
theorem met_X7_of (l : Launch) (Γ : Gm) (ad : Nat → Nat → Nat) (N : Nat → Nat) (o : Nat → Int64) (Z : Nat → Nat → Nat → Int32) (j : Nat) (hj : j < N 0) (hlo : cLo Z N j) : Met l yX7_of (ws_ yX7_of cX7_of 2 (some .int)) ({ frames := 3, cells := 0, slots := 0, locals := 64 }) (va_Pc [.ref (Γ.2.2 (10 + 3)), .ref (ad 3 j)] (SF Γ ad (shp Γ ad N o Z))) (gEi Γ (cMar Z N j) ad (shp Γ ad N o Z)) 0 0 (AA Γ) := by
  refine Met.ofW (cc := cX7_of) (maxL := 2) (ret := (some .int)) (by decide) rfl ?_
  intro p e s m args below meth c s₁ B hml hv
  obtain ⟨rfl, hK, hF⟩ := hv
  have hx := B.exec
  have hb := B.bytes
  have hr := B.returns
  have hts := atoms_spec (ws := ws_ yX7_of cX7_of 2 (some .int)) B.pre
  have hts : ∀ w ∈ lw_all, w.before _ s = true := fun w h => hts w (List.mem_cons_of_mem _ h)
  have hown : s.vm.findClass RX7 = some m.cls := findClass_of_methodNamed B.named
  have hlocks := B.notSynchronized
  have hS : va_S (AA Γ) s.heap s.heap [] := va_S.rf
  have hl := lv_entry ([.ref (Γ.2.2 (10 + 3)), .ref (ad 3 j)]) (n := 2) (Nat.le_of_ble_eq_true rfl)
  rw [lg_entry_eq]
  generalize (lg_sl ([.ref (Γ.2.2 (10 + 3)), .ref (ad 3 j)]) ++ List.replicate (2 - (lg_sl ([.ref (Γ.2.2 (10 + 3)), .ref (ad 3 j)])).length) Slot.unset).toArray = ls at hl ⊢
  have hl : lv_has ls 2 [(0, .ref (Γ.2.2 (10 + 3))), (1, .ref (ad 3 j))] := hl
  refine va_gets hx hb (hK.2.2.2.2.2.1 0 (by decide)).1 hS hown (hts _ q581) (fun x h9 => u_same (hts _ q582) x h9) dX7_of_0 ?_
  refine lv_aload_n hx hb dX7_of_3 rfl (lv_at hl 1 rfl) ?_
  refine g_ci (rw_runU (n := 1) (As := [.ref (ad 3 j)]) (rest := []) ⟨hx, hb, hml, hown, hts⟩ (met_X8_of l Γ ad N o Z j hj hlo) hts (rw_U q584 q547 q548 q549 q550) rfl rfl rfl (hK.word (args := #[]) 1 rfl) (by decide +kernel) ⟨Nat.le_of_ble_eq_true rfl, Nat.le_of_ble_eq_true rfl⟩ (SF_V hK hS hF (recvB hK hS (i := 0) (by decide))) rfl rfl hl.1 rfl (lv_room (Nat.le_of_ble_eq_true rfl)) dX7_of_4 ⟨Nat.le_of_ble_eq_true rfl, Nat.le_of_ble_eq_true rfl⟩) hS (fun H locs hF hS => ?_)
  refine va_gets hx hb (hK.2.2.2.2.2.1 1 (by decide)).1 hS hown (hts _ q585) (fun x h9 => u_same (hts _ q586) x h9) dX7_of_7 ?_
  refine lv_aload_n hx hb dX7_of_10 rfl (lv_at hl 1 rfl) ?_
  refine g_ci (rw_runU (n := 1) (As := [.ref (ad 3 j)]) (rest := [.int (cInt Z N j)]) ⟨hx, hb, hml, hown, hts⟩ (met_X10_of l Γ ad N o Z j hj hlo) hts (rw_U q584 q547 q557 q558 q559) rfl rfl rfl (hK.word (args := #[]) 1 rfl) (by decide +kernel) ⟨Nat.le_of_ble_eq_true rfl, Nat.le_of_ble_eq_true rfl⟩ (SF_V hK hS hF (recvB hK hS (i := 1) (by decide))) rfl rfl hl.1 rfl (lv_room (Nat.le_of_ble_eq_true rfl)) dX7_of_11 ⟨Nat.le_of_ble_eq_true rfl, Nat.le_of_ble_eq_true rfl⟩) hS (fun H locs hF hS => ?_)
  refine lv_isub hx hb dX7_of_14 ?_
  refine va_gets hx hb (hK.2.2.2.2.2.1 2 (by decide)).1 hS hown (hts _ q588) (fun x h9 => u_same (hts _ q589) x h9) dX7_of_15 ?_
  refine lv_aload_n hx hb dX7_of_18 rfl (lv_at hl 1 rfl) ?_
  refine g_ci (rw_runU (n := 1) (As := [.ref (ad 3 j)]) (rest := [.int ((cInt Z N j) - (cFun Z N j))]) ⟨hx, hb, hml, hown, hts⟩ (met_X9_of l Γ ad N o Z j hj hlo) hts (rw_U q584 q547 q569 q570 q571) rfl rfl rfl (hK.word (args := #[]) 1 rfl) (by decide +kernel) ⟨Nat.le_of_ble_eq_true rfl, Nat.le_of_ble_eq_true rfl⟩ (SF_V hK hS hF (recvB hK hS (i := 2) (by decide))) rfl rfl hl.1 rfl (lv_room (Nat.le_of_ble_eq_true rfl)) dX7_of_19 ⟨Nat.le_of_ble_eq_true rfl, Nat.le_of_ble_eq_true rfl⟩) hS (fun H locs hF hS => ?_)
  refine lv_isub hx hb dX7_of_22 ?_
  exact g_iret hx hb hr hlocks hF hS dX7_of_23
