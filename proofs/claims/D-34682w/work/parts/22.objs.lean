set_option maxHeartbeats 4000000 in
set_option maxRecDepth 100000 in
/-- <init> -/
theorem met_J3_init (l : Launch) (Γ : Gm) (ad : Nat → Nat → Nat) (P : Pic) (x : Nat) : Met l yJ3_init (ws_ yJ3_init cJ3_init 1 none) ({ frames := 1, cells := 0, slots := 0, locals := 20 }) (va_Pc [.ref x] (SF Γ ad (P))) (gEv Γ ad P) 0 0 (AA Γ) := by
  refine Met.ofW (cc := cJ3_init) (maxL := 1) (ret := none) (by decide) rfl ?_
  intro p e s m args below meth c s₁ B hml hv
  obtain ⟨rfl, hK, hF⟩ := hv
  have hx := B.exec
  have hb := B.bytes
  have hr := B.returns
  have hts := atoms_spec (ws := ws_ yJ3_init cJ3_init 1 none) B.pre
  have hts : ∀ w ∈ lw_all, w.before _ s = true := fun w h => hts w (List.mem_cons_of_mem _ h)
  have hown : s.vm.findClass RJ3 = some m.cls := findClass_of_methodNamed B.named
  have hlocks := B.notSynchronized
  have hin : meth.name = "<init>" := (name_of_methodNamed B.named B.method).1
  have hS : va_S (AA Γ) s.heap s.heap [] := va_S.rf
  have hl := lv_entry ([.ref x]) (n := 1) (Nat.le_of_ble_eq_true rfl)
  rw [lg_entry_eq]
  generalize (lg_sl ([.ref x]) ++ List.replicate (1 - (lg_sl ([.ref x])).length) Slot.unset).toArray = ls at hl ⊢
  have hl : lv_has ls 1 [(0, .ref x)] := hl
  refine lv_aload_n hx hb dJ3_init_0 rfl (lv_at hl 0 rfl) ?_
  refine W.objInit hx hb hown (hts _ q108) (hts _ q55) (hts _ q56) rfl (by rw [hml]; exact hl.1) rfl dJ3_init_1 (Nat.le_of_ble_eq_true rfl) (Nat.le_of_ble_eq_true rfl) ?_
  refine W.eq (g2 := F0 m 4 ls []) rfl ?_
  exact g_vret hx hb hr hlocks hF hS dJ3_init_4
set_option maxHeartbeats 4000000 in
set_option maxRecDepth 100000 in
/-- <init> -/
theorem met_X6_init (l : Launch) (Γ : Gm) (ad : Nat → Nat → Nat) (P : Pic) (g a : Nat) (b p0 r op h6 : Int32) (x y : Nat) (hz : h6 = 0 ∨ h6 = 1) (he : P g a = some (.inr (4, [.int 0, .int 0, .int 0, .int 0, .int 0, .null, .null]))) : Met l yX6_init (ws_ yX6_init cX6_init 8 none) ({ frames := 2, cells := 0, slots := 0, locals := 40 }) (va_Pc [.ref (ad g a), .int b, .int p0, .int r, .int op, .int h6, .ref x, .ref y] (SF Γ ad (P))) (gEv Γ ad (fu P g a (some (.inr (4, [.int b, .int p0, .int r, .int op, .int h6, .ref x, .ref y]))))) 0 0 (AA Γ) := by
  refine Met.ofW (cc := cX6_init) (maxL := 8) (ret := none) (by decide) rfl ?_
  intro p e s m args below meth c s₁ B hml hv
  obtain ⟨rfl, hK, hF⟩ := hv
  have hx := B.exec
  have hb := B.bytes
  have hr := B.returns
  have hts := atoms_spec (ws := ws_ yX6_init cX6_init 8 none) B.pre
  have hts : ∀ w ∈ lw_all, w.before _ s = true := fun w h => hts w (List.mem_cons_of_mem _ h)
  have hown : s.vm.findClass RX6 = some m.cls := findClass_of_methodNamed B.named
  have hlocks := B.notSynchronized
  have hin : meth.name = "<init>" := (name_of_methodNamed B.named B.method).1
  have hS : va_S (AA Γ) s.heap s.heap [] := va_S.rf
  have hl := lv_entry ([.ref (ad g a), .int b, .int p0, .int r, .int op, .int h6, .ref x, .ref y]) (n := 8) (Nat.le_of_ble_eq_true rfl)
  rw [lg_entry_eq]
  generalize (lg_sl ([.ref (ad g a), .int b, .int p0, .int r, .int op, .int h6, .ref x, .ref y]) ++ List.replicate (8 - (lg_sl ([.ref (ad g a), .int b, .int p0, .int r, .int op, .int h6, .ref x, .ref y])).length) Slot.unset).toArray = ls at hl ⊢
  have hl : lv_has ls 8 [(0, .ref (ad g a)), (1, .int b), (2, .int p0), (3, .int r), (4, .int op), (5, .int h6), (6, .ref x), (7, .ref y)] := hl
  refine lv_aload_n hx hb dX6_init_0 rfl (lv_at hl 0 rfl) ?_
  refine g_cv (va_runI (As := []) (rest := []) ⟨hx, hb, hml, hown, hts⟩ (met_J3_init l Γ ad P (ad g a)) (cwI 0 hts (lw_meth q107) rfl rfl rfl (hts _ q29) (hts _ q356) (hts _ q106) rfl (by decide +kernel) ⟨Nat.le_of_ble_eq_true rfl, Nat.le_of_ble_eq_true rfl⟩) (SF_S hK hS hF) rfl rfl hl.1 rfl (lv_room (Nat.le_of_ble_eq_true rfl)) dX6_init_1 ⟨Nat.le_of_ble_eq_true rfl, Nat.le_of_ble_eq_true rfl⟩) hS (fun H locs hF hS => ?_)
  refine lv_aload_n hx hb dX6_init_4 rfl (lv_at hl 0 rfl) ?_
  refine lv_iload_n hx hb dX6_init_5 rfl (lv_at hl 1 rfl) ?_
  refine r_putF (ci := 4) (T := TX6) (N := 7) (ty := .int) hx hb hts in_X6 tyX6 tyX6_ok nmX6 hown hK hF hS g a he rfl 0 (by decide) (hts _ q357) (fun _ h9 => h9) rfl hin rfl (by decide +kernel) rfl rfl (Nat.le_of_ble_eq_true rfl) dX6_init_6 (fun H locs hF hS => ?_)
  have hF := hF
  have hF : FF Γ ad (fu P g a (some (.inr (4, [.int b, .int 0, .int 0, .int 0, .int 0, .null, .null])))) H := hF
  refine lv_aload_n hx hb dX6_init_9 rfl (lv_at hl 0 rfl) ?_
  refine lv_iload_n hx hb dX6_init_10 rfl (lv_at hl 2 rfl) ?_
  refine r_putF (ci := 4) (T := TX6) (N := 7) (ty := .int) hx hb hts in_X6 tyX6 tyX6_ok nmX6 hown hK hF hS g a (fu_same _ _ _ _) rfl 1 (by decide) (hts _ q358) (fun _ h9 => h9) rfl hin rfl (by decide +kernel) rfl rfl (Nat.le_of_ble_eq_true rfl) dX6_init_11 (fun H locs hF hS => ?_)
  rw [fu_fu] at hF
  have hF : FF Γ ad (fu P g a (some (.inr (4, [.int b, .int p0, .int 0, .int 0, .int 0, .null, .null])))) H := hF
  refine lv_aload_n hx hb dX6_init_14 rfl (lv_at hl 0 rfl) ?_
  refine lv_iload_n hx hb dX6_init_15 rfl (lv_at hl 3 rfl) ?_
  refine r_putF (ci := 4) (T := TX6) (N := 7) (ty := .int) hx hb hts in_X6 tyX6 tyX6_ok nmX6 hown hK hF hS g a (fu_same _ _ _ _) rfl 2 (by decide) (hts _ q359) (fun _ h9 => h9) rfl hin rfl (by decide +kernel) rfl rfl (Nat.le_of_ble_eq_true rfl) dX6_init_16 (fun H locs hF hS => ?_)
  rw [fu_fu] at hF
  have hF : FF Γ ad (fu P g a (some (.inr (4, [.int b, .int p0, .int r, .int 0, .int 0, .null, .null])))) H := hF
  refine lv_aload_n hx hb dX6_init_19 rfl (lv_at hl 0 rfl) ?_
  refine lv_iload hx hb dX6_init_20 (lv_at hl 4 rfl) ?_
  refine r_putF (ci := 4) (T := TX6) (N := 7) (ty := .int) hx hb hts in_X6 tyX6 tyX6_ok nmX6 hown hK hF hS g a (fu_same _ _ _ _) rfl 3 (by decide) (hts _ q360) (fun _ h9 => h9) rfl hin rfl (by decide +kernel) rfl rfl (Nat.le_of_ble_eq_true rfl) dX6_init_22 (fun H locs hF hS => ?_)
  rw [fu_fu] at hF
  have hF : FF Γ ad (fu P g a (some (.inr (4, [.int b, .int p0, .int r, .int op, .int 0, .null, .null])))) H := hF
  refine lv_aload_n hx hb dX6_init_25 rfl (lv_at hl 0 rfl) ?_
  refine lv_iload hx hb dX6_init_26 (lv_at hl 5 rfl) ?_
  refine r_putF (ci := 4) (T := TX6) (N := 7) (ty := .boolean) hx hb hts in_X6 tyX6 tyX6_ok nmX6 hown hK hF hS g a (fu_same _ _ _ _) rfl 4 (by decide) (hts _ q361) (fun _ h9 => h9) rfl hin rfl (by decide +kernel) (vb_01 hz) (vb_f01 hz) (Nat.le_of_ble_eq_true rfl) dX6_init_28 (fun H locs hF hS => ?_)
  rw [fu_fu] at hF
  have hF : FF Γ ad (fu P g a (some (.inr (4, [.int b, .int p0, .int r, .int op, .int h6, .null, .null])))) H := hF
  refine lv_aload_n hx hb dX6_init_31 rfl (lv_at hl 0 rfl) ?_
  refine lv_aload hx hb dX6_init_32 (lv_at hl 6 rfl) ?_
  refine r_putF (ci := 4) (T := TX6) (N := 7) (ty := (.array .int)) hx hb hts in_X6 tyX6 tyX6_ok nmX6 hown hK hF hS g a (fu_same _ _ _ _) rfl 5 (by decide) (hts _ q362) (fun _ h9 => h9) rfl hin rfl (by decide +kernel) rfl rfl (Nat.le_of_ble_eq_true rfl) dX6_init_34 (fun H locs hF hS => ?_)
  rw [fu_fu] at hF
  have hF : FF Γ ad (fu P g a (some (.inr (4, [.int b, .int p0, .int r, .int op, .int h6, .ref x, .null])))) H := hF
  refine lv_aload_n hx hb dX6_init_37 rfl (lv_at hl 0 rfl) ?_
  refine lv_aload hx hb dX6_init_38 (lv_at hl 7 rfl) ?_
  refine r_putF (ci := 4) (T := TX6) (N := 7) (ty := (.array .int)) hx hb hts in_X6 tyX6 tyX6_ok nmX6 hown hK hF hS g a (fu_same _ _ _ _) rfl 6 (by decide) (hts _ q363) (fun _ h9 => h9) rfl hin rfl (by decide +kernel) rfl rfl (Nat.le_of_ble_eq_true rfl) dX6_init_40 (fun H locs hF hS => ?_)
  rw [fu_fu] at hF
  have hF : FF Γ ad (fu P g a (some (.inr (4, [.int b, .int p0, .int r, .int op, .int h6, .ref x, .ref y])))) H := hF
  exact g_vret hx hb hr hlocks hF hS dX6_init_43
set_option maxHeartbeats 4000000 in
set_option maxRecDepth 100000 in
/-- <init> -/
theorem met_X5_init (l : Launch) (Γ : Gm) (ad : Nat → Nat → Nat) (P : Pic) (g a : Nat) (x : Nat) (he : P g a = some (.inr (3, [.null, .int 0]))) : Met l yX5_init (ws_ yX5_init cX5_init 2 none) ({ frames := 1, cells := 0, slots := 0, locals := 20 }) (va_Pc [.ref (ad g a), .ref x] (SF Γ ad (P))) (gEv Γ ad (fu P g a (some (.inr (3, [.ref x, .int 0]))))) 0 0 (AA Γ) := by
  refine Met.ofW (cc := cX5_init) (maxL := 2) (ret := none) (by decide) rfl ?_
  intro p e s m args below meth c s₁ B hml hv
  obtain ⟨rfl, hK, hF⟩ := hv
  have hx := B.exec
  have hb := B.bytes
  have hr := B.returns
  have hts := atoms_spec (ws := ws_ yX5_init cX5_init 2 none) B.pre
  have hts : ∀ w ∈ lw_all, w.before _ s = true := fun w h => hts w (List.mem_cons_of_mem _ h)
  have hown : s.vm.findClass RX5 = some m.cls := findClass_of_methodNamed B.named
  have hlocks := B.notSynchronized
  have hin : meth.name = "<init>" := (name_of_methodNamed B.named B.method).1
  have hS : va_S (AA Γ) s.heap s.heap [] := va_S.rf
  have hl := lv_entry ([.ref (ad g a), .ref x]) (n := 2) (Nat.le_of_ble_eq_true rfl)
  rw [lg_entry_eq]
  generalize (lg_sl ([.ref (ad g a), .ref x]) ++ List.replicate (2 - (lg_sl ([.ref (ad g a), .ref x])).length) Slot.unset).toArray = ls at hl ⊢
  have hl : lv_has ls 2 [(0, .ref (ad g a)), (1, .ref x)] := hl
  refine lv_aload_n hx hb dX5_init_0 rfl (lv_at hl 0 rfl) ?_
  refine W.objInit hx hb hown (hts _ q382) (hts _ q55) (hts _ q56) rfl (by rw [hml]; exact hl.1) rfl dX5_init_1 (Nat.le_of_ble_eq_true rfl) (Nat.le_of_ble_eq_true rfl) ?_
  refine W.eq (g2 := F0 m 4 ls []) rfl ?_
  refine lv_aload_n hx hb dX5_init_4 rfl (lv_at hl 0 rfl) ?_
  refine lv_aload_n hx hb dX5_init_5 rfl (lv_at hl 1 rfl) ?_
  refine r_putF (ci := 3) (T := TX5) (N := 2) (ty := (.object "FundBook$Loan")) hx hb hts in_X5 tyX5 tyX5_ok nmX5 hown hK hF hS g a he rfl 0 (by decide) (hts _ q383) (fun _ h9 => h9) rfl hin rfl (by decide +kernel) rfl rfl (Nat.le_of_ble_eq_true rfl) dX5_init_6 (fun H locs hF hS => ?_)
  have hF := hF
  have hF : FF Γ ad (fu P g a (some (.inr (3, [.ref x, .int 0])))) H := hF
  exact g_vret hx hb hr hlocks hF hS dX5_init_9
set_option maxHeartbeats 4000000 in
set_option maxRecDepth 100000 in
/-- <init> -/
theorem met_X3_init (l : Launch) (Γ : Gm) (ad : Nat → Nat → Nat) (P : Pic) (g a : Nat) (b v : Int32) (he : P g a = some (.inr (2, [.int 0, .int 0]))) : Met l yX3_init (ws_ yX3_init cX3_init 3 none) ({ frames := 2, cells := 0, slots := 0, locals := 40 }) (va_Pc [.ref (ad g a), .int b, .int v] (SF Γ ad (P))) (gEv Γ ad (fu P g a (some (.inr (2, [.int b, .int v]))))) 0 0 (AA Γ) := by
  refine Met.ofW (cc := cX3_init) (maxL := 3) (ret := none) (by decide) rfl ?_
  intro p e s m args below meth c s₁ B hml hv
  obtain ⟨rfl, hK, hF⟩ := hv
  have hx := B.exec
  have hb := B.bytes
  have hr := B.returns
  have hts := atoms_spec (ws := ws_ yX3_init cX3_init 3 none) B.pre
  have hts : ∀ w ∈ lw_all, w.before _ s = true := fun w h => hts w (List.mem_cons_of_mem _ h)
  have hown : s.vm.findClass RX3 = some m.cls := findClass_of_methodNamed B.named
  have hlocks := B.notSynchronized
  have hin : meth.name = "<init>" := (name_of_methodNamed B.named B.method).1
  have hS : va_S (AA Γ) s.heap s.heap [] := va_S.rf
  have hl := lv_entry ([.ref (ad g a), .int b, .int v]) (n := 3) (Nat.le_of_ble_eq_true rfl)
  rw [lg_entry_eq]
  generalize (lg_sl ([.ref (ad g a), .int b, .int v]) ++ List.replicate (3 - (lg_sl ([.ref (ad g a), .int b, .int v])).length) Slot.unset).toArray = ls at hl ⊢
  have hl : lv_has ls 3 [(0, .ref (ad g a)), (1, .int b), (2, .int v)] := hl
  refine lv_aload_n hx hb dX3_init_0 rfl (lv_at hl 0 rfl) ?_
  refine g_cv (va_runI (As := []) (rest := []) ⟨hx, hb, hml, hown, hts⟩ (met_J3_init l Γ ad P (ad g a)) (cwI 0 hts (lw_meth q107) rfl rfl rfl (hts _ q29) (hts _ q105) (hts _ q106) rfl (by decide +kernel) ⟨Nat.le_of_ble_eq_true rfl, Nat.le_of_ble_eq_true rfl⟩) (SF_S hK hS hF) rfl rfl hl.1 rfl (lv_room (Nat.le_of_ble_eq_true rfl)) dX3_init_1 ⟨Nat.le_of_ble_eq_true rfl, Nat.le_of_ble_eq_true rfl⟩) hS (fun H locs hF hS => ?_)
  refine lv_aload_n hx hb dX3_init_4 rfl (lv_at hl 0 rfl) ?_
  refine lv_iload_n hx hb dX3_init_5 rfl (lv_at hl 1 rfl) ?_
  refine r_putF (ci := 2) (T := TX3) (N := 2) (ty := .int) hx hb hts in_X3 tyX3 tyX3_ok nmX3 hown hK hF hS g a he rfl 0 (by decide) (hts _ q109) (fun _ h9 => h9) rfl hin rfl (by decide +kernel) rfl rfl (Nat.le_of_ble_eq_true rfl) dX3_init_6 (fun H locs hF hS => ?_)
  have hF := hF
  have hF : FF Γ ad (fu P g a (some (.inr (2, [.int b, .int 0])))) H := hF
  refine lv_aload_n hx hb dX3_init_9 rfl (lv_at hl 0 rfl) ?_
  refine lv_iload_n hx hb dX3_init_10 rfl (lv_at hl 2 rfl) ?_
  refine r_putF (ci := 2) (T := TX3) (N := 2) (ty := .int) hx hb hts in_X3 tyX3 tyX3_ok nmX3 hown hK hF hS g a (fu_same _ _ _ _) rfl 1 (by decide) (hts _ q110) (fun _ h9 => h9) rfl hin rfl (by decide +kernel) rfl rfl (Nat.le_of_ble_eq_true rfl) dX3_init_11 (fun H locs hF hS => ?_)
  rw [fu_fu] at hF
  have hF : FF Γ ad (fu P g a (some (.inr (2, [.int b, .int v])))) H := hF
  exact g_vret hx hb hr hlocks hF hS dX3_init_14
set_option maxHeartbeats 4000000 in
set_option maxRecDepth 100000 in
/-- lend -/
theorem cc_lend_D (l : Launch) (Γ : Gm) (ad : Nat → Nat → Nat) (N : Nat → Nat) (o : Nat → Int64) (Z : Nat → Nat → Nat → Int32) (hN : nOk N) (b p0 a r : Int32) (k : Nat) (h6 : Int32) (hb1 : 0 ≤ b ∧ b < 3) (hp1 : 0 ≤ p0 ∧ p0 < 3) (ha : 1 ≤ a ∧ a ≤ 10000000) (hr1 : 0 ≤ r ∧ r ≤ 5000) (hk0 : 1 ≤ k) (hk6 : k ≤ 6) (hh6 : h6 = 0 ∨ h6 = 1) (hn : N 0 < 24) : Met l yX1_lend (ws_ yX1_lend cX1_lend 10 (some .int)) ({ frames := 7, cells := 5, slots := 121, locals := 231 }) (va_Pc [.ref (ad 0 0), .int b, .int p0, .int a, .int r, .int (nI k), .int h6] (SF Γ ad (shp Γ ad N o Z))) (gQi Γ (fun r0 (u : (Nat → Nat → Nat) × Nat) => r0 = nI (N 0) ∧ N 0 < u.2 ∧ u.2 ≤ 100) (fun u => u.1) (fun u => shp Γ u.1 (lendN N k u.2) o (cLend Z (N 0) b p0 a r k h6))) 5 121 (AA Γ) := by
  refine Met.ofW (cc := cX1_lend) (maxL := 10) (ret := (some .int)) (by decide) rfl ?_
  intro p e s m args below meth c s₁ B hml hv
  obtain ⟨rfl, hK, hF⟩ := hv
  have hx := B.exec
  have hb := B.bytes
  have hr := B.returns
  have hts := atoms_spec (ws := ws_ yX1_lend cX1_lend 10 (some .int)) B.pre
  have hts : ∀ w ∈ lw_all, w.before _ s = true := fun w h => hts w (List.mem_cons_of_mem _ h)
  have hown : s.vm.findClass RX1 = some m.cls := findClass_of_methodNamed B.named
  have hlocks := B.notSynchronized
  have hS : va_S (AA Γ) s.heap s.heap [] := va_S.rf
  have hl := lv_entry ([.ref (ad 0 0), .int b, .int p0, .int a, .int r, .int (nI k), .int h6]) (n := 10) (Nat.le_of_ble_eq_true rfl)
  rw [lg_entry_eq]
  generalize (lg_sl ([.ref (ad 0 0), .int b, .int p0, .int a, .int r, .int (nI k), .int h6]) ++ List.replicate (10 - (lg_sl ([.ref (ad 0 0), .int b, .int p0, .int a, .int r, .int (nI k), .int h6])).length) Slot.unset).toArray = ls at hl ⊢
  have hl : lv_has ls 10 [(0, .ref (ad 0 0)), (1, .int b), (2, .int p0), (3, .int a), (4, .int r), (5, .int (nI k)), (6, .int h6)] := hl
  have hN1 := hN
  unfold nOk at hN1
  refine lv_iload_n hx hb dX1_lend_0 rfl (lv_at hl 1 rfl) ?_
  refine lv_iconst (v := 3) hx hb dX1_lend_1 (by decide) ?_
  refine g_cv (va_runS (As := [.int b, .int 3]) (rest := []) ⟨hx, hb, hml, hown, hts⟩ (met_X1_exists l Γ ad (shp Γ ad N o Z) b 3 hb1) (va_cwS 2 hts (lw_S q270 q271 q23 q272) rfl rfl rfl (by decide +kernel) ⟨Nat.le_of_ble_eq_true rfl, Nat.le_of_ble_eq_true rfl⟩) (SF_S hK hS hF) rfl rfl hl.1 rfl (lv_room (Nat.le_of_ble_eq_true rfl)) dX1_lend_2 ⟨Nat.le_of_ble_eq_true rfl, Nat.le_of_ble_eq_true rfl⟩) hS (fun H locs hF hS => ?_)
  refine lv_iload_n hx hb dX1_lend_5 rfl (lv_at hl 2 rfl) ?_
  refine lv_iconst (v := 3) hx hb dX1_lend_6 (by decide) ?_
  refine g_cv (va_runS (As := [.int p0, .int 3]) (rest := []) ⟨hx, hb, hml, hown, hts⟩ (met_X1_exists l Γ ad (shp Γ ad N o Z) p0 3 hp1) (va_cwS 2 hts (lw_S q270 q271 q23 q272) rfl rfl rfl (by decide +kernel) ⟨Nat.le_of_ble_eq_true rfl, Nat.le_of_ble_eq_true rfl⟩) (SF_S hK hS hF) rfl rfl hl.1 rfl (lv_room (Nat.le_of_ble_eq_true rfl)) dX1_lend_7 ⟨Nat.le_of_ble_eq_true rfl, Nat.le_of_ble_eq_true rfl⟩) hS (fun H locs hF hS => ?_)
  refine lv_iload_n hx hb dX1_lend_10 rfl (lv_at hl 3 rfl) ?_
  refine lv_iconst (v := 1) hx hb dX1_lend_11 (by decide) ?_
  refine lv_ldc (v := 10000000) hx hb hown (hts _ q330) dX1_lend_12 ?_
  refine g_ci (va_runS (As := [.int a, .int 1, .int 10000000]) (rest := []) ⟨hx, hb, hml, hown, hts⟩ (Met.val (met_X1_isIn l Γ ad (shp Γ ad N o Z) a 1 10000000) (bI1 ha)) (va_cwS 3 hts (lw_S q294 q295 q23 q296) rfl rfl rfl (by decide +kernel) ⟨Nat.le_of_ble_eq_true rfl, Nat.le_of_ble_eq_true rfl⟩) (SF_S hK hS hF) rfl rfl hl.1 rfl (lv_room (Nat.le_of_ble_eq_true rfl)) dX1_lend_14 ⟨Nat.le_of_ble_eq_true rfl, Nat.le_of_ble_eq_true rfl⟩) hS (fun H locs hF hS => ?_)
  refine lv_if_eq (tgt := 47) hx hb dX1_lend_17 (by decide) (fun c17 => absurd c17 (by decide)) (fun _ => ?_)
  refine lv_iload hx hb dX1_lend_20 (lv_at hl 4 rfl) ?_
  refine lv_iconst (v := 0) hx hb dX1_lend_22 (by decide) ?_
  refine lv_sipush (v := 5000) hx hb dX1_lend_23 (by decide) ?_
  refine g_ci (va_runS (As := [.int r, .int 0, .int 5000]) (rest := []) ⟨hx, hb, hml, hown, hts⟩ (Met.val (met_X1_isIn l Γ ad (shp Γ ad N o Z) r 0 5000) (bI1 hr1)) (va_cwS 3 hts (lw_S q294 q295 q23 q296) rfl rfl rfl (by decide +kernel) ⟨Nat.le_of_ble_eq_true rfl, Nat.le_of_ble_eq_true rfl⟩) (SF_S hK hS hF) rfl rfl hl.1 rfl (lv_room (Nat.le_of_ble_eq_true rfl)) dX1_lend_26 ⟨Nat.le_of_ble_eq_true rfl, Nat.le_of_ble_eq_true rfl⟩) hS (fun H locs hF hS => ?_)
  refine lv_if_eq (tgt := 47) hx hb dX1_lend_29 (by decide) (fun c29 => absurd c29 (by decide)) (fun _ => ?_)
  refine lv_iload hx hb dX1_lend_32 (lv_at hl 5 rfl) ?_
  refine lv_iconst (v := 1) hx hb dX1_lend_34 (by decide) ?_
  refine lv_bipush (v := 6) hx hb dX1_lend_35 (by decide) ?_
  refine g_ci (va_runS (As := [.int (nI k), .int 1, .int 6]) (rest := []) ⟨hx, hb, hml, hown, hts⟩ (Met.val (met_X1_isIn l Γ ad (shp Γ ad N o Z) (nI k) 1 6) (bI1 (inI (a := 1) (b := 6) hk0 hk6 (by decide)))) (va_cwS 3 hts (lw_S q294 q295 q23 q296) rfl rfl rfl (by decide +kernel) ⟨Nat.le_of_ble_eq_true rfl, Nat.le_of_ble_eq_true rfl⟩) (SF_S hK hS hF) rfl rfl hl.1 rfl (lv_room (Nat.le_of_ble_eq_true rfl)) dX1_lend_37 ⟨Nat.le_of_ble_eq_true rfl, Nat.le_of_ble_eq_true rfl⟩) hS (fun H locs hF hS => ?_)
  refine lv_if_eq (tgt := 47) hx hb dX1_lend_40 (by decide) (fun c40 => absurd c40 (by decide)) (fun _ => ?_)
  refine lv_iconst (v := 1) hx hb dX1_lend_43 (by decide) ?_
  refine lv_goto (tgt := 48) hx hb dX1_lend_44 (by decide) ?_
  refine g_cv (va_runS (As := [.int 1]) (rest := []) ⟨hx, hb, hml, hown, hts⟩ (met_X1_want l Γ ad (shp Γ ad N o Z)) (va_cwS 1 hts (lw_S q297 q298 q23 q299) rfl rfl rfl (by decide +kernel) ⟨Nat.le_of_ble_eq_true rfl, Nat.le_of_ble_eq_true rfl⟩) (SF_S hK hS hF) rfl rfl hl.1 rfl (lv_room (Nat.le_of_ble_eq_true rfl)) dX1_lend_48 ⟨Nat.le_of_ble_eq_true rfl, Nat.le_of_ble_eq_true rfl⟩) hS (fun H locs hF hS => ?_)
  refine lv_aload_n hx hb dX1_lend_51 rfl (lv_at hl 0 rfl) ?_
  refine r_get (ci := 0) (v := .ref (ad 0 6)) (T := TX1) (N := 14) hx hb hts in_X1 hown hK hF 0 0 rfl rfl 2 (by decide) (hts _ q118) (fun _ h9 => h9) rfl dX1_lend_52 ?_
  refine g_cFi (va_runF (As := []) (rest := []) (hK.1.1 1 _ rfl).2 ⟨hx, hb, hml, hown, hts⟩ (met_J2_size l Γ ad (shp Γ ad N o Z) (z := nI (N 0)) rfl) (va_cwF 0 hts (lw_F q168 q172 q174 q28 q176) rfl rfl rfl (hK.face 0 rfl) (by decide +kernel) ⟨Nat.le_of_ble_eq_true rfl, Nat.le_of_ble_eq_true rfl⟩) (SF_V hK hS hF (recvF hK hF 0 6 rfl rfl)) rfl rfl hl.1 rfl (lv_room (Nat.le_of_ble_eq_true rfl)) dX1_lend_55 ⟨Nat.le_of_ble_eq_true rfl, Nat.le_of_ble_eq_true rfl⟩) hS (fun H locs hF hS => ?_)
  refine lv_bipush (v := 24) hx hb dX1_lend_60 (by decide) ?_
  refine lv_icmp_ge (tgt := 69) hx hb dX1_lend_62 (by decide) (fun c62 => absurd c62 (nI_ge (a := N 0) (b := 24) hn (by decide))) (fun c62 => ?_)
  refine lv_iconst (v := 1) hx hb dX1_lend_65 (by decide) ?_
  refine lv_goto (tgt := 70) hx hb dX1_lend_66 (by decide) ?_
  refine g_cv (va_runS (As := [.int 1]) (rest := []) ⟨hx, hb, hml, hown, hts⟩ (met_X1_allow l Γ ad (shp Γ ad N o Z)) (va_cwS 1 hts (lw_S q331 q332 q23 q333) rfl rfl rfl (by decide +kernel) ⟨Nat.le_of_ble_eq_true rfl, Nat.le_of_ble_eq_true rfl⟩) (SF_S hK hS hF) rfl rfl hl.1 rfl (lv_room (Nat.le_of_ble_eq_true rfl)) dX1_lend_70 ⟨Nat.le_of_ble_eq_true rfl, Nat.le_of_ble_eq_true rfl⟩) hS (fun H locs hF hS => ?_)
  refine lv_iload hx hb dX1_lend_73 (lv_at hl 5 rfl) ?_
  refine r_newi hx hb (hts _ q96) hK hF hS 5 (N 0) (show shp Γ ad N o Z 5 (N 0) = none from if_neg (Nat.lt_irrefl _)) k rfl (by omega) (Nat.le_of_ble_eq_true rfl) (Nat.le_trans (Nat.add_le_add_left hk6 _) (Nat.le_of_ble_eq_true rfl)) dX1_lend_75 (fun q5 H hF hS => ?_)
  refine W.widen (k := 1) (n := 6) (by omega) (by omega) ?_
  refine lv_rr (y := (fu ad 5 (N 0) q5) 5 (N 0)) (fu_same _ _ _ _).symm ?_
  refine lv_astore (lv' := [(7, .ref ((fu ad 5 (N 0) q5) 5 (N 0))), (0, .ref (ad 0 0)), (1, .int b), (2, .int p0), (3, .int a), (4, .int r), (5, .int (nI k)), (6, .int h6)]) hx hb dX1_lend_77 hl (by decide) rfl (fun ls hl => ?_)
  refine lv_iload hx hb dX1_lend_79 (lv_at hl 6 rfl) ?_
  refine r_newi hx hb (hts _ q96) hK hF hS 6 (N 0) (show shp Γ ad N o Z 6 (N 0) = none from if_neg (Nat.lt_irrefl _)) k rfl (by omega) (Nat.le_of_ble_eq_true rfl) (Nat.le_trans (Nat.add_le_add_left hk6 _) (Nat.le_of_ble_eq_true rfl)) dX1_lend_81 (fun q6 H hF hS => ?_)
  refine W.widen (k := 2) (n := 12) (by omega) (by omega) ?_
  refine lv_rr (y := (fu (fu ad 5 (N 0) q5) 6 (N 0) q6) 6 (N 0)) (fu_same _ _ _ _).symm ?_
  refine lv_astore (lv' := [(8, .ref ((fu (fu ad 5 (N 0) q5) 6 (N 0) q6) 6 (N 0))), (7, .ref ((fu ad 5 (N 0) q5) 5 (N 0))), (0, .ref (ad 0 0)), (1, .int b), (2, .int p0), (3, .int a), (4, .int r), (5, .int (nI k)), (6, .int h6)]) hx hb dX1_lend_83 hl (by decide) rfl (fun ls hl => ?_)
  refine lv_iconst (v := 0) hx hb dX1_lend_85 (by decide) ?_
  refine lv_istore (lv' := [(9, .int 0), (8, .ref ((fu (fu ad 5 (N 0) q5) 6 (N 0) q6) 6 (N 0))), (7, .ref ((fu ad 5 (N 0) q5) 5 (N 0))), (0, .ref (ad 0 0)), (1, .int b), (2, .int p0), (3, .int a), (4, .int r), (5, .int (nI k)), (6, .int h6)]) hx hb dX1_lend_86 hl (by decide) rfl (fun ls hl => ?_)
  have hF : FF Γ (fu (fu ad 5 (N 0) q5) 6 (N 0) q6) (fu (fu (shp Γ ad N o Z) 5 (N 0) (some (.inl (Γ.2.1 0, k, .inl (lP a (nI k) k 0))))) 6 (N 0) (some (.inl (Γ.2.1 0, k, .inl (lC (Z 0 1) 0))))) H := by
    rw [← lP_0, ← lC_0]
    exact hF
  have LP : ∀ (u7 i : Nat) (x9 : Int32), i + u7 = k → 0 ≤ i → x9 = nI i → ∀ (H : Heap) (locs : List Loc), FF Γ (fu (fu ad 5 (N 0) q5) 6 (N 0) q6) ((fu (fu (shp Γ ad N o Z) 5 (N 0) (some (.inl (Γ.2.1 0, k, .inl (lP a (nI k) k i))))) 6 (N 0) (some (.inl (Γ.2.1 0, k, .inl (lC (Z 0 1) i)))))) H → va_S (AA Γ) s.heap H locs → ∀ (ls : Array Slot), lv_has ls 10 [(9, .int x9), (8, .ref ((fu (fu ad 5 (N 0) q5) 6 (N 0) q6) 6 (N 0))), (7, .ref ((fu ad 5 (N 0) q5) 5 (N 0))), (0, .ref (ad 0 0)), (1, .int b), (2, .int p0), (3, .int a), (4, .int r), (5, .int (nI k)), (6, .int h6)] → W p l e (headSpec (ws_ yX1_lend cX1_lend 10 (some .int)) ({ frames := 7, cells := 5, slots := 121, locals := 231 })).room s m ([.ref (ad 0 0), .int b, .int p0, .int a, .int r, .int (nI k), .int h6] : List Value).toArray below meth c H locs 2 12 (MQ below (gQi Γ (fun r0 (u : (Nat → Nat → Nat) × Nat) => r0 = nI (N 0) ∧ N 0 < u.2 ∧ u.2 ≤ 100) (fun u => u.1) (fun u => shp Γ u.1 (lendN N k u.2) o (cLend Z (N 0) b p0 a r k h6))) ([.ref (ad 0 0), .int b, .int p0, .int a, .int r, .int (nI k), .int h6] : List Value).toArray s 5 121 (AA Γ)) (F0 m 88 ls []) := by
    intro u7
    induction u7 with
    | zero =>
      intro i x9 hi hs e9 H locs hF hS ls hl
      subst e9
      obtain rfl : k = i := by omega
      refine lv_iload hx hb dX1_lend_88 (lv_at hl 0 rfl) ?_
      refine lv_iload hx hb dX1_lend_90 (lv_at hl 8 rfl) ?_
      refine lv_icmp_ge (tgt := 145) hx hb dX1_lend_92 (by decide) (fun c92 => ?_) (fun c92 => ?_)
      · refine lv_aload_n hx hb dX1_lend_145 rfl (lv_at hl 3 rfl) ?_
        refine r_get (ci := 0) (v := .ref ((fu (fu ad 5 (N 0) q5) 6 (N 0) q6) 0 6)) (T := TX1) (N := 14) hx hb hts in_X1 hown hK hF 0 0 rfl rfl 2 (by decide) (hts _ q118) (fun _ h9 => h9) rfl dX1_lend_146 ?_
        refine r_new (ci := 3) (fs := [.null, .int 0]) (T := TX5) (N := 2) hx hb hts in_X5 tyX5 tyX5_ok hown (hts _ q349) (hts _ q350) (hts _ q40) hK hF hS 3 (N 0) (show shp Γ ad N o Z 3 (N 0) = none from if_neg (Nat.lt_irrefl _)) rfl (fun j hj => by rcases (show j = 0 ∨ j = 1 by omega) with rfl | rfl <;> rfl) (Nat.le_of_ble_eq_true rfl) (Nat.le_of_ble_eq_true rfl) dX1_lend_149 (fun q3 H hF hS => ?_)
        refine lv_rr (y := (fu (fu (fu ad 5 (N 0) q5) 6 (N 0) q6) 3 (N 0) q3) 3 (N 0)) (fu_same _ _ _ _).symm ?_
        refine lv_dup hx hb dX1_lend_152 rfl ?_
        refine r_new (ci := 4) (fs := [.int 0, .int 0, .int 0, .int 0, .int 0, .null, .null]) (T := TX6) (N := 7) hx hb hts in_X6 tyX6 tyX6_ok hown (hts _ q351) (hts _ q352) (hts _ q41) hK hF hS 4 (N 0) (show shp Γ ad N o Z 4 (N 0) = none from if_neg (Nat.lt_irrefl _)) rfl (fun j hj => by rcases (show j = 0 ∨ j = 1 ∨ j = 2 ∨ j = 3 ∨ j = 4 ∨ j = 5 ∨ j = 6 by omega) with rfl | rfl | rfl | rfl | rfl | rfl | rfl <;> rfl) (Nat.le_of_ble_eq_true rfl) (Nat.le_of_ble_eq_true rfl) dX1_lend_153 (fun q4 H hF hS => ?_)
        refine lv_rr (y := (fu (fu (fu (fu ad 5 (N 0) q5) 6 (N 0) q6) 3 (N 0) q3) 4 (N 0) q4) 4 (N 0)) (fu_same _ _ _ _).symm ?_
        refine lv_dup hx hb dX1_lend_156 rfl ?_
        refine lv_iload_n hx hb dX1_lend_157 rfl (lv_at hl 4 rfl) ?_
        refine lv_iload_n hx hb dX1_lend_158 rfl (lv_at hl 5 rfl) ?_
        refine lv_iload hx hb dX1_lend_159 (lv_at hl 7 rfl) ?_
        refine lv_iload hx hb dX1_lend_161 (lv_at hl 9 rfl) ?_
        have K : W p l e (headSpec (ws_ yX1_lend cX1_lend 10 (some .int)) ({ frames := 7, cells := 5, slots := 121, locals := 231 })).room s m ([.ref (ad 0 0), .int b, .int p0, .int a, .int r, .int (nI k), .int h6] : List Value).toArray below meth c H locs 4 21 (MQ below (gQi Γ (fun r0 (u : (Nat → Nat → Nat) × Nat) => r0 = nI (N 0) ∧ N 0 < u.2 ∧ u.2 ≤ 100) (fun u => u.1) (fun u => shp Γ u.1 (lendN N k u.2) o (cLend Z (N 0) b p0 a r k h6))) ([.ref (ad 0 0), .int b, .int p0, .int a, .int r, .int (nI k), .int h6] : List Value).toArray s 5 121 (AA Γ)) (F0 m 174 ls [.int (cOp Z h6), .int r, .int p0, .int b, .ref ((fu (fu (fu (fu ad 5 (N 0) q5) 6 (N 0) q6) 3 (N 0) q3) 4 (N 0) q4) 4 (N 0)), .ref ((fu (fu (fu (fu ad 5 (N 0) q5) 6 (N 0) q6) 3 (N 0) q3) 4 (N 0) q4) 4 (N 0)), .ref ((fu (fu (fu ad 5 (N 0) q5) 6 (N 0) q6) 3 (N 0) q3) 3 (N 0)), .ref ((fu (fu (fu ad 5 (N 0) q5) 6 (N 0) q6) 3 (N 0) q3) 3 (N 0)), .ref ((fu (fu ad 5 (N 0) q5) 6 (N 0) q6) 0 6)]) := by
          refine lv_iload hx hb dX1_lend_174 (lv_at hl 9 rfl) ?_
          refine lv_aload hx hb dX1_lend_176 (lv_at hl 2 rfl) ?_
          refine lv_aload hx hb dX1_lend_178 (lv_at hl 1 rfl) ?_
          refine g_cvw (va_runIN (As := [.int b, .int p0, .int r, .int (cOp Z h6), .int h6, .ref ((fu ad 5 (N 0) q5) 5 (N 0)), .ref ((fu (fu ad 5 (N 0) q5) 6 (N 0) q6) 6 (N 0))]) (rest := [.ref ((fu (fu (fu (fu ad 5 (N 0) q5) 6 (N 0) q6) 3 (N 0) q3) 4 (N 0) q4) 4 (N 0)), .ref ((fu (fu (fu ad 5 (N 0) q5) 6 (N 0) q6) 3 (N 0) q3) 3 (N 0)), .ref ((fu (fu (fu ad 5 (N 0) q5) 6 (N 0) q6) 3 (N 0) q3) 3 (N 0)), .ref ((fu (fu ad 5 (N 0) q5) 6 (N 0) q6) 0 6)]) ⟨hx, hb, hml, hown, hts⟩ (met_X6_init l Γ (fu (fu (fu (fu ad 5 (N 0) q5) 6 (N 0) q6) 3 (N 0) q3) 4 (N 0) q4) (fu (fu (fu (fu (shp Γ ad N o Z) 5 (N 0) (some (.inl (Γ.2.1 0, k, .inl (lP a (nI k) k k))))) 6 (N 0) (some (.inl (Γ.2.1 0, k, .inl (lC (Z 0 1) k))))) 3 (N 0) (some (.inr (3, [.null, .int 0])))) 4 (N 0) (some (.inr (4, [.int 0, .int 0, .int 0, .int 0, .int 0, .null, .null])))) 4 (N 0) b p0 r (cOp Z h6) h6 ((fu ad 5 (N 0) q5) 5 (N 0)) ((fu (fu ad 5 (N 0) q5) 6 (N 0) q6) 6 (N 0)) hh6 (fu_same _ _ _ _)) ⟨va_cnB 7 hts (lw_meth q355) rfl rfl rfl (hK.nest 1 rfl) (hts _ q41) (by decide +kernel) ⟨Nat.le_of_ble_eq_true rfl, Nat.le_of_ble_eq_true rfl⟩, rfl, hts _ q354⟩ (SF_S hK hS hF) rfl rfl hl.1 rfl (lv_room (Nat.le_of_ble_eq_true rfl)) dX1_lend_180 ⟨Nat.le_of_ble_eq_true rfl, Nat.le_of_ble_eq_true rfl⟩) hS (fun H locs hF hS => ?_)
          rw [fu_fu] at hF
          have hF : FF Γ (fu (fu (fu (fu ad 5 (N 0) q5) 6 (N 0) q6) 3 (N 0) q3) 4 (N 0) q4) (fu (fu (fu (fu (shp Γ ad N o Z) 5 (N 0) (some (.inl (Γ.2.1 0, k, .inl (lP a (nI k) k k))))) 6 (N 0) (some (.inl (Γ.2.1 0, k, .inl (lC (Z 0 1) k))))) 3 (N 0) (some (.inr (3, [.null, .int 0])))) 4 (N 0) (some (.inr (4, [.int b, .int p0, .int r, .int (cOp Z h6), .int h6, .ref ((fu ad 5 (N 0) q5) 5 (N 0)), .ref ((fu (fu ad 5 (N 0) q5) 6 (N 0) q6) 6 (N 0))])))) H := hF
          refine g_cvw (va_runI (As := [.ref ((fu (fu (fu (fu ad 5 (N 0) q5) 6 (N 0) q6) 3 (N 0) q3) 4 (N 0) q4) 4 (N 0))]) (rest := [.ref ((fu (fu (fu ad 5 (N 0) q5) 6 (N 0) q6) 3 (N 0) q3) 3 (N 0)), .ref ((fu (fu ad 5 (N 0) q5) 6 (N 0) q6) 0 6)]) ⟨hx, hb, hml, hown, hts⟩ (met_X5_init l Γ (fu (fu (fu (fu ad 5 (N 0) q5) 6 (N 0) q6) 3 (N 0) q3) 4 (N 0) q4) (fu (fu (fu (fu (shp Γ ad N o Z) 5 (N 0) (some (.inl (Γ.2.1 0, k, .inl (lP a (nI k) k k))))) 6 (N 0) (some (.inl (Γ.2.1 0, k, .inl (lC (Z 0 1) k))))) 3 (N 0) (some (.inr (3, [.null, .int 0])))) 4 (N 0) (some (.inr (4, [.int b, .int p0, .int r, .int (cOp Z h6), .int h6, .ref ((fu ad 5 (N 0) q5) 5 (N 0)), .ref ((fu (fu ad 5 (N 0) q5) 6 (N 0) q6) 6 (N 0))])))) 3 (N 0) ((fu (fu (fu (fu ad 5 (N 0) q5) 6 (N 0) q6) 3 (N 0) q3) 4 (N 0) q4) 4 (N 0)) ((fu_neg _ _ (by decide)).trans (fu_same _ _ _ _))) (cwI 1 hts (lw_meth q381) rfl rfl rfl (hts _ q40) (hts _ q379) (hts _ q380) rfl (by decide +kernel) ⟨Nat.le_of_ble_eq_true rfl, Nat.le_of_ble_eq_true rfl⟩) (SF_S hK hS hF) rfl rfl hl.1 rfl (lv_room (Nat.le_of_ble_eq_true rfl)) dX1_lend_183 ⟨Nat.le_of_ble_eq_true rfl, Nat.le_of_ble_eq_true rfl⟩) hS (fun H locs hF hS => ?_)
          rw [fu_sw _ 4 (N 0) 3 (N 0) _ _ (fun h => absurd h.1 (by decide)), fu_fu] at hF
          have hF : FF Γ (fu (fu (fu (fu ad 5 (N 0) q5) 6 (N 0) q6) 3 (N 0) q3) 4 (N 0) q4) (fu (fu (fu (fu (shp Γ ad N o Z) 5 (N 0) (some (.inl (Γ.2.1 0, k, .inl (lP a (nI k) k k))))) 6 (N 0) (some (.inl (Γ.2.1 0, k, .inl (lC (Z 0 1) k))))) 3 (N 0) (some (.inr (3, [.ref ((fu (fu (fu (fu ad 5 (N 0) q5) 6 (N 0) q6) 3 (N 0) q3) 4 (N 0) q4) 4 (N 0)), .int 0])))) 4 (N 0) (some (.inr (4, [.int b, .int p0, .int r, .int (cOp Z h6), .int h6, .ref ((fu ad 5 (N 0) q5) 5 (N 0)), .ref ((fu (fu ad 5 (N 0) q5) 6 (N 0) q6) 6 (N 0))])))) H := hF
          have he6 : (fu (fu (fu (fu (shp Γ ad N o Z) 5 (N 0) (some (.inl (Γ.2.1 0, k, .inl (lP a (nI k) k k))))) 6 (N 0) (some (.inl (Γ.2.1 0, k, .inl (lC (Z 0 1) k))))) 3 (N 0) (some (.inr (3, [.ref ((fu (fu (fu (fu ad 5 (N 0) q5) 6 (N 0) q6) 3 (N 0) q3) 4 (N 0) q4) 4 (N 0)), .int 0])))) 4 (N 0) (some (.inr (4, [.int b, .int p0, .int r, .int (cOp Z h6), .int h6, .ref ((fu ad 5 (N 0) q5) 5 (N 0)), .ref ((fu (fu ad 5 (N 0) q5) 6 (N 0) q6) 6 (N 0))])))) 0 6 = some (.inr (1, [.int (Z 0 6 0), .ref (if N 1 = 0 then Γ.2.2 1 else ad 0 7), .int (nI (N 0))])) := rfl
          have hq : ∀ i, i < N 0 → (fu (fu (fu (fu (shp Γ ad N o Z) 5 (N 0) (some (.inl (Γ.2.1 0, k, .inl (lP a (nI k) k k))))) 6 (N 0) (some (.inl (Γ.2.1 0, k, .inl (lC (Z 0 1) k))))) 3 (N 0) (some (.inr (3, [.ref ((fu (fu (fu (fu ad 5 (N 0) q5) 6 (N 0) q6) 3 (N 0) q3) 4 (N 0) q4) 4 (N 0)), .int 0])))) 4 (N 0) (some (.inr (4, [.int b, .int p0, .int r, .int (cOp Z h6), .int h6, .ref ((fu ad 5 (N 0) q5) 5 (N 0)), .ref ((fu (fu ad 5 (N 0) q5) 6 (N 0) q6) 6 (N 0))])))) 3 i = some (.inr (3, [.ref (ad 4 i), .int (Z 3 i 0)])) := fun i hi => by
            rw [fu_neg _ _ (by decide), fu_nea _ _ (by omega), fu_neg _ _ (by decide), fu_neg _ _ (by decide)]
            exact sh_3 hi _
          have hq2 : ∀ i, i < N 0 → (fu (fu (fu (fu ad 5 (N 0) q5) 6 (N 0) q6) 3 (N 0) q3) 4 (N 0) q4) 3 i = ad 3 i := fun i hi => by
            rw [fu_neg _ _ (by decide), fu_nea _ _ (by omega), fu_neg _ _ (by decide), fu_neg _ _ (by decide)]
          have hc : (((if N 1 = 0 then Γ.2.2 1 else ad 0 7) = Γ.2.2 1 ∧ N 0 = 0 ∧ (fu (fu (fu (fu (shp Γ ad N o Z) 5 (N 0) (some (.inl (Γ.2.1 0, k, .inl (lP a (nI k) k k))))) 6 (N 0) (some (.inl (Γ.2.1 0, k, .inl (lC (Z 0 1) k))))) 3 (N 0) (some (.inr (3, [.ref ((fu (fu (fu (fu ad 5 (N 0) q5) 6 (N 0) q6) 3 (N 0) q3) 4 (N 0) q4) 4 (N 0)), .int 0])))) 4 (N 0) (some (.inr (4, [.int b, .int p0, .int r, .int (cOp Z h6), .int h6, .ref ((fu ad 5 (N 0) q5) 5 (N 0)), .ref ((fu (fu ad 5 (N 0) q5) 6 (N 0) q6) 6 (N 0))])))) 0 7 = none) ∨ ((if N 1 = 0 then Γ.2.2 1 else ad 0 7) = (fu (fu (fu (fu ad 5 (N 0) q5) 6 (N 0) q6) 3 (N 0) q3) 4 (N 0) q4) 0 7 ∧ 0 < N 0 ∧ N 0 ≤ 24 ∧ (fu (fu (fu (fu (shp Γ ad N o Z) 5 (N 0) (some (.inl (Γ.2.1 0, k, .inl (lP a (nI k) k k))))) 6 (N 0) (some (.inl (Γ.2.1 0, k, .inl (lC (Z 0 1) k))))) 3 (N 0) (some (.inr (3, [.ref ((fu (fu (fu (fu ad 5 (N 0) q5) 6 (N 0) q6) 3 (N 0) q3) 4 (N 0) q4) 4 (N 0)), .int 0])))) 4 (N 0) (some (.inr (4, [.int b, .int p0, .int r, .int (cOp Z h6), .int h6, .ref ((fu ad 5 (N 0) q5) 5 (N 0)), .ref ((fu (fu ad 5 (N 0) q5) 6 (N 0) q6) 6 (N 0))])))) 0 7 = some (.inl (Γ.2.1 3, N 0, rfs (fun j => if j < N 0 then some (ad 3 j) else none))) ∧ (fu (fu (fu (fu (shp Γ ad N o Z) 5 (N 0) (some (.inl (Γ.2.1 0, k, .inl (lP a (nI k) k k))))) 6 (N 0) (some (.inl (Γ.2.1 0, k, .inl (lC (Z 0 1) k))))) 3 (N 0) (some (.inr (3, [.ref ((fu (fu (fu (fu ad 5 (N 0) q5) 6 (N 0) q6) 3 (N 0) q3) 4 (N 0) q4) 4 (N 0)), .int 0])))) 4 (N 0) (some (.inr (4, [.int b, .int p0, .int r, .int (cOp Z h6), .int h6, .ref ((fu ad 5 (N 0) q5) 5 (N 0)), .ref ((fu (fu ad 5 (N 0) q5) 6 (N 0) q6) 6 (N 0))])))) 20 0 = none ∧ ∀ i : Nat, i < N 0 → ∃ fs, (fun j => if j < N 0 then some (ad 3 j) else none) i = some ((fu (fu (fu (fu ad 5 (N 0) q5) 6 (N 0) q6) 3 (N 0) q3) 4 (N 0) q4) 3 i) ∧ (fu (fu (fu (fu (shp Γ ad N o Z) 5 (N 0) (some (.inl (Γ.2.1 0, k, .inl (lP a (nI k) k k))))) 6 (N 0) (some (.inl (Γ.2.1 0, k, .inl (lC (Z 0 1) k))))) 3 (N 0) (some (.inr (3, [.ref ((fu (fu (fu (fu ad 5 (N 0) q5) 6 (N 0) q6) 3 (N 0) q3) 4 (N 0) q4) 4 (N 0)), .int 0])))) 4 (N 0) (some (.inr (4, [.int b, .int p0, .int r, .int (cOp Z h6), .int h6, .ref ((fu ad 5 (N 0) q5) 5 (N 0)), .ref ((fu (fu ad 5 (N 0) q5) 6 (N 0) q6) 6 (N 0))])))) 3 i = some (.inr (3, fs)))) ∨ ((if N 1 = 0 then Γ.2.2 1 else ad 0 7) = (fu (fu (fu (fu ad 5 (N 0) q5) 6 (N 0) q6) 3 (N 0) q3) 4 (N 0) q4) 0 7 ∧ N 0 < N 1 ∧ N 1 ≤ 100 ∧ (fu (fu (fu (fu (shp Γ ad N o Z) 5 (N 0) (some (.inl (Γ.2.1 0, k, .inl (lP a (nI k) k k))))) 6 (N 0) (some (.inl (Γ.2.1 0, k, .inl (lC (Z 0 1) k))))) 3 (N 0) (some (.inr (3, [.ref ((fu (fu (fu (fu ad 5 (N 0) q5) 6 (N 0) q6) 3 (N 0) q3) 4 (N 0) q4) 4 (N 0)), .int 0])))) 4 (N 0) (some (.inr (4, [.int b, .int p0, .int r, .int (cOp Z h6), .int h6, .ref ((fu ad 5 (N 0) q5) 5 (N 0)), .ref ((fu (fu ad 5 (N 0) q5) 6 (N 0) q6) 6 (N 0))])))) 0 7 = some (.inl (Γ.2.1 3, N 1, rfs (fun j => if j < N 0 then some (ad 3 j) else none))) ∧ ∀ j, N 0 ≤ j → (fun j => if j < N 0 then some (ad 3 j) else none) j = none) := by
            by_cases h1 : N 1 = 0
            · exact Or.inl (Or.inl ⟨if_pos h1, by omega, (show (if N 1 = 0 then none else some _) = none from if_pos h1)⟩)
            · have e7 : (fu (fu (fu (fu (shp Γ ad N o Z) 5 (N 0) (some (.inl (Γ.2.1 0, k, .inl (lP a (nI k) k k))))) 6 (N 0) (some (.inl (Γ.2.1 0, k, .inl (lC (Z 0 1) k))))) 3 (N 0) (some (.inr (3, [.ref ((fu (fu (fu (fu ad 5 (N 0) q5) 6 (N 0) q6) 3 (N 0) q3) 4 (N 0) q4) 4 (N 0)), .int 0])))) 4 (N 0) (some (.inr (4, [.int b, .int p0, .int r, .int (cOp Z h6), .int h6, .ref ((fu ad 5 (N 0) q5) 5 (N 0)), .ref ((fu (fu ad 5 (N 0) q5) 6 (N 0) q6) 6 (N 0))])))) 0 7 = some (.inl (Γ.2.1 3, N 1, rfs (fun j => if j < N 0 then some (ad 3 j) else none))) := sh_07 (o := o) h1 (Z 0 7)
              by_cases h2 : N 0 = N 1
              · refine Or.inl (Or.inr ⟨if_neg h1, by omega, hN1.1, by rw [e7, h2], rfl, fun i hi => ⟨_, ?_, hq i hi⟩⟩)
                rw [hq2 i hi]
                exact if_pos hi
              · exact Or.inr ⟨if_neg h1, by omega, hN1.2.2, e7, fun j hj => if_neg (by omega)⟩
          refine g_callFi (va_runF (As := [.ref ((fu (fu (fu ad 5 (N 0) q5) 6 (N 0) q6) 3 (N 0) q3) 3 (N 0))]) (rest := []) (hK.1.1 1 _ rfl).2 ⟨hx, hb, hml, hown, hts⟩ (met_J2_add l Γ (fu (fu (fu (fu ad 5 (N 0) q5) 6 (N 0) q6) 3 (N 0) q3) 4 (N 0) q4) (fu (fu (fu (fu (shp Γ ad N o Z) 5 (N 0) (some (.inl (Γ.2.1 0, k, .inl (lP a (nI k) k k))))) 6 (N 0) (some (.inl (Γ.2.1 0, k, .inl (lC (Z 0 1) k))))) 3 (N 0) (some (.inr (3, [.ref ((fu (fu (fu (fu ad 5 (N 0) q5) 6 (N 0) q6) 3 (N 0) q3) 4 (N 0) q4) 4 (N 0)), .int 0])))) 4 (N 0) (some (.inr (4, [.int b, .int p0, .int r, .int (cOp Z h6), .int h6, .ref ((fu ad 5 (N 0) q5) 5 (N 0)), .ref ((fu (fu ad 5 (N 0) q5) 6 (N 0) q6) 6 (N 0))])))) he6 hc (N 0) ((fu_neg _ _ (by decide)).trans (fu_same _ _ _ _))) (va_cwF 1 hts (lw_F q395 q398 q400 q28 q402) rfl rfl rfl (hK.face 1 rfl) (by decide +kernel) ⟨Nat.le_of_ble_eq_true rfl, Nat.le_of_ble_eq_true rfl⟩) (SF_V hK hS hF (recvF hK hF 0 6 rfl rfl)) rfl rfl hl.1 rfl (lv_room (Nat.le_of_ble_eq_true rfl)) dX1_lend_186 ⟨Nat.le_of_ble_eq_true rfl, Nat.le_of_ble_eq_true rfl⟩) hS (fun r0 u H locs hu hF hS => ?_)
          obtain ⟨-, hu1, hu2⟩ := hu
          refine lv_pop hx hb dX1_lend_191 rfl ?_
          have hF : FF Γ (fu (fu (fu (fu (fu ad 5 (N 0) q5) 6 (N 0) q6) 3 (N 0) q3) 4 (N 0) q4) 0 7 u.1) (fu (fu (fu (fu (fu (fu (shp Γ ad N o Z) 5 (N 0) (some (.inl (Γ.2.1 0, k, .inl (lP a (nI k) k k))))) 6 (N 0) (some (.inl (Γ.2.1 0, k, .inl (lC (Z 0 1) k))))) 3 (N 0) (some (.inr (3, [.ref ((fu (fu (fu (fu ad 5 (N 0) q5) 6 (N 0) q6) 3 (N 0) q3) 4 (N 0) q4) 4 (N 0)), .int 0])))) 4 (N 0) (some (.inr (4, [.int b, .int p0, .int r, .int (cOp Z h6), .int h6, .ref ((fu ad 5 (N 0) q5) 5 (N 0)), .ref ((fu (fu ad 5 (N 0) q5) 6 (N 0) q6) 6 (N 0))])))) 0 7 (some (.inl (Γ.2.1 3, u.2, rfs (fun j => if j < N 0 then (if j < N 0 then some (ad 3 j) else none) else if j = N 0 then some ((fu (fu (fu (fu ad 5 (N 0) q5) 6 (N 0) q6) 3 (N 0) q3) 4 (N 0) q4) 3 (N 0)) else none))))) 0 6 (some (.inr (1, [.int (Z 0 6 0 + 1), .ref u.1, .int (nI (N 0 + 1))])))) H := hF
          refine lv_aload_n hx hb dX1_lend_192 rfl (lv_at hl 3 rfl) ?_
          refine r_get (ci := 0) (v := .ref ((fu (fu (fu (fu (fu ad 5 (N 0) q5) 6 (N 0) q6) 3 (N 0) q3) 4 (N 0) q4) 0 7 u.1) 0 6)) (T := TX1) (N := 14) hx hb hts in_X1 hown hK hF 0 0 rfl rfl 2 (by decide) (hts _ q118) (fun _ h9 => h9) rfl dX1_lend_193 ?_
          refine g_cFi (va_runF (As := []) (rest := []) (hK.1.1 1 _ rfl).2 ⟨hx, hb, hml, hown, hts⟩ (met_J2_size l Γ (fu (fu (fu (fu (fu ad 5 (N 0) q5) 6 (N 0) q6) 3 (N 0) q3) 4 (N 0) q4) 0 7 u.1) (fu (fu (fu (fu (fu (fu (shp Γ ad N o Z) 5 (N 0) (some (.inl (Γ.2.1 0, k, .inl (lP a (nI k) k k))))) 6 (N 0) (some (.inl (Γ.2.1 0, k, .inl (lC (Z 0 1) k))))) 3 (N 0) (some (.inr (3, [.ref ((fu (fu (fu (fu ad 5 (N 0) q5) 6 (N 0) q6) 3 (N 0) q3) 4 (N 0) q4) 4 (N 0)), .int 0])))) 4 (N 0) (some (.inr (4, [.int b, .int p0, .int r, .int (cOp Z h6), .int h6, .ref ((fu ad 5 (N 0) q5) 5 (N 0)), .ref ((fu (fu ad 5 (N 0) q5) 6 (N 0) q6) 6 (N 0))])))) 0 7 (some (.inl (Γ.2.1 3, u.2, rfs (fun j => if j < N 0 then (if j < N 0 then some (ad 3 j) else none) else if j = N 0 then some ((fu (fu (fu (fu ad 5 (N 0) q5) 6 (N 0) q6) 3 (N 0) q3) 4 (N 0) q4) 3 (N 0)) else none))))) 0 6 (some (.inr (1, [.int (Z 0 6 0 + 1), .ref u.1, .int (nI (N 0 + 1))])))) (z := nI (N 0 + 1)) (fu_same _ _ _ _)) (va_cwF 0 hts (lw_F q168 q172 q174 q28 q176) rfl rfl rfl (hK.face 0 rfl) (by decide +kernel) ⟨Nat.le_of_ble_eq_true rfl, Nat.le_of_ble_eq_true rfl⟩) (SF_V hK hS hF (recvF hK hF 0 6 rfl rfl)) rfl rfl hl.1 rfl (lv_room (Nat.le_of_ble_eq_true rfl)) dX1_lend_196 ⟨Nat.le_of_ble_eq_true rfl, Nat.le_of_ble_eq_true rfl⟩) hS (fun H locs hF hS => ?_)
          refine lv_iconst (v := 1) hx hb dX1_lend_201 (by decide) ?_
          refine lv_isub hx hb dX1_lend_202 ?_
          refine lv_re (nI_pred _) ?_
          have hA : ∀ x y, ¬ (x = 0 ∧ y = 7) → (x = 0 ∨ x = 1 ∨ x = 2 ∨ x = 7 ∨ x = 8 ∨ x = 9 ∨ y < N 0) → (fu (fu (fu (fu (fu ad 5 (N 0) q5) 6 (N 0) q6) 3 (N 0) q3) 4 (N 0) q4) 0 7 u.1) x y = ad x y := fun x y h1 h2 => by
            rw [fu_ne _ _ h1, fu_ne _ _ (by omega), fu_ne _ _ (by omega), fu_ne _ _ (by omega), fu_ne _ _ (by omega)]
          have hJ := lend_join (b := b) (p := p0) (r := r) (h := h6) hN hu1 hA hF
          exact g_iretu (S := (Nat → Nat → Nat) × Nat) (fu (fu (fu (fu (fu ad 5 (N 0) q5) 6 (N 0) q6) 3 (N 0) q3) 4 (N 0) q4) 0 7 u.1, u.2) ⟨rfl, hu1, hu2⟩ hx hb hr hlocks hJ hS dX1_lend_203
        refine lv_if_eq (tgt := 173) hx hb dX1_lend_163 (by decide) (fun c163 => ?_) (fun c163 => ?_)
        · refine lv_iconst (v := 0) hx hb dX1_lend_173 (by decide) ?_
          rw [show cOp Z h6 = _ from if_pos c163] at K
          exact K
        · refine lv_aload_n hx hb dX1_lend_166 rfl (lv_at hl 3 rfl) ?_
          refine r_get (ci := 0) (v := .int (Z 0 0 1)) (T := TX1) (N := 14) hx hb hts in_X1 hown hK hF 0 0 rfl rfl 11 (by decide) (hts _ q127) (fun _ h9 => h9) rfl dX1_lend_167 ?_
          refine lv_goto (tgt := 174) hx hb dX1_lend_170 (by decide) ?_
          rw [show cOp Z h6 = _ from if_neg c163] at K
          exact K
      · exact absurd (nI_le (a := k) (b := k) (Nat.le_refl _) (by omega)) c92
    | succ u7 ih =>
      intro i x9 hi hs e9 H locs hF hS ls hl
      subst e9
      refine lv_iload hx hb dX1_lend_88 (lv_at hl 0 rfl) ?_
      refine lv_iload hx hb dX1_lend_90 (lv_at hl 8 rfl) ?_
      refine lv_icmp_ge (tgt := 145) hx hb dX1_lend_92 (by decide) (fun c92 => ?_) (fun c92 => ?_)
      · exact absurd c92 (nI_ge (a := i) (b := k) (by omega) (by omega))
      · refine lv_aload hx hb dX1_lend_95 (lv_at hl 2 rfl) ?_
        refine lv_iload hx hb dX1_lend_97 (lv_at hl 0 rfl) ?_
        refine lv_iload hx hb dX1_lend_99 (lv_at hl 0 rfl) ?_
        refine lv_iload hx hb dX1_lend_101 (lv_at hl 8 rfl) ?_
        refine lv_iconst (v := 1) hx hb dX1_lend_103 (by decide) ?_
        refine lv_isub hx hb dX1_lend_104 ?_
        have K : W p l e (headSpec (ws_ yX1_lend cX1_lend 10 (some .int)) ({ frames := 7, cells := 5, slots := 121, locals := 231 })).room s m ([.ref (ad 0 0), .int b, .int p0, .int a, .int r, .int (nI k), .int h6] : List Value).toArray below meth c H locs 2 12 (MQ below (gQi Γ (fun r0 (u : (Nat → Nat → Nat) × Nat) => r0 = nI (N 0) ∧ N 0 < u.2 ∧ u.2 ≤ 100) (fun u => u.1) (fun u => shp Γ u.1 (lendN N k u.2) o (cLend Z (N 0) b p0 a r k h6))) ([.ref (ad 0 0), .int b, .int p0, .int a, .int r, .int (nI k), .int h6] : List Value).toArray s 5 121 (AA Γ)) (F0 m 126 ls [.int (prt a (nI k) k i), .int (nI i), .ref ((fu ad 5 (N 0) q5) 5 (N 0))]) := by
          refine r_iast hx hb hK hF hS 5 (N 0) ((fu_neg _ _ (by decide)).trans (fu_same _ _ _ _)) i rfl (by omega) (by omega) dX1_lend_126 (fun H locs hF hS => ?_)
          refine lv_aload hx hb dX1_lend_127 (lv_at hl 1 rfl) ?_
          refine lv_iload hx hb dX1_lend_129 (lv_at hl 0 rfl) ?_
          refine lv_aload_n hx hb dX1_lend_131 rfl (lv_at hl 3 rfl) ?_
          refine r_get (ci := 0) (v := .ref ((fu (fu ad 5 (N 0) q5) 6 (N 0) q6) 0 1)) (T := TX1) (N := 14) hx hb hts in_X1 hown hK hF 0 0 rfl rfl 1 (by decide) (hts _ q117) (fun _ h9 => h9) rfl dX1_lend_132 ?_
          refine lv_iload hx hb dX1_lend_135 (lv_at hl 0 rfl) ?_
          refine r_iald hx hb hK hF 0 1 rfl i rfl (by omega) (by omega) dX1_lend_137 ?_
          refine r_iast hx hb hK hF hS 6 (N 0) ((fu_neg _ _ (by decide)).trans (fu_same _ _ _ _)) i rfl (by omega) (by omega) dX1_lend_138 (fun H locs hF hS => ?_)
          rw [fu_sw _ 6 (N 0) 5 (N 0) _ _ (fun h => absurd h.1 (by decide)), fu_fu, fu_fu, lP_s, lC_s] at hF
          refine lv_iinc (v := nI (i + 1)) (lv' := [(9, .int (nI (i + 1))), (8, .ref ((fu (fu ad 5 (N 0) q5) 6 (N 0) q6) 6 (N 0))), (7, .ref ((fu ad 5 (N 0) q5) 5 (N 0))), (0, .ref (ad 0 0)), (1, .int b), (2, .int p0), (3, .int a), (4, .int r), (5, .int (nI k)), (6, .int h6)]) hx hb dX1_lend_139 hl (k := 0) rfl (nI_1 _) (by decide) rfl (fun ls hl => ?_)
          refine lv_goto (tgt := 88) hx hb dX1_lend_142 (by decide) ?_
          exact ih (i + 1) _ (by omega) (by omega) rfl _ _ hF hS ls (lv_sub hl [0, 1, 2, 3, 4, 5, 6, 7, 8, 9] rfl)
        refine lv_icmp_ge (tgt := 115) hx hb dX1_lend_105 (by decide) (fun c105 => ?_) (fun c105 => ?_)
        · refine lv_iload_n hx hb dX1_lend_115 rfl (lv_at hl 6 rfl) ?_
          refine lv_iload_n hx hb dX1_lend_116 rfl (lv_at hl 6 rfl) ?_
          refine lv_iload hx hb dX1_lend_117 (lv_at hl 8 rfl) ?_
          refine lv_idiv hx hb dX1_lend_119 (nI_ne0 hk0 (by omega)) ?_
          refine lv_iload hx hb dX1_lend_120 (lv_at hl 8 rfl) ?_
          refine lv_iconst (v := 1) hx hb dX1_lend_122 (by decide) ?_
          refine lv_isub hx hb dX1_lend_123 ?_
          refine lv_imul hx hb dX1_lend_124 ?_
          refine lv_isub hx hb dX1_lend_125 ?_
          rw [show prt a (nI k) k i = _ from if_neg (fun q => (lt_m1 hk0 (by omega) (by omega)).mpr q c105)] at K
          exact K
        · refine lv_iload_n hx hb dX1_lend_108 rfl (lv_at hl 6 rfl) ?_
          refine lv_iload hx hb dX1_lend_109 (lv_at hl 8 rfl) ?_
          refine lv_idiv hx hb dX1_lend_111 (nI_ne0 hk0 (by omega)) ?_
          refine lv_goto (tgt := 126) hx hb dX1_lend_112 (by decide) ?_
          rw [show prt a (nI k) k i = _ from if_pos ((lt_m1 hk0 (by omega) (by omega)).mp c105)] at K
          exact K
  exact LP k 0 _ (by omega) (Nat.le_refl _) rfl _ _ hF hS ls hl
set_option maxHeartbeats 4000000 in
set_option maxRecDepth 100000 in
/-- deposit -/
theorem cc_deposit_D (l : Launch) (Γ : Gm) (ad : Nat → Nat → Nat) (N : Nat → Nat) (o : Nat → Int64) (Z : Nat → Nat → Nat → Int32) (b : Nat) (hb3 : b < 3) (c0 : Int32) (h1 : (-10000000) ≤ c0 ∧ c0 ≤ 10000000) (h : 0 ≤ Z 7 b 0 + c0 ∧ Z 7 b 0 + c0 ≤ 10000000) (hnow : Z 0 0 3 = 0) (hc0 : ¬ c0 = 0) : Met l yX1_deposit (ws_ yX1_deposit cX1_deposit 5 (some .int)) ({ frames := 3, cells := 1, slots := 2, locals := 63 }) (va_Pc [.ref (ad 0 0), .int (nI b), .int c0] (SF Γ ad (shp Γ ad N o Z))) (gQi Γ (fun r0 (_ : Nat) => r0 = Z 7 b 0 + c0) (fun q => fu ad 7 b q) (fun q => shp Γ (fu ad 7 b q) N o (cLays (fu Z 7 b (dRow (Z 7 b 0 + c0) (nI b))) 6))) 1 2 (AA Γ) := by
  refine Met.ofW (cc := cX1_deposit) (maxL := 5) (ret := (some .int)) (by decide) rfl ?_
  intro p e s m args below meth c s₁ B hml hv
  obtain ⟨rfl, hK, hF⟩ := hv
  have hx := B.exec
  have hb := B.bytes
  have hr := B.returns
  have hts := atoms_spec (ws := ws_ yX1_deposit cX1_deposit 5 (some .int)) B.pre
  have hts : ∀ w ∈ lw_all, w.before _ s = true := fun w h => hts w (List.mem_cons_of_mem _ h)
  have hown : s.vm.findClass RX1 = some m.cls := findClass_of_methodNamed B.named
  have hlocks := B.notSynchronized
  have hS : va_S (AA Γ) s.heap s.heap [] := va_S.rf
  have hl := lv_entry ([.ref (ad 0 0), .int (nI b), .int c0]) (n := 5) (Nat.le_of_ble_eq_true rfl)
  rw [lg_entry_eq]
  generalize (lg_sl ([.ref (ad 0 0), .int (nI b), .int c0]) ++ List.replicate (5 - (lg_sl ([.ref (ad 0 0), .int (nI b), .int c0])).length) Slot.unset).toArray = ls at hl ⊢
  have hl : lv_has ls 5 [(0, .ref (ad 0 0)), (1, .int (nI b)), (2, .int c0)] := hl
  refine lv_iload_n hx hb dX1_deposit_0 rfl (lv_at hl 1 rfl) ?_
  refine lv_iconst (v := 3) hx hb dX1_deposit_1 (by decide) ?_
  refine g_cv (va_runS (As := [.int (nI b), .int 3]) (rest := []) ⟨hx, hb, hml, hown, hts⟩ (met_X1_exists l Γ ad (shp Γ ad N o Z) (nI b) 3 (exI (n := 3) hb3 (by decide))) (va_cwS 2 hts (lw_S q270 q271 q23 q272) rfl rfl rfl (by decide +kernel) ⟨Nat.le_of_ble_eq_true rfl, Nat.le_of_ble_eq_true rfl⟩) (SF_S hK hS hF) rfl rfl hl.1 rfl (lv_room (Nat.le_of_ble_eq_true rfl)) dX1_deposit_2 ⟨Nat.le_of_ble_eq_true rfl, Nat.le_of_ble_eq_true rfl⟩) hS (fun H locs hF hS => ?_)
  refine lv_iload_n hx hb dX1_deposit_5 rfl (lv_at hl 2 rfl) ?_
  refine lv_ldc (v := (-10000000)) hx hb hown (hts _ q514) dX1_deposit_6 ?_
  refine lv_ldc (v := 10000000) hx hb hown (hts _ q330) dX1_deposit_8 ?_
  refine g_ci (va_runS (As := [.int c0, .int (-10000000), .int 10000000]) (rest := []) ⟨hx, hb, hml, hown, hts⟩ (Met.val (met_X1_isIn l Γ ad (shp Γ ad N o Z) c0 (-10000000) 10000000) (bI1 h1)) (va_cwS 3 hts (lw_S q294 q295 q23 q296) rfl rfl rfl (by decide +kernel) ⟨Nat.le_of_ble_eq_true rfl, Nat.le_of_ble_eq_true rfl⟩) (SF_S hK hS hF) rfl rfl hl.1 rfl (lv_room (Nat.le_of_ble_eq_true rfl)) dX1_deposit_10 ⟨Nat.le_of_ble_eq_true rfl, Nat.le_of_ble_eq_true rfl⟩) hS (fun H locs hF hS => ?_)
  refine g_cv (va_runS (As := [.int 1]) (rest := []) ⟨hx, hb, hml, hown, hts⟩ (met_X1_want l Γ ad (shp Γ ad N o Z)) (va_cwS 1 hts (lw_S q297 q298 q23 q299) rfl rfl rfl (by decide +kernel) ⟨Nat.le_of_ble_eq_true rfl, Nat.le_of_ble_eq_true rfl⟩) (SF_S hK hS hF) rfl rfl hl.1 rfl (lv_room (Nat.le_of_ble_eq_true rfl)) dX1_deposit_13 ⟨Nat.le_of_ble_eq_true rfl, Nat.le_of_ble_eq_true rfl⟩) hS (fun H locs hF hS => ?_)
  refine lv_aload_n hx hb dX1_deposit_16 rfl (lv_at hl 0 rfl) ?_
  refine r_get (ci := 0) (v := .ref (ad 0 8)) (T := TX1) (N := 14) hx hb hts in_X1 hown hK hF 0 0 rfl rfl 3 (by decide) (hts _ q119) (fun _ h9 => h9) rfl dX1_deposit_17 ?_
  refine lv_iload_n hx hb dX1_deposit_20 rfl (lv_at hl 1 rfl) ?_
  refine r_aald (v := .ref (ad 7 b)) hx hb hK hF 0 8 4 rfl rfl rfl b rfl (by omega) (by omega) rfl dX1_deposit_21 ?_
  refine g_ci (va_runV (As := []) (rest := []) ⟨hx, hb, hml, hown, hts⟩ (met_X3_balance l Γ ad N o Z b hb3) (cwV 0 hts (lw_V q515 q516 q517 q30 q518) rfl rfl rfl (by decide +kernel) ⟨Nat.le_of_ble_eq_true rfl, Nat.le_of_ble_eq_true rfl⟩) (SF_V hK hS hF (recvF hK hF 7 b (sh_7 hb3 _) rfl)) rfl rfl hl.1 rfl (lv_room (Nat.le_of_ble_eq_true rfl)) dX1_deposit_22 ⟨Nat.le_of_ble_eq_true rfl, Nat.le_of_ble_eq_true rfl⟩) hS (fun H locs hF hS => ?_)
  refine lv_iload_n hx hb dX1_deposit_25 rfl (lv_at hl 2 rfl) ?_
  refine lv_iadd hx hb dX1_deposit_26 ?_
  refine lv_istore_n (lv' := [(3, .int ((Z 7 b 0) + c0)), (0, .ref (ad 0 0)), (1, .int (nI b)), (2, .int c0)]) hx hb dX1_deposit_27 rfl hl (by decide) rfl (fun ls hl => ?_)
  refine lv_iload_n hx hb dX1_deposit_28 rfl (lv_at hl 0 rfl) ?_
  refine lv_iconst (v := 0) hx hb dX1_deposit_29 (by decide) ?_
  refine lv_ldc (v := 10000000) hx hb hown (hts _ q330) dX1_deposit_30 ?_
  refine g_ci (va_runS (As := [.int ((Z 7 b 0) + c0), .int 0, .int 10000000]) (rest := []) ⟨hx, hb, hml, hown, hts⟩ (Met.val (met_X1_isIn l Γ ad (shp Γ ad N o Z) ((Z 7 b 0) + c0) 0 10000000) (bI1 h)) (va_cwS 3 hts (lw_S q294 q295 q23 q296) rfl rfl rfl (by decide +kernel) ⟨Nat.le_of_ble_eq_true rfl, Nat.le_of_ble_eq_true rfl⟩) (SF_S hK hS hF) rfl rfl hl.1 rfl (lv_room (Nat.le_of_ble_eq_true rfl)) dX1_deposit_32 ⟨Nat.le_of_ble_eq_true rfl, Nat.le_of_ble_eq_true rfl⟩) hS (fun H locs hF hS => ?_)
  refine g_cv (va_runS (As := [.int 1]) (rest := []) ⟨hx, hb, hml, hown, hts⟩ (met_X1_allow l Γ ad (shp Γ ad N o Z)) (va_cwS 1 hts (lw_S q331 q332 q23 q333) rfl rfl rfl (by decide +kernel) ⟨Nat.le_of_ble_eq_true rfl, Nat.le_of_ble_eq_true rfl⟩) (SF_S hK hS hF) rfl rfl hl.1 rfl (lv_room (Nat.le_of_ble_eq_true rfl)) dX1_deposit_35 ⟨Nat.le_of_ble_eq_true rfl, Nat.le_of_ble_eq_true rfl⟩) hS (fun H locs hF hS => ?_)
  refine lv_aload_n hx hb dX1_deposit_38 rfl (lv_at hl 1 rfl) ?_
  refine r_get (ci := 0) (v := .ref (ad 0 8)) (T := TX1) (N := 14) hx hb hts in_X1 hown hK hF 0 0 rfl rfl 3 (by decide) (hts _ q119) (fun _ h9 => h9) rfl dX1_deposit_39 ?_
  refine lv_iload_n hx hb dX1_deposit_42 rfl (lv_at hl 2 rfl) ?_
  refine r_new (ci := 2) (fs := [.int 0, .int 0]) (T := TX3) (N := 2) hx hb hts in_X3 tyX3 tyX3_ok hown (hts _ q97) (hts _ q101) (hts _ q30) hK hF hS 20 0 rfl rfl (fun j hj => by rcases (show j = 0 ∨ j = 1 by omega) with rfl | rfl <;> rfl) (Nat.le_of_ble_eq_true rfl) (Nat.le_of_ble_eq_true rfl) dX1_deposit_43 (fun q H hF hS => ?_)
  refine lv_dup hx hb dX1_deposit_46 rfl ?_
  refine lv_iload_n hx hb dX1_deposit_47 rfl (lv_at hl 2 rfl) ?_
  refine lv_iload_n hx hb dX1_deposit_48 rfl (lv_at hl 0 rfl) ?_
  refine g_cvw (va_runIN (As := [.int (nI b), .int ((Z 7 b 0) + c0)]) (rest := [.ref ((fu ad 20 0 q) 20 0), .int (nI b), .ref (ad 0 8)]) ⟨hx, hb, hml, hown, hts⟩ (met_X3_init l Γ (fu ad 20 0 q) (fu (shp Γ ad N o Z) 20 0 (some (.inr (2, [.int 0, .int 0])))) 20 0 (nI b) ((Z 7 b 0) + c0) (fu_same _ _ _ _)) ⟨va_cnB 2 hts (lw_meth q104) rfl rfl rfl (hK.nest 0 rfl) (hts _ q30) (by decide +kernel) ⟨Nat.le_of_ble_eq_true rfl, Nat.le_of_ble_eq_true rfl⟩, rfl, hts _ q103⟩ (SF_S hK hS hF) rfl rfl hl.1 rfl (lv_room (Nat.le_of_ble_eq_true rfl)) dX1_deposit_49 ⟨Nat.le_of_ble_eq_true rfl, Nat.le_of_ble_eq_true rfl⟩) hS (fun H locs hF hS => ?_)
  rw [fu_fu] at hF
  refine r_aast hx hb hK hF hS 0 8 4 rfl (f := fun j => some (ad 7 j)) rfl (anyF hK hF 20 0 (fu_same _ _ _ _) rfl asgDD) b rfl hb3 (by decide) dX1_deposit_52 (fun H locs hF hS => ?_)
  have hF := dep_join hb3 hF
  refine lv_iconst (v := 0) hx hb dX1_deposit_53 (by decide) ?_
  refine lv_istore (lv' := [(4, .int 0), (3, .int ((Z 7 b 0) + c0)), (0, .ref (ad 0 0)), (1, .int (nI b)), (2, .int c0)]) hx hb dX1_deposit_54 hl (by decide) rfl (fun ls hl => ?_)
  have LP : ∀ (u7 i : Nat) (x4 : Int32) , i + u7 = 6 → 0 ≤ i → x4 = nI i → ∀ (H : Heap) (locs : List Loc), FF Γ (fu ad 7 b q) (shp Γ (fu ad 7 b q) N o (cLays (fu Z 7 b (dRow (Z 7 b 0 + c0) (nI b))) i)) H → va_S (AA Γ) s.heap H locs → ∀ (ls : Array Slot), lv_has ls 5 [(4, .int x4), (3, .int ((Z 7 b 0) + c0)), (0, .ref (ad 0 0)), (1, .int (nI b)), (2, .int c0)] → W p l e (headSpec (ws_ yX1_deposit cX1_deposit 5 (some .int)) ({ frames := 3, cells := 1, slots := 2, locals := 63 })).room s m ([.ref (ad 0 0), .int (nI b), .int c0] : List Value).toArray below meth c H locs 1 2 (MQ below (gQi Γ (fun r0 (_ : Nat) => r0 = Z 7 b 0 + c0) (fun q => fu ad 7 b q) (fun q => shp Γ (fu ad 7 b q) N o (cLays (fu Z 7 b (dRow (Z 7 b 0 + c0) (nI b))) 6))) ([.ref (ad 0 0), .int (nI b), .int c0] : List Value).toArray s 1 2 (AA Γ)) (F0 m 56 ls []) := by
    intro u7
    induction u7 with
    | zero =>
      intro i x4  hi hs e4 H locs hF hS ls hl
      subst e4
      obtain rfl : 6 = i := by omega
      refine lv_iload hx hb dX1_deposit_56 (lv_at hl 0 rfl) ?_
      refine lv_bipush (v := 6) hx hb dX1_deposit_58 (by decide) ?_
      refine lv_icmp_ge (tgt := 86) hx hb dX1_deposit_60 (by decide) (fun c60 => ?_) (fun c60 => ?_)
      · refine lv_iload_n hx hb dX1_deposit_86 rfl (lv_at hl 1 rfl) ?_
        exact g_iretu (S := Nat) q rfl hx hb hr hlocks hF hS dX1_deposit_87
      · exact absurd (nI_le (a := 6) (b := 6) (Nat.le_refl _) (by omega)) c60
    | succ u7 ih =>
      intro i x4  hi hs e4 H locs hF hS ls hl
      subst e4
      refine lv_iload hx hb dX1_deposit_56 (lv_at hl 0 rfl) ?_
      refine lv_bipush (v := 6) hx hb dX1_deposit_58 (by decide) ?_
      refine lv_icmp_ge (tgt := 86) hx hb dX1_deposit_60 (by decide) (fun c60 => ?_) (fun c60 => ?_)
      · exact absurd c60 (nI_ge (a := i) (b := 6) (by omega) (by omega))
      · refine lv_aload_n hx hb dX1_deposit_63 rfl (lv_at hl 2 rfl) ?_
        refine r_get (ci := 0) (v := .int ((cLays (fu Z 7 b (dRow (Z 7 b 0 + c0) (nI b))) i) 0 0 3)) (T := TX1) (N := 14) hx hb hts in_X1 hown hK hF 0 0 rfl rfl 13 (by decide) (hts _ q129) (fun _ h9 => h9) rfl dX1_deposit_64 ?_
        refine lv_re ((congrFun (cLays_o (fu Z 7 b (dRow (Z 7 b 0 + c0) (nI b))) (x := 0) (y := 0) (by decide) i) 3).trans hnow) ?_
        refine lv_if_ne (tgt := 86) hx hb dX1_deposit_67 (by decide) (fun c67 => absurd (by decide) c67) (fun _ => ?_)
        refine lv_iload_n hx hb dX1_deposit_70 rfl (lv_at hl 4 rfl) ?_
        refine lv_if_eq (tgt := 86) hx hb dX1_deposit_71 (by decide) (fun c71 => absurd c71 hc0) (fun c71 => ?_)
        refine lv_aload_n hx hb dX1_deposit_74 rfl (lv_at hl 2 rfl) ?_
        refine lv_iload hx hb dX1_deposit_75 (lv_at hl 0 rfl) ?_
        refine g_cvw (va_runV (As := [.int (nI i)]) (rest := []) ⟨hx, hb, hml, hown, hts⟩ (cc_lay_B l Γ (fu ad 7 b q) N o (cLays (fu Z 7 b (dRow (Z 7 b 0 + c0) (nI b))) i) i (by omega)) (cwV 1 hts (lw_V q519 q521 qs6 q23 q522) rfl rfl rfl (by decide +kernel) ⟨Nat.le_of_ble_eq_true rfl, Nat.le_of_ble_eq_true rfl⟩) (SF_V hK hS hF (recvF hK hF 0 0 rfl rfl)) rfl rfl hl.1 rfl (lv_room (Nat.le_of_ble_eq_true rfl)) dX1_deposit_77 ⟨Nat.le_of_ble_eq_true rfl, Nat.le_of_ble_eq_true rfl⟩) hS (fun H locs hF hS => ?_)
        refine lv_iinc (v := nI (i + 1)) (lv' := [(4, .int (nI (i + 1))), (3, .int ((Z 7 b 0) + c0)), (0, .ref (ad 0 0)), (1, .int (nI b)), (2, .int c0)]) hx hb dX1_deposit_80 hl (k := 0) rfl (nI_1 _) (by decide) rfl (fun ls hl => ?_)
        refine lv_goto (tgt := 56) hx hb dX1_deposit_83 (by decide) ?_
        exact ih (i + 1) _ (by omega) (by omega) rfl _ _ hF hS ls (lv_sub hl [0, 1, 2, 3, 4] rfl)
  exact LP (6 - 0) 0 _ (by omega) (Nat.le_refl _) rfl _ _ hF hS ls hl
set_option maxHeartbeats 4000000 in
set_option maxRecDepth 100000 in
/-- deposit -/
theorem cc_deposit_E (l : Launch) (Γ : Gm) (ad : Nat → Nat → Nat) (N : Nat → Nat) (o : Nat → Int64) (Z : Nat → Nat → Nat → Int32) (b : Nat) (hb3 : b < 3) (c0 : Int32) (h1 : (-10000000) ≤ c0 ∧ c0 ≤ 10000000) (h : 0 ≤ Z 7 b 0 + c0 ∧ Z 7 b 0 + c0 ≤ 10000000) (hno : ¬ (Z 0 0 3 = 0 ∧ ¬ c0 = 0)) : Met l yX1_deposit (ws_ yX1_deposit cX1_deposit 5 (some .int)) ({ frames := 3, cells := 1, slots := 2, locals := 62 }) (va_Pc [.ref (ad 0 0), .int (nI b), .int c0] (SF Γ ad (shp Γ ad N o Z))) (gQi Γ (fun r0 (_ : Nat) => r0 = Z 7 b 0 + c0) (fun q => fu ad 7 b q) (fun q => shp Γ (fu ad 7 b q) N o (fu Z 7 b (dRow (Z 7 b 0 + c0) (nI b))))) 1 2 (AA Γ) := by
  refine Met.ofW (cc := cX1_deposit) (maxL := 5) (ret := (some .int)) (by decide) rfl ?_
  intro p e s m args below meth c s₁ B hml hv
  obtain ⟨rfl, hK, hF⟩ := hv
  have hx := B.exec
  have hb := B.bytes
  have hr := B.returns
  have hts := atoms_spec (ws := ws_ yX1_deposit cX1_deposit 5 (some .int)) B.pre
  have hts : ∀ w ∈ lw_all, w.before _ s = true := fun w h => hts w (List.mem_cons_of_mem _ h)
  have hown : s.vm.findClass RX1 = some m.cls := findClass_of_methodNamed B.named
  have hlocks := B.notSynchronized
  have hS : va_S (AA Γ) s.heap s.heap [] := va_S.rf
  have hl := lv_entry ([.ref (ad 0 0), .int (nI b), .int c0]) (n := 5) (Nat.le_of_ble_eq_true rfl)
  rw [lg_entry_eq]
  generalize (lg_sl ([.ref (ad 0 0), .int (nI b), .int c0]) ++ List.replicate (5 - (lg_sl ([.ref (ad 0 0), .int (nI b), .int c0])).length) Slot.unset).toArray = ls at hl ⊢
  have hl : lv_has ls 5 [(0, .ref (ad 0 0)), (1, .int (nI b)), (2, .int c0)] := hl
  refine lv_iload_n hx hb dX1_deposit_0 rfl (lv_at hl 1 rfl) ?_
  refine lv_iconst (v := 3) hx hb dX1_deposit_1 (by decide) ?_
  refine g_cv (va_runS (As := [.int (nI b), .int 3]) (rest := []) ⟨hx, hb, hml, hown, hts⟩ (met_X1_exists l Γ ad (shp Γ ad N o Z) (nI b) 3 (exI (n := 3) hb3 (by decide))) (va_cwS 2 hts (lw_S q270 q271 q23 q272) rfl rfl rfl (by decide +kernel) ⟨Nat.le_of_ble_eq_true rfl, Nat.le_of_ble_eq_true rfl⟩) (SF_S hK hS hF) rfl rfl hl.1 rfl (lv_room (Nat.le_of_ble_eq_true rfl)) dX1_deposit_2 ⟨Nat.le_of_ble_eq_true rfl, Nat.le_of_ble_eq_true rfl⟩) hS (fun H locs hF hS => ?_)
  refine lv_iload_n hx hb dX1_deposit_5 rfl (lv_at hl 2 rfl) ?_
  refine lv_ldc (v := (-10000000)) hx hb hown (hts _ q514) dX1_deposit_6 ?_
  refine lv_ldc (v := 10000000) hx hb hown (hts _ q330) dX1_deposit_8 ?_
  refine g_ci (va_runS (As := [.int c0, .int (-10000000), .int 10000000]) (rest := []) ⟨hx, hb, hml, hown, hts⟩ (Met.val (met_X1_isIn l Γ ad (shp Γ ad N o Z) c0 (-10000000) 10000000) (bI1 h1)) (va_cwS 3 hts (lw_S q294 q295 q23 q296) rfl rfl rfl (by decide +kernel) ⟨Nat.le_of_ble_eq_true rfl, Nat.le_of_ble_eq_true rfl⟩) (SF_S hK hS hF) rfl rfl hl.1 rfl (lv_room (Nat.le_of_ble_eq_true rfl)) dX1_deposit_10 ⟨Nat.le_of_ble_eq_true rfl, Nat.le_of_ble_eq_true rfl⟩) hS (fun H locs hF hS => ?_)
  refine g_cv (va_runS (As := [.int 1]) (rest := []) ⟨hx, hb, hml, hown, hts⟩ (met_X1_want l Γ ad (shp Γ ad N o Z)) (va_cwS 1 hts (lw_S q297 q298 q23 q299) rfl rfl rfl (by decide +kernel) ⟨Nat.le_of_ble_eq_true rfl, Nat.le_of_ble_eq_true rfl⟩) (SF_S hK hS hF) rfl rfl hl.1 rfl (lv_room (Nat.le_of_ble_eq_true rfl)) dX1_deposit_13 ⟨Nat.le_of_ble_eq_true rfl, Nat.le_of_ble_eq_true rfl⟩) hS (fun H locs hF hS => ?_)
  refine lv_aload_n hx hb dX1_deposit_16 rfl (lv_at hl 0 rfl) ?_
  refine r_get (ci := 0) (v := .ref (ad 0 8)) (T := TX1) (N := 14) hx hb hts in_X1 hown hK hF 0 0 rfl rfl 3 (by decide) (hts _ q119) (fun _ h9 => h9) rfl dX1_deposit_17 ?_
  refine lv_iload_n hx hb dX1_deposit_20 rfl (lv_at hl 1 rfl) ?_
  refine r_aald (v := .ref (ad 7 b)) hx hb hK hF 0 8 4 rfl rfl rfl b rfl (by omega) (by omega) rfl dX1_deposit_21 ?_
  refine g_ci (va_runV (As := []) (rest := []) ⟨hx, hb, hml, hown, hts⟩ (met_X3_balance l Γ ad N o Z b hb3) (cwV 0 hts (lw_V q515 q516 q517 q30 q518) rfl rfl rfl (by decide +kernel) ⟨Nat.le_of_ble_eq_true rfl, Nat.le_of_ble_eq_true rfl⟩) (SF_V hK hS hF (recvF hK hF 7 b (sh_7 hb3 _) rfl)) rfl rfl hl.1 rfl (lv_room (Nat.le_of_ble_eq_true rfl)) dX1_deposit_22 ⟨Nat.le_of_ble_eq_true rfl, Nat.le_of_ble_eq_true rfl⟩) hS (fun H locs hF hS => ?_)
  refine lv_iload_n hx hb dX1_deposit_25 rfl (lv_at hl 2 rfl) ?_
  refine lv_iadd hx hb dX1_deposit_26 ?_
  refine lv_istore_n (lv' := [(3, .int ((Z 7 b 0) + c0)), (0, .ref (ad 0 0)), (1, .int (nI b)), (2, .int c0)]) hx hb dX1_deposit_27 rfl hl (by decide) rfl (fun ls hl => ?_)
  refine lv_iload_n hx hb dX1_deposit_28 rfl (lv_at hl 0 rfl) ?_
  refine lv_iconst (v := 0) hx hb dX1_deposit_29 (by decide) ?_
  refine lv_ldc (v := 10000000) hx hb hown (hts _ q330) dX1_deposit_30 ?_
  refine g_ci (va_runS (As := [.int ((Z 7 b 0) + c0), .int 0, .int 10000000]) (rest := []) ⟨hx, hb, hml, hown, hts⟩ (Met.val (met_X1_isIn l Γ ad (shp Γ ad N o Z) ((Z 7 b 0) + c0) 0 10000000) (bI1 h)) (va_cwS 3 hts (lw_S q294 q295 q23 q296) rfl rfl rfl (by decide +kernel) ⟨Nat.le_of_ble_eq_true rfl, Nat.le_of_ble_eq_true rfl⟩) (SF_S hK hS hF) rfl rfl hl.1 rfl (lv_room (Nat.le_of_ble_eq_true rfl)) dX1_deposit_32 ⟨Nat.le_of_ble_eq_true rfl, Nat.le_of_ble_eq_true rfl⟩) hS (fun H locs hF hS => ?_)
  refine g_cv (va_runS (As := [.int 1]) (rest := []) ⟨hx, hb, hml, hown, hts⟩ (met_X1_allow l Γ ad (shp Γ ad N o Z)) (va_cwS 1 hts (lw_S q331 q332 q23 q333) rfl rfl rfl (by decide +kernel) ⟨Nat.le_of_ble_eq_true rfl, Nat.le_of_ble_eq_true rfl⟩) (SF_S hK hS hF) rfl rfl hl.1 rfl (lv_room (Nat.le_of_ble_eq_true rfl)) dX1_deposit_35 ⟨Nat.le_of_ble_eq_true rfl, Nat.le_of_ble_eq_true rfl⟩) hS (fun H locs hF hS => ?_)
  refine lv_aload_n hx hb dX1_deposit_38 rfl (lv_at hl 1 rfl) ?_
  refine r_get (ci := 0) (v := .ref (ad 0 8)) (T := TX1) (N := 14) hx hb hts in_X1 hown hK hF 0 0 rfl rfl 3 (by decide) (hts _ q119) (fun _ h9 => h9) rfl dX1_deposit_39 ?_
  refine lv_iload_n hx hb dX1_deposit_42 rfl (lv_at hl 2 rfl) ?_
  refine r_new (ci := 2) (fs := [.int 0, .int 0]) (T := TX3) (N := 2) hx hb hts in_X3 tyX3 tyX3_ok hown (hts _ q97) (hts _ q101) (hts _ q30) hK hF hS 20 0 rfl rfl (fun j hj => by rcases (show j = 0 ∨ j = 1 by omega) with rfl | rfl <;> rfl) (Nat.le_of_ble_eq_true rfl) (Nat.le_of_ble_eq_true rfl) dX1_deposit_43 (fun q H hF hS => ?_)
  refine lv_dup hx hb dX1_deposit_46 rfl ?_
  refine lv_iload_n hx hb dX1_deposit_47 rfl (lv_at hl 2 rfl) ?_
  refine lv_iload_n hx hb dX1_deposit_48 rfl (lv_at hl 0 rfl) ?_
  refine g_cvw (va_runIN (As := [.int (nI b), .int ((Z 7 b 0) + c0)]) (rest := [.ref ((fu ad 20 0 q) 20 0), .int (nI b), .ref (ad 0 8)]) ⟨hx, hb, hml, hown, hts⟩ (met_X3_init l Γ (fu ad 20 0 q) (fu (shp Γ ad N o Z) 20 0 (some (.inr (2, [.int 0, .int 0])))) 20 0 (nI b) ((Z 7 b 0) + c0) (fu_same _ _ _ _)) ⟨va_cnB 2 hts (lw_meth q104) rfl rfl rfl (hK.nest 0 rfl) (hts _ q30) (by decide +kernel) ⟨Nat.le_of_ble_eq_true rfl, Nat.le_of_ble_eq_true rfl⟩, rfl, hts _ q103⟩ (SF_S hK hS hF) rfl rfl hl.1 rfl (lv_room (Nat.le_of_ble_eq_true rfl)) dX1_deposit_49 ⟨Nat.le_of_ble_eq_true rfl, Nat.le_of_ble_eq_true rfl⟩) hS (fun H locs hF hS => ?_)
  rw [fu_fu] at hF
  refine r_aast hx hb hK hF hS 0 8 4 rfl (f := fun j => some (ad 7 j)) rfl (anyF hK hF 20 0 (fu_same _ _ _ _) rfl asgDD) b rfl hb3 (by decide) dX1_deposit_52 (fun H locs hF hS => ?_)
  have hF := dep_join hb3 hF
  refine lv_iconst (v := 0) hx hb dX1_deposit_53 (by decide) ?_
  refine lv_istore (lv' := [(4, .int 0), (3, .int ((Z 7 b 0) + c0)), (0, .ref (ad 0 0)), (1, .int (nI b)), (2, .int c0)]) hx hb dX1_deposit_54 hl (by decide) rfl (fun ls hl => ?_)
  refine lv_iload hx hb dX1_deposit_56 (lv_at hl 0 rfl) ?_
  refine lv_bipush (v := 6) hx hb dX1_deposit_58 (by decide) ?_
  refine lv_icmp_ge (tgt := 86) hx hb dX1_deposit_60 (by decide) (fun c60 => absurd c60 (by decide)) (fun _ => ?_)
  refine lv_aload_n hx hb dX1_deposit_63 rfl (lv_at hl 2 rfl) ?_
  refine r_get (ci := 0) (v := .int ((fu Z 7 b (dRow (Z 7 b 0 + c0) (nI b))) 0 0 3)) (T := TX1) (N := 14) hx hb hts in_X1 hown hK hF 0 0 rfl rfl 13 (by decide) (hts _ q129) (fun _ h9 => h9) rfl dX1_deposit_64 ?_
  refine lv_if_ne (tgt := 86) hx hb dX1_deposit_67 (by decide) (fun c67 => ?_) (fun c67 => ?_)
  · refine lv_iload_n hx hb dX1_deposit_86 rfl (lv_at hl 1 rfl) ?_
    exact g_iretu (S := Nat) q rfl hx hb hr hlocks hF hS dX1_deposit_87
  · refine lv_iload_n hx hb dX1_deposit_70 rfl (lv_at hl 4 rfl) ?_
    refine lv_if_eq (tgt := 86) hx hb dX1_deposit_71 (by decide) (fun c71 => ?_) (fun c71 => ?_)
    · refine lv_iload_n hx hb dX1_deposit_86 rfl (lv_at hl 1 rfl) ?_
      exact g_iretu (S := Nat) q rfl hx hb hr hlocks hF hS dX1_deposit_87
    · exact absurd ⟨c67, c71⟩ hno
