/-! ROWS: Γ = (the classes' numbers and slots, the array classes, numbers: 0 heap size at the law's start, 1 ArrayList's empty array, 2 the Class object of Object[], 3 Bearing's $VALUES, 10+i the Bearing constants) -/
abbrev Gm : Type := va_G × (Nat → ClassId) × (Nat → Nat)
abbrev clF : List vw_C := [(RX1, TX1, 14), (RJ2, TJ2, 3), (RX3, TX3, 2), (RX5, TX5, 2), (RX6, TX6, 7), (RX4, TX4, 22)]
def AA (Γ : Gm) : Nat → Prop := fun q => Γ.2.2 0 ≤ q
def tyF (Γ : Gm) : List (ClassId × FieldType) := [(Γ.2.1 0, .int), (Γ.2.1 1, .boolean), (Γ.2.1 2, .long), (Γ.2.1 3, .object "java/lang/Object"), (Γ.2.1 4, .object "FundBook$Deposit"), (Γ.2.1 5, .object "FundBook$Bearing"), (Γ.2.1 6, .array .int)]
abbrev FF (Γ : Gm) (ad : Nat → Nat → Nat) (P : Pic) (H : Heap) : Prop := Fam Γ.1 clF (AA Γ) ad P H
def bnm : Nat → String | 0 => "INTEREST" | 1 => "FUNDING" | 2 => "OPTION" | _ => "MARGIN"
def bcl : Nat → String | 0 => "FundBook$Bearing$1" | 1 => "FundBook$Bearing$2" | 2 => "FundBook$Bearing$3" | _ => "FundBook$Bearing$4"
abbrev xOB : String := "java/lang/IndexOutOfBoundsException"
abbrev xIA : String := "java/lang/IllegalArgumentException"
abbrev xIS : String := "java/lang/IllegalStateException"
abbrev mI (x : String) : MethodName := ⟨x, "<init>", "()V"⟩
/-- words of the tables that don't ride in the methods' lists -/
def kW : List Cond := [.declares ⟨"java/lang/Object", "getClass", "()Ljava/lang/Class;"⟩, .declares ⟨"FundBook$Bearing", "of", "(LFundBook$Account;)I"⟩, .declares (mI "java/lang/Throwable"), .declares (mI "java/lang/Exception"), .declares (mI "java/lang/RuntimeException"),
  .castable xOB xOB, .castable xIA xIA, .castable xIS xIS, .castable "FundBook$Account" "java/lang/Object", .castable "[LFundBook$Bearing;" "java/lang/Cloneable"]
def kA : List FieldType := [.object "FundBook$Deposit", .object "java/lang/Object", .array .int]
def kF : List (String × MethodName × MethodName) := [("java/util/ArrayList", ⟨"java/util/List", "size", "()I"⟩, yJ2_size), ("java/util/ArrayList", ⟨"java/util/List", "add", "(Ljava/lang/Object;)Z"⟩, yJ2_add), ("java/util/ArrayList", ⟨"java/util/List", "get", "(I)Ljava/lang/Object;"⟩, yJ2_get)]
def kM : List (Nat × MethodName) := [(60, yX3_init), (107, yX6_init)]
def kN : List (String × String) := [(xIA, xOB), (xIS, xOB), (xIS, xIA), ("FundBook$Deposit", "FundBook$Loan")]
/-- Bearing's $VALUES: the array and what it holds -/
def kV (Γ : Gm) (H : Heap) : Prop := ∃ cell : Cell, H[Γ.2.2 3]? = some cell ∧ cell.cls = Γ.2.1 5 ∧ (∀ q, cell.vm ≠ .statics q) ∧ cell.vm ≠ .unknown ∧ cell.slots.size = 4 ∧ (∀ j : Nat, j < 4 → cell.slots[j]? = some (.ref (Γ.2.2 (10 + j)))) ∧ ¬ AA Γ (Γ.2.2 3)
/-- what is known of the machine and of the cells that nobody writes -/
def Kn (Γ : Gm) (U : State) (H : Heap) : Prop :=
  va_K Γ.1 clF (tyF Γ) U ∧ Γ.2.2 0 ≤ H.size ∧
  (vx_Zq Bundle.tN "UNASSIGNED_STACK" Bundle.steD (AA Γ) U H ∧ vx_Zq Bundle.tN "SUPPRESSED_SENTINEL" Bundle.listD (AA Γ) U H) ∧
  (va_Z "java/util/ArrayList" "DEFAULTCAPACITY_EMPTY_ELEMENTDATA" "[Ljava/lang/Object;" (.ref (Γ.2.2 1)) (AA Γ) U H ∧ va_T (.object "java/lang/Object") (Γ.2.2 1) 0 (fun _ => .null) (AA Γ) U H) ∧
  (va_Z "FundBook$Bearing" "$VALUES" "[LFundBook$Bearing;" (.ref (Γ.2.2 3)) (AA Γ) U H ∧ kV Γ H) ∧
  (∀ i : Nat, i < 4 → va_Z "FundBook$Bearing" (bnm i) "LFundBook$Bearing;" (.ref (Γ.2.2 (10 + i))) (AA Γ) U H ∧ va_O (bcl i) (Γ.2.2 (10 + i)) (AA Γ) U H) ∧
  va_Mi "[Ljava/lang/Object;" (Γ.2.2 2) U ∧
  (∀ w ∈ kW, w.before #[] U = true) ∧
  (∀ t ∈ kA, (Cond.arrayOver t).before #[] U = true) ∧
  (∀ q ∈ kF, va_Fw q.1 q.2.1 q.2.2 U) ∧
  (∀ q ∈ kM, va_Nw (.methodLinkNest "FundBook" q.1 q.2 "FundBook") U) ∧
  (∀ q ∈ kN, va_Nc q.1 q.2 U)
theorem kW_ok : ∀ w ∈ kW, w.onTables = true ∧ w.keepsFace = true := by
  intro w hw
  simp only [kW, List.mem_cons, List.not_mem_nil, or_false] at hw
  rcases hw with rfl | rfl | rfl | rfl | rfl | rfl | rfl | rfl | rfl | rfl <;> exact ⟨rfl, rfl⟩
theorem idx_alike {u U : State} (hvm : u.vm.Alike U.vm) (f : Class → Bool) (hf : ∀ k k' : Class, k.kind = k'.kind → f k = f k') {c : Nat} (h : u.vm.classes.findIdx? f = some c) : U.vm.classes.findIdx? f = some c := by
  have e : ∀ vm : Vm, vm.bare.classes.findIdx? f = vm.classes.findIdx? f := by
    intro vm
    simp only [Vm.bare, Array.findIdx?_map]
    congr 1
    funext k
    exact hf _ _ rfl
  rw [← e]
  first | rw [hvm.bare_eq] | rw [← hvm.bare_eq]
  rw [e]
  exact h
theorem kA_arr {t : FieldType} {u U : State} (hvm : u.vm.Alike U.vm) (h : (Cond.arrayOver (.array t)).before #[] u = true) : (Cond.arrayOver (.array t)).before #[] U = true := by
  simp only [Cond.before, Cond.holds, Cond.value, beq_iff_eq] at h ⊢
  simp only [hvm.findClass]
  cases hc : u.vm.findClass (FieldType.array t).toString with
  | none => simp [hc] at h
  | some comp =>
    simp only [hc, Option.bind_some, Option.bind_eq_some_iff, Option.map_eq_some_iff] at h ⊢
    obtain ⟨c, hi, k, hk, hb⟩ := h
    obtain ⟨k', hk', he⟩ := hvm.2.2 _ _ hk
    refine ⟨c, idx_alike hvm _ (fun k k' e => by rw [e]) hi, k', hk', ?_⟩
    rw [he]
    exact hb
theorem kA_moved {u U : State} (hvm : u.vm.Alike U.vm) (h : ∀ t ∈ kA, (Cond.arrayOver t).before #[] u = true) : ∀ t ∈ kA, (Cond.arrayOver t).before #[] U = true := by
  intro t ht
  have h0 := h t ht
  simp only [kA, List.mem_cons, List.not_mem_nil, or_false] at ht
  rcases ht with rfl | rfl | rfl
  · exact va_AO.moved hvm h0
  · exact va_AO.moved hvm h0
  · exact kA_arr hvm h0
theorem kV.kept {Γ : Gm} {H H1 : Heap} (h : kV Γ H) (hq : ∀ a : Nat, a < H.size → ¬ AA Γ a → H1[a]? = H[a]?) : kV Γ H1 := by
  obtain ⟨cell, h1, h2, h3, h4, h5, h6, h7⟩ := h
  exact ⟨cell, by rw [hq _ (Array.getElem?_eq_some_iff.mp h1).1 h7]; exact h1, h2, h3, h4, h5, h6, h7⟩
/-- inside a method, at a call's start -/
theorem Kn.at {Γ : Gm} {s U : State} {H : Heap} {locs : List Loc} (h : Kn Γ s s.heap) (hS : va_S (AA Γ) s.heap H locs) (hU : U.heap = H) (hW : s.WarmedH U.vm) : Kn Γ U U.heap := by
  obtain ⟨h1, h2, ⟨h3, h3'⟩, ⟨h4, h4'⟩, ⟨h5, h5'⟩, h6, h7, h8, h9, h10, h11, h12⟩ := h
  have hv := hW.alike
  have hq : ∀ a : Nat, a < s.heap.size → ¬ AA Γ a → U.heap[a]? = s.heap[a]? := fun a k1 k2 => by rw [hU]; exact hS.2.1 a k1 k2
  refine ⟨va_K.moved hv h1, by rw [hU]; exact Nat.le_trans h2 hS.1, ⟨(h3.moved hv).kept hq, (h3'.moved hv).kept hq⟩, ⟨(h4.moved hv).kept hq, (h4'.moved hv).kept hq⟩, ⟨(h5.moved hv).kept hq, h5'.kept hq⟩, fun i hi => ⟨((h6 i hi).1.moved hv).kept hq, ((h6 i hi).2.moved hv).kept hq⟩, h7.moved hv, ?_, kA_moved hv h9, ?_, fun q hq => va_Nw.warmM hW (h11 q hq), fun q hq => (h12 q hq).moved hv⟩
  · intro w hw
    have k := kW_ok w hw
    have hh : w.before #[] (s.setVm U.vm) = true := Cond.before_shiftedFace (State.Shifted.of_warmed hW) _ k.2 (h8 w hw)
    exact va_tabs k.1 (rfl : (s.setVm U.vm).vm = U.vm) hh
  · intro q hq
    have hq0 := h10 q hq
    simp only [kF, List.mem_cons, List.not_mem_nil, or_false] at hq
    rcases hq with rfl | rfl | rfl <;> exact va_Fw.moved (by decide) hv hq0
theorem Kn.calling {Γ : Gm} {U : State} (h : Kn Γ U U.heap) (g : JFrame) (mk : MethodId) (a : Array Value) : Kn Γ (U.calling g mk a) (U.calling g mk a).heap := by
  obtain ⟨h1, h2, ⟨h3, h3'⟩, ⟨h4, h4'⟩, ⟨h5, h5'⟩, h6, h7, h8, h9, h10, h11, h12⟩ := h
  have hv : U.vm.Alike (U.calling g mk a).vm := Vm.Alike.refl U.vm
  have hvm : U.vm = (U.calling g mk a).vm := rfl
  refine ⟨va_K.moved hv h1, h2, ⟨h3.moved hv, h3'.moved hv⟩, ⟨h4.moved hv, h4'.moved hv⟩, ⟨h5.moved hv, h5'⟩, fun i hi => ⟨(h6 i hi).1.moved hv, (h6 i hi).2.moved hv⟩, h7.moved hv, fun w hw => va_tabs (kW_ok w hw).1 hvm (h8 w hw), fun t ht => h9 t ht, ?_, fun q hq => va_tabs rfl hvm (h11 q hq), fun q hq => (h12 q hq).moved hv⟩
  intro q hq
  have hq0 := h10 q hq
  simp only [kF, List.mem_cons, List.not_mem_nil, or_false] at hq
  rcases hq with rfl | rfl | rfl <;> exact va_Fw.moved (by decide) hv hq0
/-- a method's start: what is known, and the family -/
def SF (Γ : Gm) (ad : Nat → Nat → Nat) (P : Pic) (U : State) : Prop := Kn Γ U U.heap ∧ FF Γ ad P U.heap
theorem SF_blind {Γ : Gm} {ad : Nat → Nat → Nat} {P : Pic} {av : List Value} : FrameBlind (va_Pc av (SF Γ ad P)) := fun a U g mk q => ⟨q.1, q.2.1.calling g mk a, q.2.2⟩
theorem SF_at {Γ : Gm} {ad : Nat → Nat → Nat} {P : Pic} {s : State} {H : Heap} {locs : List Loc} (hK : Kn Γ s s.heap) (hS : va_S (AA Γ) s.heap H locs) (hF : FF Γ ad P H) (U : State) (hU : U.heap = H) (hW : s.WarmedH U.vm) : SF Γ ad P U := ⟨hK.at hS hU hW, by rw [hU]; exact hF⟩
theorem SF_V {Γ : Gm} {ad : Nat → Nat → Nat} {P : Pic} {s : State} {H : Heap} {locs : List Loc} {C : String} {b : Addr} {As : List Value} (hK : Kn Γ s s.heap) (hS : va_S (AA Γ) s.heap H locs) (hF : FF Γ ad P H) (hr : ∃ cellB : Cell, H[b]? = some cellB ∧ cellB.vm.isStatics = false ∧ s.vm.findClass C = some cellB.cls) : PreV s H C b (va_Pc (.ref b :: As) (SF Γ ad P)) As := ⟨SF_blind, hr, fun U hU hW => ⟨rfl, SF_at hK hS hF U hU hW⟩⟩
theorem SF_S {Γ : Gm} {ad : Nat → Nat → Nat} {P : Pic} {s : State} {H : Heap} {locs : List Loc} {As : List Value} (hK : Kn Γ s s.heap) (hS : va_S (AA Γ) s.heap H locs) (hF : FF Γ ad P H) : PreS s H (va_Pc As (SF Γ ad P)) As := ⟨SF_blind, fun U hU hW => ⟨rfl, SF_at hK hS hF U hU hW⟩⟩
theorem AA_new {Γ : Gm} {s : State} (hK : Kn Γ s s.heap) : ∀ q : Nat, s.heap.size ≤ q → AA Γ q := fun q h => Nat.le_trans hK.2.1 h
theorem recvF {Γ : Gm} {ad : Nat → Nat → Nat} {P : Pic} {s : State} {H : Heap} (hK : Kn Γ s s.heap) (hF : FF Γ ad P H) (g a : Nat) {ci : Nat} {fs : List Value} {q : vw_C} (he : P g a = some (.inr (ci, fs))) (hc : clF[ci]? = some q) : ∃ cell : Cell, H[ad g a]? = some cell ∧ cell.vm.isStatics = false ∧ s.vm.findClass q.1 = some cell.cls := va_recv hK.1 (hF.one he) (q0 := 0) hc rfl
theorem recvB {Γ : Gm} {s : State} {H : Heap} {locs : List Loc} (hK : Kn Γ s s.heap) (hS : va_S (AA Γ) s.heap H locs) {i : Nat} (hi : i < 4) : ∃ cell : Cell, H[Γ.2.2 (10 + i)]? = some cell ∧ cell.vm.isStatics = false ∧ s.vm.findClass (bcl i) = some cell.cls := va_Orecv (hK.2.2.2.2.2.1 i hi).2 hS
theorem Kn.word {Γ : Gm} {s : State} {H : Heap} {args : Array Value} (h : Kn Γ s H) {w : Cond} (i : Nat) (hi : kW[i]? = some w) : w.before args s = true := va_any (kW_ok w (List.mem_of_getElem? hi)).1 (h.2.2.2.2.2.2.2.1 w (List.mem_of_getElem? hi))
theorem Kn.face {Γ : Gm} {s : State} {H : Heap} (h : Kn Γ s H) {q : String × MethodName × MethodName} (i : Nat) (hi : kF[i]? = some q) : va_Fw q.1 q.2.1 q.2.2 s := h.2.2.2.2.2.2.2.2.2.1 q (List.mem_of_getElem? hi)
theorem Kn.nest {Γ : Gm} {s : State} {H : Heap} (h : Kn Γ s H) {q : Nat × MethodName} (i : Nat) (hi : kM[i]? = some q) : va_Nw (.methodLinkNest "FundBook" q.1 q.2 "FundBook") s := h.2.2.2.2.2.2.2.2.2.2.1 q (List.mem_of_getElem? hi)
theorem Kn.nocast {Γ : Gm} {s : State} {H : Heap} (h : Kn Γ s H) {q : String × String} (i : Nat) (hi : kN[i]? = some q) : va_Nc q.1 q.2 s := h.2.2.2.2.2.2.2.2.2.2.2 q (List.mem_of_getElem? hi)
theorem Kn.over {Γ : Gm} {s : State} {H : Heap} (h : Kn Γ s H) {t : FieldType} (i : Nat) (hi : kA[i]? = some t) : (Cond.arrayOver t).before #[] s = true := h.2.2.2.2.2.2.2.2.1 t (List.mem_of_getElem? hi)
/-- the class of an array type is one -/
theorem tyF_one {Γ : Gm} {s : State} {H : Heap} (h : Kn Γ s H) {k : Nat} {cA : ClassId} {ty : FieldType} (hk : (tyF Γ)[k]? = some (cA, ty)) {c : ClassId} (hc : s.vm.findClass ("[" ++ ty.toString) = some c) : c = cA := by
  have h1 := (h.1.2 k _ hk).2
  have h2 : s.vm.findClass ("[" ++ ty.toString) = some cA := by
    cases ty with
    | object C => obtain ⟨-, -, -, -, -, h4⟩ := h1; exact h4
    | _ => exact h1
  exact Option.some.inj (hc.symm.trans h2)
section ROWS
variable {p : Program} {l : Launch} {e : Env} {R : Room} {s : State} {m : MethodId} {args : Array Value} {below : List Frame} {meth : Method} {c : Code} {H : Heap} {locs : List Loc} {cells slots : Nat} {Q : State → Prop}
variable {cc : ByteArray} {pc : Nat} {ls : Array Slot} {rest : List Value} {Γ : Gm} {ad : Nat → Nat → Nat} {P : Pic}
theorem r_get (hx : p.tables.exec = Jvm.exec) (hb : c.code = cc) {own ref C : String} {T : u_T} {N ci index : Nat} (hts : ∀ w ∈ lw_all, w.before args s = true) (hin : ∀ w ∈ u_ws C T N, w ∈ lw_all) (hown : s.vm.findClass own = some m.cls) (hK : Kn Γ s s.heap) (hF : FF Γ ad P H) (g a : Nat) {fs : List Value} (he : P g a = some (.inr (ci, fs))) (hc : clF[ci]? = some (C, T, N)) (k : Nat) (hk : k < N) (hlink : (Cond.fieldLink own index ref (T k).2.1 (T k).2.2.1).before args s = true) (hsame : ∀ x, s.fieldFound? (T k).1 (T k).2.1 (T k).2.2.1 = some x → s.fieldFound? ref (T k).2.1 (T k).2.2.1 = some x) {v : Value} (hv : fs[k]? = some v) (hdg : decode cc pc = .ok (.getfield index, 3))
    (kk : W p l e R s m args below meth c H locs cells slots Q (F0 m (pc + 3) ls (v :: rest))) : W p l e R s m args below meth c H locs cells slots Q (F0 m pc ls (.ref (ad g a) :: rest)) :=
  va_get hx hb hts hin hown hK.1 (hF.one he) 0 rfl hc k hk hlink hsame hv hdg kk
theorem r_put (hx : p.tables.exec = Jvm.exec) (hb : c.code = cc) {own ref C : String} {T : u_T} {N ci index : Nat} (hts : ∀ w ∈ lw_all, w.before args s = true) (hin : ∀ w ∈ u_ws C T N, w ∈ lw_all) (ty0 : Nat → FieldType) (hty : ∀ k, k < N → parseFieldDescriptor (T k).2.2.1 = some (ty0 k)) (hnm : ∀ a, a < N → ∀ b, b < N → a ≠ b → (T a).2.1 ≠ (T b).2.1) (hown : s.vm.findClass own = some m.cls) (hK : Kn Γ s s.heap) (hF : FF Γ ad P H) (hS : va_S (AA Γ) s.heap H locs) (g a : Nat) {fs : List Value} (he : P g a = some (.inr (ci, fs))) (hc : clF[ci]? = some (C, T, N)) (k : Nat) (hk : k < N) (hlink : (Cond.fieldLink own index ref (T k).2.1 (T k).2.2.1).before args s = true) (hsame : ∀ x, s.fieldFound? (T k).1 (T k).2.1 (T k).2.2.1 = some x → s.fieldFound? ref (T k).2.1 (T k).2.2.1 = some x) (hfin : (T k).2.2.2 = false) {ty : FieldType} {v : Value} (hd : parseFieldDescriptor (T k).2.2.1 = some ty) (hn : narrow ty v = v) (hfit : fits ty v = true) (hl : k < fs.length) (hdg : decode cc pc = .ok (.putfield index, 3))
    (kk : ∀ (H1 : Heap) (locs1 : List Loc), FF Γ ad (fu P g a (some (.inr (ci, fs.set k v)))) H1 → va_S (AA Γ) s.heap H1 locs1 → W p l e R s m args below meth c H1 locs1 cells slots Q (F0 m (pc + 3) ls rest)) : W p l e R s m args below meth c H locs cells slots Q (F0 m pc ls (v :: .ref (ad g a) :: rest)) := by
  obtain ⟨L, hn0, hm, hP, hD⟩ := hF.out
  obtain ⟨j, hj⟩ := List.getElem?_of_mem ((hm g a).mpr (by rw [he]; exact Option.some_ne_none _))
  exact va_put hx hb hts hin ty0 hty hnm hown hK.1 hP hD hS j (fw_get hj he) hc k hk hlink hsame hfin hd hn hfit hl hdg (fun H1 locs1 hP1 _ hS1 => kk H1 locs1 (hF.set hm hj hP1) hS1)
theorem r_putF (hx : p.tables.exec = Jvm.exec) (hb : c.code = cc) {own ref C : String} {T : u_T} {N ci index : Nat} (hts : ∀ w ∈ lw_all, w.before args s = true) (hin : ∀ w ∈ u_ws C T N, w ∈ lw_all) (ty0 : Nat → FieldType) (hty : ∀ k, k < N → parseFieldDescriptor (T k).2.2.1 = some (ty0 k)) (hnm : ∀ a, a < N → ∀ b, b < N → a ≠ b → (T a).2.1 ≠ (T b).2.1) (hown : s.vm.findClass own = some m.cls) (hK : Kn Γ s s.heap) (hF : FF Γ ad P H) (hS : va_S (AA Γ) s.heap H locs) (g a : Nat) {fs : List Value} (he : P g a = some (.inr (ci, fs))) (hc : clF[ci]? = some (C, T, N)) (k : Nat) (hk : k < N) (hlink : (Cond.fieldLink own index ref (T k).2.1 (T k).2.2.1).before args s = true) (hsame : ∀ x, s.fieldFound? (T k).1 (T k).2.1 (T k).2.2.1 = some x → s.fieldFound? ref (T k).2.1 (T k).2.2.1 = some x) (hfin : (T k).2.2.2 = true) (hin2 : meth.name = "<init>") (hdecl : (T k).1 = own) {ty : FieldType} {v : Value} (hd : parseFieldDescriptor (T k).2.2.1 = some ty) (hn : narrow ty v = v) (hfit : fits ty v = true) (hl : k < fs.length) (hdg : decode cc pc = .ok (.putfield index, 3))
    (kk : ∀ (H1 : Heap) (locs1 : List Loc), FF Γ ad (fu P g a (some (.inr (ci, fs.set k v)))) H1 → va_S (AA Γ) s.heap H1 locs1 → W p l e R s m args below meth c H1 locs1 cells slots Q (F0 m (pc + 3) ls rest)) : W p l e R s m args below meth c H locs cells slots Q (F0 m pc ls (v :: .ref (ad g a) :: rest)) := by
  obtain ⟨L, hn0, hm, hP, hD⟩ := hF.out
  obtain ⟨j, hj⟩ := List.getElem?_of_mem ((hm g a).mpr (by rw [he]; exact Option.some_ne_none _))
  exact va_putF hx hb hts hin ty0 hty hnm hown hK.1 hP hD hS j (fw_get hj he) hc k hk hlink hsame hfin hin2 hdecl hd hn hfit hl hdg (fun H1 locs1 hP1 _ hS1 => kk H1 locs1 (hF.set hm hj hP1) hS1)
/-- an int array's place, by a natural -/
theorem r_iald (hx : p.tables.exec = Jvm.exec) (hb : c.code = cc) (hK : Kn Γ s s.heap) (hF : FF Γ ad P H) (g a : Nat) {n : Nat} {f : Nat → Int32} (he : P g a = some (.inl (Γ.2.1 0, n, .inl f))) {i : Int32} (k : Nat) (hi : i = nI k) (hk : k < n) (hn : n < 2 ^ 31) (hdg : decode cc pc = .ok (.iaload, 1))
    (kk : W p l e R s m args below meth c H locs cells slots Q (F0 m (pc + 1) ls (.int (f k) :: rest))) : W p l e R s m args below meth c H locs cells slots Q (F0 m pc ls (.int i :: .ref (ad g a) :: rest)) := by
  subst hi
  refine va_iald hx hb hK.1 (hF.one he) 0 0 rfl rfl (vp_in_nI hk hn) hdg ?_
  rw [nI_clamp (Nat.lt_trans hk hn)]
  exact kk
theorem r_iast (hx : p.tables.exec = Jvm.exec) (hb : c.code = cc) (hK : Kn Γ s s.heap) (hF : FF Γ ad P H) (hS : va_S (AA Γ) s.heap H locs) (g a : Nat) {n : Nat} {f : Nat → Int32} (he : P g a = some (.inl (Γ.2.1 0, n, .inl f))) {i x : Int32} (k : Nat) (hi : i = nI k) (hk : k < n) (hn : n < 2 ^ 31) (hdg : decode cc pc = .ok (.iastore, 1))
    (kk : ∀ (H1 : Heap) (locs1 : List Loc), FF Γ ad (fu P g a (some (.inl (Γ.2.1 0, n, .inl (upd f k x))))) H1 → va_S (AA Γ) s.heap H1 locs1 → W p l e R s m args below meth c H1 locs1 cells slots Q (F0 m (pc + 1) ls rest)) : W p l e R s m args below meth c H locs cells slots Q (F0 m pc ls (.int x :: .int i :: .ref (ad g a) :: rest)) := by
  subst hi
  obtain ⟨L, hn0, hm, hP, hD⟩ := hF.out
  obtain ⟨j, hj⟩ := List.getElem?_of_mem ((hm g a).mpr (by rw [he]; exact Option.some_ne_none _))
  refine va_iast hx hb hK.1 hP hD hS j 0 (fw_get hj he) rfl (vp_in_nI hk hn) hdg (fun H1 locs1 hP1 _ hS1 => ?_)
  rw [nI_clamp (Nat.lt_trans hk hn)] at hP1
  exact kk H1 locs1 (hF.set hm hj hP1) hS1
theorem r_zald (hx : p.tables.exec = Jvm.exec) (hb : c.code = cc) (hK : Kn Γ s s.heap) (hF : FF Γ ad P H) (g a : Nat) {n : Nat} {f : Nat → Int32} (he : P g a = some (.inl (Γ.2.1 1, n, .inl f))) {i : Int32} (k : Nat) (hi : i = nI k) (hk : k < n) (hn : n < 2 ^ 31) (hdg : decode cc pc = .ok (.baload, 1))
    (kk : W p l e R s m args below meth c H locs cells slots Q (F0 m (pc + 1) ls (.int (f k) :: rest))) : W p l e R s m args below meth c H locs cells slots Q (F0 m pc ls (.int i :: .ref (ad g a) :: rest)) := by
  subst hi
  refine va_zald hx hb hK.1 (hF.one he) 0 1 rfl rfl (vp_in_nI hk hn) hdg ?_
  rw [nI_clamp (Nat.lt_trans hk hn)]
  exact kk
theorem r_zast (hx : p.tables.exec = Jvm.exec) (hb : c.code = cc) (hK : Kn Γ s s.heap) (hF : FF Γ ad P H) (hS : va_S (AA Γ) s.heap H locs) (g a : Nat) {n : Nat} {f : Nat → Int32} (he : P g a = some (.inl (Γ.2.1 1, n, .inl f))) {i x : Int32} (k : Nat) (hi : i = nI k) (hk : k < n) (hn : n < 2 ^ 31) (hxb : vp_nar .boolean x = x) (hdg : decode cc pc = .ok (.bastore, 1))
    (kk : ∀ (H1 : Heap) (locs1 : List Loc), FF Γ ad (fu P g a (some (.inl (Γ.2.1 1, n, .inl (upd f k x))))) H1 → va_S (AA Γ) s.heap H1 locs1 → W p l e R s m args below meth c H1 locs1 cells slots Q (F0 m (pc + 1) ls rest)) : W p l e R s m args below meth c H locs cells slots Q (F0 m pc ls (.int x :: .int i :: .ref (ad g a) :: rest)) := by
  subst hi
  obtain ⟨L, hn0, hm, hP, hD⟩ := hF.out
  obtain ⟨j, hj⟩ := List.getElem?_of_mem ((hm g a).mpr (by rw [he]; exact Option.some_ne_none _))
  refine va_zast hx hb hK.1 hP hD hS j 1 (fw_get hj he) rfl (vp_in_nI hk hn) hdg (fun H1 locs1 hP1 _ hS1 => ?_)
  rw [nI_clamp (Nat.lt_trans hk hn), hxb] at hP1
  exact kk H1 locs1 (hF.set hm hj hP1) hS1
theorem r_lald (hx : p.tables.exec = Jvm.exec) (hb : c.code = cc) (hK : Kn Γ s s.heap) (hF : FF Γ ad P H) (g a : Nat) {n : Nat} {f : Nat → Int64} (he : P g a = some (.inl (Γ.2.1 2, n, .inr (.inl f)))) {i : Int32} (k : Nat) (hi : i = nI k) (hk : k < n) (hn : n < 2 ^ 31) (hdg : decode cc pc = .ok (.laload, 1))
    (kk : W p l e R s m args below meth c H locs cells slots Q (F0 m (pc + 1) ls (.long (f k) :: rest))) : W p l e R s m args below meth c H locs cells slots Q (F0 m pc ls (.int i :: .ref (ad g a) :: rest)) := by
  subst hi
  refine va_lald hx hb hK.1 (hF.one he) 0 2 rfl rfl (vp_in_nI hk hn) hdg ?_
  rw [nI_clamp (Nat.lt_trans hk hn)]
  exact kk
theorem r_last (hx : p.tables.exec = Jvm.exec) (hb : c.code = cc) (hK : Kn Γ s s.heap) (hF : FF Γ ad P H) (hS : va_S (AA Γ) s.heap H locs) (g a : Nat) {n : Nat} {f : Nat → Int64} (he : P g a = some (.inl (Γ.2.1 2, n, .inr (.inl f)))) {i : Int32} {x : Int64} (k : Nat) (hi : i = nI k) (hk : k < n) (hn : n < 2 ^ 31) (hdg : decode cc pc = .ok (.lastore, 1))
    (kk : ∀ (H1 : Heap) (locs1 : List Loc), FF Γ ad (fu P g a (some (.inl (Γ.2.1 2, n, .inr (.inl (vp_updL f k x)))))) H1 → va_S (AA Γ) s.heap H1 locs1 → W p l e R s m args below meth c H1 locs1 cells slots Q (F0 m (pc + 1) ls rest)) : W p l e R s m args below meth c H locs cells slots Q (F0 m pc ls (.long x :: .int i :: .ref (ad g a) :: rest)) := by
  subst hi
  obtain ⟨L, hn0, hm, hP, hD⟩ := hF.out
  obtain ⟨j, hj⟩ := List.getElem?_of_mem ((hm g a).mpr (by rw [he]; exact Option.some_ne_none _))
  refine va_last hx hb hK.1 hP hD hS j 2 (fw_get hj he) rfl (vp_in_nI hk hn) hdg (fun H1 locs1 hP1 _ hS1 => ?_)
  rw [nI_clamp (Nat.lt_trans hk hn)] at hP1
  exact kk H1 locs1 (hF.set hm hj hP1) hS1
/-- a place of an array of references -/
theorem r_aald (hx : p.tables.exec = Jvm.exec) (hb : c.code = cc) (hK : Kn Γ s s.heap) (hF : FF Γ ad P H) (g a : Nat) (t : Nat) {cA : ClassId} {ty : FieldType} (ht : (tyF Γ)[t]? = some (cA, ty)) (hty : ty.isReference = true) {n : Nat} {f : Nat → Option Nat} (he : P g a = some (.inl (cA, n, .inr (.inr (.inr (.inr f)))))) {i : Int32} (k : Nat) (hi : i = nI k) (hk : k < n) (hn : n < 2 ^ 31) {v : Value} (hv : va_rf (f k) = v) (hdg : decode cc pc = .ok (.aaload, 1))
    (kk : W p l e R s m args below meth c H locs cells slots Q (F0 m (pc + 1) ls (v :: rest))) : W p l e R s m args below meth c H locs cells slots Q (F0 m pc ls (.int i :: .ref (ad g a) :: rest)) := by
  subst hi
  subst hv
  have hin := vp_in_nI hk hn
  exact W.aald (v := va_rf (f k)) hx hb (hF.one he 0 _ rfl) ((hK.1.2 t _ ht).1 n (fun j => va_rf (f j))) hty (fun q => by cases q) (by show ¬ (nI k < 0 ∨ (arrV _ _ _).slots.size ≤ _); rw [arrV_size]; exact hin) (by show (arrV _ _ _).slots[_]? = _; rw [nI_clamp (Nat.lt_trans hk hn), arrV_read _ _ hk]) rfl rfl hdg kk
theorem r_aast (hx : p.tables.exec = Jvm.exec) (hb : c.code = cc) (hK : Kn Γ s s.heap) (hF : FF Γ ad P H) (hS : va_S (AA Γ) s.heap H locs) (g a : Nat) (t : Nat) {cA : ClassId} {E : String} (ht : (tyF Γ)[t]? = some (cA, .object E)) {n : Nat} {f : Nat → Option Nat} (he : P g a = some (.inl (cA, n, .inr (.inr (.inr (.inr f)))))) {i : Int32} {v : Nat} (hr : va_Any E s H v) (k : Nat) (hi : i = nI k) (hk : k < n) (hn : n < 2 ^ 31) (hdg : decode cc pc = .ok (.aastore, 1))
    (kk : ∀ (H1 : Heap) (locs1 : List Loc), FF Γ ad (fu P g a (some (.inl (cA, n, .inr (.inr (.inr (.inr (va_up f k (some v)))))))) ) H1 → va_S (AA Γ) s.heap H1 locs1 → W p l e R s m args below meth c H1 locs1 cells slots Q (F0 m (pc + 1) ls rest)) : W p l e R s m args below meth c H locs cells slots Q (F0 m pc ls (.ref v :: .int i :: .ref (ad g a) :: rest)) := by
  subst hi
  obtain ⟨L, hn0, hm, hP, hD⟩ := hF.out
  obtain ⟨j, hj⟩ := List.getElem?_of_mem ((hm g a).mpr (by rw [he]; exact Option.some_ne_none _))
  refine va_astqM hx hb hK.1 hP hD hS j t (fw_get hj he) ht hr (vp_in_nI hk hn) hdg (fun H1 locs1 hP1 _ hS1 => ?_)
  rw [nI_clamp (Nat.lt_trans hk hn)] at hP1
  exact kk H1 locs1 (hF.set hm hj hP1) hS1
theorem r_alen (hx : p.tables.exec = Jvm.exec) (hb : c.code = cc) (hK : Kn Γ s s.heap) (hF : FF Γ ad P H) (g a : Nat) (t : Nat) {cA : ClassId} {ty : FieldType} (ht : (tyF Γ)[t]? = some (cA, ty)) {x : vp_A} (he : P g a = some (.inl (cA, x))) {v : Int32} (hv : nI x.1 = v) (hdg : decode cc pc = .ok (.arraylength, 1))
    (kk : W p l e R s m args below meth c H locs cells slots Q (F0 m (pc + 1) ls (.int v :: rest))) : W p l e R s m args below meth c H locs cells slots Q (F0 m pc ls (.ref (ad g a) :: rest)) :=
  va_alen hx hb hK.1 (hF.one he) 0 t rfl ht hv hdg kk
theorem r_new (hx : p.tables.exec = Jvm.exec) (hb : c.code = cc) {own C : String} {T : u_T} {N ci index : Nat} (hts : ∀ w ∈ lw_all, w.before args s = true) (hin : ∀ w ∈ u_ws C T N, w ∈ lw_all) (ty : Nat → FieldType) (hty : ∀ k, k < N → parseFieldDescriptor (T k).2.2.1 = some (ty k)) (hown : s.vm.findClass own = some m.cls) (hcl : (Cond.classLink own index C).before args s = true) (hinst : (Cond.instantiable C N).before args s = true) (hini : (Cond.initialized C).before args s = true) (hK : Kn Γ s s.heap) (hF : FF Γ ad P H) (hS : va_S (AA Γ) s.heap H locs) (g a : Nat) (hnone : P g a = none) (hc : clF[ci]? = some (C, T, N)) {fs : List Value} (hfs : ∀ j, j < N → defaultValue (ty j) = vp_V fs j) (hcells : cells + 1 ≤ R.cells) (hslots : slots + N ≤ R.slots) (hdg : decode cc pc = .ok (.new index, 3))
    (kk : ∀ (q : Nat) (H1 : Heap), FF Γ (fu ad g a q) (fu P g a (some (.inr (ci, fs)))) H1 → va_S (AA Γ) s.heap H1 locs → W p l e R s m args below meth c H1 locs (cells + 1) (slots + N) Q (F0 m (pc + 3) ls (.ref q :: rest))) : W p l e R s m args below meth c H locs cells slots Q (F0 m pc ls rest) := by
  obtain ⟨L, hn0, hm, hP, hD⟩ := hF.out
  exact va_new hx hb hts hin ty hty hown hcl hinst hini hK.1 hP hD hS (AA_new hK) hc hfs hcells hslots hdg (fun q H1 hP1 hD1 hS1 => kk q H1 (hF.push hnone hm hP1 hD1) hS1)
/-- an int array of n places -/
theorem r_newi (hx : p.tables.exec = Jvm.exec) (hb : c.code = cc) (harr : (Cond.arrayClass .int).before args s = true) (hK : Kn Γ s s.heap) (hF : FF Γ ad P H) (hS : va_S (AA Γ) s.heap H locs) (g a : Nat) (hnone : P g a = none) {i : Int32} (n : Nat) (hi : i = nI n) (hn : n ≤ 65536) (hcells : cells + 1 ≤ R.cells) (hslots : slots + n ≤ R.slots) (hdg : decode cc pc = .ok (.newarray .int, 2))
    (kk : ∀ (q : Nat) (H1 : Heap), FF Γ (fu ad g a q) (fu P g a (some (.inl (Γ.2.1 0, n, .inl (fun _ => 0))))) H1 → va_S (AA Γ) s.heap H1 locs → W p l e R s m args below meth c H1 locs (cells + 1) (slots + n) Q (F0 m (pc + 2) ls (.ref q :: rest))) : W p l e R s m args below meth c H locs cells slots Q (F0 m pc ls (.int i :: rest)) := by
  subst hi
  have h31 : n < 2 ^ 31 := by omega
  obtain ⟨L, hn0, hm, hP, hD⟩ := hF.out
  refine va_newa (atype := .int) (N' := n) (a0 := (n, .inl (fun _ => 0))) hx hb harr rfl hK.1 hP hD hS (AA_new hK) (fun cA => rfl) (nI_pos h31) (nI_clamp h31) (by show n * 4 ≤ _; omega) hcells hslots hdg (fun q cA H1 hK1 hP1 hD1 hS1 => ?_)
  have hc : cA = Γ.2.1 0 := by
    have h := (hK1.2 (tyF Γ).length (cA, .int) (by rw [List.getElem?_append_right (Nat.le_refl _), Nat.sub_self]; rfl)).2
    exact tyF_one hK (k := 0) rfl h
  rw [hc] at hP1 hD1
  exact kk q H1 (hF.push hnone hm hP1 hD1) hS1
theorem r_newz (hx : p.tables.exec = Jvm.exec) (hb : c.code = cc) (harr : (Cond.arrayClass .boolean).before args s = true) (hK : Kn Γ s s.heap) (hF : FF Γ ad P H) (hS : va_S (AA Γ) s.heap H locs) (g a : Nat) (hnone : P g a = none) {i : Int32} (n : Nat) (hi : i = nI n) (hn : n ≤ 65536) (hcells : cells + 1 ≤ R.cells) (hslots : slots + n ≤ R.slots) (hdg : decode cc pc = .ok (.newarray .boolean, 2))
    (kk : ∀ (q : Nat) (H1 : Heap), FF Γ (fu ad g a q) (fu P g a (some (.inl (Γ.2.1 1, n, .inl (fun _ => 0))))) H1 → va_S (AA Γ) s.heap H1 locs → W p l e R s m args below meth c H1 locs (cells + 1) (slots + n) Q (F0 m (pc + 2) ls (.ref q :: rest))) : W p l e R s m args below meth c H locs cells slots Q (F0 m pc ls (.int i :: rest)) := by
  subst hi
  have h31 : n < 2 ^ 31 := by omega
  obtain ⟨L, hn0, hm, hP, hD⟩ := hF.out
  refine va_newa (atype := .boolean) (N' := n) (a0 := (n, .inl (fun _ => 0))) hx hb harr rfl hK.1 hP hD hS (AA_new hK) (fun cA => rfl) (nI_pos h31) (nI_clamp h31) (by show n * 1 ≤ _; omega) hcells hslots hdg (fun q cA H1 hK1 hP1 hD1 hS1 => ?_)
  have hc : cA = Γ.2.1 1 := by
    have h := (hK1.2 (tyF Γ).length (cA, .boolean) (by rw [List.getElem?_append_right (Nat.le_refl _), Nat.sub_self]; rfl)).2
    exact tyF_one hK (k := 1) rfl h
  rw [hc] at hP1 hD1
  exact kk q H1 (hF.push hnone hm hP1 hD1) hS1
theorem r_newl (hx : p.tables.exec = Jvm.exec) (hb : c.code = cc) (harr : (Cond.arrayClass .long).before args s = true) (hK : Kn Γ s s.heap) (hF : FF Γ ad P H) (hS : va_S (AA Γ) s.heap H locs) (g a : Nat) (hnone : P g a = none) {i : Int32} (n : Nat) (hi : i = nI n) (hn : n ≤ 65536) (hcells : cells + 1 ≤ R.cells) (hslots : slots + n ≤ R.slots) (hdg : decode cc pc = .ok (.newarray .long, 2))
    (kk : ∀ (q : Nat) (H1 : Heap), FF Γ (fu ad g a q) (fu P g a (some (.inl (Γ.2.1 2, n, .inr (.inl (fun _ => 0)))))) H1 → va_S (AA Γ) s.heap H1 locs → W p l e R s m args below meth c H1 locs (cells + 1) (slots + n) Q (F0 m (pc + 2) ls (.ref q :: rest))) : W p l e R s m args below meth c H locs cells slots Q (F0 m pc ls (.int i :: rest)) := by
  subst hi
  have h31 : n < 2 ^ 31 := by omega
  obtain ⟨L, hn0, hm, hP, hD⟩ := hF.out
  refine va_newa (atype := .long) (N' := n) (a0 := (n, .inr (.inl (fun _ => 0)))) hx hb harr rfl hK.1 hP hD hS (AA_new hK) (fun cA => rfl) (nI_pos h31) (nI_clamp h31) (by show n * 8 ≤ _; omega) hcells hslots hdg (fun q cA H1 hK1 hP1 hD1 hS1 => ?_)
  have hc : cA = Γ.2.1 2 := by
    have h := (hK1.2 (tyF Γ).length (cA, .long) (by rw [List.getElem?_append_right (Nat.le_refl _), Nat.sub_self]; rfl)).2
    exact tyF_one hK (k := 2) rfl h
  rw [hc] at hP1 hD1
  exact kk q H1 (hF.push hnone hm hP1 hD1) hS1
/-- an array of references -/
theorem r_newq (hx : p.tables.exec = Jvm.exec) (hb : c.code = cc) {own C : String} {index : Nat} (hown : s.vm.findClass own = some m.cls) (hclink : (Cond.classLink own index C).before args s = true) (t u : Nat) {cA : ClassId} (ht : (tyF Γ)[t]? = some (cA, .object C)) (hu : kA[u]? = some (.object C)) (hK : Kn Γ s s.heap) (hF : FF Γ ad P H) (hS : va_S (AA Γ) s.heap H locs) (g a : Nat) (hnone : P g a = none) {i : Int32} (n : Nat) (hi : i = nI n) (hn : n ≤ 65536) (hcells : cells + 1 ≤ R.cells) (hslots : slots + n ≤ R.slots) (hdg : decode cc pc = .ok (.anewarray index, 3))
    (kk : ∀ (q : Nat) (H1 : Heap), FF Γ (fu ad g a q) (fu P g a (some (.inl (cA, n, .inr (.inr (.inr (.inr (fun _ => none)))))))) H1 → va_S (AA Γ) s.heap H1 locs → W p l e R s m args below meth c H1 locs (cells + 1) (slots + n) Q (F0 m (pc + 3) ls (.ref q :: rest))) : W p l e R s m args below meth c H locs cells slots Q (F0 m pc ls (.int i :: rest)) := by
  subst hi
  have h31 : n < 2 ^ 31 := by omega
  obtain ⟨L, hn0, hm, hP, hD⟩ := hF.out
  refine va_newq (N' := n) hx hb hown hclink (hK.over u hu) hK.1 hP hD hS (AA_new hK) (nI_pos h31) (nI_clamp h31) (by omega) hcells hslots hdg (fun q cA' H1 hK1 hP1 hD1 hS1 => ?_)
  have hc : cA' = cA := by
    obtain ⟨-, -, -, -, -, h⟩ := (hK1.2 (tyF Γ).length (cA', .object C) (by rw [List.getElem?_append_right (Nat.le_refl _), Nat.sub_self]; rfl)).2
    exact tyF_one hK ht h
  rw [hc] at hP1 hD1
  exact kk q H1 (hF.push hnone hm hP1 hD1) hS1
end ROWS
