/-! CALLS AND ENDS over the family: what a method answers, and the family behind it -/
abbrev gQi {S : Type} (Γ : Gm) (post : Int32 → S → Prop) (ad' : S → Nat → Nat → Nat) (P' : S → Pic) : Array Value → State → Outcome → State → Prop := va_Qi post (fun u (t : State) => FF Γ (ad' u) (P' u) t.heap) (AA Γ)
abbrev gQv {S : Type} (Γ : Gm) (post : S → Prop) (ad' : S → Nat → Nat → Nat) (P' : S → Pic) : Array Value → State → Outcome → State → Prop := va_Qv post (fun u (t : State) => FF Γ (ad' u) (P' u) t.heap) (AA Γ)
abbrev gQr {S : Type} (Γ : Gm) (post : S → Prop) (va : S → Nat) (ad' : S → Nat → Nat → Nat) (P' : S → Pic) : Array Value → State → Outcome → State → Prop := va_Qr post (fun u (a : Nat) (t : State) => a = va u ∧ FF Γ (ad' u) (P' u) t.heap) (AA Γ)
/-- answers v, the family is ad, P -/
abbrev gEi (Γ : Gm) (v : Int32) (ad : Nat → Nat → Nat) (P : Pic) : Array Value → State → Outcome → State → Prop := gQi Γ (fun r (_ : Unit) => r = v) (fun _ => ad) (fun _ => P)
abbrev gEv (Γ : Gm) (ad : Nat → Nat → Nat) (P : Pic) : Array Value → State → Outcome → State → Prop := gQv Γ (fun (_ : Unit) => True) (fun _ => ad) (fun _ => P)
abbrev gEr (Γ : Gm) (v : Nat) (ad : Nat → Nat → Nat) (P : Pic) : Array Value → State → Outcome → State → Prop := gQr Γ (fun (_ : Unit) => True) (fun _ => v) (fun _ => ad) (fun _ => P)
/-- the same, where a fact is answered too -/
abbrev gFi (Γ : Gm) (h : Prop) (v : Int32) (ad : Nat → Nat → Nat) (P : Pic) : Array Value → State → Outcome → State → Prop := gQi Γ (fun r (_ : Unit) => r = v ∧ h) (fun _ => ad) (fun _ => P)
abbrev gFv (Γ : Gm) (h : Prop) (ad : Nat → Nat → Nat) (P : Pic) : Array Value → State → Outcome → State → Prop := gQv Γ (fun (_ : Unit) => h) (fun _ => ad) (fun _ => P)
abbrev gFr (Γ : Gm) (h : Prop) (v : Nat) (ad : Nat → Nat → Nat) (P : Pic) : Array Value → State → Outcome → State → Prop := gQr Γ (fun (_ : Unit) => h) (fun _ => v) (fun _ => ad) (fun _ => P)
/-- throws: of which class; the family stays -/
abbrev gX (Γ : Gm) (ex : String → Prop) (ad : Nat → Nat → Nat) (P : Pic) : String → State → State → Prop := vx_X (fun (_ : Unit) => True) (fun E (_ : Unit) (t : State) => ex E ∧ FF Γ ad P t.heap) (AA Γ)
section CALLS
variable {p : Program} {l : Launch} {e : Env} {R : Room} {s : State} {m : MethodId} {args : Array Value} {below : List Frame} {meth : Method} {c : Code} {H : Heap} {locs : List Loc} {cells slots : Nat} {Q : State → Prop}
variable {cc : ByteArray} {pc : Nat} {ls : Array Slot} {rest st0 : List Value} {a : Array Value} {mc ms : Nat} {Γ : Gm} {ad : Nat → Nat → Nat} {P : Pic}
theorem g_calli {S : Type} {post : Int32 → S → Prop} {ad' : S → Nat → Nat → Nat} {P' : S → Pic} (hr : va_Run p l e R s m args below meth c H locs cells slots mc ms (F0 m pc ls st0) rest (gQi Γ post ad' P' a) (AA Γ)) (hS : va_S (AA Γ) s.heap H locs)
    (kk : ∀ (r : Int32) (u : S) (H1 : Heap) (locs1 : List Loc), post r u → FF Γ (ad' u) (P' u) H1 → va_S (AA Γ) s.heap H1 locs1 → W p l e R s m args below meth c H1 locs1 (cells + mc) (slots + ms) Q (F0 m (pc + 3) ls (.int r :: rest))) : W p l e R s m args below meth c H locs cells slots Q (F0 m pc ls st0) :=
  va_calli hr hS (fun _ _ h => h) (fun _ h => h) (fun r u t H1 locs1 ht _ hp hB _ _ hS1 => kk r u H1 locs1 hp (by rw [← ht]; exact hB) hS1)
theorem g_callv {S : Type} {post : S → Prop} {ad' : S → Nat → Nat → Nat} {P' : S → Pic} (hr : va_Run p l e R s m args below meth c H locs cells slots mc ms (F0 m pc ls st0) rest (gQv Γ post ad' P' a) (AA Γ)) (hS : va_S (AA Γ) s.heap H locs)
    (kk : ∀ (u : S) (H1 : Heap) (locs1 : List Loc), post u → FF Γ (ad' u) (P' u) H1 → va_S (AA Γ) s.heap H1 locs1 → W p l e R s m args below meth c H1 locs1 (cells + mc) (slots + ms) Q (F0 m (pc + 3) ls rest)) : W p l e R s m args below meth c H locs cells slots Q (F0 m pc ls st0) :=
  va_callv hr hS (fun _ _ h => h) (fun _ h => h) (fun u t H1 locs1 ht _ hp hB _ _ hS1 => kk u H1 locs1 hp (by rw [← ht]; exact hB) hS1)
theorem g_callr {S : Type} {post : S → Prop} {va : S → Nat} {ad' : S → Nat → Nat → Nat} {P' : S → Pic} (hr : va_Run p l e R s m args below meth c H locs cells slots mc ms (F0 m pc ls st0) rest (gQr Γ post va ad' P' a) (AA Γ)) (hS : va_S (AA Γ) s.heap H locs)
    (kk : ∀ (u : S) (H1 : Heap) (locs1 : List Loc), post u → FF Γ (ad' u) (P' u) H1 → va_S (AA Γ) s.heap H1 locs1 → W p l e R s m args below meth c H1 locs1 (cells + mc) (slots + ms) Q (F0 m (pc + 3) ls (.ref (va u) :: rest))) : W p l e R s m args below meth c H locs cells slots Q (F0 m pc ls st0) :=
  va_callr hr hS (fun _ _ h => h) (fun _ h => h) (fun u ra t H1 locs1 ht _ hp hB _ _ hS1 => by
    obtain ⟨rfl, hB⟩ := hB
    exact kk u H1 locs1 hp (by rw [← ht]; exact hB) hS1)
/-- calls that make nothing, whose answer is known -/
theorem g_ci {v : Int32} (hr : va_Run p l e R s m args below meth c H locs cells slots 0 0 (F0 m pc ls st0) rest (gEi Γ v ad P a) (AA Γ)) (hS : va_S (AA Γ) s.heap H locs)
    (kk : ∀ (H1 : Heap) (locs1 : List Loc), FF Γ ad P H1 → va_S (AA Γ) s.heap H1 locs1 → W p l e R s m args below meth c H1 locs1 cells slots Q (F0 m (pc + 3) ls (.int v :: rest))) : W p l e R s m args below meth c H locs cells slots Q (F0 m pc ls st0) :=
  g_calli hr hS (fun r u H1 locs1 hp hF1 hS1 => by subst hp; exact kk H1 locs1 hF1 hS1)
theorem g_cv (hr : va_Run p l e R s m args below meth c H locs cells slots 0 0 (F0 m pc ls st0) rest (gEv Γ ad P a) (AA Γ)) (hS : va_S (AA Γ) s.heap H locs)
    (kk : ∀ (H1 : Heap) (locs1 : List Loc), FF Γ ad P H1 → va_S (AA Γ) s.heap H1 locs1 → W p l e R s m args below meth c H1 locs1 cells slots Q (F0 m (pc + 3) ls rest)) : W p l e R s m args below meth c H locs cells slots Q (F0 m pc ls st0) :=
  g_callv hr hS (fun u H1 locs1 hp hF1 hS1 => kk H1 locs1 hF1 hS1)
theorem g_cr {v : Nat} (hr : va_Run p l e R s m args below meth c H locs cells slots 0 0 (F0 m pc ls st0) rest (gEr Γ v ad P a) (AA Γ)) (hS : va_S (AA Γ) s.heap H locs)
    (kk : ∀ (H1 : Heap) (locs1 : List Loc), FF Γ ad P H1 → va_S (AA Γ) s.heap H1 locs1 → W p l e R s m args below meth c H1 locs1 cells slots Q (F0 m (pc + 3) ls (.ref v :: rest))) : W p l e R s m args below meth c H locs cells slots Q (F0 m pc ls st0) :=
  g_callr hr hS (fun u H1 locs1 hp hF1 hS1 => kk H1 locs1 hF1 hS1)
/-- calls through an interface -/
theorem g_cFi {v : Int32} (hr : va_Run5 p l e R s m args below meth c H locs cells slots 0 0 (F0 m pc ls st0) rest (gEi Γ v ad P a) (AA Γ)) (hS : va_S (AA Γ) s.heap H locs)
    (kk : ∀ (H1 : Heap) (locs1 : List Loc), FF Γ ad P H1 → va_S (AA Γ) s.heap H1 locs1 → W p l e R s m args below meth c H1 locs1 cells slots Q (F0 m (pc + 5) ls (.int v :: rest))) : W p l e R s m args below meth c H locs cells slots Q (F0 m pc ls st0) :=
  va_callFi hr hS (fun _ _ h => h) (fun _ h => h) (fun r u t H1 locs1 ht _ hp hB _ _ hS1 => by subst hp; exact kk H1 locs1 (by rw [← ht]; exact hB) hS1)
theorem g_callFi {S : Type} {post : Int32 → S → Prop} {ad' : S → Nat → Nat → Nat} {P' : S → Pic} (hr : va_Run5 p l e R s m args below meth c H locs cells slots mc ms (F0 m pc ls st0) rest (gQi Γ post ad' P' a) (AA Γ)) (hS : va_S (AA Γ) s.heap H locs)
    (kk : ∀ (r : Int32) (u : S) (H1 : Heap) (locs1 : List Loc), post r u → FF Γ (ad' u) (P' u) H1 → va_S (AA Γ) s.heap H1 locs1 → W p l e R s m args below meth c H1 locs1 (cells + mc) (slots + ms) Q (F0 m (pc + 5) ls (.int r :: rest))) : W p l e R s m args below meth c H locs cells slots Q (F0 m pc ls st0) :=
  va_callFi hr hS (fun _ _ h => h) (fun _ h => h) (fun r u t H1 locs1 ht _ hp hB _ _ hS1 => kk r u H1 locs1 hp (by rw [← ht]; exact hB) hS1)
theorem g_cFr {v : Nat} (hr : va_Run5 p l e R s m args below meth c H locs cells slots 0 0 (F0 m pc ls st0) rest (gEr Γ v ad P a) (AA Γ)) (hS : va_S (AA Γ) s.heap H locs)
    (kk : ∀ (H1 : Heap) (locs1 : List Loc), FF Γ ad P H1 → va_S (AA Γ) s.heap H1 locs1 → W p l e R s m args below meth c H1 locs1 cells slots Q (F0 m (pc + 5) ls (.ref v :: rest))) : W p l e R s m args below meth c H locs cells slots Q (F0 m pc ls st0) :=
  va_callFr hr hS (fun _ _ h => h) (fun _ h => h) (fun u ra t H1 locs1 ht _ hp hB _ _ hS1 => by
    obtain ⟨rfl, hB⟩ := hB
    exact kk H1 locs1 (by rw [← ht]; exact hB) hS1)
/-! ends -/
theorem g_iret {v : Int32} (hx : p.tables.exec = Jvm.exec) (hb : c.code = cc) (hr : meth.sig.returnType = some .int) (hlocks : meth.locks = false) (hF : FF Γ ad P H) (hS : va_S (AA Γ) s.heap H locs) (hdg : decode cc pc = .ok (.ireturn, 1)) : W p l e R s m args below meth c H locs cells slots (MQ below (gEi Γ v ad P) args s cells slots (AA Γ)) (F0 m pc ls [.int v]) :=
  W.iret hx hb hr (fun t ht _ => ⟨⟨v, (), rfl, rfl, by subst ht; exact hF⟩, hS.F ht⟩) hS.2.2 hdg hlocks
theorem g_zret {v : Int32} (hx : p.tables.exec = Jvm.exec) (hb : c.code = cc) (hr : meth.sig.returnType = some .boolean) (hlocks : meth.locks = false) (hn : narrow .boolean (.int v) = .int v) (hF : FF Γ ad P H) (hS : va_S (AA Γ) s.heap H locs) (hdg : decode cc pc = .ok (.ireturn, 1)) : W p l e R s m args below meth c H locs cells slots (MQ below (gEi Γ v ad P) args s cells slots (AA Γ)) (F0 m pc ls [.int v]) :=
  W.zret hx hb hr hn (fun t ht _ => ⟨⟨v, (), rfl, rfl, by subst ht; exact hF⟩, hS.F ht⟩) hS.2.2 hdg hlocks
theorem g_vret (hx : p.tables.exec = Jvm.exec) (hb : c.code = cc) (hr : meth.sig.returnType = none) (hlocks : meth.locks = false) (hF : FF Γ ad P H) (hS : va_S (AA Γ) s.heap H locs) (hdg : decode cc pc = .ok (.return_, 1)) : W p l e R s m args below meth c H locs cells slots (MQ below (gEv Γ ad P) args s cells slots (AA Γ)) (F0 m pc ls []) :=
  W.vret hx hb hr (fun t ht _ => ⟨⟨(), rfl, trivial, by subst ht; exact hF⟩, hS.F ht⟩) hS.2.2 hdg hlocks
theorem g_aret {v : Nat} {rt : FieldType} (hx : p.tables.exec = Jvm.exec) (hb : c.code = cc) (hr : meth.sig.returnType = some rt) (hrt : (∃ n, rt = .object n) ∨ ∃ t, rt = .array t) (hlocks : meth.locks = false) (hF : FF Γ ad P H) (hS : va_S (AA Γ) s.heap H locs) (hdg : decode cc pc = .ok (.areturn, 1)) : W p l e R s m args below meth c H locs cells slots (MQ below (gEr Γ v ad P) args s cells slots (AA Γ)) (F0 m pc ls [.ref v]) :=
  W.aret hx hb hr hrt (Or.inr ⟨v, rfl⟩) (fun t ht _ => ⟨⟨(), v, rfl, trivial, rfl, by subst ht; exact hF⟩, hS.F ht⟩) hS.2.2 hdg hlocks
/-! methods that return or throw -/
theorem gx_calli {S : Type} {post : Int32 → S → Prop} {ad' : S → Nat → Nat → Nat} {P' : S → Pic} {ex : String → Prop} (hr : vx_Run p l e R s m args below meth c H locs cells slots mc ms (F0 m pc ls st0) rest (gQi Γ post ad' P' a) (gX Γ ex ad P) (AA Γ)) (hS : va_S (AA Γ) s.heap H locs)
    (kx : ∀ (E : String) (ce : Cell) (q9 : Addr) (H1 : Heap) (locs1 : List Loc), ex E → FF Γ ad P H1 → va_S (AA Γ) s.heap H1 locs1 → H1[q9]? = some ce → ce.vm = .none → s.vm.findClass E = some ce.cls → vx_W p l e R s m args below meth c H1 locs1 (cells + mc) (slots + ms) Q (F0 m pc ls rest) q9)
    (kk : ∀ (r : Int32) (u : S) (H1 : Heap) (locs1 : List Loc), post r u → FF Γ (ad' u) (P' u) H1 → va_S (AA Γ) s.heap H1 locs1 → W p l e R s m args below meth c H1 locs1 (cells + mc) (slots + ms) Q (F0 m (pc + 3) ls (.int r :: rest))) : W p l e R s m args below meth c H locs cells slots Q (F0 m pc ls st0) :=
  vx_calli hr hS (fun _ _ h => h) (fun _ h => h) (fun _ _ h => h) (fun E ce q9 u t H1 locs1 ht _ _ hB _ _ hS1 k1 k2 k3 => kx E ce q9 H1 locs1 hB.1 (by rw [← ht]; exact hB.2) hS1 k1 k2 k3) (fun r u t H1 locs1 ht _ hp hB _ _ hS1 => kk r u H1 locs1 hp (by rw [← ht]; exact hB) hS1)
theorem gx_callv {S : Type} {post : S → Prop} {ad' : S → Nat → Nat → Nat} {P' : S → Pic} {ex : String → Prop} (hr : vx_Run p l e R s m args below meth c H locs cells slots mc ms (F0 m pc ls st0) rest (gQv Γ post ad' P' a) (gX Γ ex ad P) (AA Γ)) (hS : va_S (AA Γ) s.heap H locs)
    (kx : ∀ (E : String) (ce : Cell) (q9 : Addr) (H1 : Heap) (locs1 : List Loc), ex E → FF Γ ad P H1 → va_S (AA Γ) s.heap H1 locs1 → H1[q9]? = some ce → ce.vm = .none → s.vm.findClass E = some ce.cls → vx_W p l e R s m args below meth c H1 locs1 (cells + mc) (slots + ms) Q (F0 m pc ls rest) q9)
    (kk : ∀ (u : S) (H1 : Heap) (locs1 : List Loc), post u → FF Γ (ad' u) (P' u) H1 → va_S (AA Γ) s.heap H1 locs1 → W p l e R s m args below meth c H1 locs1 (cells + mc) (slots + ms) Q (F0 m (pc + 3) ls rest)) : W p l e R s m args below meth c H locs cells slots Q (F0 m pc ls st0) :=
  vx_callv hr hS (fun _ _ h => h) (fun _ h => h) (fun _ _ h => h) (fun E ce q9 u t H1 locs1 ht _ _ hB _ _ hS1 k1 k2 k3 => kx E ce q9 H1 locs1 hB.1 (by rw [← ht]; exact hB.2) hS1 k1 k2 k3) (fun u t H1 locs1 ht _ hp hB _ _ hS1 => kk u H1 locs1 hp (by rw [← ht]; exact hB) hS1)
theorem gx_callr {S : Type} {post : S → Prop} {va : S → Nat} {ad' : S → Nat → Nat → Nat} {P' : S → Pic} {ex : String → Prop} (hr : vx_Run p l e R s m args below meth c H locs cells slots mc ms (F0 m pc ls st0) rest (gQr Γ post va ad' P' a) (gX Γ ex ad P) (AA Γ)) (hS : va_S (AA Γ) s.heap H locs)
    (kx : ∀ (E : String) (ce : Cell) (q9 : Addr) (H1 : Heap) (locs1 : List Loc), ex E → FF Γ ad P H1 → va_S (AA Γ) s.heap H1 locs1 → H1[q9]? = some ce → ce.vm = .none → s.vm.findClass E = some ce.cls → vx_W p l e R s m args below meth c H1 locs1 (cells + mc) (slots + ms) Q (F0 m pc ls rest) q9)
    (kk : ∀ (u : S) (H1 : Heap) (locs1 : List Loc), post u → FF Γ (ad' u) (P' u) H1 → va_S (AA Γ) s.heap H1 locs1 → W p l e R s m args below meth c H1 locs1 (cells + mc) (slots + ms) Q (F0 m (pc + 3) ls (.ref (va u) :: rest))) : W p l e R s m args below meth c H locs cells slots Q (F0 m pc ls st0) := by
  intro T hT X
  rcases hr T hT X with ⟨v, st₀, t, T', L, h0, X', hL, e1, e2, ⟨⟨u, ra, hv, hp, hra, hB⟩, hf⟩, st⟩ | ⟨q, st₀, t, T', L, E, ce, h0, X', hL, e1, e2, ⟨u, hp, ⟨hex, hB⟩, hf⟩, hce, hcv, hcl, st⟩
  · cases hv
    subst hra
    obtain ⟨k1, k2, k3⟩ := vx_keep h0 e1 hS (fun _ _ h => h) (fun _ h => h) hL hf
    obtain ⟨t2, a1, b1⟩ := kk u T'.heap (locs ++ L) hp (by rw [e1]; exact hB) k3 T' rfl X'
    exact ⟨t2, st t2 a1, b1⟩
  · obtain ⟨k1, k2, k3⟩ := vx_keep h0 e1 hS (fun _ _ h => h) (fun _ h => h) hL hf
    obtain ⟨t2, a1, b1⟩ := kx E ce q T'.heap (locs ++ L) hex (by rw [e1]; exact hB) k3 (by rw [e1]; exact hce) hcv hcl T' rfl X'
    exact ⟨t2, st.trans a1, b1⟩
/-- thrown here, no handler in this method: it leaves -/
theorem gx_leave {Qc : Array Value → State → Outcome → State → Prop} {ex : String → Prop} {MC MS : Nat} (hno : ∀ x ∈ c.exceptionTable.toList, False) (hlocks : meth.locks = false) (hc : cells ≤ MC) (hs : slots ≤ MS) {E : String} {ce : Cell} {q9 : Addr} (he : ex E) (hF : FF Γ ad P H) (hS : va_S (AA Γ) s.heap H locs) (h1 : H[q9]? = some ce) (h2 : ce.vm = .none) (h3 : s.vm.findClass E = some ce.cls) :
    vx_W p l e R s m args below meth c H locs cells slots (vx_MQ below Qc (gX Γ ex ad P) args s MC MS (AA Γ)) (F0 m pc ls rest) q9 :=
  vx_out (fun x hx => (hno x hx).elim) hlocks h1 h2 h3 (fun t ht _ => ⟨(), trivial, ⟨he, by subst ht; exact hF⟩, hS.F ht⟩) hS.2.2 hc hs
/-- the same, in a call's row: kx -/
theorem gx_pass {Qc : Array Value → State → Outcome → State → Prop} {ex ex' : String → Prop} {MC MS : Nat} (hno : ∀ x ∈ c.exceptionTable.toList, False) (hlocks : meth.locks = false) (hc : cells ≤ MC) (hs : slots ≤ MS) (he : ∀ E, ex E → ex' E) :
    ∀ (E : String) (ce : Cell) (q9 : Addr) (H1 : Heap) (locs1 : List Loc), ex E → FF Γ ad P H1 → va_S (AA Γ) s.heap H1 locs1 → H1[q9]? = some ce → ce.vm = .none → s.vm.findClass E = some ce.cls → vx_W p l e R s m args below meth c H1 locs1 cells slots (vx_MQ below Qc (gX Γ ex' ad P) args s MC MS (AA Γ)) (F0 m pc ls rest) q9 :=
  fun E ce q9 H1 locs1 hex hF1 hS1 k1 k2 k3 => gx_leave (ex := ex') hno hlocks hc hs (he E hex) hF1 hS1 k1 k2 k3
/-- 'throw new X()' -/
theorem gx_throw {Qc : Array Value → State → Outcome → State → Prop} {ex : String → Prop} {MC MS : Nat} (hx : p.tables.exec = Jvm.exec) (hb : c.code = cc) (hl : l.stackTraces = false) {own cls : String} {names : List String} {ik ic : Nat} (hown : s.vm.findClass own = some m.cls) (hcls : Bundle.fit cls = true) (hnames : ∀ n ∈ names, Bundle.fit n = true)
    (hk : (Cond.classLink own ik cls).before args s = true) (hini : (Cond.initialized cls).before args s = true) (hat : ∀ w ∈ vx_at0 own ic cls names, w.before args s = true) (hgood : ∀ w ∈ Cond.classLink own ik cls :: Cond.initialized cls :: vx_at0 own ic cls names, vx_ot w = true)
    (hK : Kn Γ s s.heap) (hF : FF Γ ad P H) (hS : va_S (AA Γ) s.heap H locs) (hsize : ls.size = c.maxLocals) (d0 : decode cc pc = .ok (.new ik, 3)) (d3 : decode cc (pc + 3) = .ok (.dup, 1)) (d4 : decode cc (pc + 4) = .ok (.invokespecial ic, 3)) (d7 : decode cc (pc + 7) = .ok (.athrow, 1)) (hno : ∀ x ∈ c.exceptionTable.toList, False)
    (hRf : names.length + 3 < R.frames) (hRl : (rest.map fun v => v.category).sum + (13 * (names.length + 1) + 42) ≤ R.locals) (hRc : cells + 1 ≤ R.cells) (hRs : slots + 6 ≤ R.slots) (hlocks : meth.locks = false) (he : ex cls) (hc : cells + 1 ≤ MC) (hs : slots + 6 ≤ MS) :
    W p l e R s m args below meth c H locs cells slots (vx_MQ below Qc (gX Γ ex ad P) args s MC MS (AA Γ)) (F0 m pc ls rest) :=
  vx_throw0 hx hb hl hown hcls hnames hk hini hat hgood hK.2.2.1.1 hK.2.2.1.2 hS hsize d0 d3 d4 d7 (fun x hx => (hno x hx).elim) hRf hRl hRc hRs hlocks (fun t hv hz hk => ⟨(), trivial, ⟨he, hF.grown hk⟩, ⟨Nat.le_trans hS.1 hz, fun q h1 h2 => (hk q (Nat.lt_of_lt_of_le h1 hS.1)).trans (hS.2.1 q h1 h2)⟩⟩) hS.2.2 hc hs
end CALLS
