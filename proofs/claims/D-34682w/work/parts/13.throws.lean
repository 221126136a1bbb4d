/-! THROWS: the words of a throw, by name; calls by an interface or of an abstract method; elements of rows of references -/
theorem ex_T {Γ : Gm} {args : Array Value} {s : State} {HH : Heap} (hts : ∀ w ∈ lw_all, w.before args s = true) (hK : Kn Γ s HH) : ∀ w ∈ Bundle.throwableAtoms, vx_no w = true → w.before args s = true := by
  intro w hw hv
  simp only [Bundle.throwableAtoms, List.mem_cons, List.not_mem_nil, or_false] at hw
  rcases hw with rfl | rfl | rfl | rfl | rfl | rfl | rfl | rfl | rfl | rfl | rfl | rfl | rfl | rfl | rfl | rfl | rfl | rfl | rfl | rfl | rfl | rfl | rfl | rfl
  · exact hts _ q32
  · exact hts _ q256
  · exact hts _ q210
  · exact hts _ q216
  · exact hts _ q219
  · exact hts _ q221
  · exact hts _ q257
  · exact hts _ q258
  · exact hts _ q55
  · exact hts _ q56
  · exact hts _ q204
  · exact hts _ q209
  · exact hts _ q217
  · exact hts _ q224
  · exact hts _ q250
  · exact hts _ q225
  · exact hts _ q251
  · exact hts _ q226
  · exact hts _ q252
  · exact hts _ q205
  · exact absurd hv (by decide +kernel)
  · exact hts _ q207
  · exact absurd hv (by decide +kernel)
  · exact hts _ q253
theorem ex_R {Γ : Gm} {args : Array Value} {s : State} {HH : Heap} (hts : ∀ w ∈ lw_all, w.before args s = true) (hK : Kn Γ s HH) : ∀ w ∈ Bundle.passAtoms "java/lang/RuntimeException" "java/lang/Exception" 1 Bundle.five, w.before args s = true := by
  intro w hw
  simp only [Bundle.passAtoms, List.mem_cons, List.not_mem_nil, or_false] at hw
  rcases hw with rfl | rfl | rfl | rfl | rfl
  · exact hts _ q286
  · exact hts _ q287
  · exact hts _ q288
  · exact hts _ q289
  · exact hK.word 3 rfl
theorem ex_E {Γ : Gm} {args : Array Value} {s : State} {HH : Heap} (hts : ∀ w ∈ lw_all, w.before args s = true) (hK : Kn Γ s HH) : ∀ w ∈ Bundle.passAtoms "java/lang/Exception" "java/lang/Throwable" 1 Bundle.five, w.before args s = true := by
  intro w hw
  simp only [Bundle.passAtoms, List.mem_cons, List.not_mem_nil, or_false] at hw
  rcases hw with rfl | rfl | rfl | rfl | rfl
  · exact hts _ q289
  · exact hts _ q290
  · exact hts _ q291
  · exact hts _ q257
  · exact hK.word 2 rfl
theorem ex_OB1 {Γ : Gm} {args : Array Value} {s : State} {HH : Heap} (hts : ∀ w ∈ lw_all, w.before args s = true) (hK : Kn Γ s HH) : ∀ w ∈ Bundle.passAtoms "java/lang/IndexOutOfBoundsException" "java/lang/RuntimeException" 1 Bundle.five, w.before args s = true := by
  intro w hw
  simp only [Bundle.passAtoms, List.mem_cons, List.not_mem_nil, or_false] at hw
  rcases hw with rfl | rfl | rfl | rfl | rfl
  · exact hts _ q283
  · exact hts _ q284
  · exact hts _ q285
  · exact hts _ q286
  · exact hK.word 4 rfl
theorem ex_OB {Γ : Gm} {args : Array Value} {s : State} {HH : Heap} (hts : ∀ w ∈ lw_all, w.before args s = true) (hK : Kn Γ s HH) : ∀ w ∈ vx_at0 RX1 71 xOB ["java/lang/RuntimeException", "java/lang/Exception"], w.before args s = true := by
  intro w hw
  obtain ⟨hw, hv⟩ := List.mem_filter.mp hw
  rcases List.mem_append.mp hw with hw | hw
  · rcases List.mem_append.mp hw with hw | hw
    · exact ex_T hts hK w hw hv
    · simp only [Bundle.chain0Atoms] at hw
      rcases List.mem_append.mp hw with hw | hw
      · exact ex_OB1 hts hK w hw
      · rcases List.mem_append.mp hw with hw | hw
        · exact ex_R hts hK w hw
        · exact ex_E hts hK w hw
  · simp only [List.mem_cons, List.not_mem_nil, or_false] at hw
    rcases hw with rfl | rfl | rfl | rfl | rfl | rfl | rfl | rfl | rfl | rfl | rfl | rfl | rfl | rfl
    · exact hts _ q282
    · exact hts _ q274
    · exact hK.word 5 rfl
    · exact hts _ q276
    · exact hts _ q215
    · exact hts _ q277
    · exact hts _ q278
    · exact hts _ q279
    · exact hts _ q280
    · exact absurd hv (by decide +kernel)
    · exact absurd hv (by decide +kernel)
    · exact hts _ q255
    · exact hts _ q254
    · exact hts _ q281
theorem ex_IA1 {Γ : Gm} {args : Array Value} {s : State} {HH : Heap} (hts : ∀ w ∈ lw_all, w.before args s = true) (hK : Kn Γ s HH) : ∀ w ∈ Bundle.passAtoms "java/lang/IllegalArgumentException" "java/lang/RuntimeException" 1 Bundle.five, w.before args s = true := by
  intro w hw
  simp only [Bundle.passAtoms, List.mem_cons, List.not_mem_nil, or_false] at hw
  rcases hw with rfl | rfl | rfl | rfl | rfl
  · exact hts _ q310
  · exact hts _ q311
  · exact hts _ q312
  · exact hts _ q286
  · exact hK.word 4 rfl
theorem ex_IA {Γ : Gm} {args : Array Value} {s : State} {HH : Heap} (hts : ∀ w ∈ lw_all, w.before args s = true) (hK : Kn Γ s HH) : ∀ w ∈ vx_at0 RX1 65 xIA ["java/lang/RuntimeException", "java/lang/Exception"], w.before args s = true := by
  intro w hw
  obtain ⟨hw, hv⟩ := List.mem_filter.mp hw
  rcases List.mem_append.mp hw with hw | hw
  · rcases List.mem_append.mp hw with hw | hw
    · exact ex_T hts hK w hw hv
    · simp only [Bundle.chain0Atoms] at hw
      rcases List.mem_append.mp hw with hw | hw
      · exact ex_IA1 hts hK w hw
      · rcases List.mem_append.mp hw with hw | hw
        · exact ex_R hts hK w hw
        · exact ex_E hts hK w hw
  · simp only [List.mem_cons, List.not_mem_nil, or_false] at hw
    rcases hw with rfl | rfl | rfl | rfl | rfl | rfl | rfl | rfl | rfl | rfl | rfl | rfl | rfl | rfl
    · exact hts _ q309
    · exact hts _ q301
    · exact hK.word 6 rfl
    · exact hts _ q303
    · exact hts _ q213
    · exact hts _ q304
    · exact hts _ q305
    · exact hts _ q306
    · exact hts _ q307
    · exact absurd hv (by decide +kernel)
    · exact absurd hv (by decide +kernel)
    · exact hts _ q255
    · exact hts _ q254
    · exact hts _ q308
theorem ex_IS1 {Γ : Gm} {args : Array Value} {s : State} {HH : Heap} (hts : ∀ w ∈ lw_all, w.before args s = true) (hK : Kn Γ s HH) : ∀ w ∈ Bundle.passAtoms "java/lang/IllegalStateException" "java/lang/RuntimeException" 1 Bundle.five, w.before args s = true := by
  intro w hw
  simp only [Bundle.passAtoms, List.mem_cons, List.not_mem_nil, or_false] at hw
  rcases hw with rfl | rfl | rfl | rfl | rfl
  · exact hts _ q344
  · exact hts _ q345
  · exact hts _ q346
  · exact hts _ q286
  · exact hK.word 4 rfl
theorem ex_IS {Γ : Gm} {args : Array Value} {s : State} {HH : Heap} (hts : ∀ w ∈ lw_all, w.before args s = true) (hK : Kn Γ s HH) : ∀ w ∈ vx_at0 RX1 68 xIS ["java/lang/RuntimeException", "java/lang/Exception"], w.before args s = true := by
  intro w hw
  obtain ⟨hw, hv⟩ := List.mem_filter.mp hw
  rcases List.mem_append.mp hw with hw | hw
  · rcases List.mem_append.mp hw with hw | hw
    · exact ex_T hts hK w hw hv
    · simp only [Bundle.chain0Atoms] at hw
      rcases List.mem_append.mp hw with hw | hw
      · exact ex_IS1 hts hK w hw
      · rcases List.mem_append.mp hw with hw | hw
        · exact ex_R hts hK w hw
        · exact ex_E hts hK w hw
  · simp only [List.mem_cons, List.not_mem_nil, or_false] at hw
    rcases hw with rfl | rfl | rfl | rfl | rfl | rfl | rfl | rfl | rfl | rfl | rfl | rfl | rfl | rfl
    · exact hts _ q343
    · exact hts _ q335
    · exact hK.word 7 rfl
    · exact hts _ q337
    · exact hts _ q214
    · exact hts _ q338
    · exact hts _ q339
    · exact hts _ q340
    · exact hts _ q341
    · exact absurd hv (by decide +kernel)
    · exact absurd hv (by decide +kernel)
    · exact hts _ q255
    · exact hts _ q254
    · exact hts _ q342
/-- what a call by an interface asks -/
theorem lw_F {own : String} {idx : Nat} {C : String} {x y : MethodName} {b : ByteArray} {L : Nat} {r : Option FieldType} (h1 : Cond.methodLink own idx x ∈ lw_all) (h2 : Cond.selects C x y ∈ lw_all) (h3 : Cond.instanceMethod y ∈ lw_all) (h4 : Cond.initialized y.cls ∈ lw_all) (h5 : Cond.code y b L r ∈ lw_all) : GoodIn lw_all (va_wsF own idx C x y (ws_ y b L r)) := by
  refine lw_app ?_ (lw_meth h5)
  intro w hw
  simp only [List.mem_cons, List.not_mem_nil, or_false] at hw
  rcases hw with e | e | e | e
  · rw [e]; exact h1
  · rw [e]; exact h2
  · rw [e]; exact h3
  · rw [e]; exact h4
/-- what a call of an abstract method asks -/
theorem lw_U {own : String} {idx : Nat} {C owner : String} {x y : MethodName} {b : ByteArray} {L : Nat} {r : Option FieldType} (h1 : Cond.methodLink own idx x ∈ lw_all) (h0 : Cond.sameMethod x.cls owner x.name x.desc ∈ lw_all) (h2 : Cond.selects C x y ∈ lw_all) (h3 : Cond.instanceMethod y ∈ lw_all) (h4 : Cond.initialized y.cls ∈ lw_all) (h5 : Cond.code y b L r ∈ lw_all) : GoodIn lw_all (va_wsU own idx C owner x y (ws_ y b L r)) := by
  refine lw_app ?_ (lw_meth h5)
  intro w hw
  simp only [List.mem_cons, List.not_mem_nil, or_false] at hw
  rcases hw with e | e | e | e | e
  · rw [e]; exact h1
  · rw [e]; exact h0
  · rw [e]; exact h2
  · rw [e]; exact h3
  · rw [e]; exact h4
theorem anyF {Γ : Gm} {ad : Nat → Nat → Nat} {P : Pic} {s : State} {H : Heap} {E : String} (hK : Kn Γ s s.heap) (hF : FF Γ ad P H) (g a : Nat) {ci : Nat} {fs : List Value} {r : vw_C} (he : P g a = some (.inr (ci, fs))) (hc : clF[ci]? = some r) (hasg : ∀ comp c0 : ClassId, s.vm.findClass E = some comp → s.vm.findClass r.1 = some c0 → s.vm.assignable c0 comp = true) : va_Any E s H (ad g a) := va_rAny hK.1 (hF.one he) (q0 := 0) rfl hc hasg
theorem asgAO {Γ : Gm} {s : State} (hK : Kn Γ s s.heap) : ∀ comp c0 : ClassId, s.vm.findClass "java/lang/Object" = some comp → s.vm.findClass "FundBook$Account" = some c0 → s.vm.assignable c0 comp = true := by
  obtain ⟨c0, t0, f1, f2, f3⟩ := Cond.castable_spec (hK.word (args := #[]) 8 rfl)
  intro comp c h1 h2
  cases f1.symm.trans h2
  cases f2.symm.trans h1
  exact f3
theorem asgDD {s : State} : ∀ comp c0 : ClassId, s.vm.findClass "FundBook$Deposit" = some comp → s.vm.findClass "FundBook$Deposit" = some c0 → s.vm.assignable c0 comp = true := by
  intro comp c h1 h2
  cases h1.symm.trans h2
  exact va_asg _ _
theorem vb_01 {v : Int32} (h : v = 0 ∨ v = 1) : narrow .boolean (.int v) = .int v := by
  rcases h with rfl | rfl <;> rfl
/-- a callee that never returns -/
abbrev gNi (Γ : Gm) : Array Value → State → Outcome → State → Prop := gQi Γ (fun _ (_ : Unit) => False) (fun _ _ _ => 0) (fun _ _ _ => none)
abbrev gNv (Γ : Gm) : Array Value → State → Outcome → State → Prop := gQv Γ (fun (_ : Unit) => False) (fun _ _ _ => 0) (fun _ _ _ => none)
abbrev gNr (Γ : Gm) : Array Value → State → Outcome → State → Prop := gQr Γ (fun (_ : Unit) => False) (fun _ => 0) (fun _ _ _ => 0) (fun _ _ _ => none)
