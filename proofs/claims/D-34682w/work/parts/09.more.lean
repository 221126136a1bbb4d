/-! MORE ROWS: calls that write the picture, ends with a bool -/
theorem vb_bI {h : Prop} {d : Decidable h} : narrow .boolean (.int (bI h)) = .int (bI h) := by
  unfold bI
  split <;> rfl
section MORE
variable {p : Program} {l : Launch} {e : Env} {R : Room} {s : State} {m : MethodId} {args : Array Value} {below : List Frame} {meth : Method} {c : Code} {H : Heap} {locs : List Loc} {cells slots : Nat} {Q : State → Prop}
variable {cc : ByteArray} {pc : Nat} {ls : Array Slot} {rest st0 : List Value} {a : Array Value} {mc ms : Nat} {Γ : Gm} {ad ad' : Nat → Nat → Nat} {P P' : Pic}
theorem g_callw {v : Int32} (hr : va_Run p l e R s m args below meth c H locs cells slots 0 0 (F0 m pc ls st0) rest (gEi Γ v ad' P' a) (AA Γ)) (hS : va_S (AA Γ) s.heap H locs)
    (kk : ∀ (H1 : Heap) (locs1 : List Loc), FF Γ ad' P' H1 → va_S (AA Γ) s.heap H1 locs1 → W p l e R s m args below meth c H1 locs1 cells slots Q (F0 m (pc + 3) ls (.int v :: rest))) : W p l e R s m args below meth c H locs cells slots Q (F0 m pc ls st0) :=
  g_calli hr hS (fun r u H1 locs1 hp hF1 hS1 => by subst hp; exact kk H1 locs1 hF1 hS1)
theorem g_cvw (hr : va_Run p l e R s m args below meth c H locs cells slots 0 0 (F0 m pc ls st0) rest (gEv Γ ad' P' a) (AA Γ)) (hS : va_S (AA Γ) s.heap H locs)
    (kk : ∀ (H1 : Heap) (locs1 : List Loc), FF Γ ad' P' H1 → va_S (AA Γ) s.heap H1 locs1 → W p l e R s m args below meth c H1 locs1 cells slots Q (F0 m (pc + 3) ls rest)) : W p l e R s m args below meth c H locs cells slots Q (F0 m pc ls st0) :=
  g_callv hr hS (fun u H1 locs1 hp hF1 hS1 => kk H1 locs1 hF1 hS1)
end MORE
