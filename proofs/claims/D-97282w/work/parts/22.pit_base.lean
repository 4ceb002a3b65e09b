/-! HOLES: five classes of one shape; their fields, calls of a superclass's method, calls by the object's class -/
def pK (ci : Nat) : Prop := ci = 5 ∨ ci = 6 ∨ ci = 7 ∨ ci = 8 ∨ ci = 9
theorem pK_5 : pK 5 := Or.inl rfl
theorem pK_6 : pK 6 := Or.inr (Or.inl rfl)
theorem pK_7 : pK 7 := Or.inr (Or.inr (Or.inl rfl))
theorem pK_8 : pK 8 := Or.inr (Or.inr (Or.inr (Or.inl rfl)))
theorem pK_9 : pK 9 := Or.inr (Or.inr (Or.inr (Or.inr rfl)))
theorem lw_SU {own : String} {idx : Nat} {y : MethodName} {b : ByteArray} {L : Nat} {r : Option FieldType} (h1 : Cond.methodLink own idx y ∈ lw_all) (h2 : Cond.sameMethod y.cls y.cls y.name y.desc ∈ lw_all) (h3 : Cond.superclass own y.cls ∈ lw_all) (h4 : Cond.instanceMethod y ∈ lw_all) (h5 : Cond.initialized y.cls ∈ lw_all) (h6 : Cond.code y b L r ∈ lw_all) : GoodIn lw_all (va_wsSU own idx y (ws_ y b L r)) := by
  refine lw_app ?_ (lw_meth h6)
  intro w hw
  simp only [List.mem_cons, List.not_mem_nil, or_false] at hw
  rcases hw with e | e | e | e | e
  · rw [e]; exact h1
  · rw [e]; exact h2
  · rw [e]; exact h3
  · rw [e]; exact h4
  · rw [e]; exact h5
theorem lw_U {own : String} {idx : Nat} {C owner : String} {x y : MethodName} {b : ByteArray} {L : Nat} {r : Option FieldType} (h1 : Cond.methodLink own idx x ∈ lw_all) (h2 : Cond.sameMethod x.cls owner x.name x.desc ∈ lw_all) (h3 : Cond.selects C x y ∈ lw_all) (h4 : Cond.instanceMethod y ∈ lw_all) (h5 : Cond.initialized y.cls ∈ lw_all) (h6 : Cond.code y b L r ∈ lw_all) : GoodIn lw_all (va_wsU own idx C owner x y (ws_ y b L r)) := by
  refine lw_app ?_ (lw_meth h6)
  intro w hw
  simp only [List.mem_cons, List.not_mem_nil, or_false] at hw
  rcases hw with e | e | e | e | e
  · rw [e]; exact h1
  · rw [e]; exact h2
  · rw [e]; exact h3
  · rw [e]; exact h4
  · rw [e]; exact h5
theorem lw_O {own : String} {idx : Nat} {C owner : String} {x y : MethodName} {b : ByteArray} {L : Nat} {r : Option FieldType} (h1 : Cond.methodLink own idx x ∈ lw_all) (h2 : Cond.sameMethod x.cls owner x.name x.desc ∈ lw_all) (h0 : Cond.instanceMethod ⟨owner, x.name, x.desc⟩ ∈ lw_all) (h3 : Cond.selects C x y ∈ lw_all) (h4 : Cond.instanceMethod y ∈ lw_all) (h5 : Cond.initialized y.cls ∈ lw_all) (h6 : Cond.code y b L r ∈ lw_all) : GoodIn lw_all (va_wsO own idx C owner x y (ws_ y b L r)) := by
  refine lw_app ?_ (lw_meth h6)
  intro w hw
  simp only [List.mem_cons, List.not_mem_nil, or_false] at hw
  rcases hw with e | e | e | e | e | e
  · rw [e]; exact h1
  · rw [e]; exact h2
  · rw [e]; exact h0
  · rw [e]; exact h3
  · rw [e]; exact h4
  · rw [e]; exact h5
/-- the field 'cells' by the name of Absence -/
theorem sf_cells {args : Array Value} (s : State) (hts : ∀ w ∈ lw_all, w.before args s = true) : ∀ x, s.fieldFound? "HoleCounty$Pit" "cells" "J" = some x → s.fieldFound? "HoleCounty$Absence" "cells" "J" = some x := fun x h => u_same (hts _ q300) x h
section PB
variable {p : Program} {l : Launch} {e : Env} {R : Room} {s : State} {m : MethodId} {args : Array Value} {below : List Frame} {meth : Method} {c : Code} {H : Heap} {locs : List Loc} {kc ks : Nat} {Q : State → Prop}
variable {cc : ByteArray} {pc nL : Nat} {ls : Array Slot} {rest st0 : List Value} {dC : Nat → ClassId} {dI : Nat → Nat → Nat} {dA : Nat → ClassId} {eA mi : Nat}
variable {bytes : ByteArray} {maxL index : Nat} {ret : Option FieldType} {rm : Room} {own : String} {ws : va_W} {a ci : Nat} {cells : Int64} {rate : Int32}
theorem gP_cells (S : CallFix p m c cc nL s args lw_all own) (hK : va_K (dC, dI) vwCl (tysG dA) s) (hP : va_P (dC, dI) vwCl ws H) (q0 : Nat) (he : ws[q0]? = some (a, .inr (ci, [.long cells, .int rate]))) (hci : pK ci) {ref : String} (hlink : (Cond.fieldLink own index ref "cells" "J").before args s = true) (hsame : ∀ x, s.fieldFound? "HoleCounty$Pit" "cells" "J" = some x → s.fieldFound? ref "cells" "J" = some x) (hdg : decode cc pc = .ok (.getfield index, 3))
    (kk : W p l e R s m args below meth c H locs kc ks Q (F0 m (pc + 3) ls (.long cells :: rest))) : W p l e R s m args below meth c H locs kc ks Q (F0 m pc ls (.ref a :: rest)) := by
  rcases hci with rfl | rfl | rfl | rfl | rfl
  · exact va_get (D := (dC, dI)) (ci := 5) (v := .long cells) (C := RX5) (T := TX5) (N := 2) S.1 S.2.1 S.2.2.2.2 in_X5 S.2.2.2.1 hK hP q0 he rfl 0 (by decide) hlink hsame rfl hdg kk
  · exact va_get (D := (dC, dI)) (ci := 6) (v := .long cells) (C := RX6) (T := TX6) (N := 2) S.1 S.2.1 S.2.2.2.2 in_X6 S.2.2.2.1 hK hP q0 he rfl 0 (by decide) hlink hsame rfl hdg kk
  · exact va_get (D := (dC, dI)) (ci := 7) (v := .long cells) (C := RX7) (T := TX7) (N := 2) S.1 S.2.1 S.2.2.2.2 in_X7 S.2.2.2.1 hK hP q0 he rfl 0 (by decide) hlink hsame rfl hdg kk
  · exact va_get (D := (dC, dI)) (ci := 8) (v := .long cells) (C := RX8) (T := TX8) (N := 2) S.1 S.2.1 S.2.2.2.2 in_X8 S.2.2.2.1 hK hP q0 he rfl 0 (by decide) hlink hsame rfl hdg kk
  · exact va_get (D := (dC, dI)) (ci := 9) (v := .long cells) (C := RX9) (T := TX9) (N := 2) S.1 S.2.1 S.2.2.2.2 in_X9 S.2.2.2.1 hK hP q0 he rfl 0 (by decide) hlink hsame rfl hdg kk
theorem gP_rate (S : CallFix p m c cc nL s args lw_all own) (hK : va_K (dC, dI) vwCl (tysG dA) s) (hP : va_P (dC, dI) vwCl ws H) (q0 : Nat) (he : ws[q0]? = some (a, .inr (ci, [.long cells, .int rate]))) (hci : pK ci) {ref : String} (hlink : (Cond.fieldLink own index ref "rate" "I").before args s = true) (hsame : ∀ x, s.fieldFound? "HoleCounty$Pit" "rate" "I" = some x → s.fieldFound? ref "rate" "I" = some x) (hdg : decode cc pc = .ok (.getfield index, 3))
    (kk : W p l e R s m args below meth c H locs kc ks Q (F0 m (pc + 3) ls (.int rate :: rest))) : W p l e R s m args below meth c H locs kc ks Q (F0 m pc ls (.ref a :: rest)) := by
  rcases hci with rfl | rfl | rfl | rfl | rfl
  · exact va_get (D := (dC, dI)) (ci := 5) (v := .int rate) (C := RX5) (T := TX5) (N := 2) S.1 S.2.1 S.2.2.2.2 in_X5 S.2.2.2.1 hK hP q0 he rfl 1 (by decide) hlink hsame rfl hdg kk
  · exact va_get (D := (dC, dI)) (ci := 6) (v := .int rate) (C := RX6) (T := TX6) (N := 2) S.1 S.2.1 S.2.2.2.2 in_X6 S.2.2.2.1 hK hP q0 he rfl 1 (by decide) hlink hsame rfl hdg kk
  · exact va_get (D := (dC, dI)) (ci := 7) (v := .int rate) (C := RX7) (T := TX7) (N := 2) S.1 S.2.1 S.2.2.2.2 in_X7 S.2.2.2.1 hK hP q0 he rfl 1 (by decide) hlink hsame rfl hdg kk
  · exact va_get (D := (dC, dI)) (ci := 8) (v := .int rate) (C := RX8) (T := TX8) (N := 2) S.1 S.2.1 S.2.2.2.2 in_X8 S.2.2.2.1 hK hP q0 he rfl 1 (by decide) hlink hsame rfl hdg kk
  · exact va_get (D := (dC, dI)) (ci := 9) (v := .int rate) (C := RX9) (T := TX9) (N := 2) S.1 S.2.1 S.2.2.2.2 in_X9 S.2.2.2.1 hK hP q0 he rfl 1 (by decide) hlink hsame rfl hdg kk
variable {y : MethodName}
/-- a hole's class, as the tables have it -/
theorem p_cls (hK : va_K (dC, dI) vwCl (tysG dA) s) (hP : va_P (dC, dI) vwCl ws H) {q0 : Nat} {fs : List Value} (he : ws[q0]? = some (a, .inr (ci, fs))) : ∃ q : vw_C, ClassAt s q.1 (dC ci) ∧ ∃ cell : Cell, H[a]? = some cell ∧ cell.vm.isStatics = false ∧ s.vm.findClass q.1 = some cell.cls := by
  obtain ⟨q, hq, -⟩ := hP q0 _ he
  exact ⟨q, (hK.1 ci q hq).2, va_recv hK hP hq he⟩
/-- super.method() that only reads -/
theorem pSU_i (S : CallFix p m c cc nL s args lw_all own) (hK : va_K (dC, dI) vwCl (tysG dA) s) (hE : EG noA eA mi s H) (hP : va_P (dC, dI) vwCl ws H) (q0 : Nat) (he : ws[q0]? = some (a, .inr (ci, [.long cells, .int rate]))) {Qr : Int32 → Prop} (hM : Met l y (ws_ y bytes maxL ret) rm (rPc dC dI dA eA mi [.ref a] [(a, .inr (ci, [.long cells, .int rate]))]) (vp_Si Qr) 0 0 (fun _ => False)) (hG : GoodIn lw_all (va_wsSU own index y (ws_ y bytes maxL ret))) (hd : y.name ≠ "<init>" ∧ (parseMethodDescriptor y.desc).map (fun d => d.parameters.length) = some 0) (h0 : rm.cells = 0 ∧ rm.slots = 0) (hR : RmOk rm R maxL) (hsize : ls.size = nL) (hstack : st0 = .ref a :: rest) (hW : (rest.map fun v => v.category).sum ≤ 8) (hdg : decode cc pc = .ok (.invokespecial index, 3)) (hf : kc ≤ R.cells ∧ ks ≤ R.slots)
    (kk : ∀ r : Int32, Qr r → W p l e R s m args below meth c H locs kc ks Q (F0 m (pc + 3) ls (.int r :: rest))) : W p l e R s m args below meth c H locs kc ks Q (F0 m pc ls st0) := by
  obtain ⟨q, hat, hrec⟩ := p_cls hK hP he
  have hP1 : va_P (dC, dI) vwCl [(a, .inr (ci, [.long cells, .int rate]))] H := fun k x hk => by
    match k, hk with
    | 0, hk => cases hk; exact hP q0 _ he
    | k + 1, hk => cases hk
  exact vp_callSi (va_runSU (As := []) (n := 0) hat S hM (va_cwSU 0 S.2.2.2.2 hG rfl h0.1 h0.2 hd hR) ⟨rblind, hrec, (rpreS hP1 hK hE).2⟩ rfl rfl hsize hstack (lv_room hW) hdg hf).run kk
/-- Pass: its fence -/
theorem pPF (S : CallFix p m c cc nL s args lw_all RX9) (hK : va_K (dC, dI) vwCl (tysG dA) s) (hE : EG noA eA mi s H) (hP : va_P (dC, dI) vwCl ws H) (q0 : Nat) (he : ws[q0]? = some (a, .inr (9, [.long cells, .int rate]))) {Qr : Int32 → Prop} (hM : Met l yX5_fence (ws_ yX5_fence cX5_fence 2 (some .int)) rm (rPc dC dI dA eA mi [.ref a] [(a, .inr (9, [.long cells, .int rate]))]) (vp_Si Qr) 0 0 (fun _ => False)) (h0 : rm.cells = 0 ∧ rm.slots = 0) (hR : RmOk rm R 2) (hsize : ls.size = nL) (hstack : st0 = .ref a :: rest) (hW : (rest.map fun v => v.category).sum ≤ 8) (hdg : decode cc pc = .ok (.invokevirtual 14, 3)) (hf : kc ≤ R.cells ∧ ks ≤ R.slots)
    (kk : ∀ r : Int32, Qr r → W p l e R s m args below meth c H locs kc ks Q (F0 m (pc + 3) ls (.int r :: rest))) : W p l e R s m args below meth c H locs kc ks Q (F0 m pc ls st0) := by
  have hP1 : va_P (dC, dI) vwCl [(a, .inr (9, [.long cells, .int rate]))] H := fun k x hk => by
    match k, hk with
    | 0, hk => cases hk; exact hP q0 _ he
    | k + 1, hk => cases hk
  exact vp_callSi (va_runU (As := []) (n := 0) (C := RX9) (owner := RX5) (x := ⟨RX9, "fence", "()I"⟩) (index := 14) S hM (va_cwU 0 S.2.2.2.2 (lw_U q426 q427 q429 q430 q68 q431) rfl h0.1 h0.2 rfl (by decide +kernel) hR) ⟨rblind, va_recv hK hP (ci := 9) (q0 := q0) rfl he, (rpreS hP1 hK hE).2⟩ rfl rfl hsize hstack (lv_room hW) hdg hf).run kk
end PB
