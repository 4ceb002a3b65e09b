/-! HoleCounty.laid(II)Ljava/lang/Object; -/
theorem pdX0_laid : DscOk yX0_laid 2 := by decide +kernel
abbrev rmX0_laid_B : Room := { frames := 0, cells := 1, slots := 36, locals := 0 }
abbrev RX0_laid_B_ : Room := (headSpec (ws_ yX0_laid cX0_laid 2 (some (.object "java/lang/Object"))) rmX0_laid_B).room
section
variable {p : Program} {l : Launch} {e : Env} {s : State} {m : MethodId} {args : Array Value} {below : List Frame} {meth : Method} {c : Code} {Qw : State → Prop} {dC : Nat → ClassId} {dI : Nat → Nat → Nat} {dA : Nat → ClassId} {eA mi : Nat} {A : Nat → Prop}
abbrev hrX0_laid_B (p : Program) (l : Launch) (e : Env) (s : State) (m : MethodId) (args : Array Value) (below : List Frame) (meth : Method) (c : Code) (dC : Nat → ClassId) (dI : Nat → Nat → Nat) (dA : Nat → ClassId) (A : Nat → Prop) (Qw : State → Prop) (Q : (Nat) → Prop) : Prop := ∀ (ra : Nat) (nn : Nat) (H : Heap) (locs : List Loc) (kc ks : Nat) (pc : Nat) (ls : Array Slot), kc ≤ 1 → ks ≤ 36 → Q nn → va_P (dC, dI) vwCl [(ra, .inl (dA 0, nn, .inl (fun _ => 0)))] H → va_D A [(ra, .inl (dA 0, nn, .inl (fun _ => 0)))] → va_S A s.heap H locs → decode cX0_laid pc = .ok (.areturn, 1) → W p l e RX0_laid_B_ s m args below meth c H locs kc ks Qw (F0 m pc ls [.ref ra])
def wX0_laid_B (Q : (Nat) → Prop) (x0 : Int32) (x1 : Int32) : Prop := ((x0 = 0 → (¬ x1 < 0 ∧ (x1 : Int32).toNatClampNeg ≤ 36 ∧ (Q ((x1 : Int32).toNatClampNeg)))) ∧ (¬ x0 = 0 → ((x0 = 1 → False) ∧ (¬ x0 = 1 → ((x0 = 2 → False) ∧ (¬ x0 = 2 → False))))))
end
set_option maxHeartbeats 4000000 in
set_option maxRecDepth 100000 in
theorem metX0_laid_B (l : Launch) (hfl : l.stackTraces = false) {Q : (Nat) → Prop} {x0 : Int32} {x1 : Int32} {dC : Nat → ClassId} {dI : Nat → Nat → Nat} {dA : Nat → ClassId} {eA mi sz : Nat} (hf : wX0_laid_B Q x0 x1) : Met l yX0_laid (ws_ yX0_laid cX0_laid 2 (some (.object "java/lang/Object"))) rmX0_laid_B (aPc dC dI dA eA mi sz [.int x0, .int x1] []) (va_Qq (fun (r : Option Nat) (u : Nat × Nat) => r = some u.1 ∧ Q u.2) (aB dC dI [] sz (fun (u : Nat × Nat) => [(u.1, .inl (dA 0, u.2, .inl (fun _ => 0)))])) (va_A [] sz)) 1 36 (va_A [] sz) := by
  refine Met.ofW (cc := cX0_laid) (maxL := 2) (ret := (some (.object "java/lang/Object"))) (by decide) rfl ?_
  intro p e s m args below meth c s₁ B hml hv
  obtain ⟨rfl, hsz, hP, hK, hD0, hE⟩ := hv
  subst hsz
  have hx := B.exec
  have hb := B.bytes
  have hr := B.returns
  have hts := atoms_spec (ws := (ws_ yX0_laid cX0_laid 2 (some (.object "java/lang/Object")))) B.pre
  have hts : ∀ w ∈ lw_all, w.before _ s = true := fun w h => hts w (List.mem_cons_of_mem _ h)
  have hown : s.vm.findClass RX0 = some m.cls := findClass_of_methodNamed B.named
  have hlocks := B.notSynchronized
  have S : CallFix p m c cX0_laid 2 s _ lw_all RX0 := ⟨hx, hb, hml, hown, hts⟩
  have hD := hD0.self (sz := s.heap.size)
  have hA : ∀ q : Nat, s.heap.size ≤ q → va_A [] s.heap.size q := fun q h => Or.inr h
  have hS : va_S (va_A [] s.heap.size) s.heap s.heap [] := va_S.rf
  have hl := lv_entry ([.int x0, .int x1]) (n := 2) (Nat.le_of_ble_eq_true rfl)
  rw [lg_entry_eq]
  generalize (lg_sl ([.int x0, .int x1]) ++ List.replicate (2 - (lg_sl ([.int x0, .int x1])).length) Slot.unset).toArray = ls at hl ⊢
  replace hl : lv_has ls 2 [(0, .int x0), (1, .int x1)] := hl
  have hret : hrX0_laid_B p l e s m ([.int x0, .int x1] : List Value).toArray below meth c dC dI dA (va_A [] s.heap.size) (MQ below (va_Qq (fun (r : Option Nat) (u : Nat × Nat) => r = some u.1 ∧ Q u.2) (aB dC dI [] s.heap.size (fun (u : Nat × Nat) => [(u.1, .inl (dA 0, u.2, .inl (fun _ => 0)))])) (va_A [] s.heap.size)) ([.int x0, .int x1] : List Value).toArray s 1 36 (va_A [] s.heap.size)) Q := fun ra nn H locs kc ks pc ls h1 h2 hq hP hD hS hd => W.widen (k := 1) (n := 36) h1 h2 (W.aret hx hb hr (Or.inl ⟨_, rfl⟩) (Or.inr ⟨_, rfl⟩) (fun t ht hW => ⟨⟨some ra, (ra, nn), rfl, ⟨rfl, hq⟩, by subst ht; exact ⟨hP, hD⟩⟩, hS.F ht⟩) hS.2.2 hd)
  generalize hAe : va_A [] s.heap.size = A at hD hA hS hE hret ⊢
  clear hAe
  unfold wX0_laid_B at hf
  refine lv_iload_n hx hb dX0_laid_0 rfl (lv_at hl 0 rfl) ?_
  by_cases c_1_0 : x0 = 0
  · replace hf := hf.1 c_1_0
    refine lv_tableIn (off := 27) (tgt := 28) hx hb dX0_laid_1 (by rw [c_1_0]; decide) (by rw [c_1_0]; decide) (by rw [c_1_0]; decide) (by decide) ?_
    refine lv_iload_n hx hb dX0_laid_28 rfl (lv_at hl 1 rfl) ?_
    obtain ⟨hnn, hnl, hf⟩ := hf
    have hbud : 0 + 1 ≤ 1 ∧ 0 + (x1 : Int32).toNatClampNeg ≤ 36 := ⟨Nat.le_refl _, by omega⟩
    refine va_newa (atype := .byte) (ty := .byte) (N' := (x1 : Int32).toNatClampNeg) (a0 := ((x1 : Int32).toNatClampNeg, .inl (fun _ => 0))) hx hb (hts _ q616) rfl hK hP hD hS hA (fun cA => rfl) hnn rfl (Nat.le_trans (Nat.mul_le_mul hnl (show componentBytes .byte ≤ 8 by decide)) (by decide)) hbud.1 hbud.2 dX0_laid_29 (fun q_29 cA_29 H hK2 hP hD hS => ?_)
    obtain rfl : cA_29 = dA 0 := ty_one (s := s) (t1 := []) (t2 := []) (hK2.2 6 _ rfl).2 (hK.2 0 _ rfl).2
    replace hP : va_P (dC, dI) vwCl [(q_29, .inl (dA 0, (x1 : Int32).toNatClampNeg, .inl (fun _ => 0)))] H := hP
    replace hD : va_D A [(q_29, .inl (dA 0, (x1 : Int32).toNatClampNeg, .inl (fun _ => 0)))] := hD
    exact hret q_29 ((x1 : Int32).toNatClampNeg) _ _ _ _ _ _ hbud.1 hbud.2 hf (hP.sub [0] rfl) (hD.sub [0] (by decide) rfl) hS dX0_laid_31
  replace hf := hf.2 c_1_0
  by_cases c_1_1 : x0 = 1
  · replace hf := hf.1 c_1_1
    refine lv_tableIn (off := 31) (tgt := 32) hx hb dX0_laid_1 (by rw [c_1_1]; decide) (by rw [c_1_1]; decide) (by rw [c_1_1]; decide) (by decide) ?_
    refine lv_iload_n hx hb dX0_laid_32 rfl (lv_at hl 1 rfl) ?_
    exact hf.elim
  replace hf := hf.2 c_1_1
  by_cases c_1_2 : x0 = 2
  · replace hf := hf.1 c_1_2
    refine lv_tableIn (off := 35) (tgt := 36) hx hb dX0_laid_1 (by rw [c_1_2]; decide) (by rw [c_1_2]; decide) (by rw [c_1_2]; decide) (by decide) ?_
    refine lv_iload_n hx hb dX0_laid_36 rfl (lv_at hl 1 rfl) ?_
    exact hf.elim
  replace hf := hf.2 c_1_2
  have n_0 := sw_no (j := 0) c_1_0 (by decide)
  have n_1 := sw_no (j := 1) c_1_1 (by decide)
  have n_2 := sw_no (j := 2) c_1_2 (by decide)
  refine lv_tableOut (tgt := 40) hx hb dX0_laid_1 (by omega) (by decide) ?_
  refine lv_iload_n hx hb dX0_laid_40 rfl (lv_at hl 1 rfl) ?_
  exact hf.elim
/-! HoleCounty.laid(II)Ljava/lang/Object; -/
abbrev rmX0_laid_S : Room := { frames := 0, cells := 1, slots := 36, locals := 0 }
abbrev RX0_laid_S_ : Room := (headSpec (ws_ yX0_laid cX0_laid 2 (some (.object "java/lang/Object"))) rmX0_laid_S).room
section
variable {p : Program} {l : Launch} {e : Env} {s : State} {m : MethodId} {args : Array Value} {below : List Frame} {meth : Method} {c : Code} {Qw : State → Prop} {dC : Nat → ClassId} {dI : Nat → Nat → Nat} {dA : Nat → ClassId} {eA mi : Nat} {A : Nat → Prop}
abbrev hrX0_laid_S (p : Program) (l : Launch) (e : Env) (s : State) (m : MethodId) (args : Array Value) (below : List Frame) (meth : Method) (c : Code) (dC : Nat → ClassId) (dI : Nat → Nat → Nat) (dA : Nat → ClassId) (A : Nat → Prop) (Qw : State → Prop) (Q : (Nat) → Prop) : Prop := ∀ (ra : Nat) (nn : Nat) (H : Heap) (locs : List Loc) (kc ks : Nat) (pc : Nat) (ls : Array Slot), kc ≤ 1 → ks ≤ 36 → Q nn → va_P (dC, dI) vwCl [(ra, .inl (dA 3, nn, .inl (fun _ => 0)))] H → va_D A [(ra, .inl (dA 3, nn, .inl (fun _ => 0)))] → va_S A s.heap H locs → decode cX0_laid pc = .ok (.areturn, 1) → W p l e RX0_laid_S_ s m args below meth c H locs kc ks Qw (F0 m pc ls [.ref ra])
def wX0_laid_S (Q : (Nat) → Prop) (x0 : Int32) (x1 : Int32) : Prop := ((x0 = 0 → False) ∧ (¬ x0 = 0 → ((x0 = 1 → (¬ x1 < 0 ∧ (x1 : Int32).toNatClampNeg ≤ 36 ∧ (Q ((x1 : Int32).toNatClampNeg)))) ∧ (¬ x0 = 1 → ((x0 = 2 → False) ∧ (¬ x0 = 2 → False))))))
end
set_option maxHeartbeats 4000000 in
set_option maxRecDepth 100000 in
theorem metX0_laid_S (l : Launch) (hfl : l.stackTraces = false) {Q : (Nat) → Prop} {x0 : Int32} {x1 : Int32} {dC : Nat → ClassId} {dI : Nat → Nat → Nat} {dA : Nat → ClassId} {eA mi sz : Nat} (hf : wX0_laid_S Q x0 x1) : Met l yX0_laid (ws_ yX0_laid cX0_laid 2 (some (.object "java/lang/Object"))) rmX0_laid_S (aPc dC dI dA eA mi sz [.int x0, .int x1] []) (va_Qq (fun (r : Option Nat) (u : Nat × Nat) => r = some u.1 ∧ Q u.2) (aB dC dI [] sz (fun (u : Nat × Nat) => [(u.1, .inl (dA 3, u.2, .inl (fun _ => 0)))])) (va_A [] sz)) 1 36 (va_A [] sz) := by
  refine Met.ofW (cc := cX0_laid) (maxL := 2) (ret := (some (.object "java/lang/Object"))) (by decide) rfl ?_
  intro p e s m args below meth c s₁ B hml hv
  obtain ⟨rfl, hsz, hP, hK, hD0, hE⟩ := hv
  subst hsz
  have hx := B.exec
  have hb := B.bytes
  have hr := B.returns
  have hts := atoms_spec (ws := (ws_ yX0_laid cX0_laid 2 (some (.object "java/lang/Object")))) B.pre
  have hts : ∀ w ∈ lw_all, w.before _ s = true := fun w h => hts w (List.mem_cons_of_mem _ h)
  have hown : s.vm.findClass RX0 = some m.cls := findClass_of_methodNamed B.named
  have hlocks := B.notSynchronized
  have S : CallFix p m c cX0_laid 2 s _ lw_all RX0 := ⟨hx, hb, hml, hown, hts⟩
  have hD := hD0.self (sz := s.heap.size)
  have hA : ∀ q : Nat, s.heap.size ≤ q → va_A [] s.heap.size q := fun q h => Or.inr h
  have hS : va_S (va_A [] s.heap.size) s.heap s.heap [] := va_S.rf
  have hl := lv_entry ([.int x0, .int x1]) (n := 2) (Nat.le_of_ble_eq_true rfl)
  rw [lg_entry_eq]
  generalize (lg_sl ([.int x0, .int x1]) ++ List.replicate (2 - (lg_sl ([.int x0, .int x1])).length) Slot.unset).toArray = ls at hl ⊢
  replace hl : lv_has ls 2 [(0, .int x0), (1, .int x1)] := hl
  have hret : hrX0_laid_S p l e s m ([.int x0, .int x1] : List Value).toArray below meth c dC dI dA (va_A [] s.heap.size) (MQ below (va_Qq (fun (r : Option Nat) (u : Nat × Nat) => r = some u.1 ∧ Q u.2) (aB dC dI [] s.heap.size (fun (u : Nat × Nat) => [(u.1, .inl (dA 3, u.2, .inl (fun _ => 0)))])) (va_A [] s.heap.size)) ([.int x0, .int x1] : List Value).toArray s 1 36 (va_A [] s.heap.size)) Q := fun ra nn H locs kc ks pc ls h1 h2 hq hP hD hS hd => W.widen (k := 1) (n := 36) h1 h2 (W.aret hx hb hr (Or.inl ⟨_, rfl⟩) (Or.inr ⟨_, rfl⟩) (fun t ht hW => ⟨⟨some ra, (ra, nn), rfl, ⟨rfl, hq⟩, by subst ht; exact ⟨hP, hD⟩⟩, hS.F ht⟩) hS.2.2 hd)
  generalize hAe : va_A [] s.heap.size = A at hD hA hS hE hret ⊢
  clear hAe
  unfold wX0_laid_S at hf
  refine lv_iload_n hx hb dX0_laid_0 rfl (lv_at hl 0 rfl) ?_
  by_cases c_1_0 : x0 = 0
  · replace hf := hf.1 c_1_0
    refine lv_tableIn (off := 27) (tgt := 28) hx hb dX0_laid_1 (by rw [c_1_0]; decide) (by rw [c_1_0]; decide) (by rw [c_1_0]; decide) (by decide) ?_
    refine lv_iload_n hx hb dX0_laid_28 rfl (lv_at hl 1 rfl) ?_
    exact hf.elim
  replace hf := hf.2 c_1_0
  by_cases c_1_1 : x0 = 1
  · replace hf := hf.1 c_1_1
    refine lv_tableIn (off := 31) (tgt := 32) hx hb dX0_laid_1 (by rw [c_1_1]; decide) (by rw [c_1_1]; decide) (by rw [c_1_1]; decide) (by decide) ?_
    refine lv_iload_n hx hb dX0_laid_32 rfl (lv_at hl 1 rfl) ?_
    obtain ⟨hnn, hnl, hf⟩ := hf
    have hbud : 0 + 1 ≤ 1 ∧ 0 + (x1 : Int32).toNatClampNeg ≤ 36 := ⟨Nat.le_refl _, by omega⟩
    refine va_newa (atype := .short) (ty := .short) (N' := (x1 : Int32).toNatClampNeg) (a0 := ((x1 : Int32).toNatClampNeg, .inl (fun _ => 0))) hx hb (hts _ q933) rfl hK hP hD hS hA (fun cA => rfl) hnn rfl (Nat.le_trans (Nat.mul_le_mul hnl (show componentBytes .short ≤ 8 by decide)) (by decide)) hbud.1 hbud.2 dX0_laid_33 (fun q_33 cA_33 H hK2 hP hD hS => ?_)
    obtain rfl : cA_33 = dA 3 := ty_one (s := s) (t1 := []) (t2 := []) (hK2.2 6 _ rfl).2 (hK.2 3 _ rfl).2
    replace hP : va_P (dC, dI) vwCl [(q_33, .inl (dA 3, (x1 : Int32).toNatClampNeg, .inl (fun _ => 0)))] H := hP
    replace hD : va_D A [(q_33, .inl (dA 3, (x1 : Int32).toNatClampNeg, .inl (fun _ => 0)))] := hD
    exact hret q_33 ((x1 : Int32).toNatClampNeg) _ _ _ _ _ _ hbud.1 hbud.2 hf (hP.sub [0] rfl) (hD.sub [0] (by decide) rfl) hS dX0_laid_35
  replace hf := hf.2 c_1_1
  by_cases c_1_2 : x0 = 2
  · replace hf := hf.1 c_1_2
    refine lv_tableIn (off := 35) (tgt := 36) hx hb dX0_laid_1 (by rw [c_1_2]; decide) (by rw [c_1_2]; decide) (by rw [c_1_2]; decide) (by decide) ?_
    refine lv_iload_n hx hb dX0_laid_36 rfl (lv_at hl 1 rfl) ?_
    exact hf.elim
  replace hf := hf.2 c_1_2
  have n_0 := sw_no (j := 0) c_1_0 (by decide)
  have n_1 := sw_no (j := 1) c_1_1 (by decide)
  have n_2 := sw_no (j := 2) c_1_2 (by decide)
  refine lv_tableOut (tgt := 40) hx hb dX0_laid_1 (by omega) (by decide) ?_
  refine lv_iload_n hx hb dX0_laid_40 rfl (lv_at hl 1 rfl) ?_
  exact hf.elim
/-! HoleCounty.laid(II)Ljava/lang/Object; -/
abbrev rmX0_laid_I : Room := { frames := 0, cells := 1, slots := 36, locals := 0 }
abbrev RX0_laid_I_ : Room := (headSpec (ws_ yX0_laid cX0_laid 2 (some (.object "java/lang/Object"))) rmX0_laid_I).room
section
variable {p : Program} {l : Launch} {e : Env} {s : State} {m : MethodId} {args : Array Value} {below : List Frame} {meth : Method} {c : Code} {Qw : State → Prop} {dC : Nat → ClassId} {dI : Nat → Nat → Nat} {dA : Nat → ClassId} {eA mi : Nat} {A : Nat → Prop}
abbrev hrX0_laid_I (p : Program) (l : Launch) (e : Env) (s : State) (m : MethodId) (args : Array Value) (below : List Frame) (meth : Method) (c : Code) (dC : Nat → ClassId) (dI : Nat → Nat → Nat) (dA : Nat → ClassId) (A : Nat → Prop) (Qw : State → Prop) (Q : (Nat) → Prop) : Prop := ∀ (ra : Nat) (nn : Nat) (H : Heap) (locs : List Loc) (kc ks : Nat) (pc : Nat) (ls : Array Slot), kc ≤ 1 → ks ≤ 36 → Q nn → va_P (dC, dI) vwCl [(ra, .inl (dA 1, nn, .inl (fun _ => 0)))] H → va_D A [(ra, .inl (dA 1, nn, .inl (fun _ => 0)))] → va_S A s.heap H locs → decode cX0_laid pc = .ok (.areturn, 1) → W p l e RX0_laid_I_ s m args below meth c H locs kc ks Qw (F0 m pc ls [.ref ra])
def wX0_laid_I (Q : (Nat) → Prop) (x0 : Int32) (x1 : Int32) : Prop := ((x0 = 0 → False) ∧ (¬ x0 = 0 → ((x0 = 1 → False) ∧ (¬ x0 = 1 → ((x0 = 2 → (¬ x1 < 0 ∧ (x1 : Int32).toNatClampNeg ≤ 36 ∧ (Q ((x1 : Int32).toNatClampNeg)))) ∧ (¬ x0 = 2 → False))))))
end
set_option maxHeartbeats 4000000 in
set_option maxRecDepth 100000 in
theorem metX0_laid_I (l : Launch) (hfl : l.stackTraces = false) {Q : (Nat) → Prop} {x0 : Int32} {x1 : Int32} {dC : Nat → ClassId} {dI : Nat → Nat → Nat} {dA : Nat → ClassId} {eA mi sz : Nat} (hf : wX0_laid_I Q x0 x1) : Met l yX0_laid (ws_ yX0_laid cX0_laid 2 (some (.object "java/lang/Object"))) rmX0_laid_I (aPc dC dI dA eA mi sz [.int x0, .int x1] []) (va_Qq (fun (r : Option Nat) (u : Nat × Nat) => r = some u.1 ∧ Q u.2) (aB dC dI [] sz (fun (u : Nat × Nat) => [(u.1, .inl (dA 1, u.2, .inl (fun _ => 0)))])) (va_A [] sz)) 1 36 (va_A [] sz) := by
  refine Met.ofW (cc := cX0_laid) (maxL := 2) (ret := (some (.object "java/lang/Object"))) (by decide) rfl ?_
  intro p e s m args below meth c s₁ B hml hv
  obtain ⟨rfl, hsz, hP, hK, hD0, hE⟩ := hv
  subst hsz
  have hx := B.exec
  have hb := B.bytes
  have hr := B.returns
  have hts := atoms_spec (ws := (ws_ yX0_laid cX0_laid 2 (some (.object "java/lang/Object")))) B.pre
  have hts : ∀ w ∈ lw_all, w.before _ s = true := fun w h => hts w (List.mem_cons_of_mem _ h)
  have hown : s.vm.findClass RX0 = some m.cls := findClass_of_methodNamed B.named
  have hlocks := B.notSynchronized
  have S : CallFix p m c cX0_laid 2 s _ lw_all RX0 := ⟨hx, hb, hml, hown, hts⟩
  have hD := hD0.self (sz := s.heap.size)
  have hA : ∀ q : Nat, s.heap.size ≤ q → va_A [] s.heap.size q := fun q h => Or.inr h
  have hS : va_S (va_A [] s.heap.size) s.heap s.heap [] := va_S.rf
  have hl := lv_entry ([.int x0, .int x1]) (n := 2) (Nat.le_of_ble_eq_true rfl)
  rw [lg_entry_eq]
  generalize (lg_sl ([.int x0, .int x1]) ++ List.replicate (2 - (lg_sl ([.int x0, .int x1])).length) Slot.unset).toArray = ls at hl ⊢
  replace hl : lv_has ls 2 [(0, .int x0), (1, .int x1)] := hl
  have hret : hrX0_laid_I p l e s m ([.int x0, .int x1] : List Value).toArray below meth c dC dI dA (va_A [] s.heap.size) (MQ below (va_Qq (fun (r : Option Nat) (u : Nat × Nat) => r = some u.1 ∧ Q u.2) (aB dC dI [] s.heap.size (fun (u : Nat × Nat) => [(u.1, .inl (dA 1, u.2, .inl (fun _ => 0)))])) (va_A [] s.heap.size)) ([.int x0, .int x1] : List Value).toArray s 1 36 (va_A [] s.heap.size)) Q := fun ra nn H locs kc ks pc ls h1 h2 hq hP hD hS hd => W.widen (k := 1) (n := 36) h1 h2 (W.aret hx hb hr (Or.inl ⟨_, rfl⟩) (Or.inr ⟨_, rfl⟩) (fun t ht hW => ⟨⟨some ra, (ra, nn), rfl, ⟨rfl, hq⟩, by subst ht; exact ⟨hP, hD⟩⟩, hS.F ht⟩) hS.2.2 hd)
  generalize hAe : va_A [] s.heap.size = A at hD hA hS hE hret ⊢
  clear hAe
  unfold wX0_laid_I at hf
  refine lv_iload_n hx hb dX0_laid_0 rfl (lv_at hl 0 rfl) ?_
  by_cases c_1_0 : x0 = 0
  · replace hf := hf.1 c_1_0
    refine lv_tableIn (off := 27) (tgt := 28) hx hb dX0_laid_1 (by rw [c_1_0]; decide) (by rw [c_1_0]; decide) (by rw [c_1_0]; decide) (by decide) ?_
    refine lv_iload_n hx hb dX0_laid_28 rfl (lv_at hl 1 rfl) ?_
    exact hf.elim
  replace hf := hf.2 c_1_0
  by_cases c_1_1 : x0 = 1
  · replace hf := hf.1 c_1_1
    refine lv_tableIn (off := 31) (tgt := 32) hx hb dX0_laid_1 (by rw [c_1_1]; decide) (by rw [c_1_1]; decide) (by rw [c_1_1]; decide) (by decide) ?_
    refine lv_iload_n hx hb dX0_laid_32 rfl (lv_at hl 1 rfl) ?_
    exact hf.elim
  replace hf := hf.2 c_1_1
  by_cases c_1_2 : x0 = 2
  · replace hf := hf.1 c_1_2
    refine lv_tableIn (off := 35) (tgt := 36) hx hb dX0_laid_1 (by rw [c_1_2]; decide) (by rw [c_1_2]; decide) (by rw [c_1_2]; decide) (by decide) ?_
    refine lv_iload_n hx hb dX0_laid_36 rfl (lv_at hl 1 rfl) ?_
    obtain ⟨hnn, hnl, hf⟩ := hf
    have hbud : 0 + 1 ≤ 1 ∧ 0 + (x1 : Int32).toNatClampNeg ≤ 36 := ⟨Nat.le_refl _, by omega⟩
    refine va_newa (atype := .int) (ty := .int) (N' := (x1 : Int32).toNatClampNeg) (a0 := ((x1 : Int32).toNatClampNeg, .inl (fun _ => 0))) hx hb (hts _ q515) rfl hK hP hD hS hA (fun cA => rfl) hnn rfl (Nat.le_trans (Nat.mul_le_mul hnl (show componentBytes .int ≤ 8 by decide)) (by decide)) hbud.1 hbud.2 dX0_laid_37 (fun q_37 cA_37 H hK2 hP hD hS => ?_)
    obtain rfl : cA_37 = dA 1 := ty_one (s := s) (t1 := []) (t2 := []) (hK2.2 6 _ rfl).2 (hK.2 1 _ rfl).2
    replace hP : va_P (dC, dI) vwCl [(q_37, .inl (dA 1, (x1 : Int32).toNatClampNeg, .inl (fun _ => 0)))] H := hP
    replace hD : va_D A [(q_37, .inl (dA 1, (x1 : Int32).toNatClampNeg, .inl (fun _ => 0)))] := hD
    exact hret q_37 ((x1 : Int32).toNatClampNeg) _ _ _ _ _ _ hbud.1 hbud.2 hf (hP.sub [0] rfl) (hD.sub [0] (by decide) rfl) hS dX0_laid_39
  replace hf := hf.2 c_1_2
  have n_0 := sw_no (j := 0) c_1_0 (by decide)
  have n_1 := sw_no (j := 1) c_1_1 (by decide)
  have n_2 := sw_no (j := 2) c_1_2 (by decide)
  refine lv_tableOut (tgt := 40) hx hb dX0_laid_1 (by omega) (by decide) ?_
  refine lv_iload_n hx hb dX0_laid_40 rfl (lv_at hl 1 rfl) ?_
  exact hf.elim
/-! HoleCounty.laid(II)Ljava/lang/Object; -/
abbrev rmX0_laid_J : Room := { frames := 0, cells := 1, slots := 36, locals := 0 }
abbrev RX0_laid_J_ : Room := (headSpec (ws_ yX0_laid cX0_laid 2 (some (.object "java/lang/Object"))) rmX0_laid_J).room
section
variable {p : Program} {l : Launch} {e : Env} {s : State} {m : MethodId} {args : Array Value} {below : List Frame} {meth : Method} {c : Code} {Qw : State → Prop} {dC : Nat → ClassId} {dI : Nat → Nat → Nat} {dA : Nat → ClassId} {eA mi : Nat} {A : Nat → Prop}
abbrev hrX0_laid_J (p : Program) (l : Launch) (e : Env) (s : State) (m : MethodId) (args : Array Value) (below : List Frame) (meth : Method) (c : Code) (dC : Nat → ClassId) (dI : Nat → Nat → Nat) (dA : Nat → ClassId) (A : Nat → Prop) (Qw : State → Prop) (Q : (Nat) → Prop) : Prop := ∀ (ra : Nat) (nn : Nat) (H : Heap) (locs : List Loc) (kc ks : Nat) (pc : Nat) (ls : Array Slot), kc ≤ 1 → ks ≤ 36 → Q nn → va_P (dC, dI) vwCl [(ra, .inl (dA 2, nn, .inr (.inl (fun _ => 0))))] H → va_D A [(ra, .inl (dA 2, nn, .inr (.inl (fun _ => 0))))] → va_S A s.heap H locs → decode cX0_laid pc = .ok (.areturn, 1) → W p l e RX0_laid_J_ s m args below meth c H locs kc ks Qw (F0 m pc ls [.ref ra])
def wX0_laid_J (Q : (Nat) → Prop) (x0 : Int32) (x1 : Int32) : Prop := ((x0 = 0 → False) ∧ (¬ x0 = 0 → ((x0 = 1 → False) ∧ (¬ x0 = 1 → ((x0 = 2 → False) ∧ (¬ x0 = 2 → (¬ x1 < 0 ∧ (x1 : Int32).toNatClampNeg ≤ 36 ∧ (Q ((x1 : Int32).toNatClampNeg)))))))))
end
set_option maxHeartbeats 4000000 in
set_option maxRecDepth 100000 in
theorem metX0_laid_J (l : Launch) (hfl : l.stackTraces = false) {Q : (Nat) → Prop} {x0 : Int32} {x1 : Int32} {dC : Nat → ClassId} {dI : Nat → Nat → Nat} {dA : Nat → ClassId} {eA mi sz : Nat} (hf : wX0_laid_J Q x0 x1) : Met l yX0_laid (ws_ yX0_laid cX0_laid 2 (some (.object "java/lang/Object"))) rmX0_laid_J (aPc dC dI dA eA mi sz [.int x0, .int x1] []) (va_Qq (fun (r : Option Nat) (u : Nat × Nat) => r = some u.1 ∧ Q u.2) (aB dC dI [] sz (fun (u : Nat × Nat) => [(u.1, .inl (dA 2, u.2, .inr (.inl (fun _ => 0))))])) (va_A [] sz)) 1 36 (va_A [] sz) := by
  refine Met.ofW (cc := cX0_laid) (maxL := 2) (ret := (some (.object "java/lang/Object"))) (by decide) rfl ?_
  intro p e s m args below meth c s₁ B hml hv
  obtain ⟨rfl, hsz, hP, hK, hD0, hE⟩ := hv
  subst hsz
  have hx := B.exec
  have hb := B.bytes
  have hr := B.returns
  have hts := atoms_spec (ws := (ws_ yX0_laid cX0_laid 2 (some (.object "java/lang/Object")))) B.pre
  have hts : ∀ w ∈ lw_all, w.before _ s = true := fun w h => hts w (List.mem_cons_of_mem _ h)
  have hown : s.vm.findClass RX0 = some m.cls := findClass_of_methodNamed B.named
  have hlocks := B.notSynchronized
  have S : CallFix p m c cX0_laid 2 s _ lw_all RX0 := ⟨hx, hb, hml, hown, hts⟩
  have hD := hD0.self (sz := s.heap.size)
  have hA : ∀ q : Nat, s.heap.size ≤ q → va_A [] s.heap.size q := fun q h => Or.inr h
  have hS : va_S (va_A [] s.heap.size) s.heap s.heap [] := va_S.rf
  have hl := lv_entry ([.int x0, .int x1]) (n := 2) (Nat.le_of_ble_eq_true rfl)
  rw [lg_entry_eq]
  generalize (lg_sl ([.int x0, .int x1]) ++ List.replicate (2 - (lg_sl ([.int x0, .int x1])).length) Slot.unset).toArray = ls at hl ⊢
  replace hl : lv_has ls 2 [(0, .int x0), (1, .int x1)] := hl
  have hret : hrX0_laid_J p l e s m ([.int x0, .int x1] : List Value).toArray below meth c dC dI dA (va_A [] s.heap.size) (MQ below (va_Qq (fun (r : Option Nat) (u : Nat × Nat) => r = some u.1 ∧ Q u.2) (aB dC dI [] s.heap.size (fun (u : Nat × Nat) => [(u.1, .inl (dA 2, u.2, .inr (.inl (fun _ => 0))))])) (va_A [] s.heap.size)) ([.int x0, .int x1] : List Value).toArray s 1 36 (va_A [] s.heap.size)) Q := fun ra nn H locs kc ks pc ls h1 h2 hq hP hD hS hd => W.widen (k := 1) (n := 36) h1 h2 (W.aret hx hb hr (Or.inl ⟨_, rfl⟩) (Or.inr ⟨_, rfl⟩) (fun t ht hW => ⟨⟨some ra, (ra, nn), rfl, ⟨rfl, hq⟩, by subst ht; exact ⟨hP, hD⟩⟩, hS.F ht⟩) hS.2.2 hd)
  generalize hAe : va_A [] s.heap.size = A at hD hA hS hE hret ⊢
  clear hAe
  unfold wX0_laid_J at hf
  refine lv_iload_n hx hb dX0_laid_0 rfl (lv_at hl 0 rfl) ?_
  by_cases c_1_0 : x0 = 0
  · replace hf := hf.1 c_1_0
    refine lv_tableIn (off := 27) (tgt := 28) hx hb dX0_laid_1 (by rw [c_1_0]; decide) (by rw [c_1_0]; decide) (by rw [c_1_0]; decide) (by decide) ?_
    refine lv_iload_n hx hb dX0_laid_28 rfl (lv_at hl 1 rfl) ?_
    exact hf.elim
  replace hf := hf.2 c_1_0
  by_cases c_1_1 : x0 = 1
  · replace hf := hf.1 c_1_1
    refine lv_tableIn (off := 31) (tgt := 32) hx hb dX0_laid_1 (by rw [c_1_1]; decide) (by rw [c_1_1]; decide) (by rw [c_1_1]; decide) (by decide) ?_
    refine lv_iload_n hx hb dX0_laid_32 rfl (lv_at hl 1 rfl) ?_
    exact hf.elim
  replace hf := hf.2 c_1_1
  by_cases c_1_2 : x0 = 2
  · replace hf := hf.1 c_1_2
    refine lv_tableIn (off := 35) (tgt := 36) hx hb dX0_laid_1 (by rw [c_1_2]; decide) (by rw [c_1_2]; decide) (by rw [c_1_2]; decide) (by decide) ?_
    refine lv_iload_n hx hb dX0_laid_36 rfl (lv_at hl 1 rfl) ?_
    exact hf.elim
  replace hf := hf.2 c_1_2
  have n_0 := sw_no (j := 0) c_1_0 (by decide)
  have n_1 := sw_no (j := 1) c_1_1 (by decide)
  have n_2 := sw_no (j := 2) c_1_2 (by decide)
  refine lv_tableOut (tgt := 40) hx hb dX0_laid_1 (by omega) (by decide) ?_
  refine lv_iload_n hx hb dX0_laid_40 rfl (lv_at hl 1 rfl) ?_
  obtain ⟨hnn, hnl, hf⟩ := hf
  have hbud : 0 + 1 ≤ 1 ∧ 0 + (x1 : Int32).toNatClampNeg ≤ 36 := ⟨Nat.le_refl _, by omega⟩
  refine va_newa (atype := .long) (ty := .long) (N' := (x1 : Int32).toNatClampNeg) (a0 := ((x1 : Int32).toNatClampNeg, .inr (.inl (fun _ => 0)))) hx hb (hts _ q934) rfl hK hP hD hS hA (fun cA => rfl) hnn rfl (Nat.le_trans (Nat.mul_le_mul hnl (show componentBytes .long ≤ 8 by decide)) (by decide)) hbud.1 hbud.2 dX0_laid_41 (fun q_41 cA_41 H hK2 hP hD hS => ?_)
  obtain rfl : cA_41 = dA 2 := ty_one (s := s) (t1 := []) (t2 := []) (hK2.2 6 _ rfl).2 (hK.2 2 _ rfl).2
  replace hP : va_P (dC, dI) vwCl [(q_41, .inl (dA 2, (x1 : Int32).toNatClampNeg, .inr (.inl (fun _ => 0))))] H := hP
  replace hD : va_D A [(q_41, .inl (dA 2, (x1 : Int32).toNatClampNeg, .inr (.inl (fun _ => 0))))] := hD
  exact hret q_41 ((x1 : Int32).toNatClampNeg) _ _ _ _ _ _ hbud.1 hbud.2 hf (hP.sub [0] rfl) (hD.sub [0] (by decide) rfl) hS dX0_laid_43
/-! HoleCounty.laid(II)Ljava/lang/Object;: it throws java/lang/NegativeArraySizeException -/
abbrev rmX0_laid_ns : Room := { frames := 8, cells := 3, slots := 500, locals := 10260 }
abbrev RX0_laid_ns_ : Room := (headSpec (ws_ yX0_laid cX0_laid 2 (some (.object "java/lang/Object"))) rmX0_laid_ns).room
section
variable {p : Program} {l : Launch} {e : Env} {s : State} {m : MethodId} {args : Array Value} {below : List Frame} {meth : Method} {c : Code} {Qw : State → Prop} {dC : Nat → ClassId} {dI : Nat → Nat → Nat} {dA : Nat → ClassId} {eA mi : Nat} {A : Nat → Prop}
abbrev hrX0_laid_ns (p : Program) (l : Launch) (e : Env) (s : State) (m : MethodId) (args : Array Value) (below : List Frame) (meth : Method) (c : Code) (dC : Nat → ClassId) (dI : Nat → Nat → Nat) (dA : Nat → ClassId) (A : Nat → Prop) (Qw : State → Prop) (Q : Prop) : Prop := ∀ (xa : Nat) (H : Heap) (locs : List Loc) (kc ks : Nat) (pc : Nat) (ls : Array Slot) (rest : List Value), kc ≤ 3 → ks ≤ 500 → Q → va_P (dC, dI) vwCl [] H → va_D A [] → va_S A s.heap H locs → exc "java/lang/NegativeArraySizeException" xa s H → WT p l e RX0_laid_ns_ s m args below meth c H locs kc ks Qw (F0 m pc ls rest) xa
def wX0_laid_ns (Q : Prop) (x0 : Int32) (x1 : Int32) : Prop := ((x0 = 0 → (x1 < 0 ∧ Q)) ∧ (¬ x0 = 0 → ((x0 = 1 → (x1 < 0 ∧ Q)) ∧ (¬ x0 = 1 → ((x0 = 2 → (x1 < 0 ∧ Q)) ∧ (¬ x0 = 2 → (x1 < 0 ∧ Q)))))))
end
set_option maxHeartbeats 4000000 in
set_option maxRecDepth 100000 in
theorem metX0_laid_ns (l : Launch) (hfl : l.stackTraces = false) {Q : Prop} {x0 : Int32} {x1 : Int32} {dC : Nat → ClassId} {dI : Nat → Nat → Nat} {dA : Nat → ClassId} {eA mi sz : Nat} (hf : wX0_laid_ns Q x0 x1) : MetT l yX0_laid (ws_ yX0_laid cX0_laid 2 (some (.object "java/lang/Object"))) rmX0_laid_ns (aPc dC dI dA eA mi sz [.int x0, .int x1] []) (va_Qt (fun (u : Unit) => Q) (aBt dC dI [] sz (fun (u : Unit) (xa : Nat) => []) (fun _ => "java/lang/NegativeArraySizeException")) (va_A [] sz)) 3 500 (va_A [] sz) := by
  refine MetT.ofW (cc := cX0_laid) (maxL := 2) (ret := (some (.object "java/lang/Object"))) (by decide) rfl ?_
  intro p e s m args below meth c s₁ B hml hempty hv
  obtain ⟨rfl, hsz, hP, hK, hD0, hE⟩ := hv
  subst hsz
  have hx := B.exec
  have hb := B.bytes
  have hr := B.returns
  have hts := atoms_spec (ws := (ws_ yX0_laid cX0_laid 2 (some (.object "java/lang/Object")))) B.pre
  have hts : ∀ w ∈ lw_all, w.before _ s = true := fun w h => hts w (List.mem_cons_of_mem _ h)
  have hown : s.vm.findClass RX0 = some m.cls := findClass_of_methodNamed B.named
  have hlocks := B.notSynchronized
  have S : CallFix p m c cX0_laid 2 s _ lw_all RX0 := ⟨hx, hb, hml, hown, hts⟩
  have hD := hD0.self (sz := s.heap.size)
  have hA : ∀ q : Nat, s.heap.size ≤ q → va_A [] s.heap.size q := fun q h => Or.inr h
  have hS : va_S (va_A [] s.heap.size) s.heap s.heap [] := va_S.rf
  have hl := lv_entry ([.int x0, .int x1]) (n := 2) (Nat.le_of_ble_eq_true rfl)
  rw [lg_entry_eq]
  generalize (lg_sl ([.int x0, .int x1]) ++ List.replicate (2 - (lg_sl ([.int x0, .int x1])).length) Slot.unset).toArray = ls at hl ⊢
  replace hl : lv_has ls 2 [(0, .int x0), (1, .int x1)] := hl
  have hret : hrX0_laid_ns p l e s m ([.int x0, .int x1] : List Value).toArray below meth c dC dI dA (va_A [] s.heap.size) (TQ below (va_Qt (fun (u : Unit) => Q) (aBt dC dI [] s.heap.size (fun (u : Unit) (xa : Nat) => []) (fun _ => "java/lang/NegativeArraySizeException")) (va_A [] s.heap.size)) ([.int x0, .int x1] : List Value).toArray s 3 500 (va_A [] s.heap.size)) Q := fun xa H locs kc ks pc ls rest h1 h2 hq hP hD hS hX => WT.widen (k := 3) (n := 500) h1 h2 (WT.out (fun t ht hW => ⟨⟨(), xa, rfl, hq, ⟨by subst ht; exact ⟨hP, hD⟩, hX.at ht hW⟩⟩, hS.F ht⟩) hS.2.2 (fun y hy => by rw [hempty] at hy; exact absurd hy (by simp)) hlocks)
  generalize hAe : va_A [] s.heap.size = A at hD hA hS hE hret ⊢
  clear hAe
  unfold wX0_laid_ns at hf
  refine lv_iload_n hx hb dX0_laid_0 rfl (lv_at hl 0 rfl) ?_
  by_cases c_1_0 : x0 = 0
  · replace hf := hf.1 c_1_0
    refine lv_tableIn (off := 27) (tgt := 28) hx hb dX0_laid_1 (by rw [c_1_0]; decide) (by rw [c_1_0]; decide) (by rw [c_1_0]; decide) (by decide) ?_
    refine lv_iload_n hx hb dX0_laid_28 rfl (lv_at hl 1 rfl) ?_
    obtain ⟨hcd, hf⟩ := hf
    have hbud : 0 + 3 ≤ 3 ∧ 0 + 500 ≤ 500 := ⟨Nat.le_of_ble_eq_true rfl, Nat.le_of_ble_eq_true rfl⟩
    refine x_neg hx hb hcd dX0_laid_29 (fun tx_ htx_ => ?_)
    refine vm_msg (cls := "java/lang/NegativeArraySizeException") (names := ["java/lang/RuntimeException", "java/lang/Exception"]) (text := tx_) (nb := 500) hx (by decide) (by decide) (by decide) (by decide) (atoms_have msg_NS hts hE) hE hfl hP hS hA htx_.1 htx_.2 (by decide) rfl (hl.1.trans hml.symm) (Nat.le_of_ble_eq_true rfl) (Nat.le_of_ble_eq_true rfl) (by decide) hbud (fun x_29 H locs hP hS hX => ?_)
    exact hret x_29 _ _ _ _ _ _ _ (Nat.le_of_ble_eq_true rfl) (Nat.le_of_ble_eq_true rfl) hf (hP.sub [] rfl) (hD.sub [] (by decide) rfl) hS hX
  replace hf := hf.2 c_1_0
  by_cases c_1_1 : x0 = 1
  · replace hf := hf.1 c_1_1
    refine lv_tableIn (off := 31) (tgt := 32) hx hb dX0_laid_1 (by rw [c_1_1]; decide) (by rw [c_1_1]; decide) (by rw [c_1_1]; decide) (by decide) ?_
    refine lv_iload_n hx hb dX0_laid_32 rfl (lv_at hl 1 rfl) ?_
    obtain ⟨hcd, hf⟩ := hf
    have hbud : 0 + 3 ≤ 3 ∧ 0 + 500 ≤ 500 := ⟨Nat.le_of_ble_eq_true rfl, Nat.le_of_ble_eq_true rfl⟩
    refine x_neg hx hb hcd dX0_laid_33 (fun tx_ htx_ => ?_)
    refine vm_msg (cls := "java/lang/NegativeArraySizeException") (names := ["java/lang/RuntimeException", "java/lang/Exception"]) (text := tx_) (nb := 500) hx (by decide) (by decide) (by decide) (by decide) (atoms_have msg_NS hts hE) hE hfl hP hS hA htx_.1 htx_.2 (by decide) rfl (hl.1.trans hml.symm) (Nat.le_of_ble_eq_true rfl) (Nat.le_of_ble_eq_true rfl) (by decide) hbud (fun x_33 H locs hP hS hX => ?_)
    exact hret x_33 _ _ _ _ _ _ _ (Nat.le_of_ble_eq_true rfl) (Nat.le_of_ble_eq_true rfl) hf (hP.sub [] rfl) (hD.sub [] (by decide) rfl) hS hX
  replace hf := hf.2 c_1_1
  by_cases c_1_2 : x0 = 2
  · replace hf := hf.1 c_1_2
    refine lv_tableIn (off := 35) (tgt := 36) hx hb dX0_laid_1 (by rw [c_1_2]; decide) (by rw [c_1_2]; decide) (by rw [c_1_2]; decide) (by decide) ?_
    refine lv_iload_n hx hb dX0_laid_36 rfl (lv_at hl 1 rfl) ?_
    obtain ⟨hcd, hf⟩ := hf
    have hbud : 0 + 3 ≤ 3 ∧ 0 + 500 ≤ 500 := ⟨Nat.le_of_ble_eq_true rfl, Nat.le_of_ble_eq_true rfl⟩
    refine x_neg hx hb hcd dX0_laid_37 (fun tx_ htx_ => ?_)
    refine vm_msg (cls := "java/lang/NegativeArraySizeException") (names := ["java/lang/RuntimeException", "java/lang/Exception"]) (text := tx_) (nb := 500) hx (by decide) (by decide) (by decide) (by decide) (atoms_have msg_NS hts hE) hE hfl hP hS hA htx_.1 htx_.2 (by decide) rfl (hl.1.trans hml.symm) (Nat.le_of_ble_eq_true rfl) (Nat.le_of_ble_eq_true rfl) (by decide) hbud (fun x_37 H locs hP hS hX => ?_)
    exact hret x_37 _ _ _ _ _ _ _ (Nat.le_of_ble_eq_true rfl) (Nat.le_of_ble_eq_true rfl) hf (hP.sub [] rfl) (hD.sub [] (by decide) rfl) hS hX
  replace hf := hf.2 c_1_2
  have n_0 := sw_no (j := 0) c_1_0 (by decide)
  have n_1 := sw_no (j := 1) c_1_1 (by decide)
  have n_2 := sw_no (j := 2) c_1_2 (by decide)
  refine lv_tableOut (tgt := 40) hx hb dX0_laid_1 (by omega) (by decide) ?_
  refine lv_iload_n hx hb dX0_laid_40 rfl (lv_at hl 1 rfl) ?_
  obtain ⟨hcd, hf⟩ := hf
  have hbud : 0 + 3 ≤ 3 ∧ 0 + 500 ≤ 500 := ⟨Nat.le_of_ble_eq_true rfl, Nat.le_of_ble_eq_true rfl⟩
  refine x_neg hx hb hcd dX0_laid_41 (fun tx_ htx_ => ?_)
  refine vm_msg (cls := "java/lang/NegativeArraySizeException") (names := ["java/lang/RuntimeException", "java/lang/Exception"]) (text := tx_) (nb := 500) hx (by decide) (by decide) (by decide) (by decide) (atoms_have msg_NS hts hE) hE hfl hP hS hA htx_.1 htx_.2 (by decide) rfl (hl.1.trans hml.symm) (Nat.le_of_ble_eq_true rfl) (Nat.le_of_ble_eq_true rfl) (by decide) hbud (fun x_41 H locs hP hS hX => ?_)
  exact hret x_41 _ _ _ _ _ _ _ (Nat.le_of_ble_eq_true rfl) (Nat.le_of_ble_eq_true rfl) hf (hP.sub [] rfl) (hD.sub [] (by decide) rfl) hS hX
/-! HoleCounty.sizeOf(Ljava/lang/Object;I)I: it throws java/lang/NullPointerException -/
theorem pdX0_sizeOf : DscOk yX0_sizeOf 2 := by decide +kernel
abbrev rmX0_sizeOf_N_np : Room := { frames := 8, cells := 1, slots := 8, locals := 10260 }
abbrev RX0_sizeOf_N_np_ : Room := (headSpec (ws_ yX0_sizeOf cX0_sizeOf 2 (some .int)) rmX0_sizeOf_N_np).room
section
variable {p : Program} {l : Launch} {e : Env} {s : State} {m : MethodId} {args : Array Value} {below : List Frame} {meth : Method} {c : Code} {Qw : State → Prop} {dC : Nat → ClassId} {dI : Nat → Nat → Nat} {dA : Nat → ClassId} {eA mi : Nat} {A : Nat → Prop}
abbrev hrX0_sizeOf_N_np (p : Program) (l : Launch) (e : Env) (s : State) (m : MethodId) (args : Array Value) (below : List Frame) (meth : Method) (c : Code) (dC : Nat → ClassId) (dI : Nat → Nat → Nat) (dA : Nat → ClassId) (A : Nat → Prop) (Qw : State → Prop) (Q : Prop) : Prop := ∀ (xa : Nat) (H : Heap) (locs : List Loc) (kc ks : Nat) (pc : Nat) (ls : Array Slot) (rest : List Value), kc ≤ 1 → ks ≤ 8 → Q → va_P (dC, dI) vwCl [] H → va_D A [] → va_S A s.heap H locs → exc "java/lang/NullPointerException" xa s H → WT p l e RX0_sizeOf_N_np_ s m args below meth c H locs kc ks Qw (F0 m pc ls rest) xa
def wX0_sizeOf_N_np (Q : Prop) (x1 : Int32) : Prop := ((x1 = 0 → Q) ∧ (¬ x1 = 0 → ((x1 = 1 → Q) ∧ (¬ x1 = 1 → ((x1 = 2 → Q) ∧ (¬ x1 = 2 → Q))))))
end
set_option maxHeartbeats 4000000 in
set_option maxRecDepth 100000 in
theorem metX0_sizeOf_N_np (l : Launch) (hfl : l.stackTraces = false) {Q : Prop} {x1 : Int32} {dC : Nat → ClassId} {dI : Nat → Nat → Nat} {dA : Nat → ClassId} {eA mi sz : Nat} (hf : wX0_sizeOf_N_np Q x1) : MetT l yX0_sizeOf (ws_ yX0_sizeOf cX0_sizeOf 2 (some .int)) rmX0_sizeOf_N_np (aPc dC dI dA eA mi sz [.null, .int x1] []) (va_Qt (fun (u : Unit) => Q) (aBt dC dI [] sz (fun (u : Unit) (xa : Nat) => []) (fun _ => "java/lang/NullPointerException")) (va_A [] sz)) 1 8 (va_A [] sz) := by
  refine MetT.ofW (cc := cX0_sizeOf) (maxL := 2) (ret := (some .int)) (by decide) rfl ?_
  intro p e s m args below meth c s₁ B hml hempty hv
  obtain ⟨rfl, hsz, hP, hK, hD0, hE⟩ := hv
  subst hsz
  have hx := B.exec
  have hb := B.bytes
  have hr := B.returns
  have hts := atoms_spec (ws := (ws_ yX0_sizeOf cX0_sizeOf 2 (some .int))) B.pre
  have hts : ∀ w ∈ lw_all, w.before _ s = true := fun w h => hts w (List.mem_cons_of_mem _ h)
  have hown : s.vm.findClass RX0 = some m.cls := findClass_of_methodNamed B.named
  have hlocks := B.notSynchronized
  have S : CallFix p m c cX0_sizeOf 2 s _ lw_all RX0 := ⟨hx, hb, hml, hown, hts⟩
  have hD := hD0.self (sz := s.heap.size)
  have hA : ∀ q : Nat, s.heap.size ≤ q → va_A [] s.heap.size q := fun q h => Or.inr h
  have hS : va_S (va_A [] s.heap.size) s.heap s.heap [] := va_S.rf
  have hl := lv_entry ([.null, .int x1]) (n := 2) (Nat.le_of_ble_eq_true rfl)
  rw [lg_entry_eq]
  generalize (lg_sl ([.null, .int x1]) ++ List.replicate (2 - (lg_sl ([.null, .int x1])).length) Slot.unset).toArray = ls at hl ⊢
  replace hl : lv_has ls 2 [(0, .null), (1, .int x1)] := hl
  have hret : hrX0_sizeOf_N_np p l e s m ([.null, .int x1] : List Value).toArray below meth c dC dI dA (va_A [] s.heap.size) (TQ below (va_Qt (fun (u : Unit) => Q) (aBt dC dI [] s.heap.size (fun (u : Unit) (xa : Nat) => []) (fun _ => "java/lang/NullPointerException")) (va_A [] s.heap.size)) ([.null, .int x1] : List Value).toArray s 1 8 (va_A [] s.heap.size)) Q := fun xa H locs kc ks pc ls rest h1 h2 hq hP hD hS hX => WT.widen (k := 1) (n := 8) h1 h2 (WT.out (fun t ht hW => ⟨⟨(), xa, rfl, hq, ⟨by subst ht; exact ⟨hP, hD⟩, hX.at ht hW⟩⟩, hS.F ht⟩) hS.2.2 (fun y hy => by rw [hempty] at hy; exact absurd hy (by simp)) hlocks)
  generalize hAe : va_A [] s.heap.size = A at hD hA hS hE hret ⊢
  clear hAe
  unfold wX0_sizeOf_N_np at hf
  refine lv_iload_n hx hb dX0_sizeOf_0 rfl (lv_at hl 1 rfl) ?_
  by_cases c_1_0 : x1 = 0
  · replace hf := hf.1 c_1_0
    refine lv_tableIn (off := 27) (tgt := 28) hx hb dX0_sizeOf_1 (by rw [c_1_0]; decide) (by rw [c_1_0]; decide) (by rw [c_1_0]; decide) (by decide) ?_
    refine lv_aload_nN hx hb dX0_sizeOf_28 rfl (lv_at hl 0 rfl) ?_
    refine lv_castN hx hb dX0_sizeOf_29 ?_
    have hbud : 0 + 1 ≤ 1 ∧ 0 + 8 ≤ 8 := ⟨Nat.le_of_ble_eq_true rfl, Nat.le_of_ble_eq_true rfl⟩
    refine f_len0 hx hb dX0_sizeOf_32 ?_
    refine vm_npe hx (atoms_have npe_mem hts hE) hE hfl hP hS hA rfl (hl.1.trans hml.symm) (Nat.le_of_ble_eq_true rfl) (Nat.le_of_ble_eq_true rfl) hbud (fun x_32 H locs hP hS hX => ?_)
    exact hret x_32 _ _ _ _ _ _ _ (Nat.le_of_ble_eq_true rfl) (Nat.le_of_ble_eq_true rfl) hf (hP.sub [] rfl) (hD.sub [] (by decide) rfl) hS hX
  replace hf := hf.2 c_1_0
  by_cases c_1_1 : x1 = 1
  · replace hf := hf.1 c_1_1
    refine lv_tableIn (off := 33) (tgt := 34) hx hb dX0_sizeOf_1 (by rw [c_1_1]; decide) (by rw [c_1_1]; decide) (by rw [c_1_1]; decide) (by decide) ?_
    refine lv_aload_nN hx hb dX0_sizeOf_34 rfl (lv_at hl 0 rfl) ?_
    refine lv_castN hx hb dX0_sizeOf_35 ?_
    have hbud : 0 + 1 ≤ 1 ∧ 0 + 8 ≤ 8 := ⟨Nat.le_of_ble_eq_true rfl, Nat.le_of_ble_eq_true rfl⟩
    refine f_len0 hx hb dX0_sizeOf_38 ?_
    refine vm_npe hx (atoms_have npe_mem hts hE) hE hfl hP hS hA rfl (hl.1.trans hml.symm) (Nat.le_of_ble_eq_true rfl) (Nat.le_of_ble_eq_true rfl) hbud (fun x_38 H locs hP hS hX => ?_)
    exact hret x_38 _ _ _ _ _ _ _ (Nat.le_of_ble_eq_true rfl) (Nat.le_of_ble_eq_true rfl) hf (hP.sub [] rfl) (hD.sub [] (by decide) rfl) hS hX
  replace hf := hf.2 c_1_1
  by_cases c_1_2 : x1 = 2
  · replace hf := hf.1 c_1_2
    refine lv_tableIn (off := 39) (tgt := 40) hx hb dX0_sizeOf_1 (by rw [c_1_2]; decide) (by rw [c_1_2]; decide) (by rw [c_1_2]; decide) (by decide) ?_
    refine lv_aload_nN hx hb dX0_sizeOf_40 rfl (lv_at hl 0 rfl) ?_
    refine lv_castN hx hb dX0_sizeOf_41 ?_
    have hbud : 0 + 1 ≤ 1 ∧ 0 + 8 ≤ 8 := ⟨Nat.le_of_ble_eq_true rfl, Nat.le_of_ble_eq_true rfl⟩
    refine f_len0 hx hb dX0_sizeOf_44 ?_
    refine vm_npe hx (atoms_have npe_mem hts hE) hE hfl hP hS hA rfl (hl.1.trans hml.symm) (Nat.le_of_ble_eq_true rfl) (Nat.le_of_ble_eq_true rfl) hbud (fun x_44 H locs hP hS hX => ?_)
    exact hret x_44 _ _ _ _ _ _ _ (Nat.le_of_ble_eq_true rfl) (Nat.le_of_ble_eq_true rfl) hf (hP.sub [] rfl) (hD.sub [] (by decide) rfl) hS hX
  replace hf := hf.2 c_1_2
  have n_0 := sw_no (j := 0) c_1_0 (by decide)
  have n_1 := sw_no (j := 1) c_1_1 (by decide)
  have n_2 := sw_no (j := 2) c_1_2 (by decide)
  refine lv_tableOut (tgt := 46) hx hb dX0_sizeOf_1 (by omega) (by decide) ?_
  refine lv_aload_nN hx hb dX0_sizeOf_46 rfl (lv_at hl 0 rfl) ?_
  refine lv_castN hx hb dX0_sizeOf_47 ?_
  have hbud : 0 + 1 ≤ 1 ∧ 0 + 8 ≤ 8 := ⟨Nat.le_of_ble_eq_true rfl, Nat.le_of_ble_eq_true rfl⟩
  refine f_len0 hx hb dX0_sizeOf_50 ?_
  refine vm_npe hx (atoms_have npe_mem hts hE) hE hfl hP hS hA rfl (hl.1.trans hml.symm) (Nat.le_of_ble_eq_true rfl) (Nat.le_of_ble_eq_true rfl) hbud (fun x_50 H locs hP hS hX => ?_)
  exact hret x_50 _ _ _ _ _ _ _ (Nat.le_of_ble_eq_true rfl) (Nat.le_of_ble_eq_true rfl) hf (hP.sub [] rfl) (hD.sub [] (by decide) rfl) hS hX
/-! HoleCounty.puts(Ljava/lang/Object;IIJ)V: it throws java/lang/NullPointerException -/
theorem pdX0_puts : DscOk yX0_puts 4 := by decide +kernel
abbrev rmX0_puts_N_np : Room := { frames := 8, cells := 1, slots := 8, locals := 10260 }
abbrev RX0_puts_N_np_ : Room := (headSpec (ws_ yX0_puts cX0_puts 5 none) rmX0_puts_N_np).room
section
variable {p : Program} {l : Launch} {e : Env} {s : State} {m : MethodId} {args : Array Value} {below : List Frame} {meth : Method} {c : Code} {Qw : State → Prop} {dC : Nat → ClassId} {dI : Nat → Nat → Nat} {dA : Nat → ClassId} {eA mi : Nat} {A : Nat → Prop}
abbrev hrX0_puts_N_np (p : Program) (l : Launch) (e : Env) (s : State) (m : MethodId) (args : Array Value) (below : List Frame) (meth : Method) (c : Code) (dC : Nat → ClassId) (dI : Nat → Nat → Nat) (dA : Nat → ClassId) (A : Nat → Prop) (Qw : State → Prop) (Q : Prop) : Prop := ∀ (xa : Nat) (H : Heap) (locs : List Loc) (kc ks : Nat) (pc : Nat) (ls : Array Slot) (rest : List Value), kc ≤ 1 → ks ≤ 8 → Q → va_P (dC, dI) vwCl [] H → va_D A [] → va_S A s.heap H locs → exc "java/lang/NullPointerException" xa s H → WT p l e RX0_puts_N_np_ s m args below meth c H locs kc ks Qw (F0 m pc ls rest) xa
def wX0_puts_N_np (Q : Prop) (x1 : Int32) (x2 : Int32) (x3 : Int64) : Prop := ((x1 = 0 → Q) ∧ (¬ x1 = 0 → ((x1 = 1 → Q) ∧ (¬ x1 = 1 → ((x1 = 2 → Q) ∧ (¬ x1 = 2 → Q))))))
end
set_option maxHeartbeats 4000000 in
set_option maxRecDepth 100000 in
theorem metX0_puts_N_np (l : Launch) (hfl : l.stackTraces = false) {Q : Prop} {x1 : Int32} {x2 : Int32} {x3 : Int64} {dC : Nat → ClassId} {dI : Nat → Nat → Nat} {dA : Nat → ClassId} {eA mi sz : Nat} (hf : wX0_puts_N_np Q x1 x2 x3) : MetT l yX0_puts (ws_ yX0_puts cX0_puts 5 none) rmX0_puts_N_np (aPc dC dI dA eA mi sz [.null, .int x1, .int x2, .long x3] []) (va_Qt (fun (u : Unit) => Q) (aBt dC dI [] sz (fun (u : Unit) (xa : Nat) => []) (fun _ => "java/lang/NullPointerException")) (va_A [] sz)) 1 8 (va_A [] sz) := by
  refine MetT.ofW (cc := cX0_puts) (maxL := 5) (ret := none) (by decide) rfl ?_
  intro p e s m args below meth c s₁ B hml hempty hv
  obtain ⟨rfl, hsz, hP, hK, hD0, hE⟩ := hv
  subst hsz
  have hx := B.exec
  have hb := B.bytes
  have hr := B.returns
  have hts := atoms_spec (ws := (ws_ yX0_puts cX0_puts 5 none)) B.pre
  have hts : ∀ w ∈ lw_all, w.before _ s = true := fun w h => hts w (List.mem_cons_of_mem _ h)
  have hown : s.vm.findClass RX0 = some m.cls := findClass_of_methodNamed B.named
  have hlocks := B.notSynchronized
  have S : CallFix p m c cX0_puts 5 s _ lw_all RX0 := ⟨hx, hb, hml, hown, hts⟩
  have hD := hD0.self (sz := s.heap.size)
  have hA : ∀ q : Nat, s.heap.size ≤ q → va_A [] s.heap.size q := fun q h => Or.inr h
  have hS : va_S (va_A [] s.heap.size) s.heap s.heap [] := va_S.rf
  have hl := lv_entry ([.null, .int x1, .int x2, .long x3]) (n := 5) (Nat.le_of_ble_eq_true rfl)
  rw [lg_entry_eq]
  generalize (lg_sl ([.null, .int x1, .int x2, .long x3]) ++ List.replicate (5 - (lg_sl ([.null, .int x1, .int x2, .long x3])).length) Slot.unset).toArray = ls at hl ⊢
  replace hl : lv_has ls 5 [(0, .null), (1, .int x1), (2, .int x2), (3, .long x3)] := hl
  have hret : hrX0_puts_N_np p l e s m ([.null, .int x1, .int x2, .long x3] : List Value).toArray below meth c dC dI dA (va_A [] s.heap.size) (TQ below (va_Qt (fun (u : Unit) => Q) (aBt dC dI [] s.heap.size (fun (u : Unit) (xa : Nat) => []) (fun _ => "java/lang/NullPointerException")) (va_A [] s.heap.size)) ([.null, .int x1, .int x2, .long x3] : List Value).toArray s 1 8 (va_A [] s.heap.size)) Q := fun xa H locs kc ks pc ls rest h1 h2 hq hP hD hS hX => WT.widen (k := 1) (n := 8) h1 h2 (WT.out (fun t ht hW => ⟨⟨(), xa, rfl, hq, ⟨by subst ht; exact ⟨hP, hD⟩, hX.at ht hW⟩⟩, hS.F ht⟩) hS.2.2 (fun y hy => by rw [hempty] at hy; exact absurd hy (by simp)) hlocks)
  generalize hAe : va_A [] s.heap.size = A at hD hA hS hE hret ⊢
  clear hAe
  unfold wX0_puts_N_np at hf
  refine lv_iload_n hx hb dX0_puts_0 rfl (lv_at hl 1 rfl) ?_
  refine lv_if_ne (tgt := 16) hx hb dX0_puts_1 (by decide) (fun c_1 => ?_) (fun c_1 => ?_)
  · replace hf := hf.2 c_1
    refine lv_iload_n hx hb dX0_puts_16 rfl (lv_at hl 1 rfl) ?_
    refine lv_iconst (v := 1) hx hb dX0_puts_17 (by decide) ?_
    refine lv_icmp_ne (tgt := 33) hx hb dX0_puts_18 (by decide) (fun c_18 => ?_) (fun c_18 => ?_)
    · replace hf := hf.2 c_18
      refine lv_iload_n hx hb dX0_puts_33 rfl (lv_at hl 1 rfl) ?_
      refine lv_iconst (v := 2) hx hb dX0_puts_34 (by decide) ?_
      refine lv_icmp_ne (tgt := 49) hx hb dX0_puts_35 (by decide) (fun c_35 => ?_) (fun c_35 => ?_)
      · replace hf := hf.2 c_35
        refine lv_aload_nN hx hb dX0_puts_49 rfl (lv_at hl 0 rfl) ?_
        refine lv_castN hx hb dX0_puts_50 ?_
        refine lv_iload_n hx hb dX0_puts_53 rfl (lv_at hl 2 rfl) ?_
        refine lv_lload_n hx hb dX0_puts_54 rfl (lv_at hl 3 rfl) ?_
        have hbud : 0 + 1 ≤ 1 ∧ 0 + 8 ≤ 8 := ⟨Nat.le_of_ble_eq_true rfl, Nat.le_of_ble_eq_true rfl⟩
        refine f_lastN hx hb dX0_puts_55 ?_
        refine vm_npe hx (atoms_have npe_mem hts hE) hE hfl hP hS hA rfl (hl.1.trans hml.symm) (Nat.le_of_ble_eq_true rfl) (Nat.le_of_ble_eq_true rfl) hbud (fun x_55 H locs hP hS hX => ?_)
        exact hret x_55 _ _ _ _ _ _ _ (Nat.le_of_ble_eq_true rfl) (Nat.le_of_ble_eq_true rfl) hf (hP.sub [] rfl) (hD.sub [] (by decide) rfl) hS hX
      · replace hf := hf.1 c_35
        refine lv_aload_nN hx hb dX0_puts_38 rfl (lv_at hl 0 rfl) ?_
        refine lv_castN hx hb dX0_puts_39 ?_
        refine lv_iload_n hx hb dX0_puts_42 rfl (lv_at hl 2 rfl) ?_
        refine lv_lload_n hx hb dX0_puts_43 rfl (lv_at hl 3 rfl) ?_
        refine lv_l2i (v := (x3 : Int64).toInt32) hx hb dX0_puts_44 rfl ?_
        have hbud : 0 + 1 ≤ 1 ∧ 0 + 8 ≤ 8 := ⟨Nat.le_of_ble_eq_true rfl, Nat.le_of_ble_eq_true rfl⟩
        refine f_iastN hx hb dX0_puts_45 ?_
        refine vm_npe hx (atoms_have npe_mem hts hE) hE hfl hP hS hA rfl (hl.1.trans hml.symm) (Nat.le_of_ble_eq_true rfl) (Nat.le_of_ble_eq_true rfl) hbud (fun x_45 H locs hP hS hX => ?_)
        exact hret x_45 _ _ _ _ _ _ _ (Nat.le_of_ble_eq_true rfl) (Nat.le_of_ble_eq_true rfl) hf (hP.sub [] rfl) (hD.sub [] (by decide) rfl) hS hX
    · replace hf := hf.1 c_18
      refine lv_aload_nN hx hb dX0_puts_21 rfl (lv_at hl 0 rfl) ?_
      refine lv_castN hx hb dX0_puts_22 ?_
      refine lv_iload_n hx hb dX0_puts_25 rfl (lv_at hl 2 rfl) ?_
      refine lv_lload_n hx hb dX0_puts_26 rfl (lv_at hl 3 rfl) ?_
      refine lv_l2i (v := (x3 : Int64).toInt32) hx hb dX0_puts_27 rfl ?_
      refine lv_i2s (v := ((x3 : Int64).toInt32 : Int32).toInt16.toInt32) hx hb dX0_puts_28 rfl ?_
      have hbud : 0 + 1 ≤ 1 ∧ 0 + 8 ≤ 8 := ⟨Nat.le_of_ble_eq_true rfl, Nat.le_of_ble_eq_true rfl⟩
      refine f_sastN hx hb dX0_puts_29 ?_
      refine vm_npe hx (atoms_have npe_mem hts hE) hE hfl hP hS hA rfl (hl.1.trans hml.symm) (Nat.le_of_ble_eq_true rfl) (Nat.le_of_ble_eq_true rfl) hbud (fun x_29 H locs hP hS hX => ?_)
      exact hret x_29 _ _ _ _ _ _ _ (Nat.le_of_ble_eq_true rfl) (Nat.le_of_ble_eq_true rfl) hf (hP.sub [] rfl) (hD.sub [] (by decide) rfl) hS hX
  · replace hf := hf.1 c_1
    refine lv_aload_nN hx hb dX0_puts_4 rfl (lv_at hl 0 rfl) ?_
    refine lv_castN hx hb dX0_puts_5 ?_
    refine lv_iload_n hx hb dX0_puts_8 rfl (lv_at hl 2 rfl) ?_
    refine lv_lload_n hx hb dX0_puts_9 rfl (lv_at hl 3 rfl) ?_
    refine lv_l2i (v := (x3 : Int64).toInt32) hx hb dX0_puts_10 rfl ?_
    refine lv_i2b (v := ((x3 : Int64).toInt32 : Int32).toInt8.toInt32) hx hb dX0_puts_11 rfl ?_
    have hbud : 0 + 1 ≤ 1 ∧ 0 + 8 ≤ 8 := ⟨Nat.le_of_ble_eq_true rfl, Nat.le_of_ble_eq_true rfl⟩
    refine f_bastN hx hb dX0_puts_12 ?_
    refine vm_npe hx (atoms_have npe_mem hts hE) hE hfl hP hS hA rfl (hl.1.trans hml.symm) (Nat.le_of_ble_eq_true rfl) (Nat.le_of_ble_eq_true rfl) hbud (fun x_12 H locs hP hS hX => ?_)
    exact hret x_12 _ _ _ _ _ _ _ (Nat.le_of_ble_eq_true rfl) (Nat.le_of_ble_eq_true rfl) hf (hP.sub [] rfl) (hD.sub [] (by decide) rfl) hS hX
/-! HoleCounty.sizeOf(Ljava/lang/Object;I)I -/
abbrev rmX0_sizeOf_B : Room := { frames := 0, cells := 0, slots := 0, locals := 0 }
abbrev RX0_sizeOf_B_ : Room := (headSpec (ws_ yX0_sizeOf cX0_sizeOf 2 (some .int)) rmX0_sizeOf_B).room
section
variable {p : Program} {l : Launch} {e : Env} {s : State} {m : MethodId} {args : Array Value} {below : List Frame} {meth : Method} {c : Code} {Qw : State → Prop} {dC : Nat → ClassId} {dI : Nat → Nat → Nat} {dA : Nat → ClassId} {eA mi : Nat} {A : Nat → Prop} {ra : Nat}
abbrev hrX0_sizeOf_B (p : Program) (l : Launch) (e : Env) (s : State) (m : MethodId) (args : Array Value) (below : List Frame) (meth : Method) (c : Code) (dC : Nat → ClassId) (dI : Nat → Nat → Nat) (dA : Nat → ClassId) (A : Nat → Prop) (ra : Nat) (Qw : State → Prop) (Q : Int32 → Prop) (rn : Nat) (rf : (Nat → Int32)) : Prop := ∀ (r : Int32) (H : Heap) (locs : List Loc) (kc ks : Nat) (pc : Nat) (ls : Array Slot), kc ≤ 0 → ks ≤ 0 → Q r → va_P (dC, dI) vwCl [(ra, .inl (dA 0, rn, .inl rf))] H → va_D A [(ra, .inl (dA 0, rn, .inl rf))] → va_S A s.heap H locs → decode cX0_sizeOf pc = .ok (.ireturn, 1) → W p l e RX0_sizeOf_B_ s m args below meth c H locs kc ks Qw (F0 m pc ls [.int r])
def wX0_sizeOf_B (Q : Int32 → Prop) (rn : Nat) (x1 : Int32) : Prop := ((x1 = 0 → (Q (Int32.ofNat rn))) ∧ (¬ x1 = 0 → ((x1 = 1 → False) ∧ (¬ x1 = 1 → ((x1 = 2 → False) ∧ (¬ x1 = 2 → False))))))
end
set_option maxHeartbeats 4000000 in
set_option maxRecDepth 100000 in
theorem metX0_sizeOf_B (l : Launch) (hfl : l.stackTraces = false) {Q : Int32 → Prop} {rn : Nat} {rf : (Nat → Int32)} {x1 : Int32} {dC : Nat → ClassId} {dI : Nat → Nat → Nat} {dA : Nat → ClassId} {eA mi sz : Nat} {ra : Nat} (hf : wX0_sizeOf_B Q rn x1) : Met l yX0_sizeOf (ws_ yX0_sizeOf cX0_sizeOf 2 (some .int)) rmX0_sizeOf_B (aPc dC dI dA eA mi sz [.ref ra, .int x1] [(ra, .inl (dA 0, rn, .inl rf))]) (va_Qi (fun (r : Int32) (u : Unit) => Q r) (aB dC dI [(ra, .inl (dA 0, rn, .inl rf))] sz (fun u => [(ra, .inl (dA 0, rn, .inl rf))])) (va_A [(ra, .inl (dA 0, rn, .inl rf))] sz)) 0 0 (va_A [(ra, .inl (dA 0, rn, .inl rf))] sz) := by
  refine Met.ofW (cc := cX0_sizeOf) (maxL := 2) (ret := (some .int)) (by decide) rfl ?_
  intro p e s m args below meth c s₁ B hml hv
  obtain ⟨rfl, hsz, hP, hK, hD0, hE⟩ := hv
  subst hsz
  have hx := B.exec
  have hb := B.bytes
  have hr := B.returns
  have hts := atoms_spec (ws := (ws_ yX0_sizeOf cX0_sizeOf 2 (some .int))) B.pre
  have hts : ∀ w ∈ lw_all, w.before _ s = true := fun w h => hts w (List.mem_cons_of_mem _ h)
  have hown : s.vm.findClass RX0 = some m.cls := findClass_of_methodNamed B.named
  have hlocks := B.notSynchronized
  have S : CallFix p m c cX0_sizeOf 2 s _ lw_all RX0 := ⟨hx, hb, hml, hown, hts⟩
  have hD := hD0.self (sz := s.heap.size)
  have hA : ∀ q : Nat, s.heap.size ≤ q → va_A [(ra, .inl (dA 0, rn, .inl rf))] s.heap.size q := fun q h => Or.inr h
  have hS : va_S (va_A [(ra, .inl (dA 0, rn, .inl rf))] s.heap.size) s.heap s.heap [] := va_S.rf
  have hl := lv_entry ([.ref ra, .int x1]) (n := 2) (Nat.le_of_ble_eq_true rfl)
  rw [lg_entry_eq]
  generalize (lg_sl ([.ref ra, .int x1]) ++ List.replicate (2 - (lg_sl ([.ref ra, .int x1])).length) Slot.unset).toArray = ls at hl ⊢
  replace hl : lv_has ls 2 [(0, .ref ra), (1, .int x1)] := hl
  have hret : hrX0_sizeOf_B p l e s m ([.ref ra, .int x1] : List Value).toArray below meth c dC dI dA (va_A [(ra, .inl (dA 0, rn, .inl rf))] s.heap.size) ra (MQ below (va_Qi (fun (r : Int32) (u : Unit) => Q r) (aB dC dI [(ra, .inl (dA 0, rn, .inl rf))] s.heap.size (fun u => [(ra, .inl (dA 0, rn, .inl rf))])) (va_A [(ra, .inl (dA 0, rn, .inl rf))] s.heap.size)) ([.ref ra, .int x1] : List Value).toArray s 0 0 (va_A [(ra, .inl (dA 0, rn, .inl rf))] s.heap.size)) Q rn rf := fun r H locs kc ks pc ls h1 h2 hq hP hD hS hd => W.widen (k := 0) (n := 0) h1 h2 (W.iret hx hb hr (fun t ht hW => ⟨⟨r, (), rfl, hq, by subst ht; exact ⟨hP, hD⟩⟩, hS.F ht⟩) hS.2.2 hd)
  generalize hAe : va_A [(ra, .inl (dA 0, rn, .inl rf))] s.heap.size = A at hD hA hS hE hret ⊢
  clear hAe
  unfold wX0_sizeOf_B at hf
  refine lv_iload_n hx hb dX0_sizeOf_0 rfl (lv_at hl 1 rfl) ?_
  by_cases c_1_0 : x1 = 0
  · replace hf := hf.1 c_1_0
    refine lv_tableIn (off := 27) (tgt := 28) hx hb dX0_sizeOf_1 (by rw [c_1_0]; decide) (by rw [c_1_0]; decide) (by rw [c_1_0]; decide) (by decide) ?_
    refine lv_aload_n hx hb dX0_sizeOf_28 rfl (lv_at hl 0 rfl) ?_
    refine va_castA hx hb hown (hts _ q942) hP 0 rfl (va_nmP (ty := .byte) (hK.2 0 _ rfl).2 rfl (by decide)) dX0_sizeOf_29 ?_
    refine va_alen (v := (Int32.ofNat rn)) hx hb hK hP 0 0 rfl rfl rfl dX0_sizeOf_32 ?_
    exact hret _ _ _ _ _ _ _ (Nat.zero_le _) (Nat.zero_le _) hf (hP.sub [0] rfl) (hD.sub [0] (by decide) rfl) hS dX0_sizeOf_33
  replace hf := hf.2 c_1_0
  by_cases c_1_1 : x1 = 1
  · replace hf := hf.1 c_1_1
    refine lv_tableIn (off := 33) (tgt := 34) hx hb dX0_sizeOf_1 (by rw [c_1_1]; decide) (by rw [c_1_1]; decide) (by rw [c_1_1]; decide) (by decide) ?_
    refine lv_aload_n hx hb dX0_sizeOf_34 rfl (lv_at hl 0 rfl) ?_
    exact hf.elim
  replace hf := hf.2 c_1_1
  by_cases c_1_2 : x1 = 2
  · replace hf := hf.1 c_1_2
    refine lv_tableIn (off := 39) (tgt := 40) hx hb dX0_sizeOf_1 (by rw [c_1_2]; decide) (by rw [c_1_2]; decide) (by rw [c_1_2]; decide) (by decide) ?_
    refine lv_aload_n hx hb dX0_sizeOf_40 rfl (lv_at hl 0 rfl) ?_
    exact hf.elim
  replace hf := hf.2 c_1_2
  have n_0 := sw_no (j := 0) c_1_0 (by decide)
  have n_1 := sw_no (j := 1) c_1_1 (by decide)
  have n_2 := sw_no (j := 2) c_1_2 (by decide)
  refine lv_tableOut (tgt := 46) hx hb dX0_sizeOf_1 (by omega) (by decide) ?_
  refine lv_aload_n hx hb dX0_sizeOf_46 rfl (lv_at hl 0 rfl) ?_
  exact hf.elim
/-! HoleCounty.sizeOf(Ljava/lang/Object;I)I: it throws java/lang/ClassCastException -/
abbrev rmX0_sizeOf_B_cc : Room := { frames := 8, cells := 3, slots := 500, locals := 10260 }
abbrev RX0_sizeOf_B_cc_ : Room := (headSpec (ws_ yX0_sizeOf cX0_sizeOf 2 (some .int)) rmX0_sizeOf_B_cc).room
section
variable {p : Program} {l : Launch} {e : Env} {s : State} {m : MethodId} {args : Array Value} {below : List Frame} {meth : Method} {c : Code} {Qw : State → Prop} {dC : Nat → ClassId} {dI : Nat → Nat → Nat} {dA : Nat → ClassId} {eA mi : Nat} {A : Nat → Prop} {ra : Nat}
abbrev hrX0_sizeOf_B_cc (p : Program) (l : Launch) (e : Env) (s : State) (m : MethodId) (args : Array Value) (below : List Frame) (meth : Method) (c : Code) (dC : Nat → ClassId) (dI : Nat → Nat → Nat) (dA : Nat → ClassId) (A : Nat → Prop) (ra : Nat) (Qw : State → Prop) (Q : Prop) (rn : Nat) (rf : (Nat → Int32)) : Prop := ∀ (xa : Nat) (H : Heap) (locs : List Loc) (kc ks : Nat) (pc : Nat) (ls : Array Slot) (rest : List Value), kc ≤ 3 → ks ≤ 500 → Q → va_P (dC, dI) vwCl [(ra, .inl (dA 0, rn, .inl rf))] H → va_D A [(ra, .inl (dA 0, rn, .inl rf))] → va_S A s.heap H locs → exc "java/lang/ClassCastException" xa s H → WT p l e RX0_sizeOf_B_cc_ s m args below meth c H locs kc ks Qw (F0 m pc ls rest) xa
def wX0_sizeOf_B_cc (Q : Prop) (rn : Nat) (x1 : Int32) : Prop := ((x1 = 0 → False) ∧ (¬ x1 = 0 → ((x1 = 1 → Q) ∧ (¬ x1 = 1 → ((x1 = 2 → Q) ∧ (¬ x1 = 2 → Q))))))
end
set_option maxHeartbeats 4000000 in
set_option maxRecDepth 100000 in
theorem metX0_sizeOf_B_cc (l : Launch) (hfl : l.stackTraces = false) {Q : Prop} {rn : Nat} {rf : (Nat → Int32)} {x1 : Int32} {dC : Nat → ClassId} {dI : Nat → Nat → Nat} {dA : Nat → ClassId} {eA mi sz : Nat} {ra : Nat} (hf : wX0_sizeOf_B_cc Q rn x1) : MetT l yX0_sizeOf (ws_ yX0_sizeOf cX0_sizeOf 2 (some .int)) rmX0_sizeOf_B_cc (aPc dC dI dA eA mi sz [.ref ra, .int x1] [(ra, .inl (dA 0, rn, .inl rf))]) (va_Qt (fun (u : Unit) => Q) (aBt dC dI [(ra, .inl (dA 0, rn, .inl rf))] sz (fun (u : Unit) (xa : Nat) => [(ra, .inl (dA 0, rn, .inl rf))]) (fun _ => "java/lang/ClassCastException")) (va_A [(ra, .inl (dA 0, rn, .inl rf))] sz)) 3 500 (va_A [(ra, .inl (dA 0, rn, .inl rf))] sz) := by
  refine MetT.ofW (cc := cX0_sizeOf) (maxL := 2) (ret := (some .int)) (by decide) rfl ?_
  intro p e s m args below meth c s₁ B hml hempty hv
  obtain ⟨rfl, hsz, hP, hK, hD0, hE⟩ := hv
  subst hsz
  have hx := B.exec
  have hb := B.bytes
  have hr := B.returns
  have hts := atoms_spec (ws := (ws_ yX0_sizeOf cX0_sizeOf 2 (some .int))) B.pre
  have hts : ∀ w ∈ lw_all, w.before _ s = true := fun w h => hts w (List.mem_cons_of_mem _ h)
  have hown : s.vm.findClass RX0 = some m.cls := findClass_of_methodNamed B.named
  have hlocks := B.notSynchronized
  have S : CallFix p m c cX0_sizeOf 2 s _ lw_all RX0 := ⟨hx, hb, hml, hown, hts⟩
  have hD := hD0.self (sz := s.heap.size)
  have hA : ∀ q : Nat, s.heap.size ≤ q → va_A [(ra, .inl (dA 0, rn, .inl rf))] s.heap.size q := fun q h => Or.inr h
  have hS : va_S (va_A [(ra, .inl (dA 0, rn, .inl rf))] s.heap.size) s.heap s.heap [] := va_S.rf
  have hl := lv_entry ([.ref ra, .int x1]) (n := 2) (Nat.le_of_ble_eq_true rfl)
  rw [lg_entry_eq]
  generalize (lg_sl ([.ref ra, .int x1]) ++ List.replicate (2 - (lg_sl ([.ref ra, .int x1])).length) Slot.unset).toArray = ls at hl ⊢
  replace hl : lv_has ls 2 [(0, .ref ra), (1, .int x1)] := hl
  have hret : hrX0_sizeOf_B_cc p l e s m ([.ref ra, .int x1] : List Value).toArray below meth c dC dI dA (va_A [(ra, .inl (dA 0, rn, .inl rf))] s.heap.size) ra (TQ below (va_Qt (fun (u : Unit) => Q) (aBt dC dI [(ra, .inl (dA 0, rn, .inl rf))] s.heap.size (fun (u : Unit) (xa : Nat) => [(ra, .inl (dA 0, rn, .inl rf))]) (fun _ => "java/lang/ClassCastException")) (va_A [(ra, .inl (dA 0, rn, .inl rf))] s.heap.size)) ([.ref ra, .int x1] : List Value).toArray s 3 500 (va_A [(ra, .inl (dA 0, rn, .inl rf))] s.heap.size)) Q rn rf := fun xa H locs kc ks pc ls rest h1 h2 hq hP hD hS hX => WT.widen (k := 3) (n := 500) h1 h2 (WT.out (fun t ht hW => ⟨⟨(), xa, rfl, hq, ⟨by subst ht; exact ⟨hP, hD⟩, hX.at ht hW⟩⟩, hS.F ht⟩) hS.2.2 (fun y hy => by rw [hempty] at hy; exact absurd hy (by simp)) hlocks)
  generalize hAe : va_A [(ra, .inl (dA 0, rn, .inl rf))] s.heap.size = A at hD hA hS hE hret ⊢
  clear hAe
  unfold wX0_sizeOf_B_cc at hf
  refine lv_iload_n hx hb dX0_sizeOf_0 rfl (lv_at hl 1 rfl) ?_
  by_cases c_1_0 : x1 = 0
  · replace hf := hf.1 c_1_0
    refine lv_tableIn (off := 27) (tgt := 28) hx hb dX0_sizeOf_1 (by rw [c_1_0]; decide) (by rw [c_1_0]; decide) (by rw [c_1_0]; decide) (by decide) ?_
    refine lv_aload_n hx hb dX0_sizeOf_28 rfl (lv_at hl 0 rfl) ?_
    refine va_castA hx hb hown (hts _ q942) hP 0 rfl (va_nmP (ty := .byte) (hK.2 0 _ rfl).2 rfl (by decide)) dX0_sizeOf_29 ?_
    refine va_alen (v := (Int32.ofNat rn)) hx hb hK hP 0 0 rfl rfl rfl dX0_sizeOf_32 ?_
    exact hf.elim
  replace hf := hf.2 c_1_0
  by_cases c_1_1 : x1 = 1
  · replace hf := hf.1 c_1_1
    refine lv_tableIn (off := 33) (tgt := 34) hx hb dX0_sizeOf_1 (by rw [c_1_1]; decide) (by rw [c_1_1]; decide) (by rw [c_1_1]; decide) (by decide) ?_
    refine lv_aload_n hx hb dX0_sizeOf_34 rfl (lv_at hl 0 rfl) ?_
    have hbud : 0 + 3 ≤ 3 ∧ 0 + 500 ≤ 500 := ⟨Nat.le_of_ble_eq_true rfl, Nat.le_of_ble_eq_true rfl⟩
    refine x_cast hx hb hown (hts _ q943) (hE.2.2.1.2.2 ("[B", "[S") (by decide)) (by decide) (by decide) hK hP 0 0 3 rfl rfl rfl (va_nmP (ty := .byte) (hK.2 0 _ rfl).2 rfl (by decide)) (va_nmP (ty := .short) (hK.2 3 _ rfl).2 rfl (by decide)) dX0_sizeOf_35 (fun tx_ htx_ => ?_)
    refine vm_msg (cls := "java/lang/ClassCastException") (names := ["java/lang/RuntimeException", "java/lang/Exception"]) (text := tx_) (nb := 500) hx (by decide) (by decide) (by decide) (by decide) (atoms_have msg_CC hts hE) hE hfl hP hS hA htx_.1 htx_.2 (by decide) rfl (hl.1.trans hml.symm) (Nat.le_of_ble_eq_true rfl) (Nat.le_of_ble_eq_true rfl) (by decide) hbud (fun x_35 H locs hP hS hX => ?_)
    exact hret x_35 _ _ _ _ _ _ _ (Nat.le_of_ble_eq_true rfl) (Nat.le_of_ble_eq_true rfl) hf (hP.sub [0] rfl) (hD.sub [0] (by decide) rfl) hS hX
  replace hf := hf.2 c_1_1
  by_cases c_1_2 : x1 = 2
  · replace hf := hf.1 c_1_2
    refine lv_tableIn (off := 39) (tgt := 40) hx hb dX0_sizeOf_1 (by rw [c_1_2]; decide) (by rw [c_1_2]; decide) (by rw [c_1_2]; decide) (by decide) ?_
    refine lv_aload_n hx hb dX0_sizeOf_40 rfl (lv_at hl 0 rfl) ?_
    have hbud : 0 + 3 ≤ 3 ∧ 0 + 500 ≤ 500 := ⟨Nat.le_of_ble_eq_true rfl, Nat.le_of_ble_eq_true rfl⟩
    refine x_cast hx hb hown (hts _ q944) (hE.2.2.1.2.2 ("[B", "[I") (by decide)) (by decide) (by decide) hK hP 0 0 1 rfl rfl rfl (va_nmP (ty := .byte) (hK.2 0 _ rfl).2 rfl (by decide)) (va_nmP (ty := .int) (hK.2 1 _ rfl).2 rfl (by decide)) dX0_sizeOf_41 (fun tx_ htx_ => ?_)
    refine vm_msg (cls := "java/lang/ClassCastException") (names := ["java/lang/RuntimeException", "java/lang/Exception"]) (text := tx_) (nb := 500) hx (by decide) (by decide) (by decide) (by decide) (atoms_have msg_CC hts hE) hE hfl hP hS hA htx_.1 htx_.2 (by decide) rfl (hl.1.trans hml.symm) (Nat.le_of_ble_eq_true rfl) (Nat.le_of_ble_eq_true rfl) (by decide) hbud (fun x_41 H locs hP hS hX => ?_)
    exact hret x_41 _ _ _ _ _ _ _ (Nat.le_of_ble_eq_true rfl) (Nat.le_of_ble_eq_true rfl) hf (hP.sub [0] rfl) (hD.sub [0] (by decide) rfl) hS hX
  replace hf := hf.2 c_1_2
  have n_0 := sw_no (j := 0) c_1_0 (by decide)
  have n_1 := sw_no (j := 1) c_1_1 (by decide)
  have n_2 := sw_no (j := 2) c_1_2 (by decide)
  refine lv_tableOut (tgt := 46) hx hb dX0_sizeOf_1 (by omega) (by decide) ?_
  refine lv_aload_n hx hb dX0_sizeOf_46 rfl (lv_at hl 0 rfl) ?_
  have hbud : 0 + 3 ≤ 3 ∧ 0 + 500 ≤ 500 := ⟨Nat.le_of_ble_eq_true rfl, Nat.le_of_ble_eq_true rfl⟩
  refine x_cast hx hb hown (hts _ q948) (hE.2.2.1.2.2 ("[B", "[J") (by decide)) (by decide) (by decide) hK hP 0 0 2 rfl rfl rfl (va_nmP (ty := .byte) (hK.2 0 _ rfl).2 rfl (by decide)) (va_nmP (ty := .long) (hK.2 2 _ rfl).2 rfl (by decide)) dX0_sizeOf_47 (fun tx_ htx_ => ?_)
  refine vm_msg (cls := "java/lang/ClassCastException") (names := ["java/lang/RuntimeException", "java/lang/Exception"]) (text := tx_) (nb := 500) hx (by decide) (by decide) (by decide) (by decide) (atoms_have msg_CC hts hE) hE hfl hP hS hA htx_.1 htx_.2 (by decide) rfl (hl.1.trans hml.symm) (Nat.le_of_ble_eq_true rfl) (Nat.le_of_ble_eq_true rfl) (by decide) hbud (fun x_47 H locs hP hS hX => ?_)
  exact hret x_47 _ _ _ _ _ _ _ (Nat.le_of_ble_eq_true rfl) (Nat.le_of_ble_eq_true rfl) hf (hP.sub [0] rfl) (hD.sub [0] (by decide) rfl) hS hX
/-! HoleCounty.itemOf(Ljava/lang/Object;II)J -/
theorem pdX0_itemOf : DscOk yX0_itemOf 3 := by decide +kernel
abbrev rmX0_itemOf_B : Room := { frames := 0, cells := 0, slots := 0, locals := 0 }
abbrev RX0_itemOf_B_ : Room := (headSpec (ws_ yX0_itemOf cX0_itemOf 3 (some .long)) rmX0_itemOf_B).room
section
variable {p : Program} {l : Launch} {e : Env} {s : State} {m : MethodId} {args : Array Value} {below : List Frame} {meth : Method} {c : Code} {Qw : State → Prop} {dC : Nat → ClassId} {dI : Nat → Nat → Nat} {dA : Nat → ClassId} {eA mi : Nat} {A : Nat → Prop} {ra : Nat}
abbrev hrX0_itemOf_B (p : Program) (l : Launch) (e : Env) (s : State) (m : MethodId) (args : Array Value) (below : List Frame) (meth : Method) (c : Code) (dC : Nat → ClassId) (dI : Nat → Nat → Nat) (dA : Nat → ClassId) (A : Nat → Prop) (ra : Nat) (Qw : State → Prop) (Q : Int64 → Prop) (rn : Nat) (rf : (Nat → Int32)) : Prop := ∀ (r : Int64) (H : Heap) (locs : List Loc) (kc ks : Nat) (pc : Nat) (ls : Array Slot), kc ≤ 0 → ks ≤ 0 → Q r → va_P (dC, dI) vwCl [(ra, .inl (dA 0, rn, .inl rf))] H → va_D A [(ra, .inl (dA 0, rn, .inl rf))] → va_S A s.heap H locs → decode cX0_itemOf pc = .ok (.lreturn, 1) → W p l e RX0_itemOf_B_ s m args below meth c H locs kc ks Qw (F0 m pc ls [.long r])
def wX0_itemOf_B (Q : Int64 → Prop) (rn : Nat) (rf : (Nat → Int32)) (x1 : Int32) (x2 : Int32) : Prop := ((x1 = 0 → (vp_in x2 rn ∧ (Q (((rf (x2 : Int32).toNatClampNeg) : Int32).toInt64)))) ∧ (¬ x1 = 0 → ((x1 = 1 → False) ∧ (¬ x1 = 1 → ((x1 = 2 → False) ∧ (¬ x1 = 2 → False))))))
end
set_option maxHeartbeats 4000000 in
set_option maxRecDepth 100000 in
theorem metX0_itemOf_B (l : Launch) (hfl : l.stackTraces = false) {Q : Int64 → Prop} {rn : Nat} {rf : (Nat → Int32)} {x1 : Int32} {x2 : Int32} {dC : Nat → ClassId} {dI : Nat → Nat → Nat} {dA : Nat → ClassId} {eA mi sz : Nat} {ra : Nat} (hf : wX0_itemOf_B Q rn rf x1 x2) : Met l yX0_itemOf (ws_ yX0_itemOf cX0_itemOf 3 (some .long)) rmX0_itemOf_B (aPc dC dI dA eA mi sz [.ref ra, .int x1, .int x2] [(ra, .inl (dA 0, rn, .inl rf))]) (va_Ql (fun (r : Int64) (u : Unit) => Q r) (aB dC dI [(ra, .inl (dA 0, rn, .inl rf))] sz (fun u => [(ra, .inl (dA 0, rn, .inl rf))])) (va_A [(ra, .inl (dA 0, rn, .inl rf))] sz)) 0 0 (va_A [(ra, .inl (dA 0, rn, .inl rf))] sz) := by
  refine Met.ofW (cc := cX0_itemOf) (maxL := 3) (ret := (some .long)) (by decide) rfl ?_
  intro p e s m args below meth c s₁ B hml hv
  obtain ⟨rfl, hsz, hP, hK, hD0, hE⟩ := hv
  subst hsz
  have hx := B.exec
  have hb := B.bytes
  have hr := B.returns
  have hts := atoms_spec (ws := (ws_ yX0_itemOf cX0_itemOf 3 (some .long))) B.pre
  have hts : ∀ w ∈ lw_all, w.before _ s = true := fun w h => hts w (List.mem_cons_of_mem _ h)
  have hown : s.vm.findClass RX0 = some m.cls := findClass_of_methodNamed B.named
  have hlocks := B.notSynchronized
  have S : CallFix p m c cX0_itemOf 3 s _ lw_all RX0 := ⟨hx, hb, hml, hown, hts⟩
  have hD := hD0.self (sz := s.heap.size)
  have hA : ∀ q : Nat, s.heap.size ≤ q → va_A [(ra, .inl (dA 0, rn, .inl rf))] s.heap.size q := fun q h => Or.inr h
  have hS : va_S (va_A [(ra, .inl (dA 0, rn, .inl rf))] s.heap.size) s.heap s.heap [] := va_S.rf
  have hl := lv_entry ([.ref ra, .int x1, .int x2]) (n := 3) (Nat.le_of_ble_eq_true rfl)
  rw [lg_entry_eq]
  generalize (lg_sl ([.ref ra, .int x1, .int x2]) ++ List.replicate (3 - (lg_sl ([.ref ra, .int x1, .int x2])).length) Slot.unset).toArray = ls at hl ⊢
  replace hl : lv_has ls 3 [(0, .ref ra), (1, .int x1), (2, .int x2)] := hl
  have hret : hrX0_itemOf_B p l e s m ([.ref ra, .int x1, .int x2] : List Value).toArray below meth c dC dI dA (va_A [(ra, .inl (dA 0, rn, .inl rf))] s.heap.size) ra (MQ below (va_Ql (fun (r : Int64) (u : Unit) => Q r) (aB dC dI [(ra, .inl (dA 0, rn, .inl rf))] s.heap.size (fun u => [(ra, .inl (dA 0, rn, .inl rf))])) (va_A [(ra, .inl (dA 0, rn, .inl rf))] s.heap.size)) ([.ref ra, .int x1, .int x2] : List Value).toArray s 0 0 (va_A [(ra, .inl (dA 0, rn, .inl rf))] s.heap.size)) Q rn rf := fun r H locs kc ks pc ls h1 h2 hq hP hD hS hd => W.widen (k := 0) (n := 0) h1 h2 (W.lret hx hb hr (fun t ht hW => ⟨⟨r, (), rfl, hq, by subst ht; exact ⟨hP, hD⟩⟩, hS.F ht⟩) hS.2.2 hd)
  generalize hAe : va_A [(ra, .inl (dA 0, rn, .inl rf))] s.heap.size = A at hD hA hS hE hret ⊢
  clear hAe
  unfold wX0_itemOf_B at hf
  refine lv_iload_n hx hb dX0_itemOf_0 rfl (lv_at hl 1 rfl) ?_
  by_cases c_1_0 : x1 = 0
  · replace hf := hf.1 c_1_0
    refine lv_tableIn (off := 27) (tgt := 28) hx hb dX0_itemOf_1 (by rw [c_1_0]; decide) (by rw [c_1_0]; decide) (by rw [c_1_0]; decide) (by decide) ?_
    refine lv_aload_n hx hb dX0_itemOf_28 rfl (lv_at hl 0 rfl) ?_
    refine va_castA hx hb hown (hts _ q942) hP 0 rfl (va_nmP (ty := .byte) (hK.2 0 _ rfl).2 rfl (by decide)) dX0_itemOf_29 ?_
    refine lv_iload_n hx hb dX0_itemOf_32 rfl (lv_at hl 2 rfl) ?_
    obtain ⟨hin, hf⟩ := hf
    refine va_bald hx hb hK hP 0 0 rfl rfl hin dX0_itemOf_33 ?_
    refine lv_i2l (v := ((rf (x2 : Int32).toNatClampNeg) : Int32).toInt64) hx hb dX0_itemOf_34 rfl ?_
    exact hret _ _ _ _ _ _ _ (Nat.zero_le _) (Nat.zero_le _) hf (hP.sub [0] rfl) (hD.sub [0] (by decide) rfl) hS dX0_itemOf_35
  replace hf := hf.2 c_1_0
  by_cases c_1_1 : x1 = 1
  · replace hf := hf.1 c_1_1
    refine lv_tableIn (off := 35) (tgt := 36) hx hb dX0_itemOf_1 (by rw [c_1_1]; decide) (by rw [c_1_1]; decide) (by rw [c_1_1]; decide) (by decide) ?_
    refine lv_aload_n hx hb dX0_itemOf_36 rfl (lv_at hl 0 rfl) ?_
    exact hf.elim
  replace hf := hf.2 c_1_1
  by_cases c_1_2 : x1 = 2
  · replace hf := hf.1 c_1_2
    refine lv_tableIn (off := 43) (tgt := 44) hx hb dX0_itemOf_1 (by rw [c_1_2]; decide) (by rw [c_1_2]; decide) (by rw [c_1_2]; decide) (by decide) ?_
    refine lv_aload_n hx hb dX0_itemOf_44 rfl (lv_at hl 0 rfl) ?_
    exact hf.elim
  replace hf := hf.2 c_1_2
  have n_0 := sw_no (j := 0) c_1_0 (by decide)
  have n_1 := sw_no (j := 1) c_1_1 (by decide)
  have n_2 := sw_no (j := 2) c_1_2 (by decide)
  refine lv_tableOut (tgt := 52) hx hb dX0_itemOf_1 (by omega) (by decide) ?_
  refine lv_aload_n hx hb dX0_itemOf_52 rfl (lv_at hl 0 rfl) ?_
  exact hf.elim
/-! HoleCounty.laneOf(Ljava/lang/Object;)I -/
theorem pdX0_laneOf : DscOk yX0_laneOf 1 := by decide +kernel
abbrev rmX0_laneOf_B : Room := { frames := 0, cells := 0, slots := 0, locals := 0 }
abbrev RX0_laneOf_B_ : Room := (headSpec (ws_ yX0_laneOf cX0_laneOf 1 (some .int)) rmX0_laneOf_B).room
section
variable {p : Program} {l : Launch} {e : Env} {s : State} {m : MethodId} {args : Array Value} {below : List Frame} {meth : Method} {c : Code} {Qw : State → Prop} {dC : Nat → ClassId} {dI : Nat → Nat → Nat} {dA : Nat → ClassId} {eA mi : Nat} {A : Nat → Prop} {ra : Nat}
abbrev hrX0_laneOf_B (p : Program) (l : Launch) (e : Env) (s : State) (m : MethodId) (args : Array Value) (below : List Frame) (meth : Method) (c : Code) (dC : Nat → ClassId) (dI : Nat → Nat → Nat) (dA : Nat → ClassId) (A : Nat → Prop) (ra : Nat) (Qw : State → Prop) (Q : Int32 → Prop) (rn : Nat) (rf : (Nat → Int32)) : Prop := ∀ (r : Int32) (H : Heap) (locs : List Loc) (kc ks : Nat) (pc : Nat) (ls : Array Slot), kc ≤ 0 → ks ≤ 0 → Q r → va_P (dC, dI) vwCl [(ra, .inl (dA 0, rn, .inl rf))] H → va_D A [(ra, .inl (dA 0, rn, .inl rf))] → va_S A s.heap H locs → decode cX0_laneOf pc = .ok (.ireturn, 1) → W p l e RX0_laneOf_B_ s m args below meth c H locs kc ks Qw (F0 m pc ls [.int r])
def wX0_laneOf_B (Q : Int32 → Prop) : Prop := (((1 : Int32) = 0 → (((0 : Int32) = 0 → (((0 : Int32) = 0 → (Q 3)) ∧ (¬ (0 : Int32) = 0 → (Q 2)))) ∧ (¬ (0 : Int32) = 0 → (Q 1)))) ∧ (¬ (1 : Int32) = 0 → (Q 0)))
end
set_option maxHeartbeats 4000000 in
set_option maxRecDepth 100000 in
theorem metX0_laneOf_B (l : Launch) (hfl : l.stackTraces = false) {Q : Int32 → Prop} {rn : Nat} {rf : (Nat → Int32)} {dC : Nat → ClassId} {dI : Nat → Nat → Nat} {dA : Nat → ClassId} {eA mi sz : Nat} {ra : Nat} (hf : wX0_laneOf_B Q) : Met l yX0_laneOf (ws_ yX0_laneOf cX0_laneOf 1 (some .int)) rmX0_laneOf_B (aPc dC dI dA eA mi sz [.ref ra] [(ra, .inl (dA 0, rn, .inl rf))]) (va_Qi (fun (r : Int32) (u : Unit) => Q r) (aB dC dI [(ra, .inl (dA 0, rn, .inl rf))] sz (fun u => [(ra, .inl (dA 0, rn, .inl rf))])) (va_A [(ra, .inl (dA 0, rn, .inl rf))] sz)) 0 0 (va_A [(ra, .inl (dA 0, rn, .inl rf))] sz) := by
  refine Met.ofW (cc := cX0_laneOf) (maxL := 1) (ret := (some .int)) (by decide) rfl ?_
  intro p e s m args below meth c s₁ B hml hv
  obtain ⟨rfl, hsz, hP, hK, hD0, hE⟩ := hv
  subst hsz
  have hx := B.exec
  have hb := B.bytes
  have hr := B.returns
  have hts := atoms_spec (ws := (ws_ yX0_laneOf cX0_laneOf 1 (some .int))) B.pre
  have hts : ∀ w ∈ lw_all, w.before _ s = true := fun w h => hts w (List.mem_cons_of_mem _ h)
  have hown : s.vm.findClass RX0 = some m.cls := findClass_of_methodNamed B.named
  have hlocks := B.notSynchronized
  have S : CallFix p m c cX0_laneOf 1 s _ lw_all RX0 := ⟨hx, hb, hml, hown, hts⟩
  have hD := hD0.self (sz := s.heap.size)
  have hA : ∀ q : Nat, s.heap.size ≤ q → va_A [(ra, .inl (dA 0, rn, .inl rf))] s.heap.size q := fun q h => Or.inr h
  have hS : va_S (va_A [(ra, .inl (dA 0, rn, .inl rf))] s.heap.size) s.heap s.heap [] := va_S.rf
  have hl := lv_entry ([.ref ra]) (n := 1) (Nat.le_of_ble_eq_true rfl)
  rw [lg_entry_eq]
  generalize (lg_sl ([.ref ra]) ++ List.replicate (1 - (lg_sl ([.ref ra])).length) Slot.unset).toArray = ls at hl ⊢
  replace hl : lv_has ls 1 [(0, .ref ra)] := hl
  have hret : hrX0_laneOf_B p l e s m ([.ref ra] : List Value).toArray below meth c dC dI dA (va_A [(ra, .inl (dA 0, rn, .inl rf))] s.heap.size) ra (MQ below (va_Qi (fun (r : Int32) (u : Unit) => Q r) (aB dC dI [(ra, .inl (dA 0, rn, .inl rf))] s.heap.size (fun u => [(ra, .inl (dA 0, rn, .inl rf))])) (va_A [(ra, .inl (dA 0, rn, .inl rf))] s.heap.size)) ([.ref ra] : List Value).toArray s 0 0 (va_A [(ra, .inl (dA 0, rn, .inl rf))] s.heap.size)) Q rn rf := fun r H locs kc ks pc ls h1 h2 hq hP hD hS hd => W.widen (k := 0) (n := 0) h1 h2 (W.iret hx hb hr (fun t ht hW => ⟨⟨r, (), rfl, hq, by subst ht; exact ⟨hP, hD⟩⟩, hS.F ht⟩) hS.2.2 hd)
  generalize hAe : va_A [(ra, .inl (dA 0, rn, .inl rf))] s.heap.size = A at hD hA hS hE hret ⊢
  clear hAe
  unfold wX0_laneOf_B at hf
  refine lv_aload_n hx hb dX0_laneOf_0 rfl (lv_at hl 0 rfl) ?_
  refine va_instE hx hb hown (hts _ q942) (arr_recv hP 0 rfl (va_nmP (ty := .byte) (hK.2 0 _ rfl).2 rfl (by decide))) dX0_laneOf_1 ?_
  refine lv_if_eq (tgt := 11) hx hb dX0_laneOf_4 (by decide) (fun c_4 => ?_) (fun c_4 => ?_)
  · replace hf := hf.1 c_4
    refine lv_aload_n hx hb dX0_laneOf_11 rfl (lv_at hl 0 rfl) ?_
    refine va_instNo (C := "[B") hx hb hown (hts _ q943) (hE.2.2.1.2.2 ("[B", "[S") (by decide)) (arr_recv hP 0 rfl (va_nmP (ty := .byte) (hK.2 0 _ rfl).2 rfl (by decide))) dX0_laneOf_12 ?_
    refine lv_if_eq (tgt := 22) hx hb dX0_laneOf_15 (by decide) (fun c_15 => ?_) (fun c_15 => ?_)
    · replace hf := hf.1 c_15
      refine lv_aload_n hx hb dX0_laneOf_22 rfl (lv_at hl 0 rfl) ?_
      refine va_instNo (C := "[B") hx hb hown (hts _ q944) (hE.2.2.1.2.2 ("[B", "[I") (by decide)) (arr_recv hP 0 rfl (va_nmP (ty := .byte) (hK.2 0 _ rfl).2 rfl (by decide))) dX0_laneOf_23 ?_
      refine lv_if_eq (tgt := 33) hx hb dX0_laneOf_26 (by decide) (fun c_26 => ?_) (fun c_26 => ?_)
      · replace hf := hf.1 c_26
        refine lv_iconst (v := 3) hx hb dX0_laneOf_33 (by decide) ?_
        exact hret _ _ _ _ _ _ _ (Nat.zero_le _) (Nat.zero_le _) hf (hP.sub [0] rfl) (hD.sub [0] (by decide) rfl) hS dX0_laneOf_34
      · replace hf := hf.2 c_26
        refine lv_iconst (v := 2) hx hb dX0_laneOf_29 (by decide) ?_
        refine lv_goto (tgt := 34) hx hb dX0_laneOf_30 (by decide) ?_
        exact hret _ _ _ _ _ _ _ (Nat.zero_le _) (Nat.zero_le _) hf (hP.sub [0] rfl) (hD.sub [0] (by decide) rfl) hS dX0_laneOf_34
    · replace hf := hf.2 c_15
      refine lv_iconst (v := 1) hx hb dX0_laneOf_18 (by decide) ?_
      refine lv_goto (tgt := 34) hx hb dX0_laneOf_19 (by decide) ?_
      exact hret _ _ _ _ _ _ _ (Nat.zero_le _) (Nat.zero_le _) hf (hP.sub [0] rfl) (hD.sub [0] (by decide) rfl) hS dX0_laneOf_34
  · replace hf := hf.2 c_4
    refine lv_iconst (v := 0) hx hb dX0_laneOf_7 (by decide) ?_
    refine lv_goto (tgt := 34) hx hb dX0_laneOf_8 (by decide) ?_
    exact hret _ _ _ _ _ _ _ (Nat.zero_le _) (Nat.zero_le _) hf (hP.sub [0] rfl) (hD.sub [0] (by decide) rfl) hS dX0_laneOf_34
/-! HoleCounty.puts(Ljava/lang/Object;IIJ)V -/
abbrev rmX0_puts_B : Room := { frames := 0, cells := 0, slots := 0, locals := 0 }
abbrev RX0_puts_B_ : Room := (headSpec (ws_ yX0_puts cX0_puts 5 none) rmX0_puts_B).room
section
variable {p : Program} {l : Launch} {e : Env} {s : State} {m : MethodId} {args : Array Value} {below : List Frame} {meth : Method} {c : Code} {Qw : State → Prop} {dC : Nat → ClassId} {dI : Nat → Nat → Nat} {dA : Nat → ClassId} {eA mi : Nat} {A : Nat → Prop} {ra : Nat}
abbrev hrX0_puts_B (p : Program) (l : Launch) (e : Env) (s : State) (m : MethodId) (args : Array Value) (below : List Frame) (meth : Method) (c : Code) (dC : Nat → ClassId) (dI : Nat → Nat → Nat) (dA : Nat → ClassId) (A : Nat → Prop) (ra : Nat) (Qw : State → Prop) (Q : (Nat → Int32) → Prop) (rn : Nat) : Prop := ∀ (rf : (Nat → Int32)) (H : Heap) (locs : List Loc) (kc ks : Nat) (pc : Nat) (ls : Array Slot), kc ≤ 0 → ks ≤ 0 → Q rf → va_P (dC, dI) vwCl [(ra, .inl (dA 0, rn, .inl rf))] H → va_D A [(ra, .inl (dA 0, rn, .inl rf))] → va_S A s.heap H locs → decode cX0_puts pc = .ok (.return_, 1) → W p l e RX0_puts_B_ s m args below meth c H locs kc ks Qw (F0 m pc ls [])
def wX0_puts_B (Q : (Nat → Int32) → Prop) (rn : Nat) (rf : (Nat → Int32)) (x1 : Int32) (x2 : Int32) (x3 : Int64) : Prop := ((x1 = 0 → (vp_in x2 rn ∧ (∀ rf_12 : Nat → Int32, rf_12 = upd rf (x2 : Int32).toNatClampNeg (vp_nar .byte (((x3 : Int64).toInt32 : Int32).toInt8.toInt32)) → (Q rf_12)))) ∧ (¬ x1 = 0 → ((x1 = 1 → False) ∧ (¬ x1 = 1 → ((x1 = 2 → False) ∧ (¬ x1 = 2 → False))))))
end
set_option maxHeartbeats 4000000 in
set_option maxRecDepth 100000 in
theorem metX0_puts_B (l : Launch) (hfl : l.stackTraces = false) {Q : (Nat → Int32) → Prop} {rn : Nat} {rf : (Nat → Int32)} {x1 : Int32} {x2 : Int32} {x3 : Int64} {dC : Nat → ClassId} {dI : Nat → Nat → Nat} {dA : Nat → ClassId} {eA mi sz : Nat} {ra : Nat} (hf : wX0_puts_B Q rn rf x1 x2 x3) : Met l yX0_puts (ws_ yX0_puts cX0_puts 5 none) rmX0_puts_B (aPc dC dI dA eA mi sz [.ref ra, .int x1, .int x2, .long x3] [(ra, .inl (dA 0, rn, .inl rf))]) (va_Qv (fun (u : (Nat → Int32)) => Q u) (aB dC dI [(ra, .inl (dA 0, rn, .inl rf))] sz (fun u => [(ra, .inl (dA 0, rn, .inl u))])) (va_A [(ra, .inl (dA 0, rn, .inl rf))] sz)) 0 0 (va_A [(ra, .inl (dA 0, rn, .inl rf))] sz) := by
  refine Met.ofW (cc := cX0_puts) (maxL := 5) (ret := none) (by decide) rfl ?_
  intro p e s m args below meth c s₁ B hml hv
  obtain ⟨rfl, hsz, hP, hK, hD0, hE⟩ := hv
  subst hsz
  have hx := B.exec
  have hb := B.bytes
  have hr := B.returns
  have hts := atoms_spec (ws := (ws_ yX0_puts cX0_puts 5 none)) B.pre
  have hts : ∀ w ∈ lw_all, w.before _ s = true := fun w h => hts w (List.mem_cons_of_mem _ h)
  have hown : s.vm.findClass RX0 = some m.cls := findClass_of_methodNamed B.named
  have hlocks := B.notSynchronized
  have S : CallFix p m c cX0_puts 5 s _ lw_all RX0 := ⟨hx, hb, hml, hown, hts⟩
  have hD := hD0.self (sz := s.heap.size)
  have hA : ∀ q : Nat, s.heap.size ≤ q → va_A [(ra, .inl (dA 0, rn, .inl rf))] s.heap.size q := fun q h => Or.inr h
  have hS : va_S (va_A [(ra, .inl (dA 0, rn, .inl rf))] s.heap.size) s.heap s.heap [] := va_S.rf
  have hl := lv_entry ([.ref ra, .int x1, .int x2, .long x3]) (n := 5) (Nat.le_of_ble_eq_true rfl)
  rw [lg_entry_eq]
  generalize (lg_sl ([.ref ra, .int x1, .int x2, .long x3]) ++ List.replicate (5 - (lg_sl ([.ref ra, .int x1, .int x2, .long x3])).length) Slot.unset).toArray = ls at hl ⊢
  replace hl : lv_has ls 5 [(0, .ref ra), (1, .int x1), (2, .int x2), (3, .long x3)] := hl
  have hret : hrX0_puts_B p l e s m ([.ref ra, .int x1, .int x2, .long x3] : List Value).toArray below meth c dC dI dA (va_A [(ra, .inl (dA 0, rn, .inl rf))] s.heap.size) ra (MQ below (va_Qv (fun (u : (Nat → Int32)) => Q u) (aB dC dI [(ra, .inl (dA 0, rn, .inl rf))] s.heap.size (fun u => [(ra, .inl (dA 0, rn, .inl u))])) (va_A [(ra, .inl (dA 0, rn, .inl rf))] s.heap.size)) ([.ref ra, .int x1, .int x2, .long x3] : List Value).toArray s 0 0 (va_A [(ra, .inl (dA 0, rn, .inl rf))] s.heap.size)) Q rn := fun rf H locs kc ks pc ls h1 h2 hq hP hD hS hd => W.widen (k := 0) (n := 0) h1 h2 (W.vret hx hb hr (fun t ht hW => ⟨⟨rf, rfl, hq, by subst ht; exact ⟨hP, hD⟩⟩, hS.F ht⟩) hS.2.2 hd)
  generalize hAe : va_A [(ra, .inl (dA 0, rn, .inl rf))] s.heap.size = A at hD hA hS hE hret ⊢
  clear hAe
  unfold wX0_puts_B at hf
  refine lv_iload_n hx hb dX0_puts_0 rfl (lv_at hl 1 rfl) ?_
  refine lv_if_ne (tgt := 16) hx hb dX0_puts_1 (by decide) (fun c_1 => ?_) (fun c_1 => ?_)
  · replace hf := hf.2 c_1
    refine lv_iload_n hx hb dX0_puts_16 rfl (lv_at hl 1 rfl) ?_
    refine lv_iconst (v := 1) hx hb dX0_puts_17 (by decide) ?_
    refine lv_icmp_ne (tgt := 33) hx hb dX0_puts_18 (by decide) (fun c_18 => ?_) (fun c_18 => ?_)
    · replace hf := hf.2 c_18
      refine lv_iload_n hx hb dX0_puts_33 rfl (lv_at hl 1 rfl) ?_
      refine lv_iconst (v := 2) hx hb dX0_puts_34 (by decide) ?_
      refine lv_icmp_ne (tgt := 49) hx hb dX0_puts_35 (by decide) (fun c_35 => ?_) (fun c_35 => ?_)
      · replace hf := hf.2 c_35
        refine lv_aload_n hx hb dX0_puts_49 rfl (lv_at hl 0 rfl) ?_
        exact hf.elim
      · replace hf := hf.1 c_35
        refine lv_aload_n hx hb dX0_puts_38 rfl (lv_at hl 0 rfl) ?_
        exact hf.elim
    · replace hf := hf.1 c_18
      refine lv_aload_n hx hb dX0_puts_21 rfl (lv_at hl 0 rfl) ?_
      exact hf.elim
  · replace hf := hf.1 c_1
    refine lv_aload_n hx hb dX0_puts_4 rfl (lv_at hl 0 rfl) ?_
    refine va_castA hx hb hown (hts _ q942) hP 0 rfl (va_nmP (ty := .byte) (hK.2 0 _ rfl).2 rfl (by decide)) dX0_puts_5 ?_
    refine lv_iload_n hx hb dX0_puts_8 rfl (lv_at hl 2 rfl) ?_
    refine lv_lload_n hx hb dX0_puts_9 rfl (lv_at hl 3 rfl) ?_
    refine lv_l2i (v := (x3 : Int64).toInt32) hx hb dX0_puts_10 rfl ?_
    refine lv_i2b (v := ((x3 : Int64).toInt32 : Int32).toInt8.toInt32) hx hb dX0_puts_11 rfl ?_
    obtain ⟨hin_, hf⟩ := hf
    obtain ⟨rf_12, erf_12⟩ : ∃ z : Nat → Int32, z = upd rf (x2 : Int32).toNatClampNeg (vp_nar .byte (((x3 : Int64).toInt32 : Int32).toInt8.toInt32)) := ⟨_, rfl⟩
    replace hf := hf rf_12 erf_12
    refine va_bast hx hb hK hP hD hS 0 0 rfl rfl hin_ dX0_puts_12 (fun H locs hP hD hS => ?_)
    rw [← erf_12] at hP hD
    replace hP : va_P (dC, dI) vwCl [(ra, .inl (dA 0, rn, .inl rf_12))] H := hP
    replace hD : va_D A [(ra, .inl (dA 0, rn, .inl rf_12))] := hD
    refine lv_goto (tgt := 56) hx hb dX0_puts_13 (by decide) ?_
    exact hret _ _ _ _ _ _ _ (Nat.zero_le _) (Nat.zero_le _) hf (hP.sub [0] rfl) (hD.sub [0] (by decide) rfl) hS dX0_puts_56
/-! HoleCounty.puts(Ljava/lang/Object;IIJ)V: it throws java/lang/ClassCastException -/
abbrev rmX0_puts_B_cc : Room := { frames := 8, cells := 3, slots := 500, locals := 10260 }
abbrev RX0_puts_B_cc_ : Room := (headSpec (ws_ yX0_puts cX0_puts 5 none) rmX0_puts_B_cc).room
section
variable {p : Program} {l : Launch} {e : Env} {s : State} {m : MethodId} {args : Array Value} {below : List Frame} {meth : Method} {c : Code} {Qw : State → Prop} {dC : Nat → ClassId} {dI : Nat → Nat → Nat} {dA : Nat → ClassId} {eA mi : Nat} {A : Nat → Prop} {ra : Nat}
abbrev hrX0_puts_B_cc (p : Program) (l : Launch) (e : Env) (s : State) (m : MethodId) (args : Array Value) (below : List Frame) (meth : Method) (c : Code) (dC : Nat → ClassId) (dI : Nat → Nat → Nat) (dA : Nat → ClassId) (A : Nat → Prop) (ra : Nat) (Qw : State → Prop) (Q : Prop) (rn : Nat) (rf : (Nat → Int32)) : Prop := ∀ (xa : Nat) (H : Heap) (locs : List Loc) (kc ks : Nat) (pc : Nat) (ls : Array Slot) (rest : List Value), kc ≤ 3 → ks ≤ 500 → Q → va_P (dC, dI) vwCl [(ra, .inl (dA 0, rn, .inl rf))] H → va_D A [(ra, .inl (dA 0, rn, .inl rf))] → va_S A s.heap H locs → exc "java/lang/ClassCastException" xa s H → WT p l e RX0_puts_B_cc_ s m args below meth c H locs kc ks Qw (F0 m pc ls rest) xa
def wX0_puts_B_cc (Q : Prop) (x1 : Int32) (x2 : Int32) (x3 : Int64) : Prop := ((x1 = 0 → False) ∧ (¬ x1 = 0 → ((x1 = 1 → Q) ∧ (¬ x1 = 1 → ((x1 = 2 → Q) ∧ (¬ x1 = 2 → Q))))))
end
set_option maxHeartbeats 4000000 in
set_option maxRecDepth 100000 in
theorem metX0_puts_B_cc (l : Launch) (hfl : l.stackTraces = false) {Q : Prop} {rn : Nat} {rf : (Nat → Int32)} {x1 : Int32} {x2 : Int32} {x3 : Int64} {dC : Nat → ClassId} {dI : Nat → Nat → Nat} {dA : Nat → ClassId} {eA mi sz : Nat} {ra : Nat} (hf : wX0_puts_B_cc Q x1 x2 x3) : MetT l yX0_puts (ws_ yX0_puts cX0_puts 5 none) rmX0_puts_B_cc (aPc dC dI dA eA mi sz [.ref ra, .int x1, .int x2, .long x3] [(ra, .inl (dA 0, rn, .inl rf))]) (va_Qt (fun (u : Unit) => Q) (aBt dC dI [(ra, .inl (dA 0, rn, .inl rf))] sz (fun (u : Unit) (xa : Nat) => [(ra, .inl (dA 0, rn, .inl rf))]) (fun _ => "java/lang/ClassCastException")) (va_A [(ra, .inl (dA 0, rn, .inl rf))] sz)) 3 500 (va_A [(ra, .inl (dA 0, rn, .inl rf))] sz) := by
  refine MetT.ofW (cc := cX0_puts) (maxL := 5) (ret := none) (by decide) rfl ?_
  intro p e s m args below meth c s₁ B hml hempty hv
  obtain ⟨rfl, hsz, hP, hK, hD0, hE⟩ := hv
  subst hsz
  have hx := B.exec
  have hb := B.bytes
  have hr := B.returns
  have hts := atoms_spec (ws := (ws_ yX0_puts cX0_puts 5 none)) B.pre
  have hts : ∀ w ∈ lw_all, w.before _ s = true := fun w h => hts w (List.mem_cons_of_mem _ h)
  have hown : s.vm.findClass RX0 = some m.cls := findClass_of_methodNamed B.named
  have hlocks := B.notSynchronized
  have S : CallFix p m c cX0_puts 5 s _ lw_all RX0 := ⟨hx, hb, hml, hown, hts⟩
  have hD := hD0.self (sz := s.heap.size)
  have hA : ∀ q : Nat, s.heap.size ≤ q → va_A [(ra, .inl (dA 0, rn, .inl rf))] s.heap.size q := fun q h => Or.inr h
  have hS : va_S (va_A [(ra, .inl (dA 0, rn, .inl rf))] s.heap.size) s.heap s.heap [] := va_S.rf
  have hl := lv_entry ([.ref ra, .int x1, .int x2, .long x3]) (n := 5) (Nat.le_of_ble_eq_true rfl)
  rw [lg_entry_eq]
  generalize (lg_sl ([.ref ra, .int x1, .int x2, .long x3]) ++ List.replicate (5 - (lg_sl ([.ref ra, .int x1, .int x2, .long x3])).length) Slot.unset).toArray = ls at hl ⊢
  replace hl : lv_has ls 5 [(0, .ref ra), (1, .int x1), (2, .int x2), (3, .long x3)] := hl
  have hret : hrX0_puts_B_cc p l e s m ([.ref ra, .int x1, .int x2, .long x3] : List Value).toArray below meth c dC dI dA (va_A [(ra, .inl (dA 0, rn, .inl rf))] s.heap.size) ra (TQ below (va_Qt (fun (u : Unit) => Q) (aBt dC dI [(ra, .inl (dA 0, rn, .inl rf))] s.heap.size (fun (u : Unit) (xa : Nat) => [(ra, .inl (dA 0, rn, .inl rf))]) (fun _ => "java/lang/ClassCastException")) (va_A [(ra, .inl (dA 0, rn, .inl rf))] s.heap.size)) ([.ref ra, .int x1, .int x2, .long x3] : List Value).toArray s 3 500 (va_A [(ra, .inl (dA 0, rn, .inl rf))] s.heap.size)) Q rn rf := fun xa H locs kc ks pc ls rest h1 h2 hq hP hD hS hX => WT.widen (k := 3) (n := 500) h1 h2 (WT.out (fun t ht hW => ⟨⟨(), xa, rfl, hq, ⟨by subst ht; exact ⟨hP, hD⟩, hX.at ht hW⟩⟩, hS.F ht⟩) hS.2.2 (fun y hy => by rw [hempty] at hy; exact absurd hy (by simp)) hlocks)
  generalize hAe : va_A [(ra, .inl (dA 0, rn, .inl rf))] s.heap.size = A at hD hA hS hE hret ⊢
  clear hAe
  unfold wX0_puts_B_cc at hf
  refine lv_iload_n hx hb dX0_puts_0 rfl (lv_at hl 1 rfl) ?_
  refine lv_if_ne (tgt := 16) hx hb dX0_puts_1 (by decide) (fun c_1 => ?_) (fun c_1 => ?_)
  · replace hf := hf.2 c_1
    refine lv_iload_n hx hb dX0_puts_16 rfl (lv_at hl 1 rfl) ?_
    refine lv_iconst (v := 1) hx hb dX0_puts_17 (by decide) ?_
    refine lv_icmp_ne (tgt := 33) hx hb dX0_puts_18 (by decide) (fun c_18 => ?_) (fun c_18 => ?_)
    · replace hf := hf.2 c_18
      refine lv_iload_n hx hb dX0_puts_33 rfl (lv_at hl 1 rfl) ?_
      refine lv_iconst (v := 2) hx hb dX0_puts_34 (by decide) ?_
      refine lv_icmp_ne (tgt := 49) hx hb dX0_puts_35 (by decide) (fun c_35 => ?_) (fun c_35 => ?_)
      · replace hf := hf.2 c_35
        refine lv_aload_n hx hb dX0_puts_49 rfl (lv_at hl 0 rfl) ?_
        have hbud : 0 + 3 ≤ 3 ∧ 0 + 500 ≤ 500 := ⟨Nat.le_of_ble_eq_true rfl, Nat.le_of_ble_eq_true rfl⟩
        refine x_cast hx hb hown (hts _ q948) (hE.2.2.1.2.2 ("[B", "[J") (by decide)) (by decide) (by decide) hK hP 0 0 2 rfl rfl rfl (va_nmP (ty := .byte) (hK.2 0 _ rfl).2 rfl (by decide)) (va_nmP (ty := .long) (hK.2 2 _ rfl).2 rfl (by decide)) dX0_puts_50 (fun tx_ htx_ => ?_)
        refine vm_msg (cls := "java/lang/ClassCastException") (names := ["java/lang/RuntimeException", "java/lang/Exception"]) (text := tx_) (nb := 500) hx (by decide) (by decide) (by decide) (by decide) (atoms_have msg_CC hts hE) hE hfl hP hS hA htx_.1 htx_.2 (by decide) rfl (hl.1.trans hml.symm) (Nat.le_of_ble_eq_true rfl) (Nat.le_of_ble_eq_true rfl) (by decide) hbud (fun x_50 H locs hP hS hX => ?_)
        exact hret x_50 _ _ _ _ _ _ _ (Nat.le_of_ble_eq_true rfl) (Nat.le_of_ble_eq_true rfl) hf (hP.sub [0] rfl) (hD.sub [0] (by decide) rfl) hS hX
      · replace hf := hf.1 c_35
        refine lv_aload_n hx hb dX0_puts_38 rfl (lv_at hl 0 rfl) ?_
        have hbud : 0 + 3 ≤ 3 ∧ 0 + 500 ≤ 500 := ⟨Nat.le_of_ble_eq_true rfl, Nat.le_of_ble_eq_true rfl⟩
        refine x_cast hx hb hown (hts _ q944) (hE.2.2.1.2.2 ("[B", "[I") (by decide)) (by decide) (by decide) hK hP 0 0 1 rfl rfl rfl (va_nmP (ty := .byte) (hK.2 0 _ rfl).2 rfl (by decide)) (va_nmP (ty := .int) (hK.2 1 _ rfl).2 rfl (by decide)) dX0_puts_39 (fun tx_ htx_ => ?_)
        refine vm_msg (cls := "java/lang/ClassCastException") (names := ["java/lang/RuntimeException", "java/lang/Exception"]) (text := tx_) (nb := 500) hx (by decide) (by decide) (by decide) (by decide) (atoms_have msg_CC hts hE) hE hfl hP hS hA htx_.1 htx_.2 (by decide) rfl (hl.1.trans hml.symm) (Nat.le_of_ble_eq_true rfl) (Nat.le_of_ble_eq_true rfl) (by decide) hbud (fun x_39 H locs hP hS hX => ?_)
        exact hret x_39 _ _ _ _ _ _ _ (Nat.le_of_ble_eq_true rfl) (Nat.le_of_ble_eq_true rfl) hf (hP.sub [0] rfl) (hD.sub [0] (by decide) rfl) hS hX
    · replace hf := hf.1 c_18
      refine lv_aload_n hx hb dX0_puts_21 rfl (lv_at hl 0 rfl) ?_
      have hbud : 0 + 3 ≤ 3 ∧ 0 + 500 ≤ 500 := ⟨Nat.le_of_ble_eq_true rfl, Nat.le_of_ble_eq_true rfl⟩
      refine x_cast hx hb hown (hts _ q943) (hE.2.2.1.2.2 ("[B", "[S") (by decide)) (by decide) (by decide) hK hP 0 0 3 rfl rfl rfl (va_nmP (ty := .byte) (hK.2 0 _ rfl).2 rfl (by decide)) (va_nmP (ty := .short) (hK.2 3 _ rfl).2 rfl (by decide)) dX0_puts_22 (fun tx_ htx_ => ?_)
      refine vm_msg (cls := "java/lang/ClassCastException") (names := ["java/lang/RuntimeException", "java/lang/Exception"]) (text := tx_) (nb := 500) hx (by decide) (by decide) (by decide) (by decide) (atoms_have msg_CC hts hE) hE hfl hP hS hA htx_.1 htx_.2 (by decide) rfl (hl.1.trans hml.symm) (Nat.le_of_ble_eq_true rfl) (Nat.le_of_ble_eq_true rfl) (by decide) hbud (fun x_22 H locs hP hS hX => ?_)
      exact hret x_22 _ _ _ _ _ _ _ (Nat.le_of_ble_eq_true rfl) (Nat.le_of_ble_eq_true rfl) hf (hP.sub [0] rfl) (hD.sub [0] (by decide) rfl) hS hX
  · replace hf := hf.1 c_1
    refine lv_aload_n hx hb dX0_puts_4 rfl (lv_at hl 0 rfl) ?_
    refine va_castA hx hb hown (hts _ q942) hP 0 rfl (va_nmP (ty := .byte) (hK.2 0 _ rfl).2 rfl (by decide)) dX0_puts_5 ?_
    refine lv_iload_n hx hb dX0_puts_8 rfl (lv_at hl 2 rfl) ?_
    refine lv_lload_n hx hb dX0_puts_9 rfl (lv_at hl 3 rfl) ?_
    refine lv_l2i (v := (x3 : Int64).toInt32) hx hb dX0_puts_10 rfl ?_
    refine lv_i2b (v := ((x3 : Int64).toInt32 : Int32).toInt8.toInt32) hx hb dX0_puts_11 rfl ?_
    exact hf.elim
/-! HoleCounty.puts(Ljava/lang/Object;IIJ)V: it throws java/lang/ArrayIndexOutOfBoundsException -/
abbrev rmX0_puts_B_ix : Room := { frames := 8, cells := 3, slots := 500, locals := 10260 }
abbrev RX0_puts_B_ix_ : Room := (headSpec (ws_ yX0_puts cX0_puts 5 none) rmX0_puts_B_ix).room
section
variable {p : Program} {l : Launch} {e : Env} {s : State} {m : MethodId} {args : Array Value} {below : List Frame} {meth : Method} {c : Code} {Qw : State → Prop} {dC : Nat → ClassId} {dI : Nat → Nat → Nat} {dA : Nat → ClassId} {eA mi : Nat} {A : Nat → Prop} {ra : Nat}
abbrev hrX0_puts_B_ix (p : Program) (l : Launch) (e : Env) (s : State) (m : MethodId) (args : Array Value) (below : List Frame) (meth : Method) (c : Code) (dC : Nat → ClassId) (dI : Nat → Nat → Nat) (dA : Nat → ClassId) (A : Nat → Prop) (ra : Nat) (Qw : State → Prop) (Q : Prop) (rn : Nat) (rf : (Nat → Int32)) : Prop := ∀ (xa : Nat) (H : Heap) (locs : List Loc) (kc ks : Nat) (pc : Nat) (ls : Array Slot) (rest : List Value), kc ≤ 3 → ks ≤ 500 → Q → va_P (dC, dI) vwCl [(ra, .inl (dA 0, rn, .inl rf))] H → va_D A [(ra, .inl (dA 0, rn, .inl rf))] → va_S A s.heap H locs → exc "java/lang/ArrayIndexOutOfBoundsException" xa s H → WT p l e RX0_puts_B_ix_ s m args below meth c H locs kc ks Qw (F0 m pc ls rest) xa
def wX0_puts_B_ix (Q : Prop) (rn : Nat) (x1 : Int32) (x2 : Int32) (x3 : Int64) : Prop := ((x1 = 0 → ((¬ vp_in x2 rn ∧ rn ≤ 36) ∧ Q)) ∧ (¬ x1 = 0 → ((x1 = 1 → False) ∧ (¬ x1 = 1 → ((x1 = 2 → False) ∧ (¬ x1 = 2 → False))))))
end
set_option maxHeartbeats 4000000 in
set_option maxRecDepth 100000 in
theorem metX0_puts_B_ix (l : Launch) (hfl : l.stackTraces = false) {Q : Prop} {rn : Nat} {rf : (Nat → Int32)} {x1 : Int32} {x2 : Int32} {x3 : Int64} {dC : Nat → ClassId} {dI : Nat → Nat → Nat} {dA : Nat → ClassId} {eA mi sz : Nat} {ra : Nat} (hf : wX0_puts_B_ix Q rn x1 x2 x3) : MetT l yX0_puts (ws_ yX0_puts cX0_puts 5 none) rmX0_puts_B_ix (aPc dC dI dA eA mi sz [.ref ra, .int x1, .int x2, .long x3] [(ra, .inl (dA 0, rn, .inl rf))]) (va_Qt (fun (u : Unit) => Q) (aBt dC dI [(ra, .inl (dA 0, rn, .inl rf))] sz (fun (u : Unit) (xa : Nat) => [(ra, .inl (dA 0, rn, .inl rf))]) (fun _ => "java/lang/ArrayIndexOutOfBoundsException")) (va_A [(ra, .inl (dA 0, rn, .inl rf))] sz)) 3 500 (va_A [(ra, .inl (dA 0, rn, .inl rf))] sz) := by
  refine MetT.ofW (cc := cX0_puts) (maxL := 5) (ret := none) (by decide) rfl ?_
  intro p e s m args below meth c s₁ B hml hempty hv
  obtain ⟨rfl, hsz, hP, hK, hD0, hE⟩ := hv
  subst hsz
  have hx := B.exec
  have hb := B.bytes
  have hr := B.returns
  have hts := atoms_spec (ws := (ws_ yX0_puts cX0_puts 5 none)) B.pre
  have hts : ∀ w ∈ lw_all, w.before _ s = true := fun w h => hts w (List.mem_cons_of_mem _ h)
  have hown : s.vm.findClass RX0 = some m.cls := findClass_of_methodNamed B.named
  have hlocks := B.notSynchronized
  have S : CallFix p m c cX0_puts 5 s _ lw_all RX0 := ⟨hx, hb, hml, hown, hts⟩
  have hD := hD0.self (sz := s.heap.size)
  have hA : ∀ q : Nat, s.heap.size ≤ q → va_A [(ra, .inl (dA 0, rn, .inl rf))] s.heap.size q := fun q h => Or.inr h
  have hS : va_S (va_A [(ra, .inl (dA 0, rn, .inl rf))] s.heap.size) s.heap s.heap [] := va_S.rf
  have hl := lv_entry ([.ref ra, .int x1, .int x2, .long x3]) (n := 5) (Nat.le_of_ble_eq_true rfl)
  rw [lg_entry_eq]
  generalize (lg_sl ([.ref ra, .int x1, .int x2, .long x3]) ++ List.replicate (5 - (lg_sl ([.ref ra, .int x1, .int x2, .long x3])).length) Slot.unset).toArray = ls at hl ⊢
  replace hl : lv_has ls 5 [(0, .ref ra), (1, .int x1), (2, .int x2), (3, .long x3)] := hl
  have hret : hrX0_puts_B_ix p l e s m ([.ref ra, .int x1, .int x2, .long x3] : List Value).toArray below meth c dC dI dA (va_A [(ra, .inl (dA 0, rn, .inl rf))] s.heap.size) ra (TQ below (va_Qt (fun (u : Unit) => Q) (aBt dC dI [(ra, .inl (dA 0, rn, .inl rf))] s.heap.size (fun (u : Unit) (xa : Nat) => [(ra, .inl (dA 0, rn, .inl rf))]) (fun _ => "java/lang/ArrayIndexOutOfBoundsException")) (va_A [(ra, .inl (dA 0, rn, .inl rf))] s.heap.size)) ([.ref ra, .int x1, .int x2, .long x3] : List Value).toArray s 3 500 (va_A [(ra, .inl (dA 0, rn, .inl rf))] s.heap.size)) Q rn rf := fun xa H locs kc ks pc ls rest h1 h2 hq hP hD hS hX => WT.widen (k := 3) (n := 500) h1 h2 (WT.out (fun t ht hW => ⟨⟨(), xa, rfl, hq, ⟨by subst ht; exact ⟨hP, hD⟩, hX.at ht hW⟩⟩, hS.F ht⟩) hS.2.2 (fun y hy => by rw [hempty] at hy; exact absurd hy (by simp)) hlocks)
  generalize hAe : va_A [(ra, .inl (dA 0, rn, .inl rf))] s.heap.size = A at hD hA hS hE hret ⊢
  clear hAe
  unfold wX0_puts_B_ix at hf
  refine lv_iload_n hx hb dX0_puts_0 rfl (lv_at hl 1 rfl) ?_
  refine lv_if_ne (tgt := 16) hx hb dX0_puts_1 (by decide) (fun c_1 => ?_) (fun c_1 => ?_)
  · replace hf := hf.2 c_1
    refine lv_iload_n hx hb dX0_puts_16 rfl (lv_at hl 1 rfl) ?_
    refine lv_iconst (v := 1) hx hb dX0_puts_17 (by decide) ?_
    refine lv_icmp_ne (tgt := 33) hx hb dX0_puts_18 (by decide) (fun c_18 => ?_) (fun c_18 => ?_)
    · replace hf := hf.2 c_18
      refine lv_iload_n hx hb dX0_puts_33 rfl (lv_at hl 1 rfl) ?_
      refine lv_iconst (v := 2) hx hb dX0_puts_34 (by decide) ?_
      refine lv_icmp_ne (tgt := 49) hx hb dX0_puts_35 (by decide) (fun c_35 => ?_) (fun c_35 => ?_)
      · replace hf := hf.2 c_35
        refine lv_aload_n hx hb dX0_puts_49 rfl (lv_at hl 0 rfl) ?_
        exact hf.elim
      · replace hf := hf.1 c_35
        refine lv_aload_n hx hb dX0_puts_38 rfl (lv_at hl 0 rfl) ?_
        exact hf.elim
    · replace hf := hf.1 c_18
      refine lv_aload_n hx hb dX0_puts_21 rfl (lv_at hl 0 rfl) ?_
      exact hf.elim
  · replace hf := hf.1 c_1
    refine lv_aload_n hx hb dX0_puts_4 rfl (lv_at hl 0 rfl) ?_
    refine va_castA hx hb hown (hts _ q942) hP 0 rfl (va_nmP (ty := .byte) (hK.2 0 _ rfl).2 rfl (by decide)) dX0_puts_5 ?_
    refine lv_iload_n hx hb dX0_puts_8 rfl (lv_at hl 2 rfl) ?_
    refine lv_lload_n hx hb dX0_puts_9 rfl (lv_at hl 3 rfl) ?_
    refine lv_l2i (v := (x3 : Int64).toInt32) hx hb dX0_puts_10 rfl ?_
    refine lv_i2b (v := ((x3 : Int64).toInt32 : Int32).toInt8.toInt32) hx hb dX0_puts_11 rfl ?_
    obtain ⟨hcd, hf⟩ := hf
    have hbud : 0 + 3 ≤ 3 ∧ 0 + 500 ≤ 500 := ⟨Nat.le_of_ble_eq_true rfl, Nat.le_of_ble_eq_true rfl⟩
    refine x_bast hx hb hK hP 0 0 rfl rfl hcd.1 hcd.2 dX0_puts_12 (fun tx_ htx_ => ?_)
    refine vm_msg (cls := "java/lang/ArrayIndexOutOfBoundsException") (names := ["java/lang/IndexOutOfBoundsException", "java/lang/RuntimeException", "java/lang/Exception"]) (text := tx_) (nb := 500) hx (by decide) (by decide) (by decide) (by decide) (atoms_have msg_IX hts hE) hE hfl hP hS hA htx_.1 htx_.2 (by decide) rfl (hl.1.trans hml.symm) (Nat.le_of_ble_eq_true rfl) (Nat.le_of_ble_eq_true rfl) (by decide) hbud (fun x_12 H locs hP hS hX => ?_)
    exact hret x_12 _ _ _ _ _ _ _ (Nat.le_of_ble_eq_true rfl) (Nat.le_of_ble_eq_true rfl) hf (hP.sub [0] rfl) (hD.sub [0] (by decide) rfl) hS hX
/-! HoleCounty.sizeOf(Ljava/lang/Object;I)I -/
abbrev rmX0_sizeOf_S : Room := { frames := 0, cells := 0, slots := 0, locals := 0 }
abbrev RX0_sizeOf_S_ : Room := (headSpec (ws_ yX0_sizeOf cX0_sizeOf 2 (some .int)) rmX0_sizeOf_S).room
section
variable {p : Program} {l : Launch} {e : Env} {s : State} {m : MethodId} {args : Array Value} {below : List Frame} {meth : Method} {c : Code} {Qw : State → Prop} {dC : Nat → ClassId} {dI : Nat → Nat → Nat} {dA : Nat → ClassId} {eA mi : Nat} {A : Nat → Prop} {ra : Nat}
abbrev hrX0_sizeOf_S (p : Program) (l : Launch) (e : Env) (s : State) (m : MethodId) (args : Array Value) (below : List Frame) (meth : Method) (c : Code) (dC : Nat → ClassId) (dI : Nat → Nat → Nat) (dA : Nat → ClassId) (A : Nat → Prop) (ra : Nat) (Qw : State → Prop) (Q : Int32 → Prop) (rn : Nat) (rf : (Nat → Int32)) : Prop := ∀ (r : Int32) (H : Heap) (locs : List Loc) (kc ks : Nat) (pc : Nat) (ls : Array Slot), kc ≤ 0 → ks ≤ 0 → Q r → va_P (dC, dI) vwCl [(ra, .inl (dA 3, rn, .inl rf))] H → va_D A [(ra, .inl (dA 3, rn, .inl rf))] → va_S A s.heap H locs → decode cX0_sizeOf pc = .ok (.ireturn, 1) → W p l e RX0_sizeOf_S_ s m args below meth c H locs kc ks Qw (F0 m pc ls [.int r])
def wX0_sizeOf_S (Q : Int32 → Prop) (rn : Nat) (x1 : Int32) : Prop := ((x1 = 0 → False) ∧ (¬ x1 = 0 → ((x1 = 1 → (Q (Int32.ofNat rn))) ∧ (¬ x1 = 1 → ((x1 = 2 → False) ∧ (¬ x1 = 2 → False))))))
end
set_option maxHeartbeats 4000000 in
set_option maxRecDepth 100000 in
theorem metX0_sizeOf_S (l : Launch) (hfl : l.stackTraces = false) {Q : Int32 → Prop} {rn : Nat} {rf : (Nat → Int32)} {x1 : Int32} {dC : Nat → ClassId} {dI : Nat → Nat → Nat} {dA : Nat → ClassId} {eA mi sz : Nat} {ra : Nat} (hf : wX0_sizeOf_S Q rn x1) : Met l yX0_sizeOf (ws_ yX0_sizeOf cX0_sizeOf 2 (some .int)) rmX0_sizeOf_S (aPc dC dI dA eA mi sz [.ref ra, .int x1] [(ra, .inl (dA 3, rn, .inl rf))]) (va_Qi (fun (r : Int32) (u : Unit) => Q r) (aB dC dI [(ra, .inl (dA 3, rn, .inl rf))] sz (fun u => [(ra, .inl (dA 3, rn, .inl rf))])) (va_A [(ra, .inl (dA 3, rn, .inl rf))] sz)) 0 0 (va_A [(ra, .inl (dA 3, rn, .inl rf))] sz) := by
  refine Met.ofW (cc := cX0_sizeOf) (maxL := 2) (ret := (some .int)) (by decide) rfl ?_
  intro p e s m args below meth c s₁ B hml hv
  obtain ⟨rfl, hsz, hP, hK, hD0, hE⟩ := hv
  subst hsz
  have hx := B.exec
  have hb := B.bytes
  have hr := B.returns
  have hts := atoms_spec (ws := (ws_ yX0_sizeOf cX0_sizeOf 2 (some .int))) B.pre
  have hts : ∀ w ∈ lw_all, w.before _ s = true := fun w h => hts w (List.mem_cons_of_mem _ h)
  have hown : s.vm.findClass RX0 = some m.cls := findClass_of_methodNamed B.named
  have hlocks := B.notSynchronized
  have S : CallFix p m c cX0_sizeOf 2 s _ lw_all RX0 := ⟨hx, hb, hml, hown, hts⟩
  have hD := hD0.self (sz := s.heap.size)
  have hA : ∀ q : Nat, s.heap.size ≤ q → va_A [(ra, .inl (dA 3, rn, .inl rf))] s.heap.size q := fun q h => Or.inr h
  have hS : va_S (va_A [(ra, .inl (dA 3, rn, .inl rf))] s.heap.size) s.heap s.heap [] := va_S.rf
  have hl := lv_entry ([.ref ra, .int x1]) (n := 2) (Nat.le_of_ble_eq_true rfl)
  rw [lg_entry_eq]
  generalize (lg_sl ([.ref ra, .int x1]) ++ List.replicate (2 - (lg_sl ([.ref ra, .int x1])).length) Slot.unset).toArray = ls at hl ⊢
  replace hl : lv_has ls 2 [(0, .ref ra), (1, .int x1)] := hl
  have hret : hrX0_sizeOf_S p l e s m ([.ref ra, .int x1] : List Value).toArray below meth c dC dI dA (va_A [(ra, .inl (dA 3, rn, .inl rf))] s.heap.size) ra (MQ below (va_Qi (fun (r : Int32) (u : Unit) => Q r) (aB dC dI [(ra, .inl (dA 3, rn, .inl rf))] s.heap.size (fun u => [(ra, .inl (dA 3, rn, .inl rf))])) (va_A [(ra, .inl (dA 3, rn, .inl rf))] s.heap.size)) ([.ref ra, .int x1] : List Value).toArray s 0 0 (va_A [(ra, .inl (dA 3, rn, .inl rf))] s.heap.size)) Q rn rf := fun r H locs kc ks pc ls h1 h2 hq hP hD hS hd => W.widen (k := 0) (n := 0) h1 h2 (W.iret hx hb hr (fun t ht hW => ⟨⟨r, (), rfl, hq, by subst ht; exact ⟨hP, hD⟩⟩, hS.F ht⟩) hS.2.2 hd)
  generalize hAe : va_A [(ra, .inl (dA 3, rn, .inl rf))] s.heap.size = A at hD hA hS hE hret ⊢
  clear hAe
  unfold wX0_sizeOf_S at hf
  refine lv_iload_n hx hb dX0_sizeOf_0 rfl (lv_at hl 1 rfl) ?_
  by_cases c_1_0 : x1 = 0
  · replace hf := hf.1 c_1_0
    refine lv_tableIn (off := 27) (tgt := 28) hx hb dX0_sizeOf_1 (by rw [c_1_0]; decide) (by rw [c_1_0]; decide) (by rw [c_1_0]; decide) (by decide) ?_
    refine lv_aload_n hx hb dX0_sizeOf_28 rfl (lv_at hl 0 rfl) ?_
    exact hf.elim
  replace hf := hf.2 c_1_0
  by_cases c_1_1 : x1 = 1
  · replace hf := hf.1 c_1_1
    refine lv_tableIn (off := 33) (tgt := 34) hx hb dX0_sizeOf_1 (by rw [c_1_1]; decide) (by rw [c_1_1]; decide) (by rw [c_1_1]; decide) (by decide) ?_
    refine lv_aload_n hx hb dX0_sizeOf_34 rfl (lv_at hl 0 rfl) ?_
    refine va_castA hx hb hown (hts _ q943) hP 0 rfl (va_nmP (ty := .short) (hK.2 3 _ rfl).2 rfl (by decide)) dX0_sizeOf_35 ?_
    refine va_alen (v := (Int32.ofNat rn)) hx hb hK hP 0 3 rfl rfl rfl dX0_sizeOf_38 ?_
    exact hret _ _ _ _ _ _ _ (Nat.zero_le _) (Nat.zero_le _) hf (hP.sub [0] rfl) (hD.sub [0] (by decide) rfl) hS dX0_sizeOf_39
  replace hf := hf.2 c_1_1
  by_cases c_1_2 : x1 = 2
  · replace hf := hf.1 c_1_2
    refine lv_tableIn (off := 39) (tgt := 40) hx hb dX0_sizeOf_1 (by rw [c_1_2]; decide) (by rw [c_1_2]; decide) (by rw [c_1_2]; decide) (by decide) ?_
    refine lv_aload_n hx hb dX0_sizeOf_40 rfl (lv_at hl 0 rfl) ?_
    exact hf.elim
  replace hf := hf.2 c_1_2
  have n_0 := sw_no (j := 0) c_1_0 (by decide)
  have n_1 := sw_no (j := 1) c_1_1 (by decide)
  have n_2 := sw_no (j := 2) c_1_2 (by decide)
  refine lv_tableOut (tgt := 46) hx hb dX0_sizeOf_1 (by omega) (by decide) ?_
  refine lv_aload_n hx hb dX0_sizeOf_46 rfl (lv_at hl 0 rfl) ?_
  exact hf.elim
/-! HoleCounty.sizeOf(Ljava/lang/Object;I)I: it throws java/lang/ClassCastException -/
abbrev rmX0_sizeOf_S_cc : Room := { frames := 8, cells := 3, slots := 500, locals := 10260 }
abbrev RX0_sizeOf_S_cc_ : Room := (headSpec (ws_ yX0_sizeOf cX0_sizeOf 2 (some .int)) rmX0_sizeOf_S_cc).room
section
variable {p : Program} {l : Launch} {e : Env} {s : State} {m : MethodId} {args : Array Value} {below : List Frame} {meth : Method} {c : Code} {Qw : State → Prop} {dC : Nat → ClassId} {dI : Nat → Nat → Nat} {dA : Nat → ClassId} {eA mi : Nat} {A : Nat → Prop} {ra : Nat}
abbrev hrX0_sizeOf_S_cc (p : Program) (l : Launch) (e : Env) (s : State) (m : MethodId) (args : Array Value) (below : List Frame) (meth : Method) (c : Code) (dC : Nat → ClassId) (dI : Nat → Nat → Nat) (dA : Nat → ClassId) (A : Nat → Prop) (ra : Nat) (Qw : State → Prop) (Q : Prop) (rn : Nat) (rf : (Nat → Int32)) : Prop := ∀ (xa : Nat) (H : Heap) (locs : List Loc) (kc ks : Nat) (pc : Nat) (ls : Array Slot) (rest : List Value), kc ≤ 3 → ks ≤ 500 → Q → va_P (dC, dI) vwCl [(ra, .inl (dA 3, rn, .inl rf))] H → va_D A [(ra, .inl (dA 3, rn, .inl rf))] → va_S A s.heap H locs → exc "java/lang/ClassCastException" xa s H → WT p l e RX0_sizeOf_S_cc_ s m args below meth c H locs kc ks Qw (F0 m pc ls rest) xa
def wX0_sizeOf_S_cc (Q : Prop) (rn : Nat) (x1 : Int32) : Prop := ((x1 = 0 → Q) ∧ (¬ x1 = 0 → ((x1 = 1 → False) ∧ (¬ x1 = 1 → ((x1 = 2 → Q) ∧ (¬ x1 = 2 → Q))))))
end
set_option maxHeartbeats 4000000 in
set_option maxRecDepth 100000 in
theorem metX0_sizeOf_S_cc (l : Launch) (hfl : l.stackTraces = false) {Q : Prop} {rn : Nat} {rf : (Nat → Int32)} {x1 : Int32} {dC : Nat → ClassId} {dI : Nat → Nat → Nat} {dA : Nat → ClassId} {eA mi sz : Nat} {ra : Nat} (hf : wX0_sizeOf_S_cc Q rn x1) : MetT l yX0_sizeOf (ws_ yX0_sizeOf cX0_sizeOf 2 (some .int)) rmX0_sizeOf_S_cc (aPc dC dI dA eA mi sz [.ref ra, .int x1] [(ra, .inl (dA 3, rn, .inl rf))]) (va_Qt (fun (u : Unit) => Q) (aBt dC dI [(ra, .inl (dA 3, rn, .inl rf))] sz (fun (u : Unit) (xa : Nat) => [(ra, .inl (dA 3, rn, .inl rf))]) (fun _ => "java/lang/ClassCastException")) (va_A [(ra, .inl (dA 3, rn, .inl rf))] sz)) 3 500 (va_A [(ra, .inl (dA 3, rn, .inl rf))] sz) := by
  refine MetT.ofW (cc := cX0_sizeOf) (maxL := 2) (ret := (some .int)) (by decide) rfl ?_
  intro p e s m args below meth c s₁ B hml hempty hv
  obtain ⟨rfl, hsz, hP, hK, hD0, hE⟩ := hv
  subst hsz
  have hx := B.exec
  have hb := B.bytes
  have hr := B.returns
  have hts := atoms_spec (ws := (ws_ yX0_sizeOf cX0_sizeOf 2 (some .int))) B.pre
  have hts : ∀ w ∈ lw_all, w.before _ s = true := fun w h => hts w (List.mem_cons_of_mem _ h)
  have hown : s.vm.findClass RX0 = some m.cls := findClass_of_methodNamed B.named
  have hlocks := B.notSynchronized
  have S : CallFix p m c cX0_sizeOf 2 s _ lw_all RX0 := ⟨hx, hb, hml, hown, hts⟩
  have hD := hD0.self (sz := s.heap.size)
  have hA : ∀ q : Nat, s.heap.size ≤ q → va_A [(ra, .inl (dA 3, rn, .inl rf))] s.heap.size q := fun q h => Or.inr h
  have hS : va_S (va_A [(ra, .inl (dA 3, rn, .inl rf))] s.heap.size) s.heap s.heap [] := va_S.rf
  have hl := lv_entry ([.ref ra, .int x1]) (n := 2) (Nat.le_of_ble_eq_true rfl)
  rw [lg_entry_eq]
  generalize (lg_sl ([.ref ra, .int x1]) ++ List.replicate (2 - (lg_sl ([.ref ra, .int x1])).length) Slot.unset).toArray = ls at hl ⊢
  replace hl : lv_has ls 2 [(0, .ref ra), (1, .int x1)] := hl
  have hret : hrX0_sizeOf_S_cc p l e s m ([.ref ra, .int x1] : List Value).toArray below meth c dC dI dA (va_A [(ra, .inl (dA 3, rn, .inl rf))] s.heap.size) ra (TQ below (va_Qt (fun (u : Unit) => Q) (aBt dC dI [(ra, .inl (dA 3, rn, .inl rf))] s.heap.size (fun (u : Unit) (xa : Nat) => [(ra, .inl (dA 3, rn, .inl rf))]) (fun _ => "java/lang/ClassCastException")) (va_A [(ra, .inl (dA 3, rn, .inl rf))] s.heap.size)) ([.ref ra, .int x1] : List Value).toArray s 3 500 (va_A [(ra, .inl (dA 3, rn, .inl rf))] s.heap.size)) Q rn rf := fun xa H locs kc ks pc ls rest h1 h2 hq hP hD hS hX => WT.widen (k := 3) (n := 500) h1 h2 (WT.out (fun t ht hW => ⟨⟨(), xa, rfl, hq, ⟨by subst ht; exact ⟨hP, hD⟩, hX.at ht hW⟩⟩, hS.F ht⟩) hS.2.2 (fun y hy => by rw [hempty] at hy; exact absurd hy (by simp)) hlocks)
  generalize hAe : va_A [(ra, .inl (dA 3, rn, .inl rf))] s.heap.size = A at hD hA hS hE hret ⊢
  clear hAe
  unfold wX0_sizeOf_S_cc at hf
  refine lv_iload_n hx hb dX0_sizeOf_0 rfl (lv_at hl 1 rfl) ?_
  by_cases c_1_0 : x1 = 0
  · replace hf := hf.1 c_1_0
    refine lv_tableIn (off := 27) (tgt := 28) hx hb dX0_sizeOf_1 (by rw [c_1_0]; decide) (by rw [c_1_0]; decide) (by rw [c_1_0]; decide) (by decide) ?_
    refine lv_aload_n hx hb dX0_sizeOf_28 rfl (lv_at hl 0 rfl) ?_
    have hbud : 0 + 3 ≤ 3 ∧ 0 + 500 ≤ 500 := ⟨Nat.le_of_ble_eq_true rfl, Nat.le_of_ble_eq_true rfl⟩
    refine x_cast hx hb hown (hts _ q942) (hE.2.2.1.2.2 ("[S", "[B") (by decide)) (by decide) (by decide) hK hP 0 3 0 rfl rfl rfl (va_nmP (ty := .short) (hK.2 3 _ rfl).2 rfl (by decide)) (va_nmP (ty := .byte) (hK.2 0 _ rfl).2 rfl (by decide)) dX0_sizeOf_29 (fun tx_ htx_ => ?_)
    refine vm_msg (cls := "java/lang/ClassCastException") (names := ["java/lang/RuntimeException", "java/lang/Exception"]) (text := tx_) (nb := 500) hx (by decide) (by decide) (by decide) (by decide) (atoms_have msg_CC hts hE) hE hfl hP hS hA htx_.1 htx_.2 (by decide) rfl (hl.1.trans hml.symm) (Nat.le_of_ble_eq_true rfl) (Nat.le_of_ble_eq_true rfl) (by decide) hbud (fun x_29 H locs hP hS hX => ?_)
    exact hret x_29 _ _ _ _ _ _ _ (Nat.le_of_ble_eq_true rfl) (Nat.le_of_ble_eq_true rfl) hf (hP.sub [0] rfl) (hD.sub [0] (by decide) rfl) hS hX
  replace hf := hf.2 c_1_0
  by_cases c_1_1 : x1 = 1
  · replace hf := hf.1 c_1_1
    refine lv_tableIn (off := 33) (tgt := 34) hx hb dX0_sizeOf_1 (by rw [c_1_1]; decide) (by rw [c_1_1]; decide) (by rw [c_1_1]; decide) (by decide) ?_
    refine lv_aload_n hx hb dX0_sizeOf_34 rfl (lv_at hl 0 rfl) ?_
    refine va_castA hx hb hown (hts _ q943) hP 0 rfl (va_nmP (ty := .short) (hK.2 3 _ rfl).2 rfl (by decide)) dX0_sizeOf_35 ?_
    refine va_alen (v := (Int32.ofNat rn)) hx hb hK hP 0 3 rfl rfl rfl dX0_sizeOf_38 ?_
    exact hf.elim
  replace hf := hf.2 c_1_1
  by_cases c_1_2 : x1 = 2
  · replace hf := hf.1 c_1_2
    refine lv_tableIn (off := 39) (tgt := 40) hx hb dX0_sizeOf_1 (by rw [c_1_2]; decide) (by rw [c_1_2]; decide) (by rw [c_1_2]; decide) (by decide) ?_
    refine lv_aload_n hx hb dX0_sizeOf_40 rfl (lv_at hl 0 rfl) ?_
    have hbud : 0 + 3 ≤ 3 ∧ 0 + 500 ≤ 500 := ⟨Nat.le_of_ble_eq_true rfl, Nat.le_of_ble_eq_true rfl⟩
    refine x_cast hx hb hown (hts _ q944) (hE.2.2.1.2.2 ("[S", "[I") (by decide)) (by decide) (by decide) hK hP 0 3 1 rfl rfl rfl (va_nmP (ty := .short) (hK.2 3 _ rfl).2 rfl (by decide)) (va_nmP (ty := .int) (hK.2 1 _ rfl).2 rfl (by decide)) dX0_sizeOf_41 (fun tx_ htx_ => ?_)
    refine vm_msg (cls := "java/lang/ClassCastException") (names := ["java/lang/RuntimeException", "java/lang/Exception"]) (text := tx_) (nb := 500) hx (by decide) (by decide) (by decide) (by decide) (atoms_have msg_CC hts hE) hE hfl hP hS hA htx_.1 htx_.2 (by decide) rfl (hl.1.trans hml.symm) (Nat.le_of_ble_eq_true rfl) (Nat.le_of_ble_eq_true rfl) (by decide) hbud (fun x_41 H locs hP hS hX => ?_)
    exact hret x_41 _ _ _ _ _ _ _ (Nat.le_of_ble_eq_true rfl) (Nat.le_of_ble_eq_true rfl) hf (hP.sub [0] rfl) (hD.sub [0] (by decide) rfl) hS hX
  replace hf := hf.2 c_1_2
  have n_0 := sw_no (j := 0) c_1_0 (by decide)
  have n_1 := sw_no (j := 1) c_1_1 (by decide)
  have n_2 := sw_no (j := 2) c_1_2 (by decide)
  refine lv_tableOut (tgt := 46) hx hb dX0_sizeOf_1 (by omega) (by decide) ?_
  refine lv_aload_n hx hb dX0_sizeOf_46 rfl (lv_at hl 0 rfl) ?_
  have hbud : 0 + 3 ≤ 3 ∧ 0 + 500 ≤ 500 := ⟨Nat.le_of_ble_eq_true rfl, Nat.le_of_ble_eq_true rfl⟩
  refine x_cast hx hb hown (hts _ q948) (hE.2.2.1.2.2 ("[S", "[J") (by decide)) (by decide) (by decide) hK hP 0 3 2 rfl rfl rfl (va_nmP (ty := .short) (hK.2 3 _ rfl).2 rfl (by decide)) (va_nmP (ty := .long) (hK.2 2 _ rfl).2 rfl (by decide)) dX0_sizeOf_47 (fun tx_ htx_ => ?_)
  refine vm_msg (cls := "java/lang/ClassCastException") (names := ["java/lang/RuntimeException", "java/lang/Exception"]) (text := tx_) (nb := 500) hx (by decide) (by decide) (by decide) (by decide) (atoms_have msg_CC hts hE) hE hfl hP hS hA htx_.1 htx_.2 (by decide) rfl (hl.1.trans hml.symm) (Nat.le_of_ble_eq_true rfl) (Nat.le_of_ble_eq_true rfl) (by decide) hbud (fun x_47 H locs hP hS hX => ?_)
  exact hret x_47 _ _ _ _ _ _ _ (Nat.le_of_ble_eq_true rfl) (Nat.le_of_ble_eq_true rfl) hf (hP.sub [0] rfl) (hD.sub [0] (by decide) rfl) hS hX
/-! HoleCounty.itemOf(Ljava/lang/Object;II)J -/
abbrev rmX0_itemOf_S : Room := { frames := 0, cells := 0, slots := 0, locals := 0 }
abbrev RX0_itemOf_S_ : Room := (headSpec (ws_ yX0_itemOf cX0_itemOf 3 (some .long)) rmX0_itemOf_S).room
section
variable {p : Program} {l : Launch} {e : Env} {s : State} {m : MethodId} {args : Array Value} {below : List Frame} {meth : Method} {c : Code} {Qw : State → Prop} {dC : Nat → ClassId} {dI : Nat → Nat → Nat} {dA : Nat → ClassId} {eA mi : Nat} {A : Nat → Prop} {ra : Nat}
abbrev hrX0_itemOf_S (p : Program) (l : Launch) (e : Env) (s : State) (m : MethodId) (args : Array Value) (below : List Frame) (meth : Method) (c : Code) (dC : Nat → ClassId) (dI : Nat → Nat → Nat) (dA : Nat → ClassId) (A : Nat → Prop) (ra : Nat) (Qw : State → Prop) (Q : Int64 → Prop) (rn : Nat) (rf : (Nat → Int32)) : Prop := ∀ (r : Int64) (H : Heap) (locs : List Loc) (kc ks : Nat) (pc : Nat) (ls : Array Slot), kc ≤ 0 → ks ≤ 0 → Q r → va_P (dC, dI) vwCl [(ra, .inl (dA 3, rn, .inl rf))] H → va_D A [(ra, .inl (dA 3, rn, .inl rf))] → va_S A s.heap H locs → decode cX0_itemOf pc = .ok (.lreturn, 1) → W p l e RX0_itemOf_S_ s m args below meth c H locs kc ks Qw (F0 m pc ls [.long r])
def wX0_itemOf_S (Q : Int64 → Prop) (rn : Nat) (rf : (Nat → Int32)) (x1 : Int32) (x2 : Int32) : Prop := ((x1 = 0 → False) ∧ (¬ x1 = 0 → ((x1 = 1 → (vp_in x2 rn ∧ (Q (((rf (x2 : Int32).toNatClampNeg) : Int32).toInt64)))) ∧ (¬ x1 = 1 → ((x1 = 2 → False) ∧ (¬ x1 = 2 → False))))))
end
set_option maxHeartbeats 4000000 in
set_option maxRecDepth 100000 in
theorem metX0_itemOf_S (l : Launch) (hfl : l.stackTraces = false) {Q : Int64 → Prop} {rn : Nat} {rf : (Nat → Int32)} {x1 : Int32} {x2 : Int32} {dC : Nat → ClassId} {dI : Nat → Nat → Nat} {dA : Nat → ClassId} {eA mi sz : Nat} {ra : Nat} (hf : wX0_itemOf_S Q rn rf x1 x2) : Met l yX0_itemOf (ws_ yX0_itemOf cX0_itemOf 3 (some .long)) rmX0_itemOf_S (aPc dC dI dA eA mi sz [.ref ra, .int x1, .int x2] [(ra, .inl (dA 3, rn, .inl rf))]) (va_Ql (fun (r : Int64) (u : Unit) => Q r) (aB dC dI [(ra, .inl (dA 3, rn, .inl rf))] sz (fun u => [(ra, .inl (dA 3, rn, .inl rf))])) (va_A [(ra, .inl (dA 3, rn, .inl rf))] sz)) 0 0 (va_A [(ra, .inl (dA 3, rn, .inl rf))] sz) := by
  refine Met.ofW (cc := cX0_itemOf) (maxL := 3) (ret := (some .long)) (by decide) rfl ?_
  intro p e s m args below meth c s₁ B hml hv
  obtain ⟨rfl, hsz, hP, hK, hD0, hE⟩ := hv
  subst hsz
  have hx := B.exec
  have hb := B.bytes
  have hr := B.returns
  have hts := atoms_spec (ws := (ws_ yX0_itemOf cX0_itemOf 3 (some .long))) B.pre
  have hts : ∀ w ∈ lw_all, w.before _ s = true := fun w h => hts w (List.mem_cons_of_mem _ h)
  have hown : s.vm.findClass RX0 = some m.cls := findClass_of_methodNamed B.named
  have hlocks := B.notSynchronized
  have S : CallFix p m c cX0_itemOf 3 s _ lw_all RX0 := ⟨hx, hb, hml, hown, hts⟩
  have hD := hD0.self (sz := s.heap.size)
  have hA : ∀ q : Nat, s.heap.size ≤ q → va_A [(ra, .inl (dA 3, rn, .inl rf))] s.heap.size q := fun q h => Or.inr h
  have hS : va_S (va_A [(ra, .inl (dA 3, rn, .inl rf))] s.heap.size) s.heap s.heap [] := va_S.rf
  have hl := lv_entry ([.ref ra, .int x1, .int x2]) (n := 3) (Nat.le_of_ble_eq_true rfl)
  rw [lg_entry_eq]
  generalize (lg_sl ([.ref ra, .int x1, .int x2]) ++ List.replicate (3 - (lg_sl ([.ref ra, .int x1, .int x2])).length) Slot.unset).toArray = ls at hl ⊢
  replace hl : lv_has ls 3 [(0, .ref ra), (1, .int x1), (2, .int x2)] := hl
  have hret : hrX0_itemOf_S p l e s m ([.ref ra, .int x1, .int x2] : List Value).toArray below meth c dC dI dA (va_A [(ra, .inl (dA 3, rn, .inl rf))] s.heap.size) ra (MQ below (va_Ql (fun (r : Int64) (u : Unit) => Q r) (aB dC dI [(ra, .inl (dA 3, rn, .inl rf))] s.heap.size (fun u => [(ra, .inl (dA 3, rn, .inl rf))])) (va_A [(ra, .inl (dA 3, rn, .inl rf))] s.heap.size)) ([.ref ra, .int x1, .int x2] : List Value).toArray s 0 0 (va_A [(ra, .inl (dA 3, rn, .inl rf))] s.heap.size)) Q rn rf := fun r H locs kc ks pc ls h1 h2 hq hP hD hS hd => W.widen (k := 0) (n := 0) h1 h2 (W.lret hx hb hr (fun t ht hW => ⟨⟨r, (), rfl, hq, by subst ht; exact ⟨hP, hD⟩⟩, hS.F ht⟩) hS.2.2 hd)
  generalize hAe : va_A [(ra, .inl (dA 3, rn, .inl rf))] s.heap.size = A at hD hA hS hE hret ⊢
  clear hAe
  unfold wX0_itemOf_S at hf
  refine lv_iload_n hx hb dX0_itemOf_0 rfl (lv_at hl 1 rfl) ?_
  by_cases c_1_0 : x1 = 0
  · replace hf := hf.1 c_1_0
    refine lv_tableIn (off := 27) (tgt := 28) hx hb dX0_itemOf_1 (by rw [c_1_0]; decide) (by rw [c_1_0]; decide) (by rw [c_1_0]; decide) (by decide) ?_
    refine lv_aload_n hx hb dX0_itemOf_28 rfl (lv_at hl 0 rfl) ?_
    exact hf.elim
  replace hf := hf.2 c_1_0
  by_cases c_1_1 : x1 = 1
  · replace hf := hf.1 c_1_1
    refine lv_tableIn (off := 35) (tgt := 36) hx hb dX0_itemOf_1 (by rw [c_1_1]; decide) (by rw [c_1_1]; decide) (by rw [c_1_1]; decide) (by decide) ?_
    refine lv_aload_n hx hb dX0_itemOf_36 rfl (lv_at hl 0 rfl) ?_
    refine va_castA hx hb hown (hts _ q943) hP 0 rfl (va_nmP (ty := .short) (hK.2 3 _ rfl).2 rfl (by decide)) dX0_itemOf_37 ?_
    refine lv_iload_n hx hb dX0_itemOf_40 rfl (lv_at hl 2 rfl) ?_
    obtain ⟨hin, hf⟩ := hf
    refine va_sald hx hb hK hP 0 3 rfl rfl hin dX0_itemOf_41 ?_
    refine lv_i2l (v := ((rf (x2 : Int32).toNatClampNeg) : Int32).toInt64) hx hb dX0_itemOf_42 rfl ?_
    exact hret _ _ _ _ _ _ _ (Nat.zero_le _) (Nat.zero_le _) hf (hP.sub [0] rfl) (hD.sub [0] (by decide) rfl) hS dX0_itemOf_43
  replace hf := hf.2 c_1_1
  by_cases c_1_2 : x1 = 2
  · replace hf := hf.1 c_1_2
    refine lv_tableIn (off := 43) (tgt := 44) hx hb dX0_itemOf_1 (by rw [c_1_2]; decide) (by rw [c_1_2]; decide) (by rw [c_1_2]; decide) (by decide) ?_
    refine lv_aload_n hx hb dX0_itemOf_44 rfl (lv_at hl 0 rfl) ?_
    exact hf.elim
  replace hf := hf.2 c_1_2
  have n_0 := sw_no (j := 0) c_1_0 (by decide)
  have n_1 := sw_no (j := 1) c_1_1 (by decide)
  have n_2 := sw_no (j := 2) c_1_2 (by decide)
  refine lv_tableOut (tgt := 52) hx hb dX0_itemOf_1 (by omega) (by decide) ?_
  refine lv_aload_n hx hb dX0_itemOf_52 rfl (lv_at hl 0 rfl) ?_
  exact hf.elim
/-! HoleCounty.laneOf(Ljava/lang/Object;)I -/
abbrev rmX0_laneOf_S : Room := { frames := 0, cells := 0, slots := 0, locals := 0 }
abbrev RX0_laneOf_S_ : Room := (headSpec (ws_ yX0_laneOf cX0_laneOf 1 (some .int)) rmX0_laneOf_S).room
section
variable {p : Program} {l : Launch} {e : Env} {s : State} {m : MethodId} {args : Array Value} {below : List Frame} {meth : Method} {c : Code} {Qw : State → Prop} {dC : Nat → ClassId} {dI : Nat → Nat → Nat} {dA : Nat → ClassId} {eA mi : Nat} {A : Nat → Prop} {ra : Nat}
abbrev hrX0_laneOf_S (p : Program) (l : Launch) (e : Env) (s : State) (m : MethodId) (args : Array Value) (below : List Frame) (meth : Method) (c : Code) (dC : Nat → ClassId) (dI : Nat → Nat → Nat) (dA : Nat → ClassId) (A : Nat → Prop) (ra : Nat) (Qw : State → Prop) (Q : Int32 → Prop) (rn : Nat) (rf : (Nat → Int32)) : Prop := ∀ (r : Int32) (H : Heap) (locs : List Loc) (kc ks : Nat) (pc : Nat) (ls : Array Slot), kc ≤ 0 → ks ≤ 0 → Q r → va_P (dC, dI) vwCl [(ra, .inl (dA 3, rn, .inl rf))] H → va_D A [(ra, .inl (dA 3, rn, .inl rf))] → va_S A s.heap H locs → decode cX0_laneOf pc = .ok (.ireturn, 1) → W p l e RX0_laneOf_S_ s m args below meth c H locs kc ks Qw (F0 m pc ls [.int r])
def wX0_laneOf_S (Q : Int32 → Prop) : Prop := (((0 : Int32) = 0 → (((1 : Int32) = 0 → (((0 : Int32) = 0 → (Q 3)) ∧ (¬ (0 : Int32) = 0 → (Q 2)))) ∧ (¬ (1 : Int32) = 0 → (Q 1)))) ∧ (¬ (0 : Int32) = 0 → (Q 0)))
end
set_option maxHeartbeats 4000000 in
set_option maxRecDepth 100000 in
theorem metX0_laneOf_S (l : Launch) (hfl : l.stackTraces = false) {Q : Int32 → Prop} {rn : Nat} {rf : (Nat → Int32)} {dC : Nat → ClassId} {dI : Nat → Nat → Nat} {dA : Nat → ClassId} {eA mi sz : Nat} {ra : Nat} (hf : wX0_laneOf_S Q) : Met l yX0_laneOf (ws_ yX0_laneOf cX0_laneOf 1 (some .int)) rmX0_laneOf_S (aPc dC dI dA eA mi sz [.ref ra] [(ra, .inl (dA 3, rn, .inl rf))]) (va_Qi (fun (r : Int32) (u : Unit) => Q r) (aB dC dI [(ra, .inl (dA 3, rn, .inl rf))] sz (fun u => [(ra, .inl (dA 3, rn, .inl rf))])) (va_A [(ra, .inl (dA 3, rn, .inl rf))] sz)) 0 0 (va_A [(ra, .inl (dA 3, rn, .inl rf))] sz) := by
  refine Met.ofW (cc := cX0_laneOf) (maxL := 1) (ret := (some .int)) (by decide) rfl ?_
  intro p e s m args below meth c s₁ B hml hv
  obtain ⟨rfl, hsz, hP, hK, hD0, hE⟩ := hv
  subst hsz
  have hx := B.exec
  have hb := B.bytes
  have hr := B.returns
  have hts := atoms_spec (ws := (ws_ yX0_laneOf cX0_laneOf 1 (some .int))) B.pre
  have hts : ∀ w ∈ lw_all, w.before _ s = true := fun w h => hts w (List.mem_cons_of_mem _ h)
  have hown : s.vm.findClass RX0 = some m.cls := findClass_of_methodNamed B.named
  have hlocks := B.notSynchronized
  have S : CallFix p m c cX0_laneOf 1 s _ lw_all RX0 := ⟨hx, hb, hml, hown, hts⟩
  have hD := hD0.self (sz := s.heap.size)
  have hA : ∀ q : Nat, s.heap.size ≤ q → va_A [(ra, .inl (dA 3, rn, .inl rf))] s.heap.size q := fun q h => Or.inr h
  have hS : va_S (va_A [(ra, .inl (dA 3, rn, .inl rf))] s.heap.size) s.heap s.heap [] := va_S.rf
  have hl := lv_entry ([.ref ra]) (n := 1) (Nat.le_of_ble_eq_true rfl)
  rw [lg_entry_eq]
  generalize (lg_sl ([.ref ra]) ++ List.replicate (1 - (lg_sl ([.ref ra])).length) Slot.unset).toArray = ls at hl ⊢
  replace hl : lv_has ls 1 [(0, .ref ra)] := hl
  have hret : hrX0_laneOf_S p l e s m ([.ref ra] : List Value).toArray below meth c dC dI dA (va_A [(ra, .inl (dA 3, rn, .inl rf))] s.heap.size) ra (MQ below (va_Qi (fun (r : Int32) (u : Unit) => Q r) (aB dC dI [(ra, .inl (dA 3, rn, .inl rf))] s.heap.size (fun u => [(ra, .inl (dA 3, rn, .inl rf))])) (va_A [(ra, .inl (dA 3, rn, .inl rf))] s.heap.size)) ([.ref ra] : List Value).toArray s 0 0 (va_A [(ra, .inl (dA 3, rn, .inl rf))] s.heap.size)) Q rn rf := fun r H locs kc ks pc ls h1 h2 hq hP hD hS hd => W.widen (k := 0) (n := 0) h1 h2 (W.iret hx hb hr (fun t ht hW => ⟨⟨r, (), rfl, hq, by subst ht; exact ⟨hP, hD⟩⟩, hS.F ht⟩) hS.2.2 hd)
  generalize hAe : va_A [(ra, .inl (dA 3, rn, .inl rf))] s.heap.size = A at hD hA hS hE hret ⊢
  clear hAe
  unfold wX0_laneOf_S at hf
  refine lv_aload_n hx hb dX0_laneOf_0 rfl (lv_at hl 0 rfl) ?_
  refine va_instNo (C := "[S") hx hb hown (hts _ q942) (hE.2.2.1.2.2 ("[S", "[B") (by decide)) (arr_recv hP 0 rfl (va_nmP (ty := .short) (hK.2 3 _ rfl).2 rfl (by decide))) dX0_laneOf_1 ?_
  refine lv_if_eq (tgt := 11) hx hb dX0_laneOf_4 (by decide) (fun c_4 => ?_) (fun c_4 => ?_)
  · replace hf := hf.1 c_4
    refine lv_aload_n hx hb dX0_laneOf_11 rfl (lv_at hl 0 rfl) ?_
    refine va_instE hx hb hown (hts _ q943) (arr_recv hP 0 rfl (va_nmP (ty := .short) (hK.2 3 _ rfl).2 rfl (by decide))) dX0_laneOf_12 ?_
    refine lv_if_eq (tgt := 22) hx hb dX0_laneOf_15 (by decide) (fun c_15 => ?_) (fun c_15 => ?_)
    · replace hf := hf.1 c_15
      refine lv_aload_n hx hb dX0_laneOf_22 rfl (lv_at hl 0 rfl) ?_
      refine va_instNo (C := "[S") hx hb hown (hts _ q944) (hE.2.2.1.2.2 ("[S", "[I") (by decide)) (arr_recv hP 0 rfl (va_nmP (ty := .short) (hK.2 3 _ rfl).2 rfl (by decide))) dX0_laneOf_23 ?_
      refine lv_if_eq (tgt := 33) hx hb dX0_laneOf_26 (by decide) (fun c_26 => ?_) (fun c_26 => ?_)
      · replace hf := hf.1 c_26
        refine lv_iconst (v := 3) hx hb dX0_laneOf_33 (by decide) ?_
        exact hret _ _ _ _ _ _ _ (Nat.zero_le _) (Nat.zero_le _) hf (hP.sub [0] rfl) (hD.sub [0] (by decide) rfl) hS dX0_laneOf_34
      · replace hf := hf.2 c_26
        refine lv_iconst (v := 2) hx hb dX0_laneOf_29 (by decide) ?_
        refine lv_goto (tgt := 34) hx hb dX0_laneOf_30 (by decide) ?_
        exact hret _ _ _ _ _ _ _ (Nat.zero_le _) (Nat.zero_le _) hf (hP.sub [0] rfl) (hD.sub [0] (by decide) rfl) hS dX0_laneOf_34
    · replace hf := hf.2 c_15
      refine lv_iconst (v := 1) hx hb dX0_laneOf_18 (by decide) ?_
      refine lv_goto (tgt := 34) hx hb dX0_laneOf_19 (by decide) ?_
      exact hret _ _ _ _ _ _ _ (Nat.zero_le _) (Nat.zero_le _) hf (hP.sub [0] rfl) (hD.sub [0] (by decide) rfl) hS dX0_laneOf_34
  · replace hf := hf.2 c_4
    refine lv_iconst (v := 0) hx hb dX0_laneOf_7 (by decide) ?_
    refine lv_goto (tgt := 34) hx hb dX0_laneOf_8 (by decide) ?_
    exact hret _ _ _ _ _ _ _ (Nat.zero_le _) (Nat.zero_le _) hf (hP.sub [0] rfl) (hD.sub [0] (by decide) rfl) hS dX0_laneOf_34
/-! HoleCounty.puts(Ljava/lang/Object;IIJ)V -/
abbrev rmX0_puts_S : Room := { frames := 0, cells := 0, slots := 0, locals := 0 }
abbrev RX0_puts_S_ : Room := (headSpec (ws_ yX0_puts cX0_puts 5 none) rmX0_puts_S).room
section
variable {p : Program} {l : Launch} {e : Env} {s : State} {m : MethodId} {args : Array Value} {below : List Frame} {meth : Method} {c : Code} {Qw : State → Prop} {dC : Nat → ClassId} {dI : Nat → Nat → Nat} {dA : Nat → ClassId} {eA mi : Nat} {A : Nat → Prop} {ra : Nat}
abbrev hrX0_puts_S (p : Program) (l : Launch) (e : Env) (s : State) (m : MethodId) (args : Array Value) (below : List Frame) (meth : Method) (c : Code) (dC : Nat → ClassId) (dI : Nat → Nat → Nat) (dA : Nat → ClassId) (A : Nat → Prop) (ra : Nat) (Qw : State → Prop) (Q : (Nat → Int32) → Prop) (rn : Nat) : Prop := ∀ (rf : (Nat → Int32)) (H : Heap) (locs : List Loc) (kc ks : Nat) (pc : Nat) (ls : Array Slot), kc ≤ 0 → ks ≤ 0 → Q rf → va_P (dC, dI) vwCl [(ra, .inl (dA 3, rn, .inl rf))] H → va_D A [(ra, .inl (dA 3, rn, .inl rf))] → va_S A s.heap H locs → decode cX0_puts pc = .ok (.return_, 1) → W p l e RX0_puts_S_ s m args below meth c H locs kc ks Qw (F0 m pc ls [])
def wX0_puts_S (Q : (Nat → Int32) → Prop) (rn : Nat) (rf : (Nat → Int32)) (x1 : Int32) (x2 : Int32) (x3 : Int64) : Prop := ((x1 = 0 → False) ∧ (¬ x1 = 0 → ((x1 = 1 → (vp_in x2 rn ∧ (∀ rf_29 : Nat → Int32, rf_29 = upd rf (x2 : Int32).toNatClampNeg (vp_nar .short (((x3 : Int64).toInt32 : Int32).toInt16.toInt32)) → (Q rf_29)))) ∧ (¬ x1 = 1 → ((x1 = 2 → False) ∧ (¬ x1 = 2 → False))))))
end
set_option maxHeartbeats 4000000 in
set_option maxRecDepth 100000 in
theorem metX0_puts_S (l : Launch) (hfl : l.stackTraces = false) {Q : (Nat → Int32) → Prop} {rn : Nat} {rf : (Nat → Int32)} {x1 : Int32} {x2 : Int32} {x3 : Int64} {dC : Nat → ClassId} {dI : Nat → Nat → Nat} {dA : Nat → ClassId} {eA mi sz : Nat} {ra : Nat} (hf : wX0_puts_S Q rn rf x1 x2 x3) : Met l yX0_puts (ws_ yX0_puts cX0_puts 5 none) rmX0_puts_S (aPc dC dI dA eA mi sz [.ref ra, .int x1, .int x2, .long x3] [(ra, .inl (dA 3, rn, .inl rf))]) (va_Qv (fun (u : (Nat → Int32)) => Q u) (aB dC dI [(ra, .inl (dA 3, rn, .inl rf))] sz (fun u => [(ra, .inl (dA 3, rn, .inl u))])) (va_A [(ra, .inl (dA 3, rn, .inl rf))] sz)) 0 0 (va_A [(ra, .inl (dA 3, rn, .inl rf))] sz) := by
  refine Met.ofW (cc := cX0_puts) (maxL := 5) (ret := none) (by decide) rfl ?_
  intro p e s m args below meth c s₁ B hml hv
  obtain ⟨rfl, hsz, hP, hK, hD0, hE⟩ := hv
  subst hsz
  have hx := B.exec
  have hb := B.bytes
  have hr := B.returns
  have hts := atoms_spec (ws := (ws_ yX0_puts cX0_puts 5 none)) B.pre
  have hts : ∀ w ∈ lw_all, w.before _ s = true := fun w h => hts w (List.mem_cons_of_mem _ h)
  have hown : s.vm.findClass RX0 = some m.cls := findClass_of_methodNamed B.named
  have hlocks := B.notSynchronized
  have S : CallFix p m c cX0_puts 5 s _ lw_all RX0 := ⟨hx, hb, hml, hown, hts⟩
  have hD := hD0.self (sz := s.heap.size)
  have hA : ∀ q : Nat, s.heap.size ≤ q → va_A [(ra, .inl (dA 3, rn, .inl rf))] s.heap.size q := fun q h => Or.inr h
  have hS : va_S (va_A [(ra, .inl (dA 3, rn, .inl rf))] s.heap.size) s.heap s.heap [] := va_S.rf
  have hl := lv_entry ([.ref ra, .int x1, .int x2, .long x3]) (n := 5) (Nat.le_of_ble_eq_true rfl)
  rw [lg_entry_eq]
  generalize (lg_sl ([.ref ra, .int x1, .int x2, .long x3]) ++ List.replicate (5 - (lg_sl ([.ref ra, .int x1, .int x2, .long x3])).length) Slot.unset).toArray = ls at hl ⊢
  replace hl : lv_has ls 5 [(0, .ref ra), (1, .int x1), (2, .int x2), (3, .long x3)] := hl
  have hret : hrX0_puts_S p l e s m ([.ref ra, .int x1, .int x2, .long x3] : List Value).toArray below meth c dC dI dA (va_A [(ra, .inl (dA 3, rn, .inl rf))] s.heap.size) ra (MQ below (va_Qv (fun (u : (Nat → Int32)) => Q u) (aB dC dI [(ra, .inl (dA 3, rn, .inl rf))] s.heap.size (fun u => [(ra, .inl (dA 3, rn, .inl u))])) (va_A [(ra, .inl (dA 3, rn, .inl rf))] s.heap.size)) ([.ref ra, .int x1, .int x2, .long x3] : List Value).toArray s 0 0 (va_A [(ra, .inl (dA 3, rn, .inl rf))] s.heap.size)) Q rn := fun rf H locs kc ks pc ls h1 h2 hq hP hD hS hd => W.widen (k := 0) (n := 0) h1 h2 (W.vret hx hb hr (fun t ht hW => ⟨⟨rf, rfl, hq, by subst ht; exact ⟨hP, hD⟩⟩, hS.F ht⟩) hS.2.2 hd)
  generalize hAe : va_A [(ra, .inl (dA 3, rn, .inl rf))] s.heap.size = A at hD hA hS hE hret ⊢
  clear hAe
  unfold wX0_puts_S at hf
  refine lv_iload_n hx hb dX0_puts_0 rfl (lv_at hl 1 rfl) ?_
  refine lv_if_ne (tgt := 16) hx hb dX0_puts_1 (by decide) (fun c_1 => ?_) (fun c_1 => ?_)
  · replace hf := hf.2 c_1
    refine lv_iload_n hx hb dX0_puts_16 rfl (lv_at hl 1 rfl) ?_
    refine lv_iconst (v := 1) hx hb dX0_puts_17 (by decide) ?_
    refine lv_icmp_ne (tgt := 33) hx hb dX0_puts_18 (by decide) (fun c_18 => ?_) (fun c_18 => ?_)
    · replace hf := hf.2 c_18
      refine lv_iload_n hx hb dX0_puts_33 rfl (lv_at hl 1 rfl) ?_
      refine lv_iconst (v := 2) hx hb dX0_puts_34 (by decide) ?_
      refine lv_icmp_ne (tgt := 49) hx hb dX0_puts_35 (by decide) (fun c_35 => ?_) (fun c_35 => ?_)
      · replace hf := hf.2 c_35
        refine lv_aload_n hx hb dX0_puts_49 rfl (lv_at hl 0 rfl) ?_
        exact hf.elim
      · replace hf := hf.1 c_35
        refine lv_aload_n hx hb dX0_puts_38 rfl (lv_at hl 0 rfl) ?_
        exact hf.elim
    · replace hf := hf.1 c_18
      refine lv_aload_n hx hb dX0_puts_21 rfl (lv_at hl 0 rfl) ?_
      refine va_castA hx hb hown (hts _ q943) hP 0 rfl (va_nmP (ty := .short) (hK.2 3 _ rfl).2 rfl (by decide)) dX0_puts_22 ?_
      refine lv_iload_n hx hb dX0_puts_25 rfl (lv_at hl 2 rfl) ?_
      refine lv_lload_n hx hb dX0_puts_26 rfl (lv_at hl 3 rfl) ?_
      refine lv_l2i (v := (x3 : Int64).toInt32) hx hb dX0_puts_27 rfl ?_
      refine lv_i2s (v := ((x3 : Int64).toInt32 : Int32).toInt16.toInt32) hx hb dX0_puts_28 rfl ?_
      obtain ⟨hin_, hf⟩ := hf
      obtain ⟨rf_29, erf_29⟩ : ∃ z : Nat → Int32, z = upd rf (x2 : Int32).toNatClampNeg (vp_nar .short (((x3 : Int64).toInt32 : Int32).toInt16.toInt32)) := ⟨_, rfl⟩
      replace hf := hf rf_29 erf_29
      refine va_sast hx hb hK hP hD hS 0 3 rfl rfl hin_ dX0_puts_29 (fun H locs hP hD hS => ?_)
      rw [← erf_29] at hP hD
      replace hP : va_P (dC, dI) vwCl [(ra, .inl (dA 3, rn, .inl rf_29))] H := hP
      replace hD : va_D A [(ra, .inl (dA 3, rn, .inl rf_29))] := hD
      refine lv_goto (tgt := 56) hx hb dX0_puts_30 (by decide) ?_
      exact hret _ _ _ _ _ _ _ (Nat.zero_le _) (Nat.zero_le _) hf (hP.sub [0] rfl) (hD.sub [0] (by decide) rfl) hS dX0_puts_56
  · replace hf := hf.1 c_1
    refine lv_aload_n hx hb dX0_puts_4 rfl (lv_at hl 0 rfl) ?_
    exact hf.elim
/-! HoleCounty.puts(Ljava/lang/Object;IIJ)V: it throws java/lang/ClassCastException -/
abbrev rmX0_puts_S_cc : Room := { frames := 8, cells := 3, slots := 500, locals := 10260 }
abbrev RX0_puts_S_cc_ : Room := (headSpec (ws_ yX0_puts cX0_puts 5 none) rmX0_puts_S_cc).room
section
variable {p : Program} {l : Launch} {e : Env} {s : State} {m : MethodId} {args : Array Value} {below : List Frame} {meth : Method} {c : Code} {Qw : State → Prop} {dC : Nat → ClassId} {dI : Nat → Nat → Nat} {dA : Nat → ClassId} {eA mi : Nat} {A : Nat → Prop} {ra : Nat}
abbrev hrX0_puts_S_cc (p : Program) (l : Launch) (e : Env) (s : State) (m : MethodId) (args : Array Value) (below : List Frame) (meth : Method) (c : Code) (dC : Nat → ClassId) (dI : Nat → Nat → Nat) (dA : Nat → ClassId) (A : Nat → Prop) (ra : Nat) (Qw : State → Prop) (Q : Prop) (rn : Nat) (rf : (Nat → Int32)) : Prop := ∀ (xa : Nat) (H : Heap) (locs : List Loc) (kc ks : Nat) (pc : Nat) (ls : Array Slot) (rest : List Value), kc ≤ 3 → ks ≤ 500 → Q → va_P (dC, dI) vwCl [(ra, .inl (dA 3, rn, .inl rf))] H → va_D A [(ra, .inl (dA 3, rn, .inl rf))] → va_S A s.heap H locs → exc "java/lang/ClassCastException" xa s H → WT p l e RX0_puts_S_cc_ s m args below meth c H locs kc ks Qw (F0 m pc ls rest) xa
def wX0_puts_S_cc (Q : Prop) (x1 : Int32) (x2 : Int32) (x3 : Int64) : Prop := ((x1 = 0 → Q) ∧ (¬ x1 = 0 → ((x1 = 1 → False) ∧ (¬ x1 = 1 → ((x1 = 2 → Q) ∧ (¬ x1 = 2 → Q))))))
end
set_option maxHeartbeats 4000000 in
set_option maxRecDepth 100000 in
theorem metX0_puts_S_cc (l : Launch) (hfl : l.stackTraces = false) {Q : Prop} {rn : Nat} {rf : (Nat → Int32)} {x1 : Int32} {x2 : Int32} {x3 : Int64} {dC : Nat → ClassId} {dI : Nat → Nat → Nat} {dA : Nat → ClassId} {eA mi sz : Nat} {ra : Nat} (hf : wX0_puts_S_cc Q x1 x2 x3) : MetT l yX0_puts (ws_ yX0_puts cX0_puts 5 none) rmX0_puts_S_cc (aPc dC dI dA eA mi sz [.ref ra, .int x1, .int x2, .long x3] [(ra, .inl (dA 3, rn, .inl rf))]) (va_Qt (fun (u : Unit) => Q) (aBt dC dI [(ra, .inl (dA 3, rn, .inl rf))] sz (fun (u : Unit) (xa : Nat) => [(ra, .inl (dA 3, rn, .inl rf))]) (fun _ => "java/lang/ClassCastException")) (va_A [(ra, .inl (dA 3, rn, .inl rf))] sz)) 3 500 (va_A [(ra, .inl (dA 3, rn, .inl rf))] sz) := by
  refine MetT.ofW (cc := cX0_puts) (maxL := 5) (ret := none) (by decide) rfl ?_
  intro p e s m args below meth c s₁ B hml hempty hv
  obtain ⟨rfl, hsz, hP, hK, hD0, hE⟩ := hv
  subst hsz
  have hx := B.exec
  have hb := B.bytes
  have hr := B.returns
  have hts := atoms_spec (ws := (ws_ yX0_puts cX0_puts 5 none)) B.pre
  have hts : ∀ w ∈ lw_all, w.before _ s = true := fun w h => hts w (List.mem_cons_of_mem _ h)
  have hown : s.vm.findClass RX0 = some m.cls := findClass_of_methodNamed B.named
  have hlocks := B.notSynchronized
  have S : CallFix p m c cX0_puts 5 s _ lw_all RX0 := ⟨hx, hb, hml, hown, hts⟩
  have hD := hD0.self (sz := s.heap.size)
  have hA : ∀ q : Nat, s.heap.size ≤ q → va_A [(ra, .inl (dA 3, rn, .inl rf))] s.heap.size q := fun q h => Or.inr h
  have hS : va_S (va_A [(ra, .inl (dA 3, rn, .inl rf))] s.heap.size) s.heap s.heap [] := va_S.rf
  have hl := lv_entry ([.ref ra, .int x1, .int x2, .long x3]) (n := 5) (Nat.le_of_ble_eq_true rfl)
  rw [lg_entry_eq]
  generalize (lg_sl ([.ref ra, .int x1, .int x2, .long x3]) ++ List.replicate (5 - (lg_sl ([.ref ra, .int x1, .int x2, .long x3])).length) Slot.unset).toArray = ls at hl ⊢
  replace hl : lv_has ls 5 [(0, .ref ra), (1, .int x1), (2, .int x2), (3, .long x3)] := hl
  have hret : hrX0_puts_S_cc p l e s m ([.ref ra, .int x1, .int x2, .long x3] : List Value).toArray below meth c dC dI dA (va_A [(ra, .inl (dA 3, rn, .inl rf))] s.heap.size) ra (TQ below (va_Qt (fun (u : Unit) => Q) (aBt dC dI [(ra, .inl (dA 3, rn, .inl rf))] s.heap.size (fun (u : Unit) (xa : Nat) => [(ra, .inl (dA 3, rn, .inl rf))]) (fun _ => "java/lang/ClassCastException")) (va_A [(ra, .inl (dA 3, rn, .inl rf))] s.heap.size)) ([.ref ra, .int x1, .int x2, .long x3] : List Value).toArray s 3 500 (va_A [(ra, .inl (dA 3, rn, .inl rf))] s.heap.size)) Q rn rf := fun xa H locs kc ks pc ls rest h1 h2 hq hP hD hS hX => WT.widen (k := 3) (n := 500) h1 h2 (WT.out (fun t ht hW => ⟨⟨(), xa, rfl, hq, ⟨by subst ht; exact ⟨hP, hD⟩, hX.at ht hW⟩⟩, hS.F ht⟩) hS.2.2 (fun y hy => by rw [hempty] at hy; exact absurd hy (by simp)) hlocks)
  generalize hAe : va_A [(ra, .inl (dA 3, rn, .inl rf))] s.heap.size = A at hD hA hS hE hret ⊢
  clear hAe
  unfold wX0_puts_S_cc at hf
  refine lv_iload_n hx hb dX0_puts_0 rfl (lv_at hl 1 rfl) ?_
  refine lv_if_ne (tgt := 16) hx hb dX0_puts_1 (by decide) (fun c_1 => ?_) (fun c_1 => ?_)
  · replace hf := hf.2 c_1
    refine lv_iload_n hx hb dX0_puts_16 rfl (lv_at hl 1 rfl) ?_
    refine lv_iconst (v := 1) hx hb dX0_puts_17 (by decide) ?_
    refine lv_icmp_ne (tgt := 33) hx hb dX0_puts_18 (by decide) (fun c_18 => ?_) (fun c_18 => ?_)
    · replace hf := hf.2 c_18
      refine lv_iload_n hx hb dX0_puts_33 rfl (lv_at hl 1 rfl) ?_
      refine lv_iconst (v := 2) hx hb dX0_puts_34 (by decide) ?_
      refine lv_icmp_ne (tgt := 49) hx hb dX0_puts_35 (by decide) (fun c_35 => ?_) (fun c_35 => ?_)
      · replace hf := hf.2 c_35
        refine lv_aload_n hx hb dX0_puts_49 rfl (lv_at hl 0 rfl) ?_
        have hbud : 0 + 3 ≤ 3 ∧ 0 + 500 ≤ 500 := ⟨Nat.le_of_ble_eq_true rfl, Nat.le_of_ble_eq_true rfl⟩
        refine x_cast hx hb hown (hts _ q948) (hE.2.2.1.2.2 ("[S", "[J") (by decide)) (by decide) (by decide) hK hP 0 3 2 rfl rfl rfl (va_nmP (ty := .short) (hK.2 3 _ rfl).2 rfl (by decide)) (va_nmP (ty := .long) (hK.2 2 _ rfl).2 rfl (by decide)) dX0_puts_50 (fun tx_ htx_ => ?_)
        refine vm_msg (cls := "java/lang/ClassCastException") (names := ["java/lang/RuntimeException", "java/lang/Exception"]) (text := tx_) (nb := 500) hx (by decide) (by decide) (by decide) (by decide) (atoms_have msg_CC hts hE) hE hfl hP hS hA htx_.1 htx_.2 (by decide) rfl (hl.1.trans hml.symm) (Nat.le_of_ble_eq_true rfl) (Nat.le_of_ble_eq_true rfl) (by decide) hbud (fun x_50 H locs hP hS hX => ?_)
        exact hret x_50 _ _ _ _ _ _ _ (Nat.le_of_ble_eq_true rfl) (Nat.le_of_ble_eq_true rfl) hf (hP.sub [0] rfl) (hD.sub [0] (by decide) rfl) hS hX
      · replace hf := hf.1 c_35
        refine lv_aload_n hx hb dX0_puts_38 rfl (lv_at hl 0 rfl) ?_
        have hbud : 0 + 3 ≤ 3 ∧ 0 + 500 ≤ 500 := ⟨Nat.le_of_ble_eq_true rfl, Nat.le_of_ble_eq_true rfl⟩
        refine x_cast hx hb hown (hts _ q944) (hE.2.2.1.2.2 ("[S", "[I") (by decide)) (by decide) (by decide) hK hP 0 3 1 rfl rfl rfl (va_nmP (ty := .short) (hK.2 3 _ rfl).2 rfl (by decide)) (va_nmP (ty := .int) (hK.2 1 _ rfl).2 rfl (by decide)) dX0_puts_39 (fun tx_ htx_ => ?_)
        refine vm_msg (cls := "java/lang/ClassCastException") (names := ["java/lang/RuntimeException", "java/lang/Exception"]) (text := tx_) (nb := 500) hx (by decide) (by decide) (by decide) (by decide) (atoms_have msg_CC hts hE) hE hfl hP hS hA htx_.1 htx_.2 (by decide) rfl (hl.1.trans hml.symm) (Nat.le_of_ble_eq_true rfl) (Nat.le_of_ble_eq_true rfl) (by decide) hbud (fun x_39 H locs hP hS hX => ?_)
        exact hret x_39 _ _ _ _ _ _ _ (Nat.le_of_ble_eq_true rfl) (Nat.le_of_ble_eq_true rfl) hf (hP.sub [0] rfl) (hD.sub [0] (by decide) rfl) hS hX
    · replace hf := hf.1 c_18
      refine lv_aload_n hx hb dX0_puts_21 rfl (lv_at hl 0 rfl) ?_
      refine va_castA hx hb hown (hts _ q943) hP 0 rfl (va_nmP (ty := .short) (hK.2 3 _ rfl).2 rfl (by decide)) dX0_puts_22 ?_
      refine lv_iload_n hx hb dX0_puts_25 rfl (lv_at hl 2 rfl) ?_
      refine lv_lload_n hx hb dX0_puts_26 rfl (lv_at hl 3 rfl) ?_
      refine lv_l2i (v := (x3 : Int64).toInt32) hx hb dX0_puts_27 rfl ?_
      refine lv_i2s (v := ((x3 : Int64).toInt32 : Int32).toInt16.toInt32) hx hb dX0_puts_28 rfl ?_
      exact hf.elim
  · replace hf := hf.1 c_1
    refine lv_aload_n hx hb dX0_puts_4 rfl (lv_at hl 0 rfl) ?_
    have hbud : 0 + 3 ≤ 3 ∧ 0 + 500 ≤ 500 := ⟨Nat.le_of_ble_eq_true rfl, Nat.le_of_ble_eq_true rfl⟩
    refine x_cast hx hb hown (hts _ q942) (hE.2.2.1.2.2 ("[S", "[B") (by decide)) (by decide) (by decide) hK hP 0 3 0 rfl rfl rfl (va_nmP (ty := .short) (hK.2 3 _ rfl).2 rfl (by decide)) (va_nmP (ty := .byte) (hK.2 0 _ rfl).2 rfl (by decide)) dX0_puts_5 (fun tx_ htx_ => ?_)
    refine vm_msg (cls := "java/lang/ClassCastException") (names := ["java/lang/RuntimeException", "java/lang/Exception"]) (text := tx_) (nb := 500) hx (by decide) (by decide) (by decide) (by decide) (atoms_have msg_CC hts hE) hE hfl hP hS hA htx_.1 htx_.2 (by decide) rfl (hl.1.trans hml.symm) (Nat.le_of_ble_eq_true rfl) (Nat.le_of_ble_eq_true rfl) (by decide) hbud (fun x_5 H locs hP hS hX => ?_)
    exact hret x_5 _ _ _ _ _ _ _ (Nat.le_of_ble_eq_true rfl) (Nat.le_of_ble_eq_true rfl) hf (hP.sub [0] rfl) (hD.sub [0] (by decide) rfl) hS hX
/-! HoleCounty.puts(Ljava/lang/Object;IIJ)V: it throws java/lang/ArrayIndexOutOfBoundsException -/
abbrev rmX0_puts_S_ix : Room := { frames := 8, cells := 3, slots := 500, locals := 10260 }
abbrev RX0_puts_S_ix_ : Room := (headSpec (ws_ yX0_puts cX0_puts 5 none) rmX0_puts_S_ix).room
section
variable {p : Program} {l : Launch} {e : Env} {s : State} {m : MethodId} {args : Array Value} {below : List Frame} {meth : Method} {c : Code} {Qw : State → Prop} {dC : Nat → ClassId} {dI : Nat → Nat → Nat} {dA : Nat → ClassId} {eA mi : Nat} {A : Nat → Prop} {ra : Nat}
abbrev hrX0_puts_S_ix (p : Program) (l : Launch) (e : Env) (s : State) (m : MethodId) (args : Array Value) (below : List Frame) (meth : Method) (c : Code) (dC : Nat → ClassId) (dI : Nat → Nat → Nat) (dA : Nat → ClassId) (A : Nat → Prop) (ra : Nat) (Qw : State → Prop) (Q : Prop) (rn : Nat) (rf : (Nat → Int32)) : Prop := ∀ (xa : Nat) (H : Heap) (locs : List Loc) (kc ks : Nat) (pc : Nat) (ls : Array Slot) (rest : List Value), kc ≤ 3 → ks ≤ 500 → Q → va_P (dC, dI) vwCl [(ra, .inl (dA 3, rn, .inl rf))] H → va_D A [(ra, .inl (dA 3, rn, .inl rf))] → va_S A s.heap H locs → exc "java/lang/ArrayIndexOutOfBoundsException" xa s H → WT p l e RX0_puts_S_ix_ s m args below meth c H locs kc ks Qw (F0 m pc ls rest) xa
def wX0_puts_S_ix (Q : Prop) (rn : Nat) (x1 : Int32) (x2 : Int32) (x3 : Int64) : Prop := ((x1 = 0 → False) ∧ (¬ x1 = 0 → ((x1 = 1 → ((¬ vp_in x2 rn ∧ rn ≤ 36) ∧ Q)) ∧ (¬ x1 = 1 → ((x1 = 2 → False) ∧ (¬ x1 = 2 → False))))))
end
set_option maxHeartbeats 4000000 in
set_option maxRecDepth 100000 in
theorem metX0_puts_S_ix (l : Launch) (hfl : l.stackTraces = false) {Q : Prop} {rn : Nat} {rf : (Nat → Int32)} {x1 : Int32} {x2 : Int32} {x3 : Int64} {dC : Nat → ClassId} {dI : Nat → Nat → Nat} {dA : Nat → ClassId} {eA mi sz : Nat} {ra : Nat} (hf : wX0_puts_S_ix Q rn x1 x2 x3) : MetT l yX0_puts (ws_ yX0_puts cX0_puts 5 none) rmX0_puts_S_ix (aPc dC dI dA eA mi sz [.ref ra, .int x1, .int x2, .long x3] [(ra, .inl (dA 3, rn, .inl rf))]) (va_Qt (fun (u : Unit) => Q) (aBt dC dI [(ra, .inl (dA 3, rn, .inl rf))] sz (fun (u : Unit) (xa : Nat) => [(ra, .inl (dA 3, rn, .inl rf))]) (fun _ => "java/lang/ArrayIndexOutOfBoundsException")) (va_A [(ra, .inl (dA 3, rn, .inl rf))] sz)) 3 500 (va_A [(ra, .inl (dA 3, rn, .inl rf))] sz) := by
  refine MetT.ofW (cc := cX0_puts) (maxL := 5) (ret := none) (by decide) rfl ?_
  intro p e s m args below meth c s₁ B hml hempty hv
  obtain ⟨rfl, hsz, hP, hK, hD0, hE⟩ := hv
  subst hsz
  have hx := B.exec
  have hb := B.bytes
  have hr := B.returns
  have hts := atoms_spec (ws := (ws_ yX0_puts cX0_puts 5 none)) B.pre
  have hts : ∀ w ∈ lw_all, w.before _ s = true := fun w h => hts w (List.mem_cons_of_mem _ h)
  have hown : s.vm.findClass RX0 = some m.cls := findClass_of_methodNamed B.named
  have hlocks := B.notSynchronized
  have S : CallFix p m c cX0_puts 5 s _ lw_all RX0 := ⟨hx, hb, hml, hown, hts⟩
  have hD := hD0.self (sz := s.heap.size)
  have hA : ∀ q : Nat, s.heap.size ≤ q → va_A [(ra, .inl (dA 3, rn, .inl rf))] s.heap.size q := fun q h => Or.inr h
  have hS : va_S (va_A [(ra, .inl (dA 3, rn, .inl rf))] s.heap.size) s.heap s.heap [] := va_S.rf
  have hl := lv_entry ([.ref ra, .int x1, .int x2, .long x3]) (n := 5) (Nat.le_of_ble_eq_true rfl)
  rw [lg_entry_eq]
  generalize (lg_sl ([.ref ra, .int x1, .int x2, .long x3]) ++ List.replicate (5 - (lg_sl ([.ref ra, .int x1, .int x2, .long x3])).length) Slot.unset).toArray = ls at hl ⊢
  replace hl : lv_has ls 5 [(0, .ref ra), (1, .int x1), (2, .int x2), (3, .long x3)] := hl
  have hret : hrX0_puts_S_ix p l e s m ([.ref ra, .int x1, .int x2, .long x3] : List Value).toArray below meth c dC dI dA (va_A [(ra, .inl (dA 3, rn, .inl rf))] s.heap.size) ra (TQ below (va_Qt (fun (u : Unit) => Q) (aBt dC dI [(ra, .inl (dA 3, rn, .inl rf))] s.heap.size (fun (u : Unit) (xa : Nat) => [(ra, .inl (dA 3, rn, .inl rf))]) (fun _ => "java/lang/ArrayIndexOutOfBoundsException")) (va_A [(ra, .inl (dA 3, rn, .inl rf))] s.heap.size)) ([.ref ra, .int x1, .int x2, .long x3] : List Value).toArray s 3 500 (va_A [(ra, .inl (dA 3, rn, .inl rf))] s.heap.size)) Q rn rf := fun xa H locs kc ks pc ls rest h1 h2 hq hP hD hS hX => WT.widen (k := 3) (n := 500) h1 h2 (WT.out (fun t ht hW => ⟨⟨(), xa, rfl, hq, ⟨by subst ht; exact ⟨hP, hD⟩, hX.at ht hW⟩⟩, hS.F ht⟩) hS.2.2 (fun y hy => by rw [hempty] at hy; exact absurd hy (by simp)) hlocks)
  generalize hAe : va_A [(ra, .inl (dA 3, rn, .inl rf))] s.heap.size = A at hD hA hS hE hret ⊢
  clear hAe
  unfold wX0_puts_S_ix at hf
  refine lv_iload_n hx hb dX0_puts_0 rfl (lv_at hl 1 rfl) ?_
  refine lv_if_ne (tgt := 16) hx hb dX0_puts_1 (by decide) (fun c_1 => ?_) (fun c_1 => ?_)
  · replace hf := hf.2 c_1
    refine lv_iload_n hx hb dX0_puts_16 rfl (lv_at hl 1 rfl) ?_
    refine lv_iconst (v := 1) hx hb dX0_puts_17 (by decide) ?_
    refine lv_icmp_ne (tgt := 33) hx hb dX0_puts_18 (by decide) (fun c_18 => ?_) (fun c_18 => ?_)
    · replace hf := hf.2 c_18
      refine lv_iload_n hx hb dX0_puts_33 rfl (lv_at hl 1 rfl) ?_
      refine lv_iconst (v := 2) hx hb dX0_puts_34 (by decide) ?_
      refine lv_icmp_ne (tgt := 49) hx hb dX0_puts_35 (by decide) (fun c_35 => ?_) (fun c_35 => ?_)
      · replace hf := hf.2 c_35
        refine lv_aload_n hx hb dX0_puts_49 rfl (lv_at hl 0 rfl) ?_
        exact hf.elim
      · replace hf := hf.1 c_35
        refine lv_aload_n hx hb dX0_puts_38 rfl (lv_at hl 0 rfl) ?_
        exact hf.elim
    · replace hf := hf.1 c_18
      refine lv_aload_n hx hb dX0_puts_21 rfl (lv_at hl 0 rfl) ?_
      refine va_castA hx hb hown (hts _ q943) hP 0 rfl (va_nmP (ty := .short) (hK.2 3 _ rfl).2 rfl (by decide)) dX0_puts_22 ?_
      refine lv_iload_n hx hb dX0_puts_25 rfl (lv_at hl 2 rfl) ?_
      refine lv_lload_n hx hb dX0_puts_26 rfl (lv_at hl 3 rfl) ?_
      refine lv_l2i (v := (x3 : Int64).toInt32) hx hb dX0_puts_27 rfl ?_
      refine lv_i2s (v := ((x3 : Int64).toInt32 : Int32).toInt16.toInt32) hx hb dX0_puts_28 rfl ?_
      obtain ⟨hcd, hf⟩ := hf
      have hbud : 0 + 3 ≤ 3 ∧ 0 + 500 ≤ 500 := ⟨Nat.le_of_ble_eq_true rfl, Nat.le_of_ble_eq_true rfl⟩
      refine x_sast hx hb hK hP 0 3 rfl rfl hcd.1 hcd.2 dX0_puts_29 (fun tx_ htx_ => ?_)
      refine vm_msg (cls := "java/lang/ArrayIndexOutOfBoundsException") (names := ["java/lang/IndexOutOfBoundsException", "java/lang/RuntimeException", "java/lang/Exception"]) (text := tx_) (nb := 500) hx (by decide) (by decide) (by decide) (by decide) (atoms_have msg_IX hts hE) hE hfl hP hS hA htx_.1 htx_.2 (by decide) rfl (hl.1.trans hml.symm) (Nat.le_of_ble_eq_true rfl) (Nat.le_of_ble_eq_true rfl) (by decide) hbud (fun x_29 H locs hP hS hX => ?_)
      exact hret x_29 _ _ _ _ _ _ _ (Nat.le_of_ble_eq_true rfl) (Nat.le_of_ble_eq_true rfl) hf (hP.sub [0] rfl) (hD.sub [0] (by decide) rfl) hS hX
  · replace hf := hf.1 c_1
    refine lv_aload_n hx hb dX0_puts_4 rfl (lv_at hl 0 rfl) ?_
    exact hf.elim
/-! HoleCounty.sizeOf(Ljava/lang/Object;I)I -/
abbrev rmX0_sizeOf_I : Room := { frames := 0, cells := 0, slots := 0, locals := 0 }
abbrev RX0_sizeOf_I_ : Room := (headSpec (ws_ yX0_sizeOf cX0_sizeOf 2 (some .int)) rmX0_sizeOf_I).room
section
variable {p : Program} {l : Launch} {e : Env} {s : State} {m : MethodId} {args : Array Value} {below : List Frame} {meth : Method} {c : Code} {Qw : State → Prop} {dC : Nat → ClassId} {dI : Nat → Nat → Nat} {dA : Nat → ClassId} {eA mi : Nat} {A : Nat → Prop} {ra : Nat}
abbrev hrX0_sizeOf_I (p : Program) (l : Launch) (e : Env) (s : State) (m : MethodId) (args : Array Value) (below : List Frame) (meth : Method) (c : Code) (dC : Nat → ClassId) (dI : Nat → Nat → Nat) (dA : Nat → ClassId) (A : Nat → Prop) (ra : Nat) (Qw : State → Prop) (Q : Int32 → Prop) (rn : Nat) (rf : (Nat → Int32)) : Prop := ∀ (r : Int32) (H : Heap) (locs : List Loc) (kc ks : Nat) (pc : Nat) (ls : Array Slot), kc ≤ 0 → ks ≤ 0 → Q r → va_P (dC, dI) vwCl [(ra, .inl (dA 1, rn, .inl rf))] H → va_D A [(ra, .inl (dA 1, rn, .inl rf))] → va_S A s.heap H locs → decode cX0_sizeOf pc = .ok (.ireturn, 1) → W p l e RX0_sizeOf_I_ s m args below meth c H locs kc ks Qw (F0 m pc ls [.int r])
def wX0_sizeOf_I (Q : Int32 → Prop) (rn : Nat) (x1 : Int32) : Prop := ((x1 = 0 → False) ∧ (¬ x1 = 0 → ((x1 = 1 → False) ∧ (¬ x1 = 1 → ((x1 = 2 → (Q (Int32.ofNat rn))) ∧ (¬ x1 = 2 → False))))))
end
set_option maxHeartbeats 4000000 in
set_option maxRecDepth 100000 in
theorem metX0_sizeOf_I (l : Launch) (hfl : l.stackTraces = false) {Q : Int32 → Prop} {rn : Nat} {rf : (Nat → Int32)} {x1 : Int32} {dC : Nat → ClassId} {dI : Nat → Nat → Nat} {dA : Nat → ClassId} {eA mi sz : Nat} {ra : Nat} (hf : wX0_sizeOf_I Q rn x1) : Met l yX0_sizeOf (ws_ yX0_sizeOf cX0_sizeOf 2 (some .int)) rmX0_sizeOf_I (aPc dC dI dA eA mi sz [.ref ra, .int x1] [(ra, .inl (dA 1, rn, .inl rf))]) (va_Qi (fun (r : Int32) (u : Unit) => Q r) (aB dC dI [(ra, .inl (dA 1, rn, .inl rf))] sz (fun u => [(ra, .inl (dA 1, rn, .inl rf))])) (va_A [(ra, .inl (dA 1, rn, .inl rf))] sz)) 0 0 (va_A [(ra, .inl (dA 1, rn, .inl rf))] sz) := by
  refine Met.ofW (cc := cX0_sizeOf) (maxL := 2) (ret := (some .int)) (by decide) rfl ?_
  intro p e s m args below meth c s₁ B hml hv
  obtain ⟨rfl, hsz, hP, hK, hD0, hE⟩ := hv
  subst hsz
  have hx := B.exec
  have hb := B.bytes
  have hr := B.returns
  have hts := atoms_spec (ws := (ws_ yX0_sizeOf cX0_sizeOf 2 (some .int))) B.pre
  have hts : ∀ w ∈ lw_all, w.before _ s = true := fun w h => hts w (List.mem_cons_of_mem _ h)
  have hown : s.vm.findClass RX0 = some m.cls := findClass_of_methodNamed B.named
  have hlocks := B.notSynchronized
  have S : CallFix p m c cX0_sizeOf 2 s _ lw_all RX0 := ⟨hx, hb, hml, hown, hts⟩
  have hD := hD0.self (sz := s.heap.size)
  have hA : ∀ q : Nat, s.heap.size ≤ q → va_A [(ra, .inl (dA 1, rn, .inl rf))] s.heap.size q := fun q h => Or.inr h
  have hS : va_S (va_A [(ra, .inl (dA 1, rn, .inl rf))] s.heap.size) s.heap s.heap [] := va_S.rf
  have hl := lv_entry ([.ref ra, .int x1]) (n := 2) (Nat.le_of_ble_eq_true rfl)
  rw [lg_entry_eq]
  generalize (lg_sl ([.ref ra, .int x1]) ++ List.replicate (2 - (lg_sl ([.ref ra, .int x1])).length) Slot.unset).toArray = ls at hl ⊢
  replace hl : lv_has ls 2 [(0, .ref ra), (1, .int x1)] := hl
  have hret : hrX0_sizeOf_I p l e s m ([.ref ra, .int x1] : List Value).toArray below meth c dC dI dA (va_A [(ra, .inl (dA 1, rn, .inl rf))] s.heap.size) ra (MQ below (va_Qi (fun (r : Int32) (u : Unit) => Q r) (aB dC dI [(ra, .inl (dA 1, rn, .inl rf))] s.heap.size (fun u => [(ra, .inl (dA 1, rn, .inl rf))])) (va_A [(ra, .inl (dA 1, rn, .inl rf))] s.heap.size)) ([.ref ra, .int x1] : List Value).toArray s 0 0 (va_A [(ra, .inl (dA 1, rn, .inl rf))] s.heap.size)) Q rn rf := fun r H locs kc ks pc ls h1 h2 hq hP hD hS hd => W.widen (k := 0) (n := 0) h1 h2 (W.iret hx hb hr (fun t ht hW => ⟨⟨r, (), rfl, hq, by subst ht; exact ⟨hP, hD⟩⟩, hS.F ht⟩) hS.2.2 hd)
  generalize hAe : va_A [(ra, .inl (dA 1, rn, .inl rf))] s.heap.size = A at hD hA hS hE hret ⊢
  clear hAe
  unfold wX0_sizeOf_I at hf
  refine lv_iload_n hx hb dX0_sizeOf_0 rfl (lv_at hl 1 rfl) ?_
  by_cases c_1_0 : x1 = 0
  · replace hf := hf.1 c_1_0
    refine lv_tableIn (off := 27) (tgt := 28) hx hb dX0_sizeOf_1 (by rw [c_1_0]; decide) (by rw [c_1_0]; decide) (by rw [c_1_0]; decide) (by decide) ?_
    refine lv_aload_n hx hb dX0_sizeOf_28 rfl (lv_at hl 0 rfl) ?_
    exact hf.elim
  replace hf := hf.2 c_1_0
  by_cases c_1_1 : x1 = 1
  · replace hf := hf.1 c_1_1
    refine lv_tableIn (off := 33) (tgt := 34) hx hb dX0_sizeOf_1 (by rw [c_1_1]; decide) (by rw [c_1_1]; decide) (by rw [c_1_1]; decide) (by decide) ?_
    refine lv_aload_n hx hb dX0_sizeOf_34 rfl (lv_at hl 0 rfl) ?_
    exact hf.elim
  replace hf := hf.2 c_1_1
  by_cases c_1_2 : x1 = 2
  · replace hf := hf.1 c_1_2
    refine lv_tableIn (off := 39) (tgt := 40) hx hb dX0_sizeOf_1 (by rw [c_1_2]; decide) (by rw [c_1_2]; decide) (by rw [c_1_2]; decide) (by decide) ?_
    refine lv_aload_n hx hb dX0_sizeOf_40 rfl (lv_at hl 0 rfl) ?_
    refine va_castA hx hb hown (hts _ q944) hP 0 rfl (va_nmP (ty := .int) (hK.2 1 _ rfl).2 rfl (by decide)) dX0_sizeOf_41 ?_
    refine va_alen (v := (Int32.ofNat rn)) hx hb hK hP 0 1 rfl rfl rfl dX0_sizeOf_44 ?_
    exact hret _ _ _ _ _ _ _ (Nat.zero_le _) (Nat.zero_le _) hf (hP.sub [0] rfl) (hD.sub [0] (by decide) rfl) hS dX0_sizeOf_45
  replace hf := hf.2 c_1_2
  have n_0 := sw_no (j := 0) c_1_0 (by decide)
  have n_1 := sw_no (j := 1) c_1_1 (by decide)
  have n_2 := sw_no (j := 2) c_1_2 (by decide)
  refine lv_tableOut (tgt := 46) hx hb dX0_sizeOf_1 (by omega) (by decide) ?_
  refine lv_aload_n hx hb dX0_sizeOf_46 rfl (lv_at hl 0 rfl) ?_
  exact hf.elim
/-! HoleCounty.sizeOf(Ljava/lang/Object;I)I: it throws java/lang/ClassCastException -/
abbrev rmX0_sizeOf_I_cc : Room := { frames := 8, cells := 3, slots := 500, locals := 10260 }
abbrev RX0_sizeOf_I_cc_ : Room := (headSpec (ws_ yX0_sizeOf cX0_sizeOf 2 (some .int)) rmX0_sizeOf_I_cc).room
section
variable {p : Program} {l : Launch} {e : Env} {s : State} {m : MethodId} {args : Array Value} {below : List Frame} {meth : Method} {c : Code} {Qw : State → Prop} {dC : Nat → ClassId} {dI : Nat → Nat → Nat} {dA : Nat → ClassId} {eA mi : Nat} {A : Nat → Prop} {ra : Nat}
abbrev hrX0_sizeOf_I_cc (p : Program) (l : Launch) (e : Env) (s : State) (m : MethodId) (args : Array Value) (below : List Frame) (meth : Method) (c : Code) (dC : Nat → ClassId) (dI : Nat → Nat → Nat) (dA : Nat → ClassId) (A : Nat → Prop) (ra : Nat) (Qw : State → Prop) (Q : Prop) (rn : Nat) (rf : (Nat → Int32)) : Prop := ∀ (xa : Nat) (H : Heap) (locs : List Loc) (kc ks : Nat) (pc : Nat) (ls : Array Slot) (rest : List Value), kc ≤ 3 → ks ≤ 500 → Q → va_P (dC, dI) vwCl [(ra, .inl (dA 1, rn, .inl rf))] H → va_D A [(ra, .inl (dA 1, rn, .inl rf))] → va_S A s.heap H locs → exc "java/lang/ClassCastException" xa s H → WT p l e RX0_sizeOf_I_cc_ s m args below meth c H locs kc ks Qw (F0 m pc ls rest) xa
def wX0_sizeOf_I_cc (Q : Prop) (rn : Nat) (x1 : Int32) : Prop := ((x1 = 0 → Q) ∧ (¬ x1 = 0 → ((x1 = 1 → Q) ∧ (¬ x1 = 1 → ((x1 = 2 → False) ∧ (¬ x1 = 2 → Q))))))
end
set_option maxHeartbeats 4000000 in
set_option maxRecDepth 100000 in
theorem metX0_sizeOf_I_cc (l : Launch) (hfl : l.stackTraces = false) {Q : Prop} {rn : Nat} {rf : (Nat → Int32)} {x1 : Int32} {dC : Nat → ClassId} {dI : Nat → Nat → Nat} {dA : Nat → ClassId} {eA mi sz : Nat} {ra : Nat} (hf : wX0_sizeOf_I_cc Q rn x1) : MetT l yX0_sizeOf (ws_ yX0_sizeOf cX0_sizeOf 2 (some .int)) rmX0_sizeOf_I_cc (aPc dC dI dA eA mi sz [.ref ra, .int x1] [(ra, .inl (dA 1, rn, .inl rf))]) (va_Qt (fun (u : Unit) => Q) (aBt dC dI [(ra, .inl (dA 1, rn, .inl rf))] sz (fun (u : Unit) (xa : Nat) => [(ra, .inl (dA 1, rn, .inl rf))]) (fun _ => "java/lang/ClassCastException")) (va_A [(ra, .inl (dA 1, rn, .inl rf))] sz)) 3 500 (va_A [(ra, .inl (dA 1, rn, .inl rf))] sz) := by
  refine MetT.ofW (cc := cX0_sizeOf) (maxL := 2) (ret := (some .int)) (by decide) rfl ?_
  intro p e s m args below meth c s₁ B hml hempty hv
  obtain ⟨rfl, hsz, hP, hK, hD0, hE⟩ := hv
  subst hsz
  have hx := B.exec
  have hb := B.bytes
  have hr := B.returns
  have hts := atoms_spec (ws := (ws_ yX0_sizeOf cX0_sizeOf 2 (some .int))) B.pre
  have hts : ∀ w ∈ lw_all, w.before _ s = true := fun w h => hts w (List.mem_cons_of_mem _ h)
  have hown : s.vm.findClass RX0 = some m.cls := findClass_of_methodNamed B.named
  have hlocks := B.notSynchronized
  have S : CallFix p m c cX0_sizeOf 2 s _ lw_all RX0 := ⟨hx, hb, hml, hown, hts⟩
  have hD := hD0.self (sz := s.heap.size)
  have hA : ∀ q : Nat, s.heap.size ≤ q → va_A [(ra, .inl (dA 1, rn, .inl rf))] s.heap.size q := fun q h => Or.inr h
  have hS : va_S (va_A [(ra, .inl (dA 1, rn, .inl rf))] s.heap.size) s.heap s.heap [] := va_S.rf
  have hl := lv_entry ([.ref ra, .int x1]) (n := 2) (Nat.le_of_ble_eq_true rfl)
  rw [lg_entry_eq]
  generalize (lg_sl ([.ref ra, .int x1]) ++ List.replicate (2 - (lg_sl ([.ref ra, .int x1])).length) Slot.unset).toArray = ls at hl ⊢
  replace hl : lv_has ls 2 [(0, .ref ra), (1, .int x1)] := hl
  have hret : hrX0_sizeOf_I_cc p l e s m ([.ref ra, .int x1] : List Value).toArray below meth c dC dI dA (va_A [(ra, .inl (dA 1, rn, .inl rf))] s.heap.size) ra (TQ below (va_Qt (fun (u : Unit) => Q) (aBt dC dI [(ra, .inl (dA 1, rn, .inl rf))] s.heap.size (fun (u : Unit) (xa : Nat) => [(ra, .inl (dA 1, rn, .inl rf))]) (fun _ => "java/lang/ClassCastException")) (va_A [(ra, .inl (dA 1, rn, .inl rf))] s.heap.size)) ([.ref ra, .int x1] : List Value).toArray s 3 500 (va_A [(ra, .inl (dA 1, rn, .inl rf))] s.heap.size)) Q rn rf := fun xa H locs kc ks pc ls rest h1 h2 hq hP hD hS hX => WT.widen (k := 3) (n := 500) h1 h2 (WT.out (fun t ht hW => ⟨⟨(), xa, rfl, hq, ⟨by subst ht; exact ⟨hP, hD⟩, hX.at ht hW⟩⟩, hS.F ht⟩) hS.2.2 (fun y hy => by rw [hempty] at hy; exact absurd hy (by simp)) hlocks)
  generalize hAe : va_A [(ra, .inl (dA 1, rn, .inl rf))] s.heap.size = A at hD hA hS hE hret ⊢
  clear hAe
  unfold wX0_sizeOf_I_cc at hf
  refine lv_iload_n hx hb dX0_sizeOf_0 rfl (lv_at hl 1 rfl) ?_
  by_cases c_1_0 : x1 = 0
  · replace hf := hf.1 c_1_0
    refine lv_tableIn (off := 27) (tgt := 28) hx hb dX0_sizeOf_1 (by rw [c_1_0]; decide) (by rw [c_1_0]; decide) (by rw [c_1_0]; decide) (by decide) ?_
    refine lv_aload_n hx hb dX0_sizeOf_28 rfl (lv_at hl 0 rfl) ?_
    have hbud : 0 + 3 ≤ 3 ∧ 0 + 500 ≤ 500 := ⟨Nat.le_of_ble_eq_true rfl, Nat.le_of_ble_eq_true rfl⟩
    refine x_cast hx hb hown (hts _ q942) (hE.2.2.1.2.2 ("[I", "[B") (by decide)) (by decide) (by decide) hK hP 0 1 0 rfl rfl rfl (va_nmP (ty := .int) (hK.2 1 _ rfl).2 rfl (by decide)) (va_nmP (ty := .byte) (hK.2 0 _ rfl).2 rfl (by decide)) dX0_sizeOf_29 (fun tx_ htx_ => ?_)
    refine vm_msg (cls := "java/lang/ClassCastException") (names := ["java/lang/RuntimeException", "java/lang/Exception"]) (text := tx_) (nb := 500) hx (by decide) (by decide) (by decide) (by decide) (atoms_have msg_CC hts hE) hE hfl hP hS hA htx_.1 htx_.2 (by decide) rfl (hl.1.trans hml.symm) (Nat.le_of_ble_eq_true rfl) (Nat.le_of_ble_eq_true rfl) (by decide) hbud (fun x_29 H locs hP hS hX => ?_)
    exact hret x_29 _ _ _ _ _ _ _ (Nat.le_of_ble_eq_true rfl) (Nat.le_of_ble_eq_true rfl) hf (hP.sub [0] rfl) (hD.sub [0] (by decide) rfl) hS hX
  replace hf := hf.2 c_1_0
  by_cases c_1_1 : x1 = 1
  · replace hf := hf.1 c_1_1
    refine lv_tableIn (off := 33) (tgt := 34) hx hb dX0_sizeOf_1 (by rw [c_1_1]; decide) (by rw [c_1_1]; decide) (by rw [c_1_1]; decide) (by decide) ?_
    refine lv_aload_n hx hb dX0_sizeOf_34 rfl (lv_at hl 0 rfl) ?_
    have hbud : 0 + 3 ≤ 3 ∧ 0 + 500 ≤ 500 := ⟨Nat.le_of_ble_eq_true rfl, Nat.le_of_ble_eq_true rfl⟩
    refine x_cast hx hb hown (hts _ q943) (hE.2.2.1.2.2 ("[I", "[S") (by decide)) (by decide) (by decide) hK hP 0 1 3 rfl rfl rfl (va_nmP (ty := .int) (hK.2 1 _ rfl).2 rfl (by decide)) (va_nmP (ty := .short) (hK.2 3 _ rfl).2 rfl (by decide)) dX0_sizeOf_35 (fun tx_ htx_ => ?_)
    refine vm_msg (cls := "java/lang/ClassCastException") (names := ["java/lang/RuntimeException", "java/lang/Exception"]) (text := tx_) (nb := 500) hx (by decide) (by decide) (by decide) (by decide) (atoms_have msg_CC hts hE) hE hfl hP hS hA htx_.1 htx_.2 (by decide) rfl (hl.1.trans hml.symm) (Nat.le_of_ble_eq_true rfl) (Nat.le_of_ble_eq_true rfl) (by decide) hbud (fun x_35 H locs hP hS hX => ?_)
    exact hret x_35 _ _ _ _ _ _ _ (Nat.le_of_ble_eq_true rfl) (Nat.le_of_ble_eq_true rfl) hf (hP.sub [0] rfl) (hD.sub [0] (by decide) rfl) hS hX
  replace hf := hf.2 c_1_1
  by_cases c_1_2 : x1 = 2
  · replace hf := hf.1 c_1_2
    refine lv_tableIn (off := 39) (tgt := 40) hx hb dX0_sizeOf_1 (by rw [c_1_2]; decide) (by rw [c_1_2]; decide) (by rw [c_1_2]; decide) (by decide) ?_
    refine lv_aload_n hx hb dX0_sizeOf_40 rfl (lv_at hl 0 rfl) ?_
    refine va_castA hx hb hown (hts _ q944) hP 0 rfl (va_nmP (ty := .int) (hK.2 1 _ rfl).2 rfl (by decide)) dX0_sizeOf_41 ?_
    refine va_alen (v := (Int32.ofNat rn)) hx hb hK hP 0 1 rfl rfl rfl dX0_sizeOf_44 ?_
    exact hf.elim
  replace hf := hf.2 c_1_2
  have n_0 := sw_no (j := 0) c_1_0 (by decide)
  have n_1 := sw_no (j := 1) c_1_1 (by decide)
  have n_2 := sw_no (j := 2) c_1_2 (by decide)
  refine lv_tableOut (tgt := 46) hx hb dX0_sizeOf_1 (by omega) (by decide) ?_
  refine lv_aload_n hx hb dX0_sizeOf_46 rfl (lv_at hl 0 rfl) ?_
  have hbud : 0 + 3 ≤ 3 ∧ 0 + 500 ≤ 500 := ⟨Nat.le_of_ble_eq_true rfl, Nat.le_of_ble_eq_true rfl⟩
  refine x_cast hx hb hown (hts _ q948) (hE.2.2.1.2.2 ("[I", "[J") (by decide)) (by decide) (by decide) hK hP 0 1 2 rfl rfl rfl (va_nmP (ty := .int) (hK.2 1 _ rfl).2 rfl (by decide)) (va_nmP (ty := .long) (hK.2 2 _ rfl).2 rfl (by decide)) dX0_sizeOf_47 (fun tx_ htx_ => ?_)
  refine vm_msg (cls := "java/lang/ClassCastException") (names := ["java/lang/RuntimeException", "java/lang/Exception"]) (text := tx_) (nb := 500) hx (by decide) (by decide) (by decide) (by decide) (atoms_have msg_CC hts hE) hE hfl hP hS hA htx_.1 htx_.2 (by decide) rfl (hl.1.trans hml.symm) (Nat.le_of_ble_eq_true rfl) (Nat.le_of_ble_eq_true rfl) (by decide) hbud (fun x_47 H locs hP hS hX => ?_)
  exact hret x_47 _ _ _ _ _ _ _ (Nat.le_of_ble_eq_true rfl) (Nat.le_of_ble_eq_true rfl) hf (hP.sub [0] rfl) (hD.sub [0] (by decide) rfl) hS hX
/-! HoleCounty.itemOf(Ljava/lang/Object;II)J -/
abbrev rmX0_itemOf_I : Room := { frames := 0, cells := 0, slots := 0, locals := 0 }
abbrev RX0_itemOf_I_ : Room := (headSpec (ws_ yX0_itemOf cX0_itemOf 3 (some .long)) rmX0_itemOf_I).room
section
variable {p : Program} {l : Launch} {e : Env} {s : State} {m : MethodId} {args : Array Value} {below : List Frame} {meth : Method} {c : Code} {Qw : State → Prop} {dC : Nat → ClassId} {dI : Nat → Nat → Nat} {dA : Nat → ClassId} {eA mi : Nat} {A : Nat → Prop} {ra : Nat}
abbrev hrX0_itemOf_I (p : Program) (l : Launch) (e : Env) (s : State) (m : MethodId) (args : Array Value) (below : List Frame) (meth : Method) (c : Code) (dC : Nat → ClassId) (dI : Nat → Nat → Nat) (dA : Nat → ClassId) (A : Nat → Prop) (ra : Nat) (Qw : State → Prop) (Q : Int64 → Prop) (rn : Nat) (rf : (Nat → Int32)) : Prop := ∀ (r : Int64) (H : Heap) (locs : List Loc) (kc ks : Nat) (pc : Nat) (ls : Array Slot), kc ≤ 0 → ks ≤ 0 → Q r → va_P (dC, dI) vwCl [(ra, .inl (dA 1, rn, .inl rf))] H → va_D A [(ra, .inl (dA 1, rn, .inl rf))] → va_S A s.heap H locs → decode cX0_itemOf pc = .ok (.lreturn, 1) → W p l e RX0_itemOf_I_ s m args below meth c H locs kc ks Qw (F0 m pc ls [.long r])
def wX0_itemOf_I (Q : Int64 → Prop) (rn : Nat) (rf : (Nat → Int32)) (x1 : Int32) (x2 : Int32) : Prop := ((x1 = 0 → False) ∧ (¬ x1 = 0 → ((x1 = 1 → False) ∧ (¬ x1 = 1 → ((x1 = 2 → (vp_in x2 rn ∧ (Q (((rf (x2 : Int32).toNatClampNeg) : Int32).toInt64)))) ∧ (¬ x1 = 2 → False))))))
end
set_option maxHeartbeats 4000000 in
set_option maxRecDepth 100000 in
theorem metX0_itemOf_I (l : Launch) (hfl : l.stackTraces = false) {Q : Int64 → Prop} {rn : Nat} {rf : (Nat → Int32)} {x1 : Int32} {x2 : Int32} {dC : Nat → ClassId} {dI : Nat → Nat → Nat} {dA : Nat → ClassId} {eA mi sz : Nat} {ra : Nat} (hf : wX0_itemOf_I Q rn rf x1 x2) : Met l yX0_itemOf (ws_ yX0_itemOf cX0_itemOf 3 (some .long)) rmX0_itemOf_I (aPc dC dI dA eA mi sz [.ref ra, .int x1, .int x2] [(ra, .inl (dA 1, rn, .inl rf))]) (va_Ql (fun (r : Int64) (u : Unit) => Q r) (aB dC dI [(ra, .inl (dA 1, rn, .inl rf))] sz (fun u => [(ra, .inl (dA 1, rn, .inl rf))])) (va_A [(ra, .inl (dA 1, rn, .inl rf))] sz)) 0 0 (va_A [(ra, .inl (dA 1, rn, .inl rf))] sz) := by
  refine Met.ofW (cc := cX0_itemOf) (maxL := 3) (ret := (some .long)) (by decide) rfl ?_
  intro p e s m args below meth c s₁ B hml hv
  obtain ⟨rfl, hsz, hP, hK, hD0, hE⟩ := hv
  subst hsz
  have hx := B.exec
  have hb := B.bytes
  have hr := B.returns
  have hts := atoms_spec (ws := (ws_ yX0_itemOf cX0_itemOf 3 (some .long))) B.pre
  have hts : ∀ w ∈ lw_all, w.before _ s = true := fun w h => hts w (List.mem_cons_of_mem _ h)
  have hown : s.vm.findClass RX0 = some m.cls := findClass_of_methodNamed B.named
  have hlocks := B.notSynchronized
  have S : CallFix p m c cX0_itemOf 3 s _ lw_all RX0 := ⟨hx, hb, hml, hown, hts⟩
  have hD := hD0.self (sz := s.heap.size)
  have hA : ∀ q : Nat, s.heap.size ≤ q → va_A [(ra, .inl (dA 1, rn, .inl rf))] s.heap.size q := fun q h => Or.inr h
  have hS : va_S (va_A [(ra, .inl (dA 1, rn, .inl rf))] s.heap.size) s.heap s.heap [] := va_S.rf
  have hl := lv_entry ([.ref ra, .int x1, .int x2]) (n := 3) (Nat.le_of_ble_eq_true rfl)
  rw [lg_entry_eq]
  generalize (lg_sl ([.ref ra, .int x1, .int x2]) ++ List.replicate (3 - (lg_sl ([.ref ra, .int x1, .int x2])).length) Slot.unset).toArray = ls at hl ⊢
  replace hl : lv_has ls 3 [(0, .ref ra), (1, .int x1), (2, .int x2)] := hl
  have hret : hrX0_itemOf_I p l e s m ([.ref ra, .int x1, .int x2] : List Value).toArray below meth c dC dI dA (va_A [(ra, .inl (dA 1, rn, .inl rf))] s.heap.size) ra (MQ below (va_Ql (fun (r : Int64) (u : Unit) => Q r) (aB dC dI [(ra, .inl (dA 1, rn, .inl rf))] s.heap.size (fun u => [(ra, .inl (dA 1, rn, .inl rf))])) (va_A [(ra, .inl (dA 1, rn, .inl rf))] s.heap.size)) ([.ref ra, .int x1, .int x2] : List Value).toArray s 0 0 (va_A [(ra, .inl (dA 1, rn, .inl rf))] s.heap.size)) Q rn rf := fun r H locs kc ks pc ls h1 h2 hq hP hD hS hd => W.widen (k := 0) (n := 0) h1 h2 (W.lret hx hb hr (fun t ht hW => ⟨⟨r, (), rfl, hq, by subst ht; exact ⟨hP, hD⟩⟩, hS.F ht⟩) hS.2.2 hd)
  generalize hAe : va_A [(ra, .inl (dA 1, rn, .inl rf))] s.heap.size = A at hD hA hS hE hret ⊢
  clear hAe
  unfold wX0_itemOf_I at hf
  refine lv_iload_n hx hb dX0_itemOf_0 rfl (lv_at hl 1 rfl) ?_
  by_cases c_1_0 : x1 = 0
  · replace hf := hf.1 c_1_0
    refine lv_tableIn (off := 27) (tgt := 28) hx hb dX0_itemOf_1 (by rw [c_1_0]; decide) (by rw [c_1_0]; decide) (by rw [c_1_0]; decide) (by decide) ?_
    refine lv_aload_n hx hb dX0_itemOf_28 rfl (lv_at hl 0 rfl) ?_
    exact hf.elim
  replace hf := hf.2 c_1_0
  by_cases c_1_1 : x1 = 1
  · replace hf := hf.1 c_1_1
    refine lv_tableIn (off := 35) (tgt := 36) hx hb dX0_itemOf_1 (by rw [c_1_1]; decide) (by rw [c_1_1]; decide) (by rw [c_1_1]; decide) (by decide) ?_
    refine lv_aload_n hx hb dX0_itemOf_36 rfl (lv_at hl 0 rfl) ?_
    exact hf.elim
  replace hf := hf.2 c_1_1
  by_cases c_1_2 : x1 = 2
  · replace hf := hf.1 c_1_2
    refine lv_tableIn (off := 43) (tgt := 44) hx hb dX0_itemOf_1 (by rw [c_1_2]; decide) (by rw [c_1_2]; decide) (by rw [c_1_2]; decide) (by decide) ?_
    refine lv_aload_n hx hb dX0_itemOf_44 rfl (lv_at hl 0 rfl) ?_
    refine va_castA hx hb hown (hts _ q944) hP 0 rfl (va_nmP (ty := .int) (hK.2 1 _ rfl).2 rfl (by decide)) dX0_itemOf_45 ?_
    refine lv_iload_n hx hb dX0_itemOf_48 rfl (lv_at hl 2 rfl) ?_
    obtain ⟨hin, hf⟩ := hf
    refine va_iald hx hb hK hP 0 1 rfl rfl hin dX0_itemOf_49 ?_
    refine lv_i2l (v := ((rf (x2 : Int32).toNatClampNeg) : Int32).toInt64) hx hb dX0_itemOf_50 rfl ?_
    exact hret _ _ _ _ _ _ _ (Nat.zero_le _) (Nat.zero_le _) hf (hP.sub [0] rfl) (hD.sub [0] (by decide) rfl) hS dX0_itemOf_51
  replace hf := hf.2 c_1_2
  have n_0 := sw_no (j := 0) c_1_0 (by decide)
  have n_1 := sw_no (j := 1) c_1_1 (by decide)
  have n_2 := sw_no (j := 2) c_1_2 (by decide)
  refine lv_tableOut (tgt := 52) hx hb dX0_itemOf_1 (by omega) (by decide) ?_
  refine lv_aload_n hx hb dX0_itemOf_52 rfl (lv_at hl 0 rfl) ?_
  exact hf.elim
/-! HoleCounty.laneOf(Ljava/lang/Object;)I -/
abbrev rmX0_laneOf_I : Room := { frames := 0, cells := 0, slots := 0, locals := 0 }
abbrev RX0_laneOf_I_ : Room := (headSpec (ws_ yX0_laneOf cX0_laneOf 1 (some .int)) rmX0_laneOf_I).room
section
variable {p : Program} {l : Launch} {e : Env} {s : State} {m : MethodId} {args : Array Value} {below : List Frame} {meth : Method} {c : Code} {Qw : State → Prop} {dC : Nat → ClassId} {dI : Nat → Nat → Nat} {dA : Nat → ClassId} {eA mi : Nat} {A : Nat → Prop} {ra : Nat}
abbrev hrX0_laneOf_I (p : Program) (l : Launch) (e : Env) (s : State) (m : MethodId) (args : Array Value) (below : List Frame) (meth : Method) (c : Code) (dC : Nat → ClassId) (dI : Nat → Nat → Nat) (dA : Nat → ClassId) (A : Nat → Prop) (ra : Nat) (Qw : State → Prop) (Q : Int32 → Prop) (rn : Nat) (rf : (Nat → Int32)) : Prop := ∀ (r : Int32) (H : Heap) (locs : List Loc) (kc ks : Nat) (pc : Nat) (ls : Array Slot), kc ≤ 0 → ks ≤ 0 → Q r → va_P (dC, dI) vwCl [(ra, .inl (dA 1, rn, .inl rf))] H → va_D A [(ra, .inl (dA 1, rn, .inl rf))] → va_S A s.heap H locs → decode cX0_laneOf pc = .ok (.ireturn, 1) → W p l e RX0_laneOf_I_ s m args below meth c H locs kc ks Qw (F0 m pc ls [.int r])
def wX0_laneOf_I (Q : Int32 → Prop) : Prop := (((0 : Int32) = 0 → (((0 : Int32) = 0 → (((1 : Int32) = 0 → (Q 3)) ∧ (¬ (1 : Int32) = 0 → (Q 2)))) ∧ (¬ (0 : Int32) = 0 → (Q 1)))) ∧ (¬ (0 : Int32) = 0 → (Q 0)))
end
set_option maxHeartbeats 4000000 in
set_option maxRecDepth 100000 in
theorem metX0_laneOf_I (l : Launch) (hfl : l.stackTraces = false) {Q : Int32 → Prop} {rn : Nat} {rf : (Nat → Int32)} {dC : Nat → ClassId} {dI : Nat → Nat → Nat} {dA : Nat → ClassId} {eA mi sz : Nat} {ra : Nat} (hf : wX0_laneOf_I Q) : Met l yX0_laneOf (ws_ yX0_laneOf cX0_laneOf 1 (some .int)) rmX0_laneOf_I (aPc dC dI dA eA mi sz [.ref ra] [(ra, .inl (dA 1, rn, .inl rf))]) (va_Qi (fun (r : Int32) (u : Unit) => Q r) (aB dC dI [(ra, .inl (dA 1, rn, .inl rf))] sz (fun u => [(ra, .inl (dA 1, rn, .inl rf))])) (va_A [(ra, .inl (dA 1, rn, .inl rf))] sz)) 0 0 (va_A [(ra, .inl (dA 1, rn, .inl rf))] sz) := by
  refine Met.ofW (cc := cX0_laneOf) (maxL := 1) (ret := (some .int)) (by decide) rfl ?_
  intro p e s m args below meth c s₁ B hml hv
  obtain ⟨rfl, hsz, hP, hK, hD0, hE⟩ := hv
  subst hsz
  have hx := B.exec
  have hb := B.bytes
  have hr := B.returns
  have hts := atoms_spec (ws := (ws_ yX0_laneOf cX0_laneOf 1 (some .int))) B.pre
  have hts : ∀ w ∈ lw_all, w.before _ s = true := fun w h => hts w (List.mem_cons_of_mem _ h)
  have hown : s.vm.findClass RX0 = some m.cls := findClass_of_methodNamed B.named
  have hlocks := B.notSynchronized
  have S : CallFix p m c cX0_laneOf 1 s _ lw_all RX0 := ⟨hx, hb, hml, hown, hts⟩
  have hD := hD0.self (sz := s.heap.size)
  have hA : ∀ q : Nat, s.heap.size ≤ q → va_A [(ra, .inl (dA 1, rn, .inl rf))] s.heap.size q := fun q h => Or.inr h
  have hS : va_S (va_A [(ra, .inl (dA 1, rn, .inl rf))] s.heap.size) s.heap s.heap [] := va_S.rf
  have hl := lv_entry ([.ref ra]) (n := 1) (Nat.le_of_ble_eq_true rfl)
  rw [lg_entry_eq]
  generalize (lg_sl ([.ref ra]) ++ List.replicate (1 - (lg_sl ([.ref ra])).length) Slot.unset).toArray = ls at hl ⊢
  replace hl : lv_has ls 1 [(0, .ref ra)] := hl
  have hret : hrX0_laneOf_I p l e s m ([.ref ra] : List Value).toArray below meth c dC dI dA (va_A [(ra, .inl (dA 1, rn, .inl rf))] s.heap.size) ra (MQ below (va_Qi (fun (r : Int32) (u : Unit) => Q r) (aB dC dI [(ra, .inl (dA 1, rn, .inl rf))] s.heap.size (fun u => [(ra, .inl (dA 1, rn, .inl rf))])) (va_A [(ra, .inl (dA 1, rn, .inl rf))] s.heap.size)) ([.ref ra] : List Value).toArray s 0 0 (va_A [(ra, .inl (dA 1, rn, .inl rf))] s.heap.size)) Q rn rf := fun r H locs kc ks pc ls h1 h2 hq hP hD hS hd => W.widen (k := 0) (n := 0) h1 h2 (W.iret hx hb hr (fun t ht hW => ⟨⟨r, (), rfl, hq, by subst ht; exact ⟨hP, hD⟩⟩, hS.F ht⟩) hS.2.2 hd)
  generalize hAe : va_A [(ra, .inl (dA 1, rn, .inl rf))] s.heap.size = A at hD hA hS hE hret ⊢
  clear hAe
  unfold wX0_laneOf_I at hf
  refine lv_aload_n hx hb dX0_laneOf_0 rfl (lv_at hl 0 rfl) ?_
  refine va_instNo (C := "[I") hx hb hown (hts _ q942) (hE.2.2.1.2.2 ("[I", "[B") (by decide)) (arr_recv hP 0 rfl (va_nmP (ty := .int) (hK.2 1 _ rfl).2 rfl (by decide))) dX0_laneOf_1 ?_
  refine lv_if_eq (tgt := 11) hx hb dX0_laneOf_4 (by decide) (fun c_4 => ?_) (fun c_4 => ?_)
  · replace hf := hf.1 c_4
    refine lv_aload_n hx hb dX0_laneOf_11 rfl (lv_at hl 0 rfl) ?_
    refine va_instNo (C := "[I") hx hb hown (hts _ q943) (hE.2.2.1.2.2 ("[I", "[S") (by decide)) (arr_recv hP 0 rfl (va_nmP (ty := .int) (hK.2 1 _ rfl).2 rfl (by decide))) dX0_laneOf_12 ?_
    refine lv_if_eq (tgt := 22) hx hb dX0_laneOf_15 (by decide) (fun c_15 => ?_) (fun c_15 => ?_)
    · replace hf := hf.1 c_15
      refine lv_aload_n hx hb dX0_laneOf_22 rfl (lv_at hl 0 rfl) ?_
      refine va_instE hx hb hown (hts _ q944) (arr_recv hP 0 rfl (va_nmP (ty := .int) (hK.2 1 _ rfl).2 rfl (by decide))) dX0_laneOf_23 ?_
      refine lv_if_eq (tgt := 33) hx hb dX0_laneOf_26 (by decide) (fun c_26 => ?_) (fun c_26 => ?_)
      · replace hf := hf.1 c_26
        refine lv_iconst (v := 3) hx hb dX0_laneOf_33 (by decide) ?_
        exact hret _ _ _ _ _ _ _ (Nat.zero_le _) (Nat.zero_le _) hf (hP.sub [0] rfl) (hD.sub [0] (by decide) rfl) hS dX0_laneOf_34
      · replace hf := hf.2 c_26
        refine lv_iconst (v := 2) hx hb dX0_laneOf_29 (by decide) ?_
        refine lv_goto (tgt := 34) hx hb dX0_laneOf_30 (by decide) ?_
        exact hret _ _ _ _ _ _ _ (Nat.zero_le _) (Nat.zero_le _) hf (hP.sub [0] rfl) (hD.sub [0] (by decide) rfl) hS dX0_laneOf_34
    · replace hf := hf.2 c_15
      refine lv_iconst (v := 1) hx hb dX0_laneOf_18 (by decide) ?_
      refine lv_goto (tgt := 34) hx hb dX0_laneOf_19 (by decide) ?_
      exact hret _ _ _ _ _ _ _ (Nat.zero_le _) (Nat.zero_le _) hf (hP.sub [0] rfl) (hD.sub [0] (by decide) rfl) hS dX0_laneOf_34
  · replace hf := hf.2 c_4
    refine lv_iconst (v := 0) hx hb dX0_laneOf_7 (by decide) ?_
    refine lv_goto (tgt := 34) hx hb dX0_laneOf_8 (by decide) ?_
    exact hret _ _ _ _ _ _ _ (Nat.zero_le _) (Nat.zero_le _) hf (hP.sub [0] rfl) (hD.sub [0] (by decide) rfl) hS dX0_laneOf_34
/-! HoleCounty.puts(Ljava/lang/Object;IIJ)V -/
abbrev rmX0_puts_I : Room := { frames := 0, cells := 0, slots := 0, locals := 0 }
abbrev RX0_puts_I_ : Room := (headSpec (ws_ yX0_puts cX0_puts 5 none) rmX0_puts_I).room
section
variable {p : Program} {l : Launch} {e : Env} {s : State} {m : MethodId} {args : Array Value} {below : List Frame} {meth : Method} {c : Code} {Qw : State → Prop} {dC : Nat → ClassId} {dI : Nat → Nat → Nat} {dA : Nat → ClassId} {eA mi : Nat} {A : Nat → Prop} {ra : Nat}
abbrev hrX0_puts_I (p : Program) (l : Launch) (e : Env) (s : State) (m : MethodId) (args : Array Value) (below : List Frame) (meth : Method) (c : Code) (dC : Nat → ClassId) (dI : Nat → Nat → Nat) (dA : Nat → ClassId) (A : Nat → Prop) (ra : Nat) (Qw : State → Prop) (Q : (Nat → Int32) → Prop) (rn : Nat) : Prop := ∀ (rf : (Nat → Int32)) (H : Heap) (locs : List Loc) (kc ks : Nat) (pc : Nat) (ls : Array Slot), kc ≤ 0 → ks ≤ 0 → Q rf → va_P (dC, dI) vwCl [(ra, .inl (dA 1, rn, .inl rf))] H → va_D A [(ra, .inl (dA 1, rn, .inl rf))] → va_S A s.heap H locs → decode cX0_puts pc = .ok (.return_, 1) → W p l e RX0_puts_I_ s m args below meth c H locs kc ks Qw (F0 m pc ls [])
def wX0_puts_I (Q : (Nat → Int32) → Prop) (rn : Nat) (rf : (Nat → Int32)) (x1 : Int32) (x2 : Int32) (x3 : Int64) : Prop := ((x1 = 0 → False) ∧ (¬ x1 = 0 → ((x1 = 1 → False) ∧ (¬ x1 = 1 → ((x1 = 2 → (vp_in x2 rn ∧ (∀ rf_45 : Nat → Int32, rf_45 = upd rf (x2 : Int32).toNatClampNeg ((x3 : Int64).toInt32) → (Q rf_45)))) ∧ (¬ x1 = 2 → False))))))
end
set_option maxHeartbeats 4000000 in
set_option maxRecDepth 100000 in
theorem metX0_puts_I (l : Launch) (hfl : l.stackTraces = false) {Q : (Nat → Int32) → Prop} {rn : Nat} {rf : (Nat → Int32)} {x1 : Int32} {x2 : Int32} {x3 : Int64} {dC : Nat → ClassId} {dI : Nat → Nat → Nat} {dA : Nat → ClassId} {eA mi sz : Nat} {ra : Nat} (hf : wX0_puts_I Q rn rf x1 x2 x3) : Met l yX0_puts (ws_ yX0_puts cX0_puts 5 none) rmX0_puts_I (aPc dC dI dA eA mi sz [.ref ra, .int x1, .int x2, .long x3] [(ra, .inl (dA 1, rn, .inl rf))]) (va_Qv (fun (u : (Nat → Int32)) => Q u) (aB dC dI [(ra, .inl (dA 1, rn, .inl rf))] sz (fun u => [(ra, .inl (dA 1, rn, .inl u))])) (va_A [(ra, .inl (dA 1, rn, .inl rf))] sz)) 0 0 (va_A [(ra, .inl (dA 1, rn, .inl rf))] sz) := by
  refine Met.ofW (cc := cX0_puts) (maxL := 5) (ret := none) (by decide) rfl ?_
  intro p e s m args below meth c s₁ B hml hv
  obtain ⟨rfl, hsz, hP, hK, hD0, hE⟩ := hv
  subst hsz
  have hx := B.exec
  have hb := B.bytes
  have hr := B.returns
  have hts := atoms_spec (ws := (ws_ yX0_puts cX0_puts 5 none)) B.pre
  have hts : ∀ w ∈ lw_all, w.before _ s = true := fun w h => hts w (List.mem_cons_of_mem _ h)
  have hown : s.vm.findClass RX0 = some m.cls := findClass_of_methodNamed B.named
  have hlocks := B.notSynchronized
  have S : CallFix p m c cX0_puts 5 s _ lw_all RX0 := ⟨hx, hb, hml, hown, hts⟩
  have hD := hD0.self (sz := s.heap.size)
  have hA : ∀ q : Nat, s.heap.size ≤ q → va_A [(ra, .inl (dA 1, rn, .inl rf))] s.heap.size q := fun q h => Or.inr h
  have hS : va_S (va_A [(ra, .inl (dA 1, rn, .inl rf))] s.heap.size) s.heap s.heap [] := va_S.rf
  have hl := lv_entry ([.ref ra, .int x1, .int x2, .long x3]) (n := 5) (Nat.le_of_ble_eq_true rfl)
  rw [lg_entry_eq]
  generalize (lg_sl ([.ref ra, .int x1, .int x2, .long x3]) ++ List.replicate (5 - (lg_sl ([.ref ra, .int x1, .int x2, .long x3])).length) Slot.unset).toArray = ls at hl ⊢
  replace hl : lv_has ls 5 [(0, .ref ra), (1, .int x1), (2, .int x2), (3, .long x3)] := hl
  have hret : hrX0_puts_I p l e s m ([.ref ra, .int x1, .int x2, .long x3] : List Value).toArray below meth c dC dI dA (va_A [(ra, .inl (dA 1, rn, .inl rf))] s.heap.size) ra (MQ below (va_Qv (fun (u : (Nat → Int32)) => Q u) (aB dC dI [(ra, .inl (dA 1, rn, .inl rf))] s.heap.size (fun u => [(ra, .inl (dA 1, rn, .inl u))])) (va_A [(ra, .inl (dA 1, rn, .inl rf))] s.heap.size)) ([.ref ra, .int x1, .int x2, .long x3] : List Value).toArray s 0 0 (va_A [(ra, .inl (dA 1, rn, .inl rf))] s.heap.size)) Q rn := fun rf H locs kc ks pc ls h1 h2 hq hP hD hS hd => W.widen (k := 0) (n := 0) h1 h2 (W.vret hx hb hr (fun t ht hW => ⟨⟨rf, rfl, hq, by subst ht; exact ⟨hP, hD⟩⟩, hS.F ht⟩) hS.2.2 hd)
  generalize hAe : va_A [(ra, .inl (dA 1, rn, .inl rf))] s.heap.size = A at hD hA hS hE hret ⊢
  clear hAe
  unfold wX0_puts_I at hf
  refine lv_iload_n hx hb dX0_puts_0 rfl (lv_at hl 1 rfl) ?_
  refine lv_if_ne (tgt := 16) hx hb dX0_puts_1 (by decide) (fun c_1 => ?_) (fun c_1 => ?_)
  · replace hf := hf.2 c_1
    refine lv_iload_n hx hb dX0_puts_16 rfl (lv_at hl 1 rfl) ?_
    refine lv_iconst (v := 1) hx hb dX0_puts_17 (by decide) ?_
    refine lv_icmp_ne (tgt := 33) hx hb dX0_puts_18 (by decide) (fun c_18 => ?_) (fun c_18 => ?_)
    · replace hf := hf.2 c_18
      refine lv_iload_n hx hb dX0_puts_33 rfl (lv_at hl 1 rfl) ?_
      refine lv_iconst (v := 2) hx hb dX0_puts_34 (by decide) ?_
      refine lv_icmp_ne (tgt := 49) hx hb dX0_puts_35 (by decide) (fun c_35 => ?_) (fun c_35 => ?_)
      · replace hf := hf.2 c_35
        refine lv_aload_n hx hb dX0_puts_49 rfl (lv_at hl 0 rfl) ?_
        exact hf.elim
      · replace hf := hf.1 c_35
        refine lv_aload_n hx hb dX0_puts_38 rfl (lv_at hl 0 rfl) ?_
        refine va_castA hx hb hown (hts _ q944) hP 0 rfl (va_nmP (ty := .int) (hK.2 1 _ rfl).2 rfl (by decide)) dX0_puts_39 ?_
        refine lv_iload_n hx hb dX0_puts_42 rfl (lv_at hl 2 rfl) ?_
        refine lv_lload_n hx hb dX0_puts_43 rfl (lv_at hl 3 rfl) ?_
        refine lv_l2i (v := (x3 : Int64).toInt32) hx hb dX0_puts_44 rfl ?_
        obtain ⟨hin_, hf⟩ := hf
        obtain ⟨rf_45, erf_45⟩ : ∃ z : Nat → Int32, z = upd rf (x2 : Int32).toNatClampNeg ((x3 : Int64).toInt32) := ⟨_, rfl⟩
        replace hf := hf rf_45 erf_45
        refine va_iast hx hb hK hP hD hS 0 1 rfl rfl hin_ dX0_puts_45 (fun H locs hP hD hS => ?_)
        rw [← erf_45] at hP hD
        replace hP : va_P (dC, dI) vwCl [(ra, .inl (dA 1, rn, .inl rf_45))] H := hP
        replace hD : va_D A [(ra, .inl (dA 1, rn, .inl rf_45))] := hD
        refine lv_goto (tgt := 56) hx hb dX0_puts_46 (by decide) ?_
        exact hret _ _ _ _ _ _ _ (Nat.zero_le _) (Nat.zero_le _) hf (hP.sub [0] rfl) (hD.sub [0] (by decide) rfl) hS dX0_puts_56
    · replace hf := hf.1 c_18
      refine lv_aload_n hx hb dX0_puts_21 rfl (lv_at hl 0 rfl) ?_
      exact hf.elim
  · replace hf := hf.1 c_1
    refine lv_aload_n hx hb dX0_puts_4 rfl (lv_at hl 0 rfl) ?_
    exact hf.elim
/-! HoleCounty.puts(Ljava/lang/Object;IIJ)V: it throws java/lang/ClassCastException -/
abbrev rmX0_puts_I_cc : Room := { frames := 8, cells := 3, slots := 500, locals := 10260 }
abbrev RX0_puts_I_cc_ : Room := (headSpec (ws_ yX0_puts cX0_puts 5 none) rmX0_puts_I_cc).room
section
variable {p : Program} {l : Launch} {e : Env} {s : State} {m : MethodId} {args : Array Value} {below : List Frame} {meth : Method} {c : Code} {Qw : State → Prop} {dC : Nat → ClassId} {dI : Nat → Nat → Nat} {dA : Nat → ClassId} {eA mi : Nat} {A : Nat → Prop} {ra : Nat}
abbrev hrX0_puts_I_cc (p : Program) (l : Launch) (e : Env) (s : State) (m : MethodId) (args : Array Value) (below : List Frame) (meth : Method) (c : Code) (dC : Nat → ClassId) (dI : Nat → Nat → Nat) (dA : Nat → ClassId) (A : Nat → Prop) (ra : Nat) (Qw : State → Prop) (Q : Prop) (rn : Nat) (rf : (Nat → Int32)) : Prop := ∀ (xa : Nat) (H : Heap) (locs : List Loc) (kc ks : Nat) (pc : Nat) (ls : Array Slot) (rest : List Value), kc ≤ 3 → ks ≤ 500 → Q → va_P (dC, dI) vwCl [(ra, .inl (dA 1, rn, .inl rf))] H → va_D A [(ra, .inl (dA 1, rn, .inl rf))] → va_S A s.heap H locs → exc "java/lang/ClassCastException" xa s H → WT p l e RX0_puts_I_cc_ s m args below meth c H locs kc ks Qw (F0 m pc ls rest) xa
def wX0_puts_I_cc (Q : Prop) (x1 : Int32) (x2 : Int32) (x3 : Int64) : Prop := ((x1 = 0 → Q) ∧ (¬ x1 = 0 → ((x1 = 1 → Q) ∧ (¬ x1 = 1 → ((x1 = 2 → False) ∧ (¬ x1 = 2 → Q))))))
end
set_option maxHeartbeats 4000000 in
set_option maxRecDepth 100000 in
theorem metX0_puts_I_cc (l : Launch) (hfl : l.stackTraces = false) {Q : Prop} {rn : Nat} {rf : (Nat → Int32)} {x1 : Int32} {x2 : Int32} {x3 : Int64} {dC : Nat → ClassId} {dI : Nat → Nat → Nat} {dA : Nat → ClassId} {eA mi sz : Nat} {ra : Nat} (hf : wX0_puts_I_cc Q x1 x2 x3) : MetT l yX0_puts (ws_ yX0_puts cX0_puts 5 none) rmX0_puts_I_cc (aPc dC dI dA eA mi sz [.ref ra, .int x1, .int x2, .long x3] [(ra, .inl (dA 1, rn, .inl rf))]) (va_Qt (fun (u : Unit) => Q) (aBt dC dI [(ra, .inl (dA 1, rn, .inl rf))] sz (fun (u : Unit) (xa : Nat) => [(ra, .inl (dA 1, rn, .inl rf))]) (fun _ => "java/lang/ClassCastException")) (va_A [(ra, .inl (dA 1, rn, .inl rf))] sz)) 3 500 (va_A [(ra, .inl (dA 1, rn, .inl rf))] sz) := by
  refine MetT.ofW (cc := cX0_puts) (maxL := 5) (ret := none) (by decide) rfl ?_
  intro p e s m args below meth c s₁ B hml hempty hv
  obtain ⟨rfl, hsz, hP, hK, hD0, hE⟩ := hv
  subst hsz
  have hx := B.exec
  have hb := B.bytes
  have hr := B.returns
  have hts := atoms_spec (ws := (ws_ yX0_puts cX0_puts 5 none)) B.pre
  have hts : ∀ w ∈ lw_all, w.before _ s = true := fun w h => hts w (List.mem_cons_of_mem _ h)
  have hown : s.vm.findClass RX0 = some m.cls := findClass_of_methodNamed B.named
  have hlocks := B.notSynchronized
  have S : CallFix p m c cX0_puts 5 s _ lw_all RX0 := ⟨hx, hb, hml, hown, hts⟩
  have hD := hD0.self (sz := s.heap.size)
  have hA : ∀ q : Nat, s.heap.size ≤ q → va_A [(ra, .inl (dA 1, rn, .inl rf))] s.heap.size q := fun q h => Or.inr h
  have hS : va_S (va_A [(ra, .inl (dA 1, rn, .inl rf))] s.heap.size) s.heap s.heap [] := va_S.rf
  have hl := lv_entry ([.ref ra, .int x1, .int x2, .long x3]) (n := 5) (Nat.le_of_ble_eq_true rfl)
  rw [lg_entry_eq]
  generalize (lg_sl ([.ref ra, .int x1, .int x2, .long x3]) ++ List.replicate (5 - (lg_sl ([.ref ra, .int x1, .int x2, .long x3])).length) Slot.unset).toArray = ls at hl ⊢
  replace hl : lv_has ls 5 [(0, .ref ra), (1, .int x1), (2, .int x2), (3, .long x3)] := hl
  have hret : hrX0_puts_I_cc p l e s m ([.ref ra, .int x1, .int x2, .long x3] : List Value).toArray below meth c dC dI dA (va_A [(ra, .inl (dA 1, rn, .inl rf))] s.heap.size) ra (TQ below (va_Qt (fun (u : Unit) => Q) (aBt dC dI [(ra, .inl (dA 1, rn, .inl rf))] s.heap.size (fun (u : Unit) (xa : Nat) => [(ra, .inl (dA 1, rn, .inl rf))]) (fun _ => "java/lang/ClassCastException")) (va_A [(ra, .inl (dA 1, rn, .inl rf))] s.heap.size)) ([.ref ra, .int x1, .int x2, .long x3] : List Value).toArray s 3 500 (va_A [(ra, .inl (dA 1, rn, .inl rf))] s.heap.size)) Q rn rf := fun xa H locs kc ks pc ls rest h1 h2 hq hP hD hS hX => WT.widen (k := 3) (n := 500) h1 h2 (WT.out (fun t ht hW => ⟨⟨(), xa, rfl, hq, ⟨by subst ht; exact ⟨hP, hD⟩, hX.at ht hW⟩⟩, hS.F ht⟩) hS.2.2 (fun y hy => by rw [hempty] at hy; exact absurd hy (by simp)) hlocks)
  generalize hAe : va_A [(ra, .inl (dA 1, rn, .inl rf))] s.heap.size = A at hD hA hS hE hret ⊢
  clear hAe
  unfold wX0_puts_I_cc at hf
  refine lv_iload_n hx hb dX0_puts_0 rfl (lv_at hl 1 rfl) ?_
  refine lv_if_ne (tgt := 16) hx hb dX0_puts_1 (by decide) (fun c_1 => ?_) (fun c_1 => ?_)
  · replace hf := hf.2 c_1
    refine lv_iload_n hx hb dX0_puts_16 rfl (lv_at hl 1 rfl) ?_
    refine lv_iconst (v := 1) hx hb dX0_puts_17 (by decide) ?_
    refine lv_icmp_ne (tgt := 33) hx hb dX0_puts_18 (by decide) (fun c_18 => ?_) (fun c_18 => ?_)
    · replace hf := hf.2 c_18
      refine lv_iload_n hx hb dX0_puts_33 rfl (lv_at hl 1 rfl) ?_
      refine lv_iconst (v := 2) hx hb dX0_puts_34 (by decide) ?_
      refine lv_icmp_ne (tgt := 49) hx hb dX0_puts_35 (by decide) (fun c_35 => ?_) (fun c_35 => ?_)
      · replace hf := hf.2 c_35
        refine lv_aload_n hx hb dX0_puts_49 rfl (lv_at hl 0 rfl) ?_
        have hbud : 0 + 3 ≤ 3 ∧ 0 + 500 ≤ 500 := ⟨Nat.le_of_ble_eq_true rfl, Nat.le_of_ble_eq_true rfl⟩
        refine x_cast hx hb hown (hts _ q948) (hE.2.2.1.2.2 ("[I", "[J") (by decide)) (by decide) (by decide) hK hP 0 1 2 rfl rfl rfl (va_nmP (ty := .int) (hK.2 1 _ rfl).2 rfl (by decide)) (va_nmP (ty := .long) (hK.2 2 _ rfl).2 rfl (by decide)) dX0_puts_50 (fun tx_ htx_ => ?_)
        refine vm_msg (cls := "java/lang/ClassCastException") (names := ["java/lang/RuntimeException", "java/lang/Exception"]) (text := tx_) (nb := 500) hx (by decide) (by decide) (by decide) (by decide) (atoms_have msg_CC hts hE) hE hfl hP hS hA htx_.1 htx_.2 (by decide) rfl (hl.1.trans hml.symm) (Nat.le_of_ble_eq_true rfl) (Nat.le_of_ble_eq_true rfl) (by decide) hbud (fun x_50 H locs hP hS hX => ?_)
        exact hret x_50 _ _ _ _ _ _ _ (Nat.le_of_ble_eq_true rfl) (Nat.le_of_ble_eq_true rfl) hf (hP.sub [0] rfl) (hD.sub [0] (by decide) rfl) hS hX
      · replace hf := hf.1 c_35
        refine lv_aload_n hx hb dX0_puts_38 rfl (lv_at hl 0 rfl) ?_
        refine va_castA hx hb hown (hts _ q944) hP 0 rfl (va_nmP (ty := .int) (hK.2 1 _ rfl).2 rfl (by decide)) dX0_puts_39 ?_
        refine lv_iload_n hx hb dX0_puts_42 rfl (lv_at hl 2 rfl) ?_
        refine lv_lload_n hx hb dX0_puts_43 rfl (lv_at hl 3 rfl) ?_
        refine lv_l2i (v := (x3 : Int64).toInt32) hx hb dX0_puts_44 rfl ?_
        exact hf.elim
    · replace hf := hf.1 c_18
      refine lv_aload_n hx hb dX0_puts_21 rfl (lv_at hl 0 rfl) ?_
      have hbud : 0 + 3 ≤ 3 ∧ 0 + 500 ≤ 500 := ⟨Nat.le_of_ble_eq_true rfl, Nat.le_of_ble_eq_true rfl⟩
      refine x_cast hx hb hown (hts _ q943) (hE.2.2.1.2.2 ("[I", "[S") (by decide)) (by decide) (by decide) hK hP 0 1 3 rfl rfl rfl (va_nmP (ty := .int) (hK.2 1 _ rfl).2 rfl (by decide)) (va_nmP (ty := .short) (hK.2 3 _ rfl).2 rfl (by decide)) dX0_puts_22 (fun tx_ htx_ => ?_)
      refine vm_msg (cls := "java/lang/ClassCastException") (names := ["java/lang/RuntimeException", "java/lang/Exception"]) (text := tx_) (nb := 500) hx (by decide) (by decide) (by decide) (by decide) (atoms_have msg_CC hts hE) hE hfl hP hS hA htx_.1 htx_.2 (by decide) rfl (hl.1.trans hml.symm) (Nat.le_of_ble_eq_true rfl) (Nat.le_of_ble_eq_true rfl) (by decide) hbud (fun x_22 H locs hP hS hX => ?_)
      exact hret x_22 _ _ _ _ _ _ _ (Nat.le_of_ble_eq_true rfl) (Nat.le_of_ble_eq_true rfl) hf (hP.sub [0] rfl) (hD.sub [0] (by decide) rfl) hS hX
  · replace hf := hf.1 c_1
    refine lv_aload_n hx hb dX0_puts_4 rfl (lv_at hl 0 rfl) ?_
    have hbud : 0 + 3 ≤ 3 ∧ 0 + 500 ≤ 500 := ⟨Nat.le_of_ble_eq_true rfl, Nat.le_of_ble_eq_true rfl⟩
    refine x_cast hx hb hown (hts _ q942) (hE.2.2.1.2.2 ("[I", "[B") (by decide)) (by decide) (by decide) hK hP 0 1 0 rfl rfl rfl (va_nmP (ty := .int) (hK.2 1 _ rfl).2 rfl (by decide)) (va_nmP (ty := .byte) (hK.2 0 _ rfl).2 rfl (by decide)) dX0_puts_5 (fun tx_ htx_ => ?_)
    refine vm_msg (cls := "java/lang/ClassCastException") (names := ["java/lang/RuntimeException", "java/lang/Exception"]) (text := tx_) (nb := 500) hx (by decide) (by decide) (by decide) (by decide) (atoms_have msg_CC hts hE) hE hfl hP hS hA htx_.1 htx_.2 (by decide) rfl (hl.1.trans hml.symm) (Nat.le_of_ble_eq_true rfl) (Nat.le_of_ble_eq_true rfl) (by decide) hbud (fun x_5 H locs hP hS hX => ?_)
    exact hret x_5 _ _ _ _ _ _ _ (Nat.le_of_ble_eq_true rfl) (Nat.le_of_ble_eq_true rfl) hf (hP.sub [0] rfl) (hD.sub [0] (by decide) rfl) hS hX
/-! HoleCounty.puts(Ljava/lang/Object;IIJ)V: it throws java/lang/ArrayIndexOutOfBoundsException -/
abbrev rmX0_puts_I_ix : Room := { frames := 8, cells := 3, slots := 500, locals := 10260 }
abbrev RX0_puts_I_ix_ : Room := (headSpec (ws_ yX0_puts cX0_puts 5 none) rmX0_puts_I_ix).room
section
variable {p : Program} {l : Launch} {e : Env} {s : State} {m : MethodId} {args : Array Value} {below : List Frame} {meth : Method} {c : Code} {Qw : State → Prop} {dC : Nat → ClassId} {dI : Nat → Nat → Nat} {dA : Nat → ClassId} {eA mi : Nat} {A : Nat → Prop} {ra : Nat}
abbrev hrX0_puts_I_ix (p : Program) (l : Launch) (e : Env) (s : State) (m : MethodId) (args : Array Value) (below : List Frame) (meth : Method) (c : Code) (dC : Nat → ClassId) (dI : Nat → Nat → Nat) (dA : Nat → ClassId) (A : Nat → Prop) (ra : Nat) (Qw : State → Prop) (Q : Prop) (rn : Nat) (rf : (Nat → Int32)) : Prop := ∀ (xa : Nat) (H : Heap) (locs : List Loc) (kc ks : Nat) (pc : Nat) (ls : Array Slot) (rest : List Value), kc ≤ 3 → ks ≤ 500 → Q → va_P (dC, dI) vwCl [(ra, .inl (dA 1, rn, .inl rf))] H → va_D A [(ra, .inl (dA 1, rn, .inl rf))] → va_S A s.heap H locs → exc "java/lang/ArrayIndexOutOfBoundsException" xa s H → WT p l e RX0_puts_I_ix_ s m args below meth c H locs kc ks Qw (F0 m pc ls rest) xa
def wX0_puts_I_ix (Q : Prop) (rn : Nat) (x1 : Int32) (x2 : Int32) (x3 : Int64) : Prop := ((x1 = 0 → False) ∧ (¬ x1 = 0 → ((x1 = 1 → False) ∧ (¬ x1 = 1 → ((x1 = 2 → ((¬ vp_in x2 rn ∧ rn ≤ 36) ∧ Q)) ∧ (¬ x1 = 2 → False))))))
end
set_option maxHeartbeats 4000000 in
set_option maxRecDepth 100000 in
theorem metX0_puts_I_ix (l : Launch) (hfl : l.stackTraces = false) {Q : Prop} {rn : Nat} {rf : (Nat → Int32)} {x1 : Int32} {x2 : Int32} {x3 : Int64} {dC : Nat → ClassId} {dI : Nat → Nat → Nat} {dA : Nat → ClassId} {eA mi sz : Nat} {ra : Nat} (hf : wX0_puts_I_ix Q rn x1 x2 x3) : MetT l yX0_puts (ws_ yX0_puts cX0_puts 5 none) rmX0_puts_I_ix (aPc dC dI dA eA mi sz [.ref ra, .int x1, .int x2, .long x3] [(ra, .inl (dA 1, rn, .inl rf))]) (va_Qt (fun (u : Unit) => Q) (aBt dC dI [(ra, .inl (dA 1, rn, .inl rf))] sz (fun (u : Unit) (xa : Nat) => [(ra, .inl (dA 1, rn, .inl rf))]) (fun _ => "java/lang/ArrayIndexOutOfBoundsException")) (va_A [(ra, .inl (dA 1, rn, .inl rf))] sz)) 3 500 (va_A [(ra, .inl (dA 1, rn, .inl rf))] sz) := by
  refine MetT.ofW (cc := cX0_puts) (maxL := 5) (ret := none) (by decide) rfl ?_
  intro p e s m args below meth c s₁ B hml hempty hv
  obtain ⟨rfl, hsz, hP, hK, hD0, hE⟩ := hv
  subst hsz
  have hx := B.exec
  have hb := B.bytes
  have hr := B.returns
  have hts := atoms_spec (ws := (ws_ yX0_puts cX0_puts 5 none)) B.pre
  have hts : ∀ w ∈ lw_all, w.before _ s = true := fun w h => hts w (List.mem_cons_of_mem _ h)
  have hown : s.vm.findClass RX0 = some m.cls := findClass_of_methodNamed B.named
  have hlocks := B.notSynchronized
  have S : CallFix p m c cX0_puts 5 s _ lw_all RX0 := ⟨hx, hb, hml, hown, hts⟩
  have hD := hD0.self (sz := s.heap.size)
  have hA : ∀ q : Nat, s.heap.size ≤ q → va_A [(ra, .inl (dA 1, rn, .inl rf))] s.heap.size q := fun q h => Or.inr h
  have hS : va_S (va_A [(ra, .inl (dA 1, rn, .inl rf))] s.heap.size) s.heap s.heap [] := va_S.rf
  have hl := lv_entry ([.ref ra, .int x1, .int x2, .long x3]) (n := 5) (Nat.le_of_ble_eq_true rfl)
  rw [lg_entry_eq]
  generalize (lg_sl ([.ref ra, .int x1, .int x2, .long x3]) ++ List.replicate (5 - (lg_sl ([.ref ra, .int x1, .int x2, .long x3])).length) Slot.unset).toArray = ls at hl ⊢
  replace hl : lv_has ls 5 [(0, .ref ra), (1, .int x1), (2, .int x2), (3, .long x3)] := hl
  have hret : hrX0_puts_I_ix p l e s m ([.ref ra, .int x1, .int x2, .long x3] : List Value).toArray below meth c dC dI dA (va_A [(ra, .inl (dA 1, rn, .inl rf))] s.heap.size) ra (TQ below (va_Qt (fun (u : Unit) => Q) (aBt dC dI [(ra, .inl (dA 1, rn, .inl rf))] s.heap.size (fun (u : Unit) (xa : Nat) => [(ra, .inl (dA 1, rn, .inl rf))]) (fun _ => "java/lang/ArrayIndexOutOfBoundsException")) (va_A [(ra, .inl (dA 1, rn, .inl rf))] s.heap.size)) ([.ref ra, .int x1, .int x2, .long x3] : List Value).toArray s 3 500 (va_A [(ra, .inl (dA 1, rn, .inl rf))] s.heap.size)) Q rn rf := fun xa H locs kc ks pc ls rest h1 h2 hq hP hD hS hX => WT.widen (k := 3) (n := 500) h1 h2 (WT.out (fun t ht hW => ⟨⟨(), xa, rfl, hq, ⟨by subst ht; exact ⟨hP, hD⟩, hX.at ht hW⟩⟩, hS.F ht⟩) hS.2.2 (fun y hy => by rw [hempty] at hy; exact absurd hy (by simp)) hlocks)
  generalize hAe : va_A [(ra, .inl (dA 1, rn, .inl rf))] s.heap.size = A at hD hA hS hE hret ⊢
  clear hAe
  unfold wX0_puts_I_ix at hf
  refine lv_iload_n hx hb dX0_puts_0 rfl (lv_at hl 1 rfl) ?_
  refine lv_if_ne (tgt := 16) hx hb dX0_puts_1 (by decide) (fun c_1 => ?_) (fun c_1 => ?_)
  · replace hf := hf.2 c_1
    refine lv_iload_n hx hb dX0_puts_16 rfl (lv_at hl 1 rfl) ?_
    refine lv_iconst (v := 1) hx hb dX0_puts_17 (by decide) ?_
    refine lv_icmp_ne (tgt := 33) hx hb dX0_puts_18 (by decide) (fun c_18 => ?_) (fun c_18 => ?_)
    · replace hf := hf.2 c_18
      refine lv_iload_n hx hb dX0_puts_33 rfl (lv_at hl 1 rfl) ?_
      refine lv_iconst (v := 2) hx hb dX0_puts_34 (by decide) ?_
      refine lv_icmp_ne (tgt := 49) hx hb dX0_puts_35 (by decide) (fun c_35 => ?_) (fun c_35 => ?_)
      · replace hf := hf.2 c_35
        refine lv_aload_n hx hb dX0_puts_49 rfl (lv_at hl 0 rfl) ?_
        exact hf.elim
      · replace hf := hf.1 c_35
        refine lv_aload_n hx hb dX0_puts_38 rfl (lv_at hl 0 rfl) ?_
        refine va_castA hx hb hown (hts _ q944) hP 0 rfl (va_nmP (ty := .int) (hK.2 1 _ rfl).2 rfl (by decide)) dX0_puts_39 ?_
        refine lv_iload_n hx hb dX0_puts_42 rfl (lv_at hl 2 rfl) ?_
        refine lv_lload_n hx hb dX0_puts_43 rfl (lv_at hl 3 rfl) ?_
        refine lv_l2i (v := (x3 : Int64).toInt32) hx hb dX0_puts_44 rfl ?_
        obtain ⟨hcd, hf⟩ := hf
        have hbud : 0 + 3 ≤ 3 ∧ 0 + 500 ≤ 500 := ⟨Nat.le_of_ble_eq_true rfl, Nat.le_of_ble_eq_true rfl⟩
        refine x_iast hx hb hK hP 0 1 rfl rfl hcd.1 hcd.2 dX0_puts_45 (fun tx_ htx_ => ?_)
        refine vm_msg (cls := "java/lang/ArrayIndexOutOfBoundsException") (names := ["java/lang/IndexOutOfBoundsException", "java/lang/RuntimeException", "java/lang/Exception"]) (text := tx_) (nb := 500) hx (by decide) (by decide) (by decide) (by decide) (atoms_have msg_IX hts hE) hE hfl hP hS hA htx_.1 htx_.2 (by decide) rfl (hl.1.trans hml.symm) (Nat.le_of_ble_eq_true rfl) (Nat.le_of_ble_eq_true rfl) (by decide) hbud (fun x_45 H locs hP hS hX => ?_)
        exact hret x_45 _ _ _ _ _ _ _ (Nat.le_of_ble_eq_true rfl) (Nat.le_of_ble_eq_true rfl) hf (hP.sub [0] rfl) (hD.sub [0] (by decide) rfl) hS hX
    · replace hf := hf.1 c_18
      refine lv_aload_n hx hb dX0_puts_21 rfl (lv_at hl 0 rfl) ?_
      exact hf.elim
  · replace hf := hf.1 c_1
    refine lv_aload_n hx hb dX0_puts_4 rfl (lv_at hl 0 rfl) ?_
    exact hf.elim
/-! HoleCounty.sizeOf(Ljava/lang/Object;I)I -/
abbrev rmX0_sizeOf_J : Room := { frames := 0, cells := 0, slots := 0, locals := 0 }
abbrev RX0_sizeOf_J_ : Room := (headSpec (ws_ yX0_sizeOf cX0_sizeOf 2 (some .int)) rmX0_sizeOf_J).room
section
variable {p : Program} {l : Launch} {e : Env} {s : State} {m : MethodId} {args : Array Value} {below : List Frame} {meth : Method} {c : Code} {Qw : State → Prop} {dC : Nat → ClassId} {dI : Nat → Nat → Nat} {dA : Nat → ClassId} {eA mi : Nat} {A : Nat → Prop} {ra : Nat}
abbrev hrX0_sizeOf_J (p : Program) (l : Launch) (e : Env) (s : State) (m : MethodId) (args : Array Value) (below : List Frame) (meth : Method) (c : Code) (dC : Nat → ClassId) (dI : Nat → Nat → Nat) (dA : Nat → ClassId) (A : Nat → Prop) (ra : Nat) (Qw : State → Prop) (Q : Int32 → Prop) (rn : Nat) (rf : (Nat → Int64)) : Prop := ∀ (r : Int32) (H : Heap) (locs : List Loc) (kc ks : Nat) (pc : Nat) (ls : Array Slot), kc ≤ 0 → ks ≤ 0 → Q r → va_P (dC, dI) vwCl [(ra, .inl (dA 2, rn, .inr (.inl rf)))] H → va_D A [(ra, .inl (dA 2, rn, .inr (.inl rf)))] → va_S A s.heap H locs → decode cX0_sizeOf pc = .ok (.ireturn, 1) → W p l e RX0_sizeOf_J_ s m args below meth c H locs kc ks Qw (F0 m pc ls [.int r])
def wX0_sizeOf_J (Q : Int32 → Prop) (rn : Nat) (x1 : Int32) : Prop := ((x1 = 0 → False) ∧ (¬ x1 = 0 → ((x1 = 1 → False) ∧ (¬ x1 = 1 → ((x1 = 2 → False) ∧ (¬ x1 = 2 → (Q (Int32.ofNat rn))))))))
end
set_option maxHeartbeats 4000000 in
set_option maxRecDepth 100000 in
theorem metX0_sizeOf_J (l : Launch) (hfl : l.stackTraces = false) {Q : Int32 → Prop} {rn : Nat} {rf : (Nat → Int64)} {x1 : Int32} {dC : Nat → ClassId} {dI : Nat → Nat → Nat} {dA : Nat → ClassId} {eA mi sz : Nat} {ra : Nat} (hf : wX0_sizeOf_J Q rn x1) : Met l yX0_sizeOf (ws_ yX0_sizeOf cX0_sizeOf 2 (some .int)) rmX0_sizeOf_J (aPc dC dI dA eA mi sz [.ref ra, .int x1] [(ra, .inl (dA 2, rn, .inr (.inl rf)))]) (va_Qi (fun (r : Int32) (u : Unit) => Q r) (aB dC dI [(ra, .inl (dA 2, rn, .inr (.inl rf)))] sz (fun u => [(ra, .inl (dA 2, rn, .inr (.inl rf)))])) (va_A [(ra, .inl (dA 2, rn, .inr (.inl rf)))] sz)) 0 0 (va_A [(ra, .inl (dA 2, rn, .inr (.inl rf)))] sz) := by
  refine Met.ofW (cc := cX0_sizeOf) (maxL := 2) (ret := (some .int)) (by decide) rfl ?_
  intro p e s m args below meth c s₁ B hml hv
  obtain ⟨rfl, hsz, hP, hK, hD0, hE⟩ := hv
  subst hsz
  have hx := B.exec
  have hb := B.bytes
  have hr := B.returns
  have hts := atoms_spec (ws := (ws_ yX0_sizeOf cX0_sizeOf 2 (some .int))) B.pre
  have hts : ∀ w ∈ lw_all, w.before _ s = true := fun w h => hts w (List.mem_cons_of_mem _ h)
  have hown : s.vm.findClass RX0 = some m.cls := findClass_of_methodNamed B.named
  have hlocks := B.notSynchronized
  have S : CallFix p m c cX0_sizeOf 2 s _ lw_all RX0 := ⟨hx, hb, hml, hown, hts⟩
  have hD := hD0.self (sz := s.heap.size)
  have hA : ∀ q : Nat, s.heap.size ≤ q → va_A [(ra, .inl (dA 2, rn, .inr (.inl rf)))] s.heap.size q := fun q h => Or.inr h
  have hS : va_S (va_A [(ra, .inl (dA 2, rn, .inr (.inl rf)))] s.heap.size) s.heap s.heap [] := va_S.rf
  have hl := lv_entry ([.ref ra, .int x1]) (n := 2) (Nat.le_of_ble_eq_true rfl)
  rw [lg_entry_eq]
  generalize (lg_sl ([.ref ra, .int x1]) ++ List.replicate (2 - (lg_sl ([.ref ra, .int x1])).length) Slot.unset).toArray = ls at hl ⊢
  replace hl : lv_has ls 2 [(0, .ref ra), (1, .int x1)] := hl
  have hret : hrX0_sizeOf_J p l e s m ([.ref ra, .int x1] : List Value).toArray below meth c dC dI dA (va_A [(ra, .inl (dA 2, rn, .inr (.inl rf)))] s.heap.size) ra (MQ below (va_Qi (fun (r : Int32) (u : Unit) => Q r) (aB dC dI [(ra, .inl (dA 2, rn, .inr (.inl rf)))] s.heap.size (fun u => [(ra, .inl (dA 2, rn, .inr (.inl rf)))])) (va_A [(ra, .inl (dA 2, rn, .inr (.inl rf)))] s.heap.size)) ([.ref ra, .int x1] : List Value).toArray s 0 0 (va_A [(ra, .inl (dA 2, rn, .inr (.inl rf)))] s.heap.size)) Q rn rf := fun r H locs kc ks pc ls h1 h2 hq hP hD hS hd => W.widen (k := 0) (n := 0) h1 h2 (W.iret hx hb hr (fun t ht hW => ⟨⟨r, (), rfl, hq, by subst ht; exact ⟨hP, hD⟩⟩, hS.F ht⟩) hS.2.2 hd)
  generalize hAe : va_A [(ra, .inl (dA 2, rn, .inr (.inl rf)))] s.heap.size = A at hD hA hS hE hret ⊢
  clear hAe
  unfold wX0_sizeOf_J at hf
  refine lv_iload_n hx hb dX0_sizeOf_0 rfl (lv_at hl 1 rfl) ?_
  by_cases c_1_0 : x1 = 0
  · replace hf := hf.1 c_1_0
    refine lv_tableIn (off := 27) (tgt := 28) hx hb dX0_sizeOf_1 (by rw [c_1_0]; decide) (by rw [c_1_0]; decide) (by rw [c_1_0]; decide) (by decide) ?_
    refine lv_aload_n hx hb dX0_sizeOf_28 rfl (lv_at hl 0 rfl) ?_
    exact hf.elim
  replace hf := hf.2 c_1_0
  by_cases c_1_1 : x1 = 1
  · replace hf := hf.1 c_1_1
    refine lv_tableIn (off := 33) (tgt := 34) hx hb dX0_sizeOf_1 (by rw [c_1_1]; decide) (by rw [c_1_1]; decide) (by rw [c_1_1]; decide) (by decide) ?_
    refine lv_aload_n hx hb dX0_sizeOf_34 rfl (lv_at hl 0 rfl) ?_
    exact hf.elim
  replace hf := hf.2 c_1_1
  by_cases c_1_2 : x1 = 2
  · replace hf := hf.1 c_1_2
    refine lv_tableIn (off := 39) (tgt := 40) hx hb dX0_sizeOf_1 (by rw [c_1_2]; decide) (by rw [c_1_2]; decide) (by rw [c_1_2]; decide) (by decide) ?_
    refine lv_aload_n hx hb dX0_sizeOf_40 rfl (lv_at hl 0 rfl) ?_
    exact hf.elim
  replace hf := hf.2 c_1_2
  have n_0 := sw_no (j := 0) c_1_0 (by decide)
  have n_1 := sw_no (j := 1) c_1_1 (by decide)
  have n_2 := sw_no (j := 2) c_1_2 (by decide)
  refine lv_tableOut (tgt := 46) hx hb dX0_sizeOf_1 (by omega) (by decide) ?_
  refine lv_aload_n hx hb dX0_sizeOf_46 rfl (lv_at hl 0 rfl) ?_
  refine va_castA hx hb hown (hts _ q948) hP 0 rfl (va_nmP (ty := .long) (hK.2 2 _ rfl).2 rfl (by decide)) dX0_sizeOf_47 ?_
  refine va_alen (v := (Int32.ofNat rn)) hx hb hK hP 0 2 rfl rfl rfl dX0_sizeOf_50 ?_
  exact hret _ _ _ _ _ _ _ (Nat.zero_le _) (Nat.zero_le _) hf (hP.sub [0] rfl) (hD.sub [0] (by decide) rfl) hS dX0_sizeOf_51
/-! HoleCounty.sizeOf(Ljava/lang/Object;I)I: it throws java/lang/ClassCastException -/
abbrev rmX0_sizeOf_J_cc : Room := { frames := 8, cells := 3, slots := 500, locals := 10260 }
abbrev RX0_sizeOf_J_cc_ : Room := (headSpec (ws_ yX0_sizeOf cX0_sizeOf 2 (some .int)) rmX0_sizeOf_J_cc).room
section
variable {p : Program} {l : Launch} {e : Env} {s : State} {m : MethodId} {args : Array Value} {below : List Frame} {meth : Method} {c : Code} {Qw : State → Prop} {dC : Nat → ClassId} {dI : Nat → Nat → Nat} {dA : Nat → ClassId} {eA mi : Nat} {A : Nat → Prop} {ra : Nat}
abbrev hrX0_sizeOf_J_cc (p : Program) (l : Launch) (e : Env) (s : State) (m : MethodId) (args : Array Value) (below : List Frame) (meth : Method) (c : Code) (dC : Nat → ClassId) (dI : Nat → Nat → Nat) (dA : Nat → ClassId) (A : Nat → Prop) (ra : Nat) (Qw : State → Prop) (Q : Prop) (rn : Nat) (rf : (Nat → Int64)) : Prop := ∀ (xa : Nat) (H : Heap) (locs : List Loc) (kc ks : Nat) (pc : Nat) (ls : Array Slot) (rest : List Value), kc ≤ 3 → ks ≤ 500 → Q → va_P (dC, dI) vwCl [(ra, .inl (dA 2, rn, .inr (.inl rf)))] H → va_D A [(ra, .inl (dA 2, rn, .inr (.inl rf)))] → va_S A s.heap H locs → exc "java/lang/ClassCastException" xa s H → WT p l e RX0_sizeOf_J_cc_ s m args below meth c H locs kc ks Qw (F0 m pc ls rest) xa
def wX0_sizeOf_J_cc (Q : Prop) (rn : Nat) (x1 : Int32) : Prop := ((x1 = 0 → Q) ∧ (¬ x1 = 0 → ((x1 = 1 → Q) ∧ (¬ x1 = 1 → ((x1 = 2 → Q) ∧ (¬ x1 = 2 → False))))))
end
set_option maxHeartbeats 4000000 in
set_option maxRecDepth 100000 in
theorem metX0_sizeOf_J_cc (l : Launch) (hfl : l.stackTraces = false) {Q : Prop} {rn : Nat} {rf : (Nat → Int64)} {x1 : Int32} {dC : Nat → ClassId} {dI : Nat → Nat → Nat} {dA : Nat → ClassId} {eA mi sz : Nat} {ra : Nat} (hf : wX0_sizeOf_J_cc Q rn x1) : MetT l yX0_sizeOf (ws_ yX0_sizeOf cX0_sizeOf 2 (some .int)) rmX0_sizeOf_J_cc (aPc dC dI dA eA mi sz [.ref ra, .int x1] [(ra, .inl (dA 2, rn, .inr (.inl rf)))]) (va_Qt (fun (u : Unit) => Q) (aBt dC dI [(ra, .inl (dA 2, rn, .inr (.inl rf)))] sz (fun (u : Unit) (xa : Nat) => [(ra, .inl (dA 2, rn, .inr (.inl rf)))]) (fun _ => "java/lang/ClassCastException")) (va_A [(ra, .inl (dA 2, rn, .inr (.inl rf)))] sz)) 3 500 (va_A [(ra, .inl (dA 2, rn, .inr (.inl rf)))] sz) := by
  refine MetT.ofW (cc := cX0_sizeOf) (maxL := 2) (ret := (some .int)) (by decide) rfl ?_
  intro p e s m args below meth c s₁ B hml hempty hv
  obtain ⟨rfl, hsz, hP, hK, hD0, hE⟩ := hv
  subst hsz
  have hx := B.exec
  have hb := B.bytes
  have hr := B.returns
  have hts := atoms_spec (ws := (ws_ yX0_sizeOf cX0_sizeOf 2 (some .int))) B.pre
  have hts : ∀ w ∈ lw_all, w.before _ s = true := fun w h => hts w (List.mem_cons_of_mem _ h)
  have hown : s.vm.findClass RX0 = some m.cls := findClass_of_methodNamed B.named
  have hlocks := B.notSynchronized
  have S : CallFix p m c cX0_sizeOf 2 s _ lw_all RX0 := ⟨hx, hb, hml, hown, hts⟩
  have hD := hD0.self (sz := s.heap.size)
  have hA : ∀ q : Nat, s.heap.size ≤ q → va_A [(ra, .inl (dA 2, rn, .inr (.inl rf)))] s.heap.size q := fun q h => Or.inr h
  have hS : va_S (va_A [(ra, .inl (dA 2, rn, .inr (.inl rf)))] s.heap.size) s.heap s.heap [] := va_S.rf
  have hl := lv_entry ([.ref ra, .int x1]) (n := 2) (Nat.le_of_ble_eq_true rfl)
  rw [lg_entry_eq]
  generalize (lg_sl ([.ref ra, .int x1]) ++ List.replicate (2 - (lg_sl ([.ref ra, .int x1])).length) Slot.unset).toArray = ls at hl ⊢
  replace hl : lv_has ls 2 [(0, .ref ra), (1, .int x1)] := hl
  have hret : hrX0_sizeOf_J_cc p l e s m ([.ref ra, .int x1] : List Value).toArray below meth c dC dI dA (va_A [(ra, .inl (dA 2, rn, .inr (.inl rf)))] s.heap.size) ra (TQ below (va_Qt (fun (u : Unit) => Q) (aBt dC dI [(ra, .inl (dA 2, rn, .inr (.inl rf)))] s.heap.size (fun (u : Unit) (xa : Nat) => [(ra, .inl (dA 2, rn, .inr (.inl rf)))]) (fun _ => "java/lang/ClassCastException")) (va_A [(ra, .inl (dA 2, rn, .inr (.inl rf)))] s.heap.size)) ([.ref ra, .int x1] : List Value).toArray s 3 500 (va_A [(ra, .inl (dA 2, rn, .inr (.inl rf)))] s.heap.size)) Q rn rf := fun xa H locs kc ks pc ls rest h1 h2 hq hP hD hS hX => WT.widen (k := 3) (n := 500) h1 h2 (WT.out (fun t ht hW => ⟨⟨(), xa, rfl, hq, ⟨by subst ht; exact ⟨hP, hD⟩, hX.at ht hW⟩⟩, hS.F ht⟩) hS.2.2 (fun y hy => by rw [hempty] at hy; exact absurd hy (by simp)) hlocks)
  generalize hAe : va_A [(ra, .inl (dA 2, rn, .inr (.inl rf)))] s.heap.size = A at hD hA hS hE hret ⊢
  clear hAe
  unfold wX0_sizeOf_J_cc at hf
  refine lv_iload_n hx hb dX0_sizeOf_0 rfl (lv_at hl 1 rfl) ?_
  by_cases c_1_0 : x1 = 0
  · replace hf := hf.1 c_1_0
    refine lv_tableIn (off := 27) (tgt := 28) hx hb dX0_sizeOf_1 (by rw [c_1_0]; decide) (by rw [c_1_0]; decide) (by rw [c_1_0]; decide) (by decide) ?_
    refine lv_aload_n hx hb dX0_sizeOf_28 rfl (lv_at hl 0 rfl) ?_
    have hbud : 0 + 3 ≤ 3 ∧ 0 + 500 ≤ 500 := ⟨Nat.le_of_ble_eq_true rfl, Nat.le_of_ble_eq_true rfl⟩
    refine x_cast hx hb hown (hts _ q942) (hE.2.2.1.2.2 ("[J", "[B") (by decide)) (by decide) (by decide) hK hP 0 2 0 rfl rfl rfl (va_nmP (ty := .long) (hK.2 2 _ rfl).2 rfl (by decide)) (va_nmP (ty := .byte) (hK.2 0 _ rfl).2 rfl (by decide)) dX0_sizeOf_29 (fun tx_ htx_ => ?_)
    refine vm_msg (cls := "java/lang/ClassCastException") (names := ["java/lang/RuntimeException", "java/lang/Exception"]) (text := tx_) (nb := 500) hx (by decide) (by decide) (by decide) (by decide) (atoms_have msg_CC hts hE) hE hfl hP hS hA htx_.1 htx_.2 (by decide) rfl (hl.1.trans hml.symm) (Nat.le_of_ble_eq_true rfl) (Nat.le_of_ble_eq_true rfl) (by decide) hbud (fun x_29 H locs hP hS hX => ?_)
    exact hret x_29 _ _ _ _ _ _ _ (Nat.le_of_ble_eq_true rfl) (Nat.le_of_ble_eq_true rfl) hf (hP.sub [0] rfl) (hD.sub [0] (by decide) rfl) hS hX
  replace hf := hf.2 c_1_0
  by_cases c_1_1 : x1 = 1
  · replace hf := hf.1 c_1_1
    refine lv_tableIn (off := 33) (tgt := 34) hx hb dX0_sizeOf_1 (by rw [c_1_1]; decide) (by rw [c_1_1]; decide) (by rw [c_1_1]; decide) (by decide) ?_
    refine lv_aload_n hx hb dX0_sizeOf_34 rfl (lv_at hl 0 rfl) ?_
    have hbud : 0 + 3 ≤ 3 ∧ 0 + 500 ≤ 500 := ⟨Nat.le_of_ble_eq_true rfl, Nat.le_of_ble_eq_true rfl⟩
    refine x_cast hx hb hown (hts _ q943) (hE.2.2.1.2.2 ("[J", "[S") (by decide)) (by decide) (by decide) hK hP 0 2 3 rfl rfl rfl (va_nmP (ty := .long) (hK.2 2 _ rfl).2 rfl (by decide)) (va_nmP (ty := .short) (hK.2 3 _ rfl).2 rfl (by decide)) dX0_sizeOf_35 (fun tx_ htx_ => ?_)
    refine vm_msg (cls := "java/lang/ClassCastException") (names := ["java/lang/RuntimeException", "java/lang/Exception"]) (text := tx_) (nb := 500) hx (by decide) (by decide) (by decide) (by decide) (atoms_have msg_CC hts hE) hE hfl hP hS hA htx_.1 htx_.2 (by decide) rfl (hl.1.trans hml.symm) (Nat.le_of_ble_eq_true rfl) (Nat.le_of_ble_eq_true rfl) (by decide) hbud (fun x_35 H locs hP hS hX => ?_)
    exact hret x_35 _ _ _ _ _ _ _ (Nat.le_of_ble_eq_true rfl) (Nat.le_of_ble_eq_true rfl) hf (hP.sub [0] rfl) (hD.sub [0] (by decide) rfl) hS hX
  replace hf := hf.2 c_1_1
  by_cases c_1_2 : x1 = 2
  · replace hf := hf.1 c_1_2
    refine lv_tableIn (off := 39) (tgt := 40) hx hb dX0_sizeOf_1 (by rw [c_1_2]; decide) (by rw [c_1_2]; decide) (by rw [c_1_2]; decide) (by decide) ?_
    refine lv_aload_n hx hb dX0_sizeOf_40 rfl (lv_at hl 0 rfl) ?_
    have hbud : 0 + 3 ≤ 3 ∧ 0 + 500 ≤ 500 := ⟨Nat.le_of_ble_eq_true rfl, Nat.le_of_ble_eq_true rfl⟩
    refine x_cast hx hb hown (hts _ q944) (hE.2.2.1.2.2 ("[J", "[I") (by decide)) (by decide) (by decide) hK hP 0 2 1 rfl rfl rfl (va_nmP (ty := .long) (hK.2 2 _ rfl).2 rfl (by decide)) (va_nmP (ty := .int) (hK.2 1 _ rfl).2 rfl (by decide)) dX0_sizeOf_41 (fun tx_ htx_ => ?_)
    refine vm_msg (cls := "java/lang/ClassCastException") (names := ["java/lang/RuntimeException", "java/lang/Exception"]) (text := tx_) (nb := 500) hx (by decide) (by decide) (by decide) (by decide) (atoms_have msg_CC hts hE) hE hfl hP hS hA htx_.1 htx_.2 (by decide) rfl (hl.1.trans hml.symm) (Nat.le_of_ble_eq_true rfl) (Nat.le_of_ble_eq_true rfl) (by decide) hbud (fun x_41 H locs hP hS hX => ?_)
    exact hret x_41 _ _ _ _ _ _ _ (Nat.le_of_ble_eq_true rfl) (Nat.le_of_ble_eq_true rfl) hf (hP.sub [0] rfl) (hD.sub [0] (by decide) rfl) hS hX
  replace hf := hf.2 c_1_2
  have n_0 := sw_no (j := 0) c_1_0 (by decide)
  have n_1 := sw_no (j := 1) c_1_1 (by decide)
  have n_2 := sw_no (j := 2) c_1_2 (by decide)
  refine lv_tableOut (tgt := 46) hx hb dX0_sizeOf_1 (by omega) (by decide) ?_
  refine lv_aload_n hx hb dX0_sizeOf_46 rfl (lv_at hl 0 rfl) ?_
  refine va_castA hx hb hown (hts _ q948) hP 0 rfl (va_nmP (ty := .long) (hK.2 2 _ rfl).2 rfl (by decide)) dX0_sizeOf_47 ?_
  refine va_alen (v := (Int32.ofNat rn)) hx hb hK hP 0 2 rfl rfl rfl dX0_sizeOf_50 ?_
  exact hf.elim
/-! HoleCounty.itemOf(Ljava/lang/Object;II)J -/
abbrev rmX0_itemOf_J : Room := { frames := 0, cells := 0, slots := 0, locals := 0 }
abbrev RX0_itemOf_J_ : Room := (headSpec (ws_ yX0_itemOf cX0_itemOf 3 (some .long)) rmX0_itemOf_J).room
section
variable {p : Program} {l : Launch} {e : Env} {s : State} {m : MethodId} {args : Array Value} {below : List Frame} {meth : Method} {c : Code} {Qw : State → Prop} {dC : Nat → ClassId} {dI : Nat → Nat → Nat} {dA : Nat → ClassId} {eA mi : Nat} {A : Nat → Prop} {ra : Nat}
abbrev hrX0_itemOf_J (p : Program) (l : Launch) (e : Env) (s : State) (m : MethodId) (args : Array Value) (below : List Frame) (meth : Method) (c : Code) (dC : Nat → ClassId) (dI : Nat → Nat → Nat) (dA : Nat → ClassId) (A : Nat → Prop) (ra : Nat) (Qw : State → Prop) (Q : Int64 → Prop) (rn : Nat) (rf : (Nat → Int64)) : Prop := ∀ (r : Int64) (H : Heap) (locs : List Loc) (kc ks : Nat) (pc : Nat) (ls : Array Slot), kc ≤ 0 → ks ≤ 0 → Q r → va_P (dC, dI) vwCl [(ra, .inl (dA 2, rn, .inr (.inl rf)))] H → va_D A [(ra, .inl (dA 2, rn, .inr (.inl rf)))] → va_S A s.heap H locs → decode cX0_itemOf pc = .ok (.lreturn, 1) → W p l e RX0_itemOf_J_ s m args below meth c H locs kc ks Qw (F0 m pc ls [.long r])
def wX0_itemOf_J (Q : Int64 → Prop) (rn : Nat) (rf : (Nat → Int64)) (x1 : Int32) (x2 : Int32) : Prop := ((x1 = 0 → False) ∧ (¬ x1 = 0 → ((x1 = 1 → False) ∧ (¬ x1 = 1 → ((x1 = 2 → False) ∧ (¬ x1 = 2 → (vp_in x2 rn ∧ (Q (rf (x2 : Int32).toNatClampNeg)))))))))
end
set_option maxHeartbeats 4000000 in
set_option maxRecDepth 100000 in
theorem metX0_itemOf_J (l : Launch) (hfl : l.stackTraces = false) {Q : Int64 → Prop} {rn : Nat} {rf : (Nat → Int64)} {x1 : Int32} {x2 : Int32} {dC : Nat → ClassId} {dI : Nat → Nat → Nat} {dA : Nat → ClassId} {eA mi sz : Nat} {ra : Nat} (hf : wX0_itemOf_J Q rn rf x1 x2) : Met l yX0_itemOf (ws_ yX0_itemOf cX0_itemOf 3 (some .long)) rmX0_itemOf_J (aPc dC dI dA eA mi sz [.ref ra, .int x1, .int x2] [(ra, .inl (dA 2, rn, .inr (.inl rf)))]) (va_Ql (fun (r : Int64) (u : Unit) => Q r) (aB dC dI [(ra, .inl (dA 2, rn, .inr (.inl rf)))] sz (fun u => [(ra, .inl (dA 2, rn, .inr (.inl rf)))])) (va_A [(ra, .inl (dA 2, rn, .inr (.inl rf)))] sz)) 0 0 (va_A [(ra, .inl (dA 2, rn, .inr (.inl rf)))] sz) := by
  refine Met.ofW (cc := cX0_itemOf) (maxL := 3) (ret := (some .long)) (by decide) rfl ?_
  intro p e s m args below meth c s₁ B hml hv
  obtain ⟨rfl, hsz, hP, hK, hD0, hE⟩ := hv
  subst hsz
  have hx := B.exec
  have hb := B.bytes
  have hr := B.returns
  have hts := atoms_spec (ws := (ws_ yX0_itemOf cX0_itemOf 3 (some .long))) B.pre
  have hts : ∀ w ∈ lw_all, w.before _ s = true := fun w h => hts w (List.mem_cons_of_mem _ h)
  have hown : s.vm.findClass RX0 = some m.cls := findClass_of_methodNamed B.named
  have hlocks := B.notSynchronized
  have S : CallFix p m c cX0_itemOf 3 s _ lw_all RX0 := ⟨hx, hb, hml, hown, hts⟩
  have hD := hD0.self (sz := s.heap.size)
  have hA : ∀ q : Nat, s.heap.size ≤ q → va_A [(ra, .inl (dA 2, rn, .inr (.inl rf)))] s.heap.size q := fun q h => Or.inr h
  have hS : va_S (va_A [(ra, .inl (dA 2, rn, .inr (.inl rf)))] s.heap.size) s.heap s.heap [] := va_S.rf
  have hl := lv_entry ([.ref ra, .int x1, .int x2]) (n := 3) (Nat.le_of_ble_eq_true rfl)
  rw [lg_entry_eq]
  generalize (lg_sl ([.ref ra, .int x1, .int x2]) ++ List.replicate (3 - (lg_sl ([.ref ra, .int x1, .int x2])).length) Slot.unset).toArray = ls at hl ⊢
  replace hl : lv_has ls 3 [(0, .ref ra), (1, .int x1), (2, .int x2)] := hl
  have hret : hrX0_itemOf_J p l e s m ([.ref ra, .int x1, .int x2] : List Value).toArray below meth c dC dI dA (va_A [(ra, .inl (dA 2, rn, .inr (.inl rf)))] s.heap.size) ra (MQ below (va_Ql (fun (r : Int64) (u : Unit) => Q r) (aB dC dI [(ra, .inl (dA 2, rn, .inr (.inl rf)))] s.heap.size (fun u => [(ra, .inl (dA 2, rn, .inr (.inl rf)))])) (va_A [(ra, .inl (dA 2, rn, .inr (.inl rf)))] s.heap.size)) ([.ref ra, .int x1, .int x2] : List Value).toArray s 0 0 (va_A [(ra, .inl (dA 2, rn, .inr (.inl rf)))] s.heap.size)) Q rn rf := fun r H locs kc ks pc ls h1 h2 hq hP hD hS hd => W.widen (k := 0) (n := 0) h1 h2 (W.lret hx hb hr (fun t ht hW => ⟨⟨r, (), rfl, hq, by subst ht; exact ⟨hP, hD⟩⟩, hS.F ht⟩) hS.2.2 hd)
  generalize hAe : va_A [(ra, .inl (dA 2, rn, .inr (.inl rf)))] s.heap.size = A at hD hA hS hE hret ⊢
  clear hAe
  unfold wX0_itemOf_J at hf
  refine lv_iload_n hx hb dX0_itemOf_0 rfl (lv_at hl 1 rfl) ?_
  by_cases c_1_0 : x1 = 0
  · replace hf := hf.1 c_1_0
    refine lv_tableIn (off := 27) (tgt := 28) hx hb dX0_itemOf_1 (by rw [c_1_0]; decide) (by rw [c_1_0]; decide) (by rw [c_1_0]; decide) (by decide) ?_
    refine lv_aload_n hx hb dX0_itemOf_28 rfl (lv_at hl 0 rfl) ?_
    exact hf.elim
  replace hf := hf.2 c_1_0
  by_cases c_1_1 : x1 = 1
  · replace hf := hf.1 c_1_1
    refine lv_tableIn (off := 35) (tgt := 36) hx hb dX0_itemOf_1 (by rw [c_1_1]; decide) (by rw [c_1_1]; decide) (by rw [c_1_1]; decide) (by decide) ?_
    refine lv_aload_n hx hb dX0_itemOf_36 rfl (lv_at hl 0 rfl) ?_
    exact hf.elim
  replace hf := hf.2 c_1_1
  by_cases c_1_2 : x1 = 2
  · replace hf := hf.1 c_1_2
    refine lv_tableIn (off := 43) (tgt := 44) hx hb dX0_itemOf_1 (by rw [c_1_2]; decide) (by rw [c_1_2]; decide) (by rw [c_1_2]; decide) (by decide) ?_
    refine lv_aload_n hx hb dX0_itemOf_44 rfl (lv_at hl 0 rfl) ?_
    exact hf.elim
  replace hf := hf.2 c_1_2
  have n_0 := sw_no (j := 0) c_1_0 (by decide)
  have n_1 := sw_no (j := 1) c_1_1 (by decide)
  have n_2 := sw_no (j := 2) c_1_2 (by decide)
  refine lv_tableOut (tgt := 52) hx hb dX0_itemOf_1 (by omega) (by decide) ?_
  refine lv_aload_n hx hb dX0_itemOf_52 rfl (lv_at hl 0 rfl) ?_
  refine va_castA hx hb hown (hts _ q948) hP 0 rfl (va_nmP (ty := .long) (hK.2 2 _ rfl).2 rfl (by decide)) dX0_itemOf_53 ?_
  refine lv_iload_n hx hb dX0_itemOf_56 rfl (lv_at hl 2 rfl) ?_
  obtain ⟨hin, hf⟩ := hf
  refine va_lald hx hb hK hP 0 2 rfl rfl hin dX0_itemOf_57 ?_
  exact hret _ _ _ _ _ _ _ (Nat.zero_le _) (Nat.zero_le _) hf (hP.sub [0] rfl) (hD.sub [0] (by decide) rfl) hS dX0_itemOf_58
/-! HoleCounty.laneOf(Ljava/lang/Object;)I -/
abbrev rmX0_laneOf_J : Room := { frames := 0, cells := 0, slots := 0, locals := 0 }
abbrev RX0_laneOf_J_ : Room := (headSpec (ws_ yX0_laneOf cX0_laneOf 1 (some .int)) rmX0_laneOf_J).room
section
variable {p : Program} {l : Launch} {e : Env} {s : State} {m : MethodId} {args : Array Value} {below : List Frame} {meth : Method} {c : Code} {Qw : State → Prop} {dC : Nat → ClassId} {dI : Nat → Nat → Nat} {dA : Nat → ClassId} {eA mi : Nat} {A : Nat → Prop} {ra : Nat}
abbrev hrX0_laneOf_J (p : Program) (l : Launch) (e : Env) (s : State) (m : MethodId) (args : Array Value) (below : List Frame) (meth : Method) (c : Code) (dC : Nat → ClassId) (dI : Nat → Nat → Nat) (dA : Nat → ClassId) (A : Nat → Prop) (ra : Nat) (Qw : State → Prop) (Q : Int32 → Prop) (rn : Nat) (rf : (Nat → Int64)) : Prop := ∀ (r : Int32) (H : Heap) (locs : List Loc) (kc ks : Nat) (pc : Nat) (ls : Array Slot), kc ≤ 0 → ks ≤ 0 → Q r → va_P (dC, dI) vwCl [(ra, .inl (dA 2, rn, .inr (.inl rf)))] H → va_D A [(ra, .inl (dA 2, rn, .inr (.inl rf)))] → va_S A s.heap H locs → decode cX0_laneOf pc = .ok (.ireturn, 1) → W p l e RX0_laneOf_J_ s m args below meth c H locs kc ks Qw (F0 m pc ls [.int r])
def wX0_laneOf_J (Q : Int32 → Prop) : Prop := (((0 : Int32) = 0 → (((0 : Int32) = 0 → (((0 : Int32) = 0 → (Q 3)) ∧ (¬ (0 : Int32) = 0 → (Q 2)))) ∧ (¬ (0 : Int32) = 0 → (Q 1)))) ∧ (¬ (0 : Int32) = 0 → (Q 0)))
end
set_option maxHeartbeats 4000000 in
set_option maxRecDepth 100000 in
theorem metX0_laneOf_J (l : Launch) (hfl : l.stackTraces = false) {Q : Int32 → Prop} {rn : Nat} {rf : (Nat → Int64)} {dC : Nat → ClassId} {dI : Nat → Nat → Nat} {dA : Nat → ClassId} {eA mi sz : Nat} {ra : Nat} (hf : wX0_laneOf_J Q) : Met l yX0_laneOf (ws_ yX0_laneOf cX0_laneOf 1 (some .int)) rmX0_laneOf_J (aPc dC dI dA eA mi sz [.ref ra] [(ra, .inl (dA 2, rn, .inr (.inl rf)))]) (va_Qi (fun (r : Int32) (u : Unit) => Q r) (aB dC dI [(ra, .inl (dA 2, rn, .inr (.inl rf)))] sz (fun u => [(ra, .inl (dA 2, rn, .inr (.inl rf)))])) (va_A [(ra, .inl (dA 2, rn, .inr (.inl rf)))] sz)) 0 0 (va_A [(ra, .inl (dA 2, rn, .inr (.inl rf)))] sz) := by
  refine Met.ofW (cc := cX0_laneOf) (maxL := 1) (ret := (some .int)) (by decide) rfl ?_
  intro p e s m args below meth c s₁ B hml hv
  obtain ⟨rfl, hsz, hP, hK, hD0, hE⟩ := hv
  subst hsz
  have hx := B.exec
  have hb := B.bytes
  have hr := B.returns
  have hts := atoms_spec (ws := (ws_ yX0_laneOf cX0_laneOf 1 (some .int))) B.pre
  have hts : ∀ w ∈ lw_all, w.before _ s = true := fun w h => hts w (List.mem_cons_of_mem _ h)
  have hown : s.vm.findClass RX0 = some m.cls := findClass_of_methodNamed B.named
  have hlocks := B.notSynchronized
  have S : CallFix p m c cX0_laneOf 1 s _ lw_all RX0 := ⟨hx, hb, hml, hown, hts⟩
  have hD := hD0.self (sz := s.heap.size)
  have hA : ∀ q : Nat, s.heap.size ≤ q → va_A [(ra, .inl (dA 2, rn, .inr (.inl rf)))] s.heap.size q := fun q h => Or.inr h
  have hS : va_S (va_A [(ra, .inl (dA 2, rn, .inr (.inl rf)))] s.heap.size) s.heap s.heap [] := va_S.rf
  have hl := lv_entry ([.ref ra]) (n := 1) (Nat.le_of_ble_eq_true rfl)
  rw [lg_entry_eq]
  generalize (lg_sl ([.ref ra]) ++ List.replicate (1 - (lg_sl ([.ref ra])).length) Slot.unset).toArray = ls at hl ⊢
  replace hl : lv_has ls 1 [(0, .ref ra)] := hl
  have hret : hrX0_laneOf_J p l e s m ([.ref ra] : List Value).toArray below meth c dC dI dA (va_A [(ra, .inl (dA 2, rn, .inr (.inl rf)))] s.heap.size) ra (MQ below (va_Qi (fun (r : Int32) (u : Unit) => Q r) (aB dC dI [(ra, .inl (dA 2, rn, .inr (.inl rf)))] s.heap.size (fun u => [(ra, .inl (dA 2, rn, .inr (.inl rf)))])) (va_A [(ra, .inl (dA 2, rn, .inr (.inl rf)))] s.heap.size)) ([.ref ra] : List Value).toArray s 0 0 (va_A [(ra, .inl (dA 2, rn, .inr (.inl rf)))] s.heap.size)) Q rn rf := fun r H locs kc ks pc ls h1 h2 hq hP hD hS hd => W.widen (k := 0) (n := 0) h1 h2 (W.iret hx hb hr (fun t ht hW => ⟨⟨r, (), rfl, hq, by subst ht; exact ⟨hP, hD⟩⟩, hS.F ht⟩) hS.2.2 hd)
  generalize hAe : va_A [(ra, .inl (dA 2, rn, .inr (.inl rf)))] s.heap.size = A at hD hA hS hE hret ⊢
  clear hAe
  unfold wX0_laneOf_J at hf
  refine lv_aload_n hx hb dX0_laneOf_0 rfl (lv_at hl 0 rfl) ?_
  refine va_instNo (C := "[J") hx hb hown (hts _ q942) (hE.2.2.1.2.2 ("[J", "[B") (by decide)) (arr_recv hP 0 rfl (va_nmP (ty := .long) (hK.2 2 _ rfl).2 rfl (by decide))) dX0_laneOf_1 ?_
  refine lv_if_eq (tgt := 11) hx hb dX0_laneOf_4 (by decide) (fun c_4 => ?_) (fun c_4 => ?_)
  · replace hf := hf.1 c_4
    refine lv_aload_n hx hb dX0_laneOf_11 rfl (lv_at hl 0 rfl) ?_
    refine va_instNo (C := "[J") hx hb hown (hts _ q943) (hE.2.2.1.2.2 ("[J", "[S") (by decide)) (arr_recv hP 0 rfl (va_nmP (ty := .long) (hK.2 2 _ rfl).2 rfl (by decide))) dX0_laneOf_12 ?_
    refine lv_if_eq (tgt := 22) hx hb dX0_laneOf_15 (by decide) (fun c_15 => ?_) (fun c_15 => ?_)
    · replace hf := hf.1 c_15
      refine lv_aload_n hx hb dX0_laneOf_22 rfl (lv_at hl 0 rfl) ?_
      refine va_instNo (C := "[J") hx hb hown (hts _ q944) (hE.2.2.1.2.2 ("[J", "[I") (by decide)) (arr_recv hP 0 rfl (va_nmP (ty := .long) (hK.2 2 _ rfl).2 rfl (by decide))) dX0_laneOf_23 ?_
      refine lv_if_eq (tgt := 33) hx hb dX0_laneOf_26 (by decide) (fun c_26 => ?_) (fun c_26 => ?_)
      · replace hf := hf.1 c_26
        refine lv_iconst (v := 3) hx hb dX0_laneOf_33 (by decide) ?_
        exact hret _ _ _ _ _ _ _ (Nat.zero_le _) (Nat.zero_le _) hf (hP.sub [0] rfl) (hD.sub [0] (by decide) rfl) hS dX0_laneOf_34
      · replace hf := hf.2 c_26
        refine lv_iconst (v := 2) hx hb dX0_laneOf_29 (by decide) ?_
        refine lv_goto (tgt := 34) hx hb dX0_laneOf_30 (by decide) ?_
        exact hret _ _ _ _ _ _ _ (Nat.zero_le _) (Nat.zero_le _) hf (hP.sub [0] rfl) (hD.sub [0] (by decide) rfl) hS dX0_laneOf_34
    · replace hf := hf.2 c_15
      refine lv_iconst (v := 1) hx hb dX0_laneOf_18 (by decide) ?_
      refine lv_goto (tgt := 34) hx hb dX0_laneOf_19 (by decide) ?_
      exact hret _ _ _ _ _ _ _ (Nat.zero_le _) (Nat.zero_le _) hf (hP.sub [0] rfl) (hD.sub [0] (by decide) rfl) hS dX0_laneOf_34
  · replace hf := hf.2 c_4
    refine lv_iconst (v := 0) hx hb dX0_laneOf_7 (by decide) ?_
    refine lv_goto (tgt := 34) hx hb dX0_laneOf_8 (by decide) ?_
    exact hret _ _ _ _ _ _ _ (Nat.zero_le _) (Nat.zero_le _) hf (hP.sub [0] rfl) (hD.sub [0] (by decide) rfl) hS dX0_laneOf_34
/-! HoleCounty.puts(Ljava/lang/Object;IIJ)V -/
abbrev rmX0_puts_J : Room := { frames := 0, cells := 0, slots := 0, locals := 0 }
abbrev RX0_puts_J_ : Room := (headSpec (ws_ yX0_puts cX0_puts 5 none) rmX0_puts_J).room
section
variable {p : Program} {l : Launch} {e : Env} {s : State} {m : MethodId} {args : Array Value} {below : List Frame} {meth : Method} {c : Code} {Qw : State → Prop} {dC : Nat → ClassId} {dI : Nat → Nat → Nat} {dA : Nat → ClassId} {eA mi : Nat} {A : Nat → Prop} {ra : Nat}
abbrev hrX0_puts_J (p : Program) (l : Launch) (e : Env) (s : State) (m : MethodId) (args : Array Value) (below : List Frame) (meth : Method) (c : Code) (dC : Nat → ClassId) (dI : Nat → Nat → Nat) (dA : Nat → ClassId) (A : Nat → Prop) (ra : Nat) (Qw : State → Prop) (Q : (Nat → Int64) → Prop) (rn : Nat) : Prop := ∀ (rf : (Nat → Int64)) (H : Heap) (locs : List Loc) (kc ks : Nat) (pc : Nat) (ls : Array Slot), kc ≤ 0 → ks ≤ 0 → Q rf → va_P (dC, dI) vwCl [(ra, .inl (dA 2, rn, .inr (.inl rf)))] H → va_D A [(ra, .inl (dA 2, rn, .inr (.inl rf)))] → va_S A s.heap H locs → decode cX0_puts pc = .ok (.return_, 1) → W p l e RX0_puts_J_ s m args below meth c H locs kc ks Qw (F0 m pc ls [])
def wX0_puts_J (Q : (Nat → Int64) → Prop) (rn : Nat) (rf : (Nat → Int64)) (x1 : Int32) (x2 : Int32) (x3 : Int64) : Prop := ((x1 = 0 → False) ∧ (¬ x1 = 0 → ((x1 = 1 → False) ∧ (¬ x1 = 1 → ((x1 = 2 → False) ∧ (¬ x1 = 2 → (vp_in x2 rn ∧ (∀ rf_55 : Nat → Int64, rf_55 = vp_updL rf (x2 : Int32).toNatClampNeg x3 → (Q rf_55)))))))))
end
set_option maxHeartbeats 4000000 in
set_option maxRecDepth 100000 in
theorem metX0_puts_J (l : Launch) (hfl : l.stackTraces = false) {Q : (Nat → Int64) → Prop} {rn : Nat} {rf : (Nat → Int64)} {x1 : Int32} {x2 : Int32} {x3 : Int64} {dC : Nat → ClassId} {dI : Nat → Nat → Nat} {dA : Nat → ClassId} {eA mi sz : Nat} {ra : Nat} (hf : wX0_puts_J Q rn rf x1 x2 x3) : Met l yX0_puts (ws_ yX0_puts cX0_puts 5 none) rmX0_puts_J (aPc dC dI dA eA mi sz [.ref ra, .int x1, .int x2, .long x3] [(ra, .inl (dA 2, rn, .inr (.inl rf)))]) (va_Qv (fun (u : (Nat → Int64)) => Q u) (aB dC dI [(ra, .inl (dA 2, rn, .inr (.inl rf)))] sz (fun u => [(ra, .inl (dA 2, rn, .inr (.inl u)))])) (va_A [(ra, .inl (dA 2, rn, .inr (.inl rf)))] sz)) 0 0 (va_A [(ra, .inl (dA 2, rn, .inr (.inl rf)))] sz) := by
  refine Met.ofW (cc := cX0_puts) (maxL := 5) (ret := none) (by decide) rfl ?_
  intro p e s m args below meth c s₁ B hml hv
  obtain ⟨rfl, hsz, hP, hK, hD0, hE⟩ := hv
  subst hsz
  have hx := B.exec
  have hb := B.bytes
  have hr := B.returns
  have hts := atoms_spec (ws := (ws_ yX0_puts cX0_puts 5 none)) B.pre
  have hts : ∀ w ∈ lw_all, w.before _ s = true := fun w h => hts w (List.mem_cons_of_mem _ h)
  have hown : s.vm.findClass RX0 = some m.cls := findClass_of_methodNamed B.named
  have hlocks := B.notSynchronized
  have S : CallFix p m c cX0_puts 5 s _ lw_all RX0 := ⟨hx, hb, hml, hown, hts⟩
  have hD := hD0.self (sz := s.heap.size)
  have hA : ∀ q : Nat, s.heap.size ≤ q → va_A [(ra, .inl (dA 2, rn, .inr (.inl rf)))] s.heap.size q := fun q h => Or.inr h
  have hS : va_S (va_A [(ra, .inl (dA 2, rn, .inr (.inl rf)))] s.heap.size) s.heap s.heap [] := va_S.rf
  have hl := lv_entry ([.ref ra, .int x1, .int x2, .long x3]) (n := 5) (Nat.le_of_ble_eq_true rfl)
  rw [lg_entry_eq]
  generalize (lg_sl ([.ref ra, .int x1, .int x2, .long x3]) ++ List.replicate (5 - (lg_sl ([.ref ra, .int x1, .int x2, .long x3])).length) Slot.unset).toArray = ls at hl ⊢
  replace hl : lv_has ls 5 [(0, .ref ra), (1, .int x1), (2, .int x2), (3, .long x3)] := hl
  have hret : hrX0_puts_J p l e s m ([.ref ra, .int x1, .int x2, .long x3] : List Value).toArray below meth c dC dI dA (va_A [(ra, .inl (dA 2, rn, .inr (.inl rf)))] s.heap.size) ra (MQ below (va_Qv (fun (u : (Nat → Int64)) => Q u) (aB dC dI [(ra, .inl (dA 2, rn, .inr (.inl rf)))] s.heap.size (fun u => [(ra, .inl (dA 2, rn, .inr (.inl u)))])) (va_A [(ra, .inl (dA 2, rn, .inr (.inl rf)))] s.heap.size)) ([.ref ra, .int x1, .int x2, .long x3] : List Value).toArray s 0 0 (va_A [(ra, .inl (dA 2, rn, .inr (.inl rf)))] s.heap.size)) Q rn := fun rf H locs kc ks pc ls h1 h2 hq hP hD hS hd => W.widen (k := 0) (n := 0) h1 h2 (W.vret hx hb hr (fun t ht hW => ⟨⟨rf, rfl, hq, by subst ht; exact ⟨hP, hD⟩⟩, hS.F ht⟩) hS.2.2 hd)
  generalize hAe : va_A [(ra, .inl (dA 2, rn, .inr (.inl rf)))] s.heap.size = A at hD hA hS hE hret ⊢
  clear hAe
  unfold wX0_puts_J at hf
  refine lv_iload_n hx hb dX0_puts_0 rfl (lv_at hl 1 rfl) ?_
  refine lv_if_ne (tgt := 16) hx hb dX0_puts_1 (by decide) (fun c_1 => ?_) (fun c_1 => ?_)
  · replace hf := hf.2 c_1
    refine lv_iload_n hx hb dX0_puts_16 rfl (lv_at hl 1 rfl) ?_
    refine lv_iconst (v := 1) hx hb dX0_puts_17 (by decide) ?_
    refine lv_icmp_ne (tgt := 33) hx hb dX0_puts_18 (by decide) (fun c_18 => ?_) (fun c_18 => ?_)
    · replace hf := hf.2 c_18
      refine lv_iload_n hx hb dX0_puts_33 rfl (lv_at hl 1 rfl) ?_
      refine lv_iconst (v := 2) hx hb dX0_puts_34 (by decide) ?_
      refine lv_icmp_ne (tgt := 49) hx hb dX0_puts_35 (by decide) (fun c_35 => ?_) (fun c_35 => ?_)
      · replace hf := hf.2 c_35
        refine lv_aload_n hx hb dX0_puts_49 rfl (lv_at hl 0 rfl) ?_
        refine va_castA hx hb hown (hts _ q948) hP 0 rfl (va_nmP (ty := .long) (hK.2 2 _ rfl).2 rfl (by decide)) dX0_puts_50 ?_
        refine lv_iload_n hx hb dX0_puts_53 rfl (lv_at hl 2 rfl) ?_
        refine lv_lload_n hx hb dX0_puts_54 rfl (lv_at hl 3 rfl) ?_
        obtain ⟨hin_, hf⟩ := hf
        obtain ⟨rf_55, erf_55⟩ : ∃ z : Nat → Int64, z = vp_updL rf (x2 : Int32).toNatClampNeg x3 := ⟨_, rfl⟩
        replace hf := hf rf_55 erf_55
        refine va_last hx hb hK hP hD hS 0 2 rfl rfl hin_ dX0_puts_55 (fun H locs hP hD hS => ?_)
        rw [← erf_55] at hP hD
        replace hP : va_P (dC, dI) vwCl [(ra, .inl (dA 2, rn, .inr (.inl rf_55)))] H := hP
        replace hD : va_D A [(ra, .inl (dA 2, rn, .inr (.inl rf_55)))] := hD
        exact hret _ _ _ _ _ _ _ (Nat.zero_le _) (Nat.zero_le _) hf (hP.sub [0] rfl) (hD.sub [0] (by decide) rfl) hS dX0_puts_56
      · replace hf := hf.1 c_35
        refine lv_aload_n hx hb dX0_puts_38 rfl (lv_at hl 0 rfl) ?_
        exact hf.elim
    · replace hf := hf.1 c_18
      refine lv_aload_n hx hb dX0_puts_21 rfl (lv_at hl 0 rfl) ?_
      exact hf.elim
  · replace hf := hf.1 c_1
    refine lv_aload_n hx hb dX0_puts_4 rfl (lv_at hl 0 rfl) ?_
    exact hf.elim
/-! HoleCounty.puts(Ljava/lang/Object;IIJ)V: it throws java/lang/ClassCastException -/
abbrev rmX0_puts_J_cc : Room := { frames := 8, cells := 3, slots := 500, locals := 10260 }
abbrev RX0_puts_J_cc_ : Room := (headSpec (ws_ yX0_puts cX0_puts 5 none) rmX0_puts_J_cc).room
section
variable {p : Program} {l : Launch} {e : Env} {s : State} {m : MethodId} {args : Array Value} {below : List Frame} {meth : Method} {c : Code} {Qw : State → Prop} {dC : Nat → ClassId} {dI : Nat → Nat → Nat} {dA : Nat → ClassId} {eA mi : Nat} {A : Nat → Prop} {ra : Nat}
abbrev hrX0_puts_J_cc (p : Program) (l : Launch) (e : Env) (s : State) (m : MethodId) (args : Array Value) (below : List Frame) (meth : Method) (c : Code) (dC : Nat → ClassId) (dI : Nat → Nat → Nat) (dA : Nat → ClassId) (A : Nat → Prop) (ra : Nat) (Qw : State → Prop) (Q : Prop) (rn : Nat) (rf : (Nat → Int64)) : Prop := ∀ (xa : Nat) (H : Heap) (locs : List Loc) (kc ks : Nat) (pc : Nat) (ls : Array Slot) (rest : List Value), kc ≤ 3 → ks ≤ 500 → Q → va_P (dC, dI) vwCl [(ra, .inl (dA 2, rn, .inr (.inl rf)))] H → va_D A [(ra, .inl (dA 2, rn, .inr (.inl rf)))] → va_S A s.heap H locs → exc "java/lang/ClassCastException" xa s H → WT p l e RX0_puts_J_cc_ s m args below meth c H locs kc ks Qw (F0 m pc ls rest) xa
def wX0_puts_J_cc (Q : Prop) (x1 : Int32) (x2 : Int32) (x3 : Int64) : Prop := ((x1 = 0 → Q) ∧ (¬ x1 = 0 → ((x1 = 1 → Q) ∧ (¬ x1 = 1 → ((x1 = 2 → Q) ∧ (¬ x1 = 2 → False))))))
end
set_option maxHeartbeats 4000000 in
set_option maxRecDepth 100000 in
theorem metX0_puts_J_cc (l : Launch) (hfl : l.stackTraces = false) {Q : Prop} {rn : Nat} {rf : (Nat → Int64)} {x1 : Int32} {x2 : Int32} {x3 : Int64} {dC : Nat → ClassId} {dI : Nat → Nat → Nat} {dA : Nat → ClassId} {eA mi sz : Nat} {ra : Nat} (hf : wX0_puts_J_cc Q x1 x2 x3) : MetT l yX0_puts (ws_ yX0_puts cX0_puts 5 none) rmX0_puts_J_cc (aPc dC dI dA eA mi sz [.ref ra, .int x1, .int x2, .long x3] [(ra, .inl (dA 2, rn, .inr (.inl rf)))]) (va_Qt (fun (u : Unit) => Q) (aBt dC dI [(ra, .inl (dA 2, rn, .inr (.inl rf)))] sz (fun (u : Unit) (xa : Nat) => [(ra, .inl (dA 2, rn, .inr (.inl rf)))]) (fun _ => "java/lang/ClassCastException")) (va_A [(ra, .inl (dA 2, rn, .inr (.inl rf)))] sz)) 3 500 (va_A [(ra, .inl (dA 2, rn, .inr (.inl rf)))] sz) := by
  refine MetT.ofW (cc := cX0_puts) (maxL := 5) (ret := none) (by decide) rfl ?_
  intro p e s m args below meth c s₁ B hml hempty hv
  obtain ⟨rfl, hsz, hP, hK, hD0, hE⟩ := hv
  subst hsz
  have hx := B.exec
  have hb := B.bytes
  have hr := B.returns
  have hts := atoms_spec (ws := (ws_ yX0_puts cX0_puts 5 none)) B.pre
  have hts : ∀ w ∈ lw_all, w.before _ s = true := fun w h => hts w (List.mem_cons_of_mem _ h)
  have hown : s.vm.findClass RX0 = some m.cls := findClass_of_methodNamed B.named
  have hlocks := B.notSynchronized
  have S : CallFix p m c cX0_puts 5 s _ lw_all RX0 := ⟨hx, hb, hml, hown, hts⟩
  have hD := hD0.self (sz := s.heap.size)
  have hA : ∀ q : Nat, s.heap.size ≤ q → va_A [(ra, .inl (dA 2, rn, .inr (.inl rf)))] s.heap.size q := fun q h => Or.inr h
  have hS : va_S (va_A [(ra, .inl (dA 2, rn, .inr (.inl rf)))] s.heap.size) s.heap s.heap [] := va_S.rf
  have hl := lv_entry ([.ref ra, .int x1, .int x2, .long x3]) (n := 5) (Nat.le_of_ble_eq_true rfl)
  rw [lg_entry_eq]
  generalize (lg_sl ([.ref ra, .int x1, .int x2, .long x3]) ++ List.replicate (5 - (lg_sl ([.ref ra, .int x1, .int x2, .long x3])).length) Slot.unset).toArray = ls at hl ⊢
  replace hl : lv_has ls 5 [(0, .ref ra), (1, .int x1), (2, .int x2), (3, .long x3)] := hl
  have hret : hrX0_puts_J_cc p l e s m ([.ref ra, .int x1, .int x2, .long x3] : List Value).toArray below meth c dC dI dA (va_A [(ra, .inl (dA 2, rn, .inr (.inl rf)))] s.heap.size) ra (TQ below (va_Qt (fun (u : Unit) => Q) (aBt dC dI [(ra, .inl (dA 2, rn, .inr (.inl rf)))] s.heap.size (fun (u : Unit) (xa : Nat) => [(ra, .inl (dA 2, rn, .inr (.inl rf)))]) (fun _ => "java/lang/ClassCastException")) (va_A [(ra, .inl (dA 2, rn, .inr (.inl rf)))] s.heap.size)) ([.ref ra, .int x1, .int x2, .long x3] : List Value).toArray s 3 500 (va_A [(ra, .inl (dA 2, rn, .inr (.inl rf)))] s.heap.size)) Q rn rf := fun xa H locs kc ks pc ls rest h1 h2 hq hP hD hS hX => WT.widen (k := 3) (n := 500) h1 h2 (WT.out (fun t ht hW => ⟨⟨(), xa, rfl, hq, ⟨by subst ht; exact ⟨hP, hD⟩, hX.at ht hW⟩⟩, hS.F ht⟩) hS.2.2 (fun y hy => by rw [hempty] at hy; exact absurd hy (by simp)) hlocks)
  generalize hAe : va_A [(ra, .inl (dA 2, rn, .inr (.inl rf)))] s.heap.size = A at hD hA hS hE hret ⊢
  clear hAe
  unfold wX0_puts_J_cc at hf
  refine lv_iload_n hx hb dX0_puts_0 rfl (lv_at hl 1 rfl) ?_
  refine lv_if_ne (tgt := 16) hx hb dX0_puts_1 (by decide) (fun c_1 => ?_) (fun c_1 => ?_)
  · replace hf := hf.2 c_1
    refine lv_iload_n hx hb dX0_puts_16 rfl (lv_at hl 1 rfl) ?_
    refine lv_iconst (v := 1) hx hb dX0_puts_17 (by decide) ?_
    refine lv_icmp_ne (tgt := 33) hx hb dX0_puts_18 (by decide) (fun c_18 => ?_) (fun c_18 => ?_)
    · replace hf := hf.2 c_18
      refine lv_iload_n hx hb dX0_puts_33 rfl (lv_at hl 1 rfl) ?_
      refine lv_iconst (v := 2) hx hb dX0_puts_34 (by decide) ?_
      refine lv_icmp_ne (tgt := 49) hx hb dX0_puts_35 (by decide) (fun c_35 => ?_) (fun c_35 => ?_)
      · replace hf := hf.2 c_35
        refine lv_aload_n hx hb dX0_puts_49 rfl (lv_at hl 0 rfl) ?_
        refine va_castA hx hb hown (hts _ q948) hP 0 rfl (va_nmP (ty := .long) (hK.2 2 _ rfl).2 rfl (by decide)) dX0_puts_50 ?_
        refine lv_iload_n hx hb dX0_puts_53 rfl (lv_at hl 2 rfl) ?_
        refine lv_lload_n hx hb dX0_puts_54 rfl (lv_at hl 3 rfl) ?_
        exact hf.elim
      · replace hf := hf.1 c_35
        refine lv_aload_n hx hb dX0_puts_38 rfl (lv_at hl 0 rfl) ?_
        have hbud : 0 + 3 ≤ 3 ∧ 0 + 500 ≤ 500 := ⟨Nat.le_of_ble_eq_true rfl, Nat.le_of_ble_eq_true rfl⟩
        refine x_cast hx hb hown (hts _ q944) (hE.2.2.1.2.2 ("[J", "[I") (by decide)) (by decide) (by decide) hK hP 0 2 1 rfl rfl rfl (va_nmP (ty := .long) (hK.2 2 _ rfl).2 rfl (by decide)) (va_nmP (ty := .int) (hK.2 1 _ rfl).2 rfl (by decide)) dX0_puts_39 (fun tx_ htx_ => ?_)
        refine vm_msg (cls := "java/lang/ClassCastException") (names := ["java/lang/RuntimeException", "java/lang/Exception"]) (text := tx_) (nb := 500) hx (by decide) (by decide) (by decide) (by decide) (atoms_have msg_CC hts hE) hE hfl hP hS hA htx_.1 htx_.2 (by decide) rfl (hl.1.trans hml.symm) (Nat.le_of_ble_eq_true rfl) (Nat.le_of_ble_eq_true rfl) (by decide) hbud (fun x_39 H locs hP hS hX => ?_)
        exact hret x_39 _ _ _ _ _ _ _ (Nat.le_of_ble_eq_true rfl) (Nat.le_of_ble_eq_true rfl) hf (hP.sub [0] rfl) (hD.sub [0] (by decide) rfl) hS hX
    · replace hf := hf.1 c_18
      refine lv_aload_n hx hb dX0_puts_21 rfl (lv_at hl 0 rfl) ?_
      have hbud : 0 + 3 ≤ 3 ∧ 0 + 500 ≤ 500 := ⟨Nat.le_of_ble_eq_true rfl, Nat.le_of_ble_eq_true rfl⟩
      refine x_cast hx hb hown (hts _ q943) (hE.2.2.1.2.2 ("[J", "[S") (by decide)) (by decide) (by decide) hK hP 0 2 3 rfl rfl rfl (va_nmP (ty := .long) (hK.2 2 _ rfl).2 rfl (by decide)) (va_nmP (ty := .short) (hK.2 3 _ rfl).2 rfl (by decide)) dX0_puts_22 (fun tx_ htx_ => ?_)
      refine vm_msg (cls := "java/lang/ClassCastException") (names := ["java/lang/RuntimeException", "java/lang/Exception"]) (text := tx_) (nb := 500) hx (by decide) (by decide) (by decide) (by decide) (atoms_have msg_CC hts hE) hE hfl hP hS hA htx_.1 htx_.2 (by decide) rfl (hl.1.trans hml.symm) (Nat.le_of_ble_eq_true rfl) (Nat.le_of_ble_eq_true rfl) (by decide) hbud (fun x_22 H locs hP hS hX => ?_)
      exact hret x_22 _ _ _ _ _ _ _ (Nat.le_of_ble_eq_true rfl) (Nat.le_of_ble_eq_true rfl) hf (hP.sub [0] rfl) (hD.sub [0] (by decide) rfl) hS hX
  · replace hf := hf.1 c_1
    refine lv_aload_n hx hb dX0_puts_4 rfl (lv_at hl 0 rfl) ?_
    have hbud : 0 + 3 ≤ 3 ∧ 0 + 500 ≤ 500 := ⟨Nat.le_of_ble_eq_true rfl, Nat.le_of_ble_eq_true rfl⟩
    refine x_cast hx hb hown (hts _ q942) (hE.2.2.1.2.2 ("[J", "[B") (by decide)) (by decide) (by decide) hK hP 0 2 0 rfl rfl rfl (va_nmP (ty := .long) (hK.2 2 _ rfl).2 rfl (by decide)) (va_nmP (ty := .byte) (hK.2 0 _ rfl).2 rfl (by decide)) dX0_puts_5 (fun tx_ htx_ => ?_)
    refine vm_msg (cls := "java/lang/ClassCastException") (names := ["java/lang/RuntimeException", "java/lang/Exception"]) (text := tx_) (nb := 500) hx (by decide) (by decide) (by decide) (by decide) (atoms_have msg_CC hts hE) hE hfl hP hS hA htx_.1 htx_.2 (by decide) rfl (hl.1.trans hml.symm) (Nat.le_of_ble_eq_true rfl) (Nat.le_of_ble_eq_true rfl) (by decide) hbud (fun x_5 H locs hP hS hX => ?_)
    exact hret x_5 _ _ _ _ _ _ _ (Nat.le_of_ble_eq_true rfl) (Nat.le_of_ble_eq_true rfl) hf (hP.sub [0] rfl) (hD.sub [0] (by decide) rfl) hS hX
/-! HoleCounty.puts(Ljava/lang/Object;IIJ)V: it throws java/lang/ArrayIndexOutOfBoundsException -/
abbrev rmX0_puts_J_ix : Room := { frames := 8, cells := 3, slots := 500, locals := 10260 }
abbrev RX0_puts_J_ix_ : Room := (headSpec (ws_ yX0_puts cX0_puts 5 none) rmX0_puts_J_ix).room
section
variable {p : Program} {l : Launch} {e : Env} {s : State} {m : MethodId} {args : Array Value} {below : List Frame} {meth : Method} {c : Code} {Qw : State → Prop} {dC : Nat → ClassId} {dI : Nat → Nat → Nat} {dA : Nat → ClassId} {eA mi : Nat} {A : Nat → Prop} {ra : Nat}
abbrev hrX0_puts_J_ix (p : Program) (l : Launch) (e : Env) (s : State) (m : MethodId) (args : Array Value) (below : List Frame) (meth : Method) (c : Code) (dC : Nat → ClassId) (dI : Nat → Nat → Nat) (dA : Nat → ClassId) (A : Nat → Prop) (ra : Nat) (Qw : State → Prop) (Q : Prop) (rn : Nat) (rf : (Nat → Int64)) : Prop := ∀ (xa : Nat) (H : Heap) (locs : List Loc) (kc ks : Nat) (pc : Nat) (ls : Array Slot) (rest : List Value), kc ≤ 3 → ks ≤ 500 → Q → va_P (dC, dI) vwCl [(ra, .inl (dA 2, rn, .inr (.inl rf)))] H → va_D A [(ra, .inl (dA 2, rn, .inr (.inl rf)))] → va_S A s.heap H locs → exc "java/lang/ArrayIndexOutOfBoundsException" xa s H → WT p l e RX0_puts_J_ix_ s m args below meth c H locs kc ks Qw (F0 m pc ls rest) xa
def wX0_puts_J_ix (Q : Prop) (rn : Nat) (x1 : Int32) (x2 : Int32) (x3 : Int64) : Prop := ((x1 = 0 → False) ∧ (¬ x1 = 0 → ((x1 = 1 → False) ∧ (¬ x1 = 1 → ((x1 = 2 → False) ∧ (¬ x1 = 2 → ((¬ vp_in x2 rn ∧ rn ≤ 36) ∧ Q)))))))
end
set_option maxHeartbeats 4000000 in
set_option maxRecDepth 100000 in
theorem metX0_puts_J_ix (l : Launch) (hfl : l.stackTraces = false) {Q : Prop} {rn : Nat} {rf : (Nat → Int64)} {x1 : Int32} {x2 : Int32} {x3 : Int64} {dC : Nat → ClassId} {dI : Nat → Nat → Nat} {dA : Nat → ClassId} {eA mi sz : Nat} {ra : Nat} (hf : wX0_puts_J_ix Q rn x1 x2 x3) : MetT l yX0_puts (ws_ yX0_puts cX0_puts 5 none) rmX0_puts_J_ix (aPc dC dI dA eA mi sz [.ref ra, .int x1, .int x2, .long x3] [(ra, .inl (dA 2, rn, .inr (.inl rf)))]) (va_Qt (fun (u : Unit) => Q) (aBt dC dI [(ra, .inl (dA 2, rn, .inr (.inl rf)))] sz (fun (u : Unit) (xa : Nat) => [(ra, .inl (dA 2, rn, .inr (.inl rf)))]) (fun _ => "java/lang/ArrayIndexOutOfBoundsException")) (va_A [(ra, .inl (dA 2, rn, .inr (.inl rf)))] sz)) 3 500 (va_A [(ra, .inl (dA 2, rn, .inr (.inl rf)))] sz) := by
  refine MetT.ofW (cc := cX0_puts) (maxL := 5) (ret := none) (by decide) rfl ?_
  intro p e s m args below meth c s₁ B hml hempty hv
  obtain ⟨rfl, hsz, hP, hK, hD0, hE⟩ := hv
  subst hsz
  have hx := B.exec
  have hb := B.bytes
  have hr := B.returns
  have hts := atoms_spec (ws := (ws_ yX0_puts cX0_puts 5 none)) B.pre
  have hts : ∀ w ∈ lw_all, w.before _ s = true := fun w h => hts w (List.mem_cons_of_mem _ h)
  have hown : s.vm.findClass RX0 = some m.cls := findClass_of_methodNamed B.named
  have hlocks := B.notSynchronized
  have S : CallFix p m c cX0_puts 5 s _ lw_all RX0 := ⟨hx, hb, hml, hown, hts⟩
  have hD := hD0.self (sz := s.heap.size)
  have hA : ∀ q : Nat, s.heap.size ≤ q → va_A [(ra, .inl (dA 2, rn, .inr (.inl rf)))] s.heap.size q := fun q h => Or.inr h
  have hS : va_S (va_A [(ra, .inl (dA 2, rn, .inr (.inl rf)))] s.heap.size) s.heap s.heap [] := va_S.rf
  have hl := lv_entry ([.ref ra, .int x1, .int x2, .long x3]) (n := 5) (Nat.le_of_ble_eq_true rfl)
  rw [lg_entry_eq]
  generalize (lg_sl ([.ref ra, .int x1, .int x2, .long x3]) ++ List.replicate (5 - (lg_sl ([.ref ra, .int x1, .int x2, .long x3])).length) Slot.unset).toArray = ls at hl ⊢
  replace hl : lv_has ls 5 [(0, .ref ra), (1, .int x1), (2, .int x2), (3, .long x3)] := hl
  have hret : hrX0_puts_J_ix p l e s m ([.ref ra, .int x1, .int x2, .long x3] : List Value).toArray below meth c dC dI dA (va_A [(ra, .inl (dA 2, rn, .inr (.inl rf)))] s.heap.size) ra (TQ below (va_Qt (fun (u : Unit) => Q) (aBt dC dI [(ra, .inl (dA 2, rn, .inr (.inl rf)))] s.heap.size (fun (u : Unit) (xa : Nat) => [(ra, .inl (dA 2, rn, .inr (.inl rf)))]) (fun _ => "java/lang/ArrayIndexOutOfBoundsException")) (va_A [(ra, .inl (dA 2, rn, .inr (.inl rf)))] s.heap.size)) ([.ref ra, .int x1, .int x2, .long x3] : List Value).toArray s 3 500 (va_A [(ra, .inl (dA 2, rn, .inr (.inl rf)))] s.heap.size)) Q rn rf := fun xa H locs kc ks pc ls rest h1 h2 hq hP hD hS hX => WT.widen (k := 3) (n := 500) h1 h2 (WT.out (fun t ht hW => ⟨⟨(), xa, rfl, hq, ⟨by subst ht; exact ⟨hP, hD⟩, hX.at ht hW⟩⟩, hS.F ht⟩) hS.2.2 (fun y hy => by rw [hempty] at hy; exact absurd hy (by simp)) hlocks)
  generalize hAe : va_A [(ra, .inl (dA 2, rn, .inr (.inl rf)))] s.heap.size = A at hD hA hS hE hret ⊢
  clear hAe
  unfold wX0_puts_J_ix at hf
  refine lv_iload_n hx hb dX0_puts_0 rfl (lv_at hl 1 rfl) ?_
  refine lv_if_ne (tgt := 16) hx hb dX0_puts_1 (by decide) (fun c_1 => ?_) (fun c_1 => ?_)
  · replace hf := hf.2 c_1
    refine lv_iload_n hx hb dX0_puts_16 rfl (lv_at hl 1 rfl) ?_
    refine lv_iconst (v := 1) hx hb dX0_puts_17 (by decide) ?_
    refine lv_icmp_ne (tgt := 33) hx hb dX0_puts_18 (by decide) (fun c_18 => ?_) (fun c_18 => ?_)
    · replace hf := hf.2 c_18
      refine lv_iload_n hx hb dX0_puts_33 rfl (lv_at hl 1 rfl) ?_
      refine lv_iconst (v := 2) hx hb dX0_puts_34 (by decide) ?_
      refine lv_icmp_ne (tgt := 49) hx hb dX0_puts_35 (by decide) (fun c_35 => ?_) (fun c_35 => ?_)
      · replace hf := hf.2 c_35
        refine lv_aload_n hx hb dX0_puts_49 rfl (lv_at hl 0 rfl) ?_
        refine va_castA hx hb hown (hts _ q948) hP 0 rfl (va_nmP (ty := .long) (hK.2 2 _ rfl).2 rfl (by decide)) dX0_puts_50 ?_
        refine lv_iload_n hx hb dX0_puts_53 rfl (lv_at hl 2 rfl) ?_
        refine lv_lload_n hx hb dX0_puts_54 rfl (lv_at hl 3 rfl) ?_
        obtain ⟨hcd, hf⟩ := hf
        have hbud : 0 + 3 ≤ 3 ∧ 0 + 500 ≤ 500 := ⟨Nat.le_of_ble_eq_true rfl, Nat.le_of_ble_eq_true rfl⟩
        refine x_last hx hb hK hP 0 2 rfl rfl hcd.1 hcd.2 dX0_puts_55 (fun tx_ htx_ => ?_)
        refine vm_msg (cls := "java/lang/ArrayIndexOutOfBoundsException") (names := ["java/lang/IndexOutOfBoundsException", "java/lang/RuntimeException", "java/lang/Exception"]) (text := tx_) (nb := 500) hx (by decide) (by decide) (by decide) (by decide) (atoms_have msg_IX hts hE) hE hfl hP hS hA htx_.1 htx_.2 (by decide) rfl (hl.1.trans hml.symm) (Nat.le_of_ble_eq_true rfl) (Nat.le_of_ble_eq_true rfl) (by decide) hbud (fun x_55 H locs hP hS hX => ?_)
        exact hret x_55 _ _ _ _ _ _ _ (Nat.le_of_ble_eq_true rfl) (Nat.le_of_ble_eq_true rfl) hf (hP.sub [0] rfl) (hD.sub [0] (by decide) rfl) hS hX
      · replace hf := hf.1 c_35
        refine lv_aload_n hx hb dX0_puts_38 rfl (lv_at hl 0 rfl) ?_
        exact hf.elim
    · replace hf := hf.1 c_18
      refine lv_aload_n hx hb dX0_puts_21 rfl (lv_at hl 0 rfl) ?_
      exact hf.elim
  · replace hf := hf.1 c_1
    refine lv_aload_n hx hb dX0_puts_4 rfl (lv_at hl 0 rfl) ?_
    exact hf.elim
