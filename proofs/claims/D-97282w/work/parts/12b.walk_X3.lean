/-! HoleCountyModel.grown(JJ)J -/
theorem pdX3_grown : DscOk yX3_grown 2 := by decide +kernel
abbrev rmX3_grown : Room := { frames := 1, cells := 0, slots := 0, locals := 23 }
abbrev RX3_grown_ : Room := (headSpec (ws_ yX3_grown cX3_grown 8 (some .long)) rmX3_grown).room
section
variable {p : Program} {l : Launch} {e : Env} {s : State} {m : MethodId} {args : Array Value} {below : List Frame} {meth : Method} {c : Code} {Qw : State → Prop} {H : Heap} {locs : List Loc}
abbrev hrX3_grown (p : Program) (l : Launch) (e : Env) (s : State) (m : MethodId) (args : Array Value) (below : List Frame) (meth : Method) (c : Code) (H : Heap) (locs : List Loc) (Qw : State → Prop) (Q : Int64 → Prop) : Prop := ∀ (r : Int64) (pc : Nat) (ls : Array Slot), Q r → decode cX3_grown pc = .ok (.lreturn, 1) → W p l e RX3_grown_ s m args below meth c H locs 0 0 Qw (F0 m pc ls [.long r])
def wX3_grown_17 (Q : Int64 → Prop) (x2 : Int64) : Nat → Int64 → Int64 → Prop
  | 0, _, _ => False
  | n + 1, x4, x6 => ((x6 = x4 → (Q x4)) ∧ (¬ x6 = x4 → (wX3_beside (fun r_33 => (∀ x6_39 : Int64, x6_39 = ((x6 ||| r_33) &&& x2) → ((wX3_grown_17 Q x2 n) x6 x6_39))) x6)))
set_option maxHeartbeats 4000000 in
set_option maxRecDepth 100000 in
theorem tX3_grown_17 {Q : Int64 → Prop} {x2 : Int64} (S : CallFix p m c cX3_grown 8 s args lw_all RX3) (hret : hrX3_grown p l e s m args below meth c H locs Qw Q) : ∀ (n : Nat) (x4 : Int64) (x6 : Int64) (ls : Array Slot), wX3_grown_17 Q x2 n x4 x6 → lv_has ls 8 [(2, .long x2), (4, .long x4), (6, .long x6)] → W p l e RX3_grown_ s m args below meth c H locs 0 0 Qw (F0 m 17 ls []) := by
  obtain ⟨hx, hb, hml, hown, hts⟩ := id S
  intro n
  induction n with
  | zero => intro _ _ _ hf; exact hf.elim
  | succ n ih =>
    intro x4 x6 ls hf hl
    rw [wX3_grown_17] at hf
    refine lv_lload hx hb dX3_grown_17 (lv_at hl 2 rfl) ?_
    refine lv_lload hx hb dX3_grown_19 (lv_at hl 1 rfl) ?_
    refine lc_eq (tgt := 44) hx hb dX3_grown_21 dX3_grown_22 (by decide) (fun c_21 => ?_) (fun c_21 => ?_)
    · replace hf := hf.1 c_21
      refine lv_lload hx hb dX3_grown_44 (lv_at hl 1 rfl) ?_
      exact hret _ _ _ hf dX3_grown_46
    · replace hf := hf.2 c_21
      refine lv_lload hx hb dX3_grown_25 (lv_at hl 2 rfl) ?_
      refine lv_lstore (lv' := [(4, .long x6), (2, .long x2), (6, .long x6)]) hx hb dX3_grown_27 hl (by decide) rfl (fun ls hl => ?_)
      refine lv_lload hx hb dX3_grown_29 (lv_at hl 0 rfl) ?_
      refine lv_lload hx hb dX3_grown_31 (lv_at hl 0 rfl) ?_
      refine cs_l (As := [.long x6]) (rest := [.long x6]) S (metX3_beside l hf) (lw_S q1320 q1321 q60 q1322) pdX3_beside ⟨rfl, rfl⟩ ⟨Nat.le_of_ble_eq_true rfl, Nat.le_of_ble_eq_true rfl⟩ rfl hl.1 rfl (Nat.le_of_ble_eq_true rfl) dX3_grown_33 ⟨Nat.zero_le _, Nat.zero_le _⟩ (fun r_33 hf => ?_)
      refine lv_lor hx hb dX3_grown_36 ?_
      refine lv_lload_n hx hb dX3_grown_37 rfl (lv_at hl 1 rfl) ?_
      refine lv_land hx hb dX3_grown_38 ?_
      refine lv_topl (fun x6_39 ex6_39 => ?_)
      replace hf := hf x6_39 ex6_39
      refine lv_lstore (lv' := [(6, .long x6_39), (4, .long x6), (2, .long x2)]) hx hb dX3_grown_39 hl (by decide) rfl (fun ls hl => ?_)
      refine lv_goto (tgt := 17) hx hb dX3_grown_41 (by decide) ?_
      exact ih x6 x6_39 _ hf (lv_sub hl [2, 1, 0] rfl)
def wX3_grown (Q : Int64 → Prop) (x0 : Int64) (x2 : Int64) : Prop := (∀ x4_3 : Int64, x4_3 = (x0 &&& x2) → (wX3_beside (fun r_9 => (∀ x6_15 : Int64, x6_15 = ((x4_3 ||| r_9) &&& x2) → (∃ fu : Nat, wX3_grown_17 Q x2 fu x4_3 x6_15))) x4_3))
end
set_option maxHeartbeats 4000000 in
set_option maxRecDepth 100000 in
theorem metX3_grown (l : Launch) {Q : Int64 → Prop} {x0 : Int64} {x2 : Int64} (hf : wX3_grown Q x0 x2) : Met l yX3_grown (ws_ yX3_grown cX3_grown 8 (some .long)) rmX3_grown (fun v _ => v = ([.long x0, .long x2] : List Value).toArray) (vp_Sl Q) 0 0 (fun _ => False) := by
  refine Met.ofW (cc := cX3_grown) (maxL := 8) (ret := (some .long)) (by decide) rfl ?_
  intro p e s m args below meth c s₁ B hml hv
  subst hv
  have hx := B.exec
  have hb := B.bytes
  have hr := B.returns
  have hts := atoms_spec (ws := (ws_ yX3_grown cX3_grown 8 (some .long))) B.pre
  have hts : ∀ w ∈ lw_all, w.before _ s = true := fun w h => hts w (List.mem_cons_of_mem _ h)
  have hown : s.vm.findClass RX3 = some m.cls := findClass_of_methodNamed B.named
  have hlocks := B.notSynchronized
  have S : CallFix p m c cX3_grown 8 s _ lw_all RX3 := ⟨hx, hb, hml, hown, hts⟩
  have hl := lv_entry ([.long x0, .long x2]) (n := 8) (Nat.le_of_ble_eq_true rfl)
  rw [lg_entry_eq]
  generalize (lg_sl ([.long x0, .long x2]) ++ List.replicate (8 - (lg_sl ([.long x0, .long x2])).length) Slot.unset).toArray = ls at hl ⊢
  replace hl : lv_has ls 8 [(0, .long x0), (2, .long x2)] := hl
  have hret : hrX3_grown p l e s m ([.long x0, .long x2] : List Value).toArray below meth c s.heap [] (MQ below (vp_Sl Q) ([.long x0, .long x2] : List Value).toArray s 0 0 (fun _ => False)) Q := fun r pc ls hq hd => W.lret hx hb hr (fun t ht hW => ⟨r, rfl, hq, ht⟩) t_nil hd
  unfold wX3_grown at hf
  refine lv_lload_n hx hb dX3_grown_0 rfl (lv_at hl 0 rfl) ?_
  refine lv_lload_n hx hb dX3_grown_1 rfl (lv_at hl 1 rfl) ?_
  refine lv_land hx hb dX3_grown_2 ?_
  refine lv_topl (fun x4_3 ex4_3 => ?_)
  replace hf := hf x4_3 ex4_3
  refine lv_lstore (lv' := [(4, .long x4_3), (0, .long x0), (2, .long x2)]) hx hb dX3_grown_3 hl (by decide) rfl (fun ls hl => ?_)
  refine lv_lload hx hb dX3_grown_5 (lv_at hl 0 rfl) ?_
  refine lv_lload hx hb dX3_grown_7 (lv_at hl 0 rfl) ?_
  refine cs_l (As := [.long x4_3]) (rest := [.long x4_3]) S (metX3_beside l hf) (lw_S q1320 q1321 q60 q1322) pdX3_beside ⟨rfl, rfl⟩ ⟨Nat.le_of_ble_eq_true rfl, Nat.le_of_ble_eq_true rfl⟩ rfl hl.1 rfl (Nat.le_of_ble_eq_true rfl) dX3_grown_9 ⟨Nat.zero_le _, Nat.zero_le _⟩ (fun r_9 hf => ?_)
  refine lv_lor hx hb dX3_grown_12 ?_
  refine lv_lload_n hx hb dX3_grown_13 rfl (lv_at hl 2 rfl) ?_
  refine lv_land hx hb dX3_grown_14 ?_
  refine lv_topl (fun x6_15 ex6_15 => ?_)
  replace hf := hf x6_15 ex6_15
  refine lv_lstore (lv' := [(6, .long x6_15), (4, .long x4_3), (0, .long x0), (2, .long x2)]) hx hb dX3_grown_15 hl (by decide) rfl (fun ls hl => ?_)
  obtain ⟨fu, hf⟩ := hf
  exact tX3_grown_17 S hret fu x4_3 x6_15 _ hf (lv_sub hl [3, 1, 0] rfl)
/-! HoleCountyModel.holeAt(I)J -/
theorem pdX3_holeAt : DscOk yX3_holeAt 1 := by decide +kernel
abbrev rmX3_holeAt : Room := { frames := 2, cells := 0, slots := 0, locals := 50 }
abbrev RX3_holeAt_ : Room := (headSpec (ws_ yX3_holeAt cX3_holeAt 2 (some .long)) rmX3_holeAt).room
section
variable {p : Program} {l : Launch} {e : Env} {s : State} {m : MethodId} {args : Array Value} {below : List Frame} {meth : Method} {c : Code} {Qw : State → Prop} {dC : Nat → ClassId} {dI : Nat → Nat → Nat} {dA : Nat → ClassId} {h : Nat → Nat}
abbrev hrX3_holeAt (p : Program) (l : Launch) (e : Env) (s : State) (m : MethodId) (args : Array Value) (below : List Frame) (meth : Method) (c : Code) (dC : Nat → ClassId) (dI : Nat → Nat → Nat) (dA : Nat → ClassId) (h : Nat → Nat) (Qw : State → Prop) (Q : Int64 → Prop) (depths : (Nat → Int32)) (owners : (Nat → Int32)) (roofs : Int64) (rate : Int32) (undos : (Nat → Int32)) (undoMany : Int32) (drawn : Int32) (dug : Int64) (deep : Int64) (holes : (Nat → Int64)) (holeMany : Int32) (tape : (Nat → Int32)) (taped : Int32) (place : Int32) (reads : Int32) (read_ : (Nat → Int32)) (row : (Nat → Int32)) (order : (Nat → Int32)) (bestOrder : (Nat → Int32)) (nears : (Nat → Int32)) (isKept : Int32) (keptRoofs : Int64) (kept : (Nat → Int32)) (lanes : (Nat → Int32)) (rowSizes : (Nat → Int32)) (items : (Nat → Int64)) (moved : (Nat → Int64)) : Prop := ∀ (r : Int64) (H : Heap) (locs : List Loc) (pc : Nat) (ls : Array Slot), Q r → va_P (dC, dI) vwCl (wM h dA depths owners roofs rate undos undoMany drawn dug deep holes holeMany tape taped place reads read_ row order bestOrder nears isKept keptRoofs kept lanes rowSizes items moved) H → va_S (mA h) s.heap H locs → decode cX3_holeAt pc = .ok (.lreturn, 1) → W p l e RX3_holeAt_ s m args below meth c H locs 0 0 Qw (F0 m pc ls [.long r])
def wX3_holeAt (Q : Int64 → Prop) (dug : Int64) (x1 : Int32) : Prop := (wX3_grown (fun r_7 => (Q r_7)) (1 <<< ((x1 : Int32).toInt64 &&& 63)) dug)
end
set_option maxHeartbeats 4000000 in
set_option maxRecDepth 100000 in
theorem metX3_holeAt (l : Launch) {Q : Int64 → Prop} {depths : (Nat → Int32)} {owners : (Nat → Int32)} {roofs : Int64} {rate : Int32} {undos : (Nat → Int32)} {undoMany : Int32} {drawn : Int32} {dug : Int64} {deep : Int64} {holes : (Nat → Int64)} {holeMany : Int32} {tape : (Nat → Int32)} {taped : Int32} {place : Int32} {reads : Int32} {read_ : (Nat → Int32)} {row : (Nat → Int32)} {order : (Nat → Int32)} {bestOrder : (Nat → Int32)} {nears : (Nat → Int32)} {isKept : Int32} {keptRoofs : Int64} {kept : (Nat → Int32)} {lanes : (Nat → Int32)} {rowSizes : (Nat → Int32)} {items : (Nat → Int64)} {moved : (Nat → Int64)} {x1 : Int32} {dC : Nat → ClassId} {dI : Nat → Nat → Nat} {dA : Nat → ClassId} {h : Nat → Nat} (hj : mJ h) (hf : wX3_holeAt Q dug x1) : Met l yX3_holeAt (ws_ yX3_holeAt cX3_holeAt 2 (some .long)) rmX3_holeAt (mPc dC dI dA h [.int x1] (wM h dA depths owners roofs rate undos undoMany drawn dug deep holes holeMany tape taped place reads read_ row order bestOrder nears isKept keptRoofs kept lanes rowSizes items moved)) (va_Ql (fun (r : Int64) (u : Unit) => Q r) (fun u t => va_P (dC, dI) vwCl (wM h dA depths owners roofs rate undos undoMany drawn dug deep holes holeMany tape taped place reads read_ row order bestOrder nears isKept keptRoofs kept lanes rowSizes items moved) t.heap) (mA h)) 0 0 (mA h) := by
  refine Met.ofW (cc := cX3_holeAt) (maxL := 2) (ret := (some .long)) (by decide) rfl ?_
  intro p e s m args below meth c s₁ B hml hv
  obtain ⟨rfl, hP, hK⟩ := hv
  have hx := B.exec
  have hb := B.bytes
  have hr := B.returns
  have hts := atoms_spec (ws := (ws_ yX3_holeAt cX3_holeAt 2 (some .long))) B.pre
  have hts : ∀ w ∈ lw_all, w.before _ s = true := fun w h => hts w (List.mem_cons_of_mem _ h)
  have hown : s.vm.findClass RX3 = some m.cls := findClass_of_methodNamed B.named
  have hlocks := B.notSynchronized
  have S : CallFix p m c cX3_holeAt 2 s _ lw_all RX3 := ⟨hx, hb, hml, hown, hts⟩
  have hS : va_S (mA h) s.heap s.heap [] := va_S.rf
  have hl := lv_entry ([.ref (h 0), .int x1]) (n := 2) (Nat.le_of_ble_eq_true rfl)
  rw [lg_entry_eq]
  generalize (lg_sl ([.ref (h 0), .int x1]) ++ List.replicate (2 - (lg_sl ([.ref (h 0), .int x1])).length) Slot.unset).toArray = ls at hl ⊢
  replace hl : lv_has ls 2 [(0, .ref (h 0)), (1, .int x1)] := hl
  have hret : hrX3_holeAt p l e s m ([.ref (h 0), .int x1] : List Value).toArray below meth c dC dI dA h (MQ below (va_Ql (fun (r : Int64) (u : Unit) => Q r) (fun u t => va_P (dC, dI) vwCl (wM h dA depths owners roofs rate undos undoMany drawn dug deep holes holeMany tape taped place reads read_ row order bestOrder nears isKept keptRoofs kept lanes rowSizes items moved) t.heap) (mA h)) ([.ref (h 0), .int x1] : List Value).toArray s 0 0 (mA h)) Q depths owners roofs rate undos undoMany drawn dug deep holes holeMany tape taped place reads read_ row order bestOrder nears isKept keptRoofs kept lanes rowSizes items moved := fun r H locs pc ls hq hP hS hd => W.lret hx hb hr (fun t ht hW => ⟨⟨r, (), rfl, hq, by subst ht; exact hP⟩, hS.F ht⟩) hS.2.2 hd
  unfold wX3_holeAt at hf
  refine lv_lconst (v := 1) hx hb dX3_holeAt_0 (by decide) ?_
  refine lv_iload_n hx hb dX3_holeAt_1 rfl (lv_at hl 1 rfl) ?_
  refine lv_lshl (v := (1 <<< ((x1 : Int32).toInt64 &&& 63))) hx hb dX3_holeAt_2 rfl ?_
  refine lv_aload_n hx hb dX3_holeAt_3 rfl (lv_at hl 0 rfl) ?_
  refine gM_dug S hK hP dX3_holeAt_4 ?_
  refine cs_l (As := [.long (1 <<< ((x1 : Int32).toInt64 &&& 63)), .long dug]) (rest := []) S (metX3_grown l hf) (lw_S q1317 q1318 q60 q1319) pdX3_grown ⟨rfl, rfl⟩ ⟨Nat.le_of_ble_eq_true rfl, Nat.le_of_ble_eq_true rfl⟩ rfl hl.1 rfl (Nat.le_of_ble_eq_true rfl) dX3_holeAt_7 ⟨Nat.zero_le _, Nat.zero_le _⟩ (fun r_7 hf => ?_)
  exact hret _ _ _ _ _ hf hP hS dX3_holeAt_10
/-! HoleCountyModel.least(J)I -/
theorem pdX3_least : DscOk yX3_least 1 := by decide +kernel
abbrev rmX3_least : Room := { frames := 1, cells := 0, slots := 0, locals := 22 }
abbrev RX3_least_ : Room := (headSpec (ws_ yX3_least cX3_least 3 (some .int)) rmX3_least).room
section
variable {p : Program} {l : Launch} {e : Env} {s : State} {m : MethodId} {args : Array Value} {below : List Frame} {meth : Method} {c : Code} {Qw : State → Prop} {H : Heap} {locs : List Loc}
abbrev hrX3_least (p : Program) (l : Launch) (e : Env) (s : State) (m : MethodId) (args : Array Value) (below : List Frame) (meth : Method) (c : Code) (H : Heap) (locs : List Loc) (Qw : State → Prop) (Q : Int32 → Prop) : Prop := ∀ (r : Int32) (pc : Nat) (ls : Array Slot), Q r → decode cX3_least pc = .ok (.ireturn, 1) → W p l e RX3_least_ s m args below meth c H locs 0 0 Qw (F0 m pc ls [.int r])
def wX3_least_2 (Q : Int32 → Prop) (x0 : Int64) : Nat → Int32 → Prop
  | 0, _ => False
  | n + 1, x2 => (wX3_has (fun r_4 => ((r_4 = 0 → (∀ x2_10 : Int32, x2_10 = x2 + 1 → ((wX3_least_2 Q x0 n) x2_10))) ∧ (¬ r_4 = 0 → (Q x2)))) x0 x2)
set_option maxHeartbeats 4000000 in
set_option maxRecDepth 100000 in
theorem tX3_least_2 {Q : Int32 → Prop} {x0 : Int64} (S : CallFix p m c cX3_least 3 s args lw_all RX3) (hret : hrX3_least p l e s m args below meth c H locs Qw Q) : ∀ (n : Nat) (x2 : Int32) (ls : Array Slot), wX3_least_2 Q x0 n x2 → lv_has ls 3 [(0, .long x0), (2, .int x2)] → W p l e RX3_least_ s m args below meth c H locs 0 0 Qw (F0 m 2 ls []) := by
  obtain ⟨hx, hb, hml, hown, hts⟩ := id S
  intro n
  induction n with
  | zero => intro _ _ hf; exact hf.elim
  | succ n ih =>
    intro x2 ls hf hl
    rw [wX3_least_2] at hf
    refine lv_lload_n hx hb dX3_least_2 rfl (lv_at hl 0 rfl) ?_
    refine lv_iload_n hx hb dX3_least_3 rfl (lv_at hl 1 rfl) ?_
    refine cs_i (As := [.long x0, .int x2]) (rest := []) S (metX3_has l hf) (lw_S q1275 q1276 q60 q1277) pdX3_has ⟨rfl, rfl⟩ ⟨Nat.le_of_ble_eq_true rfl, Nat.le_of_ble_eq_true rfl⟩ rfl hl.1 rfl (Nat.le_of_ble_eq_true rfl) dX3_least_4 ⟨Nat.zero_le _, Nat.zero_le _⟩ (fun r_4 hf => ?_)
    refine lv_if_ne (tgt := 16) hx hb dX3_least_7 (by decide) (fun c_7 => ?_) (fun c_7 => ?_)
    · replace hf := hf.2 c_7
      refine lv_iload_n hx hb dX3_least_16 rfl (lv_at hl 1 rfl) ?_
      exact hret _ _ _ hf dX3_least_17
    · replace hf := hf.1 c_7
      obtain ⟨x2_10, ex2_10⟩ : ∃ z : Int32, z = x2 + 1 := ⟨_, rfl⟩
      replace hf := hf x2_10 ex2_10
      refine lv_iinc (v := x2_10) (lv' := [(2, .int x2_10), (0, .long x0)]) hx hb dX3_least_10 hl (k := 1) rfl (by rw [ex2_10]; rfl) (by decide) rfl (fun ls hl => ?_)
      refine lv_goto (tgt := 2) hx hb dX3_least_13 (by decide) ?_
      exact ih x2_10 _ hf (lv_sub hl [1, 0] rfl)
def wX3_least (Q : Int32 → Prop) (x0 : Int64) : Prop := (∃ fu : Nat, wX3_least_2 Q x0 fu 0)
end
set_option maxHeartbeats 4000000 in
set_option maxRecDepth 100000 in
theorem metX3_least (l : Launch) {Q : Int32 → Prop} {x0 : Int64} (hf : wX3_least Q x0) : Met l yX3_least (ws_ yX3_least cX3_least 3 (some .int)) rmX3_least (fun v _ => v = ([.long x0] : List Value).toArray) (vp_Si Q) 0 0 (fun _ => False) := by
  refine Met.ofW (cc := cX3_least) (maxL := 3) (ret := (some .int)) (by decide) rfl ?_
  intro p e s m args below meth c s₁ B hml hv
  subst hv
  have hx := B.exec
  have hb := B.bytes
  have hr := B.returns
  have hts := atoms_spec (ws := (ws_ yX3_least cX3_least 3 (some .int))) B.pre
  have hts : ∀ w ∈ lw_all, w.before _ s = true := fun w h => hts w (List.mem_cons_of_mem _ h)
  have hown : s.vm.findClass RX3 = some m.cls := findClass_of_methodNamed B.named
  have hlocks := B.notSynchronized
  have S : CallFix p m c cX3_least 3 s _ lw_all RX3 := ⟨hx, hb, hml, hown, hts⟩
  have hl := lv_entry ([.long x0]) (n := 3) (Nat.le_of_ble_eq_true rfl)
  rw [lg_entry_eq]
  generalize (lg_sl ([.long x0]) ++ List.replicate (3 - (lg_sl ([.long x0])).length) Slot.unset).toArray = ls at hl ⊢
  replace hl : lv_has ls 3 [(0, .long x0)] := hl
  have hret : hrX3_least p l e s m ([.long x0] : List Value).toArray below meth c s.heap [] (MQ below (vp_Si Q) ([.long x0] : List Value).toArray s 0 0 (fun _ => False)) Q := fun r pc ls hq hd => W.iret hx hb hr (fun t ht hW => ⟨r, rfl, hq, ht⟩) t_nil hd
  unfold wX3_least at hf
  refine lv_iconst (v := 0) hx hb dX3_least_0 (by decide) ?_
  refine lv_istore_n (lv' := [(2, .int 0), (0, .long x0)]) hx hb dX3_least_1 rfl hl (by decide) rfl (fun ls hl => ?_)
  obtain ⟨fu, hf⟩ := hf
  exact tX3_least_2 S hret fu 0 _ hf (lv_sub hl [1, 0] rfl)
/-! HoleCountyModel.told(II)I -/
theorem pdX3_told : DscOk yX3_told 2 := by decide +kernel
abbrev rmX3_told : Room := { frames := 3, cells := 0, slots := 0, locals := 71 }
abbrev RX3_told_ : Room := (headSpec (ws_ yX3_told cX3_told 3 (some .int)) rmX3_told).room
section
variable {p : Program} {l : Launch} {e : Env} {s : State} {m : MethodId} {args : Array Value} {below : List Frame} {meth : Method} {c : Code} {Qw : State → Prop} {dC : Nat → ClassId} {dI : Nat → Nat → Nat} {dA : Nat → ClassId} {h : Nat → Nat}
abbrev hrX3_told (p : Program) (l : Launch) (e : Env) (s : State) (m : MethodId) (args : Array Value) (below : List Frame) (meth : Method) (c : Code) (dC : Nat → ClassId) (dI : Nat → Nat → Nat) (dA : Nat → ClassId) (h : Nat → Nat) (Qw : State → Prop) (Q : Int32 → Int64 → Int64 → Prop) (depths : (Nat → Int32)) (owners : (Nat → Int32)) (roofs : Int64) (rate : Int32) (undos : (Nat → Int32)) (undoMany : Int32) (drawn : Int32) (holes : (Nat → Int64)) (holeMany : Int32) (tape : (Nat → Int32)) (taped : Int32) (place : Int32) (reads : Int32) (read_ : (Nat → Int32)) (row : (Nat → Int32)) (order : (Nat → Int32)) (bestOrder : (Nat → Int32)) (nears : (Nat → Int32)) (isKept : Int32) (keptRoofs : Int64) (kept : (Nat → Int32)) (lanes : (Nat → Int32)) (rowSizes : (Nat → Int32)) (items : (Nat → Int64)) (moved : (Nat → Int64)) : Prop := ∀ (r : Int32) (dug : Int64) (deep : Int64) (H : Heap) (locs : List Loc) (pc : Nat) (ls : Array Slot), Q r dug deep → va_P (dC, dI) vwCl (wM h dA depths owners roofs rate undos undoMany drawn dug deep holes holeMany tape taped place reads read_ row order bestOrder nears isKept keptRoofs kept lanes rowSizes items moved) H → va_S (mA h) s.heap H locs → decode cX3_told pc = .ok (.ireturn, 1) → W p l e RX3_told_ s m args below meth c H locs 0 0 Qw (F0 m pc ls [.int r])
def wX3_told (Q : Int32 → Int64 → Int64 → Prop) (depths : (Nat → Int32)) (owners : (Nat → Int32)) (roofs : Int64) (dug : Int64) (deep : Int64) (x1 : Int32) (x2 : Int32) : Prop := (wX3_isCell (fun r_1 => ((r_1 = 0 → (Q (-1) dug deep)) ∧ (¬ r_1 = 0 → (wX3_look (fun dug_10 deep_10 => ((x2 = 0 → (vp_in x1 36 ∧ (Q (depths (x1 : Int32).toNatClampNeg) dug_10 deep_10))) ∧ (¬ x2 = 0 → ((x2 = 1 → (wX3_has (fun r_56 => ((r_56 = 0 → (Q 0 dug_10 deep_10)) ∧ (¬ r_56 = 0 → (Q 1 dug_10 deep_10)))) roofs x1)) ∧ (¬ x2 = 1 → ((x2 = 2 → (vp_in x1 36 ∧ (Q (owners (x1 : Int32).toNatClampNeg) dug_10 deep_10))) ∧ (¬ x2 = 2 → ((x2 = 3 → (wX3_has (fun r_80 => ((r_80 = 0 → (Q (-4) dug_10 deep_10)) ∧ (¬ r_80 = 0 → (wX3_holeAt (fun r_88 => (wX3_least (fun r_91 => (Q r_91 dug_10 deep_10)) r_88)) dug_10 x1)))) dug_10 x1)) ∧ (¬ x2 = 3 → (Q (-1) dug_10 deep_10)))))))))) depths dug deep)))) x1)
end
set_option maxHeartbeats 4000000 in
set_option maxRecDepth 100000 in
theorem metX3_told (l : Launch) {Q : Int32 → Int64 → Int64 → Prop} {depths : (Nat → Int32)} {owners : (Nat → Int32)} {roofs : Int64} {rate : Int32} {undos : (Nat → Int32)} {undoMany : Int32} {drawn : Int32} {dug : Int64} {deep : Int64} {holes : (Nat → Int64)} {holeMany : Int32} {tape : (Nat → Int32)} {taped : Int32} {place : Int32} {reads : Int32} {read_ : (Nat → Int32)} {row : (Nat → Int32)} {order : (Nat → Int32)} {bestOrder : (Nat → Int32)} {nears : (Nat → Int32)} {isKept : Int32} {keptRoofs : Int64} {kept : (Nat → Int32)} {lanes : (Nat → Int32)} {rowSizes : (Nat → Int32)} {items : (Nat → Int64)} {moved : (Nat → Int64)} {x1 : Int32} {x2 : Int32} {dC : Nat → ClassId} {dI : Nat → Nat → Nat} {dA : Nat → ClassId} {h : Nat → Nat} (hj : mJ h) (hf : wX3_told Q depths owners roofs dug deep x1 x2) : Met l yX3_told (ws_ yX3_told cX3_told 3 (some .int)) rmX3_told (mPc dC dI dA h [.int x1, .int x2] (wM h dA depths owners roofs rate undos undoMany drawn dug deep holes holeMany tape taped place reads read_ row order bestOrder nears isKept keptRoofs kept lanes rowSizes items moved)) (va_Qi (fun (r : Int32) (u : Int64 × Int64) => Q r u.1 u.2) (fun u t => va_P (dC, dI) vwCl (wM h dA depths owners roofs rate undos undoMany drawn u.1 u.2 holes holeMany tape taped place reads read_ row order bestOrder nears isKept keptRoofs kept lanes rowSizes items moved) t.heap) (mA h)) 0 0 (mA h) := by
  refine Met.ofW (cc := cX3_told) (maxL := 3) (ret := (some .int)) (by decide) rfl ?_
  intro p e s m args below meth c s₁ B hml hv
  obtain ⟨rfl, hP, hK⟩ := hv
  have hx := B.exec
  have hb := B.bytes
  have hr := B.returns
  have hts := atoms_spec (ws := (ws_ yX3_told cX3_told 3 (some .int))) B.pre
  have hts : ∀ w ∈ lw_all, w.before _ s = true := fun w h => hts w (List.mem_cons_of_mem _ h)
  have hown : s.vm.findClass RX3 = some m.cls := findClass_of_methodNamed B.named
  have hlocks := B.notSynchronized
  have S : CallFix p m c cX3_told 3 s _ lw_all RX3 := ⟨hx, hb, hml, hown, hts⟩
  have hS : va_S (mA h) s.heap s.heap [] := va_S.rf
  have hl := lv_entry ([.ref (h 0), .int x1, .int x2]) (n := 3) (Nat.le_of_ble_eq_true rfl)
  rw [lg_entry_eq]
  generalize (lg_sl ([.ref (h 0), .int x1, .int x2]) ++ List.replicate (3 - (lg_sl ([.ref (h 0), .int x1, .int x2])).length) Slot.unset).toArray = ls at hl ⊢
  replace hl : lv_has ls 3 [(0, .ref (h 0)), (1, .int x1), (2, .int x2)] := hl
  have hret : hrX3_told p l e s m ([.ref (h 0), .int x1, .int x2] : List Value).toArray below meth c dC dI dA h (MQ below (va_Qi (fun (r : Int32) (u : Int64 × Int64) => Q r u.1 u.2) (fun u t => va_P (dC, dI) vwCl (wM h dA depths owners roofs rate undos undoMany drawn u.1 u.2 holes holeMany tape taped place reads read_ row order bestOrder nears isKept keptRoofs kept lanes rowSizes items moved) t.heap) (mA h)) ([.ref (h 0), .int x1, .int x2] : List Value).toArray s 0 0 (mA h)) Q depths owners roofs rate undos undoMany drawn holes holeMany tape taped place reads read_ row order bestOrder nears isKept keptRoofs kept lanes rowSizes items moved := fun r dug deep H locs pc ls hq hP hS hd => W.iret hx hb hr (fun t ht hW => ⟨⟨r, (dug, deep), rfl, hq, by subst ht; exact hP⟩, hS.F ht⟩) hS.2.2 hd
  unfold wX3_told at hf
  refine lv_iload_n hx hb dX3_told_0 rfl (lv_at hl 1 rfl) ?_
  refine cs_i (As := [.int x1]) (rest := []) S (metX3_isCell l hf) (lw_S q1264 q1265 q60 q1266) pdX3_isCell ⟨rfl, rfl⟩ ⟨Nat.le_of_ble_eq_true rfl, Nat.le_of_ble_eq_true rfl⟩ rfl hl.1 rfl (Nat.le_of_ble_eq_true rfl) dX3_told_1 ⟨Nat.zero_le _, Nat.zero_le _⟩ (fun r_1 hf => ?_)
  refine lv_if_ne (tgt := 9) hx hb dX3_told_4 (by decide) (fun c_4 => ?_) (fun c_4 => ?_)
  · replace hf := hf.2 c_4
    refine lv_aload_n hx hb dX3_told_9 rfl (lv_at hl 0 rfl) ?_
    refine cM_v (As := []) (rest := []) S hK rfl hP hS (metX3_look l hj hf) (lw_V q1309 q1311 qs27 q60 q1312) rfl pdX3_look ⟨rfl, rfl⟩ ⟨Nat.le_of_ble_eq_true rfl, Nat.le_of_ble_eq_true rfl⟩ rfl hl.1 rfl (Nat.le_of_ble_eq_true rfl) dX3_told_10 ⟨Nat.zero_le _, Nat.zero_le _⟩ (fun u_10 H locs hf hP hS => ?_)
    obtain ⟨dug_10, deep_10⟩ := u_10
    replace hP : va_P (dC, dI) vwCl (wM h dA depths owners roofs rate undos undoMany drawn dug_10 deep_10 holes holeMany tape taped place reads read_ row order bestOrder nears isKept keptRoofs kept lanes rowSizes items moved) H := hP
    try dsimp only at hf
    refine lv_iload_n hx hb dX3_told_13 rfl (lv_at hl 2 rfl) ?_
    by_cases c_14_0 : x2 = 0
    · replace hf := hf.1 c_14_0
      refine lv_tableIn (off := 30) (tgt := 44) hx hb dX3_told_14 (by rw [c_14_0]; decide) (by rw [c_14_0]; decide) (by rw [c_14_0]; decide) (by decide) ?_
      refine lv_aload_n hx hb dX3_told_44 rfl (lv_at hl 0 rfl) ?_
      refine gM_depths S hK hP dX3_told_45 ?_
      refine lv_iload_n hx hb dX3_told_48 rfl (lv_at hl 1 rfl) ?_
      obtain ⟨hin, hf⟩ := hf
      refine lM_depths S hK hP hin dX3_told_49 ?_
      exact hret _ _ _ _ _ _ _ hf hP hS dX3_told_50
    replace hf := hf.2 c_14_0
    by_cases c_14_1 : x2 = 1
    · replace hf := hf.1 c_14_1
      refine lv_tableIn (off := 37) (tgt := 51) hx hb dX3_told_14 (by rw [c_14_1]; decide) (by rw [c_14_1]; decide) (by rw [c_14_1]; decide) (by decide) ?_
      refine lv_aload_n hx hb dX3_told_51 rfl (lv_at hl 0 rfl) ?_
      refine gM_roofs S hK hP dX3_told_52 ?_
      refine lv_iload_n hx hb dX3_told_55 rfl (lv_at hl 1 rfl) ?_
      refine cs_i (As := [.long roofs, .int x1]) (rest := []) S (metX3_has l hf) (lw_S q1275 q1276 q60 q1277) pdX3_has ⟨rfl, rfl⟩ ⟨Nat.le_of_ble_eq_true rfl, Nat.le_of_ble_eq_true rfl⟩ rfl hl.1 rfl (Nat.le_of_ble_eq_true rfl) dX3_told_56 ⟨Nat.zero_le _, Nat.zero_le _⟩ (fun r_56 hf => ?_)
      refine lv_if_eq (tgt := 66) hx hb dX3_told_59 (by decide) (fun c_59 => ?_) (fun c_59 => ?_)
      · replace hf := hf.1 c_59
        refine lv_iconst (v := 0) hx hb dX3_told_66 (by decide) ?_
        exact hret _ _ _ _ _ _ _ hf hP hS dX3_told_67
      · replace hf := hf.2 c_59
        refine lv_iconst (v := 1) hx hb dX3_told_62 (by decide) ?_
        refine lv_goto (tgt := 67) hx hb dX3_told_63 (by decide) ?_
        exact hret _ _ _ _ _ _ _ hf hP hS dX3_told_67
    replace hf := hf.2 c_14_1
    by_cases c_14_2 : x2 = 2
    · replace hf := hf.1 c_14_2
      refine lv_tableIn (off := 54) (tgt := 68) hx hb dX3_told_14 (by rw [c_14_2]; decide) (by rw [c_14_2]; decide) (by rw [c_14_2]; decide) (by decide) ?_
      refine lv_aload_n hx hb dX3_told_68 rfl (lv_at hl 0 rfl) ?_
      refine gM_owners S hK hP dX3_told_69 ?_
      refine lv_iload_n hx hb dX3_told_72 rfl (lv_at hl 1 rfl) ?_
      obtain ⟨hin, hf⟩ := hf
      refine lM_owners S hK hP hin dX3_told_73 ?_
      exact hret _ _ _ _ _ _ _ hf hP hS dX3_told_74
    replace hf := hf.2 c_14_2
    by_cases c_14_3 : x2 = 3
    · replace hf := hf.1 c_14_3
      refine lv_tableIn (off := 61) (tgt := 75) hx hb dX3_told_14 (by rw [c_14_3]; decide) (by rw [c_14_3]; decide) (by rw [c_14_3]; decide) (by decide) ?_
      refine lv_aload_n hx hb dX3_told_75 rfl (lv_at hl 0 rfl) ?_
      refine gM_dug S hK hP dX3_told_76 ?_
      refine lv_iload_n hx hb dX3_told_79 rfl (lv_at hl 1 rfl) ?_
      refine cs_i (As := [.long dug_10, .int x1]) (rest := []) S (metX3_has l hf) (lw_S q1275 q1276 q60 q1277) pdX3_has ⟨rfl, rfl⟩ ⟨Nat.le_of_ble_eq_true rfl, Nat.le_of_ble_eq_true rfl⟩ rfl hl.1 rfl (Nat.le_of_ble_eq_true rfl) dX3_told_80 ⟨Nat.zero_le _, Nat.zero_le _⟩ (fun r_80 hf => ?_)
      refine lv_if_eq (tgt := 97) hx hb dX3_told_83 (by decide) (fun c_83 => ?_) (fun c_83 => ?_)
      · replace hf := hf.1 c_83
        refine lv_bipush (v := (-4)) hx hb dX3_told_97 (by decide) ?_
        exact hret _ _ _ _ _ _ _ hf hP hS dX3_told_99
      · replace hf := hf.2 c_83
        refine lv_aload_n hx hb dX3_told_86 rfl (lv_at hl 0 rfl) ?_
        refine lv_iload_n hx hb dX3_told_87 rfl (lv_at hl 1 rfl) ?_
        refine cM_l (As := [.int x1]) (rest := []) S hK rfl hP hS (metX3_holeAt l hj hf) (lw_V q1313 q1315 qs28 q60 q1316) rfl pdX3_holeAt ⟨rfl, rfl⟩ ⟨Nat.le_of_ble_eq_true rfl, Nat.le_of_ble_eq_true rfl⟩ rfl hl.1 rfl (Nat.le_of_ble_eq_true rfl) dX3_told_88 ⟨Nat.zero_le _, Nat.zero_le _⟩ (fun r_88 u_88 H locs hf hP hS => ?_)
        replace hP : va_P (dC, dI) vwCl (wM h dA depths owners roofs rate undos undoMany drawn dug_10 deep_10 holes holeMany tape taped place reads read_ row order bestOrder nears isKept keptRoofs kept lanes rowSizes items moved) H := hP
        try dsimp only at hf
        refine cs_i (As := [.long r_88]) (rest := []) S (metX3_least l hf) (lw_S q1326 q1327 q60 q1328) pdX3_least ⟨rfl, rfl⟩ ⟨Nat.le_of_ble_eq_true rfl, Nat.le_of_ble_eq_true rfl⟩ rfl hl.1 rfl (Nat.le_of_ble_eq_true rfl) dX3_told_91 ⟨Nat.zero_le _, Nat.zero_le _⟩ (fun r_91 hf => ?_)
        refine lv_goto (tgt := 99) hx hb dX3_told_94 (by decide) ?_
        exact hret _ _ _ _ _ _ _ hf hP hS dX3_told_99
    replace hf := hf.2 c_14_3
    have n_0 := sw_no (j := 0) c_14_0 (by decide)
    have n_1 := sw_no (j := 1) c_14_1 (by decide)
    have n_2 := sw_no (j := 2) c_14_2 (by decide)
    have n_3 := sw_no (j := 3) c_14_3 (by decide)
    refine lv_tableOut (tgt := 100) hx hb dX3_told_14 (by omega) (by decide) ?_
    refine lv_iconst (v := (-1)) hx hb dX3_told_100 (by decide) ?_
    exact hret _ _ _ _ _ _ _ hf hP hS dX3_told_101
  · replace hf := hf.1 c_4
    refine lv_iconst (v := (-1)) hx hb dX3_told_7 (by decide) ?_
    exact hret _ _ _ _ _ _ _ hf hP hS dX3_told_8
/-! HoleCountyModel.type(I)I -/
theorem pdX3_type : DscOk yX3_type 1 := by decide +kernel
abbrev rmX3_type : Room := { frames := 1, cells := 0, slots := 0, locals := 25 }
abbrev RX3_type_ : Room := (headSpec (ws_ yX3_type cX3_type 2 (some .int)) rmX3_type).room
section
variable {p : Program} {l : Launch} {e : Env} {s : State} {m : MethodId} {args : Array Value} {below : List Frame} {meth : Method} {c : Code} {Qw : State → Prop} {dC : Nat → ClassId} {dI : Nat → Nat → Nat} {dA : Nat → ClassId} {h : Nat → Nat}
abbrev hrX3_type (p : Program) (l : Launch) (e : Env) (s : State) (m : MethodId) (args : Array Value) (below : List Frame) (meth : Method) (c : Code) (dC : Nat → ClassId) (dI : Nat → Nat → Nat) (dA : Nat → ClassId) (h : Nat → Nat) (Qw : State → Prop) (Q : Int32 → (Nat → Int32) → Int32 → Prop) (depths : (Nat → Int32)) (owners : (Nat → Int32)) (roofs : Int64) (rate : Int32) (undos : (Nat → Int32)) (undoMany : Int32) (drawn : Int32) (dug : Int64) (deep : Int64) (holes : (Nat → Int64)) (holeMany : Int32) (place : Int32) (reads : Int32) (read_ : (Nat → Int32)) (row : (Nat → Int32)) (order : (Nat → Int32)) (bestOrder : (Nat → Int32)) (nears : (Nat → Int32)) (isKept : Int32) (keptRoofs : Int64) (kept : (Nat → Int32)) (lanes : (Nat → Int32)) (rowSizes : (Nat → Int32)) (items : (Nat → Int64)) (moved : (Nat → Int64)) : Prop := ∀ (r : Int32) (tape : (Nat → Int32)) (taped : Int32) (H : Heap) (locs : List Loc) (pc : Nat) (ls : Array Slot), Q r tape taped → va_P (dC, dI) vwCl (wM h dA depths owners roofs rate undos undoMany drawn dug deep holes holeMany tape taped place reads read_ row order bestOrder nears isKept keptRoofs kept lanes rowSizes items moved) H → va_S (mA h) s.heap H locs → decode cX3_type pc = .ok (.ireturn, 1) → W p l e RX3_type_ s m args below meth c H locs 0 0 Qw (F0 m pc ls [.int r])
def wX3_type (Q : Int32 → (Nat → Int32) → Int32 → Prop) (tape : (Nat → Int32)) (taped : Int32) (x1 : Int32) : Prop := (wX3_in (fun r_8 => ((r_8 = 0 → (Q (-1) tape taped)) ∧ (¬ r_8 = 0 → ((taped = 160 → (Q (-3) tape taped)) ∧ (¬ taped = 160 → (vp_in taped 160 ∧ (∀ tape_38 : Nat → Int32, tape_38 = upd tape (taped : Int32).toNatClampNeg x1 → (∀ taped_46 : Int32, taped_46 = (taped + 1) → (Q taped_46 tape_38 taped_46))))))))) ((x1 : Int32).toInt64) 32 126)
end
set_option maxHeartbeats 4000000 in
set_option maxRecDepth 100000 in
theorem metX3_type (l : Launch) {Q : Int32 → (Nat → Int32) → Int32 → Prop} {depths : (Nat → Int32)} {owners : (Nat → Int32)} {roofs : Int64} {rate : Int32} {undos : (Nat → Int32)} {undoMany : Int32} {drawn : Int32} {dug : Int64} {deep : Int64} {holes : (Nat → Int64)} {holeMany : Int32} {tape : (Nat → Int32)} {taped : Int32} {place : Int32} {reads : Int32} {read_ : (Nat → Int32)} {row : (Nat → Int32)} {order : (Nat → Int32)} {bestOrder : (Nat → Int32)} {nears : (Nat → Int32)} {isKept : Int32} {keptRoofs : Int64} {kept : (Nat → Int32)} {lanes : (Nat → Int32)} {rowSizes : (Nat → Int32)} {items : (Nat → Int64)} {moved : (Nat → Int64)} {x1 : Int32} {dC : Nat → ClassId} {dI : Nat → Nat → Nat} {dA : Nat → ClassId} {h : Nat → Nat} (hj : mJ h) (hf : wX3_type Q tape taped x1) : Met l yX3_type (ws_ yX3_type cX3_type 2 (some .int)) rmX3_type (mPc dC dI dA h [.int x1] (wM h dA depths owners roofs rate undos undoMany drawn dug deep holes holeMany tape taped place reads read_ row order bestOrder nears isKept keptRoofs kept lanes rowSizes items moved)) (va_Qi (fun (r : Int32) (u : (Nat → Int32) × Int32) => Q r u.1 u.2) (fun u t => va_P (dC, dI) vwCl (wM h dA depths owners roofs rate undos undoMany drawn dug deep holes holeMany u.1 u.2 place reads read_ row order bestOrder nears isKept keptRoofs kept lanes rowSizes items moved) t.heap) (mA h)) 0 0 (mA h) := by
  refine Met.ofW (cc := cX3_type) (maxL := 2) (ret := (some .int)) (by decide) rfl ?_
  intro p e s m args below meth c s₁ B hml hv
  obtain ⟨rfl, hP, hK⟩ := hv
  have hx := B.exec
  have hb := B.bytes
  have hr := B.returns
  have hts := atoms_spec (ws := (ws_ yX3_type cX3_type 2 (some .int))) B.pre
  have hts : ∀ w ∈ lw_all, w.before _ s = true := fun w h => hts w (List.mem_cons_of_mem _ h)
  have hown : s.vm.findClass RX3 = some m.cls := findClass_of_methodNamed B.named
  have hlocks := B.notSynchronized
  have S : CallFix p m c cX3_type 2 s _ lw_all RX3 := ⟨hx, hb, hml, hown, hts⟩
  have hS : va_S (mA h) s.heap s.heap [] := va_S.rf
  have hl := lv_entry ([.ref (h 0), .int x1]) (n := 2) (Nat.le_of_ble_eq_true rfl)
  rw [lg_entry_eq]
  generalize (lg_sl ([.ref (h 0), .int x1]) ++ List.replicate (2 - (lg_sl ([.ref (h 0), .int x1])).length) Slot.unset).toArray = ls at hl ⊢
  replace hl : lv_has ls 2 [(0, .ref (h 0)), (1, .int x1)] := hl
  have hret : hrX3_type p l e s m ([.ref (h 0), .int x1] : List Value).toArray below meth c dC dI dA h (MQ below (va_Qi (fun (r : Int32) (u : (Nat → Int32) × Int32) => Q r u.1 u.2) (fun u t => va_P (dC, dI) vwCl (wM h dA depths owners roofs rate undos undoMany drawn dug deep holes holeMany u.1 u.2 place reads read_ row order bestOrder nears isKept keptRoofs kept lanes rowSizes items moved) t.heap) (mA h)) ([.ref (h 0), .int x1] : List Value).toArray s 0 0 (mA h)) Q depths owners roofs rate undos undoMany drawn dug deep holes holeMany place reads read_ row order bestOrder nears isKept keptRoofs kept lanes rowSizes items moved := fun r tape taped H locs pc ls hq hP hS hd => W.iret hx hb hr (fun t ht hW => ⟨⟨r, (tape, taped), rfl, hq, by subst ht; exact hP⟩, hS.F ht⟩) hS.2.2 hd
  unfold wX3_type at hf
  refine lv_iload_n hx hb dX3_type_0 rfl (lv_at hl 1 rfl) ?_
  refine lv_i2l (v := (x1 : Int32).toInt64) hx hb dX3_type_1 rfl ?_
  refine lv_ldc2 (v := 32) hx hb hown (hts _ q1333) dX3_type_2 ?_
  refine lv_ldc2 (v := 126) hx hb hown (hts _ q1334) dX3_type_5 ?_
  refine cs_i (As := [.long (x1 : Int32).toInt64, .long 32, .long 126]) (rest := []) S (metX3_in l hf) (lw_S q1268 q1269 q60 q1270) pdX3_in ⟨rfl, rfl⟩ ⟨Nat.le_of_ble_eq_true rfl, Nat.le_of_ble_eq_true rfl⟩ rfl hl.1 rfl (Nat.le_of_ble_eq_true rfl) dX3_type_8 ⟨Nat.zero_le _, Nat.zero_le _⟩ (fun r_8 hf => ?_)
  refine lv_if_ne (tgt := 16) hx hb dX3_type_11 (by decide) (fun c_11 => ?_) (fun c_11 => ?_)
  · replace hf := hf.2 c_11
    refine lv_aload_n hx hb dX3_type_16 rfl (lv_at hl 0 rfl) ?_
    refine gM_taped S hK hP dX3_type_17 ?_
    refine lv_sipush (v := 160) hx hb dX3_type_20 (by decide) ?_
    refine lv_icmp_ne (tgt := 29) hx hb dX3_type_23 (by decide) (fun c_23 => ?_) (fun c_23 => ?_)
    · replace hf := hf.2 c_23
      refine lv_aload_n hx hb dX3_type_29 rfl (lv_at hl 0 rfl) ?_
      refine gM_tape S hK hP dX3_type_30 ?_
      refine lv_aload_n hx hb dX3_type_33 rfl (lv_at hl 0 rfl) ?_
      refine gM_taped S hK hP dX3_type_34 ?_
      refine lv_iload_n hx hb dX3_type_37 rfl (lv_at hl 1 rfl) ?_
      obtain ⟨hin, hf⟩ := hf
      obtain ⟨tape_38, etape_38⟩ : ∃ z : Nat → Int32, z = upd tape (taped : Int32).toNatClampNeg x1 := ⟨_, rfl⟩
      replace hf := hf tape_38 etape_38
      refine sM_tape S hK hj hP hS hin etape_38 dX3_type_38 (fun H locs hP hS => ?_)
      refine lv_aload_n hx hb dX3_type_39 rfl (lv_at hl 0 rfl) ?_
      refine lv_dup hx hb dX3_type_40 rfl ?_
      refine gM_taped S hK hP dX3_type_41 ?_
      refine lv_iconst (v := 1) hx hb dX3_type_44 (by decide) ?_
      refine lv_iadd hx hb dX3_type_45 ?_
      refine lv_topi (fun taped_46 etaped_46 => ?_)
      replace hf := hf taped_46 etaped_46
      refine pM_taped S hK hj hP hS dX3_type_46 (fun H locs hP hS => ?_)
      refine lv_aload_n hx hb dX3_type_49 rfl (lv_at hl 0 rfl) ?_
      refine gM_taped S hK hP dX3_type_50 ?_
      exact hret _ _ _ _ _ _ _ hf hP hS dX3_type_53
    · replace hf := hf.1 c_23
      refine lv_bipush (v := (-3)) hx hb dX3_type_26 (by decide) ?_
      exact hret _ _ _ _ _ _ _ hf hP hS dX3_type_28
  · replace hf := hf.1 c_11
    refine lv_iconst (v := (-1)) hx hb dX3_type_14 (by decide) ?_
    exact hret _ _ _ _ _ _ _ hf hP hS dX3_type_15
/-! HoleCountyModel.nextLetter()I -/
theorem pdX3_nextLetter : DscOk yX3_nextLetter 0 := by decide +kernel
abbrev rmX3_nextLetter : Room := { frames := 0, cells := 0, slots := 0, locals := 0 }
abbrev RX3_nextLetter_ : Room := (headSpec (ws_ yX3_nextLetter cX3_nextLetter 1 (some .int)) rmX3_nextLetter).room
section
variable {p : Program} {l : Launch} {e : Env} {s : State} {m : MethodId} {args : Array Value} {below : List Frame} {meth : Method} {c : Code} {Qw : State → Prop} {dC : Nat → ClassId} {dI : Nat → Nat → Nat} {dA : Nat → ClassId} {h : Nat → Nat}
abbrev hrX3_nextLetter (p : Program) (l : Launch) (e : Env) (s : State) (m : MethodId) (args : Array Value) (below : List Frame) (meth : Method) (c : Code) (dC : Nat → ClassId) (dI : Nat → Nat → Nat) (dA : Nat → ClassId) (h : Nat → Nat) (Qw : State → Prop) (Q : Int32 → Int32 → Prop) (depths : (Nat → Int32)) (owners : (Nat → Int32)) (roofs : Int64) (rate : Int32) (undos : (Nat → Int32)) (undoMany : Int32) (drawn : Int32) (dug : Int64) (deep : Int64) (holes : (Nat → Int64)) (holeMany : Int32) (tape : (Nat → Int32)) (taped : Int32) (reads : Int32) (read_ : (Nat → Int32)) (row : (Nat → Int32)) (order : (Nat → Int32)) (bestOrder : (Nat → Int32)) (nears : (Nat → Int32)) (isKept : Int32) (keptRoofs : Int64) (kept : (Nat → Int32)) (lanes : (Nat → Int32)) (rowSizes : (Nat → Int32)) (items : (Nat → Int64)) (moved : (Nat → Int64)) : Prop := ∀ (r : Int32) (place : Int32) (H : Heap) (locs : List Loc) (pc : Nat) (ls : Array Slot), Q r place → va_P (dC, dI) vwCl (wM h dA depths owners roofs rate undos undoMany drawn dug deep holes holeMany tape taped place reads read_ row order bestOrder nears isKept keptRoofs kept lanes rowSizes items moved) H → va_S (mA h) s.heap H locs → decode cX3_nextLetter pc = .ok (.ireturn, 1) → W p l e RX3_nextLetter_ s m args below meth c H locs 0 0 Qw (F0 m pc ls [.int r])
def wX3_nextLetter_38 (Q : Int32 → Int32 → Prop) (tape : (Nat → Int32)) (taped : Int32) (place : Int32) : Prop := ((taped ≤ place → (Q (-1) place)) ∧ (¬ taped ≤ place → (vp_in place 160 ∧ (Q (tape (place : Int32).toNatClampNeg) place))))
set_option maxHeartbeats 4000000 in
set_option maxRecDepth 100000 in
theorem tX3_nextLetter_38 {Q : Int32 → Int32 → Prop} {depths : (Nat → Int32)} {owners : (Nat → Int32)} {roofs : Int64} {rate : Int32} {undos : (Nat → Int32)} {undoMany : Int32} {drawn : Int32} {dug : Int64} {deep : Int64} {holes : (Nat → Int64)} {holeMany : Int32} {tape : (Nat → Int32)} {taped : Int32} {reads : Int32} {read_ : (Nat → Int32)} {row : (Nat → Int32)} {order : (Nat → Int32)} {bestOrder : (Nat → Int32)} {nears : (Nat → Int32)} {isKept : Int32} {keptRoofs : Int64} {kept : (Nat → Int32)} {lanes : (Nat → Int32)} {rowSizes : (Nat → Int32)} {items : (Nat → Int64)} {moved : (Nat → Int64)} (S : CallFix p m c cX3_nextLetter 1 s args lw_all RX3) (hK : va_K (dC, dI) vwCl (tysG dA) s) (hj : mJ h) (hret : hrX3_nextLetter p l e s m args below meth c dC dI dA h Qw Q depths owners roofs rate undos undoMany drawn dug deep holes holeMany tape taped reads read_ row order bestOrder nears isKept keptRoofs kept lanes rowSizes items moved) : ∀ (place : Int32) (H : Heap) (locs : List Loc) (ls : Array Slot), wX3_nextLetter_38 Q tape taped place → va_P (dC, dI) vwCl (wM h dA depths owners roofs rate undos undoMany drawn dug deep holes holeMany tape taped place reads read_ row order bestOrder nears isKept keptRoofs kept lanes rowSizes items moved) H → va_S (mA h) s.heap H locs → lv_has ls 1 [(0, .ref (h 0))] → W p l e RX3_nextLetter_ s m args below meth c H locs 0 0 Qw (F0 m 38 ls []) := by
  obtain ⟨hx, hb, hml, hown, hts⟩ := id S
  intro place H locs ls hf hP hS hl
  unfold wX3_nextLetter_38 at hf
  refine lv_aload_n hx hb dX3_nextLetter_38 rfl (lv_at hl 0 rfl) ?_
  refine gM_place S hK hP dX3_nextLetter_39 ?_
  refine lv_aload_n hx hb dX3_nextLetter_42 rfl (lv_at hl 0 rfl) ?_
  refine gM_taped S hK hP dX3_nextLetter_43 ?_
  refine lv_icmp_ge (tgt := 61) hx hb dX3_nextLetter_46 (by decide) (fun c_46 => ?_) (fun c_46 => ?_)
  · replace hf := hf.1 c_46
    refine lv_iconst (v := (-1)) hx hb dX3_nextLetter_61 (by decide) ?_
    exact hret _ _ _ _ _ _ hf hP hS dX3_nextLetter_62
  · replace hf := hf.2 c_46
    refine lv_aload_n hx hb dX3_nextLetter_49 rfl (lv_at hl 0 rfl) ?_
    refine gM_tape S hK hP dX3_nextLetter_50 ?_
    refine lv_aload_n hx hb dX3_nextLetter_53 rfl (lv_at hl 0 rfl) ?_
    refine gM_place S hK hP dX3_nextLetter_54 ?_
    obtain ⟨hin, hf⟩ := hf
    refine lM_tape S hK hP hin dX3_nextLetter_57 ?_
    refine lv_goto (tgt := 62) hx hb dX3_nextLetter_58 (by decide) ?_
    exact hret _ _ _ _ _ _ hf hP hS dX3_nextLetter_62
def wX3_nextLetter_0 (Q : Int32 → Int32 → Prop) (tape : (Nat → Int32)) (taped : Int32) : Nat → Int32 → Prop
  | 0, _ => False
  | n + 1, place => ((taped ≤ place → (wX3_nextLetter_38 Q tape taped place)) ∧ (¬ taped ≤ place → (vp_in place 160 ∧ (((tape (place : Int32).toNatClampNeg) = 32 → (∀ place_32 : Int32, place_32 = (place + 1) → ((wX3_nextLetter_0 Q tape taped n) place_32))) ∧ (¬ (tape (place : Int32).toNatClampNeg) = 32 → (wX3_nextLetter_38 Q tape taped place))))))
set_option maxHeartbeats 4000000 in
set_option maxRecDepth 100000 in
theorem tX3_nextLetter_0 {Q : Int32 → Int32 → Prop} {depths : (Nat → Int32)} {owners : (Nat → Int32)} {roofs : Int64} {rate : Int32} {undos : (Nat → Int32)} {undoMany : Int32} {drawn : Int32} {dug : Int64} {deep : Int64} {holes : (Nat → Int64)} {holeMany : Int32} {tape : (Nat → Int32)} {taped : Int32} {reads : Int32} {read_ : (Nat → Int32)} {row : (Nat → Int32)} {order : (Nat → Int32)} {bestOrder : (Nat → Int32)} {nears : (Nat → Int32)} {isKept : Int32} {keptRoofs : Int64} {kept : (Nat → Int32)} {lanes : (Nat → Int32)} {rowSizes : (Nat → Int32)} {items : (Nat → Int64)} {moved : (Nat → Int64)} (S : CallFix p m c cX3_nextLetter 1 s args lw_all RX3) (hK : va_K (dC, dI) vwCl (tysG dA) s) (hj : mJ h) (hret : hrX3_nextLetter p l e s m args below meth c dC dI dA h Qw Q depths owners roofs rate undos undoMany drawn dug deep holes holeMany tape taped reads read_ row order bestOrder nears isKept keptRoofs kept lanes rowSizes items moved) : ∀ (n : Nat) (place : Int32) (H : Heap) (locs : List Loc) (ls : Array Slot), wX3_nextLetter_0 Q tape taped n place → va_P (dC, dI) vwCl (wM h dA depths owners roofs rate undos undoMany drawn dug deep holes holeMany tape taped place reads read_ row order bestOrder nears isKept keptRoofs kept lanes rowSizes items moved) H → va_S (mA h) s.heap H locs → lv_has ls 1 [(0, .ref (h 0))] → W p l e RX3_nextLetter_ s m args below meth c H locs 0 0 Qw (F0 m 0 ls []) := by
  obtain ⟨hx, hb, hml, hown, hts⟩ := id S
  intro n
  induction n with
  | zero => intro _ _ _ _ hf; exact hf.elim
  | succ n ih =>
    intro place H locs ls hf hP hS hl
    rw [wX3_nextLetter_0] at hf
    refine lv_aload_n hx hb dX3_nextLetter_0 rfl (lv_at hl 0 rfl) ?_
    refine gM_place S hK hP dX3_nextLetter_1 ?_
    refine lv_aload_n hx hb dX3_nextLetter_4 rfl (lv_at hl 0 rfl) ?_
    refine gM_taped S hK hP dX3_nextLetter_5 ?_
    refine lv_icmp_ge (tgt := 38) hx hb dX3_nextLetter_8 (by decide) (fun c_8 => ?_) (fun c_8 => ?_)
    · replace hf := hf.1 c_8
      exact tX3_nextLetter_38 S hK hj hret place _ _ _ hf hP hS (lv_sub hl [0] rfl)
    · replace hf := hf.2 c_8
      refine lv_aload_n hx hb dX3_nextLetter_11 rfl (lv_at hl 0 rfl) ?_
      refine gM_tape S hK hP dX3_nextLetter_12 ?_
      refine lv_aload_n hx hb dX3_nextLetter_15 rfl (lv_at hl 0 rfl) ?_
      refine gM_place S hK hP dX3_nextLetter_16 ?_
      obtain ⟨hin, hf⟩ := hf
      refine lM_tape S hK hP hin dX3_nextLetter_19 ?_
      refine lv_bipush (v := 32) hx hb dX3_nextLetter_20 (by decide) ?_
      refine lv_icmp_ne (tgt := 38) hx hb dX3_nextLetter_22 (by decide) (fun c_22 => ?_) (fun c_22 => ?_)
      · replace hf := hf.2 c_22
        exact tX3_nextLetter_38 S hK hj hret place _ _ _ hf hP hS (lv_sub hl [0] rfl)
      · replace hf := hf.1 c_22
        refine lv_aload_n hx hb dX3_nextLetter_25 rfl (lv_at hl 0 rfl) ?_
        refine lv_dup hx hb dX3_nextLetter_26 rfl ?_
        refine gM_place S hK hP dX3_nextLetter_27 ?_
        refine lv_iconst (v := 1) hx hb dX3_nextLetter_30 (by decide) ?_
        refine lv_iadd hx hb dX3_nextLetter_31 ?_
        refine lv_topi (fun place_32 eplace_32 => ?_)
        replace hf := hf place_32 eplace_32
        refine pM_place S hK hj hP hS dX3_nextLetter_32 (fun H locs hP hS => ?_)
        refine lv_goto (tgt := 0) hx hb dX3_nextLetter_35 (by decide) ?_
        exact ih place_32 _ _ _ hf hP hS (lv_sub hl [0] rfl)
def wX3_nextLetter (Q : Int32 → Int32 → Prop) (tape : (Nat → Int32)) (taped : Int32) (place : Int32) : Prop := (∃ fu : Nat, wX3_nextLetter_0 Q tape taped fu place)
end
set_option maxHeartbeats 4000000 in
set_option maxRecDepth 100000 in
theorem metX3_nextLetter (l : Launch) {Q : Int32 → Int32 → Prop} {depths : (Nat → Int32)} {owners : (Nat → Int32)} {roofs : Int64} {rate : Int32} {undos : (Nat → Int32)} {undoMany : Int32} {drawn : Int32} {dug : Int64} {deep : Int64} {holes : (Nat → Int64)} {holeMany : Int32} {tape : (Nat → Int32)} {taped : Int32} {place : Int32} {reads : Int32} {read_ : (Nat → Int32)} {row : (Nat → Int32)} {order : (Nat → Int32)} {bestOrder : (Nat → Int32)} {nears : (Nat → Int32)} {isKept : Int32} {keptRoofs : Int64} {kept : (Nat → Int32)} {lanes : (Nat → Int32)} {rowSizes : (Nat → Int32)} {items : (Nat → Int64)} {moved : (Nat → Int64)} {dC : Nat → ClassId} {dI : Nat → Nat → Nat} {dA : Nat → ClassId} {h : Nat → Nat} (hj : mJ h) (hf : wX3_nextLetter Q tape taped place) : Met l yX3_nextLetter (ws_ yX3_nextLetter cX3_nextLetter 1 (some .int)) rmX3_nextLetter (mPc dC dI dA h [] (wM h dA depths owners roofs rate undos undoMany drawn dug deep holes holeMany tape taped place reads read_ row order bestOrder nears isKept keptRoofs kept lanes rowSizes items moved)) (va_Qi (fun (r : Int32) (u : Int32) => Q r u) (fun u t => va_P (dC, dI) vwCl (wM h dA depths owners roofs rate undos undoMany drawn dug deep holes holeMany tape taped u reads read_ row order bestOrder nears isKept keptRoofs kept lanes rowSizes items moved) t.heap) (mA h)) 0 0 (mA h) := by
  refine Met.ofW (cc := cX3_nextLetter) (maxL := 1) (ret := (some .int)) (by decide) rfl ?_
  intro p e s m args below meth c s₁ B hml hv
  obtain ⟨rfl, hP, hK⟩ := hv
  have hx := B.exec
  have hb := B.bytes
  have hr := B.returns
  have hts := atoms_spec (ws := (ws_ yX3_nextLetter cX3_nextLetter 1 (some .int))) B.pre
  have hts : ∀ w ∈ lw_all, w.before _ s = true := fun w h => hts w (List.mem_cons_of_mem _ h)
  have hown : s.vm.findClass RX3 = some m.cls := findClass_of_methodNamed B.named
  have hlocks := B.notSynchronized
  have S : CallFix p m c cX3_nextLetter 1 s _ lw_all RX3 := ⟨hx, hb, hml, hown, hts⟩
  have hS : va_S (mA h) s.heap s.heap [] := va_S.rf
  have hl := lv_entry ([.ref (h 0)]) (n := 1) (Nat.le_of_ble_eq_true rfl)
  rw [lg_entry_eq]
  generalize (lg_sl ([.ref (h 0)]) ++ List.replicate (1 - (lg_sl ([.ref (h 0)])).length) Slot.unset).toArray = ls at hl ⊢
  replace hl : lv_has ls 1 [(0, .ref (h 0))] := hl
  have hret : hrX3_nextLetter p l e s m ([.ref (h 0)] : List Value).toArray below meth c dC dI dA h (MQ below (va_Qi (fun (r : Int32) (u : Int32) => Q r u) (fun u t => va_P (dC, dI) vwCl (wM h dA depths owners roofs rate undos undoMany drawn dug deep holes holeMany tape taped u reads read_ row order bestOrder nears isKept keptRoofs kept lanes rowSizes items moved) t.heap) (mA h)) ([.ref (h 0)] : List Value).toArray s 0 0 (mA h)) Q depths owners roofs rate undos undoMany drawn dug deep holes holeMany tape taped reads read_ row order bestOrder nears isKept keptRoofs kept lanes rowSizes items moved := fun r place H locs pc ls hq hP hS hd => W.iret hx hb hr (fun t ht hW => ⟨⟨r, place, rfl, hq, by subst ht; exact hP⟩, hS.F ht⟩) hS.2.2 hd
  unfold wX3_nextLetter at hf
  obtain ⟨fu, hf⟩ := hf
  exact tX3_nextLetter_0 S hK hj hret fu place _ _ _ hf hP hS (lv_sub hl [0] rfl)
/-! HoleCountyModel.takes(I)Z -/
theorem pdX3_takes : DscOk yX3_takes 1 := by decide +kernel
abbrev rmX3_takes : Room := { frames := 1, cells := 0, slots := 0, locals := 20 }
abbrev RX3_takes_ : Room := (headSpec (ws_ yX3_takes cX3_takes 3 (some .boolean)) rmX3_takes).room
section
variable {p : Program} {l : Launch} {e : Env} {s : State} {m : MethodId} {args : Array Value} {below : List Frame} {meth : Method} {c : Code} {Qw : State → Prop} {dC : Nat → ClassId} {dI : Nat → Nat → Nat} {dA : Nat → ClassId} {h : Nat → Nat}
abbrev hrX3_takes (p : Program) (l : Launch) (e : Env) (s : State) (m : MethodId) (args : Array Value) (below : List Frame) (meth : Method) (c : Code) (dC : Nat → ClassId) (dI : Nat → Nat → Nat) (dA : Nat → ClassId) (h : Nat → Nat) (Qw : State → Prop) (Q : Int32 → Int32 → Prop) (depths : (Nat → Int32)) (owners : (Nat → Int32)) (roofs : Int64) (rate : Int32) (undos : (Nat → Int32)) (undoMany : Int32) (drawn : Int32) (dug : Int64) (deep : Int64) (holes : (Nat → Int64)) (holeMany : Int32) (tape : (Nat → Int32)) (taped : Int32) (reads : Int32) (read_ : (Nat → Int32)) (row : (Nat → Int32)) (order : (Nat → Int32)) (bestOrder : (Nat → Int32)) (nears : (Nat → Int32)) (isKept : Int32) (keptRoofs : Int64) (kept : (Nat → Int32)) (lanes : (Nat → Int32)) (rowSizes : (Nat → Int32)) (items : (Nat → Int64)) (moved : (Nat → Int64)) : Prop := ∀ (r : Int32) (place : Int32) (H : Heap) (locs : List Loc) (pc : Nat) (ls : Array Slot), bz r → Q r place → va_P (dC, dI) vwCl (wM h dA depths owners roofs rate undos undoMany drawn dug deep holes holeMany tape taped place reads read_ row order bestOrder nears isKept keptRoofs kept lanes rowSizes items moved) H → va_S (mA h) s.heap H locs → decode cX3_takes pc = .ok (.ireturn, 1) → W p l e RX3_takes_ s m args below meth c H locs 0 0 Qw (F0 m pc ls [.int r])
def wX3_takes_13 (Q : Int32 → Int32 → Prop) (z0 : Int32) (tape : (Nat → Int32)) (taped : Int32) (place : Int32) : Prop := ((z0 = 0 → (∀ place_29 : Int32, place_29 = (place + 0) → (bz z0 ∧ (Q z0 place_29)))) ∧ (¬ z0 = 0 → (∀ place_29 : Int32, place_29 = (place + 1) → (bz z0 ∧ (Q z0 place_29)))))
set_option maxHeartbeats 4000000 in
set_option maxRecDepth 100000 in
theorem tX3_takes_13 {Q : Int32 → Int32 → Prop} {depths : (Nat → Int32)} {owners : (Nat → Int32)} {roofs : Int64} {rate : Int32} {undos : (Nat → Int32)} {undoMany : Int32} {drawn : Int32} {dug : Int64} {deep : Int64} {holes : (Nat → Int64)} {holeMany : Int32} {tape : (Nat → Int32)} {taped : Int32} {reads : Int32} {read_ : (Nat → Int32)} {row : (Nat → Int32)} {order : (Nat → Int32)} {bestOrder : (Nat → Int32)} {nears : (Nat → Int32)} {isKept : Int32} {keptRoofs : Int64} {kept : (Nat → Int32)} {lanes : (Nat → Int32)} {rowSizes : (Nat → Int32)} {items : (Nat → Int64)} {moved : (Nat → Int64)} (S : CallFix p m c cX3_takes 3 s args lw_all RX3) (hK : va_K (dC, dI) vwCl (tysG dA) s) (hj : mJ h) (hret : hrX3_takes p l e s m args below meth c dC dI dA h Qw Q depths owners roofs rate undos undoMany drawn dug deep holes holeMany tape taped reads read_ row order bestOrder nears isKept keptRoofs kept lanes rowSizes items moved) : ∀ (z0 : Int32) (place : Int32) (H : Heap) (locs : List Loc) (ls : Array Slot), wX3_takes_13 Q z0 tape taped place → va_P (dC, dI) vwCl (wM h dA depths owners roofs rate undos undoMany drawn dug deep holes holeMany tape taped place reads read_ row order bestOrder nears isKept keptRoofs kept lanes rowSizes items moved) H → va_S (mA h) s.heap H locs → lv_has ls 3 [(0, .ref (h 0))] → W p l e RX3_takes_ s m args below meth c H locs 0 0 Qw (F0 m 13 ls [.int z0]) := by
  obtain ⟨hx, hb, hml, hown, hts⟩ := id S
  intro z0 place H locs ls hf hP hS hl
  unfold wX3_takes_13 at hf
  refine lv_istore_n (lv' := [(2, .int z0), (0, .ref (h 0))]) hx hb dX3_takes_13 rfl hl (by decide) rfl (fun ls hl => ?_)
  refine lv_aload_n hx hb dX3_takes_14 rfl (lv_at hl 1 rfl) ?_
  refine lv_dup hx hb dX3_takes_15 rfl ?_
  refine gM_place S hK hP dX3_takes_16 ?_
  refine lv_iload_n hx hb dX3_takes_19 rfl (lv_at hl 0 rfl) ?_
  refine lv_if_eq (tgt := 27) hx hb dX3_takes_20 (by decide) (fun c_20 => ?_) (fun c_20 => ?_)
  · replace hf := hf.1 c_20
    refine lv_iconst (v := 0) hx hb dX3_takes_27 (by decide) ?_
    refine lv_iadd hx hb dX3_takes_28 ?_
    refine lv_topi (fun place_29 eplace_29 => ?_)
    replace hf := hf place_29 eplace_29
    refine pM_place S hK hj hP hS dX3_takes_29 (fun H locs hP hS => ?_)
    refine lv_iload_n hx hb dX3_takes_32 rfl (lv_at hl 0 rfl) ?_
    obtain ⟨hz, hf⟩ := hf
    exact hret _ _ _ _ _ _ hz hf hP hS dX3_takes_33
  · replace hf := hf.2 c_20
    refine lv_iconst (v := 1) hx hb dX3_takes_23 (by decide) ?_
    refine lv_goto (tgt := 28) hx hb dX3_takes_24 (by decide) ?_
    refine lv_iadd hx hb dX3_takes_28 ?_
    refine lv_topi (fun place_29 eplace_29 => ?_)
    replace hf := hf place_29 eplace_29
    refine pM_place S hK hj hP hS dX3_takes_29 (fun H locs hP hS => ?_)
    refine lv_iload_n hx hb dX3_takes_32 rfl (lv_at hl 0 rfl) ?_
    obtain ⟨hz, hf⟩ := hf
    exact hret _ _ _ _ _ _ hz hf hP hS dX3_takes_33
def wX3_takes (Q : Int32 → Int32 → Prop) (tape : (Nat → Int32)) (taped : Int32) (place : Int32) (x1 : Int32) : Prop := (wX3_nextLetter (fun r_1 place_1 => ((r_1 = x1 → (wX3_takes_13 Q 1 tape taped place_1)) ∧ (¬ r_1 = x1 → (wX3_takes_13 Q 0 tape taped place_1)))) tape taped place)
end
set_option maxHeartbeats 4000000 in
set_option maxRecDepth 100000 in
theorem metX3_takes (l : Launch) {Q : Int32 → Int32 → Prop} {depths : (Nat → Int32)} {owners : (Nat → Int32)} {roofs : Int64} {rate : Int32} {undos : (Nat → Int32)} {undoMany : Int32} {drawn : Int32} {dug : Int64} {deep : Int64} {holes : (Nat → Int64)} {holeMany : Int32} {tape : (Nat → Int32)} {taped : Int32} {place : Int32} {reads : Int32} {read_ : (Nat → Int32)} {row : (Nat → Int32)} {order : (Nat → Int32)} {bestOrder : (Nat → Int32)} {nears : (Nat → Int32)} {isKept : Int32} {keptRoofs : Int64} {kept : (Nat → Int32)} {lanes : (Nat → Int32)} {rowSizes : (Nat → Int32)} {items : (Nat → Int64)} {moved : (Nat → Int64)} {x1 : Int32} {dC : Nat → ClassId} {dI : Nat → Nat → Nat} {dA : Nat → ClassId} {h : Nat → Nat} (hj : mJ h) (hf : wX3_takes Q tape taped place x1) : Met l yX3_takes (ws_ yX3_takes cX3_takes 3 (some .boolean)) rmX3_takes (mPc dC dI dA h [.int x1] (wM h dA depths owners roofs rate undos undoMany drawn dug deep holes holeMany tape taped place reads read_ row order bestOrder nears isKept keptRoofs kept lanes rowSizes items moved)) (va_Qi (fun (r : Int32) (u : Int32) => Q r u) (fun u t => va_P (dC, dI) vwCl (wM h dA depths owners roofs rate undos undoMany drawn dug deep holes holeMany tape taped u reads read_ row order bestOrder nears isKept keptRoofs kept lanes rowSizes items moved) t.heap) (mA h)) 0 0 (mA h) := by
  refine Met.ofW (cc := cX3_takes) (maxL := 3) (ret := (some .boolean)) (by decide) rfl ?_
  intro p e s m args below meth c s₁ B hml hv
  obtain ⟨rfl, hP, hK⟩ := hv
  have hx := B.exec
  have hb := B.bytes
  have hr := B.returns
  have hts := atoms_spec (ws := (ws_ yX3_takes cX3_takes 3 (some .boolean))) B.pre
  have hts : ∀ w ∈ lw_all, w.before _ s = true := fun w h => hts w (List.mem_cons_of_mem _ h)
  have hown : s.vm.findClass RX3 = some m.cls := findClass_of_methodNamed B.named
  have hlocks := B.notSynchronized
  have S : CallFix p m c cX3_takes 3 s _ lw_all RX3 := ⟨hx, hb, hml, hown, hts⟩
  have hS : va_S (mA h) s.heap s.heap [] := va_S.rf
  have hl := lv_entry ([.ref (h 0), .int x1]) (n := 3) (Nat.le_of_ble_eq_true rfl)
  rw [lg_entry_eq]
  generalize (lg_sl ([.ref (h 0), .int x1]) ++ List.replicate (3 - (lg_sl ([.ref (h 0), .int x1])).length) Slot.unset).toArray = ls at hl ⊢
  replace hl : lv_has ls 3 [(0, .ref (h 0)), (1, .int x1)] := hl
  have hret : hrX3_takes p l e s m ([.ref (h 0), .int x1] : List Value).toArray below meth c dC dI dA h (MQ below (va_Qi (fun (r : Int32) (u : Int32) => Q r u) (fun u t => va_P (dC, dI) vwCl (wM h dA depths owners roofs rate undos undoMany drawn dug deep holes holeMany tape taped u reads read_ row order bestOrder nears isKept keptRoofs kept lanes rowSizes items moved) t.heap) (mA h)) ([.ref (h 0), .int x1] : List Value).toArray s 0 0 (mA h)) Q depths owners roofs rate undos undoMany drawn dug deep holes holeMany tape taped reads read_ row order bestOrder nears isKept keptRoofs kept lanes rowSizes items moved := fun r place H locs pc ls hz hq hP hS hd => W.zret hx hb hr hz.1 (fun t ht hW => ⟨⟨r, place, rfl, hq, by subst ht; exact hP⟩, hS.F ht⟩) hS.2.2 hd
  unfold wX3_takes at hf
  refine lv_aload_n hx hb dX3_takes_0 rfl (lv_at hl 0 rfl) ?_
  refine cM_i (As := []) (rest := []) S hK rfl hP hS (metX3_nextLetter l hj hf) (lw_V q1347 q1349 qs31 q60 q1350) rfl pdX3_nextLetter ⟨rfl, rfl⟩ ⟨Nat.le_of_ble_eq_true rfl, Nat.le_of_ble_eq_true rfl⟩ rfl hl.1 rfl (Nat.le_of_ble_eq_true rfl) dX3_takes_1 ⟨Nat.zero_le _, Nat.zero_le _⟩ (fun r_1 u_1 H locs hf hP hS => ?_)
  obtain ⟨place_1, rfl⟩ : ∃ z, z = u_1 := ⟨_, rfl⟩
  replace hP : va_P (dC, dI) vwCl (wM h dA depths owners roofs rate undos undoMany drawn dug deep holes holeMany tape taped place_1 reads read_ row order bestOrder nears isKept keptRoofs kept lanes rowSizes items moved) H := hP
  refine lv_iload_n hx hb dX3_takes_4 rfl (lv_at hl 1 rfl) ?_
  refine lv_icmp_ne (tgt := 12) hx hb dX3_takes_5 (by decide) (fun c_5 => ?_) (fun c_5 => ?_)
  · replace hf := hf.2 c_5
    refine lv_iconst (v := 0) hx hb dX3_takes_12 (by decide) ?_
    exact tX3_takes_13 S hK hj hret 0 place_1 _ _ _ hf hP hS (lv_sub hl [0] rfl)
  · replace hf := hf.1 c_5
    refine lv_iconst (v := 1) hx hb dX3_takes_8 (by decide) ?_
    refine lv_goto (tgt := 13) hx hb dX3_takes_9 (by decide) ?_
    exact tX3_takes_13 S hK hj hret 1 place_1 _ _ _ hf hP hS (lv_sub hl [0] rfl)
/-! HoleCountyModel.readGround()Z -/
theorem pdX3_readGround : DscOk yX3_readGround 0 := by decide +kernel
abbrev rmX3_readGround : Room := { frames := 2, cells := 0, slots := 0, locals := 42 }
abbrev RX3_readGround_ : Room := (headSpec (ws_ yX3_readGround cX3_readGround 3 (some .boolean)) rmX3_readGround).room
section
variable {p : Program} {l : Launch} {e : Env} {s : State} {m : MethodId} {args : Array Value} {below : List Frame} {meth : Method} {c : Code} {Qw : State → Prop} {dC : Nat → ClassId} {dI : Nat → Nat → Nat} {dA : Nat → ClassId} {h : Nat → Nat}
abbrev hrX3_readGround (p : Program) (l : Launch) (e : Env) (s : State) (m : MethodId) (args : Array Value) (below : List Frame) (meth : Method) (c : Code) (dC : Nat → ClassId) (dI : Nat → Nat → Nat) (dA : Nat → ClassId) (h : Nat → Nat) (Qw : State → Prop) (Q : Int32 → Int32 → (Nat → Int32) → Prop) (depths : (Nat → Int32)) (owners : (Nat → Int32)) (roofs : Int64) (rate : Int32) (undos : (Nat → Int32)) (undoMany : Int32) (drawn : Int32) (dug : Int64) (deep : Int64) (holes : (Nat → Int64)) (holeMany : Int32) (tape : (Nat → Int32)) (taped : Int32) (reads : Int32) (row : (Nat → Int32)) (order : (Nat → Int32)) (bestOrder : (Nat → Int32)) (nears : (Nat → Int32)) (isKept : Int32) (keptRoofs : Int64) (kept : (Nat → Int32)) (lanes : (Nat → Int32)) (rowSizes : (Nat → Int32)) (items : (Nat → Int64)) (moved : (Nat → Int64)) : Prop := ∀ (r : Int32) (place : Int32) (read_ : (Nat → Int32)) (H : Heap) (locs : List Loc) (pc : Nat) (ls : Array Slot), bz r → Q r place read_ → va_P (dC, dI) vwCl (wM h dA depths owners roofs rate undos undoMany drawn dug deep holes holeMany tape taped place reads read_ row order bestOrder nears isKept keptRoofs kept lanes rowSizes items moved) H → va_S (mA h) s.heap H locs → decode cX3_readGround pc = .ok (.ireturn, 1) → W p l e RX3_readGround_ s m args below meth c H locs 0 0 Qw (F0 m pc ls [.int r])
def wX3_readGround_35 (Q : Int32 → Int32 → (Nat → Int32) → Prop) (k7 : Int32 → Int32 → (Nat → Int32) → Prop) (x1 : Int32) (tape : (Nat → Int32)) (taped : Int32) (place : Int32) (read_ : (Nat → Int32)) : Prop := (wX3_nextLetter (fun r_36 place_36 => (∀ x2_42 : Int32, x2_42 = (r_36 - 48) → (wX3_in (fun r_49 => ((r_49 = 0 → (Q 0 place_36 read_)) ∧ (¬ r_49 = 0 → (∀ place_64 : Int32, place_64 = (place_36 + 1) → ((x2_42 ≤ 0 → (vp_in x1 80 ∧ (∀ read__93 : Nat → Int32, read__93 = upd read_ (x1 : Int32).toNatClampNeg x2_42 → (∀ x1_94 : Int32, x1_94 = x1 + 1 → (k7 x1_94 place_64 read__93))))) ∧ (¬ x2_42 ≤ 0 → (wX3_takes (fun r_79 place_79 => ((r_79 = 0 → (vp_in x1 80 ∧ (∀ read__93 : Nat → Int32, read__93 = upd read_ (x1 : Int32).toNatClampNeg x2_42 → (∀ x1_94 : Int32, x1_94 = x1 + 1 → (k7 x1_94 place_79 read__93))))) ∧ (¬ r_79 = 0 → (vp_in x1 80 ∧ (∀ read__93 : Nat → Int32, read__93 = upd read_ (x1 : Int32).toNatClampNeg (100 + x2_42) → (∀ x1_94 : Int32, x1_94 = x1 + 1 → (k7 x1_94 place_79 read__93))))))) tape taped place_64 94))))))) ((x2_42 : Int32).toInt64) 0 9))) tape taped place)
set_option maxHeartbeats 4000000 in
set_option maxRecDepth 100000 in
theorem tX3_readGround_35 {Q : Int32 → Int32 → (Nat → Int32) → Prop} {depths : (Nat → Int32)} {owners : (Nat → Int32)} {roofs : Int64} {rate : Int32} {undos : (Nat → Int32)} {undoMany : Int32} {drawn : Int32} {dug : Int64} {deep : Int64} {holes : (Nat → Int64)} {holeMany : Int32} {tape : (Nat → Int32)} {taped : Int32} {reads : Int32} {row : (Nat → Int32)} {order : (Nat → Int32)} {bestOrder : (Nat → Int32)} {nears : (Nat → Int32)} {isKept : Int32} {keptRoofs : Int64} {kept : (Nat → Int32)} {lanes : (Nat → Int32)} {rowSizes : (Nat → Int32)} {items : (Nat → Int64)} {moved : (Nat → Int64)} (S : CallFix p m c cX3_readGround 3 s args lw_all RX3) (hK : va_K (dC, dI) vwCl (tysG dA) s) (hj : mJ h) (hret : hrX3_readGround p l e s m args below meth c dC dI dA h Qw Q depths owners roofs rate undos undoMany drawn dug deep holes holeMany tape taped reads row order bestOrder nears isKept keptRoofs kept lanes rowSizes items moved) {k7 : Int32 → Int32 → (Nat → Int32) → Prop} (hk7 : ∀ (x1 : Int32) (place : Int32) (read_ : (Nat → Int32)) (H : Heap) (locs : List Loc) (ls : Array Slot), k7 x1 place read_ → va_P (dC, dI) vwCl (wM h dA depths owners roofs rate undos undoMany drawn dug deep holes holeMany tape taped place reads read_ row order bestOrder nears isKept keptRoofs kept lanes rowSizes items moved) H → va_S (mA h) s.heap H locs → lv_has ls 3 [(0, .ref (h 0)), (1, .int x1)] → W p l e RX3_readGround_ s m args below meth c H locs 0 0 Qw (F0 m 7 ls [])) : ∀ (x1 : Int32) (place : Int32) (read_ : (Nat → Int32)) (H : Heap) (locs : List Loc) (ls : Array Slot), wX3_readGround_35 Q k7 x1 tape taped place read_ → va_P (dC, dI) vwCl (wM h dA depths owners roofs rate undos undoMany drawn dug deep holes holeMany tape taped place reads read_ row order bestOrder nears isKept keptRoofs kept lanes rowSizes items moved) H → va_S (mA h) s.heap H locs → lv_has ls 3 [(0, .ref (h 0)), (1, .int x1)] → W p l e RX3_readGround_ s m args below meth c H locs 0 0 Qw (F0 m 35 ls []) := by
  obtain ⟨hx, hb, hml, hown, hts⟩ := id S
  intro x1 place read_ H locs ls hf hP hS hl
  unfold wX3_readGround_35 at hf
  refine lv_aload_n hx hb dX3_readGround_35 rfl (lv_at hl 0 rfl) ?_
  refine cM_i (As := []) (rest := []) S hK rfl hP hS (metX3_nextLetter l hj hf) (lw_V q1347 q1349 qs31 q60 q1350) rfl pdX3_nextLetter ⟨rfl, rfl⟩ ⟨Nat.le_of_ble_eq_true rfl, Nat.le_of_ble_eq_true rfl⟩ rfl hl.1 rfl (Nat.le_of_ble_eq_true rfl) dX3_readGround_36 ⟨Nat.zero_le _, Nat.zero_le _⟩ (fun r_36 u_36 H locs hf hP hS => ?_)
  obtain ⟨place_36, rfl⟩ : ∃ z, z = u_36 := ⟨_, rfl⟩
  replace hP : va_P (dC, dI) vwCl (wM h dA depths owners roofs rate undos undoMany drawn dug deep holes holeMany tape taped place_36 reads read_ row order bestOrder nears isKept keptRoofs kept lanes rowSizes items moved) H := hP
  refine lv_bipush (v := 48) hx hb dX3_readGround_39 (by decide) ?_
  refine lv_isub hx hb dX3_readGround_41 ?_
  refine lv_topi (fun x2_42 ex2_42 => ?_)
  replace hf := hf x2_42 ex2_42
  refine lv_istore_n (lv' := [(2, .int x2_42), (0, .ref (h 0)), (1, .int x1)]) hx hb dX3_readGround_42 rfl hl (by decide) rfl (fun ls hl => ?_)
  refine lv_iload_n hx hb dX3_readGround_43 rfl (lv_at hl 0 rfl) ?_
  refine lv_i2l (v := (x2_42 : Int32).toInt64) hx hb dX3_readGround_44 rfl ?_
  refine lv_lconst (v := 0) hx hb dX3_readGround_45 (by decide) ?_
  refine lv_ldc2 (v := 9) hx hb hown (hts _ q1351) dX3_readGround_46 ?_
  refine cs_i (As := [.long (x2_42 : Int32).toInt64, .long 0, .long 9]) (rest := []) S (metX3_in l hf) (lw_S q1268 q1269 q60 q1270) pdX3_in ⟨rfl, rfl⟩ ⟨Nat.le_of_ble_eq_true rfl, Nat.le_of_ble_eq_true rfl⟩ rfl hl.1 rfl (Nat.le_of_ble_eq_true rfl) dX3_readGround_49 ⟨Nat.zero_le _, Nat.zero_le _⟩ (fun r_49 hf => ?_)
  refine lv_if_ne (tgt := 57) hx hb dX3_readGround_52 (by decide) (fun c_52 => ?_) (fun c_52 => ?_)
  · replace hf := hf.2 c_52
    refine lv_aload_n hx hb dX3_readGround_57 rfl (lv_at hl 1 rfl) ?_
    refine lv_dup hx hb dX3_readGround_58 rfl ?_
    refine gM_place S hK hP dX3_readGround_59 ?_
    refine lv_iconst (v := 1) hx hb dX3_readGround_62 (by decide) ?_
    refine lv_iadd hx hb dX3_readGround_63 ?_
    refine lv_topi (fun place_64 eplace_64 => ?_)
    replace hf := hf place_64 eplace_64
    refine pM_place S hK hj hP hS dX3_readGround_64 (fun H locs hP hS => ?_)
    refine lv_aload_n hx hb dX3_readGround_67 rfl (lv_at hl 1 rfl) ?_
    refine gM_read_ S hK hP dX3_readGround_68 ?_
    refine lv_iload_n hx hb dX3_readGround_71 rfl (lv_at hl 2 rfl) ?_
    refine lv_iload_n hx hb dX3_readGround_72 rfl (lv_at hl 0 rfl) ?_
    refine lv_if_le (tgt := 92) hx hb dX3_readGround_73 (by decide) (fun c_73 => ?_) (fun c_73 => ?_)
    · replace hf := hf.1 c_73
      refine lv_iload_n hx hb dX3_readGround_92 rfl (lv_at hl 0 rfl) ?_
      obtain ⟨hin, hf⟩ := hf
      obtain ⟨read__93, eread__93⟩ : ∃ z : Nat → Int32, z = upd read_ (x1 : Int32).toNatClampNeg x2_42 := ⟨_, rfl⟩
      replace hf := hf read__93 eread__93
      refine sM_read_ S hK hj hP hS hin eread__93 dX3_readGround_93 (fun H locs hP hS => ?_)
      obtain ⟨x1_94, ex1_94⟩ : ∃ z : Int32, z = x1 + 1 := ⟨_, rfl⟩
      replace hf := hf x1_94 ex1_94
      refine lv_iinc (v := x1_94) (lv' := [(1, .int x1_94), (2, .int x2_42), (0, .ref (h 0))]) hx hb dX3_readGround_94 hl (k := 2) rfl (by rw [ex1_94]; rfl) (by decide) rfl (fun ls hl => ?_)
      refine lv_goto (tgt := 7) hx hb dX3_readGround_97 (by decide) ?_
      exact hk7 x1_94 place_64 read__93 _ _ _ hf hP hS (lv_sub hl [2, 0] rfl)
    · replace hf := hf.2 c_73
      refine lv_aload_n hx hb dX3_readGround_76 rfl (lv_at hl 1 rfl) ?_
      refine lv_bipush (v := 94) hx hb dX3_readGround_77 (by decide) ?_
      refine cM_i (As := [.int 94]) (rest := [.int x1, .ref (h 6)]) S hK rfl hP hS (metX3_takes l hj hf) (lw_V q1343 q1345 qs30 q60 q1346) rfl pdX3_takes ⟨rfl, rfl⟩ ⟨Nat.le_of_ble_eq_true rfl, Nat.le_of_ble_eq_true rfl⟩ rfl hl.1 rfl (Nat.le_of_ble_eq_true rfl) dX3_readGround_79 ⟨Nat.zero_le _, Nat.zero_le _⟩ (fun r_79 u_79 H locs hf hP hS => ?_)
      obtain ⟨place_79, rfl⟩ : ∃ z, z = u_79 := ⟨_, rfl⟩
      replace hP : va_P (dC, dI) vwCl (wM h dA depths owners roofs rate undos undoMany drawn dug deep holes holeMany tape taped place_79 reads read_ row order bestOrder nears isKept keptRoofs kept lanes rowSizes items moved) H := hP
      refine lv_if_eq (tgt := 92) hx hb dX3_readGround_82 (by decide) (fun c_82 => ?_) (fun c_82 => ?_)
      · replace hf := hf.1 c_82
        refine lv_iload_n hx hb dX3_readGround_92 rfl (lv_at hl 0 rfl) ?_
        obtain ⟨hin, hf⟩ := hf
        obtain ⟨read__93, eread__93⟩ : ∃ z : Nat → Int32, z = upd read_ (x1 : Int32).toNatClampNeg x2_42 := ⟨_, rfl⟩
        replace hf := hf read__93 eread__93
        refine sM_read_ S hK hj hP hS hin eread__93 dX3_readGround_93 (fun H locs hP hS => ?_)
        obtain ⟨x1_94, ex1_94⟩ : ∃ z : Int32, z = x1 + 1 := ⟨_, rfl⟩
        replace hf := hf x1_94 ex1_94
        refine lv_iinc (v := x1_94) (lv' := [(1, .int x1_94), (2, .int x2_42), (0, .ref (h 0))]) hx hb dX3_readGround_94 hl (k := 2) rfl (by rw [ex1_94]; rfl) (by decide) rfl (fun ls hl => ?_)
        refine lv_goto (tgt := 7) hx hb dX3_readGround_97 (by decide) ?_
        exact hk7 x1_94 place_79 read__93 _ _ _ hf hP hS (lv_sub hl [2, 0] rfl)
      · replace hf := hf.2 c_82
        refine lv_bipush (v := 100) hx hb dX3_readGround_85 (by decide) ?_
        refine lv_iload_n hx hb dX3_readGround_87 rfl (lv_at hl 0 rfl) ?_
        refine lv_iadd hx hb dX3_readGround_88 ?_
        refine lv_goto (tgt := 93) hx hb dX3_readGround_89 (by decide) ?_
        obtain ⟨hin, hf⟩ := hf
        obtain ⟨read__93, eread__93⟩ : ∃ z : Nat → Int32, z = upd read_ (x1 : Int32).toNatClampNeg (100 + x2_42) := ⟨_, rfl⟩
        replace hf := hf read__93 eread__93
        refine sM_read_ S hK hj hP hS hin eread__93 dX3_readGround_93 (fun H locs hP hS => ?_)
        obtain ⟨x1_94, ex1_94⟩ : ∃ z : Int32, z = x1 + 1 := ⟨_, rfl⟩
        replace hf := hf x1_94 ex1_94
        refine lv_iinc (v := x1_94) (lv' := [(1, .int x1_94), (2, .int x2_42), (0, .ref (h 0))]) hx hb dX3_readGround_94 hl (k := 2) rfl (by rw [ex1_94]; rfl) (by decide) rfl (fun ls hl => ?_)
        refine lv_goto (tgt := 7) hx hb dX3_readGround_97 (by decide) ?_
        exact hk7 x1_94 place_79 read__93 _ _ _ hf hP hS (lv_sub hl [2, 0] rfl)
  · replace hf := hf.1 c_52
    refine lv_iconst (v := 0) hx hb dX3_readGround_55 (by decide) ?_
    exact hret _ _ _ _ _ _ _ bz0 hf hP hS dX3_readGround_56
def wX3_readGround_7 (Q : Int32 → Int32 → (Nat → Int32) → Prop) (tape : (Nat → Int32)) (taped : Int32) : Nat → Int32 → Int32 → (Nat → Int32) → Prop
  | 0, _, _, _ => False
  | n + 1, x1, place, read_ => ((36 ≤ x1 → (wX3_nextLetter (fun r_101 place_101 => ((0 ≤ r_101 → (Q 0 place_101 read_)) ∧ (¬ 0 ≤ r_101 → (Q 1 place_101 read_)))) tape taped place)) ∧ (¬ 36 ≤ x1 → ((x1 ≤ 0 → (wX3_readGround_35 Q (wX3_readGround_7 Q tape taped n) x1 tape taped place read_)) ∧ (¬ x1 ≤ 0 → (((x1 - x1 / 6 * 6) = 0 → (wX3_takes (fun r_27 place_27 => ((r_27 = 0 → (Q 0 place_27 read_)) ∧ (¬ r_27 = 0 → (wX3_readGround_35 Q (wX3_readGround_7 Q tape taped n) x1 tape taped place_27 read_)))) tape taped place 47)) ∧ (¬ (x1 - x1 / 6 * 6) = 0 → (wX3_readGround_35 Q (wX3_readGround_7 Q tape taped n) x1 tape taped place read_)))))))
set_option maxHeartbeats 4000000 in
set_option maxRecDepth 100000 in
theorem tX3_readGround_7 {Q : Int32 → Int32 → (Nat → Int32) → Prop} {depths : (Nat → Int32)} {owners : (Nat → Int32)} {roofs : Int64} {rate : Int32} {undos : (Nat → Int32)} {undoMany : Int32} {drawn : Int32} {dug : Int64} {deep : Int64} {holes : (Nat → Int64)} {holeMany : Int32} {tape : (Nat → Int32)} {taped : Int32} {reads : Int32} {row : (Nat → Int32)} {order : (Nat → Int32)} {bestOrder : (Nat → Int32)} {nears : (Nat → Int32)} {isKept : Int32} {keptRoofs : Int64} {kept : (Nat → Int32)} {lanes : (Nat → Int32)} {rowSizes : (Nat → Int32)} {items : (Nat → Int64)} {moved : (Nat → Int64)} (S : CallFix p m c cX3_readGround 3 s args lw_all RX3) (hK : va_K (dC, dI) vwCl (tysG dA) s) (hj : mJ h) (hret : hrX3_readGround p l e s m args below meth c dC dI dA h Qw Q depths owners roofs rate undos undoMany drawn dug deep holes holeMany tape taped reads row order bestOrder nears isKept keptRoofs kept lanes rowSizes items moved) : ∀ (n : Nat) (x1 : Int32) (place : Int32) (read_ : (Nat → Int32)) (H : Heap) (locs : List Loc) (ls : Array Slot), wX3_readGround_7 Q tape taped n x1 place read_ → va_P (dC, dI) vwCl (wM h dA depths owners roofs rate undos undoMany drawn dug deep holes holeMany tape taped place reads read_ row order bestOrder nears isKept keptRoofs kept lanes rowSizes items moved) H → va_S (mA h) s.heap H locs → lv_has ls 3 [(0, .ref (h 0)), (1, .int x1)] → W p l e RX3_readGround_ s m args below meth c H locs 0 0 Qw (F0 m 7 ls []) := by
  obtain ⟨hx, hb, hml, hown, hts⟩ := id S
  intro n
  induction n with
  | zero => intro _ _ _ _ _ _ hf; exact hf.elim
  | succ n ih =>
    intro x1 place read_ H locs ls hf hP hS hl
    rw [wX3_readGround_7] at hf
    refine lv_iload_n hx hb dX3_readGround_7 rfl (lv_at hl 1 rfl) ?_
    refine lv_bipush (v := 36) hx hb dX3_readGround_8 (by decide) ?_
    refine lv_icmp_ge (tgt := 100) hx hb dX3_readGround_10 (by decide) (fun c_10 => ?_) (fun c_10 => ?_)
    · replace hf := hf.1 c_10
      refine lv_aload_n hx hb dX3_readGround_100 rfl (lv_at hl 0 rfl) ?_
      refine cM_i (As := []) (rest := []) S hK rfl hP hS (metX3_nextLetter l hj hf) (lw_V q1347 q1349 qs31 q60 q1350) rfl pdX3_nextLetter ⟨rfl, rfl⟩ ⟨Nat.le_of_ble_eq_true rfl, Nat.le_of_ble_eq_true rfl⟩ rfl hl.1 rfl (Nat.le_of_ble_eq_true rfl) dX3_readGround_101 ⟨Nat.zero_le _, Nat.zero_le _⟩ (fun r_101 u_101 H locs hf hP hS => ?_)
      obtain ⟨place_101, rfl⟩ : ∃ z, z = u_101 := ⟨_, rfl⟩
      replace hP : va_P (dC, dI) vwCl (wM h dA depths owners roofs rate undos undoMany drawn dug deep holes holeMany tape taped place_101 reads read_ row order bestOrder nears isKept keptRoofs kept lanes rowSizes items moved) H := hP
      refine lv_if_ge (tgt := 111) hx hb dX3_readGround_104 (by decide) (fun c_104 => ?_) (fun c_104 => ?_)
      · replace hf := hf.1 c_104
        refine lv_iconst (v := 0) hx hb dX3_readGround_111 (by decide) ?_
        exact hret _ _ _ _ _ _ _ bz0 hf hP hS dX3_readGround_112
      · replace hf := hf.2 c_104
        refine lv_iconst (v := 1) hx hb dX3_readGround_107 (by decide) ?_
        refine lv_goto (tgt := 112) hx hb dX3_readGround_108 (by decide) ?_
        exact hret _ _ _ _ _ _ _ bz1 hf hP hS dX3_readGround_112
    · replace hf := hf.2 c_10
      refine lv_iload_n hx hb dX3_readGround_13 rfl (lv_at hl 1 rfl) ?_
      refine lv_if_le (tgt := 35) hx hb dX3_readGround_14 (by decide) (fun c_14 => ?_) (fun c_14 => ?_)
      · replace hf := hf.1 c_14
        exact tX3_readGround_35 S hK hj hret ih x1 place read_ _ _ _ hf hP hS (lv_sub hl [0, 1] rfl)
      · replace hf := hf.2 c_14
        refine lv_iload_n hx hb dX3_readGround_17 rfl (lv_at hl 1 rfl) ?_
        refine lv_bipush (v := 6) hx hb dX3_readGround_18 (by decide) ?_
        refine lv_irem hx hb dX3_readGround_20 (by decide) ?_
        refine lv_if_ne (tgt := 35) hx hb dX3_readGround_21 (by decide) (fun c_21 => ?_) (fun c_21 => ?_)
        · replace hf := hf.2 c_21
          exact tX3_readGround_35 S hK hj hret ih x1 place read_ _ _ _ hf hP hS (lv_sub hl [0, 1] rfl)
        · replace hf := hf.1 c_21
          refine lv_aload_n hx hb dX3_readGround_24 rfl (lv_at hl 0 rfl) ?_
          refine lv_bipush (v := 47) hx hb dX3_readGround_25 (by decide) ?_
          refine cM_i (As := [.int 47]) (rest := []) S hK rfl hP hS (metX3_takes l hj hf) (lw_V q1343 q1345 qs30 q60 q1346) rfl pdX3_takes ⟨rfl, rfl⟩ ⟨Nat.le_of_ble_eq_true rfl, Nat.le_of_ble_eq_true rfl⟩ rfl hl.1 rfl (Nat.le_of_ble_eq_true rfl) dX3_readGround_27 ⟨Nat.zero_le _, Nat.zero_le _⟩ (fun r_27 u_27 H locs hf hP hS => ?_)
          obtain ⟨place_27, rfl⟩ : ∃ z, z = u_27 := ⟨_, rfl⟩
          replace hP : va_P (dC, dI) vwCl (wM h dA depths owners roofs rate undos undoMany drawn dug deep holes holeMany tape taped place_27 reads read_ row order bestOrder nears isKept keptRoofs kept lanes rowSizes items moved) H := hP
          refine lv_if_ne (tgt := 35) hx hb dX3_readGround_30 (by decide) (fun c_30 => ?_) (fun c_30 => ?_)
          · replace hf := hf.2 c_30
            exact tX3_readGround_35 S hK hj hret ih x1 place_27 read_ _ _ _ hf hP hS (lv_sub hl [0, 1] rfl)
          · replace hf := hf.1 c_30
            refine lv_iconst (v := 0) hx hb dX3_readGround_33 (by decide) ?_
            exact hret _ _ _ _ _ _ _ bz0 hf hP hS dX3_readGround_34
def wX3_readGround (Q : Int32 → Int32 → (Nat → Int32) → Prop) (tape : (Nat → Int32)) (taped : Int32) (place : Int32) (read_ : (Nat → Int32)) : Prop := (∃ fu : Nat, wX3_readGround_7 Q tape taped fu 0 0 read_)
end
set_option maxHeartbeats 4000000 in
set_option maxRecDepth 100000 in
theorem metX3_readGround (l : Launch) {Q : Int32 → Int32 → (Nat → Int32) → Prop} {depths : (Nat → Int32)} {owners : (Nat → Int32)} {roofs : Int64} {rate : Int32} {undos : (Nat → Int32)} {undoMany : Int32} {drawn : Int32} {dug : Int64} {deep : Int64} {holes : (Nat → Int64)} {holeMany : Int32} {tape : (Nat → Int32)} {taped : Int32} {place : Int32} {reads : Int32} {read_ : (Nat → Int32)} {row : (Nat → Int32)} {order : (Nat → Int32)} {bestOrder : (Nat → Int32)} {nears : (Nat → Int32)} {isKept : Int32} {keptRoofs : Int64} {kept : (Nat → Int32)} {lanes : (Nat → Int32)} {rowSizes : (Nat → Int32)} {items : (Nat → Int64)} {moved : (Nat → Int64)} {dC : Nat → ClassId} {dI : Nat → Nat → Nat} {dA : Nat → ClassId} {h : Nat → Nat} (hj : mJ h) (hf : wX3_readGround Q tape taped place read_) : Met l yX3_readGround (ws_ yX3_readGround cX3_readGround 3 (some .boolean)) rmX3_readGround (mPc dC dI dA h [] (wM h dA depths owners roofs rate undos undoMany drawn dug deep holes holeMany tape taped place reads read_ row order bestOrder nears isKept keptRoofs kept lanes rowSizes items moved)) (va_Qi (fun (r : Int32) (u : Int32 × (Nat → Int32)) => Q r u.1 u.2) (fun u t => va_P (dC, dI) vwCl (wM h dA depths owners roofs rate undos undoMany drawn dug deep holes holeMany tape taped u.1 reads u.2 row order bestOrder nears isKept keptRoofs kept lanes rowSizes items moved) t.heap) (mA h)) 0 0 (mA h) := by
  refine Met.ofW (cc := cX3_readGround) (maxL := 3) (ret := (some .boolean)) (by decide) rfl ?_
  intro p e s m args below meth c s₁ B hml hv
  obtain ⟨rfl, hP, hK⟩ := hv
  have hx := B.exec
  have hb := B.bytes
  have hr := B.returns
  have hts := atoms_spec (ws := (ws_ yX3_readGround cX3_readGround 3 (some .boolean))) B.pre
  have hts : ∀ w ∈ lw_all, w.before _ s = true := fun w h => hts w (List.mem_cons_of_mem _ h)
  have hown : s.vm.findClass RX3 = some m.cls := findClass_of_methodNamed B.named
  have hlocks := B.notSynchronized
  have S : CallFix p m c cX3_readGround 3 s _ lw_all RX3 := ⟨hx, hb, hml, hown, hts⟩
  have hS : va_S (mA h) s.heap s.heap [] := va_S.rf
  have hl := lv_entry ([.ref (h 0)]) (n := 3) (Nat.le_of_ble_eq_true rfl)
  rw [lg_entry_eq]
  generalize (lg_sl ([.ref (h 0)]) ++ List.replicate (3 - (lg_sl ([.ref (h 0)])).length) Slot.unset).toArray = ls at hl ⊢
  replace hl : lv_has ls 3 [(0, .ref (h 0))] := hl
  have hret : hrX3_readGround p l e s m ([.ref (h 0)] : List Value).toArray below meth c dC dI dA h (MQ below (va_Qi (fun (r : Int32) (u : Int32 × (Nat → Int32)) => Q r u.1 u.2) (fun u t => va_P (dC, dI) vwCl (wM h dA depths owners roofs rate undos undoMany drawn dug deep holes holeMany tape taped u.1 reads u.2 row order bestOrder nears isKept keptRoofs kept lanes rowSizes items moved) t.heap) (mA h)) ([.ref (h 0)] : List Value).toArray s 0 0 (mA h)) Q depths owners roofs rate undos undoMany drawn dug deep holes holeMany tape taped reads row order bestOrder nears isKept keptRoofs kept lanes rowSizes items moved := fun r place read_ H locs pc ls hz hq hP hS hd => W.zret hx hb hr hz.1 (fun t ht hW => ⟨⟨r, (place, read_), rfl, hq, by subst ht; exact hP⟩, hS.F ht⟩) hS.2.2 hd
  unfold wX3_readGround at hf
  refine lv_aload_n hx hb dX3_readGround_0 rfl (lv_at hl 0 rfl) ?_
  refine lv_iconst (v := 0) hx hb dX3_readGround_1 (by decide) ?_
  refine pM_place S hK hj hP hS dX3_readGround_2 (fun H locs hP hS => ?_)
  refine lv_iconst (v := 0) hx hb dX3_readGround_5 (by decide) ?_
  refine lv_istore_n (lv' := [(1, .int 0), (0, .ref (h 0))]) hx hb dX3_readGround_6 rfl hl (by decide) rfl (fun ls hl => ?_)
  obtain ⟨fu, hf⟩ := hf
  exact tX3_readGround_7 S hK hj hret fu 0 0 read_ _ _ _ hf hP hS (lv_sub hl [1, 0] rfl)
/-! HoleCountyModel.end(Z)I -/
theorem pdX3_end : DscOk yX3_end 1 := by decide +kernel
abbrev rmX3_end : Room := { frames := 1, cells := 0, slots := 0, locals := 20 }
abbrev RX3_end_ : Room := (headSpec (ws_ yX3_end cX3_end 2 (some .int)) rmX3_end).room
section
variable {p : Program} {l : Launch} {e : Env} {s : State} {m : MethodId} {args : Array Value} {below : List Frame} {meth : Method} {c : Code} {Qw : State → Prop} {dC : Nat → ClassId} {dI : Nat → Nat → Nat} {dA : Nat → ClassId} {h : Nat → Nat}
abbrev hrX3_end (p : Program) (l : Launch) (e : Env) (s : State) (m : MethodId) (args : Array Value) (below : List Frame) (meth : Method) (c : Code) (dC : Nat → ClassId) (dI : Nat → Nat → Nat) (dA : Nat → ClassId) (h : Nat → Nat) (Qw : State → Prop) (Q : Int32 → Int32 → Int32 → Prop) (depths : (Nat → Int32)) (owners : (Nat → Int32)) (roofs : Int64) (rate : Int32) (undos : (Nat → Int32)) (undoMany : Int32) (drawn : Int32) (dug : Int64) (deep : Int64) (holes : (Nat → Int64)) (holeMany : Int32) (tape : (Nat → Int32)) (reads : Int32) (read_ : (Nat → Int32)) (row : (Nat → Int32)) (order : (Nat → Int32)) (bestOrder : (Nat → Int32)) (nears : (Nat → Int32)) (isKept : Int32) (keptRoofs : Int64) (kept : (Nat → Int32)) (lanes : (Nat → Int32)) (rowSizes : (Nat → Int32)) (items : (Nat → Int64)) (moved : (Nat → Int64)) : Prop := ∀ (r : Int32) (taped : Int32) (place : Int32) (H : Heap) (locs : List Loc) (pc : Nat) (ls : Array Slot), Q r taped place → va_P (dC, dI) vwCl (wM h dA depths owners roofs rate undos undoMany drawn dug deep holes holeMany tape taped place reads read_ row order bestOrder nears isKept keptRoofs kept lanes rowSizes items moved) H → va_S (mA h) s.heap H locs → decode cX3_end pc = .ok (.ireturn, 1) → W p l e RX3_end_ s m args below meth c H locs 0 0 Qw (F0 m pc ls [.int r])
def wX3_end_9 (Q : Int32 → Int32 → Int32 → Prop) (x1 : Int32) (tape : (Nat → Int32)) (taped : Int32) (place : Int32) : Prop := ((x1 = 0 → (Q ((-20) - place) 0 place)) ∧ (¬ x1 = 0 → (Q 0 0 place)))
set_option maxHeartbeats 4000000 in
set_option maxRecDepth 100000 in
theorem tX3_end_9 {Q : Int32 → Int32 → Int32 → Prop} {depths : (Nat → Int32)} {owners : (Nat → Int32)} {roofs : Int64} {rate : Int32} {undos : (Nat → Int32)} {undoMany : Int32} {drawn : Int32} {dug : Int64} {deep : Int64} {holes : (Nat → Int64)} {holeMany : Int32} {tape : (Nat → Int32)} {reads : Int32} {read_ : (Nat → Int32)} {row : (Nat → Int32)} {order : (Nat → Int32)} {bestOrder : (Nat → Int32)} {nears : (Nat → Int32)} {isKept : Int32} {keptRoofs : Int64} {kept : (Nat → Int32)} {lanes : (Nat → Int32)} {rowSizes : (Nat → Int32)} {items : (Nat → Int64)} {moved : (Nat → Int64)} (S : CallFix p m c cX3_end 2 s args lw_all RX3) (hK : va_K (dC, dI) vwCl (tysG dA) s) (hj : mJ h) (hret : hrX3_end p l e s m args below meth c dC dI dA h Qw Q depths owners roofs rate undos undoMany drawn dug deep holes holeMany tape reads read_ row order bestOrder nears isKept keptRoofs kept lanes rowSizes items moved) : ∀ (x1 : Int32) (taped : Int32) (place : Int32) (H : Heap) (locs : List Loc) (ls : Array Slot), wX3_end_9 Q x1 tape taped place → va_P (dC, dI) vwCl (wM h dA depths owners roofs rate undos undoMany drawn dug deep holes holeMany tape taped place reads read_ row order bestOrder nears isKept keptRoofs kept lanes rowSizes items moved) H → va_S (mA h) s.heap H locs → lv_has ls 2 [(0, .ref (h 0)), (1, .int x1)] → W p l e RX3_end_ s m args below meth c H locs 0 0 Qw (F0 m 9 ls []) := by
  obtain ⟨hx, hb, hml, hown, hts⟩ := id S
  intro x1 taped place H locs ls hf hP hS hl
  unfold wX3_end_9 at hf
  refine lv_aload_n hx hb dX3_end_9 rfl (lv_at hl 0 rfl) ?_
  refine lv_iconst (v := 0) hx hb dX3_end_10 (by decide) ?_
  refine pM_taped S hK hj hP hS dX3_end_11 (fun H locs hP hS => ?_)
  refine lv_iload_n hx hb dX3_end_14 rfl (lv_at hl 1 rfl) ?_
  refine lv_if_eq (tgt := 22) hx hb dX3_end_15 (by decide) (fun c_15 => ?_) (fun c_15 => ?_)
  · replace hf := hf.1 c_15
    refine lv_bipush (v := (-20)) hx hb dX3_end_22 (by decide) ?_
    refine lv_aload_n hx hb dX3_end_24 rfl (lv_at hl 0 rfl) ?_
    refine gM_place S hK hP dX3_end_25 ?_
    refine lv_isub hx hb dX3_end_28 ?_
    exact hret _ _ _ _ _ _ _ hf hP hS dX3_end_29
  · replace hf := hf.2 c_15
    refine lv_iconst (v := 0) hx hb dX3_end_18 (by decide) ?_
    refine lv_goto (tgt := 29) hx hb dX3_end_19 (by decide) ?_
    exact hret _ _ _ _ _ _ _ hf hP hS dX3_end_29
def wX3_end (Q : Int32 → Int32 → Int32 → Prop) (tape : (Nat → Int32)) (taped : Int32) (place : Int32) (x1 : Int32) : Prop := ((x1 = 0 → (wX3_nextLetter (fun r_5 place_5 => (wX3_end_9 Q x1 tape taped place_5)) tape taped place)) ∧ (¬ x1 = 0 → (wX3_end_9 Q x1 tape taped place)))
end
set_option maxHeartbeats 4000000 in
set_option maxRecDepth 100000 in
theorem metX3_end (l : Launch) {Q : Int32 → Int32 → Int32 → Prop} {depths : (Nat → Int32)} {owners : (Nat → Int32)} {roofs : Int64} {rate : Int32} {undos : (Nat → Int32)} {undoMany : Int32} {drawn : Int32} {dug : Int64} {deep : Int64} {holes : (Nat → Int64)} {holeMany : Int32} {tape : (Nat → Int32)} {taped : Int32} {place : Int32} {reads : Int32} {read_ : (Nat → Int32)} {row : (Nat → Int32)} {order : (Nat → Int32)} {bestOrder : (Nat → Int32)} {nears : (Nat → Int32)} {isKept : Int32} {keptRoofs : Int64} {kept : (Nat → Int32)} {lanes : (Nat → Int32)} {rowSizes : (Nat → Int32)} {items : (Nat → Int64)} {moved : (Nat → Int64)} {x1 : Int32} {dC : Nat → ClassId} {dI : Nat → Nat → Nat} {dA : Nat → ClassId} {h : Nat → Nat} (hj : mJ h) (hf : wX3_end Q tape taped place x1) : Met l yX3_end (ws_ yX3_end cX3_end 2 (some .int)) rmX3_end (mPc dC dI dA h [.int x1] (wM h dA depths owners roofs rate undos undoMany drawn dug deep holes holeMany tape taped place reads read_ row order bestOrder nears isKept keptRoofs kept lanes rowSizes items moved)) (va_Qi (fun (r : Int32) (u : Int32 × Int32) => Q r u.1 u.2) (fun u t => va_P (dC, dI) vwCl (wM h dA depths owners roofs rate undos undoMany drawn dug deep holes holeMany tape u.1 u.2 reads read_ row order bestOrder nears isKept keptRoofs kept lanes rowSizes items moved) t.heap) (mA h)) 0 0 (mA h) := by
  refine Met.ofW (cc := cX3_end) (maxL := 2) (ret := (some .int)) (by decide) rfl ?_
  intro p e s m args below meth c s₁ B hml hv
  obtain ⟨rfl, hP, hK⟩ := hv
  have hx := B.exec
  have hb := B.bytes
  have hr := B.returns
  have hts := atoms_spec (ws := (ws_ yX3_end cX3_end 2 (some .int))) B.pre
  have hts : ∀ w ∈ lw_all, w.before _ s = true := fun w h => hts w (List.mem_cons_of_mem _ h)
  have hown : s.vm.findClass RX3 = some m.cls := findClass_of_methodNamed B.named
  have hlocks := B.notSynchronized
  have S : CallFix p m c cX3_end 2 s _ lw_all RX3 := ⟨hx, hb, hml, hown, hts⟩
  have hS : va_S (mA h) s.heap s.heap [] := va_S.rf
  have hl := lv_entry ([.ref (h 0), .int x1]) (n := 2) (Nat.le_of_ble_eq_true rfl)
  rw [lg_entry_eq]
  generalize (lg_sl ([.ref (h 0), .int x1]) ++ List.replicate (2 - (lg_sl ([.ref (h 0), .int x1])).length) Slot.unset).toArray = ls at hl ⊢
  replace hl : lv_has ls 2 [(0, .ref (h 0)), (1, .int x1)] := hl
  have hret : hrX3_end p l e s m ([.ref (h 0), .int x1] : List Value).toArray below meth c dC dI dA h (MQ below (va_Qi (fun (r : Int32) (u : Int32 × Int32) => Q r u.1 u.2) (fun u t => va_P (dC, dI) vwCl (wM h dA depths owners roofs rate undos undoMany drawn dug deep holes holeMany tape u.1 u.2 reads read_ row order bestOrder nears isKept keptRoofs kept lanes rowSizes items moved) t.heap) (mA h)) ([.ref (h 0), .int x1] : List Value).toArray s 0 0 (mA h)) Q depths owners roofs rate undos undoMany drawn dug deep holes holeMany tape reads read_ row order bestOrder nears isKept keptRoofs kept lanes rowSizes items moved := fun r taped place H locs pc ls hq hP hS hd => W.iret hx hb hr (fun t ht hW => ⟨⟨r, (taped, place), rfl, hq, by subst ht; exact hP⟩, hS.F ht⟩) hS.2.2 hd
  unfold wX3_end at hf
  refine lv_iload_n hx hb dX3_end_0 rfl (lv_at hl 1 rfl) ?_
  refine lv_if_ne (tgt := 9) hx hb dX3_end_1 (by decide) (fun c_1 => ?_) (fun c_1 => ?_)
  · replace hf := hf.2 c_1
    exact tX3_end_9 S hK hj hret x1 taped place _ _ _ hf hP hS (lv_sub hl [0, 1] rfl)
  · replace hf := hf.1 c_1
    refine lv_aload_n hx hb dX3_end_4 rfl (lv_at hl 0 rfl) ?_
    refine cM_i (As := []) (rest := []) S hK rfl hP hS (metX3_nextLetter l hj hf) (lw_V q1347 q1349 qs31 q60 q1350) rfl pdX3_nextLetter ⟨rfl, rfl⟩ ⟨Nat.le_of_ble_eq_true rfl, Nat.le_of_ble_eq_true rfl⟩ rfl hl.1 rfl (Nat.le_of_ble_eq_true rfl) dX3_end_5 ⟨Nat.zero_le _, Nat.zero_le _⟩ (fun r_5 u_5 H locs hf hP hS => ?_)
    obtain ⟨place_5, rfl⟩ : ∃ z, z = u_5 := ⟨_, rfl⟩
    replace hP : va_P (dC, dI) vwCl (wM h dA depths owners roofs rate undos undoMany drawn dug deep holes holeMany tape taped place_5 reads read_ row order bestOrder nears isKept keptRoofs kept lanes rowSizes items moved) H := hP
    refine lv_pop hx hb dX3_end_8 rfl ?_
    exact tX3_end_9 S hK hj hret x1 taped place_5 _ _ _ hf hP hS (lv_sub hl [0, 1] rfl)
/-! HoleCountyModel.findHoles()V -/
theorem pdX3_findHoles : DscOk yX3_findHoles 0 := by decide +kernel
abbrev rmX3_findHoles : Room := { frames := 3, cells := 0, slots := 0, locals := 71 }
abbrev RX3_findHoles_ : Room := (headSpec (ws_ yX3_findHoles cX3_findHoles 3 none) rmX3_findHoles).room
section
variable {p : Program} {l : Launch} {e : Env} {s : State} {m : MethodId} {args : Array Value} {below : List Frame} {meth : Method} {c : Code} {Qw : State → Prop} {dC : Nat → ClassId} {dI : Nat → Nat → Nat} {dA : Nat → ClassId} {h : Nat → Nat}
abbrev hrX3_findHoles (p : Program) (l : Launch) (e : Env) (s : State) (m : MethodId) (args : Array Value) (below : List Frame) (meth : Method) (c : Code) (dC : Nat → ClassId) (dI : Nat → Nat → Nat) (dA : Nat → ClassId) (h : Nat → Nat) (Qw : State → Prop) (Q : (Nat → Int64) → Int32 → Prop) (depths : (Nat → Int32)) (owners : (Nat → Int32)) (roofs : Int64) (rate : Int32) (undos : (Nat → Int32)) (undoMany : Int32) (drawn : Int32) (dug : Int64) (deep : Int64) (tape : (Nat → Int32)) (taped : Int32) (place : Int32) (reads : Int32) (read_ : (Nat → Int32)) (row : (Nat → Int32)) (order : (Nat → Int32)) (bestOrder : (Nat → Int32)) (nears : (Nat → Int32)) (isKept : Int32) (keptRoofs : Int64) (kept : (Nat → Int32)) (lanes : (Nat → Int32)) (rowSizes : (Nat → Int32)) (items : (Nat → Int64)) (moved : (Nat → Int64)) : Prop := ∀ (holes : (Nat → Int64)) (holeMany : Int32) (H : Heap) (locs : List Loc) (pc : Nat) (ls : Array Slot), Q holes holeMany → va_P (dC, dI) vwCl (wM h dA depths owners roofs rate undos undoMany drawn dug deep holes holeMany tape taped place reads read_ row order bestOrder nears isKept keptRoofs kept lanes rowSizes items moved) H → va_S (mA h) s.heap H locs → decode cX3_findHoles pc = .ok (.return_, 1) → W p l e RX3_findHoles_ s m args below meth c H locs 0 0 Qw (F0 m pc ls [])
def wX3_findHoles_10 (Q : (Nat → Int64) → Int32 → Prop) (dug : Int64) : Nat → Int64 → (Nat → Int64) → Int32 → Prop
  | 0, _, _, _ => False
  | n + 1, x1, holes, holeMany => ((x1 = 0 → (Q holes holeMany)) ∧ (¬ x1 = 0 → (wX3_least (fun r_26 => (wX3_holeAt (fun r_29 => (vp_in holeMany 36 ∧ (∀ holes_32 : Nat → Int64, holes_32 = vp_updL holes (holeMany : Int32).toNatClampNeg r_29 → (∀ holeMany_40 : Int32, holeMany_40 = (holeMany + 1) → (vp_in (holeMany_40 - 1) 36 ∧ (∀ x1_60 : Int64, x1_60 = (x1 &&& ((holes_32 ((holeMany_40 - 1) : Int32).toNatClampNeg) ^^^ (-1))) → ((wX3_findHoles_10 Q dug n) x1_60 holes_32 holeMany_40))))))) dug r_26)) x1)))
set_option maxHeartbeats 4000000 in
set_option maxRecDepth 100000 in
theorem tX3_findHoles_10 {Q : (Nat → Int64) → Int32 → Prop} {depths : (Nat → Int32)} {owners : (Nat → Int32)} {roofs : Int64} {rate : Int32} {undos : (Nat → Int32)} {undoMany : Int32} {drawn : Int32} {dug : Int64} {deep : Int64} {tape : (Nat → Int32)} {taped : Int32} {place : Int32} {reads : Int32} {read_ : (Nat → Int32)} {row : (Nat → Int32)} {order : (Nat → Int32)} {bestOrder : (Nat → Int32)} {nears : (Nat → Int32)} {isKept : Int32} {keptRoofs : Int64} {kept : (Nat → Int32)} {lanes : (Nat → Int32)} {rowSizes : (Nat → Int32)} {items : (Nat → Int64)} {moved : (Nat → Int64)} (S : CallFix p m c cX3_findHoles 3 s args lw_all RX3) (hK : va_K (dC, dI) vwCl (tysG dA) s) (hj : mJ h) (hret : hrX3_findHoles p l e s m args below meth c dC dI dA h Qw Q depths owners roofs rate undos undoMany drawn dug deep tape taped place reads read_ row order bestOrder nears isKept keptRoofs kept lanes rowSizes items moved) : ∀ (n : Nat) (x1 : Int64) (holes : (Nat → Int64)) (holeMany : Int32) (H : Heap) (locs : List Loc) (ls : Array Slot), wX3_findHoles_10 Q dug n x1 holes holeMany → va_P (dC, dI) vwCl (wM h dA depths owners roofs rate undos undoMany drawn dug deep holes holeMany tape taped place reads read_ row order bestOrder nears isKept keptRoofs kept lanes rowSizes items moved) H → va_S (mA h) s.heap H locs → lv_has ls 3 [(0, .ref (h 0)), (1, .long x1)] → W p l e RX3_findHoles_ s m args below meth c H locs 0 0 Qw (F0 m 10 ls []) := by
  obtain ⟨hx, hb, hml, hown, hts⟩ := id S
  intro n
  induction n with
  | zero => intro _ _ _ _ _ _ hf; exact hf.elim
  | succ n ih =>
    intro x1 holes holeMany H locs ls hf hP hS hl
    rw [wX3_findHoles_10] at hf
    refine lv_lload_n hx hb dX3_findHoles_10 rfl (lv_at hl 1 rfl) ?_
    refine lv_lconst (v := 0) hx hb dX3_findHoles_11 (by decide) ?_
    refine lc_eq (tgt := 64) hx hb dX3_findHoles_12 dX3_findHoles_13 (by decide) (fun c_12 => ?_) (fun c_12 => ?_)
    · replace hf := hf.1 c_12
      exact hret _ _ _ _ _ _ hf hP hS dX3_findHoles_64
    · replace hf := hf.2 c_12
      refine lv_aload_n hx hb dX3_findHoles_16 rfl (lv_at hl 0 rfl) ?_
      refine gM_holes S hK hP dX3_findHoles_17 ?_
      refine lv_aload_n hx hb dX3_findHoles_20 rfl (lv_at hl 0 rfl) ?_
      refine gM_holeMany S hK hP dX3_findHoles_21 ?_
      refine lv_aload_n hx hb dX3_findHoles_24 rfl (lv_at hl 0 rfl) ?_
      refine lv_lload_n hx hb dX3_findHoles_25 rfl (lv_at hl 1 rfl) ?_
      refine cs_i (As := [.long x1]) (rest := [.ref (h 0), .int holeMany, .ref (h 4)]) S (metX3_least l hf) (lw_S q1326 q1327 q60 q1328) pdX3_least ⟨rfl, rfl⟩ ⟨Nat.le_of_ble_eq_true rfl, Nat.le_of_ble_eq_true rfl⟩ rfl hl.1 rfl (Nat.le_of_ble_eq_true rfl) dX3_findHoles_26 ⟨Nat.zero_le _, Nat.zero_le _⟩ (fun r_26 hf => ?_)
      refine cM_l (As := [.int r_26]) (rest := [.int holeMany, .ref (h 4)]) S hK rfl hP hS (metX3_holeAt l hj hf) (lw_V q1313 q1315 qs28 q60 q1316) rfl pdX3_holeAt ⟨rfl, rfl⟩ ⟨Nat.le_of_ble_eq_true rfl, Nat.le_of_ble_eq_true rfl⟩ rfl hl.1 rfl (Nat.le_of_ble_eq_true rfl) dX3_findHoles_29 ⟨Nat.zero_le _, Nat.zero_le _⟩ (fun r_29 u_29 H locs hf hP hS => ?_)
      replace hP : va_P (dC, dI) vwCl (wM h dA depths owners roofs rate undos undoMany drawn dug deep holes holeMany tape taped place reads read_ row order bestOrder nears isKept keptRoofs kept lanes rowSizes items moved) H := hP
      try dsimp only at hf
      obtain ⟨hin, hf⟩ := hf
      obtain ⟨holes_32, eholes_32⟩ : ∃ z : Nat → Int64, z = vp_updL holes (holeMany : Int32).toNatClampNeg r_29 := ⟨_, rfl⟩
      replace hf := hf holes_32 eholes_32
      refine sM_holes S hK hj hP hS hin eholes_32 dX3_findHoles_32 (fun H locs hP hS => ?_)
      refine lv_aload_n hx hb dX3_findHoles_33 rfl (lv_at hl 0 rfl) ?_
      refine lv_dup hx hb dX3_findHoles_34 rfl ?_
      refine gM_holeMany S hK hP dX3_findHoles_35 ?_
      refine lv_iconst (v := 1) hx hb dX3_findHoles_38 (by decide) ?_
      refine lv_iadd hx hb dX3_findHoles_39 ?_
      refine lv_topi (fun holeMany_40 eholeMany_40 => ?_)
      replace hf := hf holeMany_40 eholeMany_40
      refine pM_holeMany S hK hj hP hS dX3_findHoles_40 (fun H locs hP hS => ?_)
      refine lv_lload_n hx hb dX3_findHoles_43 rfl (lv_at hl 1 rfl) ?_
      refine lv_aload_n hx hb dX3_findHoles_44 rfl (lv_at hl 0 rfl) ?_
      refine gM_holes S hK hP dX3_findHoles_45 ?_
      refine lv_aload_n hx hb dX3_findHoles_48 rfl (lv_at hl 0 rfl) ?_
      refine gM_holeMany S hK hP dX3_findHoles_49 ?_
      refine lv_iconst (v := 1) hx hb dX3_findHoles_52 (by decide) ?_
      refine lv_isub hx hb dX3_findHoles_53 ?_
      obtain ⟨hin, hf⟩ := hf
      refine lM_holes S hK hP hin dX3_findHoles_54 ?_
      refine lv_ldc2 (v := (-1)) hx hb hown (hts _ q1286) dX3_findHoles_55 ?_
      refine lv_lxor hx hb dX3_findHoles_58 ?_
      refine lv_land hx hb dX3_findHoles_59 ?_
      refine lv_topl (fun x1_60 ex1_60 => ?_)
      replace hf := hf x1_60 ex1_60
      refine lv_lstore_n (lv' := [(1, .long x1_60), (0, .ref (h 0))]) hx hb dX3_findHoles_60 rfl hl (by decide) rfl (fun ls hl => ?_)
      refine lv_goto (tgt := 10) hx hb dX3_findHoles_61 (by decide) ?_
      exact ih x1_60 holes_32 holeMany_40 _ _ _ hf hP hS (lv_sub hl [1, 0] rfl)
def wX3_findHoles (Q : (Nat → Int64) → Int32 → Prop) (dug : Int64) (holes : (Nat → Int64)) (holeMany : Int32) : Prop := (∃ fu : Nat, wX3_findHoles_10 Q dug fu dug holes 0)
end
set_option maxHeartbeats 4000000 in
set_option maxRecDepth 100000 in
theorem metX3_findHoles (l : Launch) {Q : (Nat → Int64) → Int32 → Prop} {depths : (Nat → Int32)} {owners : (Nat → Int32)} {roofs : Int64} {rate : Int32} {undos : (Nat → Int32)} {undoMany : Int32} {drawn : Int32} {dug : Int64} {deep : Int64} {holes : (Nat → Int64)} {holeMany : Int32} {tape : (Nat → Int32)} {taped : Int32} {place : Int32} {reads : Int32} {read_ : (Nat → Int32)} {row : (Nat → Int32)} {order : (Nat → Int32)} {bestOrder : (Nat → Int32)} {nears : (Nat → Int32)} {isKept : Int32} {keptRoofs : Int64} {kept : (Nat → Int32)} {lanes : (Nat → Int32)} {rowSizes : (Nat → Int32)} {items : (Nat → Int64)} {moved : (Nat → Int64)} {dC : Nat → ClassId} {dI : Nat → Nat → Nat} {dA : Nat → ClassId} {h : Nat → Nat} (hj : mJ h) (hf : wX3_findHoles Q dug holes holeMany) : Met l yX3_findHoles (ws_ yX3_findHoles cX3_findHoles 3 none) rmX3_findHoles (mPc dC dI dA h [] (wM h dA depths owners roofs rate undos undoMany drawn dug deep holes holeMany tape taped place reads read_ row order bestOrder nears isKept keptRoofs kept lanes rowSizes items moved)) (va_Qv (fun (u : (Nat → Int64) × Int32) => Q u.1 u.2) (fun u t => va_P (dC, dI) vwCl (wM h dA depths owners roofs rate undos undoMany drawn dug deep u.1 u.2 tape taped place reads read_ row order bestOrder nears isKept keptRoofs kept lanes rowSizes items moved) t.heap) (mA h)) 0 0 (mA h) := by
  refine Met.ofW (cc := cX3_findHoles) (maxL := 3) (ret := none) (by decide) rfl ?_
  intro p e s m args below meth c s₁ B hml hv
  obtain ⟨rfl, hP, hK⟩ := hv
  have hx := B.exec
  have hb := B.bytes
  have hr := B.returns
  have hts := atoms_spec (ws := (ws_ yX3_findHoles cX3_findHoles 3 none)) B.pre
  have hts : ∀ w ∈ lw_all, w.before _ s = true := fun w h => hts w (List.mem_cons_of_mem _ h)
  have hown : s.vm.findClass RX3 = some m.cls := findClass_of_methodNamed B.named
  have hlocks := B.notSynchronized
  have S : CallFix p m c cX3_findHoles 3 s _ lw_all RX3 := ⟨hx, hb, hml, hown, hts⟩
  have hS : va_S (mA h) s.heap s.heap [] := va_S.rf
  have hl := lv_entry ([.ref (h 0)]) (n := 3) (Nat.le_of_ble_eq_true rfl)
  rw [lg_entry_eq]
  generalize (lg_sl ([.ref (h 0)]) ++ List.replicate (3 - (lg_sl ([.ref (h 0)])).length) Slot.unset).toArray = ls at hl ⊢
  replace hl : lv_has ls 3 [(0, .ref (h 0))] := hl
  have hret : hrX3_findHoles p l e s m ([.ref (h 0)] : List Value).toArray below meth c dC dI dA h (MQ below (va_Qv (fun (u : (Nat → Int64) × Int32) => Q u.1 u.2) (fun u t => va_P (dC, dI) vwCl (wM h dA depths owners roofs rate undos undoMany drawn dug deep u.1 u.2 tape taped place reads read_ row order bestOrder nears isKept keptRoofs kept lanes rowSizes items moved) t.heap) (mA h)) ([.ref (h 0)] : List Value).toArray s 0 0 (mA h)) Q depths owners roofs rate undos undoMany drawn dug deep tape taped place reads read_ row order bestOrder nears isKept keptRoofs kept lanes rowSizes items moved := fun holes holeMany H locs pc ls hq hP hS hd => W.vret hx hb hr (fun t ht hW => ⟨⟨(holes, holeMany), rfl, hq, by subst ht; exact hP⟩, hS.F ht⟩) hS.2.2 hd
  unfold wX3_findHoles at hf
  refine lv_aload_n hx hb dX3_findHoles_0 rfl (lv_at hl 0 rfl) ?_
  refine lv_iconst (v := 0) hx hb dX3_findHoles_1 (by decide) ?_
  refine pM_holeMany S hK hj hP hS dX3_findHoles_2 (fun H locs hP hS => ?_)
  refine lv_aload_n hx hb dX3_findHoles_5 rfl (lv_at hl 0 rfl) ?_
  refine gM_dug S hK hP dX3_findHoles_6 ?_
  refine lv_lstore_n (lv' := [(1, .long dug), (0, .ref (h 0))]) hx hb dX3_findHoles_9 rfl hl (by decide) rfl (fun ls hl => ?_)
  obtain ⟨fu, hf⟩ := hf
  exact tX3_findHoles_10 S hK hj hret fu dug holes 0 _ _ _ hf hP hS (lv_sub hl [1, 0] rfl)
/-! HoleCountyModel.ground()I -/
theorem pdX3_ground : DscOk yX3_ground 0 := by decide +kernel
abbrev rmX3_ground : Room := { frames := 4, cells := 0, slots := 0, locals := 93 }
abbrev RX3_ground_ : Room := (headSpec (ws_ yX3_ground cX3_ground 3 (some .int)) rmX3_ground).room
section
variable {p : Program} {l : Launch} {e : Env} {s : State} {m : MethodId} {args : Array Value} {below : List Frame} {meth : Method} {c : Code} {Qw : State → Prop} {dC : Nat → ClassId} {dI : Nat → Nat → Nat} {dA : Nat → ClassId} {h : Nat → Nat}
abbrev hrX3_ground (p : Program) (l : Launch) (e : Env) (s : State) (m : MethodId) (args : Array Value) (below : List Frame) (meth : Method) (c : Code) (dC : Nat → ClassId) (dI : Nat → Nat → Nat) (dA : Nat → ClassId) (h : Nat → Nat) (Qw : State → Prop) (Q : Int32 → (Nat → Int32) → Int64 → Int32 → Int64 → Int64 → (Nat → Int64) → Int32 → Int32 → Int32 → (Nat → Int32) → Prop) (owners : (Nat → Int32)) (rate : Int32) (undos : (Nat → Int32)) (drawn : Int32) (tape : (Nat → Int32)) (reads : Int32) (row : (Nat → Int32)) (order : (Nat → Int32)) (bestOrder : (Nat → Int32)) (nears : (Nat → Int32)) (isKept : Int32) (keptRoofs : Int64) (kept : (Nat → Int32)) (lanes : (Nat → Int32)) (rowSizes : (Nat → Int32)) (items : (Nat → Int64)) (moved : (Nat → Int64)) : Prop := ∀ (r : Int32) (depths : (Nat → Int32)) (roofs : Int64) (undoMany : Int32) (dug : Int64) (deep : Int64) (holes : (Nat → Int64)) (holeMany : Int32) (taped : Int32) (place : Int32) (read_ : (Nat → Int32)) (H : Heap) (locs : List Loc) (pc : Nat) (ls : Array Slot), Q r depths roofs undoMany dug deep holes holeMany taped place read_ → va_P (dC, dI) vwCl (wM h dA depths owners roofs rate undos undoMany drawn dug deep holes holeMany tape taped place reads read_ row order bestOrder nears isKept keptRoofs kept lanes rowSizes items moved) H → va_S (mA h) s.heap H locs → decode cX3_ground pc = .ok (.ireturn, 1) → W p l e RX3_ground_ s m args below meth c H locs 0 0 Qw (F0 m pc ls [.int r])
def wX3_ground_50 (Q : Int32 → (Nat → Int32) → Int64 → Int32 → Int64 → Int64 → (Nat → Int64) → Int32 → Int32 → Int32 → (Nat → Int32) → Prop) (k17 : Int32 → (Nat → Int32) → Int64 → Prop) (x2 : Int32) (z0 : Int32) (z1 : Int32) (z2 : Int32) (depths : (Nat → Int32)) (roofs : Int64) (undoMany : Int32) (dug : Int64) (deep : Int64) (holes : (Nat → Int64)) (holeMany : Int32) (tape : (Nat → Int32)) (taped : Int32) (place : Int32) (read_ : (Nat → Int32)) : Prop := (wX3_put (fun depths_50 roofs_50 => (∀ x2_53 : Int32, x2_53 = x2 + 1 → (k17 x2_53 depths_50 roofs_50))) depths roofs z2 z1 z0)
set_option maxHeartbeats 4000000 in
set_option maxRecDepth 100000 in
theorem tX3_ground_50 {Q : Int32 → (Nat → Int32) → Int64 → Int32 → Int64 → Int64 → (Nat → Int64) → Int32 → Int32 → Int32 → (Nat → Int32) → Prop} {owners : (Nat → Int32)} {rate : Int32} {undos : (Nat → Int32)} {drawn : Int32} {tape : (Nat → Int32)} {reads : Int32} {row : (Nat → Int32)} {order : (Nat → Int32)} {bestOrder : (Nat → Int32)} {nears : (Nat → Int32)} {isKept : Int32} {keptRoofs : Int64} {kept : (Nat → Int32)} {lanes : (Nat → Int32)} {rowSizes : (Nat → Int32)} {items : (Nat → Int64)} {moved : (Nat → Int64)} {undoMany : Int32} {dug : Int64} {deep : Int64} {holes : (Nat → Int64)} {holeMany : Int32} {taped : Int32} {place : Int32} {read_ : (Nat → Int32)} (S : CallFix p m c cX3_ground 3 s args lw_all RX3) (hK : va_K (dC, dI) vwCl (tysG dA) s) (hj : mJ h) (hret : hrX3_ground p l e s m args below meth c dC dI dA h Qw Q owners rate undos drawn tape reads row order bestOrder nears isKept keptRoofs kept lanes rowSizes items moved) {k17 : Int32 → (Nat → Int32) → Int64 → Prop} (hk17 : ∀ (x2 : Int32) (depths : (Nat → Int32)) (roofs : Int64) (H : Heap) (locs : List Loc) (ls : Array Slot), k17 x2 depths roofs → va_P (dC, dI) vwCl (wM h dA depths owners roofs rate undos undoMany drawn dug deep holes holeMany tape taped place reads read_ row order bestOrder nears isKept keptRoofs kept lanes rowSizes items moved) H → va_S (mA h) s.heap H locs → lv_has ls 3 [(0, .ref (h 0)), (2, .int x2)] → W p l e RX3_ground_ s m args below meth c H locs 0 0 Qw (F0 m 17 ls [])) : ∀ (x2 : Int32) (z0 : Int32) (z1 : Int32) (z2 : Int32) (depths : (Nat → Int32)) (roofs : Int64) (H : Heap) (locs : List Loc) (ls : Array Slot), wX3_ground_50 Q k17 x2 z0 z1 z2 depths roofs undoMany dug deep holes holeMany tape taped place read_ → va_P (dC, dI) vwCl (wM h dA depths owners roofs rate undos undoMany drawn dug deep holes holeMany tape taped place reads read_ row order bestOrder nears isKept keptRoofs kept lanes rowSizes items moved) H → va_S (mA h) s.heap H locs → lv_has ls 3 [(0, .ref (h 0)), (2, .int x2)] → W p l e RX3_ground_ s m args below meth c H locs 0 0 Qw (F0 m 50 ls [.int z0, .int z1, .int z2, .ref (h 0)]) := by
  obtain ⟨hx, hb, hml, hown, hts⟩ := id S
  intro x2 z0 z1 z2 depths roofs H locs ls hf hP hS hl
  unfold wX3_ground_50 at hf
  refine cM_v (As := [.int z2, .int z1, .int z0]) (rest := []) S hK rfl hP hS (metX3_put l hj hf) (lw_V q1282 q1284 qs26 q60 q1285) rfl pdX3_put ⟨rfl, rfl⟩ ⟨Nat.le_of_ble_eq_true rfl, Nat.le_of_ble_eq_true rfl⟩ rfl hl.1 rfl (Nat.le_of_ble_eq_true rfl) dX3_ground_50 ⟨Nat.zero_le _, Nat.zero_le _⟩ (fun u_50 H locs hf hP hS => ?_)
  obtain ⟨depths_50, roofs_50⟩ := u_50
  replace hP : va_P (dC, dI) vwCl (wM h dA depths_50 owners roofs_50 rate undos undoMany drawn dug deep holes holeMany tape taped place reads read_ row order bestOrder nears isKept keptRoofs kept lanes rowSizes items moved) H := hP
  try dsimp only at hf
  obtain ⟨x2_53, ex2_53⟩ : ∃ z : Int32, z = x2 + 1 := ⟨_, rfl⟩
  replace hf := hf x2_53 ex2_53
  refine lv_iinc (v := x2_53) (lv' := [(2, .int x2_53), (0, .ref (h 0))]) hx hb dX3_ground_53 hl (k := 1) rfl (by rw [ex2_53]; rfl) (by decide) rfl (fun ls hl => ?_)
  refine lv_goto (tgt := 17) hx hb dX3_ground_56 (by decide) ?_
  exact hk17 x2_53 depths_50 roofs_50 _ _ _ hf hP hS (lv_sub hl [1, 0] rfl)
def wX3_ground_17 (Q : Int32 → (Nat → Int32) → Int64 → Int32 → Int64 → Int64 → (Nat → Int64) → Int32 → Int32 → Int32 → (Nat → Int32) → Prop) (undoMany : Int32) (dug : Int64) (deep : Int64) (holes : (Nat → Int64)) (holeMany : Int32) (tape : (Nat → Int32)) (taped : Int32) (place : Int32) (read_ : (Nat → Int32)) : Nat → Int32 → (Nat → Int32) → Int64 → Prop
  | 0, _, _, _ => False
  | n + 1, x2, depths, roofs => ((36 ≤ x2 → (wX3_look (fun dug_65 deep_65 => (wX3_findHoles (fun holes_69 holeMany_69 => (Q holeMany_69 depths roofs 0 dug_65 deep_65 holes_69 holeMany_69 taped place read_)) dug_65 holes holeMany)) depths dug deep)) ∧ (¬ 36 ≤ x2 → (vp_in x2 80 ∧ (vp_in x2 80 ∧ (((read_ (x2 : Int32).toNatClampNeg) ≤ 99 → (wX3_ground_50 Q (wX3_ground_17 Q undoMany dug deep holes holeMany tape taped place read_ n) x2 0 ((read_ (x2 : Int32).toNatClampNeg) - (read_ (x2 : Int32).toNatClampNeg) / 100 * 100) x2 depths roofs undoMany dug deep holes holeMany tape taped place read_)) ∧ (¬ (read_ (x2 : Int32).toNatClampNeg) ≤ 99 → (wX3_ground_50 Q (wX3_ground_17 Q undoMany dug deep holes holeMany tape taped place read_ n) x2 1 ((read_ (x2 : Int32).toNatClampNeg) - (read_ (x2 : Int32).toNatClampNeg) / 100 * 100) x2 depths roofs undoMany dug deep holes holeMany tape taped place read_)))))))
set_option maxHeartbeats 4000000 in
set_option maxRecDepth 100000 in
theorem tX3_ground_17 {Q : Int32 → (Nat → Int32) → Int64 → Int32 → Int64 → Int64 → (Nat → Int64) → Int32 → Int32 → Int32 → (Nat → Int32) → Prop} {owners : (Nat → Int32)} {rate : Int32} {undos : (Nat → Int32)} {undoMany : Int32} {drawn : Int32} {dug : Int64} {deep : Int64} {holes : (Nat → Int64)} {holeMany : Int32} {tape : (Nat → Int32)} {taped : Int32} {place : Int32} {reads : Int32} {read_ : (Nat → Int32)} {row : (Nat → Int32)} {order : (Nat → Int32)} {bestOrder : (Nat → Int32)} {nears : (Nat → Int32)} {isKept : Int32} {keptRoofs : Int64} {kept : (Nat → Int32)} {lanes : (Nat → Int32)} {rowSizes : (Nat → Int32)} {items : (Nat → Int64)} {moved : (Nat → Int64)} (S : CallFix p m c cX3_ground 3 s args lw_all RX3) (hK : va_K (dC, dI) vwCl (tysG dA) s) (hj : mJ h) (hret : hrX3_ground p l e s m args below meth c dC dI dA h Qw Q owners rate undos drawn tape reads row order bestOrder nears isKept keptRoofs kept lanes rowSizes items moved) : ∀ (n : Nat) (x2 : Int32) (depths : (Nat → Int32)) (roofs : Int64) (H : Heap) (locs : List Loc) (ls : Array Slot), wX3_ground_17 Q undoMany dug deep holes holeMany tape taped place read_ n x2 depths roofs → va_P (dC, dI) vwCl (wM h dA depths owners roofs rate undos undoMany drawn dug deep holes holeMany tape taped place reads read_ row order bestOrder nears isKept keptRoofs kept lanes rowSizes items moved) H → va_S (mA h) s.heap H locs → lv_has ls 3 [(0, .ref (h 0)), (2, .int x2)] → W p l e RX3_ground_ s m args below meth c H locs 0 0 Qw (F0 m 17 ls []) := by
  obtain ⟨hx, hb, hml, hown, hts⟩ := id S
  intro n
  induction n with
  | zero => intro _ _ _ _ _ _ hf; exact hf.elim
  | succ n ih =>
    intro x2 depths roofs H locs ls hf hP hS hl
    rw [wX3_ground_17] at hf
    refine lv_iload_n hx hb dX3_ground_17 rfl (lv_at hl 1 rfl) ?_
    refine lv_bipush (v := 36) hx hb dX3_ground_18 (by decide) ?_
    refine lv_icmp_ge (tgt := 59) hx hb dX3_ground_20 (by decide) (fun c_20 => ?_) (fun c_20 => ?_)
    · replace hf := hf.1 c_20
      refine lv_aload_n hx hb dX3_ground_59 rfl (lv_at hl 0 rfl) ?_
      refine lv_iconst (v := 0) hx hb dX3_ground_60 (by decide) ?_
      refine pM_undoMany S hK hj hP hS dX3_ground_61 (fun H locs hP hS => ?_)
      refine lv_aload_n hx hb dX3_ground_64 rfl (lv_at hl 0 rfl) ?_
      refine cM_v (As := []) (rest := []) S hK rfl hP hS (metX3_look l hj hf) (lw_V q1309 q1311 qs27 q60 q1312) rfl pdX3_look ⟨rfl, rfl⟩ ⟨Nat.le_of_ble_eq_true rfl, Nat.le_of_ble_eq_true rfl⟩ rfl hl.1 rfl (Nat.le_of_ble_eq_true rfl) dX3_ground_65 ⟨Nat.zero_le _, Nat.zero_le _⟩ (fun u_65 H locs hf hP hS => ?_)
      obtain ⟨dug_65, deep_65⟩ := u_65
      replace hP : va_P (dC, dI) vwCl (wM h dA depths owners roofs rate undos 0 drawn dug_65 deep_65 holes holeMany tape taped place reads read_ row order bestOrder nears isKept keptRoofs kept lanes rowSizes items moved) H := hP
      try dsimp only at hf
      refine lv_aload_n hx hb dX3_ground_68 rfl (lv_at hl 0 rfl) ?_
      refine cM_v (As := []) (rest := []) S hK rfl hP hS (metX3_findHoles l hj hf) (lw_V q1356 q1358 qs33 q60 q1359) rfl pdX3_findHoles ⟨rfl, rfl⟩ ⟨Nat.le_of_ble_eq_true rfl, Nat.le_of_ble_eq_true rfl⟩ rfl hl.1 rfl (Nat.le_of_ble_eq_true rfl) dX3_ground_69 ⟨Nat.zero_le _, Nat.zero_le _⟩ (fun u_69 H locs hf hP hS => ?_)
      obtain ⟨holes_69, holeMany_69⟩ := u_69
      replace hP : va_P (dC, dI) vwCl (wM h dA depths owners roofs rate undos 0 drawn dug_65 deep_65 holes_69 holeMany_69 tape taped place reads read_ row order bestOrder nears isKept keptRoofs kept lanes rowSizes items moved) H := hP
      try dsimp only at hf
      refine lv_aload_n hx hb dX3_ground_72 rfl (lv_at hl 0 rfl) ?_
      refine gM_holeMany S hK hP dX3_ground_73 ?_
      exact hret _ _ _ _ _ _ _ _ _ _ _ _ _ _ _ hf hP hS dX3_ground_76
    · replace hf := hf.2 c_20
      refine lv_aload_n hx hb dX3_ground_23 rfl (lv_at hl 0 rfl) ?_
      refine lv_iload_n hx hb dX3_ground_24 rfl (lv_at hl 1 rfl) ?_
      refine lv_aload_n hx hb dX3_ground_25 rfl (lv_at hl 0 rfl) ?_
      refine gM_read_ S hK hP dX3_ground_26 ?_
      refine lv_iload_n hx hb dX3_ground_29 rfl (lv_at hl 1 rfl) ?_
      obtain ⟨hin, hf⟩ := hf
      refine lM_read_ S hK hP hin dX3_ground_30 ?_
      refine lv_bipush (v := 100) hx hb dX3_ground_31 (by decide) ?_
      refine lv_irem hx hb dX3_ground_33 (by decide) ?_
      refine lv_aload_n hx hb dX3_ground_34 rfl (lv_at hl 0 rfl) ?_
      refine gM_read_ S hK hP dX3_ground_35 ?_
      refine lv_iload_n hx hb dX3_ground_38 rfl (lv_at hl 1 rfl) ?_
      obtain ⟨hin, hf⟩ := hf
      refine lM_read_ S hK hP hin dX3_ground_39 ?_
      refine lv_bipush (v := 99) hx hb dX3_ground_40 (by decide) ?_
      refine lv_icmp_le (tgt := 49) hx hb dX3_ground_42 (by decide) (fun c_42 => ?_) (fun c_42 => ?_)
      · replace hf := hf.1 c_42
        refine lv_iconst (v := 0) hx hb dX3_ground_49 (by decide) ?_
        exact tX3_ground_50 S hK hj hret ih x2 0 ((read_ (x2 : Int32).toNatClampNeg) - (read_ (x2 : Int32).toNatClampNeg) / 100 * 100) x2 depths roofs _ _ _ hf hP hS (lv_sub hl [0, 1] rfl)
      · replace hf := hf.2 c_42
        refine lv_iconst (v := 1) hx hb dX3_ground_45 (by decide) ?_
        refine lv_goto (tgt := 50) hx hb dX3_ground_46 (by decide) ?_
        exact tX3_ground_50 S hK hj hret ih x2 1 ((read_ (x2 : Int32).toNatClampNeg) - (read_ (x2 : Int32).toNatClampNeg) / 100 * 100) x2 depths roofs _ _ _ hf hP hS (lv_sub hl [0, 1] rfl)
def wX3_ground (Q : Int32 → (Nat → Int32) → Int64 → Int32 → Int64 → Int64 → (Nat → Int64) → Int32 → Int32 → Int32 → (Nat → Int32) → Prop) (depths : (Nat → Int32)) (roofs : Int64) (undoMany : Int32) (dug : Int64) (deep : Int64) (holes : (Nat → Int64)) (holeMany : Int32) (tape : (Nat → Int32)) (taped : Int32) (place : Int32) (read_ : (Nat → Int32)) : Prop := (wX3_readGround (fun r_2 place_2 read__2 => (wX3_end (fun r_5 taped_5 place_5 => ((0 ≤ r_5 → (∃ fu : Nat, wX3_ground_17 Q undoMany dug deep holes holeMany tape taped_5 place_5 read__2 fu 0 depths roofs)) ∧ (¬ 0 ≤ r_5 → (Q r_5 depths roofs undoMany dug deep holes holeMany taped_5 place_5 read__2)))) tape taped place_2 r_2)) tape taped place read_)
end
set_option maxHeartbeats 4000000 in
set_option maxRecDepth 100000 in
theorem metX3_ground (l : Launch) {Q : Int32 → (Nat → Int32) → Int64 → Int32 → Int64 → Int64 → (Nat → Int64) → Int32 → Int32 → Int32 → (Nat → Int32) → Prop} {depths : (Nat → Int32)} {owners : (Nat → Int32)} {roofs : Int64} {rate : Int32} {undos : (Nat → Int32)} {undoMany : Int32} {drawn : Int32} {dug : Int64} {deep : Int64} {holes : (Nat → Int64)} {holeMany : Int32} {tape : (Nat → Int32)} {taped : Int32} {place : Int32} {reads : Int32} {read_ : (Nat → Int32)} {row : (Nat → Int32)} {order : (Nat → Int32)} {bestOrder : (Nat → Int32)} {nears : (Nat → Int32)} {isKept : Int32} {keptRoofs : Int64} {kept : (Nat → Int32)} {lanes : (Nat → Int32)} {rowSizes : (Nat → Int32)} {items : (Nat → Int64)} {moved : (Nat → Int64)} {dC : Nat → ClassId} {dI : Nat → Nat → Nat} {dA : Nat → ClassId} {h : Nat → Nat} (hj : mJ h) (hf : wX3_ground Q depths roofs undoMany dug deep holes holeMany tape taped place read_) : Met l yX3_ground (ws_ yX3_ground cX3_ground 3 (some .int)) rmX3_ground (mPc dC dI dA h [] (wM h dA depths owners roofs rate undos undoMany drawn dug deep holes holeMany tape taped place reads read_ row order bestOrder nears isKept keptRoofs kept lanes rowSizes items moved)) (va_Qi (fun (r : Int32) (u : (Nat → Int32) × Int64 × Int32 × Int64 × Int64 × (Nat → Int64) × Int32 × Int32 × Int32 × (Nat → Int32)) => Q r u.1 u.2.1 u.2.2.1 u.2.2.2.1 u.2.2.2.2.1 u.2.2.2.2.2.1 u.2.2.2.2.2.2.1 u.2.2.2.2.2.2.2.1 u.2.2.2.2.2.2.2.2.1 u.2.2.2.2.2.2.2.2.2) (fun u t => va_P (dC, dI) vwCl (wM h dA u.1 owners u.2.1 rate undos u.2.2.1 drawn u.2.2.2.1 u.2.2.2.2.1 u.2.2.2.2.2.1 u.2.2.2.2.2.2.1 tape u.2.2.2.2.2.2.2.1 u.2.2.2.2.2.2.2.2.1 reads u.2.2.2.2.2.2.2.2.2 row order bestOrder nears isKept keptRoofs kept lanes rowSizes items moved) t.heap) (mA h)) 0 0 (mA h) := by
  refine Met.ofW (cc := cX3_ground) (maxL := 3) (ret := (some .int)) (by decide) rfl ?_
  intro p e s m args below meth c s₁ B hml hv
  obtain ⟨rfl, hP, hK⟩ := hv
  have hx := B.exec
  have hb := B.bytes
  have hr := B.returns
  have hts := atoms_spec (ws := (ws_ yX3_ground cX3_ground 3 (some .int))) B.pre
  have hts : ∀ w ∈ lw_all, w.before _ s = true := fun w h => hts w (List.mem_cons_of_mem _ h)
  have hown : s.vm.findClass RX3 = some m.cls := findClass_of_methodNamed B.named
  have hlocks := B.notSynchronized
  have S : CallFix p m c cX3_ground 3 s _ lw_all RX3 := ⟨hx, hb, hml, hown, hts⟩
  have hS : va_S (mA h) s.heap s.heap [] := va_S.rf
  have hl := lv_entry ([.ref (h 0)]) (n := 3) (Nat.le_of_ble_eq_true rfl)
  rw [lg_entry_eq]
  generalize (lg_sl ([.ref (h 0)]) ++ List.replicate (3 - (lg_sl ([.ref (h 0)])).length) Slot.unset).toArray = ls at hl ⊢
  replace hl : lv_has ls 3 [(0, .ref (h 0))] := hl
  have hret : hrX3_ground p l e s m ([.ref (h 0)] : List Value).toArray below meth c dC dI dA h (MQ below (va_Qi (fun (r : Int32) (u : (Nat → Int32) × Int64 × Int32 × Int64 × Int64 × (Nat → Int64) × Int32 × Int32 × Int32 × (Nat → Int32)) => Q r u.1 u.2.1 u.2.2.1 u.2.2.2.1 u.2.2.2.2.1 u.2.2.2.2.2.1 u.2.2.2.2.2.2.1 u.2.2.2.2.2.2.2.1 u.2.2.2.2.2.2.2.2.1 u.2.2.2.2.2.2.2.2.2) (fun u t => va_P (dC, dI) vwCl (wM h dA u.1 owners u.2.1 rate undos u.2.2.1 drawn u.2.2.2.1 u.2.2.2.2.1 u.2.2.2.2.2.1 u.2.2.2.2.2.2.1 tape u.2.2.2.2.2.2.2.1 u.2.2.2.2.2.2.2.2.1 reads u.2.2.2.2.2.2.2.2.2 row order bestOrder nears isKept keptRoofs kept lanes rowSizes items moved) t.heap) (mA h)) ([.ref (h 0)] : List Value).toArray s 0 0 (mA h)) Q owners rate undos drawn tape reads row order bestOrder nears isKept keptRoofs kept lanes rowSizes items moved := fun r depths roofs undoMany dug deep holes holeMany taped place read_ H locs pc ls hq hP hS hd => W.iret hx hb hr (fun t ht hW => ⟨⟨r, (depths, roofs, undoMany, dug, deep, holes, holeMany, taped, place, read_), rfl, hq, by subst ht; exact hP⟩, hS.F ht⟩) hS.2.2 hd
  unfold wX3_ground at hf
  refine lv_aload_n hx hb dX3_ground_0 rfl (lv_at hl 0 rfl) ?_
  refine lv_aload_n hx hb dX3_ground_1 rfl (lv_at hl 0 rfl) ?_
  refine cM_i (As := []) (rest := [.ref (h 0)]) S hK rfl hP hS (metX3_readGround l hj hf) (lw_V q1339 q1341 qs29 q60 q1342) rfl pdX3_readGround ⟨rfl, rfl⟩ ⟨Nat.le_of_ble_eq_true rfl, Nat.le_of_ble_eq_true rfl⟩ rfl hl.1 rfl (Nat.le_of_ble_eq_true rfl) dX3_ground_2 ⟨Nat.zero_le _, Nat.zero_le _⟩ (fun r_2 u_2 H locs hf hP hS => ?_)
  obtain ⟨place_2, read__2⟩ := u_2
  replace hP : va_P (dC, dI) vwCl (wM h dA depths owners roofs rate undos undoMany drawn dug deep holes holeMany tape taped place_2 reads read__2 row order bestOrder nears isKept keptRoofs kept lanes rowSizes items moved) H := hP
  try dsimp only at hf
  refine cM_i (As := [.int r_2]) (rest := []) S hK rfl hP hS (metX3_end l hj hf) (lw_V q1352 q1354 qs32 q60 q1355) rfl pdX3_end ⟨rfl, rfl⟩ ⟨Nat.le_of_ble_eq_true rfl, Nat.le_of_ble_eq_true rfl⟩ rfl hl.1 rfl (Nat.le_of_ble_eq_true rfl) dX3_ground_5 ⟨Nat.zero_le _, Nat.zero_le _⟩ (fun r_5 u_5 H locs hf hP hS => ?_)
  obtain ⟨taped_5, place_5⟩ := u_5
  replace hP : va_P (dC, dI) vwCl (wM h dA depths owners roofs rate undos undoMany drawn dug deep holes holeMany tape taped_5 place_5 reads read__2 row order bestOrder nears isKept keptRoofs kept lanes rowSizes items moved) H := hP
  try dsimp only at hf
  refine lv_istore_n (lv' := [(1, .int r_5), (0, .ref (h 0))]) hx hb dX3_ground_8 rfl hl (by decide) rfl (fun ls hl => ?_)
  refine lv_iload_n hx hb dX3_ground_9 rfl (lv_at hl 0 rfl) ?_
  refine lv_if_ge (tgt := 15) hx hb dX3_ground_10 (by decide) (fun c_10 => ?_) (fun c_10 => ?_)
  · replace hf := hf.1 c_10
    refine lv_iconst (v := 0) hx hb dX3_ground_15 (by decide) ?_
    refine lv_istore_n (lv' := [(2, .int 0), (1, .int r_5), (0, .ref (h 0))]) hx hb dX3_ground_16 rfl hl (by decide) rfl (fun ls hl => ?_)
    obtain ⟨fu, hf⟩ := hf
    exact tX3_ground_17 S hK hj hret fu 0 depths roofs _ _ _ hf hP hS (lv_sub hl [2, 0] rfl)
  · replace hf := hf.2 c_10
    refine lv_iload_n hx hb dX3_ground_13 rfl (lv_at hl 0 rfl) ?_
    exact hret _ _ _ _ _ _ _ _ _ _ _ _ _ _ _ hf hP hS dX3_ground_14
