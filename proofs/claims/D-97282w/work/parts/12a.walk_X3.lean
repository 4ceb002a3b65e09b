/-! HoleCountyModel.in(JJJ)Z -/
theorem pdX3_in : DscOk yX3_in 3 := by decide +kernel
abbrev rmX3_in : Room := { frames := 0, cells := 0, slots := 0, locals := 0 }
abbrev RX3_in_ : Room := (headSpec (ws_ yX3_in cX3_in 6 (some .boolean)) rmX3_in).room
section
variable {p : Program} {l : Launch} {e : Env} {s : State} {m : MethodId} {args : Array Value} {below : List Frame} {meth : Method} {c : Code} {Qw : State → Prop} {H : Heap} {locs : List Loc}
abbrev hrX3_in (p : Program) (l : Launch) (e : Env) (s : State) (m : MethodId) (args : Array Value) (below : List Frame) (meth : Method) (c : Code) (H : Heap) (locs : List Loc) (Qw : State → Prop) (Q : Int32 → Prop) : Prop := ∀ (r : Int32) (pc : Nat) (ls : Array Slot), bz r → Q r → decode cX3_in pc = .ok (.ireturn, 1) → W p l e RX3_in_ s m args below meth c H locs 0 0 Qw (F0 m pc ls [.int r])
def wX3_in (Q : Int32 → Prop) (x0 : Int64) (x2 : Int64) (x4 : Int64) : Prop := ((x0 < x2 → (Q 0)) ∧ (¬ x0 < x2 → ((x4 < x0 → (Q 0)) ∧ (¬ x4 < x0 → (Q 1)))))
end
set_option maxHeartbeats 4000000 in
set_option maxRecDepth 100000 in
theorem metX3_in (l : Launch) {Q : Int32 → Prop} {x0 : Int64} {x2 : Int64} {x4 : Int64} (hf : wX3_in Q x0 x2 x4) : Met l yX3_in (ws_ yX3_in cX3_in 6 (some .boolean)) rmX3_in (fun v _ => v = ([.long x0, .long x2, .long x4] : List Value).toArray) (vp_Si Q) 0 0 (fun _ => False) := by
  refine Met.ofW (cc := cX3_in) (maxL := 6) (ret := (some .boolean)) (by decide) rfl ?_
  intro p e s m args below meth c s₁ B hml hv
  subst hv
  have hx := B.exec
  have hb := B.bytes
  have hr := B.returns
  have hts := atoms_spec (ws := (ws_ yX3_in cX3_in 6 (some .boolean))) B.pre
  have hts : ∀ w ∈ lw_all, w.before _ s = true := fun w h => hts w (List.mem_cons_of_mem _ h)
  have hown : s.vm.findClass RX3 = some m.cls := findClass_of_methodNamed B.named
  have hlocks := B.notSynchronized
  have S : CallFix p m c cX3_in 6 s _ lw_all RX3 := ⟨hx, hb, hml, hown, hts⟩
  have hl := lv_entry ([.long x0, .long x2, .long x4]) (n := 6) (Nat.le_of_ble_eq_true rfl)
  rw [lg_entry_eq]
  generalize (lg_sl ([.long x0, .long x2, .long x4]) ++ List.replicate (6 - (lg_sl ([.long x0, .long x2, .long x4])).length) Slot.unset).toArray = ls at hl ⊢
  replace hl : lv_has ls 6 [(0, .long x0), (2, .long x2), (4, .long x4)] := hl
  have hret : hrX3_in p l e s m ([.long x0, .long x2, .long x4] : List Value).toArray below meth c s.heap [] (MQ below (vp_Si Q) ([.long x0, .long x2, .long x4] : List Value).toArray s 0 0 (fun _ => False)) Q := fun r pc ls hz hq hd => W.zret hx hb hr hz.1 (fun t ht hW => ⟨r, rfl, hq, ht⟩) t_nil hd
  unfold wX3_in at hf
  refine lv_lload_n hx hb dX3_in_0 rfl (lv_at hl 0 rfl) ?_
  refine lv_lload_n hx hb dX3_in_1 rfl (lv_at hl 1 rfl) ?_
  refine lc_lt (tgt := 17) hx hb dX3_in_2 dX3_in_3 (by decide) (fun c_2 => ?_) (fun c_2 => ?_)
  · replace hf := hf.1 c_2
    refine lv_iconst (v := 0) hx hb dX3_in_17 (by decide) ?_
    exact hret _ _ _ bz0 hf dX3_in_18
  · replace hf := hf.2 c_2
    refine lv_lload_n hx hb dX3_in_6 rfl (lv_at hl 0 rfl) ?_
    refine lv_lload hx hb dX3_in_7 (lv_at hl 2 rfl) ?_
    refine lc_gt (tgt := 17) hx hb dX3_in_9 dX3_in_10 (by decide) (fun c_9 => ?_) (fun c_9 => ?_)
    · replace hf := hf.1 c_9
      refine lv_iconst (v := 0) hx hb dX3_in_17 (by decide) ?_
      exact hret _ _ _ bz0 hf dX3_in_18
    · replace hf := hf.2 c_9
      refine lv_iconst (v := 1) hx hb dX3_in_13 (by decide) ?_
      refine lv_goto (tgt := 18) hx hb dX3_in_14 (by decide) ?_
      exact hret _ _ _ bz1 hf dX3_in_18
/-! HoleCountyModel.isCell(I)Z -/
theorem pdX3_isCell : DscOk yX3_isCell 1 := by decide +kernel
abbrev rmX3_isCell : Room := { frames := 1, cells := 0, slots := 0, locals := 25 }
abbrev RX3_isCell_ : Room := (headSpec (ws_ yX3_isCell cX3_isCell 1 (some .boolean)) rmX3_isCell).room
section
variable {p : Program} {l : Launch} {e : Env} {s : State} {m : MethodId} {args : Array Value} {below : List Frame} {meth : Method} {c : Code} {Qw : State → Prop} {H : Heap} {locs : List Loc}
abbrev hrX3_isCell (p : Program) (l : Launch) (e : Env) (s : State) (m : MethodId) (args : Array Value) (below : List Frame) (meth : Method) (c : Code) (H : Heap) (locs : List Loc) (Qw : State → Prop) (Q : Int32 → Prop) : Prop := ∀ (r : Int32) (pc : Nat) (ls : Array Slot), bz r → Q r → decode cX3_isCell pc = .ok (.ireturn, 1) → W p l e RX3_isCell_ s m args below meth c H locs 0 0 Qw (F0 m pc ls [.int r])
def wX3_isCell (Q : Int32 → Prop) (x0 : Int32) : Prop := (wX3_in (fun r_6 => (bz r_6 ∧ (Q r_6))) ((x0 : Int32).toInt64) 0 35)
end
set_option maxHeartbeats 4000000 in
set_option maxRecDepth 100000 in
theorem metX3_isCell (l : Launch) {Q : Int32 → Prop} {x0 : Int32} (hf : wX3_isCell Q x0) : Met l yX3_isCell (ws_ yX3_isCell cX3_isCell 1 (some .boolean)) rmX3_isCell (fun v _ => v = ([.int x0] : List Value).toArray) (vp_Si Q) 0 0 (fun _ => False) := by
  refine Met.ofW (cc := cX3_isCell) (maxL := 1) (ret := (some .boolean)) (by decide) rfl ?_
  intro p e s m args below meth c s₁ B hml hv
  subst hv
  have hx := B.exec
  have hb := B.bytes
  have hr := B.returns
  have hts := atoms_spec (ws := (ws_ yX3_isCell cX3_isCell 1 (some .boolean))) B.pre
  have hts : ∀ w ∈ lw_all, w.before _ s = true := fun w h => hts w (List.mem_cons_of_mem _ h)
  have hown : s.vm.findClass RX3 = some m.cls := findClass_of_methodNamed B.named
  have hlocks := B.notSynchronized
  have S : CallFix p m c cX3_isCell 1 s _ lw_all RX3 := ⟨hx, hb, hml, hown, hts⟩
  have hl := lv_entry ([.int x0]) (n := 1) (Nat.le_of_ble_eq_true rfl)
  rw [lg_entry_eq]
  generalize (lg_sl ([.int x0]) ++ List.replicate (1 - (lg_sl ([.int x0])).length) Slot.unset).toArray = ls at hl ⊢
  replace hl : lv_has ls 1 [(0, .int x0)] := hl
  have hret : hrX3_isCell p l e s m ([.int x0] : List Value).toArray below meth c s.heap [] (MQ below (vp_Si Q) ([.int x0] : List Value).toArray s 0 0 (fun _ => False)) Q := fun r pc ls hz hq hd => W.zret hx hb hr hz.1 (fun t ht hW => ⟨r, rfl, hq, ht⟩) t_nil hd
  unfold wX3_isCell at hf
  refine lv_iload_n hx hb dX3_isCell_0 rfl (lv_at hl 0 rfl) ?_
  refine lv_i2l (v := (x0 : Int32).toInt64) hx hb dX3_isCell_1 rfl ?_
  refine lv_lconst (v := 0) hx hb dX3_isCell_2 (by decide) ?_
  refine lv_ldc2 (v := 35) hx hb hown (hts _ q1267) dX3_isCell_3 ?_
  refine cs_i (As := [.long (x0 : Int32).toInt64, .long 0, .long 35]) (rest := []) S (metX3_in l hf) (lw_S q1268 q1269 q60 q1270) pdX3_in ⟨rfl, rfl⟩ ⟨Nat.le_of_ble_eq_true rfl, Nat.le_of_ble_eq_true rfl⟩ rfl hl.1 rfl (Nat.le_of_ble_eq_true rfl) dX3_isCell_6 ⟨Nat.zero_le _, Nat.zero_le _⟩ (fun r_6 hf => ?_)
  obtain ⟨hz, hf⟩ := hf
  exact hret _ _ _ hz hf dX3_isCell_9
/-! HoleCountyModel.has(JI)Z -/
theorem pdX3_has : DscOk yX3_has 2 := by decide +kernel
abbrev rmX3_has : Room := { frames := 0, cells := 0, slots := 0, locals := 0 }
abbrev RX3_has_ : Room := (headSpec (ws_ yX3_has cX3_has 3 (some .boolean)) rmX3_has).room
section
variable {p : Program} {l : Launch} {e : Env} {s : State} {m : MethodId} {args : Array Value} {below : List Frame} {meth : Method} {c : Code} {Qw : State → Prop} {H : Heap} {locs : List Loc}
abbrev hrX3_has (p : Program) (l : Launch) (e : Env) (s : State) (m : MethodId) (args : Array Value) (below : List Frame) (meth : Method) (c : Code) (H : Heap) (locs : List Loc) (Qw : State → Prop) (Q : Int32 → Prop) : Prop := ∀ (r : Int32) (pc : Nat) (ls : Array Slot), bz r → Q r → decode cX3_has pc = .ok (.ireturn, 1) → W p l e RX3_has_ s m args below meth c H locs 0 0 Qw (F0 m pc ls [.int r])
def wX3_has (Q : Int32 → Prop) (x0 : Int64) (x2 : Int32) : Prop := ((((x0 >>> ((x2 : Int32).toInt64 &&& 63)) &&& 1) = 1 → (Q 1)) ∧ (¬ ((x0 >>> ((x2 : Int32).toInt64 &&& 63)) &&& 1) = 1 → (Q 0)))
end
set_option maxHeartbeats 4000000 in
set_option maxRecDepth 100000 in
theorem metX3_has (l : Launch) {Q : Int32 → Prop} {x0 : Int64} {x2 : Int32} (hf : wX3_has Q x0 x2) : Met l yX3_has (ws_ yX3_has cX3_has 3 (some .boolean)) rmX3_has (fun v _ => v = ([.long x0, .int x2] : List Value).toArray) (vp_Si Q) 0 0 (fun _ => False) := by
  refine Met.ofW (cc := cX3_has) (maxL := 3) (ret := (some .boolean)) (by decide) rfl ?_
  intro p e s m args below meth c s₁ B hml hv
  subst hv
  have hx := B.exec
  have hb := B.bytes
  have hr := B.returns
  have hts := atoms_spec (ws := (ws_ yX3_has cX3_has 3 (some .boolean))) B.pre
  have hts : ∀ w ∈ lw_all, w.before _ s = true := fun w h => hts w (List.mem_cons_of_mem _ h)
  have hown : s.vm.findClass RX3 = some m.cls := findClass_of_methodNamed B.named
  have hlocks := B.notSynchronized
  have S : CallFix p m c cX3_has 3 s _ lw_all RX3 := ⟨hx, hb, hml, hown, hts⟩
  have hl := lv_entry ([.long x0, .int x2]) (n := 3) (Nat.le_of_ble_eq_true rfl)
  rw [lg_entry_eq]
  generalize (lg_sl ([.long x0, .int x2]) ++ List.replicate (3 - (lg_sl ([.long x0, .int x2])).length) Slot.unset).toArray = ls at hl ⊢
  replace hl : lv_has ls 3 [(0, .long x0), (2, .int x2)] := hl
  have hret : hrX3_has p l e s m ([.long x0, .int x2] : List Value).toArray below meth c s.heap [] (MQ below (vp_Si Q) ([.long x0, .int x2] : List Value).toArray s 0 0 (fun _ => False)) Q := fun r pc ls hz hq hd => W.zret hx hb hr hz.1 (fun t ht hW => ⟨r, rfl, hq, ht⟩) t_nil hd
  unfold wX3_has at hf
  refine lv_lload_n hx hb dX3_has_0 rfl (lv_at hl 0 rfl) ?_
  refine lv_iload_n hx hb dX3_has_1 rfl (lv_at hl 1 rfl) ?_
  refine lv_lshr (v := (x0 >>> ((x2 : Int32).toInt64 &&& 63))) hx hb dX3_has_2 rfl ?_
  refine lv_lconst (v := 1) hx hb dX3_has_3 (by decide) ?_
  refine lv_land hx hb dX3_has_4 ?_
  refine lv_lconst (v := 1) hx hb dX3_has_5 (by decide) ?_
  refine lc_ne (tgt := 14) hx hb dX3_has_6 dX3_has_7 (by decide) (fun c_6 => ?_) (fun c_6 => ?_)
  · replace hf := hf.2 c_6
    refine lv_iconst (v := 0) hx hb dX3_has_14 (by decide) ?_
    exact hret _ _ _ bz0 hf dX3_has_15
  · replace hf := hf.1 c_6
    refine lv_iconst (v := 1) hx hb dX3_has_10 (by decide) ?_
    refine lv_goto (tgt := 15) hx hb dX3_has_11 (by decide) ?_
    exact hret _ _ _ bz1 hf dX3_has_15
/-! HoleCountyModel.note(I)V -/
theorem pdX3_note : DscOk yX3_note 1 := by decide +kernel
abbrev rmX3_note : Room := { frames := 1, cells := 0, slots := 0, locals := 22 }
abbrev RX3_note_ : Room := (headSpec (ws_ yX3_note cX3_note 3 none) rmX3_note).room
section
variable {p : Program} {l : Launch} {e : Env} {s : State} {m : MethodId} {args : Array Value} {below : List Frame} {meth : Method} {c : Code} {Qw : State → Prop} {dC : Nat → ClassId} {dI : Nat → Nat → Nat} {dA : Nat → ClassId} {h : Nat → Nat}
abbrev hrX3_note (p : Program) (l : Launch) (e : Env) (s : State) (m : MethodId) (args : Array Value) (below : List Frame) (meth : Method) (c : Code) (dC : Nat → ClassId) (dI : Nat → Nat → Nat) (dA : Nat → ClassId) (h : Nat → Nat) (Qw : State → Prop) (Q : (Nat → Int32) → Int32 → Prop) (depths : (Nat → Int32)) (owners : (Nat → Int32)) (roofs : Int64) (rate : Int32) (drawn : Int32) (dug : Int64) (deep : Int64) (holes : (Nat → Int64)) (holeMany : Int32) (tape : (Nat → Int32)) (taped : Int32) (place : Int32) (reads : Int32) (read_ : (Nat → Int32)) (row : (Nat → Int32)) (order : (Nat → Int32)) (bestOrder : (Nat → Int32)) (nears : (Nat → Int32)) (isKept : Int32) (keptRoofs : Int64) (kept : (Nat → Int32)) (lanes : (Nat → Int32)) (rowSizes : (Nat → Int32)) (items : (Nat → Int64)) (moved : (Nat → Int64)) : Prop := ∀ (undos : (Nat → Int32)) (undoMany : Int32) (H : Heap) (locs : List Loc) (pc : Nat) (ls : Array Slot), Q undos undoMany → va_P (dC, dI) vwCl (wM h dA depths owners roofs rate undos undoMany drawn dug deep holes holeMany tape taped place reads read_ row order bestOrder nears isKept keptRoofs kept lanes rowSizes items moved) H → va_S (mA h) s.heap H locs → decode cX3_note pc = .ok (.return_, 1) → W p l e RX3_note_ s m args below meth c H locs 0 0 Qw (F0 m pc ls [])
def wX3_note_106 (Q : (Nat → Int32) → Int32 → Prop) (z0 : Int32) (z1 : Int32) (depths : (Nat → Int32)) (roofs : Int64) (undos : (Nat → Int32)) (undoMany : Int32) : Prop := (vp_in z1 30 ∧ (∀ undos_106 : Nat → Int32, undos_106 = upd undos (z1 : Int32).toNatClampNeg z0 → (∀ undoMany_114 : Int32, undoMany_114 = (undoMany + 1) → (Q undos_106 undoMany_114))))
set_option maxHeartbeats 4000000 in
set_option maxRecDepth 100000 in
theorem tX3_note_106 {Q : (Nat → Int32) → Int32 → Prop} {depths : (Nat → Int32)} {owners : (Nat → Int32)} {roofs : Int64} {rate : Int32} {drawn : Int32} {dug : Int64} {deep : Int64} {holes : (Nat → Int64)} {holeMany : Int32} {tape : (Nat → Int32)} {taped : Int32} {place : Int32} {reads : Int32} {read_ : (Nat → Int32)} {row : (Nat → Int32)} {order : (Nat → Int32)} {bestOrder : (Nat → Int32)} {nears : (Nat → Int32)} {isKept : Int32} {keptRoofs : Int64} {kept : (Nat → Int32)} {lanes : (Nat → Int32)} {rowSizes : (Nat → Int32)} {items : (Nat → Int64)} {moved : (Nat → Int64)} (S : CallFix p m c cX3_note 3 s args lw_all RX3) (hK : va_K (dC, dI) vwCl (tysG dA) s) (hj : mJ h) (hret : hrX3_note p l e s m args below meth c dC dI dA h Qw Q depths owners roofs rate drawn dug deep holes holeMany tape taped place reads read_ row order bestOrder nears isKept keptRoofs kept lanes rowSizes items moved) : ∀ (z0 : Int32) (z1 : Int32) (undos : (Nat → Int32)) (undoMany : Int32) (H : Heap) (locs : List Loc) (ls : Array Slot), wX3_note_106 Q z0 z1 depths roofs undos undoMany → va_P (dC, dI) vwCl (wM h dA depths owners roofs rate undos undoMany drawn dug deep holes holeMany tape taped place reads read_ row order bestOrder nears isKept keptRoofs kept lanes rowSizes items moved) H → va_S (mA h) s.heap H locs → lv_has ls 3 [(0, .ref (h 0))] → W p l e RX3_note_ s m args below meth c H locs 0 0 Qw (F0 m 106 ls [.int z0, .int z1, .ref (h 3)]) := by
  obtain ⟨hx, hb, hml, hown, hts⟩ := id S
  intro z0 z1 undos undoMany H locs ls hf hP hS hl
  unfold wX3_note_106 at hf
  obtain ⟨hin, hf⟩ := hf
  obtain ⟨undos_106, eundos_106⟩ : ∃ z : Nat → Int32, z = upd undos (z1 : Int32).toNatClampNeg z0 := ⟨_, rfl⟩
  replace hf := hf undos_106 eundos_106
  refine sM_undos S hK hj hP hS hin eundos_106 dX3_note_106 (fun H locs hP hS => ?_)
  refine lv_aload_n hx hb dX3_note_107 rfl (lv_at hl 0 rfl) ?_
  refine lv_dup hx hb dX3_note_108 rfl ?_
  refine gM_undoMany S hK hP dX3_note_109 ?_
  refine lv_iconst (v := 1) hx hb dX3_note_112 (by decide) ?_
  refine lv_iadd hx hb dX3_note_113 ?_
  refine lv_topi (fun undoMany_114 eundoMany_114 => ?_)
  replace hf := hf undoMany_114 eundoMany_114
  refine pM_undoMany S hK hj hP hS dX3_note_114 (fun H locs hP hS => ?_)
  exact hret _ _ _ _ _ _ hf hP hS dX3_note_117
def wX3_note_47 (Q : (Nat → Int32) → Int32 → Prop) (x1 : Int32) (depths : (Nat → Int32)) (roofs : Int64) (undos : (Nat → Int32)) (undoMany : Int32) : Prop := (vp_in (3 * undoMany) 30 ∧ (∀ undos_58 : Nat → Int32, undos_58 = upd undos ((3 * undoMany) : Int32).toNatClampNeg x1 → (vp_in x1 36 ∧ (vp_in ((3 * undoMany) + 1) 30 ∧ (∀ undos_77 : Nat → Int32, undos_77 = upd undos_58 (((3 * undoMany) + 1) : Int32).toNatClampNeg (depths (x1 : Int32).toNatClampNeg) → (wX3_has (fun r_95 => ((r_95 = 0 → (wX3_note_106 Q 0 ((3 * undoMany) + 2) depths roofs undos_77 undoMany)) ∧ (¬ r_95 = 0 → (wX3_note_106 Q 1 ((3 * undoMany) + 2) depths roofs undos_77 undoMany)))) roofs x1))))))
set_option maxHeartbeats 4000000 in
set_option maxRecDepth 100000 in
theorem tX3_note_47 {Q : (Nat → Int32) → Int32 → Prop} {depths : (Nat → Int32)} {owners : (Nat → Int32)} {roofs : Int64} {rate : Int32} {drawn : Int32} {dug : Int64} {deep : Int64} {holes : (Nat → Int64)} {holeMany : Int32} {tape : (Nat → Int32)} {taped : Int32} {place : Int32} {reads : Int32} {read_ : (Nat → Int32)} {row : (Nat → Int32)} {order : (Nat → Int32)} {bestOrder : (Nat → Int32)} {nears : (Nat → Int32)} {isKept : Int32} {keptRoofs : Int64} {kept : (Nat → Int32)} {lanes : (Nat → Int32)} {rowSizes : (Nat → Int32)} {items : (Nat → Int64)} {moved : (Nat → Int64)} (S : CallFix p m c cX3_note 3 s args lw_all RX3) (hK : va_K (dC, dI) vwCl (tysG dA) s) (hj : mJ h) (hret : hrX3_note p l e s m args below meth c dC dI dA h Qw Q depths owners roofs rate drawn dug deep holes holeMany tape taped place reads read_ row order bestOrder nears isKept keptRoofs kept lanes rowSizes items moved) : ∀ (x1 : Int32) (undos : (Nat → Int32)) (undoMany : Int32) (H : Heap) (locs : List Loc) (ls : Array Slot), wX3_note_47 Q x1 depths roofs undos undoMany → va_P (dC, dI) vwCl (wM h dA depths owners roofs rate undos undoMany drawn dug deep holes holeMany tape taped place reads read_ row order bestOrder nears isKept keptRoofs kept lanes rowSizes items moved) H → va_S (mA h) s.heap H locs → lv_has ls 3 [(0, .ref (h 0)), (1, .int x1)] → W p l e RX3_note_ s m args below meth c H locs 0 0 Qw (F0 m 47 ls []) := by
  obtain ⟨hx, hb, hml, hown, hts⟩ := id S
  intro x1 undos undoMany H locs ls hf hP hS hl
  unfold wX3_note_47 at hf
  refine lv_aload_n hx hb dX3_note_47 rfl (lv_at hl 0 rfl) ?_
  refine gM_undos S hK hP dX3_note_48 ?_
  refine lv_iconst (v := 3) hx hb dX3_note_51 (by decide) ?_
  refine lv_aload_n hx hb dX3_note_52 rfl (lv_at hl 0 rfl) ?_
  refine gM_undoMany S hK hP dX3_note_53 ?_
  refine lv_imul hx hb dX3_note_56 ?_
  refine lv_iload_n hx hb dX3_note_57 rfl (lv_at hl 1 rfl) ?_
  obtain ⟨hin, hf⟩ := hf
  obtain ⟨undos_58, eundos_58⟩ : ∃ z : Nat → Int32, z = upd undos ((3 * undoMany) : Int32).toNatClampNeg x1 := ⟨_, rfl⟩
  replace hf := hf undos_58 eundos_58
  refine sM_undos S hK hj hP hS hin eundos_58 dX3_note_58 (fun H locs hP hS => ?_)
  refine lv_aload_n hx hb dX3_note_59 rfl (lv_at hl 0 rfl) ?_
  refine gM_undos S hK hP dX3_note_60 ?_
  refine lv_iconst (v := 3) hx hb dX3_note_63 (by decide) ?_
  refine lv_aload_n hx hb dX3_note_64 rfl (lv_at hl 0 rfl) ?_
  refine gM_undoMany S hK hP dX3_note_65 ?_
  refine lv_imul hx hb dX3_note_68 ?_
  refine lv_iconst (v := 1) hx hb dX3_note_69 (by decide) ?_
  refine lv_iadd hx hb dX3_note_70 ?_
  refine lv_aload_n hx hb dX3_note_71 rfl (lv_at hl 0 rfl) ?_
  refine gM_depths S hK hP dX3_note_72 ?_
  refine lv_iload_n hx hb dX3_note_75 rfl (lv_at hl 1 rfl) ?_
  obtain ⟨hin, hf⟩ := hf
  refine lM_depths S hK hP hin dX3_note_76 ?_
  obtain ⟨hin, hf⟩ := hf
  obtain ⟨undos_77, eundos_77⟩ : ∃ z : Nat → Int32, z = upd undos_58 (((3 * undoMany) + 1) : Int32).toNatClampNeg (depths (x1 : Int32).toNatClampNeg) := ⟨_, rfl⟩
  replace hf := hf undos_77 eundos_77
  refine sM_undos S hK hj hP hS hin eundos_77 dX3_note_77 (fun H locs hP hS => ?_)
  refine lv_aload_n hx hb dX3_note_78 rfl (lv_at hl 0 rfl) ?_
  refine gM_undos S hK hP dX3_note_79 ?_
  refine lv_iconst (v := 3) hx hb dX3_note_82 (by decide) ?_
  refine lv_aload_n hx hb dX3_note_83 rfl (lv_at hl 0 rfl) ?_
  refine gM_undoMany S hK hP dX3_note_84 ?_
  refine lv_imul hx hb dX3_note_87 ?_
  refine lv_iconst (v := 2) hx hb dX3_note_88 (by decide) ?_
  refine lv_iadd hx hb dX3_note_89 ?_
  refine lv_aload_n hx hb dX3_note_90 rfl (lv_at hl 0 rfl) ?_
  refine gM_roofs S hK hP dX3_note_91 ?_
  refine lv_iload_n hx hb dX3_note_94 rfl (lv_at hl 1 rfl) ?_
  refine cs_i (As := [.long roofs, .int x1]) (rest := [.int ((3 * undoMany) + 2), .ref (h 3)]) S (metX3_has l hf) (lw_S q1275 q1276 q60 q1277) pdX3_has ⟨rfl, rfl⟩ ⟨Nat.le_of_ble_eq_true rfl, Nat.le_of_ble_eq_true rfl⟩ rfl hl.1 rfl (Nat.le_of_ble_eq_true rfl) dX3_note_95 ⟨Nat.zero_le _, Nat.zero_le _⟩ (fun r_95 hf => ?_)
  refine lv_if_eq (tgt := 105) hx hb dX3_note_98 (by decide) (fun c_98 => ?_) (fun c_98 => ?_)
  · replace hf := hf.1 c_98
    refine lv_iconst (v := 0) hx hb dX3_note_105 (by decide) ?_
    exact tX3_note_106 S hK hj hret 0 ((3 * undoMany) + 2) undos_77 undoMany _ _ _ hf hP hS (lv_sub hl [0] rfl)
  · replace hf := hf.2 c_98
    refine lv_iconst (v := 1) hx hb dX3_note_101 (by decide) ?_
    refine lv_goto (tgt := 106) hx hb dX3_note_102 (by decide) ?_
    exact tX3_note_106 S hK hj hret 1 ((3 * undoMany) + 2) undos_77 undoMany _ _ _ hf hP hS (lv_sub hl [0] rfl)
def wX3_note_11 (Q : (Nat → Int32) → Int32 → Prop) (x1 : Int32) (depths : (Nat → Int32)) (roofs : Int64) (undoMany : Int32) : Nat → Int32 → (Nat → Int32) → Prop
  | 0, _, _ => False
  | n + 1, x2, undos => ((27 ≤ x2 → (∀ undoMany_44 : Int32, undoMany_44 = (undoMany - 1) → (wX3_note_47 Q x1 depths roofs undos undoMany_44))) ∧ (¬ 27 ≤ x2 → (vp_in (x2 + 3) 30 ∧ (vp_in x2 30 ∧ (∀ undos_30 : Nat → Int32, undos_30 = upd undos (x2 : Int32).toNatClampNeg (undos ((x2 + 3) : Int32).toNatClampNeg) → (∀ x2_31 : Int32, x2_31 = x2 + 1 → ((wX3_note_11 Q x1 depths roofs undoMany n) x2_31 undos_30)))))))
set_option maxHeartbeats 4000000 in
set_option maxRecDepth 100000 in
theorem tX3_note_11 {Q : (Nat → Int32) → Int32 → Prop} {x1 : Int32} {depths : (Nat → Int32)} {owners : (Nat → Int32)} {roofs : Int64} {rate : Int32} {undoMany : Int32} {drawn : Int32} {dug : Int64} {deep : Int64} {holes : (Nat → Int64)} {holeMany : Int32} {tape : (Nat → Int32)} {taped : Int32} {place : Int32} {reads : Int32} {read_ : (Nat → Int32)} {row : (Nat → Int32)} {order : (Nat → Int32)} {bestOrder : (Nat → Int32)} {nears : (Nat → Int32)} {isKept : Int32} {keptRoofs : Int64} {kept : (Nat → Int32)} {lanes : (Nat → Int32)} {rowSizes : (Nat → Int32)} {items : (Nat → Int64)} {moved : (Nat → Int64)} (S : CallFix p m c cX3_note 3 s args lw_all RX3) (hK : va_K (dC, dI) vwCl (tysG dA) s) (hj : mJ h) (hret : hrX3_note p l e s m args below meth c dC dI dA h Qw Q depths owners roofs rate drawn dug deep holes holeMany tape taped place reads read_ row order bestOrder nears isKept keptRoofs kept lanes rowSizes items moved) : ∀ (n : Nat) (x2 : Int32) (undos : (Nat → Int32)) (H : Heap) (locs : List Loc) (ls : Array Slot), wX3_note_11 Q x1 depths roofs undoMany n x2 undos → va_P (dC, dI) vwCl (wM h dA depths owners roofs rate undos undoMany drawn dug deep holes holeMany tape taped place reads read_ row order bestOrder nears isKept keptRoofs kept lanes rowSizes items moved) H → va_S (mA h) s.heap H locs → lv_has ls 3 [(0, .ref (h 0)), (1, .int x1), (2, .int x2)] → W p l e RX3_note_ s m args below meth c H locs 0 0 Qw (F0 m 11 ls []) := by
  obtain ⟨hx, hb, hml, hown, hts⟩ := id S
  intro n
  induction n with
  | zero => intro _ _ _ _ _ hf; exact hf.elim
  | succ n ih =>
    intro x2 undos H locs ls hf hP hS hl
    rw [wX3_note_11] at hf
    refine lv_iload_n hx hb dX3_note_11 rfl (lv_at hl 2 rfl) ?_
    refine lv_bipush (v := 27) hx hb dX3_note_12 (by decide) ?_
    refine lv_icmp_ge (tgt := 37) hx hb dX3_note_14 (by decide) (fun c_14 => ?_) (fun c_14 => ?_)
    · replace hf := hf.1 c_14
      refine lv_aload_n hx hb dX3_note_37 rfl (lv_at hl 0 rfl) ?_
      refine lv_dup hx hb dX3_note_38 rfl ?_
      refine gM_undoMany S hK hP dX3_note_39 ?_
      refine lv_iconst (v := 1) hx hb dX3_note_42 (by decide) ?_
      refine lv_isub hx hb dX3_note_43 ?_
      refine lv_topi (fun undoMany_44 eundoMany_44 => ?_)
      replace hf := hf undoMany_44 eundoMany_44
      refine pM_undoMany S hK hj hP hS dX3_note_44 (fun H locs hP hS => ?_)
      exact tX3_note_47 S hK hj hret x1 undos undoMany_44 _ _ _ hf hP hS (lv_sub hl [0, 1] rfl)
    · replace hf := hf.2 c_14
      refine lv_aload_n hx hb dX3_note_17 rfl (lv_at hl 0 rfl) ?_
      refine gM_undos S hK hP dX3_note_18 ?_
      refine lv_iload_n hx hb dX3_note_21 rfl (lv_at hl 2 rfl) ?_
      refine lv_aload_n hx hb dX3_note_22 rfl (lv_at hl 0 rfl) ?_
      refine gM_undos S hK hP dX3_note_23 ?_
      refine lv_iload_n hx hb dX3_note_26 rfl (lv_at hl 2 rfl) ?_
      refine lv_iconst (v := 3) hx hb dX3_note_27 (by decide) ?_
      refine lv_iadd hx hb dX3_note_28 ?_
      obtain ⟨hin, hf⟩ := hf
      refine lM_undos S hK hP hin dX3_note_29 ?_
      obtain ⟨hin, hf⟩ := hf
      obtain ⟨undos_30, eundos_30⟩ : ∃ z : Nat → Int32, z = upd undos (x2 : Int32).toNatClampNeg (undos ((x2 + 3) : Int32).toNatClampNeg) := ⟨_, rfl⟩
      replace hf := hf undos_30 eundos_30
      refine sM_undos S hK hj hP hS hin eundos_30 dX3_note_30 (fun H locs hP hS => ?_)
      obtain ⟨x2_31, ex2_31⟩ : ∃ z : Int32, z = x2 + 1 := ⟨_, rfl⟩
      replace hf := hf x2_31 ex2_31
      refine lv_iinc (v := x2_31) (lv' := [(2, .int x2_31), (0, .ref (h 0)), (1, .int x1)]) hx hb dX3_note_31 hl (k := 2) rfl (by rw [ex2_31]; rfl) (by decide) rfl (fun ls hl => ?_)
      refine lv_goto (tgt := 11) hx hb dX3_note_34 (by decide) ?_
      exact ih x2_31 undos_30 _ _ _ hf hP hS (lv_sub hl [1, 2, 0] rfl)
def wX3_note (Q : (Nat → Int32) → Int32 → Prop) (depths : (Nat → Int32)) (roofs : Int64) (undos : (Nat → Int32)) (undoMany : Int32) (x1 : Int32) : Prop := ((undoMany = 10 → (∃ fu : Nat, wX3_note_11 Q x1 depths roofs undoMany fu 0 undos)) ∧ (¬ undoMany = 10 → (wX3_note_47 Q x1 depths roofs undos undoMany)))
end
set_option maxHeartbeats 4000000 in
set_option maxRecDepth 100000 in
theorem metX3_note (l : Launch) {Q : (Nat → Int32) → Int32 → Prop} {depths : (Nat → Int32)} {owners : (Nat → Int32)} {roofs : Int64} {rate : Int32} {undos : (Nat → Int32)} {undoMany : Int32} {drawn : Int32} {dug : Int64} {deep : Int64} {holes : (Nat → Int64)} {holeMany : Int32} {tape : (Nat → Int32)} {taped : Int32} {place : Int32} {reads : Int32} {read_ : (Nat → Int32)} {row : (Nat → Int32)} {order : (Nat → Int32)} {bestOrder : (Nat → Int32)} {nears : (Nat → Int32)} {isKept : Int32} {keptRoofs : Int64} {kept : (Nat → Int32)} {lanes : (Nat → Int32)} {rowSizes : (Nat → Int32)} {items : (Nat → Int64)} {moved : (Nat → Int64)} {x1 : Int32} {dC : Nat → ClassId} {dI : Nat → Nat → Nat} {dA : Nat → ClassId} {h : Nat → Nat} (hj : mJ h) (hf : wX3_note Q depths roofs undos undoMany x1) : Met l yX3_note (ws_ yX3_note cX3_note 3 none) rmX3_note (mPc dC dI dA h [.int x1] (wM h dA depths owners roofs rate undos undoMany drawn dug deep holes holeMany tape taped place reads read_ row order bestOrder nears isKept keptRoofs kept lanes rowSizes items moved)) (va_Qv (fun (u : (Nat → Int32) × Int32) => Q u.1 u.2) (fun u t => va_P (dC, dI) vwCl (wM h dA depths owners roofs rate u.1 u.2 drawn dug deep holes holeMany tape taped place reads read_ row order bestOrder nears isKept keptRoofs kept lanes rowSizes items moved) t.heap) (mA h)) 0 0 (mA h) := by
  refine Met.ofW (cc := cX3_note) (maxL := 3) (ret := none) (by decide) rfl ?_
  intro p e s m args below meth c s₁ B hml hv
  obtain ⟨rfl, hP, hK⟩ := hv
  have hx := B.exec
  have hb := B.bytes
  have hr := B.returns
  have hts := atoms_spec (ws := (ws_ yX3_note cX3_note 3 none)) B.pre
  have hts : ∀ w ∈ lw_all, w.before _ s = true := fun w h => hts w (List.mem_cons_of_mem _ h)
  have hown : s.vm.findClass RX3 = some m.cls := findClass_of_methodNamed B.named
  have hlocks := B.notSynchronized
  have S : CallFix p m c cX3_note 3 s _ lw_all RX3 := ⟨hx, hb, hml, hown, hts⟩
  have hS : va_S (mA h) s.heap s.heap [] := va_S.rf
  have hl := lv_entry ([.ref (h 0), .int x1]) (n := 3) (Nat.le_of_ble_eq_true rfl)
  rw [lg_entry_eq]
  generalize (lg_sl ([.ref (h 0), .int x1]) ++ List.replicate (3 - (lg_sl ([.ref (h 0), .int x1])).length) Slot.unset).toArray = ls at hl ⊢
  replace hl : lv_has ls 3 [(0, .ref (h 0)), (1, .int x1)] := hl
  have hret : hrX3_note p l e s m ([.ref (h 0), .int x1] : List Value).toArray below meth c dC dI dA h (MQ below (va_Qv (fun (u : (Nat → Int32) × Int32) => Q u.1 u.2) (fun u t => va_P (dC, dI) vwCl (wM h dA depths owners roofs rate u.1 u.2 drawn dug deep holes holeMany tape taped place reads read_ row order bestOrder nears isKept keptRoofs kept lanes rowSizes items moved) t.heap) (mA h)) ([.ref (h 0), .int x1] : List Value).toArray s 0 0 (mA h)) Q depths owners roofs rate drawn dug deep holes holeMany tape taped place reads read_ row order bestOrder nears isKept keptRoofs kept lanes rowSizes items moved := fun undos undoMany H locs pc ls hq hP hS hd => W.vret hx hb hr (fun t ht hW => ⟨⟨(undos, undoMany), rfl, hq, by subst ht; exact hP⟩, hS.F ht⟩) hS.2.2 hd
  unfold wX3_note at hf
  refine lv_aload_n hx hb dX3_note_0 rfl (lv_at hl 0 rfl) ?_
  refine gM_undoMany S hK hP dX3_note_1 ?_
  refine lv_bipush (v := 10) hx hb dX3_note_4 (by decide) ?_
  refine lv_icmp_ne (tgt := 47) hx hb dX3_note_6 (by decide) (fun c_6 => ?_) (fun c_6 => ?_)
  · replace hf := hf.2 c_6
    exact tX3_note_47 S hK hj hret x1 undos undoMany _ _ _ hf hP hS (lv_sub hl [0, 1] rfl)
  · replace hf := hf.1 c_6
    refine lv_iconst (v := 0) hx hb dX3_note_9 (by decide) ?_
    refine lv_istore_n (lv' := [(2, .int 0), (0, .ref (h 0)), (1, .int x1)]) hx hb dX3_note_10 rfl hl (by decide) rfl (fun ls hl => ?_)
    obtain ⟨fu, hf⟩ := hf
    exact tX3_note_11 S hK hj hret fu 0 undos _ _ _ hf hP hS (lv_sub hl [1, 2, 0] rfl)
/-! HoleCountyModel.dig(I)I -/
theorem pdX3_dig : DscOk yX3_dig 1 := by decide +kernel
abbrev rmX3_dig : Room := { frames := 2, cells := 0, slots := 0, locals := 45 }
abbrev RX3_dig_ : Room := (headSpec (ws_ yX3_dig cX3_dig 2 (some .int)) rmX3_dig).room
section
variable {p : Program} {l : Launch} {e : Env} {s : State} {m : MethodId} {args : Array Value} {below : List Frame} {meth : Method} {c : Code} {Qw : State → Prop} {dC : Nat → ClassId} {dI : Nat → Nat → Nat} {dA : Nat → ClassId} {h : Nat → Nat}
abbrev hrX3_dig (p : Program) (l : Launch) (e : Env) (s : State) (m : MethodId) (args : Array Value) (below : List Frame) (meth : Method) (c : Code) (dC : Nat → ClassId) (dI : Nat → Nat → Nat) (dA : Nat → ClassId) (h : Nat → Nat) (Qw : State → Prop) (Q : Int32 → (Nat → Int32) → (Nat → Int32) → Int32 → Prop) (owners : (Nat → Int32)) (roofs : Int64) (rate : Int32) (drawn : Int32) (dug : Int64) (deep : Int64) (holes : (Nat → Int64)) (holeMany : Int32) (tape : (Nat → Int32)) (taped : Int32) (place : Int32) (reads : Int32) (read_ : (Nat → Int32)) (row : (Nat → Int32)) (order : (Nat → Int32)) (bestOrder : (Nat → Int32)) (nears : (Nat → Int32)) (isKept : Int32) (keptRoofs : Int64) (kept : (Nat → Int32)) (lanes : (Nat → Int32)) (rowSizes : (Nat → Int32)) (items : (Nat → Int64)) (moved : (Nat → Int64)) : Prop := ∀ (r : Int32) (depths : (Nat → Int32)) (undos : (Nat → Int32)) (undoMany : Int32) (H : Heap) (locs : List Loc) (pc : Nat) (ls : Array Slot), Q r depths undos undoMany → va_P (dC, dI) vwCl (wM h dA depths owners roofs rate undos undoMany drawn dug deep holes holeMany tape taped place reads read_ row order bestOrder nears isKept keptRoofs kept lanes rowSizes items moved) H → va_S (mA h) s.heap H locs → decode cX3_dig pc = .ok (.ireturn, 1) → W p l e RX3_dig_ s m args below meth c H locs 0 0 Qw (F0 m pc ls [.int r])
def wX3_dig (Q : Int32 → (Nat → Int32) → (Nat → Int32) → Int32 → Prop) (depths : (Nat → Int32)) (roofs : Int64) (undos : (Nat → Int32)) (undoMany : Int32) (x1 : Int32) : Prop := (wX3_isCell (fun r_1 => ((r_1 = 0 → (Q (-1) depths undos undoMany)) ∧ (¬ r_1 = 0 → (vp_in x1 36 ∧ (((depths (x1 : Int32).toNatClampNeg) = 9 → (Q (-3) depths undos undoMany)) ∧ (¬ (depths (x1 : Int32).toNatClampNeg) = 9 → (wX3_note (fun undos_25 undoMany_25 => (vp_in x1 36 ∧ (vp_in x1 36 ∧ (∀ depths_37 : Nat → Int32, depths_37 = upd depths (x1 : Int32).toNatClampNeg ((depths (x1 : Int32).toNatClampNeg) + 1) → (vp_in x1 36 ∧ (Q (depths_37 (x1 : Int32).toNatClampNeg) depths_37 undos_25 undoMany_25)))))) depths roofs undos undoMany x1))))))) x1)
end
set_option maxHeartbeats 4000000 in
set_option maxRecDepth 100000 in
theorem metX3_dig (l : Launch) {Q : Int32 → (Nat → Int32) → (Nat → Int32) → Int32 → Prop} {depths : (Nat → Int32)} {owners : (Nat → Int32)} {roofs : Int64} {rate : Int32} {undos : (Nat → Int32)} {undoMany : Int32} {drawn : Int32} {dug : Int64} {deep : Int64} {holes : (Nat → Int64)} {holeMany : Int32} {tape : (Nat → Int32)} {taped : Int32} {place : Int32} {reads : Int32} {read_ : (Nat → Int32)} {row : (Nat → Int32)} {order : (Nat → Int32)} {bestOrder : (Nat → Int32)} {nears : (Nat → Int32)} {isKept : Int32} {keptRoofs : Int64} {kept : (Nat → Int32)} {lanes : (Nat → Int32)} {rowSizes : (Nat → Int32)} {items : (Nat → Int64)} {moved : (Nat → Int64)} {x1 : Int32} {dC : Nat → ClassId} {dI : Nat → Nat → Nat} {dA : Nat → ClassId} {h : Nat → Nat} (hj : mJ h) (hf : wX3_dig Q depths roofs undos undoMany x1) : Met l yX3_dig (ws_ yX3_dig cX3_dig 2 (some .int)) rmX3_dig (mPc dC dI dA h [.int x1] (wM h dA depths owners roofs rate undos undoMany drawn dug deep holes holeMany tape taped place reads read_ row order bestOrder nears isKept keptRoofs kept lanes rowSizes items moved)) (va_Qi (fun (r : Int32) (u : (Nat → Int32) × (Nat → Int32) × Int32) => Q r u.1 u.2.1 u.2.2) (fun u t => va_P (dC, dI) vwCl (wM h dA u.1 owners roofs rate u.2.1 u.2.2 drawn dug deep holes holeMany tape taped place reads read_ row order bestOrder nears isKept keptRoofs kept lanes rowSizes items moved) t.heap) (mA h)) 0 0 (mA h) := by
  refine Met.ofW (cc := cX3_dig) (maxL := 2) (ret := (some .int)) (by decide) rfl ?_
  intro p e s m args below meth c s₁ B hml hv
  obtain ⟨rfl, hP, hK⟩ := hv
  have hx := B.exec
  have hb := B.bytes
  have hr := B.returns
  have hts := atoms_spec (ws := (ws_ yX3_dig cX3_dig 2 (some .int))) B.pre
  have hts : ∀ w ∈ lw_all, w.before _ s = true := fun w h => hts w (List.mem_cons_of_mem _ h)
  have hown : s.vm.findClass RX3 = some m.cls := findClass_of_methodNamed B.named
  have hlocks := B.notSynchronized
  have S : CallFix p m c cX3_dig 2 s _ lw_all RX3 := ⟨hx, hb, hml, hown, hts⟩
  have hS : va_S (mA h) s.heap s.heap [] := va_S.rf
  have hl := lv_entry ([.ref (h 0), .int x1]) (n := 2) (Nat.le_of_ble_eq_true rfl)
  rw [lg_entry_eq]
  generalize (lg_sl ([.ref (h 0), .int x1]) ++ List.replicate (2 - (lg_sl ([.ref (h 0), .int x1])).length) Slot.unset).toArray = ls at hl ⊢
  replace hl : lv_has ls 2 [(0, .ref (h 0)), (1, .int x1)] := hl
  have hret : hrX3_dig p l e s m ([.ref (h 0), .int x1] : List Value).toArray below meth c dC dI dA h (MQ below (va_Qi (fun (r : Int32) (u : (Nat → Int32) × (Nat → Int32) × Int32) => Q r u.1 u.2.1 u.2.2) (fun u t => va_P (dC, dI) vwCl (wM h dA u.1 owners roofs rate u.2.1 u.2.2 drawn dug deep holes holeMany tape taped place reads read_ row order bestOrder nears isKept keptRoofs kept lanes rowSizes items moved) t.heap) (mA h)) ([.ref (h 0), .int x1] : List Value).toArray s 0 0 (mA h)) Q owners roofs rate drawn dug deep holes holeMany tape taped place reads read_ row order bestOrder nears isKept keptRoofs kept lanes rowSizes items moved := fun r depths undos undoMany H locs pc ls hq hP hS hd => W.iret hx hb hr (fun t ht hW => ⟨⟨r, (depths, undos, undoMany), rfl, hq, by subst ht; exact hP⟩, hS.F ht⟩) hS.2.2 hd
  unfold wX3_dig at hf
  refine lv_iload_n hx hb dX3_dig_0 rfl (lv_at hl 1 rfl) ?_
  refine cs_i (As := [.int x1]) (rest := []) S (metX3_isCell l hf) (lw_S q1264 q1265 q60 q1266) pdX3_isCell ⟨rfl, rfl⟩ ⟨Nat.le_of_ble_eq_true rfl, Nat.le_of_ble_eq_true rfl⟩ rfl hl.1 rfl (Nat.le_of_ble_eq_true rfl) dX3_dig_1 ⟨Nat.zero_le _, Nat.zero_le _⟩ (fun r_1 hf => ?_)
  refine lv_if_ne (tgt := 9) hx hb dX3_dig_4 (by decide) (fun c_4 => ?_) (fun c_4 => ?_)
  · replace hf := hf.2 c_4
    refine lv_aload_n hx hb dX3_dig_9 rfl (lv_at hl 0 rfl) ?_
    refine gM_depths S hK hP dX3_dig_10 ?_
    refine lv_iload_n hx hb dX3_dig_13 rfl (lv_at hl 1 rfl) ?_
    obtain ⟨hin, hf⟩ := hf
    refine lM_depths S hK hP hin dX3_dig_14 ?_
    refine lv_bipush (v := 9) hx hb dX3_dig_15 (by decide) ?_
    refine lv_icmp_ne (tgt := 23) hx hb dX3_dig_17 (by decide) (fun c_17 => ?_) (fun c_17 => ?_)
    · replace hf := hf.2 c_17
      refine lv_aload_n hx hb dX3_dig_23 rfl (lv_at hl 0 rfl) ?_
      refine lv_iload_n hx hb dX3_dig_24 rfl (lv_at hl 1 rfl) ?_
      refine cM_v (As := [.int x1]) (rest := []) S hK rfl hP hS (metX3_note l hj hf) (lw_V q1271 q1273 qs25 q60 q1274) rfl pdX3_note ⟨rfl, rfl⟩ ⟨Nat.le_of_ble_eq_true rfl, Nat.le_of_ble_eq_true rfl⟩ rfl hl.1 rfl (Nat.le_of_ble_eq_true rfl) dX3_dig_25 ⟨Nat.zero_le _, Nat.zero_le _⟩ (fun u_25 H locs hf hP hS => ?_)
      obtain ⟨undos_25, undoMany_25⟩ := u_25
      replace hP : va_P (dC, dI) vwCl (wM h dA depths owners roofs rate undos_25 undoMany_25 drawn dug deep holes holeMany tape taped place reads read_ row order bestOrder nears isKept keptRoofs kept lanes rowSizes items moved) H := hP
      try dsimp only at hf
      refine lv_aload_n hx hb dX3_dig_28 rfl (lv_at hl 0 rfl) ?_
      refine gM_depths S hK hP dX3_dig_29 ?_
      refine lv_iload_n hx hb dX3_dig_32 rfl (lv_at hl 1 rfl) ?_
      refine lv_dup2_11 hx hb dX3_dig_33 rfl rfl ?_
      obtain ⟨hin, hf⟩ := hf
      refine lM_depths S hK hP hin dX3_dig_34 ?_
      refine lv_iconst (v := 1) hx hb dX3_dig_35 (by decide) ?_
      refine lv_iadd hx hb dX3_dig_36 ?_
      obtain ⟨hin, hf⟩ := hf
      obtain ⟨depths_37, edepths_37⟩ : ∃ z : Nat → Int32, z = upd depths (x1 : Int32).toNatClampNeg ((depths (x1 : Int32).toNatClampNeg) + 1) := ⟨_, rfl⟩
      replace hf := hf depths_37 edepths_37
      refine sM_depths S hK hj hP hS hin edepths_37 dX3_dig_37 (fun H locs hP hS => ?_)
      refine lv_aload_n hx hb dX3_dig_38 rfl (lv_at hl 0 rfl) ?_
      refine gM_depths S hK hP dX3_dig_39 ?_
      refine lv_iload_n hx hb dX3_dig_42 rfl (lv_at hl 1 rfl) ?_
      obtain ⟨hin, hf⟩ := hf
      refine lM_depths S hK hP hin dX3_dig_43 ?_
      exact hret _ _ _ _ _ _ _ _ hf hP hS dX3_dig_44
    · replace hf := hf.1 c_17
      refine lv_bipush (v := (-3)) hx hb dX3_dig_20 (by decide) ?_
      exact hret _ _ _ _ _ _ _ _ hf hP hS dX3_dig_22
  · replace hf := hf.1 c_4
    refine lv_iconst (v := (-1)) hx hb dX3_dig_7 (by decide) ?_
    exact hret _ _ _ _ _ _ _ _ hf hP hS dX3_dig_8
/-! HoleCountyModel.put(IIZ)V -/
theorem pdX3_put : DscOk yX3_put 3 := by decide +kernel
abbrev rmX3_put : Room := { frames := 0, cells := 0, slots := 0, locals := 0 }
abbrev RX3_put_ : Room := (headSpec (ws_ yX3_put cX3_put 4 none) rmX3_put).room
section
variable {p : Program} {l : Launch} {e : Env} {s : State} {m : MethodId} {args : Array Value} {below : List Frame} {meth : Method} {c : Code} {Qw : State → Prop} {dC : Nat → ClassId} {dI : Nat → Nat → Nat} {dA : Nat → ClassId} {h : Nat → Nat}
abbrev hrX3_put (p : Program) (l : Launch) (e : Env) (s : State) (m : MethodId) (args : Array Value) (below : List Frame) (meth : Method) (c : Code) (dC : Nat → ClassId) (dI : Nat → Nat → Nat) (dA : Nat → ClassId) (h : Nat → Nat) (Qw : State → Prop) (Q : (Nat → Int32) → Int64 → Prop) (owners : (Nat → Int32)) (rate : Int32) (undos : (Nat → Int32)) (undoMany : Int32) (drawn : Int32) (dug : Int64) (deep : Int64) (holes : (Nat → Int64)) (holeMany : Int32) (tape : (Nat → Int32)) (taped : Int32) (place : Int32) (reads : Int32) (read_ : (Nat → Int32)) (row : (Nat → Int32)) (order : (Nat → Int32)) (bestOrder : (Nat → Int32)) (nears : (Nat → Int32)) (isKept : Int32) (keptRoofs : Int64) (kept : (Nat → Int32)) (lanes : (Nat → Int32)) (rowSizes : (Nat → Int32)) (items : (Nat → Int64)) (moved : (Nat → Int64)) : Prop := ∀ (depths : (Nat → Int32)) (roofs : Int64) (H : Heap) (locs : List Loc) (pc : Nat) (ls : Array Slot), Q depths roofs → va_P (dC, dI) vwCl (wM h dA depths owners roofs rate undos undoMany drawn dug deep holes holeMany tape taped place reads read_ row order bestOrder nears isKept keptRoofs kept lanes rowSizes items moved) H → va_S (mA h) s.heap H locs → decode cX3_put pc = .ok (.return_, 1) → W p l e RX3_put_ s m args below meth c H locs 0 0 Qw (F0 m pc ls [])
def wX3_put (Q : (Nat → Int32) → Int64 → Prop) (depths : (Nat → Int32)) (roofs : Int64) (x1 : Int32) (x2 : Int32) (x3 : Int32) : Prop := (vp_in x1 36 ∧ (∀ depths_6 : Nat → Int32, depths_6 = upd depths (x1 : Int32).toNatClampNeg x2 → ((x3 = 0 → (∀ roofs_35 : Int64, roofs_35 = (roofs &&& ((1 <<< ((x1 : Int32).toInt64 &&& 63)) ^^^ (-1))) → (Q depths_6 roofs_35))) ∧ (¬ x3 = 0 → (∀ roofs_35 : Int64, roofs_35 = (roofs ||| (1 <<< ((x1 : Int32).toInt64 &&& 63))) → (Q depths_6 roofs_35))))))
end
set_option maxHeartbeats 4000000 in
set_option maxRecDepth 100000 in
theorem metX3_put (l : Launch) {Q : (Nat → Int32) → Int64 → Prop} {depths : (Nat → Int32)} {owners : (Nat → Int32)} {roofs : Int64} {rate : Int32} {undos : (Nat → Int32)} {undoMany : Int32} {drawn : Int32} {dug : Int64} {deep : Int64} {holes : (Nat → Int64)} {holeMany : Int32} {tape : (Nat → Int32)} {taped : Int32} {place : Int32} {reads : Int32} {read_ : (Nat → Int32)} {row : (Nat → Int32)} {order : (Nat → Int32)} {bestOrder : (Nat → Int32)} {nears : (Nat → Int32)} {isKept : Int32} {keptRoofs : Int64} {kept : (Nat → Int32)} {lanes : (Nat → Int32)} {rowSizes : (Nat → Int32)} {items : (Nat → Int64)} {moved : (Nat → Int64)} {x1 : Int32} {x2 : Int32} {x3 : Int32} {dC : Nat → ClassId} {dI : Nat → Nat → Nat} {dA : Nat → ClassId} {h : Nat → Nat} (hj : mJ h) (hf : wX3_put Q depths roofs x1 x2 x3) : Met l yX3_put (ws_ yX3_put cX3_put 4 none) rmX3_put (mPc dC dI dA h [.int x1, .int x2, .int x3] (wM h dA depths owners roofs rate undos undoMany drawn dug deep holes holeMany tape taped place reads read_ row order bestOrder nears isKept keptRoofs kept lanes rowSizes items moved)) (va_Qv (fun (u : (Nat → Int32) × Int64) => Q u.1 u.2) (fun u t => va_P (dC, dI) vwCl (wM h dA u.1 owners u.2 rate undos undoMany drawn dug deep holes holeMany tape taped place reads read_ row order bestOrder nears isKept keptRoofs kept lanes rowSizes items moved) t.heap) (mA h)) 0 0 (mA h) := by
  refine Met.ofW (cc := cX3_put) (maxL := 4) (ret := none) (by decide) rfl ?_
  intro p e s m args below meth c s₁ B hml hv
  obtain ⟨rfl, hP, hK⟩ := hv
  have hx := B.exec
  have hb := B.bytes
  have hr := B.returns
  have hts := atoms_spec (ws := (ws_ yX3_put cX3_put 4 none)) B.pre
  have hts : ∀ w ∈ lw_all, w.before _ s = true := fun w h => hts w (List.mem_cons_of_mem _ h)
  have hown : s.vm.findClass RX3 = some m.cls := findClass_of_methodNamed B.named
  have hlocks := B.notSynchronized
  have S : CallFix p m c cX3_put 4 s _ lw_all RX3 := ⟨hx, hb, hml, hown, hts⟩
  have hS : va_S (mA h) s.heap s.heap [] := va_S.rf
  have hl := lv_entry ([.ref (h 0), .int x1, .int x2, .int x3]) (n := 4) (Nat.le_of_ble_eq_true rfl)
  rw [lg_entry_eq]
  generalize (lg_sl ([.ref (h 0), .int x1, .int x2, .int x3]) ++ List.replicate (4 - (lg_sl ([.ref (h 0), .int x1, .int x2, .int x3])).length) Slot.unset).toArray = ls at hl ⊢
  replace hl : lv_has ls 4 [(0, .ref (h 0)), (1, .int x1), (2, .int x2), (3, .int x3)] := hl
  have hret : hrX3_put p l e s m ([.ref (h 0), .int x1, .int x2, .int x3] : List Value).toArray below meth c dC dI dA h (MQ below (va_Qv (fun (u : (Nat → Int32) × Int64) => Q u.1 u.2) (fun u t => va_P (dC, dI) vwCl (wM h dA u.1 owners u.2 rate undos undoMany drawn dug deep holes holeMany tape taped place reads read_ row order bestOrder nears isKept keptRoofs kept lanes rowSizes items moved) t.heap) (mA h)) ([.ref (h 0), .int x1, .int x2, .int x3] : List Value).toArray s 0 0 (mA h)) Q owners rate undos undoMany drawn dug deep holes holeMany tape taped place reads read_ row order bestOrder nears isKept keptRoofs kept lanes rowSizes items moved := fun depths roofs H locs pc ls hq hP hS hd => W.vret hx hb hr (fun t ht hW => ⟨⟨(depths, roofs), rfl, hq, by subst ht; exact hP⟩, hS.F ht⟩) hS.2.2 hd
  unfold wX3_put at hf
  refine lv_aload_n hx hb dX3_put_0 rfl (lv_at hl 0 rfl) ?_
  refine gM_depths S hK hP dX3_put_1 ?_
  refine lv_iload_n hx hb dX3_put_4 rfl (lv_at hl 1 rfl) ?_
  refine lv_iload_n hx hb dX3_put_5 rfl (lv_at hl 2 rfl) ?_
  obtain ⟨hin, hf⟩ := hf
  obtain ⟨depths_6, edepths_6⟩ : ∃ z : Nat → Int32, z = upd depths (x1 : Int32).toNatClampNeg x2 := ⟨_, rfl⟩
  replace hf := hf depths_6 edepths_6
  refine sM_depths S hK hj hP hS hin edepths_6 dX3_put_6 (fun H locs hP hS => ?_)
  refine lv_aload_n hx hb dX3_put_7 rfl (lv_at hl 0 rfl) ?_
  refine lv_iload_n hx hb dX3_put_8 rfl (lv_at hl 3 rfl) ?_
  refine lv_if_eq (tgt := 23) hx hb dX3_put_9 (by decide) (fun c_9 => ?_) (fun c_9 => ?_)
  · replace hf := hf.1 c_9
    refine lv_aload_n hx hb dX3_put_23 rfl (lv_at hl 0 rfl) ?_
    refine gM_roofs S hK hP dX3_put_24 ?_
    refine lv_lconst (v := 1) hx hb dX3_put_27 (by decide) ?_
    refine lv_iload_n hx hb dX3_put_28 rfl (lv_at hl 1 rfl) ?_
    refine lv_lshl (v := (1 <<< ((x1 : Int32).toInt64 &&& 63))) hx hb dX3_put_29 rfl ?_
    refine lv_ldc2 (v := (-1)) hx hb hown (hts _ q1286) dX3_put_30 ?_
    refine lv_lxor hx hb dX3_put_33 ?_
    refine lv_land hx hb dX3_put_34 ?_
    refine lv_topl (fun roofs_35 eroofs_35 => ?_)
    replace hf := hf roofs_35 eroofs_35
    refine pM_roofs S hK hj hP hS dX3_put_35 (fun H locs hP hS => ?_)
    exact hret _ _ _ _ _ _ hf hP hS dX3_put_38
  · replace hf := hf.2 c_9
    refine lv_aload_n hx hb dX3_put_12 rfl (lv_at hl 0 rfl) ?_
    refine gM_roofs S hK hP dX3_put_13 ?_
    refine lv_lconst (v := 1) hx hb dX3_put_16 (by decide) ?_
    refine lv_iload_n hx hb dX3_put_17 rfl (lv_at hl 1 rfl) ?_
    refine lv_lshl (v := (1 <<< ((x1 : Int32).toInt64 &&& 63))) hx hb dX3_put_18 rfl ?_
    refine lv_lor hx hb dX3_put_19 ?_
    refine lv_goto (tgt := 35) hx hb dX3_put_20 (by decide) ?_
    refine lv_topl (fun roofs_35 eroofs_35 => ?_)
    replace hf := hf roofs_35 eroofs_35
    refine pM_roofs S hK hj hP hS dX3_put_35 (fun H locs hP hS => ?_)
    exact hret _ _ _ _ _ _ hf hP hS dX3_put_38
/-! HoleCountyModel.fill(I)I -/
theorem pdX3_fill : DscOk yX3_fill 1 := by decide +kernel
abbrev rmX3_fill : Room := { frames := 2, cells := 0, slots := 0, locals := 45 }
abbrev RX3_fill_ : Room := (headSpec (ws_ yX3_fill cX3_fill 3 (some .int)) rmX3_fill).room
section
variable {p : Program} {l : Launch} {e : Env} {s : State} {m : MethodId} {args : Array Value} {below : List Frame} {meth : Method} {c : Code} {Qw : State → Prop} {dC : Nat → ClassId} {dI : Nat → Nat → Nat} {dA : Nat → ClassId} {h : Nat → Nat}
abbrev hrX3_fill (p : Program) (l : Launch) (e : Env) (s : State) (m : MethodId) (args : Array Value) (below : List Frame) (meth : Method) (c : Code) (dC : Nat → ClassId) (dI : Nat → Nat → Nat) (dA : Nat → ClassId) (h : Nat → Nat) (Qw : State → Prop) (Q : Int32 → (Nat → Int32) → Int64 → (Nat → Int32) → Int32 → Prop) (owners : (Nat → Int32)) (rate : Int32) (drawn : Int32) (dug : Int64) (deep : Int64) (holes : (Nat → Int64)) (holeMany : Int32) (tape : (Nat → Int32)) (taped : Int32) (place : Int32) (reads : Int32) (read_ : (Nat → Int32)) (row : (Nat → Int32)) (order : (Nat → Int32)) (bestOrder : (Nat → Int32)) (nears : (Nat → Int32)) (isKept : Int32) (keptRoofs : Int64) (kept : (Nat → Int32)) (lanes : (Nat → Int32)) (rowSizes : (Nat → Int32)) (items : (Nat → Int64)) (moved : (Nat → Int64)) : Prop := ∀ (r : Int32) (depths : (Nat → Int32)) (roofs : Int64) (undos : (Nat → Int32)) (undoMany : Int32) (H : Heap) (locs : List Loc) (pc : Nat) (ls : Array Slot), Q r depths roofs undos undoMany → va_P (dC, dI) vwCl (wM h dA depths owners roofs rate undos undoMany drawn dug deep holes holeMany tape taped place reads read_ row order bestOrder nears isKept keptRoofs kept lanes rowSizes items moved) H → va_S (mA h) s.heap H locs → decode cX3_fill pc = .ok (.ireturn, 1) → W p l e RX3_fill_ s m args below meth c H locs 0 0 Qw (F0 m pc ls [.int r])
def wX3_fill (Q : Int32 → (Nat → Int32) → Int64 → (Nat → Int32) → Int32 → Prop) (depths : (Nat → Int32)) (roofs : Int64) (undos : (Nat → Int32)) (undoMany : Int32) (x1 : Int32) : Prop := (wX3_isCell (fun r_1 => ((r_1 = 0 → (Q (-1) depths roofs undos undoMany)) ∧ (¬ r_1 = 0 → (vp_in x1 36 ∧ (∀ x2_15 : Int32, x2_15 = (depths (x1 : Int32).toNatClampNeg) → ((x2_15 = 0 → (Q (-2) depths roofs undos undoMany)) ∧ (¬ x2_15 = 0 → (wX3_note (fun undos_25 undoMany_25 => (wX3_put (fun depths_32 roofs_32 => (Q x2_15 depths_32 roofs_32 undos_25 undoMany_25)) depths roofs x1 0 0)) depths roofs undos undoMany x1)))))))) x1)
end
set_option maxHeartbeats 4000000 in
set_option maxRecDepth 100000 in
theorem metX3_fill (l : Launch) {Q : Int32 → (Nat → Int32) → Int64 → (Nat → Int32) → Int32 → Prop} {depths : (Nat → Int32)} {owners : (Nat → Int32)} {roofs : Int64} {rate : Int32} {undos : (Nat → Int32)} {undoMany : Int32} {drawn : Int32} {dug : Int64} {deep : Int64} {holes : (Nat → Int64)} {holeMany : Int32} {tape : (Nat → Int32)} {taped : Int32} {place : Int32} {reads : Int32} {read_ : (Nat → Int32)} {row : (Nat → Int32)} {order : (Nat → Int32)} {bestOrder : (Nat → Int32)} {nears : (Nat → Int32)} {isKept : Int32} {keptRoofs : Int64} {kept : (Nat → Int32)} {lanes : (Nat → Int32)} {rowSizes : (Nat → Int32)} {items : (Nat → Int64)} {moved : (Nat → Int64)} {x1 : Int32} {dC : Nat → ClassId} {dI : Nat → Nat → Nat} {dA : Nat → ClassId} {h : Nat → Nat} (hj : mJ h) (hf : wX3_fill Q depths roofs undos undoMany x1) : Met l yX3_fill (ws_ yX3_fill cX3_fill 3 (some .int)) rmX3_fill (mPc dC dI dA h [.int x1] (wM h dA depths owners roofs rate undos undoMany drawn dug deep holes holeMany tape taped place reads read_ row order bestOrder nears isKept keptRoofs kept lanes rowSizes items moved)) (va_Qi (fun (r : Int32) (u : (Nat → Int32) × Int64 × (Nat → Int32) × Int32) => Q r u.1 u.2.1 u.2.2.1 u.2.2.2) (fun u t => va_P (dC, dI) vwCl (wM h dA u.1 owners u.2.1 rate u.2.2.1 u.2.2.2 drawn dug deep holes holeMany tape taped place reads read_ row order bestOrder nears isKept keptRoofs kept lanes rowSizes items moved) t.heap) (mA h)) 0 0 (mA h) := by
  refine Met.ofW (cc := cX3_fill) (maxL := 3) (ret := (some .int)) (by decide) rfl ?_
  intro p e s m args below meth c s₁ B hml hv
  obtain ⟨rfl, hP, hK⟩ := hv
  have hx := B.exec
  have hb := B.bytes
  have hr := B.returns
  have hts := atoms_spec (ws := (ws_ yX3_fill cX3_fill 3 (some .int))) B.pre
  have hts : ∀ w ∈ lw_all, w.before _ s = true := fun w h => hts w (List.mem_cons_of_mem _ h)
  have hown : s.vm.findClass RX3 = some m.cls := findClass_of_methodNamed B.named
  have hlocks := B.notSynchronized
  have S : CallFix p m c cX3_fill 3 s _ lw_all RX3 := ⟨hx, hb, hml, hown, hts⟩
  have hS : va_S (mA h) s.heap s.heap [] := va_S.rf
  have hl := lv_entry ([.ref (h 0), .int x1]) (n := 3) (Nat.le_of_ble_eq_true rfl)
  rw [lg_entry_eq]
  generalize (lg_sl ([.ref (h 0), .int x1]) ++ List.replicate (3 - (lg_sl ([.ref (h 0), .int x1])).length) Slot.unset).toArray = ls at hl ⊢
  replace hl : lv_has ls 3 [(0, .ref (h 0)), (1, .int x1)] := hl
  have hret : hrX3_fill p l e s m ([.ref (h 0), .int x1] : List Value).toArray below meth c dC dI dA h (MQ below (va_Qi (fun (r : Int32) (u : (Nat → Int32) × Int64 × (Nat → Int32) × Int32) => Q r u.1 u.2.1 u.2.2.1 u.2.2.2) (fun u t => va_P (dC, dI) vwCl (wM h dA u.1 owners u.2.1 rate u.2.2.1 u.2.2.2 drawn dug deep holes holeMany tape taped place reads read_ row order bestOrder nears isKept keptRoofs kept lanes rowSizes items moved) t.heap) (mA h)) ([.ref (h 0), .int x1] : List Value).toArray s 0 0 (mA h)) Q owners rate drawn dug deep holes holeMany tape taped place reads read_ row order bestOrder nears isKept keptRoofs kept lanes rowSizes items moved := fun r depths roofs undos undoMany H locs pc ls hq hP hS hd => W.iret hx hb hr (fun t ht hW => ⟨⟨r, (depths, roofs, undos, undoMany), rfl, hq, by subst ht; exact hP⟩, hS.F ht⟩) hS.2.2 hd
  unfold wX3_fill at hf
  refine lv_iload_n hx hb dX3_fill_0 rfl (lv_at hl 1 rfl) ?_
  refine cs_i (As := [.int x1]) (rest := []) S (metX3_isCell l hf) (lw_S q1264 q1265 q60 q1266) pdX3_isCell ⟨rfl, rfl⟩ ⟨Nat.le_of_ble_eq_true rfl, Nat.le_of_ble_eq_true rfl⟩ rfl hl.1 rfl (Nat.le_of_ble_eq_true rfl) dX3_fill_1 ⟨Nat.zero_le _, Nat.zero_le _⟩ (fun r_1 hf => ?_)
  refine lv_if_ne (tgt := 9) hx hb dX3_fill_4 (by decide) (fun c_4 => ?_) (fun c_4 => ?_)
  · replace hf := hf.2 c_4
    refine lv_aload_n hx hb dX3_fill_9 rfl (lv_at hl 0 rfl) ?_
    refine gM_depths S hK hP dX3_fill_10 ?_
    refine lv_iload_n hx hb dX3_fill_13 rfl (lv_at hl 1 rfl) ?_
    obtain ⟨hin, hf⟩ := hf
    refine lM_depths S hK hP hin dX3_fill_14 ?_
    refine lv_topi (fun x2_15 ex2_15 => ?_)
    replace hf := hf x2_15 ex2_15
    refine lv_istore_n (lv' := [(2, .int x2_15), (0, .ref (h 0)), (1, .int x1)]) hx hb dX3_fill_15 rfl hl (by decide) rfl (fun ls hl => ?_)
    refine lv_iload_n hx hb dX3_fill_16 rfl (lv_at hl 0 rfl) ?_
    refine lv_if_ne (tgt := 23) hx hb dX3_fill_17 (by decide) (fun c_17 => ?_) (fun c_17 => ?_)
    · replace hf := hf.2 c_17
      refine lv_aload_n hx hb dX3_fill_23 rfl (lv_at hl 1 rfl) ?_
      refine lv_iload_n hx hb dX3_fill_24 rfl (lv_at hl 2 rfl) ?_
      refine cM_v (As := [.int x1]) (rest := []) S hK rfl hP hS (metX3_note l hj hf) (lw_V q1271 q1273 qs25 q60 q1274) rfl pdX3_note ⟨rfl, rfl⟩ ⟨Nat.le_of_ble_eq_true rfl, Nat.le_of_ble_eq_true rfl⟩ rfl hl.1 rfl (Nat.le_of_ble_eq_true rfl) dX3_fill_25 ⟨Nat.zero_le _, Nat.zero_le _⟩ (fun u_25 H locs hf hP hS => ?_)
      obtain ⟨undos_25, undoMany_25⟩ := u_25
      replace hP : va_P (dC, dI) vwCl (wM h dA depths owners roofs rate undos_25 undoMany_25 drawn dug deep holes holeMany tape taped place reads read_ row order bestOrder nears isKept keptRoofs kept lanes rowSizes items moved) H := hP
      try dsimp only at hf
      refine lv_aload_n hx hb dX3_fill_28 rfl (lv_at hl 1 rfl) ?_
      refine lv_iload_n hx hb dX3_fill_29 rfl (lv_at hl 2 rfl) ?_
      refine lv_iconst (v := 0) hx hb dX3_fill_30 (by decide) ?_
      refine lv_iconst (v := 0) hx hb dX3_fill_31 (by decide) ?_
      refine cM_v (As := [.int x1, .int 0, .int 0]) (rest := []) S hK rfl hP hS (metX3_put l hj hf) (lw_V q1282 q1284 qs26 q60 q1285) rfl pdX3_put ⟨rfl, rfl⟩ ⟨Nat.le_of_ble_eq_true rfl, Nat.le_of_ble_eq_true rfl⟩ rfl hl.1 rfl (Nat.le_of_ble_eq_true rfl) dX3_fill_32 ⟨Nat.zero_le _, Nat.zero_le _⟩ (fun u_32 H locs hf hP hS => ?_)
      obtain ⟨depths_32, roofs_32⟩ := u_32
      replace hP : va_P (dC, dI) vwCl (wM h dA depths_32 owners roofs_32 rate undos_25 undoMany_25 drawn dug deep holes holeMany tape taped place reads read_ row order bestOrder nears isKept keptRoofs kept lanes rowSizes items moved) H := hP
      try dsimp only at hf
      refine lv_iload_n hx hb dX3_fill_35 rfl (lv_at hl 0 rfl) ?_
      exact hret _ _ _ _ _ _ _ _ _ hf hP hS dX3_fill_36
    · replace hf := hf.1 c_17
      refine lv_bipush (v := (-2)) hx hb dX3_fill_20 (by decide) ?_
      exact hret _ _ _ _ _ _ _ _ _ hf hP hS dX3_fill_22
  · replace hf := hf.1 c_4
    refine lv_iconst (v := (-1)) hx hb dX3_fill_7 (by decide) ?_
    exact hret _ _ _ _ _ _ _ _ _ hf hP hS dX3_fill_8
/-! HoleCountyModel.roof(I)I -/
theorem pdX3_roof : DscOk yX3_roof 1 := by decide +kernel
abbrev rmX3_roof : Room := { frames := 2, cells := 0, slots := 0, locals := 45 }
abbrev RX3_roof_ : Room := (headSpec (ws_ yX3_roof cX3_roof 2 (some .int)) rmX3_roof).room
section
variable {p : Program} {l : Launch} {e : Env} {s : State} {m : MethodId} {args : Array Value} {below : List Frame} {meth : Method} {c : Code} {Qw : State → Prop} {dC : Nat → ClassId} {dI : Nat → Nat → Nat} {dA : Nat → ClassId} {h : Nat → Nat}
abbrev hrX3_roof (p : Program) (l : Launch) (e : Env) (s : State) (m : MethodId) (args : Array Value) (below : List Frame) (meth : Method) (c : Code) (dC : Nat → ClassId) (dI : Nat → Nat → Nat) (dA : Nat → ClassId) (h : Nat → Nat) (Qw : State → Prop) (Q : Int32 → Int64 → (Nat → Int32) → Int32 → Prop) (depths : (Nat → Int32)) (owners : (Nat → Int32)) (rate : Int32) (drawn : Int32) (dug : Int64) (deep : Int64) (holes : (Nat → Int64)) (holeMany : Int32) (tape : (Nat → Int32)) (taped : Int32) (place : Int32) (reads : Int32) (read_ : (Nat → Int32)) (row : (Nat → Int32)) (order : (Nat → Int32)) (bestOrder : (Nat → Int32)) (nears : (Nat → Int32)) (isKept : Int32) (keptRoofs : Int64) (kept : (Nat → Int32)) (lanes : (Nat → Int32)) (rowSizes : (Nat → Int32)) (items : (Nat → Int64)) (moved : (Nat → Int64)) : Prop := ∀ (r : Int32) (roofs : Int64) (undos : (Nat → Int32)) (undoMany : Int32) (H : Heap) (locs : List Loc) (pc : Nat) (ls : Array Slot), Q r roofs undos undoMany → va_P (dC, dI) vwCl (wM h dA depths owners roofs rate undos undoMany drawn dug deep holes holeMany tape taped place reads read_ row order bestOrder nears isKept keptRoofs kept lanes rowSizes items moved) H → va_S (mA h) s.heap H locs → decode cX3_roof pc = .ok (.ireturn, 1) → W p l e RX3_roof_ s m args below meth c H locs 0 0 Qw (F0 m pc ls [.int r])
def wX3_roof (Q : Int32 → Int64 → (Nat → Int32) → Int32 → Prop) (depths : (Nat → Int32)) (roofs : Int64) (undos : (Nat → Int32)) (undoMany : Int32) (x1 : Int32) : Prop := (wX3_isCell (fun r_1 => ((r_1 = 0 → (Q (-1) roofs undos undoMany)) ∧ (¬ r_1 = 0 → (vp_in x1 36 ∧ (((depths (x1 : Int32).toNatClampNeg) = 0 → (Q (-2) roofs undos undoMany)) ∧ (¬ (depths (x1 : Int32).toNatClampNeg) = 0 → (wX3_note (fun undos_23 undoMany_23 => (∀ roofs_35 : Int64, roofs_35 = (roofs ^^^ (1 <<< ((x1 : Int32).toInt64 &&& 63))) → (wX3_has (fun r_43 => ((r_43 = 0 → (Q 0 roofs_35 undos_23 undoMany_23)) ∧ (¬ r_43 = 0 → (Q 1 roofs_35 undos_23 undoMany_23)))) roofs_35 x1))) depths roofs undos undoMany x1))))))) x1)
end
set_option maxHeartbeats 4000000 in
set_option maxRecDepth 100000 in
theorem metX3_roof (l : Launch) {Q : Int32 → Int64 → (Nat → Int32) → Int32 → Prop} {depths : (Nat → Int32)} {owners : (Nat → Int32)} {roofs : Int64} {rate : Int32} {undos : (Nat → Int32)} {undoMany : Int32} {drawn : Int32} {dug : Int64} {deep : Int64} {holes : (Nat → Int64)} {holeMany : Int32} {tape : (Nat → Int32)} {taped : Int32} {place : Int32} {reads : Int32} {read_ : (Nat → Int32)} {row : (Nat → Int32)} {order : (Nat → Int32)} {bestOrder : (Nat → Int32)} {nears : (Nat → Int32)} {isKept : Int32} {keptRoofs : Int64} {kept : (Nat → Int32)} {lanes : (Nat → Int32)} {rowSizes : (Nat → Int32)} {items : (Nat → Int64)} {moved : (Nat → Int64)} {x1 : Int32} {dC : Nat → ClassId} {dI : Nat → Nat → Nat} {dA : Nat → ClassId} {h : Nat → Nat} (hj : mJ h) (hf : wX3_roof Q depths roofs undos undoMany x1) : Met l yX3_roof (ws_ yX3_roof cX3_roof 2 (some .int)) rmX3_roof (mPc dC dI dA h [.int x1] (wM h dA depths owners roofs rate undos undoMany drawn dug deep holes holeMany tape taped place reads read_ row order bestOrder nears isKept keptRoofs kept lanes rowSizes items moved)) (va_Qi (fun (r : Int32) (u : Int64 × (Nat → Int32) × Int32) => Q r u.1 u.2.1 u.2.2) (fun u t => va_P (dC, dI) vwCl (wM h dA depths owners u.1 rate u.2.1 u.2.2 drawn dug deep holes holeMany tape taped place reads read_ row order bestOrder nears isKept keptRoofs kept lanes rowSizes items moved) t.heap) (mA h)) 0 0 (mA h) := by
  refine Met.ofW (cc := cX3_roof) (maxL := 2) (ret := (some .int)) (by decide) rfl ?_
  intro p e s m args below meth c s₁ B hml hv
  obtain ⟨rfl, hP, hK⟩ := hv
  have hx := B.exec
  have hb := B.bytes
  have hr := B.returns
  have hts := atoms_spec (ws := (ws_ yX3_roof cX3_roof 2 (some .int))) B.pre
  have hts : ∀ w ∈ lw_all, w.before _ s = true := fun w h => hts w (List.mem_cons_of_mem _ h)
  have hown : s.vm.findClass RX3 = some m.cls := findClass_of_methodNamed B.named
  have hlocks := B.notSynchronized
  have S : CallFix p m c cX3_roof 2 s _ lw_all RX3 := ⟨hx, hb, hml, hown, hts⟩
  have hS : va_S (mA h) s.heap s.heap [] := va_S.rf
  have hl := lv_entry ([.ref (h 0), .int x1]) (n := 2) (Nat.le_of_ble_eq_true rfl)
  rw [lg_entry_eq]
  generalize (lg_sl ([.ref (h 0), .int x1]) ++ List.replicate (2 - (lg_sl ([.ref (h 0), .int x1])).length) Slot.unset).toArray = ls at hl ⊢
  replace hl : lv_has ls 2 [(0, .ref (h 0)), (1, .int x1)] := hl
  have hret : hrX3_roof p l e s m ([.ref (h 0), .int x1] : List Value).toArray below meth c dC dI dA h (MQ below (va_Qi (fun (r : Int32) (u : Int64 × (Nat → Int32) × Int32) => Q r u.1 u.2.1 u.2.2) (fun u t => va_P (dC, dI) vwCl (wM h dA depths owners u.1 rate u.2.1 u.2.2 drawn dug deep holes holeMany tape taped place reads read_ row order bestOrder nears isKept keptRoofs kept lanes rowSizes items moved) t.heap) (mA h)) ([.ref (h 0), .int x1] : List Value).toArray s 0 0 (mA h)) Q depths owners rate drawn dug deep holes holeMany tape taped place reads read_ row order bestOrder nears isKept keptRoofs kept lanes rowSizes items moved := fun r roofs undos undoMany H locs pc ls hq hP hS hd => W.iret hx hb hr (fun t ht hW => ⟨⟨r, (roofs, undos, undoMany), rfl, hq, by subst ht; exact hP⟩, hS.F ht⟩) hS.2.2 hd
  unfold wX3_roof at hf
  refine lv_iload_n hx hb dX3_roof_0 rfl (lv_at hl 1 rfl) ?_
  refine cs_i (As := [.int x1]) (rest := []) S (metX3_isCell l hf) (lw_S q1264 q1265 q60 q1266) pdX3_isCell ⟨rfl, rfl⟩ ⟨Nat.le_of_ble_eq_true rfl, Nat.le_of_ble_eq_true rfl⟩ rfl hl.1 rfl (Nat.le_of_ble_eq_true rfl) dX3_roof_1 ⟨Nat.zero_le _, Nat.zero_le _⟩ (fun r_1 hf => ?_)
  refine lv_if_ne (tgt := 9) hx hb dX3_roof_4 (by decide) (fun c_4 => ?_) (fun c_4 => ?_)
  · replace hf := hf.2 c_4
    refine lv_aload_n hx hb dX3_roof_9 rfl (lv_at hl 0 rfl) ?_
    refine gM_depths S hK hP dX3_roof_10 ?_
    refine lv_iload_n hx hb dX3_roof_13 rfl (lv_at hl 1 rfl) ?_
    obtain ⟨hin, hf⟩ := hf
    refine lM_depths S hK hP hin dX3_roof_14 ?_
    refine lv_if_ne (tgt := 21) hx hb dX3_roof_15 (by decide) (fun c_15 => ?_) (fun c_15 => ?_)
    · replace hf := hf.2 c_15
      refine lv_aload_n hx hb dX3_roof_21 rfl (lv_at hl 0 rfl) ?_
      refine lv_iload_n hx hb dX3_roof_22 rfl (lv_at hl 1 rfl) ?_
      refine cM_v (As := [.int x1]) (rest := []) S hK rfl hP hS (metX3_note l hj hf) (lw_V q1271 q1273 qs25 q60 q1274) rfl pdX3_note ⟨rfl, rfl⟩ ⟨Nat.le_of_ble_eq_true rfl, Nat.le_of_ble_eq_true rfl⟩ rfl hl.1 rfl (Nat.le_of_ble_eq_true rfl) dX3_roof_23 ⟨Nat.zero_le _, Nat.zero_le _⟩ (fun u_23 H locs hf hP hS => ?_)
      obtain ⟨undos_23, undoMany_23⟩ := u_23
      replace hP : va_P (dC, dI) vwCl (wM h dA depths owners roofs rate undos_23 undoMany_23 drawn dug deep holes holeMany tape taped place reads read_ row order bestOrder nears isKept keptRoofs kept lanes rowSizes items moved) H := hP
      try dsimp only at hf
      refine lv_aload_n hx hb dX3_roof_26 rfl (lv_at hl 0 rfl) ?_
      refine lv_dup hx hb dX3_roof_27 rfl ?_
      refine gM_roofs S hK hP dX3_roof_28 ?_
      refine lv_lconst (v := 1) hx hb dX3_roof_31 (by decide) ?_
      refine lv_iload_n hx hb dX3_roof_32 rfl (lv_at hl 1 rfl) ?_
      refine lv_lshl (v := (1 <<< ((x1 : Int32).toInt64 &&& 63))) hx hb dX3_roof_33 rfl ?_
      refine lv_lxor hx hb dX3_roof_34 ?_
      refine lv_topl (fun roofs_35 eroofs_35 => ?_)
      replace hf := hf roofs_35 eroofs_35
      refine pM_roofs S hK hj hP hS dX3_roof_35 (fun H locs hP hS => ?_)
      refine lv_aload_n hx hb dX3_roof_38 rfl (lv_at hl 0 rfl) ?_
      refine gM_roofs S hK hP dX3_roof_39 ?_
      refine lv_iload_n hx hb dX3_roof_42 rfl (lv_at hl 1 rfl) ?_
      refine cs_i (As := [.long roofs_35, .int x1]) (rest := []) S (metX3_has l hf) (lw_S q1275 q1276 q60 q1277) pdX3_has ⟨rfl, rfl⟩ ⟨Nat.le_of_ble_eq_true rfl, Nat.le_of_ble_eq_true rfl⟩ rfl hl.1 rfl (Nat.le_of_ble_eq_true rfl) dX3_roof_43 ⟨Nat.zero_le _, Nat.zero_le _⟩ (fun r_43 hf => ?_)
      refine lv_if_eq (tgt := 53) hx hb dX3_roof_46 (by decide) (fun c_46 => ?_) (fun c_46 => ?_)
      · replace hf := hf.1 c_46
        refine lv_iconst (v := 0) hx hb dX3_roof_53 (by decide) ?_
        exact hret _ _ _ _ _ _ _ _ hf hP hS dX3_roof_54
      · replace hf := hf.2 c_46
        refine lv_iconst (v := 1) hx hb dX3_roof_49 (by decide) ?_
        refine lv_goto (tgt := 54) hx hb dX3_roof_50 (by decide) ?_
        exact hret _ _ _ _ _ _ _ _ hf hP hS dX3_roof_54
    · replace hf := hf.1 c_15
      refine lv_bipush (v := (-2)) hx hb dX3_roof_18 (by decide) ?_
      exact hret _ _ _ _ _ _ _ _ hf hP hS dX3_roof_20
  · replace hf := hf.1 c_4
    refine lv_iconst (v := (-1)) hx hb dX3_roof_7 (by decide) ?_
    exact hret _ _ _ _ _ _ _ _ hf hP hS dX3_roof_8
/-! HoleCountyModel.undo()I -/
theorem pdX3_undo : DscOk yX3_undo 0 := by decide +kernel
abbrev rmX3_undo : Room := { frames := 1, cells := 0, slots := 0, locals := 23 }
abbrev RX3_undo_ : Room := (headSpec (ws_ yX3_undo cX3_undo 1 (some .int)) rmX3_undo).room
section
variable {p : Program} {l : Launch} {e : Env} {s : State} {m : MethodId} {args : Array Value} {below : List Frame} {meth : Method} {c : Code} {Qw : State → Prop} {dC : Nat → ClassId} {dI : Nat → Nat → Nat} {dA : Nat → ClassId} {h : Nat → Nat}
abbrev hrX3_undo (p : Program) (l : Launch) (e : Env) (s : State) (m : MethodId) (args : Array Value) (below : List Frame) (meth : Method) (c : Code) (dC : Nat → ClassId) (dI : Nat → Nat → Nat) (dA : Nat → ClassId) (h : Nat → Nat) (Qw : State → Prop) (Q : Int32 → (Nat → Int32) → Int64 → Int32 → Prop) (owners : (Nat → Int32)) (rate : Int32) (undos : (Nat → Int32)) (drawn : Int32) (dug : Int64) (deep : Int64) (holes : (Nat → Int64)) (holeMany : Int32) (tape : (Nat → Int32)) (taped : Int32) (place : Int32) (reads : Int32) (read_ : (Nat → Int32)) (row : (Nat → Int32)) (order : (Nat → Int32)) (bestOrder : (Nat → Int32)) (nears : (Nat → Int32)) (isKept : Int32) (keptRoofs : Int64) (kept : (Nat → Int32)) (lanes : (Nat → Int32)) (rowSizes : (Nat → Int32)) (items : (Nat → Int64)) (moved : (Nat → Int64)) : Prop := ∀ (r : Int32) (depths : (Nat → Int32)) (roofs : Int64) (undoMany : Int32) (H : Heap) (locs : List Loc) (pc : Nat) (ls : Array Slot), Q r depths roofs undoMany → va_P (dC, dI) vwCl (wM h dA depths owners roofs rate undos undoMany drawn dug deep holes holeMany tape taped place reads read_ row order bestOrder nears isKept keptRoofs kept lanes rowSizes items moved) H → va_S (mA h) s.heap H locs → decode cX3_undo pc = .ok (.ireturn, 1) → W p l e RX3_undo_ s m args below meth c H locs 0 0 Qw (F0 m pc ls [.int r])
def wX3_undo_67 (Q : Int32 → (Nat → Int32) → Int64 → Int32 → Prop) (z0 : Int32) (z1 : Int32) (z2 : Int32) (depths : (Nat → Int32)) (roofs : Int64) (undos : (Nat → Int32)) (undoMany : Int32) : Prop := (wX3_put (fun depths_67 roofs_67 => (Q undoMany depths_67 roofs_67 undoMany)) depths roofs z2 z1 z0)
set_option maxHeartbeats 4000000 in
set_option maxRecDepth 100000 in
theorem tX3_undo_67 {Q : Int32 → (Nat → Int32) → Int64 → Int32 → Prop} {owners : (Nat → Int32)} {rate : Int32} {undos : (Nat → Int32)} {drawn : Int32} {dug : Int64} {deep : Int64} {holes : (Nat → Int64)} {holeMany : Int32} {tape : (Nat → Int32)} {taped : Int32} {place : Int32} {reads : Int32} {read_ : (Nat → Int32)} {row : (Nat → Int32)} {order : (Nat → Int32)} {bestOrder : (Nat → Int32)} {nears : (Nat → Int32)} {isKept : Int32} {keptRoofs : Int64} {kept : (Nat → Int32)} {lanes : (Nat → Int32)} {rowSizes : (Nat → Int32)} {items : (Nat → Int64)} {moved : (Nat → Int64)} (S : CallFix p m c cX3_undo 1 s args lw_all RX3) (hK : va_K (dC, dI) vwCl (tysG dA) s) (hj : mJ h) (hret : hrX3_undo p l e s m args below meth c dC dI dA h Qw Q owners rate undos drawn dug deep holes holeMany tape taped place reads read_ row order bestOrder nears isKept keptRoofs kept lanes rowSizes items moved) : ∀ (z0 : Int32) (z1 : Int32) (z2 : Int32) (depths : (Nat → Int32)) (roofs : Int64) (undoMany : Int32) (H : Heap) (locs : List Loc) (ls : Array Slot), wX3_undo_67 Q z0 z1 z2 depths roofs undos undoMany → va_P (dC, dI) vwCl (wM h dA depths owners roofs rate undos undoMany drawn dug deep holes holeMany tape taped place reads read_ row order bestOrder nears isKept keptRoofs kept lanes rowSizes items moved) H → va_S (mA h) s.heap H locs → lv_has ls 1 [(0, .ref (h 0))] → W p l e RX3_undo_ s m args below meth c H locs 0 0 Qw (F0 m 67 ls [.int z0, .int z1, .int z2, .ref (h 0)]) := by
  obtain ⟨hx, hb, hml, hown, hts⟩ := id S
  intro z0 z1 z2 depths roofs undoMany H locs ls hf hP hS hl
  unfold wX3_undo_67 at hf
  refine cM_v (As := [.int z2, .int z1, .int z0]) (rest := []) S hK rfl hP hS (metX3_put l hj hf) (lw_V q1282 q1284 qs26 q60 q1285) rfl pdX3_put ⟨rfl, rfl⟩ ⟨Nat.le_of_ble_eq_true rfl, Nat.le_of_ble_eq_true rfl⟩ rfl hl.1 rfl (Nat.le_of_ble_eq_true rfl) dX3_undo_67 ⟨Nat.zero_le _, Nat.zero_le _⟩ (fun u_67 H locs hf hP hS => ?_)
  obtain ⟨depths_67, roofs_67⟩ := u_67
  replace hP : va_P (dC, dI) vwCl (wM h dA depths_67 owners roofs_67 rate undos undoMany drawn dug deep holes holeMany tape taped place reads read_ row order bestOrder nears isKept keptRoofs kept lanes rowSizes items moved) H := hP
  try dsimp only at hf
  refine lv_aload_n hx hb dX3_undo_70 rfl (lv_at hl 0 rfl) ?_
  refine gM_undoMany S hK hP dX3_undo_71 ?_
  exact hret _ _ _ _ _ _ _ _ hf hP hS dX3_undo_74
def wX3_undo (Q : Int32 → (Nat → Int32) → Int64 → Int32 → Prop) (depths : (Nat → Int32)) (roofs : Int64) (undos : (Nat → Int32)) (undoMany : Int32) : Prop := ((undoMany = 0 → (Q (-4) depths roofs undoMany)) ∧ (¬ undoMany = 0 → (∀ undoMany_17 : Int32, undoMany_17 = (undoMany - 1) → (vp_in (3 * undoMany_17) 30 ∧ (vp_in ((3 * undoMany_17) + 1) 30 ∧ (vp_in ((3 * undoMany_17) + 2) 30 ∧ (((undos (((3 * undoMany_17) + 2) : Int32).toNatClampNeg) = 1 → (wX3_undo_67 Q 1 (undos (((3 * undoMany_17) + 1) : Int32).toNatClampNeg) (undos ((3 * undoMany_17) : Int32).toNatClampNeg) depths roofs undos undoMany_17)) ∧ (¬ (undos (((3 * undoMany_17) + 2) : Int32).toNatClampNeg) = 1 → (wX3_undo_67 Q 0 (undos (((3 * undoMany_17) + 1) : Int32).toNatClampNeg) (undos ((3 * undoMany_17) : Int32).toNatClampNeg) depths roofs undos undoMany_17)))))))))
end
set_option maxHeartbeats 4000000 in
set_option maxRecDepth 100000 in
theorem metX3_undo (l : Launch) {Q : Int32 → (Nat → Int32) → Int64 → Int32 → Prop} {depths : (Nat → Int32)} {owners : (Nat → Int32)} {roofs : Int64} {rate : Int32} {undos : (Nat → Int32)} {undoMany : Int32} {drawn : Int32} {dug : Int64} {deep : Int64} {holes : (Nat → Int64)} {holeMany : Int32} {tape : (Nat → Int32)} {taped : Int32} {place : Int32} {reads : Int32} {read_ : (Nat → Int32)} {row : (Nat → Int32)} {order : (Nat → Int32)} {bestOrder : (Nat → Int32)} {nears : (Nat → Int32)} {isKept : Int32} {keptRoofs : Int64} {kept : (Nat → Int32)} {lanes : (Nat → Int32)} {rowSizes : (Nat → Int32)} {items : (Nat → Int64)} {moved : (Nat → Int64)} {dC : Nat → ClassId} {dI : Nat → Nat → Nat} {dA : Nat → ClassId} {h : Nat → Nat} (hj : mJ h) (hf : wX3_undo Q depths roofs undos undoMany) : Met l yX3_undo (ws_ yX3_undo cX3_undo 1 (some .int)) rmX3_undo (mPc dC dI dA h [] (wM h dA depths owners roofs rate undos undoMany drawn dug deep holes holeMany tape taped place reads read_ row order bestOrder nears isKept keptRoofs kept lanes rowSizes items moved)) (va_Qi (fun (r : Int32) (u : (Nat → Int32) × Int64 × Int32) => Q r u.1 u.2.1 u.2.2) (fun u t => va_P (dC, dI) vwCl (wM h dA u.1 owners u.2.1 rate undos u.2.2 drawn dug deep holes holeMany tape taped place reads read_ row order bestOrder nears isKept keptRoofs kept lanes rowSizes items moved) t.heap) (mA h)) 0 0 (mA h) := by
  refine Met.ofW (cc := cX3_undo) (maxL := 1) (ret := (some .int)) (by decide) rfl ?_
  intro p e s m args below meth c s₁ B hml hv
  obtain ⟨rfl, hP, hK⟩ := hv
  have hx := B.exec
  have hb := B.bytes
  have hr := B.returns
  have hts := atoms_spec (ws := (ws_ yX3_undo cX3_undo 1 (some .int))) B.pre
  have hts : ∀ w ∈ lw_all, w.before _ s = true := fun w h => hts w (List.mem_cons_of_mem _ h)
  have hown : s.vm.findClass RX3 = some m.cls := findClass_of_methodNamed B.named
  have hlocks := B.notSynchronized
  have S : CallFix p m c cX3_undo 1 s _ lw_all RX3 := ⟨hx, hb, hml, hown, hts⟩
  have hS : va_S (mA h) s.heap s.heap [] := va_S.rf
  have hl := lv_entry ([.ref (h 0)]) (n := 1) (Nat.le_of_ble_eq_true rfl)
  rw [lg_entry_eq]
  generalize (lg_sl ([.ref (h 0)]) ++ List.replicate (1 - (lg_sl ([.ref (h 0)])).length) Slot.unset).toArray = ls at hl ⊢
  replace hl : lv_has ls 1 [(0, .ref (h 0))] := hl
  have hret : hrX3_undo p l e s m ([.ref (h 0)] : List Value).toArray below meth c dC dI dA h (MQ below (va_Qi (fun (r : Int32) (u : (Nat → Int32) × Int64 × Int32) => Q r u.1 u.2.1 u.2.2) (fun u t => va_P (dC, dI) vwCl (wM h dA u.1 owners u.2.1 rate undos u.2.2 drawn dug deep holes holeMany tape taped place reads read_ row order bestOrder nears isKept keptRoofs kept lanes rowSizes items moved) t.heap) (mA h)) ([.ref (h 0)] : List Value).toArray s 0 0 (mA h)) Q owners rate undos drawn dug deep holes holeMany tape taped place reads read_ row order bestOrder nears isKept keptRoofs kept lanes rowSizes items moved := fun r depths roofs undoMany H locs pc ls hq hP hS hd => W.iret hx hb hr (fun t ht hW => ⟨⟨r, (depths, roofs, undoMany), rfl, hq, by subst ht; exact hP⟩, hS.F ht⟩) hS.2.2 hd
  unfold wX3_undo at hf
  refine lv_aload_n hx hb dX3_undo_0 rfl (lv_at hl 0 rfl) ?_
  refine gM_undoMany S hK hP dX3_undo_1 ?_
  refine lv_if_ne (tgt := 10) hx hb dX3_undo_4 (by decide) (fun c_4 => ?_) (fun c_4 => ?_)
  · replace hf := hf.2 c_4
    refine lv_aload_n hx hb dX3_undo_10 rfl (lv_at hl 0 rfl) ?_
    refine lv_dup hx hb dX3_undo_11 rfl ?_
    refine gM_undoMany S hK hP dX3_undo_12 ?_
    refine lv_iconst (v := 1) hx hb dX3_undo_15 (by decide) ?_
    refine lv_isub hx hb dX3_undo_16 ?_
    refine lv_topi (fun undoMany_17 eundoMany_17 => ?_)
    replace hf := hf undoMany_17 eundoMany_17
    refine pM_undoMany S hK hj hP hS dX3_undo_17 (fun H locs hP hS => ?_)
    refine lv_aload_n hx hb dX3_undo_20 rfl (lv_at hl 0 rfl) ?_
    refine lv_aload_n hx hb dX3_undo_21 rfl (lv_at hl 0 rfl) ?_
    refine gM_undos S hK hP dX3_undo_22 ?_
    refine lv_iconst (v := 3) hx hb dX3_undo_25 (by decide) ?_
    refine lv_aload_n hx hb dX3_undo_26 rfl (lv_at hl 0 rfl) ?_
    refine gM_undoMany S hK hP dX3_undo_27 ?_
    refine lv_imul hx hb dX3_undo_30 ?_
    obtain ⟨hin, hf⟩ := hf
    refine lM_undos S hK hP hin dX3_undo_31 ?_
    refine lv_aload_n hx hb dX3_undo_32 rfl (lv_at hl 0 rfl) ?_
    refine gM_undos S hK hP dX3_undo_33 ?_
    refine lv_iconst (v := 3) hx hb dX3_undo_36 (by decide) ?_
    refine lv_aload_n hx hb dX3_undo_37 rfl (lv_at hl 0 rfl) ?_
    refine gM_undoMany S hK hP dX3_undo_38 ?_
    refine lv_imul hx hb dX3_undo_41 ?_
    refine lv_iconst (v := 1) hx hb dX3_undo_42 (by decide) ?_
    refine lv_iadd hx hb dX3_undo_43 ?_
    obtain ⟨hin, hf⟩ := hf
    refine lM_undos S hK hP hin dX3_undo_44 ?_
    refine lv_aload_n hx hb dX3_undo_45 rfl (lv_at hl 0 rfl) ?_
    refine gM_undos S hK hP dX3_undo_46 ?_
    refine lv_iconst (v := 3) hx hb dX3_undo_49 (by decide) ?_
    refine lv_aload_n hx hb dX3_undo_50 rfl (lv_at hl 0 rfl) ?_
    refine gM_undoMany S hK hP dX3_undo_51 ?_
    refine lv_imul hx hb dX3_undo_54 ?_
    refine lv_iconst (v := 2) hx hb dX3_undo_55 (by decide) ?_
    refine lv_iadd hx hb dX3_undo_56 ?_
    obtain ⟨hin, hf⟩ := hf
    refine lM_undos S hK hP hin dX3_undo_57 ?_
    refine lv_iconst (v := 1) hx hb dX3_undo_58 (by decide) ?_
    refine lv_icmp_ne (tgt := 66) hx hb dX3_undo_59 (by decide) (fun c_59 => ?_) (fun c_59 => ?_)
    · replace hf := hf.2 c_59
      refine lv_iconst (v := 0) hx hb dX3_undo_66 (by decide) ?_
      exact tX3_undo_67 S hK hj hret 0 (undos (((3 * undoMany_17) + 1) : Int32).toNatClampNeg) (undos ((3 * undoMany_17) : Int32).toNatClampNeg) depths roofs undoMany_17 _ _ _ hf hP hS (lv_sub hl [0] rfl)
    · replace hf := hf.1 c_59
      refine lv_iconst (v := 1) hx hb dX3_undo_62 (by decide) ?_
      refine lv_goto (tgt := 67) hx hb dX3_undo_63 (by decide) ?_
      exact tX3_undo_67 S hK hj hret 1 (undos (((3 * undoMany_17) + 1) : Int32).toNatClampNeg) (undos ((3 * undoMany_17) : Int32).toNatClampNeg) depths roofs undoMany_17 _ _ _ hf hP hS (lv_sub hl [0] rfl)
  · replace hf := hf.1 c_4
    refine lv_bipush (v := (-4)) hx hb dX3_undo_7 (by decide) ?_
    exact hret _ _ _ _ _ _ _ _ hf hP hS dX3_undo_9
/-! HoleCountyModel.own(II)I -/
theorem pdX3_own : DscOk yX3_own 2 := by decide +kernel
abbrev rmX3_own : Room := { frames := 2, cells := 0, slots := 0, locals := 45 }
abbrev RX3_own_ : Room := (headSpec (ws_ yX3_own cX3_own 4 (some .int)) rmX3_own).room
section
variable {p : Program} {l : Launch} {e : Env} {s : State} {m : MethodId} {args : Array Value} {below : List Frame} {meth : Method} {c : Code} {Qw : State → Prop} {dC : Nat → ClassId} {dI : Nat → Nat → Nat} {dA : Nat → ClassId} {h : Nat → Nat}
abbrev hrX3_own (p : Program) (l : Launch) (e : Env) (s : State) (m : MethodId) (args : Array Value) (below : List Frame) (meth : Method) (c : Code) (dC : Nat → ClassId) (dI : Nat → Nat → Nat) (dA : Nat → ClassId) (h : Nat → Nat) (Qw : State → Prop) (Q : Int32 → (Nat → Int32) → Prop) (depths : (Nat → Int32)) (roofs : Int64) (rate : Int32) (undos : (Nat → Int32)) (undoMany : Int32) (drawn : Int32) (dug : Int64) (deep : Int64) (holes : (Nat → Int64)) (holeMany : Int32) (tape : (Nat → Int32)) (taped : Int32) (place : Int32) (reads : Int32) (read_ : (Nat → Int32)) (row : (Nat → Int32)) (order : (Nat → Int32)) (bestOrder : (Nat → Int32)) (nears : (Nat → Int32)) (isKept : Int32) (keptRoofs : Int64) (kept : (Nat → Int32)) (lanes : (Nat → Int32)) (rowSizes : (Nat → Int32)) (items : (Nat → Int64)) (moved : (Nat → Int64)) : Prop := ∀ (r : Int32) (owners : (Nat → Int32)) (H : Heap) (locs : List Loc) (pc : Nat) (ls : Array Slot), Q r owners → va_P (dC, dI) vwCl (wM h dA depths owners roofs rate undos undoMany drawn dug deep holes holeMany tape taped place reads read_ row order bestOrder nears isKept keptRoofs kept lanes rowSizes items moved) H → va_S (mA h) s.heap H locs → decode cX3_own pc = .ok (.ireturn, 1) → W p l e RX3_own_ s m args below meth c H locs 0 0 Qw (F0 m pc ls [.int r])
def wX3_own (Q : Int32 → (Nat → Int32) → Prop) (owners : (Nat → Int32)) (x1 : Int32) (x2 : Int32) : Prop := (wX3_isCell (fun r_1 => ((r_1 = 0 → (Q (-1) owners)) ∧ (¬ r_1 = 0 → (wX3_in (fun r_13 => ((r_13 = 0 → (Q (-1) owners)) ∧ (¬ r_13 = 0 → (vp_in x1 36 ∧ (∀ x3_27 : Int32, x3_27 = (owners (x1 : Int32).toNatClampNeg) → (vp_in x1 36 ∧ (∀ owners_34 : Nat → Int32, owners_34 = upd owners (x1 : Int32).toNatClampNeg x2 → (Q x3_27 owners_34)))))))) ((x2 : Int32).toInt64) 0 4)))) x1)
end
set_option maxHeartbeats 4000000 in
set_option maxRecDepth 100000 in
theorem metX3_own (l : Launch) {Q : Int32 → (Nat → Int32) → Prop} {depths : (Nat → Int32)} {owners : (Nat → Int32)} {roofs : Int64} {rate : Int32} {undos : (Nat → Int32)} {undoMany : Int32} {drawn : Int32} {dug : Int64} {deep : Int64} {holes : (Nat → Int64)} {holeMany : Int32} {tape : (Nat → Int32)} {taped : Int32} {place : Int32} {reads : Int32} {read_ : (Nat → Int32)} {row : (Nat → Int32)} {order : (Nat → Int32)} {bestOrder : (Nat → Int32)} {nears : (Nat → Int32)} {isKept : Int32} {keptRoofs : Int64} {kept : (Nat → Int32)} {lanes : (Nat → Int32)} {rowSizes : (Nat → Int32)} {items : (Nat → Int64)} {moved : (Nat → Int64)} {x1 : Int32} {x2 : Int32} {dC : Nat → ClassId} {dI : Nat → Nat → Nat} {dA : Nat → ClassId} {h : Nat → Nat} (hj : mJ h) (hf : wX3_own Q owners x1 x2) : Met l yX3_own (ws_ yX3_own cX3_own 4 (some .int)) rmX3_own (mPc dC dI dA h [.int x1, .int x2] (wM h dA depths owners roofs rate undos undoMany drawn dug deep holes holeMany tape taped place reads read_ row order bestOrder nears isKept keptRoofs kept lanes rowSizes items moved)) (va_Qi (fun (r : Int32) (u : (Nat → Int32)) => Q r u) (fun u t => va_P (dC, dI) vwCl (wM h dA depths u roofs rate undos undoMany drawn dug deep holes holeMany tape taped place reads read_ row order bestOrder nears isKept keptRoofs kept lanes rowSizes items moved) t.heap) (mA h)) 0 0 (mA h) := by
  refine Met.ofW (cc := cX3_own) (maxL := 4) (ret := (some .int)) (by decide) rfl ?_
  intro p e s m args below meth c s₁ B hml hv
  obtain ⟨rfl, hP, hK⟩ := hv
  have hx := B.exec
  have hb := B.bytes
  have hr := B.returns
  have hts := atoms_spec (ws := (ws_ yX3_own cX3_own 4 (some .int))) B.pre
  have hts : ∀ w ∈ lw_all, w.before _ s = true := fun w h => hts w (List.mem_cons_of_mem _ h)
  have hown : s.vm.findClass RX3 = some m.cls := findClass_of_methodNamed B.named
  have hlocks := B.notSynchronized
  have S : CallFix p m c cX3_own 4 s _ lw_all RX3 := ⟨hx, hb, hml, hown, hts⟩
  have hS : va_S (mA h) s.heap s.heap [] := va_S.rf
  have hl := lv_entry ([.ref (h 0), .int x1, .int x2]) (n := 4) (Nat.le_of_ble_eq_true rfl)
  rw [lg_entry_eq]
  generalize (lg_sl ([.ref (h 0), .int x1, .int x2]) ++ List.replicate (4 - (lg_sl ([.ref (h 0), .int x1, .int x2])).length) Slot.unset).toArray = ls at hl ⊢
  replace hl : lv_has ls 4 [(0, .ref (h 0)), (1, .int x1), (2, .int x2)] := hl
  have hret : hrX3_own p l e s m ([.ref (h 0), .int x1, .int x2] : List Value).toArray below meth c dC dI dA h (MQ below (va_Qi (fun (r : Int32) (u : (Nat → Int32)) => Q r u) (fun u t => va_P (dC, dI) vwCl (wM h dA depths u roofs rate undos undoMany drawn dug deep holes holeMany tape taped place reads read_ row order bestOrder nears isKept keptRoofs kept lanes rowSizes items moved) t.heap) (mA h)) ([.ref (h 0), .int x1, .int x2] : List Value).toArray s 0 0 (mA h)) Q depths roofs rate undos undoMany drawn dug deep holes holeMany tape taped place reads read_ row order bestOrder nears isKept keptRoofs kept lanes rowSizes items moved := fun r owners H locs pc ls hq hP hS hd => W.iret hx hb hr (fun t ht hW => ⟨⟨r, owners, rfl, hq, by subst ht; exact hP⟩, hS.F ht⟩) hS.2.2 hd
  unfold wX3_own at hf
  refine lv_iload_n hx hb dX3_own_0 rfl (lv_at hl 1 rfl) ?_
  refine cs_i (As := [.int x1]) (rest := []) S (metX3_isCell l hf) (lw_S q1264 q1265 q60 q1266) pdX3_isCell ⟨rfl, rfl⟩ ⟨Nat.le_of_ble_eq_true rfl, Nat.le_of_ble_eq_true rfl⟩ rfl hl.1 rfl (Nat.le_of_ble_eq_true rfl) dX3_own_1 ⟨Nat.zero_le _, Nat.zero_le _⟩ (fun r_1 hf => ?_)
  refine lv_if_eq (tgt := 19) hx hb dX3_own_4 (by decide) (fun c_4 => ?_) (fun c_4 => ?_)
  · replace hf := hf.1 c_4
    refine lv_iconst (v := (-1)) hx hb dX3_own_19 (by decide) ?_
    exact hret _ _ _ _ _ _ hf hP hS dX3_own_20
  · replace hf := hf.2 c_4
    refine lv_iload_n hx hb dX3_own_7 rfl (lv_at hl 2 rfl) ?_
    refine lv_i2l (v := (x2 : Int32).toInt64) hx hb dX3_own_8 rfl ?_
    refine lv_lconst (v := 0) hx hb dX3_own_9 (by decide) ?_
    refine lv_ldc2 (v := 4) hx hb hown (hts _ q1299) dX3_own_10 ?_
    refine cs_i (As := [.long (x2 : Int32).toInt64, .long 0, .long 4]) (rest := []) S (metX3_in l hf) (lw_S q1268 q1269 q60 q1270) pdX3_in ⟨rfl, rfl⟩ ⟨Nat.le_of_ble_eq_true rfl, Nat.le_of_ble_eq_true rfl⟩ rfl hl.1 rfl (Nat.le_of_ble_eq_true rfl) dX3_own_13 ⟨Nat.zero_le _, Nat.zero_le _⟩ (fun r_13 hf => ?_)
    refine lv_if_ne (tgt := 21) hx hb dX3_own_16 (by decide) (fun c_16 => ?_) (fun c_16 => ?_)
    · replace hf := hf.2 c_16
      refine lv_aload_n hx hb dX3_own_21 rfl (lv_at hl 0 rfl) ?_
      refine gM_owners S hK hP dX3_own_22 ?_
      refine lv_iload_n hx hb dX3_own_25 rfl (lv_at hl 1 rfl) ?_
      obtain ⟨hin, hf⟩ := hf
      refine lM_owners S hK hP hin dX3_own_26 ?_
      refine lv_topi (fun x3_27 ex3_27 => ?_)
      replace hf := hf x3_27 ex3_27
      refine lv_istore_n (lv' := [(3, .int x3_27), (0, .ref (h 0)), (1, .int x1), (2, .int x2)]) hx hb dX3_own_27 rfl hl (by decide) rfl (fun ls hl => ?_)
      refine lv_aload_n hx hb dX3_own_28 rfl (lv_at hl 1 rfl) ?_
      refine gM_owners S hK hP dX3_own_29 ?_
      refine lv_iload_n hx hb dX3_own_32 rfl (lv_at hl 2 rfl) ?_
      refine lv_iload_n hx hb dX3_own_33 rfl (lv_at hl 3 rfl) ?_
      obtain ⟨hin, hf⟩ := hf
      obtain ⟨owners_34, eowners_34⟩ : ∃ z : Nat → Int32, z = upd owners (x1 : Int32).toNatClampNeg x2 := ⟨_, rfl⟩
      replace hf := hf owners_34 eowners_34
      refine sM_owners S hK hj hP hS hin eowners_34 dX3_own_34 (fun H locs hP hS => ?_)
      refine lv_iload_n hx hb dX3_own_35 rfl (lv_at hl 0 rfl) ?_
      exact hret _ _ _ _ _ _ hf hP hS dX3_own_36
    · replace hf := hf.1 c_16
      refine lv_iconst (v := (-1)) hx hb dX3_own_19 (by decide) ?_
      exact hret _ _ _ _ _ _ hf hP hS dX3_own_20
/-! HoleCountyModel.rate(I)I -/
theorem pdX3_rate : DscOk yX3_rate 1 := by decide +kernel
abbrev rmX3_rate : Room := { frames := 1, cells := 0, slots := 0, locals := 25 }
abbrev RX3_rate_ : Room := (headSpec (ws_ yX3_rate cX3_rate 3 (some .int)) rmX3_rate).room
section
variable {p : Program} {l : Launch} {e : Env} {s : State} {m : MethodId} {args : Array Value} {below : List Frame} {meth : Method} {c : Code} {Qw : State → Prop} {dC : Nat → ClassId} {dI : Nat → Nat → Nat} {dA : Nat → ClassId} {h : Nat → Nat}
abbrev hrX3_rate (p : Program) (l : Launch) (e : Env) (s : State) (m : MethodId) (args : Array Value) (below : List Frame) (meth : Method) (c : Code) (dC : Nat → ClassId) (dI : Nat → Nat → Nat) (dA : Nat → ClassId) (h : Nat → Nat) (Qw : State → Prop) (Q : Int32 → Int32 → Prop) (depths : (Nat → Int32)) (owners : (Nat → Int32)) (roofs : Int64) (undos : (Nat → Int32)) (undoMany : Int32) (drawn : Int32) (dug : Int64) (deep : Int64) (holes : (Nat → Int64)) (holeMany : Int32) (tape : (Nat → Int32)) (taped : Int32) (place : Int32) (reads : Int32) (read_ : (Nat → Int32)) (row : (Nat → Int32)) (order : (Nat → Int32)) (bestOrder : (Nat → Int32)) (nears : (Nat → Int32)) (isKept : Int32) (keptRoofs : Int64) (kept : (Nat → Int32)) (lanes : (Nat → Int32)) (rowSizes : (Nat → Int32)) (items : (Nat → Int64)) (moved : (Nat → Int64)) : Prop := ∀ (r : Int32) (rate : Int32) (H : Heap) (locs : List Loc) (pc : Nat) (ls : Array Slot), Q r rate → va_P (dC, dI) vwCl (wM h dA depths owners roofs rate undos undoMany drawn dug deep holes holeMany tape taped place reads read_ row order bestOrder nears isKept keptRoofs kept lanes rowSizes items moved) H → va_S (mA h) s.heap H locs → decode cX3_rate pc = .ok (.ireturn, 1) → W p l e RX3_rate_ s m args below meth c H locs 0 0 Qw (F0 m pc ls [.int r])
def wX3_rate (Q : Int32 → Int32 → Prop) (rate : Int32) (x1 : Int32) : Prop := (wX3_in (fun r_6 => ((r_6 = 0 → (Q (-1) rate)) ∧ (¬ r_6 = 0 → (Q rate x1)))) ((x1 : Int32).toInt64) 0 99)
end
set_option maxHeartbeats 4000000 in
set_option maxRecDepth 100000 in
theorem metX3_rate (l : Launch) {Q : Int32 → Int32 → Prop} {depths : (Nat → Int32)} {owners : (Nat → Int32)} {roofs : Int64} {rate : Int32} {undos : (Nat → Int32)} {undoMany : Int32} {drawn : Int32} {dug : Int64} {deep : Int64} {holes : (Nat → Int64)} {holeMany : Int32} {tape : (Nat → Int32)} {taped : Int32} {place : Int32} {reads : Int32} {read_ : (Nat → Int32)} {row : (Nat → Int32)} {order : (Nat → Int32)} {bestOrder : (Nat → Int32)} {nears : (Nat → Int32)} {isKept : Int32} {keptRoofs : Int64} {kept : (Nat → Int32)} {lanes : (Nat → Int32)} {rowSizes : (Nat → Int32)} {items : (Nat → Int64)} {moved : (Nat → Int64)} {x1 : Int32} {dC : Nat → ClassId} {dI : Nat → Nat → Nat} {dA : Nat → ClassId} {h : Nat → Nat} (hj : mJ h) (hf : wX3_rate Q rate x1) : Met l yX3_rate (ws_ yX3_rate cX3_rate 3 (some .int)) rmX3_rate (mPc dC dI dA h [.int x1] (wM h dA depths owners roofs rate undos undoMany drawn dug deep holes holeMany tape taped place reads read_ row order bestOrder nears isKept keptRoofs kept lanes rowSizes items moved)) (va_Qi (fun (r : Int32) (u : Int32) => Q r u) (fun u t => va_P (dC, dI) vwCl (wM h dA depths owners roofs u undos undoMany drawn dug deep holes holeMany tape taped place reads read_ row order bestOrder nears isKept keptRoofs kept lanes rowSizes items moved) t.heap) (mA h)) 0 0 (mA h) := by
  refine Met.ofW (cc := cX3_rate) (maxL := 3) (ret := (some .int)) (by decide) rfl ?_
  intro p e s m args below meth c s₁ B hml hv
  obtain ⟨rfl, hP, hK⟩ := hv
  have hx := B.exec
  have hb := B.bytes
  have hr := B.returns
  have hts := atoms_spec (ws := (ws_ yX3_rate cX3_rate 3 (some .int))) B.pre
  have hts : ∀ w ∈ lw_all, w.before _ s = true := fun w h => hts w (List.mem_cons_of_mem _ h)
  have hown : s.vm.findClass RX3 = some m.cls := findClass_of_methodNamed B.named
  have hlocks := B.notSynchronized
  have S : CallFix p m c cX3_rate 3 s _ lw_all RX3 := ⟨hx, hb, hml, hown, hts⟩
  have hS : va_S (mA h) s.heap s.heap [] := va_S.rf
  have hl := lv_entry ([.ref (h 0), .int x1]) (n := 3) (Nat.le_of_ble_eq_true rfl)
  rw [lg_entry_eq]
  generalize (lg_sl ([.ref (h 0), .int x1]) ++ List.replicate (3 - (lg_sl ([.ref (h 0), .int x1])).length) Slot.unset).toArray = ls at hl ⊢
  replace hl : lv_has ls 3 [(0, .ref (h 0)), (1, .int x1)] := hl
  have hret : hrX3_rate p l e s m ([.ref (h 0), .int x1] : List Value).toArray below meth c dC dI dA h (MQ below (va_Qi (fun (r : Int32) (u : Int32) => Q r u) (fun u t => va_P (dC, dI) vwCl (wM h dA depths owners roofs u undos undoMany drawn dug deep holes holeMany tape taped place reads read_ row order bestOrder nears isKept keptRoofs kept lanes rowSizes items moved) t.heap) (mA h)) ([.ref (h 0), .int x1] : List Value).toArray s 0 0 (mA h)) Q depths owners roofs undos undoMany drawn dug deep holes holeMany tape taped place reads read_ row order bestOrder nears isKept keptRoofs kept lanes rowSizes items moved := fun r rate H locs pc ls hq hP hS hd => W.iret hx hb hr (fun t ht hW => ⟨⟨r, rate, rfl, hq, by subst ht; exact hP⟩, hS.F ht⟩) hS.2.2 hd
  unfold wX3_rate at hf
  refine lv_iload_n hx hb dX3_rate_0 rfl (lv_at hl 1 rfl) ?_
  refine lv_i2l (v := (x1 : Int32).toInt64) hx hb dX3_rate_1 rfl ?_
  refine lv_lconst (v := 0) hx hb dX3_rate_2 (by decide) ?_
  refine lv_ldc2 (v := 99) hx hb hown (hts _ q1304) dX3_rate_3 ?_
  refine cs_i (As := [.long (x1 : Int32).toInt64, .long 0, .long 99]) (rest := []) S (metX3_in l hf) (lw_S q1268 q1269 q60 q1270) pdX3_in ⟨rfl, rfl⟩ ⟨Nat.le_of_ble_eq_true rfl, Nat.le_of_ble_eq_true rfl⟩ rfl hl.1 rfl (Nat.le_of_ble_eq_true rfl) dX3_rate_6 ⟨Nat.zero_le _, Nat.zero_le _⟩ (fun r_6 hf => ?_)
  refine lv_if_ne (tgt := 14) hx hb dX3_rate_9 (by decide) (fun c_9 => ?_) (fun c_9 => ?_)
  · replace hf := hf.2 c_9
    refine lv_aload_n hx hb dX3_rate_14 rfl (lv_at hl 0 rfl) ?_
    refine gM_rate S hK hP dX3_rate_15 ?_
    refine lv_istore_n (lv' := [(2, .int rate), (0, .ref (h 0)), (1, .int x1)]) hx hb dX3_rate_18 rfl hl (by decide) rfl (fun ls hl => ?_)
    refine lv_aload_n hx hb dX3_rate_19 rfl (lv_at hl 1 rfl) ?_
    refine lv_iload_n hx hb dX3_rate_20 rfl (lv_at hl 2 rfl) ?_
    refine pM_rate S hK hj hP hS dX3_rate_21 (fun H locs hP hS => ?_)
    refine lv_iload_n hx hb dX3_rate_24 rfl (lv_at hl 0 rfl) ?_
    exact hret _ _ _ _ _ _ hf hP hS dX3_rate_25
  · replace hf := hf.1 c_9
    refine lv_iconst (v := (-1)) hx hb dX3_rate_12 (by decide) ?_
    exact hret _ _ _ _ _ _ hf hP hS dX3_rate_13
/-! HoleCountyModel.look()V -/
theorem pdX3_look : DscOk yX3_look 0 := by decide +kernel
abbrev rmX3_look : Room := { frames := 0, cells := 0, slots := 0, locals := 0 }
abbrev RX3_look_ : Room := (headSpec (ws_ yX3_look cX3_look 2 none) rmX3_look).room
section
variable {p : Program} {l : Launch} {e : Env} {s : State} {m : MethodId} {args : Array Value} {below : List Frame} {meth : Method} {c : Code} {Qw : State → Prop} {dC : Nat → ClassId} {dI : Nat → Nat → Nat} {dA : Nat → ClassId} {h : Nat → Nat}
abbrev hrX3_look (p : Program) (l : Launch) (e : Env) (s : State) (m : MethodId) (args : Array Value) (below : List Frame) (meth : Method) (c : Code) (dC : Nat → ClassId) (dI : Nat → Nat → Nat) (dA : Nat → ClassId) (h : Nat → Nat) (Qw : State → Prop) (Q : Int64 → Int64 → Prop) (depths : (Nat → Int32)) (owners : (Nat → Int32)) (roofs : Int64) (rate : Int32) (undos : (Nat → Int32)) (undoMany : Int32) (drawn : Int32) (holes : (Nat → Int64)) (holeMany : Int32) (tape : (Nat → Int32)) (taped : Int32) (place : Int32) (reads : Int32) (read_ : (Nat → Int32)) (row : (Nat → Int32)) (order : (Nat → Int32)) (bestOrder : (Nat → Int32)) (nears : (Nat → Int32)) (isKept : Int32) (keptRoofs : Int64) (kept : (Nat → Int32)) (lanes : (Nat → Int32)) (rowSizes : (Nat → Int32)) (items : (Nat → Int64)) (moved : (Nat → Int64)) : Prop := ∀ (dug : Int64) (deep : Int64) (H : Heap) (locs : List Loc) (pc : Nat) (ls : Array Slot), Q dug deep → va_P (dC, dI) vwCl (wM h dA depths owners roofs rate undos undoMany drawn dug deep holes holeMany tape taped place reads read_ row order bestOrder nears isKept keptRoofs kept lanes rowSizes items moved) H → va_S (mA h) s.heap H locs → decode cX3_look pc = .ok (.return_, 1) → W p l e RX3_look_ s m args below meth c H locs 0 0 Qw (F0 m pc ls [])
def wX3_look_39 (Q : Int64 → Int64 → Prop) (k12 : Int32 → Int64 → Int64 → Prop) (x1 : Int32) (z0 : Int64) (z1 : Int64) (depths : (Nat → Int32)) (dug : Int64) (deep : Int64) : Prop := (∀ dug_40 : Int64, dug_40 = (z1 ||| z0) → (vp_in x1 36 ∧ (((depths (x1 : Int32).toNatClampNeg) = 9 → (∀ deep_67 : Int64, deep_67 = (deep ||| (1 <<< ((x1 : Int32).toInt64 &&& 63))) → (∀ x1_70 : Int32, x1_70 = x1 + 1 → (k12 x1_70 dug_40 deep_67)))) ∧ (¬ (depths (x1 : Int32).toNatClampNeg) = 9 → (∀ deep_67 : Int64, deep_67 = (deep ||| 0) → (∀ x1_70 : Int32, x1_70 = x1 + 1 → (k12 x1_70 dug_40 deep_67)))))))
set_option maxHeartbeats 4000000 in
set_option maxRecDepth 100000 in
theorem tX3_look_39 {Q : Int64 → Int64 → Prop} {depths : (Nat → Int32)} {owners : (Nat → Int32)} {roofs : Int64} {rate : Int32} {undos : (Nat → Int32)} {undoMany : Int32} {drawn : Int32} {holes : (Nat → Int64)} {holeMany : Int32} {tape : (Nat → Int32)} {taped : Int32} {place : Int32} {reads : Int32} {read_ : (Nat → Int32)} {row : (Nat → Int32)} {order : (Nat → Int32)} {bestOrder : (Nat → Int32)} {nears : (Nat → Int32)} {isKept : Int32} {keptRoofs : Int64} {kept : (Nat → Int32)} {lanes : (Nat → Int32)} {rowSizes : (Nat → Int32)} {items : (Nat → Int64)} {moved : (Nat → Int64)} (S : CallFix p m c cX3_look 2 s args lw_all RX3) (hK : va_K (dC, dI) vwCl (tysG dA) s) (hj : mJ h) (hret : hrX3_look p l e s m args below meth c dC dI dA h Qw Q depths owners roofs rate undos undoMany drawn holes holeMany tape taped place reads read_ row order bestOrder nears isKept keptRoofs kept lanes rowSizes items moved) {k12 : Int32 → Int64 → Int64 → Prop} (hk12 : ∀ (x1 : Int32) (dug : Int64) (deep : Int64) (H : Heap) (locs : List Loc) (ls : Array Slot), k12 x1 dug deep → va_P (dC, dI) vwCl (wM h dA depths owners roofs rate undos undoMany drawn dug deep holes holeMany tape taped place reads read_ row order bestOrder nears isKept keptRoofs kept lanes rowSizes items moved) H → va_S (mA h) s.heap H locs → lv_has ls 2 [(0, .ref (h 0)), (1, .int x1)] → W p l e RX3_look_ s m args below meth c H locs 0 0 Qw (F0 m 12 ls [])) : ∀ (x1 : Int32) (z0 : Int64) (z1 : Int64) (dug : Int64) (deep : Int64) (H : Heap) (locs : List Loc) (ls : Array Slot), wX3_look_39 Q k12 x1 z0 z1 depths dug deep → va_P (dC, dI) vwCl (wM h dA depths owners roofs rate undos undoMany drawn dug deep holes holeMany tape taped place reads read_ row order bestOrder nears isKept keptRoofs kept lanes rowSizes items moved) H → va_S (mA h) s.heap H locs → lv_has ls 2 [(0, .ref (h 0)), (1, .int x1)] → W p l e RX3_look_ s m args below meth c H locs 0 0 Qw (F0 m 39 ls [.long z0, .long z1, .ref (h 0)]) := by
  obtain ⟨hx, hb, hml, hown, hts⟩ := id S
  intro x1 z0 z1 dug deep H locs ls hf hP hS hl
  unfold wX3_look_39 at hf
  refine lv_lor hx hb dX3_look_39 ?_
  refine lv_topl (fun dug_40 edug_40 => ?_)
  replace hf := hf dug_40 edug_40
  refine pM_dug S hK hj hP hS dX3_look_40 (fun H locs hP hS => ?_)
  refine lv_aload_n hx hb dX3_look_43 rfl (lv_at hl 0 rfl) ?_
  refine lv_dup hx hb dX3_look_44 rfl ?_
  refine gM_deep S hK hP dX3_look_45 ?_
  refine lv_aload_n hx hb dX3_look_48 rfl (lv_at hl 0 rfl) ?_
  refine gM_depths S hK hP dX3_look_49 ?_
  refine lv_iload_n hx hb dX3_look_52 rfl (lv_at hl 1 rfl) ?_
  obtain ⟨hin, hf⟩ := hf
  refine lM_depths S hK hP hin dX3_look_53 ?_
  refine lv_bipush (v := 9) hx hb dX3_look_54 (by decide) ?_
  refine lv_icmp_ne (tgt := 65) hx hb dX3_look_56 (by decide) (fun c_56 => ?_) (fun c_56 => ?_)
  · replace hf := hf.2 c_56
    refine lv_lconst (v := 0) hx hb dX3_look_65 (by decide) ?_
    refine lv_lor hx hb dX3_look_66 ?_
    refine lv_topl (fun deep_67 edeep_67 => ?_)
    replace hf := hf deep_67 edeep_67
    refine pM_deep S hK hj hP hS dX3_look_67 (fun H locs hP hS => ?_)
    obtain ⟨x1_70, ex1_70⟩ : ∃ z : Int32, z = x1 + 1 := ⟨_, rfl⟩
    replace hf := hf x1_70 ex1_70
    refine lv_iinc (v := x1_70) (lv' := [(1, .int x1_70), (0, .ref (h 0))]) hx hb dX3_look_70 hl (k := 1) rfl (by rw [ex1_70]; rfl) (by decide) rfl (fun ls hl => ?_)
    refine lv_goto (tgt := 12) hx hb dX3_look_73 (by decide) ?_
    exact hk12 x1_70 dug_40 deep_67 _ _ _ hf hP hS (lv_sub hl [1, 0] rfl)
  · replace hf := hf.1 c_56
    refine lv_lconst (v := 1) hx hb dX3_look_59 (by decide) ?_
    refine lv_iload_n hx hb dX3_look_60 rfl (lv_at hl 1 rfl) ?_
    refine lv_lshl (v := (1 <<< ((x1 : Int32).toInt64 &&& 63))) hx hb dX3_look_61 rfl ?_
    refine lv_goto (tgt := 66) hx hb dX3_look_62 (by decide) ?_
    refine lv_lor hx hb dX3_look_66 ?_
    refine lv_topl (fun deep_67 edeep_67 => ?_)
    replace hf := hf deep_67 edeep_67
    refine pM_deep S hK hj hP hS dX3_look_67 (fun H locs hP hS => ?_)
    obtain ⟨x1_70, ex1_70⟩ : ∃ z : Int32, z = x1 + 1 := ⟨_, rfl⟩
    replace hf := hf x1_70 ex1_70
    refine lv_iinc (v := x1_70) (lv' := [(1, .int x1_70), (0, .ref (h 0))]) hx hb dX3_look_70 hl (k := 1) rfl (by rw [ex1_70]; rfl) (by decide) rfl (fun ls hl => ?_)
    refine lv_goto (tgt := 12) hx hb dX3_look_73 (by decide) ?_
    exact hk12 x1_70 dug_40 deep_67 _ _ _ hf hP hS (lv_sub hl [1, 0] rfl)
def wX3_look_12 (Q : Int64 → Int64 → Prop) (depths : (Nat → Int32)) : Nat → Int32 → Int64 → Int64 → Prop
  | 0, _, _, _ => False
  | n + 1, x1, dug, deep => ((36 ≤ x1 → (Q dug deep)) ∧ (¬ 36 ≤ x1 → (vp_in x1 36 ∧ (((depths (x1 : Int32).toNatClampNeg) ≤ 0 → (wX3_look_39 Q (wX3_look_12 Q depths n) x1 0 dug depths dug deep)) ∧ (¬ (depths (x1 : Int32).toNatClampNeg) ≤ 0 → (wX3_look_39 Q (wX3_look_12 Q depths n) x1 (1 <<< ((x1 : Int32).toInt64 &&& 63)) dug depths dug deep))))))
set_option maxHeartbeats 4000000 in
set_option maxRecDepth 100000 in
theorem tX3_look_12 {Q : Int64 → Int64 → Prop} {depths : (Nat → Int32)} {owners : (Nat → Int32)} {roofs : Int64} {rate : Int32} {undos : (Nat → Int32)} {undoMany : Int32} {drawn : Int32} {holes : (Nat → Int64)} {holeMany : Int32} {tape : (Nat → Int32)} {taped : Int32} {place : Int32} {reads : Int32} {read_ : (Nat → Int32)} {row : (Nat → Int32)} {order : (Nat → Int32)} {bestOrder : (Nat → Int32)} {nears : (Nat → Int32)} {isKept : Int32} {keptRoofs : Int64} {kept : (Nat → Int32)} {lanes : (Nat → Int32)} {rowSizes : (Nat → Int32)} {items : (Nat → Int64)} {moved : (Nat → Int64)} (S : CallFix p m c cX3_look 2 s args lw_all RX3) (hK : va_K (dC, dI) vwCl (tysG dA) s) (hj : mJ h) (hret : hrX3_look p l e s m args below meth c dC dI dA h Qw Q depths owners roofs rate undos undoMany drawn holes holeMany tape taped place reads read_ row order bestOrder nears isKept keptRoofs kept lanes rowSizes items moved) : ∀ (n : Nat) (x1 : Int32) (dug : Int64) (deep : Int64) (H : Heap) (locs : List Loc) (ls : Array Slot), wX3_look_12 Q depths n x1 dug deep → va_P (dC, dI) vwCl (wM h dA depths owners roofs rate undos undoMany drawn dug deep holes holeMany tape taped place reads read_ row order bestOrder nears isKept keptRoofs kept lanes rowSizes items moved) H → va_S (mA h) s.heap H locs → lv_has ls 2 [(0, .ref (h 0)), (1, .int x1)] → W p l e RX3_look_ s m args below meth c H locs 0 0 Qw (F0 m 12 ls []) := by
  obtain ⟨hx, hb, hml, hown, hts⟩ := id S
  intro n
  induction n with
  | zero => intro _ _ _ _ _ _ hf; exact hf.elim
  | succ n ih =>
    intro x1 dug deep H locs ls hf hP hS hl
    rw [wX3_look_12] at hf
    refine lv_iload_n hx hb dX3_look_12 rfl (lv_at hl 1 rfl) ?_
    refine lv_bipush (v := 36) hx hb dX3_look_13 (by decide) ?_
    refine lv_icmp_ge (tgt := 76) hx hb dX3_look_15 (by decide) (fun c_15 => ?_) (fun c_15 => ?_)
    · replace hf := hf.1 c_15
      exact hret _ _ _ _ _ _ hf hP hS dX3_look_76
    · replace hf := hf.2 c_15
      refine lv_aload_n hx hb dX3_look_18 rfl (lv_at hl 0 rfl) ?_
      refine lv_dup hx hb dX3_look_19 rfl ?_
      refine gM_dug S hK hP dX3_look_20 ?_
      refine lv_aload_n hx hb dX3_look_23 rfl (lv_at hl 0 rfl) ?_
      refine gM_depths S hK hP dX3_look_24 ?_
      refine lv_iload_n hx hb dX3_look_27 rfl (lv_at hl 1 rfl) ?_
      obtain ⟨hin, hf⟩ := hf
      refine lM_depths S hK hP hin dX3_look_28 ?_
      refine lv_if_le (tgt := 38) hx hb dX3_look_29 (by decide) (fun c_29 => ?_) (fun c_29 => ?_)
      · replace hf := hf.1 c_29
        refine lv_lconst (v := 0) hx hb dX3_look_38 (by decide) ?_
        exact tX3_look_39 S hK hj hret ih x1 0 dug dug deep _ _ _ hf hP hS (lv_sub hl [0, 1] rfl)
      · replace hf := hf.2 c_29
        refine lv_lconst (v := 1) hx hb dX3_look_32 (by decide) ?_
        refine lv_iload_n hx hb dX3_look_33 rfl (lv_at hl 1 rfl) ?_
        refine lv_lshl (v := (1 <<< ((x1 : Int32).toInt64 &&& 63))) hx hb dX3_look_34 rfl ?_
        refine lv_goto (tgt := 39) hx hb dX3_look_35 (by decide) ?_
        exact tX3_look_39 S hK hj hret ih x1 (1 <<< ((x1 : Int32).toInt64 &&& 63)) dug dug deep _ _ _ hf hP hS (lv_sub hl [0, 1] rfl)
def wX3_look (Q : Int64 → Int64 → Prop) (depths : (Nat → Int32)) (dug : Int64) (deep : Int64) : Prop := (∃ fu : Nat, wX3_look_12 Q depths fu 0 0 0)
end
set_option maxHeartbeats 4000000 in
set_option maxRecDepth 100000 in
theorem metX3_look (l : Launch) {Q : Int64 → Int64 → Prop} {depths : (Nat → Int32)} {owners : (Nat → Int32)} {roofs : Int64} {rate : Int32} {undos : (Nat → Int32)} {undoMany : Int32} {drawn : Int32} {dug : Int64} {deep : Int64} {holes : (Nat → Int64)} {holeMany : Int32} {tape : (Nat → Int32)} {taped : Int32} {place : Int32} {reads : Int32} {read_ : (Nat → Int32)} {row : (Nat → Int32)} {order : (Nat → Int32)} {bestOrder : (Nat → Int32)} {nears : (Nat → Int32)} {isKept : Int32} {keptRoofs : Int64} {kept : (Nat → Int32)} {lanes : (Nat → Int32)} {rowSizes : (Nat → Int32)} {items : (Nat → Int64)} {moved : (Nat → Int64)} {dC : Nat → ClassId} {dI : Nat → Nat → Nat} {dA : Nat → ClassId} {h : Nat → Nat} (hj : mJ h) (hf : wX3_look Q depths dug deep) : Met l yX3_look (ws_ yX3_look cX3_look 2 none) rmX3_look (mPc dC dI dA h [] (wM h dA depths owners roofs rate undos undoMany drawn dug deep holes holeMany tape taped place reads read_ row order bestOrder nears isKept keptRoofs kept lanes rowSizes items moved)) (va_Qv (fun (u : Int64 × Int64) => Q u.1 u.2) (fun u t => va_P (dC, dI) vwCl (wM h dA depths owners roofs rate undos undoMany drawn u.1 u.2 holes holeMany tape taped place reads read_ row order bestOrder nears isKept keptRoofs kept lanes rowSizes items moved) t.heap) (mA h)) 0 0 (mA h) := by
  refine Met.ofW (cc := cX3_look) (maxL := 2) (ret := none) (by decide) rfl ?_
  intro p e s m args below meth c s₁ B hml hv
  obtain ⟨rfl, hP, hK⟩ := hv
  have hx := B.exec
  have hb := B.bytes
  have hr := B.returns
  have hts := atoms_spec (ws := (ws_ yX3_look cX3_look 2 none)) B.pre
  have hts : ∀ w ∈ lw_all, w.before _ s = true := fun w h => hts w (List.mem_cons_of_mem _ h)
  have hown : s.vm.findClass RX3 = some m.cls := findClass_of_methodNamed B.named
  have hlocks := B.notSynchronized
  have S : CallFix p m c cX3_look 2 s _ lw_all RX3 := ⟨hx, hb, hml, hown, hts⟩
  have hS : va_S (mA h) s.heap s.heap [] := va_S.rf
  have hl := lv_entry ([.ref (h 0)]) (n := 2) (Nat.le_of_ble_eq_true rfl)
  rw [lg_entry_eq]
  generalize (lg_sl ([.ref (h 0)]) ++ List.replicate (2 - (lg_sl ([.ref (h 0)])).length) Slot.unset).toArray = ls at hl ⊢
  replace hl : lv_has ls 2 [(0, .ref (h 0))] := hl
  have hret : hrX3_look p l e s m ([.ref (h 0)] : List Value).toArray below meth c dC dI dA h (MQ below (va_Qv (fun (u : Int64 × Int64) => Q u.1 u.2) (fun u t => va_P (dC, dI) vwCl (wM h dA depths owners roofs rate undos undoMany drawn u.1 u.2 holes holeMany tape taped place reads read_ row order bestOrder nears isKept keptRoofs kept lanes rowSizes items moved) t.heap) (mA h)) ([.ref (h 0)] : List Value).toArray s 0 0 (mA h)) Q depths owners roofs rate undos undoMany drawn holes holeMany tape taped place reads read_ row order bestOrder nears isKept keptRoofs kept lanes rowSizes items moved := fun dug deep H locs pc ls hq hP hS hd => W.vret hx hb hr (fun t ht hW => ⟨⟨(dug, deep), rfl, hq, by subst ht; exact hP⟩, hS.F ht⟩) hS.2.2 hd
  unfold wX3_look at hf
  refine lv_aload_n hx hb dX3_look_0 rfl (lv_at hl 0 rfl) ?_
  refine lv_lconst (v := 0) hx hb dX3_look_1 (by decide) ?_
  refine pM_dug S hK hj hP hS dX3_look_2 (fun H locs hP hS => ?_)
  refine lv_aload_n hx hb dX3_look_5 rfl (lv_at hl 0 rfl) ?_
  refine lv_lconst (v := 0) hx hb dX3_look_6 (by decide) ?_
  refine pM_deep S hK hj hP hS dX3_look_7 (fun H locs hP hS => ?_)
  refine lv_iconst (v := 0) hx hb dX3_look_10 (by decide) ?_
  refine lv_istore_n (lv' := [(1, .int 0), (0, .ref (h 0))]) hx hb dX3_look_11 rfl hl (by decide) rfl (fun ls hl => ?_)
  obtain ⟨fu, hf⟩ := hf
  exact tX3_look_12 S hK hj hret fu 0 0 0 _ _ _ hf hP hS (lv_sub hl [1, 0] rfl)
/-! HoleCountyModel.beside(J)J -/
theorem pdX3_beside : DscOk yX3_beside 1 := by decide +kernel
abbrev rmX3_beside : Room := { frames := 0, cells := 0, slots := 0, locals := 0 }
abbrev RX3_beside_ : Room := (headSpec (ws_ yX3_beside cX3_beside 4 (some .long)) rmX3_beside).room
section
variable {p : Program} {l : Launch} {e : Env} {s : State} {m : MethodId} {args : Array Value} {below : List Frame} {meth : Method} {c : Code} {Qw : State → Prop} {H : Heap} {locs : List Loc}
abbrev hrX3_beside (p : Program) (l : Launch) (e : Env) (s : State) (m : MethodId) (args : Array Value) (below : List Frame) (meth : Method) (c : Code) (H : Heap) (locs : List Loc) (Qw : State → Prop) (Q : Int64 → Prop) : Prop := ∀ (r : Int64) (pc : Nat) (ls : Array Slot), Q r → decode cX3_beside pc = .ok (.lreturn, 1) → W p l e RX3_beside_ s m args below meth c H locs 0 0 Qw (F0 m pc ls [.long r])
def wX3_beside (Q : Int64 → Prop) (x0 : Int64) : Prop := (∀ x2_15 : Int64, x2_15 = (((x0 &&& (-1090785346)) >>> ((1 : Int32).toInt64 &&& 63)) ||| ((x0 &&& (-34905131041)) <<< ((1 : Int32).toInt64 &&& 63))) → (Q (((x2_15 ||| (x0 >>> ((6 : Int32).toInt64 &&& 63))) ||| (x0 <<< ((6 : Int32).toInt64 &&& 63))) &&& 68719476735)))
end
set_option maxHeartbeats 4000000 in
set_option maxRecDepth 100000 in
theorem metX3_beside (l : Launch) {Q : Int64 → Prop} {x0 : Int64} (hf : wX3_beside Q x0) : Met l yX3_beside (ws_ yX3_beside cX3_beside 4 (some .long)) rmX3_beside (fun v _ => v = ([.long x0] : List Value).toArray) (vp_Sl Q) 0 0 (fun _ => False) := by
  refine Met.ofW (cc := cX3_beside) (maxL := 4) (ret := (some .long)) (by decide) rfl ?_
  intro p e s m args below meth c s₁ B hml hv
  subst hv
  have hx := B.exec
  have hb := B.bytes
  have hr := B.returns
  have hts := atoms_spec (ws := (ws_ yX3_beside cX3_beside 4 (some .long))) B.pre
  have hts : ∀ w ∈ lw_all, w.before _ s = true := fun w h => hts w (List.mem_cons_of_mem _ h)
  have hown : s.vm.findClass RX3 = some m.cls := findClass_of_methodNamed B.named
  have hlocks := B.notSynchronized
  have S : CallFix p m c cX3_beside 4 s _ lw_all RX3 := ⟨hx, hb, hml, hown, hts⟩
  have hl := lv_entry ([.long x0]) (n := 4) (Nat.le_of_ble_eq_true rfl)
  rw [lg_entry_eq]
  generalize (lg_sl ([.long x0]) ++ List.replicate (4 - (lg_sl ([.long x0])).length) Slot.unset).toArray = ls at hl ⊢
  replace hl : lv_has ls 4 [(0, .long x0)] := hl
  have hret : hrX3_beside p l e s m ([.long x0] : List Value).toArray below meth c s.heap [] (MQ below (vp_Sl Q) ([.long x0] : List Value).toArray s 0 0 (fun _ => False)) Q := fun r pc ls hq hd => W.lret hx hb hr (fun t ht hW => ⟨r, rfl, hq, ht⟩) t_nil hd
  unfold wX3_beside at hf
  refine lv_lload_n hx hb dX3_beside_0 rfl (lv_at hl 0 rfl) ?_
  refine lv_ldc2 (v := (-1090785346)) hx hb hown (hts _ q1323) dX3_beside_1 ?_
  refine lv_land hx hb dX3_beside_4 ?_
  refine lv_iconst (v := 1) hx hb dX3_beside_5 (by decide) ?_
  refine lv_lshr (v := ((x0 &&& (-1090785346)) >>> ((1 : Int32).toInt64 &&& 63))) hx hb dX3_beside_6 rfl ?_
  refine lv_lload_n hx hb dX3_beside_7 rfl (lv_at hl 0 rfl) ?_
  refine lv_ldc2 (v := (-34905131041)) hx hb hown (hts _ q1324) dX3_beside_8 ?_
  refine lv_land hx hb dX3_beside_11 ?_
  refine lv_iconst (v := 1) hx hb dX3_beside_12 (by decide) ?_
  refine lv_lshl (v := ((x0 &&& (-34905131041)) <<< ((1 : Int32).toInt64 &&& 63))) hx hb dX3_beside_13 rfl ?_
  refine lv_lor hx hb dX3_beside_14 ?_
  refine lv_topl (fun x2_15 ex2_15 => ?_)
  replace hf := hf x2_15 ex2_15
  refine lv_lstore_n (lv' := [(2, .long x2_15), (0, .long x0)]) hx hb dX3_beside_15 rfl hl (by decide) rfl (fun ls hl => ?_)
  refine lv_lload_n hx hb dX3_beside_16 rfl (lv_at hl 0 rfl) ?_
  refine lv_lload_n hx hb dX3_beside_17 rfl (lv_at hl 1 rfl) ?_
  refine lv_bipush (v := 6) hx hb dX3_beside_18 (by decide) ?_
  refine lv_lshr (v := (x0 >>> ((6 : Int32).toInt64 &&& 63))) hx hb dX3_beside_20 rfl ?_
  refine lv_lor hx hb dX3_beside_21 ?_
  refine lv_lload_n hx hb dX3_beside_22 rfl (lv_at hl 1 rfl) ?_
  refine lv_bipush (v := 6) hx hb dX3_beside_23 (by decide) ?_
  refine lv_lshl (v := (x0 <<< ((6 : Int32).toInt64 &&& 63))) hx hb dX3_beside_25 rfl ?_
  refine lv_lor hx hb dX3_beside_26 ?_
  refine lv_ldc2 (v := 68719476735) hx hb hown (hts _ q1325) dX3_beside_27 ?_
  refine lv_land hx hb dX3_beside_30 ?_
  exact hret _ _ _ hf dX3_beside_31
