/-! HoleCountyModel.cells(II)J -/
theorem pdX3_cells : DscOk yX3_cells 2 := by decide +kernel
abbrev rmX3_cells : Room := { frames := 3, cells := 0, slots := 0, locals := 73 }
abbrev RX3_cells_ : Room := (headSpec (ws_ yX3_cells cX3_cells 5 (some .long)) rmX3_cells).room
section
variable {p : Program} {l : Launch} {e : Env} {s : State} {m : MethodId} {args : Array Value} {below : List Frame} {meth : Method} {c : Code} {Qw : State → Prop} {dC : Nat → ClassId} {dI : Nat → Nat → Nat} {dA : Nat → ClassId} {h : Nat → Nat}
abbrev hrX3_cells (p : Program) (l : Launch) (e : Env) (s : State) (m : MethodId) (args : Array Value) (below : List Frame) (meth : Method) (c : Code) (dC : Nat → ClassId) (dI : Nat → Nat → Nat) (dA : Nat → ClassId) (h : Nat → Nat) (Qw : State → Prop) (Q : Int64 → Int64 → Int64 → Prop) (depths : (Nat → Int32)) (owners : (Nat → Int32)) (roofs : Int64) (rate : Int32) (undos : (Nat → Int32)) (undoMany : Int32) (drawn : Int32) (holes : (Nat → Int64)) (holeMany : Int32) (tape : (Nat → Int32)) (taped : Int32) (place : Int32) (reads : Int32) (read_ : (Nat → Int32)) (row : (Nat → Int32)) (order : (Nat → Int32)) (bestOrder : (Nat → Int32)) (nears : (Nat → Int32)) (isKept : Int32) (keptRoofs : Int64) (kept : (Nat → Int32)) (lanes : (Nat → Int32)) (rowSizes : (Nat → Int32)) (items : (Nat → Int64)) (moved : (Nat → Int64)) : Prop := ∀ (r : Int64) (dug : Int64) (deep : Int64) (H : Heap) (locs : List Loc) (pc : Nat) (ls : Array Slot), Q r dug deep → va_P (dC, dI) vwCl (wM h dA depths owners roofs rate undos undoMany drawn dug deep holes holeMany tape taped place reads read_ row order bestOrder nears isKept keptRoofs kept lanes rowSizes items moved) H → va_S (mA h) s.heap H locs → decode cX3_cells pc = .ok (.lreturn, 1) → W p l e RX3_cells_ s m args below meth c H locs 0 0 Qw (F0 m pc ls [.long r])
def wX3_cells (Q : Int64 → Int64 → Int64 → Prop) (depths : (Nat → Int32)) (dug : Int64) (deep : Int64) (x1 : Int32) (x2 : Int32) : Prop := (wX3_isCell (fun r_1 => ((r_1 = 0 → (Q (-1) dug deep)) ∧ (¬ r_1 = 0 → (wX3_in (fun r_13 => ((r_13 = 0 → (Q (-1) dug deep)) ∧ (¬ r_13 = 0 → (wX3_look (fun dug_24 deep_24 => (wX3_has (fun r_32 => ((r_32 = 0 → (Q (-2) dug_24 deep_24)) ∧ (¬ r_32 = 0 → (wX3_holeAt (fun r_44 => ((x2 = 0 → (Q r_44 dug_24 deep_24)) ∧ (¬ x2 = 0 → ((x2 = 1 → (wX3_rimOf (fun r_63 => (Q r_63 dug_24 deep_24)) dug_24 r_44)) ∧ (¬ x2 = 1 → (wX3_withinOf (fun r_70 => (Q r_70 dug_24 deep_24)) r_44)))))) dug_24 x1)))) dug_24 x1)) depths dug deep)))) ((x2 : Int32).toInt64) 0 2)))) x1)
end
set_option maxHeartbeats 4000000 in
set_option maxRecDepth 100000 in
theorem metX3_cells (l : Launch) {Q : Int64 → Int64 → Int64 → Prop} {depths : (Nat → Int32)} {owners : (Nat → Int32)} {roofs : Int64} {rate : Int32} {undos : (Nat → Int32)} {undoMany : Int32} {drawn : Int32} {dug : Int64} {deep : Int64} {holes : (Nat → Int64)} {holeMany : Int32} {tape : (Nat → Int32)} {taped : Int32} {place : Int32} {reads : Int32} {read_ : (Nat → Int32)} {row : (Nat → Int32)} {order : (Nat → Int32)} {bestOrder : (Nat → Int32)} {nears : (Nat → Int32)} {isKept : Int32} {keptRoofs : Int64} {kept : (Nat → Int32)} {lanes : (Nat → Int32)} {rowSizes : (Nat → Int32)} {items : (Nat → Int64)} {moved : (Nat → Int64)} {x1 : Int32} {x2 : Int32} {dC : Nat → ClassId} {dI : Nat → Nat → Nat} {dA : Nat → ClassId} {h : Nat → Nat} (hj : mJ h) (hf : wX3_cells Q depths dug deep x1 x2) : Met l yX3_cells (ws_ yX3_cells cX3_cells 5 (some .long)) rmX3_cells (mPc dC dI dA h [.int x1, .int x2] (wM h dA depths owners roofs rate undos undoMany drawn dug deep holes holeMany tape taped place reads read_ row order bestOrder nears isKept keptRoofs kept lanes rowSizes items moved)) (va_Ql (fun (r : Int64) (u : Int64 × Int64) => Q r u.1 u.2) (fun u t => va_P (dC, dI) vwCl (wM h dA depths owners roofs rate undos undoMany drawn u.1 u.2 holes holeMany tape taped place reads read_ row order bestOrder nears isKept keptRoofs kept lanes rowSizes items moved) t.heap) (mA h)) 0 0 (mA h) := by
  refine Met.ofW (cc := cX3_cells) (maxL := 5) (ret := (some .long)) (by decide) rfl ?_
  intro p e s m args below meth c s₁ B hml hv
  obtain ⟨rfl, hP, hK⟩ := hv
  have hx := B.exec
  have hb := B.bytes
  have hr := B.returns
  have hts := atoms_spec (ws := (ws_ yX3_cells cX3_cells 5 (some .long))) B.pre
  have hts : ∀ w ∈ lw_all, w.before _ s = true := fun w h => hts w (List.mem_cons_of_mem _ h)
  have hown : s.vm.findClass RX3 = some m.cls := findClass_of_methodNamed B.named
  have hlocks := B.notSynchronized
  have S : CallFix p m c cX3_cells 5 s _ lw_all RX3 := ⟨hx, hb, hml, hown, hts⟩
  have hS : va_S (mA h) s.heap s.heap [] := va_S.rf
  have hl := lv_entry ([.ref (h 0), .int x1, .int x2]) (n := 5) (Nat.le_of_ble_eq_true rfl)
  rw [lg_entry_eq]
  generalize (lg_sl ([.ref (h 0), .int x1, .int x2]) ++ List.replicate (5 - (lg_sl ([.ref (h 0), .int x1, .int x2])).length) Slot.unset).toArray = ls at hl ⊢
  replace hl : lv_has ls 5 [(0, .ref (h 0)), (1, .int x1), (2, .int x2)] := hl
  have hret : hrX3_cells p l e s m ([.ref (h 0), .int x1, .int x2] : List Value).toArray below meth c dC dI dA h (MQ below (va_Ql (fun (r : Int64) (u : Int64 × Int64) => Q r u.1 u.2) (fun u t => va_P (dC, dI) vwCl (wM h dA depths owners roofs rate undos undoMany drawn u.1 u.2 holes holeMany tape taped place reads read_ row order bestOrder nears isKept keptRoofs kept lanes rowSizes items moved) t.heap) (mA h)) ([.ref (h 0), .int x1, .int x2] : List Value).toArray s 0 0 (mA h)) Q depths owners roofs rate undos undoMany drawn holes holeMany tape taped place reads read_ row order bestOrder nears isKept keptRoofs kept lanes rowSizes items moved := fun r dug deep H locs pc ls hq hP hS hd => W.lret hx hb hr (fun t ht hW => ⟨⟨r, (dug, deep), rfl, hq, by subst ht; exact hP⟩, hS.F ht⟩) hS.2.2 hd
  unfold wX3_cells at hf
  refine lv_iload_n hx hb dX3_cells_0 rfl (lv_at hl 1 rfl) ?_
  refine cs_i (As := [.int x1]) (rest := []) S (metX3_isCell l hf) (lw_S q1264 q1265 q60 q1266) pdX3_isCell ⟨rfl, rfl⟩ ⟨Nat.le_of_ble_eq_true rfl, Nat.le_of_ble_eq_true rfl⟩ rfl hl.1 rfl (Nat.le_of_ble_eq_true rfl) dX3_cells_1 ⟨Nat.zero_le _, Nat.zero_le _⟩ (fun r_1 hf => ?_)
  refine lv_if_eq (tgt := 19) hx hb dX3_cells_4 (by decide) (fun c_4 => ?_) (fun c_4 => ?_)
  · replace hf := hf.1 c_4
    refine lv_ldc2 (v := (-1)) hx hb hown (hts _ q1286) dX3_cells_19 ?_
    exact hret _ _ _ _ _ _ _ hf hP hS dX3_cells_22
  · replace hf := hf.2 c_4
    refine lv_iload_n hx hb dX3_cells_7 rfl (lv_at hl 2 rfl) ?_
    refine lv_i2l (v := (x2 : Int32).toInt64) hx hb dX3_cells_8 rfl ?_
    refine lv_lconst (v := 0) hx hb dX3_cells_9 (by decide) ?_
    refine lv_ldc2 (v := 2) hx hb hown (hts _ q1447) dX3_cells_10 ?_
    refine cs_i (As := [.long (x2 : Int32).toInt64, .long 0, .long 2]) (rest := []) S (metX3_in l hf) (lw_S q1268 q1269 q60 q1270) pdX3_in ⟨rfl, rfl⟩ ⟨Nat.le_of_ble_eq_true rfl, Nat.le_of_ble_eq_true rfl⟩ rfl hl.1 rfl (Nat.le_of_ble_eq_true rfl) dX3_cells_13 ⟨Nat.zero_le _, Nat.zero_le _⟩ (fun r_13 hf => ?_)
    refine lv_if_ne (tgt := 23) hx hb dX3_cells_16 (by decide) (fun c_16 => ?_) (fun c_16 => ?_)
    · replace hf := hf.2 c_16
      refine lv_aload_n hx hb dX3_cells_23 rfl (lv_at hl 0 rfl) ?_
      refine cM_v (As := []) (rest := []) S hK rfl hP hS (metX3_look l hj hf) (lw_V q1309 q1311 qs27 q60 q1312) rfl pdX3_look ⟨rfl, rfl⟩ ⟨Nat.le_of_ble_eq_true rfl, Nat.le_of_ble_eq_true rfl⟩ rfl hl.1 rfl (Nat.le_of_ble_eq_true rfl) dX3_cells_24 ⟨Nat.zero_le _, Nat.zero_le _⟩ (fun u_24 H locs hf hP hS => ?_)
      obtain ⟨dug_24, deep_24⟩ := u_24
      replace hP : va_P (dC, dI) vwCl (wM h dA depths owners roofs rate undos undoMany drawn dug_24 deep_24 holes holeMany tape taped place reads read_ row order bestOrder nears isKept keptRoofs kept lanes rowSizes items moved) H := hP
      try dsimp only at hf
      refine lv_aload_n hx hb dX3_cells_27 rfl (lv_at hl 0 rfl) ?_
      refine gM_dug S hK hP dX3_cells_28 ?_
      refine lv_iload_n hx hb dX3_cells_31 rfl (lv_at hl 1 rfl) ?_
      refine cs_i (As := [.long dug_24, .int x1]) (rest := []) S (metX3_has l hf) (lw_S q1275 q1276 q60 q1277) pdX3_has ⟨rfl, rfl⟩ ⟨Nat.le_of_ble_eq_true rfl, Nat.le_of_ble_eq_true rfl⟩ rfl hl.1 rfl (Nat.le_of_ble_eq_true rfl) dX3_cells_32 ⟨Nat.zero_le _, Nat.zero_le _⟩ (fun r_32 hf => ?_)
      refine lv_if_ne (tgt := 42) hx hb dX3_cells_35 (by decide) (fun c_35 => ?_) (fun c_35 => ?_)
      · replace hf := hf.2 c_35
        refine lv_aload_n hx hb dX3_cells_42 rfl (lv_at hl 0 rfl) ?_
        refine lv_iload_n hx hb dX3_cells_43 rfl (lv_at hl 1 rfl) ?_
        refine cM_l (As := [.int x1]) (rest := []) S hK rfl hP hS (metX3_holeAt l hj hf) (lw_V q1313 q1315 qs28 q60 q1316) rfl pdX3_holeAt ⟨rfl, rfl⟩ ⟨Nat.le_of_ble_eq_true rfl, Nat.le_of_ble_eq_true rfl⟩ rfl hl.1 rfl (Nat.le_of_ble_eq_true rfl) dX3_cells_44 ⟨Nat.zero_le _, Nat.zero_le _⟩ (fun r_44 u_44 H locs hf hP hS => ?_)
        replace hP : va_P (dC, dI) vwCl (wM h dA depths owners roofs rate undos undoMany drawn dug_24 deep_24 holes holeMany tape taped place reads read_ row order bestOrder nears isKept keptRoofs kept lanes rowSizes items moved) H := hP
        try dsimp only at hf
        refine lv_lstore_n (lv' := [(3, .long r_44), (0, .ref (h 0)), (1, .int x1), (2, .int x2)]) hx hb dX3_cells_47 rfl hl (by decide) rfl (fun ls hl => ?_)
        refine lv_iload_n hx hb dX3_cells_48 rfl (lv_at hl 3 rfl) ?_
        refine lv_if_ne (tgt := 56) hx hb dX3_cells_49 (by decide) (fun c_49 => ?_) (fun c_49 => ?_)
        · replace hf := hf.2 c_49
          refine lv_iload_n hx hb dX3_cells_56 rfl (lv_at hl 3 rfl) ?_
          refine lv_iconst (v := 1) hx hb dX3_cells_57 (by decide) ?_
          refine lv_icmp_ne (tgt := 69) hx hb dX3_cells_58 (by decide) (fun c_58 => ?_) (fun c_58 => ?_)
          · replace hf := hf.2 c_58
            refine lv_lload_n hx hb dX3_cells_69 rfl (lv_at hl 0 rfl) ?_
            refine cs_l (As := [.long r_44]) (rest := []) S (metX3_withinOf l hf) (lw_S q1437 q1438 q60 q1439) pdX3_withinOf ⟨rfl, rfl⟩ ⟨Nat.le_of_ble_eq_true rfl, Nat.le_of_ble_eq_true rfl⟩ rfl hl.1 rfl (Nat.le_of_ble_eq_true rfl) dX3_cells_70 ⟨Nat.zero_le _, Nat.zero_le _⟩ (fun r_70 hf => ?_)
            exact hret _ _ _ _ _ _ _ hf hP hS dX3_cells_73
          · replace hf := hf.1 c_58
            refine lv_aload_n hx hb dX3_cells_61 rfl (lv_at hl 1 rfl) ?_
            refine lv_lload_n hx hb dX3_cells_62 rfl (lv_at hl 0 rfl) ?_
            refine cM_l (As := [.long r_44]) (rest := []) S hK rfl hP hS (metX3_rimOf l hj hf) (lw_V q1421 q1423 qs40 q60 q1424) rfl pdX3_rimOf ⟨rfl, rfl⟩ ⟨Nat.le_of_ble_eq_true rfl, Nat.le_of_ble_eq_true rfl⟩ rfl hl.1 rfl (Nat.le_of_ble_eq_true rfl) dX3_cells_63 ⟨Nat.zero_le _, Nat.zero_le _⟩ (fun r_63 u_63 H locs hf hP hS => ?_)
            replace hP : va_P (dC, dI) vwCl (wM h dA depths owners roofs rate undos undoMany drawn dug_24 deep_24 holes holeMany tape taped place reads read_ row order bestOrder nears isKept keptRoofs kept lanes rowSizes items moved) H := hP
            try dsimp only at hf
            refine lv_goto (tgt := 73) hx hb dX3_cells_66 (by decide) ?_
            exact hret _ _ _ _ _ _ _ hf hP hS dX3_cells_73
        · replace hf := hf.1 c_49
          refine lv_lload_n hx hb dX3_cells_52 rfl (lv_at hl 0 rfl) ?_
          refine lv_goto (tgt := 73) hx hb dX3_cells_53 (by decide) ?_
          exact hret _ _ _ _ _ _ _ hf hP hS dX3_cells_73
      · replace hf := hf.1 c_35
        refine lv_ldc2 (v := (-2)) hx hb hown (hts _ q1448) dX3_cells_38 ?_
        exact hret _ _ _ _ _ _ _ hf hP hS dX3_cells_41
    · replace hf := hf.1 c_16
      refine lv_ldc2 (v := (-1)) hx hb hown (hts _ q1286) dX3_cells_19 ?_
      exact hret _ _ _ _ _ _ _ hf hP hS dX3_cells_22
/-! HoleCountyModel.partOf(JI)I -/
theorem pdX3_partOf : DscOk yX3_partOf 2 := by decide +kernel
abbrev rmX3_partOf : Room := { frames := 3, cells := 0, slots := 0, locals := 72 }
abbrev RX3_partOf_ : Room := (headSpec (ws_ yX3_partOf cX3_partOf 7 (some .int)) rmX3_partOf).room
section
variable {p : Program} {l : Launch} {e : Env} {s : State} {m : MethodId} {args : Array Value} {below : List Frame} {meth : Method} {c : Code} {Qw : State → Prop} {dC : Nat → ClassId} {dI : Nat → Nat → Nat} {dA : Nat → ClassId} {h : Nat → Nat}
abbrev hrX3_partOf (p : Program) (l : Launch) (e : Env) (s : State) (m : MethodId) (args : Array Value) (below : List Frame) (meth : Method) (c : Code) (dC : Nat → ClassId) (dI : Nat → Nat → Nat) (dA : Nat → ClassId) (h : Nat → Nat) (Qw : State → Prop) (Q : Int32 → Prop) (depths : (Nat → Int32)) (owners : (Nat → Int32)) (roofs : Int64) (rate : Int32) (undos : (Nat → Int32)) (undoMany : Int32) (drawn : Int32) (dug : Int64) (deep : Int64) (holes : (Nat → Int64)) (holeMany : Int32) (tape : (Nat → Int32)) (taped : Int32) (place : Int32) (reads : Int32) (read_ : (Nat → Int32)) (row : (Nat → Int32)) (order : (Nat → Int32)) (bestOrder : (Nat → Int32)) (nears : (Nat → Int32)) (isKept : Int32) (keptRoofs : Int64) (kept : (Nat → Int32)) (lanes : (Nat → Int32)) (rowSizes : (Nat → Int32)) (items : (Nat → Int64)) (moved : (Nat → Int64)) : Prop := ∀ (r : Int32) (H : Heap) (locs : List Loc) (pc : Nat) (ls : Array Slot), Q r → va_P (dC, dI) vwCl (wM h dA depths owners roofs rate undos undoMany drawn dug deep holes holeMany tape taped place reads read_ row order bestOrder nears isKept keptRoofs kept lanes rowSizes items moved) H → va_S (mA h) s.heap H locs → decode cX3_partOf pc = .ok (.ireturn, 1) → W p l e RX3_partOf_ s m args below meth c H locs 0 0 Qw (F0 m pc ls [.int r])
def wX3_partOf (Q : Int32 → Prop) (owners : (Nat → Int32)) (roofs : Int64) (rate : Int32) (dug : Int64) (deep : Int64) (x1 : Int64) (x3 : Int32) : Prop := (wX3_rimOf (fun r_2 => (wX3_owned (fun r_11 => (wX3_ones (fun r_19 => ((r_19 = 0 → (Q 0)) ∧ (¬ r_19 = 0 → (wX3_taxOf (fun r_35 => (wX3_owned (fun r_42 => (wX3_ones (fun r_46 => (¬ r_19 = 0 ∧ (Q ((r_35 * r_46) / r_19)))) (r_2 &&& r_42))) owners x3)) roofs rate deep x1)))) (r_2 &&& (r_11 ^^^ (-1))))) owners 4)) dug x1)
end
set_option maxHeartbeats 4000000 in
set_option maxRecDepth 100000 in
theorem metX3_partOf (l : Launch) {Q : Int32 → Prop} {depths : (Nat → Int32)} {owners : (Nat → Int32)} {roofs : Int64} {rate : Int32} {undos : (Nat → Int32)} {undoMany : Int32} {drawn : Int32} {dug : Int64} {deep : Int64} {holes : (Nat → Int64)} {holeMany : Int32} {tape : (Nat → Int32)} {taped : Int32} {place : Int32} {reads : Int32} {read_ : (Nat → Int32)} {row : (Nat → Int32)} {order : (Nat → Int32)} {bestOrder : (Nat → Int32)} {nears : (Nat → Int32)} {isKept : Int32} {keptRoofs : Int64} {kept : (Nat → Int32)} {lanes : (Nat → Int32)} {rowSizes : (Nat → Int32)} {items : (Nat → Int64)} {moved : (Nat → Int64)} {x1 : Int64} {x3 : Int32} {dC : Nat → ClassId} {dI : Nat → Nat → Nat} {dA : Nat → ClassId} {h : Nat → Nat} (hj : mJ h) (hf : wX3_partOf Q owners roofs rate dug deep x1 x3) : Met l yX3_partOf (ws_ yX3_partOf cX3_partOf 7 (some .int)) rmX3_partOf (mPc dC dI dA h [.long x1, .int x3] (wM h dA depths owners roofs rate undos undoMany drawn dug deep holes holeMany tape taped place reads read_ row order bestOrder nears isKept keptRoofs kept lanes rowSizes items moved)) (va_Qi (fun (r : Int32) (u : Unit) => Q r) (fun u t => va_P (dC, dI) vwCl (wM h dA depths owners roofs rate undos undoMany drawn dug deep holes holeMany tape taped place reads read_ row order bestOrder nears isKept keptRoofs kept lanes rowSizes items moved) t.heap) (mA h)) 0 0 (mA h) := by
  refine Met.ofW (cc := cX3_partOf) (maxL := 7) (ret := (some .int)) (by decide) rfl ?_
  intro p e s m args below meth c s₁ B hml hv
  obtain ⟨rfl, hP, hK⟩ := hv
  have hx := B.exec
  have hb := B.bytes
  have hr := B.returns
  have hts := atoms_spec (ws := (ws_ yX3_partOf cX3_partOf 7 (some .int))) B.pre
  have hts : ∀ w ∈ lw_all, w.before _ s = true := fun w h => hts w (List.mem_cons_of_mem _ h)
  have hown : s.vm.findClass RX3 = some m.cls := findClass_of_methodNamed B.named
  have hlocks := B.notSynchronized
  have S : CallFix p m c cX3_partOf 7 s _ lw_all RX3 := ⟨hx, hb, hml, hown, hts⟩
  have hS : va_S (mA h) s.heap s.heap [] := va_S.rf
  have hl := lv_entry ([.ref (h 0), .long x1, .int x3]) (n := 7) (Nat.le_of_ble_eq_true rfl)
  rw [lg_entry_eq]
  generalize (lg_sl ([.ref (h 0), .long x1, .int x3]) ++ List.replicate (7 - (lg_sl ([.ref (h 0), .long x1, .int x3])).length) Slot.unset).toArray = ls at hl ⊢
  replace hl : lv_has ls 7 [(0, .ref (h 0)), (1, .long x1), (3, .int x3)] := hl
  have hret : hrX3_partOf p l e s m ([.ref (h 0), .long x1, .int x3] : List Value).toArray below meth c dC dI dA h (MQ below (va_Qi (fun (r : Int32) (u : Unit) => Q r) (fun u t => va_P (dC, dI) vwCl (wM h dA depths owners roofs rate undos undoMany drawn dug deep holes holeMany tape taped place reads read_ row order bestOrder nears isKept keptRoofs kept lanes rowSizes items moved) t.heap) (mA h)) ([.ref (h 0), .long x1, .int x3] : List Value).toArray s 0 0 (mA h)) Q depths owners roofs rate undos undoMany drawn dug deep holes holeMany tape taped place reads read_ row order bestOrder nears isKept keptRoofs kept lanes rowSizes items moved := fun r H locs pc ls hq hP hS hd => W.iret hx hb hr (fun t ht hW => ⟨⟨r, (), rfl, hq, by subst ht; exact hP⟩, hS.F ht⟩) hS.2.2 hd
  unfold wX3_partOf at hf
  refine lv_aload_n hx hb dX3_partOf_0 rfl (lv_at hl 0 rfl) ?_
  refine lv_lload_n hx hb dX3_partOf_1 rfl (lv_at hl 1 rfl) ?_
  refine cM_l (As := [.long x1]) (rest := []) S hK rfl hP hS (metX3_rimOf l hj hf) (lw_V q1421 q1423 qs40 q60 q1424) rfl pdX3_rimOf ⟨rfl, rfl⟩ ⟨Nat.le_of_ble_eq_true rfl, Nat.le_of_ble_eq_true rfl⟩ rfl hl.1 rfl (Nat.le_of_ble_eq_true rfl) dX3_partOf_2 ⟨Nat.zero_le _, Nat.zero_le _⟩ (fun r_2 u_2 H locs hf hP hS => ?_)
  replace hP : va_P (dC, dI) vwCl (wM h dA depths owners roofs rate undos undoMany drawn dug deep holes holeMany tape taped place reads read_ row order bestOrder nears isKept keptRoofs kept lanes rowSizes items moved) H := hP
  try dsimp only at hf
  refine lv_lstore (lv' := [(4, .long r_2), (0, .ref (h 0)), (1, .long x1), (3, .int x3)]) hx hb dX3_partOf_5 hl (by decide) rfl (fun ls hl => ?_)
  refine lv_lload hx hb dX3_partOf_7 (lv_at hl 0 rfl) ?_
  refine lv_aload_n hx hb dX3_partOf_9 rfl (lv_at hl 1 rfl) ?_
  refine lv_iconst (v := 4) hx hb dX3_partOf_10 (by decide) ?_
  refine cM_l (As := [.int 4]) (rest := [.long r_2]) S hK rfl hP hS (metX3_owned l hj hf) (lw_V q1429 q1431 qs42 q60 q1432) rfl pdX3_owned ⟨rfl, rfl⟩ ⟨Nat.le_of_ble_eq_true rfl, Nat.le_of_ble_eq_true rfl⟩ rfl hl.1 rfl (Nat.le_of_ble_eq_true rfl) dX3_partOf_11 ⟨Nat.zero_le _, Nat.zero_le _⟩ (fun r_11 u_11 H locs hf hP hS => ?_)
  replace hP : va_P (dC, dI) vwCl (wM h dA depths owners roofs rate undos undoMany drawn dug deep holes holeMany tape taped place reads read_ row order bestOrder nears isKept keptRoofs kept lanes rowSizes items moved) H := hP
  try dsimp only at hf
  refine lv_ldc2 (v := (-1)) hx hb hown (hts _ q1286) dX3_partOf_14 ?_
  refine lv_lxor hx hb dX3_partOf_17 ?_
  refine lv_land hx hb dX3_partOf_18 ?_
  refine cs_i (As := [.long (r_2 &&& (r_11 ^^^ (-1)))]) (rest := []) S (metX3_ones l hf) (lw_S q1390 q1391 q60 q1392) pdX3_ones ⟨rfl, rfl⟩ ⟨Nat.le_of_ble_eq_true rfl, Nat.le_of_ble_eq_true rfl⟩ rfl hl.1 rfl (Nat.le_of_ble_eq_true rfl) dX3_partOf_19 ⟨Nat.zero_le _, Nat.zero_le _⟩ (fun r_19 hf => ?_)
  refine lv_istore (lv' := [(6, .int r_19), (4, .long r_2), (0, .ref (h 0)), (1, .long x1), (3, .int x3)]) hx hb dX3_partOf_22 hl (by decide) rfl (fun ls hl => ?_)
  refine lv_iload hx hb dX3_partOf_24 (lv_at hl 0 rfl) ?_
  refine lv_if_ne (tgt := 33) hx hb dX3_partOf_26 (by decide) (fun c_26 => ?_) (fun c_26 => ?_)
  · replace hf := hf.2 c_26
    refine lv_aload_n hx hb dX3_partOf_33 rfl (lv_at hl 2 rfl) ?_
    refine lv_lload_n hx hb dX3_partOf_34 rfl (lv_at hl 3 rfl) ?_
    refine cM_i (As := [.long x1]) (rest := []) S hK rfl hP hS (metX3_taxOf l hj hf) (lw_V q1397 q1399 qs38 q60 q1400) rfl pdX3_taxOf ⟨rfl, rfl⟩ ⟨Nat.le_of_ble_eq_true rfl, Nat.le_of_ble_eq_true rfl⟩ rfl hl.1 rfl (Nat.le_of_ble_eq_true rfl) dX3_partOf_35 ⟨Nat.zero_le _, Nat.zero_le _⟩ (fun r_35 u_35 H locs hf hP hS => ?_)
    replace hP : va_P (dC, dI) vwCl (wM h dA depths owners roofs rate undos undoMany drawn dug deep holes holeMany tape taped place reads read_ row order bestOrder nears isKept keptRoofs kept lanes rowSizes items moved) H := hP
    try dsimp only at hf
    refine lv_lload hx hb dX3_partOf_38 (lv_at hl 1 rfl) ?_
    refine lv_aload_n hx hb dX3_partOf_40 rfl (lv_at hl 2 rfl) ?_
    refine lv_iload_n hx hb dX3_partOf_41 rfl (lv_at hl 4 rfl) ?_
    refine cM_l (As := [.int x3]) (rest := [.long r_2, .int r_35]) S hK rfl hP hS (metX3_owned l hj hf) (lw_V q1429 q1431 qs42 q60 q1432) rfl pdX3_owned ⟨rfl, rfl⟩ ⟨Nat.le_of_ble_eq_true rfl, Nat.le_of_ble_eq_true rfl⟩ rfl hl.1 rfl (Nat.le_of_ble_eq_true rfl) dX3_partOf_42 ⟨Nat.zero_le _, Nat.zero_le _⟩ (fun r_42 u_42 H locs hf hP hS => ?_)
    replace hP : va_P (dC, dI) vwCl (wM h dA depths owners roofs rate undos undoMany drawn dug deep holes holeMany tape taped place reads read_ row order bestOrder nears isKept keptRoofs kept lanes rowSizes items moved) H := hP
    try dsimp only at hf
    refine lv_land hx hb dX3_partOf_45 ?_
    refine cs_i (As := [.long (r_2 &&& r_42)]) (rest := [.int r_35]) S (metX3_ones l hf) (lw_S q1390 q1391 q60 q1392) pdX3_ones ⟨rfl, rfl⟩ ⟨Nat.le_of_ble_eq_true rfl, Nat.le_of_ble_eq_true rfl⟩ rfl hl.1 rfl (Nat.le_of_ble_eq_true rfl) dX3_partOf_46 ⟨Nat.zero_le _, Nat.zero_le _⟩ (fun r_46 hf => ?_)
    refine lv_imul hx hb dX3_partOf_49 ?_
    refine lv_iload hx hb dX3_partOf_50 (lv_at hl 0 rfl) ?_
    obtain ⟨hne, hf⟩ := hf
    refine lv_idiv hx hb dX3_partOf_52 hne ?_
    exact hret _ _ _ _ _ hf hP hS dX3_partOf_53
  · replace hf := hf.1 c_26
    refine lv_iconst (v := 0) hx hb dX3_partOf_29 (by decide) ?_
    refine lv_goto (tgt := 53) hx hb dX3_partOf_30 (by decide) ?_
    exact hret _ _ _ _ _ hf hP hS dX3_partOf_53
/-! HoleCountyModel.part(II)I -/
theorem pdX3_part : DscOk yX3_part 2 := by decide +kernel
abbrev rmX3_part : Room := { frames := 4, cells := 0, slots := 0, locals := 98 }
abbrev RX3_part_ : Room := (headSpec (ws_ yX3_part cX3_part 3 (some .int)) rmX3_part).room
section
variable {p : Program} {l : Launch} {e : Env} {s : State} {m : MethodId} {args : Array Value} {below : List Frame} {meth : Method} {c : Code} {Qw : State → Prop} {dC : Nat → ClassId} {dI : Nat → Nat → Nat} {dA : Nat → ClassId} {h : Nat → Nat}
abbrev hrX3_part (p : Program) (l : Launch) (e : Env) (s : State) (m : MethodId) (args : Array Value) (below : List Frame) (meth : Method) (c : Code) (dC : Nat → ClassId) (dI : Nat → Nat → Nat) (dA : Nat → ClassId) (h : Nat → Nat) (Qw : State → Prop) (Q : Int32 → Int64 → Int64 → Prop) (depths : (Nat → Int32)) (owners : (Nat → Int32)) (roofs : Int64) (rate : Int32) (undos : (Nat → Int32)) (undoMany : Int32) (drawn : Int32) (holes : (Nat → Int64)) (holeMany : Int32) (tape : (Nat → Int32)) (taped : Int32) (place : Int32) (reads : Int32) (read_ : (Nat → Int32)) (row : (Nat → Int32)) (order : (Nat → Int32)) (bestOrder : (Nat → Int32)) (nears : (Nat → Int32)) (isKept : Int32) (keptRoofs : Int64) (kept : (Nat → Int32)) (lanes : (Nat → Int32)) (rowSizes : (Nat → Int32)) (items : (Nat → Int64)) (moved : (Nat → Int64)) : Prop := ∀ (r : Int32) (dug : Int64) (deep : Int64) (H : Heap) (locs : List Loc) (pc : Nat) (ls : Array Slot), Q r dug deep → va_P (dC, dI) vwCl (wM h dA depths owners roofs rate undos undoMany drawn dug deep holes holeMany tape taped place reads read_ row order bestOrder nears isKept keptRoofs kept lanes rowSizes items moved) H → va_S (mA h) s.heap H locs → decode cX3_part pc = .ok (.ireturn, 1) → W p l e RX3_part_ s m args below meth c H locs 0 0 Qw (F0 m pc ls [.int r])
def wX3_part (Q : Int32 → Int64 → Int64 → Prop) (depths : (Nat → Int32)) (owners : (Nat → Int32)) (roofs : Int64) (rate : Int32) (dug : Int64) (deep : Int64) (x1 : Int32) (x2 : Int32) : Prop := (wX3_isCell (fun r_1 => ((r_1 = 0 → (Q (-1) dug deep)) ∧ (¬ r_1 = 0 → (wX3_in (fun r_13 => ((r_13 = 0 → (Q (-1) dug deep)) ∧ (¬ r_13 = 0 → (wX3_look (fun dug_22 deep_22 => (wX3_has (fun r_30 => ((r_30 = 0 → (Q (-2) dug_22 deep_22)) ∧ (¬ r_30 = 0 → (wX3_holeAt (fun r_39 => (wX3_partOf (fun r_43 => (Q r_43 dug_22 deep_22)) owners roofs rate dug_22 deep_22 r_39 x2)) dug_22 x1)))) dug_22 x1)) depths dug deep)))) ((x2 : Int32).toInt64) 0 3)))) x1)
end
set_option maxHeartbeats 4000000 in
set_option maxRecDepth 100000 in
theorem metX3_part (l : Launch) {Q : Int32 → Int64 → Int64 → Prop} {depths : (Nat → Int32)} {owners : (Nat → Int32)} {roofs : Int64} {rate : Int32} {undos : (Nat → Int32)} {undoMany : Int32} {drawn : Int32} {dug : Int64} {deep : Int64} {holes : (Nat → Int64)} {holeMany : Int32} {tape : (Nat → Int32)} {taped : Int32} {place : Int32} {reads : Int32} {read_ : (Nat → Int32)} {row : (Nat → Int32)} {order : (Nat → Int32)} {bestOrder : (Nat → Int32)} {nears : (Nat → Int32)} {isKept : Int32} {keptRoofs : Int64} {kept : (Nat → Int32)} {lanes : (Nat → Int32)} {rowSizes : (Nat → Int32)} {items : (Nat → Int64)} {moved : (Nat → Int64)} {x1 : Int32} {x2 : Int32} {dC : Nat → ClassId} {dI : Nat → Nat → Nat} {dA : Nat → ClassId} {h : Nat → Nat} (hj : mJ h) (hf : wX3_part Q depths owners roofs rate dug deep x1 x2) : Met l yX3_part (ws_ yX3_part cX3_part 3 (some .int)) rmX3_part (mPc dC dI dA h [.int x1, .int x2] (wM h dA depths owners roofs rate undos undoMany drawn dug deep holes holeMany tape taped place reads read_ row order bestOrder nears isKept keptRoofs kept lanes rowSizes items moved)) (va_Qi (fun (r : Int32) (u : Int64 × Int64) => Q r u.1 u.2) (fun u t => va_P (dC, dI) vwCl (wM h dA depths owners roofs rate undos undoMany drawn u.1 u.2 holes holeMany tape taped place reads read_ row order bestOrder nears isKept keptRoofs kept lanes rowSizes items moved) t.heap) (mA h)) 0 0 (mA h) := by
  refine Met.ofW (cc := cX3_part) (maxL := 3) (ret := (some .int)) (by decide) rfl ?_
  intro p e s m args below meth c s₁ B hml hv
  obtain ⟨rfl, hP, hK⟩ := hv
  have hx := B.exec
  have hb := B.bytes
  have hr := B.returns
  have hts := atoms_spec (ws := (ws_ yX3_part cX3_part 3 (some .int))) B.pre
  have hts : ∀ w ∈ lw_all, w.before _ s = true := fun w h => hts w (List.mem_cons_of_mem _ h)
  have hown : s.vm.findClass RX3 = some m.cls := findClass_of_methodNamed B.named
  have hlocks := B.notSynchronized
  have S : CallFix p m c cX3_part 3 s _ lw_all RX3 := ⟨hx, hb, hml, hown, hts⟩
  have hS : va_S (mA h) s.heap s.heap [] := va_S.rf
  have hl := lv_entry ([.ref (h 0), .int x1, .int x2]) (n := 3) (Nat.le_of_ble_eq_true rfl)
  rw [lg_entry_eq]
  generalize (lg_sl ([.ref (h 0), .int x1, .int x2]) ++ List.replicate (3 - (lg_sl ([.ref (h 0), .int x1, .int x2])).length) Slot.unset).toArray = ls at hl ⊢
  replace hl : lv_has ls 3 [(0, .ref (h 0)), (1, .int x1), (2, .int x2)] := hl
  have hret : hrX3_part p l e s m ([.ref (h 0), .int x1, .int x2] : List Value).toArray below meth c dC dI dA h (MQ below (va_Qi (fun (r : Int32) (u : Int64 × Int64) => Q r u.1 u.2) (fun u t => va_P (dC, dI) vwCl (wM h dA depths owners roofs rate undos undoMany drawn u.1 u.2 holes holeMany tape taped place reads read_ row order bestOrder nears isKept keptRoofs kept lanes rowSizes items moved) t.heap) (mA h)) ([.ref (h 0), .int x1, .int x2] : List Value).toArray s 0 0 (mA h)) Q depths owners roofs rate undos undoMany drawn holes holeMany tape taped place reads read_ row order bestOrder nears isKept keptRoofs kept lanes rowSizes items moved := fun r dug deep H locs pc ls hq hP hS hd => W.iret hx hb hr (fun t ht hW => ⟨⟨r, (dug, deep), rfl, hq, by subst ht; exact hP⟩, hS.F ht⟩) hS.2.2 hd
  unfold wX3_part at hf
  refine lv_iload_n hx hb dX3_part_0 rfl (lv_at hl 1 rfl) ?_
  refine cs_i (As := [.int x1]) (rest := []) S (metX3_isCell l hf) (lw_S q1264 q1265 q60 q1266) pdX3_isCell ⟨rfl, rfl⟩ ⟨Nat.le_of_ble_eq_true rfl, Nat.le_of_ble_eq_true rfl⟩ rfl hl.1 rfl (Nat.le_of_ble_eq_true rfl) dX3_part_1 ⟨Nat.zero_le _, Nat.zero_le _⟩ (fun r_1 hf => ?_)
  refine lv_if_eq (tgt := 19) hx hb dX3_part_4 (by decide) (fun c_4 => ?_) (fun c_4 => ?_)
  · replace hf := hf.1 c_4
    refine lv_iconst (v := (-1)) hx hb dX3_part_19 (by decide) ?_
    exact hret _ _ _ _ _ _ _ hf hP hS dX3_part_20
  · replace hf := hf.2 c_4
    refine lv_iload_n hx hb dX3_part_7 rfl (lv_at hl 2 rfl) ?_
    refine lv_i2l (v := (x2 : Int32).toInt64) hx hb dX3_part_8 rfl ?_
    refine lv_lconst (v := 0) hx hb dX3_part_9 (by decide) ?_
    refine lv_ldc2 (v := 3) hx hb hown (hts _ q1453) dX3_part_10 ?_
    refine cs_i (As := [.long (x2 : Int32).toInt64, .long 0, .long 3]) (rest := []) S (metX3_in l hf) (lw_S q1268 q1269 q60 q1270) pdX3_in ⟨rfl, rfl⟩ ⟨Nat.le_of_ble_eq_true rfl, Nat.le_of_ble_eq_true rfl⟩ rfl hl.1 rfl (Nat.le_of_ble_eq_true rfl) dX3_part_13 ⟨Nat.zero_le _, Nat.zero_le _⟩ (fun r_13 hf => ?_)
    refine lv_if_ne (tgt := 21) hx hb dX3_part_16 (by decide) (fun c_16 => ?_) (fun c_16 => ?_)
    · replace hf := hf.2 c_16
      refine lv_aload_n hx hb dX3_part_21 rfl (lv_at hl 0 rfl) ?_
      refine cM_v (As := []) (rest := []) S hK rfl hP hS (metX3_look l hj hf) (lw_V q1309 q1311 qs27 q60 q1312) rfl pdX3_look ⟨rfl, rfl⟩ ⟨Nat.le_of_ble_eq_true rfl, Nat.le_of_ble_eq_true rfl⟩ rfl hl.1 rfl (Nat.le_of_ble_eq_true rfl) dX3_part_22 ⟨Nat.zero_le _, Nat.zero_le _⟩ (fun u_22 H locs hf hP hS => ?_)
      obtain ⟨dug_22, deep_22⟩ := u_22
      replace hP : va_P (dC, dI) vwCl (wM h dA depths owners roofs rate undos undoMany drawn dug_22 deep_22 holes holeMany tape taped place reads read_ row order bestOrder nears isKept keptRoofs kept lanes rowSizes items moved) H := hP
      try dsimp only at hf
      refine lv_aload_n hx hb dX3_part_25 rfl (lv_at hl 0 rfl) ?_
      refine gM_dug S hK hP dX3_part_26 ?_
      refine lv_iload_n hx hb dX3_part_29 rfl (lv_at hl 1 rfl) ?_
      refine cs_i (As := [.long dug_22, .int x1]) (rest := []) S (metX3_has l hf) (lw_S q1275 q1276 q60 q1277) pdX3_has ⟨rfl, rfl⟩ ⟨Nat.le_of_ble_eq_true rfl, Nat.le_of_ble_eq_true rfl⟩ rfl hl.1 rfl (Nat.le_of_ble_eq_true rfl) dX3_part_30 ⟨Nat.zero_le _, Nat.zero_le _⟩ (fun r_30 hf => ?_)
      refine lv_if_eq (tgt := 49) hx hb dX3_part_33 (by decide) (fun c_33 => ?_) (fun c_33 => ?_)
      · replace hf := hf.1 c_33
        refine lv_bipush (v := (-2)) hx hb dX3_part_49 (by decide) ?_
        exact hret _ _ _ _ _ _ _ hf hP hS dX3_part_51
      · replace hf := hf.2 c_33
        refine lv_aload_n hx hb dX3_part_36 rfl (lv_at hl 0 rfl) ?_
        refine lv_aload_n hx hb dX3_part_37 rfl (lv_at hl 0 rfl) ?_
        refine lv_iload_n hx hb dX3_part_38 rfl (lv_at hl 1 rfl) ?_
        refine cM_l (As := [.int x1]) (rest := [.ref (h 0)]) S hK rfl hP hS (metX3_holeAt l hj hf) (lw_V q1313 q1315 qs28 q60 q1316) rfl pdX3_holeAt ⟨rfl, rfl⟩ ⟨Nat.le_of_ble_eq_true rfl, Nat.le_of_ble_eq_true rfl⟩ rfl hl.1 rfl (Nat.le_of_ble_eq_true rfl) dX3_part_39 ⟨Nat.zero_le _, Nat.zero_le _⟩ (fun r_39 u_39 H locs hf hP hS => ?_)
        replace hP : va_P (dC, dI) vwCl (wM h dA depths owners roofs rate undos undoMany drawn dug_22 deep_22 holes holeMany tape taped place reads read_ row order bestOrder nears isKept keptRoofs kept lanes rowSizes items moved) H := hP
        try dsimp only at hf
        refine lv_iload_n hx hb dX3_part_42 rfl (lv_at hl 2 rfl) ?_
        refine cM_i (As := [.long r_39, .int x2]) (rest := []) S hK rfl hP hS (metX3_partOf l hj hf) (lw_V q1454 q1456 qs44 q60 q1457) rfl pdX3_partOf ⟨rfl, rfl⟩ ⟨Nat.le_of_ble_eq_true rfl, Nat.le_of_ble_eq_true rfl⟩ rfl hl.1 rfl (Nat.le_of_ble_eq_true rfl) dX3_part_43 ⟨Nat.zero_le _, Nat.zero_le _⟩ (fun r_43 u_43 H locs hf hP hS => ?_)
        replace hP : va_P (dC, dI) vwCl (wM h dA depths owners roofs rate undos undoMany drawn dug_22 deep_22 holes holeMany tape taped place reads read_ row order bestOrder nears isKept keptRoofs kept lanes rowSizes items moved) H := hP
        try dsimp only at hf
        refine lv_goto (tgt := 51) hx hb dX3_part_46 (by decide) ?_
        exact hret _ _ _ _ _ _ _ hf hP hS dX3_part_51
    · replace hf := hf.1 c_16
      refine lv_iconst (v := (-1)) hx hb dX3_part_19 (by decide) ?_
      exact hret _ _ _ _ _ _ _ hf hP hS dX3_part_20
/-! HoleCountyModel.pays(I)I -/
theorem pdX3_pays : DscOk yX3_pays 1 := by decide +kernel
abbrev rmX3_pays : Room := { frames := 4, cells := 0, slots := 0, locals := 98 }
abbrev RX3_pays_ : Room := (headSpec (ws_ yX3_pays cX3_pays 4 (some .int)) rmX3_pays).room
section
variable {p : Program} {l : Launch} {e : Env} {s : State} {m : MethodId} {args : Array Value} {below : List Frame} {meth : Method} {c : Code} {Qw : State → Prop} {dC : Nat → ClassId} {dI : Nat → Nat → Nat} {dA : Nat → ClassId} {h : Nat → Nat}
abbrev hrX3_pays (p : Program) (l : Launch) (e : Env) (s : State) (m : MethodId) (args : Array Value) (below : List Frame) (meth : Method) (c : Code) (dC : Nat → ClassId) (dI : Nat → Nat → Nat) (dA : Nat → ClassId) (h : Nat → Nat) (Qw : State → Prop) (Q : Int32 → Int64 → Int64 → (Nat → Int64) → Int32 → Prop) (depths : (Nat → Int32)) (owners : (Nat → Int32)) (roofs : Int64) (rate : Int32) (undos : (Nat → Int32)) (undoMany : Int32) (drawn : Int32) (tape : (Nat → Int32)) (taped : Int32) (place : Int32) (reads : Int32) (read_ : (Nat → Int32)) (row : (Nat → Int32)) (order : (Nat → Int32)) (bestOrder : (Nat → Int32)) (nears : (Nat → Int32)) (isKept : Int32) (keptRoofs : Int64) (kept : (Nat → Int32)) (lanes : (Nat → Int32)) (rowSizes : (Nat → Int32)) (items : (Nat → Int64)) (moved : (Nat → Int64)) : Prop := ∀ (r : Int32) (dug : Int64) (deep : Int64) (holes : (Nat → Int64)) (holeMany : Int32) (H : Heap) (locs : List Loc) (pc : Nat) (ls : Array Slot), Q r dug deep holes holeMany → va_P (dC, dI) vwCl (wM h dA depths owners roofs rate undos undoMany drawn dug deep holes holeMany tape taped place reads read_ row order bestOrder nears isKept keptRoofs kept lanes rowSizes items moved) H → va_S (mA h) s.heap H locs → decode cX3_pays pc = .ok (.ireturn, 1) → W p l e RX3_pays_ s m args below meth c H locs 0 0 Qw (F0 m pc ls [.int r])
def wX3_pays_26 (Q : Int32 → Int64 → Int64 → (Nat → Int64) → Int32 → Prop) (x1 : Int32) (depths : (Nat → Int32)) (owners : (Nat → Int32)) (roofs : Int64) (rate : Int32) (dug : Int64) (deep : Int64) (holes : (Nat → Int64)) (holeMany : Int32) : Nat → Int32 → Int32 → Prop
  | 0, _, _ => False
  | n + 1, x2, x3 => ((holeMany ≤ x3 → (Q x2 dug deep holes holeMany)) ∧ (¬ holeMany ≤ x3 → (vp_in x3 36 ∧ (wX3_partOf (fun r_43 => (∀ x2_47 : Int32, x2_47 = (x2 + r_43) → (∀ x3_48 : Int32, x3_48 = x3 + 1 → ((wX3_pays_26 Q x1 depths owners roofs rate dug deep holes holeMany n) x2_47 x3_48)))) owners roofs rate dug deep (holes (x3 : Int32).toNatClampNeg) x1))))
set_option maxHeartbeats 4000000 in
set_option maxRecDepth 100000 in
theorem tX3_pays_26 {Q : Int32 → Int64 → Int64 → (Nat → Int64) → Int32 → Prop} {x1 : Int32} {depths : (Nat → Int32)} {owners : (Nat → Int32)} {roofs : Int64} {rate : Int32} {undos : (Nat → Int32)} {undoMany : Int32} {drawn : Int32} {dug : Int64} {deep : Int64} {holes : (Nat → Int64)} {holeMany : Int32} {tape : (Nat → Int32)} {taped : Int32} {place : Int32} {reads : Int32} {read_ : (Nat → Int32)} {row : (Nat → Int32)} {order : (Nat → Int32)} {bestOrder : (Nat → Int32)} {nears : (Nat → Int32)} {isKept : Int32} {keptRoofs : Int64} {kept : (Nat → Int32)} {lanes : (Nat → Int32)} {rowSizes : (Nat → Int32)} {items : (Nat → Int64)} {moved : (Nat → Int64)} (S : CallFix p m c cX3_pays 4 s args lw_all RX3) (hK : va_K (dC, dI) vwCl (tysG dA) s) (hj : mJ h) (hret : hrX3_pays p l e s m args below meth c dC dI dA h Qw Q depths owners roofs rate undos undoMany drawn tape taped place reads read_ row order bestOrder nears isKept keptRoofs kept lanes rowSizes items moved) : ∀ (n : Nat) (x2 : Int32) (x3 : Int32) (H : Heap) (locs : List Loc) (ls : Array Slot), wX3_pays_26 Q x1 depths owners roofs rate dug deep holes holeMany n x2 x3 → va_P (dC, dI) vwCl (wM h dA depths owners roofs rate undos undoMany drawn dug deep holes holeMany tape taped place reads read_ row order bestOrder nears isKept keptRoofs kept lanes rowSizes items moved) H → va_S (mA h) s.heap H locs → lv_has ls 4 [(0, .ref (h 0)), (1, .int x1), (2, .int x2), (3, .int x3)] → W p l e RX3_pays_ s m args below meth c H locs 0 0 Qw (F0 m 26 ls []) := by
  obtain ⟨hx, hb, hml, hown, hts⟩ := id S
  intro n
  induction n with
  | zero => intro _ _ _ _ _ hf; exact hf.elim
  | succ n ih =>
    intro x2 x3 H locs ls hf hP hS hl
    rw [wX3_pays_26] at hf
    refine lv_iload_n hx hb dX3_pays_26 rfl (lv_at hl 3 rfl) ?_
    refine lv_aload_n hx hb dX3_pays_27 rfl (lv_at hl 0 rfl) ?_
    refine gM_holeMany S hK hP dX3_pays_28 ?_
    refine lv_icmp_ge (tgt := 54) hx hb dX3_pays_31 (by decide) (fun c_31 => ?_) (fun c_31 => ?_)
    · replace hf := hf.1 c_31
      refine lv_iload_n hx hb dX3_pays_54 rfl (lv_at hl 2 rfl) ?_
      exact hret _ _ _ _ _ _ _ _ _ hf hP hS dX3_pays_55
    · replace hf := hf.2 c_31
      refine lv_iload_n hx hb dX3_pays_34 rfl (lv_at hl 2 rfl) ?_
      refine lv_aload_n hx hb dX3_pays_35 rfl (lv_at hl 0 rfl) ?_
      refine lv_aload_n hx hb dX3_pays_36 rfl (lv_at hl 0 rfl) ?_
      refine gM_holes S hK hP dX3_pays_37 ?_
      refine lv_iload_n hx hb dX3_pays_40 rfl (lv_at hl 3 rfl) ?_
      obtain ⟨hin, hf⟩ := hf
      refine lM_holes S hK hP hin dX3_pays_41 ?_
      refine lv_iload_n hx hb dX3_pays_42 rfl (lv_at hl 1 rfl) ?_
      refine cM_i (As := [.long (holes (x3 : Int32).toNatClampNeg), .int x1]) (rest := [.int x2]) S hK rfl hP hS (metX3_partOf l hj hf) (lw_V q1454 q1456 qs44 q60 q1457) rfl pdX3_partOf ⟨rfl, rfl⟩ ⟨Nat.le_of_ble_eq_true rfl, Nat.le_of_ble_eq_true rfl⟩ rfl hl.1 rfl (Nat.le_of_ble_eq_true rfl) dX3_pays_43 ⟨Nat.zero_le _, Nat.zero_le _⟩ (fun r_43 u_43 H locs hf hP hS => ?_)
      replace hP : va_P (dC, dI) vwCl (wM h dA depths owners roofs rate undos undoMany drawn dug deep holes holeMany tape taped place reads read_ row order bestOrder nears isKept keptRoofs kept lanes rowSizes items moved) H := hP
      try dsimp only at hf
      refine lv_iadd hx hb dX3_pays_46 ?_
      refine lv_topi (fun x2_47 ex2_47 => ?_)
      replace hf := hf x2_47 ex2_47
      refine lv_istore_n (lv' := [(2, .int x2_47), (0, .ref (h 0)), (1, .int x1), (3, .int x3)]) hx hb dX3_pays_47 rfl hl (by decide) rfl (fun ls hl => ?_)
      obtain ⟨x3_48, ex3_48⟩ : ∃ z : Int32, z = x3 + 1 := ⟨_, rfl⟩
      replace hf := hf x3_48 ex3_48
      refine lv_iinc (v := x3_48) (lv' := [(3, .int x3_48), (2, .int x2_47), (0, .ref (h 0)), (1, .int x1)]) hx hb dX3_pays_48 hl (k := 3) rfl (by rw [ex3_48]; rfl) (by decide) rfl (fun ls hl => ?_)
      refine lv_goto (tgt := 26) hx hb dX3_pays_51 (by decide) ?_
      exact ih x2_47 x3_48 _ _ _ hf hP hS (lv_sub hl [2, 3, 1, 0] rfl)
def wX3_pays (Q : Int32 → Int64 → Int64 → (Nat → Int64) → Int32 → Prop) (depths : (Nat → Int32)) (owners : (Nat → Int32)) (roofs : Int64) (rate : Int32) (dug : Int64) (deep : Int64) (holes : (Nat → Int64)) (holeMany : Int32) (x1 : Int32) : Prop := (wX3_in (fun r_6 => ((r_6 = 0 → (Q (-1) dug deep holes holeMany)) ∧ (¬ r_6 = 0 → (wX3_look (fun dug_15 deep_15 => (wX3_findHoles (fun holes_19 holeMany_19 => (∃ fu : Nat, wX3_pays_26 Q x1 depths owners roofs rate dug_15 deep_15 holes_19 holeMany_19 fu 0 0)) dug_15 holes holeMany)) depths dug deep)))) ((x1 : Int32).toInt64) 0 3)
end
set_option maxHeartbeats 4000000 in
set_option maxRecDepth 100000 in
theorem metX3_pays (l : Launch) {Q : Int32 → Int64 → Int64 → (Nat → Int64) → Int32 → Prop} {depths : (Nat → Int32)} {owners : (Nat → Int32)} {roofs : Int64} {rate : Int32} {undos : (Nat → Int32)} {undoMany : Int32} {drawn : Int32} {dug : Int64} {deep : Int64} {holes : (Nat → Int64)} {holeMany : Int32} {tape : (Nat → Int32)} {taped : Int32} {place : Int32} {reads : Int32} {read_ : (Nat → Int32)} {row : (Nat → Int32)} {order : (Nat → Int32)} {bestOrder : (Nat → Int32)} {nears : (Nat → Int32)} {isKept : Int32} {keptRoofs : Int64} {kept : (Nat → Int32)} {lanes : (Nat → Int32)} {rowSizes : (Nat → Int32)} {items : (Nat → Int64)} {moved : (Nat → Int64)} {x1 : Int32} {dC : Nat → ClassId} {dI : Nat → Nat → Nat} {dA : Nat → ClassId} {h : Nat → Nat} (hj : mJ h) (hf : wX3_pays Q depths owners roofs rate dug deep holes holeMany x1) : Met l yX3_pays (ws_ yX3_pays cX3_pays 4 (some .int)) rmX3_pays (mPc dC dI dA h [.int x1] (wM h dA depths owners roofs rate undos undoMany drawn dug deep holes holeMany tape taped place reads read_ row order bestOrder nears isKept keptRoofs kept lanes rowSizes items moved)) (va_Qi (fun (r : Int32) (u : Int64 × Int64 × (Nat → Int64) × Int32) => Q r u.1 u.2.1 u.2.2.1 u.2.2.2) (fun u t => va_P (dC, dI) vwCl (wM h dA depths owners roofs rate undos undoMany drawn u.1 u.2.1 u.2.2.1 u.2.2.2 tape taped place reads read_ row order bestOrder nears isKept keptRoofs kept lanes rowSizes items moved) t.heap) (mA h)) 0 0 (mA h) := by
  refine Met.ofW (cc := cX3_pays) (maxL := 4) (ret := (some .int)) (by decide) rfl ?_
  intro p e s m args below meth c s₁ B hml hv
  obtain ⟨rfl, hP, hK⟩ := hv
  have hx := B.exec
  have hb := B.bytes
  have hr := B.returns
  have hts := atoms_spec (ws := (ws_ yX3_pays cX3_pays 4 (some .int))) B.pre
  have hts : ∀ w ∈ lw_all, w.before _ s = true := fun w h => hts w (List.mem_cons_of_mem _ h)
  have hown : s.vm.findClass RX3 = some m.cls := findClass_of_methodNamed B.named
  have hlocks := B.notSynchronized
  have S : CallFix p m c cX3_pays 4 s _ lw_all RX3 := ⟨hx, hb, hml, hown, hts⟩
  have hS : va_S (mA h) s.heap s.heap [] := va_S.rf
  have hl := lv_entry ([.ref (h 0), .int x1]) (n := 4) (Nat.le_of_ble_eq_true rfl)
  rw [lg_entry_eq]
  generalize (lg_sl ([.ref (h 0), .int x1]) ++ List.replicate (4 - (lg_sl ([.ref (h 0), .int x1])).length) Slot.unset).toArray = ls at hl ⊢
  replace hl : lv_has ls 4 [(0, .ref (h 0)), (1, .int x1)] := hl
  have hret : hrX3_pays p l e s m ([.ref (h 0), .int x1] : List Value).toArray below meth c dC dI dA h (MQ below (va_Qi (fun (r : Int32) (u : Int64 × Int64 × (Nat → Int64) × Int32) => Q r u.1 u.2.1 u.2.2.1 u.2.2.2) (fun u t => va_P (dC, dI) vwCl (wM h dA depths owners roofs rate undos undoMany drawn u.1 u.2.1 u.2.2.1 u.2.2.2 tape taped place reads read_ row order bestOrder nears isKept keptRoofs kept lanes rowSizes items moved) t.heap) (mA h)) ([.ref (h 0), .int x1] : List Value).toArray s 0 0 (mA h)) Q depths owners roofs rate undos undoMany drawn tape taped place reads read_ row order bestOrder nears isKept keptRoofs kept lanes rowSizes items moved := fun r dug deep holes holeMany H locs pc ls hq hP hS hd => W.iret hx hb hr (fun t ht hW => ⟨⟨r, (dug, deep, holes, holeMany), rfl, hq, by subst ht; exact hP⟩, hS.F ht⟩) hS.2.2 hd
  unfold wX3_pays at hf
  refine lv_iload_n hx hb dX3_pays_0 rfl (lv_at hl 1 rfl) ?_
  refine lv_i2l (v := (x1 : Int32).toInt64) hx hb dX3_pays_1 rfl ?_
  refine lv_lconst (v := 0) hx hb dX3_pays_2 (by decide) ?_
  refine lv_ldc2 (v := 3) hx hb hown (hts _ q1453) dX3_pays_3 ?_
  refine cs_i (As := [.long (x1 : Int32).toInt64, .long 0, .long 3]) (rest := []) S (metX3_in l hf) (lw_S q1268 q1269 q60 q1270) pdX3_in ⟨rfl, rfl⟩ ⟨Nat.le_of_ble_eq_true rfl, Nat.le_of_ble_eq_true rfl⟩ rfl hl.1 rfl (Nat.le_of_ble_eq_true rfl) dX3_pays_6 ⟨Nat.zero_le _, Nat.zero_le _⟩ (fun r_6 hf => ?_)
  refine lv_if_ne (tgt := 14) hx hb dX3_pays_9 (by decide) (fun c_9 => ?_) (fun c_9 => ?_)
  · replace hf := hf.2 c_9
    refine lv_aload_n hx hb dX3_pays_14 rfl (lv_at hl 0 rfl) ?_
    refine cM_v (As := []) (rest := []) S hK rfl hP hS (metX3_look l hj hf) (lw_V q1309 q1311 qs27 q60 q1312) rfl pdX3_look ⟨rfl, rfl⟩ ⟨Nat.le_of_ble_eq_true rfl, Nat.le_of_ble_eq_true rfl⟩ rfl hl.1 rfl (Nat.le_of_ble_eq_true rfl) dX3_pays_15 ⟨Nat.zero_le _, Nat.zero_le _⟩ (fun u_15 H locs hf hP hS => ?_)
    obtain ⟨dug_15, deep_15⟩ := u_15
    replace hP : va_P (dC, dI) vwCl (wM h dA depths owners roofs rate undos undoMany drawn dug_15 deep_15 holes holeMany tape taped place reads read_ row order bestOrder nears isKept keptRoofs kept lanes rowSizes items moved) H := hP
    try dsimp only at hf
    refine lv_aload_n hx hb dX3_pays_18 rfl (lv_at hl 0 rfl) ?_
    refine cM_v (As := []) (rest := []) S hK rfl hP hS (metX3_findHoles l hj hf) (lw_V q1356 q1358 qs33 q60 q1359) rfl pdX3_findHoles ⟨rfl, rfl⟩ ⟨Nat.le_of_ble_eq_true rfl, Nat.le_of_ble_eq_true rfl⟩ rfl hl.1 rfl (Nat.le_of_ble_eq_true rfl) dX3_pays_19 ⟨Nat.zero_le _, Nat.zero_le _⟩ (fun u_19 H locs hf hP hS => ?_)
    obtain ⟨holes_19, holeMany_19⟩ := u_19
    replace hP : va_P (dC, dI) vwCl (wM h dA depths owners roofs rate undos undoMany drawn dug_15 deep_15 holes_19 holeMany_19 tape taped place reads read_ row order bestOrder nears isKept keptRoofs kept lanes rowSizes items moved) H := hP
    try dsimp only at hf
    refine lv_iconst (v := 0) hx hb dX3_pays_22 (by decide) ?_
    refine lv_istore_n (lv' := [(2, .int 0), (0, .ref (h 0)), (1, .int x1)]) hx hb dX3_pays_23 rfl hl (by decide) rfl (fun ls hl => ?_)
    refine lv_iconst (v := 0) hx hb dX3_pays_24 (by decide) ?_
    refine lv_istore_n (lv' := [(3, .int 0), (2, .int 0), (0, .ref (h 0)), (1, .int x1)]) hx hb dX3_pays_25 rfl hl (by decide) rfl (fun ls hl => ?_)
    obtain ⟨fu, hf⟩ := hf
    exact tX3_pays_26 S hK hj hret fu 0 0 _ _ _ hf hP hS (lv_sub hl [2, 3, 1, 0] rfl)
  · replace hf := hf.1 c_9
    refine lv_iconst (v := (-1)) hx hb dX3_pays_12 (by decide) ?_
    exact hret _ _ _ _ _ _ _ _ _ hf hP hS dX3_pays_13
/-! HoleCountyModel.worth(I)I -/
theorem pdX3_worth : DscOk yX3_worth 1 := by decide +kernel
abbrev rmX3_worth : Room := { frames := 5, cells := 0, slots := 0, locals := 115 }
abbrev RX3_worth_ : Room := (headSpec (ws_ yX3_worth cX3_worth 3 (some .int)) rmX3_worth).room
section
variable {p : Program} {l : Launch} {e : Env} {s : State} {m : MethodId} {args : Array Value} {below : List Frame} {meth : Method} {c : Code} {Qw : State → Prop} {dC : Nat → ClassId} {dI : Nat → Nat → Nat} {dA : Nat → ClassId} {h : Nat → Nat}
abbrev hrX3_worth (p : Program) (l : Launch) (e : Env) (s : State) (m : MethodId) (args : Array Value) (below : List Frame) (meth : Method) (c : Code) (dC : Nat → ClassId) (dI : Nat → Nat → Nat) (dA : Nat → ClassId) (h : Nat → Nat) (Qw : State → Prop) (Q : Int32 → Int64 → Int64 → (Nat → Int64) → Int32 → Prop) (depths : (Nat → Int32)) (owners : (Nat → Int32)) (roofs : Int64) (rate : Int32) (undos : (Nat → Int32)) (undoMany : Int32) (drawn : Int32) (tape : (Nat → Int32)) (taped : Int32) (place : Int32) (reads : Int32) (read_ : (Nat → Int32)) (row : (Nat → Int32)) (order : (Nat → Int32)) (bestOrder : (Nat → Int32)) (nears : (Nat → Int32)) (isKept : Int32) (keptRoofs : Int64) (kept : (Nat → Int32)) (lanes : (Nat → Int32)) (rowSizes : (Nat → Int32)) (items : (Nat → Int64)) (moved : (Nat → Int64)) : Prop := ∀ (r : Int32) (dug : Int64) (deep : Int64) (holes : (Nat → Int64)) (holeMany : Int32) (H : Heap) (locs : List Loc) (pc : Nat) (ls : Array Slot), Q r dug deep holes holeMany → va_P (dC, dI) vwCl (wM h dA depths owners roofs rate undos undoMany drawn dug deep holes holeMany tape taped place reads read_ row order bestOrder nears isKept keptRoofs kept lanes rowSizes items moved) H → va_S (mA h) s.heap H locs → decode cX3_worth pc = .ok (.ireturn, 1) → W p l e RX3_worth_ s m args below meth c H locs 0 0 Qw (F0 m pc ls [.int r])
def wX3_worth (Q : Int32 → Int64 → Int64 → (Nat → Int64) → Int32 → Prop) (depths : (Nat → Int32)) (owners : (Nat → Int32)) (roofs : Int64) (rate : Int32) (dug : Int64) (deep : Int64) (holes : (Nat → Int64)) (holeMany : Int32) (x1 : Int32) : Prop := (wX3_in (fun r_6 => ((r_6 = 0 → (Q (-100001) dug deep holes holeMany)) ∧ (¬ r_6 = 0 → (wX3_look (fun dug_16 deep_16 => (wX3_taxOfAll (fun r_20 holes_20 holeMany_20 => (wX3_owned (fun r_31 => (∀ dug_39 : Int64, dug_39 = (dug_16 &&& (r_31 ^^^ (-1))) → (wX3_taxOfAll (fun r_44 holes_44 holeMany_44 => (Q (r_20 - r_44) dug_39 deep_16 holes_44 holeMany_44)) roofs rate dug_39 deep_16 holes_20 holeMany_20))) owners x1)) roofs rate dug_16 deep_16 holes holeMany)) depths dug deep)))) ((x1 : Int32).toInt64) 0 3)
end
set_option maxHeartbeats 4000000 in
set_option maxRecDepth 100000 in
theorem metX3_worth (l : Launch) {Q : Int32 → Int64 → Int64 → (Nat → Int64) → Int32 → Prop} {depths : (Nat → Int32)} {owners : (Nat → Int32)} {roofs : Int64} {rate : Int32} {undos : (Nat → Int32)} {undoMany : Int32} {drawn : Int32} {dug : Int64} {deep : Int64} {holes : (Nat → Int64)} {holeMany : Int32} {tape : (Nat → Int32)} {taped : Int32} {place : Int32} {reads : Int32} {read_ : (Nat → Int32)} {row : (Nat → Int32)} {order : (Nat → Int32)} {bestOrder : (Nat → Int32)} {nears : (Nat → Int32)} {isKept : Int32} {keptRoofs : Int64} {kept : (Nat → Int32)} {lanes : (Nat → Int32)} {rowSizes : (Nat → Int32)} {items : (Nat → Int64)} {moved : (Nat → Int64)} {x1 : Int32} {dC : Nat → ClassId} {dI : Nat → Nat → Nat} {dA : Nat → ClassId} {h : Nat → Nat} (hj : mJ h) (hf : wX3_worth Q depths owners roofs rate dug deep holes holeMany x1) : Met l yX3_worth (ws_ yX3_worth cX3_worth 3 (some .int)) rmX3_worth (mPc dC dI dA h [.int x1] (wM h dA depths owners roofs rate undos undoMany drawn dug deep holes holeMany tape taped place reads read_ row order bestOrder nears isKept keptRoofs kept lanes rowSizes items moved)) (va_Qi (fun (r : Int32) (u : Int64 × Int64 × (Nat → Int64) × Int32) => Q r u.1 u.2.1 u.2.2.1 u.2.2.2) (fun u t => va_P (dC, dI) vwCl (wM h dA depths owners roofs rate undos undoMany drawn u.1 u.2.1 u.2.2.1 u.2.2.2 tape taped place reads read_ row order bestOrder nears isKept keptRoofs kept lanes rowSizes items moved) t.heap) (mA h)) 0 0 (mA h) := by
  refine Met.ofW (cc := cX3_worth) (maxL := 3) (ret := (some .int)) (by decide) rfl ?_
  intro p e s m args below meth c s₁ B hml hv
  obtain ⟨rfl, hP, hK⟩ := hv
  have hx := B.exec
  have hb := B.bytes
  have hr := B.returns
  have hts := atoms_spec (ws := (ws_ yX3_worth cX3_worth 3 (some .int))) B.pre
  have hts : ∀ w ∈ lw_all, w.before _ s = true := fun w h => hts w (List.mem_cons_of_mem _ h)
  have hown : s.vm.findClass RX3 = some m.cls := findClass_of_methodNamed B.named
  have hlocks := B.notSynchronized
  have S : CallFix p m c cX3_worth 3 s _ lw_all RX3 := ⟨hx, hb, hml, hown, hts⟩
  have hS : va_S (mA h) s.heap s.heap [] := va_S.rf
  have hl := lv_entry ([.ref (h 0), .int x1]) (n := 3) (Nat.le_of_ble_eq_true rfl)
  rw [lg_entry_eq]
  generalize (lg_sl ([.ref (h 0), .int x1]) ++ List.replicate (3 - (lg_sl ([.ref (h 0), .int x1])).length) Slot.unset).toArray = ls at hl ⊢
  replace hl : lv_has ls 3 [(0, .ref (h 0)), (1, .int x1)] := hl
  have hret : hrX3_worth p l e s m ([.ref (h 0), .int x1] : List Value).toArray below meth c dC dI dA h (MQ below (va_Qi (fun (r : Int32) (u : Int64 × Int64 × (Nat → Int64) × Int32) => Q r u.1 u.2.1 u.2.2.1 u.2.2.2) (fun u t => va_P (dC, dI) vwCl (wM h dA depths owners roofs rate undos undoMany drawn u.1 u.2.1 u.2.2.1 u.2.2.2 tape taped place reads read_ row order bestOrder nears isKept keptRoofs kept lanes rowSizes items moved) t.heap) (mA h)) ([.ref (h 0), .int x1] : List Value).toArray s 0 0 (mA h)) Q depths owners roofs rate undos undoMany drawn tape taped place reads read_ row order bestOrder nears isKept keptRoofs kept lanes rowSizes items moved := fun r dug deep holes holeMany H locs pc ls hq hP hS hd => W.iret hx hb hr (fun t ht hW => ⟨⟨r, (dug, deep, holes, holeMany), rfl, hq, by subst ht; exact hP⟩, hS.F ht⟩) hS.2.2 hd
  unfold wX3_worth at hf
  refine lv_iload_n hx hb dX3_worth_0 rfl (lv_at hl 1 rfl) ?_
  refine lv_i2l (v := (x1 : Int32).toInt64) hx hb dX3_worth_1 rfl ?_
  refine lv_lconst (v := 0) hx hb dX3_worth_2 (by decide) ?_
  refine lv_ldc2 (v := 3) hx hb hown (hts _ q1453) dX3_worth_3 ?_
  refine cs_i (As := [.long (x1 : Int32).toInt64, .long 0, .long 3]) (rest := []) S (metX3_in l hf) (lw_S q1268 q1269 q60 q1270) pdX3_in ⟨rfl, rfl⟩ ⟨Nat.le_of_ble_eq_true rfl, Nat.le_of_ble_eq_true rfl⟩ rfl hl.1 rfl (Nat.le_of_ble_eq_true rfl) dX3_worth_6 ⟨Nat.zero_le _, Nat.zero_le _⟩ (fun r_6 hf => ?_)
  refine lv_if_ne (tgt := 15) hx hb dX3_worth_9 (by decide) (fun c_9 => ?_) (fun c_9 => ?_)
  · replace hf := hf.2 c_9
    refine lv_aload_n hx hb dX3_worth_15 rfl (lv_at hl 0 rfl) ?_
    refine cM_v (As := []) (rest := []) S hK rfl hP hS (metX3_look l hj hf) (lw_V q1309 q1311 qs27 q60 q1312) rfl pdX3_look ⟨rfl, rfl⟩ ⟨Nat.le_of_ble_eq_true rfl, Nat.le_of_ble_eq_true rfl⟩ rfl hl.1 rfl (Nat.le_of_ble_eq_true rfl) dX3_worth_16 ⟨Nat.zero_le _, Nat.zero_le _⟩ (fun u_16 H locs hf hP hS => ?_)
    obtain ⟨dug_16, deep_16⟩ := u_16
    replace hP : va_P (dC, dI) vwCl (wM h dA depths owners roofs rate undos undoMany drawn dug_16 deep_16 holes holeMany tape taped place reads read_ row order bestOrder nears isKept keptRoofs kept lanes rowSizes items moved) H := hP
    try dsimp only at hf
    refine lv_aload_n hx hb dX3_worth_19 rfl (lv_at hl 0 rfl) ?_
    refine cM_i (As := []) (rest := []) S hK rfl hP hS (metX3_taxOfAll l hj hf) (lw_V q1393 q1395 qs37 q60 q1396) rfl pdX3_taxOfAll ⟨rfl, rfl⟩ ⟨Nat.le_of_ble_eq_true rfl, Nat.le_of_ble_eq_true rfl⟩ rfl hl.1 rfl (Nat.le_of_ble_eq_true rfl) dX3_worth_20 ⟨Nat.zero_le _, Nat.zero_le _⟩ (fun r_20 u_20 H locs hf hP hS => ?_)
    obtain ⟨holes_20, holeMany_20⟩ := u_20
    replace hP : va_P (dC, dI) vwCl (wM h dA depths owners roofs rate undos undoMany drawn dug_16 deep_16 holes_20 holeMany_20 tape taped place reads read_ row order bestOrder nears isKept keptRoofs kept lanes rowSizes items moved) H := hP
    try dsimp only at hf
    refine lv_istore_n (lv' := [(2, .int r_20), (0, .ref (h 0)), (1, .int x1)]) hx hb dX3_worth_23 rfl hl (by decide) rfl (fun ls hl => ?_)
    refine lv_aload_n hx hb dX3_worth_24 rfl (lv_at hl 1 rfl) ?_
    refine lv_dup hx hb dX3_worth_25 rfl ?_
    refine gM_dug S hK hP dX3_worth_26 ?_
    refine lv_aload_n hx hb dX3_worth_29 rfl (lv_at hl 1 rfl) ?_
    refine lv_iload_n hx hb dX3_worth_30 rfl (lv_at hl 2 rfl) ?_
    refine cM_l (As := [.int x1]) (rest := [.long dug_16, .ref (h 0)]) S hK rfl hP hS (metX3_owned l hj hf) (lw_V q1429 q1431 qs42 q60 q1432) rfl pdX3_owned ⟨rfl, rfl⟩ ⟨Nat.le_of_ble_eq_true rfl, Nat.le_of_ble_eq_true rfl⟩ rfl hl.1 rfl (Nat.le_of_ble_eq_true rfl) dX3_worth_31 ⟨Nat.zero_le _, Nat.zero_le _⟩ (fun r_31 u_31 H locs hf hP hS => ?_)
    replace hP : va_P (dC, dI) vwCl (wM h dA depths owners roofs rate undos undoMany drawn dug_16 deep_16 holes_20 holeMany_20 tape taped place reads read_ row order bestOrder nears isKept keptRoofs kept lanes rowSizes items moved) H := hP
    try dsimp only at hf
    refine lv_ldc2 (v := (-1)) hx hb hown (hts _ q1286) dX3_worth_34 ?_
    refine lv_lxor hx hb dX3_worth_37 ?_
    refine lv_land hx hb dX3_worth_38 ?_
    refine lv_topl (fun dug_39 edug_39 => ?_)
    replace hf := hf dug_39 edug_39
    refine pM_dug S hK hj hP hS dX3_worth_39 (fun H locs hP hS => ?_)
    refine lv_iload_n hx hb dX3_worth_42 rfl (lv_at hl 0 rfl) ?_
    refine lv_aload_n hx hb dX3_worth_43 rfl (lv_at hl 1 rfl) ?_
    refine cM_i (As := []) (rest := [.int r_20]) S hK rfl hP hS (metX3_taxOfAll l hj hf) (lw_V q1393 q1395 qs37 q60 q1396) rfl pdX3_taxOfAll ⟨rfl, rfl⟩ ⟨Nat.le_of_ble_eq_true rfl, Nat.le_of_ble_eq_true rfl⟩ rfl hl.1 rfl (Nat.le_of_ble_eq_true rfl) dX3_worth_44 ⟨Nat.zero_le _, Nat.zero_le _⟩ (fun r_44 u_44 H locs hf hP hS => ?_)
    obtain ⟨holes_44, holeMany_44⟩ := u_44
    replace hP : va_P (dC, dI) vwCl (wM h dA depths owners roofs rate undos undoMany drawn dug_39 deep_16 holes_44 holeMany_44 tape taped place reads read_ row order bestOrder nears isKept keptRoofs kept lanes rowSizes items moved) H := hP
    try dsimp only at hf
    refine lv_isub hx hb dX3_worth_47 ?_
    exact hret _ _ _ _ _ _ _ _ _ hf hP hS dX3_worth_48
  · replace hf := hf.1 c_9
    refine lv_ldc (v := (-100001)) hx hb hown (hts _ q1466) dX3_worth_12 ?_
    exact hret _ _ _ _ _ _ _ _ _ hf hP hS dX3_worth_14
/-! HoleCountyModel.does(JIJ)Z -/
theorem pdX3_does : DscOk yX3_does 3 := by decide +kernel
abbrev rmX3_does : Room := { frames := 5, cells := 0, slots := 0, locals := 115 }
abbrev RX3_does_ : Room := (headSpec (ws_ yX3_does cX3_does 9 (some .boolean)) rmX3_does).room
section
variable {p : Program} {l : Launch} {e : Env} {s : State} {m : MethodId} {args : Array Value} {below : List Frame} {meth : Method} {c : Code} {Qw : State → Prop} {dC : Nat → ClassId} {dI : Nat → Nat → Nat} {dA : Nat → ClassId} {h : Nat → Nat}
abbrev hrX3_does (p : Program) (l : Launch) (e : Env) (s : State) (m : MethodId) (args : Array Value) (below : List Frame) (meth : Method) (c : Code) (dC : Nat → ClassId) (dI : Nat → Nat → Nat) (dA : Nat → ClassId) (h : Nat → Nat) (Qw : State → Prop) (Q : Int32 → Int64 → (Nat → Int64) → Int32 → Prop) (depths : (Nat → Int32)) (owners : (Nat → Int32)) (roofs : Int64) (rate : Int32) (undos : (Nat → Int32)) (undoMany : Int32) (drawn : Int32) (deep : Int64) (tape : (Nat → Int32)) (taped : Int32) (place : Int32) (reads : Int32) (read_ : (Nat → Int32)) (row : (Nat → Int32)) (order : (Nat → Int32)) (bestOrder : (Nat → Int32)) (nears : (Nat → Int32)) (isKept : Int32) (keptRoofs : Int64) (kept : (Nat → Int32)) (lanes : (Nat → Int32)) (rowSizes : (Nat → Int32)) (items : (Nat → Int64)) (moved : (Nat → Int64)) : Prop := ∀ (r : Int32) (dug : Int64) (holes : (Nat → Int64)) (holeMany : Int32) (H : Heap) (locs : List Loc) (pc : Nat) (ls : Array Slot), bz r → Q r dug holes holeMany → va_P (dC, dI) vwCl (wM h dA depths owners roofs rate undos undoMany drawn dug deep holes holeMany tape taped place reads read_ row order bestOrder nears isKept keptRoofs kept lanes rowSizes items moved) H → va_S (mA h) s.heap H locs → decode cX3_does pc = .ok (.ireturn, 1) → W p l e RX3_does_ s m args below meth c H locs 0 0 Qw (F0 m pc ls [.int r])
def wX3_does_81 (Q : Int32 → Int64 → (Nat → Int64) → Int32 → Prop) (x6 : Int64) (z0 : Int32) (roofs : Int64) (rate : Int32) (dug : Int64) (deep : Int64) (holes : (Nat → Int64)) (holeMany : Int32) : Prop := (bz z0 ∧ (Q z0 x6 holes holeMany))
set_option maxHeartbeats 4000000 in
set_option maxRecDepth 100000 in
theorem tX3_does_81 {Q : Int32 → Int64 → (Nat → Int64) → Int32 → Prop} {depths : (Nat → Int32)} {owners : (Nat → Int32)} {roofs : Int64} {rate : Int32} {undos : (Nat → Int32)} {undoMany : Int32} {drawn : Int32} {deep : Int64} {tape : (Nat → Int32)} {taped : Int32} {place : Int32} {reads : Int32} {read_ : (Nat → Int32)} {row : (Nat → Int32)} {order : (Nat → Int32)} {bestOrder : (Nat → Int32)} {nears : (Nat → Int32)} {isKept : Int32} {keptRoofs : Int64} {kept : (Nat → Int32)} {lanes : (Nat → Int32)} {rowSizes : (Nat → Int32)} {items : (Nat → Int64)} {moved : (Nat → Int64)} (S : CallFix p m c cX3_does 9 s args lw_all RX3) (hK : va_K (dC, dI) vwCl (tysG dA) s) (hj : mJ h) (hret : hrX3_does p l e s m args below meth c dC dI dA h Qw Q depths owners roofs rate undos undoMany drawn deep tape taped place reads read_ row order bestOrder nears isKept keptRoofs kept lanes rowSizes items moved) : ∀ (x6 : Int64) (z0 : Int32) (dug : Int64) (holes : (Nat → Int64)) (holeMany : Int32) (H : Heap) (locs : List Loc) (ls : Array Slot), wX3_does_81 Q x6 z0 roofs rate dug deep holes holeMany → va_P (dC, dI) vwCl (wM h dA depths owners roofs rate undos undoMany drawn dug deep holes holeMany tape taped place reads read_ row order bestOrder nears isKept keptRoofs kept lanes rowSizes items moved) H → va_S (mA h) s.heap H locs → lv_has ls 9 [(0, .ref (h 0)), (6, .long x6)] → W p l e RX3_does_ s m args below meth c H locs 0 0 Qw (F0 m 81 ls [.int z0]) := by
  obtain ⟨hx, hb, hml, hown, hts⟩ := id S
  intro x6 z0 dug holes holeMany H locs ls hf hP hS hl
  unfold wX3_does_81 at hf
  refine lv_istore (lv' := [(8, .int z0), (0, .ref (h 0)), (6, .long x6)]) hx hb dX3_does_81 hl (by decide) rfl (fun ls hl => ?_)
  refine lv_aload_n hx hb dX3_does_83 rfl (lv_at hl 1 rfl) ?_
  refine lv_lload hx hb dX3_does_84 (lv_at hl 2 rfl) ?_
  refine pM_dug S hK hj hP hS dX3_does_86 (fun H locs hP hS => ?_)
  refine lv_iload hx hb dX3_does_89 (lv_at hl 0 rfl) ?_
  obtain ⟨hz, hf⟩ := hf
  exact hret _ _ _ _ _ _ _ _ hz hf hP hS dX3_does_91
def wX3_does (Q : Int32 → Int64 → (Nat → Int64) → Int32 → Prop) (roofs : Int64) (rate : Int32) (dug : Int64) (deep : Int64) (holes : (Nat → Int64)) (holeMany : Int32) (x1 : Int64) (x3 : Int32) (x4 : Int64) : Prop := ((x4 = 0 → (∀ dug_65 : Int64, dug_65 = (dug &&& (x1 ^^^ (-1))) → (wX3_taxOfAll (fun r_69 holes_69 holeMany_69 => ((x3 < r_69 → (wX3_does_81 Q dug 0 roofs rate dug_65 deep holes_69 holeMany_69)) ∧ (¬ x3 < r_69 → (wX3_does_81 Q dug 1 roofs rate dug_65 deep holes_69 holeMany_69)))) roofs rate dug_65 deep holes holeMany))) ∧ (¬ x4 = 0 → (∀ x6_15 : Int64, x6_15 = (x4 &&& (x1 ^^^ (-1))) → ((x6_15 = 0 → (Q 0 dug holes holeMany)) ∧ (¬ x6_15 = 0 → (wX3_least (fun r_27 => (wX3_grown (fun r_33 => ((r_33 = x6_15 → (Q 0 dug holes holeMany)) ∧ (¬ r_33 = x6_15 → (Q 1 dug holes holeMany)))) (1 <<< ((r_27 : Int32).toInt64 &&& 63)) x6_15)) x6_15))))))
end
set_option maxHeartbeats 4000000 in
set_option maxRecDepth 100000 in
theorem metX3_does (l : Launch) {Q : Int32 → Int64 → (Nat → Int64) → Int32 → Prop} {depths : (Nat → Int32)} {owners : (Nat → Int32)} {roofs : Int64} {rate : Int32} {undos : (Nat → Int32)} {undoMany : Int32} {drawn : Int32} {dug : Int64} {deep : Int64} {holes : (Nat → Int64)} {holeMany : Int32} {tape : (Nat → Int32)} {taped : Int32} {place : Int32} {reads : Int32} {read_ : (Nat → Int32)} {row : (Nat → Int32)} {order : (Nat → Int32)} {bestOrder : (Nat → Int32)} {nears : (Nat → Int32)} {isKept : Int32} {keptRoofs : Int64} {kept : (Nat → Int32)} {lanes : (Nat → Int32)} {rowSizes : (Nat → Int32)} {items : (Nat → Int64)} {moved : (Nat → Int64)} {x1 : Int64} {x3 : Int32} {x4 : Int64} {dC : Nat → ClassId} {dI : Nat → Nat → Nat} {dA : Nat → ClassId} {h : Nat → Nat} (hj : mJ h) (hf : wX3_does Q roofs rate dug deep holes holeMany x1 x3 x4) : Met l yX3_does (ws_ yX3_does cX3_does 9 (some .boolean)) rmX3_does (mPc dC dI dA h [.long x1, .int x3, .long x4] (wM h dA depths owners roofs rate undos undoMany drawn dug deep holes holeMany tape taped place reads read_ row order bestOrder nears isKept keptRoofs kept lanes rowSizes items moved)) (va_Qi (fun (r : Int32) (u : Int64 × (Nat → Int64) × Int32) => Q r u.1 u.2.1 u.2.2) (fun u t => va_P (dC, dI) vwCl (wM h dA depths owners roofs rate undos undoMany drawn u.1 deep u.2.1 u.2.2 tape taped place reads read_ row order bestOrder nears isKept keptRoofs kept lanes rowSizes items moved) t.heap) (mA h)) 0 0 (mA h) := by
  refine Met.ofW (cc := cX3_does) (maxL := 9) (ret := (some .boolean)) (by decide) rfl ?_
  intro p e s m args below meth c s₁ B hml hv
  obtain ⟨rfl, hP, hK⟩ := hv
  have hx := B.exec
  have hb := B.bytes
  have hr := B.returns
  have hts := atoms_spec (ws := (ws_ yX3_does cX3_does 9 (some .boolean))) B.pre
  have hts : ∀ w ∈ lw_all, w.before _ s = true := fun w h => hts w (List.mem_cons_of_mem _ h)
  have hown : s.vm.findClass RX3 = some m.cls := findClass_of_methodNamed B.named
  have hlocks := B.notSynchronized
  have S : CallFix p m c cX3_does 9 s _ lw_all RX3 := ⟨hx, hb, hml, hown, hts⟩
  have hS : va_S (mA h) s.heap s.heap [] := va_S.rf
  have hl := lv_entry ([.ref (h 0), .long x1, .int x3, .long x4]) (n := 9) (Nat.le_of_ble_eq_true rfl)
  rw [lg_entry_eq]
  generalize (lg_sl ([.ref (h 0), .long x1, .int x3, .long x4]) ++ List.replicate (9 - (lg_sl ([.ref (h 0), .long x1, .int x3, .long x4])).length) Slot.unset).toArray = ls at hl ⊢
  replace hl : lv_has ls 9 [(0, .ref (h 0)), (1, .long x1), (3, .int x3), (4, .long x4)] := hl
  have hret : hrX3_does p l e s m ([.ref (h 0), .long x1, .int x3, .long x4] : List Value).toArray below meth c dC dI dA h (MQ below (va_Qi (fun (r : Int32) (u : Int64 × (Nat → Int64) × Int32) => Q r u.1 u.2.1 u.2.2) (fun u t => va_P (dC, dI) vwCl (wM h dA depths owners roofs rate undos undoMany drawn u.1 deep u.2.1 u.2.2 tape taped place reads read_ row order bestOrder nears isKept keptRoofs kept lanes rowSizes items moved) t.heap) (mA h)) ([.ref (h 0), .long x1, .int x3, .long x4] : List Value).toArray s 0 0 (mA h)) Q depths owners roofs rate undos undoMany drawn deep tape taped place reads read_ row order bestOrder nears isKept keptRoofs kept lanes rowSizes items moved := fun r dug holes holeMany H locs pc ls hz hq hP hS hd => W.zret hx hb hr hz.1 (fun t ht hW => ⟨⟨r, (dug, holes, holeMany), rfl, hq, by subst ht; exact hP⟩, hS.F ht⟩) hS.2.2 hd
  unfold wX3_does at hf
  refine lv_lload hx hb dX3_does_0 (lv_at hl 3 rfl) ?_
  refine lv_lconst (v := 0) hx hb dX3_does_2 (by decide) ?_
  refine lc_eq (tgt := 48) hx hb dX3_does_3 dX3_does_4 (by decide) (fun c_3 => ?_) (fun c_3 => ?_)
  · replace hf := hf.1 c_3
    refine lv_aload_n hx hb dX3_does_48 rfl (lv_at hl 0 rfl) ?_
    refine gM_dug S hK hP dX3_does_49 ?_
    refine lv_lstore (lv' := [(6, .long dug), (0, .ref (h 0)), (1, .long x1), (3, .int x3), (4, .long x4)]) hx hb dX3_does_52 hl (by decide) rfl (fun ls hl => ?_)
    refine lv_aload_n hx hb dX3_does_54 rfl (lv_at hl 1 rfl) ?_
    refine lv_dup hx hb dX3_does_55 rfl ?_
    refine gM_dug S hK hP dX3_does_56 ?_
    refine lv_lload_n hx hb dX3_does_59 rfl (lv_at hl 2 rfl) ?_
    refine lv_ldc2 (v := (-1)) hx hb hown (hts _ q1286) dX3_does_60 ?_
    refine lv_lxor hx hb dX3_does_63 ?_
    refine lv_land hx hb dX3_does_64 ?_
    refine lv_topl (fun dug_65 edug_65 => ?_)
    replace hf := hf dug_65 edug_65
    refine pM_dug S hK hj hP hS dX3_does_65 (fun H locs hP hS => ?_)
    refine lv_aload_n hx hb dX3_does_68 rfl (lv_at hl 1 rfl) ?_
    refine cM_i (As := []) (rest := []) S hK rfl hP hS (metX3_taxOfAll l hj hf) (lw_V q1393 q1395 qs37 q60 q1396) rfl pdX3_taxOfAll ⟨rfl, rfl⟩ ⟨Nat.le_of_ble_eq_true rfl, Nat.le_of_ble_eq_true rfl⟩ rfl hl.1 rfl (Nat.le_of_ble_eq_true rfl) dX3_does_69 ⟨Nat.zero_le _, Nat.zero_le _⟩ (fun r_69 u_69 H locs hf hP hS => ?_)
    obtain ⟨holes_69, holeMany_69⟩ := u_69
    replace hP : va_P (dC, dI) vwCl (wM h dA depths owners roofs rate undos undoMany drawn dug_65 deep holes_69 holeMany_69 tape taped place reads read_ row order bestOrder nears isKept keptRoofs kept lanes rowSizes items moved) H := hP
    try dsimp only at hf
    refine lv_iload_n hx hb dX3_does_72 rfl (lv_at hl 3 rfl) ?_
    refine lv_icmp_gt (tgt := 80) hx hb dX3_does_73 (by decide) (fun c_73 => ?_) (fun c_73 => ?_)
    · replace hf := hf.1 c_73
      refine lv_iconst (v := 0) hx hb dX3_does_80 (by decide) ?_
      exact tX3_does_81 S hK hj hret dug 0 dug_65 holes_69 holeMany_69 _ _ _ hf hP hS (lv_sub hl [1, 0] rfl)
    · replace hf := hf.2 c_73
      refine lv_iconst (v := 1) hx hb dX3_does_76 (by decide) ?_
      refine lv_goto (tgt := 81) hx hb dX3_does_77 (by decide) ?_
      exact tX3_does_81 S hK hj hret dug 1 dug_65 holes_69 holeMany_69 _ _ _ hf hP hS (lv_sub hl [1, 0] rfl)
  · replace hf := hf.2 c_3
    refine lv_lload hx hb dX3_does_7 (lv_at hl 3 rfl) ?_
    refine lv_lload_n hx hb dX3_does_9 rfl (lv_at hl 1 rfl) ?_
    refine lv_ldc2 (v := (-1)) hx hb hown (hts _ q1286) dX3_does_10 ?_
    refine lv_lxor hx hb dX3_does_13 ?_
    refine lv_land hx hb dX3_does_14 ?_
    refine lv_topl (fun x6_15 ex6_15 => ?_)
    replace hf := hf x6_15 ex6_15
    refine lv_lstore (lv' := [(6, .long x6_15), (0, .ref (h 0)), (1, .long x1), (3, .int x3), (4, .long x4)]) hx hb dX3_does_15 hl (by decide) rfl (fun ls hl => ?_)
    refine lv_lload hx hb dX3_does_17 (lv_at hl 0 rfl) ?_
    refine lv_lconst (v := 0) hx hb dX3_does_19 (by decide) ?_
    refine lc_eq (tgt := 46) hx hb dX3_does_20 dX3_does_21 (by decide) (fun c_20 => ?_) (fun c_20 => ?_)
    · replace hf := hf.1 c_20
      refine lv_iconst (v := 0) hx hb dX3_does_46 (by decide) ?_
      exact hret _ _ _ _ _ _ _ _ bz0 hf hP hS dX3_does_47
    · replace hf := hf.2 c_20
      refine lv_lconst (v := 1) hx hb dX3_does_24 (by decide) ?_
      refine lv_lload hx hb dX3_does_25 (lv_at hl 0 rfl) ?_
      refine cs_i (As := [.long x6_15]) (rest := [.long 1]) S (metX3_least l hf) (lw_S q1326 q1327 q60 q1328) pdX3_least ⟨rfl, rfl⟩ ⟨Nat.le_of_ble_eq_true rfl, Nat.le_of_ble_eq_true rfl⟩ rfl hl.1 rfl (Nat.le_of_ble_eq_true rfl) dX3_does_27 ⟨Nat.zero_le _, Nat.zero_le _⟩ (fun r_27 hf => ?_)
      refine lv_lshl (v := (1 <<< ((r_27 : Int32).toInt64 &&& 63))) hx hb dX3_does_30 rfl ?_
      refine lv_lload hx hb dX3_does_31 (lv_at hl 0 rfl) ?_
      refine cs_l (As := [.long (1 <<< ((r_27 : Int32).toInt64 &&& 63)), .long x6_15]) (rest := []) S (metX3_grown l hf) (lw_S q1317 q1318 q60 q1319) pdX3_grown ⟨rfl, rfl⟩ ⟨Nat.le_of_ble_eq_true rfl, Nat.le_of_ble_eq_true rfl⟩ rfl hl.1 rfl (Nat.le_of_ble_eq_true rfl) dX3_does_33 ⟨Nat.zero_le _, Nat.zero_le _⟩ (fun r_33 hf => ?_)
      refine lv_lload hx hb dX3_does_36 (lv_at hl 0 rfl) ?_
      refine lc_eq (tgt := 46) hx hb dX3_does_38 dX3_does_39 (by decide) (fun c_38 => ?_) (fun c_38 => ?_)
      · replace hf := hf.1 c_38
        refine lv_iconst (v := 0) hx hb dX3_does_46 (by decide) ?_
        exact hret _ _ _ _ _ _ _ _ bz0 hf hP hS dX3_does_47
      · replace hf := hf.2 c_38
        refine lv_iconst (v := 1) hx hb dX3_does_42 (by decide) ?_
        refine lv_goto (tgt := 47) hx hb dX3_does_43 (by decide) ?_
        exact hret _ _ _ _ _ _ _ _ bz1 hf hP hS dX3_does_47
/-! HoleCountyModel.fewestFilled(IJ)I -/
theorem pdX3_fewestFilled : DscOk yX3_fewestFilled 2 := by decide +kernel
abbrev rmX3_fewestFilled : Room := { frames := 6, cells := 0, slots := 0, locals := 143 }
abbrev RX3_fewestFilled_ : Room := (headSpec (ws_ yX3_fewestFilled cX3_fewestFilled 8 (some .int)) rmX3_fewestFilled).room
section
variable {p : Program} {l : Launch} {e : Env} {s : State} {m : MethodId} {args : Array Value} {below : List Frame} {meth : Method} {c : Code} {Qw : State → Prop} {dC : Nat → ClassId} {dI : Nat → Nat → Nat} {dA : Nat → ClassId} {h : Nat → Nat}
abbrev hrX3_fewestFilled (p : Program) (l : Launch) (e : Env) (s : State) (m : MethodId) (args : Array Value) (below : List Frame) (meth : Method) (c : Code) (dC : Nat → ClassId) (dI : Nat → Nat → Nat) (dA : Nat → ClassId) (h : Nat → Nat) (Qw : State → Prop) (Q : Int32 → Int64 → (Nat → Int64) → Int32 → (Nat → Int32) → Prop) (depths : (Nat → Int32)) (owners : (Nat → Int32)) (roofs : Int64) (rate : Int32) (undos : (Nat → Int32)) (undoMany : Int32) (drawn : Int32) (deep : Int64) (tape : (Nat → Int32)) (taped : Int32) (place : Int32) (reads : Int32) (read_ : (Nat → Int32)) (order : (Nat → Int32)) (bestOrder : (Nat → Int32)) (nears : (Nat → Int32)) (isKept : Int32) (keptRoofs : Int64) (kept : (Nat → Int32)) (lanes : (Nat → Int32)) (rowSizes : (Nat → Int32)) (items : (Nat → Int64)) (moved : (Nat → Int64)) : Prop := ∀ (r : Int32) (dug : Int64) (holes : (Nat → Int64)) (holeMany : Int32) (row : (Nat → Int32)) (H : Heap) (locs : List Loc) (pc : Nat) (ls : Array Slot), Q r dug holes holeMany row → va_P (dC, dI) vwCl (wM h dA depths owners roofs rate undos undoMany drawn dug deep holes holeMany tape taped place reads read_ row order bestOrder nears isKept keptRoofs kept lanes rowSizes items moved) H → va_S (mA h) s.heap H locs → decode cX3_fewestFilled pc = .ok (.ireturn, 1) → W p l e RX3_fewestFilled_ s m args below meth c H locs 0 0 Qw (F0 m pc ls [.int r])
def wX3_fewestFilled_93 (Q : Int32 → Int64 → (Nat → Int64) → Int32 → (Nat → Int32) → Prop) (k80 : Int32 → Int64 → (Nat → Int64) → Int32 → (Nat → Int32) → Prop) (x1 : Int32) (x2 : Int64) (x4 : Int64) (x6 : Int32) (roofs : Int64) (rate : Int32) (deep : Int64) : Nat → Int32 → Int64 → (Nat → Int64) → Int32 → (Nat → Int32) → Prop
  | 0, _, _, _, _, _ => False
  | n + 1, x7, dug, holes, holeMany, row => ((36 ≤ x7 → (∀ x6_162 : Int32, x6_162 = x6 + 1 → (k80 x6_162 dug holes holeMany row))) ∧ (¬ 36 ≤ x7 → (wX3_has (fun r_104 => ((r_104 = 0 → (∀ x7_156 : Int32, x7_156 = x7 + 1 → ((wX3_fewestFilled_93 Q k80 x1 x2 x4 x6 roofs rate deep n) x7_156 dug holes holeMany row))) ∧ (¬ r_104 = 0 → (wX3_has (fun r_114 => ((r_114 = 0 → (∀ x7_156 : Int32, x7_156 = x7 + 1 → ((wX3_fewestFilled_93 Q k80 x1 x2 x4 x6 roofs rate deep n) x7_156 dug holes holeMany row))) ∧ (¬ r_114 = 0 → (wX3_does (fun r_132 dug_132 holes_132 holeMany_132 => ((r_132 = 0 → (∀ x7_156 : Int32, x7_156 = x7 + 1 → ((wX3_fewestFilled_93 Q k80 x1 x2 x4 x6 roofs rate deep n) x7_156 dug_132 holes_132 holeMany_132 row))) ∧ (¬ r_132 = 0 → (vp_in 0 10 ∧ (∀ row_145 : Nat → Int32, row_145 = upd row (0 : Int32).toNatClampNeg x6 → (vp_in 1 10 ∧ (∀ row_153 : Nat → Int32, row_153 = upd row_145 (1 : Int32).toNatClampNeg x7 → (Q 2 dug_132 holes_132 holeMany_132 row_153)))))))) roofs rate dug deep holes holeMany ((1 <<< ((x6 : Int32).toInt64 &&& 63)) ||| (1 <<< ((x7 : Int32).toInt64 &&& 63))) x1 x2)))) x4 x7)))) x4 x6)))
set_option maxHeartbeats 4000000 in
set_option maxRecDepth 100000 in
theorem tX3_fewestFilled_93 {Q : Int32 → Int64 → (Nat → Int64) → Int32 → (Nat → Int32) → Prop} {x1 : Int32} {x2 : Int64} {x4 : Int64} {x6 : Int32} {depths : (Nat → Int32)} {owners : (Nat → Int32)} {roofs : Int64} {rate : Int32} {undos : (Nat → Int32)} {undoMany : Int32} {drawn : Int32} {deep : Int64} {tape : (Nat → Int32)} {taped : Int32} {place : Int32} {reads : Int32} {read_ : (Nat → Int32)} {order : (Nat → Int32)} {bestOrder : (Nat → Int32)} {nears : (Nat → Int32)} {isKept : Int32} {keptRoofs : Int64} {kept : (Nat → Int32)} {lanes : (Nat → Int32)} {rowSizes : (Nat → Int32)} {items : (Nat → Int64)} {moved : (Nat → Int64)} (S : CallFix p m c cX3_fewestFilled 8 s args lw_all RX3) (hK : va_K (dC, dI) vwCl (tysG dA) s) (hj : mJ h) (hret : hrX3_fewestFilled p l e s m args below meth c dC dI dA h Qw Q depths owners roofs rate undos undoMany drawn deep tape taped place reads read_ order bestOrder nears isKept keptRoofs kept lanes rowSizes items moved) {k80 : Int32 → Int64 → (Nat → Int64) → Int32 → (Nat → Int32) → Prop} (hk80 : ∀ (x6 : Int32) (dug : Int64) (holes : (Nat → Int64)) (holeMany : Int32) (row : (Nat → Int32)) (H : Heap) (locs : List Loc) (ls : Array Slot), k80 x6 dug holes holeMany row → va_P (dC, dI) vwCl (wM h dA depths owners roofs rate undos undoMany drawn dug deep holes holeMany tape taped place reads read_ row order bestOrder nears isKept keptRoofs kept lanes rowSizes items moved) H → va_S (mA h) s.heap H locs → lv_has ls 8 [(0, .ref (h 0)), (1, .int x1), (2, .long x2), (4, .long x4), (6, .int x6)] → W p l e RX3_fewestFilled_ s m args below meth c H locs 0 0 Qw (F0 m 80 ls [])) : ∀ (n : Nat) (x7 : Int32) (dug : Int64) (holes : (Nat → Int64)) (holeMany : Int32) (row : (Nat → Int32)) (H : Heap) (locs : List Loc) (ls : Array Slot), wX3_fewestFilled_93 Q k80 x1 x2 x4 x6 roofs rate deep n x7 dug holes holeMany row → va_P (dC, dI) vwCl (wM h dA depths owners roofs rate undos undoMany drawn dug deep holes holeMany tape taped place reads read_ row order bestOrder nears isKept keptRoofs kept lanes rowSizes items moved) H → va_S (mA h) s.heap H locs → lv_has ls 8 [(0, .ref (h 0)), (1, .int x1), (2, .long x2), (4, .long x4), (6, .int x6), (7, .int x7)] → W p l e RX3_fewestFilled_ s m args below meth c H locs 0 0 Qw (F0 m 93 ls []) := by
  obtain ⟨hx, hb, hml, hown, hts⟩ := id S
  intro n
  induction n with
  | zero => intro _ _ _ _ _ _ _ _ hf; exact hf.elim
  | succ n ih =>
    intro x7 dug holes holeMany row H locs ls hf hP hS hl
    rw [wX3_fewestFilled_93] at hf
    refine lv_iload hx hb dX3_fewestFilled_93 (lv_at hl 5 rfl) ?_
    refine lv_bipush (v := 36) hx hb dX3_fewestFilled_95 (by decide) ?_
    refine lv_icmp_ge (tgt := 162) hx hb dX3_fewestFilled_97 (by decide) (fun c_97 => ?_) (fun c_97 => ?_)
    · replace hf := hf.1 c_97
      obtain ⟨x6_162, ex6_162⟩ : ∃ z : Int32, z = x6 + 1 := ⟨_, rfl⟩
      replace hf := hf x6_162 ex6_162
      refine lv_iinc (v := x6_162) (lv' := [(6, .int x6_162), (0, .ref (h 0)), (1, .int x1), (2, .long x2), (4, .long x4), (7, .int x7)]) hx hb dX3_fewestFilled_162 hl (k := 4) rfl (by rw [ex6_162]; rfl) (by decide) rfl (fun ls hl => ?_)
      refine lv_goto (tgt := 80) hx hb dX3_fewestFilled_165 (by decide) ?_
      exact hk80 x6_162 dug holes holeMany row _ _ _ hf hP hS (lv_sub hl [1, 2, 3, 4, 0] rfl)
    · replace hf := hf.2 c_97
      refine lv_lload hx hb dX3_fewestFilled_100 (lv_at hl 3 rfl) ?_
      refine lv_iload hx hb dX3_fewestFilled_102 (lv_at hl 4 rfl) ?_
      refine cs_i (As := [.long x4, .int x6]) (rest := []) S (metX3_has l hf) (lw_S q1275 q1276 q60 q1277) pdX3_has ⟨rfl, rfl⟩ ⟨Nat.le_of_ble_eq_true rfl, Nat.le_of_ble_eq_true rfl⟩ rfl hl.1 rfl (Nat.le_of_ble_eq_true rfl) dX3_fewestFilled_104 ⟨Nat.zero_le _, Nat.zero_le _⟩ (fun r_104 hf => ?_)
      refine lv_if_eq (tgt := 156) hx hb dX3_fewestFilled_107 (by decide) (fun c_107 => ?_) (fun c_107 => ?_)
      · replace hf := hf.1 c_107
        obtain ⟨x7_156, ex7_156⟩ : ∃ z : Int32, z = x7 + 1 := ⟨_, rfl⟩
        replace hf := hf x7_156 ex7_156
        refine lv_iinc (v := x7_156) (lv' := [(7, .int x7_156), (0, .ref (h 0)), (1, .int x1), (2, .long x2), (4, .long x4), (6, .int x6)]) hx hb dX3_fewestFilled_156 hl (k := 5) rfl (by rw [ex7_156]; rfl) (by decide) rfl (fun ls hl => ?_)
        refine lv_goto (tgt := 93) hx hb dX3_fewestFilled_159 (by decide) ?_
        exact ih x7_156 dug holes holeMany row _ _ _ hf hP hS (lv_sub hl [1, 2, 3, 4, 5, 0] rfl)
      · replace hf := hf.2 c_107
        refine lv_lload hx hb dX3_fewestFilled_110 (lv_at hl 3 rfl) ?_
        refine lv_iload hx hb dX3_fewestFilled_112 (lv_at hl 5 rfl) ?_
        refine cs_i (As := [.long x4, .int x7]) (rest := []) S (metX3_has l hf) (lw_S q1275 q1276 q60 q1277) pdX3_has ⟨rfl, rfl⟩ ⟨Nat.le_of_ble_eq_true rfl, Nat.le_of_ble_eq_true rfl⟩ rfl hl.1 rfl (Nat.le_of_ble_eq_true rfl) dX3_fewestFilled_114 ⟨Nat.zero_le _, Nat.zero_le _⟩ (fun r_114 hf => ?_)
        refine lv_if_eq (tgt := 156) hx hb dX3_fewestFilled_117 (by decide) (fun c_117 => ?_) (fun c_117 => ?_)
        · replace hf := hf.1 c_117
          obtain ⟨x7_156, ex7_156⟩ : ∃ z : Int32, z = x7 + 1 := ⟨_, rfl⟩
          replace hf := hf x7_156 ex7_156
          refine lv_iinc (v := x7_156) (lv' := [(7, .int x7_156), (0, .ref (h 0)), (1, .int x1), (2, .long x2), (4, .long x4), (6, .int x6)]) hx hb dX3_fewestFilled_156 hl (k := 5) rfl (by rw [ex7_156]; rfl) (by decide) rfl (fun ls hl => ?_)
          refine lv_goto (tgt := 93) hx hb dX3_fewestFilled_159 (by decide) ?_
          exact ih x7_156 dug holes holeMany row _ _ _ hf hP hS (lv_sub hl [1, 2, 3, 4, 5, 0] rfl)
        · replace hf := hf.2 c_117
          refine lv_aload_n hx hb dX3_fewestFilled_120 rfl (lv_at hl 0 rfl) ?_
          refine lv_lconst (v := 1) hx hb dX3_fewestFilled_121 (by decide) ?_
          refine lv_iload hx hb dX3_fewestFilled_122 (lv_at hl 4 rfl) ?_
          refine lv_lshl (v := (1 <<< ((x6 : Int32).toInt64 &&& 63))) hx hb dX3_fewestFilled_124 rfl ?_
          refine lv_lconst (v := 1) hx hb dX3_fewestFilled_125 (by decide) ?_
          refine lv_iload hx hb dX3_fewestFilled_126 (lv_at hl 5 rfl) ?_
          refine lv_lshl (v := (1 <<< ((x7 : Int32).toInt64 &&& 63))) hx hb dX3_fewestFilled_128 rfl ?_
          refine lv_lor hx hb dX3_fewestFilled_129 ?_
          refine lv_iload_n hx hb dX3_fewestFilled_130 rfl (lv_at hl 1 rfl) ?_
          refine lv_lload_n hx hb dX3_fewestFilled_131 rfl (lv_at hl 2 rfl) ?_
          refine cM_i (As := [.long ((1 <<< ((x6 : Int32).toInt64 &&& 63)) ||| (1 <<< ((x7 : Int32).toInt64 &&& 63))), .int x1, .long x2]) (rest := []) S hK rfl hP hS (metX3_does l hj hf) (lw_V q1476 q1478 qs46 q60 q1479) rfl pdX3_does ⟨rfl, rfl⟩ ⟨Nat.le_of_ble_eq_true rfl, Nat.le_of_ble_eq_true rfl⟩ rfl hl.1 rfl (Nat.le_of_ble_eq_true rfl) dX3_fewestFilled_132 ⟨Nat.zero_le _, Nat.zero_le _⟩ (fun r_132 u_132 H locs hf hP hS => ?_)
          obtain ⟨dug_132, holes_132, holeMany_132⟩ := u_132
          replace hP : va_P (dC, dI) vwCl (wM h dA depths owners roofs rate undos undoMany drawn dug_132 deep holes_132 holeMany_132 tape taped place reads read_ row order bestOrder nears isKept keptRoofs kept lanes rowSizes items moved) H := hP
          try dsimp only at hf
          refine lv_if_eq (tgt := 156) hx hb dX3_fewestFilled_135 (by decide) (fun c_135 => ?_) (fun c_135 => ?_)
          · replace hf := hf.1 c_135
            obtain ⟨x7_156, ex7_156⟩ : ∃ z : Int32, z = x7 + 1 := ⟨_, rfl⟩
            replace hf := hf x7_156 ex7_156
            refine lv_iinc (v := x7_156) (lv' := [(7, .int x7_156), (0, .ref (h 0)), (1, .int x1), (2, .long x2), (4, .long x4), (6, .int x6)]) hx hb dX3_fewestFilled_156 hl (k := 5) rfl (by rw [ex7_156]; rfl) (by decide) rfl (fun ls hl => ?_)
            refine lv_goto (tgt := 93) hx hb dX3_fewestFilled_159 (by decide) ?_
            exact ih x7_156 dug_132 holes_132 holeMany_132 row _ _ _ hf hP hS (lv_sub hl [1, 2, 3, 4, 5, 0] rfl)
          · replace hf := hf.2 c_135
            refine lv_aload_n hx hb dX3_fewestFilled_138 rfl (lv_at hl 0 rfl) ?_
            refine gM_row S hK hP dX3_fewestFilled_139 ?_
            refine lv_iconst (v := 0) hx hb dX3_fewestFilled_142 (by decide) ?_
            refine lv_iload hx hb dX3_fewestFilled_143 (lv_at hl 4 rfl) ?_
            obtain ⟨hin, hf⟩ := hf
            obtain ⟨row_145, erow_145⟩ : ∃ z : Nat → Int32, z = upd row (0 : Int32).toNatClampNeg x6 := ⟨_, rfl⟩
            replace hf := hf row_145 erow_145
            refine sM_row S hK hj hP hS hin erow_145 dX3_fewestFilled_145 (fun H locs hP hS => ?_)
            refine lv_aload_n hx hb dX3_fewestFilled_146 rfl (lv_at hl 0 rfl) ?_
            refine gM_row S hK hP dX3_fewestFilled_147 ?_
            refine lv_iconst (v := 1) hx hb dX3_fewestFilled_150 (by decide) ?_
            refine lv_iload hx hb dX3_fewestFilled_151 (lv_at hl 5 rfl) ?_
            obtain ⟨hin, hf⟩ := hf
            obtain ⟨row_153, erow_153⟩ : ∃ z : Nat → Int32, z = upd row_145 (1 : Int32).toNatClampNeg x7 := ⟨_, rfl⟩
            replace hf := hf row_153 erow_153
            refine sM_row S hK hj hP hS hin erow_153 dX3_fewestFilled_153 (fun H locs hP hS => ?_)
            refine lv_iconst (v := 2) hx hb dX3_fewestFilled_154 (by decide) ?_
            exact hret _ _ _ _ _ _ _ _ _ hf hP hS dX3_fewestFilled_155
def wX3_fewestFilled_80 (Q : Int32 → Int64 → (Nat → Int64) → Int32 → (Nat → Int32) → Prop) (x1 : Int32) (x2 : Int64) (x4 : Int64) (roofs : Int64) (rate : Int32) (deep : Int64) : Nat → Int32 → Int64 → (Nat → Int64) → Int32 → (Nat → Int32) → Prop
  | 0, _, _, _, _, _ => False
  | n + 1, x6, dug, holes, holeMany, row => ((36 ≤ x6 → (Q (-4) dug holes holeMany row)) ∧ (¬ 36 ≤ x6 → (∀ x7_91 : Int32, x7_91 = (x6 + 1) → (∃ fu : Nat, wX3_fewestFilled_93 Q (wX3_fewestFilled_80 Q x1 x2 x4 roofs rate deep n) x1 x2 x4 x6 roofs rate deep fu x7_91 dug holes holeMany row))))
set_option maxHeartbeats 4000000 in
set_option maxRecDepth 100000 in
theorem tX3_fewestFilled_80 {Q : Int32 → Int64 → (Nat → Int64) → Int32 → (Nat → Int32) → Prop} {x1 : Int32} {x2 : Int64} {x4 : Int64} {depths : (Nat → Int32)} {owners : (Nat → Int32)} {roofs : Int64} {rate : Int32} {undos : (Nat → Int32)} {undoMany : Int32} {drawn : Int32} {deep : Int64} {tape : (Nat → Int32)} {taped : Int32} {place : Int32} {reads : Int32} {read_ : (Nat → Int32)} {order : (Nat → Int32)} {bestOrder : (Nat → Int32)} {nears : (Nat → Int32)} {isKept : Int32} {keptRoofs : Int64} {kept : (Nat → Int32)} {lanes : (Nat → Int32)} {rowSizes : (Nat → Int32)} {items : (Nat → Int64)} {moved : (Nat → Int64)} (S : CallFix p m c cX3_fewestFilled 8 s args lw_all RX3) (hK : va_K (dC, dI) vwCl (tysG dA) s) (hj : mJ h) (hret : hrX3_fewestFilled p l e s m args below meth c dC dI dA h Qw Q depths owners roofs rate undos undoMany drawn deep tape taped place reads read_ order bestOrder nears isKept keptRoofs kept lanes rowSizes items moved) : ∀ (n : Nat) (x6 : Int32) (dug : Int64) (holes : (Nat → Int64)) (holeMany : Int32) (row : (Nat → Int32)) (H : Heap) (locs : List Loc) (ls : Array Slot), wX3_fewestFilled_80 Q x1 x2 x4 roofs rate deep n x6 dug holes holeMany row → va_P (dC, dI) vwCl (wM h dA depths owners roofs rate undos undoMany drawn dug deep holes holeMany tape taped place reads read_ row order bestOrder nears isKept keptRoofs kept lanes rowSizes items moved) H → va_S (mA h) s.heap H locs → lv_has ls 8 [(0, .ref (h 0)), (1, .int x1), (2, .long x2), (4, .long x4), (6, .int x6)] → W p l e RX3_fewestFilled_ s m args below meth c H locs 0 0 Qw (F0 m 80 ls []) := by
  obtain ⟨hx, hb, hml, hown, hts⟩ := id S
  intro n
  induction n with
  | zero => intro _ _ _ _ _ _ _ _ hf; exact hf.elim
  | succ n ih =>
    intro x6 dug holes holeMany row H locs ls hf hP hS hl
    rw [wX3_fewestFilled_80] at hf
    refine lv_iload hx hb dX3_fewestFilled_80 (lv_at hl 4 rfl) ?_
    refine lv_bipush (v := 36) hx hb dX3_fewestFilled_82 (by decide) ?_
    refine lv_icmp_ge (tgt := 168) hx hb dX3_fewestFilled_84 (by decide) (fun c_84 => ?_) (fun c_84 => ?_)
    · replace hf := hf.1 c_84
      refine lv_bipush (v := (-4)) hx hb dX3_fewestFilled_168 (by decide) ?_
      exact hret _ _ _ _ _ _ _ _ _ hf hP hS dX3_fewestFilled_170
    · replace hf := hf.2 c_84
      refine lv_iload hx hb dX3_fewestFilled_87 (lv_at hl 4 rfl) ?_
      refine lv_iconst (v := 1) hx hb dX3_fewestFilled_89 (by decide) ?_
      refine lv_iadd hx hb dX3_fewestFilled_90 ?_
      refine lv_topi (fun x7_91 ex7_91 => ?_)
      replace hf := hf x7_91 ex7_91
      refine lv_istore (lv' := [(7, .int x7_91), (0, .ref (h 0)), (1, .int x1), (2, .long x2), (4, .long x4), (6, .int x6)]) hx hb dX3_fewestFilled_91 hl (by decide) rfl (fun ls hl => ?_)
      obtain ⟨fu, hf⟩ := hf
      exact tX3_fewestFilled_93 S hK hj hret ih fu x7_91 dug holes holeMany row _ _ _ hf hP hS (lv_sub hl [1, 2, 3, 4, 5, 0] rfl)
def wX3_fewestFilled_31 (Q : Int32 → Int64 → (Nat → Int64) → Int32 → (Nat → Int32) → Prop) (x1 : Int32) (x2 : Int64) (x4 : Int64) (roofs : Int64) (rate : Int32) (deep : Int64) : Nat → Int32 → Int64 → (Nat → Int64) → Int32 → (Nat → Int32) → Prop
  | 0, _, _, _, _, _ => False
  | n + 1, x6, dug, holes, holeMany, row => ((36 ≤ x6 → (∃ fu : Nat, wX3_fewestFilled_80 Q x1 x2 x4 roofs rate deep fu 0 dug holes holeMany row)) ∧ (¬ 36 ≤ x6 → (wX3_has (fun r_42 => ((r_42 = 0 → (∀ x6_71 : Int32, x6_71 = x6 + 1 → ((wX3_fewestFilled_31 Q x1 x2 x4 roofs rate deep n) x6_71 dug holes holeMany row))) ∧ (¬ r_42 = 0 → (wX3_does (fun r_55 dug_55 holes_55 holeMany_55 => ((r_55 = 0 → (∀ x6_71 : Int32, x6_71 = x6 + 1 → ((wX3_fewestFilled_31 Q x1 x2 x4 roofs rate deep n) x6_71 dug_55 holes_55 holeMany_55 row))) ∧ (¬ r_55 = 0 → (vp_in 0 10 ∧ (∀ row_68 : Nat → Int32, row_68 = upd row (0 : Int32).toNatClampNeg x6 → (Q 1 dug_55 holes_55 holeMany_55 row_68)))))) roofs rate dug deep holes holeMany (1 <<< ((x6 : Int32).toInt64 &&& 63)) x1 x2)))) x4 x6)))
set_option maxHeartbeats 4000000 in
set_option maxRecDepth 100000 in
theorem tX3_fewestFilled_31 {Q : Int32 → Int64 → (Nat → Int64) → Int32 → (Nat → Int32) → Prop} {x1 : Int32} {x2 : Int64} {x4 : Int64} {depths : (Nat → Int32)} {owners : (Nat → Int32)} {roofs : Int64} {rate : Int32} {undos : (Nat → Int32)} {undoMany : Int32} {drawn : Int32} {deep : Int64} {tape : (Nat → Int32)} {taped : Int32} {place : Int32} {reads : Int32} {read_ : (Nat → Int32)} {order : (Nat → Int32)} {bestOrder : (Nat → Int32)} {nears : (Nat → Int32)} {isKept : Int32} {keptRoofs : Int64} {kept : (Nat → Int32)} {lanes : (Nat → Int32)} {rowSizes : (Nat → Int32)} {items : (Nat → Int64)} {moved : (Nat → Int64)} (S : CallFix p m c cX3_fewestFilled 8 s args lw_all RX3) (hK : va_K (dC, dI) vwCl (tysG dA) s) (hj : mJ h) (hret : hrX3_fewestFilled p l e s m args below meth c dC dI dA h Qw Q depths owners roofs rate undos undoMany drawn deep tape taped place reads read_ order bestOrder nears isKept keptRoofs kept lanes rowSizes items moved) : ∀ (n : Nat) (x6 : Int32) (dug : Int64) (holes : (Nat → Int64)) (holeMany : Int32) (row : (Nat → Int32)) (H : Heap) (locs : List Loc) (ls : Array Slot), wX3_fewestFilled_31 Q x1 x2 x4 roofs rate deep n x6 dug holes holeMany row → va_P (dC, dI) vwCl (wM h dA depths owners roofs rate undos undoMany drawn dug deep holes holeMany tape taped place reads read_ row order bestOrder nears isKept keptRoofs kept lanes rowSizes items moved) H → va_S (mA h) s.heap H locs → lv_has ls 8 [(0, .ref (h 0)), (1, .int x1), (2, .long x2), (4, .long x4), (6, .int x6)] → W p l e RX3_fewestFilled_ s m args below meth c H locs 0 0 Qw (F0 m 31 ls []) := by
  obtain ⟨hx, hb, hml, hown, hts⟩ := id S
  intro n
  induction n with
  | zero => intro _ _ _ _ _ _ _ _ hf; exact hf.elim
  | succ n ih =>
    intro x6 dug holes holeMany row H locs ls hf hP hS hl
    rw [wX3_fewestFilled_31] at hf
    refine lv_iload hx hb dX3_fewestFilled_31 (lv_at hl 4 rfl) ?_
    refine lv_bipush (v := 36) hx hb dX3_fewestFilled_33 (by decide) ?_
    refine lv_icmp_ge (tgt := 77) hx hb dX3_fewestFilled_35 (by decide) (fun c_35 => ?_) (fun c_35 => ?_)
    · replace hf := hf.1 c_35
      refine lv_iconst (v := 0) hx hb dX3_fewestFilled_77 (by decide) ?_
      refine lv_istore (lv' := [(6, .int 0), (0, .ref (h 0)), (1, .int x1), (2, .long x2), (4, .long x4)]) hx hb dX3_fewestFilled_78 hl (by decide) rfl (fun ls hl => ?_)
      obtain ⟨fu, hf⟩ := hf
      exact tX3_fewestFilled_80 S hK hj hret fu 0 dug holes holeMany row _ _ _ hf hP hS (lv_sub hl [1, 2, 3, 4, 0] rfl)
    · replace hf := hf.2 c_35
      refine lv_lload hx hb dX3_fewestFilled_38 (lv_at hl 3 rfl) ?_
      refine lv_iload hx hb dX3_fewestFilled_40 (lv_at hl 4 rfl) ?_
      refine cs_i (As := [.long x4, .int x6]) (rest := []) S (metX3_has l hf) (lw_S q1275 q1276 q60 q1277) pdX3_has ⟨rfl, rfl⟩ ⟨Nat.le_of_ble_eq_true rfl, Nat.le_of_ble_eq_true rfl⟩ rfl hl.1 rfl (Nat.le_of_ble_eq_true rfl) dX3_fewestFilled_42 ⟨Nat.zero_le _, Nat.zero_le _⟩ (fun r_42 hf => ?_)
      refine lv_if_eq (tgt := 71) hx hb dX3_fewestFilled_45 (by decide) (fun c_45 => ?_) (fun c_45 => ?_)
      · replace hf := hf.1 c_45
        obtain ⟨x6_71, ex6_71⟩ : ∃ z : Int32, z = x6 + 1 := ⟨_, rfl⟩
        replace hf := hf x6_71 ex6_71
        refine lv_iinc (v := x6_71) (lv' := [(6, .int x6_71), (0, .ref (h 0)), (1, .int x1), (2, .long x2), (4, .long x4)]) hx hb dX3_fewestFilled_71 hl (k := 4) rfl (by rw [ex6_71]; rfl) (by decide) rfl (fun ls hl => ?_)
        refine lv_goto (tgt := 31) hx hb dX3_fewestFilled_74 (by decide) ?_
        exact ih x6_71 dug holes holeMany row _ _ _ hf hP hS (lv_sub hl [1, 2, 3, 4, 0] rfl)
      · replace hf := hf.2 c_45
        refine lv_aload_n hx hb dX3_fewestFilled_48 rfl (lv_at hl 0 rfl) ?_
        refine lv_lconst (v := 1) hx hb dX3_fewestFilled_49 (by decide) ?_
        refine lv_iload hx hb dX3_fewestFilled_50 (lv_at hl 4 rfl) ?_
        refine lv_lshl (v := (1 <<< ((x6 : Int32).toInt64 &&& 63))) hx hb dX3_fewestFilled_52 rfl ?_
        refine lv_iload_n hx hb dX3_fewestFilled_53 rfl (lv_at hl 1 rfl) ?_
        refine lv_lload_n hx hb dX3_fewestFilled_54 rfl (lv_at hl 2 rfl) ?_
        refine cM_i (As := [.long (1 <<< ((x6 : Int32).toInt64 &&& 63)), .int x1, .long x2]) (rest := []) S hK rfl hP hS (metX3_does l hj hf) (lw_V q1476 q1478 qs46 q60 q1479) rfl pdX3_does ⟨rfl, rfl⟩ ⟨Nat.le_of_ble_eq_true rfl, Nat.le_of_ble_eq_true rfl⟩ rfl hl.1 rfl (Nat.le_of_ble_eq_true rfl) dX3_fewestFilled_55 ⟨Nat.zero_le _, Nat.zero_le _⟩ (fun r_55 u_55 H locs hf hP hS => ?_)
        obtain ⟨dug_55, holes_55, holeMany_55⟩ := u_55
        replace hP : va_P (dC, dI) vwCl (wM h dA depths owners roofs rate undos undoMany drawn dug_55 deep holes_55 holeMany_55 tape taped place reads read_ row order bestOrder nears isKept keptRoofs kept lanes rowSizes items moved) H := hP
        try dsimp only at hf
        refine lv_if_eq (tgt := 71) hx hb dX3_fewestFilled_58 (by decide) (fun c_58 => ?_) (fun c_58 => ?_)
        · replace hf := hf.1 c_58
          obtain ⟨x6_71, ex6_71⟩ : ∃ z : Int32, z = x6 + 1 := ⟨_, rfl⟩
          replace hf := hf x6_71 ex6_71
          refine lv_iinc (v := x6_71) (lv' := [(6, .int x6_71), (0, .ref (h 0)), (1, .int x1), (2, .long x2), (4, .long x4)]) hx hb dX3_fewestFilled_71 hl (k := 4) rfl (by rw [ex6_71]; rfl) (by decide) rfl (fun ls hl => ?_)
          refine lv_goto (tgt := 31) hx hb dX3_fewestFilled_74 (by decide) ?_
          exact ih x6_71 dug_55 holes_55 holeMany_55 row _ _ _ hf hP hS (lv_sub hl [1, 2, 3, 4, 0] rfl)
        · replace hf := hf.2 c_58
          refine lv_aload_n hx hb dX3_fewestFilled_61 rfl (lv_at hl 0 rfl) ?_
          refine gM_row S hK hP dX3_fewestFilled_62 ?_
          refine lv_iconst (v := 0) hx hb dX3_fewestFilled_65 (by decide) ?_
          refine lv_iload hx hb dX3_fewestFilled_66 (lv_at hl 4 rfl) ?_
          obtain ⟨hin, hf⟩ := hf
          obtain ⟨row_68, erow_68⟩ : ∃ z : Nat → Int32, z = upd row (0 : Int32).toNatClampNeg x6 := ⟨_, rfl⟩
          replace hf := hf row_68 erow_68
          refine sM_row S hK hj hP hS hin erow_68 dX3_fewestFilled_68 (fun H locs hP hS => ?_)
          refine lv_iconst (v := 1) hx hb dX3_fewestFilled_69 (by decide) ?_
          exact hret _ _ _ _ _ _ _ _ _ hf hP hS dX3_fewestFilled_70
def wX3_fewestFilled (Q : Int32 → Int64 → (Nat → Int64) → Int32 → (Nat → Int32) → Prop) (roofs : Int64) (rate : Int32) (dug : Int64) (deep : Int64) (holes : (Nat → Int64)) (holeMany : Int32) (row : (Nat → Int32)) (x1 : Int32) (x2 : Int64) : Prop := (wX3_does (fun r_4 dug_4 holes_4 holeMany_4 => ((r_4 = 0 → ((x2 = 0 → (∃ fu : Nat, wX3_fewestFilled_31 Q x1 x2 dug_4 roofs rate deep fu 0 dug_4 holes_4 holeMany_4 row)) ∧ (¬ x2 = 0 → (∃ fu : Nat, wX3_fewestFilled_31 Q x1 x2 x2 roofs rate deep fu 0 dug_4 holes_4 holeMany_4 row)))) ∧ (¬ r_4 = 0 → (Q 0 dug_4 holes_4 holeMany_4 row)))) roofs rate dug deep holes holeMany 0 x1 x2)
end
set_option maxHeartbeats 4000000 in
set_option maxRecDepth 100000 in
theorem metX3_fewestFilled (l : Launch) {Q : Int32 → Int64 → (Nat → Int64) → Int32 → (Nat → Int32) → Prop} {depths : (Nat → Int32)} {owners : (Nat → Int32)} {roofs : Int64} {rate : Int32} {undos : (Nat → Int32)} {undoMany : Int32} {drawn : Int32} {dug : Int64} {deep : Int64} {holes : (Nat → Int64)} {holeMany : Int32} {tape : (Nat → Int32)} {taped : Int32} {place : Int32} {reads : Int32} {read_ : (Nat → Int32)} {row : (Nat → Int32)} {order : (Nat → Int32)} {bestOrder : (Nat → Int32)} {nears : (Nat → Int32)} {isKept : Int32} {keptRoofs : Int64} {kept : (Nat → Int32)} {lanes : (Nat → Int32)} {rowSizes : (Nat → Int32)} {items : (Nat → Int64)} {moved : (Nat → Int64)} {x1 : Int32} {x2 : Int64} {dC : Nat → ClassId} {dI : Nat → Nat → Nat} {dA : Nat → ClassId} {h : Nat → Nat} (hj : mJ h) (hf : wX3_fewestFilled Q roofs rate dug deep holes holeMany row x1 x2) : Met l yX3_fewestFilled (ws_ yX3_fewestFilled cX3_fewestFilled 8 (some .int)) rmX3_fewestFilled (mPc dC dI dA h [.int x1, .long x2] (wM h dA depths owners roofs rate undos undoMany drawn dug deep holes holeMany tape taped place reads read_ row order bestOrder nears isKept keptRoofs kept lanes rowSizes items moved)) (va_Qi (fun (r : Int32) (u : Int64 × (Nat → Int64) × Int32 × (Nat → Int32)) => Q r u.1 u.2.1 u.2.2.1 u.2.2.2) (fun u t => va_P (dC, dI) vwCl (wM h dA depths owners roofs rate undos undoMany drawn u.1 deep u.2.1 u.2.2.1 tape taped place reads read_ u.2.2.2 order bestOrder nears isKept keptRoofs kept lanes rowSizes items moved) t.heap) (mA h)) 0 0 (mA h) := by
  refine Met.ofW (cc := cX3_fewestFilled) (maxL := 8) (ret := (some .int)) (by decide) rfl ?_
  intro p e s m args below meth c s₁ B hml hv
  obtain ⟨rfl, hP, hK⟩ := hv
  have hx := B.exec
  have hb := B.bytes
  have hr := B.returns
  have hts := atoms_spec (ws := (ws_ yX3_fewestFilled cX3_fewestFilled 8 (some .int))) B.pre
  have hts : ∀ w ∈ lw_all, w.before _ s = true := fun w h => hts w (List.mem_cons_of_mem _ h)
  have hown : s.vm.findClass RX3 = some m.cls := findClass_of_methodNamed B.named
  have hlocks := B.notSynchronized
  have S : CallFix p m c cX3_fewestFilled 8 s _ lw_all RX3 := ⟨hx, hb, hml, hown, hts⟩
  have hS : va_S (mA h) s.heap s.heap [] := va_S.rf
  have hl := lv_entry ([.ref (h 0), .int x1, .long x2]) (n := 8) (Nat.le_of_ble_eq_true rfl)
  rw [lg_entry_eq]
  generalize (lg_sl ([.ref (h 0), .int x1, .long x2]) ++ List.replicate (8 - (lg_sl ([.ref (h 0), .int x1, .long x2])).length) Slot.unset).toArray = ls at hl ⊢
  replace hl : lv_has ls 8 [(0, .ref (h 0)), (1, .int x1), (2, .long x2)] := hl
  have hret : hrX3_fewestFilled p l e s m ([.ref (h 0), .int x1, .long x2] : List Value).toArray below meth c dC dI dA h (MQ below (va_Qi (fun (r : Int32) (u : Int64 × (Nat → Int64) × Int32 × (Nat → Int32)) => Q r u.1 u.2.1 u.2.2.1 u.2.2.2) (fun u t => va_P (dC, dI) vwCl (wM h dA depths owners roofs rate undos undoMany drawn u.1 deep u.2.1 u.2.2.1 tape taped place reads read_ u.2.2.2 order bestOrder nears isKept keptRoofs kept lanes rowSizes items moved) t.heap) (mA h)) ([.ref (h 0), .int x1, .long x2] : List Value).toArray s 0 0 (mA h)) Q depths owners roofs rate undos undoMany drawn deep tape taped place reads read_ order bestOrder nears isKept keptRoofs kept lanes rowSizes items moved := fun r dug holes holeMany row H locs pc ls hq hP hS hd => W.iret hx hb hr (fun t ht hW => ⟨⟨r, (dug, holes, holeMany, row), rfl, hq, by subst ht; exact hP⟩, hS.F ht⟩) hS.2.2 hd
  unfold wX3_fewestFilled at hf
  refine lv_aload_n hx hb dX3_fewestFilled_0 rfl (lv_at hl 0 rfl) ?_
  refine lv_lconst (v := 0) hx hb dX3_fewestFilled_1 (by decide) ?_
  refine lv_iload_n hx hb dX3_fewestFilled_2 rfl (lv_at hl 1 rfl) ?_
  refine lv_lload_n hx hb dX3_fewestFilled_3 rfl (lv_at hl 2 rfl) ?_
  refine cM_i (As := [.long 0, .int x1, .long x2]) (rest := []) S hK rfl hP hS (metX3_does l hj hf) (lw_V q1476 q1478 qs46 q60 q1479) rfl pdX3_does ⟨rfl, rfl⟩ ⟨Nat.le_of_ble_eq_true rfl, Nat.le_of_ble_eq_true rfl⟩ rfl hl.1 rfl (Nat.le_of_ble_eq_true rfl) dX3_fewestFilled_4 ⟨Nat.zero_le _, Nat.zero_le _⟩ (fun r_4 u_4 H locs hf hP hS => ?_)
  obtain ⟨dug_4, holes_4, holeMany_4⟩ := u_4
  replace hP : va_P (dC, dI) vwCl (wM h dA depths owners roofs rate undos undoMany drawn dug_4 deep holes_4 holeMany_4 tape taped place reads read_ row order bestOrder nears isKept keptRoofs kept lanes rowSizes items moved) H := hP
  try dsimp only at hf
  refine lv_if_eq (tgt := 12) hx hb dX3_fewestFilled_7 (by decide) (fun c_7 => ?_) (fun c_7 => ?_)
  · replace hf := hf.1 c_7
    refine lv_lload_n hx hb dX3_fewestFilled_12 rfl (lv_at hl 2 rfl) ?_
    refine lv_lconst (v := 0) hx hb dX3_fewestFilled_13 (by decide) ?_
    refine lc_ne (tgt := 25) hx hb dX3_fewestFilled_14 dX3_fewestFilled_15 (by decide) (fun c_14 => ?_) (fun c_14 => ?_)
    · replace hf := hf.2 c_14
      refine lv_lload_n hx hb dX3_fewestFilled_25 rfl (lv_at hl 2 rfl) ?_
      refine lv_lstore (lv' := [(4, .long x2), (0, .ref (h 0)), (1, .int x1), (2, .long x2)]) hx hb dX3_fewestFilled_26 hl (by decide) rfl (fun ls hl => ?_)
      refine lv_iconst (v := 0) hx hb dX3_fewestFilled_28 (by decide) ?_
      refine lv_istore (lv' := [(6, .int 0), (4, .long x2), (0, .ref (h 0)), (1, .int x1), (2, .long x2)]) hx hb dX3_fewestFilled_29 hl (by decide) rfl (fun ls hl => ?_)
      obtain ⟨fu, hf⟩ := hf
      exact tX3_fewestFilled_31 S hK hj hret fu 0 dug_4 holes_4 holeMany_4 row _ _ _ hf hP hS (lv_sub hl [2, 3, 4, 1, 0] rfl)
    · replace hf := hf.1 c_14
      refine lv_aload_n hx hb dX3_fewestFilled_18 rfl (lv_at hl 0 rfl) ?_
      refine gM_dug S hK hP dX3_fewestFilled_19 ?_
      refine lv_goto (tgt := 26) hx hb dX3_fewestFilled_22 (by decide) ?_
      refine lv_lstore (lv' := [(4, .long dug_4), (0, .ref (h 0)), (1, .int x1), (2, .long x2)]) hx hb dX3_fewestFilled_26 hl (by decide) rfl (fun ls hl => ?_)
      refine lv_iconst (v := 0) hx hb dX3_fewestFilled_28 (by decide) ?_
      refine lv_istore (lv' := [(6, .int 0), (4, .long dug_4), (0, .ref (h 0)), (1, .int x1), (2, .long x2)]) hx hb dX3_fewestFilled_29 hl (by decide) rfl (fun ls hl => ?_)
      obtain ⟨fu, hf⟩ := hf
      exact tX3_fewestFilled_31 S hK hj hret fu 0 dug_4 holes_4 holeMany_4 row _ _ _ hf hP hS (lv_sub hl [2, 3, 4, 1, 0] rfl)
  · replace hf := hf.2 c_7
    refine lv_iconst (v := 0) hx hb dX3_fewestFilled_10 (by decide) ?_
    exact hret _ _ _ _ _ _ _ _ _ hf hP hS dX3_fewestFilled_11
/-! HoleCountyModel.filled(II)I -/
theorem pdX3_filled : DscOk yX3_filled 2 := by decide +kernel
abbrev rmX3_filled : Room := { frames := 7, cells := 0, slots := 0, locals := 170 }
abbrev RX3_filled_ : Room := (headSpec (ws_ yX3_filled cX3_filled 4 (some .int)) rmX3_filled).room
section
variable {p : Program} {l : Launch} {e : Env} {s : State} {m : MethodId} {args : Array Value} {below : List Frame} {meth : Method} {c : Code} {Qw : State → Prop} {dC : Nat → ClassId} {dI : Nat → Nat → Nat} {dA : Nat → ClassId} {h : Nat → Nat}
abbrev hrX3_filled (p : Program) (l : Launch) (e : Env) (s : State) (m : MethodId) (args : Array Value) (below : List Frame) (meth : Method) (c : Code) (dC : Nat → ClassId) (dI : Nat → Nat → Nat) (dA : Nat → ClassId) (h : Nat → Nat) (Qw : State → Prop) (Q : Int32 → Int64 → Int64 → (Nat → Int64) → Int32 → (Nat → Int32) → Prop) (depths : (Nat → Int32)) (owners : (Nat → Int32)) (roofs : Int64) (rate : Int32) (undos : (Nat → Int32)) (undoMany : Int32) (drawn : Int32) (tape : (Nat → Int32)) (taped : Int32) (place : Int32) (reads : Int32) (read_ : (Nat → Int32)) (order : (Nat → Int32)) (bestOrder : (Nat → Int32)) (nears : (Nat → Int32)) (isKept : Int32) (keptRoofs : Int64) (kept : (Nat → Int32)) (lanes : (Nat → Int32)) (rowSizes : (Nat → Int32)) (items : (Nat → Int64)) (moved : (Nat → Int64)) : Prop := ∀ (r : Int32) (dug : Int64) (deep : Int64) (holes : (Nat → Int64)) (holeMany : Int32) (row : (Nat → Int32)) (H : Heap) (locs : List Loc) (pc : Nat) (ls : Array Slot), Q r dug deep holes holeMany row → va_P (dC, dI) vwCl (wM h dA depths owners roofs rate undos undoMany drawn dug deep holes holeMany tape taped place reads read_ row order bestOrder nears isKept keptRoofs kept lanes rowSizes items moved) H → va_S (mA h) s.heap H locs → decode cX3_filled pc = .ok (.ireturn, 1) → W p l e RX3_filled_ s m args below meth c H locs 0 0 Qw (F0 m pc ls [.int r])
def wX3_filled (Q : Int32 → Int64 → Int64 → (Nat → Int64) → Int32 → (Nat → Int32) → Prop) (depths : (Nat → Int32)) (roofs : Int64) (rate : Int32) (dug : Int64) (deep : Int64) (holes : (Nat → Int64)) (holeMany : Int32) (row : (Nat → Int32)) (x1 : Int32) (x2 : Int32) : Prop := (wX3_in (fun r_6 => ((r_6 = 0 → (Q (-1) dug deep holes holeMany row)) ∧ (¬ r_6 = 0 → (wX3_in (fun r_18 => ((r_18 = 0 → (Q (-1) dug deep holes holeMany row)) ∧ (¬ r_18 = 0 → (wX3_look (fun dug_27 deep_27 => (wX3_fewestFilled (fun r_33 dug_33 holes_33 holeMany_33 row_33 => ((r_33 < 0 → (Q r_33 dug_33 deep_27 holes_33 holeMany_33 row_33)) ∧ (¬ r_33 < 0 → ((0 ≤ x2 → ((r_33 ≤ x2 → (Q (-4) dug_33 deep_27 holes_33 holeMany_33 row_33)) ∧ (¬ r_33 ≤ x2 → (vp_in x2 10 ∧ (Q (row_33 (x2 : Int32).toNatClampNeg) dug_33 deep_27 holes_33 holeMany_33 row_33))))) ∧ (¬ 0 ≤ x2 → (Q r_33 dug_33 deep_27 holes_33 holeMany_33 row_33)))))) roofs rate dug_27 deep_27 holes holeMany row x1 0)) depths dug deep)))) ((x2 : Int32).toInt64) (-1) 1)))) ((x1 : Int32).toInt64) 0 9999)
end
set_option maxHeartbeats 4000000 in
set_option maxRecDepth 100000 in
theorem metX3_filled (l : Launch) {Q : Int32 → Int64 → Int64 → (Nat → Int64) → Int32 → (Nat → Int32) → Prop} {depths : (Nat → Int32)} {owners : (Nat → Int32)} {roofs : Int64} {rate : Int32} {undos : (Nat → Int32)} {undoMany : Int32} {drawn : Int32} {dug : Int64} {deep : Int64} {holes : (Nat → Int64)} {holeMany : Int32} {tape : (Nat → Int32)} {taped : Int32} {place : Int32} {reads : Int32} {read_ : (Nat → Int32)} {row : (Nat → Int32)} {order : (Nat → Int32)} {bestOrder : (Nat → Int32)} {nears : (Nat → Int32)} {isKept : Int32} {keptRoofs : Int64} {kept : (Nat → Int32)} {lanes : (Nat → Int32)} {rowSizes : (Nat → Int32)} {items : (Nat → Int64)} {moved : (Nat → Int64)} {x1 : Int32} {x2 : Int32} {dC : Nat → ClassId} {dI : Nat → Nat → Nat} {dA : Nat → ClassId} {h : Nat → Nat} (hj : mJ h) (hf : wX3_filled Q depths roofs rate dug deep holes holeMany row x1 x2) : Met l yX3_filled (ws_ yX3_filled cX3_filled 4 (some .int)) rmX3_filled (mPc dC dI dA h [.int x1, .int x2] (wM h dA depths owners roofs rate undos undoMany drawn dug deep holes holeMany tape taped place reads read_ row order bestOrder nears isKept keptRoofs kept lanes rowSizes items moved)) (va_Qi (fun (r : Int32) (u : Int64 × Int64 × (Nat → Int64) × Int32 × (Nat → Int32)) => Q r u.1 u.2.1 u.2.2.1 u.2.2.2.1 u.2.2.2.2) (fun u t => va_P (dC, dI) vwCl (wM h dA depths owners roofs rate undos undoMany drawn u.1 u.2.1 u.2.2.1 u.2.2.2.1 tape taped place reads read_ u.2.2.2.2 order bestOrder nears isKept keptRoofs kept lanes rowSizes items moved) t.heap) (mA h)) 0 0 (mA h) := by
  refine Met.ofW (cc := cX3_filled) (maxL := 4) (ret := (some .int)) (by decide) rfl ?_
  intro p e s m args below meth c s₁ B hml hv
  obtain ⟨rfl, hP, hK⟩ := hv
  have hx := B.exec
  have hb := B.bytes
  have hr := B.returns
  have hts := atoms_spec (ws := (ws_ yX3_filled cX3_filled 4 (some .int))) B.pre
  have hts : ∀ w ∈ lw_all, w.before _ s = true := fun w h => hts w (List.mem_cons_of_mem _ h)
  have hown : s.vm.findClass RX3 = some m.cls := findClass_of_methodNamed B.named
  have hlocks := B.notSynchronized
  have S : CallFix p m c cX3_filled 4 s _ lw_all RX3 := ⟨hx, hb, hml, hown, hts⟩
  have hS : va_S (mA h) s.heap s.heap [] := va_S.rf
  have hl := lv_entry ([.ref (h 0), .int x1, .int x2]) (n := 4) (Nat.le_of_ble_eq_true rfl)
  rw [lg_entry_eq]
  generalize (lg_sl ([.ref (h 0), .int x1, .int x2]) ++ List.replicate (4 - (lg_sl ([.ref (h 0), .int x1, .int x2])).length) Slot.unset).toArray = ls at hl ⊢
  replace hl : lv_has ls 4 [(0, .ref (h 0)), (1, .int x1), (2, .int x2)] := hl
  have hret : hrX3_filled p l e s m ([.ref (h 0), .int x1, .int x2] : List Value).toArray below meth c dC dI dA h (MQ below (va_Qi (fun (r : Int32) (u : Int64 × Int64 × (Nat → Int64) × Int32 × (Nat → Int32)) => Q r u.1 u.2.1 u.2.2.1 u.2.2.2.1 u.2.2.2.2) (fun u t => va_P (dC, dI) vwCl (wM h dA depths owners roofs rate undos undoMany drawn u.1 u.2.1 u.2.2.1 u.2.2.2.1 tape taped place reads read_ u.2.2.2.2 order bestOrder nears isKept keptRoofs kept lanes rowSizes items moved) t.heap) (mA h)) ([.ref (h 0), .int x1, .int x2] : List Value).toArray s 0 0 (mA h)) Q depths owners roofs rate undos undoMany drawn tape taped place reads read_ order bestOrder nears isKept keptRoofs kept lanes rowSizes items moved := fun r dug deep holes holeMany row H locs pc ls hq hP hS hd => W.iret hx hb hr (fun t ht hW => ⟨⟨r, (dug, deep, holes, holeMany, row), rfl, hq, by subst ht; exact hP⟩, hS.F ht⟩) hS.2.2 hd
  unfold wX3_filled at hf
  refine lv_iload_n hx hb dX3_filled_0 rfl (lv_at hl 1 rfl) ?_
  refine lv_i2l (v := (x1 : Int32).toInt64) hx hb dX3_filled_1 rfl ?_
  refine lv_lconst (v := 0) hx hb dX3_filled_2 (by decide) ?_
  refine lv_ldc2 (v := 9999) hx hb hown (hts _ q1471) dX3_filled_3 ?_
  refine cs_i (As := [.long (x1 : Int32).toInt64, .long 0, .long 9999]) (rest := []) S (metX3_in l hf) (lw_S q1268 q1269 q60 q1270) pdX3_in ⟨rfl, rfl⟩ ⟨Nat.le_of_ble_eq_true rfl, Nat.le_of_ble_eq_true rfl⟩ rfl hl.1 rfl (Nat.le_of_ble_eq_true rfl) dX3_filled_6 ⟨Nat.zero_le _, Nat.zero_le _⟩ (fun r_6 hf => ?_)
  refine lv_if_eq (tgt := 24) hx hb dX3_filled_9 (by decide) (fun c_9 => ?_) (fun c_9 => ?_)
  · replace hf := hf.1 c_9
    refine lv_iconst (v := (-1)) hx hb dX3_filled_24 (by decide) ?_
    exact hret _ _ _ _ _ _ _ _ _ _ hf hP hS dX3_filled_25
  · replace hf := hf.2 c_9
    refine lv_iload_n hx hb dX3_filled_12 rfl (lv_at hl 2 rfl) ?_
    refine lv_i2l (v := (x2 : Int32).toInt64) hx hb dX3_filled_13 rfl ?_
    refine lv_ldc2 (v := (-1)) hx hb hown (hts _ q1286) dX3_filled_14 ?_
    refine lv_lconst (v := 1) hx hb dX3_filled_17 (by decide) ?_
    refine cs_i (As := [.long (x2 : Int32).toInt64, .long (-1), .long 1]) (rest := []) S (metX3_in l hf) (lw_S q1268 q1269 q60 q1270) pdX3_in ⟨rfl, rfl⟩ ⟨Nat.le_of_ble_eq_true rfl, Nat.le_of_ble_eq_true rfl⟩ rfl hl.1 rfl (Nat.le_of_ble_eq_true rfl) dX3_filled_18 ⟨Nat.zero_le _, Nat.zero_le _⟩ (fun r_18 hf => ?_)
    refine lv_if_ne (tgt := 26) hx hb dX3_filled_21 (by decide) (fun c_21 => ?_) (fun c_21 => ?_)
    · replace hf := hf.2 c_21
      refine lv_aload_n hx hb dX3_filled_26 rfl (lv_at hl 0 rfl) ?_
      refine cM_v (As := []) (rest := []) S hK rfl hP hS (metX3_look l hj hf) (lw_V q1309 q1311 qs27 q60 q1312) rfl pdX3_look ⟨rfl, rfl⟩ ⟨Nat.le_of_ble_eq_true rfl, Nat.le_of_ble_eq_true rfl⟩ rfl hl.1 rfl (Nat.le_of_ble_eq_true rfl) dX3_filled_27 ⟨Nat.zero_le _, Nat.zero_le _⟩ (fun u_27 H locs hf hP hS => ?_)
      obtain ⟨dug_27, deep_27⟩ := u_27
      replace hP : va_P (dC, dI) vwCl (wM h dA depths owners roofs rate undos undoMany drawn dug_27 deep_27 holes holeMany tape taped place reads read_ row order bestOrder nears isKept keptRoofs kept lanes rowSizes items moved) H := hP
      try dsimp only at hf
      refine lv_aload_n hx hb dX3_filled_30 rfl (lv_at hl 0 rfl) ?_
      refine lv_iload_n hx hb dX3_filled_31 rfl (lv_at hl 1 rfl) ?_
      refine lv_lconst (v := 0) hx hb dX3_filled_32 (by decide) ?_
      refine cM_i (As := [.int x1, .long 0]) (rest := []) S hK rfl hP hS (metX3_fewestFilled l hj hf) (lw_V q1472 q1474 qs45 q60 q1475) rfl pdX3_fewestFilled ⟨rfl, rfl⟩ ⟨Nat.le_of_ble_eq_true rfl, Nat.le_of_ble_eq_true rfl⟩ rfl hl.1 rfl (Nat.le_of_ble_eq_true rfl) dX3_filled_33 ⟨Nat.zero_le _, Nat.zero_le _⟩ (fun r_33 u_33 H locs hf hP hS => ?_)
      obtain ⟨dug_33, holes_33, holeMany_33, row_33⟩ := u_33
      replace hP : va_P (dC, dI) vwCl (wM h dA depths owners roofs rate undos undoMany drawn dug_33 deep_27 holes_33 holeMany_33 tape taped place reads read_ row_33 order bestOrder nears isKept keptRoofs kept lanes rowSizes items moved) H := hP
      try dsimp only at hf
      refine lv_istore_n (lv' := [(3, .int r_33), (0, .ref (h 0)), (1, .int x1), (2, .int x2)]) hx hb dX3_filled_36 rfl hl (by decide) rfl (fun ls hl => ?_)
      refine lv_iload_n hx hb dX3_filled_37 rfl (lv_at hl 0 rfl) ?_
      refine lv_if_lt (tgt := 45) hx hb dX3_filled_38 (by decide) (fun c_38 => ?_) (fun c_38 => ?_)
      · replace hf := hf.1 c_38
        refine lv_iload_n hx hb dX3_filled_45 rfl (lv_at hl 0 rfl) ?_
        refine lv_goto (tgt := 65) hx hb dX3_filled_46 (by decide) ?_
        exact hret _ _ _ _ _ _ _ _ _ _ hf hP hS dX3_filled_65
      · replace hf := hf.2 c_38
        refine lv_iload_n hx hb dX3_filled_41 rfl (lv_at hl 3 rfl) ?_
        refine lv_if_ge (tgt := 49) hx hb dX3_filled_42 (by decide) (fun c_42 => ?_) (fun c_42 => ?_)
        · replace hf := hf.1 c_42
          refine lv_iload_n hx hb dX3_filled_49 rfl (lv_at hl 3 rfl) ?_
          refine lv_iload_n hx hb dX3_filled_50 rfl (lv_at hl 0 rfl) ?_
          refine lv_icmp_ge (tgt := 63) hx hb dX3_filled_51 (by decide) (fun c_51 => ?_) (fun c_51 => ?_)
          · replace hf := hf.1 c_51
            refine lv_bipush (v := (-4)) hx hb dX3_filled_63 (by decide) ?_
            exact hret _ _ _ _ _ _ _ _ _ _ hf hP hS dX3_filled_65
          · replace hf := hf.2 c_51
            refine lv_aload_n hx hb dX3_filled_54 rfl (lv_at hl 1 rfl) ?_
            refine gM_row S hK hP dX3_filled_55 ?_
            refine lv_iload_n hx hb dX3_filled_58 rfl (lv_at hl 3 rfl) ?_
            obtain ⟨hin, hf⟩ := hf
            refine lM_row S hK hP hin dX3_filled_59 ?_
            refine lv_goto (tgt := 65) hx hb dX3_filled_60 (by decide) ?_
            exact hret _ _ _ _ _ _ _ _ _ _ hf hP hS dX3_filled_65
        · replace hf := hf.2 c_42
          refine lv_iload_n hx hb dX3_filled_45 rfl (lv_at hl 0 rfl) ?_
          refine lv_goto (tgt := 65) hx hb dX3_filled_46 (by decide) ?_
          exact hret _ _ _ _ _ _ _ _ _ _ hf hP hS dX3_filled_65
    · replace hf := hf.1 c_21
      refine lv_iconst (v := (-1)) hx hb dX3_filled_24 (by decide) ?_
      exact hret _ _ _ _ _ _ _ _ _ _ hf hP hS dX3_filled_25
/-! HoleCountyModel.split(II)I -/
theorem pdX3_split : DscOk yX3_split 2 := by decide +kernel
abbrev rmX3_split : Room := { frames := 7, cells := 0, slots := 0, locals := 170 }
abbrev RX3_split_ : Room := (headSpec (ws_ yX3_split cX3_split 4 (some .int)) rmX3_split).room
section
variable {p : Program} {l : Launch} {e : Env} {s : State} {m : MethodId} {args : Array Value} {below : List Frame} {meth : Method} {c : Code} {Qw : State → Prop} {dC : Nat → ClassId} {dI : Nat → Nat → Nat} {dA : Nat → ClassId} {h : Nat → Nat}
abbrev hrX3_split (p : Program) (l : Launch) (e : Env) (s : State) (m : MethodId) (args : Array Value) (below : List Frame) (meth : Method) (c : Code) (dC : Nat → ClassId) (dI : Nat → Nat → Nat) (dA : Nat → ClassId) (h : Nat → Nat) (Qw : State → Prop) (Q : Int32 → Int64 → Int64 → (Nat → Int64) → Int32 → (Nat → Int32) → Prop) (depths : (Nat → Int32)) (owners : (Nat → Int32)) (roofs : Int64) (rate : Int32) (undos : (Nat → Int32)) (undoMany : Int32) (drawn : Int32) (tape : (Nat → Int32)) (taped : Int32) (place : Int32) (reads : Int32) (read_ : (Nat → Int32)) (order : (Nat → Int32)) (bestOrder : (Nat → Int32)) (nears : (Nat → Int32)) (isKept : Int32) (keptRoofs : Int64) (kept : (Nat → Int32)) (lanes : (Nat → Int32)) (rowSizes : (Nat → Int32)) (items : (Nat → Int64)) (moved : (Nat → Int64)) : Prop := ∀ (r : Int32) (dug : Int64) (deep : Int64) (holes : (Nat → Int64)) (holeMany : Int32) (row : (Nat → Int32)) (H : Heap) (locs : List Loc) (pc : Nat) (ls : Array Slot), Q r dug deep holes holeMany row → va_P (dC, dI) vwCl (wM h dA depths owners roofs rate undos undoMany drawn dug deep holes holeMany tape taped place reads read_ row order bestOrder nears isKept keptRoofs kept lanes rowSizes items moved) H → va_S (mA h) s.heap H locs → decode cX3_split pc = .ok (.ireturn, 1) → W p l e RX3_split_ s m args below meth c H locs 0 0 Qw (F0 m pc ls [.int r])
def wX3_split (Q : Int32 → Int64 → Int64 → (Nat → Int64) → Int32 → (Nat → Int32) → Prop) (depths : (Nat → Int32)) (roofs : Int64) (rate : Int32) (dug : Int64) (deep : Int64) (holes : (Nat → Int64)) (holeMany : Int32) (row : (Nat → Int32)) (x1 : Int32) (x2 : Int32) : Prop := (wX3_isCell (fun r_1 => ((r_1 = 0 → (Q (-1) dug deep holes holeMany row)) ∧ (¬ r_1 = 0 → (wX3_in (fun r_13 => ((r_13 = 0 → (Q (-1) dug deep holes holeMany row)) ∧ (¬ r_13 = 0 → (wX3_look (fun dug_22 deep_22 => (wX3_has (fun r_30 => ((r_30 = 0 → (Q (-2) dug_22 deep_22 holes holeMany row)) ∧ (¬ r_30 = 0 → (wX3_holeAt (fun r_43 => (wX3_fewestFilled (fun r_46 dug_46 holes_46 holeMany_46 row_46 => ((r_46 < 0 → (Q r_46 dug_46 deep_22 holes_46 holeMany_46 row_46)) ∧ (¬ r_46 < 0 → ((0 ≤ x2 → ((r_46 ≤ x2 → (Q (-4) dug_46 deep_22 holes_46 holeMany_46 row_46)) ∧ (¬ r_46 ≤ x2 → (vp_in x2 10 ∧ (Q (row_46 (x2 : Int32).toNatClampNeg) dug_46 deep_22 holes_46 holeMany_46 row_46))))) ∧ (¬ 0 ≤ x2 → (Q r_46 dug_46 deep_22 holes_46 holeMany_46 row_46)))))) roofs rate dug_22 deep_22 holes holeMany row 0 r_43)) dug_22 x1)))) dug_22 x1)) depths dug deep)))) ((x2 : Int32).toInt64) (-1) 1)))) x1)
end
set_option maxHeartbeats 4000000 in
set_option maxRecDepth 100000 in
theorem metX3_split (l : Launch) {Q : Int32 → Int64 → Int64 → (Nat → Int64) → Int32 → (Nat → Int32) → Prop} {depths : (Nat → Int32)} {owners : (Nat → Int32)} {roofs : Int64} {rate : Int32} {undos : (Nat → Int32)} {undoMany : Int32} {drawn : Int32} {dug : Int64} {deep : Int64} {holes : (Nat → Int64)} {holeMany : Int32} {tape : (Nat → Int32)} {taped : Int32} {place : Int32} {reads : Int32} {read_ : (Nat → Int32)} {row : (Nat → Int32)} {order : (Nat → Int32)} {bestOrder : (Nat → Int32)} {nears : (Nat → Int32)} {isKept : Int32} {keptRoofs : Int64} {kept : (Nat → Int32)} {lanes : (Nat → Int32)} {rowSizes : (Nat → Int32)} {items : (Nat → Int64)} {moved : (Nat → Int64)} {x1 : Int32} {x2 : Int32} {dC : Nat → ClassId} {dI : Nat → Nat → Nat} {dA : Nat → ClassId} {h : Nat → Nat} (hj : mJ h) (hf : wX3_split Q depths roofs rate dug deep holes holeMany row x1 x2) : Met l yX3_split (ws_ yX3_split cX3_split 4 (some .int)) rmX3_split (mPc dC dI dA h [.int x1, .int x2] (wM h dA depths owners roofs rate undos undoMany drawn dug deep holes holeMany tape taped place reads read_ row order bestOrder nears isKept keptRoofs kept lanes rowSizes items moved)) (va_Qi (fun (r : Int32) (u : Int64 × Int64 × (Nat → Int64) × Int32 × (Nat → Int32)) => Q r u.1 u.2.1 u.2.2.1 u.2.2.2.1 u.2.2.2.2) (fun u t => va_P (dC, dI) vwCl (wM h dA depths owners roofs rate undos undoMany drawn u.1 u.2.1 u.2.2.1 u.2.2.2.1 tape taped place reads read_ u.2.2.2.2 order bestOrder nears isKept keptRoofs kept lanes rowSizes items moved) t.heap) (mA h)) 0 0 (mA h) := by
  refine Met.ofW (cc := cX3_split) (maxL := 4) (ret := (some .int)) (by decide) rfl ?_
  intro p e s m args below meth c s₁ B hml hv
  obtain ⟨rfl, hP, hK⟩ := hv
  have hx := B.exec
  have hb := B.bytes
  have hr := B.returns
  have hts := atoms_spec (ws := (ws_ yX3_split cX3_split 4 (some .int))) B.pre
  have hts : ∀ w ∈ lw_all, w.before _ s = true := fun w h => hts w (List.mem_cons_of_mem _ h)
  have hown : s.vm.findClass RX3 = some m.cls := findClass_of_methodNamed B.named
  have hlocks := B.notSynchronized
  have S : CallFix p m c cX3_split 4 s _ lw_all RX3 := ⟨hx, hb, hml, hown, hts⟩
  have hS : va_S (mA h) s.heap s.heap [] := va_S.rf
  have hl := lv_entry ([.ref (h 0), .int x1, .int x2]) (n := 4) (Nat.le_of_ble_eq_true rfl)
  rw [lg_entry_eq]
  generalize (lg_sl ([.ref (h 0), .int x1, .int x2]) ++ List.replicate (4 - (lg_sl ([.ref (h 0), .int x1, .int x2])).length) Slot.unset).toArray = ls at hl ⊢
  replace hl : lv_has ls 4 [(0, .ref (h 0)), (1, .int x1), (2, .int x2)] := hl
  have hret : hrX3_split p l e s m ([.ref (h 0), .int x1, .int x2] : List Value).toArray below meth c dC dI dA h (MQ below (va_Qi (fun (r : Int32) (u : Int64 × Int64 × (Nat → Int64) × Int32 × (Nat → Int32)) => Q r u.1 u.2.1 u.2.2.1 u.2.2.2.1 u.2.2.2.2) (fun u t => va_P (dC, dI) vwCl (wM h dA depths owners roofs rate undos undoMany drawn u.1 u.2.1 u.2.2.1 u.2.2.2.1 tape taped place reads read_ u.2.2.2.2 order bestOrder nears isKept keptRoofs kept lanes rowSizes items moved) t.heap) (mA h)) ([.ref (h 0), .int x1, .int x2] : List Value).toArray s 0 0 (mA h)) Q depths owners roofs rate undos undoMany drawn tape taped place reads read_ order bestOrder nears isKept keptRoofs kept lanes rowSizes items moved := fun r dug deep holes holeMany row H locs pc ls hq hP hS hd => W.iret hx hb hr (fun t ht hW => ⟨⟨r, (dug, deep, holes, holeMany, row), rfl, hq, by subst ht; exact hP⟩, hS.F ht⟩) hS.2.2 hd
  unfold wX3_split at hf
  refine lv_iload_n hx hb dX3_split_0 rfl (lv_at hl 1 rfl) ?_
  refine cs_i (As := [.int x1]) (rest := []) S (metX3_isCell l hf) (lw_S q1264 q1265 q60 q1266) pdX3_isCell ⟨rfl, rfl⟩ ⟨Nat.le_of_ble_eq_true rfl, Nat.le_of_ble_eq_true rfl⟩ rfl hl.1 rfl (Nat.le_of_ble_eq_true rfl) dX3_split_1 ⟨Nat.zero_le _, Nat.zero_le _⟩ (fun r_1 hf => ?_)
  refine lv_if_eq (tgt := 19) hx hb dX3_split_4 (by decide) (fun c_4 => ?_) (fun c_4 => ?_)
  · replace hf := hf.1 c_4
    refine lv_iconst (v := (-1)) hx hb dX3_split_19 (by decide) ?_
    exact hret _ _ _ _ _ _ _ _ _ _ hf hP hS dX3_split_20
  · replace hf := hf.2 c_4
    refine lv_iload_n hx hb dX3_split_7 rfl (lv_at hl 2 rfl) ?_
    refine lv_i2l (v := (x2 : Int32).toInt64) hx hb dX3_split_8 rfl ?_
    refine lv_ldc2 (v := (-1)) hx hb hown (hts _ q1286) dX3_split_9 ?_
    refine lv_lconst (v := 1) hx hb dX3_split_12 (by decide) ?_
    refine cs_i (As := [.long (x2 : Int32).toInt64, .long (-1), .long 1]) (rest := []) S (metX3_in l hf) (lw_S q1268 q1269 q60 q1270) pdX3_in ⟨rfl, rfl⟩ ⟨Nat.le_of_ble_eq_true rfl, Nat.le_of_ble_eq_true rfl⟩ rfl hl.1 rfl (Nat.le_of_ble_eq_true rfl) dX3_split_13 ⟨Nat.zero_le _, Nat.zero_le _⟩ (fun r_13 hf => ?_)
    refine lv_if_ne (tgt := 21) hx hb dX3_split_16 (by decide) (fun c_16 => ?_) (fun c_16 => ?_)
    · replace hf := hf.2 c_16
      refine lv_aload_n hx hb dX3_split_21 rfl (lv_at hl 0 rfl) ?_
      refine cM_v (As := []) (rest := []) S hK rfl hP hS (metX3_look l hj hf) (lw_V q1309 q1311 qs27 q60 q1312) rfl pdX3_look ⟨rfl, rfl⟩ ⟨Nat.le_of_ble_eq_true rfl, Nat.le_of_ble_eq_true rfl⟩ rfl hl.1 rfl (Nat.le_of_ble_eq_true rfl) dX3_split_22 ⟨Nat.zero_le _, Nat.zero_le _⟩ (fun u_22 H locs hf hP hS => ?_)
      obtain ⟨dug_22, deep_22⟩ := u_22
      replace hP : va_P (dC, dI) vwCl (wM h dA depths owners roofs rate undos undoMany drawn dug_22 deep_22 holes holeMany tape taped place reads read_ row order bestOrder nears isKept keptRoofs kept lanes rowSizes items moved) H := hP
      try dsimp only at hf
      refine lv_aload_n hx hb dX3_split_25 rfl (lv_at hl 0 rfl) ?_
      refine gM_dug S hK hP dX3_split_26 ?_
      refine lv_iload_n hx hb dX3_split_29 rfl (lv_at hl 1 rfl) ?_
      refine cs_i (As := [.long dug_22, .int x1]) (rest := []) S (metX3_has l hf) (lw_S q1275 q1276 q60 q1277) pdX3_has ⟨rfl, rfl⟩ ⟨Nat.le_of_ble_eq_true rfl, Nat.le_of_ble_eq_true rfl⟩ rfl hl.1 rfl (Nat.le_of_ble_eq_true rfl) dX3_split_30 ⟨Nat.zero_le _, Nat.zero_le _⟩ (fun r_30 hf => ?_)
      refine lv_if_ne (tgt := 39) hx hb dX3_split_33 (by decide) (fun c_33 => ?_) (fun c_33 => ?_)
      · replace hf := hf.2 c_33
        refine lv_aload_n hx hb dX3_split_39 rfl (lv_at hl 0 rfl) ?_
        refine lv_iconst (v := 0) hx hb dX3_split_40 (by decide) ?_
        refine lv_aload_n hx hb dX3_split_41 rfl (lv_at hl 0 rfl) ?_
        refine lv_iload_n hx hb dX3_split_42 rfl (lv_at hl 1 rfl) ?_
        refine cM_l (As := [.int x1]) (rest := [.int 0, .ref (h 0)]) S hK rfl hP hS (metX3_holeAt l hj hf) (lw_V q1313 q1315 qs28 q60 q1316) rfl pdX3_holeAt ⟨rfl, rfl⟩ ⟨Nat.le_of_ble_eq_true rfl, Nat.le_of_ble_eq_true rfl⟩ rfl hl.1 rfl (Nat.le_of_ble_eq_true rfl) dX3_split_43 ⟨Nat.zero_le _, Nat.zero_le _⟩ (fun r_43 u_43 H locs hf hP hS => ?_)
        replace hP : va_P (dC, dI) vwCl (wM h dA depths owners roofs rate undos undoMany drawn dug_22 deep_22 holes holeMany tape taped place reads read_ row order bestOrder nears isKept keptRoofs kept lanes rowSizes items moved) H := hP
        try dsimp only at hf
        refine cM_i (As := [.int 0, .long r_43]) (rest := []) S hK rfl hP hS (metX3_fewestFilled l hj hf) (lw_V q1472 q1474 qs45 q60 q1475) rfl pdX3_fewestFilled ⟨rfl, rfl⟩ ⟨Nat.le_of_ble_eq_true rfl, Nat.le_of_ble_eq_true rfl⟩ rfl hl.1 rfl (Nat.le_of_ble_eq_true rfl) dX3_split_46 ⟨Nat.zero_le _, Nat.zero_le _⟩ (fun r_46 u_46 H locs hf hP hS => ?_)
        obtain ⟨dug_46, holes_46, holeMany_46, row_46⟩ := u_46
        replace hP : va_P (dC, dI) vwCl (wM h dA depths owners roofs rate undos undoMany drawn dug_46 deep_22 holes_46 holeMany_46 tape taped place reads read_ row_46 order bestOrder nears isKept keptRoofs kept lanes rowSizes items moved) H := hP
        try dsimp only at hf
        refine lv_istore_n (lv' := [(3, .int r_46), (0, .ref (h 0)), (1, .int x1), (2, .int x2)]) hx hb dX3_split_49 rfl hl (by decide) rfl (fun ls hl => ?_)
        refine lv_iload_n hx hb dX3_split_50 rfl (lv_at hl 0 rfl) ?_
        refine lv_if_lt (tgt := 58) hx hb dX3_split_51 (by decide) (fun c_51 => ?_) (fun c_51 => ?_)
        · replace hf := hf.1 c_51
          refine lv_iload_n hx hb dX3_split_58 rfl (lv_at hl 0 rfl) ?_
          refine lv_goto (tgt := 78) hx hb dX3_split_59 (by decide) ?_
          exact hret _ _ _ _ _ _ _ _ _ _ hf hP hS dX3_split_78
        · replace hf := hf.2 c_51
          refine lv_iload_n hx hb dX3_split_54 rfl (lv_at hl 3 rfl) ?_
          refine lv_if_ge (tgt := 62) hx hb dX3_split_55 (by decide) (fun c_55 => ?_) (fun c_55 => ?_)
          · replace hf := hf.1 c_55
            refine lv_iload_n hx hb dX3_split_62 rfl (lv_at hl 3 rfl) ?_
            refine lv_iload_n hx hb dX3_split_63 rfl (lv_at hl 0 rfl) ?_
            refine lv_icmp_ge (tgt := 76) hx hb dX3_split_64 (by decide) (fun c_64 => ?_) (fun c_64 => ?_)
            · replace hf := hf.1 c_64
              refine lv_bipush (v := (-4)) hx hb dX3_split_76 (by decide) ?_
              exact hret _ _ _ _ _ _ _ _ _ _ hf hP hS dX3_split_78
            · replace hf := hf.2 c_64
              refine lv_aload_n hx hb dX3_split_67 rfl (lv_at hl 1 rfl) ?_
              refine gM_row S hK hP dX3_split_68 ?_
              refine lv_iload_n hx hb dX3_split_71 rfl (lv_at hl 3 rfl) ?_
              obtain ⟨hin, hf⟩ := hf
              refine lM_row S hK hP hin dX3_split_72 ?_
              refine lv_goto (tgt := 78) hx hb dX3_split_73 (by decide) ?_
              exact hret _ _ _ _ _ _ _ _ _ _ hf hP hS dX3_split_78
          · replace hf := hf.2 c_55
            refine lv_iload_n hx hb dX3_split_58 rfl (lv_at hl 0 rfl) ?_
            refine lv_goto (tgt := 78) hx hb dX3_split_59 (by decide) ?_
            exact hret _ _ _ _ _ _ _ _ _ _ hf hP hS dX3_split_78
      · replace hf := hf.1 c_33
        refine lv_bipush (v := (-2)) hx hb dX3_split_36 (by decide) ?_
        exact hret _ _ _ _ _ _ _ _ _ _ hf hP hS dX3_split_38
    · replace hf := hf.1 c_16
      refine lv_iconst (v := (-1)) hx hb dX3_split_19 (by decide) ?_
      exact hret _ _ _ _ _ _ _ _ _ _ hf hP hS dX3_split_20
