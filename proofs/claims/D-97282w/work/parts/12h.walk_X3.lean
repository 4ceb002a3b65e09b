/-! HoleCountyModel.seed(I)I -/
theorem pdX3_seed : DscOk yX3_seed 1 := by decide +kernel
abbrev rmX3_seed : Room := { frames := 0, cells := 0, slots := 0, locals := 0 }
abbrev RX3_seed_ : Room := (headSpec (ws_ yX3_seed cX3_seed 3 (some .int)) rmX3_seed).room
section
variable {p : Program} {l : Launch} {e : Env} {s : State} {m : MethodId} {args : Array Value} {below : List Frame} {meth : Method} {c : Code} {Qw : State → Prop} {dC : Nat → ClassId} {dI : Nat → Nat → Nat} {dA : Nat → ClassId} {h : Nat → Nat}
abbrev hrX3_seed (p : Program) (l : Launch) (e : Env) (s : State) (m : MethodId) (args : Array Value) (below : List Frame) (meth : Method) (c : Code) (dC : Nat → ClassId) (dI : Nat → Nat → Nat) (dA : Nat → ClassId) (h : Nat → Nat) (Qw : State → Prop) (Q : Int32 → Int32 → Prop) (depths : (Nat → Int32)) (owners : (Nat → Int32)) (roofs : Int64) (rate : Int32) (undos : (Nat → Int32)) (undoMany : Int32) (dug : Int64) (deep : Int64) (holes : (Nat → Int64)) (holeMany : Int32) (tape : (Nat → Int32)) (taped : Int32) (place : Int32) (reads : Int32) (read_ : (Nat → Int32)) (row : (Nat → Int32)) (order : (Nat → Int32)) (bestOrder : (Nat → Int32)) (nears : (Nat → Int32)) (isKept : Int32) (keptRoofs : Int64) (kept : (Nat → Int32)) (lanes : (Nat → Int32)) (rowSizes : (Nat → Int32)) (items : (Nat → Int64)) (moved : (Nat → Int64)) : Prop := ∀ (r : Int32) (drawn : Int32) (H : Heap) (locs : List Loc) (pc : Nat) (ls : Array Slot), Q r drawn → va_P (dC, dI) vwCl (wM h dA depths owners roofs rate undos undoMany drawn dug deep holes holeMany tape taped place reads read_ row order bestOrder nears isKept keptRoofs kept lanes rowSizes items moved) H → va_S (mA h) s.heap H locs → decode cX3_seed pc = .ok (.ireturn, 1) → W p l e RX3_seed_ s m args below meth c H locs 0 0 Qw (F0 m pc ls [.int r])
def wX3_seed (Q : Int32 → Int32 → Prop) (drawn : Int32) (x1 : Int32) : Prop := ((0 ≤ x1 → (Q drawn x1)) ∧ (¬ 0 ≤ x1 → (Q (-1) drawn)))
end
set_option maxHeartbeats 4000000 in
set_option maxRecDepth 100000 in
theorem metX3_seed (l : Launch) {Q : Int32 → Int32 → Prop} {depths : (Nat → Int32)} {owners : (Nat → Int32)} {roofs : Int64} {rate : Int32} {undos : (Nat → Int32)} {undoMany : Int32} {drawn : Int32} {dug : Int64} {deep : Int64} {holes : (Nat → Int64)} {holeMany : Int32} {tape : (Nat → Int32)} {taped : Int32} {place : Int32} {reads : Int32} {read_ : (Nat → Int32)} {row : (Nat → Int32)} {order : (Nat → Int32)} {bestOrder : (Nat → Int32)} {nears : (Nat → Int32)} {isKept : Int32} {keptRoofs : Int64} {kept : (Nat → Int32)} {lanes : (Nat → Int32)} {rowSizes : (Nat → Int32)} {items : (Nat → Int64)} {moved : (Nat → Int64)} {x1 : Int32} {dC : Nat → ClassId} {dI : Nat → Nat → Nat} {dA : Nat → ClassId} {h : Nat → Nat} (hj : mJ h) (hf : wX3_seed Q drawn x1) : Met l yX3_seed (ws_ yX3_seed cX3_seed 3 (some .int)) rmX3_seed (mPc dC dI dA h [.int x1] (wM h dA depths owners roofs rate undos undoMany drawn dug deep holes holeMany tape taped place reads read_ row order bestOrder nears isKept keptRoofs kept lanes rowSizes items moved)) (va_Qi (fun (r : Int32) (u : Int32) => Q r u) (fun u t => va_P (dC, dI) vwCl (wM h dA depths owners roofs rate undos undoMany u dug deep holes holeMany tape taped place reads read_ row order bestOrder nears isKept keptRoofs kept lanes rowSizes items moved) t.heap) (mA h)) 0 0 (mA h) := by
  refine Met.ofW (cc := cX3_seed) (maxL := 3) (ret := (some .int)) (by decide) rfl ?_
  intro p e s m args below meth c s₁ B hml hv
  obtain ⟨rfl, hP, hK⟩ := hv
  have hx := B.exec
  have hb := B.bytes
  have hr := B.returns
  have hts := atoms_spec (ws := (ws_ yX3_seed cX3_seed 3 (some .int))) B.pre
  have hts : ∀ w ∈ lw_all, w.before _ s = true := fun w h => hts w (List.mem_cons_of_mem _ h)
  have hown : s.vm.findClass RX3 = some m.cls := findClass_of_methodNamed B.named
  have hlocks := B.notSynchronized
  have S : CallFix p m c cX3_seed 3 s _ lw_all RX3 := ⟨hx, hb, hml, hown, hts⟩
  have hS : va_S (mA h) s.heap s.heap [] := va_S.rf
  have hl := lv_entry ([.ref (h 0), .int x1]) (n := 3) (Nat.le_of_ble_eq_true rfl)
  rw [lg_entry_eq]
  generalize (lg_sl ([.ref (h 0), .int x1]) ++ List.replicate (3 - (lg_sl ([.ref (h 0), .int x1])).length) Slot.unset).toArray = ls at hl ⊢
  replace hl : lv_has ls 3 [(0, .ref (h 0)), (1, .int x1)] := hl
  have hret : hrX3_seed p l e s m ([.ref (h 0), .int x1] : List Value).toArray below meth c dC dI dA h (MQ below (va_Qi (fun (r : Int32) (u : Int32) => Q r u) (fun u t => va_P (dC, dI) vwCl (wM h dA depths owners roofs rate undos undoMany u dug deep holes holeMany tape taped place reads read_ row order bestOrder nears isKept keptRoofs kept lanes rowSizes items moved) t.heap) (mA h)) ([.ref (h 0), .int x1] : List Value).toArray s 0 0 (mA h)) Q depths owners roofs rate undos undoMany dug deep holes holeMany tape taped place reads read_ row order bestOrder nears isKept keptRoofs kept lanes rowSizes items moved := fun r drawn H locs pc ls hq hP hS hd => W.iret hx hb hr (fun t ht hW => ⟨⟨r, drawn, rfl, hq, by subst ht; exact hP⟩, hS.F ht⟩) hS.2.2 hd
  unfold wX3_seed at hf
  refine lv_iload_n hx hb dX3_seed_0 rfl (lv_at hl 1 rfl) ?_
  refine lv_if_ge (tgt := 6) hx hb dX3_seed_1 (by decide) (fun c_1 => ?_) (fun c_1 => ?_)
  · replace hf := hf.1 c_1
    refine lv_aload_n hx hb dX3_seed_6 rfl (lv_at hl 0 rfl) ?_
    refine gM_drawn S hK hP dX3_seed_7 ?_
    refine lv_istore_n (lv' := [(2, .int drawn), (0, .ref (h 0)), (1, .int x1)]) hx hb dX3_seed_10 rfl hl (by decide) rfl (fun ls hl => ?_)
    refine lv_aload_n hx hb dX3_seed_11 rfl (lv_at hl 1 rfl) ?_
    refine lv_iload_n hx hb dX3_seed_12 rfl (lv_at hl 2 rfl) ?_
    refine pM_drawn S hK hj hP hS dX3_seed_13 (fun H locs hP hS => ?_)
    refine lv_iload_n hx hb dX3_seed_16 rfl (lv_at hl 0 rfl) ?_
    exact hret _ _ _ _ _ _ hf hP hS dX3_seed_17
  · replace hf := hf.2 c_1
    refine lv_iconst (v := (-1)) hx hb dX3_seed_4 (by decide) ?_
    exact hret _ _ _ _ _ _ hf hP hS dX3_seed_5
/-! HoleCountyModel.carried(IIZ)I -/
theorem pdX3_carried : DscOk yX3_carried 3 := by decide +kernel
abbrev rmX3_carried : Room := { frames := 0, cells := 0, slots := 0, locals := 0 }
abbrev RX3_carried_ : Room := (headSpec (ws_ yX3_carried cX3_carried 5 (some .int)) rmX3_carried).room
section
variable {p : Program} {l : Launch} {e : Env} {s : State} {m : MethodId} {args : Array Value} {below : List Frame} {meth : Method} {c : Code} {Qw : State → Prop} {dC : Nat → ClassId} {dI : Nat → Nat → Nat} {dA : Nat → ClassId} {h : Nat → Nat}
abbrev hrX3_carried (p : Program) (l : Launch) (e : Env) (s : State) (m : MethodId) (args : Array Value) (below : List Frame) (meth : Method) (c : Code) (dC : Nat → ClassId) (dI : Nat → Nat → Nat) (dA : Nat → ClassId) (h : Nat → Nat) (Qw : State → Prop) (Q : Int32 → (Nat → Int32) → (Nat → Int32) → Int32 → (Nat → Int32) → Int32 → Int32 → Prop) (roofs : Int64) (dug : Int64) (deep : Int64) (holes : (Nat → Int64)) (holeMany : Int32) (tape : (Nat → Int32)) (taped : Int32) (place : Int32) (reads : Int32) (read_ : (Nat → Int32)) (row : (Nat → Int32)) (order : (Nat → Int32)) (bestOrder : (Nat → Int32)) (nears : (Nat → Int32)) (isKept : Int32) (keptRoofs : Int64) (kept : (Nat → Int32)) (lanes : (Nat → Int32)) (rowSizes : (Nat → Int32)) (items : (Nat → Int64)) (moved : (Nat → Int64)) : Prop := ∀ (r : Int32) (depths : (Nat → Int32)) (owners : (Nat → Int32)) (rate : Int32) (undos : (Nat → Int32)) (undoMany : Int32) (drawn : Int32) (H : Heap) (locs : List Loc) (pc : Nat) (ls : Array Slot), Q r depths owners rate undos undoMany drawn → va_P (dC, dI) vwCl (wM h dA depths owners roofs rate undos undoMany drawn dug deep holes holeMany tape taped place reads read_ row order bestOrder nears isKept keptRoofs kept lanes rowSizes items moved) H → va_S (mA h) s.heap H locs → decode cX3_carried pc = .ok (.ireturn, 1) → W p l e RX3_carried_ s m args below meth c H locs 0 0 Qw (F0 m pc ls [.int r])
def wX3_carried_197 (Q : Int32 → (Nat → Int32) → (Nat → Int32) → Int32 → (Nat → Int32) → Int32 → Int32 → Prop) (x1 : Int32) (z0 : Int32) (depths : (Nat → Int32)) (owners : (Nat → Int32)) (rate : Int32) (undos : (Nat → Int32)) (undoMany : Int32) (drawn : Int32) : Prop := ((x1 = 102 → (Q rate depths owners rate undos undoMany z0)) ∧ (¬ x1 = 102 → ((x1 = 103 → (Q undoMany depths owners rate undos undoMany z0)) ∧ (¬ x1 = 103 → (Q z0 depths owners rate undos undoMany z0)))))
set_option maxHeartbeats 4000000 in
set_option maxRecDepth 100000 in
theorem tX3_carried_197 {Q : Int32 → (Nat → Int32) → (Nat → Int32) → Int32 → (Nat → Int32) → Int32 → Int32 → Prop} {roofs : Int64} {dug : Int64} {deep : Int64} {holes : (Nat → Int64)} {holeMany : Int32} {tape : (Nat → Int32)} {taped : Int32} {place : Int32} {reads : Int32} {read_ : (Nat → Int32)} {row : (Nat → Int32)} {order : (Nat → Int32)} {bestOrder : (Nat → Int32)} {nears : (Nat → Int32)} {isKept : Int32} {keptRoofs : Int64} {kept : (Nat → Int32)} {lanes : (Nat → Int32)} {rowSizes : (Nat → Int32)} {items : (Nat → Int64)} {moved : (Nat → Int64)} (S : CallFix p m c cX3_carried 5 s args lw_all RX3) (hK : va_K (dC, dI) vwCl (tysG dA) s) (hj : mJ h) (hret : hrX3_carried p l e s m args below meth c dC dI dA h Qw Q roofs dug deep holes holeMany tape taped place reads read_ row order bestOrder nears isKept keptRoofs kept lanes rowSizes items moved) : ∀ (x1 : Int32) (z0 : Int32) (depths : (Nat → Int32)) (owners : (Nat → Int32)) (rate : Int32) (undos : (Nat → Int32)) (undoMany : Int32) (drawn : Int32) (H : Heap) (locs : List Loc) (ls : Array Slot), wX3_carried_197 Q x1 z0 depths owners rate undos undoMany drawn → va_P (dC, dI) vwCl (wM h dA depths owners roofs rate undos undoMany drawn dug deep holes holeMany tape taped place reads read_ row order bestOrder nears isKept keptRoofs kept lanes rowSizes items moved) H → va_S (mA h) s.heap H locs → lv_has ls 5 [(0, .ref (h 0)), (1, .int x1)] → W p l e RX3_carried_ s m args below meth c H locs 0 0 Qw (F0 m 197 ls [.int z0, .ref (h 0)]) := by
  obtain ⟨hx, hb, hml, hown, hts⟩ := id S
  intro x1 z0 depths owners rate undos undoMany drawn H locs ls hf hP hS hl
  unfold wX3_carried_197 at hf
  refine pM_drawn S hK hj hP hS dX3_carried_197 (fun H locs hP hS => ?_)
  refine lv_iload_n hx hb dX3_carried_200 rfl (lv_at hl 1 rfl) ?_
  refine lv_bipush (v := 102) hx hb dX3_carried_201 (by decide) ?_
  refine lv_icmp_ne (tgt := 213) hx hb dX3_carried_203 (by decide) (fun c_203 => ?_) (fun c_203 => ?_)
  · replace hf := hf.2 c_203
    refine lv_iload_n hx hb dX3_carried_213 rfl (lv_at hl 1 rfl) ?_
    refine lv_bipush (v := 103) hx hb dX3_carried_214 (by decide) ?_
    refine lv_icmp_ne (tgt := 226) hx hb dX3_carried_216 (by decide) (fun c_216 => ?_) (fun c_216 => ?_)
    · replace hf := hf.2 c_216
      refine lv_aload_n hx hb dX3_carried_226 rfl (lv_at hl 0 rfl) ?_
      refine gM_drawn S hK hP dX3_carried_227 ?_
      exact hret _ _ _ _ _ _ _ _ _ _ _ hf hP hS dX3_carried_230
    · replace hf := hf.1 c_216
      refine lv_aload_n hx hb dX3_carried_219 rfl (lv_at hl 0 rfl) ?_
      refine gM_undoMany S hK hP dX3_carried_220 ?_
      refine lv_goto (tgt := 230) hx hb dX3_carried_223 (by decide) ?_
      exact hret _ _ _ _ _ _ _ _ _ _ _ hf hP hS dX3_carried_230
  · replace hf := hf.1 c_203
    refine lv_aload_n hx hb dX3_carried_206 rfl (lv_at hl 0 rfl) ?_
    refine gM_rate S hK hP dX3_carried_207 ?_
    refine lv_goto (tgt := 230) hx hb dX3_carried_210 (by decide) ?_
    exact hret _ _ _ _ _ _ _ _ _ _ _ hf hP hS dX3_carried_230
def wX3_carried_175 (Q : Int32 → (Nat → Int32) → (Nat → Int32) → Int32 → (Nat → Int32) → Int32 → Int32 → Prop) (x1 : Int32) (x2 : Int32) (x3 : Int32) (z0 : Int32) (depths : (Nat → Int32)) (owners : (Nat → Int32)) (rate : Int32) (undos : (Nat → Int32)) (undoMany : Int32) (drawn : Int32) : Prop := ((x3 = 0 → (wX3_carried_197 Q x1 drawn depths owners rate undos z0 drawn)) ∧ (¬ x3 = 0 → ((x1 = 104 → (wX3_carried_197 Q x1 x2 depths owners rate undos z0 drawn)) ∧ (¬ x1 = 104 → (wX3_carried_197 Q x1 drawn depths owners rate undos z0 drawn)))))
set_option maxHeartbeats 4000000 in
set_option maxRecDepth 100000 in
theorem tX3_carried_175 {Q : Int32 → (Nat → Int32) → (Nat → Int32) → Int32 → (Nat → Int32) → Int32 → Int32 → Prop} {roofs : Int64} {dug : Int64} {deep : Int64} {holes : (Nat → Int64)} {holeMany : Int32} {tape : (Nat → Int32)} {taped : Int32} {place : Int32} {reads : Int32} {read_ : (Nat → Int32)} {row : (Nat → Int32)} {order : (Nat → Int32)} {bestOrder : (Nat → Int32)} {nears : (Nat → Int32)} {isKept : Int32} {keptRoofs : Int64} {kept : (Nat → Int32)} {lanes : (Nat → Int32)} {rowSizes : (Nat → Int32)} {items : (Nat → Int64)} {moved : (Nat → Int64)} (S : CallFix p m c cX3_carried 5 s args lw_all RX3) (hK : va_K (dC, dI) vwCl (tysG dA) s) (hj : mJ h) (hret : hrX3_carried p l e s m args below meth c dC dI dA h Qw Q roofs dug deep holes holeMany tape taped place reads read_ row order bestOrder nears isKept keptRoofs kept lanes rowSizes items moved) : ∀ (x1 : Int32) (x2 : Int32) (x3 : Int32) (z0 : Int32) (depths : (Nat → Int32)) (owners : (Nat → Int32)) (rate : Int32) (undos : (Nat → Int32)) (undoMany : Int32) (drawn : Int32) (H : Heap) (locs : List Loc) (ls : Array Slot), wX3_carried_175 Q x1 x2 x3 z0 depths owners rate undos undoMany drawn → va_P (dC, dI) vwCl (wM h dA depths owners roofs rate undos undoMany drawn dug deep holes holeMany tape taped place reads read_ row order bestOrder nears isKept keptRoofs kept lanes rowSizes items moved) H → va_S (mA h) s.heap H locs → lv_has ls 5 [(0, .ref (h 0)), (1, .int x1), (2, .int x2), (3, .int x3)] → W p l e RX3_carried_ s m args below meth c H locs 0 0 Qw (F0 m 175 ls [.int z0, .ref (h 0)]) := by
  obtain ⟨hx, hb, hml, hown, hts⟩ := id S
  intro x1 x2 x3 z0 depths owners rate undos undoMany drawn H locs ls hf hP hS hl
  unfold wX3_carried_175 at hf
  refine pM_undoMany S hK hj hP hS dX3_carried_175 (fun H locs hP hS => ?_)
  refine lv_aload_n hx hb dX3_carried_178 rfl (lv_at hl 0 rfl) ?_
  refine lv_iload_n hx hb dX3_carried_179 rfl (lv_at hl 3 rfl) ?_
  refine lv_if_eq (tgt := 193) hx hb dX3_carried_180 (by decide) (fun c_180 => ?_) (fun c_180 => ?_)
  · replace hf := hf.1 c_180
    refine lv_aload_n hx hb dX3_carried_193 rfl (lv_at hl 0 rfl) ?_
    refine gM_drawn S hK hP dX3_carried_194 ?_
    exact tX3_carried_197 S hK hj hret x1 drawn depths owners rate undos z0 drawn _ _ _ hf hP hS (lv_sub hl [0, 1] rfl)
  · replace hf := hf.2 c_180
    refine lv_iload_n hx hb dX3_carried_183 rfl (lv_at hl 1 rfl) ?_
    refine lv_bipush (v := 104) hx hb dX3_carried_184 (by decide) ?_
    refine lv_icmp_ne (tgt := 193) hx hb dX3_carried_186 (by decide) (fun c_186 => ?_) (fun c_186 => ?_)
    · replace hf := hf.2 c_186
      refine lv_aload_n hx hb dX3_carried_193 rfl (lv_at hl 0 rfl) ?_
      refine gM_drawn S hK hP dX3_carried_194 ?_
      exact tX3_carried_197 S hK hj hret x1 drawn depths owners rate undos z0 drawn _ _ _ hf hP hS (lv_sub hl [0, 1] rfl)
    · replace hf := hf.1 c_186
      refine lv_iload_n hx hb dX3_carried_189 rfl (lv_at hl 2 rfl) ?_
      refine lv_goto (tgt := 197) hx hb dX3_carried_190 (by decide) ?_
      exact tX3_carried_197 S hK hj hret x1 x2 depths owners rate undos z0 drawn _ _ _ hf hP hS (lv_sub hl [0, 1] rfl)
def wX3_carried_153 (Q : Int32 → (Nat → Int32) → (Nat → Int32) → Int32 → (Nat → Int32) → Int32 → Int32 → Prop) (x1 : Int32) (x2 : Int32) (x3 : Int32) (z0 : Int32) (depths : (Nat → Int32)) (owners : (Nat → Int32)) (rate : Int32) (undos : (Nat → Int32)) (undoMany : Int32) (drawn : Int32) : Prop := ((x3 = 0 → (wX3_carried_175 Q x1 x2 x3 undoMany depths owners z0 undos undoMany drawn)) ∧ (¬ x3 = 0 → ((x1 = 103 → (wX3_carried_175 Q x1 x2 x3 x2 depths owners z0 undos undoMany drawn)) ∧ (¬ x1 = 103 → (wX3_carried_175 Q x1 x2 x3 undoMany depths owners z0 undos undoMany drawn)))))
set_option maxHeartbeats 4000000 in
set_option maxRecDepth 100000 in
theorem tX3_carried_153 {Q : Int32 → (Nat → Int32) → (Nat → Int32) → Int32 → (Nat → Int32) → Int32 → Int32 → Prop} {roofs : Int64} {dug : Int64} {deep : Int64} {holes : (Nat → Int64)} {holeMany : Int32} {tape : (Nat → Int32)} {taped : Int32} {place : Int32} {reads : Int32} {read_ : (Nat → Int32)} {row : (Nat → Int32)} {order : (Nat → Int32)} {bestOrder : (Nat → Int32)} {nears : (Nat → Int32)} {isKept : Int32} {keptRoofs : Int64} {kept : (Nat → Int32)} {lanes : (Nat → Int32)} {rowSizes : (Nat → Int32)} {items : (Nat → Int64)} {moved : (Nat → Int64)} (S : CallFix p m c cX3_carried 5 s args lw_all RX3) (hK : va_K (dC, dI) vwCl (tysG dA) s) (hj : mJ h) (hret : hrX3_carried p l e s m args below meth c dC dI dA h Qw Q roofs dug deep holes holeMany tape taped place reads read_ row order bestOrder nears isKept keptRoofs kept lanes rowSizes items moved) : ∀ (x1 : Int32) (x2 : Int32) (x3 : Int32) (z0 : Int32) (depths : (Nat → Int32)) (owners : (Nat → Int32)) (rate : Int32) (undos : (Nat → Int32)) (undoMany : Int32) (drawn : Int32) (H : Heap) (locs : List Loc) (ls : Array Slot), wX3_carried_153 Q x1 x2 x3 z0 depths owners rate undos undoMany drawn → va_P (dC, dI) vwCl (wM h dA depths owners roofs rate undos undoMany drawn dug deep holes holeMany tape taped place reads read_ row order bestOrder nears isKept keptRoofs kept lanes rowSizes items moved) H → va_S (mA h) s.heap H locs → lv_has ls 5 [(0, .ref (h 0)), (1, .int x1), (2, .int x2), (3, .int x3)] → W p l e RX3_carried_ s m args below meth c H locs 0 0 Qw (F0 m 153 ls [.int z0, .ref (h 0)]) := by
  obtain ⟨hx, hb, hml, hown, hts⟩ := id S
  intro x1 x2 x3 z0 depths owners rate undos undoMany drawn H locs ls hf hP hS hl
  unfold wX3_carried_153 at hf
  refine pM_rate S hK hj hP hS dX3_carried_153 (fun H locs hP hS => ?_)
  refine lv_aload_n hx hb dX3_carried_156 rfl (lv_at hl 0 rfl) ?_
  refine lv_iload_n hx hb dX3_carried_157 rfl (lv_at hl 3 rfl) ?_
  refine lv_if_eq (tgt := 171) hx hb dX3_carried_158 (by decide) (fun c_158 => ?_) (fun c_158 => ?_)
  · replace hf := hf.1 c_158
    refine lv_aload_n hx hb dX3_carried_171 rfl (lv_at hl 0 rfl) ?_
    refine gM_undoMany S hK hP dX3_carried_172 ?_
    exact tX3_carried_175 S hK hj hret x1 x2 x3 undoMany depths owners z0 undos undoMany drawn _ _ _ hf hP hS (lv_sub hl [0, 1, 2, 3] rfl)
  · replace hf := hf.2 c_158
    refine lv_iload_n hx hb dX3_carried_161 rfl (lv_at hl 1 rfl) ?_
    refine lv_bipush (v := 103) hx hb dX3_carried_162 (by decide) ?_
    refine lv_icmp_ne (tgt := 171) hx hb dX3_carried_164 (by decide) (fun c_164 => ?_) (fun c_164 => ?_)
    · replace hf := hf.2 c_164
      refine lv_aload_n hx hb dX3_carried_171 rfl (lv_at hl 0 rfl) ?_
      refine gM_undoMany S hK hP dX3_carried_172 ?_
      exact tX3_carried_175 S hK hj hret x1 x2 x3 undoMany depths owners z0 undos undoMany drawn _ _ _ hf hP hS (lv_sub hl [0, 1, 2, 3] rfl)
    · replace hf := hf.1 c_164
      refine lv_iload_n hx hb dX3_carried_167 rfl (lv_at hl 2 rfl) ?_
      refine lv_goto (tgt := 175) hx hb dX3_carried_168 (by decide) ?_
      exact tX3_carried_175 S hK hj hret x1 x2 x3 x2 depths owners z0 undos undoMany drawn _ _ _ hf hP hS (lv_sub hl [0, 1, 2, 3] rfl)
def wX3_carried_123 (Q : Int32 → (Nat → Int32) → (Nat → Int32) → Int32 → (Nat → Int32) → Int32 → Int32 → Prop) (x1 : Int32) (z0 : Int32) (z1 : Int32) (depths : (Nat → Int32)) (owners : (Nat → Int32)) (rate : Int32) (undos : (Nat → Int32)) (undoMany : Int32) (drawn : Int32) : Prop := (vp_in z1 30 ∧ (∀ undos_123 : Nat → Int32, undos_123 = upd undos (z1 : Int32).toNatClampNeg z0 → (vp_in (x1 - 72) 30 ∧ (Q (undos_123 ((x1 - 72) : Int32).toNatClampNeg) depths owners rate undos_123 undoMany drawn))))
set_option maxHeartbeats 4000000 in
set_option maxRecDepth 100000 in
theorem tX3_carried_123 {Q : Int32 → (Nat → Int32) → (Nat → Int32) → Int32 → (Nat → Int32) → Int32 → Int32 → Prop} {roofs : Int64} {dug : Int64} {deep : Int64} {holes : (Nat → Int64)} {holeMany : Int32} {tape : (Nat → Int32)} {taped : Int32} {place : Int32} {reads : Int32} {read_ : (Nat → Int32)} {row : (Nat → Int32)} {order : (Nat → Int32)} {bestOrder : (Nat → Int32)} {nears : (Nat → Int32)} {isKept : Int32} {keptRoofs : Int64} {kept : (Nat → Int32)} {lanes : (Nat → Int32)} {rowSizes : (Nat → Int32)} {items : (Nat → Int64)} {moved : (Nat → Int64)} (S : CallFix p m c cX3_carried 5 s args lw_all RX3) (hK : va_K (dC, dI) vwCl (tysG dA) s) (hj : mJ h) (hret : hrX3_carried p l e s m args below meth c dC dI dA h Qw Q roofs dug deep holes holeMany tape taped place reads read_ row order bestOrder nears isKept keptRoofs kept lanes rowSizes items moved) : ∀ (x1 : Int32) (z0 : Int32) (z1 : Int32) (depths : (Nat → Int32)) (owners : (Nat → Int32)) (rate : Int32) (undos : (Nat → Int32)) (undoMany : Int32) (drawn : Int32) (H : Heap) (locs : List Loc) (ls : Array Slot), wX3_carried_123 Q x1 z0 z1 depths owners rate undos undoMany drawn → va_P (dC, dI) vwCl (wM h dA depths owners roofs rate undos undoMany drawn dug deep holes holeMany tape taped place reads read_ row order bestOrder nears isKept keptRoofs kept lanes rowSizes items moved) H → va_S (mA h) s.heap H locs → lv_has ls 5 [(0, .ref (h 0)), (1, .int x1)] → W p l e RX3_carried_ s m args below meth c H locs 0 0 Qw (F0 m 123 ls [.int z0, .int z1, .ref (h 3)]) := by
  obtain ⟨hx, hb, hml, hown, hts⟩ := id S
  intro x1 z0 z1 depths owners rate undos undoMany drawn H locs ls hf hP hS hl
  unfold wX3_carried_123 at hf
  obtain ⟨hin, hf⟩ := hf
  obtain ⟨undos_123, eundos_123⟩ : ∃ z : Nat → Int32, z = upd undos (z1 : Int32).toNatClampNeg z0 := ⟨_, rfl⟩
  replace hf := hf undos_123 eundos_123
  refine sM_undos S hK hj hP hS hin eundos_123 dX3_carried_123 (fun H locs hP hS => ?_)
  refine lv_aload_n hx hb dX3_carried_124 rfl (lv_at hl 0 rfl) ?_
  refine gM_undos S hK hP dX3_carried_125 ?_
  refine lv_iload_n hx hb dX3_carried_128 rfl (lv_at hl 1 rfl) ?_
  refine lv_bipush (v := 72) hx hb dX3_carried_129 (by decide) ?_
  refine lv_isub hx hb dX3_carried_131 ?_
  obtain ⟨hin, hf⟩ := hf
  refine lM_undos S hK hP hin dX3_carried_132 ?_
  exact hret _ _ _ _ _ _ _ _ _ _ _ hf hP hS dX3_carried_133
def wX3_carried_67 (Q : Int32 → (Nat → Int32) → (Nat → Int32) → Int32 → (Nat → Int32) → Int32 → Int32 → Prop) (x1 : Int32) (x4 : Int32) (z0 : Int32) (z1 : Int32) (depths : (Nat → Int32)) (owners : (Nat → Int32)) (rate : Int32) (undos : (Nat → Int32)) (undoMany : Int32) (drawn : Int32) : Prop := (vp_in z1 36 ∧ (∀ owners_67 : Nat → Int32, owners_67 = upd owners (z1 : Int32).toNatClampNeg z0 → ((36 ≤ x1 → (vp_in x4 36 ∧ (Q (owners_67 (x4 : Int32).toNatClampNeg) depths owners_67 rate undos undoMany drawn))) ∧ (¬ 36 ≤ x1 → (vp_in x4 36 ∧ (Q (depths (x4 : Int32).toNatClampNeg) depths owners_67 rate undos undoMany drawn))))))
set_option maxHeartbeats 4000000 in
set_option maxRecDepth 100000 in
theorem tX3_carried_67 {Q : Int32 → (Nat → Int32) → (Nat → Int32) → Int32 → (Nat → Int32) → Int32 → Int32 → Prop} {roofs : Int64} {dug : Int64} {deep : Int64} {holes : (Nat → Int64)} {holeMany : Int32} {tape : (Nat → Int32)} {taped : Int32} {place : Int32} {reads : Int32} {read_ : (Nat → Int32)} {row : (Nat → Int32)} {order : (Nat → Int32)} {bestOrder : (Nat → Int32)} {nears : (Nat → Int32)} {isKept : Int32} {keptRoofs : Int64} {kept : (Nat → Int32)} {lanes : (Nat → Int32)} {rowSizes : (Nat → Int32)} {items : (Nat → Int64)} {moved : (Nat → Int64)} (S : CallFix p m c cX3_carried 5 s args lw_all RX3) (hK : va_K (dC, dI) vwCl (tysG dA) s) (hj : mJ h) (hret : hrX3_carried p l e s m args below meth c dC dI dA h Qw Q roofs dug deep holes holeMany tape taped place reads read_ row order bestOrder nears isKept keptRoofs kept lanes rowSizes items moved) : ∀ (x1 : Int32) (x4 : Int32) (z0 : Int32) (z1 : Int32) (depths : (Nat → Int32)) (owners : (Nat → Int32)) (rate : Int32) (undos : (Nat → Int32)) (undoMany : Int32) (drawn : Int32) (H : Heap) (locs : List Loc) (ls : Array Slot), wX3_carried_67 Q x1 x4 z0 z1 depths owners rate undos undoMany drawn → va_P (dC, dI) vwCl (wM h dA depths owners roofs rate undos undoMany drawn dug deep holes holeMany tape taped place reads read_ row order bestOrder nears isKept keptRoofs kept lanes rowSizes items moved) H → va_S (mA h) s.heap H locs → lv_has ls 5 [(0, .ref (h 0)), (1, .int x1), (4, .int x4)] → W p l e RX3_carried_ s m args below meth c H locs 0 0 Qw (F0 m 67 ls [.int z0, .int z1, .ref (h 2)]) := by
  obtain ⟨hx, hb, hml, hown, hts⟩ := id S
  intro x1 x4 z0 z1 depths owners rate undos undoMany drawn H locs ls hf hP hS hl
  unfold wX3_carried_67 at hf
  obtain ⟨hin, hf⟩ := hf
  obtain ⟨owners_67, eowners_67⟩ : ∃ z : Nat → Int32, z = upd owners (z1 : Int32).toNatClampNeg z0 := ⟨_, rfl⟩
  replace hf := hf owners_67 eowners_67
  refine sM_owners S hK hj hP hS hin eowners_67 dX3_carried_67 (fun H locs hP hS => ?_)
  refine lv_iload_n hx hb dX3_carried_68 rfl (lv_at hl 1 rfl) ?_
  refine lv_bipush (v := 36) hx hb dX3_carried_69 (by decide) ?_
  refine lv_icmp_ge (tgt := 84) hx hb dX3_carried_71 (by decide) (fun c_71 => ?_) (fun c_71 => ?_)
  · replace hf := hf.1 c_71
    refine lv_aload_n hx hb dX3_carried_84 rfl (lv_at hl 0 rfl) ?_
    refine gM_owners S hK hP dX3_carried_85 ?_
    refine lv_iload hx hb dX3_carried_88 (lv_at hl 2 rfl) ?_
    obtain ⟨hin, hf⟩ := hf
    refine lM_owners S hK hP hin dX3_carried_90 ?_
    exact hret _ _ _ _ _ _ _ _ _ _ _ hf hP hS dX3_carried_91
  · replace hf := hf.2 c_71
    refine lv_aload_n hx hb dX3_carried_74 rfl (lv_at hl 0 rfl) ?_
    refine gM_depths S hK hP dX3_carried_75 ?_
    refine lv_iload hx hb dX3_carried_78 (lv_at hl 2 rfl) ?_
    obtain ⟨hin, hf⟩ := hf
    refine lM_depths S hK hP hin dX3_carried_80 ?_
    refine lv_goto (tgt := 91) hx hb dX3_carried_81 (by decide) ?_
    exact hret _ _ _ _ _ _ _ _ _ _ _ hf hP hS dX3_carried_91
def wX3_carried_39 (Q : Int32 → (Nat → Int32) → (Nat → Int32) → Int32 → (Nat → Int32) → Int32 → Int32 → Prop) (x1 : Int32) (x2 : Int32) (x3 : Int32) (x4 : Int32) (z0 : Int32) (z1 : Int32) (depths : (Nat → Int32)) (owners : (Nat → Int32)) (rate : Int32) (undos : (Nat → Int32)) (undoMany : Int32) (drawn : Int32) : Prop := (vp_in z1 36 ∧ (∀ depths_39 : Nat → Int32, depths_39 = upd depths (z1 : Int32).toNatClampNeg z0 → ((x3 = 0 → (vp_in x4 36 ∧ (wX3_carried_67 Q x1 x4 (owners (x4 : Int32).toNatClampNeg) x4 depths_39 owners rate undos undoMany drawn))) ∧ (¬ x3 = 0 → ((x1 < 36 → (vp_in x4 36 ∧ (wX3_carried_67 Q x1 x4 (owners (x4 : Int32).toNatClampNeg) x4 depths_39 owners rate undos undoMany drawn))) ∧ (¬ x1 < 36 → (wX3_carried_67 Q x1 x4 x2 x4 depths_39 owners rate undos undoMany drawn)))))))
set_option maxHeartbeats 4000000 in
set_option maxRecDepth 100000 in
theorem tX3_carried_39 {Q : Int32 → (Nat → Int32) → (Nat → Int32) → Int32 → (Nat → Int32) → Int32 → Int32 → Prop} {roofs : Int64} {dug : Int64} {deep : Int64} {holes : (Nat → Int64)} {holeMany : Int32} {tape : (Nat → Int32)} {taped : Int32} {place : Int32} {reads : Int32} {read_ : (Nat → Int32)} {row : (Nat → Int32)} {order : (Nat → Int32)} {bestOrder : (Nat → Int32)} {nears : (Nat → Int32)} {isKept : Int32} {keptRoofs : Int64} {kept : (Nat → Int32)} {lanes : (Nat → Int32)} {rowSizes : (Nat → Int32)} {items : (Nat → Int64)} {moved : (Nat → Int64)} (S : CallFix p m c cX3_carried 5 s args lw_all RX3) (hK : va_K (dC, dI) vwCl (tysG dA) s) (hj : mJ h) (hret : hrX3_carried p l e s m args below meth c dC dI dA h Qw Q roofs dug deep holes holeMany tape taped place reads read_ row order bestOrder nears isKept keptRoofs kept lanes rowSizes items moved) : ∀ (x1 : Int32) (x2 : Int32) (x3 : Int32) (x4 : Int32) (z0 : Int32) (z1 : Int32) (depths : (Nat → Int32)) (owners : (Nat → Int32)) (rate : Int32) (undos : (Nat → Int32)) (undoMany : Int32) (drawn : Int32) (H : Heap) (locs : List Loc) (ls : Array Slot), wX3_carried_39 Q x1 x2 x3 x4 z0 z1 depths owners rate undos undoMany drawn → va_P (dC, dI) vwCl (wM h dA depths owners roofs rate undos undoMany drawn dug deep holes holeMany tape taped place reads read_ row order bestOrder nears isKept keptRoofs kept lanes rowSizes items moved) H → va_S (mA h) s.heap H locs → lv_has ls 5 [(0, .ref (h 0)), (1, .int x1), (2, .int x2), (3, .int x3), (4, .int x4)] → W p l e RX3_carried_ s m args below meth c H locs 0 0 Qw (F0 m 39 ls [.int z0, .int z1, .ref (h 1)]) := by
  obtain ⟨hx, hb, hml, hown, hts⟩ := id S
  intro x1 x2 x3 x4 z0 z1 depths owners rate undos undoMany drawn H locs ls hf hP hS hl
  unfold wX3_carried_39 at hf
  obtain ⟨hin, hf⟩ := hf
  obtain ⟨depths_39, edepths_39⟩ : ∃ z : Nat → Int32, z = upd depths (z1 : Int32).toNatClampNeg z0 := ⟨_, rfl⟩
  replace hf := hf depths_39 edepths_39
  refine sM_depths S hK hj hP hS hin edepths_39 dX3_carried_39 (fun H locs hP hS => ?_)
  refine lv_aload_n hx hb dX3_carried_40 rfl (lv_at hl 0 rfl) ?_
  refine gM_owners S hK hP dX3_carried_41 ?_
  refine lv_iload hx hb dX3_carried_44 (lv_at hl 4 rfl) ?_
  refine lv_iload_n hx hb dX3_carried_46 rfl (lv_at hl 3 rfl) ?_
  refine lv_if_eq (tgt := 60) hx hb dX3_carried_47 (by decide) (fun c_47 => ?_) (fun c_47 => ?_)
  · replace hf := hf.1 c_47
    refine lv_aload_n hx hb dX3_carried_60 rfl (lv_at hl 0 rfl) ?_
    refine gM_owners S hK hP dX3_carried_61 ?_
    refine lv_iload hx hb dX3_carried_64 (lv_at hl 4 rfl) ?_
    obtain ⟨hin, hf⟩ := hf
    refine lM_owners S hK hP hin dX3_carried_66 ?_
    exact tX3_carried_67 S hK hj hret x1 x4 (owners (x4 : Int32).toNatClampNeg) x4 depths_39 owners rate undos undoMany drawn _ _ _ hf hP hS (lv_sub hl [0, 1, 4] rfl)
  · replace hf := hf.2 c_47
    refine lv_iload_n hx hb dX3_carried_50 rfl (lv_at hl 1 rfl) ?_
    refine lv_bipush (v := 36) hx hb dX3_carried_51 (by decide) ?_
    refine lv_icmp_lt (tgt := 60) hx hb dX3_carried_53 (by decide) (fun c_53 => ?_) (fun c_53 => ?_)
    · replace hf := hf.1 c_53
      refine lv_aload_n hx hb dX3_carried_60 rfl (lv_at hl 0 rfl) ?_
      refine gM_owners S hK hP dX3_carried_61 ?_
      refine lv_iload hx hb dX3_carried_64 (lv_at hl 4 rfl) ?_
      obtain ⟨hin, hf⟩ := hf
      refine lM_owners S hK hP hin dX3_carried_66 ?_
      exact tX3_carried_67 S hK hj hret x1 x4 (owners (x4 : Int32).toNatClampNeg) x4 depths_39 owners rate undos undoMany drawn _ _ _ hf hP hS (lv_sub hl [0, 1, 4] rfl)
    · replace hf := hf.2 c_53
      refine lv_iload_n hx hb dX3_carried_56 rfl (lv_at hl 2 rfl) ?_
      refine lv_goto (tgt := 67) hx hb dX3_carried_57 (by decide) ?_
      exact tX3_carried_67 S hK hj hret x1 x4 x2 x4 depths_39 owners rate undos undoMany drawn _ _ _ hf hP hS (lv_sub hl [0, 1, 4] rfl)
def wX3_carried (Q : Int32 → (Nat → Int32) → (Nat → Int32) → Int32 → (Nat → Int32) → Int32 → Int32 → Prop) (depths : (Nat → Int32)) (owners : (Nat → Int32)) (rate : Int32) (undos : (Nat → Int32)) (undoMany : Int32) (drawn : Int32) (x1 : Int32) (x2 : Int32) (x3 : Int32) : Prop := ((72 ≤ x1 → ((102 ≤ x1 → ((x3 = 0 → (wX3_carried_153 Q x1 x2 x3 rate depths owners rate undos undoMany drawn)) ∧ (¬ x3 = 0 → ((x1 = 102 → (wX3_carried_153 Q x1 x2 x3 x2 depths owners rate undos undoMany drawn)) ∧ (¬ x1 = 102 → (wX3_carried_153 Q x1 x2 x3 rate depths owners rate undos undoMany drawn)))))) ∧ (¬ 102 ≤ x1 → ((x3 = 0 → (vp_in (x1 - 72) 30 ∧ (wX3_carried_123 Q x1 (undos ((x1 - 72) : Int32).toNatClampNeg) (x1 - 72) depths owners rate undos undoMany drawn))) ∧ (¬ x3 = 0 → (wX3_carried_123 Q x1 x2 (x1 - 72) depths owners rate undos undoMany drawn)))))) ∧ (¬ 72 ≤ x1 → (∀ x4_10 : Int32, x4_10 = (x1 - x1 / 36 * 36) → ((x3 = 0 → (vp_in x4_10 36 ∧ (wX3_carried_39 Q x1 x2 x3 x4_10 (depths (x4_10 : Int32).toNatClampNeg) x4_10 depths owners rate undos undoMany drawn))) ∧ (¬ x3 = 0 → ((36 ≤ x1 → (vp_in x4_10 36 ∧ (wX3_carried_39 Q x1 x2 x3 x4_10 (depths (x4_10 : Int32).toNatClampNeg) x4_10 depths owners rate undos undoMany drawn))) ∧ (¬ 36 ≤ x1 → (wX3_carried_39 Q x1 x2 x3 x4_10 x2 x4_10 depths owners rate undos undoMany drawn))))))))
end
set_option maxHeartbeats 4000000 in
set_option maxRecDepth 100000 in
theorem metX3_carried (l : Launch) {Q : Int32 → (Nat → Int32) → (Nat → Int32) → Int32 → (Nat → Int32) → Int32 → Int32 → Prop} {depths : (Nat → Int32)} {owners : (Nat → Int32)} {roofs : Int64} {rate : Int32} {undos : (Nat → Int32)} {undoMany : Int32} {drawn : Int32} {dug : Int64} {deep : Int64} {holes : (Nat → Int64)} {holeMany : Int32} {tape : (Nat → Int32)} {taped : Int32} {place : Int32} {reads : Int32} {read_ : (Nat → Int32)} {row : (Nat → Int32)} {order : (Nat → Int32)} {bestOrder : (Nat → Int32)} {nears : (Nat → Int32)} {isKept : Int32} {keptRoofs : Int64} {kept : (Nat → Int32)} {lanes : (Nat → Int32)} {rowSizes : (Nat → Int32)} {items : (Nat → Int64)} {moved : (Nat → Int64)} {x1 : Int32} {x2 : Int32} {x3 : Int32} {dC : Nat → ClassId} {dI : Nat → Nat → Nat} {dA : Nat → ClassId} {h : Nat → Nat} (hj : mJ h) (hf : wX3_carried Q depths owners rate undos undoMany drawn x1 x2 x3) : Met l yX3_carried (ws_ yX3_carried cX3_carried 5 (some .int)) rmX3_carried (mPc dC dI dA h [.int x1, .int x2, .int x3] (wM h dA depths owners roofs rate undos undoMany drawn dug deep holes holeMany tape taped place reads read_ row order bestOrder nears isKept keptRoofs kept lanes rowSizes items moved)) (va_Qi (fun (r : Int32) (u : (Nat → Int32) × (Nat → Int32) × Int32 × (Nat → Int32) × Int32 × Int32) => Q r u.1 u.2.1 u.2.2.1 u.2.2.2.1 u.2.2.2.2.1 u.2.2.2.2.2) (fun u t => va_P (dC, dI) vwCl (wM h dA u.1 u.2.1 roofs u.2.2.1 u.2.2.2.1 u.2.2.2.2.1 u.2.2.2.2.2 dug deep holes holeMany tape taped place reads read_ row order bestOrder nears isKept keptRoofs kept lanes rowSizes items moved) t.heap) (mA h)) 0 0 (mA h) := by
  refine Met.ofW (cc := cX3_carried) (maxL := 5) (ret := (some .int)) (by decide) rfl ?_
  intro p e s m args below meth c s₁ B hml hv
  obtain ⟨rfl, hP, hK⟩ := hv
  have hx := B.exec
  have hb := B.bytes
  have hr := B.returns
  have hts := atoms_spec (ws := (ws_ yX3_carried cX3_carried 5 (some .int))) B.pre
  have hts : ∀ w ∈ lw_all, w.before _ s = true := fun w h => hts w (List.mem_cons_of_mem _ h)
  have hown : s.vm.findClass RX3 = some m.cls := findClass_of_methodNamed B.named
  have hlocks := B.notSynchronized
  have S : CallFix p m c cX3_carried 5 s _ lw_all RX3 := ⟨hx, hb, hml, hown, hts⟩
  have hS : va_S (mA h) s.heap s.heap [] := va_S.rf
  have hl := lv_entry ([.ref (h 0), .int x1, .int x2, .int x3]) (n := 5) (Nat.le_of_ble_eq_true rfl)
  rw [lg_entry_eq]
  generalize (lg_sl ([.ref (h 0), .int x1, .int x2, .int x3]) ++ List.replicate (5 - (lg_sl ([.ref (h 0), .int x1, .int x2, .int x3])).length) Slot.unset).toArray = ls at hl ⊢
  replace hl : lv_has ls 5 [(0, .ref (h 0)), (1, .int x1), (2, .int x2), (3, .int x3)] := hl
  have hret : hrX3_carried p l e s m ([.ref (h 0), .int x1, .int x2, .int x3] : List Value).toArray below meth c dC dI dA h (MQ below (va_Qi (fun (r : Int32) (u : (Nat → Int32) × (Nat → Int32) × Int32 × (Nat → Int32) × Int32 × Int32) => Q r u.1 u.2.1 u.2.2.1 u.2.2.2.1 u.2.2.2.2.1 u.2.2.2.2.2) (fun u t => va_P (dC, dI) vwCl (wM h dA u.1 u.2.1 roofs u.2.2.1 u.2.2.2.1 u.2.2.2.2.1 u.2.2.2.2.2 dug deep holes holeMany tape taped place reads read_ row order bestOrder nears isKept keptRoofs kept lanes rowSizes items moved) t.heap) (mA h)) ([.ref (h 0), .int x1, .int x2, .int x3] : List Value).toArray s 0 0 (mA h)) Q roofs dug deep holes holeMany tape taped place reads read_ row order bestOrder nears isKept keptRoofs kept lanes rowSizes items moved := fun r depths owners rate undos undoMany drawn H locs pc ls hq hP hS hd => W.iret hx hb hr (fun t ht hW => ⟨⟨r, (depths, owners, rate, undos, undoMany, drawn), rfl, hq, by subst ht; exact hP⟩, hS.F ht⟩) hS.2.2 hd
  unfold wX3_carried at hf
  refine lv_iload_n hx hb dX3_carried_0 rfl (lv_at hl 1 rfl) ?_
  refine lv_bipush (v := 72) hx hb dX3_carried_1 (by decide) ?_
  refine lv_icmp_ge (tgt := 92) hx hb dX3_carried_3 (by decide) (fun c_3 => ?_) (fun c_3 => ?_)
  · replace hf := hf.1 c_3
    refine lv_iload_n hx hb dX3_carried_92 rfl (lv_at hl 1 rfl) ?_
    refine lv_bipush (v := 102) hx hb dX3_carried_93 (by decide) ?_
    refine lv_icmp_ge (tgt := 134) hx hb dX3_carried_95 (by decide) (fun c_95 => ?_) (fun c_95 => ?_)
    · replace hf := hf.1 c_95
      refine lv_aload_n hx hb dX3_carried_134 rfl (lv_at hl 0 rfl) ?_
      refine lv_iload_n hx hb dX3_carried_135 rfl (lv_at hl 3 rfl) ?_
      refine lv_if_eq (tgt := 149) hx hb dX3_carried_136 (by decide) (fun c_136 => ?_) (fun c_136 => ?_)
      · replace hf := hf.1 c_136
        refine lv_aload_n hx hb dX3_carried_149 rfl (lv_at hl 0 rfl) ?_
        refine gM_rate S hK hP dX3_carried_150 ?_
        exact tX3_carried_153 S hK hj hret x1 x2 x3 rate depths owners rate undos undoMany drawn _ _ _ hf hP hS (lv_sub hl [0, 1, 2, 3] rfl)
      · replace hf := hf.2 c_136
        refine lv_iload_n hx hb dX3_carried_139 rfl (lv_at hl 1 rfl) ?_
        refine lv_bipush (v := 102) hx hb dX3_carried_140 (by decide) ?_
        refine lv_icmp_ne (tgt := 149) hx hb dX3_carried_142 (by decide) (fun c_142 => ?_) (fun c_142 => ?_)
        · replace hf := hf.2 c_142
          refine lv_aload_n hx hb dX3_carried_149 rfl (lv_at hl 0 rfl) ?_
          refine gM_rate S hK hP dX3_carried_150 ?_
          exact tX3_carried_153 S hK hj hret x1 x2 x3 rate depths owners rate undos undoMany drawn _ _ _ hf hP hS (lv_sub hl [0, 1, 2, 3] rfl)
        · replace hf := hf.1 c_142
          refine lv_iload_n hx hb dX3_carried_145 rfl (lv_at hl 2 rfl) ?_
          refine lv_goto (tgt := 153) hx hb dX3_carried_146 (by decide) ?_
          exact tX3_carried_153 S hK hj hret x1 x2 x3 x2 depths owners rate undos undoMany drawn _ _ _ hf hP hS (lv_sub hl [0, 1, 2, 3] rfl)
    · replace hf := hf.2 c_95
      refine lv_aload_n hx hb dX3_carried_98 rfl (lv_at hl 0 rfl) ?_
      refine gM_undos S hK hP dX3_carried_99 ?_
      refine lv_iload_n hx hb dX3_carried_102 rfl (lv_at hl 1 rfl) ?_
      refine lv_bipush (v := 72) hx hb dX3_carried_103 (by decide) ?_
      refine lv_isub hx hb dX3_carried_105 ?_
      refine lv_iload_n hx hb dX3_carried_106 rfl (lv_at hl 3 rfl) ?_
      refine lv_if_eq (tgt := 114) hx hb dX3_carried_107 (by decide) (fun c_107 => ?_) (fun c_107 => ?_)
      · replace hf := hf.1 c_107
        refine lv_aload_n hx hb dX3_carried_114 rfl (lv_at hl 0 rfl) ?_
        refine gM_undos S hK hP dX3_carried_115 ?_
        refine lv_iload_n hx hb dX3_carried_118 rfl (lv_at hl 1 rfl) ?_
        refine lv_bipush (v := 72) hx hb dX3_carried_119 (by decide) ?_
        refine lv_isub hx hb dX3_carried_121 ?_
        obtain ⟨hin, hf⟩ := hf
        refine lM_undos S hK hP hin dX3_carried_122 ?_
        exact tX3_carried_123 S hK hj hret x1 (undos ((x1 - 72) : Int32).toNatClampNeg) (x1 - 72) depths owners rate undos undoMany drawn _ _ _ hf hP hS (lv_sub hl [0, 1] rfl)
      · replace hf := hf.2 c_107
        refine lv_iload_n hx hb dX3_carried_110 rfl (lv_at hl 2 rfl) ?_
        refine lv_goto (tgt := 123) hx hb dX3_carried_111 (by decide) ?_
        exact tX3_carried_123 S hK hj hret x1 x2 (x1 - 72) depths owners rate undos undoMany drawn _ _ _ hf hP hS (lv_sub hl [0, 1] rfl)
  · replace hf := hf.2 c_3
    refine lv_iload_n hx hb dX3_carried_6 rfl (lv_at hl 1 rfl) ?_
    refine lv_bipush (v := 36) hx hb dX3_carried_7 (by decide) ?_
    refine lv_irem hx hb dX3_carried_9 (by decide) ?_
    refine lv_topi (fun x4_10 ex4_10 => ?_)
    replace hf := hf x4_10 ex4_10
    refine lv_istore (lv' := [(4, .int x4_10), (0, .ref (h 0)), (1, .int x1), (2, .int x2), (3, .int x3)]) hx hb dX3_carried_10 hl (by decide) rfl (fun ls hl => ?_)
    refine lv_aload_n hx hb dX3_carried_12 rfl (lv_at hl 1 rfl) ?_
    refine gM_depths S hK hP dX3_carried_13 ?_
    refine lv_iload hx hb dX3_carried_16 (lv_at hl 0 rfl) ?_
    refine lv_iload_n hx hb dX3_carried_18 rfl (lv_at hl 4 rfl) ?_
    refine lv_if_eq (tgt := 32) hx hb dX3_carried_19 (by decide) (fun c_19 => ?_) (fun c_19 => ?_)
    · replace hf := hf.1 c_19
      refine lv_aload_n hx hb dX3_carried_32 rfl (lv_at hl 1 rfl) ?_
      refine gM_depths S hK hP dX3_carried_33 ?_
      refine lv_iload hx hb dX3_carried_36 (lv_at hl 0 rfl) ?_
      obtain ⟨hin, hf⟩ := hf
      refine lM_depths S hK hP hin dX3_carried_38 ?_
      exact tX3_carried_39 S hK hj hret x1 x2 x3 x4_10 (depths (x4_10 : Int32).toNatClampNeg) x4_10 depths owners rate undos undoMany drawn _ _ _ hf hP hS (lv_sub hl [1, 2, 3, 4, 0] rfl)
    · replace hf := hf.2 c_19
      refine lv_iload_n hx hb dX3_carried_22 rfl (lv_at hl 2 rfl) ?_
      refine lv_bipush (v := 36) hx hb dX3_carried_23 (by decide) ?_
      refine lv_icmp_ge (tgt := 32) hx hb dX3_carried_25 (by decide) (fun c_25 => ?_) (fun c_25 => ?_)
      · replace hf := hf.1 c_25
        refine lv_aload_n hx hb dX3_carried_32 rfl (lv_at hl 1 rfl) ?_
        refine gM_depths S hK hP dX3_carried_33 ?_
        refine lv_iload hx hb dX3_carried_36 (lv_at hl 0 rfl) ?_
        obtain ⟨hin, hf⟩ := hf
        refine lM_depths S hK hP hin dX3_carried_38 ?_
        exact tX3_carried_39 S hK hj hret x1 x2 x3 x4_10 (depths (x4_10 : Int32).toNatClampNeg) x4_10 depths owners rate undos undoMany drawn _ _ _ hf hP hS (lv_sub hl [1, 2, 3, 4, 0] rfl)
      · replace hf := hf.2 c_25
        refine lv_iload_n hx hb dX3_carried_28 rfl (lv_at hl 3 rfl) ?_
        refine lv_goto (tgt := 39) hx hb dX3_carried_29 (by decide) ?_
        exact tX3_carried_39 S hK hj hret x1 x2 x3 x4_10 x2 x4_10 depths owners rate undos undoMany drawn _ _ _ hf hP hS (lv_sub hl [1, 2, 3, 4, 0] rfl)
/-! HoleCountyModel.image()I -/
theorem pdX3_image : DscOk yX3_image 0 := by decide +kernel
abbrev rmX3_image : Room := { frames := 1, cells := 0, slots := 0, locals := 24 }
abbrev RX3_image_ : Room := (headSpec (ws_ yX3_image cX3_image 2 (some .int)) rmX3_image).room
section
variable {p : Program} {l : Launch} {e : Env} {s : State} {m : MethodId} {args : Array Value} {below : List Frame} {meth : Method} {c : Code} {Qw : State → Prop} {dC : Nat → ClassId} {dI : Nat → Nat → Nat} {dA : Nat → ClassId} {h : Nat → Nat}
abbrev hrX3_image (p : Program) (l : Launch) (e : Env) (s : State) (m : MethodId) (args : Array Value) (below : List Frame) (meth : Method) (c : Code) (dC : Nat → ClassId) (dI : Nat → Nat → Nat) (dA : Nat → ClassId) (h : Nat → Nat) (Qw : State → Prop) (Q : Int32 → (Nat → Int32) → (Nat → Int32) → Int32 → (Nat → Int32) → Int32 → Int32 → Int32 → Int64 → (Nat → Int32) → Prop) (roofs : Int64) (dug : Int64) (deep : Int64) (holes : (Nat → Int64)) (holeMany : Int32) (tape : (Nat → Int32)) (taped : Int32) (place : Int32) (reads : Int32) (read_ : (Nat → Int32)) (row : (Nat → Int32)) (order : (Nat → Int32)) (bestOrder : (Nat → Int32)) (nears : (Nat → Int32)) (lanes : (Nat → Int32)) (rowSizes : (Nat → Int32)) (items : (Nat → Int64)) (moved : (Nat → Int64)) : Prop := ∀ (r : Int32) (depths : (Nat → Int32)) (owners : (Nat → Int32)) (rate : Int32) (undos : (Nat → Int32)) (undoMany : Int32) (drawn : Int32) (isKept : Int32) (keptRoofs : Int64) (kept : (Nat → Int32)) (H : Heap) (locs : List Loc) (pc : Nat) (ls : Array Slot), Q r depths owners rate undos undoMany drawn isKept keptRoofs kept → va_P (dC, dI) vwCl (wM h dA depths owners roofs rate undos undoMany drawn dug deep holes holeMany tape taped place reads read_ row order bestOrder nears isKept keptRoofs kept lanes rowSizes items moved) H → va_S (mA h) s.heap H locs → decode cX3_image pc = .ok (.ireturn, 1) → W p l e RX3_image_ s m args below meth c H locs 0 0 Qw (F0 m pc ls [.int r])
def wX3_image_2 (Q : Int32 → (Nat → Int32) → (Nat → Int32) → Int32 → (Nat → Int32) → Int32 → Int32 → Int32 → Int64 → (Nat → Int32) → Prop) (roofs : Int64) (isKept : Int32) (keptRoofs : Int64) : Nat → Int32 → (Nat → Int32) → (Nat → Int32) → Int32 → (Nat → Int32) → Int32 → Int32 → (Nat → Int32) → Prop
  | 0, _, _, _, _, _, _, _, _ => False
  | n + 1, x1, depths, owners, rate, undos, undoMany, drawn, kept => ((105 ≤ x1 → (Q 1 depths owners rate undos undoMany drawn 1 roofs kept)) ∧ (¬ 105 ≤ x1 → (wX3_carried (fun r_17 depths_17 owners_17 rate_17 undos_17 undoMany_17 drawn_17 => (vp_in x1 106 ∧ (∀ kept_20 : Nat → Int32, kept_20 = upd kept (x1 : Int32).toNatClampNeg r_17 → (∀ x1_21 : Int32, x1_21 = x1 + 1 → ((wX3_image_2 Q roofs isKept keptRoofs n) x1_21 depths_17 owners_17 rate_17 undos_17 undoMany_17 drawn_17 kept_20))))) depths owners rate undos undoMany drawn x1 0 0)))
set_option maxHeartbeats 4000000 in
set_option maxRecDepth 100000 in
theorem tX3_image_2 {Q : Int32 → (Nat → Int32) → (Nat → Int32) → Int32 → (Nat → Int32) → Int32 → Int32 → Int32 → Int64 → (Nat → Int32) → Prop} {roofs : Int64} {dug : Int64} {deep : Int64} {holes : (Nat → Int64)} {holeMany : Int32} {tape : (Nat → Int32)} {taped : Int32} {place : Int32} {reads : Int32} {read_ : (Nat → Int32)} {row : (Nat → Int32)} {order : (Nat → Int32)} {bestOrder : (Nat → Int32)} {nears : (Nat → Int32)} {isKept : Int32} {keptRoofs : Int64} {lanes : (Nat → Int32)} {rowSizes : (Nat → Int32)} {items : (Nat → Int64)} {moved : (Nat → Int64)} (S : CallFix p m c cX3_image 2 s args lw_all RX3) (hK : va_K (dC, dI) vwCl (tysG dA) s) (hj : mJ h) (hret : hrX3_image p l e s m args below meth c dC dI dA h Qw Q roofs dug deep holes holeMany tape taped place reads read_ row order bestOrder nears lanes rowSizes items moved) : ∀ (n : Nat) (x1 : Int32) (depths : (Nat → Int32)) (owners : (Nat → Int32)) (rate : Int32) (undos : (Nat → Int32)) (undoMany : Int32) (drawn : Int32) (kept : (Nat → Int32)) (H : Heap) (locs : List Loc) (ls : Array Slot), wX3_image_2 Q roofs isKept keptRoofs n x1 depths owners rate undos undoMany drawn kept → va_P (dC, dI) vwCl (wM h dA depths owners roofs rate undos undoMany drawn dug deep holes holeMany tape taped place reads read_ row order bestOrder nears isKept keptRoofs kept lanes rowSizes items moved) H → va_S (mA h) s.heap H locs → lv_has ls 2 [(0, .ref (h 0)), (1, .int x1)] → W p l e RX3_image_ s m args below meth c H locs 0 0 Qw (F0 m 2 ls []) := by
  obtain ⟨hx, hb, hml, hown, hts⟩ := id S
  intro n
  induction n with
  | zero => intro _ _ _ _ _ _ _ _ _ _ _ hf; exact hf.elim
  | succ n ih =>
    intro x1 depths owners rate undos undoMany drawn kept H locs ls hf hP hS hl
    rw [wX3_image_2] at hf
    refine lv_iload_n hx hb dX3_image_2 rfl (lv_at hl 1 rfl) ?_
    refine lv_bipush (v := 105) hx hb dX3_image_3 (by decide) ?_
    refine lv_icmp_ge (tgt := 27) hx hb dX3_image_5 (by decide) (fun c_5 => ?_) (fun c_5 => ?_)
    · replace hf := hf.1 c_5
      refine lv_aload_n hx hb dX3_image_27 rfl (lv_at hl 0 rfl) ?_
      refine lv_aload_n hx hb dX3_image_28 rfl (lv_at hl 0 rfl) ?_
      refine gM_roofs S hK hP dX3_image_29 ?_
      refine pM_keptRoofs S hK hj hP hS dX3_image_32 (fun H locs hP hS => ?_)
      refine lv_aload_n hx hb dX3_image_35 rfl (lv_at hl 0 rfl) ?_
      refine lv_iconst (v := 1) hx hb dX3_image_36 (by decide) ?_
      refine pM_isKept S hK hj hP hS bz1 dX3_image_37 (fun H locs hP hS => ?_)
      refine lv_iconst (v := 1) hx hb dX3_image_40 (by decide) ?_
      exact hret _ _ _ _ _ _ _ _ _ _ _ _ _ _ hf hP hS dX3_image_41
    · replace hf := hf.2 c_5
      refine lv_aload_n hx hb dX3_image_8 rfl (lv_at hl 0 rfl) ?_
      refine gM_kept S hK hP dX3_image_9 ?_
      refine lv_iload_n hx hb dX3_image_12 rfl (lv_at hl 1 rfl) ?_
      refine lv_aload_n hx hb dX3_image_13 rfl (lv_at hl 0 rfl) ?_
      refine lv_iload_n hx hb dX3_image_14 rfl (lv_at hl 1 rfl) ?_
      refine lv_iconst (v := 0) hx hb dX3_image_15 (by decide) ?_
      refine lv_iconst (v := 0) hx hb dX3_image_16 (by decide) ?_
      refine cM_i (As := [.int x1, .int 0, .int 0]) (rest := [.int x1, .ref (h 11)]) S hK rfl hP hS (metX3_carried l hj hf) (lw_V q1555 q1557 qs51 q60 q1558) rfl pdX3_carried ⟨rfl, rfl⟩ ⟨Nat.le_of_ble_eq_true rfl, Nat.le_of_ble_eq_true rfl⟩ rfl hl.1 rfl (Nat.le_of_ble_eq_true rfl) dX3_image_17 ⟨Nat.zero_le _, Nat.zero_le _⟩ (fun r_17 u_17 H locs hf hP hS => ?_)
      obtain ⟨depths_17, owners_17, rate_17, undos_17, undoMany_17, drawn_17⟩ := u_17
      replace hP : va_P (dC, dI) vwCl (wM h dA depths_17 owners_17 roofs rate_17 undos_17 undoMany_17 drawn_17 dug deep holes holeMany tape taped place reads read_ row order bestOrder nears isKept keptRoofs kept lanes rowSizes items moved) H := hP
      try dsimp only at hf
      obtain ⟨hin, hf⟩ := hf
      obtain ⟨kept_20, ekept_20⟩ : ∃ z : Nat → Int32, z = upd kept (x1 : Int32).toNatClampNeg r_17 := ⟨_, rfl⟩
      replace hf := hf kept_20 ekept_20
      refine sM_kept S hK hj hP hS hin ekept_20 dX3_image_20 (fun H locs hP hS => ?_)
      obtain ⟨x1_21, ex1_21⟩ : ∃ z : Int32, z = x1 + 1 := ⟨_, rfl⟩
      replace hf := hf x1_21 ex1_21
      refine lv_iinc (v := x1_21) (lv' := [(1, .int x1_21), (0, .ref (h 0))]) hx hb dX3_image_21 hl (k := 1) rfl (by rw [ex1_21]; rfl) (by decide) rfl (fun ls hl => ?_)
      refine lv_goto (tgt := 2) hx hb dX3_image_24 (by decide) ?_
      exact ih x1_21 depths_17 owners_17 rate_17 undos_17 undoMany_17 drawn_17 kept_20 _ _ _ hf hP hS (lv_sub hl [1, 0] rfl)
def wX3_image (Q : Int32 → (Nat → Int32) → (Nat → Int32) → Int32 → (Nat → Int32) → Int32 → Int32 → Int32 → Int64 → (Nat → Int32) → Prop) (depths : (Nat → Int32)) (owners : (Nat → Int32)) (roofs : Int64) (rate : Int32) (undos : (Nat → Int32)) (undoMany : Int32) (drawn : Int32) (isKept : Int32) (keptRoofs : Int64) (kept : (Nat → Int32)) : Prop := (∃ fu : Nat, wX3_image_2 Q roofs isKept keptRoofs fu 0 depths owners rate undos undoMany drawn kept)
end
set_option maxHeartbeats 4000000 in
set_option maxRecDepth 100000 in
theorem metX3_image (l : Launch) {Q : Int32 → (Nat → Int32) → (Nat → Int32) → Int32 → (Nat → Int32) → Int32 → Int32 → Int32 → Int64 → (Nat → Int32) → Prop} {depths : (Nat → Int32)} {owners : (Nat → Int32)} {roofs : Int64} {rate : Int32} {undos : (Nat → Int32)} {undoMany : Int32} {drawn : Int32} {dug : Int64} {deep : Int64} {holes : (Nat → Int64)} {holeMany : Int32} {tape : (Nat → Int32)} {taped : Int32} {place : Int32} {reads : Int32} {read_ : (Nat → Int32)} {row : (Nat → Int32)} {order : (Nat → Int32)} {bestOrder : (Nat → Int32)} {nears : (Nat → Int32)} {isKept : Int32} {keptRoofs : Int64} {kept : (Nat → Int32)} {lanes : (Nat → Int32)} {rowSizes : (Nat → Int32)} {items : (Nat → Int64)} {moved : (Nat → Int64)} {dC : Nat → ClassId} {dI : Nat → Nat → Nat} {dA : Nat → ClassId} {h : Nat → Nat} (hj : mJ h) (hf : wX3_image Q depths owners roofs rate undos undoMany drawn isKept keptRoofs kept) : Met l yX3_image (ws_ yX3_image cX3_image 2 (some .int)) rmX3_image (mPc dC dI dA h [] (wM h dA depths owners roofs rate undos undoMany drawn dug deep holes holeMany tape taped place reads read_ row order bestOrder nears isKept keptRoofs kept lanes rowSizes items moved)) (va_Qi (fun (r : Int32) (u : (Nat → Int32) × (Nat → Int32) × Int32 × (Nat → Int32) × Int32 × Int32 × Int32 × Int64 × (Nat → Int32)) => Q r u.1 u.2.1 u.2.2.1 u.2.2.2.1 u.2.2.2.2.1 u.2.2.2.2.2.1 u.2.2.2.2.2.2.1 u.2.2.2.2.2.2.2.1 u.2.2.2.2.2.2.2.2) (fun u t => va_P (dC, dI) vwCl (wM h dA u.1 u.2.1 roofs u.2.2.1 u.2.2.2.1 u.2.2.2.2.1 u.2.2.2.2.2.1 dug deep holes holeMany tape taped place reads read_ row order bestOrder nears u.2.2.2.2.2.2.1 u.2.2.2.2.2.2.2.1 u.2.2.2.2.2.2.2.2 lanes rowSizes items moved) t.heap) (mA h)) 0 0 (mA h) := by
  refine Met.ofW (cc := cX3_image) (maxL := 2) (ret := (some .int)) (by decide) rfl ?_
  intro p e s m args below meth c s₁ B hml hv
  obtain ⟨rfl, hP, hK⟩ := hv
  have hx := B.exec
  have hb := B.bytes
  have hr := B.returns
  have hts := atoms_spec (ws := (ws_ yX3_image cX3_image 2 (some .int))) B.pre
  have hts : ∀ w ∈ lw_all, w.before _ s = true := fun w h => hts w (List.mem_cons_of_mem _ h)
  have hown : s.vm.findClass RX3 = some m.cls := findClass_of_methodNamed B.named
  have hlocks := B.notSynchronized
  have S : CallFix p m c cX3_image 2 s _ lw_all RX3 := ⟨hx, hb, hml, hown, hts⟩
  have hS : va_S (mA h) s.heap s.heap [] := va_S.rf
  have hl := lv_entry ([.ref (h 0)]) (n := 2) (Nat.le_of_ble_eq_true rfl)
  rw [lg_entry_eq]
  generalize (lg_sl ([.ref (h 0)]) ++ List.replicate (2 - (lg_sl ([.ref (h 0)])).length) Slot.unset).toArray = ls at hl ⊢
  replace hl : lv_has ls 2 [(0, .ref (h 0))] := hl
  have hret : hrX3_image p l e s m ([.ref (h 0)] : List Value).toArray below meth c dC dI dA h (MQ below (va_Qi (fun (r : Int32) (u : (Nat → Int32) × (Nat → Int32) × Int32 × (Nat → Int32) × Int32 × Int32 × Int32 × Int64 × (Nat → Int32)) => Q r u.1 u.2.1 u.2.2.1 u.2.2.2.1 u.2.2.2.2.1 u.2.2.2.2.2.1 u.2.2.2.2.2.2.1 u.2.2.2.2.2.2.2.1 u.2.2.2.2.2.2.2.2) (fun u t => va_P (dC, dI) vwCl (wM h dA u.1 u.2.1 roofs u.2.2.1 u.2.2.2.1 u.2.2.2.2.1 u.2.2.2.2.2.1 dug deep holes holeMany tape taped place reads read_ row order bestOrder nears u.2.2.2.2.2.2.1 u.2.2.2.2.2.2.2.1 u.2.2.2.2.2.2.2.2 lanes rowSizes items moved) t.heap) (mA h)) ([.ref (h 0)] : List Value).toArray s 0 0 (mA h)) Q roofs dug deep holes holeMany tape taped place reads read_ row order bestOrder nears lanes rowSizes items moved := fun r depths owners rate undos undoMany drawn isKept keptRoofs kept H locs pc ls hq hP hS hd => W.iret hx hb hr (fun t ht hW => ⟨⟨r, (depths, owners, rate, undos, undoMany, drawn, isKept, keptRoofs, kept), rfl, hq, by subst ht; exact hP⟩, hS.F ht⟩) hS.2.2 hd
  unfold wX3_image at hf
  refine lv_iconst (v := 0) hx hb dX3_image_0 (by decide) ?_
  refine lv_istore_n (lv' := [(1, .int 0), (0, .ref (h 0))]) hx hb dX3_image_1 rfl hl (by decide) rfl (fun ls hl => ?_)
  obtain ⟨fu, hf⟩ := hf
  exact tX3_image_2 S hK hj hret fu 0 depths owners rate undos undoMany drawn kept _ _ _ hf hP hS (lv_sub hl [1, 0] rfl)
/-! HoleCountyModel.restore()I -/
theorem pdX3_restore : DscOk yX3_restore 0 := by decide +kernel
abbrev rmX3_restore : Room := { frames := 1, cells := 0, slots := 0, locals := 24 }
abbrev RX3_restore_ : Room := (headSpec (ws_ yX3_restore cX3_restore 2 (some .int)) rmX3_restore).room
section
variable {p : Program} {l : Launch} {e : Env} {s : State} {m : MethodId} {args : Array Value} {below : List Frame} {meth : Method} {c : Code} {Qw : State → Prop} {dC : Nat → ClassId} {dI : Nat → Nat → Nat} {dA : Nat → ClassId} {h : Nat → Nat}
abbrev hrX3_restore (p : Program) (l : Launch) (e : Env) (s : State) (m : MethodId) (args : Array Value) (below : List Frame) (meth : Method) (c : Code) (dC : Nat → ClassId) (dI : Nat → Nat → Nat) (dA : Nat → ClassId) (h : Nat → Nat) (Qw : State → Prop) (Q : Int32 → (Nat → Int32) → (Nat → Int32) → Int64 → Int32 → (Nat → Int32) → Int32 → Int32 → Prop) (dug : Int64) (deep : Int64) (holes : (Nat → Int64)) (holeMany : Int32) (tape : (Nat → Int32)) (taped : Int32) (place : Int32) (reads : Int32) (read_ : (Nat → Int32)) (row : (Nat → Int32)) (order : (Nat → Int32)) (bestOrder : (Nat → Int32)) (nears : (Nat → Int32)) (isKept : Int32) (keptRoofs : Int64) (kept : (Nat → Int32)) (lanes : (Nat → Int32)) (rowSizes : (Nat → Int32)) (items : (Nat → Int64)) (moved : (Nat → Int64)) : Prop := ∀ (r : Int32) (depths : (Nat → Int32)) (owners : (Nat → Int32)) (roofs : Int64) (rate : Int32) (undos : (Nat → Int32)) (undoMany : Int32) (drawn : Int32) (H : Heap) (locs : List Loc) (pc : Nat) (ls : Array Slot), Q r depths owners roofs rate undos undoMany drawn → va_P (dC, dI) vwCl (wM h dA depths owners roofs rate undos undoMany drawn dug deep holes holeMany tape taped place reads read_ row order bestOrder nears isKept keptRoofs kept lanes rowSizes items moved) H → va_S (mA h) s.heap H locs → decode cX3_restore pc = .ok (.ireturn, 1) → W p l e RX3_restore_ s m args below meth c H locs 0 0 Qw (F0 m pc ls [.int r])
def wX3_restore_12 (Q : Int32 → (Nat → Int32) → (Nat → Int32) → Int64 → Int32 → (Nat → Int32) → Int32 → Int32 → Prop) (roofs : Int64) (isKept : Int32) (keptRoofs : Int64) (kept : (Nat → Int32)) : Nat → Int32 → (Nat → Int32) → (Nat → Int32) → Int32 → (Nat → Int32) → Int32 → Int32 → Prop
  | 0, _, _, _, _, _, _, _ => False
  | n + 1, x1, depths, owners, rate, undos, undoMany, drawn => ((105 ≤ x1 → (Q 1 depths owners keptRoofs rate undos undoMany drawn)) ∧ (¬ 105 ≤ x1 → (vp_in x1 106 ∧ (wX3_carried (fun r_27 depths_27 owners_27 rate_27 undos_27 undoMany_27 drawn_27 => (∀ x1_31 : Int32, x1_31 = x1 + 1 → ((wX3_restore_12 Q roofs isKept keptRoofs kept n) x1_31 depths_27 owners_27 rate_27 undos_27 undoMany_27 drawn_27))) depths owners rate undos undoMany drawn x1 (kept (x1 : Int32).toNatClampNeg) 1))))
set_option maxHeartbeats 4000000 in
set_option maxRecDepth 100000 in
theorem tX3_restore_12 {Q : Int32 → (Nat → Int32) → (Nat → Int32) → Int64 → Int32 → (Nat → Int32) → Int32 → Int32 → Prop} {roofs : Int64} {dug : Int64} {deep : Int64} {holes : (Nat → Int64)} {holeMany : Int32} {tape : (Nat → Int32)} {taped : Int32} {place : Int32} {reads : Int32} {read_ : (Nat → Int32)} {row : (Nat → Int32)} {order : (Nat → Int32)} {bestOrder : (Nat → Int32)} {nears : (Nat → Int32)} {isKept : Int32} {keptRoofs : Int64} {kept : (Nat → Int32)} {lanes : (Nat → Int32)} {rowSizes : (Nat → Int32)} {items : (Nat → Int64)} {moved : (Nat → Int64)} (S : CallFix p m c cX3_restore 2 s args lw_all RX3) (hK : va_K (dC, dI) vwCl (tysG dA) s) (hj : mJ h) (hret : hrX3_restore p l e s m args below meth c dC dI dA h Qw Q dug deep holes holeMany tape taped place reads read_ row order bestOrder nears isKept keptRoofs kept lanes rowSizes items moved) : ∀ (n : Nat) (x1 : Int32) (depths : (Nat → Int32)) (owners : (Nat → Int32)) (rate : Int32) (undos : (Nat → Int32)) (undoMany : Int32) (drawn : Int32) (H : Heap) (locs : List Loc) (ls : Array Slot), wX3_restore_12 Q roofs isKept keptRoofs kept n x1 depths owners rate undos undoMany drawn → va_P (dC, dI) vwCl (wM h dA depths owners roofs rate undos undoMany drawn dug deep holes holeMany tape taped place reads read_ row order bestOrder nears isKept keptRoofs kept lanes rowSizes items moved) H → va_S (mA h) s.heap H locs → lv_has ls 2 [(0, .ref (h 0)), (1, .int x1)] → W p l e RX3_restore_ s m args below meth c H locs 0 0 Qw (F0 m 12 ls []) := by
  obtain ⟨hx, hb, hml, hown, hts⟩ := id S
  intro n
  induction n with
  | zero => intro _ _ _ _ _ _ _ _ _ _ hf; exact hf.elim
  | succ n ih =>
    intro x1 depths owners rate undos undoMany drawn H locs ls hf hP hS hl
    rw [wX3_restore_12] at hf
    refine lv_iload_n hx hb dX3_restore_12 rfl (lv_at hl 1 rfl) ?_
    refine lv_bipush (v := 105) hx hb dX3_restore_13 (by decide) ?_
    refine lv_icmp_ge (tgt := 37) hx hb dX3_restore_15 (by decide) (fun c_15 => ?_) (fun c_15 => ?_)
    · replace hf := hf.1 c_15
      refine lv_aload_n hx hb dX3_restore_37 rfl (lv_at hl 0 rfl) ?_
      refine lv_aload_n hx hb dX3_restore_38 rfl (lv_at hl 0 rfl) ?_
      refine gM_keptRoofs S hK hP dX3_restore_39 ?_
      refine pM_roofs S hK hj hP hS dX3_restore_42 (fun H locs hP hS => ?_)
      refine lv_iconst (v := 1) hx hb dX3_restore_45 (by decide) ?_
      exact hret _ _ _ _ _ _ _ _ _ _ _ _ hf hP hS dX3_restore_46
    · replace hf := hf.2 c_15
      refine lv_aload_n hx hb dX3_restore_18 rfl (lv_at hl 0 rfl) ?_
      refine lv_iload_n hx hb dX3_restore_19 rfl (lv_at hl 1 rfl) ?_
      refine lv_aload_n hx hb dX3_restore_20 rfl (lv_at hl 0 rfl) ?_
      refine gM_kept S hK hP dX3_restore_21 ?_
      refine lv_iload_n hx hb dX3_restore_24 rfl (lv_at hl 1 rfl) ?_
      obtain ⟨hin, hf⟩ := hf
      refine lM_kept S hK hP hin dX3_restore_25 ?_
      refine lv_iconst (v := 1) hx hb dX3_restore_26 (by decide) ?_
      refine cM_i (As := [.int x1, .int (kept (x1 : Int32).toNatClampNeg), .int 1]) (rest := []) S hK rfl hP hS (metX3_carried l hj hf) (lw_V q1555 q1557 qs51 q60 q1558) rfl pdX3_carried ⟨rfl, rfl⟩ ⟨Nat.le_of_ble_eq_true rfl, Nat.le_of_ble_eq_true rfl⟩ rfl hl.1 rfl (Nat.le_of_ble_eq_true rfl) dX3_restore_27 ⟨Nat.zero_le _, Nat.zero_le _⟩ (fun r_27 u_27 H locs hf hP hS => ?_)
      obtain ⟨depths_27, owners_27, rate_27, undos_27, undoMany_27, drawn_27⟩ := u_27
      replace hP : va_P (dC, dI) vwCl (wM h dA depths_27 owners_27 roofs rate_27 undos_27 undoMany_27 drawn_27 dug deep holes holeMany tape taped place reads read_ row order bestOrder nears isKept keptRoofs kept lanes rowSizes items moved) H := hP
      try dsimp only at hf
      refine lv_pop hx hb dX3_restore_30 rfl ?_
      obtain ⟨x1_31, ex1_31⟩ : ∃ z : Int32, z = x1 + 1 := ⟨_, rfl⟩
      replace hf := hf x1_31 ex1_31
      refine lv_iinc (v := x1_31) (lv' := [(1, .int x1_31), (0, .ref (h 0))]) hx hb dX3_restore_31 hl (k := 1) rfl (by rw [ex1_31]; rfl) (by decide) rfl (fun ls hl => ?_)
      refine lv_goto (tgt := 12) hx hb dX3_restore_34 (by decide) ?_
      exact ih x1_31 depths_27 owners_27 rate_27 undos_27 undoMany_27 drawn_27 _ _ _ hf hP hS (lv_sub hl [1, 0] rfl)
def wX3_restore (Q : Int32 → (Nat → Int32) → (Nat → Int32) → Int64 → Int32 → (Nat → Int32) → Int32 → Int32 → Prop) (depths : (Nat → Int32)) (owners : (Nat → Int32)) (roofs : Int64) (rate : Int32) (undos : (Nat → Int32)) (undoMany : Int32) (drawn : Int32) (isKept : Int32) (keptRoofs : Int64) (kept : (Nat → Int32)) : Prop := ((isKept = 0 → (Q (-4) depths owners roofs rate undos undoMany drawn)) ∧ (¬ isKept = 0 → (∃ fu : Nat, wX3_restore_12 Q roofs isKept keptRoofs kept fu 0 depths owners rate undos undoMany drawn)))
end
set_option maxHeartbeats 4000000 in
set_option maxRecDepth 100000 in
theorem metX3_restore (l : Launch) {Q : Int32 → (Nat → Int32) → (Nat → Int32) → Int64 → Int32 → (Nat → Int32) → Int32 → Int32 → Prop} {depths : (Nat → Int32)} {owners : (Nat → Int32)} {roofs : Int64} {rate : Int32} {undos : (Nat → Int32)} {undoMany : Int32} {drawn : Int32} {dug : Int64} {deep : Int64} {holes : (Nat → Int64)} {holeMany : Int32} {tape : (Nat → Int32)} {taped : Int32} {place : Int32} {reads : Int32} {read_ : (Nat → Int32)} {row : (Nat → Int32)} {order : (Nat → Int32)} {bestOrder : (Nat → Int32)} {nears : (Nat → Int32)} {isKept : Int32} {keptRoofs : Int64} {kept : (Nat → Int32)} {lanes : (Nat → Int32)} {rowSizes : (Nat → Int32)} {items : (Nat → Int64)} {moved : (Nat → Int64)} {dC : Nat → ClassId} {dI : Nat → Nat → Nat} {dA : Nat → ClassId} {h : Nat → Nat} (hj : mJ h) (hf : wX3_restore Q depths owners roofs rate undos undoMany drawn isKept keptRoofs kept) : Met l yX3_restore (ws_ yX3_restore cX3_restore 2 (some .int)) rmX3_restore (mPc dC dI dA h [] (wM h dA depths owners roofs rate undos undoMany drawn dug deep holes holeMany tape taped place reads read_ row order bestOrder nears isKept keptRoofs kept lanes rowSizes items moved)) (va_Qi (fun (r : Int32) (u : (Nat → Int32) × (Nat → Int32) × Int64 × Int32 × (Nat → Int32) × Int32 × Int32) => Q r u.1 u.2.1 u.2.2.1 u.2.2.2.1 u.2.2.2.2.1 u.2.2.2.2.2.1 u.2.2.2.2.2.2) (fun u t => va_P (dC, dI) vwCl (wM h dA u.1 u.2.1 u.2.2.1 u.2.2.2.1 u.2.2.2.2.1 u.2.2.2.2.2.1 u.2.2.2.2.2.2 dug deep holes holeMany tape taped place reads read_ row order bestOrder nears isKept keptRoofs kept lanes rowSizes items moved) t.heap) (mA h)) 0 0 (mA h) := by
  refine Met.ofW (cc := cX3_restore) (maxL := 2) (ret := (some .int)) (by decide) rfl ?_
  intro p e s m args below meth c s₁ B hml hv
  obtain ⟨rfl, hP, hK⟩ := hv
  have hx := B.exec
  have hb := B.bytes
  have hr := B.returns
  have hts := atoms_spec (ws := (ws_ yX3_restore cX3_restore 2 (some .int))) B.pre
  have hts : ∀ w ∈ lw_all, w.before _ s = true := fun w h => hts w (List.mem_cons_of_mem _ h)
  have hown : s.vm.findClass RX3 = some m.cls := findClass_of_methodNamed B.named
  have hlocks := B.notSynchronized
  have S : CallFix p m c cX3_restore 2 s _ lw_all RX3 := ⟨hx, hb, hml, hown, hts⟩
  have hS : va_S (mA h) s.heap s.heap [] := va_S.rf
  have hl := lv_entry ([.ref (h 0)]) (n := 2) (Nat.le_of_ble_eq_true rfl)
  rw [lg_entry_eq]
  generalize (lg_sl ([.ref (h 0)]) ++ List.replicate (2 - (lg_sl ([.ref (h 0)])).length) Slot.unset).toArray = ls at hl ⊢
  replace hl : lv_has ls 2 [(0, .ref (h 0))] := hl
  have hret : hrX3_restore p l e s m ([.ref (h 0)] : List Value).toArray below meth c dC dI dA h (MQ below (va_Qi (fun (r : Int32) (u : (Nat → Int32) × (Nat → Int32) × Int64 × Int32 × (Nat → Int32) × Int32 × Int32) => Q r u.1 u.2.1 u.2.2.1 u.2.2.2.1 u.2.2.2.2.1 u.2.2.2.2.2.1 u.2.2.2.2.2.2) (fun u t => va_P (dC, dI) vwCl (wM h dA u.1 u.2.1 u.2.2.1 u.2.2.2.1 u.2.2.2.2.1 u.2.2.2.2.2.1 u.2.2.2.2.2.2 dug deep holes holeMany tape taped place reads read_ row order bestOrder nears isKept keptRoofs kept lanes rowSizes items moved) t.heap) (mA h)) ([.ref (h 0)] : List Value).toArray s 0 0 (mA h)) Q dug deep holes holeMany tape taped place reads read_ row order bestOrder nears isKept keptRoofs kept lanes rowSizes items moved := fun r depths owners roofs rate undos undoMany drawn H locs pc ls hq hP hS hd => W.iret hx hb hr (fun t ht hW => ⟨⟨r, (depths, owners, roofs, rate, undos, undoMany, drawn), rfl, hq, by subst ht; exact hP⟩, hS.F ht⟩) hS.2.2 hd
  unfold wX3_restore at hf
  refine lv_aload_n hx hb dX3_restore_0 rfl (lv_at hl 0 rfl) ?_
  refine gM_isKept S hK hP dX3_restore_1 ?_
  refine lv_if_ne (tgt := 10) hx hb dX3_restore_4 (by decide) (fun c_4 => ?_) (fun c_4 => ?_)
  · replace hf := hf.2 c_4
    refine lv_iconst (v := 0) hx hb dX3_restore_10 (by decide) ?_
    refine lv_istore_n (lv' := [(1, .int 0), (0, .ref (h 0))]) hx hb dX3_restore_11 rfl hl (by decide) rfl (fun ls hl => ?_)
    obtain ⟨fu, hf⟩ := hf
    exact tX3_restore_12 S hK hj hret fu 0 depths owners rate undos undoMany drawn _ _ _ hf hP hS (lv_sub hl [1, 0] rfl)
  · replace hf := hf.1 c_4
    refine lv_bipush (v := (-4)) hx hb dX3_restore_7 (by decide) ?_
    exact hret _ _ _ _ _ _ _ _ _ _ _ _ hf hP hS dX3_restore_9
/-! HoleCountyModel.isSheet(II)Z -/
theorem pdX3_isSheet : DscOk yX3_isSheet 2 := by decide +kernel
abbrev rmX3_isSheet : Room := { frames := 1, cells := 0, slots := 0, locals := 25 }
abbrev RX3_isSheet_ : Room := (headSpec (ws_ yX3_isSheet cX3_isSheet 2 (some .boolean)) rmX3_isSheet).room
section
variable {p : Program} {l : Launch} {e : Env} {s : State} {m : MethodId} {args : Array Value} {below : List Frame} {meth : Method} {c : Code} {Qw : State → Prop} {H : Heap} {locs : List Loc}
abbrev hrX3_isSheet (p : Program) (l : Launch) (e : Env) (s : State) (m : MethodId) (args : Array Value) (below : List Frame) (meth : Method) (c : Code) (H : Heap) (locs : List Loc) (Qw : State → Prop) (Q : Int32 → Prop) : Prop := ∀ (r : Int32) (pc : Nat) (ls : Array Slot), bz r → Q r → decode cX3_isSheet pc = .ok (.ireturn, 1) → W p l e RX3_isSheet_ s m args below meth c H locs 0 0 Qw (F0 m pc ls [.int r])
def wX3_isSheet (Q : Int32 → Prop) (x0 : Int32) (x1 : Int32) : Prop := (wX3_in (fun r_6 => ((r_6 = 0 → (Q 0)) ∧ (¬ r_6 = 0 → (wX3_in (fun r_18 => ((r_18 = 0 → (Q 0)) ∧ (¬ r_18 = 0 → (Q 1)))) ((x1 : Int32).toInt64) 0 3)))) ((x0 : Int32).toInt64) 0 3)
end
set_option maxHeartbeats 4000000 in
set_option maxRecDepth 100000 in
theorem metX3_isSheet (l : Launch) {Q : Int32 → Prop} {x0 : Int32} {x1 : Int32} (hf : wX3_isSheet Q x0 x1) : Met l yX3_isSheet (ws_ yX3_isSheet cX3_isSheet 2 (some .boolean)) rmX3_isSheet (fun v _ => v = ([.int x0, .int x1] : List Value).toArray) (vp_Si Q) 0 0 (fun _ => False) := by
  refine Met.ofW (cc := cX3_isSheet) (maxL := 2) (ret := (some .boolean)) (by decide) rfl ?_
  intro p e s m args below meth c s₁ B hml hv
  subst hv
  have hx := B.exec
  have hb := B.bytes
  have hr := B.returns
  have hts := atoms_spec (ws := (ws_ yX3_isSheet cX3_isSheet 2 (some .boolean))) B.pre
  have hts : ∀ w ∈ lw_all, w.before _ s = true := fun w h => hts w (List.mem_cons_of_mem _ h)
  have hown : s.vm.findClass RX3 = some m.cls := findClass_of_methodNamed B.named
  have hlocks := B.notSynchronized
  have S : CallFix p m c cX3_isSheet 2 s _ lw_all RX3 := ⟨hx, hb, hml, hown, hts⟩
  have hl := lv_entry ([.int x0, .int x1]) (n := 2) (Nat.le_of_ble_eq_true rfl)
  rw [lg_entry_eq]
  generalize (lg_sl ([.int x0, .int x1]) ++ List.replicate (2 - (lg_sl ([.int x0, .int x1])).length) Slot.unset).toArray = ls at hl ⊢
  replace hl : lv_has ls 2 [(0, .int x0), (1, .int x1)] := hl
  have hret : hrX3_isSheet p l e s m ([.int x0, .int x1] : List Value).toArray below meth c s.heap [] (MQ below (vp_Si Q) ([.int x0, .int x1] : List Value).toArray s 0 0 (fun _ => False)) Q := fun r pc ls hz hq hd => W.zret hx hb hr hz.1 (fun t ht hW => ⟨r, rfl, hq, ht⟩) t_nil hd
  unfold wX3_isSheet at hf
  refine lv_iload_n hx hb dX3_isSheet_0 rfl (lv_at hl 0 rfl) ?_
  refine lv_i2l (v := (x0 : Int32).toInt64) hx hb dX3_isSheet_1 rfl ?_
  refine lv_lconst (v := 0) hx hb dX3_isSheet_2 (by decide) ?_
  refine lv_ldc2 (v := 3) hx hb hown (hts _ q1453) dX3_isSheet_3 ?_
  refine cs_i (As := [.long (x0 : Int32).toInt64, .long 0, .long 3]) (rest := []) S (metX3_in l hf) (lw_S q1268 q1269 q60 q1270) pdX3_in ⟨rfl, rfl⟩ ⟨Nat.le_of_ble_eq_true rfl, Nat.le_of_ble_eq_true rfl⟩ rfl hl.1 rfl (Nat.le_of_ble_eq_true rfl) dX3_isSheet_6 ⟨Nat.zero_le _, Nat.zero_le _⟩ (fun r_6 hf => ?_)
  refine lv_if_eq (tgt := 28) hx hb dX3_isSheet_9 (by decide) (fun c_9 => ?_) (fun c_9 => ?_)
  · replace hf := hf.1 c_9
    refine lv_iconst (v := 0) hx hb dX3_isSheet_28 (by decide) ?_
    exact hret _ _ _ bz0 hf dX3_isSheet_29
  · replace hf := hf.2 c_9
    refine lv_iload_n hx hb dX3_isSheet_12 rfl (lv_at hl 1 rfl) ?_
    refine lv_i2l (v := (x1 : Int32).toInt64) hx hb dX3_isSheet_13 rfl ?_
    refine lv_lconst (v := 0) hx hb dX3_isSheet_14 (by decide) ?_
    refine lv_ldc2 (v := 3) hx hb hown (hts _ q1453) dX3_isSheet_15 ?_
    refine cs_i (As := [.long (x1 : Int32).toInt64, .long 0, .long 3]) (rest := []) S (metX3_in l hf) (lw_S q1268 q1269 q60 q1270) pdX3_in ⟨rfl, rfl⟩ ⟨Nat.le_of_ble_eq_true rfl, Nat.le_of_ble_eq_true rfl⟩ rfl hl.1 rfl (Nat.le_of_ble_eq_true rfl) dX3_isSheet_18 ⟨Nat.zero_le _, Nat.zero_le _⟩ (fun r_18 hf => ?_)
    refine lv_if_eq (tgt := 28) hx hb dX3_isSheet_21 (by decide) (fun c_21 => ?_) (fun c_21 => ?_)
    · replace hf := hf.1 c_21
      refine lv_iconst (v := 0) hx hb dX3_isSheet_28 (by decide) ?_
      exact hret _ _ _ bz0 hf dX3_isSheet_29
    · replace hf := hf.2 c_21
      refine lv_iconst (v := 1) hx hb dX3_isSheet_24 (by decide) ?_
      refine lv_goto (tgt := 29) hx hb dX3_isSheet_25 (by decide) ?_
      exact hret _ _ _ bz1 hf dX3_isSheet_29
/-! HoleCountyModel.sheet(III)I -/
theorem pdX3_sheet : DscOk yX3_sheet 3 := by decide +kernel
abbrev rmX3_sheet : Room := { frames := 2, cells := 0, slots := 0, locals := 46 }
abbrev RX3_sheet_ : Room := (headSpec (ws_ yX3_sheet cX3_sheet 5 (some .int)) rmX3_sheet).room
section
variable {p : Program} {l : Launch} {e : Env} {s : State} {m : MethodId} {args : Array Value} {below : List Frame} {meth : Method} {c : Code} {Qw : State → Prop} {dC : Nat → ClassId} {dI : Nat → Nat → Nat} {dA : Nat → ClassId} {h : Nat → Nat}
abbrev hrX3_sheet (p : Program) (l : Launch) (e : Env) (s : State) (m : MethodId) (args : Array Value) (below : List Frame) (meth : Method) (c : Code) (dC : Nat → ClassId) (dI : Nat → Nat → Nat) (dA : Nat → ClassId) (h : Nat → Nat) (Qw : State → Prop) (Q : Int32 → (Nat → Int32) → (Nat → Int32) → (Nat → Int64) → Prop) (depths : (Nat → Int32)) (owners : (Nat → Int32)) (roofs : Int64) (rate : Int32) (undos : (Nat → Int32)) (undoMany : Int32) (drawn : Int32) (dug : Int64) (deep : Int64) (holes : (Nat → Int64)) (holeMany : Int32) (tape : (Nat → Int32)) (taped : Int32) (place : Int32) (reads : Int32) (read_ : (Nat → Int32)) (row : (Nat → Int32)) (order : (Nat → Int32)) (bestOrder : (Nat → Int32)) (nears : (Nat → Int32)) (isKept : Int32) (keptRoofs : Int64) (kept : (Nat → Int32)) (moved : (Nat → Int64)) : Prop := ∀ (r : Int32) (lanes : (Nat → Int32)) (rowSizes : (Nat → Int32)) (items : (Nat → Int64)) (H : Heap) (locs : List Loc) (pc : Nat) (ls : Array Slot), Q r lanes rowSizes items → va_P (dC, dI) vwCl (wM h dA depths owners roofs rate undos undoMany drawn dug deep holes holeMany tape taped place reads read_ row order bestOrder nears isKept keptRoofs kept lanes rowSizes items moved) H → va_S (mA h) s.heap H locs → decode cX3_sheet pc = .ok (.ireturn, 1) → W p l e RX3_sheet_ s m args below meth c H locs 0 0 Qw (F0 m pc ls [.int r])
def wX3_sheet_40 (Q : Int32 → (Nat → Int32) → (Nat → Int32) → (Nat → Int64) → Prop) (x1 : Int32) (x3 : Int32) (lanes : (Nat → Int32)) (rowSizes : (Nat → Int32)) : Nat → Int32 → (Nat → Int64) → Prop
  | 0, _, _ => False
  | n + 1, x4, items => ((36 ≤ x4 → (Q x3 lanes rowSizes items)) ∧ (¬ 36 ≤ x4 → (vp_in ((36 * x1) + x4) 144 ∧ (∀ items_59 : Nat → Int64, items_59 = vp_updL items (((36 * x1) + x4) : Int32).toNatClampNeg 0 → (∀ x4_60 : Int32, x4_60 = x4 + 1 → ((wX3_sheet_40 Q x1 x3 lanes rowSizes n) x4_60 items_59))))))
set_option maxHeartbeats 4000000 in
set_option maxRecDepth 100000 in
theorem tX3_sheet_40 {Q : Int32 → (Nat → Int32) → (Nat → Int32) → (Nat → Int64) → Prop} {x1 : Int32} {x3 : Int32} {depths : (Nat → Int32)} {owners : (Nat → Int32)} {roofs : Int64} {rate : Int32} {undos : (Nat → Int32)} {undoMany : Int32} {drawn : Int32} {dug : Int64} {deep : Int64} {holes : (Nat → Int64)} {holeMany : Int32} {tape : (Nat → Int32)} {taped : Int32} {place : Int32} {reads : Int32} {read_ : (Nat → Int32)} {row : (Nat → Int32)} {order : (Nat → Int32)} {bestOrder : (Nat → Int32)} {nears : (Nat → Int32)} {isKept : Int32} {keptRoofs : Int64} {kept : (Nat → Int32)} {lanes : (Nat → Int32)} {rowSizes : (Nat → Int32)} {moved : (Nat → Int64)} (S : CallFix p m c cX3_sheet 5 s args lw_all RX3) (hK : va_K (dC, dI) vwCl (tysG dA) s) (hj : mJ h) (hret : hrX3_sheet p l e s m args below meth c dC dI dA h Qw Q depths owners roofs rate undos undoMany drawn dug deep holes holeMany tape taped place reads read_ row order bestOrder nears isKept keptRoofs kept moved) : ∀ (n : Nat) (x4 : Int32) (items : (Nat → Int64)) (H : Heap) (locs : List Loc) (ls : Array Slot), wX3_sheet_40 Q x1 x3 lanes rowSizes n x4 items → va_P (dC, dI) vwCl (wM h dA depths owners roofs rate undos undoMany drawn dug deep holes holeMany tape taped place reads read_ row order bestOrder nears isKept keptRoofs kept lanes rowSizes items moved) H → va_S (mA h) s.heap H locs → lv_has ls 5 [(0, .ref (h 0)), (1, .int x1), (3, .int x3), (4, .int x4)] → W p l e RX3_sheet_ s m args below meth c H locs 0 0 Qw (F0 m 40 ls []) := by
  obtain ⟨hx, hb, hml, hown, hts⟩ := id S
  intro n
  induction n with
  | zero => intro _ _ _ _ _ hf; exact hf.elim
  | succ n ih =>
    intro x4 items H locs ls hf hP hS hl
    rw [wX3_sheet_40] at hf
    refine lv_iload hx hb dX3_sheet_40 (lv_at hl 3 rfl) ?_
    refine lv_bipush (v := 36) hx hb dX3_sheet_42 (by decide) ?_
    refine lv_icmp_ge (tgt := 66) hx hb dX3_sheet_44 (by decide) (fun c_44 => ?_) (fun c_44 => ?_)
    · replace hf := hf.1 c_44
      refine lv_iload_n hx hb dX3_sheet_66 rfl (lv_at hl 2 rfl) ?_
      exact hret _ _ _ _ _ _ _ _ hf hP hS dX3_sheet_67
    · replace hf := hf.2 c_44
      refine lv_aload_n hx hb dX3_sheet_47 rfl (lv_at hl 0 rfl) ?_
      refine gM_items S hK hP dX3_sheet_48 ?_
      refine lv_bipush (v := 36) hx hb dX3_sheet_51 (by decide) ?_
      refine lv_iload_n hx hb dX3_sheet_53 rfl (lv_at hl 1 rfl) ?_
      refine lv_imul hx hb dX3_sheet_54 ?_
      refine lv_iload hx hb dX3_sheet_55 (lv_at hl 3 rfl) ?_
      refine lv_iadd hx hb dX3_sheet_57 ?_
      refine lv_lconst (v := 0) hx hb dX3_sheet_58 (by decide) ?_
      obtain ⟨hin, hf⟩ := hf
      obtain ⟨items_59, eitems_59⟩ : ∃ z : Nat → Int64, z = vp_updL items (((36 * x1) + x4) : Int32).toNatClampNeg 0 := ⟨_, rfl⟩
      replace hf := hf items_59 eitems_59
      refine sM_items S hK hj hP hS hin eitems_59 dX3_sheet_59 (fun H locs hP hS => ?_)
      obtain ⟨x4_60, ex4_60⟩ : ∃ z : Int32, z = x4 + 1 := ⟨_, rfl⟩
      replace hf := hf x4_60 ex4_60
      refine lv_iinc (v := x4_60) (lv' := [(4, .int x4_60), (0, .ref (h 0)), (1, .int x1), (3, .int x3)]) hx hb dX3_sheet_60 hl (k := 3) rfl (by rw [ex4_60]; rfl) (by decide) rfl (fun ls hl => ?_)
      refine lv_goto (tgt := 40) hx hb dX3_sheet_63 (by decide) ?_
      exact ih x4_60 items_59 _ _ _ hf hP hS (lv_sub hl [1, 2, 3, 0] rfl)
def wX3_sheet (Q : Int32 → (Nat → Int32) → (Nat → Int32) → (Nat → Int64) → Prop) (lanes : (Nat → Int32)) (rowSizes : (Nat → Int32)) (items : (Nat → Int64)) (x1 : Int32) (x2 : Int32) (x3 : Int32) : Prop := (wX3_isSheet (fun r_2 => ((r_2 = 0 → (Q (-1) lanes rowSizes items)) ∧ (¬ r_2 = 0 → ((x3 ≤ 36 → ((0 ≤ x3 → (vp_in x1 4 ∧ (∀ lanes_29 : Nat → Int32, lanes_29 = upd lanes (x1 : Int32).toNatClampNeg x2 → (vp_in x1 4 ∧ (∀ rowSizes_36 : Nat → Int32, rowSizes_36 = upd rowSizes (x1 : Int32).toNatClampNeg x3 → (∃ fu : Nat, wX3_sheet_40 Q x1 x3 lanes_29 rowSizes_36 fu 0 items)))))) ∧ (¬ 0 ≤ x3 → (Q (-14) lanes rowSizes items)))) ∧ (¬ x3 ≤ 36 → (Q (-1) lanes rowSizes items)))))) x1 x2)
end
set_option maxHeartbeats 4000000 in
set_option maxRecDepth 100000 in
theorem metX3_sheet (l : Launch) {Q : Int32 → (Nat → Int32) → (Nat → Int32) → (Nat → Int64) → Prop} {depths : (Nat → Int32)} {owners : (Nat → Int32)} {roofs : Int64} {rate : Int32} {undos : (Nat → Int32)} {undoMany : Int32} {drawn : Int32} {dug : Int64} {deep : Int64} {holes : (Nat → Int64)} {holeMany : Int32} {tape : (Nat → Int32)} {taped : Int32} {place : Int32} {reads : Int32} {read_ : (Nat → Int32)} {row : (Nat → Int32)} {order : (Nat → Int32)} {bestOrder : (Nat → Int32)} {nears : (Nat → Int32)} {isKept : Int32} {keptRoofs : Int64} {kept : (Nat → Int32)} {lanes : (Nat → Int32)} {rowSizes : (Nat → Int32)} {items : (Nat → Int64)} {moved : (Nat → Int64)} {x1 : Int32} {x2 : Int32} {x3 : Int32} {dC : Nat → ClassId} {dI : Nat → Nat → Nat} {dA : Nat → ClassId} {h : Nat → Nat} (hj : mJ h) (hf : wX3_sheet Q lanes rowSizes items x1 x2 x3) : Met l yX3_sheet (ws_ yX3_sheet cX3_sheet 5 (some .int)) rmX3_sheet (mPc dC dI dA h [.int x1, .int x2, .int x3] (wM h dA depths owners roofs rate undos undoMany drawn dug deep holes holeMany tape taped place reads read_ row order bestOrder nears isKept keptRoofs kept lanes rowSizes items moved)) (va_Qi (fun (r : Int32) (u : (Nat → Int32) × (Nat → Int32) × (Nat → Int64)) => Q r u.1 u.2.1 u.2.2) (fun u t => va_P (dC, dI) vwCl (wM h dA depths owners roofs rate undos undoMany drawn dug deep holes holeMany tape taped place reads read_ row order bestOrder nears isKept keptRoofs kept u.1 u.2.1 u.2.2 moved) t.heap) (mA h)) 0 0 (mA h) := by
  refine Met.ofW (cc := cX3_sheet) (maxL := 5) (ret := (some .int)) (by decide) rfl ?_
  intro p e s m args below meth c s₁ B hml hv
  obtain ⟨rfl, hP, hK⟩ := hv
  have hx := B.exec
  have hb := B.bytes
  have hr := B.returns
  have hts := atoms_spec (ws := (ws_ yX3_sheet cX3_sheet 5 (some .int))) B.pre
  have hts : ∀ w ∈ lw_all, w.before _ s = true := fun w h => hts w (List.mem_cons_of_mem _ h)
  have hown : s.vm.findClass RX3 = some m.cls := findClass_of_methodNamed B.named
  have hlocks := B.notSynchronized
  have S : CallFix p m c cX3_sheet 5 s _ lw_all RX3 := ⟨hx, hb, hml, hown, hts⟩
  have hS : va_S (mA h) s.heap s.heap [] := va_S.rf
  have hl := lv_entry ([.ref (h 0), .int x1, .int x2, .int x3]) (n := 5) (Nat.le_of_ble_eq_true rfl)
  rw [lg_entry_eq]
  generalize (lg_sl ([.ref (h 0), .int x1, .int x2, .int x3]) ++ List.replicate (5 - (lg_sl ([.ref (h 0), .int x1, .int x2, .int x3])).length) Slot.unset).toArray = ls at hl ⊢
  replace hl : lv_has ls 5 [(0, .ref (h 0)), (1, .int x1), (2, .int x2), (3, .int x3)] := hl
  have hret : hrX3_sheet p l e s m ([.ref (h 0), .int x1, .int x2, .int x3] : List Value).toArray below meth c dC dI dA h (MQ below (va_Qi (fun (r : Int32) (u : (Nat → Int32) × (Nat → Int32) × (Nat → Int64)) => Q r u.1 u.2.1 u.2.2) (fun u t => va_P (dC, dI) vwCl (wM h dA depths owners roofs rate undos undoMany drawn dug deep holes holeMany tape taped place reads read_ row order bestOrder nears isKept keptRoofs kept u.1 u.2.1 u.2.2 moved) t.heap) (mA h)) ([.ref (h 0), .int x1, .int x2, .int x3] : List Value).toArray s 0 0 (mA h)) Q depths owners roofs rate undos undoMany drawn dug deep holes holeMany tape taped place reads read_ row order bestOrder nears isKept keptRoofs kept moved := fun r lanes rowSizes items H locs pc ls hq hP hS hd => W.iret hx hb hr (fun t ht hW => ⟨⟨r, (lanes, rowSizes, items), rfl, hq, by subst ht; exact hP⟩, hS.F ht⟩) hS.2.2 hd
  unfold wX3_sheet at hf
  refine lv_iload_n hx hb dX3_sheet_0 rfl (lv_at hl 1 rfl) ?_
  refine lv_iload_n hx hb dX3_sheet_1 rfl (lv_at hl 2 rfl) ?_
  refine cs_i (As := [.int x1, .int x2]) (rest := []) S (metX3_isSheet l hf) (lw_S q1567 q1568 q60 q1569) pdX3_isSheet ⟨rfl, rfl⟩ ⟨Nat.le_of_ble_eq_true rfl, Nat.le_of_ble_eq_true rfl⟩ rfl hl.1 rfl (Nat.le_of_ble_eq_true rfl) dX3_sheet_2 ⟨Nat.zero_le _, Nat.zero_le _⟩ (fun r_2 hf => ?_)
  refine lv_if_eq (tgt := 14) hx hb dX3_sheet_5 (by decide) (fun c_5 => ?_) (fun c_5 => ?_)
  · replace hf := hf.1 c_5
    refine lv_iconst (v := (-1)) hx hb dX3_sheet_14 (by decide) ?_
    exact hret _ _ _ _ _ _ _ _ hf hP hS dX3_sheet_15
  · replace hf := hf.2 c_5
    refine lv_iload_n hx hb dX3_sheet_8 rfl (lv_at hl 3 rfl) ?_
    refine lv_bipush (v := 36) hx hb dX3_sheet_9 (by decide) ?_
    refine lv_icmp_le (tgt := 16) hx hb dX3_sheet_11 (by decide) (fun c_11 => ?_) (fun c_11 => ?_)
    · replace hf := hf.1 c_11
      refine lv_iload_n hx hb dX3_sheet_16 rfl (lv_at hl 3 rfl) ?_
      refine lv_if_ge (tgt := 23) hx hb dX3_sheet_17 (by decide) (fun c_17 => ?_) (fun c_17 => ?_)
      · replace hf := hf.1 c_17
        refine lv_aload_n hx hb dX3_sheet_23 rfl (lv_at hl 0 rfl) ?_
        refine gM_lanes S hK hP dX3_sheet_24 ?_
        refine lv_iload_n hx hb dX3_sheet_27 rfl (lv_at hl 1 rfl) ?_
        refine lv_iload_n hx hb dX3_sheet_28 rfl (lv_at hl 2 rfl) ?_
        obtain ⟨hin, hf⟩ := hf
        obtain ⟨lanes_29, elanes_29⟩ : ∃ z : Nat → Int32, z = upd lanes (x1 : Int32).toNatClampNeg x2 := ⟨_, rfl⟩
        replace hf := hf lanes_29 elanes_29
        refine sM_lanes S hK hj hP hS hin elanes_29 dX3_sheet_29 (fun H locs hP hS => ?_)
        refine lv_aload_n hx hb dX3_sheet_30 rfl (lv_at hl 0 rfl) ?_
        refine gM_rowSizes S hK hP dX3_sheet_31 ?_
        refine lv_iload_n hx hb dX3_sheet_34 rfl (lv_at hl 1 rfl) ?_
        refine lv_iload_n hx hb dX3_sheet_35 rfl (lv_at hl 3 rfl) ?_
        obtain ⟨hin, hf⟩ := hf
        obtain ⟨rowSizes_36, erowSizes_36⟩ : ∃ z : Nat → Int32, z = upd rowSizes (x1 : Int32).toNatClampNeg x3 := ⟨_, rfl⟩
        replace hf := hf rowSizes_36 erowSizes_36
        refine sM_rowSizes S hK hj hP hS hin erowSizes_36 dX3_sheet_36 (fun H locs hP hS => ?_)
        refine lv_iconst (v := 0) hx hb dX3_sheet_37 (by decide) ?_
        refine lv_istore (lv' := [(4, .int 0), (0, .ref (h 0)), (1, .int x1), (2, .int x2), (3, .int x3)]) hx hb dX3_sheet_38 hl (by decide) rfl (fun ls hl => ?_)
        obtain ⟨fu, hf⟩ := hf
        exact tX3_sheet_40 S hK hj hret fu 0 items _ _ _ hf hP hS (lv_sub hl [1, 2, 4, 0] rfl)
      · replace hf := hf.2 c_17
        refine lv_bipush (v := (-14)) hx hb dX3_sheet_20 (by decide) ?_
        exact hret _ _ _ _ _ _ _ _ hf hP hS dX3_sheet_22
    · replace hf := hf.2 c_11
      refine lv_iconst (v := (-1)) hx hb dX3_sheet_14 (by decide) ?_
      exact hret _ _ _ _ _ _ _ _ hf hP hS dX3_sheet_15
/-! HoleCountyModel.drop(I)I -/
theorem pdX3_drop : DscOk yX3_drop 1 := by decide +kernel
abbrev rmX3_drop : Room := { frames := 1, cells := 0, slots := 0, locals := 25 }
abbrev RX3_drop_ : Room := (headSpec (ws_ yX3_drop cX3_drop 2 (some .int)) rmX3_drop).room
section
variable {p : Program} {l : Launch} {e : Env} {s : State} {m : MethodId} {args : Array Value} {below : List Frame} {meth : Method} {c : Code} {Qw : State → Prop} {dC : Nat → ClassId} {dI : Nat → Nat → Nat} {dA : Nat → ClassId} {h : Nat → Nat}
abbrev hrX3_drop (p : Program) (l : Launch) (e : Env) (s : State) (m : MethodId) (args : Array Value) (below : List Frame) (meth : Method) (c : Code) (dC : Nat → ClassId) (dI : Nat → Nat → Nat) (dA : Nat → ClassId) (h : Nat → Nat) (Qw : State → Prop) (Q : Int32 → (Nat → Int32) → Prop) (depths : (Nat → Int32)) (owners : (Nat → Int32)) (roofs : Int64) (rate : Int32) (undos : (Nat → Int32)) (undoMany : Int32) (drawn : Int32) (dug : Int64) (deep : Int64) (holes : (Nat → Int64)) (holeMany : Int32) (tape : (Nat → Int32)) (taped : Int32) (place : Int32) (reads : Int32) (read_ : (Nat → Int32)) (row : (Nat → Int32)) (order : (Nat → Int32)) (bestOrder : (Nat → Int32)) (nears : (Nat → Int32)) (isKept : Int32) (keptRoofs : Int64) (kept : (Nat → Int32)) (rowSizes : (Nat → Int32)) (items : (Nat → Int64)) (moved : (Nat → Int64)) : Prop := ∀ (r : Int32) (lanes : (Nat → Int32)) (H : Heap) (locs : List Loc) (pc : Nat) (ls : Array Slot), Q r lanes → va_P (dC, dI) vwCl (wM h dA depths owners roofs rate undos undoMany drawn dug deep holes holeMany tape taped place reads read_ row order bestOrder nears isKept keptRoofs kept lanes rowSizes items moved) H → va_S (mA h) s.heap H locs → decode cX3_drop pc = .ok (.ireturn, 1) → W p l e RX3_drop_ s m args below meth c H locs 0 0 Qw (F0 m pc ls [.int r])
def wX3_drop (Q : Int32 → (Nat → Int32) → Prop) (lanes : (Nat → Int32)) (rowSizes : (Nat → Int32)) (x1 : Int32) : Prop := (wX3_in (fun r_6 => ((r_6 = 0 → (Q (-1) lanes)) ∧ (¬ r_6 = 0 → (vp_in x1 4 ∧ ((0 ≤ (lanes (x1 : Int32).toNatClampNeg) → (vp_in x1 4 ∧ (∀ lanes_32 : Nat → Int32, lanes_32 = upd lanes (x1 : Int32).toNatClampNeg (-1) → (vp_in x1 4 ∧ (Q (rowSizes (x1 : Int32).toNatClampNeg) lanes_32))))) ∧ (¬ 0 ≤ (lanes (x1 : Int32).toNatClampNeg) → (Q (-11) lanes))))))) ((x1 : Int32).toInt64) 0 3)
end
set_option maxHeartbeats 4000000 in
set_option maxRecDepth 100000 in
theorem metX3_drop (l : Launch) {Q : Int32 → (Nat → Int32) → Prop} {depths : (Nat → Int32)} {owners : (Nat → Int32)} {roofs : Int64} {rate : Int32} {undos : (Nat → Int32)} {undoMany : Int32} {drawn : Int32} {dug : Int64} {deep : Int64} {holes : (Nat → Int64)} {holeMany : Int32} {tape : (Nat → Int32)} {taped : Int32} {place : Int32} {reads : Int32} {read_ : (Nat → Int32)} {row : (Nat → Int32)} {order : (Nat → Int32)} {bestOrder : (Nat → Int32)} {nears : (Nat → Int32)} {isKept : Int32} {keptRoofs : Int64} {kept : (Nat → Int32)} {lanes : (Nat → Int32)} {rowSizes : (Nat → Int32)} {items : (Nat → Int64)} {moved : (Nat → Int64)} {x1 : Int32} {dC : Nat → ClassId} {dI : Nat → Nat → Nat} {dA : Nat → ClassId} {h : Nat → Nat} (hj : mJ h) (hf : wX3_drop Q lanes rowSizes x1) : Met l yX3_drop (ws_ yX3_drop cX3_drop 2 (some .int)) rmX3_drop (mPc dC dI dA h [.int x1] (wM h dA depths owners roofs rate undos undoMany drawn dug deep holes holeMany tape taped place reads read_ row order bestOrder nears isKept keptRoofs kept lanes rowSizes items moved)) (va_Qi (fun (r : Int32) (u : (Nat → Int32)) => Q r u) (fun u t => va_P (dC, dI) vwCl (wM h dA depths owners roofs rate undos undoMany drawn dug deep holes holeMany tape taped place reads read_ row order bestOrder nears isKept keptRoofs kept u rowSizes items moved) t.heap) (mA h)) 0 0 (mA h) := by
  refine Met.ofW (cc := cX3_drop) (maxL := 2) (ret := (some .int)) (by decide) rfl ?_
  intro p e s m args below meth c s₁ B hml hv
  obtain ⟨rfl, hP, hK⟩ := hv
  have hx := B.exec
  have hb := B.bytes
  have hr := B.returns
  have hts := atoms_spec (ws := (ws_ yX3_drop cX3_drop 2 (some .int))) B.pre
  have hts : ∀ w ∈ lw_all, w.before _ s = true := fun w h => hts w (List.mem_cons_of_mem _ h)
  have hown : s.vm.findClass RX3 = some m.cls := findClass_of_methodNamed B.named
  have hlocks := B.notSynchronized
  have S : CallFix p m c cX3_drop 2 s _ lw_all RX3 := ⟨hx, hb, hml, hown, hts⟩
  have hS : va_S (mA h) s.heap s.heap [] := va_S.rf
  have hl := lv_entry ([.ref (h 0), .int x1]) (n := 2) (Nat.le_of_ble_eq_true rfl)
  rw [lg_entry_eq]
  generalize (lg_sl ([.ref (h 0), .int x1]) ++ List.replicate (2 - (lg_sl ([.ref (h 0), .int x1])).length) Slot.unset).toArray = ls at hl ⊢
  replace hl : lv_has ls 2 [(0, .ref (h 0)), (1, .int x1)] := hl
  have hret : hrX3_drop p l e s m ([.ref (h 0), .int x1] : List Value).toArray below meth c dC dI dA h (MQ below (va_Qi (fun (r : Int32) (u : (Nat → Int32)) => Q r u) (fun u t => va_P (dC, dI) vwCl (wM h dA depths owners roofs rate undos undoMany drawn dug deep holes holeMany tape taped place reads read_ row order bestOrder nears isKept keptRoofs kept u rowSizes items moved) t.heap) (mA h)) ([.ref (h 0), .int x1] : List Value).toArray s 0 0 (mA h)) Q depths owners roofs rate undos undoMany drawn dug deep holes holeMany tape taped place reads read_ row order bestOrder nears isKept keptRoofs kept rowSizes items moved := fun r lanes H locs pc ls hq hP hS hd => W.iret hx hb hr (fun t ht hW => ⟨⟨r, lanes, rfl, hq, by subst ht; exact hP⟩, hS.F ht⟩) hS.2.2 hd
  unfold wX3_drop at hf
  refine lv_iload_n hx hb dX3_drop_0 rfl (lv_at hl 1 rfl) ?_
  refine lv_i2l (v := (x1 : Int32).toInt64) hx hb dX3_drop_1 rfl ?_
  refine lv_lconst (v := 0) hx hb dX3_drop_2 (by decide) ?_
  refine lv_ldc2 (v := 3) hx hb hown (hts _ q1453) dX3_drop_3 ?_
  refine cs_i (As := [.long (x1 : Int32).toInt64, .long 0, .long 3]) (rest := []) S (metX3_in l hf) (lw_S q1268 q1269 q60 q1270) pdX3_in ⟨rfl, rfl⟩ ⟨Nat.le_of_ble_eq_true rfl, Nat.le_of_ble_eq_true rfl⟩ rfl hl.1 rfl (Nat.le_of_ble_eq_true rfl) dX3_drop_6 ⟨Nat.zero_le _, Nat.zero_le _⟩ (fun r_6 hf => ?_)
  refine lv_if_ne (tgt := 14) hx hb dX3_drop_9 (by decide) (fun c_9 => ?_) (fun c_9 => ?_)
  · replace hf := hf.2 c_9
    refine lv_aload_n hx hb dX3_drop_14 rfl (lv_at hl 0 rfl) ?_
    refine gM_lanes S hK hP dX3_drop_15 ?_
    refine lv_iload_n hx hb dX3_drop_18 rfl (lv_at hl 1 rfl) ?_
    obtain ⟨hin, hf⟩ := hf
    refine lM_lanes S hK hP hin dX3_drop_19 ?_
    refine lv_if_ge (tgt := 26) hx hb dX3_drop_20 (by decide) (fun c_20 => ?_) (fun c_20 => ?_)
    · replace hf := hf.1 c_20
      refine lv_aload_n hx hb dX3_drop_26 rfl (lv_at hl 0 rfl) ?_
      refine gM_lanes S hK hP dX3_drop_27 ?_
      refine lv_iload_n hx hb dX3_drop_30 rfl (lv_at hl 1 rfl) ?_
      refine lv_iconst (v := (-1)) hx hb dX3_drop_31 (by decide) ?_
      obtain ⟨hin, hf⟩ := hf
      obtain ⟨lanes_32, elanes_32⟩ : ∃ z : Nat → Int32, z = upd lanes (x1 : Int32).toNatClampNeg (-1) := ⟨_, rfl⟩
      replace hf := hf lanes_32 elanes_32
      refine sM_lanes S hK hj hP hS hin elanes_32 dX3_drop_32 (fun H locs hP hS => ?_)
      refine lv_aload_n hx hb dX3_drop_33 rfl (lv_at hl 0 rfl) ?_
      refine gM_rowSizes S hK hP dX3_drop_34 ?_
      refine lv_iload_n hx hb dX3_drop_37 rfl (lv_at hl 1 rfl) ?_
      obtain ⟨hin, hf⟩ := hf
      refine lM_rowSizes S hK hP hin dX3_drop_38 ?_
      exact hret _ _ _ _ _ _ hf hP hS dX3_drop_39
    · replace hf := hf.2 c_20
      refine lv_bipush (v := (-11)) hx hb dX3_drop_23 (by decide) ?_
      exact hret _ _ _ _ _ _ hf hP hS dX3_drop_25
  · replace hf := hf.1 c_9
    refine lv_iconst (v := (-1)) hx hb dX3_drop_12 (by decide) ?_
    exact hret _ _ _ _ _ _ hf hP hS dX3_drop_13
/-! HoleCountyModel.lacksRow(IIII)I -/
theorem pdX3_lacksRow : DscOk yX3_lacksRow 4 := by decide +kernel
abbrev rmX3_lacksRow : Room := { frames := 1, cells := 0, slots := 0, locals := 25 }
abbrev RX3_lacksRow_ : Room := (headSpec (ws_ yX3_lacksRow cX3_lacksRow 5 (some .int)) rmX3_lacksRow).room
section
variable {p : Program} {l : Launch} {e : Env} {s : State} {m : MethodId} {args : Array Value} {below : List Frame} {meth : Method} {c : Code} {Qw : State → Prop} {dC : Nat → ClassId} {dI : Nat → Nat → Nat} {dA : Nat → ClassId} {h : Nat → Nat}
abbrev hrX3_lacksRow (p : Program) (l : Launch) (e : Env) (s : State) (m : MethodId) (args : Array Value) (below : List Frame) (meth : Method) (c : Code) (dC : Nat → ClassId) (dI : Nat → Nat → Nat) (dA : Nat → ClassId) (h : Nat → Nat) (Qw : State → Prop) (Q : Int32 → Prop) (depths : (Nat → Int32)) (owners : (Nat → Int32)) (roofs : Int64) (rate : Int32) (undos : (Nat → Int32)) (undoMany : Int32) (drawn : Int32) (dug : Int64) (deep : Int64) (holes : (Nat → Int64)) (holeMany : Int32) (tape : (Nat → Int32)) (taped : Int32) (place : Int32) (reads : Int32) (read_ : (Nat → Int32)) (row : (Nat → Int32)) (order : (Nat → Int32)) (bestOrder : (Nat → Int32)) (nears : (Nat → Int32)) (isKept : Int32) (keptRoofs : Int64) (kept : (Nat → Int32)) (lanes : (Nat → Int32)) (rowSizes : (Nat → Int32)) (items : (Nat → Int64)) (moved : (Nat → Int64)) : Prop := ∀ (r : Int32) (H : Heap) (locs : List Loc) (pc : Nat) (ls : Array Slot), Q r → va_P (dC, dI) vwCl (wM h dA depths owners roofs rate undos undoMany drawn dug deep holes holeMany tape taped place reads read_ row order bestOrder nears isKept keptRoofs kept lanes rowSizes items moved) H → va_S (mA h) s.heap H locs → decode cX3_lacksRow pc = .ok (.ireturn, 1) → W p l e RX3_lacksRow_ s m args below meth c H locs 0 0 Qw (F0 m pc ls [.int r])
def wX3_lacksRow (Q : Int32 → Prop) (lanes : (Nat → Int32)) (rowSizes : (Nat → Int32)) (x1 : Int32) (x2 : Int32) (x3 : Int32) (x4 : Int32) : Prop := (vp_in x1 4 ∧ (((lanes (x1 : Int32).toNatClampNeg) = x2 → (vp_in x1 4 ∧ (wX3_in (fun r_40 => ((r_40 = 0 → (Q (-13))) ∧ (¬ r_40 = 0 → (Q 0)))) ((x3 : Int32).toInt64) 0 ((((rowSizes (x1 : Int32).toNatClampNeg) - x4) : Int32).toInt64)))) ∧ (¬ (lanes (x1 : Int32).toNatClampNeg) = x2 → (vp_in x1 4 ∧ ((0 ≤ (lanes (x1 : Int32).toNatClampNeg) → (Q (-12))) ∧ (¬ 0 ≤ (lanes (x1 : Int32).toNatClampNeg) → (Q (-11))))))))
end
set_option maxHeartbeats 4000000 in
set_option maxRecDepth 100000 in
theorem metX3_lacksRow (l : Launch) {Q : Int32 → Prop} {depths : (Nat → Int32)} {owners : (Nat → Int32)} {roofs : Int64} {rate : Int32} {undos : (Nat → Int32)} {undoMany : Int32} {drawn : Int32} {dug : Int64} {deep : Int64} {holes : (Nat → Int64)} {holeMany : Int32} {tape : (Nat → Int32)} {taped : Int32} {place : Int32} {reads : Int32} {read_ : (Nat → Int32)} {row : (Nat → Int32)} {order : (Nat → Int32)} {bestOrder : (Nat → Int32)} {nears : (Nat → Int32)} {isKept : Int32} {keptRoofs : Int64} {kept : (Nat → Int32)} {lanes : (Nat → Int32)} {rowSizes : (Nat → Int32)} {items : (Nat → Int64)} {moved : (Nat → Int64)} {x1 : Int32} {x2 : Int32} {x3 : Int32} {x4 : Int32} {dC : Nat → ClassId} {dI : Nat → Nat → Nat} {dA : Nat → ClassId} {h : Nat → Nat} (hj : mJ h) (hf : wX3_lacksRow Q lanes rowSizes x1 x2 x3 x4) : Met l yX3_lacksRow (ws_ yX3_lacksRow cX3_lacksRow 5 (some .int)) rmX3_lacksRow (mPc dC dI dA h [.int x1, .int x2, .int x3, .int x4] (wM h dA depths owners roofs rate undos undoMany drawn dug deep holes holeMany tape taped place reads read_ row order bestOrder nears isKept keptRoofs kept lanes rowSizes items moved)) (va_Qi (fun (r : Int32) (u : Unit) => Q r) (fun u t => va_P (dC, dI) vwCl (wM h dA depths owners roofs rate undos undoMany drawn dug deep holes holeMany tape taped place reads read_ row order bestOrder nears isKept keptRoofs kept lanes rowSizes items moved) t.heap) (mA h)) 0 0 (mA h) := by
  refine Met.ofW (cc := cX3_lacksRow) (maxL := 5) (ret := (some .int)) (by decide) rfl ?_
  intro p e s m args below meth c s₁ B hml hv
  obtain ⟨rfl, hP, hK⟩ := hv
  have hx := B.exec
  have hb := B.bytes
  have hr := B.returns
  have hts := atoms_spec (ws := (ws_ yX3_lacksRow cX3_lacksRow 5 (some .int))) B.pre
  have hts : ∀ w ∈ lw_all, w.before _ s = true := fun w h => hts w (List.mem_cons_of_mem _ h)
  have hown : s.vm.findClass RX3 = some m.cls := findClass_of_methodNamed B.named
  have hlocks := B.notSynchronized
  have S : CallFix p m c cX3_lacksRow 5 s _ lw_all RX3 := ⟨hx, hb, hml, hown, hts⟩
  have hS : va_S (mA h) s.heap s.heap [] := va_S.rf
  have hl := lv_entry ([.ref (h 0), .int x1, .int x2, .int x3, .int x4]) (n := 5) (Nat.le_of_ble_eq_true rfl)
  rw [lg_entry_eq]
  generalize (lg_sl ([.ref (h 0), .int x1, .int x2, .int x3, .int x4]) ++ List.replicate (5 - (lg_sl ([.ref (h 0), .int x1, .int x2, .int x3, .int x4])).length) Slot.unset).toArray = ls at hl ⊢
  replace hl : lv_has ls 5 [(0, .ref (h 0)), (1, .int x1), (2, .int x2), (3, .int x3), (4, .int x4)] := hl
  have hret : hrX3_lacksRow p l e s m ([.ref (h 0), .int x1, .int x2, .int x3, .int x4] : List Value).toArray below meth c dC dI dA h (MQ below (va_Qi (fun (r : Int32) (u : Unit) => Q r) (fun u t => va_P (dC, dI) vwCl (wM h dA depths owners roofs rate undos undoMany drawn dug deep holes holeMany tape taped place reads read_ row order bestOrder nears isKept keptRoofs kept lanes rowSizes items moved) t.heap) (mA h)) ([.ref (h 0), .int x1, .int x2, .int x3, .int x4] : List Value).toArray s 0 0 (mA h)) Q depths owners roofs rate undos undoMany drawn dug deep holes holeMany tape taped place reads read_ row order bestOrder nears isKept keptRoofs kept lanes rowSizes items moved := fun r H locs pc ls hq hP hS hd => W.iret hx hb hr (fun t ht hW => ⟨⟨r, (), rfl, hq, by subst ht; exact hP⟩, hS.F ht⟩) hS.2.2 hd
  unfold wX3_lacksRow at hf
  refine lv_aload_n hx hb dX3_lacksRow_0 rfl (lv_at hl 0 rfl) ?_
  refine gM_lanes S hK hP dX3_lacksRow_1 ?_
  refine lv_iload_n hx hb dX3_lacksRow_4 rfl (lv_at hl 1 rfl) ?_
  obtain ⟨hin, hf⟩ := hf
  refine lM_lanes S hK hP hin dX3_lacksRow_5 ?_
  refine lv_iload_n hx hb dX3_lacksRow_6 rfl (lv_at hl 2 rfl) ?_
  refine lv_icmp_eq (tgt := 27) hx hb dX3_lacksRow_7 (by decide) (fun c_7 => ?_) (fun c_7 => ?_)
  · replace hf := hf.1 c_7
    refine lv_iload_n hx hb dX3_lacksRow_27 rfl (lv_at hl 3 rfl) ?_
    refine lv_i2l (v := (x3 : Int32).toInt64) hx hb dX3_lacksRow_28 rfl ?_
    refine lv_lconst (v := 0) hx hb dX3_lacksRow_29 (by decide) ?_
    refine lv_aload_n hx hb dX3_lacksRow_30 rfl (lv_at hl 0 rfl) ?_
    refine gM_rowSizes S hK hP dX3_lacksRow_31 ?_
    refine lv_iload_n hx hb dX3_lacksRow_34 rfl (lv_at hl 1 rfl) ?_
    obtain ⟨hin, hf⟩ := hf
    refine lM_rowSizes S hK hP hin dX3_lacksRow_35 ?_
    refine lv_iload hx hb dX3_lacksRow_36 (lv_at hl 4 rfl) ?_
    refine lv_isub hx hb dX3_lacksRow_38 ?_
    refine lv_i2l (v := (((rowSizes (x1 : Int32).toNatClampNeg) - x4) : Int32).toInt64) hx hb dX3_lacksRow_39 rfl ?_
    refine cs_i (As := [.long (x3 : Int32).toInt64, .long 0, .long (((rowSizes (x1 : Int32).toNatClampNeg) - x4) : Int32).toInt64]) (rest := []) S (metX3_in l hf) (lw_S q1268 q1269 q60 q1270) pdX3_in ⟨rfl, rfl⟩ ⟨Nat.le_of_ble_eq_true rfl, Nat.le_of_ble_eq_true rfl⟩ rfl hl.1 rfl (Nat.le_of_ble_eq_true rfl) dX3_lacksRow_40 ⟨Nat.zero_le _, Nat.zero_le _⟩ (fun r_40 hf => ?_)
    refine lv_if_eq (tgt := 50) hx hb dX3_lacksRow_43 (by decide) (fun c_43 => ?_) (fun c_43 => ?_)
    · replace hf := hf.1 c_43
      refine lv_bipush (v := (-13)) hx hb dX3_lacksRow_50 (by decide) ?_
      exact hret _ _ _ _ _ hf hP hS dX3_lacksRow_52
    · replace hf := hf.2 c_43
      refine lv_iconst (v := 0) hx hb dX3_lacksRow_46 (by decide) ?_
      refine lv_goto (tgt := 52) hx hb dX3_lacksRow_47 (by decide) ?_
      exact hret _ _ _ _ _ hf hP hS dX3_lacksRow_52
  · replace hf := hf.2 c_7
    refine lv_aload_n hx hb dX3_lacksRow_10 rfl (lv_at hl 0 rfl) ?_
    refine gM_lanes S hK hP dX3_lacksRow_11 ?_
    refine lv_iload_n hx hb dX3_lacksRow_14 rfl (lv_at hl 1 rfl) ?_
    obtain ⟨hin, hf⟩ := hf
    refine lM_lanes S hK hP hin dX3_lacksRow_15 ?_
    refine lv_if_ge (tgt := 24) hx hb dX3_lacksRow_16 (by decide) (fun c_16 => ?_) (fun c_16 => ?_)
    · replace hf := hf.1 c_16
      refine lv_bipush (v := (-12)) hx hb dX3_lacksRow_24 (by decide) ?_
      exact hret _ _ _ _ _ hf hP hS dX3_lacksRow_26
    · replace hf := hf.2 c_16
      refine lv_bipush (v := (-11)) hx hb dX3_lacksRow_19 (by decide) ?_
      refine lv_goto (tgt := 26) hx hb dX3_lacksRow_21 (by decide) ?_
      exact hret _ _ _ _ _ hf hP hS dX3_lacksRow_26
/-! HoleCountyModel.asLane(IJ)J -/
theorem pdX3_asLane : DscOk yX3_asLane 2 := by decide +kernel
abbrev rmX3_asLane : Room := { frames := 0, cells := 0, slots := 0, locals := 0 }
abbrev RX3_asLane_ : Room := (headSpec (ws_ yX3_asLane cX3_asLane 3 (some .long)) rmX3_asLane).room
section
variable {p : Program} {l : Launch} {e : Env} {s : State} {m : MethodId} {args : Array Value} {below : List Frame} {meth : Method} {c : Code} {Qw : State → Prop} {H : Heap} {locs : List Loc}
abbrev hrX3_asLane (p : Program) (l : Launch) (e : Env) (s : State) (m : MethodId) (args : Array Value) (below : List Frame) (meth : Method) (c : Code) (H : Heap) (locs : List Loc) (Qw : State → Prop) (Q : Int64 → Prop) : Prop := ∀ (r : Int64) (pc : Nat) (ls : Array Slot), Q r → decode cX3_asLane pc = .ok (.lreturn, 1) → W p l e RX3_asLane_ s m args below meth c H locs 0 0 Qw (F0 m pc ls [.long r])
def wX3_asLane (Q : Int64 → Prop) (x0 : Int32) (x1 : Int64) : Prop := ((x0 = 0 → (Q ((x1 <<< ((56 : Int32).toInt64 &&& 63)) >>> ((56 : Int32).toInt64 &&& 63)))) ∧ (¬ x0 = 0 → ((x0 = 1 → (Q ((x1 <<< ((48 : Int32).toInt64 &&& 63)) >>> ((48 : Int32).toInt64 &&& 63)))) ∧ (¬ x0 = 1 → ((x0 = 2 → (Q ((x1 <<< ((32 : Int32).toInt64 &&& 63)) >>> ((32 : Int32).toInt64 &&& 63)))) ∧ (¬ x0 = 2 → (Q x1)))))))
end
set_option maxHeartbeats 4000000 in
set_option maxRecDepth 100000 in
theorem metX3_asLane (l : Launch) {Q : Int64 → Prop} {x0 : Int32} {x1 : Int64} (hf : wX3_asLane Q x0 x1) : Met l yX3_asLane (ws_ yX3_asLane cX3_asLane 3 (some .long)) rmX3_asLane (fun v _ => v = ([.int x0, .long x1] : List Value).toArray) (vp_Sl Q) 0 0 (fun _ => False) := by
  refine Met.ofW (cc := cX3_asLane) (maxL := 3) (ret := (some .long)) (by decide) rfl ?_
  intro p e s m args below meth c s₁ B hml hv
  subst hv
  have hx := B.exec
  have hb := B.bytes
  have hr := B.returns
  have hts := atoms_spec (ws := (ws_ yX3_asLane cX3_asLane 3 (some .long))) B.pre
  have hts : ∀ w ∈ lw_all, w.before _ s = true := fun w h => hts w (List.mem_cons_of_mem _ h)
  have hown : s.vm.findClass RX3 = some m.cls := findClass_of_methodNamed B.named
  have hlocks := B.notSynchronized
  have S : CallFix p m c cX3_asLane 3 s _ lw_all RX3 := ⟨hx, hb, hml, hown, hts⟩
  have hl := lv_entry ([.int x0, .long x1]) (n := 3) (Nat.le_of_ble_eq_true rfl)
  rw [lg_entry_eq]
  generalize (lg_sl ([.int x0, .long x1]) ++ List.replicate (3 - (lg_sl ([.int x0, .long x1])).length) Slot.unset).toArray = ls at hl ⊢
  replace hl : lv_has ls 3 [(0, .int x0), (1, .long x1)] := hl
  have hret : hrX3_asLane p l e s m ([.int x0, .long x1] : List Value).toArray below meth c s.heap [] (MQ below (vp_Sl Q) ([.int x0, .long x1] : List Value).toArray s 0 0 (fun _ => False)) Q := fun r pc ls hq hd => W.lret hx hb hr (fun t ht hW => ⟨r, rfl, hq, ht⟩) t_nil hd
  unfold wX3_asLane at hf
  refine lv_iload_n hx hb dX3_asLane_0 rfl (lv_at hl 0 rfl) ?_
  refine lv_if_ne (tgt := 14) hx hb dX3_asLane_1 (by decide) (fun c_1 => ?_) (fun c_1 => ?_)
  · replace hf := hf.2 c_1
    refine lv_iload_n hx hb dX3_asLane_14 rfl (lv_at hl 0 rfl) ?_
    refine lv_iconst (v := 1) hx hb dX3_asLane_15 (by decide) ?_
    refine lv_icmp_ne (tgt := 29) hx hb dX3_asLane_16 (by decide) (fun c_16 => ?_) (fun c_16 => ?_)
    · replace hf := hf.2 c_16
      refine lv_iload_n hx hb dX3_asLane_29 rfl (lv_at hl 0 rfl) ?_
      refine lv_iconst (v := 2) hx hb dX3_asLane_30 (by decide) ?_
      refine lv_icmp_ne (tgt := 44) hx hb dX3_asLane_31 (by decide) (fun c_31 => ?_) (fun c_31 => ?_)
      · replace hf := hf.2 c_31
        refine lv_lload_n hx hb dX3_asLane_44 rfl (lv_at hl 1 rfl) ?_
        exact hret _ _ _ hf dX3_asLane_45
      · replace hf := hf.1 c_31
        refine lv_lload_n hx hb dX3_asLane_34 rfl (lv_at hl 1 rfl) ?_
        refine lv_bipush (v := 32) hx hb dX3_asLane_35 (by decide) ?_
        refine lv_lshl (v := (x1 <<< ((32 : Int32).toInt64 &&& 63))) hx hb dX3_asLane_37 rfl ?_
        refine lv_bipush (v := 32) hx hb dX3_asLane_38 (by decide) ?_
        refine lv_lshr (v := ((x1 <<< ((32 : Int32).toInt64 &&& 63)) >>> ((32 : Int32).toInt64 &&& 63))) hx hb dX3_asLane_40 rfl ?_
        refine lv_goto (tgt := 45) hx hb dX3_asLane_41 (by decide) ?_
        exact hret _ _ _ hf dX3_asLane_45
    · replace hf := hf.1 c_16
      refine lv_lload_n hx hb dX3_asLane_19 rfl (lv_at hl 1 rfl) ?_
      refine lv_bipush (v := 48) hx hb dX3_asLane_20 (by decide) ?_
      refine lv_lshl (v := (x1 <<< ((48 : Int32).toInt64 &&& 63))) hx hb dX3_asLane_22 rfl ?_
      refine lv_bipush (v := 48) hx hb dX3_asLane_23 (by decide) ?_
      refine lv_lshr (v := ((x1 <<< ((48 : Int32).toInt64 &&& 63)) >>> ((48 : Int32).toInt64 &&& 63))) hx hb dX3_asLane_25 rfl ?_
      refine lv_goto (tgt := 45) hx hb dX3_asLane_26 (by decide) ?_
      exact hret _ _ _ hf dX3_asLane_45
  · replace hf := hf.1 c_1
    refine lv_lload_n hx hb dX3_asLane_4 rfl (lv_at hl 1 rfl) ?_
    refine lv_bipush (v := 56) hx hb dX3_asLane_5 (by decide) ?_
    refine lv_lshl (v := (x1 <<< ((56 : Int32).toInt64 &&& 63))) hx hb dX3_asLane_7 rfl ?_
    refine lv_bipush (v := 56) hx hb dX3_asLane_8 (by decide) ?_
    refine lv_lshr (v := ((x1 <<< ((56 : Int32).toInt64 &&& 63)) >>> ((56 : Int32).toInt64 &&& 63))) hx hb dX3_asLane_10 rfl ?_
    refine lv_goto (tgt := 45) hx hb dX3_asLane_11 (by decide) ?_
    exact hret _ _ _ hf dX3_asLane_45
/-! HoleCountyModel.item(IIIJ)I -/
theorem pdX3_item : DscOk yX3_item 4 := by decide +kernel
abbrev rmX3_item : Room := { frames := 2, cells := 0, slots := 0, locals := 49 }
abbrev RX3_item_ : Room := (headSpec (ws_ yX3_item cX3_item 7 (some .int)) rmX3_item).room
section
variable {p : Program} {l : Launch} {e : Env} {s : State} {m : MethodId} {args : Array Value} {below : List Frame} {meth : Method} {c : Code} {Qw : State → Prop} {dC : Nat → ClassId} {dI : Nat → Nat → Nat} {dA : Nat → ClassId} {h : Nat → Nat}
abbrev hrX3_item (p : Program) (l : Launch) (e : Env) (s : State) (m : MethodId) (args : Array Value) (below : List Frame) (meth : Method) (c : Code) (dC : Nat → ClassId) (dI : Nat → Nat → Nat) (dA : Nat → ClassId) (h : Nat → Nat) (Qw : State → Prop) (Q : Int32 → (Nat → Int64) → Prop) (depths : (Nat → Int32)) (owners : (Nat → Int32)) (roofs : Int64) (rate : Int32) (undos : (Nat → Int32)) (undoMany : Int32) (drawn : Int32) (dug : Int64) (deep : Int64) (holes : (Nat → Int64)) (holeMany : Int32) (tape : (Nat → Int32)) (taped : Int32) (place : Int32) (reads : Int32) (read_ : (Nat → Int32)) (row : (Nat → Int32)) (order : (Nat → Int32)) (bestOrder : (Nat → Int32)) (nears : (Nat → Int32)) (isKept : Int32) (keptRoofs : Int64) (kept : (Nat → Int32)) (lanes : (Nat → Int32)) (rowSizes : (Nat → Int32)) (moved : (Nat → Int64)) : Prop := ∀ (r : Int32) (items : (Nat → Int64)) (H : Heap) (locs : List Loc) (pc : Nat) (ls : Array Slot), Q r items → va_P (dC, dI) vwCl (wM h dA depths owners roofs rate undos undoMany drawn dug deep holes holeMany tape taped place reads read_ row order bestOrder nears isKept keptRoofs kept lanes rowSizes items moved) H → va_S (mA h) s.heap H locs → decode cX3_item pc = .ok (.ireturn, 1) → W p l e RX3_item_ s m args below meth c H locs 0 0 Qw (F0 m pc ls [.int r])
def wX3_item (Q : Int32 → (Nat → Int64) → Prop) (lanes : (Nat → Int32)) (rowSizes : (Nat → Int32)) (items : (Nat → Int64)) (x1 : Int32) (x2 : Int32) (x3 : Int32) (x4 : Int64) : Prop := (wX3_isSheet (fun r_2 => ((r_2 = 0 → (Q (-1) items)) ∧ (¬ r_2 = 0 → (wX3_lacksRow (fun r_15 => ((0 ≤ r_15 → (wX3_asLane (fun r_41 => (vp_in ((36 * x1) + x3) 144 ∧ (∀ items_44 : Nat → Int64, items_44 = vp_updL items (((36 * x1) + x3) : Int32).toNatClampNeg r_41 → (Q 1 items_44)))) x2 x4)) ∧ (¬ 0 ≤ r_15 → (Q r_15 items)))) lanes rowSizes x1 x2 x3 1)))) x1 x2)
end
set_option maxHeartbeats 4000000 in
set_option maxRecDepth 100000 in
theorem metX3_item (l : Launch) {Q : Int32 → (Nat → Int64) → Prop} {depths : (Nat → Int32)} {owners : (Nat → Int32)} {roofs : Int64} {rate : Int32} {undos : (Nat → Int32)} {undoMany : Int32} {drawn : Int32} {dug : Int64} {deep : Int64} {holes : (Nat → Int64)} {holeMany : Int32} {tape : (Nat → Int32)} {taped : Int32} {place : Int32} {reads : Int32} {read_ : (Nat → Int32)} {row : (Nat → Int32)} {order : (Nat → Int32)} {bestOrder : (Nat → Int32)} {nears : (Nat → Int32)} {isKept : Int32} {keptRoofs : Int64} {kept : (Nat → Int32)} {lanes : (Nat → Int32)} {rowSizes : (Nat → Int32)} {items : (Nat → Int64)} {moved : (Nat → Int64)} {x1 : Int32} {x2 : Int32} {x3 : Int32} {x4 : Int64} {dC : Nat → ClassId} {dI : Nat → Nat → Nat} {dA : Nat → ClassId} {h : Nat → Nat} (hj : mJ h) (hf : wX3_item Q lanes rowSizes items x1 x2 x3 x4) : Met l yX3_item (ws_ yX3_item cX3_item 7 (some .int)) rmX3_item (mPc dC dI dA h [.int x1, .int x2, .int x3, .long x4] (wM h dA depths owners roofs rate undos undoMany drawn dug deep holes holeMany tape taped place reads read_ row order bestOrder nears isKept keptRoofs kept lanes rowSizes items moved)) (va_Qi (fun (r : Int32) (u : (Nat → Int64)) => Q r u) (fun u t => va_P (dC, dI) vwCl (wM h dA depths owners roofs rate undos undoMany drawn dug deep holes holeMany tape taped place reads read_ row order bestOrder nears isKept keptRoofs kept lanes rowSizes u moved) t.heap) (mA h)) 0 0 (mA h) := by
  refine Met.ofW (cc := cX3_item) (maxL := 7) (ret := (some .int)) (by decide) rfl ?_
  intro p e s m args below meth c s₁ B hml hv
  obtain ⟨rfl, hP, hK⟩ := hv
  have hx := B.exec
  have hb := B.bytes
  have hr := B.returns
  have hts := atoms_spec (ws := (ws_ yX3_item cX3_item 7 (some .int))) B.pre
  have hts : ∀ w ∈ lw_all, w.before _ s = true := fun w h => hts w (List.mem_cons_of_mem _ h)
  have hown : s.vm.findClass RX3 = some m.cls := findClass_of_methodNamed B.named
  have hlocks := B.notSynchronized
  have S : CallFix p m c cX3_item 7 s _ lw_all RX3 := ⟨hx, hb, hml, hown, hts⟩
  have hS : va_S (mA h) s.heap s.heap [] := va_S.rf
  have hl := lv_entry ([.ref (h 0), .int x1, .int x2, .int x3, .long x4]) (n := 7) (Nat.le_of_ble_eq_true rfl)
  rw [lg_entry_eq]
  generalize (lg_sl ([.ref (h 0), .int x1, .int x2, .int x3, .long x4]) ++ List.replicate (7 - (lg_sl ([.ref (h 0), .int x1, .int x2, .int x3, .long x4])).length) Slot.unset).toArray = ls at hl ⊢
  replace hl : lv_has ls 7 [(0, .ref (h 0)), (1, .int x1), (2, .int x2), (3, .int x3), (4, .long x4)] := hl
  have hret : hrX3_item p l e s m ([.ref (h 0), .int x1, .int x2, .int x3, .long x4] : List Value).toArray below meth c dC dI dA h (MQ below (va_Qi (fun (r : Int32) (u : (Nat → Int64)) => Q r u) (fun u t => va_P (dC, dI) vwCl (wM h dA depths owners roofs rate undos undoMany drawn dug deep holes holeMany tape taped place reads read_ row order bestOrder nears isKept keptRoofs kept lanes rowSizes u moved) t.heap) (mA h)) ([.ref (h 0), .int x1, .int x2, .int x3, .long x4] : List Value).toArray s 0 0 (mA h)) Q depths owners roofs rate undos undoMany drawn dug deep holes holeMany tape taped place reads read_ row order bestOrder nears isKept keptRoofs kept lanes rowSizes moved := fun r items H locs pc ls hq hP hS hd => W.iret hx hb hr (fun t ht hW => ⟨⟨r, items, rfl, hq, by subst ht; exact hP⟩, hS.F ht⟩) hS.2.2 hd
  unfold wX3_item at hf
  refine lv_iload_n hx hb dX3_item_0 rfl (lv_at hl 1 rfl) ?_
  refine lv_iload_n hx hb dX3_item_1 rfl (lv_at hl 2 rfl) ?_
  refine cs_i (As := [.int x1, .int x2]) (rest := []) S (metX3_isSheet l hf) (lw_S q1567 q1568 q60 q1569) pdX3_isSheet ⟨rfl, rfl⟩ ⟨Nat.le_of_ble_eq_true rfl, Nat.le_of_ble_eq_true rfl⟩ rfl hl.1 rfl (Nat.le_of_ble_eq_true rfl) dX3_item_2 ⟨Nat.zero_le _, Nat.zero_le _⟩ (fun r_2 hf => ?_)
  refine lv_if_ne (tgt := 10) hx hb dX3_item_5 (by decide) (fun c_5 => ?_) (fun c_5 => ?_)
  · replace hf := hf.2 c_5
    refine lv_aload_n hx hb dX3_item_10 rfl (lv_at hl 0 rfl) ?_
    refine lv_iload_n hx hb dX3_item_11 rfl (lv_at hl 1 rfl) ?_
    refine lv_iload_n hx hb dX3_item_12 rfl (lv_at hl 2 rfl) ?_
    refine lv_iload_n hx hb dX3_item_13 rfl (lv_at hl 3 rfl) ?_
    refine lv_iconst (v := 1) hx hb dX3_item_14 (by decide) ?_
    refine cM_i (As := [.int x1, .int x2, .int x3, .int 1]) (rest := []) S hK rfl hP hS (metX3_lacksRow l hj hf) (lw_V q1578 q1580 qs52 q60 q1581) rfl pdX3_lacksRow ⟨rfl, rfl⟩ ⟨Nat.le_of_ble_eq_true rfl, Nat.le_of_ble_eq_true rfl⟩ rfl hl.1 rfl (Nat.le_of_ble_eq_true rfl) dX3_item_15 ⟨Nat.zero_le _, Nat.zero_le _⟩ (fun r_15 u_15 H locs hf hP hS => ?_)
    replace hP : va_P (dC, dI) vwCl (wM h dA depths owners roofs rate undos undoMany drawn dug deep holes holeMany tape taped place reads read_ row order bestOrder nears isKept keptRoofs kept lanes rowSizes items moved) H := hP
    try dsimp only at hf
    refine lv_istore (lv' := [(6, .int r_15), (0, .ref (h 0)), (1, .int x1), (2, .int x2), (3, .int x3), (4, .long x4)]) hx hb dX3_item_18 hl (by decide) rfl (fun ls hl => ?_)
    refine lv_iload hx hb dX3_item_20 (lv_at hl 0 rfl) ?_
    refine lv_if_ge (tgt := 28) hx hb dX3_item_22 (by decide) (fun c_22 => ?_) (fun c_22 => ?_)
    · replace hf := hf.1 c_22
      refine lv_aload_n hx hb dX3_item_28 rfl (lv_at hl 1 rfl) ?_
      refine gM_items S hK hP dX3_item_29 ?_
      refine lv_bipush (v := 36) hx hb dX3_item_32 (by decide) ?_
      refine lv_iload_n hx hb dX3_item_34 rfl (lv_at hl 2 rfl) ?_
      refine lv_imul hx hb dX3_item_35 ?_
      refine lv_iload_n hx hb dX3_item_36 rfl (lv_at hl 4 rfl) ?_
      refine lv_iadd hx hb dX3_item_37 ?_
      refine lv_iload_n hx hb dX3_item_38 rfl (lv_at hl 3 rfl) ?_
      refine lv_lload hx hb dX3_item_39 (lv_at hl 5 rfl) ?_
      refine cs_l (As := [.int x2, .long x4]) (rest := [.int ((36 * x1) + x3), .ref (h 14)]) S (metX3_asLane l hf) (lw_S q1582 q1583 q60 q1584) pdX3_asLane ⟨rfl, rfl⟩ ⟨Nat.le_of_ble_eq_true rfl, Nat.le_of_ble_eq_true rfl⟩ rfl hl.1 rfl (Nat.le_of_ble_eq_true rfl) dX3_item_41 ⟨Nat.zero_le _, Nat.zero_le _⟩ (fun r_41 hf => ?_)
      obtain ⟨hin, hf⟩ := hf
      obtain ⟨items_44, eitems_44⟩ : ∃ z : Nat → Int64, z = vp_updL items (((36 * x1) + x3) : Int32).toNatClampNeg r_41 := ⟨_, rfl⟩
      replace hf := hf items_44 eitems_44
      refine sM_items S hK hj hP hS hin eitems_44 dX3_item_44 (fun H locs hP hS => ?_)
      refine lv_iconst (v := 1) hx hb dX3_item_45 (by decide) ?_
      exact hret _ _ _ _ _ _ hf hP hS dX3_item_46
    · replace hf := hf.2 c_22
      refine lv_iload hx hb dX3_item_25 (lv_at hl 0 rfl) ?_
      exact hret _ _ _ _ _ _ hf hP hS dX3_item_27
  · replace hf := hf.1 c_5
    refine lv_iconst (v := (-1)) hx hb dX3_item_8 (by decide) ?_
    exact hret _ _ _ _ _ _ hf hP hS dX3_item_9
