/-! HoleCountyModel.fewestDug(JJJ)I -/
theorem pdX3_fewestDug : DscOk yX3_fewestDug 3 := by decide +kernel
abbrev rmX3_fewestDug : Room := { frames := 2, cells := 0, slots := 0, locals := 50 }
abbrev RX3_fewestDug_ : Room := (headSpec (ws_ yX3_fewestDug cX3_fewestDug 12 (some .int)) rmX3_fewestDug).room
section
variable {p : Program} {l : Launch} {e : Env} {s : State} {m : MethodId} {args : Array Value} {below : List Frame} {meth : Method} {c : Code} {Qw : State → Prop} {dC : Nat → ClassId} {dI : Nat → Nat → Nat} {dA : Nat → ClassId} {h : Nat → Nat}
abbrev hrX3_fewestDug (p : Program) (l : Launch) (e : Env) (s : State) (m : MethodId) (args : Array Value) (below : List Frame) (meth : Method) (c : Code) (dC : Nat → ClassId) (dI : Nat → Nat → Nat) (dA : Nat → ClassId) (h : Nat → Nat) (Qw : State → Prop) (Q : Int32 → Prop) (depths : (Nat → Int32)) (owners : (Nat → Int32)) (roofs : Int64) (rate : Int32) (undos : (Nat → Int32)) (undoMany : Int32) (drawn : Int32) (dug : Int64) (deep : Int64) (holes : (Nat → Int64)) (holeMany : Int32) (tape : (Nat → Int32)) (taped : Int32) (place : Int32) (reads : Int32) (read_ : (Nat → Int32)) (row : (Nat → Int32)) (order : (Nat → Int32)) (bestOrder : (Nat → Int32)) (nears : (Nat → Int32)) (isKept : Int32) (keptRoofs : Int64) (kept : (Nat → Int32)) (lanes : (Nat → Int32)) (rowSizes : (Nat → Int32)) (items : (Nat → Int64)) (moved : (Nat → Int64)) : Prop := ∀ (r : Int32) (H : Heap) (locs : List Loc) (pc : Nat) (ls : Array Slot), Q r → va_P (dC, dI) vwCl (wM h dA depths owners roofs rate undos undoMany drawn dug deep holes holeMany tape taped place reads read_ row order bestOrder nears isKept keptRoofs kept lanes rowSizes items moved) H → va_S (mA h) s.heap H locs → decode cX3_fewestDug pc = .ok (.ireturn, 1) → W p l e RX3_fewestDug_ s m args below meth c H locs 0 0 Qw (F0 m pc ls [.int r])
def wX3_fewestDug_13 (Q : Int32 → Prop) (x3 : Int64) (x5 : Int64) (dug : Int64) : Nat → Int64 → Int32 → Prop
  | 0, _, _ => False
  | n + 1, x7, x9 => (((x7 &&& x3) = 0 → ((40 ≤ x9 → (Q x9)) ∧ (¬ 40 ≤ x9 → (wX3_beside (fun r_33 => (∀ x10_40 : Int64, x10_40 = (x7 ||| (r_33 &&& x5)) → (wX3_grown (fun r_51 => (∀ x9_56 : Int32, x9_56 = x9 + 1 → ((wX3_fewestDug_13 Q x3 x5 dug n) r_51 x9_56))) x10_40 (dug ||| x10_40)))) x7)))) ∧ (¬ (x7 &&& x3) = 0 → (Q x9)))
set_option maxHeartbeats 4000000 in
set_option maxRecDepth 100000 in
theorem tX3_fewestDug_13 {Q : Int32 → Prop} {x3 : Int64} {x5 : Int64} {depths : (Nat → Int32)} {owners : (Nat → Int32)} {roofs : Int64} {rate : Int32} {undos : (Nat → Int32)} {undoMany : Int32} {drawn : Int32} {dug : Int64} {deep : Int64} {holes : (Nat → Int64)} {holeMany : Int32} {tape : (Nat → Int32)} {taped : Int32} {place : Int32} {reads : Int32} {read_ : (Nat → Int32)} {row : (Nat → Int32)} {order : (Nat → Int32)} {bestOrder : (Nat → Int32)} {nears : (Nat → Int32)} {isKept : Int32} {keptRoofs : Int64} {kept : (Nat → Int32)} {lanes : (Nat → Int32)} {rowSizes : (Nat → Int32)} {items : (Nat → Int64)} {moved : (Nat → Int64)} (S : CallFix p m c cX3_fewestDug 12 s args lw_all RX3) (hK : va_K (dC, dI) vwCl (tysG dA) s) (hj : mJ h) (hret : hrX3_fewestDug p l e s m args below meth c dC dI dA h Qw Q depths owners roofs rate undos undoMany drawn dug deep holes holeMany tape taped place reads read_ row order bestOrder nears isKept keptRoofs kept lanes rowSizes items moved) : ∀ (n : Nat) (x7 : Int64) (x9 : Int32) (H : Heap) (locs : List Loc) (ls : Array Slot), wX3_fewestDug_13 Q x3 x5 dug n x7 x9 → va_P (dC, dI) vwCl (wM h dA depths owners roofs rate undos undoMany drawn dug deep holes holeMany tape taped place reads read_ row order bestOrder nears isKept keptRoofs kept lanes rowSizes items moved) H → va_S (mA h) s.heap H locs → lv_has ls 12 [(0, .ref (h 0)), (3, .long x3), (5, .long x5), (7, .long x7), (9, .int x9)] → W p l e RX3_fewestDug_ s m args below meth c H locs 0 0 Qw (F0 m 13 ls []) := by
  obtain ⟨hx, hb, hml, hown, hts⟩ := id S
  intro n
  induction n with
  | zero => intro _ _ _ _ _ hf; exact hf.elim
  | succ n ih =>
    intro x7 x9 H locs ls hf hP hS hl
    rw [wX3_fewestDug_13] at hf
    refine lv_lload hx hb dX3_fewestDug_13 (lv_at hl 3 rfl) ?_
    refine lv_lload_n hx hb dX3_fewestDug_15 rfl (lv_at hl 1 rfl) ?_
    refine lv_land hx hb dX3_fewestDug_16 ?_
    refine lv_lconst (v := 0) hx hb dX3_fewestDug_17 (by decide) ?_
    refine lc_ne (tgt := 62) hx hb dX3_fewestDug_18 dX3_fewestDug_19 (by decide) (fun c_18 => ?_) (fun c_18 => ?_)
    · replace hf := hf.2 c_18
      refine lv_iload hx hb dX3_fewestDug_62 (lv_at hl 4 rfl) ?_
      exact hret _ _ _ _ _ hf hP hS dX3_fewestDug_64
    · replace hf := hf.1 c_18
      refine lv_iload hx hb dX3_fewestDug_22 (lv_at hl 4 rfl) ?_
      refine lv_bipush (v := 40) hx hb dX3_fewestDug_24 (by decide) ?_
      refine lv_icmp_ge (tgt := 62) hx hb dX3_fewestDug_26 (by decide) (fun c_26 => ?_) (fun c_26 => ?_)
      · replace hf := hf.1 c_26
        refine lv_iload hx hb dX3_fewestDug_62 (lv_at hl 4 rfl) ?_
        exact hret _ _ _ _ _ hf hP hS dX3_fewestDug_64
      · replace hf := hf.2 c_26
        refine lv_lload hx hb dX3_fewestDug_29 (lv_at hl 3 rfl) ?_
        refine lv_lload hx hb dX3_fewestDug_31 (lv_at hl 3 rfl) ?_
        refine cs_l (As := [.long x7]) (rest := [.long x7]) S (metX3_beside l hf) (lw_S q1320 q1321 q60 q1322) pdX3_beside ⟨rfl, rfl⟩ ⟨Nat.le_of_ble_eq_true rfl, Nat.le_of_ble_eq_true rfl⟩ rfl hl.1 rfl (Nat.le_of_ble_eq_true rfl) dX3_fewestDug_33 ⟨Nat.zero_le _, Nat.zero_le _⟩ (fun r_33 hf => ?_)
        refine lv_lload hx hb dX3_fewestDug_36 (lv_at hl 2 rfl) ?_
        refine lv_land hx hb dX3_fewestDug_38 ?_
        refine lv_lor hx hb dX3_fewestDug_39 ?_
        refine lv_topl (fun x10_40 ex10_40 => ?_)
        replace hf := hf x10_40 ex10_40
        refine lv_lstore (lv' := [(10, .long x10_40), (0, .ref (h 0)), (3, .long x3), (5, .long x5), (7, .long x7), (9, .int x9)]) hx hb dX3_fewestDug_40 hl (by decide) rfl (fun ls hl => ?_)
        refine lv_lload hx hb dX3_fewestDug_42 (lv_at hl 0 rfl) ?_
        refine lv_aload_n hx hb dX3_fewestDug_44 rfl (lv_at hl 1 rfl) ?_
        refine gM_dug S hK hP dX3_fewestDug_45 ?_
        refine lv_lload hx hb dX3_fewestDug_48 (lv_at hl 0 rfl) ?_
        refine lv_lor hx hb dX3_fewestDug_50 ?_
        refine cs_l (As := [.long x10_40, .long (dug ||| x10_40)]) (rest := []) S (metX3_grown l hf) (lw_S q1317 q1318 q60 q1319) pdX3_grown ⟨rfl, rfl⟩ ⟨Nat.le_of_ble_eq_true rfl, Nat.le_of_ble_eq_true rfl⟩ rfl hl.1 rfl (Nat.le_of_ble_eq_true rfl) dX3_fewestDug_51 ⟨Nat.zero_le _, Nat.zero_le _⟩ (fun r_51 hf => ?_)
        refine lv_lstore (lv' := [(7, .long r_51), (10, .long x10_40), (0, .ref (h 0)), (3, .long x3), (5, .long x5), (9, .int x9)]) hx hb dX3_fewestDug_54 hl (by decide) rfl (fun ls hl => ?_)
        obtain ⟨x9_56, ex9_56⟩ : ∃ z : Int32, z = x9 + 1 := ⟨_, rfl⟩
        replace hf := hf x9_56 ex9_56
        refine lv_iinc (v := x9_56) (lv' := [(9, .int x9_56), (7, .long r_51), (10, .long x10_40), (0, .ref (h 0)), (3, .long x3), (5, .long x5)]) hx hb dX3_fewestDug_56 hl (k := 5) rfl (by rw [ex9_56]; rfl) (by decide) rfl (fun ls hl => ?_)
        refine lv_goto (tgt := 13) hx hb dX3_fewestDug_59 (by decide) ?_
        exact ih r_51 x9_56 _ _ _ hf hP hS (lv_sub hl [3, 4, 5, 1, 0] rfl)
def wX3_fewestDug (Q : Int32 → Prop) (dug : Int64) (x1 : Int64) (x3 : Int64) (x5 : Int64) : Prop := (wX3_grown (fun r_5 => (∃ fu : Nat, wX3_fewestDug_13 Q x3 x5 dug fu r_5 0)) x1 dug)
end
set_option maxHeartbeats 4000000 in
set_option maxRecDepth 100000 in
theorem metX3_fewestDug (l : Launch) {Q : Int32 → Prop} {depths : (Nat → Int32)} {owners : (Nat → Int32)} {roofs : Int64} {rate : Int32} {undos : (Nat → Int32)} {undoMany : Int32} {drawn : Int32} {dug : Int64} {deep : Int64} {holes : (Nat → Int64)} {holeMany : Int32} {tape : (Nat → Int32)} {taped : Int32} {place : Int32} {reads : Int32} {read_ : (Nat → Int32)} {row : (Nat → Int32)} {order : (Nat → Int32)} {bestOrder : (Nat → Int32)} {nears : (Nat → Int32)} {isKept : Int32} {keptRoofs : Int64} {kept : (Nat → Int32)} {lanes : (Nat → Int32)} {rowSizes : (Nat → Int32)} {items : (Nat → Int64)} {moved : (Nat → Int64)} {x1 : Int64} {x3 : Int64} {x5 : Int64} {dC : Nat → ClassId} {dI : Nat → Nat → Nat} {dA : Nat → ClassId} {h : Nat → Nat} (hj : mJ h) (hf : wX3_fewestDug Q dug x1 x3 x5) : Met l yX3_fewestDug (ws_ yX3_fewestDug cX3_fewestDug 12 (some .int)) rmX3_fewestDug (mPc dC dI dA h [.long x1, .long x3, .long x5] (wM h dA depths owners roofs rate undos undoMany drawn dug deep holes holeMany tape taped place reads read_ row order bestOrder nears isKept keptRoofs kept lanes rowSizes items moved)) (va_Qi (fun (r : Int32) (u : Unit) => Q r) (fun u t => va_P (dC, dI) vwCl (wM h dA depths owners roofs rate undos undoMany drawn dug deep holes holeMany tape taped place reads read_ row order bestOrder nears isKept keptRoofs kept lanes rowSizes items moved) t.heap) (mA h)) 0 0 (mA h) := by
  refine Met.ofW (cc := cX3_fewestDug) (maxL := 12) (ret := (some .int)) (by decide) rfl ?_
  intro p e s m args below meth c s₁ B hml hv
  obtain ⟨rfl, hP, hK⟩ := hv
  have hx := B.exec
  have hb := B.bytes
  have hr := B.returns
  have hts := atoms_spec (ws := (ws_ yX3_fewestDug cX3_fewestDug 12 (some .int))) B.pre
  have hts : ∀ w ∈ lw_all, w.before _ s = true := fun w h => hts w (List.mem_cons_of_mem _ h)
  have hown : s.vm.findClass RX3 = some m.cls := findClass_of_methodNamed B.named
  have hlocks := B.notSynchronized
  have S : CallFix p m c cX3_fewestDug 12 s _ lw_all RX3 := ⟨hx, hb, hml, hown, hts⟩
  have hS : va_S (mA h) s.heap s.heap [] := va_S.rf
  have hl := lv_entry ([.ref (h 0), .long x1, .long x3, .long x5]) (n := 12) (Nat.le_of_ble_eq_true rfl)
  rw [lg_entry_eq]
  generalize (lg_sl ([.ref (h 0), .long x1, .long x3, .long x5]) ++ List.replicate (12 - (lg_sl ([.ref (h 0), .long x1, .long x3, .long x5])).length) Slot.unset).toArray = ls at hl ⊢
  replace hl : lv_has ls 12 [(0, .ref (h 0)), (1, .long x1), (3, .long x3), (5, .long x5)] := hl
  have hret : hrX3_fewestDug p l e s m ([.ref (h 0), .long x1, .long x3, .long x5] : List Value).toArray below meth c dC dI dA h (MQ below (va_Qi (fun (r : Int32) (u : Unit) => Q r) (fun u t => va_P (dC, dI) vwCl (wM h dA depths owners roofs rate undos undoMany drawn dug deep holes holeMany tape taped place reads read_ row order bestOrder nears isKept keptRoofs kept lanes rowSizes items moved) t.heap) (mA h)) ([.ref (h 0), .long x1, .long x3, .long x5] : List Value).toArray s 0 0 (mA h)) Q depths owners roofs rate undos undoMany drawn dug deep holes holeMany tape taped place reads read_ row order bestOrder nears isKept keptRoofs kept lanes rowSizes items moved := fun r H locs pc ls hq hP hS hd => W.iret hx hb hr (fun t ht hW => ⟨⟨r, (), rfl, hq, by subst ht; exact hP⟩, hS.F ht⟩) hS.2.2 hd
  unfold wX3_fewestDug at hf
  refine lv_lload_n hx hb dX3_fewestDug_0 rfl (lv_at hl 1 rfl) ?_
  refine lv_aload_n hx hb dX3_fewestDug_1 rfl (lv_at hl 0 rfl) ?_
  refine gM_dug S hK hP dX3_fewestDug_2 ?_
  refine cs_l (As := [.long x1, .long dug]) (rest := []) S (metX3_grown l hf) (lw_S q1317 q1318 q60 q1319) pdX3_grown ⟨rfl, rfl⟩ ⟨Nat.le_of_ble_eq_true rfl, Nat.le_of_ble_eq_true rfl⟩ rfl hl.1 rfl (Nat.le_of_ble_eq_true rfl) dX3_fewestDug_5 ⟨Nat.zero_le _, Nat.zero_le _⟩ (fun r_5 hf => ?_)
  refine lv_lstore (lv' := [(7, .long r_5), (0, .ref (h 0)), (1, .long x1), (3, .long x3), (5, .long x5)]) hx hb dX3_fewestDug_8 hl (by decide) rfl (fun ls hl => ?_)
  refine lv_iconst (v := 0) hx hb dX3_fewestDug_10 (by decide) ?_
  refine lv_istore (lv' := [(9, .int 0), (7, .long r_5), (0, .ref (h 0)), (1, .long x1), (3, .long x3), (5, .long x5)]) hx hb dX3_fewestDug_11 hl (by decide) rfl (fun ls hl => ?_)
  obtain ⟨fu, hf⟩ := hf
  exact tX3_fewestDug_13 S hK hj hret fu r_5 0 _ _ _ hf hP hS (lv_sub hl [2, 4, 5, 1, 0] rfl)
/-! HoleCountyModel.dug(III)I -/
theorem pdX3_dug : DscOk yX3_dug 3 := by decide +kernel
abbrev rmX3_dug : Room := { frames := 3, cells := 0, slots := 0, locals := 81 }
abbrev RX3_dug_ : Room := (headSpec (ws_ yX3_dug cX3_dug 18 (some .int)) rmX3_dug).room
section
variable {p : Program} {l : Launch} {e : Env} {s : State} {m : MethodId} {args : Array Value} {below : List Frame} {meth : Method} {c : Code} {Qw : State → Prop} {dC : Nat → ClassId} {dI : Nat → Nat → Nat} {dA : Nat → ClassId} {h : Nat → Nat}
abbrev hrX3_dug (p : Program) (l : Launch) (e : Env) (s : State) (m : MethodId) (args : Array Value) (below : List Frame) (meth : Method) (c : Code) (dC : Nat → ClassId) (dI : Nat → Nat → Nat) (dA : Nat → ClassId) (h : Nat → Nat) (Qw : State → Prop) (Q : Int32 → Int64 → Int64 → (Nat → Int32) → Prop) (depths : (Nat → Int32)) (owners : (Nat → Int32)) (roofs : Int64) (rate : Int32) (undos : (Nat → Int32)) (undoMany : Int32) (drawn : Int32) (holes : (Nat → Int64)) (holeMany : Int32) (tape : (Nat → Int32)) (taped : Int32) (place : Int32) (reads : Int32) (read_ : (Nat → Int32)) (order : (Nat → Int32)) (bestOrder : (Nat → Int32)) (nears : (Nat → Int32)) (isKept : Int32) (keptRoofs : Int64) (kept : (Nat → Int32)) (lanes : (Nat → Int32)) (rowSizes : (Nat → Int32)) (items : (Nat → Int64)) (moved : (Nat → Int64)) : Prop := ∀ (r : Int32) (dug : Int64) (deep : Int64) (row : (Nat → Int32)) (H : Heap) (locs : List Loc) (pc : Nat) (ls : Array Slot), Q r dug deep row → va_P (dC, dI) vwCl (wM h dA depths owners roofs rate undos undoMany drawn dug deep holes holeMany tape taped place reads read_ row order bestOrder nears isKept keptRoofs kept lanes rowSizes items moved) H → va_S (mA h) s.heap H locs → decode cX3_dug pc = .ok (.ireturn, 1) → W p l e RX3_dug_ s m args below meth c H locs 0 0 Qw (F0 m pc ls [.int r])
def wX3_dug_251 (Q : Int32 → Int64 → Int64 → (Nat → Int32) → Prop) (x3 : Int32) (x8 : Int32) (depths : (Nat → Int32)) (dug : Int64) (deep : Int64) (row : (Nat → Int32)) : Prop := ((0 ≤ x3 → ((x8 ≤ x3 → (Q (-4) dug deep row)) ∧ (¬ x8 ≤ x3 → (vp_in x3 10 ∧ (Q (row (x3 : Int32).toNatClampNeg) dug deep row))))) ∧ (¬ 0 ≤ x3 → (Q x8 dug deep row)))
set_option maxHeartbeats 4000000 in
set_option maxRecDepth 100000 in
theorem tX3_dug_251 {Q : Int32 → Int64 → Int64 → (Nat → Int32) → Prop} {depths : (Nat → Int32)} {owners : (Nat → Int32)} {roofs : Int64} {rate : Int32} {undos : (Nat → Int32)} {undoMany : Int32} {drawn : Int32} {holes : (Nat → Int64)} {holeMany : Int32} {tape : (Nat → Int32)} {taped : Int32} {place : Int32} {reads : Int32} {read_ : (Nat → Int32)} {order : (Nat → Int32)} {bestOrder : (Nat → Int32)} {nears : (Nat → Int32)} {isKept : Int32} {keptRoofs : Int64} {kept : (Nat → Int32)} {lanes : (Nat → Int32)} {rowSizes : (Nat → Int32)} {items : (Nat → Int64)} {moved : (Nat → Int64)} (S : CallFix p m c cX3_dug 18 s args lw_all RX3) (hK : va_K (dC, dI) vwCl (tysG dA) s) (hj : mJ h) (hret : hrX3_dug p l e s m args below meth c dC dI dA h Qw Q depths owners roofs rate undos undoMany drawn holes holeMany tape taped place reads read_ order bestOrder nears isKept keptRoofs kept lanes rowSizes items moved) : ∀ (x3 : Int32) (x8 : Int32) (dug : Int64) (deep : Int64) (row : (Nat → Int32)) (H : Heap) (locs : List Loc) (ls : Array Slot), wX3_dug_251 Q x3 x8 depths dug deep row → va_P (dC, dI) vwCl (wM h dA depths owners roofs rate undos undoMany drawn dug deep holes holeMany tape taped place reads read_ row order bestOrder nears isKept keptRoofs kept lanes rowSizes items moved) H → va_S (mA h) s.heap H locs → lv_has ls 18 [(0, .ref (h 0)), (3, .int x3), (8, .int x8)] → W p l e RX3_dug_ s m args below meth c H locs 0 0 Qw (F0 m 251 ls []) := by
  obtain ⟨hx, hb, hml, hown, hts⟩ := id S
  intro x3 x8 dug deep row H locs ls hf hP hS hl
  unfold wX3_dug_251 at hf
  refine lv_iload_n hx hb dX3_dug_251 rfl (lv_at hl 1 rfl) ?_
  refine lv_if_ge (tgt := 260) hx hb dX3_dug_252 (by decide) (fun c_252 => ?_) (fun c_252 => ?_)
  · replace hf := hf.1 c_252
    refine lv_iload_n hx hb dX3_dug_260 rfl (lv_at hl 1 rfl) ?_
    refine lv_iload hx hb dX3_dug_261 (lv_at hl 2 rfl) ?_
    refine lv_icmp_ge (tgt := 275) hx hb dX3_dug_263 (by decide) (fun c_263 => ?_) (fun c_263 => ?_)
    · replace hf := hf.1 c_263
      refine lv_bipush (v := (-4)) hx hb dX3_dug_275 (by decide) ?_
      exact hret _ _ _ _ _ _ _ _ hf hP hS dX3_dug_277
    · replace hf := hf.2 c_263
      refine lv_aload_n hx hb dX3_dug_266 rfl (lv_at hl 0 rfl) ?_
      refine gM_row S hK hP dX3_dug_267 ?_
      refine lv_iload_n hx hb dX3_dug_270 rfl (lv_at hl 1 rfl) ?_
      obtain ⟨hin, hf⟩ := hf
      refine lM_row S hK hP hin dX3_dug_271 ?_
      refine lv_goto (tgt := 277) hx hb dX3_dug_272 (by decide) ?_
      exact hret _ _ _ _ _ _ _ _ hf hP hS dX3_dug_277
  · replace hf := hf.2 c_252
    refine lv_iload hx hb dX3_dug_255 (lv_at hl 2 rfl) ?_
    refine lv_goto (tgt := 277) hx hb dX3_dug_257 (by decide) ?_
    exact hret _ _ _ _ _ _ _ _ hf hP hS dX3_dug_277
def wX3_dug_227 (Q : Int32 → Int64 → Int64 → (Nat → Int32) → Prop) (k114 : Int32 → Int32 → Int64 → (Nat → Int32) → Prop) (k130 : Int32 → Int32 → Int64 → (Nat → Int32) → Prop) (x3 : Int32) (x4 : Int64) (x6 : Int64) (x8 : Int32) (x9 : Int64) (x11 : Int32) (x12 : Int32) (x13 : Int32) (z0 : Int64) (depths : (Nat → Int32)) (dug : Int64) (deep : Int64) (row : (Nat → Int32)) : Prop := (vp_in x12 10 ∧ (∀ row_238 : Nat → Int32, row_238 = upd row (x12 : Int32).toNatClampNeg x11 → (∀ x11_239 : Int32, x11_239 = x11 + 1 → (k130 x11_239 x13 z0 row_238))))
set_option maxHeartbeats 4000000 in
set_option maxRecDepth 100000 in
theorem tX3_dug_227 {Q : Int32 → Int64 → Int64 → (Nat → Int32) → Prop} {x3 : Int32} {x4 : Int64} {x6 : Int64} {x8 : Int32} {x9 : Int64} {x12 : Int32} {depths : (Nat → Int32)} {owners : (Nat → Int32)} {roofs : Int64} {rate : Int32} {undos : (Nat → Int32)} {undoMany : Int32} {drawn : Int32} {holes : (Nat → Int64)} {holeMany : Int32} {tape : (Nat → Int32)} {taped : Int32} {place : Int32} {reads : Int32} {read_ : (Nat → Int32)} {order : (Nat → Int32)} {bestOrder : (Nat → Int32)} {nears : (Nat → Int32)} {isKept : Int32} {keptRoofs : Int64} {kept : (Nat → Int32)} {lanes : (Nat → Int32)} {rowSizes : (Nat → Int32)} {items : (Nat → Int64)} {moved : (Nat → Int64)} {deep : Int64} (S : CallFix p m c cX3_dug 18 s args lw_all RX3) (hK : va_K (dC, dI) vwCl (tysG dA) s) (hj : mJ h) (hret : hrX3_dug p l e s m args below meth c dC dI dA h Qw Q depths owners roofs rate undos undoMany drawn holes holeMany tape taped place reads read_ order bestOrder nears isKept keptRoofs kept lanes rowSizes items moved) {k114 : Int32 → Int32 → Int64 → (Nat → Int32) → Prop} (hk114 : ∀ (x11 : Int32) (x12 : Int32) (dug : Int64) (row : (Nat → Int32)) (H : Heap) (locs : List Loc) (ls : Array Slot), k114 x11 x12 dug row → va_P (dC, dI) vwCl (wM h dA depths owners roofs rate undos undoMany drawn dug deep holes holeMany tape taped place reads read_ row order bestOrder nears isKept keptRoofs kept lanes rowSizes items moved) H → va_S (mA h) s.heap H locs → lv_has ls 18 [(0, .ref (h 0)), (3, .int x3), (4, .long x4), (6, .long x6), (8, .int x8), (9, .long x9), (11, .int x11), (12, .int x12)] → W p l e RX3_dug_ s m args below meth c H locs 0 0 Qw (F0 m 114 ls [])) {k130 : Int32 → Int32 → Int64 → (Nat → Int32) → Prop} (hk130 : ∀ (x11 : Int32) (x13 : Int32) (dug : Int64) (row : (Nat → Int32)) (H : Heap) (locs : List Loc) (ls : Array Slot), k130 x11 x13 dug row → va_P (dC, dI) vwCl (wM h dA depths owners roofs rate undos undoMany drawn dug deep holes holeMany tape taped place reads read_ row order bestOrder nears isKept keptRoofs kept lanes rowSizes items moved) H → va_S (mA h) s.heap H locs → lv_has ls 18 [(0, .ref (h 0)), (3, .int x3), (4, .long x4), (6, .long x6), (8, .int x8), (9, .long x9), (11, .int x11), (12, .int x12), (13, .int x13)] → W p l e RX3_dug_ s m args below meth c H locs 0 0 Qw (F0 m 130 ls [])) : ∀ (x11 : Int32) (x13 : Int32) (z0 : Int64) (dug : Int64) (row : (Nat → Int32)) (H : Heap) (locs : List Loc) (ls : Array Slot), wX3_dug_227 Q k114 k130 x3 x4 x6 x8 x9 x11 x12 x13 z0 depths dug deep row → va_P (dC, dI) vwCl (wM h dA depths owners roofs rate undos undoMany drawn dug deep holes holeMany tape taped place reads read_ row order bestOrder nears isKept keptRoofs kept lanes rowSizes items moved) H → va_S (mA h) s.heap H locs → lv_has ls 18 [(0, .ref (h 0)), (3, .int x3), (4, .long x4), (6, .long x6), (8, .int x8), (9, .long x9), (11, .int x11), (12, .int x12), (13, .int x13)] → W p l e RX3_dug_ s m args below meth c H locs 0 0 Qw (F0 m 227 ls [.long z0, .ref (h 0)]) := by
  obtain ⟨hx, hb, hml, hown, hts⟩ := id S
  intro x11 x13 z0 dug row H locs ls hf hP hS hl
  unfold wX3_dug_227 at hf
  refine pM_dug S hK hj hP hS dX3_dug_227 (fun H locs hP hS => ?_)
  refine lv_aload_n hx hb dX3_dug_230 rfl (lv_at hl 0 rfl) ?_
  refine gM_row S hK hP dX3_dug_231 ?_
  refine lv_iload hx hb dX3_dug_234 (lv_at hl 7 rfl) ?_
  refine lv_iload hx hb dX3_dug_236 (lv_at hl 6 rfl) ?_
  obtain ⟨hin, hf⟩ := hf
  obtain ⟨row_238, erow_238⟩ : ∃ z : Nat → Int32, z = upd row (x12 : Int32).toNatClampNeg x11 := ⟨_, rfl⟩
  replace hf := hf row_238 erow_238
  refine sM_row S hK hj hP hS hin erow_238 dX3_dug_238 (fun H locs hP hS => ?_)
  obtain ⟨x11_239, ex11_239⟩ : ∃ z : Int32, z = x11 + 1 := ⟨_, rfl⟩
  replace hf := hf x11_239 ex11_239
  refine lv_iinc (v := x11_239) (lv' := [(11, .int x11_239), (0, .ref (h 0)), (3, .int x3), (4, .long x4), (6, .long x6), (8, .int x8), (9, .long x9), (12, .int x12), (13, .int x13)]) hx hb dX3_dug_239 hl (k := 6) rfl (by rw [ex11_239]; rfl) (by decide) rfl (fun ls hl => ?_)
  refine lv_goto (tgt := 130) hx hb dX3_dug_242 (by decide) ?_
  exact hk130 x11_239 x13 z0 row_238 _ _ _ hf hP hS (lv_sub hl [1, 2, 3, 4, 5, 6, 0, 7, 8] rfl)
def wX3_dug_210 (Q : Int32 → Int64 → Int64 → (Nat → Int32) → Prop) (k114 : Int32 → Int32 → Int64 → (Nat → Int32) → Prop) (k130 : Int32 → Int32 → Int64 → (Nat → Int32) → Prop) (x3 : Int32) (x4 : Int64) (x6 : Int64) (x8 : Int32) (x9 : Int64) (x11 : Int32) (x12 : Int32) (x16 : Int64) (z0 : Int32) (depths : (Nat → Int32)) (dug : Int64) (deep : Int64) (row : (Nat → Int32)) : Prop := ((z0 = 0 → (wX3_dug_227 Q k114 k130 x3 x4 x6 x8 x9 x11 x12 z0 x16 depths dug deep row)) ∧ (¬ z0 = 0 → (wX3_dug_227 Q k114 k130 x3 x4 x6 x8 x9 x11 x12 z0 dug depths dug deep row)))
set_option maxHeartbeats 4000000 in
set_option maxRecDepth 100000 in
theorem tX3_dug_210 {Q : Int32 → Int64 → Int64 → (Nat → Int32) → Prop} {x3 : Int32} {x4 : Int64} {x6 : Int64} {x8 : Int32} {x9 : Int64} {x12 : Int32} {depths : (Nat → Int32)} {owners : (Nat → Int32)} {roofs : Int64} {rate : Int32} {undos : (Nat → Int32)} {undoMany : Int32} {drawn : Int32} {holes : (Nat → Int64)} {holeMany : Int32} {tape : (Nat → Int32)} {taped : Int32} {place : Int32} {reads : Int32} {read_ : (Nat → Int32)} {order : (Nat → Int32)} {bestOrder : (Nat → Int32)} {nears : (Nat → Int32)} {isKept : Int32} {keptRoofs : Int64} {kept : (Nat → Int32)} {lanes : (Nat → Int32)} {rowSizes : (Nat → Int32)} {items : (Nat → Int64)} {moved : (Nat → Int64)} {deep : Int64} (S : CallFix p m c cX3_dug 18 s args lw_all RX3) (hK : va_K (dC, dI) vwCl (tysG dA) s) (hj : mJ h) (hret : hrX3_dug p l e s m args below meth c dC dI dA h Qw Q depths owners roofs rate undos undoMany drawn holes holeMany tape taped place reads read_ order bestOrder nears isKept keptRoofs kept lanes rowSizes items moved) {k114 : Int32 → Int32 → Int64 → (Nat → Int32) → Prop} (hk114 : ∀ (x11 : Int32) (x12 : Int32) (dug : Int64) (row : (Nat → Int32)) (H : Heap) (locs : List Loc) (ls : Array Slot), k114 x11 x12 dug row → va_P (dC, dI) vwCl (wM h dA depths owners roofs rate undos undoMany drawn dug deep holes holeMany tape taped place reads read_ row order bestOrder nears isKept keptRoofs kept lanes rowSizes items moved) H → va_S (mA h) s.heap H locs → lv_has ls 18 [(0, .ref (h 0)), (3, .int x3), (4, .long x4), (6, .long x6), (8, .int x8), (9, .long x9), (11, .int x11), (12, .int x12)] → W p l e RX3_dug_ s m args below meth c H locs 0 0 Qw (F0 m 114 ls [])) {k130 : Int32 → Int32 → Int64 → (Nat → Int32) → Prop} (hk130 : ∀ (x11 : Int32) (x13 : Int32) (dug : Int64) (row : (Nat → Int32)) (H : Heap) (locs : List Loc) (ls : Array Slot), k130 x11 x13 dug row → va_P (dC, dI) vwCl (wM h dA depths owners roofs rate undos undoMany drawn dug deep holes holeMany tape taped place reads read_ row order bestOrder nears isKept keptRoofs kept lanes rowSizes items moved) H → va_S (mA h) s.heap H locs → lv_has ls 18 [(0, .ref (h 0)), (3, .int x3), (4, .long x4), (6, .long x6), (8, .int x8), (9, .long x9), (11, .int x11), (12, .int x12), (13, .int x13)] → W p l e RX3_dug_ s m args below meth c H locs 0 0 Qw (F0 m 130 ls [])) : ∀ (x11 : Int32) (x16 : Int64) (z0 : Int32) (dug : Int64) (row : (Nat → Int32)) (H : Heap) (locs : List Loc) (ls : Array Slot), wX3_dug_210 Q k114 k130 x3 x4 x6 x8 x9 x11 x12 x16 z0 depths dug deep row → va_P (dC, dI) vwCl (wM h dA depths owners roofs rate undos undoMany drawn dug deep holes holeMany tape taped place reads read_ row order bestOrder nears isKept keptRoofs kept lanes rowSizes items moved) H → va_S (mA h) s.heap H locs → lv_has ls 18 [(0, .ref (h 0)), (3, .int x3), (4, .long x4), (6, .long x6), (8, .int x8), (9, .long x9), (11, .int x11), (12, .int x12), (16, .long x16)] → W p l e RX3_dug_ s m args below meth c H locs 0 0 Qw (F0 m 210 ls [.int z0]) := by
  obtain ⟨hx, hb, hml, hown, hts⟩ := id S
  intro x11 x16 z0 dug row H locs ls hf hP hS hl
  unfold wX3_dug_210 at hf
  refine lv_istore (lv' := [(13, .int z0), (0, .ref (h 0)), (3, .int x3), (4, .long x4), (6, .long x6), (8, .int x8), (9, .long x9), (11, .int x11), (12, .int x12), (16, .long x16)]) hx hb dX3_dug_210 hl (by decide) rfl (fun ls hl => ?_)
  refine lv_aload_n hx hb dX3_dug_212 rfl (lv_at hl 1 rfl) ?_
  refine lv_iload hx hb dX3_dug_213 (lv_at hl 0 rfl) ?_
  refine lv_if_eq (tgt := 225) hx hb dX3_dug_215 (by decide) (fun c_215 => ?_) (fun c_215 => ?_)
  · replace hf := hf.1 c_215
    refine lv_lload hx hb dX3_dug_225 (lv_at hl 9 rfl) ?_
    exact tX3_dug_227 S hK hj hret hk114 hk130 x11 z0 x16 dug row _ _ _ hf hP hS (lv_sub hl [1, 2, 3, 4, 5, 6, 7, 8, 0] rfl)
  · replace hf := hf.2 c_215
    refine lv_aload_n hx hb dX3_dug_218 rfl (lv_at hl 1 rfl) ?_
    refine gM_dug S hK hP dX3_dug_219 ?_
    refine lv_goto (tgt := 227) hx hb dX3_dug_222 (by decide) ?_
    exact tX3_dug_227 S hK hj hret hk114 hk130 x11 z0 dug dug row _ _ _ hf hP hS (lv_sub hl [1, 2, 3, 4, 5, 6, 7, 8, 0] rfl)
def wX3_dug_130 (Q : Int32 → Int64 → Int64 → (Nat → Int32) → Prop) (k114 : Int32 → Int32 → Int64 → (Nat → Int32) → Prop) (x3 : Int32) (x4 : Int64) (x6 : Int64) (x8 : Int32) (x9 : Int64) (x12 : Int32) (depths : (Nat → Int32)) (deep : Int64) : Nat → Int32 → Int32 → Int64 → (Nat → Int32) → Prop
  | 0, _, _, _, _ => False
  | n + 1, x11, x13, dug, row => ((x13 = 0 → (∀ x14_150 : Int64, x14_150 = (x9 &&& (((1 <<< (((x11 + 1) : Int32).toInt64 &&& 63)) - 1) ^^^ (-1))) → (wX3_has (fun r_162 => (∀ dug_177 : Int64, dug_177 = (dug ||| (1 <<< ((x11 : Int32).toInt64 &&& 63))) → ((r_162 = 0 → (wX3_dug_210 Q k114 (wX3_dug_130 Q k114 x3 x4 x6 x8 x9 x12 depths deep n) x3 x4 x6 x8 x9 x11 x12 dug 0 depths dug_177 deep row)) ∧ (¬ r_162 = 0 → (wX3_fewestDug (fun r_192 => ((r_192 = ((x8 - x12) - 1) → (wX3_dug_210 Q k114 (wX3_dug_130 Q k114 x3 x4 x6 x8 x9 x12 depths deep n) x3 x4 x6 x8 x9 x11 x12 dug 1 depths dug_177 deep row)) ∧ (¬ r_192 = ((x8 - x12) - 1) → (wX3_dug_210 Q k114 (wX3_dug_130 Q k114 x3 x4 x6 x8 x9 x12 depths deep n) x3 x4 x6 x8 x9 x11 x12 dug 0 depths dug_177 deep row)))) dug_177 x4 x6 x14_150))))) x9 x11))) ∧ (¬ x13 = 0 → (∀ x12_245 : Int32, x12_245 = x12 + 1 → (k114 x11 x12_245 dug row))))
set_option maxHeartbeats 4000000 in
set_option maxRecDepth 100000 in
theorem tX3_dug_130 {Q : Int32 → Int64 → Int64 → (Nat → Int32) → Prop} {x3 : Int32} {x4 : Int64} {x6 : Int64} {x8 : Int32} {x9 : Int64} {x12 : Int32} {depths : (Nat → Int32)} {owners : (Nat → Int32)} {roofs : Int64} {rate : Int32} {undos : (Nat → Int32)} {undoMany : Int32} {drawn : Int32} {deep : Int64} {holes : (Nat → Int64)} {holeMany : Int32} {tape : (Nat → Int32)} {taped : Int32} {place : Int32} {reads : Int32} {read_ : (Nat → Int32)} {order : (Nat → Int32)} {bestOrder : (Nat → Int32)} {nears : (Nat → Int32)} {isKept : Int32} {keptRoofs : Int64} {kept : (Nat → Int32)} {lanes : (Nat → Int32)} {rowSizes : (Nat → Int32)} {items : (Nat → Int64)} {moved : (Nat → Int64)} (S : CallFix p m c cX3_dug 18 s args lw_all RX3) (hK : va_K (dC, dI) vwCl (tysG dA) s) (hj : mJ h) (hret : hrX3_dug p l e s m args below meth c dC dI dA h Qw Q depths owners roofs rate undos undoMany drawn holes holeMany tape taped place reads read_ order bestOrder nears isKept keptRoofs kept lanes rowSizes items moved) {k114 : Int32 → Int32 → Int64 → (Nat → Int32) → Prop} (hk114 : ∀ (x11 : Int32) (x12 : Int32) (dug : Int64) (row : (Nat → Int32)) (H : Heap) (locs : List Loc) (ls : Array Slot), k114 x11 x12 dug row → va_P (dC, dI) vwCl (wM h dA depths owners roofs rate undos undoMany drawn dug deep holes holeMany tape taped place reads read_ row order bestOrder nears isKept keptRoofs kept lanes rowSizes items moved) H → va_S (mA h) s.heap H locs → lv_has ls 18 [(0, .ref (h 0)), (3, .int x3), (4, .long x4), (6, .long x6), (8, .int x8), (9, .long x9), (11, .int x11), (12, .int x12)] → W p l e RX3_dug_ s m args below meth c H locs 0 0 Qw (F0 m 114 ls [])) : ∀ (n : Nat) (x11 : Int32) (x13 : Int32) (dug : Int64) (row : (Nat → Int32)) (H : Heap) (locs : List Loc) (ls : Array Slot), wX3_dug_130 Q k114 x3 x4 x6 x8 x9 x12 depths deep n x11 x13 dug row → va_P (dC, dI) vwCl (wM h dA depths owners roofs rate undos undoMany drawn dug deep holes holeMany tape taped place reads read_ row order bestOrder nears isKept keptRoofs kept lanes rowSizes items moved) H → va_S (mA h) s.heap H locs → lv_has ls 18 [(0, .ref (h 0)), (3, .int x3), (4, .long x4), (6, .long x6), (8, .int x8), (9, .long x9), (11, .int x11), (12, .int x12), (13, .int x13)] → W p l e RX3_dug_ s m args below meth c H locs 0 0 Qw (F0 m 130 ls []) := by
  obtain ⟨hx, hb, hml, hown, hts⟩ := id S
  intro n
  induction n with
  | zero => intro _ _ _ _ _ _ _ hf; exact hf.elim
  | succ n ih =>
    intro x11 x13 dug row H locs ls hf hP hS hl
    rw [wX3_dug_130] at hf
    refine lv_iload hx hb dX3_dug_130 (lv_at hl 8 rfl) ?_
    refine lv_if_ne (tgt := 245) hx hb dX3_dug_132 (by decide) (fun c_132 => ?_) (fun c_132 => ?_)
    · replace hf := hf.2 c_132
      obtain ⟨x12_245, ex12_245⟩ : ∃ z : Int32, z = x12 + 1 := ⟨_, rfl⟩
      replace hf := hf x12_245 ex12_245
      refine lv_iinc (v := x12_245) (lv' := [(12, .int x12_245), (0, .ref (h 0)), (3, .int x3), (4, .long x4), (6, .long x6), (8, .int x8), (9, .long x9), (11, .int x11), (13, .int x13)]) hx hb dX3_dug_245 hl (k := 7) rfl (by rw [ex12_245]; rfl) (by decide) rfl (fun ls hl => ?_)
      refine lv_goto (tgt := 114) hx hb dX3_dug_248 (by decide) ?_
      exact hk114 x11 x12_245 dug row _ _ _ hf hP hS (lv_sub hl [1, 2, 3, 4, 5, 6, 7, 0] rfl)
    · replace hf := hf.1 c_132
      refine lv_lload hx hb dX3_dug_135 (lv_at hl 5 rfl) ?_
      refine lv_lconst (v := 1) hx hb dX3_dug_137 (by decide) ?_
      refine lv_iload hx hb dX3_dug_138 (lv_at hl 6 rfl) ?_
      refine lv_iconst (v := 1) hx hb dX3_dug_140 (by decide) ?_
      refine lv_iadd hx hb dX3_dug_141 ?_
      refine lv_lshl (v := (1 <<< (((x11 + 1) : Int32).toInt64 &&& 63))) hx hb dX3_dug_142 rfl ?_
      refine lv_lconst (v := 1) hx hb dX3_dug_143 (by decide) ?_
      refine lv_lsub hx hb dX3_dug_144 ?_
      refine lv_ldc2 (v := (-1)) hx hb hown (hts _ q1286) dX3_dug_145 ?_
      refine lv_lxor hx hb dX3_dug_148 ?_
      refine lv_land hx hb dX3_dug_149 ?_
      refine lv_topl (fun x14_150 ex14_150 => ?_)
      replace hf := hf x14_150 ex14_150
      refine lv_lstore (lv' := [(14, .long x14_150), (0, .ref (h 0)), (3, .int x3), (4, .long x4), (6, .long x6), (8, .int x8), (9, .long x9), (11, .int x11), (12, .int x12), (13, .int x13)]) hx hb dX3_dug_150 hl (by decide) rfl (fun ls hl => ?_)
      refine lv_aload_n hx hb dX3_dug_152 rfl (lv_at hl 1 rfl) ?_
      refine gM_dug S hK hP dX3_dug_153 ?_
      refine lv_lstore (lv' := [(16, .long dug), (14, .long x14_150), (0, .ref (h 0)), (3, .int x3), (4, .long x4), (6, .long x6), (8, .int x8), (9, .long x9), (11, .int x11), (12, .int x12), (13, .int x13)]) hx hb dX3_dug_156 hl (by decide) rfl (fun ls hl => ?_)
      refine lv_lload hx hb dX3_dug_158 (lv_at hl 7 rfl) ?_
      refine lv_iload hx hb dX3_dug_160 (lv_at hl 8 rfl) ?_
      refine cs_i (As := [.long x9, .int x11]) (rest := []) S (metX3_has l hf) (lw_S q1275 q1276 q60 q1277) pdX3_has ⟨rfl, rfl⟩ ⟨Nat.le_of_ble_eq_true rfl, Nat.le_of_ble_eq_true rfl⟩ rfl hl.1 rfl (Nat.le_of_ble_eq_true rfl) dX3_dug_162 ⟨Nat.zero_le _, Nat.zero_le _⟩ (fun r_162 hf => ?_)
      refine lv_istore (lv' := [(13, .int r_162), (16, .long dug), (14, .long x14_150), (0, .ref (h 0)), (3, .int x3), (4, .long x4), (6, .long x6), (8, .int x8), (9, .long x9), (11, .int x11), (12, .int x12)]) hx hb dX3_dug_165 hl (by decide) rfl (fun ls hl => ?_)
      refine lv_aload_n hx hb dX3_dug_167 rfl (lv_at hl 3 rfl) ?_
      refine lv_dup hx hb dX3_dug_168 rfl ?_
      refine gM_dug S hK hP dX3_dug_169 ?_
      refine lv_lconst (v := 1) hx hb dX3_dug_172 (by decide) ?_
      refine lv_iload hx hb dX3_dug_173 (lv_at hl 9 rfl) ?_
      refine lv_lshl (v := (1 <<< ((x11 : Int32).toInt64 &&& 63))) hx hb dX3_dug_175 rfl ?_
      refine lv_lor hx hb dX3_dug_176 ?_
      refine lv_topl (fun dug_177 edug_177 => ?_)
      replace hf := hf dug_177 edug_177
      refine pM_dug S hK hj hP hS dX3_dug_177 (fun H locs hP hS => ?_)
      refine lv_iload hx hb dX3_dug_180 (lv_at hl 0 rfl) ?_
      refine lv_if_eq (tgt := 209) hx hb dX3_dug_182 (by decide) (fun c_182 => ?_) (fun c_182 => ?_)
      · replace hf := hf.1 c_182
        refine lv_iconst (v := 0) hx hb dX3_dug_209 (by decide) ?_
        exact tX3_dug_210 S hK hj hret hk114 ih x11 dug 0 dug_177 row _ _ _ hf hP hS (lv_sub hl [3, 4, 5, 6, 7, 8, 9, 10, 1] rfl)
      · replace hf := hf.2 c_182
        refine lv_aload_n hx hb dX3_dug_185 rfl (lv_at hl 3 rfl) ?_
        refine lv_lload hx hb dX3_dug_186 (lv_at hl 5 rfl) ?_
        refine lv_lload hx hb dX3_dug_188 (lv_at hl 6 rfl) ?_
        refine lv_lload hx hb dX3_dug_190 (lv_at hl 2 rfl) ?_
        refine cM_i (As := [.long x4, .long x6, .long x14_150]) (rest := []) S hK rfl hP hS (metX3_fewestDug l hj hf) (lw_V q1488 q1490 qs47 q60 q1491) rfl pdX3_fewestDug ⟨rfl, rfl⟩ ⟨Nat.le_of_ble_eq_true rfl, Nat.le_of_ble_eq_true rfl⟩ rfl hl.1 rfl (Nat.le_of_ble_eq_true rfl) dX3_dug_192 ⟨Nat.zero_le _, Nat.zero_le _⟩ (fun r_192 u_192 H locs hf hP hS => ?_)
        replace hP : va_P (dC, dI) vwCl (wM h dA depths owners roofs rate undos undoMany drawn dug_177 deep holes holeMany tape taped place reads read_ row order bestOrder nears isKept keptRoofs kept lanes rowSizes items moved) H := hP
        try dsimp only at hf
        refine lv_iload hx hb dX3_dug_195 (lv_at hl 7 rfl) ?_
        refine lv_iload hx hb dX3_dug_197 (lv_at hl 10 rfl) ?_
        refine lv_isub hx hb dX3_dug_199 ?_
        refine lv_iconst (v := 1) hx hb dX3_dug_200 (by decide) ?_
        refine lv_isub hx hb dX3_dug_201 ?_
        refine lv_icmp_ne (tgt := 209) hx hb dX3_dug_202 (by decide) (fun c_202 => ?_) (fun c_202 => ?_)
        · replace hf := hf.2 c_202
          refine lv_iconst (v := 0) hx hb dX3_dug_209 (by decide) ?_
          exact tX3_dug_210 S hK hj hret hk114 ih x11 dug 0 dug_177 row _ _ _ hf hP hS (lv_sub hl [3, 4, 5, 6, 7, 8, 9, 10, 1] rfl)
        · replace hf := hf.1 c_202
          refine lv_iconst (v := 1) hx hb dX3_dug_205 (by decide) ?_
          refine lv_goto (tgt := 210) hx hb dX3_dug_206 (by decide) ?_
          exact tX3_dug_210 S hK hj hret hk114 ih x11 dug 1 dug_177 row _ _ _ hf hP hS (lv_sub hl [3, 4, 5, 6, 7, 8, 9, 10, 1] rfl)
def wX3_dug_114 (Q : Int32 → Int64 → Int64 → (Nat → Int32) → Prop) (x3 : Int32) (x4 : Int64) (x6 : Int64) (x8 : Int32) (x9 : Int64) (depths : (Nat → Int32)) (deep : Int64) : Nat → Int32 → Int32 → Int64 → (Nat → Int32) → Prop
  | 0, _, _, _, _ => False
  | n + 1, x11, x12, dug, row => ((x8 ≤ x12 → (wX3_dug_251 Q x3 x8 depths dug deep row)) ∧ (¬ x8 ≤ x12 → ((x3 < x12 → (wX3_dug_251 Q x3 x8 depths dug deep row)) ∧ (¬ x3 < x12 → (∃ fu : Nat, wX3_dug_130 Q (wX3_dug_114 Q x3 x4 x6 x8 x9 depths deep n) x3 x4 x6 x8 x9 x12 depths deep fu x11 0 dug row)))))
set_option maxHeartbeats 4000000 in
set_option maxRecDepth 100000 in
theorem tX3_dug_114 {Q : Int32 → Int64 → Int64 → (Nat → Int32) → Prop} {x3 : Int32} {x4 : Int64} {x6 : Int64} {x8 : Int32} {x9 : Int64} {depths : (Nat → Int32)} {owners : (Nat → Int32)} {roofs : Int64} {rate : Int32} {undos : (Nat → Int32)} {undoMany : Int32} {drawn : Int32} {deep : Int64} {holes : (Nat → Int64)} {holeMany : Int32} {tape : (Nat → Int32)} {taped : Int32} {place : Int32} {reads : Int32} {read_ : (Nat → Int32)} {order : (Nat → Int32)} {bestOrder : (Nat → Int32)} {nears : (Nat → Int32)} {isKept : Int32} {keptRoofs : Int64} {kept : (Nat → Int32)} {lanes : (Nat → Int32)} {rowSizes : (Nat → Int32)} {items : (Nat → Int64)} {moved : (Nat → Int64)} (S : CallFix p m c cX3_dug 18 s args lw_all RX3) (hK : va_K (dC, dI) vwCl (tysG dA) s) (hj : mJ h) (hret : hrX3_dug p l e s m args below meth c dC dI dA h Qw Q depths owners roofs rate undos undoMany drawn holes holeMany tape taped place reads read_ order bestOrder nears isKept keptRoofs kept lanes rowSizes items moved) : ∀ (n : Nat) (x11 : Int32) (x12 : Int32) (dug : Int64) (row : (Nat → Int32)) (H : Heap) (locs : List Loc) (ls : Array Slot), wX3_dug_114 Q x3 x4 x6 x8 x9 depths deep n x11 x12 dug row → va_P (dC, dI) vwCl (wM h dA depths owners roofs rate undos undoMany drawn dug deep holes holeMany tape taped place reads read_ row order bestOrder nears isKept keptRoofs kept lanes rowSizes items moved) H → va_S (mA h) s.heap H locs → lv_has ls 18 [(0, .ref (h 0)), (3, .int x3), (4, .long x4), (6, .long x6), (8, .int x8), (9, .long x9), (11, .int x11), (12, .int x12)] → W p l e RX3_dug_ s m args below meth c H locs 0 0 Qw (F0 m 114 ls []) := by
  obtain ⟨hx, hb, hml, hown, hts⟩ := id S
  intro n
  induction n with
  | zero => intro _ _ _ _ _ _ _ hf; exact hf.elim
  | succ n ih =>
    intro x11 x12 dug row H locs ls hf hP hS hl
    rw [wX3_dug_114] at hf
    refine lv_iload hx hb dX3_dug_114 (lv_at hl 7 rfl) ?_
    refine lv_iload hx hb dX3_dug_116 (lv_at hl 4 rfl) ?_
    refine lv_icmp_ge (tgt := 251) hx hb dX3_dug_118 (by decide) (fun c_118 => ?_) (fun c_118 => ?_)
    · replace hf := hf.1 c_118
      exact tX3_dug_251 S hK hj hret x3 x8 dug deep row _ _ _ hf hP hS (lv_sub hl [0, 1, 4] rfl)
    · replace hf := hf.2 c_118
      refine lv_iload hx hb dX3_dug_121 (lv_at hl 7 rfl) ?_
      refine lv_iload_n hx hb dX3_dug_123 rfl (lv_at hl 1 rfl) ?_
      refine lv_icmp_gt (tgt := 251) hx hb dX3_dug_124 (by decide) (fun c_124 => ?_) (fun c_124 => ?_)
      · replace hf := hf.1 c_124
        exact tX3_dug_251 S hK hj hret x3 x8 dug deep row _ _ _ hf hP hS (lv_sub hl [0, 1, 4] rfl)
      · replace hf := hf.2 c_124
        refine lv_iconst (v := 0) hx hb dX3_dug_127 (by decide) ?_
        refine lv_istore (lv' := [(13, .int 0), (0, .ref (h 0)), (3, .int x3), (4, .long x4), (6, .long x6), (8, .int x8), (9, .long x9), (11, .int x11), (12, .int x12)]) hx hb dX3_dug_128 hl (by decide) rfl (fun ls hl => ?_)
        obtain ⟨fu, hf⟩ := hf
        exact tX3_dug_130 S hK hj hret ih fu x11 0 dug row _ _ _ hf hP hS (lv_sub hl [1, 2, 3, 4, 5, 6, 7, 8, 0] rfl)
def wX3_dug (Q : Int32 → Int64 → Int64 → (Nat → Int32) → Prop) (depths : (Nat → Int32)) (dug : Int64) (deep : Int64) (row : (Nat → Int32)) (x1 : Int32) (x2 : Int32) (x3 : Int32) : Prop := (wX3_isCell (fun r_1 => ((r_1 = 0 → (Q (-1) dug deep row)) ∧ (¬ r_1 = 0 → (wX3_isCell (fun r_8 => ((r_8 = 0 → (Q (-1) dug deep row)) ∧ (¬ r_8 = 0 → (wX3_in (fun r_22 => ((r_22 = 0 → (Q (-1) dug deep row)) ∧ (¬ r_22 = 0 → (wX3_look (fun dug_31 deep_31 => (wX3_has (fun r_39 => ((r_39 = 0 → (Q (-2) dug_31 deep_31 row)) ∧ (¬ r_39 = 0 → (wX3_has (fun r_50 => ((r_50 = 0 → (Q (-2) dug_31 deep_31 row)) ∧ (¬ r_50 = 0 → (wX3_holeAt (fun r_58 => (wX3_has (fun r_62 => ((r_62 = 0 → (∀ x4_74 : Int64, x4_74 = (1 <<< ((x1 : Int32).toInt64 &&& 63)) → (∀ x6_79 : Int64, x6_79 = (1 <<< ((x2 : Int32).toInt64 &&& 63)) → (wX3_fewestDug (fun r_89 => (∀ x9_106 : Int64, x9_106 = (68719476735 &&& (dug_31 ^^^ (-1))) → (∃ fu : Nat, wX3_dug_114 Q x3 x4_74 x6_79 r_89 x9_106 depths deep_31 fu 0 0 dug_31 row))) dug_31 x4_74 x6_79 68719476735)))) ∧ (¬ r_62 = 0 → (Q (-2) dug_31 deep_31 row)))) r_58 x2)) dug_31 x1)))) dug_31 x2)))) dug_31 x1)) depths dug deep)))) ((x3 : Int32).toInt64) (-1) 9)))) x2)))) x1)
end
set_option maxHeartbeats 4000000 in
set_option maxRecDepth 100000 in
theorem metX3_dug (l : Launch) {Q : Int32 → Int64 → Int64 → (Nat → Int32) → Prop} {depths : (Nat → Int32)} {owners : (Nat → Int32)} {roofs : Int64} {rate : Int32} {undos : (Nat → Int32)} {undoMany : Int32} {drawn : Int32} {dug : Int64} {deep : Int64} {holes : (Nat → Int64)} {holeMany : Int32} {tape : (Nat → Int32)} {taped : Int32} {place : Int32} {reads : Int32} {read_ : (Nat → Int32)} {row : (Nat → Int32)} {order : (Nat → Int32)} {bestOrder : (Nat → Int32)} {nears : (Nat → Int32)} {isKept : Int32} {keptRoofs : Int64} {kept : (Nat → Int32)} {lanes : (Nat → Int32)} {rowSizes : (Nat → Int32)} {items : (Nat → Int64)} {moved : (Nat → Int64)} {x1 : Int32} {x2 : Int32} {x3 : Int32} {dC : Nat → ClassId} {dI : Nat → Nat → Nat} {dA : Nat → ClassId} {h : Nat → Nat} (hj : mJ h) (hf : wX3_dug Q depths dug deep row x1 x2 x3) : Met l yX3_dug (ws_ yX3_dug cX3_dug 18 (some .int)) rmX3_dug (mPc dC dI dA h [.int x1, .int x2, .int x3] (wM h dA depths owners roofs rate undos undoMany drawn dug deep holes holeMany tape taped place reads read_ row order bestOrder nears isKept keptRoofs kept lanes rowSizes items moved)) (va_Qi (fun (r : Int32) (u : Int64 × Int64 × (Nat → Int32)) => Q r u.1 u.2.1 u.2.2) (fun u t => va_P (dC, dI) vwCl (wM h dA depths owners roofs rate undos undoMany drawn u.1 u.2.1 holes holeMany tape taped place reads read_ u.2.2 order bestOrder nears isKept keptRoofs kept lanes rowSizes items moved) t.heap) (mA h)) 0 0 (mA h) := by
  refine Met.ofW (cc := cX3_dug) (maxL := 18) (ret := (some .int)) (by decide) rfl ?_
  intro p e s m args below meth c s₁ B hml hv
  obtain ⟨rfl, hP, hK⟩ := hv
  have hx := B.exec
  have hb := B.bytes
  have hr := B.returns
  have hts := atoms_spec (ws := (ws_ yX3_dug cX3_dug 18 (some .int))) B.pre
  have hts : ∀ w ∈ lw_all, w.before _ s = true := fun w h => hts w (List.mem_cons_of_mem _ h)
  have hown : s.vm.findClass RX3 = some m.cls := findClass_of_methodNamed B.named
  have hlocks := B.notSynchronized
  have S : CallFix p m c cX3_dug 18 s _ lw_all RX3 := ⟨hx, hb, hml, hown, hts⟩
  have hS : va_S (mA h) s.heap s.heap [] := va_S.rf
  have hl := lv_entry ([.ref (h 0), .int x1, .int x2, .int x3]) (n := 18) (Nat.le_of_ble_eq_true rfl)
  rw [lg_entry_eq]
  generalize (lg_sl ([.ref (h 0), .int x1, .int x2, .int x3]) ++ List.replicate (18 - (lg_sl ([.ref (h 0), .int x1, .int x2, .int x3])).length) Slot.unset).toArray = ls at hl ⊢
  replace hl : lv_has ls 18 [(0, .ref (h 0)), (1, .int x1), (2, .int x2), (3, .int x3)] := hl
  have hret : hrX3_dug p l e s m ([.ref (h 0), .int x1, .int x2, .int x3] : List Value).toArray below meth c dC dI dA h (MQ below (va_Qi (fun (r : Int32) (u : Int64 × Int64 × (Nat → Int32)) => Q r u.1 u.2.1 u.2.2) (fun u t => va_P (dC, dI) vwCl (wM h dA depths owners roofs rate undos undoMany drawn u.1 u.2.1 holes holeMany tape taped place reads read_ u.2.2 order bestOrder nears isKept keptRoofs kept lanes rowSizes items moved) t.heap) (mA h)) ([.ref (h 0), .int x1, .int x2, .int x3] : List Value).toArray s 0 0 (mA h)) Q depths owners roofs rate undos undoMany drawn holes holeMany tape taped place reads read_ order bestOrder nears isKept keptRoofs kept lanes rowSizes items moved := fun r dug deep row H locs pc ls hq hP hS hd => W.iret hx hb hr (fun t ht hW => ⟨⟨r, (dug, deep, row), rfl, hq, by subst ht; exact hP⟩, hS.F ht⟩) hS.2.2 hd
  unfold wX3_dug at hf
  refine lv_iload_n hx hb dX3_dug_0 rfl (lv_at hl 1 rfl) ?_
  refine cs_i (As := [.int x1]) (rest := []) S (metX3_isCell l hf) (lw_S q1264 q1265 q60 q1266) pdX3_isCell ⟨rfl, rfl⟩ ⟨Nat.le_of_ble_eq_true rfl, Nat.le_of_ble_eq_true rfl⟩ rfl hl.1 rfl (Nat.le_of_ble_eq_true rfl) dX3_dug_1 ⟨Nat.zero_le _, Nat.zero_le _⟩ (fun r_1 hf => ?_)
  refine lv_if_eq (tgt := 28) hx hb dX3_dug_4 (by decide) (fun c_4 => ?_) (fun c_4 => ?_)
  · replace hf := hf.1 c_4
    refine lv_iconst (v := (-1)) hx hb dX3_dug_28 (by decide) ?_
    exact hret _ _ _ _ _ _ _ _ hf hP hS dX3_dug_29
  · replace hf := hf.2 c_4
    refine lv_iload_n hx hb dX3_dug_7 rfl (lv_at hl 2 rfl) ?_
    refine cs_i (As := [.int x2]) (rest := []) S (metX3_isCell l hf) (lw_S q1264 q1265 q60 q1266) pdX3_isCell ⟨rfl, rfl⟩ ⟨Nat.le_of_ble_eq_true rfl, Nat.le_of_ble_eq_true rfl⟩ rfl hl.1 rfl (Nat.le_of_ble_eq_true rfl) dX3_dug_8 ⟨Nat.zero_le _, Nat.zero_le _⟩ (fun r_8 hf => ?_)
    refine lv_if_eq (tgt := 28) hx hb dX3_dug_11 (by decide) (fun c_11 => ?_) (fun c_11 => ?_)
    · replace hf := hf.1 c_11
      refine lv_iconst (v := (-1)) hx hb dX3_dug_28 (by decide) ?_
      exact hret _ _ _ _ _ _ _ _ hf hP hS dX3_dug_29
    · replace hf := hf.2 c_11
      refine lv_iload_n hx hb dX3_dug_14 rfl (lv_at hl 3 rfl) ?_
      refine lv_i2l (v := (x3 : Int32).toInt64) hx hb dX3_dug_15 rfl ?_
      refine lv_ldc2 (v := (-1)) hx hb hown (hts _ q1286) dX3_dug_16 ?_
      refine lv_ldc2 (v := 9) hx hb hown (hts _ q1351) dX3_dug_19 ?_
      refine cs_i (As := [.long (x3 : Int32).toInt64, .long (-1), .long 9]) (rest := []) S (metX3_in l hf) (lw_S q1268 q1269 q60 q1270) pdX3_in ⟨rfl, rfl⟩ ⟨Nat.le_of_ble_eq_true rfl, Nat.le_of_ble_eq_true rfl⟩ rfl hl.1 rfl (Nat.le_of_ble_eq_true rfl) dX3_dug_22 ⟨Nat.zero_le _, Nat.zero_le _⟩ (fun r_22 hf => ?_)
      refine lv_if_ne (tgt := 30) hx hb dX3_dug_25 (by decide) (fun c_25 => ?_) (fun c_25 => ?_)
      · replace hf := hf.2 c_25
        refine lv_aload_n hx hb dX3_dug_30 rfl (lv_at hl 0 rfl) ?_
        refine cM_v (As := []) (rest := []) S hK rfl hP hS (metX3_look l hj hf) (lw_V q1309 q1311 qs27 q60 q1312) rfl pdX3_look ⟨rfl, rfl⟩ ⟨Nat.le_of_ble_eq_true rfl, Nat.le_of_ble_eq_true rfl⟩ rfl hl.1 rfl (Nat.le_of_ble_eq_true rfl) dX3_dug_31 ⟨Nat.zero_le _, Nat.zero_le _⟩ (fun u_31 H locs hf hP hS => ?_)
        obtain ⟨dug_31, deep_31⟩ := u_31
        replace hP : va_P (dC, dI) vwCl (wM h dA depths owners roofs rate undos undoMany drawn dug_31 deep_31 holes holeMany tape taped place reads read_ row order bestOrder nears isKept keptRoofs kept lanes rowSizes items moved) H := hP
        try dsimp only at hf
        refine lv_aload_n hx hb dX3_dug_34 rfl (lv_at hl 0 rfl) ?_
        refine gM_dug S hK hP dX3_dug_35 ?_
        refine lv_iload_n hx hb dX3_dug_38 rfl (lv_at hl 1 rfl) ?_
        refine cs_i (As := [.long dug_31, .int x1]) (rest := []) S (metX3_has l hf) (lw_S q1275 q1276 q60 q1277) pdX3_has ⟨rfl, rfl⟩ ⟨Nat.le_of_ble_eq_true rfl, Nat.le_of_ble_eq_true rfl⟩ rfl hl.1 rfl (Nat.le_of_ble_eq_true rfl) dX3_dug_39 ⟨Nat.zero_le _, Nat.zero_le _⟩ (fun r_39 hf => ?_)
        refine lv_if_eq (tgt := 68) hx hb dX3_dug_42 (by decide) (fun c_42 => ?_) (fun c_42 => ?_)
        · replace hf := hf.1 c_42
          refine lv_bipush (v := (-2)) hx hb dX3_dug_68 (by decide) ?_
          exact hret _ _ _ _ _ _ _ _ hf hP hS dX3_dug_70
        · replace hf := hf.2 c_42
          refine lv_aload_n hx hb dX3_dug_45 rfl (lv_at hl 0 rfl) ?_
          refine gM_dug S hK hP dX3_dug_46 ?_
          refine lv_iload_n hx hb dX3_dug_49 rfl (lv_at hl 2 rfl) ?_
          refine cs_i (As := [.long dug_31, .int x2]) (rest := []) S (metX3_has l hf) (lw_S q1275 q1276 q60 q1277) pdX3_has ⟨rfl, rfl⟩ ⟨Nat.le_of_ble_eq_true rfl, Nat.le_of_ble_eq_true rfl⟩ rfl hl.1 rfl (Nat.le_of_ble_eq_true rfl) dX3_dug_50 ⟨Nat.zero_le _, Nat.zero_le _⟩ (fun r_50 hf => ?_)
          refine lv_if_eq (tgt := 68) hx hb dX3_dug_53 (by decide) (fun c_53 => ?_) (fun c_53 => ?_)
          · replace hf := hf.1 c_53
            refine lv_bipush (v := (-2)) hx hb dX3_dug_68 (by decide) ?_
            exact hret _ _ _ _ _ _ _ _ hf hP hS dX3_dug_70
          · replace hf := hf.2 c_53
            refine lv_aload_n hx hb dX3_dug_56 rfl (lv_at hl 0 rfl) ?_
            refine lv_iload_n hx hb dX3_dug_57 rfl (lv_at hl 1 rfl) ?_
            refine cM_l (As := [.int x1]) (rest := []) S hK rfl hP hS (metX3_holeAt l hj hf) (lw_V q1313 q1315 qs28 q60 q1316) rfl pdX3_holeAt ⟨rfl, rfl⟩ ⟨Nat.le_of_ble_eq_true rfl, Nat.le_of_ble_eq_true rfl⟩ rfl hl.1 rfl (Nat.le_of_ble_eq_true rfl) dX3_dug_58 ⟨Nat.zero_le _, Nat.zero_le _⟩ (fun r_58 u_58 H locs hf hP hS => ?_)
            replace hP : va_P (dC, dI) vwCl (wM h dA depths owners roofs rate undos undoMany drawn dug_31 deep_31 holes holeMany tape taped place reads read_ row order bestOrder nears isKept keptRoofs kept lanes rowSizes items moved) H := hP
            try dsimp only at hf
            refine lv_iload_n hx hb dX3_dug_61 rfl (lv_at hl 2 rfl) ?_
            refine cs_i (As := [.long r_58, .int x2]) (rest := []) S (metX3_has l hf) (lw_S q1275 q1276 q60 q1277) pdX3_has ⟨rfl, rfl⟩ ⟨Nat.le_of_ble_eq_true rfl, Nat.le_of_ble_eq_true rfl⟩ rfl hl.1 rfl (Nat.le_of_ble_eq_true rfl) dX3_dug_62 ⟨Nat.zero_le _, Nat.zero_le _⟩ (fun r_62 hf => ?_)
            refine lv_if_eq (tgt := 71) hx hb dX3_dug_65 (by decide) (fun c_65 => ?_) (fun c_65 => ?_)
            · replace hf := hf.1 c_65
              refine lv_lconst (v := 1) hx hb dX3_dug_71 (by decide) ?_
              refine lv_iload_n hx hb dX3_dug_72 rfl (lv_at hl 1 rfl) ?_
              refine lv_lshl (v := (1 <<< ((x1 : Int32).toInt64 &&& 63))) hx hb dX3_dug_73 rfl ?_
              refine lv_topl (fun x4_74 ex4_74 => ?_)
              replace hf := hf x4_74 ex4_74
              refine lv_lstore (lv' := [(4, .long x4_74), (0, .ref (h 0)), (1, .int x1), (2, .int x2), (3, .int x3)]) hx hb dX3_dug_74 hl (by decide) rfl (fun ls hl => ?_)
              refine lv_lconst (v := 1) hx hb dX3_dug_76 (by decide) ?_
              refine lv_iload_n hx hb dX3_dug_77 rfl (lv_at hl 3 rfl) ?_
              refine lv_lshl (v := (1 <<< ((x2 : Int32).toInt64 &&& 63))) hx hb dX3_dug_78 rfl ?_
              refine lv_topl (fun x6_79 ex6_79 => ?_)
              replace hf := hf x6_79 ex6_79
              refine lv_lstore (lv' := [(6, .long x6_79), (4, .long x4_74), (0, .ref (h 0)), (1, .int x1), (2, .int x2), (3, .int x3)]) hx hb dX3_dug_79 hl (by decide) rfl (fun ls hl => ?_)
              refine lv_aload_n hx hb dX3_dug_81 rfl (lv_at hl 2 rfl) ?_
              refine lv_lload hx hb dX3_dug_82 (lv_at hl 1 rfl) ?_
              refine lv_lload hx hb dX3_dug_84 (lv_at hl 0 rfl) ?_
              refine lv_ldc2 (v := 68719476735) hx hb hown (hts _ q1325) dX3_dug_86 ?_
              refine cM_i (As := [.long x4_74, .long x6_79, .long 68719476735]) (rest := []) S hK rfl hP hS (metX3_fewestDug l hj hf) (lw_V q1488 q1490 qs47 q60 q1491) rfl pdX3_fewestDug ⟨rfl, rfl⟩ ⟨Nat.le_of_ble_eq_true rfl, Nat.le_of_ble_eq_true rfl⟩ rfl hl.1 rfl (Nat.le_of_ble_eq_true rfl) dX3_dug_89 ⟨Nat.zero_le _, Nat.zero_le _⟩ (fun r_89 u_89 H locs hf hP hS => ?_)
              replace hP : va_P (dC, dI) vwCl (wM h dA depths owners roofs rate undos undoMany drawn dug_31 deep_31 holes holeMany tape taped place reads read_ row order bestOrder nears isKept keptRoofs kept lanes rowSizes items moved) H := hP
              try dsimp only at hf
              refine lv_istore (lv' := [(8, .int r_89), (6, .long x6_79), (4, .long x4_74), (0, .ref (h 0)), (1, .int x1), (2, .int x2), (3, .int x3)]) hx hb dX3_dug_92 hl (by decide) rfl (fun ls hl => ?_)
              refine lv_ldc2 (v := 68719476735) hx hb hown (hts _ q1325) dX3_dug_94 ?_
              refine lv_aload_n hx hb dX3_dug_97 rfl (lv_at hl 3 rfl) ?_
              refine gM_dug S hK hP dX3_dug_98 ?_
              refine lv_ldc2 (v := (-1)) hx hb hown (hts _ q1286) dX3_dug_101 ?_
              refine lv_lxor hx hb dX3_dug_104 ?_
              refine lv_land hx hb dX3_dug_105 ?_
              refine lv_topl (fun x9_106 ex9_106 => ?_)
              replace hf := hf x9_106 ex9_106
              refine lv_lstore (lv' := [(9, .long x9_106), (8, .int r_89), (6, .long x6_79), (4, .long x4_74), (0, .ref (h 0)), (1, .int x1), (2, .int x2), (3, .int x3)]) hx hb dX3_dug_106 hl (by decide) rfl (fun ls hl => ?_)
              refine lv_iconst (v := 0) hx hb dX3_dug_108 (by decide) ?_
              refine lv_istore (lv' := [(11, .int 0), (9, .long x9_106), (8, .int r_89), (6, .long x6_79), (4, .long x4_74), (0, .ref (h 0)), (1, .int x1), (2, .int x2), (3, .int x3)]) hx hb dX3_dug_109 hl (by decide) rfl (fun ls hl => ?_)
              refine lv_iconst (v := 0) hx hb dX3_dug_111 (by decide) ?_
              refine lv_istore (lv' := [(12, .int 0), (11, .int 0), (9, .long x9_106), (8, .int r_89), (6, .long x6_79), (4, .long x4_74), (0, .ref (h 0)), (1, .int x1), (2, .int x2), (3, .int x3)]) hx hb dX3_dug_112 hl (by decide) rfl (fun ls hl => ?_)
              obtain ⟨fu, hf⟩ := hf
              exact tX3_dug_114 S hK hj hret fu 0 0 dug_31 row _ _ _ hf hP hS (lv_sub hl [6, 9, 5, 4, 3, 2, 1, 0] rfl)
            · replace hf := hf.2 c_65
              refine lv_bipush (v := (-2)) hx hb dX3_dug_68 (by decide) ?_
              exact hret _ _ _ _ _ _ _ _ hf hP hS dX3_dug_70
      · replace hf := hf.1 c_25
        refine lv_iconst (v := (-1)) hx hb dX3_dug_28 (by decide) ?_
        exact hret _ _ _ _ _ _ _ _ hf hP hS dX3_dug_29
/-! HoleCountyModel.loophole()I -/
theorem pdX3_loophole : DscOk yX3_loophole 0 := by decide +kernel
abbrev rmX3_loophole : Room := { frames := 5, cells := 0, slots := 0, locals := 115 }
abbrev RX3_loophole_ : Room := (headSpec (ws_ yX3_loophole cX3_loophole 5 (some .int)) rmX3_loophole).room
section
variable {p : Program} {l : Launch} {e : Env} {s : State} {m : MethodId} {args : Array Value} {below : List Frame} {meth : Method} {c : Code} {Qw : State → Prop} {dC : Nat → ClassId} {dI : Nat → Nat → Nat} {dA : Nat → ClassId} {h : Nat → Nat}
abbrev hrX3_loophole (p : Program) (l : Launch) (e : Env) (s : State) (m : MethodId) (args : Array Value) (below : List Frame) (meth : Method) (c : Code) (dC : Nat → ClassId) (dI : Nat → Nat → Nat) (dA : Nat → ClassId) (h : Nat → Nat) (Qw : State → Prop) (Q : Int32 → Int64 → Int64 → (Nat → Int64) → Int32 → Prop) (depths : (Nat → Int32)) (owners : (Nat → Int32)) (roofs : Int64) (rate : Int32) (undos : (Nat → Int32)) (undoMany : Int32) (drawn : Int32) (tape : (Nat → Int32)) (taped : Int32) (place : Int32) (reads : Int32) (read_ : (Nat → Int32)) (row : (Nat → Int32)) (order : (Nat → Int32)) (bestOrder : (Nat → Int32)) (nears : (Nat → Int32)) (isKept : Int32) (keptRoofs : Int64) (kept : (Nat → Int32)) (lanes : (Nat → Int32)) (rowSizes : (Nat → Int32)) (items : (Nat → Int64)) (moved : (Nat → Int64)) : Prop := ∀ (r : Int32) (dug : Int64) (deep : Int64) (holes : (Nat → Int64)) (holeMany : Int32) (H : Heap) (locs : List Loc) (pc : Nat) (ls : Array Slot), Q r dug deep holes holeMany → va_P (dC, dI) vwCl (wM h dA depths owners roofs rate undos undoMany drawn dug deep holes holeMany tape taped place reads read_ row order bestOrder nears isKept keptRoofs kept lanes rowSizes items moved) H → va_S (mA h) s.heap H locs → decode cX3_loophole pc = .ok (.ireturn, 1) → W p l e RX3_loophole_ s m args below meth c H locs 0 0 Qw (F0 m pc ls [.int r])
def wX3_loophole_74 (Q : Int32 → Int64 → Int64 → (Nat → Int64) → Int32 → Prop) (k14 : Int32 → Int32 → Int32 → Int64 → (Nat → Int64) → Int32 → Prop) (x1 : Int32) (x3 : Int32) (x4 : Int32) (z0 : Int32) (depths : (Nat → Int32)) (roofs : Int64) (rate : Int32) (dug : Int64) (deep : Int64) (holes : (Nat → Int64)) (holeMany : Int32) : Prop := ((x1 ≤ x4 → (∀ x3_88 : Int32, x3_88 = x3 + 1 → (k14 x1 z0 x3_88 dug holes holeMany))) ∧ (¬ x1 ≤ x4 → (∀ x3_88 : Int32, x3_88 = x3 + 1 → (k14 x4 z0 x3_88 dug holes holeMany))))
set_option maxHeartbeats 4000000 in
set_option maxRecDepth 100000 in
theorem tX3_loophole_74 {Q : Int32 → Int64 → Int64 → (Nat → Int64) → Int32 → Prop} {depths : (Nat → Int32)} {owners : (Nat → Int32)} {roofs : Int64} {rate : Int32} {undos : (Nat → Int32)} {undoMany : Int32} {drawn : Int32} {tape : (Nat → Int32)} {taped : Int32} {place : Int32} {reads : Int32} {read_ : (Nat → Int32)} {row : (Nat → Int32)} {order : (Nat → Int32)} {bestOrder : (Nat → Int32)} {nears : (Nat → Int32)} {isKept : Int32} {keptRoofs : Int64} {kept : (Nat → Int32)} {lanes : (Nat → Int32)} {rowSizes : (Nat → Int32)} {items : (Nat → Int64)} {moved : (Nat → Int64)} {deep : Int64} (S : CallFix p m c cX3_loophole 5 s args lw_all RX3) (hK : va_K (dC, dI) vwCl (tysG dA) s) (hj : mJ h) (hret : hrX3_loophole p l e s m args below meth c dC dI dA h Qw Q depths owners roofs rate undos undoMany drawn tape taped place reads read_ row order bestOrder nears isKept keptRoofs kept lanes rowSizes items moved) {k14 : Int32 → Int32 → Int32 → Int64 → (Nat → Int64) → Int32 → Prop} (hk14 : ∀ (x1 : Int32) (x2 : Int32) (x3 : Int32) (dug : Int64) (holes : (Nat → Int64)) (holeMany : Int32) (H : Heap) (locs : List Loc) (ls : Array Slot), k14 x1 x2 x3 dug holes holeMany → va_P (dC, dI) vwCl (wM h dA depths owners roofs rate undos undoMany drawn dug deep holes holeMany tape taped place reads read_ row order bestOrder nears isKept keptRoofs kept lanes rowSizes items moved) H → va_S (mA h) s.heap H locs → lv_has ls 5 [(0, .ref (h 0)), (1, .int x1), (2, .int x2), (3, .int x3)] → W p l e RX3_loophole_ s m args below meth c H locs 0 0 Qw (F0 m 14 ls [])) : ∀ (x1 : Int32) (x3 : Int32) (x4 : Int32) (z0 : Int32) (dug : Int64) (holes : (Nat → Int64)) (holeMany : Int32) (H : Heap) (locs : List Loc) (ls : Array Slot), wX3_loophole_74 Q k14 x1 x3 x4 z0 depths roofs rate dug deep holes holeMany → va_P (dC, dI) vwCl (wM h dA depths owners roofs rate undos undoMany drawn dug deep holes holeMany tape taped place reads read_ row order bestOrder nears isKept keptRoofs kept lanes rowSizes items moved) H → va_S (mA h) s.heap H locs → lv_has ls 5 [(0, .ref (h 0)), (1, .int x1), (3, .int x3), (4, .int x4)] → W p l e RX3_loophole_ s m args below meth c H locs 0 0 Qw (F0 m 74 ls [.int z0]) := by
  obtain ⟨hx, hb, hml, hown, hts⟩ := id S
  intro x1 x3 x4 z0 dug holes holeMany H locs ls hf hP hS hl
  unfold wX3_loophole_74 at hf
  refine lv_istore_n (lv' := [(2, .int z0), (0, .ref (h 0)), (1, .int x1), (3, .int x3), (4, .int x4)]) hx hb dX3_loophole_74 rfl hl (by decide) rfl (fun ls hl => ?_)
  refine lv_iload hx hb dX3_loophole_75 (lv_at hl 4 rfl) ?_
  refine lv_iload_n hx hb dX3_loophole_77 rfl (lv_at hl 2 rfl) ?_
  refine lv_icmp_ge (tgt := 86) hx hb dX3_loophole_78 (by decide) (fun c_78 => ?_) (fun c_78 => ?_)
  · replace hf := hf.1 c_78
    refine lv_iload_n hx hb dX3_loophole_86 rfl (lv_at hl 2 rfl) ?_
    refine lv_istore_n (lv' := [(1, .int x1), (2, .int z0), (0, .ref (h 0)), (3, .int x3), (4, .int x4)]) hx hb dX3_loophole_87 rfl hl (by decide) rfl (fun ls hl => ?_)
    obtain ⟨x3_88, ex3_88⟩ : ∃ z : Int32, z = x3 + 1 := ⟨_, rfl⟩
    replace hf := hf x3_88 ex3_88
    refine lv_iinc (v := x3_88) (lv' := [(3, .int x3_88), (1, .int x1), (2, .int z0), (0, .ref (h 0)), (4, .int x4)]) hx hb dX3_loophole_88 hl (k := 3) rfl (by rw [ex3_88]; rfl) (by decide) rfl (fun ls hl => ?_)
    refine lv_goto (tgt := 14) hx hb dX3_loophole_91 (by decide) ?_
    exact hk14 x1 z0 x3_88 dug holes holeMany _ _ _ hf hP hS (lv_sub hl [3, 1, 2, 0] rfl)
  · replace hf := hf.2 c_78
    refine lv_iload hx hb dX3_loophole_81 (lv_at hl 4 rfl) ?_
    refine lv_goto (tgt := 87) hx hb dX3_loophole_83 (by decide) ?_
    refine lv_istore_n (lv' := [(1, .int x4), (2, .int z0), (0, .ref (h 0)), (3, .int x3), (4, .int x4)]) hx hb dX3_loophole_87 rfl hl (by decide) rfl (fun ls hl => ?_)
    obtain ⟨x3_88, ex3_88⟩ : ∃ z : Int32, z = x3 + 1 := ⟨_, rfl⟩
    replace hf := hf x3_88 ex3_88
    refine lv_iinc (v := x3_88) (lv' := [(3, .int x3_88), (1, .int x4), (2, .int z0), (0, .ref (h 0)), (4, .int x4)]) hx hb dX3_loophole_88 hl (k := 3) rfl (by rw [ex3_88]; rfl) (by decide) rfl (fun ls hl => ?_)
    refine lv_goto (tgt := 14) hx hb dX3_loophole_91 (by decide) ?_
    exact hk14 x4 z0 x3_88 dug holes holeMany _ _ _ hf hP hS (lv_sub hl [3, 1, 2, 0] rfl)
def wX3_loophole_14 (Q : Int32 → Int64 → Int64 → (Nat → Int64) → Int32 → Prop) (depths : (Nat → Int32)) (roofs : Int64) (rate : Int32) (deep : Int64) : Nat → Int32 → Int32 → Int32 → Int64 → (Nat → Int64) → Int32 → Prop
  | 0, _, _, _, _, _, _ => False
  | n + 1, x1, x2, x3, dug, holes, holeMany => ((36 ≤ x3 → (Q x2 dug deep holes holeMany)) ∧ (¬ 36 ≤ x3 → (vp_in x3 36 ∧ (((depths (x3 : Int32).toNatClampNeg) = 0 → (∀ dug_38 : Int64, dug_38 = (dug ||| (1 <<< ((x3 : Int32).toInt64 &&& 63))) → (wX3_taxOfAll (fun r_42 holes_42 holeMany_42 => (∀ dug_60 : Int64, dug_60 = (dug_38 &&& ((1 <<< ((x3 : Int32).toInt64 &&& 63)) ^^^ (-1))) → ((x1 ≤ r_42 → (wX3_loophole_74 Q (wX3_loophole_14 Q depths roofs rate deep n) x1 x3 r_42 x2 depths roofs rate dug_60 deep holes_42 holeMany_42)) ∧ (¬ x1 ≤ r_42 → (wX3_loophole_74 Q (wX3_loophole_14 Q depths roofs rate deep n) x1 x3 r_42 x3 depths roofs rate dug_60 deep holes_42 holeMany_42))))) roofs rate dug_38 deep holes holeMany))) ∧ (¬ (depths (x3 : Int32).toNatClampNeg) = 0 → (∀ x3_88 : Int32, x3_88 = x3 + 1 → ((wX3_loophole_14 Q depths roofs rate deep n) x1 x2 x3_88 dug holes holeMany)))))))
set_option maxHeartbeats 4000000 in
set_option maxRecDepth 100000 in
theorem tX3_loophole_14 {Q : Int32 → Int64 → Int64 → (Nat → Int64) → Int32 → Prop} {depths : (Nat → Int32)} {owners : (Nat → Int32)} {roofs : Int64} {rate : Int32} {undos : (Nat → Int32)} {undoMany : Int32} {drawn : Int32} {deep : Int64} {tape : (Nat → Int32)} {taped : Int32} {place : Int32} {reads : Int32} {read_ : (Nat → Int32)} {row : (Nat → Int32)} {order : (Nat → Int32)} {bestOrder : (Nat → Int32)} {nears : (Nat → Int32)} {isKept : Int32} {keptRoofs : Int64} {kept : (Nat → Int32)} {lanes : (Nat → Int32)} {rowSizes : (Nat → Int32)} {items : (Nat → Int64)} {moved : (Nat → Int64)} (S : CallFix p m c cX3_loophole 5 s args lw_all RX3) (hK : va_K (dC, dI) vwCl (tysG dA) s) (hj : mJ h) (hret : hrX3_loophole p l e s m args below meth c dC dI dA h Qw Q depths owners roofs rate undos undoMany drawn tape taped place reads read_ row order bestOrder nears isKept keptRoofs kept lanes rowSizes items moved) : ∀ (n : Nat) (x1 : Int32) (x2 : Int32) (x3 : Int32) (dug : Int64) (holes : (Nat → Int64)) (holeMany : Int32) (H : Heap) (locs : List Loc) (ls : Array Slot), wX3_loophole_14 Q depths roofs rate deep n x1 x2 x3 dug holes holeMany → va_P (dC, dI) vwCl (wM h dA depths owners roofs rate undos undoMany drawn dug deep holes holeMany tape taped place reads read_ row order bestOrder nears isKept keptRoofs kept lanes rowSizes items moved) H → va_S (mA h) s.heap H locs → lv_has ls 5 [(0, .ref (h 0)), (1, .int x1), (2, .int x2), (3, .int x3)] → W p l e RX3_loophole_ s m args below meth c H locs 0 0 Qw (F0 m 14 ls []) := by
  obtain ⟨hx, hb, hml, hown, hts⟩ := id S
  intro n
  induction n with
  | zero => intro _ _ _ _ _ _ _ _ _ hf; exact hf.elim
  | succ n ih =>
    intro x1 x2 x3 dug holes holeMany H locs ls hf hP hS hl
    rw [wX3_loophole_14] at hf
    refine lv_iload_n hx hb dX3_loophole_14 rfl (lv_at hl 3 rfl) ?_
    refine lv_bipush (v := 36) hx hb dX3_loophole_15 (by decide) ?_
    refine lv_icmp_ge (tgt := 94) hx hb dX3_loophole_17 (by decide) (fun c_17 => ?_) (fun c_17 => ?_)
    · replace hf := hf.1 c_17
      refine lv_iload_n hx hb dX3_loophole_94 rfl (lv_at hl 2 rfl) ?_
      exact hret _ _ _ _ _ _ _ _ _ hf hP hS dX3_loophole_95
    · replace hf := hf.2 c_17
      refine lv_aload_n hx hb dX3_loophole_20 rfl (lv_at hl 0 rfl) ?_
      refine gM_depths S hK hP dX3_loophole_21 ?_
      refine lv_iload_n hx hb dX3_loophole_24 rfl (lv_at hl 3 rfl) ?_
      obtain ⟨hin, hf⟩ := hf
      refine lM_depths S hK hP hin dX3_loophole_25 ?_
      refine lv_if_ne (tgt := 88) hx hb dX3_loophole_26 (by decide) (fun c_26 => ?_) (fun c_26 => ?_)
      · replace hf := hf.2 c_26
        obtain ⟨x3_88, ex3_88⟩ : ∃ z : Int32, z = x3 + 1 := ⟨_, rfl⟩
        replace hf := hf x3_88 ex3_88
        refine lv_iinc (v := x3_88) (lv' := [(3, .int x3_88), (0, .ref (h 0)), (1, .int x1), (2, .int x2)]) hx hb dX3_loophole_88 hl (k := 3) rfl (by rw [ex3_88]; rfl) (by decide) rfl (fun ls hl => ?_)
        refine lv_goto (tgt := 14) hx hb dX3_loophole_91 (by decide) ?_
        exact ih x1 x2 x3_88 dug holes holeMany _ _ _ hf hP hS (lv_sub hl [1, 2, 3, 0] rfl)
      · replace hf := hf.1 c_26
        refine lv_aload_n hx hb dX3_loophole_29 rfl (lv_at hl 0 rfl) ?_
        refine lv_dup hx hb dX3_loophole_30 rfl ?_
        refine gM_dug S hK hP dX3_loophole_31 ?_
        refine lv_lconst (v := 1) hx hb dX3_loophole_34 (by decide) ?_
        refine lv_iload_n hx hb dX3_loophole_35 rfl (lv_at hl 3 rfl) ?_
        refine lv_lshl (v := (1 <<< ((x3 : Int32).toInt64 &&& 63))) hx hb dX3_loophole_36 rfl ?_
        refine lv_lor hx hb dX3_loophole_37 ?_
        refine lv_topl (fun dug_38 edug_38 => ?_)
        replace hf := hf dug_38 edug_38
        refine pM_dug S hK hj hP hS dX3_loophole_38 (fun H locs hP hS => ?_)
        refine lv_aload_n hx hb dX3_loophole_41 rfl (lv_at hl 0 rfl) ?_
        refine cM_i (As := []) (rest := []) S hK rfl hP hS (metX3_taxOfAll l hj hf) (lw_V q1393 q1395 qs37 q60 q1396) rfl pdX3_taxOfAll ⟨rfl, rfl⟩ ⟨Nat.le_of_ble_eq_true rfl, Nat.le_of_ble_eq_true rfl⟩ rfl hl.1 rfl (Nat.le_of_ble_eq_true rfl) dX3_loophole_42 ⟨Nat.zero_le _, Nat.zero_le _⟩ (fun r_42 u_42 H locs hf hP hS => ?_)
        obtain ⟨holes_42, holeMany_42⟩ := u_42
        replace hP : va_P (dC, dI) vwCl (wM h dA depths owners roofs rate undos undoMany drawn dug_38 deep holes_42 holeMany_42 tape taped place reads read_ row order bestOrder nears isKept keptRoofs kept lanes rowSizes items moved) H := hP
        try dsimp only at hf
        refine lv_istore (lv' := [(4, .int r_42), (0, .ref (h 0)), (1, .int x1), (2, .int x2), (3, .int x3)]) hx hb dX3_loophole_45 hl (by decide) rfl (fun ls hl => ?_)
        refine lv_aload_n hx hb dX3_loophole_47 rfl (lv_at hl 1 rfl) ?_
        refine lv_dup hx hb dX3_loophole_48 rfl ?_
        refine gM_dug S hK hP dX3_loophole_49 ?_
        refine lv_lconst (v := 1) hx hb dX3_loophole_52 (by decide) ?_
        refine lv_iload_n hx hb dX3_loophole_53 rfl (lv_at hl 4 rfl) ?_
        refine lv_lshl (v := (1 <<< ((x3 : Int32).toInt64 &&& 63))) hx hb dX3_loophole_54 rfl ?_
        refine lv_ldc2 (v := (-1)) hx hb hown (hts _ q1286) dX3_loophole_55 ?_
        refine lv_lxor hx hb dX3_loophole_58 ?_
        refine lv_land hx hb dX3_loophole_59 ?_
        refine lv_topl (fun dug_60 edug_60 => ?_)
        replace hf := hf dug_60 edug_60
        refine pM_dug S hK hj hP hS dX3_loophole_60 (fun H locs hP hS => ?_)
        refine lv_iload hx hb dX3_loophole_63 (lv_at hl 0 rfl) ?_
        refine lv_iload_n hx hb dX3_loophole_65 rfl (lv_at hl 2 rfl) ?_
        refine lv_icmp_ge (tgt := 73) hx hb dX3_loophole_66 (by decide) (fun c_66 => ?_) (fun c_66 => ?_)
        · replace hf := hf.1 c_66
          refine lv_iload_n hx hb dX3_loophole_73 rfl (lv_at hl 3 rfl) ?_
          exact tX3_loophole_74 S hK hj hret ih x1 x3 r_42 x2 dug_60 holes_42 holeMany_42 _ _ _ hf hP hS (lv_sub hl [1, 2, 4, 0] rfl)
        · replace hf := hf.2 c_66
          refine lv_iload_n hx hb dX3_loophole_69 rfl (lv_at hl 4 rfl) ?_
          refine lv_goto (tgt := 74) hx hb dX3_loophole_70 (by decide) ?_
          exact tX3_loophole_74 S hK hj hret ih x1 x3 r_42 x3 dug_60 holes_42 holeMany_42 _ _ _ hf hP hS (lv_sub hl [1, 2, 4, 0] rfl)
def wX3_loophole (Q : Int32 → Int64 → Int64 → (Nat → Int64) → Int32 → Prop) (depths : (Nat → Int32)) (roofs : Int64) (rate : Int32) (dug : Int64) (deep : Int64) (holes : (Nat → Int64)) (holeMany : Int32) : Prop := (wX3_look (fun dug_1 deep_1 => (wX3_taxOfAll (fun r_5 holes_5 holeMany_5 => (∃ fu : Nat, wX3_loophole_14 Q depths roofs rate deep_1 fu r_5 (-4) 0 dug_1 holes_5 holeMany_5)) roofs rate dug_1 deep_1 holes holeMany)) depths dug deep)
end
set_option maxHeartbeats 4000000 in
set_option maxRecDepth 100000 in
theorem metX3_loophole (l : Launch) {Q : Int32 → Int64 → Int64 → (Nat → Int64) → Int32 → Prop} {depths : (Nat → Int32)} {owners : (Nat → Int32)} {roofs : Int64} {rate : Int32} {undos : (Nat → Int32)} {undoMany : Int32} {drawn : Int32} {dug : Int64} {deep : Int64} {holes : (Nat → Int64)} {holeMany : Int32} {tape : (Nat → Int32)} {taped : Int32} {place : Int32} {reads : Int32} {read_ : (Nat → Int32)} {row : (Nat → Int32)} {order : (Nat → Int32)} {bestOrder : (Nat → Int32)} {nears : (Nat → Int32)} {isKept : Int32} {keptRoofs : Int64} {kept : (Nat → Int32)} {lanes : (Nat → Int32)} {rowSizes : (Nat → Int32)} {items : (Nat → Int64)} {moved : (Nat → Int64)} {dC : Nat → ClassId} {dI : Nat → Nat → Nat} {dA : Nat → ClassId} {h : Nat → Nat} (hj : mJ h) (hf : wX3_loophole Q depths roofs rate dug deep holes holeMany) : Met l yX3_loophole (ws_ yX3_loophole cX3_loophole 5 (some .int)) rmX3_loophole (mPc dC dI dA h [] (wM h dA depths owners roofs rate undos undoMany drawn dug deep holes holeMany tape taped place reads read_ row order bestOrder nears isKept keptRoofs kept lanes rowSizes items moved)) (va_Qi (fun (r : Int32) (u : Int64 × Int64 × (Nat → Int64) × Int32) => Q r u.1 u.2.1 u.2.2.1 u.2.2.2) (fun u t => va_P (dC, dI) vwCl (wM h dA depths owners roofs rate undos undoMany drawn u.1 u.2.1 u.2.2.1 u.2.2.2 tape taped place reads read_ row order bestOrder nears isKept keptRoofs kept lanes rowSizes items moved) t.heap) (mA h)) 0 0 (mA h) := by
  refine Met.ofW (cc := cX3_loophole) (maxL := 5) (ret := (some .int)) (by decide) rfl ?_
  intro p e s m args below meth c s₁ B hml hv
  obtain ⟨rfl, hP, hK⟩ := hv
  have hx := B.exec
  have hb := B.bytes
  have hr := B.returns
  have hts := atoms_spec (ws := (ws_ yX3_loophole cX3_loophole 5 (some .int))) B.pre
  have hts : ∀ w ∈ lw_all, w.before _ s = true := fun w h => hts w (List.mem_cons_of_mem _ h)
  have hown : s.vm.findClass RX3 = some m.cls := findClass_of_methodNamed B.named
  have hlocks := B.notSynchronized
  have S : CallFix p m c cX3_loophole 5 s _ lw_all RX3 := ⟨hx, hb, hml, hown, hts⟩
  have hS : va_S (mA h) s.heap s.heap [] := va_S.rf
  have hl := lv_entry ([.ref (h 0)]) (n := 5) (Nat.le_of_ble_eq_true rfl)
  rw [lg_entry_eq]
  generalize (lg_sl ([.ref (h 0)]) ++ List.replicate (5 - (lg_sl ([.ref (h 0)])).length) Slot.unset).toArray = ls at hl ⊢
  replace hl : lv_has ls 5 [(0, .ref (h 0))] := hl
  have hret : hrX3_loophole p l e s m ([.ref (h 0)] : List Value).toArray below meth c dC dI dA h (MQ below (va_Qi (fun (r : Int32) (u : Int64 × Int64 × (Nat → Int64) × Int32) => Q r u.1 u.2.1 u.2.2.1 u.2.2.2) (fun u t => va_P (dC, dI) vwCl (wM h dA depths owners roofs rate undos undoMany drawn u.1 u.2.1 u.2.2.1 u.2.2.2 tape taped place reads read_ row order bestOrder nears isKept keptRoofs kept lanes rowSizes items moved) t.heap) (mA h)) ([.ref (h 0)] : List Value).toArray s 0 0 (mA h)) Q depths owners roofs rate undos undoMany drawn tape taped place reads read_ row order bestOrder nears isKept keptRoofs kept lanes rowSizes items moved := fun r dug deep holes holeMany H locs pc ls hq hP hS hd => W.iret hx hb hr (fun t ht hW => ⟨⟨r, (dug, deep, holes, holeMany), rfl, hq, by subst ht; exact hP⟩, hS.F ht⟩) hS.2.2 hd
  unfold wX3_loophole at hf
  refine lv_aload_n hx hb dX3_loophole_0 rfl (lv_at hl 0 rfl) ?_
  refine cM_v (As := []) (rest := []) S hK rfl hP hS (metX3_look l hj hf) (lw_V q1309 q1311 qs27 q60 q1312) rfl pdX3_look ⟨rfl, rfl⟩ ⟨Nat.le_of_ble_eq_true rfl, Nat.le_of_ble_eq_true rfl⟩ rfl hl.1 rfl (Nat.le_of_ble_eq_true rfl) dX3_loophole_1 ⟨Nat.zero_le _, Nat.zero_le _⟩ (fun u_1 H locs hf hP hS => ?_)
  obtain ⟨dug_1, deep_1⟩ := u_1
  replace hP : va_P (dC, dI) vwCl (wM h dA depths owners roofs rate undos undoMany drawn dug_1 deep_1 holes holeMany tape taped place reads read_ row order bestOrder nears isKept keptRoofs kept lanes rowSizes items moved) H := hP
  try dsimp only at hf
  refine lv_aload_n hx hb dX3_loophole_4 rfl (lv_at hl 0 rfl) ?_
  refine cM_i (As := []) (rest := []) S hK rfl hP hS (metX3_taxOfAll l hj hf) (lw_V q1393 q1395 qs37 q60 q1396) rfl pdX3_taxOfAll ⟨rfl, rfl⟩ ⟨Nat.le_of_ble_eq_true rfl, Nat.le_of_ble_eq_true rfl⟩ rfl hl.1 rfl (Nat.le_of_ble_eq_true rfl) dX3_loophole_5 ⟨Nat.zero_le _, Nat.zero_le _⟩ (fun r_5 u_5 H locs hf hP hS => ?_)
  obtain ⟨holes_5, holeMany_5⟩ := u_5
  replace hP : va_P (dC, dI) vwCl (wM h dA depths owners roofs rate undos undoMany drawn dug_1 deep_1 holes_5 holeMany_5 tape taped place reads read_ row order bestOrder nears isKept keptRoofs kept lanes rowSizes items moved) H := hP
  try dsimp only at hf
  refine lv_istore_n (lv' := [(1, .int r_5), (0, .ref (h 0))]) hx hb dX3_loophole_8 rfl hl (by decide) rfl (fun ls hl => ?_)
  refine lv_bipush (v := (-4)) hx hb dX3_loophole_9 (by decide) ?_
  refine lv_istore_n (lv' := [(2, .int (-4)), (1, .int r_5), (0, .ref (h 0))]) hx hb dX3_loophole_11 rfl hl (by decide) rfl (fun ls hl => ?_)
  refine lv_iconst (v := 0) hx hb dX3_loophole_12 (by decide) ?_
  refine lv_istore_n (lv' := [(3, .int 0), (2, .int (-4)), (1, .int r_5), (0, .ref (h 0))]) hx hb dX3_loophole_13 rfl hl (by decide) rfl (fun ls hl => ?_)
  obtain ⟨fu, hf⟩ := hf
  exact tX3_loophole_14 S hK hj hret fu r_5 (-4) 0 dug_1 holes_5 holeMany_5 _ _ _ hf hP hS (lv_sub hl [3, 2, 1, 0] rfl)
/-! HoleCountyModel.roofs(I)I -/
theorem pdX3_roofs : DscOk yX3_roofs 1 := by decide +kernel
abbrev rmX3_roofs : Room := { frames := 3, cells := 0, slots := 0, locals := 71 }
abbrev RX3_roofs_ : Room := (headSpec (ws_ yX3_roofs cX3_roofs 2 (some .int)) rmX3_roofs).room
section
variable {p : Program} {l : Launch} {e : Env} {s : State} {m : MethodId} {args : Array Value} {below : List Frame} {meth : Method} {c : Code} {Qw : State → Prop} {dC : Nat → ClassId} {dI : Nat → Nat → Nat} {dA : Nat → ClassId} {h : Nat → Nat}
abbrev hrX3_roofs (p : Program) (l : Launch) (e : Env) (s : State) (m : MethodId) (args : Array Value) (below : List Frame) (meth : Method) (c : Code) (dC : Nat → ClassId) (dI : Nat → Nat → Nat) (dA : Nat → ClassId) (h : Nat → Nat) (Qw : State → Prop) (Q : Int32 → Int64 → Int64 → Prop) (depths : (Nat → Int32)) (owners : (Nat → Int32)) (roofs : Int64) (rate : Int32) (undos : (Nat → Int32)) (undoMany : Int32) (drawn : Int32) (holes : (Nat → Int64)) (holeMany : Int32) (tape : (Nat → Int32)) (taped : Int32) (place : Int32) (reads : Int32) (read_ : (Nat → Int32)) (row : (Nat → Int32)) (order : (Nat → Int32)) (bestOrder : (Nat → Int32)) (nears : (Nat → Int32)) (isKept : Int32) (keptRoofs : Int64) (kept : (Nat → Int32)) (lanes : (Nat → Int32)) (rowSizes : (Nat → Int32)) (items : (Nat → Int64)) (moved : (Nat → Int64)) : Prop := ∀ (r : Int32) (dug : Int64) (deep : Int64) (H : Heap) (locs : List Loc) (pc : Nat) (ls : Array Slot), Q r dug deep → va_P (dC, dI) vwCl (wM h dA depths owners roofs rate undos undoMany drawn dug deep holes holeMany tape taped place reads read_ row order bestOrder nears isKept keptRoofs kept lanes rowSizes items moved) H → va_S (mA h) s.heap H locs → decode cX3_roofs pc = .ok (.ireturn, 1) → W p l e RX3_roofs_ s m args below meth c H locs 0 0 Qw (F0 m pc ls [.int r])
def wX3_roofs (Q : Int32 → Int64 → Int64 → Prop) (depths : (Nat → Int32)) (roofs : Int64) (dug : Int64) (deep : Int64) (x1 : Int32) : Prop := (wX3_isCell (fun r_1 => ((r_1 = 0 → (Q (-1) dug deep)) ∧ (¬ r_1 = 0 → (wX3_look (fun dug_10 deep_10 => (wX3_has (fun r_18 => ((r_18 = 0 → (Q (-2) dug_10 deep_10)) ∧ (¬ r_18 = 0 → (wX3_holeAt (fun r_26 => (wX3_ones (fun r_38 => (Q r_38 dug_10 deep_10)) (r_26 &&& (roofs ^^^ (-1))))) dug_10 x1)))) dug_10 x1)) depths dug deep)))) x1)
end
set_option maxHeartbeats 4000000 in
set_option maxRecDepth 100000 in
theorem metX3_roofs (l : Launch) {Q : Int32 → Int64 → Int64 → Prop} {depths : (Nat → Int32)} {owners : (Nat → Int32)} {roofs : Int64} {rate : Int32} {undos : (Nat → Int32)} {undoMany : Int32} {drawn : Int32} {dug : Int64} {deep : Int64} {holes : (Nat → Int64)} {holeMany : Int32} {tape : (Nat → Int32)} {taped : Int32} {place : Int32} {reads : Int32} {read_ : (Nat → Int32)} {row : (Nat → Int32)} {order : (Nat → Int32)} {bestOrder : (Nat → Int32)} {nears : (Nat → Int32)} {isKept : Int32} {keptRoofs : Int64} {kept : (Nat → Int32)} {lanes : (Nat → Int32)} {rowSizes : (Nat → Int32)} {items : (Nat → Int64)} {moved : (Nat → Int64)} {x1 : Int32} {dC : Nat → ClassId} {dI : Nat → Nat → Nat} {dA : Nat → ClassId} {h : Nat → Nat} (hj : mJ h) (hf : wX3_roofs Q depths roofs dug deep x1) : Met l yX3_roofs (ws_ yX3_roofs cX3_roofs 2 (some .int)) rmX3_roofs (mPc dC dI dA h [.int x1] (wM h dA depths owners roofs rate undos undoMany drawn dug deep holes holeMany tape taped place reads read_ row order bestOrder nears isKept keptRoofs kept lanes rowSizes items moved)) (va_Qi (fun (r : Int32) (u : Int64 × Int64) => Q r u.1 u.2) (fun u t => va_P (dC, dI) vwCl (wM h dA depths owners roofs rate undos undoMany drawn u.1 u.2 holes holeMany tape taped place reads read_ row order bestOrder nears isKept keptRoofs kept lanes rowSizes items moved) t.heap) (mA h)) 0 0 (mA h) := by
  refine Met.ofW (cc := cX3_roofs) (maxL := 2) (ret := (some .int)) (by decide) rfl ?_
  intro p e s m args below meth c s₁ B hml hv
  obtain ⟨rfl, hP, hK⟩ := hv
  have hx := B.exec
  have hb := B.bytes
  have hr := B.returns
  have hts := atoms_spec (ws := (ws_ yX3_roofs cX3_roofs 2 (some .int))) B.pre
  have hts : ∀ w ∈ lw_all, w.before _ s = true := fun w h => hts w (List.mem_cons_of_mem _ h)
  have hown : s.vm.findClass RX3 = some m.cls := findClass_of_methodNamed B.named
  have hlocks := B.notSynchronized
  have S : CallFix p m c cX3_roofs 2 s _ lw_all RX3 := ⟨hx, hb, hml, hown, hts⟩
  have hS : va_S (mA h) s.heap s.heap [] := va_S.rf
  have hl := lv_entry ([.ref (h 0), .int x1]) (n := 2) (Nat.le_of_ble_eq_true rfl)
  rw [lg_entry_eq]
  generalize (lg_sl ([.ref (h 0), .int x1]) ++ List.replicate (2 - (lg_sl ([.ref (h 0), .int x1])).length) Slot.unset).toArray = ls at hl ⊢
  replace hl : lv_has ls 2 [(0, .ref (h 0)), (1, .int x1)] := hl
  have hret : hrX3_roofs p l e s m ([.ref (h 0), .int x1] : List Value).toArray below meth c dC dI dA h (MQ below (va_Qi (fun (r : Int32) (u : Int64 × Int64) => Q r u.1 u.2) (fun u t => va_P (dC, dI) vwCl (wM h dA depths owners roofs rate undos undoMany drawn u.1 u.2 holes holeMany tape taped place reads read_ row order bestOrder nears isKept keptRoofs kept lanes rowSizes items moved) t.heap) (mA h)) ([.ref (h 0), .int x1] : List Value).toArray s 0 0 (mA h)) Q depths owners roofs rate undos undoMany drawn holes holeMany tape taped place reads read_ row order bestOrder nears isKept keptRoofs kept lanes rowSizes items moved := fun r dug deep H locs pc ls hq hP hS hd => W.iret hx hb hr (fun t ht hW => ⟨⟨r, (dug, deep), rfl, hq, by subst ht; exact hP⟩, hS.F ht⟩) hS.2.2 hd
  unfold wX3_roofs at hf
  refine lv_iload_n hx hb dX3_roofs_0 rfl (lv_at hl 1 rfl) ?_
  refine cs_i (As := [.int x1]) (rest := []) S (metX3_isCell l hf) (lw_S q1264 q1265 q60 q1266) pdX3_isCell ⟨rfl, rfl⟩ ⟨Nat.le_of_ble_eq_true rfl, Nat.le_of_ble_eq_true rfl⟩ rfl hl.1 rfl (Nat.le_of_ble_eq_true rfl) dX3_roofs_1 ⟨Nat.zero_le _, Nat.zero_le _⟩ (fun r_1 hf => ?_)
  refine lv_if_ne (tgt := 9) hx hb dX3_roofs_4 (by decide) (fun c_4 => ?_) (fun c_4 => ?_)
  · replace hf := hf.2 c_4
    refine lv_aload_n hx hb dX3_roofs_9 rfl (lv_at hl 0 rfl) ?_
    refine cM_v (As := []) (rest := []) S hK rfl hP hS (metX3_look l hj hf) (lw_V q1309 q1311 qs27 q60 q1312) rfl pdX3_look ⟨rfl, rfl⟩ ⟨Nat.le_of_ble_eq_true rfl, Nat.le_of_ble_eq_true rfl⟩ rfl hl.1 rfl (Nat.le_of_ble_eq_true rfl) dX3_roofs_10 ⟨Nat.zero_le _, Nat.zero_le _⟩ (fun u_10 H locs hf hP hS => ?_)
    obtain ⟨dug_10, deep_10⟩ := u_10
    replace hP : va_P (dC, dI) vwCl (wM h dA depths owners roofs rate undos undoMany drawn dug_10 deep_10 holes holeMany tape taped place reads read_ row order bestOrder nears isKept keptRoofs kept lanes rowSizes items moved) H := hP
    try dsimp only at hf
    refine lv_aload_n hx hb dX3_roofs_13 rfl (lv_at hl 0 rfl) ?_
    refine gM_dug S hK hP dX3_roofs_14 ?_
    refine lv_iload_n hx hb dX3_roofs_17 rfl (lv_at hl 1 rfl) ?_
    refine cs_i (As := [.long dug_10, .int x1]) (rest := []) S (metX3_has l hf) (lw_S q1275 q1276 q60 q1277) pdX3_has ⟨rfl, rfl⟩ ⟨Nat.le_of_ble_eq_true rfl, Nat.le_of_ble_eq_true rfl⟩ rfl hl.1 rfl (Nat.le_of_ble_eq_true rfl) dX3_roofs_18 ⟨Nat.zero_le _, Nat.zero_le _⟩ (fun r_18 hf => ?_)
    refine lv_if_eq (tgt := 44) hx hb dX3_roofs_21 (by decide) (fun c_21 => ?_) (fun c_21 => ?_)
    · replace hf := hf.1 c_21
      refine lv_bipush (v := (-2)) hx hb dX3_roofs_44 (by decide) ?_
      exact hret _ _ _ _ _ _ _ hf hP hS dX3_roofs_46
    · replace hf := hf.2 c_21
      refine lv_aload_n hx hb dX3_roofs_24 rfl (lv_at hl 0 rfl) ?_
      refine lv_iload_n hx hb dX3_roofs_25 rfl (lv_at hl 1 rfl) ?_
      refine cM_l (As := [.int x1]) (rest := []) S hK rfl hP hS (metX3_holeAt l hj hf) (lw_V q1313 q1315 qs28 q60 q1316) rfl pdX3_holeAt ⟨rfl, rfl⟩ ⟨Nat.le_of_ble_eq_true rfl, Nat.le_of_ble_eq_true rfl⟩ rfl hl.1 rfl (Nat.le_of_ble_eq_true rfl) dX3_roofs_26 ⟨Nat.zero_le _, Nat.zero_le _⟩ (fun r_26 u_26 H locs hf hP hS => ?_)
      replace hP : va_P (dC, dI) vwCl (wM h dA depths owners roofs rate undos undoMany drawn dug_10 deep_10 holes holeMany tape taped place reads read_ row order bestOrder nears isKept keptRoofs kept lanes rowSizes items moved) H := hP
      try dsimp only at hf
      refine lv_aload_n hx hb dX3_roofs_29 rfl (lv_at hl 0 rfl) ?_
      refine gM_roofs S hK hP dX3_roofs_30 ?_
      refine lv_ldc2 (v := (-1)) hx hb hown (hts _ q1286) dX3_roofs_33 ?_
      refine lv_lxor hx hb dX3_roofs_36 ?_
      refine lv_land hx hb dX3_roofs_37 ?_
      refine cs_i (As := [.long (r_26 &&& (roofs ^^^ (-1)))]) (rest := []) S (metX3_ones l hf) (lw_S q1390 q1391 q60 q1392) pdX3_ones ⟨rfl, rfl⟩ ⟨Nat.le_of_ble_eq_true rfl, Nat.le_of_ble_eq_true rfl⟩ rfl hl.1 rfl (Nat.le_of_ble_eq_true rfl) dX3_roofs_38 ⟨Nat.zero_le _, Nat.zero_le _⟩ (fun r_38 hf => ?_)
      refine lv_goto (tgt := 46) hx hb dX3_roofs_41 (by decide) ?_
      exact hret _ _ _ _ _ _ _ hf hP hS dX3_roofs_46
  · replace hf := hf.1 c_4
    refine lv_iconst (v := (-1)) hx hb dX3_roofs_7 (by decide) ?_
    exact hret _ _ _ _ _ _ _ hf hP hS dX3_roofs_8
/-! HoleCountyModel.off(II)I -/
theorem pdX3_off : DscOk yX3_off 2 := by decide +kernel
abbrev rmX3_off : Room := { frames := 0, cells := 0, slots := 0, locals := 0 }
abbrev RX3_off_ : Room := (headSpec (ws_ yX3_off cX3_off 2 (some .int)) rmX3_off).room
section
variable {p : Program} {l : Launch} {e : Env} {s : State} {m : MethodId} {args : Array Value} {below : List Frame} {meth : Method} {c : Code} {Qw : State → Prop} {H : Heap} {locs : List Loc}
abbrev hrX3_off (p : Program) (l : Launch) (e : Env) (s : State) (m : MethodId) (args : Array Value) (below : List Frame) (meth : Method) (c : Code) (H : Heap) (locs : List Loc) (Qw : State → Prop) (Q : Int32 → Prop) : Prop := ∀ (r : Int32) (pc : Nat) (ls : Array Slot), Q r → decode cX3_off pc = .ok (.ireturn, 1) → W p l e RX3_off_ s m args below meth c H locs 0 0 Qw (F0 m pc ls [.int r])
def wX3_off (Q : Int32 → Prop) (x0 : Int32) (x1 : Int32) : Prop := ((x0 ≤ x1 → (Q (x1 - x0))) ∧ (¬ x0 ≤ x1 → (Q (x0 - x1))))
end
set_option maxHeartbeats 4000000 in
set_option maxRecDepth 100000 in
theorem metX3_off (l : Launch) {Q : Int32 → Prop} {x0 : Int32} {x1 : Int32} (hf : wX3_off Q x0 x1) : Met l yX3_off (ws_ yX3_off cX3_off 2 (some .int)) rmX3_off (fun v _ => v = ([.int x0, .int x1] : List Value).toArray) (vp_Si Q) 0 0 (fun _ => False) := by
  refine Met.ofW (cc := cX3_off) (maxL := 2) (ret := (some .int)) (by decide) rfl ?_
  intro p e s m args below meth c s₁ B hml hv
  subst hv
  have hx := B.exec
  have hb := B.bytes
  have hr := B.returns
  have hts := atoms_spec (ws := (ws_ yX3_off cX3_off 2 (some .int))) B.pre
  have hts : ∀ w ∈ lw_all, w.before _ s = true := fun w h => hts w (List.mem_cons_of_mem _ h)
  have hown : s.vm.findClass RX3 = some m.cls := findClass_of_methodNamed B.named
  have hlocks := B.notSynchronized
  have S : CallFix p m c cX3_off 2 s _ lw_all RX3 := ⟨hx, hb, hml, hown, hts⟩
  have hl := lv_entry ([.int x0, .int x1]) (n := 2) (Nat.le_of_ble_eq_true rfl)
  rw [lg_entry_eq]
  generalize (lg_sl ([.int x0, .int x1]) ++ List.replicate (2 - (lg_sl ([.int x0, .int x1])).length) Slot.unset).toArray = ls at hl ⊢
  replace hl : lv_has ls 2 [(0, .int x0), (1, .int x1)] := hl
  have hret : hrX3_off p l e s m ([.int x0, .int x1] : List Value).toArray below meth c s.heap [] (MQ below (vp_Si Q) ([.int x0, .int x1] : List Value).toArray s 0 0 (fun _ => False)) Q := fun r pc ls hq hd => W.iret hx hb hr (fun t ht hW => ⟨r, rfl, hq, ht⟩) t_nil hd
  unfold wX3_off at hf
  refine lv_iload_n hx hb dX3_off_0 rfl (lv_at hl 0 rfl) ?_
  refine lv_iload_n hx hb dX3_off_1 rfl (lv_at hl 1 rfl) ?_
  refine lv_icmp_le (tgt := 11) hx hb dX3_off_2 (by decide) (fun c_2 => ?_) (fun c_2 => ?_)
  · replace hf := hf.1 c_2
    refine lv_iload_n hx hb dX3_off_11 rfl (lv_at hl 1 rfl) ?_
    refine lv_iload_n hx hb dX3_off_12 rfl (lv_at hl 0 rfl) ?_
    refine lv_isub hx hb dX3_off_13 ?_
    exact hret _ _ _ hf dX3_off_14
  · replace hf := hf.2 c_2
    refine lv_iload_n hx hb dX3_off_5 rfl (lv_at hl 0 rfl) ?_
    refine lv_iload_n hx hb dX3_off_6 rfl (lv_at hl 1 rfl) ?_
    refine lv_isub hx hb dX3_off_7 ?_
    refine lv_goto (tgt := 14) hx hb dX3_off_8 (by decide) ?_
    exact hret _ _ _ hf dX3_off_14
/-! HoleCountyModel.apart(II)I -/
theorem pdX3_apart : DscOk yX3_apart 2 := by decide +kernel
abbrev rmX3_apart : Room := { frames := 1, cells := 0, slots := 0, locals := 21 }
abbrev RX3_apart_ : Room := (headSpec (ws_ yX3_apart cX3_apart 2 (some .int)) rmX3_apart).room
section
variable {p : Program} {l : Launch} {e : Env} {s : State} {m : MethodId} {args : Array Value} {below : List Frame} {meth : Method} {c : Code} {Qw : State → Prop} {H : Heap} {locs : List Loc}
abbrev hrX3_apart (p : Program) (l : Launch) (e : Env) (s : State) (m : MethodId) (args : Array Value) (below : List Frame) (meth : Method) (c : Code) (H : Heap) (locs : List Loc) (Qw : State → Prop) (Q : Int32 → Prop) : Prop := ∀ (r : Int32) (pc : Nat) (ls : Array Slot), Q r → decode cX3_apart pc = .ok (.ireturn, 1) → W p l e RX3_apart_ s m args below meth c H locs 0 0 Qw (F0 m pc ls [.int r])
def wX3_apart (Q : Int32 → Prop) (x0 : Int32) (x1 : Int32) : Prop := (wX3_off (fun r_8 => (wX3_off (fun r_19 => (Q (r_8 + r_19))) (x0 - x0 / 6 * 6) (x1 - x1 / 6 * 6))) (x0 / 6) (x1 / 6))
end
set_option maxHeartbeats 4000000 in
set_option maxRecDepth 100000 in
theorem metX3_apart (l : Launch) {Q : Int32 → Prop} {x0 : Int32} {x1 : Int32} (hf : wX3_apart Q x0 x1) : Met l yX3_apart (ws_ yX3_apart cX3_apart 2 (some .int)) rmX3_apart (fun v _ => v = ([.int x0, .int x1] : List Value).toArray) (vp_Si Q) 0 0 (fun _ => False) := by
  refine Met.ofW (cc := cX3_apart) (maxL := 2) (ret := (some .int)) (by decide) rfl ?_
  intro p e s m args below meth c s₁ B hml hv
  subst hv
  have hx := B.exec
  have hb := B.bytes
  have hr := B.returns
  have hts := atoms_spec (ws := (ws_ yX3_apart cX3_apart 2 (some .int))) B.pre
  have hts : ∀ w ∈ lw_all, w.before _ s = true := fun w h => hts w (List.mem_cons_of_mem _ h)
  have hown : s.vm.findClass RX3 = some m.cls := findClass_of_methodNamed B.named
  have hlocks := B.notSynchronized
  have S : CallFix p m c cX3_apart 2 s _ lw_all RX3 := ⟨hx, hb, hml, hown, hts⟩
  have hl := lv_entry ([.int x0, .int x1]) (n := 2) (Nat.le_of_ble_eq_true rfl)
  rw [lg_entry_eq]
  generalize (lg_sl ([.int x0, .int x1]) ++ List.replicate (2 - (lg_sl ([.int x0, .int x1])).length) Slot.unset).toArray = ls at hl ⊢
  replace hl : lv_has ls 2 [(0, .int x0), (1, .int x1)] := hl
  have hret : hrX3_apart p l e s m ([.int x0, .int x1] : List Value).toArray below meth c s.heap [] (MQ below (vp_Si Q) ([.int x0, .int x1] : List Value).toArray s 0 0 (fun _ => False)) Q := fun r pc ls hq hd => W.iret hx hb hr (fun t ht hW => ⟨r, rfl, hq, ht⟩) t_nil hd
  unfold wX3_apart at hf
  refine lv_iload_n hx hb dX3_apart_0 rfl (lv_at hl 0 rfl) ?_
  refine lv_bipush (v := 6) hx hb dX3_apart_1 (by decide) ?_
  refine lv_idiv hx hb dX3_apart_3 (by decide) ?_
  refine lv_iload_n hx hb dX3_apart_4 rfl (lv_at hl 1 rfl) ?_
  refine lv_bipush (v := 6) hx hb dX3_apart_5 (by decide) ?_
  refine lv_idiv hx hb dX3_apart_7 (by decide) ?_
  refine cs_i (As := [.int (x0 / 6), .int (x1 / 6)]) (rest := []) S (metX3_off l hf) (lw_S q1510 q1511 q60 q1512) pdX3_off ⟨rfl, rfl⟩ ⟨Nat.le_of_ble_eq_true rfl, Nat.le_of_ble_eq_true rfl⟩ rfl hl.1 rfl (Nat.le_of_ble_eq_true rfl) dX3_apart_8 ⟨Nat.zero_le _, Nat.zero_le _⟩ (fun r_8 hf => ?_)
  refine lv_iload_n hx hb dX3_apart_11 rfl (lv_at hl 0 rfl) ?_
  refine lv_bipush (v := 6) hx hb dX3_apart_12 (by decide) ?_
  refine lv_irem hx hb dX3_apart_14 (by decide) ?_
  refine lv_iload_n hx hb dX3_apart_15 rfl (lv_at hl 1 rfl) ?_
  refine lv_bipush (v := 6) hx hb dX3_apart_16 (by decide) ?_
  refine lv_irem hx hb dX3_apart_18 (by decide) ?_
  refine cs_i (As := [.int (x0 - x0 / 6 * 6), .int (x1 - x1 / 6 * 6)]) (rest := [.int r_8]) S (metX3_off l hf) (lw_S q1510 q1511 q60 q1512) pdX3_off ⟨rfl, rfl⟩ ⟨Nat.le_of_ble_eq_true rfl, Nat.le_of_ble_eq_true rfl⟩ rfl hl.1 rfl (Nat.le_of_ble_eq_true rfl) dX3_apart_19 ⟨Nat.zero_le _, Nat.zero_le _⟩ (fun r_19 hf => ?_)
  refine lv_iadd hx hb dX3_apart_22 ?_
  exact hret _ _ _ hf dX3_apart_23
/-! HoleCountyModel.nearest(JI)I -/
theorem pdX3_nearest : DscOk yX3_nearest 2 := by decide +kernel
abbrev rmX3_nearest : Room := { frames := 2, cells := 0, slots := 0, locals := 44 }
abbrev RX3_nearest_ : Room := (headSpec (ws_ yX3_nearest cX3_nearest 5 (some .int)) rmX3_nearest).room
section
variable {p : Program} {l : Launch} {e : Env} {s : State} {m : MethodId} {args : Array Value} {below : List Frame} {meth : Method} {c : Code} {Qw : State → Prop} {H : Heap} {locs : List Loc}
abbrev hrX3_nearest (p : Program) (l : Launch) (e : Env) (s : State) (m : MethodId) (args : Array Value) (below : List Frame) (meth : Method) (c : Code) (H : Heap) (locs : List Loc) (Qw : State → Prop) (Q : Int32 → Prop) : Prop := ∀ (r : Int32) (pc : Nat) (ls : Array Slot), Q r → decode cX3_nearest pc = .ok (.ireturn, 1) → W p l e RX3_nearest_ s m args below meth c H locs 0 0 Qw (F0 m pc ls [.int r])
def wX3_nearest_8 (Q : Int32 → Prop) (x0 : Int64) (x2 : Int32) : Nat → Int32 → Int32 → Prop
  | 0, _, _ => False
  | n + 1, x3, x4 => ((36 ≤ x4 → (Q x3)) ∧ (¬ 36 ≤ x4 → (wX3_has (fun r_18 => ((r_18 = 0 → (∀ x4_45 : Int32, x4_45 = x4 + 1 → ((wX3_nearest_8 Q x0 x2 n) x3 x4_45))) ∧ (¬ r_18 = 0 → (wX3_apart (fun r_27 => (wX3_apart (fun r_32 => ((r_32 ≤ r_27 → (∀ x4_45 : Int32, x4_45 = x4 + 1 → ((wX3_nearest_8 Q x0 x2 n) x3 x4_45))) ∧ (¬ r_32 ≤ r_27 → (∀ x4_45 : Int32, x4_45 = x4 + 1 → ((wX3_nearest_8 Q x0 x2 n) x4 x4_45))))) x3 x2)) x4 x2)))) x0 x4)))
set_option maxHeartbeats 4000000 in
set_option maxRecDepth 100000 in
theorem tX3_nearest_8 {Q : Int32 → Prop} {x0 : Int64} {x2 : Int32} (S : CallFix p m c cX3_nearest 5 s args lw_all RX3) (hret : hrX3_nearest p l e s m args below meth c H locs Qw Q) : ∀ (n : Nat) (x3 : Int32) (x4 : Int32) (ls : Array Slot), wX3_nearest_8 Q x0 x2 n x3 x4 → lv_has ls 5 [(0, .long x0), (2, .int x2), (3, .int x3), (4, .int x4)] → W p l e RX3_nearest_ s m args below meth c H locs 0 0 Qw (F0 m 8 ls []) := by
  obtain ⟨hx, hb, hml, hown, hts⟩ := id S
  intro n
  induction n with
  | zero => intro _ _ _ hf; exact hf.elim
  | succ n ih =>
    intro x3 x4 ls hf hl
    rw [wX3_nearest_8] at hf
    refine lv_iload hx hb dX3_nearest_8 (lv_at hl 3 rfl) ?_
    refine lv_bipush (v := 36) hx hb dX3_nearest_10 (by decide) ?_
    refine lv_icmp_ge (tgt := 51) hx hb dX3_nearest_12 (by decide) (fun c_12 => ?_) (fun c_12 => ?_)
    · replace hf := hf.1 c_12
      refine lv_iload_n hx hb dX3_nearest_51 rfl (lv_at hl 2 rfl) ?_
      exact hret _ _ _ hf dX3_nearest_52
    · replace hf := hf.2 c_12
      refine lv_lload_n hx hb dX3_nearest_15 rfl (lv_at hl 0 rfl) ?_
      refine lv_iload hx hb dX3_nearest_16 (lv_at hl 3 rfl) ?_
      refine cs_i (As := [.long x0, .int x4]) (rest := []) S (metX3_has l hf) (lw_S q1275 q1276 q60 q1277) pdX3_has ⟨rfl, rfl⟩ ⟨Nat.le_of_ble_eq_true rfl, Nat.le_of_ble_eq_true rfl⟩ rfl hl.1 rfl (Nat.le_of_ble_eq_true rfl) dX3_nearest_18 ⟨Nat.zero_le _, Nat.zero_le _⟩ (fun r_18 hf => ?_)
      refine lv_if_eq (tgt := 43) hx hb dX3_nearest_21 (by decide) (fun c_21 => ?_) (fun c_21 => ?_)
      · replace hf := hf.1 c_21
        refine lv_iload_n hx hb dX3_nearest_43 rfl (lv_at hl 2 rfl) ?_
        refine lv_istore_n (lv' := [(3, .int x3), (0, .long x0), (2, .int x2), (4, .int x4)]) hx hb dX3_nearest_44 rfl hl (by decide) rfl (fun ls hl => ?_)
        obtain ⟨x4_45, ex4_45⟩ : ∃ z : Int32, z = x4 + 1 := ⟨_, rfl⟩
        replace hf := hf x4_45 ex4_45
        refine lv_iinc (v := x4_45) (lv' := [(4, .int x4_45), (3, .int x3), (0, .long x0), (2, .int x2)]) hx hb dX3_nearest_45 hl (k := 3) rfl (by rw [ex4_45]; rfl) (by decide) rfl (fun ls hl => ?_)
        refine lv_goto (tgt := 8) hx hb dX3_nearest_48 (by decide) ?_
        exact ih x3 x4_45 _ hf (lv_sub hl [2, 3, 1, 0] rfl)
      · replace hf := hf.2 c_21
        refine lv_iload hx hb dX3_nearest_24 (lv_at hl 3 rfl) ?_
        refine lv_iload_n hx hb dX3_nearest_26 rfl (lv_at hl 1 rfl) ?_
        refine cs_i (As := [.int x4, .int x2]) (rest := []) S (metX3_apart l hf) (lw_S q1507 q1508 q60 q1509) pdX3_apart ⟨rfl, rfl⟩ ⟨Nat.le_of_ble_eq_true rfl, Nat.le_of_ble_eq_true rfl⟩ rfl hl.1 rfl (Nat.le_of_ble_eq_true rfl) dX3_nearest_27 ⟨Nat.zero_le _, Nat.zero_le _⟩ (fun r_27 hf => ?_)
        refine lv_iload_n hx hb dX3_nearest_30 rfl (lv_at hl 2 rfl) ?_
        refine lv_iload_n hx hb dX3_nearest_31 rfl (lv_at hl 1 rfl) ?_
        refine cs_i (As := [.int x3, .int x2]) (rest := [.int r_27]) S (metX3_apart l hf) (lw_S q1507 q1508 q60 q1509) pdX3_apart ⟨rfl, rfl⟩ ⟨Nat.le_of_ble_eq_true rfl, Nat.le_of_ble_eq_true rfl⟩ rfl hl.1 rfl (Nat.le_of_ble_eq_true rfl) dX3_nearest_32 ⟨Nat.zero_le _, Nat.zero_le _⟩ (fun r_32 hf => ?_)
        refine lv_icmp_ge (tgt := 43) hx hb dX3_nearest_35 (by decide) (fun c_35 => ?_) (fun c_35 => ?_)
        · replace hf := hf.1 c_35
          refine lv_iload_n hx hb dX3_nearest_43 rfl (lv_at hl 2 rfl) ?_
          refine lv_istore_n (lv' := [(3, .int x3), (0, .long x0), (2, .int x2), (4, .int x4)]) hx hb dX3_nearest_44 rfl hl (by decide) rfl (fun ls hl => ?_)
          obtain ⟨x4_45, ex4_45⟩ : ∃ z : Int32, z = x4 + 1 := ⟨_, rfl⟩
          replace hf := hf x4_45 ex4_45
          refine lv_iinc (v := x4_45) (lv' := [(4, .int x4_45), (3, .int x3), (0, .long x0), (2, .int x2)]) hx hb dX3_nearest_45 hl (k := 3) rfl (by rw [ex4_45]; rfl) (by decide) rfl (fun ls hl => ?_)
          refine lv_goto (tgt := 8) hx hb dX3_nearest_48 (by decide) ?_
          exact ih x3 x4_45 _ hf (lv_sub hl [2, 3, 1, 0] rfl)
        · replace hf := hf.2 c_35
          refine lv_iload hx hb dX3_nearest_38 (lv_at hl 3 rfl) ?_
          refine lv_goto (tgt := 44) hx hb dX3_nearest_40 (by decide) ?_
          refine lv_istore_n (lv' := [(3, .int x4), (0, .long x0), (2, .int x2), (4, .int x4)]) hx hb dX3_nearest_44 rfl hl (by decide) rfl (fun ls hl => ?_)
          obtain ⟨x4_45, ex4_45⟩ : ∃ z : Int32, z = x4 + 1 := ⟨_, rfl⟩
          replace hf := hf x4_45 ex4_45
          refine lv_iinc (v := x4_45) (lv' := [(4, .int x4_45), (3, .int x4), (0, .long x0), (2, .int x2)]) hx hb dX3_nearest_45 hl (k := 3) rfl (by rw [ex4_45]; rfl) (by decide) rfl (fun ls hl => ?_)
          refine lv_goto (tgt := 8) hx hb dX3_nearest_48 (by decide) ?_
          exact ih x4 x4_45 _ hf (lv_sub hl [2, 3, 1, 0] rfl)
def wX3_nearest (Q : Int32 → Prop) (x0 : Int64) (x2 : Int32) : Prop := (wX3_least (fun r_1 => (∃ fu : Nat, wX3_nearest_8 Q x0 x2 fu r_1 0)) x0)
end
set_option maxHeartbeats 4000000 in
set_option maxRecDepth 100000 in
theorem metX3_nearest (l : Launch) {Q : Int32 → Prop} {x0 : Int64} {x2 : Int32} (hf : wX3_nearest Q x0 x2) : Met l yX3_nearest (ws_ yX3_nearest cX3_nearest 5 (some .int)) rmX3_nearest (fun v _ => v = ([.long x0, .int x2] : List Value).toArray) (vp_Si Q) 0 0 (fun _ => False) := by
  refine Met.ofW (cc := cX3_nearest) (maxL := 5) (ret := (some .int)) (by decide) rfl ?_
  intro p e s m args below meth c s₁ B hml hv
  subst hv
  have hx := B.exec
  have hb := B.bytes
  have hr := B.returns
  have hts := atoms_spec (ws := (ws_ yX3_nearest cX3_nearest 5 (some .int))) B.pre
  have hts : ∀ w ∈ lw_all, w.before _ s = true := fun w h => hts w (List.mem_cons_of_mem _ h)
  have hown : s.vm.findClass RX3 = some m.cls := findClass_of_methodNamed B.named
  have hlocks := B.notSynchronized
  have S : CallFix p m c cX3_nearest 5 s _ lw_all RX3 := ⟨hx, hb, hml, hown, hts⟩
  have hl := lv_entry ([.long x0, .int x2]) (n := 5) (Nat.le_of_ble_eq_true rfl)
  rw [lg_entry_eq]
  generalize (lg_sl ([.long x0, .int x2]) ++ List.replicate (5 - (lg_sl ([.long x0, .int x2])).length) Slot.unset).toArray = ls at hl ⊢
  replace hl : lv_has ls 5 [(0, .long x0), (2, .int x2)] := hl
  have hret : hrX3_nearest p l e s m ([.long x0, .int x2] : List Value).toArray below meth c s.heap [] (MQ below (vp_Si Q) ([.long x0, .int x2] : List Value).toArray s 0 0 (fun _ => False)) Q := fun r pc ls hq hd => W.iret hx hb hr (fun t ht hW => ⟨r, rfl, hq, ht⟩) t_nil hd
  unfold wX3_nearest at hf
  refine lv_lload_n hx hb dX3_nearest_0 rfl (lv_at hl 0 rfl) ?_
  refine cs_i (As := [.long x0]) (rest := []) S (metX3_least l hf) (lw_S q1326 q1327 q60 q1328) pdX3_least ⟨rfl, rfl⟩ ⟨Nat.le_of_ble_eq_true rfl, Nat.le_of_ble_eq_true rfl⟩ rfl hl.1 rfl (Nat.le_of_ble_eq_true rfl) dX3_nearest_1 ⟨Nat.zero_le _, Nat.zero_le _⟩ (fun r_1 hf => ?_)
  refine lv_istore_n (lv' := [(3, .int r_1), (0, .long x0), (2, .int x2)]) hx hb dX3_nearest_4 rfl hl (by decide) rfl (fun ls hl => ?_)
  refine lv_iconst (v := 0) hx hb dX3_nearest_5 (by decide) ?_
  refine lv_istore (lv' := [(4, .int 0), (3, .int r_1), (0, .long x0), (2, .int x2)]) hx hb dX3_nearest_6 hl (by decide) rfl (fun ls hl => ?_)
  obtain ⟨fu, hf⟩ := hf
  exact tX3_nearest_8 S hret fu r_1 0 _ hf (lv_sub hl [2, 3, 1, 0] rfl)
/-! HoleCountyModel.stepsOf(II)I -/
theorem pdX3_stepsOf : DscOk yX3_stepsOf 2 := by decide +kernel
abbrev rmX3_stepsOf : Room := { frames := 2, cells := 0, slots := 0, locals := 42 }
abbrev RX3_stepsOf_ : Room := (headSpec (ws_ yX3_stepsOf cX3_stepsOf 7 (some .int)) rmX3_stepsOf).room
section
variable {p : Program} {l : Launch} {e : Env} {s : State} {m : MethodId} {args : Array Value} {below : List Frame} {meth : Method} {c : Code} {Qw : State → Prop} {dC : Nat → ClassId} {dI : Nat → Nat → Nat} {dA : Nat → ClassId} {h : Nat → Nat}
abbrev hrX3_stepsOf (p : Program) (l : Launch) (e : Env) (s : State) (m : MethodId) (args : Array Value) (below : List Frame) (meth : Method) (c : Code) (dC : Nat → ClassId) (dI : Nat → Nat → Nat) (dA : Nat → ClassId) (h : Nat → Nat) (Qw : State → Prop) (Q : Int32 → Prop) (depths : (Nat → Int32)) (owners : (Nat → Int32)) (roofs : Int64) (rate : Int32) (undos : (Nat → Int32)) (undoMany : Int32) (drawn : Int32) (dug : Int64) (deep : Int64) (holes : (Nat → Int64)) (holeMany : Int32) (tape : (Nat → Int32)) (taped : Int32) (place : Int32) (reads : Int32) (read_ : (Nat → Int32)) (row : (Nat → Int32)) (order : (Nat → Int32)) (bestOrder : (Nat → Int32)) (nears : (Nat → Int32)) (isKept : Int32) (keptRoofs : Int64) (kept : (Nat → Int32)) (lanes : (Nat → Int32)) (rowSizes : (Nat → Int32)) (items : (Nat → Int64)) (moved : (Nat → Int64)) : Prop := ∀ (r : Int32) (H : Heap) (locs : List Loc) (pc : Nat) (ls : Array Slot), Q r → va_P (dC, dI) vwCl (wM h dA depths owners roofs rate undos undoMany drawn dug deep holes holeMany tape taped place reads read_ row order bestOrder nears isKept keptRoofs kept lanes rowSizes items moved) H → va_S (mA h) s.heap H locs → decode cX3_stepsOf pc = .ok (.ireturn, 1) → W p l e RX3_stepsOf_ s m args below meth c H locs 0 0 Qw (F0 m pc ls [.int r])
def wX3_stepsOf_8 (Q : Int32 → Prop) (x2 : Int32) (order : (Nat → Int32)) (nears : (Nat → Int32)) : Nat → Int32 → Int32 → Int32 → Prop
  | 0, _, _, _ => False
  | n + 1, x3, x4, x5 => ((x2 ≤ x5 → (Q x4)) ∧ (¬ x2 ≤ x5 → (vp_in x5 8 ∧ (vp_in ((8 * x3) + (order (x5 : Int32).toNatClampNeg)) 288 ∧ (∀ x6_31 : Int32, x6_31 = (nears (((8 * x3) + (order (x5 : Int32).toNatClampNeg)) : Int32).toNatClampNeg) → (wX3_apart (fun r_38 => (∀ x4_42 : Int32, x4_42 = (x4 + r_38) → (∀ x5_47 : Int32, x5_47 = x5 + 1 → ((wX3_stepsOf_8 Q x2 order nears n) x6_31 x4_42 x5_47)))) x3 x6_31))))))
set_option maxHeartbeats 4000000 in
set_option maxRecDepth 100000 in
theorem tX3_stepsOf_8 {Q : Int32 → Prop} {x2 : Int32} {depths : (Nat → Int32)} {owners : (Nat → Int32)} {roofs : Int64} {rate : Int32} {undos : (Nat → Int32)} {undoMany : Int32} {drawn : Int32} {dug : Int64} {deep : Int64} {holes : (Nat → Int64)} {holeMany : Int32} {tape : (Nat → Int32)} {taped : Int32} {place : Int32} {reads : Int32} {read_ : (Nat → Int32)} {row : (Nat → Int32)} {order : (Nat → Int32)} {bestOrder : (Nat → Int32)} {nears : (Nat → Int32)} {isKept : Int32} {keptRoofs : Int64} {kept : (Nat → Int32)} {lanes : (Nat → Int32)} {rowSizes : (Nat → Int32)} {items : (Nat → Int64)} {moved : (Nat → Int64)} (S : CallFix p m c cX3_stepsOf 7 s args lw_all RX3) (hK : va_K (dC, dI) vwCl (tysG dA) s) (hj : mJ h) (hret : hrX3_stepsOf p l e s m args below meth c dC dI dA h Qw Q depths owners roofs rate undos undoMany drawn dug deep holes holeMany tape taped place reads read_ row order bestOrder nears isKept keptRoofs kept lanes rowSizes items moved) : ∀ (n : Nat) (x3 : Int32) (x4 : Int32) (x5 : Int32) (H : Heap) (locs : List Loc) (ls : Array Slot), wX3_stepsOf_8 Q x2 order nears n x3 x4 x5 → va_P (dC, dI) vwCl (wM h dA depths owners roofs rate undos undoMany drawn dug deep holes holeMany tape taped place reads read_ row order bestOrder nears isKept keptRoofs kept lanes rowSizes items moved) H → va_S (mA h) s.heap H locs → lv_has ls 7 [(0, .ref (h 0)), (2, .int x2), (3, .int x3), (4, .int x4), (5, .int x5)] → W p l e RX3_stepsOf_ s m args below meth c H locs 0 0 Qw (F0 m 8 ls []) := by
  obtain ⟨hx, hb, hml, hown, hts⟩ := id S
  intro n
  induction n with
  | zero => intro _ _ _ _ _ _ hf; exact hf.elim
  | succ n ih =>
    intro x3 x4 x5 H locs ls hf hP hS hl
    rw [wX3_stepsOf_8] at hf
    refine lv_iload hx hb dX3_stepsOf_8 (lv_at hl 4 rfl) ?_
    refine lv_iload_n hx hb dX3_stepsOf_10 rfl (lv_at hl 1 rfl) ?_
    refine lv_icmp_ge (tgt := 53) hx hb dX3_stepsOf_11 (by decide) (fun c_11 => ?_) (fun c_11 => ?_)
    · replace hf := hf.1 c_11
      refine lv_iload hx hb dX3_stepsOf_53 (lv_at hl 3 rfl) ?_
      exact hret _ _ _ _ _ hf hP hS dX3_stepsOf_55
    · replace hf := hf.2 c_11
      refine lv_aload_n hx hb dX3_stepsOf_14 rfl (lv_at hl 0 rfl) ?_
      refine gM_nears S hK hP dX3_stepsOf_15 ?_
      refine lv_bipush (v := 8) hx hb dX3_stepsOf_18 (by decide) ?_
      refine lv_iload_n hx hb dX3_stepsOf_20 rfl (lv_at hl 2 rfl) ?_
      refine lv_imul hx hb dX3_stepsOf_21 ?_
      refine lv_aload_n hx hb dX3_stepsOf_22 rfl (lv_at hl 0 rfl) ?_
      refine gM_order S hK hP dX3_stepsOf_23 ?_
      refine lv_iload hx hb dX3_stepsOf_26 (lv_at hl 4 rfl) ?_
      obtain ⟨hin, hf⟩ := hf
      refine lM_order S hK hP hin dX3_stepsOf_28 ?_
      refine lv_iadd hx hb dX3_stepsOf_29 ?_
      obtain ⟨hin, hf⟩ := hf
      refine lM_nears S hK hP hin dX3_stepsOf_30 ?_
      refine lv_topi (fun x6_31 ex6_31 => ?_)
      replace hf := hf x6_31 ex6_31
      refine lv_istore (lv' := [(6, .int x6_31), (0, .ref (h 0)), (2, .int x2), (3, .int x3), (4, .int x4), (5, .int x5)]) hx hb dX3_stepsOf_31 hl (by decide) rfl (fun ls hl => ?_)
      refine lv_iload hx hb dX3_stepsOf_33 (lv_at hl 4 rfl) ?_
      refine lv_iload_n hx hb dX3_stepsOf_35 rfl (lv_at hl 3 rfl) ?_
      refine lv_iload hx hb dX3_stepsOf_36 (lv_at hl 0 rfl) ?_
      refine cs_i (As := [.int x3, .int x6_31]) (rest := [.int x4]) S (metX3_apart l hf) (lw_S q1507 q1508 q60 q1509) pdX3_apart ⟨rfl, rfl⟩ ⟨Nat.le_of_ble_eq_true rfl, Nat.le_of_ble_eq_true rfl⟩ rfl hl.1 rfl (Nat.le_of_ble_eq_true rfl) dX3_stepsOf_38 ⟨Nat.zero_le _, Nat.zero_le _⟩ (fun r_38 hf => ?_)
      refine lv_iadd hx hb dX3_stepsOf_41 ?_
      refine lv_topi (fun x4_42 ex4_42 => ?_)
      replace hf := hf x4_42 ex4_42
      refine lv_istore (lv' := [(4, .int x4_42), (6, .int x6_31), (0, .ref (h 0)), (2, .int x2), (3, .int x3), (5, .int x5)]) hx hb dX3_stepsOf_42 hl (by decide) rfl (fun ls hl => ?_)
      refine lv_iload hx hb dX3_stepsOf_44 (lv_at hl 1 rfl) ?_
      refine lv_istore_n (lv' := [(3, .int x6_31), (4, .int x4_42), (6, .int x6_31), (0, .ref (h 0)), (2, .int x2), (5, .int x5)]) hx hb dX3_stepsOf_46 rfl hl (by decide) rfl (fun ls hl => ?_)
      obtain ⟨x5_47, ex5_47⟩ : ∃ z : Int32, z = x5 + 1 := ⟨_, rfl⟩
      replace hf := hf x5_47 ex5_47
      refine lv_iinc (v := x5_47) (lv' := [(5, .int x5_47), (3, .int x6_31), (4, .int x4_42), (6, .int x6_31), (0, .ref (h 0)), (2, .int x2)]) hx hb dX3_stepsOf_47 hl (k := 5) rfl (by rw [ex5_47]; rfl) (by decide) rfl (fun ls hl => ?_)
      refine lv_goto (tgt := 8) hx hb dX3_stepsOf_50 (by decide) ?_
      exact ih x6_31 x4_42 x5_47 _ _ _ hf hP hS (lv_sub hl [4, 5, 1, 2, 0] rfl)
def wX3_stepsOf (Q : Int32 → Prop) (order : (Nat → Int32)) (nears : (Nat → Int32)) (x1 : Int32) (x2 : Int32) : Prop := (∃ fu : Nat, wX3_stepsOf_8 Q x2 order nears fu x1 0 0)
end
set_option maxHeartbeats 4000000 in
set_option maxRecDepth 100000 in
theorem metX3_stepsOf (l : Launch) {Q : Int32 → Prop} {depths : (Nat → Int32)} {owners : (Nat → Int32)} {roofs : Int64} {rate : Int32} {undos : (Nat → Int32)} {undoMany : Int32} {drawn : Int32} {dug : Int64} {deep : Int64} {holes : (Nat → Int64)} {holeMany : Int32} {tape : (Nat → Int32)} {taped : Int32} {place : Int32} {reads : Int32} {read_ : (Nat → Int32)} {row : (Nat → Int32)} {order : (Nat → Int32)} {bestOrder : (Nat → Int32)} {nears : (Nat → Int32)} {isKept : Int32} {keptRoofs : Int64} {kept : (Nat → Int32)} {lanes : (Nat → Int32)} {rowSizes : (Nat → Int32)} {items : (Nat → Int64)} {moved : (Nat → Int64)} {x1 : Int32} {x2 : Int32} {dC : Nat → ClassId} {dI : Nat → Nat → Nat} {dA : Nat → ClassId} {h : Nat → Nat} (hj : mJ h) (hf : wX3_stepsOf Q order nears x1 x2) : Met l yX3_stepsOf (ws_ yX3_stepsOf cX3_stepsOf 7 (some .int)) rmX3_stepsOf (mPc dC dI dA h [.int x1, .int x2] (wM h dA depths owners roofs rate undos undoMany drawn dug deep holes holeMany tape taped place reads read_ row order bestOrder nears isKept keptRoofs kept lanes rowSizes items moved)) (va_Qi (fun (r : Int32) (u : Unit) => Q r) (fun u t => va_P (dC, dI) vwCl (wM h dA depths owners roofs rate undos undoMany drawn dug deep holes holeMany tape taped place reads read_ row order bestOrder nears isKept keptRoofs kept lanes rowSizes items moved) t.heap) (mA h)) 0 0 (mA h) := by
  refine Met.ofW (cc := cX3_stepsOf) (maxL := 7) (ret := (some .int)) (by decide) rfl ?_
  intro p e s m args below meth c s₁ B hml hv
  obtain ⟨rfl, hP, hK⟩ := hv
  have hx := B.exec
  have hb := B.bytes
  have hr := B.returns
  have hts := atoms_spec (ws := (ws_ yX3_stepsOf cX3_stepsOf 7 (some .int))) B.pre
  have hts : ∀ w ∈ lw_all, w.before _ s = true := fun w h => hts w (List.mem_cons_of_mem _ h)
  have hown : s.vm.findClass RX3 = some m.cls := findClass_of_methodNamed B.named
  have hlocks := B.notSynchronized
  have S : CallFix p m c cX3_stepsOf 7 s _ lw_all RX3 := ⟨hx, hb, hml, hown, hts⟩
  have hS : va_S (mA h) s.heap s.heap [] := va_S.rf
  have hl := lv_entry ([.ref (h 0), .int x1, .int x2]) (n := 7) (Nat.le_of_ble_eq_true rfl)
  rw [lg_entry_eq]
  generalize (lg_sl ([.ref (h 0), .int x1, .int x2]) ++ List.replicate (7 - (lg_sl ([.ref (h 0), .int x1, .int x2])).length) Slot.unset).toArray = ls at hl ⊢
  replace hl : lv_has ls 7 [(0, .ref (h 0)), (1, .int x1), (2, .int x2)] := hl
  have hret : hrX3_stepsOf p l e s m ([.ref (h 0), .int x1, .int x2] : List Value).toArray below meth c dC dI dA h (MQ below (va_Qi (fun (r : Int32) (u : Unit) => Q r) (fun u t => va_P (dC, dI) vwCl (wM h dA depths owners roofs rate undos undoMany drawn dug deep holes holeMany tape taped place reads read_ row order bestOrder nears isKept keptRoofs kept lanes rowSizes items moved) t.heap) (mA h)) ([.ref (h 0), .int x1, .int x2] : List Value).toArray s 0 0 (mA h)) Q depths owners roofs rate undos undoMany drawn dug deep holes holeMany tape taped place reads read_ row order bestOrder nears isKept keptRoofs kept lanes rowSizes items moved := fun r H locs pc ls hq hP hS hd => W.iret hx hb hr (fun t ht hW => ⟨⟨r, (), rfl, hq, by subst ht; exact hP⟩, hS.F ht⟩) hS.2.2 hd
  unfold wX3_stepsOf at hf
  refine lv_iload_n hx hb dX3_stepsOf_0 rfl (lv_at hl 1 rfl) ?_
  refine lv_istore_n (lv' := [(3, .int x1), (0, .ref (h 0)), (1, .int x1), (2, .int x2)]) hx hb dX3_stepsOf_1 rfl hl (by decide) rfl (fun ls hl => ?_)
  refine lv_iconst (v := 0) hx hb dX3_stepsOf_2 (by decide) ?_
  refine lv_istore (lv' := [(4, .int 0), (3, .int x1), (0, .ref (h 0)), (1, .int x1), (2, .int x2)]) hx hb dX3_stepsOf_3 hl (by decide) rfl (fun ls hl => ?_)
  refine lv_iconst (v := 0) hx hb dX3_stepsOf_5 (by decide) ?_
  refine lv_istore (lv' := [(5, .int 0), (4, .int 0), (3, .int x1), (0, .ref (h 0)), (1, .int x1), (2, .int x2)]) hx hb dX3_stepsOf_6 hl (by decide) rfl (fun ls hl => ?_)
  obtain ⟨fu, hf⟩ := hf
  exact tX3_stepsOf_8 S hK hj hret fu x1 0 0 _ _ _ hf hP hS (lv_sub hl [3, 5, 2, 1, 0] rfl)
/-! HoleCountyModel.nextOrder(I)Z -/
theorem pdX3_nextOrder : DscOk yX3_nextOrder 1 := by decide +kernel
abbrev rmX3_nextOrder : Room := { frames := 0, cells := 0, slots := 0, locals := 0 }
abbrev RX3_nextOrder_ : Room := (headSpec (ws_ yX3_nextOrder cX3_nextOrder 7 (some .boolean)) rmX3_nextOrder).room
section
variable {p : Program} {l : Launch} {e : Env} {s : State} {m : MethodId} {args : Array Value} {below : List Frame} {meth : Method} {c : Code} {Qw : State → Prop} {dC : Nat → ClassId} {dI : Nat → Nat → Nat} {dA : Nat → ClassId} {h : Nat → Nat}
abbrev hrX3_nextOrder (p : Program) (l : Launch) (e : Env) (s : State) (m : MethodId) (args : Array Value) (below : List Frame) (meth : Method) (c : Code) (dC : Nat → ClassId) (dI : Nat → Nat → Nat) (dA : Nat → ClassId) (h : Nat → Nat) (Qw : State → Prop) (Q : Int32 → (Nat → Int32) → Prop) (depths : (Nat → Int32)) (owners : (Nat → Int32)) (roofs : Int64) (rate : Int32) (undos : (Nat → Int32)) (undoMany : Int32) (drawn : Int32) (dug : Int64) (deep : Int64) (holes : (Nat → Int64)) (holeMany : Int32) (tape : (Nat → Int32)) (taped : Int32) (place : Int32) (reads : Int32) (read_ : (Nat → Int32)) (row : (Nat → Int32)) (bestOrder : (Nat → Int32)) (nears : (Nat → Int32)) (isKept : Int32) (keptRoofs : Int64) (kept : (Nat → Int32)) (lanes : (Nat → Int32)) (rowSizes : (Nat → Int32)) (items : (Nat → Int64)) (moved : (Nat → Int64)) : Prop := ∀ (r : Int32) (order : (Nat → Int32)) (H : Heap) (locs : List Loc) (pc : Nat) (ls : Array Slot), bz r → Q r order → va_P (dC, dI) vwCl (wM h dA depths owners roofs rate undos undoMany drawn dug deep holes holeMany tape taped place reads read_ row order bestOrder nears isKept keptRoofs kept lanes rowSizes items moved) H → va_S (mA h) s.heap H locs → decode cX3_nextOrder pc = .ok (.ireturn, 1) → W p l e RX3_nextOrder_ s m args below meth c H locs 0 0 Qw (F0 m pc ls [.int r])
def wX3_nextOrder_100 (Q : Int32 → (Nat → Int32) → Prop) : Nat → Int32 → Int32 → (Nat → Int32) → Prop
  | 0, _, _, _ => False
  | n + 1, x5, x6, order => ((x5 ≤ x6 → (Q 1 order)) ∧ (¬ x5 ≤ x6 → (vp_in x6 8 ∧ (∀ x4_114 : Int32, x4_114 = (order (x6 : Int32).toNatClampNeg) → (vp_in x5 8 ∧ (vp_in x6 8 ∧ (∀ order_129 : Nat → Int32, order_129 = upd order (x6 : Int32).toNatClampNeg (order (x5 : Int32).toNatClampNeg) → (vp_in x5 8 ∧ (∀ order_138 : Nat → Int32, order_138 = upd order_129 (x5 : Int32).toNatClampNeg x4_114 → (∀ x5_139 : Int32, x5_139 = x5 + (-1) → (∀ x6_142 : Int32, x6_142 = x6 + 1 → ((wX3_nextOrder_100 Q n) x5_139 x6_142 order_138))))))))))))
set_option maxHeartbeats 4000000 in
set_option maxRecDepth 100000 in
theorem tX3_nextOrder_100 {Q : Int32 → (Nat → Int32) → Prop} {depths : (Nat → Int32)} {owners : (Nat → Int32)} {roofs : Int64} {rate : Int32} {undos : (Nat → Int32)} {undoMany : Int32} {drawn : Int32} {dug : Int64} {deep : Int64} {holes : (Nat → Int64)} {holeMany : Int32} {tape : (Nat → Int32)} {taped : Int32} {place : Int32} {reads : Int32} {read_ : (Nat → Int32)} {row : (Nat → Int32)} {bestOrder : (Nat → Int32)} {nears : (Nat → Int32)} {isKept : Int32} {keptRoofs : Int64} {kept : (Nat → Int32)} {lanes : (Nat → Int32)} {rowSizes : (Nat → Int32)} {items : (Nat → Int64)} {moved : (Nat → Int64)} (S : CallFix p m c cX3_nextOrder 7 s args lw_all RX3) (hK : va_K (dC, dI) vwCl (tysG dA) s) (hj : mJ h) (hret : hrX3_nextOrder p l e s m args below meth c dC dI dA h Qw Q depths owners roofs rate undos undoMany drawn dug deep holes holeMany tape taped place reads read_ row bestOrder nears isKept keptRoofs kept lanes rowSizes items moved) : ∀ (n : Nat) (x5 : Int32) (x6 : Int32) (order : (Nat → Int32)) (H : Heap) (locs : List Loc) (ls : Array Slot), wX3_nextOrder_100 Q n x5 x6 order → va_P (dC, dI) vwCl (wM h dA depths owners roofs rate undos undoMany drawn dug deep holes holeMany tape taped place reads read_ row order bestOrder nears isKept keptRoofs kept lanes rowSizes items moved) H → va_S (mA h) s.heap H locs → lv_has ls 7 [(0, .ref (h 0)), (5, .int x5), (6, .int x6)] → W p l e RX3_nextOrder_ s m args below meth c H locs 0 0 Qw (F0 m 100 ls []) := by
  obtain ⟨hx, hb, hml, hown, hts⟩ := id S
  intro n
  induction n with
  | zero => intro _ _ _ _ _ _ hf; exact hf.elim
  | succ n ih =>
    intro x5 x6 order H locs ls hf hP hS hl
    rw [wX3_nextOrder_100] at hf
    refine lv_iload hx hb dX3_nextOrder_100 (lv_at hl 2 rfl) ?_
    refine lv_iload hx hb dX3_nextOrder_102 (lv_at hl 1 rfl) ?_
    refine lv_icmp_ge (tgt := 148) hx hb dX3_nextOrder_104 (by decide) (fun c_104 => ?_) (fun c_104 => ?_)
    · replace hf := hf.1 c_104
      refine lv_iconst (v := 1) hx hb dX3_nextOrder_148 (by decide) ?_
      exact hret _ _ _ _ _ _ bz1 hf hP hS dX3_nextOrder_149
    · replace hf := hf.2 c_104
      refine lv_aload_n hx hb dX3_nextOrder_107 rfl (lv_at hl 0 rfl) ?_
      refine gM_order S hK hP dX3_nextOrder_108 ?_
      refine lv_iload hx hb dX3_nextOrder_111 (lv_at hl 2 rfl) ?_
      obtain ⟨hin, hf⟩ := hf
      refine lM_order S hK hP hin dX3_nextOrder_113 ?_
      refine lv_topi (fun x4_114 ex4_114 => ?_)
      replace hf := hf x4_114 ex4_114
      refine lv_istore (lv' := [(4, .int x4_114), (0, .ref (h 0)), (5, .int x5), (6, .int x6)]) hx hb dX3_nextOrder_114 hl (by decide) rfl (fun ls hl => ?_)
      refine lv_aload_n hx hb dX3_nextOrder_116 rfl (lv_at hl 1 rfl) ?_
      refine gM_order S hK hP dX3_nextOrder_117 ?_
      refine lv_iload hx hb dX3_nextOrder_120 (lv_at hl 3 rfl) ?_
      refine lv_aload_n hx hb dX3_nextOrder_122 rfl (lv_at hl 1 rfl) ?_
      refine gM_order S hK hP dX3_nextOrder_123 ?_
      refine lv_iload hx hb dX3_nextOrder_126 (lv_at hl 2 rfl) ?_
      obtain ⟨hin, hf⟩ := hf
      refine lM_order S hK hP hin dX3_nextOrder_128 ?_
      obtain ⟨hin, hf⟩ := hf
      obtain ⟨order_129, eorder_129⟩ : ∃ z : Nat → Int32, z = upd order (x6 : Int32).toNatClampNeg (order (x5 : Int32).toNatClampNeg) := ⟨_, rfl⟩
      replace hf := hf order_129 eorder_129
      refine sM_order S hK hj hP hS hin eorder_129 dX3_nextOrder_129 (fun H locs hP hS => ?_)
      refine lv_aload_n hx hb dX3_nextOrder_130 rfl (lv_at hl 1 rfl) ?_
      refine gM_order S hK hP dX3_nextOrder_131 ?_
      refine lv_iload hx hb dX3_nextOrder_134 (lv_at hl 2 rfl) ?_
      refine lv_iload hx hb dX3_nextOrder_136 (lv_at hl 0 rfl) ?_
      obtain ⟨hin, hf⟩ := hf
      obtain ⟨order_138, eorder_138⟩ : ∃ z : Nat → Int32, z = upd order_129 (x5 : Int32).toNatClampNeg x4_114 := ⟨_, rfl⟩
      replace hf := hf order_138 eorder_138
      refine sM_order S hK hj hP hS hin eorder_138 dX3_nextOrder_138 (fun H locs hP hS => ?_)
      obtain ⟨x5_139, ex5_139⟩ : ∃ z : Int32, z = x5 + (-1) := ⟨_, rfl⟩
      replace hf := hf x5_139 ex5_139
      refine lv_iinc (v := x5_139) (lv' := [(5, .int x5_139), (4, .int x4_114), (0, .ref (h 0)), (6, .int x6)]) hx hb dX3_nextOrder_139 hl (k := 2) rfl (by rw [ex5_139]; rfl) (by decide) rfl (fun ls hl => ?_)
      obtain ⟨x6_142, ex6_142⟩ : ∃ z : Int32, z = x6 + 1 := ⟨_, rfl⟩
      replace hf := hf x6_142 ex6_142
      refine lv_iinc (v := x6_142) (lv' := [(6, .int x6_142), (5, .int x5_139), (4, .int x4_114), (0, .ref (h 0))]) hx hb dX3_nextOrder_142 hl (k := 3) rfl (by rw [ex6_142]; rfl) (by decide) rfl (fun ls hl => ?_)
      refine lv_goto (tgt := 100) hx hb dX3_nextOrder_145 (by decide) ?_
      exact ih x5_139 x6_142 order_138 _ _ _ hf hP hS (lv_sub hl [3, 1, 0] rfl)
def wX3_nextOrder_41 (Q : Int32 → (Nat → Int32) → Prop) (x1 : Int32) (x2 : Int32) (order : (Nat → Int32)) : Nat → Int32 → Prop
  | 0, _ => False
  | n + 1, x3 => (vp_in x3 8 ∧ (vp_in x2 8 ∧ (((order (x2 : Int32).toNatClampNeg) ≤ (order (x3 : Int32).toNatClampNeg) → (vp_in x2 8 ∧ (∀ x4_68 : Int32, x4_68 = (order (x2 : Int32).toNatClampNeg) → (vp_in x3 8 ∧ (vp_in x2 8 ∧ (∀ order_81 : Nat → Int32, order_81 = upd order (x2 : Int32).toNatClampNeg (order (x3 : Int32).toNatClampNeg) → (vp_in x3 8 ∧ (∀ order_89 : Nat → Int32, order_89 = upd order_81 (x3 : Int32).toNatClampNeg x4_68 → (∀ x5_93 : Int32, x5_93 = (x1 - 1) → (∀ x6_98 : Int32, x6_98 = (x2 + 1) → (∃ fu : Nat, wX3_nextOrder_100 Q fu x5_93 x6_98 order_89))))))))))) ∧ (¬ (order (x2 : Int32).toNatClampNeg) ≤ (order (x3 : Int32).toNatClampNeg) → (∀ x3_56 : Int32, x3_56 = x3 + (-1) → ((wX3_nextOrder_41 Q x1 x2 order n) x3_56))))))
set_option maxHeartbeats 4000000 in
set_option maxRecDepth 100000 in
theorem tX3_nextOrder_41 {Q : Int32 → (Nat → Int32) → Prop} {x1 : Int32} {x2 : Int32} {depths : (Nat → Int32)} {owners : (Nat → Int32)} {roofs : Int64} {rate : Int32} {undos : (Nat → Int32)} {undoMany : Int32} {drawn : Int32} {dug : Int64} {deep : Int64} {holes : (Nat → Int64)} {holeMany : Int32} {tape : (Nat → Int32)} {taped : Int32} {place : Int32} {reads : Int32} {read_ : (Nat → Int32)} {row : (Nat → Int32)} {order : (Nat → Int32)} {bestOrder : (Nat → Int32)} {nears : (Nat → Int32)} {isKept : Int32} {keptRoofs : Int64} {kept : (Nat → Int32)} {lanes : (Nat → Int32)} {rowSizes : (Nat → Int32)} {items : (Nat → Int64)} {moved : (Nat → Int64)} (S : CallFix p m c cX3_nextOrder 7 s args lw_all RX3) (hK : va_K (dC, dI) vwCl (tysG dA) s) (hj : mJ h) (hret : hrX3_nextOrder p l e s m args below meth c dC dI dA h Qw Q depths owners roofs rate undos undoMany drawn dug deep holes holeMany tape taped place reads read_ row bestOrder nears isKept keptRoofs kept lanes rowSizes items moved) : ∀ (n : Nat) (x3 : Int32) (H : Heap) (locs : List Loc) (ls : Array Slot), wX3_nextOrder_41 Q x1 x2 order n x3 → va_P (dC, dI) vwCl (wM h dA depths owners roofs rate undos undoMany drawn dug deep holes holeMany tape taped place reads read_ row order bestOrder nears isKept keptRoofs kept lanes rowSizes items moved) H → va_S (mA h) s.heap H locs → lv_has ls 7 [(0, .ref (h 0)), (1, .int x1), (2, .int x2), (3, .int x3)] → W p l e RX3_nextOrder_ s m args below meth c H locs 0 0 Qw (F0 m 41 ls []) := by
  obtain ⟨hx, hb, hml, hown, hts⟩ := id S
  intro n
  induction n with
  | zero => intro _ _ _ _ hf; exact hf.elim
  | succ n ih =>
    intro x3 H locs ls hf hP hS hl
    rw [wX3_nextOrder_41] at hf
    refine lv_aload_n hx hb dX3_nextOrder_41 rfl (lv_at hl 0 rfl) ?_
    refine gM_order S hK hP dX3_nextOrder_42 ?_
    refine lv_iload_n hx hb dX3_nextOrder_45 rfl (lv_at hl 3 rfl) ?_
    obtain ⟨hin, hf⟩ := hf
    refine lM_order S hK hP hin dX3_nextOrder_46 ?_
    refine lv_aload_n hx hb dX3_nextOrder_47 rfl (lv_at hl 0 rfl) ?_
    refine gM_order S hK hP dX3_nextOrder_48 ?_
    refine lv_iload_n hx hb dX3_nextOrder_51 rfl (lv_at hl 2 rfl) ?_
    obtain ⟨hin, hf⟩ := hf
    refine lM_order S hK hP hin dX3_nextOrder_52 ?_
    refine lv_icmp_ge (tgt := 62) hx hb dX3_nextOrder_53 (by decide) (fun c_53 => ?_) (fun c_53 => ?_)
    · replace hf := hf.1 c_53
      refine lv_aload_n hx hb dX3_nextOrder_62 rfl (lv_at hl 0 rfl) ?_
      refine gM_order S hK hP dX3_nextOrder_63 ?_
      refine lv_iload_n hx hb dX3_nextOrder_66 rfl (lv_at hl 2 rfl) ?_
      obtain ⟨hin, hf⟩ := hf
      refine lM_order S hK hP hin dX3_nextOrder_67 ?_
      refine lv_topi (fun x4_68 ex4_68 => ?_)
      replace hf := hf x4_68 ex4_68
      refine lv_istore (lv' := [(4, .int x4_68), (0, .ref (h 0)), (1, .int x1), (2, .int x2), (3, .int x3)]) hx hb dX3_nextOrder_68 hl (by decide) rfl (fun ls hl => ?_)
      refine lv_aload_n hx hb dX3_nextOrder_70 rfl (lv_at hl 1 rfl) ?_
      refine gM_order S hK hP dX3_nextOrder_71 ?_
      refine lv_iload_n hx hb dX3_nextOrder_74 rfl (lv_at hl 3 rfl) ?_
      refine lv_aload_n hx hb dX3_nextOrder_75 rfl (lv_at hl 1 rfl) ?_
      refine gM_order S hK hP dX3_nextOrder_76 ?_
      refine lv_iload_n hx hb dX3_nextOrder_79 rfl (lv_at hl 4 rfl) ?_
      obtain ⟨hin, hf⟩ := hf
      refine lM_order S hK hP hin dX3_nextOrder_80 ?_
      obtain ⟨hin, hf⟩ := hf
      obtain ⟨order_81, eorder_81⟩ : ∃ z : Nat → Int32, z = upd order (x2 : Int32).toNatClampNeg (order (x3 : Int32).toNatClampNeg) := ⟨_, rfl⟩
      replace hf := hf order_81 eorder_81
      refine sM_order S hK hj hP hS hin eorder_81 dX3_nextOrder_81 (fun H locs hP hS => ?_)
      refine lv_aload_n hx hb dX3_nextOrder_82 rfl (lv_at hl 1 rfl) ?_
      refine gM_order S hK hP dX3_nextOrder_83 ?_
      refine lv_iload_n hx hb dX3_nextOrder_86 rfl (lv_at hl 4 rfl) ?_
      refine lv_iload hx hb dX3_nextOrder_87 (lv_at hl 0 rfl) ?_
      obtain ⟨hin, hf⟩ := hf
      obtain ⟨order_89, eorder_89⟩ : ∃ z : Nat → Int32, z = upd order_81 (x3 : Int32).toNatClampNeg x4_68 := ⟨_, rfl⟩
      replace hf := hf order_89 eorder_89
      refine sM_order S hK hj hP hS hin eorder_89 dX3_nextOrder_89 (fun H locs hP hS => ?_)
      refine lv_iload_n hx hb dX3_nextOrder_90 rfl (lv_at hl 2 rfl) ?_
      refine lv_iconst (v := 1) hx hb dX3_nextOrder_91 (by decide) ?_
      refine lv_isub hx hb dX3_nextOrder_92 ?_
      refine lv_topi (fun x5_93 ex5_93 => ?_)
      replace hf := hf x5_93 ex5_93
      refine lv_istore (lv' := [(5, .int x5_93), (4, .int x4_68), (0, .ref (h 0)), (1, .int x1), (2, .int x2), (3, .int x3)]) hx hb dX3_nextOrder_93 hl (by decide) rfl (fun ls hl => ?_)
      refine lv_iload_n hx hb dX3_nextOrder_95 rfl (lv_at hl 4 rfl) ?_
      refine lv_iconst (v := 1) hx hb dX3_nextOrder_96 (by decide) ?_
      refine lv_iadd hx hb dX3_nextOrder_97 ?_
      refine lv_topi (fun x6_98 ex6_98 => ?_)
      replace hf := hf x6_98 ex6_98
      refine lv_istore (lv' := [(6, .int x6_98), (5, .int x5_93), (4, .int x4_68), (0, .ref (h 0)), (1, .int x1), (2, .int x2), (3, .int x3)]) hx hb dX3_nextOrder_98 hl (by decide) rfl (fun ls hl => ?_)
      obtain ⟨fu, hf⟩ := hf
      exact tX3_nextOrder_100 S hK hj hret fu x5_93 x6_98 order_89 _ _ _ hf hP hS (lv_sub hl [3, 1, 0] rfl)
    · replace hf := hf.2 c_53
      obtain ⟨x3_56, ex3_56⟩ : ∃ z : Int32, z = x3 + (-1) := ⟨_, rfl⟩
      replace hf := hf x3_56 ex3_56
      refine lv_iinc (v := x3_56) (lv' := [(3, .int x3_56), (0, .ref (h 0)), (1, .int x1), (2, .int x2)]) hx hb dX3_nextOrder_56 hl (k := 3) rfl (by rw [ex3_56]; rfl) (by decide) rfl (fun ls hl => ?_)
      refine lv_goto (tgt := 41) hx hb dX3_nextOrder_59 (by decide) ?_
      exact ih x3_56 _ _ _ hf hP hS (lv_sub hl [1, 2, 3, 0] rfl)
def wX3_nextOrder_31 (Q : Int32 → (Nat → Int32) → Prop) (x1 : Int32) (x2 : Int32) (order : (Nat → Int32)) : Prop := ((0 ≤ x2 → (∀ x3_40 : Int32, x3_40 = (x1 - 1) → (∃ fu : Nat, wX3_nextOrder_41 Q x1 x2 order fu x3_40))) ∧ (¬ 0 ≤ x2 → (Q 0 order)))
set_option maxHeartbeats 4000000 in
set_option maxRecDepth 100000 in
theorem tX3_nextOrder_31 {Q : Int32 → (Nat → Int32) → Prop} {depths : (Nat → Int32)} {owners : (Nat → Int32)} {roofs : Int64} {rate : Int32} {undos : (Nat → Int32)} {undoMany : Int32} {drawn : Int32} {dug : Int64} {deep : Int64} {holes : (Nat → Int64)} {holeMany : Int32} {tape : (Nat → Int32)} {taped : Int32} {place : Int32} {reads : Int32} {read_ : (Nat → Int32)} {row : (Nat → Int32)} {bestOrder : (Nat → Int32)} {nears : (Nat → Int32)} {isKept : Int32} {keptRoofs : Int64} {kept : (Nat → Int32)} {lanes : (Nat → Int32)} {rowSizes : (Nat → Int32)} {items : (Nat → Int64)} {moved : (Nat → Int64)} (S : CallFix p m c cX3_nextOrder 7 s args lw_all RX3) (hK : va_K (dC, dI) vwCl (tysG dA) s) (hj : mJ h) (hret : hrX3_nextOrder p l e s m args below meth c dC dI dA h Qw Q depths owners roofs rate undos undoMany drawn dug deep holes holeMany tape taped place reads read_ row bestOrder nears isKept keptRoofs kept lanes rowSizes items moved) : ∀ (x1 : Int32) (x2 : Int32) (order : (Nat → Int32)) (H : Heap) (locs : List Loc) (ls : Array Slot), wX3_nextOrder_31 Q x1 x2 order → va_P (dC, dI) vwCl (wM h dA depths owners roofs rate undos undoMany drawn dug deep holes holeMany tape taped place reads read_ row order bestOrder nears isKept keptRoofs kept lanes rowSizes items moved) H → va_S (mA h) s.heap H locs → lv_has ls 7 [(0, .ref (h 0)), (1, .int x1), (2, .int x2)] → W p l e RX3_nextOrder_ s m args below meth c H locs 0 0 Qw (F0 m 31 ls []) := by
  obtain ⟨hx, hb, hml, hown, hts⟩ := id S
  intro x1 x2 order H locs ls hf hP hS hl
  unfold wX3_nextOrder_31 at hf
  refine lv_iload_n hx hb dX3_nextOrder_31 rfl (lv_at hl 2 rfl) ?_
  refine lv_if_ge (tgt := 37) hx hb dX3_nextOrder_32 (by decide) (fun c_32 => ?_) (fun c_32 => ?_)
  · replace hf := hf.1 c_32
    refine lv_iload_n hx hb dX3_nextOrder_37 rfl (lv_at hl 1 rfl) ?_
    refine lv_iconst (v := 1) hx hb dX3_nextOrder_38 (by decide) ?_
    refine lv_isub hx hb dX3_nextOrder_39 ?_
    refine lv_topi (fun x3_40 ex3_40 => ?_)
    replace hf := hf x3_40 ex3_40
    refine lv_istore_n (lv' := [(3, .int x3_40), (0, .ref (h 0)), (1, .int x1), (2, .int x2)]) hx hb dX3_nextOrder_40 rfl hl (by decide) rfl (fun ls hl => ?_)
    obtain ⟨fu, hf⟩ := hf
    exact tX3_nextOrder_41 S hK hj hret fu x3_40 _ _ _ hf hP hS (lv_sub hl [1, 2, 3, 0] rfl)
  · replace hf := hf.2 c_32
    refine lv_iconst (v := 0) hx hb dX3_nextOrder_35 (by decide) ?_
    exact hret _ _ _ _ _ _ bz0 hf hP hS dX3_nextOrder_36
def wX3_nextOrder_4 (Q : Int32 → (Nat → Int32) → Prop) (x1 : Int32) (order : (Nat → Int32)) : Nat → Int32 → Prop
  | 0, _ => False
  | n + 1, x2 => ((x2 < 0 → (wX3_nextOrder_31 Q x1 x2 order)) ∧ (¬ x2 < 0 → (vp_in x2 8 ∧ (vp_in (x2 + 1) 8 ∧ (((order (x2 : Int32).toNatClampNeg) ≤ (order ((x2 + 1) : Int32).toNatClampNeg) → (wX3_nextOrder_31 Q x1 x2 order)) ∧ (¬ (order (x2 : Int32).toNatClampNeg) ≤ (order ((x2 + 1) : Int32).toNatClampNeg) → (∀ x2_25 : Int32, x2_25 = x2 + (-1) → ((wX3_nextOrder_4 Q x1 order n) x2_25))))))))
set_option maxHeartbeats 4000000 in
set_option maxRecDepth 100000 in
theorem tX3_nextOrder_4 {Q : Int32 → (Nat → Int32) → Prop} {x1 : Int32} {depths : (Nat → Int32)} {owners : (Nat → Int32)} {roofs : Int64} {rate : Int32} {undos : (Nat → Int32)} {undoMany : Int32} {drawn : Int32} {dug : Int64} {deep : Int64} {holes : (Nat → Int64)} {holeMany : Int32} {tape : (Nat → Int32)} {taped : Int32} {place : Int32} {reads : Int32} {read_ : (Nat → Int32)} {row : (Nat → Int32)} {order : (Nat → Int32)} {bestOrder : (Nat → Int32)} {nears : (Nat → Int32)} {isKept : Int32} {keptRoofs : Int64} {kept : (Nat → Int32)} {lanes : (Nat → Int32)} {rowSizes : (Nat → Int32)} {items : (Nat → Int64)} {moved : (Nat → Int64)} (S : CallFix p m c cX3_nextOrder 7 s args lw_all RX3) (hK : va_K (dC, dI) vwCl (tysG dA) s) (hj : mJ h) (hret : hrX3_nextOrder p l e s m args below meth c dC dI dA h Qw Q depths owners roofs rate undos undoMany drawn dug deep holes holeMany tape taped place reads read_ row bestOrder nears isKept keptRoofs kept lanes rowSizes items moved) : ∀ (n : Nat) (x2 : Int32) (H : Heap) (locs : List Loc) (ls : Array Slot), wX3_nextOrder_4 Q x1 order n x2 → va_P (dC, dI) vwCl (wM h dA depths owners roofs rate undos undoMany drawn dug deep holes holeMany tape taped place reads read_ row order bestOrder nears isKept keptRoofs kept lanes rowSizes items moved) H → va_S (mA h) s.heap H locs → lv_has ls 7 [(0, .ref (h 0)), (1, .int x1), (2, .int x2)] → W p l e RX3_nextOrder_ s m args below meth c H locs 0 0 Qw (F0 m 4 ls []) := by
  obtain ⟨hx, hb, hml, hown, hts⟩ := id S
  intro n
  induction n with
  | zero => intro _ _ _ _ hf; exact hf.elim
  | succ n ih =>
    intro x2 H locs ls hf hP hS hl
    rw [wX3_nextOrder_4] at hf
    refine lv_iload_n hx hb dX3_nextOrder_4 rfl (lv_at hl 2 rfl) ?_
    refine lv_if_lt (tgt := 31) hx hb dX3_nextOrder_5 (by decide) (fun c_5 => ?_) (fun c_5 => ?_)
    · replace hf := hf.1 c_5
      exact tX3_nextOrder_31 S hK hj hret x1 x2 order _ _ _ hf hP hS (lv_sub hl [0, 1, 2] rfl)
    · replace hf := hf.2 c_5
      refine lv_aload_n hx hb dX3_nextOrder_8 rfl (lv_at hl 0 rfl) ?_
      refine gM_order S hK hP dX3_nextOrder_9 ?_
      refine lv_iload_n hx hb dX3_nextOrder_12 rfl (lv_at hl 2 rfl) ?_
      obtain ⟨hin, hf⟩ := hf
      refine lM_order S hK hP hin dX3_nextOrder_13 ?_
      refine lv_aload_n hx hb dX3_nextOrder_14 rfl (lv_at hl 0 rfl) ?_
      refine gM_order S hK hP dX3_nextOrder_15 ?_
      refine lv_iload_n hx hb dX3_nextOrder_18 rfl (lv_at hl 2 rfl) ?_
      refine lv_iconst (v := 1) hx hb dX3_nextOrder_19 (by decide) ?_
      refine lv_iadd hx hb dX3_nextOrder_20 ?_
      obtain ⟨hin, hf⟩ := hf
      refine lM_order S hK hP hin dX3_nextOrder_21 ?_
      refine lv_icmp_le (tgt := 31) hx hb dX3_nextOrder_22 (by decide) (fun c_22 => ?_) (fun c_22 => ?_)
      · replace hf := hf.1 c_22
        exact tX3_nextOrder_31 S hK hj hret x1 x2 order _ _ _ hf hP hS (lv_sub hl [0, 1, 2] rfl)
      · replace hf := hf.2 c_22
        obtain ⟨x2_25, ex2_25⟩ : ∃ z : Int32, z = x2 + (-1) := ⟨_, rfl⟩
        replace hf := hf x2_25 ex2_25
        refine lv_iinc (v := x2_25) (lv' := [(2, .int x2_25), (0, .ref (h 0)), (1, .int x1)]) hx hb dX3_nextOrder_25 hl (k := 2) rfl (by rw [ex2_25]; rfl) (by decide) rfl (fun ls hl => ?_)
        refine lv_goto (tgt := 4) hx hb dX3_nextOrder_28 (by decide) ?_
        exact ih x2_25 _ _ _ hf hP hS (lv_sub hl [1, 2, 0] rfl)
def wX3_nextOrder (Q : Int32 → (Nat → Int32) → Prop) (order : (Nat → Int32)) (x1 : Int32) : Prop := (∀ x2_3 : Int32, x2_3 = (x1 - 2) → (∃ fu : Nat, wX3_nextOrder_4 Q x1 order fu x2_3))
end
set_option maxHeartbeats 4000000 in
set_option maxRecDepth 100000 in
theorem metX3_nextOrder (l : Launch) {Q : Int32 → (Nat → Int32) → Prop} {depths : (Nat → Int32)} {owners : (Nat → Int32)} {roofs : Int64} {rate : Int32} {undos : (Nat → Int32)} {undoMany : Int32} {drawn : Int32} {dug : Int64} {deep : Int64} {holes : (Nat → Int64)} {holeMany : Int32} {tape : (Nat → Int32)} {taped : Int32} {place : Int32} {reads : Int32} {read_ : (Nat → Int32)} {row : (Nat → Int32)} {order : (Nat → Int32)} {bestOrder : (Nat → Int32)} {nears : (Nat → Int32)} {isKept : Int32} {keptRoofs : Int64} {kept : (Nat → Int32)} {lanes : (Nat → Int32)} {rowSizes : (Nat → Int32)} {items : (Nat → Int64)} {moved : (Nat → Int64)} {x1 : Int32} {dC : Nat → ClassId} {dI : Nat → Nat → Nat} {dA : Nat → ClassId} {h : Nat → Nat} (hj : mJ h) (hf : wX3_nextOrder Q order x1) : Met l yX3_nextOrder (ws_ yX3_nextOrder cX3_nextOrder 7 (some .boolean)) rmX3_nextOrder (mPc dC dI dA h [.int x1] (wM h dA depths owners roofs rate undos undoMany drawn dug deep holes holeMany tape taped place reads read_ row order bestOrder nears isKept keptRoofs kept lanes rowSizes items moved)) (va_Qi (fun (r : Int32) (u : (Nat → Int32)) => Q r u) (fun u t => va_P (dC, dI) vwCl (wM h dA depths owners roofs rate undos undoMany drawn dug deep holes holeMany tape taped place reads read_ row u bestOrder nears isKept keptRoofs kept lanes rowSizes items moved) t.heap) (mA h)) 0 0 (mA h) := by
  refine Met.ofW (cc := cX3_nextOrder) (maxL := 7) (ret := (some .boolean)) (by decide) rfl ?_
  intro p e s m args below meth c s₁ B hml hv
  obtain ⟨rfl, hP, hK⟩ := hv
  have hx := B.exec
  have hb := B.bytes
  have hr := B.returns
  have hts := atoms_spec (ws := (ws_ yX3_nextOrder cX3_nextOrder 7 (some .boolean))) B.pre
  have hts : ∀ w ∈ lw_all, w.before _ s = true := fun w h => hts w (List.mem_cons_of_mem _ h)
  have hown : s.vm.findClass RX3 = some m.cls := findClass_of_methodNamed B.named
  have hlocks := B.notSynchronized
  have S : CallFix p m c cX3_nextOrder 7 s _ lw_all RX3 := ⟨hx, hb, hml, hown, hts⟩
  have hS : va_S (mA h) s.heap s.heap [] := va_S.rf
  have hl := lv_entry ([.ref (h 0), .int x1]) (n := 7) (Nat.le_of_ble_eq_true rfl)
  rw [lg_entry_eq]
  generalize (lg_sl ([.ref (h 0), .int x1]) ++ List.replicate (7 - (lg_sl ([.ref (h 0), .int x1])).length) Slot.unset).toArray = ls at hl ⊢
  replace hl : lv_has ls 7 [(0, .ref (h 0)), (1, .int x1)] := hl
  have hret : hrX3_nextOrder p l e s m ([.ref (h 0), .int x1] : List Value).toArray below meth c dC dI dA h (MQ below (va_Qi (fun (r : Int32) (u : (Nat → Int32)) => Q r u) (fun u t => va_P (dC, dI) vwCl (wM h dA depths owners roofs rate undos undoMany drawn dug deep holes holeMany tape taped place reads read_ row u bestOrder nears isKept keptRoofs kept lanes rowSizes items moved) t.heap) (mA h)) ([.ref (h 0), .int x1] : List Value).toArray s 0 0 (mA h)) Q depths owners roofs rate undos undoMany drawn dug deep holes holeMany tape taped place reads read_ row bestOrder nears isKept keptRoofs kept lanes rowSizes items moved := fun r order H locs pc ls hz hq hP hS hd => W.zret hx hb hr hz.1 (fun t ht hW => ⟨⟨r, order, rfl, hq, by subst ht; exact hP⟩, hS.F ht⟩) hS.2.2 hd
  unfold wX3_nextOrder at hf
  refine lv_iload_n hx hb dX3_nextOrder_0 rfl (lv_at hl 1 rfl) ?_
  refine lv_iconst (v := 2) hx hb dX3_nextOrder_1 (by decide) ?_
  refine lv_isub hx hb dX3_nextOrder_2 ?_
  refine lv_topi (fun x2_3 ex2_3 => ?_)
  replace hf := hf x2_3 ex2_3
  refine lv_istore_n (lv' := [(2, .int x2_3), (0, .ref (h 0)), (1, .int x1)]) hx hb dX3_nextOrder_3 rfl hl (by decide) rfl (fun ls hl => ?_)
  obtain ⟨fu, hf⟩ := hf
  exact tX3_nextOrder_4 S hK hj hret fu x2_3 _ _ _ hf hP hS (lv_sub hl [1, 2, 0] rfl)
