/-! HoleCountyModel.fenceOf(J)I -/
theorem pdX3_fenceOf : DscOk yX3_fenceOf 1 := by decide +kernel
abbrev rmX3_fenceOf : Room := { frames := 1, cells := 0, slots := 0, locals := 24 }
abbrev RX3_fenceOf_ : Room := (headSpec (ws_ yX3_fenceOf cX3_fenceOf 3 (some .int)) rmX3_fenceOf).room
section
variable {p : Program} {l : Launch} {e : Env} {s : State} {m : MethodId} {args : Array Value} {below : List Frame} {meth : Method} {c : Code} {Qw : State → Prop} {H : Heap} {locs : List Loc}
abbrev hrX3_fenceOf (p : Program) (l : Launch) (e : Env) (s : State) (m : MethodId) (args : Array Value) (below : List Frame) (meth : Method) (c : Code) (H : Heap) (locs : List Loc) (Qw : State → Prop) (Q : Int32 → Prop) : Prop := ∀ (r : Int32) (pc : Nat) (ls : Array Slot), Q r → decode cX3_fenceOf pc = .ok (.ireturn, 1) → W p l e RX3_fenceOf_ s m args below meth c H locs 0 0 Qw (F0 m pc ls [.int r])
def wX3_fenceOf (Q : Int32 → Prop) (x0 : Int64) : Prop := (wX3_ones (fun r_9 => (wX3_ones (fun r_18 => (∀ x2_22 : Int32, x2_22 = (r_9 + r_18) → (wX3_ones (fun r_25 => (Q ((4 * r_25) - (2 * x2_22)))) x0))) (x0 &&& (x0 >>> ((6 : Int32).toInt64 &&& 63))))) (x0 &&& ((x0 &&& (-1090785346)) >>> ((1 : Int32).toInt64 &&& 63))))
end
set_option maxHeartbeats 4000000 in
set_option maxRecDepth 100000 in
theorem metX3_fenceOf (l : Launch) {Q : Int32 → Prop} {x0 : Int64} (hf : wX3_fenceOf Q x0) : Met l yX3_fenceOf (ws_ yX3_fenceOf cX3_fenceOf 3 (some .int)) rmX3_fenceOf (fun v _ => v = ([.long x0] : List Value).toArray) (vp_Si Q) 0 0 (fun _ => False) := by
  refine Met.ofW (cc := cX3_fenceOf) (maxL := 3) (ret := (some .int)) (by decide) rfl ?_
  intro p e s m args below meth c s₁ B hml hv
  subst hv
  have hx := B.exec
  have hb := B.bytes
  have hr := B.returns
  have hts := atoms_spec (ws := (ws_ yX3_fenceOf cX3_fenceOf 3 (some .int))) B.pre
  have hts : ∀ w ∈ lw_all, w.before _ s = true := fun w h => hts w (List.mem_cons_of_mem _ h)
  have hown : s.vm.findClass RX3 = some m.cls := findClass_of_methodNamed B.named
  have hlocks := B.notSynchronized
  have S : CallFix p m c cX3_fenceOf 3 s _ lw_all RX3 := ⟨hx, hb, hml, hown, hts⟩
  have hl := lv_entry ([.long x0]) (n := 3) (Nat.le_of_ble_eq_true rfl)
  rw [lg_entry_eq]
  generalize (lg_sl ([.long x0]) ++ List.replicate (3 - (lg_sl ([.long x0])).length) Slot.unset).toArray = ls at hl ⊢
  replace hl : lv_has ls 3 [(0, .long x0)] := hl
  have hret : hrX3_fenceOf p l e s m ([.long x0] : List Value).toArray below meth c s.heap [] (MQ below (vp_Si Q) ([.long x0] : List Value).toArray s 0 0 (fun _ => False)) Q := fun r pc ls hq hd => W.iret hx hb hr (fun t ht hW => ⟨r, rfl, hq, ht⟩) t_nil hd
  unfold wX3_fenceOf at hf
  refine lv_lload_n hx hb dX3_fenceOf_0 rfl (lv_at hl 0 rfl) ?_
  refine lv_lload_n hx hb dX3_fenceOf_1 rfl (lv_at hl 0 rfl) ?_
  refine lv_ldc2 (v := (-1090785346)) hx hb hown (hts _ q1323) dX3_fenceOf_2 ?_
  refine lv_land hx hb dX3_fenceOf_5 ?_
  refine lv_iconst (v := 1) hx hb dX3_fenceOf_6 (by decide) ?_
  refine lv_lshr (v := ((x0 &&& (-1090785346)) >>> ((1 : Int32).toInt64 &&& 63))) hx hb dX3_fenceOf_7 rfl ?_
  refine lv_land hx hb dX3_fenceOf_8 ?_
  refine cs_i (As := [.long (x0 &&& ((x0 &&& (-1090785346)) >>> ((1 : Int32).toInt64 &&& 63)))]) (rest := []) S (metX3_ones l hf) (lw_S q1390 q1391 q60 q1392) pdX3_ones ⟨rfl, rfl⟩ ⟨Nat.le_of_ble_eq_true rfl, Nat.le_of_ble_eq_true rfl⟩ rfl hl.1 rfl (Nat.le_of_ble_eq_true rfl) dX3_fenceOf_9 ⟨Nat.zero_le _, Nat.zero_le _⟩ (fun r_9 hf => ?_)
  refine lv_lload_n hx hb dX3_fenceOf_12 rfl (lv_at hl 0 rfl) ?_
  refine lv_lload_n hx hb dX3_fenceOf_13 rfl (lv_at hl 0 rfl) ?_
  refine lv_bipush (v := 6) hx hb dX3_fenceOf_14 (by decide) ?_
  refine lv_lshr (v := (x0 >>> ((6 : Int32).toInt64 &&& 63))) hx hb dX3_fenceOf_16 rfl ?_
  refine lv_land hx hb dX3_fenceOf_17 ?_
  refine cs_i (As := [.long (x0 &&& (x0 >>> ((6 : Int32).toInt64 &&& 63)))]) (rest := [.int r_9]) S (metX3_ones l hf) (lw_S q1390 q1391 q60 q1392) pdX3_ones ⟨rfl, rfl⟩ ⟨Nat.le_of_ble_eq_true rfl, Nat.le_of_ble_eq_true rfl⟩ rfl hl.1 rfl (Nat.le_of_ble_eq_true rfl) dX3_fenceOf_18 ⟨Nat.zero_le _, Nat.zero_le _⟩ (fun r_18 hf => ?_)
  refine lv_iadd hx hb dX3_fenceOf_21 ?_
  refine lv_topi (fun x2_22 ex2_22 => ?_)
  replace hf := hf x2_22 ex2_22
  refine lv_istore_n (lv' := [(2, .int x2_22), (0, .long x0)]) hx hb dX3_fenceOf_22 rfl hl (by decide) rfl (fun ls hl => ?_)
  refine lv_iconst (v := 4) hx hb dX3_fenceOf_23 (by decide) ?_
  refine lv_lload_n hx hb dX3_fenceOf_24 rfl (lv_at hl 1 rfl) ?_
  refine cs_i (As := [.long x0]) (rest := [.int 4]) S (metX3_ones l hf) (lw_S q1390 q1391 q60 q1392) pdX3_ones ⟨rfl, rfl⟩ ⟨Nat.le_of_ble_eq_true rfl, Nat.le_of_ble_eq_true rfl⟩ rfl hl.1 rfl (Nat.le_of_ble_eq_true rfl) dX3_fenceOf_25 ⟨Nat.zero_le _, Nat.zero_le _⟩ (fun r_25 hf => ?_)
  refine lv_imul hx hb dX3_fenceOf_28 ?_
  refine lv_iconst (v := 2) hx hb dX3_fenceOf_29 (by decide) ?_
  refine lv_iload_n hx hb dX3_fenceOf_30 rfl (lv_at hl 0 rfl) ?_
  refine lv_imul hx hb dX3_fenceOf_31 ?_
  refine lv_isub hx hb dX3_fenceOf_32 ?_
  exact hret _ _ _ hf dX3_fenceOf_33
/-! HoleCountyModel.taxOf(J)I -/
theorem pdX3_taxOf : DscOk yX3_taxOf 1 := by decide +kernel
abbrev rmX3_taxOf : Room := { frames := 2, cells := 0, slots := 0, locals := 46 }
abbrev RX3_taxOf_ : Room := (headSpec (ws_ yX3_taxOf cX3_taxOf 7 (some .int)) rmX3_taxOf).room
section
variable {p : Program} {l : Launch} {e : Env} {s : State} {m : MethodId} {args : Array Value} {below : List Frame} {meth : Method} {c : Code} {Qw : State → Prop} {dC : Nat → ClassId} {dI : Nat → Nat → Nat} {dA : Nat → ClassId} {h : Nat → Nat}
abbrev hrX3_taxOf (p : Program) (l : Launch) (e : Env) (s : State) (m : MethodId) (args : Array Value) (below : List Frame) (meth : Method) (c : Code) (dC : Nat → ClassId) (dI : Nat → Nat → Nat) (dA : Nat → ClassId) (h : Nat → Nat) (Qw : State → Prop) (Q : Int32 → Prop) (depths : (Nat → Int32)) (owners : (Nat → Int32)) (roofs : Int64) (rate : Int32) (undos : (Nat → Int32)) (undoMany : Int32) (drawn : Int32) (dug : Int64) (deep : Int64) (holes : (Nat → Int64)) (holeMany : Int32) (tape : (Nat → Int32)) (taped : Int32) (place : Int32) (reads : Int32) (read_ : (Nat → Int32)) (row : (Nat → Int32)) (order : (Nat → Int32)) (bestOrder : (Nat → Int32)) (nears : (Nat → Int32)) (isKept : Int32) (keptRoofs : Int64) (kept : (Nat → Int32)) (lanes : (Nat → Int32)) (rowSizes : (Nat → Int32)) (items : (Nat → Int64)) (moved : (Nat → Int64)) : Prop := ∀ (r : Int32) (H : Heap) (locs : List Loc) (pc : Nat) (ls : Array Slot), Q r → va_P (dC, dI) vwCl (wM h dA depths owners roofs rate undos undoMany drawn dug deep holes holeMany tape taped place reads read_ row order bestOrder nears isKept keptRoofs kept lanes rowSizes items moved) H → va_S (mA h) s.heap H locs → decode cX3_taxOf pc = .ok (.ireturn, 1) → W p l e RX3_taxOf_ s m args below meth c H locs 0 0 Qw (F0 m pc ls [.int r])
def wX3_taxOf_23 (Q : Int32 → Prop) (x1 : Int64) (x3 : Int32) (z0 : Int32) (z1 : Int32) (roofs : Int64) (rate : Int32) (deep : Int64) : Prop := (∀ x4_24 : Int32, x4_24 = (z1 * z0) → (wX3_kindOf (fun r_28 => (∀ x6_42 : Int32, x6_42 = ((x4_24 + 10) - (3 * x3)) → ((r_28 = 0 → (Q x4_24)) ∧ (¬ r_28 = 0 → ((r_28 = 1 → (Q (x4_24 / 2))) ∧ (¬ r_28 = 1 → ((r_28 = 2 → (Q (x4_24 + 10))) ∧ (¬ r_28 = 2 → ((r_28 = 3 → (wX3_fenceOf (fun r_92 => (Q ((x4_24 / 2) + r_92))) x1)) ∧ (¬ r_28 = 3 → ((0 ≤ x6_42 → (Q x6_42)) ∧ (¬ 0 ≤ x6_42 → (Q 0))))))))))))) roofs deep x1))
set_option maxHeartbeats 4000000 in
set_option maxRecDepth 100000 in
theorem tX3_taxOf_23 {Q : Int32 → Prop} {depths : (Nat → Int32)} {owners : (Nat → Int32)} {roofs : Int64} {rate : Int32} {undos : (Nat → Int32)} {undoMany : Int32} {drawn : Int32} {dug : Int64} {deep : Int64} {holes : (Nat → Int64)} {holeMany : Int32} {tape : (Nat → Int32)} {taped : Int32} {place : Int32} {reads : Int32} {read_ : (Nat → Int32)} {row : (Nat → Int32)} {order : (Nat → Int32)} {bestOrder : (Nat → Int32)} {nears : (Nat → Int32)} {isKept : Int32} {keptRoofs : Int64} {kept : (Nat → Int32)} {lanes : (Nat → Int32)} {rowSizes : (Nat → Int32)} {items : (Nat → Int64)} {moved : (Nat → Int64)} (S : CallFix p m c cX3_taxOf 7 s args lw_all RX3) (hK : va_K (dC, dI) vwCl (tysG dA) s) (hj : mJ h) (hret : hrX3_taxOf p l e s m args below meth c dC dI dA h Qw Q depths owners roofs rate undos undoMany drawn dug deep holes holeMany tape taped place reads read_ row order bestOrder nears isKept keptRoofs kept lanes rowSizes items moved) : ∀ (x1 : Int64) (x3 : Int32) (z0 : Int32) (z1 : Int32) (H : Heap) (locs : List Loc) (ls : Array Slot), wX3_taxOf_23 Q x1 x3 z0 z1 roofs rate deep → va_P (dC, dI) vwCl (wM h dA depths owners roofs rate undos undoMany drawn dug deep holes holeMany tape taped place reads read_ row order bestOrder nears isKept keptRoofs kept lanes rowSizes items moved) H → va_S (mA h) s.heap H locs → lv_has ls 7 [(0, .ref (h 0)), (1, .long x1), (3, .int x3)] → W p l e RX3_taxOf_ s m args below meth c H locs 0 0 Qw (F0 m 23 ls [.int z0, .int z1]) := by
  obtain ⟨hx, hb, hml, hown, hts⟩ := id S
  intro x1 x3 z0 z1 H locs ls hf hP hS hl
  unfold wX3_taxOf_23 at hf
  refine lv_imul hx hb dX3_taxOf_23 ?_
  refine lv_topi (fun x4_24 ex4_24 => ?_)
  replace hf := hf x4_24 ex4_24
  refine lv_istore (lv' := [(4, .int x4_24), (0, .ref (h 0)), (1, .long x1), (3, .int x3)]) hx hb dX3_taxOf_24 hl (by decide) rfl (fun ls hl => ?_)
  refine lv_aload_n hx hb dX3_taxOf_26 rfl (lv_at hl 1 rfl) ?_
  refine lv_lload_n hx hb dX3_taxOf_27 rfl (lv_at hl 2 rfl) ?_
  refine cM_i (As := [.long x1]) (rest := []) S hK rfl hP hS (metX3_kindOf l hj hf) (lw_V q1401 q1403 qs39 q60 q1404) rfl pdX3_kindOf ⟨rfl, rfl⟩ ⟨Nat.le_of_ble_eq_true rfl, Nat.le_of_ble_eq_true rfl⟩ rfl hl.1 rfl (Nat.le_of_ble_eq_true rfl) dX3_taxOf_28 ⟨Nat.zero_le _, Nat.zero_le _⟩ (fun r_28 u_28 H locs hf hP hS => ?_)
  replace hP : va_P (dC, dI) vwCl (wM h dA depths owners roofs rate undos undoMany drawn dug deep holes holeMany tape taped place reads read_ row order bestOrder nears isKept keptRoofs kept lanes rowSizes items moved) H := hP
  try dsimp only at hf
  refine lv_istore (lv' := [(5, .int r_28), (4, .int x4_24), (0, .ref (h 0)), (1, .long x1), (3, .int x3)]) hx hb dX3_taxOf_31 hl (by decide) rfl (fun ls hl => ?_)
  refine lv_iload hx hb dX3_taxOf_33 (lv_at hl 1 rfl) ?_
  refine lv_bipush (v := 10) hx hb dX3_taxOf_35 (by decide) ?_
  refine lv_iadd hx hb dX3_taxOf_37 ?_
  refine lv_iconst (v := 3) hx hb dX3_taxOf_38 (by decide) ?_
  refine lv_iload_n hx hb dX3_taxOf_39 rfl (lv_at hl 4 rfl) ?_
  refine lv_imul hx hb dX3_taxOf_40 ?_
  refine lv_isub hx hb dX3_taxOf_41 ?_
  refine lv_topi (fun x6_42 ex6_42 => ?_)
  replace hf := hf x6_42 ex6_42
  refine lv_istore (lv' := [(6, .int x6_42), (5, .int r_28), (4, .int x4_24), (0, .ref (h 0)), (1, .long x1), (3, .int x3)]) hx hb dX3_taxOf_42 hl (by decide) rfl (fun ls hl => ?_)
  refine lv_iload hx hb dX3_taxOf_44 (lv_at hl 1 rfl) ?_
  refine lv_if_ne (tgt := 54) hx hb dX3_taxOf_46 (by decide) (fun c_46 => ?_) (fun c_46 => ?_)
  · replace hf := hf.2 c_46
    refine lv_iload hx hb dX3_taxOf_54 (lv_at hl 1 rfl) ?_
    refine lv_iconst (v := 1) hx hb dX3_taxOf_56 (by decide) ?_
    refine lv_icmp_ne (tgt := 67) hx hb dX3_taxOf_57 (by decide) (fun c_57 => ?_) (fun c_57 => ?_)
    · replace hf := hf.2 c_57
      refine lv_iload hx hb dX3_taxOf_67 (lv_at hl 1 rfl) ?_
      refine lv_iconst (v := 2) hx hb dX3_taxOf_69 (by decide) ?_
      refine lv_icmp_ne (tgt := 81) hx hb dX3_taxOf_70 (by decide) (fun c_70 => ?_) (fun c_70 => ?_)
      · replace hf := hf.2 c_70
        refine lv_iload hx hb dX3_taxOf_81 (lv_at hl 1 rfl) ?_
        refine lv_iconst (v := 3) hx hb dX3_taxOf_83 (by decide) ?_
        refine lv_icmp_ne (tgt := 99) hx hb dX3_taxOf_84 (by decide) (fun c_84 => ?_) (fun c_84 => ?_)
        · replace hf := hf.2 c_84
          refine lv_iload hx hb dX3_taxOf_99 (lv_at hl 0 rfl) ?_
          refine lv_if_ge (tgt := 108) hx hb dX3_taxOf_101 (by decide) (fun c_101 => ?_) (fun c_101 => ?_)
          · replace hf := hf.1 c_101
            refine lv_iload hx hb dX3_taxOf_108 (lv_at hl 0 rfl) ?_
            exact hret _ _ _ _ _ hf hP hS dX3_taxOf_110
          · replace hf := hf.2 c_101
            refine lv_iconst (v := 0) hx hb dX3_taxOf_104 (by decide) ?_
            refine lv_goto (tgt := 110) hx hb dX3_taxOf_105 (by decide) ?_
            exact hret _ _ _ _ _ hf hP hS dX3_taxOf_110
        · replace hf := hf.1 c_84
          refine lv_iload hx hb dX3_taxOf_87 (lv_at hl 2 rfl) ?_
          refine lv_iconst (v := 2) hx hb dX3_taxOf_89 (by decide) ?_
          refine lv_idiv hx hb dX3_taxOf_90 (by decide) ?_
          refine lv_lload_n hx hb dX3_taxOf_91 rfl (lv_at hl 4 rfl) ?_
          refine cs_i (As := [.long x1]) (rest := [.int (x4_24 / 2)]) S (metX3_fenceOf l hf) (lw_S q1413 q1414 q60 q1415) pdX3_fenceOf ⟨rfl, rfl⟩ ⟨Nat.le_of_ble_eq_true rfl, Nat.le_of_ble_eq_true rfl⟩ rfl hl.1 rfl (Nat.le_of_ble_eq_true rfl) dX3_taxOf_92 ⟨Nat.zero_le _, Nat.zero_le _⟩ (fun r_92 hf => ?_)
          refine lv_iadd hx hb dX3_taxOf_95 ?_
          refine lv_goto (tgt := 110) hx hb dX3_taxOf_96 (by decide) ?_
          exact hret _ _ _ _ _ hf hP hS dX3_taxOf_110
      · replace hf := hf.1 c_70
        refine lv_iload hx hb dX3_taxOf_73 (lv_at hl 2 rfl) ?_
        refine lv_bipush (v := 10) hx hb dX3_taxOf_75 (by decide) ?_
        refine lv_iadd hx hb dX3_taxOf_77 ?_
        refine lv_goto (tgt := 110) hx hb dX3_taxOf_78 (by decide) ?_
        exact hret _ _ _ _ _ hf hP hS dX3_taxOf_110
    · replace hf := hf.1 c_57
      refine lv_iload hx hb dX3_taxOf_60 (lv_at hl 2 rfl) ?_
      refine lv_iconst (v := 2) hx hb dX3_taxOf_62 (by decide) ?_
      refine lv_idiv hx hb dX3_taxOf_63 (by decide) ?_
      refine lv_goto (tgt := 110) hx hb dX3_taxOf_64 (by decide) ?_
      exact hret _ _ _ _ _ hf hP hS dX3_taxOf_110
  · replace hf := hf.1 c_46
    refine lv_iload hx hb dX3_taxOf_49 (lv_at hl 2 rfl) ?_
    refine lv_goto (tgt := 110) hx hb dX3_taxOf_51 (by decide) ?_
    exact hret _ _ _ _ _ hf hP hS dX3_taxOf_110
def wX3_taxOf (Q : Int32 → Prop) (roofs : Int64) (rate : Int32) (deep : Int64) (x1 : Int64) : Prop := (wX3_ones (fun r_1 => ((3 ≤ r_1 → (wX3_taxOf_23 Q x1 r_1 ((2 * r_1) - 3) rate roofs rate deep)) ∧ (¬ 3 ≤ r_1 → (wX3_taxOf_23 Q x1 r_1 r_1 rate roofs rate deep)))) x1)
end
set_option maxHeartbeats 4000000 in
set_option maxRecDepth 100000 in
theorem metX3_taxOf (l : Launch) {Q : Int32 → Prop} {depths : (Nat → Int32)} {owners : (Nat → Int32)} {roofs : Int64} {rate : Int32} {undos : (Nat → Int32)} {undoMany : Int32} {drawn : Int32} {dug : Int64} {deep : Int64} {holes : (Nat → Int64)} {holeMany : Int32} {tape : (Nat → Int32)} {taped : Int32} {place : Int32} {reads : Int32} {read_ : (Nat → Int32)} {row : (Nat → Int32)} {order : (Nat → Int32)} {bestOrder : (Nat → Int32)} {nears : (Nat → Int32)} {isKept : Int32} {keptRoofs : Int64} {kept : (Nat → Int32)} {lanes : (Nat → Int32)} {rowSizes : (Nat → Int32)} {items : (Nat → Int64)} {moved : (Nat → Int64)} {x1 : Int64} {dC : Nat → ClassId} {dI : Nat → Nat → Nat} {dA : Nat → ClassId} {h : Nat → Nat} (hj : mJ h) (hf : wX3_taxOf Q roofs rate deep x1) : Met l yX3_taxOf (ws_ yX3_taxOf cX3_taxOf 7 (some .int)) rmX3_taxOf (mPc dC dI dA h [.long x1] (wM h dA depths owners roofs rate undos undoMany drawn dug deep holes holeMany tape taped place reads read_ row order bestOrder nears isKept keptRoofs kept lanes rowSizes items moved)) (va_Qi (fun (r : Int32) (u : Unit) => Q r) (fun u t => va_P (dC, dI) vwCl (wM h dA depths owners roofs rate undos undoMany drawn dug deep holes holeMany tape taped place reads read_ row order bestOrder nears isKept keptRoofs kept lanes rowSizes items moved) t.heap) (mA h)) 0 0 (mA h) := by
  refine Met.ofW (cc := cX3_taxOf) (maxL := 7) (ret := (some .int)) (by decide) rfl ?_
  intro p e s m args below meth c s₁ B hml hv
  obtain ⟨rfl, hP, hK⟩ := hv
  have hx := B.exec
  have hb := B.bytes
  have hr := B.returns
  have hts := atoms_spec (ws := (ws_ yX3_taxOf cX3_taxOf 7 (some .int))) B.pre
  have hts : ∀ w ∈ lw_all, w.before _ s = true := fun w h => hts w (List.mem_cons_of_mem _ h)
  have hown : s.vm.findClass RX3 = some m.cls := findClass_of_methodNamed B.named
  have hlocks := B.notSynchronized
  have S : CallFix p m c cX3_taxOf 7 s _ lw_all RX3 := ⟨hx, hb, hml, hown, hts⟩
  have hS : va_S (mA h) s.heap s.heap [] := va_S.rf
  have hl := lv_entry ([.ref (h 0), .long x1]) (n := 7) (Nat.le_of_ble_eq_true rfl)
  rw [lg_entry_eq]
  generalize (lg_sl ([.ref (h 0), .long x1]) ++ List.replicate (7 - (lg_sl ([.ref (h 0), .long x1])).length) Slot.unset).toArray = ls at hl ⊢
  replace hl : lv_has ls 7 [(0, .ref (h 0)), (1, .long x1)] := hl
  have hret : hrX3_taxOf p l e s m ([.ref (h 0), .long x1] : List Value).toArray below meth c dC dI dA h (MQ below (va_Qi (fun (r : Int32) (u : Unit) => Q r) (fun u t => va_P (dC, dI) vwCl (wM h dA depths owners roofs rate undos undoMany drawn dug deep holes holeMany tape taped place reads read_ row order bestOrder nears isKept keptRoofs kept lanes rowSizes items moved) t.heap) (mA h)) ([.ref (h 0), .long x1] : List Value).toArray s 0 0 (mA h)) Q depths owners roofs rate undos undoMany drawn dug deep holes holeMany tape taped place reads read_ row order bestOrder nears isKept keptRoofs kept lanes rowSizes items moved := fun r H locs pc ls hq hP hS hd => W.iret hx hb hr (fun t ht hW => ⟨⟨r, (), rfl, hq, by subst ht; exact hP⟩, hS.F ht⟩) hS.2.2 hd
  unfold wX3_taxOf at hf
  refine lv_lload_n hx hb dX3_taxOf_0 rfl (lv_at hl 1 rfl) ?_
  refine cs_i (As := [.long x1]) (rest := []) S (metX3_ones l hf) (lw_S q1390 q1391 q60 q1392) pdX3_ones ⟨rfl, rfl⟩ ⟨Nat.le_of_ble_eq_true rfl, Nat.le_of_ble_eq_true rfl⟩ rfl hl.1 rfl (Nat.le_of_ble_eq_true rfl) dX3_taxOf_1 ⟨Nat.zero_le _, Nat.zero_le _⟩ (fun r_1 hf => ?_)
  refine lv_istore_n (lv' := [(3, .int r_1), (0, .ref (h 0)), (1, .long x1)]) hx hb dX3_taxOf_4 rfl hl (by decide) rfl (fun ls hl => ?_)
  refine lv_aload_n hx hb dX3_taxOf_5 rfl (lv_at hl 1 rfl) ?_
  refine gM_rate S hK hP dX3_taxOf_6 ?_
  refine lv_iload_n hx hb dX3_taxOf_9 rfl (lv_at hl 0 rfl) ?_
  refine lv_iconst (v := 3) hx hb dX3_taxOf_10 (by decide) ?_
  refine lv_icmp_ge (tgt := 18) hx hb dX3_taxOf_11 (by decide) (fun c_11 => ?_) (fun c_11 => ?_)
  · replace hf := hf.1 c_11
    refine lv_iconst (v := 2) hx hb dX3_taxOf_18 (by decide) ?_
    refine lv_iload_n hx hb dX3_taxOf_19 rfl (lv_at hl 0 rfl) ?_
    refine lv_imul hx hb dX3_taxOf_20 ?_
    refine lv_iconst (v := 3) hx hb dX3_taxOf_21 (by decide) ?_
    refine lv_isub hx hb dX3_taxOf_22 ?_
    exact tX3_taxOf_23 S hK hj hret x1 r_1 ((2 * r_1) - 3) rate _ _ _ hf hP hS (lv_sub hl [1, 2, 0] rfl)
  · replace hf := hf.2 c_11
    refine lv_iload_n hx hb dX3_taxOf_14 rfl (lv_at hl 0 rfl) ?_
    refine lv_goto (tgt := 23) hx hb dX3_taxOf_15 (by decide) ?_
    exact tX3_taxOf_23 S hK hj hret x1 r_1 r_1 rate _ _ _ hf hP hS (lv_sub hl [1, 2, 0] rfl)
/-! HoleCountyModel.taxOfAll()I -/
theorem pdX3_taxOfAll : DscOk yX3_taxOfAll 0 := by decide +kernel
abbrev rmX3_taxOfAll : Room := { frames := 4, cells := 0, slots := 0, locals := 93 }
abbrev RX3_taxOfAll_ : Room := (headSpec (ws_ yX3_taxOfAll cX3_taxOfAll 3 (some .int)) rmX3_taxOfAll).room
section
variable {p : Program} {l : Launch} {e : Env} {s : State} {m : MethodId} {args : Array Value} {below : List Frame} {meth : Method} {c : Code} {Qw : State → Prop} {dC : Nat → ClassId} {dI : Nat → Nat → Nat} {dA : Nat → ClassId} {h : Nat → Nat}
abbrev hrX3_taxOfAll (p : Program) (l : Launch) (e : Env) (s : State) (m : MethodId) (args : Array Value) (below : List Frame) (meth : Method) (c : Code) (dC : Nat → ClassId) (dI : Nat → Nat → Nat) (dA : Nat → ClassId) (h : Nat → Nat) (Qw : State → Prop) (Q : Int32 → (Nat → Int64) → Int32 → Prop) (depths : (Nat → Int32)) (owners : (Nat → Int32)) (roofs : Int64) (rate : Int32) (undos : (Nat → Int32)) (undoMany : Int32) (drawn : Int32) (dug : Int64) (deep : Int64) (tape : (Nat → Int32)) (taped : Int32) (place : Int32) (reads : Int32) (read_ : (Nat → Int32)) (row : (Nat → Int32)) (order : (Nat → Int32)) (bestOrder : (Nat → Int32)) (nears : (Nat → Int32)) (isKept : Int32) (keptRoofs : Int64) (kept : (Nat → Int32)) (lanes : (Nat → Int32)) (rowSizes : (Nat → Int32)) (items : (Nat → Int64)) (moved : (Nat → Int64)) : Prop := ∀ (r : Int32) (holes : (Nat → Int64)) (holeMany : Int32) (H : Heap) (locs : List Loc) (pc : Nat) (ls : Array Slot), Q r holes holeMany → va_P (dC, dI) vwCl (wM h dA depths owners roofs rate undos undoMany drawn dug deep holes holeMany tape taped place reads read_ row order bestOrder nears isKept keptRoofs kept lanes rowSizes items moved) H → va_S (mA h) s.heap H locs → decode cX3_taxOfAll pc = .ok (.ireturn, 1) → W p l e RX3_taxOfAll_ s m args below meth c H locs 0 0 Qw (F0 m pc ls [.int r])
def wX3_taxOfAll_8 (Q : Int32 → (Nat → Int64) → Int32 → Prop) (roofs : Int64) (rate : Int32) (dug : Int64) (deep : Int64) (holes : (Nat → Int64)) (holeMany : Int32) : Nat → Int32 → Int32 → Prop
  | 0, _, _ => False
  | n + 1, x1, x2 => ((holeMany ≤ x2 → (Q x1 holes holeMany)) ∧ (¬ holeMany ≤ x2 → (vp_in x2 36 ∧ (wX3_taxOf (fun r_24 => (∀ x1_28 : Int32, x1_28 = (x1 + r_24) → (∀ x2_29 : Int32, x2_29 = x2 + 1 → ((wX3_taxOfAll_8 Q roofs rate dug deep holes holeMany n) x1_28 x2_29)))) roofs rate deep (holes (x2 : Int32).toNatClampNeg)))))
set_option maxHeartbeats 4000000 in
set_option maxRecDepth 100000 in
theorem tX3_taxOfAll_8 {Q : Int32 → (Nat → Int64) → Int32 → Prop} {depths : (Nat → Int32)} {owners : (Nat → Int32)} {roofs : Int64} {rate : Int32} {undos : (Nat → Int32)} {undoMany : Int32} {drawn : Int32} {dug : Int64} {deep : Int64} {holes : (Nat → Int64)} {holeMany : Int32} {tape : (Nat → Int32)} {taped : Int32} {place : Int32} {reads : Int32} {read_ : (Nat → Int32)} {row : (Nat → Int32)} {order : (Nat → Int32)} {bestOrder : (Nat → Int32)} {nears : (Nat → Int32)} {isKept : Int32} {keptRoofs : Int64} {kept : (Nat → Int32)} {lanes : (Nat → Int32)} {rowSizes : (Nat → Int32)} {items : (Nat → Int64)} {moved : (Nat → Int64)} (S : CallFix p m c cX3_taxOfAll 3 s args lw_all RX3) (hK : va_K (dC, dI) vwCl (tysG dA) s) (hj : mJ h) (hret : hrX3_taxOfAll p l e s m args below meth c dC dI dA h Qw Q depths owners roofs rate undos undoMany drawn dug deep tape taped place reads read_ row order bestOrder nears isKept keptRoofs kept lanes rowSizes items moved) : ∀ (n : Nat) (x1 : Int32) (x2 : Int32) (H : Heap) (locs : List Loc) (ls : Array Slot), wX3_taxOfAll_8 Q roofs rate dug deep holes holeMany n x1 x2 → va_P (dC, dI) vwCl (wM h dA depths owners roofs rate undos undoMany drawn dug deep holes holeMany tape taped place reads read_ row order bestOrder nears isKept keptRoofs kept lanes rowSizes items moved) H → va_S (mA h) s.heap H locs → lv_has ls 3 [(0, .ref (h 0)), (1, .int x1), (2, .int x2)] → W p l e RX3_taxOfAll_ s m args below meth c H locs 0 0 Qw (F0 m 8 ls []) := by
  obtain ⟨hx, hb, hml, hown, hts⟩ := id S
  intro n
  induction n with
  | zero => intro _ _ _ _ _ hf; exact hf.elim
  | succ n ih =>
    intro x1 x2 H locs ls hf hP hS hl
    rw [wX3_taxOfAll_8] at hf
    refine lv_iload_n hx hb dX3_taxOfAll_8 rfl (lv_at hl 2 rfl) ?_
    refine lv_aload_n hx hb dX3_taxOfAll_9 rfl (lv_at hl 0 rfl) ?_
    refine gM_holeMany S hK hP dX3_taxOfAll_10 ?_
    refine lv_icmp_ge (tgt := 35) hx hb dX3_taxOfAll_13 (by decide) (fun c_13 => ?_) (fun c_13 => ?_)
    · replace hf := hf.1 c_13
      refine lv_iload_n hx hb dX3_taxOfAll_35 rfl (lv_at hl 1 rfl) ?_
      exact hret _ _ _ _ _ _ _ hf hP hS dX3_taxOfAll_36
    · replace hf := hf.2 c_13
      refine lv_iload_n hx hb dX3_taxOfAll_16 rfl (lv_at hl 1 rfl) ?_
      refine lv_aload_n hx hb dX3_taxOfAll_17 rfl (lv_at hl 0 rfl) ?_
      refine lv_aload_n hx hb dX3_taxOfAll_18 rfl (lv_at hl 0 rfl) ?_
      refine gM_holes S hK hP dX3_taxOfAll_19 ?_
      refine lv_iload_n hx hb dX3_taxOfAll_22 rfl (lv_at hl 2 rfl) ?_
      obtain ⟨hin, hf⟩ := hf
      refine lM_holes S hK hP hin dX3_taxOfAll_23 ?_
      refine cM_i (As := [.long (holes (x2 : Int32).toNatClampNeg)]) (rest := [.int x1]) S hK rfl hP hS (metX3_taxOf l hj hf) (lw_V q1397 q1399 qs38 q60 q1400) rfl pdX3_taxOf ⟨rfl, rfl⟩ ⟨Nat.le_of_ble_eq_true rfl, Nat.le_of_ble_eq_true rfl⟩ rfl hl.1 rfl (Nat.le_of_ble_eq_true rfl) dX3_taxOfAll_24 ⟨Nat.zero_le _, Nat.zero_le _⟩ (fun r_24 u_24 H locs hf hP hS => ?_)
      replace hP : va_P (dC, dI) vwCl (wM h dA depths owners roofs rate undos undoMany drawn dug deep holes holeMany tape taped place reads read_ row order bestOrder nears isKept keptRoofs kept lanes rowSizes items moved) H := hP
      try dsimp only at hf
      refine lv_iadd hx hb dX3_taxOfAll_27 ?_
      refine lv_topi (fun x1_28 ex1_28 => ?_)
      replace hf := hf x1_28 ex1_28
      refine lv_istore_n (lv' := [(1, .int x1_28), (0, .ref (h 0)), (2, .int x2)]) hx hb dX3_taxOfAll_28 rfl hl (by decide) rfl (fun ls hl => ?_)
      obtain ⟨x2_29, ex2_29⟩ : ∃ z : Int32, z = x2 + 1 := ⟨_, rfl⟩
      replace hf := hf x2_29 ex2_29
      refine lv_iinc (v := x2_29) (lv' := [(2, .int x2_29), (1, .int x1_28), (0, .ref (h 0))]) hx hb dX3_taxOfAll_29 hl (k := 2) rfl (by rw [ex2_29]; rfl) (by decide) rfl (fun ls hl => ?_)
      refine lv_goto (tgt := 8) hx hb dX3_taxOfAll_32 (by decide) ?_
      exact ih x1_28 x2_29 _ _ _ hf hP hS (lv_sub hl [2, 1, 0] rfl)
def wX3_taxOfAll (Q : Int32 → (Nat → Int64) → Int32 → Prop) (roofs : Int64) (rate : Int32) (dug : Int64) (deep : Int64) (holes : (Nat → Int64)) (holeMany : Int32) : Prop := (wX3_findHoles (fun holes_1 holeMany_1 => (∃ fu : Nat, wX3_taxOfAll_8 Q roofs rate dug deep holes_1 holeMany_1 fu 0 0)) dug holes holeMany)
end
set_option maxHeartbeats 4000000 in
set_option maxRecDepth 100000 in
theorem metX3_taxOfAll (l : Launch) {Q : Int32 → (Nat → Int64) → Int32 → Prop} {depths : (Nat → Int32)} {owners : (Nat → Int32)} {roofs : Int64} {rate : Int32} {undos : (Nat → Int32)} {undoMany : Int32} {drawn : Int32} {dug : Int64} {deep : Int64} {holes : (Nat → Int64)} {holeMany : Int32} {tape : (Nat → Int32)} {taped : Int32} {place : Int32} {reads : Int32} {read_ : (Nat → Int32)} {row : (Nat → Int32)} {order : (Nat → Int32)} {bestOrder : (Nat → Int32)} {nears : (Nat → Int32)} {isKept : Int32} {keptRoofs : Int64} {kept : (Nat → Int32)} {lanes : (Nat → Int32)} {rowSizes : (Nat → Int32)} {items : (Nat → Int64)} {moved : (Nat → Int64)} {dC : Nat → ClassId} {dI : Nat → Nat → Nat} {dA : Nat → ClassId} {h : Nat → Nat} (hj : mJ h) (hf : wX3_taxOfAll Q roofs rate dug deep holes holeMany) : Met l yX3_taxOfAll (ws_ yX3_taxOfAll cX3_taxOfAll 3 (some .int)) rmX3_taxOfAll (mPc dC dI dA h [] (wM h dA depths owners roofs rate undos undoMany drawn dug deep holes holeMany tape taped place reads read_ row order bestOrder nears isKept keptRoofs kept lanes rowSizes items moved)) (va_Qi (fun (r : Int32) (u : (Nat → Int64) × Int32) => Q r u.1 u.2) (fun u t => va_P (dC, dI) vwCl (wM h dA depths owners roofs rate undos undoMany drawn dug deep u.1 u.2 tape taped place reads read_ row order bestOrder nears isKept keptRoofs kept lanes rowSizes items moved) t.heap) (mA h)) 0 0 (mA h) := by
  refine Met.ofW (cc := cX3_taxOfAll) (maxL := 3) (ret := (some .int)) (by decide) rfl ?_
  intro p e s m args below meth c s₁ B hml hv
  obtain ⟨rfl, hP, hK⟩ := hv
  have hx := B.exec
  have hb := B.bytes
  have hr := B.returns
  have hts := atoms_spec (ws := (ws_ yX3_taxOfAll cX3_taxOfAll 3 (some .int))) B.pre
  have hts : ∀ w ∈ lw_all, w.before _ s = true := fun w h => hts w (List.mem_cons_of_mem _ h)
  have hown : s.vm.findClass RX3 = some m.cls := findClass_of_methodNamed B.named
  have hlocks := B.notSynchronized
  have S : CallFix p m c cX3_taxOfAll 3 s _ lw_all RX3 := ⟨hx, hb, hml, hown, hts⟩
  have hS : va_S (mA h) s.heap s.heap [] := va_S.rf
  have hl := lv_entry ([.ref (h 0)]) (n := 3) (Nat.le_of_ble_eq_true rfl)
  rw [lg_entry_eq]
  generalize (lg_sl ([.ref (h 0)]) ++ List.replicate (3 - (lg_sl ([.ref (h 0)])).length) Slot.unset).toArray = ls at hl ⊢
  replace hl : lv_has ls 3 [(0, .ref (h 0))] := hl
  have hret : hrX3_taxOfAll p l e s m ([.ref (h 0)] : List Value).toArray below meth c dC dI dA h (MQ below (va_Qi (fun (r : Int32) (u : (Nat → Int64) × Int32) => Q r u.1 u.2) (fun u t => va_P (dC, dI) vwCl (wM h dA depths owners roofs rate undos undoMany drawn dug deep u.1 u.2 tape taped place reads read_ row order bestOrder nears isKept keptRoofs kept lanes rowSizes items moved) t.heap) (mA h)) ([.ref (h 0)] : List Value).toArray s 0 0 (mA h)) Q depths owners roofs rate undos undoMany drawn dug deep tape taped place reads read_ row order bestOrder nears isKept keptRoofs kept lanes rowSizes items moved := fun r holes holeMany H locs pc ls hq hP hS hd => W.iret hx hb hr (fun t ht hW => ⟨⟨r, (holes, holeMany), rfl, hq, by subst ht; exact hP⟩, hS.F ht⟩) hS.2.2 hd
  unfold wX3_taxOfAll at hf
  refine lv_aload_n hx hb dX3_taxOfAll_0 rfl (lv_at hl 0 rfl) ?_
  refine cM_v (As := []) (rest := []) S hK rfl hP hS (metX3_findHoles l hj hf) (lw_V q1356 q1358 qs33 q60 q1359) rfl pdX3_findHoles ⟨rfl, rfl⟩ ⟨Nat.le_of_ble_eq_true rfl, Nat.le_of_ble_eq_true rfl⟩ rfl hl.1 rfl (Nat.le_of_ble_eq_true rfl) dX3_taxOfAll_1 ⟨Nat.zero_le _, Nat.zero_le _⟩ (fun u_1 H locs hf hP hS => ?_)
  obtain ⟨holes_1, holeMany_1⟩ := u_1
  replace hP : va_P (dC, dI) vwCl (wM h dA depths owners roofs rate undos undoMany drawn dug deep holes_1 holeMany_1 tape taped place reads read_ row order bestOrder nears isKept keptRoofs kept lanes rowSizes items moved) H := hP
  try dsimp only at hf
  refine lv_iconst (v := 0) hx hb dX3_taxOfAll_4 (by decide) ?_
  refine lv_istore_n (lv' := [(1, .int 0), (0, .ref (h 0))]) hx hb dX3_taxOfAll_5 rfl hl (by decide) rfl (fun ls hl => ?_)
  refine lv_iconst (v := 0) hx hb dX3_taxOfAll_6 (by decide) ?_
  refine lv_istore_n (lv' := [(2, .int 0), (1, .int 0), (0, .ref (h 0))]) hx hb dX3_taxOfAll_7 rfl hl (by decide) rfl (fun ls hl => ?_)
  obtain ⟨fu, hf⟩ := hf
  exact tX3_taxOfAll_8 S hK hj hret fu 0 0 _ _ _ hf hP hS (lv_sub hl [2, 1, 0] rfl)
/-! HoleCountyModel.count(I)I -/
theorem pdX3_count : DscOk yX3_count 1 := by decide +kernel
abbrev rmX3_count : Room := { frames := 5, cells := 0, slots := 0, locals := 115 }
abbrev RX3_count_ : Room := (headSpec (ws_ yX3_count cX3_count 4 (some .int)) rmX3_count).room
section
variable {p : Program} {l : Launch} {e : Env} {s : State} {m : MethodId} {args : Array Value} {below : List Frame} {meth : Method} {c : Code} {Qw : State → Prop} {dC : Nat → ClassId} {dI : Nat → Nat → Nat} {dA : Nat → ClassId} {h : Nat → Nat}
abbrev hrX3_count (p : Program) (l : Launch) (e : Env) (s : State) (m : MethodId) (args : Array Value) (below : List Frame) (meth : Method) (c : Code) (dC : Nat → ClassId) (dI : Nat → Nat → Nat) (dA : Nat → ClassId) (h : Nat → Nat) (Qw : State → Prop) (Q : Int32 → Int64 → Int64 → (Nat → Int64) → Int32 → Prop) (depths : (Nat → Int32)) (owners : (Nat → Int32)) (roofs : Int64) (rate : Int32) (undos : (Nat → Int32)) (undoMany : Int32) (drawn : Int32) (tape : (Nat → Int32)) (taped : Int32) (place : Int32) (reads : Int32) (read_ : (Nat → Int32)) (row : (Nat → Int32)) (order : (Nat → Int32)) (bestOrder : (Nat → Int32)) (nears : (Nat → Int32)) (isKept : Int32) (keptRoofs : Int64) (kept : (Nat → Int32)) (lanes : (Nat → Int32)) (rowSizes : (Nat → Int32)) (items : (Nat → Int64)) (moved : (Nat → Int64)) : Prop := ∀ (r : Int32) (dug : Int64) (deep : Int64) (holes : (Nat → Int64)) (holeMany : Int32) (H : Heap) (locs : List Loc) (pc : Nat) (ls : Array Slot), Q r dug deep holes holeMany → va_P (dC, dI) vwCl (wM h dA depths owners roofs rate undos undoMany drawn dug deep holes holeMany tape taped place reads read_ row order bestOrder nears isKept keptRoofs kept lanes rowSizes items moved) H → va_S (mA h) s.heap H locs → decode cX3_count pc = .ok (.ireturn, 1) → W p l e RX3_count_ s m args below meth c H locs 0 0 Qw (F0 m pc ls [.int r])
def wX3_count_8 (Q : Int32 → Int64 → Int64 → (Nat → Int64) → Int32 → Prop) (x1 : Int32) (depths : (Nat → Int32)) (roofs : Int64) (rate : Int32) (undoMany : Int32) (dug : Int64) (deep : Int64) (holes : (Nat → Int64)) (holeMany : Int32) : Nat → Int32 → Int32 → Prop
  | 0, _, _ => False
  | n + 1, x2, x3 => ((36 ≤ x3 → (wX3_findHoles (fun holes_30 holeMany_30 => ((x1 = 0 → (Q holeMany_30 dug deep holes_30 holeMany_30)) ∧ (¬ x1 = 0 → ((x1 = 1 → (wX3_ones (fun r_85 => (Q r_85 dug deep holes_30 holeMany_30)) dug)) ∧ (¬ x1 = 1 → ((x1 = 2 → (wX3_taxOfAll (fun r_90 holes_90 holeMany_90 => (Q r_90 dug deep holes_90 holeMany_90)) roofs rate dug deep holes_30 holeMany_30)) ∧ (¬ x1 = 2 → ((x1 = 3 → (Q undoMany dug deep holes_30 holeMany_30)) ∧ (¬ x1 = 3 → ((x1 = 4 → (Q rate dug deep holes_30 holeMany_30)) ∧ (¬ x1 = 4 → ((x1 = 5 → (wX3_ones (fun r_108 => (Q r_108 dug deep holes_30 holeMany_30)) roofs)) ∧ (¬ x1 = 5 → ((x1 = 6 → (Q x2 dug deep holes_30 holeMany_30)) ∧ (¬ x1 = 6 → (Q (-1) dug deep holes_30 holeMany_30)))))))))))))))) dug holes holeMany)) ∧ (¬ 36 ≤ x3 → (vp_in x3 36 ∧ (∀ x2_22 : Int32, x2_22 = (x2 + (depths (x3 : Int32).toNatClampNeg)) → (∀ x3_23 : Int32, x3_23 = x3 + 1 → ((wX3_count_8 Q x1 depths roofs rate undoMany dug deep holes holeMany n) x2_22 x3_23))))))
set_option maxHeartbeats 4000000 in
set_option maxRecDepth 100000 in
theorem tX3_count_8 {Q : Int32 → Int64 → Int64 → (Nat → Int64) → Int32 → Prop} {x1 : Int32} {depths : (Nat → Int32)} {owners : (Nat → Int32)} {roofs : Int64} {rate : Int32} {undos : (Nat → Int32)} {undoMany : Int32} {drawn : Int32} {dug : Int64} {deep : Int64} {holes : (Nat → Int64)} {holeMany : Int32} {tape : (Nat → Int32)} {taped : Int32} {place : Int32} {reads : Int32} {read_ : (Nat → Int32)} {row : (Nat → Int32)} {order : (Nat → Int32)} {bestOrder : (Nat → Int32)} {nears : (Nat → Int32)} {isKept : Int32} {keptRoofs : Int64} {kept : (Nat → Int32)} {lanes : (Nat → Int32)} {rowSizes : (Nat → Int32)} {items : (Nat → Int64)} {moved : (Nat → Int64)} (S : CallFix p m c cX3_count 4 s args lw_all RX3) (hK : va_K (dC, dI) vwCl (tysG dA) s) (hj : mJ h) (hret : hrX3_count p l e s m args below meth c dC dI dA h Qw Q depths owners roofs rate undos undoMany drawn tape taped place reads read_ row order bestOrder nears isKept keptRoofs kept lanes rowSizes items moved) : ∀ (n : Nat) (x2 : Int32) (x3 : Int32) (H : Heap) (locs : List Loc) (ls : Array Slot), wX3_count_8 Q x1 depths roofs rate undoMany dug deep holes holeMany n x2 x3 → va_P (dC, dI) vwCl (wM h dA depths owners roofs rate undos undoMany drawn dug deep holes holeMany tape taped place reads read_ row order bestOrder nears isKept keptRoofs kept lanes rowSizes items moved) H → va_S (mA h) s.heap H locs → lv_has ls 4 [(0, .ref (h 0)), (1, .int x1), (2, .int x2), (3, .int x3)] → W p l e RX3_count_ s m args below meth c H locs 0 0 Qw (F0 m 8 ls []) := by
  obtain ⟨hx, hb, hml, hown, hts⟩ := id S
  intro n
  induction n with
  | zero => intro _ _ _ _ _ hf; exact hf.elim
  | succ n ih =>
    intro x2 x3 H locs ls hf hP hS hl
    rw [wX3_count_8] at hf
    refine lv_iload_n hx hb dX3_count_8 rfl (lv_at hl 3 rfl) ?_
    refine lv_bipush (v := 36) hx hb dX3_count_9 (by decide) ?_
    refine lv_icmp_ge (tgt := 29) hx hb dX3_count_11 (by decide) (fun c_11 => ?_) (fun c_11 => ?_)
    · replace hf := hf.1 c_11
      refine lv_aload_n hx hb dX3_count_29 rfl (lv_at hl 0 rfl) ?_
      refine cM_v (As := []) (rest := []) S hK rfl hP hS (metX3_findHoles l hj hf) (lw_V q1356 q1358 qs33 q60 q1359) rfl pdX3_findHoles ⟨rfl, rfl⟩ ⟨Nat.le_of_ble_eq_true rfl, Nat.le_of_ble_eq_true rfl⟩ rfl hl.1 rfl (Nat.le_of_ble_eq_true rfl) dX3_count_30 ⟨Nat.zero_le _, Nat.zero_le _⟩ (fun u_30 H locs hf hP hS => ?_)
      obtain ⟨holes_30, holeMany_30⟩ := u_30
      replace hP : va_P (dC, dI) vwCl (wM h dA depths owners roofs rate undos undoMany drawn dug deep holes_30 holeMany_30 tape taped place reads read_ row order bestOrder nears isKept keptRoofs kept lanes rowSizes items moved) H := hP
      try dsimp only at hf
      refine lv_iload_n hx hb dX3_count_33 rfl (lv_at hl 1 rfl) ?_
      by_cases c_34_0 : x1 = 0
      · replace hf := hf.1 c_34_0
        refine lv_tableIn (off := 42) (tgt := 76) hx hb dX3_count_34 (by rw [c_34_0]; decide) (by rw [c_34_0]; decide) (by rw [c_34_0]; decide) (by decide) ?_
        refine lv_aload_n hx hb dX3_count_76 rfl (lv_at hl 0 rfl) ?_
        refine gM_holeMany S hK hP dX3_count_77 ?_
        exact hret _ _ _ _ _ _ _ _ _ hf hP hS dX3_count_80
      replace hf := hf.2 c_34_0
      by_cases c_34_1 : x1 = 1
      · replace hf := hf.1 c_34_1
        refine lv_tableIn (off := 47) (tgt := 81) hx hb dX3_count_34 (by rw [c_34_1]; decide) (by rw [c_34_1]; decide) (by rw [c_34_1]; decide) (by decide) ?_
        refine lv_aload_n hx hb dX3_count_81 rfl (lv_at hl 0 rfl) ?_
        refine gM_dug S hK hP dX3_count_82 ?_
        refine cs_i (As := [.long dug]) (rest := []) S (metX3_ones l hf) (lw_S q1390 q1391 q60 q1392) pdX3_ones ⟨rfl, rfl⟩ ⟨Nat.le_of_ble_eq_true rfl, Nat.le_of_ble_eq_true rfl⟩ rfl hl.1 rfl (Nat.le_of_ble_eq_true rfl) dX3_count_85 ⟨Nat.zero_le _, Nat.zero_le _⟩ (fun r_85 hf => ?_)
        exact hret _ _ _ _ _ _ _ _ _ hf hP hS dX3_count_88
      replace hf := hf.2 c_34_1
      by_cases c_34_2 : x1 = 2
      · replace hf := hf.1 c_34_2
        refine lv_tableIn (off := 55) (tgt := 89) hx hb dX3_count_34 (by rw [c_34_2]; decide) (by rw [c_34_2]; decide) (by rw [c_34_2]; decide) (by decide) ?_
        refine lv_aload_n hx hb dX3_count_89 rfl (lv_at hl 0 rfl) ?_
        refine cM_i (As := []) (rest := []) S hK rfl hP hS (metX3_taxOfAll l hj hf) (lw_V q1393 q1395 qs37 q60 q1396) rfl pdX3_taxOfAll ⟨rfl, rfl⟩ ⟨Nat.le_of_ble_eq_true rfl, Nat.le_of_ble_eq_true rfl⟩ rfl hl.1 rfl (Nat.le_of_ble_eq_true rfl) dX3_count_90 ⟨Nat.zero_le _, Nat.zero_le _⟩ (fun r_90 u_90 H locs hf hP hS => ?_)
        obtain ⟨holes_90, holeMany_90⟩ := u_90
        replace hP : va_P (dC, dI) vwCl (wM h dA depths owners roofs rate undos undoMany drawn dug deep holes_90 holeMany_90 tape taped place reads read_ row order bestOrder nears isKept keptRoofs kept lanes rowSizes items moved) H := hP
        try dsimp only at hf
        exact hret _ _ _ _ _ _ _ _ _ hf hP hS dX3_count_93
      replace hf := hf.2 c_34_2
      by_cases c_34_3 : x1 = 3
      · replace hf := hf.1 c_34_3
        refine lv_tableIn (off := 60) (tgt := 94) hx hb dX3_count_34 (by rw [c_34_3]; decide) (by rw [c_34_3]; decide) (by rw [c_34_3]; decide) (by decide) ?_
        refine lv_aload_n hx hb dX3_count_94 rfl (lv_at hl 0 rfl) ?_
        refine gM_undoMany S hK hP dX3_count_95 ?_
        exact hret _ _ _ _ _ _ _ _ _ hf hP hS dX3_count_98
      replace hf := hf.2 c_34_3
      by_cases c_34_4 : x1 = 4
      · replace hf := hf.1 c_34_4
        refine lv_tableIn (off := 65) (tgt := 99) hx hb dX3_count_34 (by rw [c_34_4]; decide) (by rw [c_34_4]; decide) (by rw [c_34_4]; decide) (by decide) ?_
        refine lv_aload_n hx hb dX3_count_99 rfl (lv_at hl 0 rfl) ?_
        refine gM_rate S hK hP dX3_count_100 ?_
        exact hret _ _ _ _ _ _ _ _ _ hf hP hS dX3_count_103
      replace hf := hf.2 c_34_4
      by_cases c_34_5 : x1 = 5
      · replace hf := hf.1 c_34_5
        refine lv_tableIn (off := 70) (tgt := 104) hx hb dX3_count_34 (by rw [c_34_5]; decide) (by rw [c_34_5]; decide) (by rw [c_34_5]; decide) (by decide) ?_
        refine lv_aload_n hx hb dX3_count_104 rfl (lv_at hl 0 rfl) ?_
        refine gM_roofs S hK hP dX3_count_105 ?_
        refine cs_i (As := [.long roofs]) (rest := []) S (metX3_ones l hf) (lw_S q1390 q1391 q60 q1392) pdX3_ones ⟨rfl, rfl⟩ ⟨Nat.le_of_ble_eq_true rfl, Nat.le_of_ble_eq_true rfl⟩ rfl hl.1 rfl (Nat.le_of_ble_eq_true rfl) dX3_count_108 ⟨Nat.zero_le _, Nat.zero_le _⟩ (fun r_108 hf => ?_)
        exact hret _ _ _ _ _ _ _ _ _ hf hP hS dX3_count_111
      replace hf := hf.2 c_34_5
      by_cases c_34_6 : x1 = 6
      · replace hf := hf.1 c_34_6
        refine lv_tableIn (off := 78) (tgt := 112) hx hb dX3_count_34 (by rw [c_34_6]; decide) (by rw [c_34_6]; decide) (by rw [c_34_6]; decide) (by decide) ?_
        refine lv_iload_n hx hb dX3_count_112 rfl (lv_at hl 2 rfl) ?_
        exact hret _ _ _ _ _ _ _ _ _ hf hP hS dX3_count_113
      replace hf := hf.2 c_34_6
      have n_0 := sw_no (j := 0) c_34_0 (by decide)
      have n_1 := sw_no (j := 1) c_34_1 (by decide)
      have n_2 := sw_no (j := 2) c_34_2 (by decide)
      have n_3 := sw_no (j := 3) c_34_3 (by decide)
      have n_4 := sw_no (j := 4) c_34_4 (by decide)
      have n_5 := sw_no (j := 5) c_34_5 (by decide)
      have n_6 := sw_no (j := 6) c_34_6 (by decide)
      refine lv_tableOut (tgt := 114) hx hb dX3_count_34 (by omega) (by decide) ?_
      refine lv_iconst (v := (-1)) hx hb dX3_count_114 (by decide) ?_
      exact hret _ _ _ _ _ _ _ _ _ hf hP hS dX3_count_115
    · replace hf := hf.2 c_11
      refine lv_iload_n hx hb dX3_count_14 rfl (lv_at hl 2 rfl) ?_
      refine lv_aload_n hx hb dX3_count_15 rfl (lv_at hl 0 rfl) ?_
      refine gM_depths S hK hP dX3_count_16 ?_
      refine lv_iload_n hx hb dX3_count_19 rfl (lv_at hl 3 rfl) ?_
      obtain ⟨hin, hf⟩ := hf
      refine lM_depths S hK hP hin dX3_count_20 ?_
      refine lv_iadd hx hb dX3_count_21 ?_
      refine lv_topi (fun x2_22 ex2_22 => ?_)
      replace hf := hf x2_22 ex2_22
      refine lv_istore_n (lv' := [(2, .int x2_22), (0, .ref (h 0)), (1, .int x1), (3, .int x3)]) hx hb dX3_count_22 rfl hl (by decide) rfl (fun ls hl => ?_)
      obtain ⟨x3_23, ex3_23⟩ : ∃ z : Int32, z = x3 + 1 := ⟨_, rfl⟩
      replace hf := hf x3_23 ex3_23
      refine lv_iinc (v := x3_23) (lv' := [(3, .int x3_23), (2, .int x2_22), (0, .ref (h 0)), (1, .int x1)]) hx hb dX3_count_23 hl (k := 3) rfl (by rw [ex3_23]; rfl) (by decide) rfl (fun ls hl => ?_)
      refine lv_goto (tgt := 8) hx hb dX3_count_26 (by decide) ?_
      exact ih x2_22 x3_23 _ _ _ hf hP hS (lv_sub hl [2, 3, 1, 0] rfl)
def wX3_count (Q : Int32 → Int64 → Int64 → (Nat → Int64) → Int32 → Prop) (depths : (Nat → Int32)) (roofs : Int64) (rate : Int32) (undoMany : Int32) (dug : Int64) (deep : Int64) (holes : (Nat → Int64)) (holeMany : Int32) (x1 : Int32) : Prop := (wX3_look (fun dug_1 deep_1 => (∃ fu : Nat, wX3_count_8 Q x1 depths roofs rate undoMany dug_1 deep_1 holes holeMany fu 0 0)) depths dug deep)
end
set_option maxHeartbeats 4000000 in
set_option maxRecDepth 100000 in
theorem metX3_count (l : Launch) {Q : Int32 → Int64 → Int64 → (Nat → Int64) → Int32 → Prop} {depths : (Nat → Int32)} {owners : (Nat → Int32)} {roofs : Int64} {rate : Int32} {undos : (Nat → Int32)} {undoMany : Int32} {drawn : Int32} {dug : Int64} {deep : Int64} {holes : (Nat → Int64)} {holeMany : Int32} {tape : (Nat → Int32)} {taped : Int32} {place : Int32} {reads : Int32} {read_ : (Nat → Int32)} {row : (Nat → Int32)} {order : (Nat → Int32)} {bestOrder : (Nat → Int32)} {nears : (Nat → Int32)} {isKept : Int32} {keptRoofs : Int64} {kept : (Nat → Int32)} {lanes : (Nat → Int32)} {rowSizes : (Nat → Int32)} {items : (Nat → Int64)} {moved : (Nat → Int64)} {x1 : Int32} {dC : Nat → ClassId} {dI : Nat → Nat → Nat} {dA : Nat → ClassId} {h : Nat → Nat} (hj : mJ h) (hf : wX3_count Q depths roofs rate undoMany dug deep holes holeMany x1) : Met l yX3_count (ws_ yX3_count cX3_count 4 (some .int)) rmX3_count (mPc dC dI dA h [.int x1] (wM h dA depths owners roofs rate undos undoMany drawn dug deep holes holeMany tape taped place reads read_ row order bestOrder nears isKept keptRoofs kept lanes rowSizes items moved)) (va_Qi (fun (r : Int32) (u : Int64 × Int64 × (Nat → Int64) × Int32) => Q r u.1 u.2.1 u.2.2.1 u.2.2.2) (fun u t => va_P (dC, dI) vwCl (wM h dA depths owners roofs rate undos undoMany drawn u.1 u.2.1 u.2.2.1 u.2.2.2 tape taped place reads read_ row order bestOrder nears isKept keptRoofs kept lanes rowSizes items moved) t.heap) (mA h)) 0 0 (mA h) := by
  refine Met.ofW (cc := cX3_count) (maxL := 4) (ret := (some .int)) (by decide) rfl ?_
  intro p e s m args below meth c s₁ B hml hv
  obtain ⟨rfl, hP, hK⟩ := hv
  have hx := B.exec
  have hb := B.bytes
  have hr := B.returns
  have hts := atoms_spec (ws := (ws_ yX3_count cX3_count 4 (some .int))) B.pre
  have hts : ∀ w ∈ lw_all, w.before _ s = true := fun w h => hts w (List.mem_cons_of_mem _ h)
  have hown : s.vm.findClass RX3 = some m.cls := findClass_of_methodNamed B.named
  have hlocks := B.notSynchronized
  have S : CallFix p m c cX3_count 4 s _ lw_all RX3 := ⟨hx, hb, hml, hown, hts⟩
  have hS : va_S (mA h) s.heap s.heap [] := va_S.rf
  have hl := lv_entry ([.ref (h 0), .int x1]) (n := 4) (Nat.le_of_ble_eq_true rfl)
  rw [lg_entry_eq]
  generalize (lg_sl ([.ref (h 0), .int x1]) ++ List.replicate (4 - (lg_sl ([.ref (h 0), .int x1])).length) Slot.unset).toArray = ls at hl ⊢
  replace hl : lv_has ls 4 [(0, .ref (h 0)), (1, .int x1)] := hl
  have hret : hrX3_count p l e s m ([.ref (h 0), .int x1] : List Value).toArray below meth c dC dI dA h (MQ below (va_Qi (fun (r : Int32) (u : Int64 × Int64 × (Nat → Int64) × Int32) => Q r u.1 u.2.1 u.2.2.1 u.2.2.2) (fun u t => va_P (dC, dI) vwCl (wM h dA depths owners roofs rate undos undoMany drawn u.1 u.2.1 u.2.2.1 u.2.2.2 tape taped place reads read_ row order bestOrder nears isKept keptRoofs kept lanes rowSizes items moved) t.heap) (mA h)) ([.ref (h 0), .int x1] : List Value).toArray s 0 0 (mA h)) Q depths owners roofs rate undos undoMany drawn tape taped place reads read_ row order bestOrder nears isKept keptRoofs kept lanes rowSizes items moved := fun r dug deep holes holeMany H locs pc ls hq hP hS hd => W.iret hx hb hr (fun t ht hW => ⟨⟨r, (dug, deep, holes, holeMany), rfl, hq, by subst ht; exact hP⟩, hS.F ht⟩) hS.2.2 hd
  unfold wX3_count at hf
  refine lv_aload_n hx hb dX3_count_0 rfl (lv_at hl 0 rfl) ?_
  refine cM_v (As := []) (rest := []) S hK rfl hP hS (metX3_look l hj hf) (lw_V q1309 q1311 qs27 q60 q1312) rfl pdX3_look ⟨rfl, rfl⟩ ⟨Nat.le_of_ble_eq_true rfl, Nat.le_of_ble_eq_true rfl⟩ rfl hl.1 rfl (Nat.le_of_ble_eq_true rfl) dX3_count_1 ⟨Nat.zero_le _, Nat.zero_le _⟩ (fun u_1 H locs hf hP hS => ?_)
  obtain ⟨dug_1, deep_1⟩ := u_1
  replace hP : va_P (dC, dI) vwCl (wM h dA depths owners roofs rate undos undoMany drawn dug_1 deep_1 holes holeMany tape taped place reads read_ row order bestOrder nears isKept keptRoofs kept lanes rowSizes items moved) H := hP
  try dsimp only at hf
  refine lv_iconst (v := 0) hx hb dX3_count_4 (by decide) ?_
  refine lv_istore_n (lv' := [(2, .int 0), (0, .ref (h 0)), (1, .int x1)]) hx hb dX3_count_5 rfl hl (by decide) rfl (fun ls hl => ?_)
  refine lv_iconst (v := 0) hx hb dX3_count_6 (by decide) ?_
  refine lv_istore_n (lv' := [(3, .int 0), (2, .int 0), (0, .ref (h 0)), (1, .int x1)]) hx hb dX3_count_7 rfl hl (by decide) rfl (fun ls hl => ?_)
  obtain ⟨fu, hf⟩ := hf
  exact tX3_count_8 S hK hj hret fu 0 0 _ _ _ hf hP hS (lv_sub hl [2, 3, 1, 0] rfl)
/-! HoleCountyModel.rimOf(J)J -/
theorem pdX3_rimOf : DscOk yX3_rimOf 1 := by decide +kernel
abbrev rmX3_rimOf : Room := { frames := 1, cells := 0, slots := 0, locals := 23 }
abbrev RX3_rimOf_ : Room := (headSpec (ws_ yX3_rimOf cX3_rimOf 3 (some .long)) rmX3_rimOf).room
section
variable {p : Program} {l : Launch} {e : Env} {s : State} {m : MethodId} {args : Array Value} {below : List Frame} {meth : Method} {c : Code} {Qw : State → Prop} {dC : Nat → ClassId} {dI : Nat → Nat → Nat} {dA : Nat → ClassId} {h : Nat → Nat}
abbrev hrX3_rimOf (p : Program) (l : Launch) (e : Env) (s : State) (m : MethodId) (args : Array Value) (below : List Frame) (meth : Method) (c : Code) (dC : Nat → ClassId) (dI : Nat → Nat → Nat) (dA : Nat → ClassId) (h : Nat → Nat) (Qw : State → Prop) (Q : Int64 → Prop) (depths : (Nat → Int32)) (owners : (Nat → Int32)) (roofs : Int64) (rate : Int32) (undos : (Nat → Int32)) (undoMany : Int32) (drawn : Int32) (dug : Int64) (deep : Int64) (holes : (Nat → Int64)) (holeMany : Int32) (tape : (Nat → Int32)) (taped : Int32) (place : Int32) (reads : Int32) (read_ : (Nat → Int32)) (row : (Nat → Int32)) (order : (Nat → Int32)) (bestOrder : (Nat → Int32)) (nears : (Nat → Int32)) (isKept : Int32) (keptRoofs : Int64) (kept : (Nat → Int32)) (lanes : (Nat → Int32)) (rowSizes : (Nat → Int32)) (items : (Nat → Int64)) (moved : (Nat → Int64)) : Prop := ∀ (r : Int64) (H : Heap) (locs : List Loc) (pc : Nat) (ls : Array Slot), Q r → va_P (dC, dI) vwCl (wM h dA depths owners roofs rate undos undoMany drawn dug deep holes holeMany tape taped place reads read_ row order bestOrder nears isKept keptRoofs kept lanes rowSizes items moved) H → va_S (mA h) s.heap H locs → decode cX3_rimOf pc = .ok (.lreturn, 1) → W p l e RX3_rimOf_ s m args below meth c H locs 0 0 Qw (F0 m pc ls [.long r])
def wX3_rimOf (Q : Int64 → Prop) (dug : Int64) (x1 : Int64) : Prop := (wX3_beside (fun r_1 => (Q (r_1 &&& (dug ^^^ (-1))))) x1)
end
set_option maxHeartbeats 4000000 in
set_option maxRecDepth 100000 in
theorem metX3_rimOf (l : Launch) {Q : Int64 → Prop} {depths : (Nat → Int32)} {owners : (Nat → Int32)} {roofs : Int64} {rate : Int32} {undos : (Nat → Int32)} {undoMany : Int32} {drawn : Int32} {dug : Int64} {deep : Int64} {holes : (Nat → Int64)} {holeMany : Int32} {tape : (Nat → Int32)} {taped : Int32} {place : Int32} {reads : Int32} {read_ : (Nat → Int32)} {row : (Nat → Int32)} {order : (Nat → Int32)} {bestOrder : (Nat → Int32)} {nears : (Nat → Int32)} {isKept : Int32} {keptRoofs : Int64} {kept : (Nat → Int32)} {lanes : (Nat → Int32)} {rowSizes : (Nat → Int32)} {items : (Nat → Int64)} {moved : (Nat → Int64)} {x1 : Int64} {dC : Nat → ClassId} {dI : Nat → Nat → Nat} {dA : Nat → ClassId} {h : Nat → Nat} (hj : mJ h) (hf : wX3_rimOf Q dug x1) : Met l yX3_rimOf (ws_ yX3_rimOf cX3_rimOf 3 (some .long)) rmX3_rimOf (mPc dC dI dA h [.long x1] (wM h dA depths owners roofs rate undos undoMany drawn dug deep holes holeMany tape taped place reads read_ row order bestOrder nears isKept keptRoofs kept lanes rowSizes items moved)) (va_Ql (fun (r : Int64) (u : Unit) => Q r) (fun u t => va_P (dC, dI) vwCl (wM h dA depths owners roofs rate undos undoMany drawn dug deep holes holeMany tape taped place reads read_ row order bestOrder nears isKept keptRoofs kept lanes rowSizes items moved) t.heap) (mA h)) 0 0 (mA h) := by
  refine Met.ofW (cc := cX3_rimOf) (maxL := 3) (ret := (some .long)) (by decide) rfl ?_
  intro p e s m args below meth c s₁ B hml hv
  obtain ⟨rfl, hP, hK⟩ := hv
  have hx := B.exec
  have hb := B.bytes
  have hr := B.returns
  have hts := atoms_spec (ws := (ws_ yX3_rimOf cX3_rimOf 3 (some .long))) B.pre
  have hts : ∀ w ∈ lw_all, w.before _ s = true := fun w h => hts w (List.mem_cons_of_mem _ h)
  have hown : s.vm.findClass RX3 = some m.cls := findClass_of_methodNamed B.named
  have hlocks := B.notSynchronized
  have S : CallFix p m c cX3_rimOf 3 s _ lw_all RX3 := ⟨hx, hb, hml, hown, hts⟩
  have hS : va_S (mA h) s.heap s.heap [] := va_S.rf
  have hl := lv_entry ([.ref (h 0), .long x1]) (n := 3) (Nat.le_of_ble_eq_true rfl)
  rw [lg_entry_eq]
  generalize (lg_sl ([.ref (h 0), .long x1]) ++ List.replicate (3 - (lg_sl ([.ref (h 0), .long x1])).length) Slot.unset).toArray = ls at hl ⊢
  replace hl : lv_has ls 3 [(0, .ref (h 0)), (1, .long x1)] := hl
  have hret : hrX3_rimOf p l e s m ([.ref (h 0), .long x1] : List Value).toArray below meth c dC dI dA h (MQ below (va_Ql (fun (r : Int64) (u : Unit) => Q r) (fun u t => va_P (dC, dI) vwCl (wM h dA depths owners roofs rate undos undoMany drawn dug deep holes holeMany tape taped place reads read_ row order bestOrder nears isKept keptRoofs kept lanes rowSizes items moved) t.heap) (mA h)) ([.ref (h 0), .long x1] : List Value).toArray s 0 0 (mA h)) Q depths owners roofs rate undos undoMany drawn dug deep holes holeMany tape taped place reads read_ row order bestOrder nears isKept keptRoofs kept lanes rowSizes items moved := fun r H locs pc ls hq hP hS hd => W.lret hx hb hr (fun t ht hW => ⟨⟨r, (), rfl, hq, by subst ht; exact hP⟩, hS.F ht⟩) hS.2.2 hd
  unfold wX3_rimOf at hf
  refine lv_lload_n hx hb dX3_rimOf_0 rfl (lv_at hl 1 rfl) ?_
  refine cs_l (As := [.long x1]) (rest := []) S (metX3_beside l hf) (lw_S q1320 q1321 q60 q1322) pdX3_beside ⟨rfl, rfl⟩ ⟨Nat.le_of_ble_eq_true rfl, Nat.le_of_ble_eq_true rfl⟩ rfl hl.1 rfl (Nat.le_of_ble_eq_true rfl) dX3_rimOf_1 ⟨Nat.zero_le _, Nat.zero_le _⟩ (fun r_1 hf => ?_)
  refine lv_aload_n hx hb dX3_rimOf_4 rfl (lv_at hl 0 rfl) ?_
  refine gM_dug S hK hP dX3_rimOf_5 ?_
  refine lv_ldc2 (v := (-1)) hx hb hown (hts _ q1286) dX3_rimOf_8 ?_
  refine lv_lxor hx hb dX3_rimOf_11 ?_
  refine lv_land hx hb dX3_rimOf_12 ?_
  exact hret _ _ _ _ _ hf hP hS dX3_rimOf_13
/-! HoleCountyModel.owned(I)J -/
theorem pdX3_owned : DscOk yX3_owned 1 := by decide +kernel
abbrev rmX3_owned : Room := { frames := 0, cells := 0, slots := 0, locals := 0 }
abbrev RX3_owned_ : Room := (headSpec (ws_ yX3_owned cX3_owned 5 (some .long)) rmX3_owned).room
section
variable {p : Program} {l : Launch} {e : Env} {s : State} {m : MethodId} {args : Array Value} {below : List Frame} {meth : Method} {c : Code} {Qw : State → Prop} {dC : Nat → ClassId} {dI : Nat → Nat → Nat} {dA : Nat → ClassId} {h : Nat → Nat}
abbrev hrX3_owned (p : Program) (l : Launch) (e : Env) (s : State) (m : MethodId) (args : Array Value) (below : List Frame) (meth : Method) (c : Code) (dC : Nat → ClassId) (dI : Nat → Nat → Nat) (dA : Nat → ClassId) (h : Nat → Nat) (Qw : State → Prop) (Q : Int64 → Prop) (depths : (Nat → Int32)) (owners : (Nat → Int32)) (roofs : Int64) (rate : Int32) (undos : (Nat → Int32)) (undoMany : Int32) (drawn : Int32) (dug : Int64) (deep : Int64) (holes : (Nat → Int64)) (holeMany : Int32) (tape : (Nat → Int32)) (taped : Int32) (place : Int32) (reads : Int32) (read_ : (Nat → Int32)) (row : (Nat → Int32)) (order : (Nat → Int32)) (bestOrder : (Nat → Int32)) (nears : (Nat → Int32)) (isKept : Int32) (keptRoofs : Int64) (kept : (Nat → Int32)) (lanes : (Nat → Int32)) (rowSizes : (Nat → Int32)) (items : (Nat → Int64)) (moved : (Nat → Int64)) : Prop := ∀ (r : Int64) (H : Heap) (locs : List Loc) (pc : Nat) (ls : Array Slot), Q r → va_P (dC, dI) vwCl (wM h dA depths owners roofs rate undos undoMany drawn dug deep holes holeMany tape taped place reads read_ row order bestOrder nears isKept keptRoofs kept lanes rowSizes items moved) H → va_S (mA h) s.heap H locs → decode cX3_owned pc = .ok (.lreturn, 1) → W p l e RX3_owned_ s m args below meth c H locs 0 0 Qw (F0 m pc ls [.long r])
def wX3_owned_5 (Q : Int64 → Prop) (x1 : Int32) (owners : (Nat → Int32)) : Nat → Int64 → Int32 → Prop
  | 0, _, _ => False
  | n + 1, x2, x4 => ((36 ≤ x4 → (Q x2)) ∧ (¬ 36 ≤ x4 → (vp_in x4 36 ∧ (((owners (x4 : Int32).toNatClampNeg) = x1 → (∀ x2_33 : Int64, x2_33 = (x2 ||| (1 <<< ((x4 : Int32).toInt64 &&& 63))) → (∀ x4_34 : Int32, x4_34 = x4 + 1 → ((wX3_owned_5 Q x1 owners n) x2_33 x4_34)))) ∧ (¬ (owners (x4 : Int32).toNatClampNeg) = x1 → (∀ x2_33 : Int64, x2_33 = (x2 ||| 0) → (∀ x4_34 : Int32, x4_34 = x4 + 1 → ((wX3_owned_5 Q x1 owners n) x2_33 x4_34))))))))
set_option maxHeartbeats 4000000 in
set_option maxRecDepth 100000 in
theorem tX3_owned_5 {Q : Int64 → Prop} {x1 : Int32} {depths : (Nat → Int32)} {owners : (Nat → Int32)} {roofs : Int64} {rate : Int32} {undos : (Nat → Int32)} {undoMany : Int32} {drawn : Int32} {dug : Int64} {deep : Int64} {holes : (Nat → Int64)} {holeMany : Int32} {tape : (Nat → Int32)} {taped : Int32} {place : Int32} {reads : Int32} {read_ : (Nat → Int32)} {row : (Nat → Int32)} {order : (Nat → Int32)} {bestOrder : (Nat → Int32)} {nears : (Nat → Int32)} {isKept : Int32} {keptRoofs : Int64} {kept : (Nat → Int32)} {lanes : (Nat → Int32)} {rowSizes : (Nat → Int32)} {items : (Nat → Int64)} {moved : (Nat → Int64)} (S : CallFix p m c cX3_owned 5 s args lw_all RX3) (hK : va_K (dC, dI) vwCl (tysG dA) s) (hj : mJ h) (hret : hrX3_owned p l e s m args below meth c dC dI dA h Qw Q depths owners roofs rate undos undoMany drawn dug deep holes holeMany tape taped place reads read_ row order bestOrder nears isKept keptRoofs kept lanes rowSizes items moved) : ∀ (n : Nat) (x2 : Int64) (x4 : Int32) (H : Heap) (locs : List Loc) (ls : Array Slot), wX3_owned_5 Q x1 owners n x2 x4 → va_P (dC, dI) vwCl (wM h dA depths owners roofs rate undos undoMany drawn dug deep holes holeMany tape taped place reads read_ row order bestOrder nears isKept keptRoofs kept lanes rowSizes items moved) H → va_S (mA h) s.heap H locs → lv_has ls 5 [(0, .ref (h 0)), (1, .int x1), (2, .long x2), (4, .int x4)] → W p l e RX3_owned_ s m args below meth c H locs 0 0 Qw (F0 m 5 ls []) := by
  obtain ⟨hx, hb, hml, hown, hts⟩ := id S
  intro n
  induction n with
  | zero => intro _ _ _ _ _ hf; exact hf.elim
  | succ n ih =>
    intro x2 x4 H locs ls hf hP hS hl
    rw [wX3_owned_5] at hf
    refine lv_iload hx hb dX3_owned_5 (lv_at hl 3 rfl) ?_
    refine lv_bipush (v := 36) hx hb dX3_owned_7 (by decide) ?_
    refine lv_icmp_ge (tgt := 40) hx hb dX3_owned_9 (by decide) (fun c_9 => ?_) (fun c_9 => ?_)
    · replace hf := hf.1 c_9
      refine lv_lload_n hx hb dX3_owned_40 rfl (lv_at hl 2 rfl) ?_
      exact hret _ _ _ _ _ hf hP hS dX3_owned_41
    · replace hf := hf.2 c_9
      refine lv_lload_n hx hb dX3_owned_12 rfl (lv_at hl 2 rfl) ?_
      refine lv_aload_n hx hb dX3_owned_13 rfl (lv_at hl 0 rfl) ?_
      refine gM_owners S hK hP dX3_owned_14 ?_
      refine lv_iload hx hb dX3_owned_17 (lv_at hl 3 rfl) ?_
      obtain ⟨hin, hf⟩ := hf
      refine lM_owners S hK hP hin dX3_owned_19 ?_
      refine lv_iload_n hx hb dX3_owned_20 rfl (lv_at hl 1 rfl) ?_
      refine lv_icmp_ne (tgt := 31) hx hb dX3_owned_21 (by decide) (fun c_21 => ?_) (fun c_21 => ?_)
      · replace hf := hf.2 c_21
        refine lv_lconst (v := 0) hx hb dX3_owned_31 (by decide) ?_
        refine lv_lor hx hb dX3_owned_32 ?_
        refine lv_topl (fun x2_33 ex2_33 => ?_)
        replace hf := hf x2_33 ex2_33
        refine lv_lstore_n (lv' := [(2, .long x2_33), (0, .ref (h 0)), (1, .int x1), (4, .int x4)]) hx hb dX3_owned_33 rfl hl (by decide) rfl (fun ls hl => ?_)
        obtain ⟨x4_34, ex4_34⟩ : ∃ z : Int32, z = x4 + 1 := ⟨_, rfl⟩
        replace hf := hf x4_34 ex4_34
        refine lv_iinc (v := x4_34) (lv' := [(4, .int x4_34), (2, .long x2_33), (0, .ref (h 0)), (1, .int x1)]) hx hb dX3_owned_34 hl (k := 3) rfl (by rw [ex4_34]; rfl) (by decide) rfl (fun ls hl => ?_)
        refine lv_goto (tgt := 5) hx hb dX3_owned_37 (by decide) ?_
        exact ih x2_33 x4_34 _ _ _ hf hP hS (lv_sub hl [2, 3, 1, 0] rfl)
      · replace hf := hf.1 c_21
        refine lv_lconst (v := 1) hx hb dX3_owned_24 (by decide) ?_
        refine lv_iload hx hb dX3_owned_25 (lv_at hl 3 rfl) ?_
        refine lv_lshl (v := (1 <<< ((x4 : Int32).toInt64 &&& 63))) hx hb dX3_owned_27 rfl ?_
        refine lv_goto (tgt := 32) hx hb dX3_owned_28 (by decide) ?_
        refine lv_lor hx hb dX3_owned_32 ?_
        refine lv_topl (fun x2_33 ex2_33 => ?_)
        replace hf := hf x2_33 ex2_33
        refine lv_lstore_n (lv' := [(2, .long x2_33), (0, .ref (h 0)), (1, .int x1), (4, .int x4)]) hx hb dX3_owned_33 rfl hl (by decide) rfl (fun ls hl => ?_)
        obtain ⟨x4_34, ex4_34⟩ : ∃ z : Int32, z = x4 + 1 := ⟨_, rfl⟩
        replace hf := hf x4_34 ex4_34
        refine lv_iinc (v := x4_34) (lv' := [(4, .int x4_34), (2, .long x2_33), (0, .ref (h 0)), (1, .int x1)]) hx hb dX3_owned_34 hl (k := 3) rfl (by rw [ex4_34]; rfl) (by decide) rfl (fun ls hl => ?_)
        refine lv_goto (tgt := 5) hx hb dX3_owned_37 (by decide) ?_
        exact ih x2_33 x4_34 _ _ _ hf hP hS (lv_sub hl [2, 3, 1, 0] rfl)
def wX3_owned (Q : Int64 → Prop) (owners : (Nat → Int32)) (x1 : Int32) : Prop := (∃ fu : Nat, wX3_owned_5 Q x1 owners fu 0 0)
end
set_option maxHeartbeats 4000000 in
set_option maxRecDepth 100000 in
theorem metX3_owned (l : Launch) {Q : Int64 → Prop} {depths : (Nat → Int32)} {owners : (Nat → Int32)} {roofs : Int64} {rate : Int32} {undos : (Nat → Int32)} {undoMany : Int32} {drawn : Int32} {dug : Int64} {deep : Int64} {holes : (Nat → Int64)} {holeMany : Int32} {tape : (Nat → Int32)} {taped : Int32} {place : Int32} {reads : Int32} {read_ : (Nat → Int32)} {row : (Nat → Int32)} {order : (Nat → Int32)} {bestOrder : (Nat → Int32)} {nears : (Nat → Int32)} {isKept : Int32} {keptRoofs : Int64} {kept : (Nat → Int32)} {lanes : (Nat → Int32)} {rowSizes : (Nat → Int32)} {items : (Nat → Int64)} {moved : (Nat → Int64)} {x1 : Int32} {dC : Nat → ClassId} {dI : Nat → Nat → Nat} {dA : Nat → ClassId} {h : Nat → Nat} (hj : mJ h) (hf : wX3_owned Q owners x1) : Met l yX3_owned (ws_ yX3_owned cX3_owned 5 (some .long)) rmX3_owned (mPc dC dI dA h [.int x1] (wM h dA depths owners roofs rate undos undoMany drawn dug deep holes holeMany tape taped place reads read_ row order bestOrder nears isKept keptRoofs kept lanes rowSizes items moved)) (va_Ql (fun (r : Int64) (u : Unit) => Q r) (fun u t => va_P (dC, dI) vwCl (wM h dA depths owners roofs rate undos undoMany drawn dug deep holes holeMany tape taped place reads read_ row order bestOrder nears isKept keptRoofs kept lanes rowSizes items moved) t.heap) (mA h)) 0 0 (mA h) := by
  refine Met.ofW (cc := cX3_owned) (maxL := 5) (ret := (some .long)) (by decide) rfl ?_
  intro p e s m args below meth c s₁ B hml hv
  obtain ⟨rfl, hP, hK⟩ := hv
  have hx := B.exec
  have hb := B.bytes
  have hr := B.returns
  have hts := atoms_spec (ws := (ws_ yX3_owned cX3_owned 5 (some .long))) B.pre
  have hts : ∀ w ∈ lw_all, w.before _ s = true := fun w h => hts w (List.mem_cons_of_mem _ h)
  have hown : s.vm.findClass RX3 = some m.cls := findClass_of_methodNamed B.named
  have hlocks := B.notSynchronized
  have S : CallFix p m c cX3_owned 5 s _ lw_all RX3 := ⟨hx, hb, hml, hown, hts⟩
  have hS : va_S (mA h) s.heap s.heap [] := va_S.rf
  have hl := lv_entry ([.ref (h 0), .int x1]) (n := 5) (Nat.le_of_ble_eq_true rfl)
  rw [lg_entry_eq]
  generalize (lg_sl ([.ref (h 0), .int x1]) ++ List.replicate (5 - (lg_sl ([.ref (h 0), .int x1])).length) Slot.unset).toArray = ls at hl ⊢
  replace hl : lv_has ls 5 [(0, .ref (h 0)), (1, .int x1)] := hl
  have hret : hrX3_owned p l e s m ([.ref (h 0), .int x1] : List Value).toArray below meth c dC dI dA h (MQ below (va_Ql (fun (r : Int64) (u : Unit) => Q r) (fun u t => va_P (dC, dI) vwCl (wM h dA depths owners roofs rate undos undoMany drawn dug deep holes holeMany tape taped place reads read_ row order bestOrder nears isKept keptRoofs kept lanes rowSizes items moved) t.heap) (mA h)) ([.ref (h 0), .int x1] : List Value).toArray s 0 0 (mA h)) Q depths owners roofs rate undos undoMany drawn dug deep holes holeMany tape taped place reads read_ row order bestOrder nears isKept keptRoofs kept lanes rowSizes items moved := fun r H locs pc ls hq hP hS hd => W.lret hx hb hr (fun t ht hW => ⟨⟨r, (), rfl, hq, by subst ht; exact hP⟩, hS.F ht⟩) hS.2.2 hd
  unfold wX3_owned at hf
  refine lv_lconst (v := 0) hx hb dX3_owned_0 (by decide) ?_
  refine lv_lstore_n (lv' := [(2, .long 0), (0, .ref (h 0)), (1, .int x1)]) hx hb dX3_owned_1 rfl hl (by decide) rfl (fun ls hl => ?_)
  refine lv_iconst (v := 0) hx hb dX3_owned_2 (by decide) ?_
  refine lv_istore (lv' := [(4, .int 0), (2, .long 0), (0, .ref (h 0)), (1, .int x1)]) hx hb dX3_owned_3 hl (by decide) rfl (fun ls hl => ?_)
  obtain ⟨fu, hf⟩ := hf
  exact tX3_owned_5 S hK hj hret fu 0 0 _ _ _ hf hP hS (lv_sub hl [2, 3, 1, 0] rfl)
/-! HoleCountyModel.ownerOf(J)I -/
theorem pdX3_ownerOf : DscOk yX3_ownerOf 1 := by decide +kernel
abbrev rmX3_ownerOf : Room := { frames := 2, cells := 0, slots := 0, locals := 45 }
abbrev RX3_ownerOf_ : Room := (headSpec (ws_ yX3_ownerOf cX3_ownerOf 7 (some .int)) rmX3_ownerOf).room
section
variable {p : Program} {l : Launch} {e : Env} {s : State} {m : MethodId} {args : Array Value} {below : List Frame} {meth : Method} {c : Code} {Qw : State → Prop} {dC : Nat → ClassId} {dI : Nat → Nat → Nat} {dA : Nat → ClassId} {h : Nat → Nat}
abbrev hrX3_ownerOf (p : Program) (l : Launch) (e : Env) (s : State) (m : MethodId) (args : Array Value) (below : List Frame) (meth : Method) (c : Code) (dC : Nat → ClassId) (dI : Nat → Nat → Nat) (dA : Nat → ClassId) (h : Nat → Nat) (Qw : State → Prop) (Q : Int32 → Prop) (depths : (Nat → Int32)) (owners : (Nat → Int32)) (roofs : Int64) (rate : Int32) (undos : (Nat → Int32)) (undoMany : Int32) (drawn : Int32) (dug : Int64) (deep : Int64) (holes : (Nat → Int64)) (holeMany : Int32) (tape : (Nat → Int32)) (taped : Int32) (place : Int32) (reads : Int32) (read_ : (Nat → Int32)) (row : (Nat → Int32)) (order : (Nat → Int32)) (bestOrder : (Nat → Int32)) (nears : (Nat → Int32)) (isKept : Int32) (keptRoofs : Int64) (kept : (Nat → Int32)) (lanes : (Nat → Int32)) (rowSizes : (Nat → Int32)) (items : (Nat → Int64)) (moved : (Nat → Int64)) : Prop := ∀ (r : Int32) (H : Heap) (locs : List Loc) (pc : Nat) (ls : Array Slot), Q r → va_P (dC, dI) vwCl (wM h dA depths owners roofs rate undos undoMany drawn dug deep holes holeMany tape taped place reads read_ row order bestOrder nears isKept keptRoofs kept lanes rowSizes items moved) H → va_S (mA h) s.heap H locs → decode cX3_ownerOf pc = .ok (.ireturn, 1) → W p l e RX3_ownerOf_ s m args below meth c H locs 0 0 Qw (F0 m pc ls [.int r])
def wX3_ownerOf_44 (Q : Int32 → Prop) (k8 : Int32 → Int32 → Int32 → Prop) (x1 : Int64) (x4 : Int32) (x5 : Int32) (x6 : Int32) (z0 : Int32) (owners : (Nat → Int32)) (dug : Int64) : Prop := ((x6 ≤ x4 → (∀ x5_61 : Int32, x5_61 = x5 + 1 → (k8 z0 x4 x5_61))) ∧ (¬ x6 ≤ x4 → (∀ x5_61 : Int32, x5_61 = x5 + 1 → (k8 z0 x6 x5_61))))
set_option maxHeartbeats 4000000 in
set_option maxRecDepth 100000 in
theorem tX3_ownerOf_44 {Q : Int32 → Prop} {x1 : Int64} {depths : (Nat → Int32)} {owners : (Nat → Int32)} {roofs : Int64} {rate : Int32} {undos : (Nat → Int32)} {undoMany : Int32} {drawn : Int32} {dug : Int64} {deep : Int64} {holes : (Nat → Int64)} {holeMany : Int32} {tape : (Nat → Int32)} {taped : Int32} {place : Int32} {reads : Int32} {read_ : (Nat → Int32)} {row : (Nat → Int32)} {order : (Nat → Int32)} {bestOrder : (Nat → Int32)} {nears : (Nat → Int32)} {isKept : Int32} {keptRoofs : Int64} {kept : (Nat → Int32)} {lanes : (Nat → Int32)} {rowSizes : (Nat → Int32)} {items : (Nat → Int64)} {moved : (Nat → Int64)} (S : CallFix p m c cX3_ownerOf 7 s args lw_all RX3) (hK : va_K (dC, dI) vwCl (tysG dA) s) (hj : mJ h) (hret : hrX3_ownerOf p l e s m args below meth c dC dI dA h Qw Q depths owners roofs rate undos undoMany drawn dug deep holes holeMany tape taped place reads read_ row order bestOrder nears isKept keptRoofs kept lanes rowSizes items moved) {k8 : Int32 → Int32 → Int32 → Prop} (hk8 : ∀ (x3 : Int32) (x4 : Int32) (x5 : Int32) (H : Heap) (locs : List Loc) (ls : Array Slot), k8 x3 x4 x5 → va_P (dC, dI) vwCl (wM h dA depths owners roofs rate undos undoMany drawn dug deep holes holeMany tape taped place reads read_ row order bestOrder nears isKept keptRoofs kept lanes rowSizes items moved) H → va_S (mA h) s.heap H locs → lv_has ls 7 [(0, .ref (h 0)), (1, .long x1), (3, .int x3), (4, .int x4), (5, .int x5)] → W p l e RX3_ownerOf_ s m args below meth c H locs 0 0 Qw (F0 m 8 ls [])) : ∀ (x4 : Int32) (x5 : Int32) (x6 : Int32) (z0 : Int32) (H : Heap) (locs : List Loc) (ls : Array Slot), wX3_ownerOf_44 Q k8 x1 x4 x5 x6 z0 owners dug → va_P (dC, dI) vwCl (wM h dA depths owners roofs rate undos undoMany drawn dug deep holes holeMany tape taped place reads read_ row order bestOrder nears isKept keptRoofs kept lanes rowSizes items moved) H → va_S (mA h) s.heap H locs → lv_has ls 7 [(0, .ref (h 0)), (1, .long x1), (4, .int x4), (5, .int x5), (6, .int x6)] → W p l e RX3_ownerOf_ s m args below meth c H locs 0 0 Qw (F0 m 44 ls [.int z0]) := by
  obtain ⟨hx, hb, hml, hown, hts⟩ := id S
  intro x4 x5 x6 z0 H locs ls hf hP hS hl
  unfold wX3_ownerOf_44 at hf
  refine lv_istore_n (lv' := [(3, .int z0), (0, .ref (h 0)), (1, .long x1), (4, .int x4), (5, .int x5), (6, .int x6)]) hx hb dX3_ownerOf_44 rfl hl (by decide) rfl (fun ls hl => ?_)
  refine lv_iload hx hb dX3_ownerOf_45 (lv_at hl 5 rfl) ?_
  refine lv_iload hx hb dX3_ownerOf_47 (lv_at hl 3 rfl) ?_
  refine lv_icmp_le (tgt := 57) hx hb dX3_ownerOf_49 (by decide) (fun c_49 => ?_) (fun c_49 => ?_)
  · replace hf := hf.1 c_49
    refine lv_iload hx hb dX3_ownerOf_57 (lv_at hl 3 rfl) ?_
    refine lv_istore (lv' := [(4, .int x4), (3, .int z0), (0, .ref (h 0)), (1, .long x1), (5, .int x5), (6, .int x6)]) hx hb dX3_ownerOf_59 hl (by decide) rfl (fun ls hl => ?_)
    obtain ⟨x5_61, ex5_61⟩ : ∃ z : Int32, z = x5 + 1 := ⟨_, rfl⟩
    replace hf := hf x5_61 ex5_61
    refine lv_iinc (v := x5_61) (lv' := [(5, .int x5_61), (4, .int x4), (3, .int z0), (0, .ref (h 0)), (1, .long x1), (6, .int x6)]) hx hb dX3_ownerOf_61 hl (k := 4) rfl (by rw [ex5_61]; rfl) (by decide) rfl (fun ls hl => ?_)
    refine lv_goto (tgt := 8) hx hb dX3_ownerOf_64 (by decide) ?_
    exact hk8 z0 x4 x5_61 _ _ _ hf hP hS (lv_sub hl [3, 4, 2, 1, 0] rfl)
  · replace hf := hf.2 c_49
    refine lv_iload hx hb dX3_ownerOf_52 (lv_at hl 5 rfl) ?_
    refine lv_goto (tgt := 59) hx hb dX3_ownerOf_54 (by decide) ?_
    refine lv_istore (lv' := [(4, .int x6), (3, .int z0), (0, .ref (h 0)), (1, .long x1), (5, .int x5), (6, .int x6)]) hx hb dX3_ownerOf_59 hl (by decide) rfl (fun ls hl => ?_)
    obtain ⟨x5_61, ex5_61⟩ : ∃ z : Int32, z = x5 + 1 := ⟨_, rfl⟩
    replace hf := hf x5_61 ex5_61
    refine lv_iinc (v := x5_61) (lv' := [(5, .int x5_61), (4, .int x6), (3, .int z0), (0, .ref (h 0)), (1, .long x1), (6, .int x6)]) hx hb dX3_ownerOf_61 hl (k := 4) rfl (by rw [ex5_61]; rfl) (by decide) rfl (fun ls hl => ?_)
    refine lv_goto (tgt := 8) hx hb dX3_ownerOf_64 (by decide) ?_
    exact hk8 z0 x6 x5_61 _ _ _ hf hP hS (lv_sub hl [3, 4, 2, 1, 0] rfl)
def wX3_ownerOf_8 (Q : Int32 → Prop) (x1 : Int64) (owners : (Nat → Int32)) (dug : Int64) : Nat → Int32 → Int32 → Int32 → Prop
  | 0, _, _, _ => False
  | n + 1, x3, x4, x5 => ((4 ≤ x5 → (Q x3)) ∧ (¬ 4 ≤ x5 → (wX3_rimOf (fun r_16 => (wX3_owned (fun r_22 => (wX3_ones (fun r_26 => ((r_26 ≤ x4 → (wX3_ownerOf_44 Q (wX3_ownerOf_8 Q x1 owners dug n) x1 x4 x5 r_26 x3 owners dug)) ∧ (¬ r_26 ≤ x4 → (wX3_ownerOf_44 Q (wX3_ownerOf_8 Q x1 owners dug n) x1 x4 x5 r_26 x5 owners dug)))) (r_16 &&& r_22))) owners x5)) dug x1)))
set_option maxHeartbeats 4000000 in
set_option maxRecDepth 100000 in
theorem tX3_ownerOf_8 {Q : Int32 → Prop} {x1 : Int64} {depths : (Nat → Int32)} {owners : (Nat → Int32)} {roofs : Int64} {rate : Int32} {undos : (Nat → Int32)} {undoMany : Int32} {drawn : Int32} {dug : Int64} {deep : Int64} {holes : (Nat → Int64)} {holeMany : Int32} {tape : (Nat → Int32)} {taped : Int32} {place : Int32} {reads : Int32} {read_ : (Nat → Int32)} {row : (Nat → Int32)} {order : (Nat → Int32)} {bestOrder : (Nat → Int32)} {nears : (Nat → Int32)} {isKept : Int32} {keptRoofs : Int64} {kept : (Nat → Int32)} {lanes : (Nat → Int32)} {rowSizes : (Nat → Int32)} {items : (Nat → Int64)} {moved : (Nat → Int64)} (S : CallFix p m c cX3_ownerOf 7 s args lw_all RX3) (hK : va_K (dC, dI) vwCl (tysG dA) s) (hj : mJ h) (hret : hrX3_ownerOf p l e s m args below meth c dC dI dA h Qw Q depths owners roofs rate undos undoMany drawn dug deep holes holeMany tape taped place reads read_ row order bestOrder nears isKept keptRoofs kept lanes rowSizes items moved) : ∀ (n : Nat) (x3 : Int32) (x4 : Int32) (x5 : Int32) (H : Heap) (locs : List Loc) (ls : Array Slot), wX3_ownerOf_8 Q x1 owners dug n x3 x4 x5 → va_P (dC, dI) vwCl (wM h dA depths owners roofs rate undos undoMany drawn dug deep holes holeMany tape taped place reads read_ row order bestOrder nears isKept keptRoofs kept lanes rowSizes items moved) H → va_S (mA h) s.heap H locs → lv_has ls 7 [(0, .ref (h 0)), (1, .long x1), (3, .int x3), (4, .int x4), (5, .int x5)] → W p l e RX3_ownerOf_ s m args below meth c H locs 0 0 Qw (F0 m 8 ls []) := by
  obtain ⟨hx, hb, hml, hown, hts⟩ := id S
  intro n
  induction n with
  | zero => intro _ _ _ _ _ _ hf; exact hf.elim
  | succ n ih =>
    intro x3 x4 x5 H locs ls hf hP hS hl
    rw [wX3_ownerOf_8] at hf
    refine lv_iload hx hb dX3_ownerOf_8 (lv_at hl 4 rfl) ?_
    refine lv_iconst (v := 4) hx hb dX3_ownerOf_10 (by decide) ?_
    refine lv_icmp_ge (tgt := 67) hx hb dX3_ownerOf_11 (by decide) (fun c_11 => ?_) (fun c_11 => ?_)
    · replace hf := hf.1 c_11
      refine lv_iload_n hx hb dX3_ownerOf_67 rfl (lv_at hl 2 rfl) ?_
      exact hret _ _ _ _ _ hf hP hS dX3_ownerOf_68
    · replace hf := hf.2 c_11
      refine lv_aload_n hx hb dX3_ownerOf_14 rfl (lv_at hl 0 rfl) ?_
      refine lv_lload_n hx hb dX3_ownerOf_15 rfl (lv_at hl 1 rfl) ?_
      refine cM_l (As := [.long x1]) (rest := []) S hK rfl hP hS (metX3_rimOf l hj hf) (lw_V q1421 q1423 qs40 q60 q1424) rfl pdX3_rimOf ⟨rfl, rfl⟩ ⟨Nat.le_of_ble_eq_true rfl, Nat.le_of_ble_eq_true rfl⟩ rfl hl.1 rfl (Nat.le_of_ble_eq_true rfl) dX3_ownerOf_16 ⟨Nat.zero_le _, Nat.zero_le _⟩ (fun r_16 u_16 H locs hf hP hS => ?_)
      replace hP : va_P (dC, dI) vwCl (wM h dA depths owners roofs rate undos undoMany drawn dug deep holes holeMany tape taped place reads read_ row order bestOrder nears isKept keptRoofs kept lanes rowSizes items moved) H := hP
      try dsimp only at hf
      refine lv_aload_n hx hb dX3_ownerOf_19 rfl (lv_at hl 0 rfl) ?_
      refine lv_iload hx hb dX3_ownerOf_20 (lv_at hl 4 rfl) ?_
      refine cM_l (As := [.int x5]) (rest := [.long r_16]) S hK rfl hP hS (metX3_owned l hj hf) (lw_V q1429 q1431 qs42 q60 q1432) rfl pdX3_owned ⟨rfl, rfl⟩ ⟨Nat.le_of_ble_eq_true rfl, Nat.le_of_ble_eq_true rfl⟩ rfl hl.1 rfl (Nat.le_of_ble_eq_true rfl) dX3_ownerOf_22 ⟨Nat.zero_le _, Nat.zero_le _⟩ (fun r_22 u_22 H locs hf hP hS => ?_)
      replace hP : va_P (dC, dI) vwCl (wM h dA depths owners roofs rate undos undoMany drawn dug deep holes holeMany tape taped place reads read_ row order bestOrder nears isKept keptRoofs kept lanes rowSizes items moved) H := hP
      try dsimp only at hf
      refine lv_land hx hb dX3_ownerOf_25 ?_
      refine cs_i (As := [.long (r_16 &&& r_22)]) (rest := []) S (metX3_ones l hf) (lw_S q1390 q1391 q60 q1392) pdX3_ones ⟨rfl, rfl⟩ ⟨Nat.le_of_ble_eq_true rfl, Nat.le_of_ble_eq_true rfl⟩ rfl hl.1 rfl (Nat.le_of_ble_eq_true rfl) dX3_ownerOf_26 ⟨Nat.zero_le _, Nat.zero_le _⟩ (fun r_26 hf => ?_)
      refine lv_istore (lv' := [(6, .int r_26), (0, .ref (h 0)), (1, .long x1), (3, .int x3), (4, .int x4), (5, .int x5)]) hx hb dX3_ownerOf_29 hl (by decide) rfl (fun ls hl => ?_)
      refine lv_iload hx hb dX3_ownerOf_31 (lv_at hl 0 rfl) ?_
      refine lv_iload hx hb dX3_ownerOf_33 (lv_at hl 4 rfl) ?_
      refine lv_icmp_le (tgt := 43) hx hb dX3_ownerOf_35 (by decide) (fun c_35 => ?_) (fun c_35 => ?_)
      · replace hf := hf.1 c_35
        refine lv_iload_n hx hb dX3_ownerOf_43 rfl (lv_at hl 3 rfl) ?_
        exact tX3_ownerOf_44 S hK hj hret ih x4 x5 r_26 x3 _ _ _ hf hP hS (lv_sub hl [1, 2, 4, 5, 0] rfl)
      · replace hf := hf.2 c_35
        refine lv_iload hx hb dX3_ownerOf_38 (lv_at hl 5 rfl) ?_
        refine lv_goto (tgt := 44) hx hb dX3_ownerOf_40 (by decide) ?_
        exact tX3_ownerOf_44 S hK hj hret ih x4 x5 r_26 x5 _ _ _ hf hP hS (lv_sub hl [1, 2, 4, 5, 0] rfl)
def wX3_ownerOf (Q : Int32 → Prop) (owners : (Nat → Int32)) (dug : Int64) (x1 : Int64) : Prop := (∃ fu : Nat, wX3_ownerOf_8 Q x1 owners dug fu 4 0 0)
end
set_option maxHeartbeats 4000000 in
set_option maxRecDepth 100000 in
theorem metX3_ownerOf (l : Launch) {Q : Int32 → Prop} {depths : (Nat → Int32)} {owners : (Nat → Int32)} {roofs : Int64} {rate : Int32} {undos : (Nat → Int32)} {undoMany : Int32} {drawn : Int32} {dug : Int64} {deep : Int64} {holes : (Nat → Int64)} {holeMany : Int32} {tape : (Nat → Int32)} {taped : Int32} {place : Int32} {reads : Int32} {read_ : (Nat → Int32)} {row : (Nat → Int32)} {order : (Nat → Int32)} {bestOrder : (Nat → Int32)} {nears : (Nat → Int32)} {isKept : Int32} {keptRoofs : Int64} {kept : (Nat → Int32)} {lanes : (Nat → Int32)} {rowSizes : (Nat → Int32)} {items : (Nat → Int64)} {moved : (Nat → Int64)} {x1 : Int64} {dC : Nat → ClassId} {dI : Nat → Nat → Nat} {dA : Nat → ClassId} {h : Nat → Nat} (hj : mJ h) (hf : wX3_ownerOf Q owners dug x1) : Met l yX3_ownerOf (ws_ yX3_ownerOf cX3_ownerOf 7 (some .int)) rmX3_ownerOf (mPc dC dI dA h [.long x1] (wM h dA depths owners roofs rate undos undoMany drawn dug deep holes holeMany tape taped place reads read_ row order bestOrder nears isKept keptRoofs kept lanes rowSizes items moved)) (va_Qi (fun (r : Int32) (u : Unit) => Q r) (fun u t => va_P (dC, dI) vwCl (wM h dA depths owners roofs rate undos undoMany drawn dug deep holes holeMany tape taped place reads read_ row order bestOrder nears isKept keptRoofs kept lanes rowSizes items moved) t.heap) (mA h)) 0 0 (mA h) := by
  refine Met.ofW (cc := cX3_ownerOf) (maxL := 7) (ret := (some .int)) (by decide) rfl ?_
  intro p e s m args below meth c s₁ B hml hv
  obtain ⟨rfl, hP, hK⟩ := hv
  have hx := B.exec
  have hb := B.bytes
  have hr := B.returns
  have hts := atoms_spec (ws := (ws_ yX3_ownerOf cX3_ownerOf 7 (some .int))) B.pre
  have hts : ∀ w ∈ lw_all, w.before _ s = true := fun w h => hts w (List.mem_cons_of_mem _ h)
  have hown : s.vm.findClass RX3 = some m.cls := findClass_of_methodNamed B.named
  have hlocks := B.notSynchronized
  have S : CallFix p m c cX3_ownerOf 7 s _ lw_all RX3 := ⟨hx, hb, hml, hown, hts⟩
  have hS : va_S (mA h) s.heap s.heap [] := va_S.rf
  have hl := lv_entry ([.ref (h 0), .long x1]) (n := 7) (Nat.le_of_ble_eq_true rfl)
  rw [lg_entry_eq]
  generalize (lg_sl ([.ref (h 0), .long x1]) ++ List.replicate (7 - (lg_sl ([.ref (h 0), .long x1])).length) Slot.unset).toArray = ls at hl ⊢
  replace hl : lv_has ls 7 [(0, .ref (h 0)), (1, .long x1)] := hl
  have hret : hrX3_ownerOf p l e s m ([.ref (h 0), .long x1] : List Value).toArray below meth c dC dI dA h (MQ below (va_Qi (fun (r : Int32) (u : Unit) => Q r) (fun u t => va_P (dC, dI) vwCl (wM h dA depths owners roofs rate undos undoMany drawn dug deep holes holeMany tape taped place reads read_ row order bestOrder nears isKept keptRoofs kept lanes rowSizes items moved) t.heap) (mA h)) ([.ref (h 0), .long x1] : List Value).toArray s 0 0 (mA h)) Q depths owners roofs rate undos undoMany drawn dug deep holes holeMany tape taped place reads read_ row order bestOrder nears isKept keptRoofs kept lanes rowSizes items moved := fun r H locs pc ls hq hP hS hd => W.iret hx hb hr (fun t ht hW => ⟨⟨r, (), rfl, hq, by subst ht; exact hP⟩, hS.F ht⟩) hS.2.2 hd
  unfold wX3_ownerOf at hf
  refine lv_iconst (v := 4) hx hb dX3_ownerOf_0 (by decide) ?_
  refine lv_istore_n (lv' := [(3, .int 4), (0, .ref (h 0)), (1, .long x1)]) hx hb dX3_ownerOf_1 rfl hl (by decide) rfl (fun ls hl => ?_)
  refine lv_iconst (v := 0) hx hb dX3_ownerOf_2 (by decide) ?_
  refine lv_istore (lv' := [(4, .int 0), (3, .int 4), (0, .ref (h 0)), (1, .long x1)]) hx hb dX3_ownerOf_3 hl (by decide) rfl (fun ls hl => ?_)
  refine lv_iconst (v := 0) hx hb dX3_ownerOf_5 (by decide) ?_
  refine lv_istore (lv' := [(5, .int 0), (4, .int 0), (3, .int 4), (0, .ref (h 0)), (1, .long x1)]) hx hb dX3_ownerOf_6 hl (by decide) rfl (fun ls hl => ?_)
  obtain ⟨fu, hf⟩ := hf
  exact tX3_ownerOf_8 S hK hj hret fu 4 0 0 _ _ _ hf hP hS (lv_sub hl [3, 4, 2, 1, 0] rfl)
/-! HoleCountyModel.withinOf(J)J -/
theorem pdX3_withinOf : DscOk yX3_withinOf 1 := by decide +kernel
abbrev rmX3_withinOf : Room := { frames := 2, cells := 0, slots := 0, locals := 50 }
abbrev RX3_withinOf_ : Room := (headSpec (ws_ yX3_withinOf cX3_withinOf 4 (some .long)) rmX3_withinOf).room
section
variable {p : Program} {l : Launch} {e : Env} {s : State} {m : MethodId} {args : Array Value} {below : List Frame} {meth : Method} {c : Code} {Qw : State → Prop} {H : Heap} {locs : List Loc}
abbrev hrX3_withinOf (p : Program) (l : Launch) (e : Env) (s : State) (m : MethodId) (args : Array Value) (below : List Frame) (meth : Method) (c : Code) (H : Heap) (locs : List Loc) (Qw : State → Prop) (Q : Int64 → Prop) : Prop := ∀ (r : Int64) (pc : Nat) (ls : Array Slot), Q r → decode cX3_withinOf pc = .ok (.lreturn, 1) → W p l e RX3_withinOf_ s m args below meth c H locs 0 0 Qw (F0 m pc ls [.long r])
def wX3_withinOf (Q : Int64 → Prop) (x0 : Int64) : Prop := (∀ x2_9 : Int64, x2_9 = (68719476735 &&& (x0 ^^^ (-1))) → (wX3_edge (fun r_11 => (wX3_grown (fun r_15 => (Q (x2_9 &&& (r_15 ^^^ (-1))))) r_11 x2_9))))
end
set_option maxHeartbeats 4000000 in
set_option maxRecDepth 100000 in
theorem metX3_withinOf (l : Launch) {Q : Int64 → Prop} {x0 : Int64} (hf : wX3_withinOf Q x0) : Met l yX3_withinOf (ws_ yX3_withinOf cX3_withinOf 4 (some .long)) rmX3_withinOf (fun v _ => v = ([.long x0] : List Value).toArray) (vp_Sl Q) 0 0 (fun _ => False) := by
  refine Met.ofW (cc := cX3_withinOf) (maxL := 4) (ret := (some .long)) (by decide) rfl ?_
  intro p e s m args below meth c s₁ B hml hv
  subst hv
  have hx := B.exec
  have hb := B.bytes
  have hr := B.returns
  have hts := atoms_spec (ws := (ws_ yX3_withinOf cX3_withinOf 4 (some .long))) B.pre
  have hts : ∀ w ∈ lw_all, w.before _ s = true := fun w h => hts w (List.mem_cons_of_mem _ h)
  have hown : s.vm.findClass RX3 = some m.cls := findClass_of_methodNamed B.named
  have hlocks := B.notSynchronized
  have S : CallFix p m c cX3_withinOf 4 s _ lw_all RX3 := ⟨hx, hb, hml, hown, hts⟩
  have hl := lv_entry ([.long x0]) (n := 4) (Nat.le_of_ble_eq_true rfl)
  rw [lg_entry_eq]
  generalize (lg_sl ([.long x0]) ++ List.replicate (4 - (lg_sl ([.long x0])).length) Slot.unset).toArray = ls at hl ⊢
  replace hl : lv_has ls 4 [(0, .long x0)] := hl
  have hret : hrX3_withinOf p l e s m ([.long x0] : List Value).toArray below meth c s.heap [] (MQ below (vp_Sl Q) ([.long x0] : List Value).toArray s 0 0 (fun _ => False)) Q := fun r pc ls hq hd => W.lret hx hb hr (fun t ht hW => ⟨r, rfl, hq, ht⟩) t_nil hd
  unfold wX3_withinOf at hf
  refine lv_ldc2 (v := 68719476735) hx hb hown (hts _ q1325) dX3_withinOf_0 ?_
  refine lv_lload_n hx hb dX3_withinOf_3 rfl (lv_at hl 0 rfl) ?_
  refine lv_ldc2 (v := (-1)) hx hb hown (hts _ q1286) dX3_withinOf_4 ?_
  refine lv_lxor hx hb dX3_withinOf_7 ?_
  refine lv_land hx hb dX3_withinOf_8 ?_
  refine lv_topl (fun x2_9 ex2_9 => ?_)
  replace hf := hf x2_9 ex2_9
  refine lv_lstore_n (lv' := [(2, .long x2_9), (0, .long x0)]) hx hb dX3_withinOf_9 rfl hl (by decide) rfl (fun ls hl => ?_)
  refine lv_lload_n hx hb dX3_withinOf_10 rfl (lv_at hl 0 rfl) ?_
  refine cs_l (As := []) (rest := [.long x2_9]) S (metX3_edge l hf) (lw_S q1409 q1410 q60 q1411) pdX3_edge ⟨rfl, rfl⟩ ⟨Nat.le_of_ble_eq_true rfl, Nat.le_of_ble_eq_true rfl⟩ rfl hl.1 rfl (Nat.le_of_ble_eq_true rfl) dX3_withinOf_11 ⟨Nat.zero_le _, Nat.zero_le _⟩ (fun r_11 hf => ?_)
  refine lv_lload_n hx hb dX3_withinOf_14 rfl (lv_at hl 0 rfl) ?_
  refine cs_l (As := [.long r_11, .long x2_9]) (rest := [.long x2_9]) S (metX3_grown l hf) (lw_S q1317 q1318 q60 q1319) pdX3_grown ⟨rfl, rfl⟩ ⟨Nat.le_of_ble_eq_true rfl, Nat.le_of_ble_eq_true rfl⟩ rfl hl.1 rfl (Nat.le_of_ble_eq_true rfl) dX3_withinOf_15 ⟨Nat.zero_le _, Nat.zero_le _⟩ (fun r_15 hf => ?_)
  refine lv_ldc2 (v := (-1)) hx hb hown (hts _ q1286) dX3_withinOf_18 ?_
  refine lv_lxor hx hb dX3_withinOf_21 ?_
  refine lv_land hx hb dX3_withinOf_22 ?_
  exact hret _ _ _ hf dX3_withinOf_23
/-! HoleCountyModel.nestedOf(J)I -/
theorem pdX3_nestedOf : DscOk yX3_nestedOf 1 := by decide +kernel
abbrev rmX3_nestedOf : Room := { frames := 4, cells := 0, slots := 0, locals := 93 }
abbrev RX3_nestedOf_ : Room := (headSpec (ws_ yX3_nestedOf cX3_nestedOf 5 (some .int)) rmX3_nestedOf).room
section
variable {p : Program} {l : Launch} {e : Env} {s : State} {m : MethodId} {args : Array Value} {below : List Frame} {meth : Method} {c : Code} {Qw : State → Prop} {dC : Nat → ClassId} {dI : Nat → Nat → Nat} {dA : Nat → ClassId} {h : Nat → Nat}
abbrev hrX3_nestedOf (p : Program) (l : Launch) (e : Env) (s : State) (m : MethodId) (args : Array Value) (below : List Frame) (meth : Method) (c : Code) (dC : Nat → ClassId) (dI : Nat → Nat → Nat) (dA : Nat → ClassId) (h : Nat → Nat) (Qw : State → Prop) (Q : Int32 → (Nat → Int64) → Int32 → Prop) (depths : (Nat → Int32)) (owners : (Nat → Int32)) (roofs : Int64) (rate : Int32) (undos : (Nat → Int32)) (undoMany : Int32) (drawn : Int32) (dug : Int64) (deep : Int64) (tape : (Nat → Int32)) (taped : Int32) (place : Int32) (reads : Int32) (read_ : (Nat → Int32)) (row : (Nat → Int32)) (order : (Nat → Int32)) (bestOrder : (Nat → Int32)) (nears : (Nat → Int32)) (isKept : Int32) (keptRoofs : Int64) (kept : (Nat → Int32)) (lanes : (Nat → Int32)) (rowSizes : (Nat → Int32)) (items : (Nat → Int64)) (moved : (Nat → Int64)) : Prop := ∀ (r : Int32) (holes : (Nat → Int64)) (holeMany : Int32) (H : Heap) (locs : List Loc) (pc : Nat) (ls : Array Slot), Q r holes holeMany → va_P (dC, dI) vwCl (wM h dA depths owners roofs rate undos undoMany drawn dug deep holes holeMany tape taped place reads read_ row order bestOrder nears isKept keptRoofs kept lanes rowSizes items moved) H → va_S (mA h) s.heap H locs → decode cX3_nestedOf pc = .ok (.ireturn, 1) → W p l e RX3_nestedOf_ s m args below meth c H locs 0 0 Qw (F0 m pc ls [.int r])
def wX3_nestedOf_9 (Q : Int32 → (Nat → Int64) → Int32 → Prop) (x1 : Int64) (dug : Int64) (holes : (Nat → Int64)) (holeMany : Int32) : Nat → Int32 → Int32 → Prop
  | 0, _, _ => False
  | n + 1, x3, x4 => ((holeMany ≤ x4 → (Q x3 holes holeMany)) ∧ (¬ holeMany ≤ x4 → (vp_in x4 36 ∧ (((holes (x4 : Int32).toNatClampNeg) = x1 → (∀ x3_58 : Int32, x3_58 = (x3 + 0) → (∀ x4_59 : Int32, x4_59 = x4 + 1 → ((wX3_nestedOf_9 Q x1 dug holes holeMany n) x3_58 x4_59)))) ∧ (¬ (holes (x4 : Int32).toNatClampNeg) = x1 → (vp_in x4 36 ∧ (wX3_withinOf (fun r_39 => (((x1 &&& (r_39 ^^^ (-1))) = 0 → (∀ x3_58 : Int32, x3_58 = (x3 + 1) → (∀ x4_59 : Int32, x4_59 = x4 + 1 → ((wX3_nestedOf_9 Q x1 dug holes holeMany n) x3_58 x4_59)))) ∧ (¬ (x1 &&& (r_39 ^^^ (-1))) = 0 → (∀ x3_58 : Int32, x3_58 = (x3 + 0) → (∀ x4_59 : Int32, x4_59 = x4 + 1 → ((wX3_nestedOf_9 Q x1 dug holes holeMany n) x3_58 x4_59)))))) (holes (x4 : Int32).toNatClampNeg))))))))
set_option maxHeartbeats 4000000 in
set_option maxRecDepth 100000 in
theorem tX3_nestedOf_9 {Q : Int32 → (Nat → Int64) → Int32 → Prop} {x1 : Int64} {depths : (Nat → Int32)} {owners : (Nat → Int32)} {roofs : Int64} {rate : Int32} {undos : (Nat → Int32)} {undoMany : Int32} {drawn : Int32} {dug : Int64} {deep : Int64} {holes : (Nat → Int64)} {holeMany : Int32} {tape : (Nat → Int32)} {taped : Int32} {place : Int32} {reads : Int32} {read_ : (Nat → Int32)} {row : (Nat → Int32)} {order : (Nat → Int32)} {bestOrder : (Nat → Int32)} {nears : (Nat → Int32)} {isKept : Int32} {keptRoofs : Int64} {kept : (Nat → Int32)} {lanes : (Nat → Int32)} {rowSizes : (Nat → Int32)} {items : (Nat → Int64)} {moved : (Nat → Int64)} (S : CallFix p m c cX3_nestedOf 5 s args lw_all RX3) (hK : va_K (dC, dI) vwCl (tysG dA) s) (hj : mJ h) (hret : hrX3_nestedOf p l e s m args below meth c dC dI dA h Qw Q depths owners roofs rate undos undoMany drawn dug deep tape taped place reads read_ row order bestOrder nears isKept keptRoofs kept lanes rowSizes items moved) : ∀ (n : Nat) (x3 : Int32) (x4 : Int32) (H : Heap) (locs : List Loc) (ls : Array Slot), wX3_nestedOf_9 Q x1 dug holes holeMany n x3 x4 → va_P (dC, dI) vwCl (wM h dA depths owners roofs rate undos undoMany drawn dug deep holes holeMany tape taped place reads read_ row order bestOrder nears isKept keptRoofs kept lanes rowSizes items moved) H → va_S (mA h) s.heap H locs → lv_has ls 5 [(0, .ref (h 0)), (1, .long x1), (3, .int x3), (4, .int x4)] → W p l e RX3_nestedOf_ s m args below meth c H locs 0 0 Qw (F0 m 9 ls []) := by
  obtain ⟨hx, hb, hml, hown, hts⟩ := id S
  intro n
  induction n with
  | zero => intro _ _ _ _ _ hf; exact hf.elim
  | succ n ih =>
    intro x3 x4 H locs ls hf hP hS hl
    rw [wX3_nestedOf_9] at hf
    refine lv_iload hx hb dX3_nestedOf_9 (lv_at hl 3 rfl) ?_
    refine lv_aload_n hx hb dX3_nestedOf_11 rfl (lv_at hl 0 rfl) ?_
    refine gM_holeMany S hK hP dX3_nestedOf_12 ?_
    refine lv_icmp_ge (tgt := 65) hx hb dX3_nestedOf_15 (by decide) (fun c_15 => ?_) (fun c_15 => ?_)
    · replace hf := hf.1 c_15
      refine lv_iload_n hx hb dX3_nestedOf_65 rfl (lv_at hl 2 rfl) ?_
      exact hret _ _ _ _ _ _ _ hf hP hS dX3_nestedOf_66
    · replace hf := hf.2 c_15
      refine lv_iload_n hx hb dX3_nestedOf_18 rfl (lv_at hl 2 rfl) ?_
      refine lv_aload_n hx hb dX3_nestedOf_19 rfl (lv_at hl 0 rfl) ?_
      refine gM_holes S hK hP dX3_nestedOf_20 ?_
      refine lv_iload hx hb dX3_nestedOf_23 (lv_at hl 3 rfl) ?_
      obtain ⟨hin, hf⟩ := hf
      refine lM_holes S hK hP hin dX3_nestedOf_25 ?_
      refine lv_lload_n hx hb dX3_nestedOf_26 rfl (lv_at hl 1 rfl) ?_
      refine lc_eq (tgt := 56) hx hb dX3_nestedOf_27 dX3_nestedOf_28 (by decide) (fun c_27 => ?_) (fun c_27 => ?_)
      · replace hf := hf.1 c_27
        refine lv_iconst (v := 0) hx hb dX3_nestedOf_56 (by decide) ?_
        refine lv_iadd hx hb dX3_nestedOf_57 ?_
        refine lv_topi (fun x3_58 ex3_58 => ?_)
        replace hf := hf x3_58 ex3_58
        refine lv_istore_n (lv' := [(3, .int x3_58), (0, .ref (h 0)), (1, .long x1), (4, .int x4)]) hx hb dX3_nestedOf_58 rfl hl (by decide) rfl (fun ls hl => ?_)
        obtain ⟨x4_59, ex4_59⟩ : ∃ z : Int32, z = x4 + 1 := ⟨_, rfl⟩
        replace hf := hf x4_59 ex4_59
        refine lv_iinc (v := x4_59) (lv' := [(4, .int x4_59), (3, .int x3_58), (0, .ref (h 0)), (1, .long x1)]) hx hb dX3_nestedOf_59 hl (k := 3) rfl (by rw [ex4_59]; rfl) (by decide) rfl (fun ls hl => ?_)
        refine lv_goto (tgt := 9) hx hb dX3_nestedOf_62 (by decide) ?_
        exact ih x3_58 x4_59 _ _ _ hf hP hS (lv_sub hl [2, 3, 1, 0] rfl)
      · replace hf := hf.2 c_27
        refine lv_lload_n hx hb dX3_nestedOf_31 rfl (lv_at hl 1 rfl) ?_
        refine lv_aload_n hx hb dX3_nestedOf_32 rfl (lv_at hl 0 rfl) ?_
        refine gM_holes S hK hP dX3_nestedOf_33 ?_
        refine lv_iload hx hb dX3_nestedOf_36 (lv_at hl 3 rfl) ?_
        obtain ⟨hin, hf⟩ := hf
        refine lM_holes S hK hP hin dX3_nestedOf_38 ?_
        refine cs_l (As := [.long (holes (x4 : Int32).toNatClampNeg)]) (rest := [.long x1, .int x3]) S (metX3_withinOf l hf) (lw_S q1437 q1438 q60 q1439) pdX3_withinOf ⟨rfl, rfl⟩ ⟨Nat.le_of_ble_eq_true rfl, Nat.le_of_ble_eq_true rfl⟩ rfl hl.1 rfl (Nat.le_of_ble_eq_true rfl) dX3_nestedOf_39 ⟨Nat.zero_le _, Nat.zero_le _⟩ (fun r_39 hf => ?_)
        refine lv_ldc2 (v := (-1)) hx hb hown (hts _ q1286) dX3_nestedOf_42 ?_
        refine lv_lxor hx hb dX3_nestedOf_45 ?_
        refine lv_land hx hb dX3_nestedOf_46 ?_
        refine lv_lconst (v := 0) hx hb dX3_nestedOf_47 (by decide) ?_
        refine lc_ne (tgt := 56) hx hb dX3_nestedOf_48 dX3_nestedOf_49 (by decide) (fun c_48 => ?_) (fun c_48 => ?_)
        · replace hf := hf.2 c_48
          refine lv_iconst (v := 0) hx hb dX3_nestedOf_56 (by decide) ?_
          refine lv_iadd hx hb dX3_nestedOf_57 ?_
          refine lv_topi (fun x3_58 ex3_58 => ?_)
          replace hf := hf x3_58 ex3_58
          refine lv_istore_n (lv' := [(3, .int x3_58), (0, .ref (h 0)), (1, .long x1), (4, .int x4)]) hx hb dX3_nestedOf_58 rfl hl (by decide) rfl (fun ls hl => ?_)
          obtain ⟨x4_59, ex4_59⟩ : ∃ z : Int32, z = x4 + 1 := ⟨_, rfl⟩
          replace hf := hf x4_59 ex4_59
          refine lv_iinc (v := x4_59) (lv' := [(4, .int x4_59), (3, .int x3_58), (0, .ref (h 0)), (1, .long x1)]) hx hb dX3_nestedOf_59 hl (k := 3) rfl (by rw [ex4_59]; rfl) (by decide) rfl (fun ls hl => ?_)
          refine lv_goto (tgt := 9) hx hb dX3_nestedOf_62 (by decide) ?_
          exact ih x3_58 x4_59 _ _ _ hf hP hS (lv_sub hl [2, 3, 1, 0] rfl)
        · replace hf := hf.1 c_48
          refine lv_iconst (v := 1) hx hb dX3_nestedOf_52 (by decide) ?_
          refine lv_goto (tgt := 57) hx hb dX3_nestedOf_53 (by decide) ?_
          refine lv_iadd hx hb dX3_nestedOf_57 ?_
          refine lv_topi (fun x3_58 ex3_58 => ?_)
          replace hf := hf x3_58 ex3_58
          refine lv_istore_n (lv' := [(3, .int x3_58), (0, .ref (h 0)), (1, .long x1), (4, .int x4)]) hx hb dX3_nestedOf_58 rfl hl (by decide) rfl (fun ls hl => ?_)
          obtain ⟨x4_59, ex4_59⟩ : ∃ z : Int32, z = x4 + 1 := ⟨_, rfl⟩
          replace hf := hf x4_59 ex4_59
          refine lv_iinc (v := x4_59) (lv' := [(4, .int x4_59), (3, .int x3_58), (0, .ref (h 0)), (1, .long x1)]) hx hb dX3_nestedOf_59 hl (k := 3) rfl (by rw [ex4_59]; rfl) (by decide) rfl (fun ls hl => ?_)
          refine lv_goto (tgt := 9) hx hb dX3_nestedOf_62 (by decide) ?_
          exact ih x3_58 x4_59 _ _ _ hf hP hS (lv_sub hl [2, 3, 1, 0] rfl)
def wX3_nestedOf (Q : Int32 → (Nat → Int64) → Int32 → Prop) (dug : Int64) (holes : (Nat → Int64)) (holeMany : Int32) (x1 : Int64) : Prop := (wX3_findHoles (fun holes_1 holeMany_1 => (∃ fu : Nat, wX3_nestedOf_9 Q x1 dug holes_1 holeMany_1 fu 0 0)) dug holes holeMany)
end
set_option maxHeartbeats 4000000 in
set_option maxRecDepth 100000 in
theorem metX3_nestedOf (l : Launch) {Q : Int32 → (Nat → Int64) → Int32 → Prop} {depths : (Nat → Int32)} {owners : (Nat → Int32)} {roofs : Int64} {rate : Int32} {undos : (Nat → Int32)} {undoMany : Int32} {drawn : Int32} {dug : Int64} {deep : Int64} {holes : (Nat → Int64)} {holeMany : Int32} {tape : (Nat → Int32)} {taped : Int32} {place : Int32} {reads : Int32} {read_ : (Nat → Int32)} {row : (Nat → Int32)} {order : (Nat → Int32)} {bestOrder : (Nat → Int32)} {nears : (Nat → Int32)} {isKept : Int32} {keptRoofs : Int64} {kept : (Nat → Int32)} {lanes : (Nat → Int32)} {rowSizes : (Nat → Int32)} {items : (Nat → Int64)} {moved : (Nat → Int64)} {x1 : Int64} {dC : Nat → ClassId} {dI : Nat → Nat → Nat} {dA : Nat → ClassId} {h : Nat → Nat} (hj : mJ h) (hf : wX3_nestedOf Q dug holes holeMany x1) : Met l yX3_nestedOf (ws_ yX3_nestedOf cX3_nestedOf 5 (some .int)) rmX3_nestedOf (mPc dC dI dA h [.long x1] (wM h dA depths owners roofs rate undos undoMany drawn dug deep holes holeMany tape taped place reads read_ row order bestOrder nears isKept keptRoofs kept lanes rowSizes items moved)) (va_Qi (fun (r : Int32) (u : (Nat → Int64) × Int32) => Q r u.1 u.2) (fun u t => va_P (dC, dI) vwCl (wM h dA depths owners roofs rate undos undoMany drawn dug deep u.1 u.2 tape taped place reads read_ row order bestOrder nears isKept keptRoofs kept lanes rowSizes items moved) t.heap) (mA h)) 0 0 (mA h) := by
  refine Met.ofW (cc := cX3_nestedOf) (maxL := 5) (ret := (some .int)) (by decide) rfl ?_
  intro p e s m args below meth c s₁ B hml hv
  obtain ⟨rfl, hP, hK⟩ := hv
  have hx := B.exec
  have hb := B.bytes
  have hr := B.returns
  have hts := atoms_spec (ws := (ws_ yX3_nestedOf cX3_nestedOf 5 (some .int))) B.pre
  have hts : ∀ w ∈ lw_all, w.before _ s = true := fun w h => hts w (List.mem_cons_of_mem _ h)
  have hown : s.vm.findClass RX3 = some m.cls := findClass_of_methodNamed B.named
  have hlocks := B.notSynchronized
  have S : CallFix p m c cX3_nestedOf 5 s _ lw_all RX3 := ⟨hx, hb, hml, hown, hts⟩
  have hS : va_S (mA h) s.heap s.heap [] := va_S.rf
  have hl := lv_entry ([.ref (h 0), .long x1]) (n := 5) (Nat.le_of_ble_eq_true rfl)
  rw [lg_entry_eq]
  generalize (lg_sl ([.ref (h 0), .long x1]) ++ List.replicate (5 - (lg_sl ([.ref (h 0), .long x1])).length) Slot.unset).toArray = ls at hl ⊢
  replace hl : lv_has ls 5 [(0, .ref (h 0)), (1, .long x1)] := hl
  have hret : hrX3_nestedOf p l e s m ([.ref (h 0), .long x1] : List Value).toArray below meth c dC dI dA h (MQ below (va_Qi (fun (r : Int32) (u : (Nat → Int64) × Int32) => Q r u.1 u.2) (fun u t => va_P (dC, dI) vwCl (wM h dA depths owners roofs rate undos undoMany drawn dug deep u.1 u.2 tape taped place reads read_ row order bestOrder nears isKept keptRoofs kept lanes rowSizes items moved) t.heap) (mA h)) ([.ref (h 0), .long x1] : List Value).toArray s 0 0 (mA h)) Q depths owners roofs rate undos undoMany drawn dug deep tape taped place reads read_ row order bestOrder nears isKept keptRoofs kept lanes rowSizes items moved := fun r holes holeMany H locs pc ls hq hP hS hd => W.iret hx hb hr (fun t ht hW => ⟨⟨r, (holes, holeMany), rfl, hq, by subst ht; exact hP⟩, hS.F ht⟩) hS.2.2 hd
  unfold wX3_nestedOf at hf
  refine lv_aload_n hx hb dX3_nestedOf_0 rfl (lv_at hl 0 rfl) ?_
  refine cM_v (As := []) (rest := []) S hK rfl hP hS (metX3_findHoles l hj hf) (lw_V q1356 q1358 qs33 q60 q1359) rfl pdX3_findHoles ⟨rfl, rfl⟩ ⟨Nat.le_of_ble_eq_true rfl, Nat.le_of_ble_eq_true rfl⟩ rfl hl.1 rfl (Nat.le_of_ble_eq_true rfl) dX3_nestedOf_1 ⟨Nat.zero_le _, Nat.zero_le _⟩ (fun u_1 H locs hf hP hS => ?_)
  obtain ⟨holes_1, holeMany_1⟩ := u_1
  replace hP : va_P (dC, dI) vwCl (wM h dA depths owners roofs rate undos undoMany drawn dug deep holes_1 holeMany_1 tape taped place reads read_ row order bestOrder nears isKept keptRoofs kept lanes rowSizes items moved) H := hP
  try dsimp only at hf
  refine lv_iconst (v := 0) hx hb dX3_nestedOf_4 (by decide) ?_
  refine lv_istore_n (lv' := [(3, .int 0), (0, .ref (h 0)), (1, .long x1)]) hx hb dX3_nestedOf_5 rfl hl (by decide) rfl (fun ls hl => ?_)
  refine lv_iconst (v := 0) hx hb dX3_nestedOf_6 (by decide) ?_
  refine lv_istore (lv' := [(4, .int 0), (3, .int 0), (0, .ref (h 0)), (1, .long x1)]) hx hb dX3_nestedOf_7 hl (by decide) rfl (fun ls hl => ?_)
  obtain ⟨fu, hf⟩ := hf
  exact tX3_nestedOf_9 S hK hj hret fu 0 0 _ _ _ hf hP hS (lv_sub hl [2, 3, 1, 0] rfl)
/-! HoleCountyModel.largestOf(J)I -/
theorem pdX3_largestOf : DscOk yX3_largestOf 1 := by decide +kernel
abbrev rmX3_largestOf : Room := { frames := 0, cells := 0, slots := 0, locals := 0 }
abbrev RX3_largestOf_ : Room := (headSpec (ws_ yX3_largestOf cX3_largestOf 8 (some .int)) rmX3_largestOf).room
section
variable {p : Program} {l : Launch} {e : Env} {s : State} {m : MethodId} {args : Array Value} {below : List Frame} {meth : Method} {c : Code} {Qw : State → Prop} {H : Heap} {locs : List Loc}
abbrev hrX3_largestOf (p : Program) (l : Launch) (e : Env) (s : State) (m : MethodId) (args : Array Value) (below : List Frame) (meth : Method) (c : Code) (H : Heap) (locs : List Loc) (Qw : State → Prop) (Q : Int32 → Prop) : Prop := ∀ (r : Int32) (pc : Nat) (ls : Array Slot), Q r → decode cX3_largestOf pc = .ok (.ireturn, 1) → W p l e RX3_largestOf_ s m args below meth c H locs 0 0 Qw (F0 m pc ls [.int r])
def wX3_largestOf_7 (Q : Int32 → Prop) : Nat → Int32 → Int64 → Int32 → Prop
  | 0, _, _, _ => False
  | n + 1, x2, x3, x5 => ((x3 = 0 → (Q x2)) ∧ (¬ x3 = 0 → (∀ x6_23 : Int64, x6_23 = ((x3 &&& (-1090785346)) >>> ((1 : Int32).toInt64 &&& 63)) → (∀ x3_40 : Int64, x3_40 = (((x3 &&& x6_23) &&& (x3 >>> ((6 : Int32).toInt64 &&& 63))) &&& (x6_23 >>> ((6 : Int32).toInt64 &&& 63))) → (∀ x5_41 : Int32, x5_41 = x5 + 1 → ((wX3_largestOf_7 Q n) x5 x3_40 x5_41))))))
set_option maxHeartbeats 4000000 in
set_option maxRecDepth 100000 in
theorem tX3_largestOf_7 {Q : Int32 → Prop} (S : CallFix p m c cX3_largestOf 8 s args lw_all RX3) (hret : hrX3_largestOf p l e s m args below meth c H locs Qw Q) : ∀ (n : Nat) (x2 : Int32) (x3 : Int64) (x5 : Int32) (ls : Array Slot), wX3_largestOf_7 Q n x2 x3 x5 → lv_has ls 8 [(2, .int x2), (3, .long x3), (5, .int x5)] → W p l e RX3_largestOf_ s m args below meth c H locs 0 0 Qw (F0 m 7 ls []) := by
  obtain ⟨hx, hb, hml, hown, hts⟩ := id S
  intro n
  induction n with
  | zero => intro _ _ _ _ hf; exact hf.elim
  | succ n ih =>
    intro x2 x3 x5 ls hf hl
    rw [wX3_largestOf_7] at hf
    refine lv_lload_n hx hb dX3_largestOf_7 rfl (lv_at hl 1 rfl) ?_
    refine lv_lconst (v := 0) hx hb dX3_largestOf_8 (by decide) ?_
    refine lc_eq (tgt := 47) hx hb dX3_largestOf_9 dX3_largestOf_10 (by decide) (fun c_9 => ?_) (fun c_9 => ?_)
    · replace hf := hf.1 c_9
      refine lv_iload_n hx hb dX3_largestOf_47 rfl (lv_at hl 0 rfl) ?_
      exact hret _ _ _ hf dX3_largestOf_48
    · replace hf := hf.2 c_9
      refine lv_iload hx hb dX3_largestOf_13 (lv_at hl 2 rfl) ?_
      refine lv_istore_n (lv' := [(2, .int x5), (3, .long x3), (5, .int x5)]) hx hb dX3_largestOf_15 rfl hl (by decide) rfl (fun ls hl => ?_)
      refine lv_lload_n hx hb dX3_largestOf_16 rfl (lv_at hl 1 rfl) ?_
      refine lv_ldc2 (v := (-1090785346)) hx hb hown (hts _ q1323) dX3_largestOf_17 ?_
      refine lv_land hx hb dX3_largestOf_20 ?_
      refine lv_iconst (v := 1) hx hb dX3_largestOf_21 (by decide) ?_
      refine lv_lshr (v := ((x3 &&& (-1090785346)) >>> ((1 : Int32).toInt64 &&& 63))) hx hb dX3_largestOf_22 rfl ?_
      refine lv_topl (fun x6_23 ex6_23 => ?_)
      replace hf := hf x6_23 ex6_23
      refine lv_lstore (lv' := [(6, .long x6_23), (2, .int x5), (3, .long x3), (5, .int x5)]) hx hb dX3_largestOf_23 hl (by decide) rfl (fun ls hl => ?_)
      refine lv_lload_n hx hb dX3_largestOf_25 rfl (lv_at hl 2 rfl) ?_
      refine lv_lload hx hb dX3_largestOf_26 (lv_at hl 0 rfl) ?_
      refine lv_land hx hb dX3_largestOf_28 ?_
      refine lv_lload_n hx hb dX3_largestOf_29 rfl (lv_at hl 2 rfl) ?_
      refine lv_bipush (v := 6) hx hb dX3_largestOf_30 (by decide) ?_
      refine lv_lshr (v := (x3 >>> ((6 : Int32).toInt64 &&& 63))) hx hb dX3_largestOf_32 rfl ?_
      refine lv_land hx hb dX3_largestOf_33 ?_
      refine lv_lload hx hb dX3_largestOf_34 (lv_at hl 0 rfl) ?_
      refine lv_bipush (v := 6) hx hb dX3_largestOf_36 (by decide) ?_
      refine lv_lshr (v := (x6_23 >>> ((6 : Int32).toInt64 &&& 63))) hx hb dX3_largestOf_38 rfl ?_
      refine lv_land hx hb dX3_largestOf_39 ?_
      refine lv_topl (fun x3_40 ex3_40 => ?_)
      replace hf := hf x3_40 ex3_40
      refine lv_lstore_n (lv' := [(3, .long x3_40), (6, .long x6_23), (2, .int x5), (5, .int x5)]) hx hb dX3_largestOf_40 rfl hl (by decide) rfl (fun ls hl => ?_)
      obtain ⟨x5_41, ex5_41⟩ : ∃ z : Int32, z = x5 + 1 := ⟨_, rfl⟩
      replace hf := hf x5_41 ex5_41
      refine lv_iinc (v := x5_41) (lv' := [(5, .int x5_41), (3, .long x3_40), (6, .long x6_23), (2, .int x5)]) hx hb dX3_largestOf_41 hl (k := 3) rfl (by rw [ex5_41]; rfl) (by decide) rfl (fun ls hl => ?_)
      refine lv_goto (tgt := 7) hx hb dX3_largestOf_44 (by decide) ?_
      exact ih x5 x3_40 x5_41 _ hf (lv_sub hl [3, 1, 0] rfl)
def wX3_largestOf (Q : Int32 → Prop) (x0 : Int64) : Prop := (∃ fu : Nat, wX3_largestOf_7 Q fu 0 x0 1)
end
set_option maxHeartbeats 4000000 in
set_option maxRecDepth 100000 in
theorem metX3_largestOf (l : Launch) {Q : Int32 → Prop} {x0 : Int64} (hf : wX3_largestOf Q x0) : Met l yX3_largestOf (ws_ yX3_largestOf cX3_largestOf 8 (some .int)) rmX3_largestOf (fun v _ => v = ([.long x0] : List Value).toArray) (vp_Si Q) 0 0 (fun _ => False) := by
  refine Met.ofW (cc := cX3_largestOf) (maxL := 8) (ret := (some .int)) (by decide) rfl ?_
  intro p e s m args below meth c s₁ B hml hv
  subst hv
  have hx := B.exec
  have hb := B.bytes
  have hr := B.returns
  have hts := atoms_spec (ws := (ws_ yX3_largestOf cX3_largestOf 8 (some .int))) B.pre
  have hts : ∀ w ∈ lw_all, w.before _ s = true := fun w h => hts w (List.mem_cons_of_mem _ h)
  have hown : s.vm.findClass RX3 = some m.cls := findClass_of_methodNamed B.named
  have hlocks := B.notSynchronized
  have S : CallFix p m c cX3_largestOf 8 s _ lw_all RX3 := ⟨hx, hb, hml, hown, hts⟩
  have hl := lv_entry ([.long x0]) (n := 8) (Nat.le_of_ble_eq_true rfl)
  rw [lg_entry_eq]
  generalize (lg_sl ([.long x0]) ++ List.replicate (8 - (lg_sl ([.long x0])).length) Slot.unset).toArray = ls at hl ⊢
  replace hl : lv_has ls 8 [(0, .long x0)] := hl
  have hret : hrX3_largestOf p l e s m ([.long x0] : List Value).toArray below meth c s.heap [] (MQ below (vp_Si Q) ([.long x0] : List Value).toArray s 0 0 (fun _ => False)) Q := fun r pc ls hq hd => W.iret hx hb hr (fun t ht hW => ⟨r, rfl, hq, ht⟩) t_nil hd
  unfold wX3_largestOf at hf
  refine lv_iconst (v := 0) hx hb dX3_largestOf_0 (by decide) ?_
  refine lv_istore_n (lv' := [(2, .int 0), (0, .long x0)]) hx hb dX3_largestOf_1 rfl hl (by decide) rfl (fun ls hl => ?_)
  refine lv_lload_n hx hb dX3_largestOf_2 rfl (lv_at hl 1 rfl) ?_
  refine lv_lstore_n (lv' := [(3, .long x0), (2, .int 0), (0, .long x0)]) hx hb dX3_largestOf_3 rfl hl (by decide) rfl (fun ls hl => ?_)
  refine lv_iconst (v := 1) hx hb dX3_largestOf_4 (by decide) ?_
  refine lv_istore (lv' := [(5, .int 1), (3, .long x0), (2, .int 0), (0, .long x0)]) hx hb dX3_largestOf_5 hl (by decide) rfl (fun ls hl => ?_)
  obtain ⟨fu, hf⟩ := hf
  exact tX3_largestOf_7 S hret fu 0 x0 1 _ hf (lv_sub hl [2, 1, 0] rfl)
/-! HoleCountyModel.hole(II)I -/
theorem pdX3_hole : DscOk yX3_hole 2 := by decide +kernel
abbrev rmX3_hole : Room := { frames := 5, cells := 0, slots := 0, locals := 117 }
abbrev RX3_hole_ : Room := (headSpec (ws_ yX3_hole cX3_hole 5 (some .int)) rmX3_hole).room
section
variable {p : Program} {l : Launch} {e : Env} {s : State} {m : MethodId} {args : Array Value} {below : List Frame} {meth : Method} {c : Code} {Qw : State → Prop} {dC : Nat → ClassId} {dI : Nat → Nat → Nat} {dA : Nat → ClassId} {h : Nat → Nat}
abbrev hrX3_hole (p : Program) (l : Launch) (e : Env) (s : State) (m : MethodId) (args : Array Value) (below : List Frame) (meth : Method) (c : Code) (dC : Nat → ClassId) (dI : Nat → Nat → Nat) (dA : Nat → ClassId) (h : Nat → Nat) (Qw : State → Prop) (Q : Int32 → Int64 → Int64 → (Nat → Int64) → Int32 → Prop) (depths : (Nat → Int32)) (owners : (Nat → Int32)) (roofs : Int64) (rate : Int32) (undos : (Nat → Int32)) (undoMany : Int32) (drawn : Int32) (tape : (Nat → Int32)) (taped : Int32) (place : Int32) (reads : Int32) (read_ : (Nat → Int32)) (row : (Nat → Int32)) (order : (Nat → Int32)) (bestOrder : (Nat → Int32)) (nears : (Nat → Int32)) (isKept : Int32) (keptRoofs : Int64) (kept : (Nat → Int32)) (lanes : (Nat → Int32)) (rowSizes : (Nat → Int32)) (items : (Nat → Int64)) (moved : (Nat → Int64)) : Prop := ∀ (r : Int32) (dug : Int64) (deep : Int64) (holes : (Nat → Int64)) (holeMany : Int32) (H : Heap) (locs : List Loc) (pc : Nat) (ls : Array Slot), Q r dug deep holes holeMany → va_P (dC, dI) vwCl (wM h dA depths owners roofs rate undos undoMany drawn dug deep holes holeMany tape taped place reads read_ row order bestOrder nears isKept keptRoofs kept lanes rowSizes items moved) H → va_S (mA h) s.heap H locs → decode cX3_hole pc = .ok (.ireturn, 1) → W p l e RX3_hole_ s m args below meth c H locs 0 0 Qw (F0 m pc ls [.int r])
def wX3_hole (Q : Int32 → Int64 → Int64 → (Nat → Int64) → Int32 → Prop) (depths : (Nat → Int32)) (owners : (Nat → Int32)) (roofs : Int64) (rate : Int32) (dug : Int64) (deep : Int64) (holes : (Nat → Int64)) (holeMany : Int32) (x1 : Int32) (x2 : Int32) : Prop := (wX3_isCell (fun r_1 => ((r_1 = 0 → (Q (-1) dug deep holes holeMany)) ∧ (¬ r_1 = 0 → (wX3_in (fun r_13 => ((r_13 = 0 → (Q (-1) dug deep holes holeMany)) ∧ (¬ r_13 = 0 → (wX3_look (fun dug_22 deep_22 => (wX3_has (fun r_30 => ((r_30 = 0 → (Q (-2) dug_22 deep_22 holes holeMany)) ∧ (¬ r_30 = 0 → (wX3_holeAt (fun r_41 => ((x2 = 0 → (wX3_ones (fun r_89 => (Q r_89 dug_22 deep_22 holes holeMany)) r_41)) ∧ (¬ x2 = 0 → ((x2 = 1 → (wX3_kindOf (fun r_95 => (Q r_95 dug_22 deep_22 holes holeMany)) roofs deep_22 r_41)) ∧ (¬ x2 = 1 → ((x2 = 2 → (wX3_taxOf (fun r_101 => (Q r_101 dug_22 deep_22 holes holeMany)) roofs rate deep_22 r_41)) ∧ (¬ x2 = 2 → ((x2 = 3 → (wX3_fenceOf (fun r_106 => (Q r_106 dug_22 deep_22 holes holeMany)) r_41)) ∧ (¬ x2 = 3 → ((x2 = 4 → (wX3_rimOf (fun r_112 => (wX3_ones (fun r_115 => (Q r_115 dug_22 deep_22 holes holeMany)) r_112)) dug_22 r_41)) ∧ (¬ x2 = 4 → ((x2 = 5 → (wX3_ownerOf (fun r_121 => (Q r_121 dug_22 deep_22 holes holeMany)) owners dug_22 r_41)) ∧ (¬ x2 = 5 → ((x2 = 6 → (wX3_nestedOf (fun r_127 holes_127 holeMany_127 => (Q r_127 dug_22 deep_22 holes_127 holeMany_127)) dug_22 holes holeMany r_41)) ∧ (¬ x2 = 6 → (wX3_largestOf (fun r_132 => (Q r_132 dug_22 deep_22 holes holeMany)) r_41)))))))))))))))) dug_22 x1)))) dug_22 x1)) depths dug deep)))) ((x2 : Int32).toInt64) 0 7)))) x1)
end
set_option maxHeartbeats 4000000 in
set_option maxRecDepth 100000 in
theorem metX3_hole (l : Launch) {Q : Int32 → Int64 → Int64 → (Nat → Int64) → Int32 → Prop} {depths : (Nat → Int32)} {owners : (Nat → Int32)} {roofs : Int64} {rate : Int32} {undos : (Nat → Int32)} {undoMany : Int32} {drawn : Int32} {dug : Int64} {deep : Int64} {holes : (Nat → Int64)} {holeMany : Int32} {tape : (Nat → Int32)} {taped : Int32} {place : Int32} {reads : Int32} {read_ : (Nat → Int32)} {row : (Nat → Int32)} {order : (Nat → Int32)} {bestOrder : (Nat → Int32)} {nears : (Nat → Int32)} {isKept : Int32} {keptRoofs : Int64} {kept : (Nat → Int32)} {lanes : (Nat → Int32)} {rowSizes : (Nat → Int32)} {items : (Nat → Int64)} {moved : (Nat → Int64)} {x1 : Int32} {x2 : Int32} {dC : Nat → ClassId} {dI : Nat → Nat → Nat} {dA : Nat → ClassId} {h : Nat → Nat} (hj : mJ h) (hf : wX3_hole Q depths owners roofs rate dug deep holes holeMany x1 x2) : Met l yX3_hole (ws_ yX3_hole cX3_hole 5 (some .int)) rmX3_hole (mPc dC dI dA h [.int x1, .int x2] (wM h dA depths owners roofs rate undos undoMany drawn dug deep holes holeMany tape taped place reads read_ row order bestOrder nears isKept keptRoofs kept lanes rowSizes items moved)) (va_Qi (fun (r : Int32) (u : Int64 × Int64 × (Nat → Int64) × Int32) => Q r u.1 u.2.1 u.2.2.1 u.2.2.2) (fun u t => va_P (dC, dI) vwCl (wM h dA depths owners roofs rate undos undoMany drawn u.1 u.2.1 u.2.2.1 u.2.2.2 tape taped place reads read_ row order bestOrder nears isKept keptRoofs kept lanes rowSizes items moved) t.heap) (mA h)) 0 0 (mA h) := by
  refine Met.ofW (cc := cX3_hole) (maxL := 5) (ret := (some .int)) (by decide) rfl ?_
  intro p e s m args below meth c s₁ B hml hv
  obtain ⟨rfl, hP, hK⟩ := hv
  have hx := B.exec
  have hb := B.bytes
  have hr := B.returns
  have hts := atoms_spec (ws := (ws_ yX3_hole cX3_hole 5 (some .int))) B.pre
  have hts : ∀ w ∈ lw_all, w.before _ s = true := fun w h => hts w (List.mem_cons_of_mem _ h)
  have hown : s.vm.findClass RX3 = some m.cls := findClass_of_methodNamed B.named
  have hlocks := B.notSynchronized
  have S : CallFix p m c cX3_hole 5 s _ lw_all RX3 := ⟨hx, hb, hml, hown, hts⟩
  have hS : va_S (mA h) s.heap s.heap [] := va_S.rf
  have hl := lv_entry ([.ref (h 0), .int x1, .int x2]) (n := 5) (Nat.le_of_ble_eq_true rfl)
  rw [lg_entry_eq]
  generalize (lg_sl ([.ref (h 0), .int x1, .int x2]) ++ List.replicate (5 - (lg_sl ([.ref (h 0), .int x1, .int x2])).length) Slot.unset).toArray = ls at hl ⊢
  replace hl : lv_has ls 5 [(0, .ref (h 0)), (1, .int x1), (2, .int x2)] := hl
  have hret : hrX3_hole p l e s m ([.ref (h 0), .int x1, .int x2] : List Value).toArray below meth c dC dI dA h (MQ below (va_Qi (fun (r : Int32) (u : Int64 × Int64 × (Nat → Int64) × Int32) => Q r u.1 u.2.1 u.2.2.1 u.2.2.2) (fun u t => va_P (dC, dI) vwCl (wM h dA depths owners roofs rate undos undoMany drawn u.1 u.2.1 u.2.2.1 u.2.2.2 tape taped place reads read_ row order bestOrder nears isKept keptRoofs kept lanes rowSizes items moved) t.heap) (mA h)) ([.ref (h 0), .int x1, .int x2] : List Value).toArray s 0 0 (mA h)) Q depths owners roofs rate undos undoMany drawn tape taped place reads read_ row order bestOrder nears isKept keptRoofs kept lanes rowSizes items moved := fun r dug deep holes holeMany H locs pc ls hq hP hS hd => W.iret hx hb hr (fun t ht hW => ⟨⟨r, (dug, deep, holes, holeMany), rfl, hq, by subst ht; exact hP⟩, hS.F ht⟩) hS.2.2 hd
  unfold wX3_hole at hf
  refine lv_iload_n hx hb dX3_hole_0 rfl (lv_at hl 1 rfl) ?_
  refine cs_i (As := [.int x1]) (rest := []) S (metX3_isCell l hf) (lw_S q1264 q1265 q60 q1266) pdX3_isCell ⟨rfl, rfl⟩ ⟨Nat.le_of_ble_eq_true rfl, Nat.le_of_ble_eq_true rfl⟩ rfl hl.1 rfl (Nat.le_of_ble_eq_true rfl) dX3_hole_1 ⟨Nat.zero_le _, Nat.zero_le _⟩ (fun r_1 hf => ?_)
  refine lv_if_eq (tgt := 19) hx hb dX3_hole_4 (by decide) (fun c_4 => ?_) (fun c_4 => ?_)
  · replace hf := hf.1 c_4
    refine lv_iconst (v := (-1)) hx hb dX3_hole_19 (by decide) ?_
    exact hret _ _ _ _ _ _ _ _ _ hf hP hS dX3_hole_20
  · replace hf := hf.2 c_4
    refine lv_iload_n hx hb dX3_hole_7 rfl (lv_at hl 2 rfl) ?_
    refine lv_i2l (v := (x2 : Int32).toInt64) hx hb dX3_hole_8 rfl ?_
    refine lv_lconst (v := 0) hx hb dX3_hole_9 (by decide) ?_
    refine lv_ldc2 (v := 7) hx hb hown (hts _ q1420) dX3_hole_10 ?_
    refine cs_i (As := [.long (x2 : Int32).toInt64, .long 0, .long 7]) (rest := []) S (metX3_in l hf) (lw_S q1268 q1269 q60 q1270) pdX3_in ⟨rfl, rfl⟩ ⟨Nat.le_of_ble_eq_true rfl, Nat.le_of_ble_eq_true rfl⟩ rfl hl.1 rfl (Nat.le_of_ble_eq_true rfl) dX3_hole_13 ⟨Nat.zero_le _, Nat.zero_le _⟩ (fun r_13 hf => ?_)
    refine lv_if_ne (tgt := 21) hx hb dX3_hole_16 (by decide) (fun c_16 => ?_) (fun c_16 => ?_)
    · replace hf := hf.2 c_16
      refine lv_aload_n hx hb dX3_hole_21 rfl (lv_at hl 0 rfl) ?_
      refine cM_v (As := []) (rest := []) S hK rfl hP hS (metX3_look l hj hf) (lw_V q1309 q1311 qs27 q60 q1312) rfl pdX3_look ⟨rfl, rfl⟩ ⟨Nat.le_of_ble_eq_true rfl, Nat.le_of_ble_eq_true rfl⟩ rfl hl.1 rfl (Nat.le_of_ble_eq_true rfl) dX3_hole_22 ⟨Nat.zero_le _, Nat.zero_le _⟩ (fun u_22 H locs hf hP hS => ?_)
      obtain ⟨dug_22, deep_22⟩ := u_22
      replace hP : va_P (dC, dI) vwCl (wM h dA depths owners roofs rate undos undoMany drawn dug_22 deep_22 holes holeMany tape taped place reads read_ row order bestOrder nears isKept keptRoofs kept lanes rowSizes items moved) H := hP
      try dsimp only at hf
      refine lv_aload_n hx hb dX3_hole_25 rfl (lv_at hl 0 rfl) ?_
      refine gM_dug S hK hP dX3_hole_26 ?_
      refine lv_iload_n hx hb dX3_hole_29 rfl (lv_at hl 1 rfl) ?_
      refine cs_i (As := [.long dug_22, .int x1]) (rest := []) S (metX3_has l hf) (lw_S q1275 q1276 q60 q1277) pdX3_has ⟨rfl, rfl⟩ ⟨Nat.le_of_ble_eq_true rfl, Nat.le_of_ble_eq_true rfl⟩ rfl hl.1 rfl (Nat.le_of_ble_eq_true rfl) dX3_hole_30 ⟨Nat.zero_le _, Nat.zero_le _⟩ (fun r_30 hf => ?_)
      refine lv_if_ne (tgt := 39) hx hb dX3_hole_33 (by decide) (fun c_33 => ?_) (fun c_33 => ?_)
      · replace hf := hf.2 c_33
        refine lv_aload_n hx hb dX3_hole_39 rfl (lv_at hl 0 rfl) ?_
        refine lv_iload_n hx hb dX3_hole_40 rfl (lv_at hl 1 rfl) ?_
        refine cM_l (As := [.int x1]) (rest := []) S hK rfl hP hS (metX3_holeAt l hj hf) (lw_V q1313 q1315 qs28 q60 q1316) rfl pdX3_holeAt ⟨rfl, rfl⟩ ⟨Nat.le_of_ble_eq_true rfl, Nat.le_of_ble_eq_true rfl⟩ rfl hl.1 rfl (Nat.le_of_ble_eq_true rfl) dX3_hole_41 ⟨Nat.zero_le _, Nat.zero_le _⟩ (fun r_41 u_41 H locs hf hP hS => ?_)
        replace hP : va_P (dC, dI) vwCl (wM h dA depths owners roofs rate undos undoMany drawn dug_22 deep_22 holes holeMany tape taped place reads read_ row order bestOrder nears isKept keptRoofs kept lanes rowSizes items moved) H := hP
        try dsimp only at hf
        refine lv_lstore_n (lv' := [(3, .long r_41), (0, .ref (h 0)), (1, .int x1), (2, .int x2)]) hx hb dX3_hole_44 rfl hl (by decide) rfl (fun ls hl => ?_)
        refine lv_iload_n hx hb dX3_hole_45 rfl (lv_at hl 3 rfl) ?_
        by_cases c_46_0 : x2 = 0
        · replace hf := hf.1 c_46_0
          refine lv_tableIn (off := 42) (tgt := 88) hx hb dX3_hole_46 (by rw [c_46_0]; decide) (by rw [c_46_0]; decide) (by rw [c_46_0]; decide) (by decide) ?_
          refine lv_lload_n hx hb dX3_hole_88 rfl (lv_at hl 0 rfl) ?_
          refine cs_i (As := [.long r_41]) (rest := []) S (metX3_ones l hf) (lw_S q1390 q1391 q60 q1392) pdX3_ones ⟨rfl, rfl⟩ ⟨Nat.le_of_ble_eq_true rfl, Nat.le_of_ble_eq_true rfl⟩ rfl hl.1 rfl (Nat.le_of_ble_eq_true rfl) dX3_hole_89 ⟨Nat.zero_le _, Nat.zero_le _⟩ (fun r_89 hf => ?_)
          exact hret _ _ _ _ _ _ _ _ _ hf hP hS dX3_hole_92
        replace hf := hf.2 c_46_0
        by_cases c_46_1 : x2 = 1
        · replace hf := hf.1 c_46_1
          refine lv_tableIn (off := 47) (tgt := 93) hx hb dX3_hole_46 (by rw [c_46_1]; decide) (by rw [c_46_1]; decide) (by rw [c_46_1]; decide) (by decide) ?_
          refine lv_aload_n hx hb dX3_hole_93 rfl (lv_at hl 1 rfl) ?_
          refine lv_lload_n hx hb dX3_hole_94 rfl (lv_at hl 0 rfl) ?_
          refine cM_i (As := [.long r_41]) (rest := []) S hK rfl hP hS (metX3_kindOf l hj hf) (lw_V q1401 q1403 qs39 q60 q1404) rfl pdX3_kindOf ⟨rfl, rfl⟩ ⟨Nat.le_of_ble_eq_true rfl, Nat.le_of_ble_eq_true rfl⟩ rfl hl.1 rfl (Nat.le_of_ble_eq_true rfl) dX3_hole_95 ⟨Nat.zero_le _, Nat.zero_le _⟩ (fun r_95 u_95 H locs hf hP hS => ?_)
          replace hP : va_P (dC, dI) vwCl (wM h dA depths owners roofs rate undos undoMany drawn dug_22 deep_22 holes holeMany tape taped place reads read_ row order bestOrder nears isKept keptRoofs kept lanes rowSizes items moved) H := hP
          try dsimp only at hf
          exact hret _ _ _ _ _ _ _ _ _ hf hP hS dX3_hole_98
        replace hf := hf.2 c_46_1
        by_cases c_46_2 : x2 = 2
        · replace hf := hf.1 c_46_2
          refine lv_tableIn (off := 53) (tgt := 99) hx hb dX3_hole_46 (by rw [c_46_2]; decide) (by rw [c_46_2]; decide) (by rw [c_46_2]; decide) (by decide) ?_
          refine lv_aload_n hx hb dX3_hole_99 rfl (lv_at hl 1 rfl) ?_
          refine lv_lload_n hx hb dX3_hole_100 rfl (lv_at hl 0 rfl) ?_
          refine cM_i (As := [.long r_41]) (rest := []) S hK rfl hP hS (metX3_taxOf l hj hf) (lw_V q1397 q1399 qs38 q60 q1400) rfl pdX3_taxOf ⟨rfl, rfl⟩ ⟨Nat.le_of_ble_eq_true rfl, Nat.le_of_ble_eq_true rfl⟩ rfl hl.1 rfl (Nat.le_of_ble_eq_true rfl) dX3_hole_101 ⟨Nat.zero_le _, Nat.zero_le _⟩ (fun r_101 u_101 H locs hf hP hS => ?_)
          replace hP : va_P (dC, dI) vwCl (wM h dA depths owners roofs rate undos undoMany drawn dug_22 deep_22 holes holeMany tape taped place reads read_ row order bestOrder nears isKept keptRoofs kept lanes rowSizes items moved) H := hP
          try dsimp only at hf
          exact hret _ _ _ _ _ _ _ _ _ hf hP hS dX3_hole_104
        replace hf := hf.2 c_46_2
        by_cases c_46_3 : x2 = 3
        · replace hf := hf.1 c_46_3
          refine lv_tableIn (off := 59) (tgt := 105) hx hb dX3_hole_46 (by rw [c_46_3]; decide) (by rw [c_46_3]; decide) (by rw [c_46_3]; decide) (by decide) ?_
          refine lv_lload_n hx hb dX3_hole_105 rfl (lv_at hl 0 rfl) ?_
          refine cs_i (As := [.long r_41]) (rest := []) S (metX3_fenceOf l hf) (lw_S q1413 q1414 q60 q1415) pdX3_fenceOf ⟨rfl, rfl⟩ ⟨Nat.le_of_ble_eq_true rfl, Nat.le_of_ble_eq_true rfl⟩ rfl hl.1 rfl (Nat.le_of_ble_eq_true rfl) dX3_hole_106 ⟨Nat.zero_le _, Nat.zero_le _⟩ (fun r_106 hf => ?_)
          exact hret _ _ _ _ _ _ _ _ _ hf hP hS dX3_hole_109
        replace hf := hf.2 c_46_3
        by_cases c_46_4 : x2 = 4
        · replace hf := hf.1 c_46_4
          refine lv_tableIn (off := 64) (tgt := 110) hx hb dX3_hole_46 (by rw [c_46_4]; decide) (by rw [c_46_4]; decide) (by rw [c_46_4]; decide) (by decide) ?_
          refine lv_aload_n hx hb dX3_hole_110 rfl (lv_at hl 1 rfl) ?_
          refine lv_lload_n hx hb dX3_hole_111 rfl (lv_at hl 0 rfl) ?_
          refine cM_l (As := [.long r_41]) (rest := []) S hK rfl hP hS (metX3_rimOf l hj hf) (lw_V q1421 q1423 qs40 q60 q1424) rfl pdX3_rimOf ⟨rfl, rfl⟩ ⟨Nat.le_of_ble_eq_true rfl, Nat.le_of_ble_eq_true rfl⟩ rfl hl.1 rfl (Nat.le_of_ble_eq_true rfl) dX3_hole_112 ⟨Nat.zero_le _, Nat.zero_le _⟩ (fun r_112 u_112 H locs hf hP hS => ?_)
          replace hP : va_P (dC, dI) vwCl (wM h dA depths owners roofs rate undos undoMany drawn dug_22 deep_22 holes holeMany tape taped place reads read_ row order bestOrder nears isKept keptRoofs kept lanes rowSizes items moved) H := hP
          try dsimp only at hf
          refine cs_i (As := [.long r_112]) (rest := []) S (metX3_ones l hf) (lw_S q1390 q1391 q60 q1392) pdX3_ones ⟨rfl, rfl⟩ ⟨Nat.le_of_ble_eq_true rfl, Nat.le_of_ble_eq_true rfl⟩ rfl hl.1 rfl (Nat.le_of_ble_eq_true rfl) dX3_hole_115 ⟨Nat.zero_le _, Nat.zero_le _⟩ (fun r_115 hf => ?_)
          exact hret _ _ _ _ _ _ _ _ _ hf hP hS dX3_hole_118
        replace hf := hf.2 c_46_4
        by_cases c_46_5 : x2 = 5
        · replace hf := hf.1 c_46_5
          refine lv_tableIn (off := 73) (tgt := 119) hx hb dX3_hole_46 (by rw [c_46_5]; decide) (by rw [c_46_5]; decide) (by rw [c_46_5]; decide) (by decide) ?_
          refine lv_aload_n hx hb dX3_hole_119 rfl (lv_at hl 1 rfl) ?_
          refine lv_lload_n hx hb dX3_hole_120 rfl (lv_at hl 0 rfl) ?_
          refine cM_i (As := [.long r_41]) (rest := []) S hK rfl hP hS (metX3_ownerOf l hj hf) (lw_V q1425 q1427 qs41 q60 q1428) rfl pdX3_ownerOf ⟨rfl, rfl⟩ ⟨Nat.le_of_ble_eq_true rfl, Nat.le_of_ble_eq_true rfl⟩ rfl hl.1 rfl (Nat.le_of_ble_eq_true rfl) dX3_hole_121 ⟨Nat.zero_le _, Nat.zero_le _⟩ (fun r_121 u_121 H locs hf hP hS => ?_)
          replace hP : va_P (dC, dI) vwCl (wM h dA depths owners roofs rate undos undoMany drawn dug_22 deep_22 holes holeMany tape taped place reads read_ row order bestOrder nears isKept keptRoofs kept lanes rowSizes items moved) H := hP
          try dsimp only at hf
          exact hret _ _ _ _ _ _ _ _ _ hf hP hS dX3_hole_124
        replace hf := hf.2 c_46_5
        by_cases c_46_6 : x2 = 6
        · replace hf := hf.1 c_46_6
          refine lv_tableIn (off := 79) (tgt := 125) hx hb dX3_hole_46 (by rw [c_46_6]; decide) (by rw [c_46_6]; decide) (by rw [c_46_6]; decide) (by decide) ?_
          refine lv_aload_n hx hb dX3_hole_125 rfl (lv_at hl 1 rfl) ?_
          refine lv_lload_n hx hb dX3_hole_126 rfl (lv_at hl 0 rfl) ?_
          refine cM_i (As := [.long r_41]) (rest := []) S hK rfl hP hS (metX3_nestedOf l hj hf) (lw_V q1433 q1435 qs43 q60 q1436) rfl pdX3_nestedOf ⟨rfl, rfl⟩ ⟨Nat.le_of_ble_eq_true rfl, Nat.le_of_ble_eq_true rfl⟩ rfl hl.1 rfl (Nat.le_of_ble_eq_true rfl) dX3_hole_127 ⟨Nat.zero_le _, Nat.zero_le _⟩ (fun r_127 u_127 H locs hf hP hS => ?_)
          obtain ⟨holes_127, holeMany_127⟩ := u_127
          replace hP : va_P (dC, dI) vwCl (wM h dA depths owners roofs rate undos undoMany drawn dug_22 deep_22 holes_127 holeMany_127 tape taped place reads read_ row order bestOrder nears isKept keptRoofs kept lanes rowSizes items moved) H := hP
          try dsimp only at hf
          exact hret _ _ _ _ _ _ _ _ _ hf hP hS dX3_hole_130
        replace hf := hf.2 c_46_6
        have n_0 := sw_no (j := 0) c_46_0 (by decide)
        have n_1 := sw_no (j := 1) c_46_1 (by decide)
        have n_2 := sw_no (j := 2) c_46_2 (by decide)
        have n_3 := sw_no (j := 3) c_46_3 (by decide)
        have n_4 := sw_no (j := 4) c_46_4 (by decide)
        have n_5 := sw_no (j := 5) c_46_5 (by decide)
        have n_6 := sw_no (j := 6) c_46_6 (by decide)
        refine lv_tableOut (tgt := 131) hx hb dX3_hole_46 (by omega) (by decide) ?_
        refine lv_lload_n hx hb dX3_hole_131 rfl (lv_at hl 0 rfl) ?_
        refine cs_i (As := [.long r_41]) (rest := []) S (metX3_largestOf l hf) (lw_S q1440 q1441 q60 q1442) pdX3_largestOf ⟨rfl, rfl⟩ ⟨Nat.le_of_ble_eq_true rfl, Nat.le_of_ble_eq_true rfl⟩ rfl hl.1 rfl (Nat.le_of_ble_eq_true rfl) dX3_hole_132 ⟨Nat.zero_le _, Nat.zero_le _⟩ (fun r_132 hf => ?_)
        exact hret _ _ _ _ _ _ _ _ _ hf hP hS dX3_hole_135
      · replace hf := hf.1 c_33
        refine lv_bipush (v := (-2)) hx hb dX3_hole_36 (by decide) ?_
        exact hret _ _ _ _ _ _ _ _ _ hf hP hS dX3_hole_38
    · replace hf := hf.1 c_16
      refine lv_iconst (v := (-1)) hx hb dX3_hole_19 (by decide) ?_
      exact hret _ _ _ _ _ _ _ _ _ hf hP hS dX3_hole_20
