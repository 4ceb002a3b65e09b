/-! HoleCountyModel.readOwners()Z -/
theorem pdX3_readOwners : DscOk yX3_readOwners 0 := by decide +kernel
abbrev rmX3_readOwners : Room := { frames := 2, cells := 0, slots := 0, locals := 42 }
abbrev RX3_readOwners_ : Room := (headSpec (ws_ yX3_readOwners cX3_readOwners 3 (some .boolean)) rmX3_readOwners).room
section
variable {p : Program} {l : Launch} {e : Env} {s : State} {m : MethodId} {args : Array Value} {below : List Frame} {meth : Method} {c : Code} {Qw : State → Prop} {dC : Nat → ClassId} {dI : Nat → Nat → Nat} {dA : Nat → ClassId} {h : Nat → Nat}
abbrev hrX3_readOwners (p : Program) (l : Launch) (e : Env) (s : State) (m : MethodId) (args : Array Value) (below : List Frame) (meth : Method) (c : Code) (dC : Nat → ClassId) (dI : Nat → Nat → Nat) (dA : Nat → ClassId) (h : Nat → Nat) (Qw : State → Prop) (Q : Int32 → Int32 → (Nat → Int32) → Prop) (depths : (Nat → Int32)) (owners : (Nat → Int32)) (roofs : Int64) (rate : Int32) (undos : (Nat → Int32)) (undoMany : Int32) (drawn : Int32) (dug : Int64) (deep : Int64) (holes : (Nat → Int64)) (holeMany : Int32) (tape : (Nat → Int32)) (taped : Int32) (reads : Int32) (row : (Nat → Int32)) (order : (Nat → Int32)) (bestOrder : (Nat → Int32)) (nears : (Nat → Int32)) (isKept : Int32) (keptRoofs : Int64) (kept : (Nat → Int32)) (lanes : (Nat → Int32)) (rowSizes : (Nat → Int32)) (items : (Nat → Int64)) (moved : (Nat → Int64)) : Prop := ∀ (r : Int32) (place : Int32) (read_ : (Nat → Int32)) (H : Heap) (locs : List Loc) (pc : Nat) (ls : Array Slot), bz r → Q r place read_ → va_P (dC, dI) vwCl (wM h dA depths owners roofs rate undos undoMany drawn dug deep holes holeMany tape taped place reads read_ row order bestOrder nears isKept keptRoofs kept lanes rowSizes items moved) H → va_S (mA h) s.heap H locs → decode cX3_readOwners pc = .ok (.ireturn, 1) → W p l e RX3_readOwners_ s m args below meth c H locs 0 0 Qw (F0 m pc ls [.int r])
def wX3_readOwners_58 (Q : Int32 → Int32 → (Nat → Int32) → Prop) (k7 : Int32 → Int32 → (Nat → Int32) → Prop) (x1 : Int32) (x2 : Int32) (tape : (Nat → Int32)) (taped : Int32) (place : Int32) (read_ : (Nat → Int32)) : Prop := (∀ place_65 : Int32, place_65 = (place + 1) → ((x2 = 45 → (vp_in x1 80 ∧ (∀ read__87 : Nat → Int32, read__87 = upd read_ (x1 : Int32).toNatClampNeg 4 → (∀ x1_88 : Int32, x1_88 = x1 + 1 → (k7 x1_88 place_65 read__87))))) ∧ (¬ x2 = 45 → (vp_in x1 80 ∧ (∀ read__87 : Nat → Int32, read__87 = upd read_ (x1 : Int32).toNatClampNeg (x2 - 48) → (∀ x1_88 : Int32, x1_88 = x1 + 1 → (k7 x1_88 place_65 read__87)))))))
set_option maxHeartbeats 4000000 in
set_option maxRecDepth 100000 in
theorem tX3_readOwners_58 {Q : Int32 → Int32 → (Nat → Int32) → Prop} {depths : (Nat → Int32)} {owners : (Nat → Int32)} {roofs : Int64} {rate : Int32} {undos : (Nat → Int32)} {undoMany : Int32} {drawn : Int32} {dug : Int64} {deep : Int64} {holes : (Nat → Int64)} {holeMany : Int32} {tape : (Nat → Int32)} {taped : Int32} {reads : Int32} {row : (Nat → Int32)} {order : (Nat → Int32)} {bestOrder : (Nat → Int32)} {nears : (Nat → Int32)} {isKept : Int32} {keptRoofs : Int64} {kept : (Nat → Int32)} {lanes : (Nat → Int32)} {rowSizes : (Nat → Int32)} {items : (Nat → Int64)} {moved : (Nat → Int64)} (S : CallFix p m c cX3_readOwners 3 s args lw_all RX3) (hK : va_K (dC, dI) vwCl (tysG dA) s) (hj : mJ h) (hret : hrX3_readOwners p l e s m args below meth c dC dI dA h Qw Q depths owners roofs rate undos undoMany drawn dug deep holes holeMany tape taped reads row order bestOrder nears isKept keptRoofs kept lanes rowSizes items moved) {k7 : Int32 → Int32 → (Nat → Int32) → Prop} (hk7 : ∀ (x1 : Int32) (place : Int32) (read_ : (Nat → Int32)) (H : Heap) (locs : List Loc) (ls : Array Slot), k7 x1 place read_ → va_P (dC, dI) vwCl (wM h dA depths owners roofs rate undos undoMany drawn dug deep holes holeMany tape taped place reads read_ row order bestOrder nears isKept keptRoofs kept lanes rowSizes items moved) H → va_S (mA h) s.heap H locs → lv_has ls 3 [(0, .ref (h 0)), (1, .int x1)] → W p l e RX3_readOwners_ s m args below meth c H locs 0 0 Qw (F0 m 7 ls [])) : ∀ (x1 : Int32) (x2 : Int32) (place : Int32) (read_ : (Nat → Int32)) (H : Heap) (locs : List Loc) (ls : Array Slot), wX3_readOwners_58 Q k7 x1 x2 tape taped place read_ → va_P (dC, dI) vwCl (wM h dA depths owners roofs rate undos undoMany drawn dug deep holes holeMany tape taped place reads read_ row order bestOrder nears isKept keptRoofs kept lanes rowSizes items moved) H → va_S (mA h) s.heap H locs → lv_has ls 3 [(0, .ref (h 0)), (1, .int x1), (2, .int x2)] → W p l e RX3_readOwners_ s m args below meth c H locs 0 0 Qw (F0 m 58 ls []) := by
  obtain ⟨hx, hb, hml, hown, hts⟩ := id S
  intro x1 x2 place read_ H locs ls hf hP hS hl
  unfold wX3_readOwners_58 at hf
  refine lv_aload_n hx hb dX3_readOwners_58 rfl (lv_at hl 0 rfl) ?_
  refine lv_dup hx hb dX3_readOwners_59 rfl ?_
  refine gM_place S hK hP dX3_readOwners_60 ?_
  refine lv_iconst (v := 1) hx hb dX3_readOwners_63 (by decide) ?_
  refine lv_iadd hx hb dX3_readOwners_64 ?_
  refine lv_topi (fun place_65 eplace_65 => ?_)
  replace hf := hf place_65 eplace_65
  refine pM_place S hK hj hP hS dX3_readOwners_65 (fun H locs hP hS => ?_)
  refine lv_aload_n hx hb dX3_readOwners_68 rfl (lv_at hl 0 rfl) ?_
  refine gM_read_ S hK hP dX3_readOwners_69 ?_
  refine lv_iload_n hx hb dX3_readOwners_72 rfl (lv_at hl 1 rfl) ?_
  refine lv_iload_n hx hb dX3_readOwners_73 rfl (lv_at hl 2 rfl) ?_
  refine lv_bipush (v := 45) hx hb dX3_readOwners_74 (by decide) ?_
  refine lv_icmp_ne (tgt := 83) hx hb dX3_readOwners_76 (by decide) (fun c_76 => ?_) (fun c_76 => ?_)
  · replace hf := hf.2 c_76
    refine lv_iload_n hx hb dX3_readOwners_83 rfl (lv_at hl 2 rfl) ?_
    refine lv_bipush (v := 48) hx hb dX3_readOwners_84 (by decide) ?_
    refine lv_isub hx hb dX3_readOwners_86 ?_
    obtain ⟨hin, hf⟩ := hf
    obtain ⟨read__87, eread__87⟩ : ∃ z : Nat → Int32, z = upd read_ (x1 : Int32).toNatClampNeg (x2 - 48) := ⟨_, rfl⟩
    replace hf := hf read__87 eread__87
    refine sM_read_ S hK hj hP hS hin eread__87 dX3_readOwners_87 (fun H locs hP hS => ?_)
    obtain ⟨x1_88, ex1_88⟩ : ∃ z : Int32, z = x1 + 1 := ⟨_, rfl⟩
    replace hf := hf x1_88 ex1_88
    refine lv_iinc (v := x1_88) (lv' := [(1, .int x1_88), (0, .ref (h 0)), (2, .int x2)]) hx hb dX3_readOwners_88 hl (k := 1) rfl (by rw [ex1_88]; rfl) (by decide) rfl (fun ls hl => ?_)
    refine lv_goto (tgt := 7) hx hb dX3_readOwners_91 (by decide) ?_
    exact hk7 x1_88 place_65 read__87 _ _ _ hf hP hS (lv_sub hl [1, 0] rfl)
  · replace hf := hf.1 c_76
    refine lv_iconst (v := 4) hx hb dX3_readOwners_79 (by decide) ?_
    refine lv_goto (tgt := 87) hx hb dX3_readOwners_80 (by decide) ?_
    obtain ⟨hin, hf⟩ := hf
    obtain ⟨read__87, eread__87⟩ : ∃ z : Nat → Int32, z = upd read_ (x1 : Int32).toNatClampNeg 4 := ⟨_, rfl⟩
    replace hf := hf read__87 eread__87
    refine sM_read_ S hK hj hP hS hin eread__87 dX3_readOwners_87 (fun H locs hP hS => ?_)
    obtain ⟨x1_88, ex1_88⟩ : ∃ z : Int32, z = x1 + 1 := ⟨_, rfl⟩
    replace hf := hf x1_88 ex1_88
    refine lv_iinc (v := x1_88) (lv' := [(1, .int x1_88), (0, .ref (h 0)), (2, .int x2)]) hx hb dX3_readOwners_88 hl (k := 1) rfl (by rw [ex1_88]; rfl) (by decide) rfl (fun ls hl => ?_)
    refine lv_goto (tgt := 7) hx hb dX3_readOwners_91 (by decide) ?_
    exact hk7 x1_88 place_65 read__87 _ _ _ hf hP hS (lv_sub hl [1, 0] rfl)
def wX3_readOwners_31 (Q : Int32 → Int32 → (Nat → Int32) → Prop) (k7 : Int32 → Int32 → (Nat → Int32) → Prop) (x1 : Int32) (tape : (Nat → Int32)) (taped : Int32) (place : Int32) (read_ : (Nat → Int32)) : Prop := (wX3_nextLetter (fun r_32 place_32 => ((r_32 = 45 → (wX3_readOwners_58 Q k7 x1 r_32 tape taped place_32 read_)) ∧ (¬ r_32 = 45 → (wX3_in (fun r_50 => ((r_50 = 0 → (Q 0 place_32 read_)) ∧ (¬ r_50 = 0 → (wX3_readOwners_58 Q k7 x1 r_32 tape taped place_32 read_)))) ((r_32 : Int32).toInt64) 48 51)))) tape taped place)
set_option maxHeartbeats 4000000 in
set_option maxRecDepth 100000 in
theorem tX3_readOwners_31 {Q : Int32 → Int32 → (Nat → Int32) → Prop} {depths : (Nat → Int32)} {owners : (Nat → Int32)} {roofs : Int64} {rate : Int32} {undos : (Nat → Int32)} {undoMany : Int32} {drawn : Int32} {dug : Int64} {deep : Int64} {holes : (Nat → Int64)} {holeMany : Int32} {tape : (Nat → Int32)} {taped : Int32} {reads : Int32} {row : (Nat → Int32)} {order : (Nat → Int32)} {bestOrder : (Nat → Int32)} {nears : (Nat → Int32)} {isKept : Int32} {keptRoofs : Int64} {kept : (Nat → Int32)} {lanes : (Nat → Int32)} {rowSizes : (Nat → Int32)} {items : (Nat → Int64)} {moved : (Nat → Int64)} (S : CallFix p m c cX3_readOwners 3 s args lw_all RX3) (hK : va_K (dC, dI) vwCl (tysG dA) s) (hj : mJ h) (hret : hrX3_readOwners p l e s m args below meth c dC dI dA h Qw Q depths owners roofs rate undos undoMany drawn dug deep holes holeMany tape taped reads row order bestOrder nears isKept keptRoofs kept lanes rowSizes items moved) {k7 : Int32 → Int32 → (Nat → Int32) → Prop} (hk7 : ∀ (x1 : Int32) (place : Int32) (read_ : (Nat → Int32)) (H : Heap) (locs : List Loc) (ls : Array Slot), k7 x1 place read_ → va_P (dC, dI) vwCl (wM h dA depths owners roofs rate undos undoMany drawn dug deep holes holeMany tape taped place reads read_ row order bestOrder nears isKept keptRoofs kept lanes rowSizes items moved) H → va_S (mA h) s.heap H locs → lv_has ls 3 [(0, .ref (h 0)), (1, .int x1)] → W p l e RX3_readOwners_ s m args below meth c H locs 0 0 Qw (F0 m 7 ls [])) : ∀ (x1 : Int32) (place : Int32) (read_ : (Nat → Int32)) (H : Heap) (locs : List Loc) (ls : Array Slot), wX3_readOwners_31 Q k7 x1 tape taped place read_ → va_P (dC, dI) vwCl (wM h dA depths owners roofs rate undos undoMany drawn dug deep holes holeMany tape taped place reads read_ row order bestOrder nears isKept keptRoofs kept lanes rowSizes items moved) H → va_S (mA h) s.heap H locs → lv_has ls 3 [(0, .ref (h 0)), (1, .int x1)] → W p l e RX3_readOwners_ s m args below meth c H locs 0 0 Qw (F0 m 31 ls []) := by
  obtain ⟨hx, hb, hml, hown, hts⟩ := id S
  intro x1 place read_ H locs ls hf hP hS hl
  unfold wX3_readOwners_31 at hf
  refine lv_aload_n hx hb dX3_readOwners_31 rfl (lv_at hl 0 rfl) ?_
  refine cM_i (As := []) (rest := []) S hK rfl hP hS (metX3_nextLetter l hj hf) (lw_V q1347 q1349 qs31 q60 q1350) rfl pdX3_nextLetter ⟨rfl, rfl⟩ ⟨Nat.le_of_ble_eq_true rfl, Nat.le_of_ble_eq_true rfl⟩ rfl hl.1 rfl (Nat.le_of_ble_eq_true rfl) dX3_readOwners_32 ⟨Nat.zero_le _, Nat.zero_le _⟩ (fun r_32 u_32 H locs hf hP hS => ?_)
  obtain ⟨place_32, rfl⟩ : ∃ z, z = u_32 := ⟨_, rfl⟩
  replace hP : va_P (dC, dI) vwCl (wM h dA depths owners roofs rate undos undoMany drawn dug deep holes holeMany tape taped place_32 reads read_ row order bestOrder nears isKept keptRoofs kept lanes rowSizes items moved) H := hP
  refine lv_istore_n (lv' := [(2, .int r_32), (0, .ref (h 0)), (1, .int x1)]) hx hb dX3_readOwners_35 rfl hl (by decide) rfl (fun ls hl => ?_)
  refine lv_iload_n hx hb dX3_readOwners_36 rfl (lv_at hl 0 rfl) ?_
  refine lv_bipush (v := 45) hx hb dX3_readOwners_37 (by decide) ?_
  refine lv_icmp_eq (tgt := 58) hx hb dX3_readOwners_39 (by decide) (fun c_39 => ?_) (fun c_39 => ?_)
  · replace hf := hf.1 c_39
    exact tX3_readOwners_58 S hK hj hret hk7 x1 r_32 place_32 read_ _ _ _ hf hP hS (lv_sub hl [1, 2, 0] rfl)
  · replace hf := hf.2 c_39
    refine lv_iload_n hx hb dX3_readOwners_42 rfl (lv_at hl 0 rfl) ?_
    refine lv_i2l (v := (r_32 : Int32).toInt64) hx hb dX3_readOwners_43 rfl ?_
    refine lv_ldc2 (v := 48) hx hb hown (hts _ q1368) dX3_readOwners_44 ?_
    refine lv_ldc2 (v := 51) hx hb hown (hts _ q1369) dX3_readOwners_47 ?_
    refine cs_i (As := [.long (r_32 : Int32).toInt64, .long 48, .long 51]) (rest := []) S (metX3_in l hf) (lw_S q1268 q1269 q60 q1270) pdX3_in ⟨rfl, rfl⟩ ⟨Nat.le_of_ble_eq_true rfl, Nat.le_of_ble_eq_true rfl⟩ rfl hl.1 rfl (Nat.le_of_ble_eq_true rfl) dX3_readOwners_50 ⟨Nat.zero_le _, Nat.zero_le _⟩ (fun r_50 hf => ?_)
    refine lv_if_ne (tgt := 58) hx hb dX3_readOwners_53 (by decide) (fun c_53 => ?_) (fun c_53 => ?_)
    · replace hf := hf.2 c_53
      exact tX3_readOwners_58 S hK hj hret hk7 x1 r_32 place_32 read_ _ _ _ hf hP hS (lv_sub hl [1, 2, 0] rfl)
    · replace hf := hf.1 c_53
      refine lv_iconst (v := 0) hx hb dX3_readOwners_56 (by decide) ?_
      exact hret _ _ _ _ _ _ _ bz0 hf hP hS dX3_readOwners_57
def wX3_readOwners_7 (Q : Int32 → Int32 → (Nat → Int32) → Prop) (tape : (Nat → Int32)) (taped : Int32) : Nat → Int32 → Int32 → (Nat → Int32) → Prop
  | 0, _, _, _ => False
  | n + 1, x1, place, read_ => ((36 ≤ x1 → (wX3_nextLetter (fun r_95 place_95 => ((0 ≤ r_95 → (Q 0 place_95 read_)) ∧ (¬ 0 ≤ r_95 → (Q 1 place_95 read_)))) tape taped place)) ∧ (¬ 36 ≤ x1 → ((x1 ≤ 0 → (wX3_readOwners_31 Q (wX3_readOwners_7 Q tape taped n) x1 tape taped place read_)) ∧ (¬ x1 ≤ 0 → (((x1 - x1 / 6 * 6) = 0 → (wX3_takes (fun r_27 place_27 => (wX3_readOwners_31 Q (wX3_readOwners_7 Q tape taped n) x1 tape taped place_27 read_)) tape taped place 47)) ∧ (¬ (x1 - x1 / 6 * 6) = 0 → (wX3_readOwners_31 Q (wX3_readOwners_7 Q tape taped n) x1 tape taped place read_)))))))
set_option maxHeartbeats 4000000 in
set_option maxRecDepth 100000 in
theorem tX3_readOwners_7 {Q : Int32 → Int32 → (Nat → Int32) → Prop} {depths : (Nat → Int32)} {owners : (Nat → Int32)} {roofs : Int64} {rate : Int32} {undos : (Nat → Int32)} {undoMany : Int32} {drawn : Int32} {dug : Int64} {deep : Int64} {holes : (Nat → Int64)} {holeMany : Int32} {tape : (Nat → Int32)} {taped : Int32} {reads : Int32} {row : (Nat → Int32)} {order : (Nat → Int32)} {bestOrder : (Nat → Int32)} {nears : (Nat → Int32)} {isKept : Int32} {keptRoofs : Int64} {kept : (Nat → Int32)} {lanes : (Nat → Int32)} {rowSizes : (Nat → Int32)} {items : (Nat → Int64)} {moved : (Nat → Int64)} (S : CallFix p m c cX3_readOwners 3 s args lw_all RX3) (hK : va_K (dC, dI) vwCl (tysG dA) s) (hj : mJ h) (hret : hrX3_readOwners p l e s m args below meth c dC dI dA h Qw Q depths owners roofs rate undos undoMany drawn dug deep holes holeMany tape taped reads row order bestOrder nears isKept keptRoofs kept lanes rowSizes items moved) : ∀ (n : Nat) (x1 : Int32) (place : Int32) (read_ : (Nat → Int32)) (H : Heap) (locs : List Loc) (ls : Array Slot), wX3_readOwners_7 Q tape taped n x1 place read_ → va_P (dC, dI) vwCl (wM h dA depths owners roofs rate undos undoMany drawn dug deep holes holeMany tape taped place reads read_ row order bestOrder nears isKept keptRoofs kept lanes rowSizes items moved) H → va_S (mA h) s.heap H locs → lv_has ls 3 [(0, .ref (h 0)), (1, .int x1)] → W p l e RX3_readOwners_ s m args below meth c H locs 0 0 Qw (F0 m 7 ls []) := by
  obtain ⟨hx, hb, hml, hown, hts⟩ := id S
  intro n
  induction n with
  | zero => intro _ _ _ _ _ _ hf; exact hf.elim
  | succ n ih =>
    intro x1 place read_ H locs ls hf hP hS hl
    rw [wX3_readOwners_7] at hf
    refine lv_iload_n hx hb dX3_readOwners_7 rfl (lv_at hl 1 rfl) ?_
    refine lv_bipush (v := 36) hx hb dX3_readOwners_8 (by decide) ?_
    refine lv_icmp_ge (tgt := 94) hx hb dX3_readOwners_10 (by decide) (fun c_10 => ?_) (fun c_10 => ?_)
    · replace hf := hf.1 c_10
      refine lv_aload_n hx hb dX3_readOwners_94 rfl (lv_at hl 0 rfl) ?_
      refine cM_i (As := []) (rest := []) S hK rfl hP hS (metX3_nextLetter l hj hf) (lw_V q1347 q1349 qs31 q60 q1350) rfl pdX3_nextLetter ⟨rfl, rfl⟩ ⟨Nat.le_of_ble_eq_true rfl, Nat.le_of_ble_eq_true rfl⟩ rfl hl.1 rfl (Nat.le_of_ble_eq_true rfl) dX3_readOwners_95 ⟨Nat.zero_le _, Nat.zero_le _⟩ (fun r_95 u_95 H locs hf hP hS => ?_)
      obtain ⟨place_95, rfl⟩ : ∃ z, z = u_95 := ⟨_, rfl⟩
      replace hP : va_P (dC, dI) vwCl (wM h dA depths owners roofs rate undos undoMany drawn dug deep holes holeMany tape taped place_95 reads read_ row order bestOrder nears isKept keptRoofs kept lanes rowSizes items moved) H := hP
      refine lv_if_ge (tgt := 105) hx hb dX3_readOwners_98 (by decide) (fun c_98 => ?_) (fun c_98 => ?_)
      · replace hf := hf.1 c_98
        refine lv_iconst (v := 0) hx hb dX3_readOwners_105 (by decide) ?_
        exact hret _ _ _ _ _ _ _ bz0 hf hP hS dX3_readOwners_106
      · replace hf := hf.2 c_98
        refine lv_iconst (v := 1) hx hb dX3_readOwners_101 (by decide) ?_
        refine lv_goto (tgt := 106) hx hb dX3_readOwners_102 (by decide) ?_
        exact hret _ _ _ _ _ _ _ bz1 hf hP hS dX3_readOwners_106
    · replace hf := hf.2 c_10
      refine lv_iload_n hx hb dX3_readOwners_13 rfl (lv_at hl 1 rfl) ?_
      refine lv_if_le (tgt := 31) hx hb dX3_readOwners_14 (by decide) (fun c_14 => ?_) (fun c_14 => ?_)
      · replace hf := hf.1 c_14
        exact tX3_readOwners_31 S hK hj hret ih x1 place read_ _ _ _ hf hP hS (lv_sub hl [0, 1] rfl)
      · replace hf := hf.2 c_14
        refine lv_iload_n hx hb dX3_readOwners_17 rfl (lv_at hl 1 rfl) ?_
        refine lv_bipush (v := 6) hx hb dX3_readOwners_18 (by decide) ?_
        refine lv_irem hx hb dX3_readOwners_20 (by decide) ?_
        refine lv_if_ne (tgt := 31) hx hb dX3_readOwners_21 (by decide) (fun c_21 => ?_) (fun c_21 => ?_)
        · replace hf := hf.2 c_21
          exact tX3_readOwners_31 S hK hj hret ih x1 place read_ _ _ _ hf hP hS (lv_sub hl [0, 1] rfl)
        · replace hf := hf.1 c_21
          refine lv_aload_n hx hb dX3_readOwners_24 rfl (lv_at hl 0 rfl) ?_
          refine lv_bipush (v := 47) hx hb dX3_readOwners_25 (by decide) ?_
          refine cM_i (As := [.int 47]) (rest := []) S hK rfl hP hS (metX3_takes l hj hf) (lw_V q1343 q1345 qs30 q60 q1346) rfl pdX3_takes ⟨rfl, rfl⟩ ⟨Nat.le_of_ble_eq_true rfl, Nat.le_of_ble_eq_true rfl⟩ rfl hl.1 rfl (Nat.le_of_ble_eq_true rfl) dX3_readOwners_27 ⟨Nat.zero_le _, Nat.zero_le _⟩ (fun r_27 u_27 H locs hf hP hS => ?_)
          obtain ⟨place_27, rfl⟩ : ∃ z, z = u_27 := ⟨_, rfl⟩
          replace hP : va_P (dC, dI) vwCl (wM h dA depths owners roofs rate undos undoMany drawn dug deep holes holeMany tape taped place_27 reads read_ row order bestOrder nears isKept keptRoofs kept lanes rowSizes items moved) H := hP
          refine lv_pop hx hb dX3_readOwners_30 rfl ?_
          exact tX3_readOwners_31 S hK hj hret ih x1 place_27 read_ _ _ _ hf hP hS (lv_sub hl [0, 1] rfl)
def wX3_readOwners (Q : Int32 → Int32 → (Nat → Int32) → Prop) (tape : (Nat → Int32)) (taped : Int32) (place : Int32) (read_ : (Nat → Int32)) : Prop := (∃ fu : Nat, wX3_readOwners_7 Q tape taped fu 0 0 read_)
end
set_option maxHeartbeats 4000000 in
set_option maxRecDepth 100000 in
theorem metX3_readOwners (l : Launch) {Q : Int32 → Int32 → (Nat → Int32) → Prop} {depths : (Nat → Int32)} {owners : (Nat → Int32)} {roofs : Int64} {rate : Int32} {undos : (Nat → Int32)} {undoMany : Int32} {drawn : Int32} {dug : Int64} {deep : Int64} {holes : (Nat → Int64)} {holeMany : Int32} {tape : (Nat → Int32)} {taped : Int32} {place : Int32} {reads : Int32} {read_ : (Nat → Int32)} {row : (Nat → Int32)} {order : (Nat → Int32)} {bestOrder : (Nat → Int32)} {nears : (Nat → Int32)} {isKept : Int32} {keptRoofs : Int64} {kept : (Nat → Int32)} {lanes : (Nat → Int32)} {rowSizes : (Nat → Int32)} {items : (Nat → Int64)} {moved : (Nat → Int64)} {dC : Nat → ClassId} {dI : Nat → Nat → Nat} {dA : Nat → ClassId} {h : Nat → Nat} (hj : mJ h) (hf : wX3_readOwners Q tape taped place read_) : Met l yX3_readOwners (ws_ yX3_readOwners cX3_readOwners 3 (some .boolean)) rmX3_readOwners (mPc dC dI dA h [] (wM h dA depths owners roofs rate undos undoMany drawn dug deep holes holeMany tape taped place reads read_ row order bestOrder nears isKept keptRoofs kept lanes rowSizes items moved)) (va_Qi (fun (r : Int32) (u : Int32 × (Nat → Int32)) => Q r u.1 u.2) (fun u t => va_P (dC, dI) vwCl (wM h dA depths owners roofs rate undos undoMany drawn dug deep holes holeMany tape taped u.1 reads u.2 row order bestOrder nears isKept keptRoofs kept lanes rowSizes items moved) t.heap) (mA h)) 0 0 (mA h) := by
  refine Met.ofW (cc := cX3_readOwners) (maxL := 3) (ret := (some .boolean)) (by decide) rfl ?_
  intro p e s m args below meth c s₁ B hml hv
  obtain ⟨rfl, hP, hK⟩ := hv
  have hx := B.exec
  have hb := B.bytes
  have hr := B.returns
  have hts := atoms_spec (ws := (ws_ yX3_readOwners cX3_readOwners 3 (some .boolean))) B.pre
  have hts : ∀ w ∈ lw_all, w.before _ s = true := fun w h => hts w (List.mem_cons_of_mem _ h)
  have hown : s.vm.findClass RX3 = some m.cls := findClass_of_methodNamed B.named
  have hlocks := B.notSynchronized
  have S : CallFix p m c cX3_readOwners 3 s _ lw_all RX3 := ⟨hx, hb, hml, hown, hts⟩
  have hS : va_S (mA h) s.heap s.heap [] := va_S.rf
  have hl := lv_entry ([.ref (h 0)]) (n := 3) (Nat.le_of_ble_eq_true rfl)
  rw [lg_entry_eq]
  generalize (lg_sl ([.ref (h 0)]) ++ List.replicate (3 - (lg_sl ([.ref (h 0)])).length) Slot.unset).toArray = ls at hl ⊢
  replace hl : lv_has ls 3 [(0, .ref (h 0))] := hl
  have hret : hrX3_readOwners p l e s m ([.ref (h 0)] : List Value).toArray below meth c dC dI dA h (MQ below (va_Qi (fun (r : Int32) (u : Int32 × (Nat → Int32)) => Q r u.1 u.2) (fun u t => va_P (dC, dI) vwCl (wM h dA depths owners roofs rate undos undoMany drawn dug deep holes holeMany tape taped u.1 reads u.2 row order bestOrder nears isKept keptRoofs kept lanes rowSizes items moved) t.heap) (mA h)) ([.ref (h 0)] : List Value).toArray s 0 0 (mA h)) Q depths owners roofs rate undos undoMany drawn dug deep holes holeMany tape taped reads row order bestOrder nears isKept keptRoofs kept lanes rowSizes items moved := fun r place read_ H locs pc ls hz hq hP hS hd => W.zret hx hb hr hz.1 (fun t ht hW => ⟨⟨r, (place, read_), rfl, hq, by subst ht; exact hP⟩, hS.F ht⟩) hS.2.2 hd
  unfold wX3_readOwners at hf
  refine lv_aload_n hx hb dX3_readOwners_0 rfl (lv_at hl 0 rfl) ?_
  refine lv_iconst (v := 0) hx hb dX3_readOwners_1 (by decide) ?_
  refine pM_place S hK hj hP hS dX3_readOwners_2 (fun H locs hP hS => ?_)
  refine lv_iconst (v := 0) hx hb dX3_readOwners_5 (by decide) ?_
  refine lv_istore_n (lv' := [(1, .int 0), (0, .ref (h 0))]) hx hb dX3_readOwners_6 rfl hl (by decide) rfl (fun ls hl => ?_)
  obtain ⟨fu, hf⟩ := hf
  exact tX3_readOwners_7 S hK hj hret fu 0 0 read_ _ _ _ hf hP hS (lv_sub hl [1, 0] rfl)
/-! HoleCountyModel.owners()I -/
theorem pdX3_owners : DscOk yX3_owners 0 := by decide +kernel
abbrev rmX3_owners : Room := { frames := 3, cells := 0, slots := 0, locals := 64 }
abbrev RX3_owners_ : Room := (headSpec (ws_ yX3_owners cX3_owners 4 (some .int)) rmX3_owners).room
section
variable {p : Program} {l : Launch} {e : Env} {s : State} {m : MethodId} {args : Array Value} {below : List Frame} {meth : Method} {c : Code} {Qw : State → Prop} {dC : Nat → ClassId} {dI : Nat → Nat → Nat} {dA : Nat → ClassId} {h : Nat → Nat}
abbrev hrX3_owners (p : Program) (l : Launch) (e : Env) (s : State) (m : MethodId) (args : Array Value) (below : List Frame) (meth : Method) (c : Code) (dC : Nat → ClassId) (dI : Nat → Nat → Nat) (dA : Nat → ClassId) (h : Nat → Nat) (Qw : State → Prop) (Q : Int32 → (Nat → Int32) → Int32 → Int32 → (Nat → Int32) → Prop) (depths : (Nat → Int32)) (roofs : Int64) (rate : Int32) (undos : (Nat → Int32)) (undoMany : Int32) (drawn : Int32) (dug : Int64) (deep : Int64) (holes : (Nat → Int64)) (holeMany : Int32) (tape : (Nat → Int32)) (reads : Int32) (row : (Nat → Int32)) (order : (Nat → Int32)) (bestOrder : (Nat → Int32)) (nears : (Nat → Int32)) (isKept : Int32) (keptRoofs : Int64) (kept : (Nat → Int32)) (lanes : (Nat → Int32)) (rowSizes : (Nat → Int32)) (items : (Nat → Int64)) (moved : (Nat → Int64)) : Prop := ∀ (r : Int32) (owners : (Nat → Int32)) (taped : Int32) (place : Int32) (read_ : (Nat → Int32)) (H : Heap) (locs : List Loc) (pc : Nat) (ls : Array Slot), Q r owners taped place read_ → va_P (dC, dI) vwCl (wM h dA depths owners roofs rate undos undoMany drawn dug deep holes holeMany tape taped place reads read_ row order bestOrder nears isKept keptRoofs kept lanes rowSizes items moved) H → va_S (mA h) s.heap H locs → decode cX3_owners pc = .ok (.ireturn, 1) → W p l e RX3_owners_ s m args below meth c H locs 0 0 Qw (F0 m pc ls [.int r])
def wX3_owners_19 (Q : Int32 → (Nat → Int32) → Int32 → Int32 → (Nat → Int32) → Prop) (tape : (Nat → Int32)) (taped : Int32) (place : Int32) (read_ : (Nat → Int32)) : Nat → Int32 → Int32 → (Nat → Int32) → Prop
  | 0, _, _, _ => False
  | n + 1, x2, x3, owners => ((36 ≤ x3 → (Q x2 owners taped place read_)) ∧ (¬ 36 ≤ x3 → (vp_in x3 80 ∧ (vp_in x3 36 ∧ (∀ owners_36 : Nat → Int32, owners_36 = upd owners (x3 : Int32).toNatClampNeg (read_ (x3 : Int32).toNatClampNeg) → (vp_in x3 80 ∧ ((4 ≤ (read_ (x3 : Int32).toNatClampNeg) → (∀ x2_54 : Int32, x2_54 = (x2 + 0) → (∀ x3_55 : Int32, x3_55 = x3 + 1 → ((wX3_owners_19 Q tape taped place read_ n) x2_54 x3_55 owners_36)))) ∧ (¬ 4 ≤ (read_ (x3 : Int32).toNatClampNeg) → (∀ x2_54 : Int32, x2_54 = (x2 + 1) → (∀ x3_55 : Int32, x3_55 = x3 + 1 → ((wX3_owners_19 Q tape taped place read_ n) x2_54 x3_55 owners_36)))))))))))
set_option maxHeartbeats 4000000 in
set_option maxRecDepth 100000 in
theorem tX3_owners_19 {Q : Int32 → (Nat → Int32) → Int32 → Int32 → (Nat → Int32) → Prop} {depths : (Nat → Int32)} {roofs : Int64} {rate : Int32} {undos : (Nat → Int32)} {undoMany : Int32} {drawn : Int32} {dug : Int64} {deep : Int64} {holes : (Nat → Int64)} {holeMany : Int32} {tape : (Nat → Int32)} {taped : Int32} {place : Int32} {reads : Int32} {read_ : (Nat → Int32)} {row : (Nat → Int32)} {order : (Nat → Int32)} {bestOrder : (Nat → Int32)} {nears : (Nat → Int32)} {isKept : Int32} {keptRoofs : Int64} {kept : (Nat → Int32)} {lanes : (Nat → Int32)} {rowSizes : (Nat → Int32)} {items : (Nat → Int64)} {moved : (Nat → Int64)} (S : CallFix p m c cX3_owners 4 s args lw_all RX3) (hK : va_K (dC, dI) vwCl (tysG dA) s) (hj : mJ h) (hret : hrX3_owners p l e s m args below meth c dC dI dA h Qw Q depths roofs rate undos undoMany drawn dug deep holes holeMany tape reads row order bestOrder nears isKept keptRoofs kept lanes rowSizes items moved) : ∀ (n : Nat) (x2 : Int32) (x3 : Int32) (owners : (Nat → Int32)) (H : Heap) (locs : List Loc) (ls : Array Slot), wX3_owners_19 Q tape taped place read_ n x2 x3 owners → va_P (dC, dI) vwCl (wM h dA depths owners roofs rate undos undoMany drawn dug deep holes holeMany tape taped place reads read_ row order bestOrder nears isKept keptRoofs kept lanes rowSizes items moved) H → va_S (mA h) s.heap H locs → lv_has ls 4 [(0, .ref (h 0)), (2, .int x2), (3, .int x3)] → W p l e RX3_owners_ s m args below meth c H locs 0 0 Qw (F0 m 19 ls []) := by
  obtain ⟨hx, hb, hml, hown, hts⟩ := id S
  intro n
  induction n with
  | zero => intro _ _ _ _ _ _ hf; exact hf.elim
  | succ n ih =>
    intro x2 x3 owners H locs ls hf hP hS hl
    rw [wX3_owners_19] at hf
    refine lv_iload_n hx hb dX3_owners_19 rfl (lv_at hl 2 rfl) ?_
    refine lv_bipush (v := 36) hx hb dX3_owners_20 (by decide) ?_
    refine lv_icmp_ge (tgt := 61) hx hb dX3_owners_22 (by decide) (fun c_22 => ?_) (fun c_22 => ?_)
    · replace hf := hf.1 c_22
      refine lv_iload_n hx hb dX3_owners_61 rfl (lv_at hl 1 rfl) ?_
      exact hret _ _ _ _ _ _ _ _ _ hf hP hS dX3_owners_62
    · replace hf := hf.2 c_22
      refine lv_aload_n hx hb dX3_owners_25 rfl (lv_at hl 0 rfl) ?_
      refine gM_owners S hK hP dX3_owners_26 ?_
      refine lv_iload_n hx hb dX3_owners_29 rfl (lv_at hl 2 rfl) ?_
      refine lv_aload_n hx hb dX3_owners_30 rfl (lv_at hl 0 rfl) ?_
      refine gM_read_ S hK hP dX3_owners_31 ?_
      refine lv_iload_n hx hb dX3_owners_34 rfl (lv_at hl 2 rfl) ?_
      obtain ⟨hin, hf⟩ := hf
      refine lM_read_ S hK hP hin dX3_owners_35 ?_
      obtain ⟨hin, hf⟩ := hf
      obtain ⟨owners_36, eowners_36⟩ : ∃ z : Nat → Int32, z = upd owners (x3 : Int32).toNatClampNeg (read_ (x3 : Int32).toNatClampNeg) := ⟨_, rfl⟩
      replace hf := hf owners_36 eowners_36
      refine sM_owners S hK hj hP hS hin eowners_36 dX3_owners_36 (fun H locs hP hS => ?_)
      refine lv_iload_n hx hb dX3_owners_37 rfl (lv_at hl 1 rfl) ?_
      refine lv_aload_n hx hb dX3_owners_38 rfl (lv_at hl 0 rfl) ?_
      refine gM_read_ S hK hP dX3_owners_39 ?_
      refine lv_iload_n hx hb dX3_owners_42 rfl (lv_at hl 2 rfl) ?_
      obtain ⟨hin, hf⟩ := hf
      refine lM_read_ S hK hP hin dX3_owners_43 ?_
      refine lv_iconst (v := 4) hx hb dX3_owners_44 (by decide) ?_
      refine lv_icmp_ge (tgt := 52) hx hb dX3_owners_45 (by decide) (fun c_45 => ?_) (fun c_45 => ?_)
      · replace hf := hf.1 c_45
        refine lv_iconst (v := 0) hx hb dX3_owners_52 (by decide) ?_
        refine lv_iadd hx hb dX3_owners_53 ?_
        refine lv_topi (fun x2_54 ex2_54 => ?_)
        replace hf := hf x2_54 ex2_54
        refine lv_istore_n (lv' := [(2, .int x2_54), (0, .ref (h 0)), (3, .int x3)]) hx hb dX3_owners_54 rfl hl (by decide) rfl (fun ls hl => ?_)
        obtain ⟨x3_55, ex3_55⟩ : ∃ z : Int32, z = x3 + 1 := ⟨_, rfl⟩
        replace hf := hf x3_55 ex3_55
        refine lv_iinc (v := x3_55) (lv' := [(3, .int x3_55), (2, .int x2_54), (0, .ref (h 0))]) hx hb dX3_owners_55 hl (k := 2) rfl (by rw [ex3_55]; rfl) (by decide) rfl (fun ls hl => ?_)
        refine lv_goto (tgt := 19) hx hb dX3_owners_58 (by decide) ?_
        exact ih x2_54 x3_55 owners_36 _ _ _ hf hP hS (lv_sub hl [2, 1, 0] rfl)
      · replace hf := hf.2 c_45
        refine lv_iconst (v := 1) hx hb dX3_owners_48 (by decide) ?_
        refine lv_goto (tgt := 53) hx hb dX3_owners_49 (by decide) ?_
        refine lv_iadd hx hb dX3_owners_53 ?_
        refine lv_topi (fun x2_54 ex2_54 => ?_)
        replace hf := hf x2_54 ex2_54
        refine lv_istore_n (lv' := [(2, .int x2_54), (0, .ref (h 0)), (3, .int x3)]) hx hb dX3_owners_54 rfl hl (by decide) rfl (fun ls hl => ?_)
        obtain ⟨x3_55, ex3_55⟩ : ∃ z : Int32, z = x3 + 1 := ⟨_, rfl⟩
        replace hf := hf x3_55 ex3_55
        refine lv_iinc (v := x3_55) (lv' := [(3, .int x3_55), (2, .int x2_54), (0, .ref (h 0))]) hx hb dX3_owners_55 hl (k := 2) rfl (by rw [ex3_55]; rfl) (by decide) rfl (fun ls hl => ?_)
        refine lv_goto (tgt := 19) hx hb dX3_owners_58 (by decide) ?_
        exact ih x2_54 x3_55 owners_36 _ _ _ hf hP hS (lv_sub hl [2, 1, 0] rfl)
def wX3_owners (Q : Int32 → (Nat → Int32) → Int32 → Int32 → (Nat → Int32) → Prop) (owners : (Nat → Int32)) (tape : (Nat → Int32)) (taped : Int32) (place : Int32) (read_ : (Nat → Int32)) : Prop := (wX3_readOwners (fun r_2 place_2 read__2 => (wX3_end (fun r_5 taped_5 place_5 => ((0 ≤ r_5 → (∃ fu : Nat, wX3_owners_19 Q tape taped_5 place_5 read__2 fu 0 0 owners)) ∧ (¬ 0 ≤ r_5 → (Q r_5 owners taped_5 place_5 read__2)))) tape taped place_2 r_2)) tape taped place read_)
end
set_option maxHeartbeats 4000000 in
set_option maxRecDepth 100000 in
theorem metX3_owners (l : Launch) {Q : Int32 → (Nat → Int32) → Int32 → Int32 → (Nat → Int32) → Prop} {depths : (Nat → Int32)} {owners : (Nat → Int32)} {roofs : Int64} {rate : Int32} {undos : (Nat → Int32)} {undoMany : Int32} {drawn : Int32} {dug : Int64} {deep : Int64} {holes : (Nat → Int64)} {holeMany : Int32} {tape : (Nat → Int32)} {taped : Int32} {place : Int32} {reads : Int32} {read_ : (Nat → Int32)} {row : (Nat → Int32)} {order : (Nat → Int32)} {bestOrder : (Nat → Int32)} {nears : (Nat → Int32)} {isKept : Int32} {keptRoofs : Int64} {kept : (Nat → Int32)} {lanes : (Nat → Int32)} {rowSizes : (Nat → Int32)} {items : (Nat → Int64)} {moved : (Nat → Int64)} {dC : Nat → ClassId} {dI : Nat → Nat → Nat} {dA : Nat → ClassId} {h : Nat → Nat} (hj : mJ h) (hf : wX3_owners Q owners tape taped place read_) : Met l yX3_owners (ws_ yX3_owners cX3_owners 4 (some .int)) rmX3_owners (mPc dC dI dA h [] (wM h dA depths owners roofs rate undos undoMany drawn dug deep holes holeMany tape taped place reads read_ row order bestOrder nears isKept keptRoofs kept lanes rowSizes items moved)) (va_Qi (fun (r : Int32) (u : (Nat → Int32) × Int32 × Int32 × (Nat → Int32)) => Q r u.1 u.2.1 u.2.2.1 u.2.2.2) (fun u t => va_P (dC, dI) vwCl (wM h dA depths u.1 roofs rate undos undoMany drawn dug deep holes holeMany tape u.2.1 u.2.2.1 reads u.2.2.2 row order bestOrder nears isKept keptRoofs kept lanes rowSizes items moved) t.heap) (mA h)) 0 0 (mA h) := by
  refine Met.ofW (cc := cX3_owners) (maxL := 4) (ret := (some .int)) (by decide) rfl ?_
  intro p e s m args below meth c s₁ B hml hv
  obtain ⟨rfl, hP, hK⟩ := hv
  have hx := B.exec
  have hb := B.bytes
  have hr := B.returns
  have hts := atoms_spec (ws := (ws_ yX3_owners cX3_owners 4 (some .int))) B.pre
  have hts : ∀ w ∈ lw_all, w.before _ s = true := fun w h => hts w (List.mem_cons_of_mem _ h)
  have hown : s.vm.findClass RX3 = some m.cls := findClass_of_methodNamed B.named
  have hlocks := B.notSynchronized
  have S : CallFix p m c cX3_owners 4 s _ lw_all RX3 := ⟨hx, hb, hml, hown, hts⟩
  have hS : va_S (mA h) s.heap s.heap [] := va_S.rf
  have hl := lv_entry ([.ref (h 0)]) (n := 4) (Nat.le_of_ble_eq_true rfl)
  rw [lg_entry_eq]
  generalize (lg_sl ([.ref (h 0)]) ++ List.replicate (4 - (lg_sl ([.ref (h 0)])).length) Slot.unset).toArray = ls at hl ⊢
  replace hl : lv_has ls 4 [(0, .ref (h 0))] := hl
  have hret : hrX3_owners p l e s m ([.ref (h 0)] : List Value).toArray below meth c dC dI dA h (MQ below (va_Qi (fun (r : Int32) (u : (Nat → Int32) × Int32 × Int32 × (Nat → Int32)) => Q r u.1 u.2.1 u.2.2.1 u.2.2.2) (fun u t => va_P (dC, dI) vwCl (wM h dA depths u.1 roofs rate undos undoMany drawn dug deep holes holeMany tape u.2.1 u.2.2.1 reads u.2.2.2 row order bestOrder nears isKept keptRoofs kept lanes rowSizes items moved) t.heap) (mA h)) ([.ref (h 0)] : List Value).toArray s 0 0 (mA h)) Q depths roofs rate undos undoMany drawn dug deep holes holeMany tape reads row order bestOrder nears isKept keptRoofs kept lanes rowSizes items moved := fun r owners taped place read_ H locs pc ls hq hP hS hd => W.iret hx hb hr (fun t ht hW => ⟨⟨r, (owners, taped, place, read_), rfl, hq, by subst ht; exact hP⟩, hS.F ht⟩) hS.2.2 hd
  unfold wX3_owners at hf
  refine lv_aload_n hx hb dX3_owners_0 rfl (lv_at hl 0 rfl) ?_
  refine lv_aload_n hx hb dX3_owners_1 rfl (lv_at hl 0 rfl) ?_
  refine cM_i (As := []) (rest := [.ref (h 0)]) S hK rfl hP hS (metX3_readOwners l hj hf) (lw_V q1364 q1366 qs34 q60 q1367) rfl pdX3_readOwners ⟨rfl, rfl⟩ ⟨Nat.le_of_ble_eq_true rfl, Nat.le_of_ble_eq_true rfl⟩ rfl hl.1 rfl (Nat.le_of_ble_eq_true rfl) dX3_owners_2 ⟨Nat.zero_le _, Nat.zero_le _⟩ (fun r_2 u_2 H locs hf hP hS => ?_)
  obtain ⟨place_2, read__2⟩ := u_2
  replace hP : va_P (dC, dI) vwCl (wM h dA depths owners roofs rate undos undoMany drawn dug deep holes holeMany tape taped place_2 reads read__2 row order bestOrder nears isKept keptRoofs kept lanes rowSizes items moved) H := hP
  try dsimp only at hf
  refine cM_i (As := [.int r_2]) (rest := []) S hK rfl hP hS (metX3_end l hj hf) (lw_V q1352 q1354 qs32 q60 q1355) rfl pdX3_end ⟨rfl, rfl⟩ ⟨Nat.le_of_ble_eq_true rfl, Nat.le_of_ble_eq_true rfl⟩ rfl hl.1 rfl (Nat.le_of_ble_eq_true rfl) dX3_owners_5 ⟨Nat.zero_le _, Nat.zero_le _⟩ (fun r_5 u_5 H locs hf hP hS => ?_)
  obtain ⟨taped_5, place_5⟩ := u_5
  replace hP : va_P (dC, dI) vwCl (wM h dA depths owners roofs rate undos undoMany drawn dug deep holes holeMany tape taped_5 place_5 reads read__2 row order bestOrder nears isKept keptRoofs kept lanes rowSizes items moved) H := hP
  try dsimp only at hf
  refine lv_istore_n (lv' := [(1, .int r_5), (0, .ref (h 0))]) hx hb dX3_owners_8 rfl hl (by decide) rfl (fun ls hl => ?_)
  refine lv_iload_n hx hb dX3_owners_9 rfl (lv_at hl 0 rfl) ?_
  refine lv_if_ge (tgt := 15) hx hb dX3_owners_10 (by decide) (fun c_10 => ?_) (fun c_10 => ?_)
  · replace hf := hf.1 c_10
    refine lv_iconst (v := 0) hx hb dX3_owners_15 (by decide) ?_
    refine lv_istore_n (lv' := [(2, .int 0), (1, .int r_5), (0, .ref (h 0))]) hx hb dX3_owners_16 rfl hl (by decide) rfl (fun ls hl => ?_)
    refine lv_iconst (v := 0) hx hb dX3_owners_17 (by decide) ?_
    refine lv_istore_n (lv' := [(3, .int 0), (2, .int 0), (1, .int r_5), (0, .ref (h 0))]) hx hb dX3_owners_18 rfl hl (by decide) rfl (fun ls hl => ?_)
    obtain ⟨fu, hf⟩ := hf
    exact tX3_owners_19 S hK hj hret fu 0 0 owners _ _ _ hf hP hS (lv_sub hl [3, 1, 0] rfl)
  · replace hf := hf.2 c_10
    refine lv_iload_n hx hb dX3_owners_13 rfl (lv_at hl 0 rfl) ?_
    exact hret _ _ _ _ _ _ _ _ _ hf hP hS dX3_owners_14
/-! HoleCountyModel.readAct()Z -/
theorem pdX3_readAct : DscOk yX3_readAct 0 := by decide +kernel
abbrev rmX3_readAct : Room := { frames := 1, cells := 0, slots := 0, locals := 25 }
abbrev RX3_readAct_ : Room := (headSpec (ws_ yX3_readAct cX3_readAct 4 (some .boolean)) rmX3_readAct).room
section
variable {p : Program} {l : Launch} {e : Env} {s : State} {m : MethodId} {args : Array Value} {below : List Frame} {meth : Method} {c : Code} {Qw : State → Prop} {dC : Nat → ClassId} {dI : Nat → Nat → Nat} {dA : Nat → ClassId} {h : Nat → Nat}
abbrev hrX3_readAct (p : Program) (l : Launch) (e : Env) (s : State) (m : MethodId) (args : Array Value) (below : List Frame) (meth : Method) (c : Code) (dC : Nat → ClassId) (dI : Nat → Nat → Nat) (dA : Nat → ClassId) (h : Nat → Nat) (Qw : State → Prop) (Q : Int32 → Int32 → (Nat → Int32) → Prop) (depths : (Nat → Int32)) (owners : (Nat → Int32)) (roofs : Int64) (rate : Int32) (undos : (Nat → Int32)) (undoMany : Int32) (drawn : Int32) (dug : Int64) (deep : Int64) (holes : (Nat → Int64)) (holeMany : Int32) (tape : (Nat → Int32)) (taped : Int32) (reads : Int32) (row : (Nat → Int32)) (order : (Nat → Int32)) (bestOrder : (Nat → Int32)) (nears : (Nat → Int32)) (isKept : Int32) (keptRoofs : Int64) (kept : (Nat → Int32)) (lanes : (Nat → Int32)) (rowSizes : (Nat → Int32)) (items : (Nat → Int64)) (moved : (Nat → Int64)) : Prop := ∀ (r : Int32) (place : Int32) (read_ : (Nat → Int32)) (H : Heap) (locs : List Loc) (pc : Nat) (ls : Array Slot), bz r → Q r place read_ → va_P (dC, dI) vwCl (wM h dA depths owners roofs rate undos undoMany drawn dug deep holes holeMany tape taped place reads read_ row order bestOrder nears isKept keptRoofs kept lanes rowSizes items moved) H → va_S (mA h) s.heap H locs → decode cX3_readAct pc = .ok (.ireturn, 1) → W p l e RX3_readAct_ s m args below meth c H locs 0 0 Qw (F0 m pc ls [.int r])
def wX3_readAct_25 (Q : Int32 → Int32 → (Nat → Int32) → Prop) (x1 : Int32) (tape : (Nat → Int32)) (taped : Int32) (place : Int32) (reads : Int32) (read_ : (Nat → Int32)) : Prop := (∀ place_32 : Int32, place_32 = (place + 1) → (wX3_nextLetter (fun r_36 place_36 => (∀ x2_42 : Int32, x2_42 = (r_36 - 48) → (wX3_in (fun r_49 => ((r_49 = 0 → (Q 0 place_36 read_)) ∧ (¬ r_49 = 0 → (∀ place_64 : Int32, place_64 = (place_36 + 1) → (wX3_nextLetter (fun r_68 place_68 => (∀ x3_74 : Int32, x3_74 = (r_68 - 48) → (wX3_in (fun r_81 => ((r_81 = 0 → (Q 0 place_68 read_)) ∧ (¬ r_81 = 0 → (∀ place_96 : Int32, place_96 = (place_68 + 1) → (vp_in reads 80 ∧ (∀ read__118 : Nat → Int32, read__118 = upd read_ (reads : Int32).toNatClampNeg (((100 * x1) + (6 * x2_42)) + x3_74) → (Q 1 place_96 read__118))))))) ((x3_74 : Int32).toInt64) 0 5))) tape taped place_64))))) ((x2_42 : Int32).toInt64) 0 5))) tape taped place_32))
set_option maxHeartbeats 4000000 in
set_option maxRecDepth 100000 in
theorem tX3_readAct_25 {Q : Int32 → Int32 → (Nat → Int32) → Prop} {depths : (Nat → Int32)} {owners : (Nat → Int32)} {roofs : Int64} {rate : Int32} {undos : (Nat → Int32)} {undoMany : Int32} {drawn : Int32} {dug : Int64} {deep : Int64} {holes : (Nat → Int64)} {holeMany : Int32} {tape : (Nat → Int32)} {taped : Int32} {reads : Int32} {row : (Nat → Int32)} {order : (Nat → Int32)} {bestOrder : (Nat → Int32)} {nears : (Nat → Int32)} {isKept : Int32} {keptRoofs : Int64} {kept : (Nat → Int32)} {lanes : (Nat → Int32)} {rowSizes : (Nat → Int32)} {items : (Nat → Int64)} {moved : (Nat → Int64)} (S : CallFix p m c cX3_readAct 4 s args lw_all RX3) (hK : va_K (dC, dI) vwCl (tysG dA) s) (hj : mJ h) (hret : hrX3_readAct p l e s m args below meth c dC dI dA h Qw Q depths owners roofs rate undos undoMany drawn dug deep holes holeMany tape taped reads row order bestOrder nears isKept keptRoofs kept lanes rowSizes items moved) : ∀ (x1 : Int32) (place : Int32) (read_ : (Nat → Int32)) (H : Heap) (locs : List Loc) (ls : Array Slot), wX3_readAct_25 Q x1 tape taped place reads read_ → va_P (dC, dI) vwCl (wM h dA depths owners roofs rate undos undoMany drawn dug deep holes holeMany tape taped place reads read_ row order bestOrder nears isKept keptRoofs kept lanes rowSizes items moved) H → va_S (mA h) s.heap H locs → lv_has ls 4 [(0, .ref (h 0)), (1, .int x1)] → W p l e RX3_readAct_ s m args below meth c H locs 0 0 Qw (F0 m 25 ls []) := by
  obtain ⟨hx, hb, hml, hown, hts⟩ := id S
  intro x1 place read_ H locs ls hf hP hS hl
  unfold wX3_readAct_25 at hf
  refine lv_aload_n hx hb dX3_readAct_25 rfl (lv_at hl 0 rfl) ?_
  refine lv_dup hx hb dX3_readAct_26 rfl ?_
  refine gM_place S hK hP dX3_readAct_27 ?_
  refine lv_iconst (v := 1) hx hb dX3_readAct_30 (by decide) ?_
  refine lv_iadd hx hb dX3_readAct_31 ?_
  refine lv_topi (fun place_32 eplace_32 => ?_)
  replace hf := hf place_32 eplace_32
  refine pM_place S hK hj hP hS dX3_readAct_32 (fun H locs hP hS => ?_)
  refine lv_aload_n hx hb dX3_readAct_35 rfl (lv_at hl 0 rfl) ?_
  refine cM_i (As := []) (rest := []) S hK rfl hP hS (metX3_nextLetter l hj hf) (lw_V q1347 q1349 qs31 q60 q1350) rfl pdX3_nextLetter ⟨rfl, rfl⟩ ⟨Nat.le_of_ble_eq_true rfl, Nat.le_of_ble_eq_true rfl⟩ rfl hl.1 rfl (Nat.le_of_ble_eq_true rfl) dX3_readAct_36 ⟨Nat.zero_le _, Nat.zero_le _⟩ (fun r_36 u_36 H locs hf hP hS => ?_)
  obtain ⟨place_36, rfl⟩ : ∃ z, z = u_36 := ⟨_, rfl⟩
  replace hP : va_P (dC, dI) vwCl (wM h dA depths owners roofs rate undos undoMany drawn dug deep holes holeMany tape taped place_36 reads read_ row order bestOrder nears isKept keptRoofs kept lanes rowSizes items moved) H := hP
  refine lv_bipush (v := 48) hx hb dX3_readAct_39 (by decide) ?_
  refine lv_isub hx hb dX3_readAct_41 ?_
  refine lv_topi (fun x2_42 ex2_42 => ?_)
  replace hf := hf x2_42 ex2_42
  refine lv_istore_n (lv' := [(2, .int x2_42), (0, .ref (h 0)), (1, .int x1)]) hx hb dX3_readAct_42 rfl hl (by decide) rfl (fun ls hl => ?_)
  refine lv_iload_n hx hb dX3_readAct_43 rfl (lv_at hl 0 rfl) ?_
  refine lv_i2l (v := (x2_42 : Int32).toInt64) hx hb dX3_readAct_44 rfl ?_
  refine lv_lconst (v := 0) hx hb dX3_readAct_45 (by decide) ?_
  refine lv_ldc2 (v := 5) hx hb hown (hts _ q1382) dX3_readAct_46 ?_
  refine cs_i (As := [.long (x2_42 : Int32).toInt64, .long 0, .long 5]) (rest := []) S (metX3_in l hf) (lw_S q1268 q1269 q60 q1270) pdX3_in ⟨rfl, rfl⟩ ⟨Nat.le_of_ble_eq_true rfl, Nat.le_of_ble_eq_true rfl⟩ rfl hl.1 rfl (Nat.le_of_ble_eq_true rfl) dX3_readAct_49 ⟨Nat.zero_le _, Nat.zero_le _⟩ (fun r_49 hf => ?_)
  refine lv_if_ne (tgt := 57) hx hb dX3_readAct_52 (by decide) (fun c_52 => ?_) (fun c_52 => ?_)
  · replace hf := hf.2 c_52
    refine lv_aload_n hx hb dX3_readAct_57 rfl (lv_at hl 1 rfl) ?_
    refine lv_dup hx hb dX3_readAct_58 rfl ?_
    refine gM_place S hK hP dX3_readAct_59 ?_
    refine lv_iconst (v := 1) hx hb dX3_readAct_62 (by decide) ?_
    refine lv_iadd hx hb dX3_readAct_63 ?_
    refine lv_topi (fun place_64 eplace_64 => ?_)
    replace hf := hf place_64 eplace_64
    refine pM_place S hK hj hP hS dX3_readAct_64 (fun H locs hP hS => ?_)
    refine lv_aload_n hx hb dX3_readAct_67 rfl (lv_at hl 1 rfl) ?_
    refine cM_i (As := []) (rest := []) S hK rfl hP hS (metX3_nextLetter l hj hf) (lw_V q1347 q1349 qs31 q60 q1350) rfl pdX3_nextLetter ⟨rfl, rfl⟩ ⟨Nat.le_of_ble_eq_true rfl, Nat.le_of_ble_eq_true rfl⟩ rfl hl.1 rfl (Nat.le_of_ble_eq_true rfl) dX3_readAct_68 ⟨Nat.zero_le _, Nat.zero_le _⟩ (fun r_68 u_68 H locs hf hP hS => ?_)
    obtain ⟨place_68, rfl⟩ : ∃ z, z = u_68 := ⟨_, rfl⟩
    replace hP : va_P (dC, dI) vwCl (wM h dA depths owners roofs rate undos undoMany drawn dug deep holes holeMany tape taped place_68 reads read_ row order bestOrder nears isKept keptRoofs kept lanes rowSizes items moved) H := hP
    refine lv_bipush (v := 48) hx hb dX3_readAct_71 (by decide) ?_
    refine lv_isub hx hb dX3_readAct_73 ?_
    refine lv_topi (fun x3_74 ex3_74 => ?_)
    replace hf := hf x3_74 ex3_74
    refine lv_istore_n (lv' := [(3, .int x3_74), (2, .int x2_42), (0, .ref (h 0)), (1, .int x1)]) hx hb dX3_readAct_74 rfl hl (by decide) rfl (fun ls hl => ?_)
    refine lv_iload_n hx hb dX3_readAct_75 rfl (lv_at hl 0 rfl) ?_
    refine lv_i2l (v := (x3_74 : Int32).toInt64) hx hb dX3_readAct_76 rfl ?_
    refine lv_lconst (v := 0) hx hb dX3_readAct_77 (by decide) ?_
    refine lv_ldc2 (v := 5) hx hb hown (hts _ q1382) dX3_readAct_78 ?_
    refine cs_i (As := [.long (x3_74 : Int32).toInt64, .long 0, .long 5]) (rest := []) S (metX3_in l hf) (lw_S q1268 q1269 q60 q1270) pdX3_in ⟨rfl, rfl⟩ ⟨Nat.le_of_ble_eq_true rfl, Nat.le_of_ble_eq_true rfl⟩ rfl hl.1 rfl (Nat.le_of_ble_eq_true rfl) dX3_readAct_81 ⟨Nat.zero_le _, Nat.zero_le _⟩ (fun r_81 hf => ?_)
    refine lv_if_ne (tgt := 89) hx hb dX3_readAct_84 (by decide) (fun c_84 => ?_) (fun c_84 => ?_)
    · replace hf := hf.2 c_84
      refine lv_aload_n hx hb dX3_readAct_89 rfl (lv_at hl 2 rfl) ?_
      refine lv_dup hx hb dX3_readAct_90 rfl ?_
      refine gM_place S hK hP dX3_readAct_91 ?_
      refine lv_iconst (v := 1) hx hb dX3_readAct_94 (by decide) ?_
      refine lv_iadd hx hb dX3_readAct_95 ?_
      refine lv_topi (fun place_96 eplace_96 => ?_)
      replace hf := hf place_96 eplace_96
      refine pM_place S hK hj hP hS dX3_readAct_96 (fun H locs hP hS => ?_)
      refine lv_aload_n hx hb dX3_readAct_99 rfl (lv_at hl 2 rfl) ?_
      refine gM_read_ S hK hP dX3_readAct_100 ?_
      refine lv_aload_n hx hb dX3_readAct_103 rfl (lv_at hl 2 rfl) ?_
      refine gM_reads S hK hP dX3_readAct_104 ?_
      refine lv_bipush (v := 100) hx hb dX3_readAct_107 (by decide) ?_
      refine lv_iload_n hx hb dX3_readAct_109 rfl (lv_at hl 3 rfl) ?_
      refine lv_imul hx hb dX3_readAct_110 ?_
      refine lv_bipush (v := 6) hx hb dX3_readAct_111 (by decide) ?_
      refine lv_iload_n hx hb dX3_readAct_113 rfl (lv_at hl 1 rfl) ?_
      refine lv_imul hx hb dX3_readAct_114 ?_
      refine lv_iadd hx hb dX3_readAct_115 ?_
      refine lv_iload_n hx hb dX3_readAct_116 rfl (lv_at hl 0 rfl) ?_
      refine lv_iadd hx hb dX3_readAct_117 ?_
      obtain ⟨hin, hf⟩ := hf
      obtain ⟨read__118, eread__118⟩ : ∃ z : Nat → Int32, z = upd read_ (reads : Int32).toNatClampNeg (((100 * x1) + (6 * x2_42)) + x3_74) := ⟨_, rfl⟩
      replace hf := hf read__118 eread__118
      refine sM_read_ S hK hj hP hS hin eread__118 dX3_readAct_118 (fun H locs hP hS => ?_)
      refine lv_iconst (v := 1) hx hb dX3_readAct_119 (by decide) ?_
      exact hret _ _ _ _ _ _ _ bz1 hf hP hS dX3_readAct_120
    · replace hf := hf.1 c_84
      refine lv_iconst (v := 0) hx hb dX3_readAct_87 (by decide) ?_
      exact hret _ _ _ _ _ _ _ bz0 hf hP hS dX3_readAct_88
  · replace hf := hf.1 c_52
    refine lv_iconst (v := 0) hx hb dX3_readAct_55 (by decide) ?_
    exact hret _ _ _ _ _ _ _ bz0 hf hP hS dX3_readAct_56
def wX3_readAct (Q : Int32 → Int32 → (Nat → Int32) → Prop) (tape : (Nat → Int32)) (taped : Int32) (place : Int32) (reads : Int32) (read_ : (Nat → Int32)) : Prop := (wX3_nextLetter (fun r_1 place_1 => ((r_1 = 100 → (wX3_readAct_25 Q r_1 tape taped place_1 reads read_)) ∧ (¬ r_1 = 100 → ((r_1 = 102 → (wX3_readAct_25 Q r_1 tape taped place_1 reads read_)) ∧ (¬ r_1 = 102 → ((r_1 = 114 → (wX3_readAct_25 Q r_1 tape taped place_1 reads read_)) ∧ (¬ r_1 = 114 → (Q 0 place_1 read_)))))))) tape taped place)
end
set_option maxHeartbeats 4000000 in
set_option maxRecDepth 100000 in
theorem metX3_readAct (l : Launch) {Q : Int32 → Int32 → (Nat → Int32) → Prop} {depths : (Nat → Int32)} {owners : (Nat → Int32)} {roofs : Int64} {rate : Int32} {undos : (Nat → Int32)} {undoMany : Int32} {drawn : Int32} {dug : Int64} {deep : Int64} {holes : (Nat → Int64)} {holeMany : Int32} {tape : (Nat → Int32)} {taped : Int32} {place : Int32} {reads : Int32} {read_ : (Nat → Int32)} {row : (Nat → Int32)} {order : (Nat → Int32)} {bestOrder : (Nat → Int32)} {nears : (Nat → Int32)} {isKept : Int32} {keptRoofs : Int64} {kept : (Nat → Int32)} {lanes : (Nat → Int32)} {rowSizes : (Nat → Int32)} {items : (Nat → Int64)} {moved : (Nat → Int64)} {dC : Nat → ClassId} {dI : Nat → Nat → Nat} {dA : Nat → ClassId} {h : Nat → Nat} (hj : mJ h) (hf : wX3_readAct Q tape taped place reads read_) : Met l yX3_readAct (ws_ yX3_readAct cX3_readAct 4 (some .boolean)) rmX3_readAct (mPc dC dI dA h [] (wM h dA depths owners roofs rate undos undoMany drawn dug deep holes holeMany tape taped place reads read_ row order bestOrder nears isKept keptRoofs kept lanes rowSizes items moved)) (va_Qi (fun (r : Int32) (u : Int32 × (Nat → Int32)) => Q r u.1 u.2) (fun u t => va_P (dC, dI) vwCl (wM h dA depths owners roofs rate undos undoMany drawn dug deep holes holeMany tape taped u.1 reads u.2 row order bestOrder nears isKept keptRoofs kept lanes rowSizes items moved) t.heap) (mA h)) 0 0 (mA h) := by
  refine Met.ofW (cc := cX3_readAct) (maxL := 4) (ret := (some .boolean)) (by decide) rfl ?_
  intro p e s m args below meth c s₁ B hml hv
  obtain ⟨rfl, hP, hK⟩ := hv
  have hx := B.exec
  have hb := B.bytes
  have hr := B.returns
  have hts := atoms_spec (ws := (ws_ yX3_readAct cX3_readAct 4 (some .boolean))) B.pre
  have hts : ∀ w ∈ lw_all, w.before _ s = true := fun w h => hts w (List.mem_cons_of_mem _ h)
  have hown : s.vm.findClass RX3 = some m.cls := findClass_of_methodNamed B.named
  have hlocks := B.notSynchronized
  have S : CallFix p m c cX3_readAct 4 s _ lw_all RX3 := ⟨hx, hb, hml, hown, hts⟩
  have hS : va_S (mA h) s.heap s.heap [] := va_S.rf
  have hl := lv_entry ([.ref (h 0)]) (n := 4) (Nat.le_of_ble_eq_true rfl)
  rw [lg_entry_eq]
  generalize (lg_sl ([.ref (h 0)]) ++ List.replicate (4 - (lg_sl ([.ref (h 0)])).length) Slot.unset).toArray = ls at hl ⊢
  replace hl : lv_has ls 4 [(0, .ref (h 0))] := hl
  have hret : hrX3_readAct p l e s m ([.ref (h 0)] : List Value).toArray below meth c dC dI dA h (MQ below (va_Qi (fun (r : Int32) (u : Int32 × (Nat → Int32)) => Q r u.1 u.2) (fun u t => va_P (dC, dI) vwCl (wM h dA depths owners roofs rate undos undoMany drawn dug deep holes holeMany tape taped u.1 reads u.2 row order bestOrder nears isKept keptRoofs kept lanes rowSizes items moved) t.heap) (mA h)) ([.ref (h 0)] : List Value).toArray s 0 0 (mA h)) Q depths owners roofs rate undos undoMany drawn dug deep holes holeMany tape taped reads row order bestOrder nears isKept keptRoofs kept lanes rowSizes items moved := fun r place read_ H locs pc ls hz hq hP hS hd => W.zret hx hb hr hz.1 (fun t ht hW => ⟨⟨r, (place, read_), rfl, hq, by subst ht; exact hP⟩, hS.F ht⟩) hS.2.2 hd
  unfold wX3_readAct at hf
  refine lv_aload_n hx hb dX3_readAct_0 rfl (lv_at hl 0 rfl) ?_
  refine cM_i (As := []) (rest := []) S hK rfl hP hS (metX3_nextLetter l hj hf) (lw_V q1347 q1349 qs31 q60 q1350) rfl pdX3_nextLetter ⟨rfl, rfl⟩ ⟨Nat.le_of_ble_eq_true rfl, Nat.le_of_ble_eq_true rfl⟩ rfl hl.1 rfl (Nat.le_of_ble_eq_true rfl) dX3_readAct_1 ⟨Nat.zero_le _, Nat.zero_le _⟩ (fun r_1 u_1 H locs hf hP hS => ?_)
  obtain ⟨place_1, rfl⟩ : ∃ z, z = u_1 := ⟨_, rfl⟩
  replace hP : va_P (dC, dI) vwCl (wM h dA depths owners roofs rate undos undoMany drawn dug deep holes holeMany tape taped place_1 reads read_ row order bestOrder nears isKept keptRoofs kept lanes rowSizes items moved) H := hP
  refine lv_istore_n (lv' := [(1, .int r_1), (0, .ref (h 0))]) hx hb dX3_readAct_4 rfl hl (by decide) rfl (fun ls hl => ?_)
  refine lv_iload_n hx hb dX3_readAct_5 rfl (lv_at hl 0 rfl) ?_
  refine lv_bipush (v := 100) hx hb dX3_readAct_6 (by decide) ?_
  refine lv_icmp_eq (tgt := 25) hx hb dX3_readAct_8 (by decide) (fun c_8 => ?_) (fun c_8 => ?_)
  · replace hf := hf.1 c_8
    exact tX3_readAct_25 S hK hj hret r_1 place_1 read_ _ _ _ hf hP hS (lv_sub hl [1, 0] rfl)
  · replace hf := hf.2 c_8
    refine lv_iload_n hx hb dX3_readAct_11 rfl (lv_at hl 0 rfl) ?_
    refine lv_bipush (v := 102) hx hb dX3_readAct_12 (by decide) ?_
    refine lv_icmp_eq (tgt := 25) hx hb dX3_readAct_14 (by decide) (fun c_14 => ?_) (fun c_14 => ?_)
    · replace hf := hf.1 c_14
      exact tX3_readAct_25 S hK hj hret r_1 place_1 read_ _ _ _ hf hP hS (lv_sub hl [1, 0] rfl)
    · replace hf := hf.2 c_14
      refine lv_iload_n hx hb dX3_readAct_17 rfl (lv_at hl 0 rfl) ?_
      refine lv_bipush (v := 114) hx hb dX3_readAct_18 (by decide) ?_
      refine lv_icmp_eq (tgt := 25) hx hb dX3_readAct_20 (by decide) (fun c_20 => ?_) (fun c_20 => ?_)
      · replace hf := hf.1 c_20
        exact tX3_readAct_25 S hK hj hret r_1 place_1 read_ _ _ _ hf hP hS (lv_sub hl [1, 0] rfl)
      · replace hf := hf.2 c_20
        refine lv_iconst (v := 0) hx hb dX3_readAct_23 (by decide) ?_
        exact hret _ _ _ _ _ _ _ bz0 hf hP hS dX3_readAct_24
/-! HoleCountyModel.readDay()Z -/
theorem pdX3_readDay : DscOk yX3_readDay 0 := by decide +kernel
abbrev rmX3_readDay : Room := { frames := 2, cells := 0, slots := 0, locals := 48 }
abbrev RX3_readDay_ : Room := (headSpec (ws_ yX3_readDay cX3_readDay 2 (some .boolean)) rmX3_readDay).room
section
variable {p : Program} {l : Launch} {e : Env} {s : State} {m : MethodId} {args : Array Value} {below : List Frame} {meth : Method} {c : Code} {Qw : State → Prop} {dC : Nat → ClassId} {dI : Nat → Nat → Nat} {dA : Nat → ClassId} {h : Nat → Nat}
abbrev hrX3_readDay (p : Program) (l : Launch) (e : Env) (s : State) (m : MethodId) (args : Array Value) (below : List Frame) (meth : Method) (c : Code) (dC : Nat → ClassId) (dI : Nat → Nat → Nat) (dA : Nat → ClassId) (h : Nat → Nat) (Qw : State → Prop) (Q : Int32 → Int32 → Int32 → (Nat → Int32) → Prop) (depths : (Nat → Int32)) (owners : (Nat → Int32)) (roofs : Int64) (rate : Int32) (undos : (Nat → Int32)) (undoMany : Int32) (drawn : Int32) (dug : Int64) (deep : Int64) (holes : (Nat → Int64)) (holeMany : Int32) (tape : (Nat → Int32)) (taped : Int32) (row : (Nat → Int32)) (order : (Nat → Int32)) (bestOrder : (Nat → Int32)) (nears : (Nat → Int32)) (isKept : Int32) (keptRoofs : Int64) (kept : (Nat → Int32)) (lanes : (Nat → Int32)) (rowSizes : (Nat → Int32)) (items : (Nat → Int64)) (moved : (Nat → Int64)) : Prop := ∀ (r : Int32) (place : Int32) (reads : Int32) (read_ : (Nat → Int32)) (H : Heap) (locs : List Loc) (pc : Nat) (ls : Array Slot), bz r → Q r place reads read_ → va_P (dC, dI) vwCl (wM h dA depths owners roofs rate undos undoMany drawn dug deep holes holeMany tape taped place reads read_ row order bestOrder nears isKept keptRoofs kept lanes rowSizes items moved) H → va_S (mA h) s.heap H locs → decode cX3_readDay pc = .ok (.ireturn, 1) → W p l e RX3_readDay_ s m args below meth c H locs 0 0 Qw (F0 m pc ls [.int r])
def wX3_readDay_12 (Q : Int32 → Int32 → Int32 → (Nat → Int32) → Prop) (tape : (Nat → Int32)) (taped : Int32) : Nat → Int32 → Int32 → Int32 → (Nat → Int32) → Prop
  | 0, _, _, _, _ => False
  | n + 1, x1, place, reads, read_ => ((x1 = 0 → (wX3_nextLetter (fun r_46 place_46 => ((0 ≤ r_46 → (Q 0 place_46 reads read_)) ∧ (¬ 0 ≤ r_46 → (Q 1 place_46 reads read_)))) tape taped place)) ∧ (¬ x1 = 0 → (wX3_readAct (fun r_17 place_17 read__17 => ((r_17 = 0 → (Q 0 place_17 reads read__17)) ∧ (¬ r_17 = 0 → (∀ reads_32 : Int32, reads_32 = (reads + 1) → (wX3_takes (fun r_38 place_38 => ((wX3_readDay_12 Q tape taped n) r_38 place_38 reads_32 read__17)) tape taped place_17 59))))) tape taped place reads read_)))
set_option maxHeartbeats 4000000 in
set_option maxRecDepth 100000 in
theorem tX3_readDay_12 {Q : Int32 → Int32 → Int32 → (Nat → Int32) → Prop} {depths : (Nat → Int32)} {owners : (Nat → Int32)} {roofs : Int64} {rate : Int32} {undos : (Nat → Int32)} {undoMany : Int32} {drawn : Int32} {dug : Int64} {deep : Int64} {holes : (Nat → Int64)} {holeMany : Int32} {tape : (Nat → Int32)} {taped : Int32} {row : (Nat → Int32)} {order : (Nat → Int32)} {bestOrder : (Nat → Int32)} {nears : (Nat → Int32)} {isKept : Int32} {keptRoofs : Int64} {kept : (Nat → Int32)} {lanes : (Nat → Int32)} {rowSizes : (Nat → Int32)} {items : (Nat → Int64)} {moved : (Nat → Int64)} (S : CallFix p m c cX3_readDay 2 s args lw_all RX3) (hK : va_K (dC, dI) vwCl (tysG dA) s) (hj : mJ h) (hret : hrX3_readDay p l e s m args below meth c dC dI dA h Qw Q depths owners roofs rate undos undoMany drawn dug deep holes holeMany tape taped row order bestOrder nears isKept keptRoofs kept lanes rowSizes items moved) : ∀ (n : Nat) (x1 : Int32) (place : Int32) (reads : Int32) (read_ : (Nat → Int32)) (H : Heap) (locs : List Loc) (ls : Array Slot), wX3_readDay_12 Q tape taped n x1 place reads read_ → va_P (dC, dI) vwCl (wM h dA depths owners roofs rate undos undoMany drawn dug deep holes holeMany tape taped place reads read_ row order bestOrder nears isKept keptRoofs kept lanes rowSizes items moved) H → va_S (mA h) s.heap H locs → lv_has ls 2 [(0, .ref (h 0)), (1, .int x1)] → W p l e RX3_readDay_ s m args below meth c H locs 0 0 Qw (F0 m 12 ls []) := by
  obtain ⟨hx, hb, hml, hown, hts⟩ := id S
  intro n
  induction n with
  | zero => intro _ _ _ _ _ _ _ hf; exact hf.elim
  | succ n ih =>
    intro x1 place reads read_ H locs ls hf hP hS hl
    rw [wX3_readDay_12] at hf
    refine lv_iload_n hx hb dX3_readDay_12 rfl (lv_at hl 1 rfl) ?_
    refine lv_if_eq (tgt := 45) hx hb dX3_readDay_13 (by decide) (fun c_13 => ?_) (fun c_13 => ?_)
    · replace hf := hf.1 c_13
      refine lv_aload_n hx hb dX3_readDay_45 rfl (lv_at hl 0 rfl) ?_
      refine cM_i (As := []) (rest := []) S hK rfl hP hS (metX3_nextLetter l hj hf) (lw_V q1347 q1349 qs31 q60 q1350) rfl pdX3_nextLetter ⟨rfl, rfl⟩ ⟨Nat.le_of_ble_eq_true rfl, Nat.le_of_ble_eq_true rfl⟩ rfl hl.1 rfl (Nat.le_of_ble_eq_true rfl) dX3_readDay_46 ⟨Nat.zero_le _, Nat.zero_le _⟩ (fun r_46 u_46 H locs hf hP hS => ?_)
      obtain ⟨place_46, rfl⟩ : ∃ z, z = u_46 := ⟨_, rfl⟩
      replace hP : va_P (dC, dI) vwCl (wM h dA depths owners roofs rate undos undoMany drawn dug deep holes holeMany tape taped place_46 reads read_ row order bestOrder nears isKept keptRoofs kept lanes rowSizes items moved) H := hP
      refine lv_if_ge (tgt := 56) hx hb dX3_readDay_49 (by decide) (fun c_49 => ?_) (fun c_49 => ?_)
      · replace hf := hf.1 c_49
        refine lv_iconst (v := 0) hx hb dX3_readDay_56 (by decide) ?_
        exact hret _ _ _ _ _ _ _ _ bz0 hf hP hS dX3_readDay_57
      · replace hf := hf.2 c_49
        refine lv_iconst (v := 1) hx hb dX3_readDay_52 (by decide) ?_
        refine lv_goto (tgt := 57) hx hb dX3_readDay_53 (by decide) ?_
        exact hret _ _ _ _ _ _ _ _ bz1 hf hP hS dX3_readDay_57
    · replace hf := hf.2 c_13
      refine lv_aload_n hx hb dX3_readDay_16 rfl (lv_at hl 0 rfl) ?_
      refine cM_i (As := []) (rest := []) S hK rfl hP hS (metX3_readAct l hj hf) (lw_V q1378 q1380 qs36 q60 q1381) rfl pdX3_readAct ⟨rfl, rfl⟩ ⟨Nat.le_of_ble_eq_true rfl, Nat.le_of_ble_eq_true rfl⟩ rfl hl.1 rfl (Nat.le_of_ble_eq_true rfl) dX3_readDay_17 ⟨Nat.zero_le _, Nat.zero_le _⟩ (fun r_17 u_17 H locs hf hP hS => ?_)
      obtain ⟨place_17, read__17⟩ := u_17
      replace hP : va_P (dC, dI) vwCl (wM h dA depths owners roofs rate undos undoMany drawn dug deep holes holeMany tape taped place_17 reads read__17 row order bestOrder nears isKept keptRoofs kept lanes rowSizes items moved) H := hP
      try dsimp only at hf
      refine lv_if_ne (tgt := 25) hx hb dX3_readDay_20 (by decide) (fun c_20 => ?_) (fun c_20 => ?_)
      · replace hf := hf.2 c_20
        refine lv_aload_n hx hb dX3_readDay_25 rfl (lv_at hl 0 rfl) ?_
        refine lv_dup hx hb dX3_readDay_26 rfl ?_
        refine gM_reads S hK hP dX3_readDay_27 ?_
        refine lv_iconst (v := 1) hx hb dX3_readDay_30 (by decide) ?_
        refine lv_iadd hx hb dX3_readDay_31 ?_
        refine lv_topi (fun reads_32 ereads_32 => ?_)
        replace hf := hf reads_32 ereads_32
        refine pM_reads S hK hj hP hS dX3_readDay_32 (fun H locs hP hS => ?_)
        refine lv_aload_n hx hb dX3_readDay_35 rfl (lv_at hl 0 rfl) ?_
        refine lv_bipush (v := 59) hx hb dX3_readDay_36 (by decide) ?_
        refine cM_i (As := [.int 59]) (rest := []) S hK rfl hP hS (metX3_takes l hj hf) (lw_V q1343 q1345 qs30 q60 q1346) rfl pdX3_takes ⟨rfl, rfl⟩ ⟨Nat.le_of_ble_eq_true rfl, Nat.le_of_ble_eq_true rfl⟩ rfl hl.1 rfl (Nat.le_of_ble_eq_true rfl) dX3_readDay_38 ⟨Nat.zero_le _, Nat.zero_le _⟩ (fun r_38 u_38 H locs hf hP hS => ?_)
        obtain ⟨place_38, rfl⟩ : ∃ z, z = u_38 := ⟨_, rfl⟩
        replace hP : va_P (dC, dI) vwCl (wM h dA depths owners roofs rate undos undoMany drawn dug deep holes holeMany tape taped place_38 reads_32 read__17 row order bestOrder nears isKept keptRoofs kept lanes rowSizes items moved) H := hP
        refine lv_istore_n (lv' := [(1, .int r_38), (0, .ref (h 0))]) hx hb dX3_readDay_41 rfl hl (by decide) rfl (fun ls hl => ?_)
        refine lv_goto (tgt := 12) hx hb dX3_readDay_42 (by decide) ?_
        exact ih r_38 place_38 reads_32 read__17 _ _ _ hf hP hS (lv_sub hl [1, 0] rfl)
      · replace hf := hf.1 c_20
        refine lv_iconst (v := 0) hx hb dX3_readDay_23 (by decide) ?_
        exact hret _ _ _ _ _ _ _ _ bz0 hf hP hS dX3_readDay_24
def wX3_readDay (Q : Int32 → Int32 → Int32 → (Nat → Int32) → Prop) (tape : (Nat → Int32)) (taped : Int32) (place : Int32) (reads : Int32) (read_ : (Nat → Int32)) : Prop := (∃ fu : Nat, wX3_readDay_12 Q tape taped fu 1 0 0 read_)
end
set_option maxHeartbeats 4000000 in
set_option maxRecDepth 100000 in
theorem metX3_readDay (l : Launch) {Q : Int32 → Int32 → Int32 → (Nat → Int32) → Prop} {depths : (Nat → Int32)} {owners : (Nat → Int32)} {roofs : Int64} {rate : Int32} {undos : (Nat → Int32)} {undoMany : Int32} {drawn : Int32} {dug : Int64} {deep : Int64} {holes : (Nat → Int64)} {holeMany : Int32} {tape : (Nat → Int32)} {taped : Int32} {place : Int32} {reads : Int32} {read_ : (Nat → Int32)} {row : (Nat → Int32)} {order : (Nat → Int32)} {bestOrder : (Nat → Int32)} {nears : (Nat → Int32)} {isKept : Int32} {keptRoofs : Int64} {kept : (Nat → Int32)} {lanes : (Nat → Int32)} {rowSizes : (Nat → Int32)} {items : (Nat → Int64)} {moved : (Nat → Int64)} {dC : Nat → ClassId} {dI : Nat → Nat → Nat} {dA : Nat → ClassId} {h : Nat → Nat} (hj : mJ h) (hf : wX3_readDay Q tape taped place reads read_) : Met l yX3_readDay (ws_ yX3_readDay cX3_readDay 2 (some .boolean)) rmX3_readDay (mPc dC dI dA h [] (wM h dA depths owners roofs rate undos undoMany drawn dug deep holes holeMany tape taped place reads read_ row order bestOrder nears isKept keptRoofs kept lanes rowSizes items moved)) (va_Qi (fun (r : Int32) (u : Int32 × Int32 × (Nat → Int32)) => Q r u.1 u.2.1 u.2.2) (fun u t => va_P (dC, dI) vwCl (wM h dA depths owners roofs rate undos undoMany drawn dug deep holes holeMany tape taped u.1 u.2.1 u.2.2 row order bestOrder nears isKept keptRoofs kept lanes rowSizes items moved) t.heap) (mA h)) 0 0 (mA h) := by
  refine Met.ofW (cc := cX3_readDay) (maxL := 2) (ret := (some .boolean)) (by decide) rfl ?_
  intro p e s m args below meth c s₁ B hml hv
  obtain ⟨rfl, hP, hK⟩ := hv
  have hx := B.exec
  have hb := B.bytes
  have hr := B.returns
  have hts := atoms_spec (ws := (ws_ yX3_readDay cX3_readDay 2 (some .boolean))) B.pre
  have hts : ∀ w ∈ lw_all, w.before _ s = true := fun w h => hts w (List.mem_cons_of_mem _ h)
  have hown : s.vm.findClass RX3 = some m.cls := findClass_of_methodNamed B.named
  have hlocks := B.notSynchronized
  have S : CallFix p m c cX3_readDay 2 s _ lw_all RX3 := ⟨hx, hb, hml, hown, hts⟩
  have hS : va_S (mA h) s.heap s.heap [] := va_S.rf
  have hl := lv_entry ([.ref (h 0)]) (n := 2) (Nat.le_of_ble_eq_true rfl)
  rw [lg_entry_eq]
  generalize (lg_sl ([.ref (h 0)]) ++ List.replicate (2 - (lg_sl ([.ref (h 0)])).length) Slot.unset).toArray = ls at hl ⊢
  replace hl : lv_has ls 2 [(0, .ref (h 0))] := hl
  have hret : hrX3_readDay p l e s m ([.ref (h 0)] : List Value).toArray below meth c dC dI dA h (MQ below (va_Qi (fun (r : Int32) (u : Int32 × Int32 × (Nat → Int32)) => Q r u.1 u.2.1 u.2.2) (fun u t => va_P (dC, dI) vwCl (wM h dA depths owners roofs rate undos undoMany drawn dug deep holes holeMany tape taped u.1 u.2.1 u.2.2 row order bestOrder nears isKept keptRoofs kept lanes rowSizes items moved) t.heap) (mA h)) ([.ref (h 0)] : List Value).toArray s 0 0 (mA h)) Q depths owners roofs rate undos undoMany drawn dug deep holes holeMany tape taped row order bestOrder nears isKept keptRoofs kept lanes rowSizes items moved := fun r place reads read_ H locs pc ls hz hq hP hS hd => W.zret hx hb hr hz.1 (fun t ht hW => ⟨⟨r, (place, reads, read_), rfl, hq, by subst ht; exact hP⟩, hS.F ht⟩) hS.2.2 hd
  unfold wX3_readDay at hf
  refine lv_aload_n hx hb dX3_readDay_0 rfl (lv_at hl 0 rfl) ?_
  refine lv_iconst (v := 0) hx hb dX3_readDay_1 (by decide) ?_
  refine pM_place S hK hj hP hS dX3_readDay_2 (fun H locs hP hS => ?_)
  refine lv_aload_n hx hb dX3_readDay_5 rfl (lv_at hl 0 rfl) ?_
  refine lv_iconst (v := 0) hx hb dX3_readDay_6 (by decide) ?_
  refine pM_reads S hK hj hP hS dX3_readDay_7 (fun H locs hP hS => ?_)
  refine lv_iconst (v := 1) hx hb dX3_readDay_10 (by decide) ?_
  refine lv_istore_n (lv' := [(1, .int 1), (0, .ref (h 0))]) hx hb dX3_readDay_11 rfl hl (by decide) rfl (fun ls hl => ?_)
  obtain ⟨fu, hf⟩ := hf
  exact tX3_readDay_12 S hK hj hret fu 1 0 0 read_ _ _ _ hf hP hS (lv_sub hl [1, 0] rfl)
/-! HoleCountyModel.day()I -/
theorem pdX3_day : DscOk yX3_day 0 := by decide +kernel
abbrev rmX3_day : Room := { frames := 3, cells := 0, slots := 0, locals := 69 }
abbrev RX3_day_ : Room := (headSpec (ws_ yX3_day cX3_day 6 (some .int)) rmX3_day).room
section
variable {p : Program} {l : Launch} {e : Env} {s : State} {m : MethodId} {args : Array Value} {below : List Frame} {meth : Method} {c : Code} {Qw : State → Prop} {dC : Nat → ClassId} {dI : Nat → Nat → Nat} {dA : Nat → ClassId} {h : Nat → Nat}
abbrev hrX3_day (p : Program) (l : Launch) (e : Env) (s : State) (m : MethodId) (args : Array Value) (below : List Frame) (meth : Method) (c : Code) (dC : Nat → ClassId) (dI : Nat → Nat → Nat) (dA : Nat → ClassId) (h : Nat → Nat) (Qw : State → Prop) (Q : Int32 → (Nat → Int32) → Int64 → (Nat → Int32) → Int32 → Int32 → Int32 → Int32 → (Nat → Int32) → Prop) (owners : (Nat → Int32)) (rate : Int32) (drawn : Int32) (dug : Int64) (deep : Int64) (holes : (Nat → Int64)) (holeMany : Int32) (tape : (Nat → Int32)) (row : (Nat → Int32)) (order : (Nat → Int32)) (bestOrder : (Nat → Int32)) (nears : (Nat → Int32)) (isKept : Int32) (keptRoofs : Int64) (kept : (Nat → Int32)) (lanes : (Nat → Int32)) (rowSizes : (Nat → Int32)) (items : (Nat → Int64)) (moved : (Nat → Int64)) : Prop := ∀ (r : Int32) (depths : (Nat → Int32)) (roofs : Int64) (undos : (Nat → Int32)) (undoMany : Int32) (taped : Int32) (place : Int32) (reads : Int32) (read_ : (Nat → Int32)) (H : Heap) (locs : List Loc) (pc : Nat) (ls : Array Slot), Q r depths roofs undos undoMany taped place reads read_ → va_P (dC, dI) vwCl (wM h dA depths owners roofs rate undos undoMany drawn dug deep holes holeMany tape taped place reads read_ row order bestOrder nears isKept keptRoofs kept lanes rowSizes items moved) H → va_S (mA h) s.heap H locs → decode cX3_day pc = .ok (.ireturn, 1) → W p l e RX3_day_ s m args below meth c H locs 0 0 Qw (F0 m pc ls [.int r])
def wX3_day_82 (Q : Int32 → (Nat → Int32) → Int64 → (Nat → Int32) → Int32 → Int32 → Int32 → Int32 → (Nat → Int32) → Prop) (k17 : Int32 → (Nat → Int32) → Int64 → (Nat → Int32) → Int32 → Prop) (x2 : Int32) (z0 : Int32) (depths : (Nat → Int32)) (roofs : Int64) (undos : (Nat → Int32)) (undoMany : Int32) (tape : (Nat → Int32)) (taped : Int32) (place : Int32) (reads : Int32) (read_ : (Nat → Int32)) : Prop := ((0 ≤ z0 → (∀ x2_91 : Int32, x2_91 = x2 + 1 → (k17 x2_91 depths roofs undos undoMany))) ∧ (¬ 0 ≤ z0 → (Q x2 depths roofs undos undoMany taped place reads read_)))
set_option maxHeartbeats 4000000 in
set_option maxRecDepth 100000 in
theorem tX3_day_82 {Q : Int32 → (Nat → Int32) → Int64 → (Nat → Int32) → Int32 → Int32 → Int32 → Int32 → (Nat → Int32) → Prop} {owners : (Nat → Int32)} {rate : Int32} {drawn : Int32} {dug : Int64} {deep : Int64} {holes : (Nat → Int64)} {holeMany : Int32} {tape : (Nat → Int32)} {row : (Nat → Int32)} {order : (Nat → Int32)} {bestOrder : (Nat → Int32)} {nears : (Nat → Int32)} {isKept : Int32} {keptRoofs : Int64} {kept : (Nat → Int32)} {lanes : (Nat → Int32)} {rowSizes : (Nat → Int32)} {items : (Nat → Int64)} {moved : (Nat → Int64)} {taped : Int32} {place : Int32} {reads : Int32} {read_ : (Nat → Int32)} (S : CallFix p m c cX3_day 6 s args lw_all RX3) (hK : va_K (dC, dI) vwCl (tysG dA) s) (hj : mJ h) (hret : hrX3_day p l e s m args below meth c dC dI dA h Qw Q owners rate drawn dug deep holes holeMany tape row order bestOrder nears isKept keptRoofs kept lanes rowSizes items moved) {k17 : Int32 → (Nat → Int32) → Int64 → (Nat → Int32) → Int32 → Prop} (hk17 : ∀ (x2 : Int32) (depths : (Nat → Int32)) (roofs : Int64) (undos : (Nat → Int32)) (undoMany : Int32) (H : Heap) (locs : List Loc) (ls : Array Slot), k17 x2 depths roofs undos undoMany → va_P (dC, dI) vwCl (wM h dA depths owners roofs rate undos undoMany drawn dug deep holes holeMany tape taped place reads read_ row order bestOrder nears isKept keptRoofs kept lanes rowSizes items moved) H → va_S (mA h) s.heap H locs → lv_has ls 6 [(0, .ref (h 0)), (2, .int x2)] → W p l e RX3_day_ s m args below meth c H locs 0 0 Qw (F0 m 17 ls [])) : ∀ (x2 : Int32) (z0 : Int32) (depths : (Nat → Int32)) (roofs : Int64) (undos : (Nat → Int32)) (undoMany : Int32) (H : Heap) (locs : List Loc) (ls : Array Slot), wX3_day_82 Q k17 x2 z0 depths roofs undos undoMany tape taped place reads read_ → va_P (dC, dI) vwCl (wM h dA depths owners roofs rate undos undoMany drawn dug deep holes holeMany tape taped place reads read_ row order bestOrder nears isKept keptRoofs kept lanes rowSizes items moved) H → va_S (mA h) s.heap H locs → lv_has ls 6 [(0, .ref (h 0)), (2, .int x2)] → W p l e RX3_day_ s m args below meth c H locs 0 0 Qw (F0 m 82 ls [.int z0]) := by
  obtain ⟨hx, hb, hml, hown, hts⟩ := id S
  intro x2 z0 depths roofs undos undoMany H locs ls hf hP hS hl
  unfold wX3_day_82 at hf
  refine lv_istore (lv' := [(5, .int z0), (0, .ref (h 0)), (2, .int x2)]) hx hb dX3_day_82 hl (by decide) rfl (fun ls hl => ?_)
  refine lv_iload hx hb dX3_day_84 (lv_at hl 0 rfl) ?_
  refine lv_if_ge (tgt := 91) hx hb dX3_day_86 (by decide) (fun c_86 => ?_) (fun c_86 => ?_)
  · replace hf := hf.1 c_86
    obtain ⟨x2_91, ex2_91⟩ : ∃ z : Int32, z = x2 + 1 := ⟨_, rfl⟩
    replace hf := hf x2_91 ex2_91
    refine lv_iinc (v := x2_91) (lv' := [(2, .int x2_91), (5, .int z0), (0, .ref (h 0))]) hx hb dX3_day_91 hl (k := 2) rfl (by rw [ex2_91]; rfl) (by decide) rfl (fun ls hl => ?_)
    refine lv_goto (tgt := 17) hx hb dX3_day_94 (by decide) ?_
    exact hk17 x2_91 depths roofs undos undoMany _ _ _ hf hP hS (lv_sub hl [2, 0] rfl)
  · replace hf := hf.2 c_86
    refine lv_iload_n hx hb dX3_day_89 rfl (lv_at hl 2 rfl) ?_
    exact hret _ _ _ _ _ _ _ _ _ _ _ _ _ hf hP hS dX3_day_90
def wX3_day_17 (Q : Int32 → (Nat → Int32) → Int64 → (Nat → Int32) → Int32 → Int32 → Int32 → Int32 → (Nat → Int32) → Prop) (tape : (Nat → Int32)) (taped : Int32) (place : Int32) (reads : Int32) (read_ : (Nat → Int32)) : Nat → Int32 → (Nat → Int32) → Int64 → (Nat → Int32) → Int32 → Prop
  | 0, _, _, _, _, _ => False
  | n + 1, x2, depths, roofs, undos, undoMany => ((reads ≤ x2 → (Q reads depths roofs undos undoMany taped place reads read_)) ∧ (¬ reads ≤ x2 → (vp_in x2 80 ∧ (∀ x3_34 : Int32, x3_34 = ((read_ (x2 : Int32).toNatClampNeg) / 100) → (vp_in x2 80 ∧ (∀ x4_44 : Int32, x4_44 = ((read_ (x2 : Int32).toNatClampNeg) - (read_ (x2 : Int32).toNatClampNeg) / 100 * 100) → ((x3_34 = 100 → (wX3_dig (fun r_55 depths_55 undos_55 undoMany_55 => (wX3_day_82 Q (wX3_day_17 Q tape taped place reads read_ n) x2 r_55 depths_55 roofs undos_55 undoMany_55 tape taped place reads read_)) depths roofs undos undoMany x4_44)) ∧ (¬ x3_34 = 100 → ((x3_34 = 102 → (wX3_fill (fun r_70 depths_70 roofs_70 undos_70 undoMany_70 => (wX3_day_82 Q (wX3_day_17 Q tape taped place reads read_ n) x2 r_70 depths_70 roofs_70 undos_70 undoMany_70 tape taped place reads read_)) depths roofs undos undoMany x4_44)) ∧ (¬ x3_34 = 102 → (wX3_roof (fun r_79 roofs_79 undos_79 undoMany_79 => (wX3_day_82 Q (wX3_day_17 Q tape taped place reads read_ n) x2 r_79 depths roofs_79 undos_79 undoMany_79 tape taped place reads read_)) depths roofs undos undoMany x4_44)))))))))))
set_option maxHeartbeats 4000000 in
set_option maxRecDepth 100000 in
theorem tX3_day_17 {Q : Int32 → (Nat → Int32) → Int64 → (Nat → Int32) → Int32 → Int32 → Int32 → Int32 → (Nat → Int32) → Prop} {owners : (Nat → Int32)} {rate : Int32} {drawn : Int32} {dug : Int64} {deep : Int64} {holes : (Nat → Int64)} {holeMany : Int32} {tape : (Nat → Int32)} {taped : Int32} {place : Int32} {reads : Int32} {read_ : (Nat → Int32)} {row : (Nat → Int32)} {order : (Nat → Int32)} {bestOrder : (Nat → Int32)} {nears : (Nat → Int32)} {isKept : Int32} {keptRoofs : Int64} {kept : (Nat → Int32)} {lanes : (Nat → Int32)} {rowSizes : (Nat → Int32)} {items : (Nat → Int64)} {moved : (Nat → Int64)} (S : CallFix p m c cX3_day 6 s args lw_all RX3) (hK : va_K (dC, dI) vwCl (tysG dA) s) (hj : mJ h) (hret : hrX3_day p l e s m args below meth c dC dI dA h Qw Q owners rate drawn dug deep holes holeMany tape row order bestOrder nears isKept keptRoofs kept lanes rowSizes items moved) : ∀ (n : Nat) (x2 : Int32) (depths : (Nat → Int32)) (roofs : Int64) (undos : (Nat → Int32)) (undoMany : Int32) (H : Heap) (locs : List Loc) (ls : Array Slot), wX3_day_17 Q tape taped place reads read_ n x2 depths roofs undos undoMany → va_P (dC, dI) vwCl (wM h dA depths owners roofs rate undos undoMany drawn dug deep holes holeMany tape taped place reads read_ row order bestOrder nears isKept keptRoofs kept lanes rowSizes items moved) H → va_S (mA h) s.heap H locs → lv_has ls 6 [(0, .ref (h 0)), (2, .int x2)] → W p l e RX3_day_ s m args below meth c H locs 0 0 Qw (F0 m 17 ls []) := by
  obtain ⟨hx, hb, hml, hown, hts⟩ := id S
  intro n
  induction n with
  | zero => intro _ _ _ _ _ _ _ _ hf; exact hf.elim
  | succ n ih =>
    intro x2 depths roofs undos undoMany H locs ls hf hP hS hl
    rw [wX3_day_17] at hf
    refine lv_iload_n hx hb dX3_day_17 rfl (lv_at hl 1 rfl) ?_
    refine lv_aload_n hx hb dX3_day_18 rfl (lv_at hl 0 rfl) ?_
    refine gM_reads S hK hP dX3_day_19 ?_
    refine lv_icmp_ge (tgt := 97) hx hb dX3_day_22 (by decide) (fun c_22 => ?_) (fun c_22 => ?_)
    · replace hf := hf.1 c_22
      refine lv_aload_n hx hb dX3_day_97 rfl (lv_at hl 0 rfl) ?_
      refine gM_reads S hK hP dX3_day_98 ?_
      exact hret _ _ _ _ _ _ _ _ _ _ _ _ _ hf hP hS dX3_day_101
    · replace hf := hf.2 c_22
      refine lv_aload_n hx hb dX3_day_25 rfl (lv_at hl 0 rfl) ?_
      refine gM_read_ S hK hP dX3_day_26 ?_
      refine lv_iload_n hx hb dX3_day_29 rfl (lv_at hl 1 rfl) ?_
      obtain ⟨hin, hf⟩ := hf
      refine lM_read_ S hK hP hin dX3_day_30 ?_
      refine lv_bipush (v := 100) hx hb dX3_day_31 (by decide) ?_
      refine lv_idiv hx hb dX3_day_33 (by decide) ?_
      refine lv_topi (fun x3_34 ex3_34 => ?_)
      replace hf := hf x3_34 ex3_34
      refine lv_istore_n (lv' := [(3, .int x3_34), (0, .ref (h 0)), (2, .int x2)]) hx hb dX3_day_34 rfl hl (by decide) rfl (fun ls hl => ?_)
      refine lv_aload_n hx hb dX3_day_35 rfl (lv_at hl 1 rfl) ?_
      refine gM_read_ S hK hP dX3_day_36 ?_
      refine lv_iload_n hx hb dX3_day_39 rfl (lv_at hl 2 rfl) ?_
      obtain ⟨hin, hf⟩ := hf
      refine lM_read_ S hK hP hin dX3_day_40 ?_
      refine lv_bipush (v := 100) hx hb dX3_day_41 (by decide) ?_
      refine lv_irem hx hb dX3_day_43 (by decide) ?_
      refine lv_topi (fun x4_44 ex4_44 => ?_)
      replace hf := hf x4_44 ex4_44
      refine lv_istore (lv' := [(4, .int x4_44), (3, .int x3_34), (0, .ref (h 0)), (2, .int x2)]) hx hb dX3_day_44 hl (by decide) rfl (fun ls hl => ?_)
      refine lv_iload_n hx hb dX3_day_46 rfl (lv_at hl 1 rfl) ?_
      refine lv_bipush (v := 100) hx hb dX3_day_47 (by decide) ?_
      refine lv_icmp_ne (tgt := 61) hx hb dX3_day_49 (by decide) (fun c_49 => ?_) (fun c_49 => ?_)
      · replace hf := hf.2 c_49
        refine lv_iload_n hx hb dX3_day_61 rfl (lv_at hl 1 rfl) ?_
        refine lv_bipush (v := 102) hx hb dX3_day_62 (by decide) ?_
        refine lv_icmp_ne (tgt := 76) hx hb dX3_day_64 (by decide) (fun c_64 => ?_) (fun c_64 => ?_)
        · replace hf := hf.2 c_64
          refine lv_aload_n hx hb dX3_day_76 rfl (lv_at hl 2 rfl) ?_
          refine lv_iload hx hb dX3_day_77 (lv_at hl 0 rfl) ?_
          refine cM_i (As := [.int x4_44]) (rest := []) S hK rfl hP hS (metX3_roof l hj hf) (lw_V q1385 q1288 q1289 q60 q1290) rfl pdX3_roof ⟨rfl, rfl⟩ ⟨Nat.le_of_ble_eq_true rfl, Nat.le_of_ble_eq_true rfl⟩ rfl hl.1 rfl (Nat.le_of_ble_eq_true rfl) dX3_day_79 ⟨Nat.zero_le _, Nat.zero_le _⟩ (fun r_79 u_79 H locs hf hP hS => ?_)
          obtain ⟨roofs_79, undos_79, undoMany_79⟩ := u_79
          replace hP : va_P (dC, dI) vwCl (wM h dA depths owners roofs_79 rate undos_79 undoMany_79 drawn dug deep holes holeMany tape taped place reads read_ row order bestOrder nears isKept keptRoofs kept lanes rowSizes items moved) H := hP
          try dsimp only at hf
          exact tX3_day_82 S hK hj hret ih x2 r_79 depths roofs_79 undos_79 undoMany_79 _ _ _ hf hP hS (lv_sub hl [2, 3] rfl)
        · replace hf := hf.1 c_64
          refine lv_aload_n hx hb dX3_day_67 rfl (lv_at hl 2 rfl) ?_
          refine lv_iload hx hb dX3_day_68 (lv_at hl 0 rfl) ?_
          refine cM_i (As := [.int x4_44]) (rest := []) S hK rfl hP hS (metX3_fill l hj hf) (lw_V q1384 q1279 q1280 q60 q1281) rfl pdX3_fill ⟨rfl, rfl⟩ ⟨Nat.le_of_ble_eq_true rfl, Nat.le_of_ble_eq_true rfl⟩ rfl hl.1 rfl (Nat.le_of_ble_eq_true rfl) dX3_day_70 ⟨Nat.zero_le _, Nat.zero_le _⟩ (fun r_70 u_70 H locs hf hP hS => ?_)
          obtain ⟨depths_70, roofs_70, undos_70, undoMany_70⟩ := u_70
          replace hP : va_P (dC, dI) vwCl (wM h dA depths_70 owners roofs_70 rate undos_70 undoMany_70 drawn dug deep holes holeMany tape taped place reads read_ row order bestOrder nears isKept keptRoofs kept lanes rowSizes items moved) H := hP
          try dsimp only at hf
          refine lv_goto (tgt := 82) hx hb dX3_day_73 (by decide) ?_
          exact tX3_day_82 S hK hj hret ih x2 r_70 depths_70 roofs_70 undos_70 undoMany_70 _ _ _ hf hP hS (lv_sub hl [2, 3] rfl)
      · replace hf := hf.1 c_49
        refine lv_aload_n hx hb dX3_day_52 rfl (lv_at hl 2 rfl) ?_
        refine lv_iload hx hb dX3_day_53 (lv_at hl 0 rfl) ?_
        refine cM_i (As := [.int x4_44]) (rest := []) S hK rfl hP hS (metX3_dig l hj hf) (lw_V q1383 q1261 q1262 q60 q1263) rfl pdX3_dig ⟨rfl, rfl⟩ ⟨Nat.le_of_ble_eq_true rfl, Nat.le_of_ble_eq_true rfl⟩ rfl hl.1 rfl (Nat.le_of_ble_eq_true rfl) dX3_day_55 ⟨Nat.zero_le _, Nat.zero_le _⟩ (fun r_55 u_55 H locs hf hP hS => ?_)
        obtain ⟨depths_55, undos_55, undoMany_55⟩ := u_55
        replace hP : va_P (dC, dI) vwCl (wM h dA depths_55 owners roofs rate undos_55 undoMany_55 drawn dug deep holes holeMany tape taped place reads read_ row order bestOrder nears isKept keptRoofs kept lanes rowSizes items moved) H := hP
        try dsimp only at hf
        refine lv_goto (tgt := 82) hx hb dX3_day_58 (by decide) ?_
        exact tX3_day_82 S hK hj hret ih x2 r_55 depths_55 roofs undos_55 undoMany_55 _ _ _ hf hP hS (lv_sub hl [2, 3] rfl)
def wX3_day (Q : Int32 → (Nat → Int32) → Int64 → (Nat → Int32) → Int32 → Int32 → Int32 → Int32 → (Nat → Int32) → Prop) (depths : (Nat → Int32)) (roofs : Int64) (undos : (Nat → Int32)) (undoMany : Int32) (tape : (Nat → Int32)) (taped : Int32) (place : Int32) (reads : Int32) (read_ : (Nat → Int32)) : Prop := (wX3_readDay (fun r_2 place_2 reads_2 read__2 => (wX3_end (fun r_5 taped_5 place_5 => ((0 ≤ r_5 → (∃ fu : Nat, wX3_day_17 Q tape taped_5 place_5 reads_2 read__2 fu 0 depths roofs undos undoMany)) ∧ (¬ 0 ≤ r_5 → (Q r_5 depths roofs undos undoMany taped_5 place_5 reads_2 read__2)))) tape taped place_2 r_2)) tape taped place reads read_)
end
set_option maxHeartbeats 4000000 in
set_option maxRecDepth 100000 in
theorem metX3_day (l : Launch) {Q : Int32 → (Nat → Int32) → Int64 → (Nat → Int32) → Int32 → Int32 → Int32 → Int32 → (Nat → Int32) → Prop} {depths : (Nat → Int32)} {owners : (Nat → Int32)} {roofs : Int64} {rate : Int32} {undos : (Nat → Int32)} {undoMany : Int32} {drawn : Int32} {dug : Int64} {deep : Int64} {holes : (Nat → Int64)} {holeMany : Int32} {tape : (Nat → Int32)} {taped : Int32} {place : Int32} {reads : Int32} {read_ : (Nat → Int32)} {row : (Nat → Int32)} {order : (Nat → Int32)} {bestOrder : (Nat → Int32)} {nears : (Nat → Int32)} {isKept : Int32} {keptRoofs : Int64} {kept : (Nat → Int32)} {lanes : (Nat → Int32)} {rowSizes : (Nat → Int32)} {items : (Nat → Int64)} {moved : (Nat → Int64)} {dC : Nat → ClassId} {dI : Nat → Nat → Nat} {dA : Nat → ClassId} {h : Nat → Nat} (hj : mJ h) (hf : wX3_day Q depths roofs undos undoMany tape taped place reads read_) : Met l yX3_day (ws_ yX3_day cX3_day 6 (some .int)) rmX3_day (mPc dC dI dA h [] (wM h dA depths owners roofs rate undos undoMany drawn dug deep holes holeMany tape taped place reads read_ row order bestOrder nears isKept keptRoofs kept lanes rowSizes items moved)) (va_Qi (fun (r : Int32) (u : (Nat → Int32) × Int64 × (Nat → Int32) × Int32 × Int32 × Int32 × Int32 × (Nat → Int32)) => Q r u.1 u.2.1 u.2.2.1 u.2.2.2.1 u.2.2.2.2.1 u.2.2.2.2.2.1 u.2.2.2.2.2.2.1 u.2.2.2.2.2.2.2) (fun u t => va_P (dC, dI) vwCl (wM h dA u.1 owners u.2.1 rate u.2.2.1 u.2.2.2.1 drawn dug deep holes holeMany tape u.2.2.2.2.1 u.2.2.2.2.2.1 u.2.2.2.2.2.2.1 u.2.2.2.2.2.2.2 row order bestOrder nears isKept keptRoofs kept lanes rowSizes items moved) t.heap) (mA h)) 0 0 (mA h) := by
  refine Met.ofW (cc := cX3_day) (maxL := 6) (ret := (some .int)) (by decide) rfl ?_
  intro p e s m args below meth c s₁ B hml hv
  obtain ⟨rfl, hP, hK⟩ := hv
  have hx := B.exec
  have hb := B.bytes
  have hr := B.returns
  have hts := atoms_spec (ws := (ws_ yX3_day cX3_day 6 (some .int))) B.pre
  have hts : ∀ w ∈ lw_all, w.before _ s = true := fun w h => hts w (List.mem_cons_of_mem _ h)
  have hown : s.vm.findClass RX3 = some m.cls := findClass_of_methodNamed B.named
  have hlocks := B.notSynchronized
  have S : CallFix p m c cX3_day 6 s _ lw_all RX3 := ⟨hx, hb, hml, hown, hts⟩
  have hS : va_S (mA h) s.heap s.heap [] := va_S.rf
  have hl := lv_entry ([.ref (h 0)]) (n := 6) (Nat.le_of_ble_eq_true rfl)
  rw [lg_entry_eq]
  generalize (lg_sl ([.ref (h 0)]) ++ List.replicate (6 - (lg_sl ([.ref (h 0)])).length) Slot.unset).toArray = ls at hl ⊢
  replace hl : lv_has ls 6 [(0, .ref (h 0))] := hl
  have hret : hrX3_day p l e s m ([.ref (h 0)] : List Value).toArray below meth c dC dI dA h (MQ below (va_Qi (fun (r : Int32) (u : (Nat → Int32) × Int64 × (Nat → Int32) × Int32 × Int32 × Int32 × Int32 × (Nat → Int32)) => Q r u.1 u.2.1 u.2.2.1 u.2.2.2.1 u.2.2.2.2.1 u.2.2.2.2.2.1 u.2.2.2.2.2.2.1 u.2.2.2.2.2.2.2) (fun u t => va_P (dC, dI) vwCl (wM h dA u.1 owners u.2.1 rate u.2.2.1 u.2.2.2.1 drawn dug deep holes holeMany tape u.2.2.2.2.1 u.2.2.2.2.2.1 u.2.2.2.2.2.2.1 u.2.2.2.2.2.2.2 row order bestOrder nears isKept keptRoofs kept lanes rowSizes items moved) t.heap) (mA h)) ([.ref (h 0)] : List Value).toArray s 0 0 (mA h)) Q owners rate drawn dug deep holes holeMany tape row order bestOrder nears isKept keptRoofs kept lanes rowSizes items moved := fun r depths roofs undos undoMany taped place reads read_ H locs pc ls hq hP hS hd => W.iret hx hb hr (fun t ht hW => ⟨⟨r, (depths, roofs, undos, undoMany, taped, place, reads, read_), rfl, hq, by subst ht; exact hP⟩, hS.F ht⟩) hS.2.2 hd
  unfold wX3_day at hf
  refine lv_aload_n hx hb dX3_day_0 rfl (lv_at hl 0 rfl) ?_
  refine lv_aload_n hx hb dX3_day_1 rfl (lv_at hl 0 rfl) ?_
  refine cM_i (As := []) (rest := [.ref (h 0)]) S hK rfl hP hS (metX3_readDay l hj hf) (lw_V q1374 q1376 qs35 q60 q1377) rfl pdX3_readDay ⟨rfl, rfl⟩ ⟨Nat.le_of_ble_eq_true rfl, Nat.le_of_ble_eq_true rfl⟩ rfl hl.1 rfl (Nat.le_of_ble_eq_true rfl) dX3_day_2 ⟨Nat.zero_le _, Nat.zero_le _⟩ (fun r_2 u_2 H locs hf hP hS => ?_)
  obtain ⟨place_2, reads_2, read__2⟩ := u_2
  replace hP : va_P (dC, dI) vwCl (wM h dA depths owners roofs rate undos undoMany drawn dug deep holes holeMany tape taped place_2 reads_2 read__2 row order bestOrder nears isKept keptRoofs kept lanes rowSizes items moved) H := hP
  try dsimp only at hf
  refine cM_i (As := [.int r_2]) (rest := []) S hK rfl hP hS (metX3_end l hj hf) (lw_V q1352 q1354 qs32 q60 q1355) rfl pdX3_end ⟨rfl, rfl⟩ ⟨Nat.le_of_ble_eq_true rfl, Nat.le_of_ble_eq_true rfl⟩ rfl hl.1 rfl (Nat.le_of_ble_eq_true rfl) dX3_day_5 ⟨Nat.zero_le _, Nat.zero_le _⟩ (fun r_5 u_5 H locs hf hP hS => ?_)
  obtain ⟨taped_5, place_5⟩ := u_5
  replace hP : va_P (dC, dI) vwCl (wM h dA depths owners roofs rate undos undoMany drawn dug deep holes holeMany tape taped_5 place_5 reads_2 read__2 row order bestOrder nears isKept keptRoofs kept lanes rowSizes items moved) H := hP
  try dsimp only at hf
  refine lv_istore_n (lv' := [(1, .int r_5), (0, .ref (h 0))]) hx hb dX3_day_8 rfl hl (by decide) rfl (fun ls hl => ?_)
  refine lv_iload_n hx hb dX3_day_9 rfl (lv_at hl 0 rfl) ?_
  refine lv_if_ge (tgt := 15) hx hb dX3_day_10 (by decide) (fun c_10 => ?_) (fun c_10 => ?_)
  · replace hf := hf.1 c_10
    refine lv_iconst (v := 0) hx hb dX3_day_15 (by decide) ?_
    refine lv_istore_n (lv' := [(2, .int 0), (1, .int r_5), (0, .ref (h 0))]) hx hb dX3_day_16 rfl hl (by decide) rfl (fun ls hl => ?_)
    obtain ⟨fu, hf⟩ := hf
    exact tX3_day_17 S hK hj hret fu 0 depths roofs undos undoMany _ _ _ hf hP hS (lv_sub hl [2, 0] rfl)
  · replace hf := hf.2 c_10
    refine lv_iload_n hx hb dX3_day_13 rfl (lv_at hl 0 rfl) ?_
    exact hret _ _ _ _ _ _ _ _ _ _ _ _ _ hf hP hS dX3_day_14
/-! HoleCountyModel.ones(J)I -/
theorem pdX3_ones : DscOk yX3_ones 1 := by decide +kernel
abbrev rmX3_ones : Room := { frames := 0, cells := 0, slots := 0, locals := 0 }
abbrev RX3_ones_ : Room := (headSpec (ws_ yX3_ones cX3_ones 5 (some .int)) rmX3_ones).room
section
variable {p : Program} {l : Launch} {e : Env} {s : State} {m : MethodId} {args : Array Value} {below : List Frame} {meth : Method} {c : Code} {Qw : State → Prop} {H : Heap} {locs : List Loc}
abbrev hrX3_ones (p : Program) (l : Launch) (e : Env) (s : State) (m : MethodId) (args : Array Value) (below : List Frame) (meth : Method) (c : Code) (H : Heap) (locs : List Loc) (Qw : State → Prop) (Q : Int32 → Prop) : Prop := ∀ (r : Int32) (pc : Nat) (ls : Array Slot), Q r → decode cX3_ones pc = .ok (.ireturn, 1) → W p l e RX3_ones_ s m args below meth c H locs 0 0 Qw (F0 m pc ls [.int r])
def wX3_ones_4 (Q : Int32 → Prop) : Nat → Int32 → Int64 → Prop
  | 0, _, _ => False
  | n + 1, x2, x3 => ((x3 = 0 → (Q x2)) ∧ (¬ x3 = 0 → (∀ x2_10 : Int32, x2_10 = x2 + 1 → (∀ x3_18 : Int64, x3_18 = (x3 &&& (x3 - 1)) → ((wX3_ones_4 Q n) x2_10 x3_18)))))
set_option maxHeartbeats 4000000 in
set_option maxRecDepth 100000 in
theorem tX3_ones_4 {Q : Int32 → Prop} (S : CallFix p m c cX3_ones 5 s args lw_all RX3) (hret : hrX3_ones p l e s m args below meth c H locs Qw Q) : ∀ (n : Nat) (x2 : Int32) (x3 : Int64) (ls : Array Slot), wX3_ones_4 Q n x2 x3 → lv_has ls 5 [(2, .int x2), (3, .long x3)] → W p l e RX3_ones_ s m args below meth c H locs 0 0 Qw (F0 m 4 ls []) := by
  obtain ⟨hx, hb, hml, hown, hts⟩ := id S
  intro n
  induction n with
  | zero => intro _ _ _ hf; exact hf.elim
  | succ n ih =>
    intro x2 x3 ls hf hl
    rw [wX3_ones_4] at hf
    refine lv_lload_n hx hb dX3_ones_4 rfl (lv_at hl 1 rfl) ?_
    refine lv_lconst (v := 0) hx hb dX3_ones_5 (by decide) ?_
    refine lc_eq (tgt := 22) hx hb dX3_ones_6 dX3_ones_7 (by decide) (fun c_6 => ?_) (fun c_6 => ?_)
    · replace hf := hf.1 c_6
      refine lv_iload_n hx hb dX3_ones_22 rfl (lv_at hl 0 rfl) ?_
      exact hret _ _ _ hf dX3_ones_23
    · replace hf := hf.2 c_6
      obtain ⟨x2_10, ex2_10⟩ : ∃ z : Int32, z = x2 + 1 := ⟨_, rfl⟩
      replace hf := hf x2_10 ex2_10
      refine lv_iinc (v := x2_10) (lv' := [(2, .int x2_10), (3, .long x3)]) hx hb dX3_ones_10 hl (k := 0) rfl (by rw [ex2_10]; rfl) (by decide) rfl (fun ls hl => ?_)
      refine lv_lload_n hx hb dX3_ones_13 rfl (lv_at hl 1 rfl) ?_
      refine lv_lload_n hx hb dX3_ones_14 rfl (lv_at hl 1 rfl) ?_
      refine lv_lconst (v := 1) hx hb dX3_ones_15 (by decide) ?_
      refine lv_lsub hx hb dX3_ones_16 ?_
      refine lv_land hx hb dX3_ones_17 ?_
      refine lv_topl (fun x3_18 ex3_18 => ?_)
      replace hf := hf x3_18 ex3_18
      refine lv_lstore_n (lv' := [(3, .long x3_18), (2, .int x2_10)]) hx hb dX3_ones_18 rfl hl (by decide) rfl (fun ls hl => ?_)
      refine lv_goto (tgt := 4) hx hb dX3_ones_19 (by decide) ?_
      exact ih x2_10 x3_18 _ hf (lv_sub hl [1, 0] rfl)
def wX3_ones (Q : Int32 → Prop) (x0 : Int64) : Prop := (∃ fu : Nat, wX3_ones_4 Q fu 0 x0)
end
set_option maxHeartbeats 4000000 in
set_option maxRecDepth 100000 in
theorem metX3_ones (l : Launch) {Q : Int32 → Prop} {x0 : Int64} (hf : wX3_ones Q x0) : Met l yX3_ones (ws_ yX3_ones cX3_ones 5 (some .int)) rmX3_ones (fun v _ => v = ([.long x0] : List Value).toArray) (vp_Si Q) 0 0 (fun _ => False) := by
  refine Met.ofW (cc := cX3_ones) (maxL := 5) (ret := (some .int)) (by decide) rfl ?_
  intro p e s m args below meth c s₁ B hml hv
  subst hv
  have hx := B.exec
  have hb := B.bytes
  have hr := B.returns
  have hts := atoms_spec (ws := (ws_ yX3_ones cX3_ones 5 (some .int))) B.pre
  have hts : ∀ w ∈ lw_all, w.before _ s = true := fun w h => hts w (List.mem_cons_of_mem _ h)
  have hown : s.vm.findClass RX3 = some m.cls := findClass_of_methodNamed B.named
  have hlocks := B.notSynchronized
  have S : CallFix p m c cX3_ones 5 s _ lw_all RX3 := ⟨hx, hb, hml, hown, hts⟩
  have hl := lv_entry ([.long x0]) (n := 5) (Nat.le_of_ble_eq_true rfl)
  rw [lg_entry_eq]
  generalize (lg_sl ([.long x0]) ++ List.replicate (5 - (lg_sl ([.long x0])).length) Slot.unset).toArray = ls at hl ⊢
  replace hl : lv_has ls 5 [(0, .long x0)] := hl
  have hret : hrX3_ones p l e s m ([.long x0] : List Value).toArray below meth c s.heap [] (MQ below (vp_Si Q) ([.long x0] : List Value).toArray s 0 0 (fun _ => False)) Q := fun r pc ls hq hd => W.iret hx hb hr (fun t ht hW => ⟨r, rfl, hq, ht⟩) t_nil hd
  unfold wX3_ones at hf
  refine lv_iconst (v := 0) hx hb dX3_ones_0 (by decide) ?_
  refine lv_istore_n (lv' := [(2, .int 0), (0, .long x0)]) hx hb dX3_ones_1 rfl hl (by decide) rfl (fun ls hl => ?_)
  refine lv_lload_n hx hb dX3_ones_2 rfl (lv_at hl 1 rfl) ?_
  refine lv_lstore_n (lv' := [(3, .long x0), (2, .int 0), (0, .long x0)]) hx hb dX3_ones_3 rfl hl (by decide) rfl (fun ls hl => ?_)
  obtain ⟨fu, hf⟩ := hf
  exact tX3_ones_4 S hret fu 0 x0 _ hf (lv_sub hl [1, 0] rfl)
/-! HoleCountyModel.edge()J -/
theorem pdX3_edge : DscOk yX3_edge 0 := by decide +kernel
abbrev rmX3_edge : Room := { frames := 0, cells := 0, slots := 0, locals := 0 }
abbrev RX3_edge_ : Room := (headSpec (ws_ yX3_edge cX3_edge 0 (some .long)) rmX3_edge).room
section
variable {p : Program} {l : Launch} {e : Env} {s : State} {m : MethodId} {args : Array Value} {below : List Frame} {meth : Method} {c : Code} {Qw : State → Prop} {H : Heap} {locs : List Loc}
abbrev hrX3_edge (p : Program) (l : Launch) (e : Env) (s : State) (m : MethodId) (args : Array Value) (below : List Frame) (meth : Method) (c : Code) (H : Heap) (locs : List Loc) (Qw : State → Prop) (Q : Int64 → Prop) : Prop := ∀ (r : Int64) (pc : Nat) (ls : Array Slot), Q r → decode cX3_edge pc = .ok (.lreturn, 1) → W p l e RX3_edge_ s m args below meth c H locs 0 0 Qw (F0 m pc ls [.long r])
def wX3_edge (Q : Int64 → Prop) : Prop := (Q 68208171135)
end
set_option maxHeartbeats 4000000 in
set_option maxRecDepth 100000 in
theorem metX3_edge (l : Launch) {Q : Int64 → Prop} (hf : wX3_edge Q) : Met l yX3_edge (ws_ yX3_edge cX3_edge 0 (some .long)) rmX3_edge (fun v _ => v = ([] : List Value).toArray) (vp_Sl Q) 0 0 (fun _ => False) := by
  refine Met.ofW (cc := cX3_edge) (maxL := 0) (ret := (some .long)) (by decide) rfl ?_
  intro p e s m args below meth c s₁ B hml hv
  subst hv
  have hx := B.exec
  have hb := B.bytes
  have hr := B.returns
  have hts := atoms_spec (ws := (ws_ yX3_edge cX3_edge 0 (some .long))) B.pre
  have hts : ∀ w ∈ lw_all, w.before _ s = true := fun w h => hts w (List.mem_cons_of_mem _ h)
  have hown : s.vm.findClass RX3 = some m.cls := findClass_of_methodNamed B.named
  have hlocks := B.notSynchronized
  have S : CallFix p m c cX3_edge 0 s _ lw_all RX3 := ⟨hx, hb, hml, hown, hts⟩
  have hl := lv_entry ([]) (n := 0) (Nat.le_of_ble_eq_true rfl)
  rw [lg_entry_eq]
  generalize (lg_sl ([]) ++ List.replicate (0 - (lg_sl ([])).length) Slot.unset).toArray = ls at hl ⊢
  replace hl : lv_has ls 0 [] := hl
  have hret : hrX3_edge p l e s m ([] : List Value).toArray below meth c s.heap [] (MQ below (vp_Sl Q) ([] : List Value).toArray s 0 0 (fun _ => False)) Q := fun r pc ls hq hd => W.lret hx hb hr (fun t ht hW => ⟨r, rfl, hq, ht⟩) t_nil hd
  unfold wX3_edge at hf
  refine lv_ldc2 (v := 68208171135) hx hb hown (hts _ q1412) dX3_edge_0 ?_
  exact hret _ _ _ hf dX3_edge_3
/-! HoleCountyModel.kindOf(J)I -/
theorem pdX3_kindOf : DscOk yX3_kindOf 1 := by decide +kernel
abbrev rmX3_kindOf : Room := { frames := 1, cells := 0, slots := 0, locals := 19 }
abbrev RX3_kindOf_ : Room := (headSpec (ws_ yX3_kindOf cX3_kindOf 5 (some .int)) rmX3_kindOf).room
section
variable {p : Program} {l : Launch} {e : Env} {s : State} {m : MethodId} {args : Array Value} {below : List Frame} {meth : Method} {c : Code} {Qw : State → Prop} {dC : Nat → ClassId} {dI : Nat → Nat → Nat} {dA : Nat → ClassId} {h : Nat → Nat}
abbrev hrX3_kindOf (p : Program) (l : Launch) (e : Env) (s : State) (m : MethodId) (args : Array Value) (below : List Frame) (meth : Method) (c : Code) (dC : Nat → ClassId) (dI : Nat → Nat → Nat) (dA : Nat → ClassId) (h : Nat → Nat) (Qw : State → Prop) (Q : Int32 → Prop) (depths : (Nat → Int32)) (owners : (Nat → Int32)) (roofs : Int64) (rate : Int32) (undos : (Nat → Int32)) (undoMany : Int32) (drawn : Int32) (dug : Int64) (deep : Int64) (holes : (Nat → Int64)) (holeMany : Int32) (tape : (Nat → Int32)) (taped : Int32) (place : Int32) (reads : Int32) (read_ : (Nat → Int32)) (row : (Nat → Int32)) (order : (Nat → Int32)) (bestOrder : (Nat → Int32)) (nears : (Nat → Int32)) (isKept : Int32) (keptRoofs : Int64) (kept : (Nat → Int32)) (lanes : (Nat → Int32)) (rowSizes : (Nat → Int32)) (items : (Nat → Int64)) (moved : (Nat → Int64)) : Prop := ∀ (r : Int32) (H : Heap) (locs : List Loc) (pc : Nat) (ls : Array Slot), Q r → va_P (dC, dI) vwCl (wM h dA depths owners roofs rate undos undoMany drawn dug deep holes holeMany tape taped place reads read_ row order bestOrder nears isKept keptRoofs kept lanes rowSizes items moved) H → va_S (mA h) s.heap H locs → decode cX3_kindOf pc = .ok (.ireturn, 1) → W p l e RX3_kindOf_ s m args below meth c H locs 0 0 Qw (F0 m pc ls [.int r])
def wX3_kindOf_110 (Q : Int32 → Prop) (x4 : Int32) (roofs : Int64) (deep : Int64) : Prop := ((x4 = 0 → (Q 0)) ∧ (¬ x4 = 0 → (Q 1)))
set_option maxHeartbeats 4000000 in
set_option maxRecDepth 100000 in
theorem tX3_kindOf_110 {Q : Int32 → Prop} {depths : (Nat → Int32)} {owners : (Nat → Int32)} {roofs : Int64} {rate : Int32} {undos : (Nat → Int32)} {undoMany : Int32} {drawn : Int32} {dug : Int64} {deep : Int64} {holes : (Nat → Int64)} {holeMany : Int32} {tape : (Nat → Int32)} {taped : Int32} {place : Int32} {reads : Int32} {read_ : (Nat → Int32)} {row : (Nat → Int32)} {order : (Nat → Int32)} {bestOrder : (Nat → Int32)} {nears : (Nat → Int32)} {isKept : Int32} {keptRoofs : Int64} {kept : (Nat → Int32)} {lanes : (Nat → Int32)} {rowSizes : (Nat → Int32)} {items : (Nat → Int64)} {moved : (Nat → Int64)} (S : CallFix p m c cX3_kindOf 5 s args lw_all RX3) (hK : va_K (dC, dI) vwCl (tysG dA) s) (hj : mJ h) (hret : hrX3_kindOf p l e s m args below meth c dC dI dA h Qw Q depths owners roofs rate undos undoMany drawn dug deep holes holeMany tape taped place reads read_ row order bestOrder nears isKept keptRoofs kept lanes rowSizes items moved) : ∀ (x4 : Int32) (H : Heap) (locs : List Loc) (ls : Array Slot), wX3_kindOf_110 Q x4 roofs deep → va_P (dC, dI) vwCl (wM h dA depths owners roofs rate undos undoMany drawn dug deep holes holeMany tape taped place reads read_ row order bestOrder nears isKept keptRoofs kept lanes rowSizes items moved) H → va_S (mA h) s.heap H locs → lv_has ls 5 [(4, .int x4)] → W p l e RX3_kindOf_ s m args below meth c H locs 0 0 Qw (F0 m 110 ls []) := by
  obtain ⟨hx, hb, hml, hown, hts⟩ := id S
  intro x4 H locs ls hf hP hS hl
  unfold wX3_kindOf_110 at hf
  refine lv_iload hx hb dX3_kindOf_110 (lv_at hl 0 rfl) ?_
  refine lv_if_eq (tgt := 119) hx hb dX3_kindOf_112 (by decide) (fun c_112 => ?_) (fun c_112 => ?_)
  · replace hf := hf.1 c_112
    refine lv_iconst (v := 0) hx hb dX3_kindOf_119 (by decide) ?_
    exact hret _ _ _ _ _ hf hP hS dX3_kindOf_120
  · replace hf := hf.2 c_112
    refine lv_iconst (v := 1) hx hb dX3_kindOf_115 (by decide) ?_
    refine lv_goto (tgt := 120) hx hb dX3_kindOf_116 (by decide) ?_
    exact hret _ _ _ _ _ hf hP hS dX3_kindOf_120
def wX3_kindOf_61 (Q : Int32 → Prop) (x1 : Int64) (x3 : Int32) (z0 : Int32) (roofs : Int64) (deep : Int64) : Prop := (((x1 &&& (roofs ^^^ (-1))) = 0 → (Q 4)) ∧ (¬ (x1 &&& (roofs ^^^ (-1))) = 0 → ((x3 = 0 → ((z0 = 0 → (((x1 &&& deep) = 0 → (wX3_kindOf_110 Q z0 roofs deep)) ∧ (¬ (x1 &&& deep) = 0 → (Q 2)))) ∧ (¬ z0 = 0 → (wX3_kindOf_110 Q z0 roofs deep)))) ∧ (¬ x3 = 0 → (Q 3)))))
set_option maxHeartbeats 4000000 in
set_option maxRecDepth 100000 in
theorem tX3_kindOf_61 {Q : Int32 → Prop} {depths : (Nat → Int32)} {owners : (Nat → Int32)} {roofs : Int64} {rate : Int32} {undos : (Nat → Int32)} {undoMany : Int32} {drawn : Int32} {dug : Int64} {deep : Int64} {holes : (Nat → Int64)} {holeMany : Int32} {tape : (Nat → Int32)} {taped : Int32} {place : Int32} {reads : Int32} {read_ : (Nat → Int32)} {row : (Nat → Int32)} {order : (Nat → Int32)} {bestOrder : (Nat → Int32)} {nears : (Nat → Int32)} {isKept : Int32} {keptRoofs : Int64} {kept : (Nat → Int32)} {lanes : (Nat → Int32)} {rowSizes : (Nat → Int32)} {items : (Nat → Int64)} {moved : (Nat → Int64)} (S : CallFix p m c cX3_kindOf 5 s args lw_all RX3) (hK : va_K (dC, dI) vwCl (tysG dA) s) (hj : mJ h) (hret : hrX3_kindOf p l e s m args below meth c dC dI dA h Qw Q depths owners roofs rate undos undoMany drawn dug deep holes holeMany tape taped place reads read_ row order bestOrder nears isKept keptRoofs kept lanes rowSizes items moved) : ∀ (x1 : Int64) (x3 : Int32) (z0 : Int32) (H : Heap) (locs : List Loc) (ls : Array Slot), wX3_kindOf_61 Q x1 x3 z0 roofs deep → va_P (dC, dI) vwCl (wM h dA depths owners roofs rate undos undoMany drawn dug deep holes holeMany tape taped place reads read_ row order bestOrder nears isKept keptRoofs kept lanes rowSizes items moved) H → va_S (mA h) s.heap H locs → lv_has ls 5 [(0, .ref (h 0)), (1, .long x1), (3, .int x3)] → W p l e RX3_kindOf_ s m args below meth c H locs 0 0 Qw (F0 m 61 ls [.int z0]) := by
  obtain ⟨hx, hb, hml, hown, hts⟩ := id S
  intro x1 x3 z0 H locs ls hf hP hS hl
  unfold wX3_kindOf_61 at hf
  refine lv_istore (lv' := [(4, .int z0), (0, .ref (h 0)), (1, .long x1), (3, .int x3)]) hx hb dX3_kindOf_61 hl (by decide) rfl (fun ls hl => ?_)
  refine lv_lload_n hx hb dX3_kindOf_63 rfl (lv_at hl 2 rfl) ?_
  refine lv_aload_n hx hb dX3_kindOf_64 rfl (lv_at hl 1 rfl) ?_
  refine gM_roofs S hK hP dX3_kindOf_65 ?_
  refine lv_ldc2 (v := (-1)) hx hb hown (hts _ q1286) dX3_kindOf_68 ?_
  refine lv_lxor hx hb dX3_kindOf_71 ?_
  refine lv_land hx hb dX3_kindOf_72 ?_
  refine lv_lconst (v := 0) hx hb dX3_kindOf_73 (by decide) ?_
  refine lc_ne (tgt := 82) hx hb dX3_kindOf_74 dX3_kindOf_75 (by decide) (fun c_74 => ?_) (fun c_74 => ?_)
  · replace hf := hf.2 c_74
    refine lv_iload_n hx hb dX3_kindOf_82 rfl (lv_at hl 3 rfl) ?_
    refine lv_if_eq (tgt := 90) hx hb dX3_kindOf_83 (by decide) (fun c_83 => ?_) (fun c_83 => ?_)
    · replace hf := hf.1 c_83
      refine lv_iload hx hb dX3_kindOf_90 (lv_at hl 0 rfl) ?_
      refine lv_if_ne (tgt := 110) hx hb dX3_kindOf_92 (by decide) (fun c_92 => ?_) (fun c_92 => ?_)
      · replace hf := hf.2 c_92
        exact tX3_kindOf_110 S hK hj hret z0 _ _ _ hf hP hS (lv_sub hl [0] rfl)
      · replace hf := hf.1 c_92
        refine lv_lload_n hx hb dX3_kindOf_95 rfl (lv_at hl 2 rfl) ?_
        refine lv_aload_n hx hb dX3_kindOf_96 rfl (lv_at hl 1 rfl) ?_
        refine gM_deep S hK hP dX3_kindOf_97 ?_
        refine lv_land hx hb dX3_kindOf_100 ?_
        refine lv_lconst (v := 0) hx hb dX3_kindOf_101 (by decide) ?_
        refine lc_eq (tgt := 110) hx hb dX3_kindOf_102 dX3_kindOf_103 (by decide) (fun c_102 => ?_) (fun c_102 => ?_)
        · replace hf := hf.1 c_102
          exact tX3_kindOf_110 S hK hj hret z0 _ _ _ hf hP hS (lv_sub hl [0] rfl)
        · replace hf := hf.2 c_102
          refine lv_iconst (v := 2) hx hb dX3_kindOf_106 (by decide) ?_
          refine lv_goto (tgt := 120) hx hb dX3_kindOf_107 (by decide) ?_
          exact hret _ _ _ _ _ hf hP hS dX3_kindOf_120
    · replace hf := hf.2 c_83
      refine lv_iconst (v := 3) hx hb dX3_kindOf_86 (by decide) ?_
      refine lv_goto (tgt := 120) hx hb dX3_kindOf_87 (by decide) ?_
      exact hret _ _ _ _ _ hf hP hS dX3_kindOf_120
  · replace hf := hf.1 c_74
    refine lv_iconst (v := 4) hx hb dX3_kindOf_78 (by decide) ?_
    refine lv_goto (tgt := 120) hx hb dX3_kindOf_79 (by decide) ?_
    exact hret _ _ _ _ _ hf hP hS dX3_kindOf_120
def wX3_kindOf_45 (Q : Int32 → Prop) (x1 : Int64) (z0 : Int32) (roofs : Int64) (deep : Int64) : Prop := (wX3_edge (fun r_47 => (((x1 &&& r_47) = 0 → (wX3_kindOf_61 Q x1 z0 0 roofs deep)) ∧ (¬ (x1 &&& r_47) = 0 → (wX3_kindOf_61 Q x1 z0 1 roofs deep)))))
set_option maxHeartbeats 4000000 in
set_option maxRecDepth 100000 in
theorem tX3_kindOf_45 {Q : Int32 → Prop} {depths : (Nat → Int32)} {owners : (Nat → Int32)} {roofs : Int64} {rate : Int32} {undos : (Nat → Int32)} {undoMany : Int32} {drawn : Int32} {dug : Int64} {deep : Int64} {holes : (Nat → Int64)} {holeMany : Int32} {tape : (Nat → Int32)} {taped : Int32} {place : Int32} {reads : Int32} {read_ : (Nat → Int32)} {row : (Nat → Int32)} {order : (Nat → Int32)} {bestOrder : (Nat → Int32)} {nears : (Nat → Int32)} {isKept : Int32} {keptRoofs : Int64} {kept : (Nat → Int32)} {lanes : (Nat → Int32)} {rowSizes : (Nat → Int32)} {items : (Nat → Int64)} {moved : (Nat → Int64)} (S : CallFix p m c cX3_kindOf 5 s args lw_all RX3) (hK : va_K (dC, dI) vwCl (tysG dA) s) (hj : mJ h) (hret : hrX3_kindOf p l e s m args below meth c dC dI dA h Qw Q depths owners roofs rate undos undoMany drawn dug deep holes holeMany tape taped place reads read_ row order bestOrder nears isKept keptRoofs kept lanes rowSizes items moved) : ∀ (x1 : Int64) (z0 : Int32) (H : Heap) (locs : List Loc) (ls : Array Slot), wX3_kindOf_45 Q x1 z0 roofs deep → va_P (dC, dI) vwCl (wM h dA depths owners roofs rate undos undoMany drawn dug deep holes holeMany tape taped place reads read_ row order bestOrder nears isKept keptRoofs kept lanes rowSizes items moved) H → va_S (mA h) s.heap H locs → lv_has ls 5 [(0, .ref (h 0)), (1, .long x1)] → W p l e RX3_kindOf_ s m args below meth c H locs 0 0 Qw (F0 m 45 ls [.int z0]) := by
  obtain ⟨hx, hb, hml, hown, hts⟩ := id S
  intro x1 z0 H locs ls hf hP hS hl
  unfold wX3_kindOf_45 at hf
  refine lv_istore_n (lv' := [(3, .int z0), (0, .ref (h 0)), (1, .long x1)]) hx hb dX3_kindOf_45 rfl hl (by decide) rfl (fun ls hl => ?_)
  refine lv_lload_n hx hb dX3_kindOf_46 rfl (lv_at hl 2 rfl) ?_
  refine cs_l (As := []) (rest := [.long x1]) S (metX3_edge l hf) (lw_S q1409 q1410 q60 q1411) pdX3_edge ⟨rfl, rfl⟩ ⟨Nat.le_of_ble_eq_true rfl, Nat.le_of_ble_eq_true rfl⟩ rfl hl.1 rfl (Nat.le_of_ble_eq_true rfl) dX3_kindOf_47 ⟨Nat.zero_le _, Nat.zero_le _⟩ (fun r_47 hf => ?_)
  refine lv_land hx hb dX3_kindOf_50 ?_
  refine lv_lconst (v := 0) hx hb dX3_kindOf_51 (by decide) ?_
  refine lc_eq (tgt := 60) hx hb dX3_kindOf_52 dX3_kindOf_53 (by decide) (fun c_52 => ?_) (fun c_52 => ?_)
  · replace hf := hf.1 c_52
    refine lv_iconst (v := 0) hx hb dX3_kindOf_60 (by decide) ?_
    exact tX3_kindOf_61 S hK hj hret x1 z0 0 _ _ _ hf hP hS (lv_sub hl [1, 2, 0] rfl)
  · replace hf := hf.2 c_52
    refine lv_iconst (v := 1) hx hb dX3_kindOf_56 (by decide) ?_
    refine lv_goto (tgt := 61) hx hb dX3_kindOf_57 (by decide) ?_
    exact tX3_kindOf_61 S hK hj hret x1 z0 1 _ _ _ hf hP hS (lv_sub hl [1, 2, 0] rfl)
def wX3_kindOf_20 (Q : Int32 → Prop) (x1 : Int64) (roofs : Int64) (deep : Int64) : Prop := (((x1 &&& 63) = 0 → (wX3_kindOf_45 Q x1 0 roofs deep)) ∧ (¬ (x1 &&& 63) = 0 → (((x1 &&& 67645734912) = 0 → (wX3_kindOf_45 Q x1 0 roofs deep)) ∧ (¬ (x1 &&& 67645734912) = 0 → (wX3_kindOf_45 Q x1 1 roofs deep)))))
set_option maxHeartbeats 4000000 in
set_option maxRecDepth 100000 in
theorem tX3_kindOf_20 {Q : Int32 → Prop} {depths : (Nat → Int32)} {owners : (Nat → Int32)} {roofs : Int64} {rate : Int32} {undos : (Nat → Int32)} {undoMany : Int32} {drawn : Int32} {dug : Int64} {deep : Int64} {holes : (Nat → Int64)} {holeMany : Int32} {tape : (Nat → Int32)} {taped : Int32} {place : Int32} {reads : Int32} {read_ : (Nat → Int32)} {row : (Nat → Int32)} {order : (Nat → Int32)} {bestOrder : (Nat → Int32)} {nears : (Nat → Int32)} {isKept : Int32} {keptRoofs : Int64} {kept : (Nat → Int32)} {lanes : (Nat → Int32)} {rowSizes : (Nat → Int32)} {items : (Nat → Int64)} {moved : (Nat → Int64)} (S : CallFix p m c cX3_kindOf 5 s args lw_all RX3) (hK : va_K (dC, dI) vwCl (tysG dA) s) (hj : mJ h) (hret : hrX3_kindOf p l e s m args below meth c dC dI dA h Qw Q depths owners roofs rate undos undoMany drawn dug deep holes holeMany tape taped place reads read_ row order bestOrder nears isKept keptRoofs kept lanes rowSizes items moved) : ∀ (x1 : Int64) (H : Heap) (locs : List Loc) (ls : Array Slot), wX3_kindOf_20 Q x1 roofs deep → va_P (dC, dI) vwCl (wM h dA depths owners roofs rate undos undoMany drawn dug deep holes holeMany tape taped place reads read_ row order bestOrder nears isKept keptRoofs kept lanes rowSizes items moved) H → va_S (mA h) s.heap H locs → lv_has ls 5 [(0, .ref (h 0)), (1, .long x1)] → W p l e RX3_kindOf_ s m args below meth c H locs 0 0 Qw (F0 m 20 ls []) := by
  obtain ⟨hx, hb, hml, hown, hts⟩ := id S
  intro x1 H locs ls hf hP hS hl
  unfold wX3_kindOf_20 at hf
  refine lv_lload_n hx hb dX3_kindOf_20 rfl (lv_at hl 1 rfl) ?_
  refine lv_ldc2 (v := 63) hx hb hown (hts _ q1407) dX3_kindOf_21 ?_
  refine lv_land hx hb dX3_kindOf_24 ?_
  refine lv_lconst (v := 0) hx hb dX3_kindOf_25 (by decide) ?_
  refine lc_eq (tgt := 44) hx hb dX3_kindOf_26 dX3_kindOf_27 (by decide) (fun c_26 => ?_) (fun c_26 => ?_)
  · replace hf := hf.1 c_26
    refine lv_iconst (v := 0) hx hb dX3_kindOf_44 (by decide) ?_
    exact tX3_kindOf_45 S hK hj hret x1 0 _ _ _ hf hP hS (lv_sub hl [0, 1] rfl)
  · replace hf := hf.2 c_26
    refine lv_lload_n hx hb dX3_kindOf_30 rfl (lv_at hl 1 rfl) ?_
    refine lv_ldc2 (v := 67645734912) hx hb hown (hts _ q1408) dX3_kindOf_31 ?_
    refine lv_land hx hb dX3_kindOf_34 ?_
    refine lv_lconst (v := 0) hx hb dX3_kindOf_35 (by decide) ?_
    refine lc_eq (tgt := 44) hx hb dX3_kindOf_36 dX3_kindOf_37 (by decide) (fun c_36 => ?_) (fun c_36 => ?_)
    · replace hf := hf.1 c_36
      refine lv_iconst (v := 0) hx hb dX3_kindOf_44 (by decide) ?_
      exact tX3_kindOf_45 S hK hj hret x1 0 _ _ _ hf hP hS (lv_sub hl [0, 1] rfl)
    · replace hf := hf.2 c_36
      refine lv_iconst (v := 1) hx hb dX3_kindOf_40 (by decide) ?_
      refine lv_goto (tgt := 45) hx hb dX3_kindOf_41 (by decide) ?_
      exact tX3_kindOf_45 S hK hj hret x1 1 _ _ _ hf hP hS (lv_sub hl [0, 1] rfl)
def wX3_kindOf (Q : Int32 → Prop) (roofs : Int64) (deep : Int64) (x1 : Int64) : Prop := (((x1 &&& 1090785345) = 0 → (wX3_kindOf_20 Q x1 roofs deep)) ∧ (¬ (x1 &&& 1090785345) = 0 → (((x1 &&& 34905131040) = 0 → (wX3_kindOf_20 Q x1 roofs deep)) ∧ (¬ (x1 &&& 34905131040) = 0 → (wX3_kindOf_45 Q x1 1 roofs deep)))))
end
set_option maxHeartbeats 4000000 in
set_option maxRecDepth 100000 in
theorem metX3_kindOf (l : Launch) {Q : Int32 → Prop} {depths : (Nat → Int32)} {owners : (Nat → Int32)} {roofs : Int64} {rate : Int32} {undos : (Nat → Int32)} {undoMany : Int32} {drawn : Int32} {dug : Int64} {deep : Int64} {holes : (Nat → Int64)} {holeMany : Int32} {tape : (Nat → Int32)} {taped : Int32} {place : Int32} {reads : Int32} {read_ : (Nat → Int32)} {row : (Nat → Int32)} {order : (Nat → Int32)} {bestOrder : (Nat → Int32)} {nears : (Nat → Int32)} {isKept : Int32} {keptRoofs : Int64} {kept : (Nat → Int32)} {lanes : (Nat → Int32)} {rowSizes : (Nat → Int32)} {items : (Nat → Int64)} {moved : (Nat → Int64)} {x1 : Int64} {dC : Nat → ClassId} {dI : Nat → Nat → Nat} {dA : Nat → ClassId} {h : Nat → Nat} (hj : mJ h) (hf : wX3_kindOf Q roofs deep x1) : Met l yX3_kindOf (ws_ yX3_kindOf cX3_kindOf 5 (some .int)) rmX3_kindOf (mPc dC dI dA h [.long x1] (wM h dA depths owners roofs rate undos undoMany drawn dug deep holes holeMany tape taped place reads read_ row order bestOrder nears isKept keptRoofs kept lanes rowSizes items moved)) (va_Qi (fun (r : Int32) (u : Unit) => Q r) (fun u t => va_P (dC, dI) vwCl (wM h dA depths owners roofs rate undos undoMany drawn dug deep holes holeMany tape taped place reads read_ row order bestOrder nears isKept keptRoofs kept lanes rowSizes items moved) t.heap) (mA h)) 0 0 (mA h) := by
  refine Met.ofW (cc := cX3_kindOf) (maxL := 5) (ret := (some .int)) (by decide) rfl ?_
  intro p e s m args below meth c s₁ B hml hv
  obtain ⟨rfl, hP, hK⟩ := hv
  have hx := B.exec
  have hb := B.bytes
  have hr := B.returns
  have hts := atoms_spec (ws := (ws_ yX3_kindOf cX3_kindOf 5 (some .int))) B.pre
  have hts : ∀ w ∈ lw_all, w.before _ s = true := fun w h => hts w (List.mem_cons_of_mem _ h)
  have hown : s.vm.findClass RX3 = some m.cls := findClass_of_methodNamed B.named
  have hlocks := B.notSynchronized
  have S : CallFix p m c cX3_kindOf 5 s _ lw_all RX3 := ⟨hx, hb, hml, hown, hts⟩
  have hS : va_S (mA h) s.heap s.heap [] := va_S.rf
  have hl := lv_entry ([.ref (h 0), .long x1]) (n := 5) (Nat.le_of_ble_eq_true rfl)
  rw [lg_entry_eq]
  generalize (lg_sl ([.ref (h 0), .long x1]) ++ List.replicate (5 - (lg_sl ([.ref (h 0), .long x1])).length) Slot.unset).toArray = ls at hl ⊢
  replace hl : lv_has ls 5 [(0, .ref (h 0)), (1, .long x1)] := hl
  have hret : hrX3_kindOf p l e s m ([.ref (h 0), .long x1] : List Value).toArray below meth c dC dI dA h (MQ below (va_Qi (fun (r : Int32) (u : Unit) => Q r) (fun u t => va_P (dC, dI) vwCl (wM h dA depths owners roofs rate undos undoMany drawn dug deep holes holeMany tape taped place reads read_ row order bestOrder nears isKept keptRoofs kept lanes rowSizes items moved) t.heap) (mA h)) ([.ref (h 0), .long x1] : List Value).toArray s 0 0 (mA h)) Q depths owners roofs rate undos undoMany drawn dug deep holes holeMany tape taped place reads read_ row order bestOrder nears isKept keptRoofs kept lanes rowSizes items moved := fun r H locs pc ls hq hP hS hd => W.iret hx hb hr (fun t ht hW => ⟨⟨r, (), rfl, hq, by subst ht; exact hP⟩, hS.F ht⟩) hS.2.2 hd
  unfold wX3_kindOf at hf
  refine lv_lload_n hx hb dX3_kindOf_0 rfl (lv_at hl 1 rfl) ?_
  refine lv_ldc2 (v := 1090785345) hx hb hown (hts _ q1405) dX3_kindOf_1 ?_
  refine lv_land hx hb dX3_kindOf_4 ?_
  refine lv_lconst (v := 0) hx hb dX3_kindOf_5 (by decide) ?_
  refine lc_eq (tgt := 20) hx hb dX3_kindOf_6 dX3_kindOf_7 (by decide) (fun c_6 => ?_) (fun c_6 => ?_)
  · replace hf := hf.1 c_6
    exact tX3_kindOf_20 S hK hj hret x1 _ _ _ hf hP hS (lv_sub hl [0, 1] rfl)
  · replace hf := hf.2 c_6
    refine lv_lload_n hx hb dX3_kindOf_10 rfl (lv_at hl 1 rfl) ?_
    refine lv_ldc2 (v := 34905131040) hx hb hown (hts _ q1406) dX3_kindOf_11 ?_
    refine lv_land hx hb dX3_kindOf_14 ?_
    refine lv_lconst (v := 0) hx hb dX3_kindOf_15 (by decide) ?_
    refine lc_ne (tgt := 40) hx hb dX3_kindOf_16 dX3_kindOf_17 (by decide) (fun c_16 => ?_) (fun c_16 => ?_)
    · replace hf := hf.2 c_16
      refine lv_iconst (v := 1) hx hb dX3_kindOf_40 (by decide) ?_
      refine lv_goto (tgt := 45) hx hb dX3_kindOf_41 (by decide) ?_
      exact tX3_kindOf_45 S hK hj hret x1 1 _ _ _ hf hP hS (lv_sub hl [0, 1] rfl)
    · replace hf := hf.1 c_16
      exact tX3_kindOf_20 S hK hj hret x1 _ _ _ hf hP hS (lv_sub hl [0, 1] rfl)
