/-! HoleCountyModel.round(II)I -/
theorem pdX3_round : DscOk yX3_round 2 := by decide +kernel
abbrev rmX3_round : Room := { frames := 4, cells := 0, slots := 0, locals := 93 }
abbrev RX3_round_ : Room := (headSpec (ws_ yX3_round cX3_round 8 (some .int)) rmX3_round).room
section
variable {p : Program} {l : Launch} {e : Env} {s : State} {m : MethodId} {args : Array Value} {below : List Frame} {meth : Method} {c : Code} {Qw : State → Prop} {dC : Nat → ClassId} {dI : Nat → Nat → Nat} {dA : Nat → ClassId} {h : Nat → Nat}
abbrev hrX3_round (p : Program) (l : Launch) (e : Env) (s : State) (m : MethodId) (args : Array Value) (below : List Frame) (meth : Method) (c : Code) (dC : Nat → ClassId) (dI : Nat → Nat → Nat) (dA : Nat → ClassId) (h : Nat → Nat) (Qw : State → Prop) (Q : Int32 → Int64 → Int64 → (Nat → Int64) → Int32 → (Nat → Int32) → (Nat → Int32) → (Nat → Int32) → Prop) (depths : (Nat → Int32)) (owners : (Nat → Int32)) (roofs : Int64) (rate : Int32) (undos : (Nat → Int32)) (undoMany : Int32) (drawn : Int32) (tape : (Nat → Int32)) (taped : Int32) (place : Int32) (reads : Int32) (read_ : (Nat → Int32)) (row : (Nat → Int32)) (isKept : Int32) (keptRoofs : Int64) (kept : (Nat → Int32)) (lanes : (Nat → Int32)) (rowSizes : (Nat → Int32)) (items : (Nat → Int64)) (moved : (Nat → Int64)) : Prop := ∀ (r : Int32) (dug : Int64) (deep : Int64) (holes : (Nat → Int64)) (holeMany : Int32) (order : (Nat → Int32)) (bestOrder : (Nat → Int32)) (nears : (Nat → Int32)) (H : Heap) (locs : List Loc) (pc : Nat) (ls : Array Slot), Q r dug deep holes holeMany order bestOrder nears → va_P (dC, dI) vwCl (wM h dA depths owners roofs rate undos undoMany drawn dug deep holes holeMany tape taped place reads read_ row order bestOrder nears isKept keptRoofs kept lanes rowSizes items moved) H → va_S (mA h) s.heap H locs → decode cX3_round pc = .ok (.ireturn, 1) → W p l e RX3_round_ s m args below meth c H locs 0 0 Qw (F0 m pc ls [.int r])
def wX3_round_187 (Q : Int32 → Int64 → Int64 → (Nat → Int64) → Int32 → (Nat → Int32) → (Nat → Int32) → (Nat → Int32) → Prop) (k129 : Int32 → Int32 → (Nat → Int32) → (Nat → Int32) → Prop) (x1 : Int32) (x2 : Int32) (x3 : Int32) (x4 : Int32) (depths : (Nat → Int32)) (dug : Int64) (deep : Int64) (holes : (Nat → Int64)) (holeMany : Int32) (order : (Nat → Int32)) (bestOrder : (Nat → Int32)) (nears : (Nat → Int32)) : Prop := (wX3_nextOrder (fun r_189 order_189 => (k129 x4 r_189 order_189 bestOrder)) order x3)
set_option maxHeartbeats 4000000 in
set_option maxRecDepth 100000 in
theorem tX3_round_187 {Q : Int32 → Int64 → Int64 → (Nat → Int64) → Int32 → (Nat → Int32) → (Nat → Int32) → (Nat → Int32) → Prop} {x1 : Int32} {x2 : Int32} {x3 : Int32} {depths : (Nat → Int32)} {owners : (Nat → Int32)} {roofs : Int64} {rate : Int32} {undos : (Nat → Int32)} {undoMany : Int32} {drawn : Int32} {tape : (Nat → Int32)} {taped : Int32} {place : Int32} {reads : Int32} {read_ : (Nat → Int32)} {row : (Nat → Int32)} {isKept : Int32} {keptRoofs : Int64} {kept : (Nat → Int32)} {lanes : (Nat → Int32)} {rowSizes : (Nat → Int32)} {items : (Nat → Int64)} {moved : (Nat → Int64)} {dug : Int64} {deep : Int64} {holes : (Nat → Int64)} {holeMany : Int32} {nears : (Nat → Int32)} (S : CallFix p m c cX3_round 8 s args lw_all RX3) (hK : va_K (dC, dI) vwCl (tysG dA) s) (hj : mJ h) (hret : hrX3_round p l e s m args below meth c dC dI dA h Qw Q depths owners roofs rate undos undoMany drawn tape taped place reads read_ row isKept keptRoofs kept lanes rowSizes items moved) {k129 : Int32 → Int32 → (Nat → Int32) → (Nat → Int32) → Prop} (hk129 : ∀ (x4 : Int32) (x5 : Int32) (order : (Nat → Int32)) (bestOrder : (Nat → Int32)) (H : Heap) (locs : List Loc) (ls : Array Slot), k129 x4 x5 order bestOrder → va_P (dC, dI) vwCl (wM h dA depths owners roofs rate undos undoMany drawn dug deep holes holeMany tape taped place reads read_ row order bestOrder nears isKept keptRoofs kept lanes rowSizes items moved) H → va_S (mA h) s.heap H locs → lv_has ls 8 [(0, .ref (h 0)), (1, .int x1), (2, .int x2), (3, .int x3), (4, .int x4), (5, .int x5)] → W p l e RX3_round_ s m args below meth c H locs 0 0 Qw (F0 m 129 ls [])) : ∀ (x4 : Int32) (order : (Nat → Int32)) (bestOrder : (Nat → Int32)) (H : Heap) (locs : List Loc) (ls : Array Slot), wX3_round_187 Q k129 x1 x2 x3 x4 depths dug deep holes holeMany order bestOrder nears → va_P (dC, dI) vwCl (wM h dA depths owners roofs rate undos undoMany drawn dug deep holes holeMany tape taped place reads read_ row order bestOrder nears isKept keptRoofs kept lanes rowSizes items moved) H → va_S (mA h) s.heap H locs → lv_has ls 8 [(0, .ref (h 0)), (1, .int x1), (2, .int x2), (3, .int x3), (4, .int x4)] → W p l e RX3_round_ s m args below meth c H locs 0 0 Qw (F0 m 187 ls []) := by
  obtain ⟨hx, hb, hml, hown, hts⟩ := id S
  intro x4 order bestOrder H locs ls hf hP hS hl
  unfold wX3_round_187 at hf
  refine lv_aload_n hx hb dX3_round_187 rfl (lv_at hl 0 rfl) ?_
  refine lv_iload_n hx hb dX3_round_188 rfl (lv_at hl 3 rfl) ?_
  refine cM_i (As := [.int x3]) (rest := []) S hK rfl hP hS (metX3_nextOrder l hj hf) (lw_V q1517 q1519 qs49 q60 q1520) rfl pdX3_nextOrder ⟨rfl, rfl⟩ ⟨Nat.le_of_ble_eq_true rfl, Nat.le_of_ble_eq_true rfl⟩ rfl hl.1 rfl (Nat.le_of_ble_eq_true rfl) dX3_round_189 ⟨Nat.zero_le _, Nat.zero_le _⟩ (fun r_189 u_189 H locs hf hP hS => ?_)
  obtain ⟨order_189, rfl⟩ : ∃ z, z = u_189 := ⟨_, rfl⟩
  replace hP : va_P (dC, dI) vwCl (wM h dA depths owners roofs rate undos undoMany drawn dug deep holes holeMany tape taped place reads read_ row order_189 bestOrder nears isKept keptRoofs kept lanes rowSizes items moved) H := hP
  refine lv_istore (lv' := [(5, .int r_189), (0, .ref (h 0)), (1, .int x1), (2, .int x2), (3, .int x3), (4, .int x4)]) hx hb dX3_round_192 hl (by decide) rfl (fun ls hl => ?_)
  refine lv_goto (tgt := 129) hx hb dX3_round_194 (by decide) ?_
  exact hk129 x4 r_189 order_189 bestOrder _ _ _ hf hP hS (lv_sub hl [1, 2, 3, 4, 5, 0] rfl)
def wX3_round_161 (Q : Int32 → Int64 → Int64 → (Nat → Int64) → Int32 → (Nat → Int32) → (Nat → Int32) → (Nat → Int32) → Prop) (k129 : Int32 → Int32 → (Nat → Int32) → (Nat → Int32) → Prop) (x1 : Int32) (x2 : Int32) (x3 : Int32) (x4 : Int32) (depths : (Nat → Int32)) (dug : Int64) (deep : Int64) (holes : (Nat → Int64)) (holeMany : Int32) (order : (Nat → Int32)) (nears : (Nat → Int32)) : Nat → Int32 → (Nat → Int32) → Prop
  | 0, _, _ => False
  | n + 1, x7, bestOrder => ((x3 ≤ x7 → (wX3_round_187 Q k129 x1 x2 x3 x4 depths dug deep holes holeMany order bestOrder nears)) ∧ (¬ x3 ≤ x7 → (vp_in x7 8 ∧ (vp_in x7 8 ∧ (∀ bestOrder_180 : Nat → Int32, bestOrder_180 = upd bestOrder (x7 : Int32).toNatClampNeg (order (x7 : Int32).toNatClampNeg) → (∀ x7_181 : Int32, x7_181 = x7 + 1 → ((wX3_round_161 Q k129 x1 x2 x3 x4 depths dug deep holes holeMany order nears n) x7_181 bestOrder_180)))))))
set_option maxHeartbeats 4000000 in
set_option maxRecDepth 100000 in
theorem tX3_round_161 {Q : Int32 → Int64 → Int64 → (Nat → Int64) → Int32 → (Nat → Int32) → (Nat → Int32) → (Nat → Int32) → Prop} {x1 : Int32} {x2 : Int32} {x3 : Int32} {x4 : Int32} {depths : (Nat → Int32)} {owners : (Nat → Int32)} {roofs : Int64} {rate : Int32} {undos : (Nat → Int32)} {undoMany : Int32} {drawn : Int32} {dug : Int64} {deep : Int64} {holes : (Nat → Int64)} {holeMany : Int32} {tape : (Nat → Int32)} {taped : Int32} {place : Int32} {reads : Int32} {read_ : (Nat → Int32)} {row : (Nat → Int32)} {order : (Nat → Int32)} {nears : (Nat → Int32)} {isKept : Int32} {keptRoofs : Int64} {kept : (Nat → Int32)} {lanes : (Nat → Int32)} {rowSizes : (Nat → Int32)} {items : (Nat → Int64)} {moved : (Nat → Int64)} (S : CallFix p m c cX3_round 8 s args lw_all RX3) (hK : va_K (dC, dI) vwCl (tysG dA) s) (hj : mJ h) (hret : hrX3_round p l e s m args below meth c dC dI dA h Qw Q depths owners roofs rate undos undoMany drawn tape taped place reads read_ row isKept keptRoofs kept lanes rowSizes items moved) {k129 : Int32 → Int32 → (Nat → Int32) → (Nat → Int32) → Prop} (hk129 : ∀ (x4 : Int32) (x5 : Int32) (order : (Nat → Int32)) (bestOrder : (Nat → Int32)) (H : Heap) (locs : List Loc) (ls : Array Slot), k129 x4 x5 order bestOrder → va_P (dC, dI) vwCl (wM h dA depths owners roofs rate undos undoMany drawn dug deep holes holeMany tape taped place reads read_ row order bestOrder nears isKept keptRoofs kept lanes rowSizes items moved) H → va_S (mA h) s.heap H locs → lv_has ls 8 [(0, .ref (h 0)), (1, .int x1), (2, .int x2), (3, .int x3), (4, .int x4), (5, .int x5)] → W p l e RX3_round_ s m args below meth c H locs 0 0 Qw (F0 m 129 ls [])) : ∀ (n : Nat) (x7 : Int32) (bestOrder : (Nat → Int32)) (H : Heap) (locs : List Loc) (ls : Array Slot), wX3_round_161 Q k129 x1 x2 x3 x4 depths dug deep holes holeMany order nears n x7 bestOrder → va_P (dC, dI) vwCl (wM h dA depths owners roofs rate undos undoMany drawn dug deep holes holeMany tape taped place reads read_ row order bestOrder nears isKept keptRoofs kept lanes rowSizes items moved) H → va_S (mA h) s.heap H locs → lv_has ls 8 [(0, .ref (h 0)), (1, .int x1), (2, .int x2), (3, .int x3), (4, .int x4), (7, .int x7)] → W p l e RX3_round_ s m args below meth c H locs 0 0 Qw (F0 m 161 ls []) := by
  obtain ⟨hx, hb, hml, hown, hts⟩ := id S
  intro n
  induction n with
  | zero => intro _ _ _ _ _ hf; exact hf.elim
  | succ n ih =>
    intro x7 bestOrder H locs ls hf hP hS hl
    rw [wX3_round_161] at hf
    refine lv_iload hx hb dX3_round_161 (lv_at hl 5 rfl) ?_
    refine lv_iload_n hx hb dX3_round_163 rfl (lv_at hl 3 rfl) ?_
    refine lv_icmp_ge (tgt := 187) hx hb dX3_round_164 (by decide) (fun c_164 => ?_) (fun c_164 => ?_)
    · replace hf := hf.1 c_164
      exact tX3_round_187 S hK hj hret hk129 x4 order bestOrder _ _ _ hf hP hS (lv_sub hl [0, 1, 2, 3, 4] rfl)
    · replace hf := hf.2 c_164
      refine lv_aload_n hx hb dX3_round_167 rfl (lv_at hl 0 rfl) ?_
      refine gM_bestOrder S hK hP dX3_round_168 ?_
      refine lv_iload hx hb dX3_round_171 (lv_at hl 5 rfl) ?_
      refine lv_aload_n hx hb dX3_round_173 rfl (lv_at hl 0 rfl) ?_
      refine gM_order S hK hP dX3_round_174 ?_
      refine lv_iload hx hb dX3_round_177 (lv_at hl 5 rfl) ?_
      obtain ⟨hin, hf⟩ := hf
      refine lM_order S hK hP hin dX3_round_179 ?_
      obtain ⟨hin, hf⟩ := hf
      obtain ⟨bestOrder_180, ebestOrder_180⟩ : ∃ z : Nat → Int32, z = upd bestOrder (x7 : Int32).toNatClampNeg (order (x7 : Int32).toNatClampNeg) := ⟨_, rfl⟩
      replace hf := hf bestOrder_180 ebestOrder_180
      refine sM_bestOrder S hK hj hP hS hin ebestOrder_180 dX3_round_180 (fun H locs hP hS => ?_)
      obtain ⟨x7_181, ex7_181⟩ : ∃ z : Int32, z = x7 + 1 := ⟨_, rfl⟩
      replace hf := hf x7_181 ex7_181
      refine lv_iinc (v := x7_181) (lv' := [(7, .int x7_181), (0, .ref (h 0)), (1, .int x1), (2, .int x2), (3, .int x3), (4, .int x4)]) hx hb dX3_round_181 hl (k := 5) rfl (by rw [ex7_181]; rfl) (by decide) rfl (fun ls hl => ?_)
      refine lv_goto (tgt := 161) hx hb dX3_round_184 (by decide) ?_
      exact ih x7_181 bestOrder_180 _ _ _ hf hP hS (lv_sub hl [1, 2, 3, 4, 5, 0] rfl)
def wX3_round_129 (Q : Int32 → Int64 → Int64 → (Nat → Int64) → Int32 → (Nat → Int32) → (Nat → Int32) → (Nat → Int32) → Prop) (x1 : Int32) (x2 : Int32) (x3 : Int32) (depths : (Nat → Int32)) (dug : Int64) (deep : Int64) (holes : (Nat → Int64)) (holeMany : Int32) (nears : (Nat → Int32)) : Nat → Int32 → Int32 → (Nat → Int32) → (Nat → Int32) → Prop
  | 0, _, _, _, _ => False
  | n + 1, x4, x5, order, bestOrder => ((x5 = 0 → ((0 ≤ x2 → ((x3 ≤ x2 → (Q (-4) dug deep holes holeMany order bestOrder nears)) ∧ (¬ x3 ≤ x2 → (vp_in x2 8 ∧ (vp_in (bestOrder (x2 : Int32).toNatClampNeg) 36 ∧ (wX3_least (fun r_222 => (Q r_222 dug deep holes holeMany order bestOrder nears)) (holes ((bestOrder (x2 : Int32).toNatClampNeg) : Int32).toNatClampNeg))))))) ∧ (¬ 0 ≤ x2 → (Q x4 dug deep holes holeMany order bestOrder nears)))) ∧ (¬ x5 = 0 → (wX3_stepsOf (fun r_137 => ((x4 < 0 → (∃ fu : Nat, wX3_round_161 Q (wX3_round_129 Q x1 x2 x3 depths dug deep holes holeMany nears n) x1 x2 x3 r_137 depths dug deep holes holeMany order nears fu 0 bestOrder)) ∧ (¬ x4 < 0 → ((x4 ≤ r_137 → (wX3_round_187 Q (wX3_round_129 Q x1 x2 x3 depths dug deep holes holeMany nears n) x1 x2 x3 x4 depths dug deep holes holeMany order bestOrder nears)) ∧ (¬ x4 ≤ r_137 → (∃ fu : Nat, wX3_round_161 Q (wX3_round_129 Q x1 x2 x3 depths dug deep holes holeMany nears n) x1 x2 x3 r_137 depths dug deep holes holeMany order nears fu 0 bestOrder)))))) order nears x1 x3)))
set_option maxHeartbeats 4000000 in
set_option maxRecDepth 100000 in
theorem tX3_round_129 {Q : Int32 → Int64 → Int64 → (Nat → Int64) → Int32 → (Nat → Int32) → (Nat → Int32) → (Nat → Int32) → Prop} {x1 : Int32} {x2 : Int32} {x3 : Int32} {depths : (Nat → Int32)} {owners : (Nat → Int32)} {roofs : Int64} {rate : Int32} {undos : (Nat → Int32)} {undoMany : Int32} {drawn : Int32} {dug : Int64} {deep : Int64} {holes : (Nat → Int64)} {holeMany : Int32} {tape : (Nat → Int32)} {taped : Int32} {place : Int32} {reads : Int32} {read_ : (Nat → Int32)} {row : (Nat → Int32)} {nears : (Nat → Int32)} {isKept : Int32} {keptRoofs : Int64} {kept : (Nat → Int32)} {lanes : (Nat → Int32)} {rowSizes : (Nat → Int32)} {items : (Nat → Int64)} {moved : (Nat → Int64)} (S : CallFix p m c cX3_round 8 s args lw_all RX3) (hK : va_K (dC, dI) vwCl (tysG dA) s) (hj : mJ h) (hret : hrX3_round p l e s m args below meth c dC dI dA h Qw Q depths owners roofs rate undos undoMany drawn tape taped place reads read_ row isKept keptRoofs kept lanes rowSizes items moved) : ∀ (n : Nat) (x4 : Int32) (x5 : Int32) (order : (Nat → Int32)) (bestOrder : (Nat → Int32)) (H : Heap) (locs : List Loc) (ls : Array Slot), wX3_round_129 Q x1 x2 x3 depths dug deep holes holeMany nears n x4 x5 order bestOrder → va_P (dC, dI) vwCl (wM h dA depths owners roofs rate undos undoMany drawn dug deep holes holeMany tape taped place reads read_ row order bestOrder nears isKept keptRoofs kept lanes rowSizes items moved) H → va_S (mA h) s.heap H locs → lv_has ls 8 [(0, .ref (h 0)), (1, .int x1), (2, .int x2), (3, .int x3), (4, .int x4), (5, .int x5)] → W p l e RX3_round_ s m args below meth c H locs 0 0 Qw (F0 m 129 ls []) := by
  obtain ⟨hx, hb, hml, hown, hts⟩ := id S
  intro n
  induction n with
  | zero => intro _ _ _ _ _ _ _ hf; exact hf.elim
  | succ n ih =>
    intro x4 x5 order bestOrder H locs ls hf hP hS hl
    rw [wX3_round_129] at hf
    refine lv_iload hx hb dX3_round_129 (lv_at hl 5 rfl) ?_
    refine lv_if_eq (tgt := 197) hx hb dX3_round_131 (by decide) (fun c_131 => ?_) (fun c_131 => ?_)
    · replace hf := hf.1 c_131
      refine lv_iload_n hx hb dX3_round_197 rfl (lv_at hl 2 rfl) ?_
      refine lv_if_ge (tgt := 206) hx hb dX3_round_198 (by decide) (fun c_198 => ?_) (fun c_198 => ?_)
      · replace hf := hf.1 c_198
        refine lv_iload_n hx hb dX3_round_206 rfl (lv_at hl 2 rfl) ?_
        refine lv_iload_n hx hb dX3_round_207 rfl (lv_at hl 3 rfl) ?_
        refine lv_icmp_ge (tgt := 228) hx hb dX3_round_208 (by decide) (fun c_208 => ?_) (fun c_208 => ?_)
        · replace hf := hf.1 c_208
          refine lv_bipush (v := (-4)) hx hb dX3_round_228 (by decide) ?_
          exact hret _ _ _ _ _ _ _ _ _ _ _ _ hf hP hS dX3_round_230
        · replace hf := hf.2 c_208
          refine lv_aload_n hx hb dX3_round_211 rfl (lv_at hl 0 rfl) ?_
          refine gM_holes S hK hP dX3_round_212 ?_
          refine lv_aload_n hx hb dX3_round_215 rfl (lv_at hl 0 rfl) ?_
          refine gM_bestOrder S hK hP dX3_round_216 ?_
          refine lv_iload_n hx hb dX3_round_219 rfl (lv_at hl 2 rfl) ?_
          obtain ⟨hin, hf⟩ := hf
          refine lM_bestOrder S hK hP hin dX3_round_220 ?_
          obtain ⟨hin, hf⟩ := hf
          refine lM_holes S hK hP hin dX3_round_221 ?_
          refine cs_i (As := [.long (holes ((bestOrder (x2 : Int32).toNatClampNeg) : Int32).toNatClampNeg)]) (rest := []) S (metX3_least l hf) (lw_S q1326 q1327 q60 q1328) pdX3_least ⟨rfl, rfl⟩ ⟨Nat.le_of_ble_eq_true rfl, Nat.le_of_ble_eq_true rfl⟩ rfl hl.1 rfl (Nat.le_of_ble_eq_true rfl) dX3_round_222 ⟨Nat.zero_le _, Nat.zero_le _⟩ (fun r_222 hf => ?_)
          refine lv_goto (tgt := 230) hx hb dX3_round_225 (by decide) ?_
          exact hret _ _ _ _ _ _ _ _ _ _ _ _ hf hP hS dX3_round_230
      · replace hf := hf.2 c_198
        refine lv_iload hx hb dX3_round_201 (lv_at hl 4 rfl) ?_
        refine lv_goto (tgt := 230) hx hb dX3_round_203 (by decide) ?_
        exact hret _ _ _ _ _ _ _ _ _ _ _ _ hf hP hS dX3_round_230
    · replace hf := hf.2 c_131
      refine lv_aload_n hx hb dX3_round_134 rfl (lv_at hl 0 rfl) ?_
      refine lv_iload_n hx hb dX3_round_135 rfl (lv_at hl 1 rfl) ?_
      refine lv_iload_n hx hb dX3_round_136 rfl (lv_at hl 3 rfl) ?_
      refine cM_i (As := [.int x1, .int x3]) (rest := []) S hK rfl hP hS (metX3_stepsOf l hj hf) (lw_V q1513 q1515 qs48 q60 q1516) rfl pdX3_stepsOf ⟨rfl, rfl⟩ ⟨Nat.le_of_ble_eq_true rfl, Nat.le_of_ble_eq_true rfl⟩ rfl hl.1 rfl (Nat.le_of_ble_eq_true rfl) dX3_round_137 ⟨Nat.zero_le _, Nat.zero_le _⟩ (fun r_137 u_137 H locs hf hP hS => ?_)
      replace hP : va_P (dC, dI) vwCl (wM h dA depths owners roofs rate undos undoMany drawn dug deep holes holeMany tape taped place reads read_ row order bestOrder nears isKept keptRoofs kept lanes rowSizes items moved) H := hP
      try dsimp only at hf
      refine lv_istore (lv' := [(6, .int r_137), (0, .ref (h 0)), (1, .int x1), (2, .int x2), (3, .int x3), (4, .int x4), (5, .int x5)]) hx hb dX3_round_140 hl (by decide) rfl (fun ls hl => ?_)
      refine lv_iload hx hb dX3_round_142 (lv_at hl 5 rfl) ?_
      refine lv_if_lt (tgt := 154) hx hb dX3_round_144 (by decide) (fun c_144 => ?_) (fun c_144 => ?_)
      · replace hf := hf.1 c_144
        refine lv_iload hx hb dX3_round_154 (lv_at hl 0 rfl) ?_
        refine lv_istore (lv' := [(4, .int r_137), (6, .int r_137), (0, .ref (h 0)), (1, .int x1), (2, .int x2), (3, .int x3), (5, .int x5)]) hx hb dX3_round_156 hl (by decide) rfl (fun ls hl => ?_)
        refine lv_iconst (v := 0) hx hb dX3_round_158 (by decide) ?_
        refine lv_istore (lv' := [(7, .int 0), (4, .int r_137), (6, .int r_137), (0, .ref (h 0)), (1, .int x1), (2, .int x2), (3, .int x3), (5, .int x5)]) hx hb dX3_round_159 hl (by decide) rfl (fun ls hl => ?_)
        obtain ⟨fu, hf⟩ := hf
        exact tX3_round_161 S hK hj hret ih fu 0 bestOrder _ _ _ hf hP hS (lv_sub hl [3, 4, 5, 6, 1, 0] rfl)
      · replace hf := hf.2 c_144
        refine lv_iload hx hb dX3_round_147 (lv_at hl 0 rfl) ?_
        refine lv_iload hx hb dX3_round_149 (lv_at hl 5 rfl) ?_
        refine lv_icmp_ge (tgt := 187) hx hb dX3_round_151 (by decide) (fun c_151 => ?_) (fun c_151 => ?_)
        · replace hf := hf.1 c_151
          exact tX3_round_187 S hK hj hret ih x4 order bestOrder _ _ _ hf hP hS (lv_sub hl [1, 2, 3, 4, 5] rfl)
        · replace hf := hf.2 c_151
          refine lv_iload hx hb dX3_round_154 (lv_at hl 0 rfl) ?_
          refine lv_istore (lv' := [(4, .int r_137), (6, .int r_137), (0, .ref (h 0)), (1, .int x1), (2, .int x2), (3, .int x3), (5, .int x5)]) hx hb dX3_round_156 hl (by decide) rfl (fun ls hl => ?_)
          refine lv_iconst (v := 0) hx hb dX3_round_158 (by decide) ?_
          refine lv_istore (lv' := [(7, .int 0), (4, .int r_137), (6, .int r_137), (0, .ref (h 0)), (1, .int x1), (2, .int x2), (3, .int x3), (5, .int x5)]) hx hb dX3_round_159 hl (by decide) rfl (fun ls hl => ?_)
          obtain ⟨fu, hf⟩ := hf
          exact tX3_round_161 S hK hj hret ih fu 0 bestOrder _ _ _ hf hP hS (lv_sub hl [3, 4, 5, 6, 1, 0] rfl)
def wX3_round_102 (Q : Int32 → Int64 → Int64 → (Nat → Int64) → Int32 → (Nat → Int32) → (Nat → Int32) → (Nat → Int32) → Prop) (x1 : Int32) (x2 : Int32) (x3 : Int32) (depths : (Nat → Int32)) (dug : Int64) (deep : Int64) (holes : (Nat → Int64)) (holeMany : Int32) (bestOrder : (Nat → Int32)) (nears : (Nat → Int32)) : Nat → Int32 → (Nat → Int32) → Prop
  | 0, _, _ => False
  | n + 1, x4, order => ((x3 ≤ x4 → (∃ fu : Nat, wX3_round_129 Q x1 x2 x3 depths dug deep holes holeMany nears fu (-1) 1 order bestOrder)) ∧ (¬ x3 ≤ x4 → (vp_in x4 8 ∧ (∀ order_116 : Nat → Int32, order_116 = upd order (x4 : Int32).toNatClampNeg x4 → (∀ x4_117 : Int32, x4_117 = x4 + 1 → ((wX3_round_102 Q x1 x2 x3 depths dug deep holes holeMany bestOrder nears n) x4_117 order_116))))))
set_option maxHeartbeats 4000000 in
set_option maxRecDepth 100000 in
theorem tX3_round_102 {Q : Int32 → Int64 → Int64 → (Nat → Int64) → Int32 → (Nat → Int32) → (Nat → Int32) → (Nat → Int32) → Prop} {x1 : Int32} {x2 : Int32} {x3 : Int32} {depths : (Nat → Int32)} {owners : (Nat → Int32)} {roofs : Int64} {rate : Int32} {undos : (Nat → Int32)} {undoMany : Int32} {drawn : Int32} {dug : Int64} {deep : Int64} {holes : (Nat → Int64)} {holeMany : Int32} {tape : (Nat → Int32)} {taped : Int32} {place : Int32} {reads : Int32} {read_ : (Nat → Int32)} {row : (Nat → Int32)} {bestOrder : (Nat → Int32)} {nears : (Nat → Int32)} {isKept : Int32} {keptRoofs : Int64} {kept : (Nat → Int32)} {lanes : (Nat → Int32)} {rowSizes : (Nat → Int32)} {items : (Nat → Int64)} {moved : (Nat → Int64)} (S : CallFix p m c cX3_round 8 s args lw_all RX3) (hK : va_K (dC, dI) vwCl (tysG dA) s) (hj : mJ h) (hret : hrX3_round p l e s m args below meth c dC dI dA h Qw Q depths owners roofs rate undos undoMany drawn tape taped place reads read_ row isKept keptRoofs kept lanes rowSizes items moved) : ∀ (n : Nat) (x4 : Int32) (order : (Nat → Int32)) (H : Heap) (locs : List Loc) (ls : Array Slot), wX3_round_102 Q x1 x2 x3 depths dug deep holes holeMany bestOrder nears n x4 order → va_P (dC, dI) vwCl (wM h dA depths owners roofs rate undos undoMany drawn dug deep holes holeMany tape taped place reads read_ row order bestOrder nears isKept keptRoofs kept lanes rowSizes items moved) H → va_S (mA h) s.heap H locs → lv_has ls 8 [(0, .ref (h 0)), (1, .int x1), (2, .int x2), (3, .int x3), (4, .int x4)] → W p l e RX3_round_ s m args below meth c H locs 0 0 Qw (F0 m 102 ls []) := by
  obtain ⟨hx, hb, hml, hown, hts⟩ := id S
  intro n
  induction n with
  | zero => intro _ _ _ _ _ hf; exact hf.elim
  | succ n ih =>
    intro x4 order H locs ls hf hP hS hl
    rw [wX3_round_102] at hf
    refine lv_iload hx hb dX3_round_102 (lv_at hl 4 rfl) ?_
    refine lv_iload_n hx hb dX3_round_104 rfl (lv_at hl 3 rfl) ?_
    refine lv_icmp_ge (tgt := 123) hx hb dX3_round_105 (by decide) (fun c_105 => ?_) (fun c_105 => ?_)
    · replace hf := hf.1 c_105
      refine lv_iconst (v := (-1)) hx hb dX3_round_123 (by decide) ?_
      refine lv_istore (lv' := [(4, .int (-1)), (0, .ref (h 0)), (1, .int x1), (2, .int x2), (3, .int x3)]) hx hb dX3_round_124 hl (by decide) rfl (fun ls hl => ?_)
      refine lv_iconst (v := 1) hx hb dX3_round_126 (by decide) ?_
      refine lv_istore (lv' := [(5, .int 1), (4, .int (-1)), (0, .ref (h 0)), (1, .int x1), (2, .int x2), (3, .int x3)]) hx hb dX3_round_127 hl (by decide) rfl (fun ls hl => ?_)
      obtain ⟨fu, hf⟩ := hf
      exact tX3_round_129 S hK hj hret fu (-1) 1 order bestOrder _ _ _ hf hP hS (lv_sub hl [2, 3, 4, 5, 1, 0] rfl)
    · replace hf := hf.2 c_105
      refine lv_aload_n hx hb dX3_round_108 rfl (lv_at hl 0 rfl) ?_
      refine gM_order S hK hP dX3_round_109 ?_
      refine lv_iload hx hb dX3_round_112 (lv_at hl 4 rfl) ?_
      refine lv_iload hx hb dX3_round_114 (lv_at hl 4 rfl) ?_
      obtain ⟨hin, hf⟩ := hf
      obtain ⟨order_116, eorder_116⟩ : ∃ z : Nat → Int32, z = upd order (x4 : Int32).toNatClampNeg x4 := ⟨_, rfl⟩
      replace hf := hf order_116 eorder_116
      refine sM_order S hK hj hP hS hin eorder_116 dX3_round_116 (fun H locs hP hS => ?_)
      obtain ⟨x4_117, ex4_117⟩ : ∃ z : Int32, z = x4 + 1 := ⟨_, rfl⟩
      replace hf := hf x4_117 ex4_117
      refine lv_iinc (v := x4_117) (lv' := [(4, .int x4_117), (0, .ref (h 0)), (1, .int x1), (2, .int x2), (3, .int x3)]) hx hb dX3_round_117 hl (k := 4) rfl (by rw [ex4_117]; rfl) (by decide) rfl (fun ls hl => ?_)
      refine lv_goto (tgt := 102) hx hb dX3_round_120 (by decide) ?_
      exact ih x4_117 order_116 _ _ _ hf hP hS (lv_sub hl [1, 2, 3, 4, 0] rfl)
def wX3_round_51 (Q : Int32 → Int64 → Int64 → (Nat → Int64) → Int32 → (Nat → Int32) → (Nat → Int32) → (Nat → Int32) → Prop) (x1 : Int32) (x2 : Int32) (x3 : Int32) (depths : (Nat → Int32)) (dug : Int64) (deep : Int64) (holes : (Nat → Int64)) (holeMany : Int32) (order : (Nat → Int32)) (bestOrder : (Nat → Int32)) : Nat → Int32 → (Nat → Int32) → Prop
  | 0, _, _ => False
  | n + 1, x4, nears => (((36 * x3) ≤ x4 → (∃ fu : Nat, wX3_round_102 Q x1 x2 x3 depths dug deep holes holeMany bestOrder nears fu 0 order)) ∧ (¬ (36 * x3) ≤ x4 → (¬ x3 = 0 ∧ (¬ x3 = 0 ∧ (¬ x3 = 0 ∧ (vp_in (x4 - x4 / x3 * x3) 36 ∧ (¬ x3 = 0 ∧ (wX3_nearest (fun r_89 => (vp_in ((8 * (x4 / x3)) + (x4 - x4 / x3 * x3)) 288 ∧ (∀ nears_92 : Nat → Int32, nears_92 = upd nears (((8 * (x4 / x3)) + (x4 - x4 / x3 * x3)) : Int32).toNatClampNeg r_89 → (∀ x4_93 : Int32, x4_93 = x4 + 1 → ((wX3_round_51 Q x1 x2 x3 depths dug deep holes holeMany order bestOrder n) x4_93 nears_92))))) (holes ((x4 - x4 / x3 * x3) : Int32).toNatClampNeg) (x4 / x3)))))))))
set_option maxHeartbeats 4000000 in
set_option maxRecDepth 100000 in
theorem tX3_round_51 {Q : Int32 → Int64 → Int64 → (Nat → Int64) → Int32 → (Nat → Int32) → (Nat → Int32) → (Nat → Int32) → Prop} {x1 : Int32} {x2 : Int32} {x3 : Int32} {depths : (Nat → Int32)} {owners : (Nat → Int32)} {roofs : Int64} {rate : Int32} {undos : (Nat → Int32)} {undoMany : Int32} {drawn : Int32} {dug : Int64} {deep : Int64} {holes : (Nat → Int64)} {holeMany : Int32} {tape : (Nat → Int32)} {taped : Int32} {place : Int32} {reads : Int32} {read_ : (Nat → Int32)} {row : (Nat → Int32)} {order : (Nat → Int32)} {bestOrder : (Nat → Int32)} {isKept : Int32} {keptRoofs : Int64} {kept : (Nat → Int32)} {lanes : (Nat → Int32)} {rowSizes : (Nat → Int32)} {items : (Nat → Int64)} {moved : (Nat → Int64)} (S : CallFix p m c cX3_round 8 s args lw_all RX3) (hK : va_K (dC, dI) vwCl (tysG dA) s) (hj : mJ h) (hret : hrX3_round p l e s m args below meth c dC dI dA h Qw Q depths owners roofs rate undos undoMany drawn tape taped place reads read_ row isKept keptRoofs kept lanes rowSizes items moved) : ∀ (n : Nat) (x4 : Int32) (nears : (Nat → Int32)) (H : Heap) (locs : List Loc) (ls : Array Slot), wX3_round_51 Q x1 x2 x3 depths dug deep holes holeMany order bestOrder n x4 nears → va_P (dC, dI) vwCl (wM h dA depths owners roofs rate undos undoMany drawn dug deep holes holeMany tape taped place reads read_ row order bestOrder nears isKept keptRoofs kept lanes rowSizes items moved) H → va_S (mA h) s.heap H locs → lv_has ls 8 [(0, .ref (h 0)), (1, .int x1), (2, .int x2), (3, .int x3), (4, .int x4)] → W p l e RX3_round_ s m args below meth c H locs 0 0 Qw (F0 m 51 ls []) := by
  obtain ⟨hx, hb, hml, hown, hts⟩ := id S
  intro n
  induction n with
  | zero => intro _ _ _ _ _ hf; exact hf.elim
  | succ n ih =>
    intro x4 nears H locs ls hf hP hS hl
    rw [wX3_round_51] at hf
    refine lv_iload hx hb dX3_round_51 (lv_at hl 4 rfl) ?_
    refine lv_bipush (v := 36) hx hb dX3_round_53 (by decide) ?_
    refine lv_iload_n hx hb dX3_round_55 rfl (lv_at hl 3 rfl) ?_
    refine lv_imul hx hb dX3_round_56 ?_
    refine lv_icmp_ge (tgt := 99) hx hb dX3_round_57 (by decide) (fun c_57 => ?_) (fun c_57 => ?_)
    · replace hf := hf.1 c_57
      refine lv_iconst (v := 0) hx hb dX3_round_99 (by decide) ?_
      refine lv_istore (lv' := [(4, .int 0), (0, .ref (h 0)), (1, .int x1), (2, .int x2), (3, .int x3)]) hx hb dX3_round_100 hl (by decide) rfl (fun ls hl => ?_)
      obtain ⟨fu, hf⟩ := hf
      exact tX3_round_102 S hK hj hret fu 0 order _ _ _ hf hP hS (lv_sub hl [1, 2, 3, 4, 0] rfl)
    · replace hf := hf.2 c_57
      refine lv_aload_n hx hb dX3_round_60 rfl (lv_at hl 0 rfl) ?_
      refine gM_nears S hK hP dX3_round_61 ?_
      refine lv_bipush (v := 8) hx hb dX3_round_64 (by decide) ?_
      refine lv_iload hx hb dX3_round_66 (lv_at hl 4 rfl) ?_
      refine lv_iload_n hx hb dX3_round_68 rfl (lv_at hl 3 rfl) ?_
      obtain ⟨hne, hf⟩ := hf
      refine lv_idiv hx hb dX3_round_69 hne ?_
      refine lv_imul hx hb dX3_round_70 ?_
      refine lv_iload hx hb dX3_round_71 (lv_at hl 4 rfl) ?_
      refine lv_iload_n hx hb dX3_round_73 rfl (lv_at hl 3 rfl) ?_
      obtain ⟨hne, hf⟩ := hf
      refine lv_irem hx hb dX3_round_74 hne ?_
      refine lv_iadd hx hb dX3_round_75 ?_
      refine lv_aload_n hx hb dX3_round_76 rfl (lv_at hl 0 rfl) ?_
      refine gM_holes S hK hP dX3_round_77 ?_
      refine lv_iload hx hb dX3_round_80 (lv_at hl 4 rfl) ?_
      refine lv_iload_n hx hb dX3_round_82 rfl (lv_at hl 3 rfl) ?_
      obtain ⟨hne, hf⟩ := hf
      refine lv_irem hx hb dX3_round_83 hne ?_
      obtain ⟨hin, hf⟩ := hf
      refine lM_holes S hK hP hin dX3_round_84 ?_
      refine lv_iload hx hb dX3_round_85 (lv_at hl 4 rfl) ?_
      refine lv_iload_n hx hb dX3_round_87 rfl (lv_at hl 3 rfl) ?_
      obtain ⟨hne, hf⟩ := hf
      refine lv_idiv hx hb dX3_round_88 hne ?_
      refine cs_i (As := [.long (holes ((x4 - x4 / x3 * x3) : Int32).toNatClampNeg), .int (x4 / x3)]) (rest := [.int ((8 * (x4 / x3)) + (x4 - x4 / x3 * x3)), .ref (h 10)]) S (metX3_nearest l hf) (lw_S q1504 q1505 q60 q1506) pdX3_nearest ⟨rfl, rfl⟩ ⟨Nat.le_of_ble_eq_true rfl, Nat.le_of_ble_eq_true rfl⟩ rfl hl.1 rfl (Nat.le_of_ble_eq_true rfl) dX3_round_89 ⟨Nat.zero_le _, Nat.zero_le _⟩ (fun r_89 hf => ?_)
      obtain ⟨hin, hf⟩ := hf
      obtain ⟨nears_92, enears_92⟩ : ∃ z : Nat → Int32, z = upd nears (((8 * (x4 / x3)) + (x4 - x4 / x3 * x3)) : Int32).toNatClampNeg r_89 := ⟨_, rfl⟩
      replace hf := hf nears_92 enears_92
      refine sM_nears S hK hj hP hS hin enears_92 dX3_round_92 (fun H locs hP hS => ?_)
      obtain ⟨x4_93, ex4_93⟩ : ∃ z : Int32, z = x4 + 1 := ⟨_, rfl⟩
      replace hf := hf x4_93 ex4_93
      refine lv_iinc (v := x4_93) (lv' := [(4, .int x4_93), (0, .ref (h 0)), (1, .int x1), (2, .int x2), (3, .int x3)]) hx hb dX3_round_93 hl (k := 4) rfl (by rw [ex4_93]; rfl) (by decide) rfl (fun ls hl => ?_)
      refine lv_goto (tgt := 51) hx hb dX3_round_96 (by decide) ?_
      exact ih x4_93 nears_92 _ _ _ hf hP hS (lv_sub hl [1, 2, 3, 4, 0] rfl)
def wX3_round (Q : Int32 → Int64 → Int64 → (Nat → Int64) → Int32 → (Nat → Int32) → (Nat → Int32) → (Nat → Int32) → Prop) (depths : (Nat → Int32)) (dug : Int64) (deep : Int64) (holes : (Nat → Int64)) (holeMany : Int32) (order : (Nat → Int32)) (bestOrder : (Nat → Int32)) (nears : (Nat → Int32)) (x1 : Int32) (x2 : Int32) : Prop := (wX3_isCell (fun r_1 => ((r_1 = 0 → (Q (-1) dug deep holes holeMany order bestOrder nears)) ∧ (¬ r_1 = 0 → (wX3_in (fun r_15 => ((r_15 = 0 → (Q (-1) dug deep holes holeMany order bestOrder nears)) ∧ (¬ r_15 = 0 → (wX3_look (fun dug_24 deep_24 => (wX3_findHoles (fun holes_28 holeMany_28 => ((holeMany_28 ≤ 8 → (∃ fu : Nat, wX3_round_51 Q x1 x2 holeMany_28 depths dug_24 deep_24 holes_28 holeMany_28 order bestOrder fu 0 nears)) ∧ (¬ holeMany_28 ≤ 8 → (Q (-3) dug_24 deep_24 holes_28 holeMany_28 order bestOrder nears)))) dug_24 holes holeMany)) depths dug deep)))) ((x2 : Int32).toInt64) (-1) 7)))) x1)
end
set_option maxHeartbeats 4000000 in
set_option maxRecDepth 100000 in
theorem metX3_round (l : Launch) {Q : Int32 → Int64 → Int64 → (Nat → Int64) → Int32 → (Nat → Int32) → (Nat → Int32) → (Nat → Int32) → Prop} {depths : (Nat → Int32)} {owners : (Nat → Int32)} {roofs : Int64} {rate : Int32} {undos : (Nat → Int32)} {undoMany : Int32} {drawn : Int32} {dug : Int64} {deep : Int64} {holes : (Nat → Int64)} {holeMany : Int32} {tape : (Nat → Int32)} {taped : Int32} {place : Int32} {reads : Int32} {read_ : (Nat → Int32)} {row : (Nat → Int32)} {order : (Nat → Int32)} {bestOrder : (Nat → Int32)} {nears : (Nat → Int32)} {isKept : Int32} {keptRoofs : Int64} {kept : (Nat → Int32)} {lanes : (Nat → Int32)} {rowSizes : (Nat → Int32)} {items : (Nat → Int64)} {moved : (Nat → Int64)} {x1 : Int32} {x2 : Int32} {dC : Nat → ClassId} {dI : Nat → Nat → Nat} {dA : Nat → ClassId} {h : Nat → Nat} (hj : mJ h) (hf : wX3_round Q depths dug deep holes holeMany order bestOrder nears x1 x2) : Met l yX3_round (ws_ yX3_round cX3_round 8 (some .int)) rmX3_round (mPc dC dI dA h [.int x1, .int x2] (wM h dA depths owners roofs rate undos undoMany drawn dug deep holes holeMany tape taped place reads read_ row order bestOrder nears isKept keptRoofs kept lanes rowSizes items moved)) (va_Qi (fun (r : Int32) (u : Int64 × Int64 × (Nat → Int64) × Int32 × (Nat → Int32) × (Nat → Int32) × (Nat → Int32)) => Q r u.1 u.2.1 u.2.2.1 u.2.2.2.1 u.2.2.2.2.1 u.2.2.2.2.2.1 u.2.2.2.2.2.2) (fun u t => va_P (dC, dI) vwCl (wM h dA depths owners roofs rate undos undoMany drawn u.1 u.2.1 u.2.2.1 u.2.2.2.1 tape taped place reads read_ row u.2.2.2.2.1 u.2.2.2.2.2.1 u.2.2.2.2.2.2 isKept keptRoofs kept lanes rowSizes items moved) t.heap) (mA h)) 0 0 (mA h) := by
  refine Met.ofW (cc := cX3_round) (maxL := 8) (ret := (some .int)) (by decide) rfl ?_
  intro p e s m args below meth c s₁ B hml hv
  obtain ⟨rfl, hP, hK⟩ := hv
  have hx := B.exec
  have hb := B.bytes
  have hr := B.returns
  have hts := atoms_spec (ws := (ws_ yX3_round cX3_round 8 (some .int))) B.pre
  have hts : ∀ w ∈ lw_all, w.before _ s = true := fun w h => hts w (List.mem_cons_of_mem _ h)
  have hown : s.vm.findClass RX3 = some m.cls := findClass_of_methodNamed B.named
  have hlocks := B.notSynchronized
  have S : CallFix p m c cX3_round 8 s _ lw_all RX3 := ⟨hx, hb, hml, hown, hts⟩
  have hS : va_S (mA h) s.heap s.heap [] := va_S.rf
  have hl := lv_entry ([.ref (h 0), .int x1, .int x2]) (n := 8) (Nat.le_of_ble_eq_true rfl)
  rw [lg_entry_eq]
  generalize (lg_sl ([.ref (h 0), .int x1, .int x2]) ++ List.replicate (8 - (lg_sl ([.ref (h 0), .int x1, .int x2])).length) Slot.unset).toArray = ls at hl ⊢
  replace hl : lv_has ls 8 [(0, .ref (h 0)), (1, .int x1), (2, .int x2)] := hl
  have hret : hrX3_round p l e s m ([.ref (h 0), .int x1, .int x2] : List Value).toArray below meth c dC dI dA h (MQ below (va_Qi (fun (r : Int32) (u : Int64 × Int64 × (Nat → Int64) × Int32 × (Nat → Int32) × (Nat → Int32) × (Nat → Int32)) => Q r u.1 u.2.1 u.2.2.1 u.2.2.2.1 u.2.2.2.2.1 u.2.2.2.2.2.1 u.2.2.2.2.2.2) (fun u t => va_P (dC, dI) vwCl (wM h dA depths owners roofs rate undos undoMany drawn u.1 u.2.1 u.2.2.1 u.2.2.2.1 tape taped place reads read_ row u.2.2.2.2.1 u.2.2.2.2.2.1 u.2.2.2.2.2.2 isKept keptRoofs kept lanes rowSizes items moved) t.heap) (mA h)) ([.ref (h 0), .int x1, .int x2] : List Value).toArray s 0 0 (mA h)) Q depths owners roofs rate undos undoMany drawn tape taped place reads read_ row isKept keptRoofs kept lanes rowSizes items moved := fun r dug deep holes holeMany order bestOrder nears H locs pc ls hq hP hS hd => W.iret hx hb hr (fun t ht hW => ⟨⟨r, (dug, deep, holes, holeMany, order, bestOrder, nears), rfl, hq, by subst ht; exact hP⟩, hS.F ht⟩) hS.2.2 hd
  unfold wX3_round at hf
  refine lv_iload_n hx hb dX3_round_0 rfl (lv_at hl 1 rfl) ?_
  refine cs_i (As := [.int x1]) (rest := []) S (metX3_isCell l hf) (lw_S q1264 q1265 q60 q1266) pdX3_isCell ⟨rfl, rfl⟩ ⟨Nat.le_of_ble_eq_true rfl, Nat.le_of_ble_eq_true rfl⟩ rfl hl.1 rfl (Nat.le_of_ble_eq_true rfl) dX3_round_1 ⟨Nat.zero_le _, Nat.zero_le _⟩ (fun r_1 hf => ?_)
  refine lv_if_eq (tgt := 21) hx hb dX3_round_4 (by decide) (fun c_4 => ?_) (fun c_4 => ?_)
  · replace hf := hf.1 c_4
    refine lv_iconst (v := (-1)) hx hb dX3_round_21 (by decide) ?_
    exact hret _ _ _ _ _ _ _ _ _ _ _ _ hf hP hS dX3_round_22
  · replace hf := hf.2 c_4
    refine lv_iload_n hx hb dX3_round_7 rfl (lv_at hl 2 rfl) ?_
    refine lv_i2l (v := (x2 : Int32).toInt64) hx hb dX3_round_8 rfl ?_
    refine lv_ldc2 (v := (-1)) hx hb hown (hts _ q1286) dX3_round_9 ?_
    refine lv_ldc2 (v := 7) hx hb hown (hts _ q1420) dX3_round_12 ?_
    refine cs_i (As := [.long (x2 : Int32).toInt64, .long (-1), .long 7]) (rest := []) S (metX3_in l hf) (lw_S q1268 q1269 q60 q1270) pdX3_in ⟨rfl, rfl⟩ ⟨Nat.le_of_ble_eq_true rfl, Nat.le_of_ble_eq_true rfl⟩ rfl hl.1 rfl (Nat.le_of_ble_eq_true rfl) dX3_round_15 ⟨Nat.zero_le _, Nat.zero_le _⟩ (fun r_15 hf => ?_)
    refine lv_if_ne (tgt := 23) hx hb dX3_round_18 (by decide) (fun c_18 => ?_) (fun c_18 => ?_)
    · replace hf := hf.2 c_18
      refine lv_aload_n hx hb dX3_round_23 rfl (lv_at hl 0 rfl) ?_
      refine cM_v (As := []) (rest := []) S hK rfl hP hS (metX3_look l hj hf) (lw_V q1309 q1311 qs27 q60 q1312) rfl pdX3_look ⟨rfl, rfl⟩ ⟨Nat.le_of_ble_eq_true rfl, Nat.le_of_ble_eq_true rfl⟩ rfl hl.1 rfl (Nat.le_of_ble_eq_true rfl) dX3_round_24 ⟨Nat.zero_le _, Nat.zero_le _⟩ (fun u_24 H locs hf hP hS => ?_)
      obtain ⟨dug_24, deep_24⟩ := u_24
      replace hP : va_P (dC, dI) vwCl (wM h dA depths owners roofs rate undos undoMany drawn dug_24 deep_24 holes holeMany tape taped place reads read_ row order bestOrder nears isKept keptRoofs kept lanes rowSizes items moved) H := hP
      try dsimp only at hf
      refine lv_aload_n hx hb dX3_round_27 rfl (lv_at hl 0 rfl) ?_
      refine cM_v (As := []) (rest := []) S hK rfl hP hS (metX3_findHoles l hj hf) (lw_V q1356 q1358 qs33 q60 q1359) rfl pdX3_findHoles ⟨rfl, rfl⟩ ⟨Nat.le_of_ble_eq_true rfl, Nat.le_of_ble_eq_true rfl⟩ rfl hl.1 rfl (Nat.le_of_ble_eq_true rfl) dX3_round_28 ⟨Nat.zero_le _, Nat.zero_le _⟩ (fun u_28 H locs hf hP hS => ?_)
      obtain ⟨holes_28, holeMany_28⟩ := u_28
      replace hP : va_P (dC, dI) vwCl (wM h dA depths owners roofs rate undos undoMany drawn dug_24 deep_24 holes_28 holeMany_28 tape taped place reads read_ row order bestOrder nears isKept keptRoofs kept lanes rowSizes items moved) H := hP
      try dsimp only at hf
      refine lv_aload_n hx hb dX3_round_31 rfl (lv_at hl 0 rfl) ?_
      refine gM_holeMany S hK hP dX3_round_32 ?_
      refine lv_bipush (v := 8) hx hb dX3_round_35 (by decide) ?_
      refine lv_icmp_le (tgt := 43) hx hb dX3_round_37 (by decide) (fun c_37 => ?_) (fun c_37 => ?_)
      · replace hf := hf.1 c_37
        refine lv_aload_n hx hb dX3_round_43 rfl (lv_at hl 0 rfl) ?_
        refine gM_holeMany S hK hP dX3_round_44 ?_
        refine lv_istore_n (lv' := [(3, .int holeMany_28), (0, .ref (h 0)), (1, .int x1), (2, .int x2)]) hx hb dX3_round_47 rfl hl (by decide) rfl (fun ls hl => ?_)
        refine lv_iconst (v := 0) hx hb dX3_round_48 (by decide) ?_
        refine lv_istore (lv' := [(4, .int 0), (3, .int holeMany_28), (0, .ref (h 0)), (1, .int x1), (2, .int x2)]) hx hb dX3_round_49 hl (by decide) rfl (fun ls hl => ?_)
        obtain ⟨fu, hf⟩ := hf
        exact tX3_round_51 S hK hj hret fu 0 nears _ _ _ hf hP hS (lv_sub hl [2, 3, 4, 1, 0] rfl)
      · replace hf := hf.2 c_37
        refine lv_bipush (v := (-3)) hx hb dX3_round_40 (by decide) ?_
        exact hret _ _ _ _ _ _ _ _ _ _ _ _ hf hP hS dX3_round_42
    · replace hf := hf.1 c_18
      refine lv_iconst (v := (-1)) hx hb dX3_round_21 (by decide) ?_
      exact hret _ _ _ _ _ _ _ _ _ _ _ _ hf hP hS dX3_round_22
/-! HoleCountyModel.border(I)I -/
theorem pdX3_border : DscOk yX3_border 1 := by decide +kernel
abbrev rmX3_border : Room := { frames := 4, cells := 0, slots := 0, locals := 93 }
abbrev RX3_border_ : Room := (headSpec (ws_ yX3_border cX3_border 4 (some .int)) rmX3_border).room
section
variable {p : Program} {l : Launch} {e : Env} {s : State} {m : MethodId} {args : Array Value} {below : List Frame} {meth : Method} {c : Code} {Qw : State → Prop} {dC : Nat → ClassId} {dI : Nat → Nat → Nat} {dA : Nat → ClassId} {h : Nat → Nat}
abbrev hrX3_border (p : Program) (l : Launch) (e : Env) (s : State) (m : MethodId) (args : Array Value) (below : List Frame) (meth : Method) (c : Code) (dC : Nat → ClassId) (dI : Nat → Nat → Nat) (dA : Nat → ClassId) (h : Nat → Nat) (Qw : State → Prop) (Q : Int32 → Int64 → Int64 → (Nat → Int64) → Int32 → Prop) (depths : (Nat → Int32)) (owners : (Nat → Int32)) (roofs : Int64) (rate : Int32) (undos : (Nat → Int32)) (undoMany : Int32) (drawn : Int32) (tape : (Nat → Int32)) (taped : Int32) (place : Int32) (reads : Int32) (read_ : (Nat → Int32)) (row : (Nat → Int32)) (order : (Nat → Int32)) (bestOrder : (Nat → Int32)) (nears : (Nat → Int32)) (isKept : Int32) (keptRoofs : Int64) (kept : (Nat → Int32)) (lanes : (Nat → Int32)) (rowSizes : (Nat → Int32)) (items : (Nat → Int64)) (moved : (Nat → Int64)) : Prop := ∀ (r : Int32) (dug : Int64) (deep : Int64) (holes : (Nat → Int64)) (holeMany : Int32) (H : Heap) (locs : List Loc) (pc : Nat) (ls : Array Slot), Q r dug deep holes holeMany → va_P (dC, dI) vwCl (wM h dA depths owners roofs rate undos undoMany drawn dug deep holes holeMany tape taped place reads read_ row order bestOrder nears isKept keptRoofs kept lanes rowSizes items moved) H → va_S (mA h) s.heap H locs → decode cX3_border pc = .ok (.ireturn, 1) → W p l e RX3_border_ s m args below meth c H locs 0 0 Qw (F0 m pc ls [.int r])
def wX3_border_24 (Q : Int32 → Int64 → Int64 → (Nat → Int64) → Int32 → Prop) (x1 : Int32) (depths : (Nat → Int32)) (dug : Int64) (deep : Int64) (holes : (Nat → Int64)) (holeMany : Int32) : Nat → Int32 → Int32 → Prop
  | 0, _, _ => False
  | n + 1, x2, x3 => ((holeMany ≤ x3 → ((0 ≤ x2 → ((x1 = 0 → (vp_in x2 36 ∧ (wX3_least (fun r_88 => (Q r_88 dug deep holes holeMany)) (holes (x2 : Int32).toNatClampNeg)))) ∧ (¬ x1 = 0 → (vp_in x2 36 ∧ (wX3_fenceOf (fun r_100 => (Q r_100 dug deep holes holeMany)) (holes (x2 : Int32).toNatClampNeg)))))) ∧ (¬ 0 ≤ x2 → (Q (-4) dug deep holes holeMany)))) ∧ (¬ holeMany ≤ x3 → ((x2 < 0 → (∀ x3_63 : Int32, x3_63 = x3 + 1 → ((wX3_border_24 Q x1 depths dug deep holes holeMany n) x3 x3_63))) ∧ (¬ x2 < 0 → (vp_in x3 36 ∧ (wX3_ones (fun r_42 => (vp_in x2 36 ∧ (wX3_ones (fun r_51 => ((r_42 ≤ r_51 → (∀ x3_63 : Int32, x3_63 = x3 + 1 → ((wX3_border_24 Q x1 depths dug deep holes holeMany n) x2 x3_63))) ∧ (¬ r_42 ≤ r_51 → (∀ x3_63 : Int32, x3_63 = x3 + 1 → ((wX3_border_24 Q x1 depths dug deep holes holeMany n) x3 x3_63))))) (holes (x2 : Int32).toNatClampNeg)))) (holes (x3 : Int32).toNatClampNeg)))))))
set_option maxHeartbeats 4000000 in
set_option maxRecDepth 100000 in
theorem tX3_border_24 {Q : Int32 → Int64 → Int64 → (Nat → Int64) → Int32 → Prop} {x1 : Int32} {depths : (Nat → Int32)} {owners : (Nat → Int32)} {roofs : Int64} {rate : Int32} {undos : (Nat → Int32)} {undoMany : Int32} {drawn : Int32} {dug : Int64} {deep : Int64} {holes : (Nat → Int64)} {holeMany : Int32} {tape : (Nat → Int32)} {taped : Int32} {place : Int32} {reads : Int32} {read_ : (Nat → Int32)} {row : (Nat → Int32)} {order : (Nat → Int32)} {bestOrder : (Nat → Int32)} {nears : (Nat → Int32)} {isKept : Int32} {keptRoofs : Int64} {kept : (Nat → Int32)} {lanes : (Nat → Int32)} {rowSizes : (Nat → Int32)} {items : (Nat → Int64)} {moved : (Nat → Int64)} (S : CallFix p m c cX3_border 4 s args lw_all RX3) (hK : va_K (dC, dI) vwCl (tysG dA) s) (hj : mJ h) (hret : hrX3_border p l e s m args below meth c dC dI dA h Qw Q depths owners roofs rate undos undoMany drawn tape taped place reads read_ row order bestOrder nears isKept keptRoofs kept lanes rowSizes items moved) : ∀ (n : Nat) (x2 : Int32) (x3 : Int32) (H : Heap) (locs : List Loc) (ls : Array Slot), wX3_border_24 Q x1 depths dug deep holes holeMany n x2 x3 → va_P (dC, dI) vwCl (wM h dA depths owners roofs rate undos undoMany drawn dug deep holes holeMany tape taped place reads read_ row order bestOrder nears isKept keptRoofs kept lanes rowSizes items moved) H → va_S (mA h) s.heap H locs → lv_has ls 4 [(0, .ref (h 0)), (1, .int x1), (2, .int x2), (3, .int x3)] → W p l e RX3_border_ s m args below meth c H locs 0 0 Qw (F0 m 24 ls []) := by
  obtain ⟨hx, hb, hml, hown, hts⟩ := id S
  intro n
  induction n with
  | zero => intro _ _ _ _ _ hf; exact hf.elim
  | succ n ih =>
    intro x2 x3 H locs ls hf hP hS hl
    rw [wX3_border_24] at hf
    refine lv_iload_n hx hb dX3_border_24 rfl (lv_at hl 3 rfl) ?_
    refine lv_aload_n hx hb dX3_border_25 rfl (lv_at hl 0 rfl) ?_
    refine gM_holeMany S hK hP dX3_border_26 ?_
    refine lv_icmp_ge (tgt := 69) hx hb dX3_border_29 (by decide) (fun c_29 => ?_) (fun c_29 => ?_)
    · replace hf := hf.1 c_29
      refine lv_iload_n hx hb dX3_border_69 rfl (lv_at hl 2 rfl) ?_
      refine lv_if_ge (tgt := 78) hx hb dX3_border_70 (by decide) (fun c_70 => ?_) (fun c_70 => ?_)
      · replace hf := hf.1 c_70
        refine lv_iload_n hx hb dX3_border_78 rfl (lv_at hl 1 rfl) ?_
        refine lv_if_ne (tgt := 94) hx hb dX3_border_79 (by decide) (fun c_79 => ?_) (fun c_79 => ?_)
        · replace hf := hf.2 c_79
          refine lv_aload_n hx hb dX3_border_94 rfl (lv_at hl 0 rfl) ?_
          refine gM_holes S hK hP dX3_border_95 ?_
          refine lv_iload_n hx hb dX3_border_98 rfl (lv_at hl 2 rfl) ?_
          obtain ⟨hin, hf⟩ := hf
          refine lM_holes S hK hP hin dX3_border_99 ?_
          refine cs_i (As := [.long (holes (x2 : Int32).toNatClampNeg)]) (rest := []) S (metX3_fenceOf l hf) (lw_S q1413 q1414 q60 q1415) pdX3_fenceOf ⟨rfl, rfl⟩ ⟨Nat.le_of_ble_eq_true rfl, Nat.le_of_ble_eq_true rfl⟩ rfl hl.1 rfl (Nat.le_of_ble_eq_true rfl) dX3_border_100 ⟨Nat.zero_le _, Nat.zero_le _⟩ (fun r_100 hf => ?_)
          exact hret _ _ _ _ _ _ _ _ _ hf hP hS dX3_border_103
        · replace hf := hf.1 c_79
          refine lv_aload_n hx hb dX3_border_82 rfl (lv_at hl 0 rfl) ?_
          refine gM_holes S hK hP dX3_border_83 ?_
          refine lv_iload_n hx hb dX3_border_86 rfl (lv_at hl 2 rfl) ?_
          obtain ⟨hin, hf⟩ := hf
          refine lM_holes S hK hP hin dX3_border_87 ?_
          refine cs_i (As := [.long (holes (x2 : Int32).toNatClampNeg)]) (rest := []) S (metX3_least l hf) (lw_S q1326 q1327 q60 q1328) pdX3_least ⟨rfl, rfl⟩ ⟨Nat.le_of_ble_eq_true rfl, Nat.le_of_ble_eq_true rfl⟩ rfl hl.1 rfl (Nat.le_of_ble_eq_true rfl) dX3_border_88 ⟨Nat.zero_le _, Nat.zero_le _⟩ (fun r_88 hf => ?_)
          refine lv_goto (tgt := 103) hx hb dX3_border_91 (by decide) ?_
          exact hret _ _ _ _ _ _ _ _ _ hf hP hS dX3_border_103
      · replace hf := hf.2 c_70
        refine lv_bipush (v := (-4)) hx hb dX3_border_73 (by decide) ?_
        refine lv_goto (tgt := 103) hx hb dX3_border_75 (by decide) ?_
        exact hret _ _ _ _ _ _ _ _ _ hf hP hS dX3_border_103
    · replace hf := hf.2 c_29
      refine lv_iload_n hx hb dX3_border_32 rfl (lv_at hl 2 rfl) ?_
      refine lv_if_lt (tgt := 57) hx hb dX3_border_33 (by decide) (fun c_33 => ?_) (fun c_33 => ?_)
      · replace hf := hf.1 c_33
        refine lv_iload_n hx hb dX3_border_57 rfl (lv_at hl 3 rfl) ?_
        refine lv_goto (tgt := 62) hx hb dX3_border_58 (by decide) ?_
        refine lv_istore_n (lv' := [(2, .int x3), (0, .ref (h 0)), (1, .int x1), (3, .int x3)]) hx hb dX3_border_62 rfl hl (by decide) rfl (fun ls hl => ?_)
        obtain ⟨x3_63, ex3_63⟩ : ∃ z : Int32, z = x3 + 1 := ⟨_, rfl⟩
        replace hf := hf x3_63 ex3_63
        refine lv_iinc (v := x3_63) (lv' := [(3, .int x3_63), (2, .int x3), (0, .ref (h 0)), (1, .int x1)]) hx hb dX3_border_63 hl (k := 3) rfl (by rw [ex3_63]; rfl) (by decide) rfl (fun ls hl => ?_)
        refine lv_goto (tgt := 24) hx hb dX3_border_66 (by decide) ?_
        exact ih x3 x3_63 _ _ _ hf hP hS (lv_sub hl [2, 3, 1, 0] rfl)
      · replace hf := hf.2 c_33
        refine lv_aload_n hx hb dX3_border_36 rfl (lv_at hl 0 rfl) ?_
        refine gM_holes S hK hP dX3_border_37 ?_
        refine lv_iload_n hx hb dX3_border_40 rfl (lv_at hl 3 rfl) ?_
        obtain ⟨hin, hf⟩ := hf
        refine lM_holes S hK hP hin dX3_border_41 ?_
        refine cs_i (As := [.long (holes (x3 : Int32).toNatClampNeg)]) (rest := []) S (metX3_ones l hf) (lw_S q1390 q1391 q60 q1392) pdX3_ones ⟨rfl, rfl⟩ ⟨Nat.le_of_ble_eq_true rfl, Nat.le_of_ble_eq_true rfl⟩ rfl hl.1 rfl (Nat.le_of_ble_eq_true rfl) dX3_border_42 ⟨Nat.zero_le _, Nat.zero_le _⟩ (fun r_42 hf => ?_)
        refine lv_aload_n hx hb dX3_border_45 rfl (lv_at hl 0 rfl) ?_
        refine gM_holes S hK hP dX3_border_46 ?_
        refine lv_iload_n hx hb dX3_border_49 rfl (lv_at hl 2 rfl) ?_
        obtain ⟨hin, hf⟩ := hf
        refine lM_holes S hK hP hin dX3_border_50 ?_
        refine cs_i (As := [.long (holes (x2 : Int32).toNatClampNeg)]) (rest := [.int r_42]) S (metX3_ones l hf) (lw_S q1390 q1391 q60 q1392) pdX3_ones ⟨rfl, rfl⟩ ⟨Nat.le_of_ble_eq_true rfl, Nat.le_of_ble_eq_true rfl⟩ rfl hl.1 rfl (Nat.le_of_ble_eq_true rfl) dX3_border_51 ⟨Nat.zero_le _, Nat.zero_le _⟩ (fun r_51 hf => ?_)
        refine lv_icmp_le (tgt := 61) hx hb dX3_border_54 (by decide) (fun c_54 => ?_) (fun c_54 => ?_)
        · replace hf := hf.1 c_54
          refine lv_iload_n hx hb dX3_border_61 rfl (lv_at hl 2 rfl) ?_
          refine lv_istore_n (lv' := [(2, .int x2), (0, .ref (h 0)), (1, .int x1), (3, .int x3)]) hx hb dX3_border_62 rfl hl (by decide) rfl (fun ls hl => ?_)
          obtain ⟨x3_63, ex3_63⟩ : ∃ z : Int32, z = x3 + 1 := ⟨_, rfl⟩
          replace hf := hf x3_63 ex3_63
          refine lv_iinc (v := x3_63) (lv' := [(3, .int x3_63), (2, .int x2), (0, .ref (h 0)), (1, .int x1)]) hx hb dX3_border_63 hl (k := 3) rfl (by rw [ex3_63]; rfl) (by decide) rfl (fun ls hl => ?_)
          refine lv_goto (tgt := 24) hx hb dX3_border_66 (by decide) ?_
          exact ih x2 x3_63 _ _ _ hf hP hS (lv_sub hl [2, 3, 1, 0] rfl)
        · replace hf := hf.2 c_54
          refine lv_iload_n hx hb dX3_border_57 rfl (lv_at hl 3 rfl) ?_
          refine lv_goto (tgt := 62) hx hb dX3_border_58 (by decide) ?_
          refine lv_istore_n (lv' := [(2, .int x3), (0, .ref (h 0)), (1, .int x1), (3, .int x3)]) hx hb dX3_border_62 rfl hl (by decide) rfl (fun ls hl => ?_)
          obtain ⟨x3_63, ex3_63⟩ : ∃ z : Int32, z = x3 + 1 := ⟨_, rfl⟩
          replace hf := hf x3_63 ex3_63
          refine lv_iinc (v := x3_63) (lv' := [(3, .int x3_63), (2, .int x3), (0, .ref (h 0)), (1, .int x1)]) hx hb dX3_border_63 hl (k := 3) rfl (by rw [ex3_63]; rfl) (by decide) rfl (fun ls hl => ?_)
          refine lv_goto (tgt := 24) hx hb dX3_border_66 (by decide) ?_
          exact ih x3 x3_63 _ _ _ hf hP hS (lv_sub hl [2, 3, 1, 0] rfl)
def wX3_border (Q : Int32 → Int64 → Int64 → (Nat → Int64) → Int32 → Prop) (depths : (Nat → Int32)) (dug : Int64) (deep : Int64) (holes : (Nat → Int64)) (holeMany : Int32) (x1 : Int32) : Prop := (wX3_in (fun r_4 => ((r_4 = 0 → (Q (-1) dug deep holes holeMany)) ∧ (¬ r_4 = 0 → (wX3_look (fun dug_13 deep_13 => (wX3_findHoles (fun holes_17 holeMany_17 => (∃ fu : Nat, wX3_border_24 Q x1 depths dug_13 deep_13 holes_17 holeMany_17 fu (-1) 0)) dug_13 holes holeMany)) depths dug deep)))) ((x1 : Int32).toInt64) 0 1)
end
set_option maxHeartbeats 4000000 in
set_option maxRecDepth 100000 in
theorem metX3_border (l : Launch) {Q : Int32 → Int64 → Int64 → (Nat → Int64) → Int32 → Prop} {depths : (Nat → Int32)} {owners : (Nat → Int32)} {roofs : Int64} {rate : Int32} {undos : (Nat → Int32)} {undoMany : Int32} {drawn : Int32} {dug : Int64} {deep : Int64} {holes : (Nat → Int64)} {holeMany : Int32} {tape : (Nat → Int32)} {taped : Int32} {place : Int32} {reads : Int32} {read_ : (Nat → Int32)} {row : (Nat → Int32)} {order : (Nat → Int32)} {bestOrder : (Nat → Int32)} {nears : (Nat → Int32)} {isKept : Int32} {keptRoofs : Int64} {kept : (Nat → Int32)} {lanes : (Nat → Int32)} {rowSizes : (Nat → Int32)} {items : (Nat → Int64)} {moved : (Nat → Int64)} {x1 : Int32} {dC : Nat → ClassId} {dI : Nat → Nat → Nat} {dA : Nat → ClassId} {h : Nat → Nat} (hj : mJ h) (hf : wX3_border Q depths dug deep holes holeMany x1) : Met l yX3_border (ws_ yX3_border cX3_border 4 (some .int)) rmX3_border (mPc dC dI dA h [.int x1] (wM h dA depths owners roofs rate undos undoMany drawn dug deep holes holeMany tape taped place reads read_ row order bestOrder nears isKept keptRoofs kept lanes rowSizes items moved)) (va_Qi (fun (r : Int32) (u : Int64 × Int64 × (Nat → Int64) × Int32) => Q r u.1 u.2.1 u.2.2.1 u.2.2.2) (fun u t => va_P (dC, dI) vwCl (wM h dA depths owners roofs rate undos undoMany drawn u.1 u.2.1 u.2.2.1 u.2.2.2 tape taped place reads read_ row order bestOrder nears isKept keptRoofs kept lanes rowSizes items moved) t.heap) (mA h)) 0 0 (mA h) := by
  refine Met.ofW (cc := cX3_border) (maxL := 4) (ret := (some .int)) (by decide) rfl ?_
  intro p e s m args below meth c s₁ B hml hv
  obtain ⟨rfl, hP, hK⟩ := hv
  have hx := B.exec
  have hb := B.bytes
  have hr := B.returns
  have hts := atoms_spec (ws := (ws_ yX3_border cX3_border 4 (some .int))) B.pre
  have hts : ∀ w ∈ lw_all, w.before _ s = true := fun w h => hts w (List.mem_cons_of_mem _ h)
  have hown : s.vm.findClass RX3 = some m.cls := findClass_of_methodNamed B.named
  have hlocks := B.notSynchronized
  have S : CallFix p m c cX3_border 4 s _ lw_all RX3 := ⟨hx, hb, hml, hown, hts⟩
  have hS : va_S (mA h) s.heap s.heap [] := va_S.rf
  have hl := lv_entry ([.ref (h 0), .int x1]) (n := 4) (Nat.le_of_ble_eq_true rfl)
  rw [lg_entry_eq]
  generalize (lg_sl ([.ref (h 0), .int x1]) ++ List.replicate (4 - (lg_sl ([.ref (h 0), .int x1])).length) Slot.unset).toArray = ls at hl ⊢
  replace hl : lv_has ls 4 [(0, .ref (h 0)), (1, .int x1)] := hl
  have hret : hrX3_border p l e s m ([.ref (h 0), .int x1] : List Value).toArray below meth c dC dI dA h (MQ below (va_Qi (fun (r : Int32) (u : Int64 × Int64 × (Nat → Int64) × Int32) => Q r u.1 u.2.1 u.2.2.1 u.2.2.2) (fun u t => va_P (dC, dI) vwCl (wM h dA depths owners roofs rate undos undoMany drawn u.1 u.2.1 u.2.2.1 u.2.2.2 tape taped place reads read_ row order bestOrder nears isKept keptRoofs kept lanes rowSizes items moved) t.heap) (mA h)) ([.ref (h 0), .int x1] : List Value).toArray s 0 0 (mA h)) Q depths owners roofs rate undos undoMany drawn tape taped place reads read_ row order bestOrder nears isKept keptRoofs kept lanes rowSizes items moved := fun r dug deep holes holeMany H locs pc ls hq hP hS hd => W.iret hx hb hr (fun t ht hW => ⟨⟨r, (dug, deep, holes, holeMany), rfl, hq, by subst ht; exact hP⟩, hS.F ht⟩) hS.2.2 hd
  unfold wX3_border at hf
  refine lv_iload_n hx hb dX3_border_0 rfl (lv_at hl 1 rfl) ?_
  refine lv_i2l (v := (x1 : Int32).toInt64) hx hb dX3_border_1 rfl ?_
  refine lv_lconst (v := 0) hx hb dX3_border_2 (by decide) ?_
  refine lv_lconst (v := 1) hx hb dX3_border_3 (by decide) ?_
  refine cs_i (As := [.long (x1 : Int32).toInt64, .long 0, .long 1]) (rest := []) S (metX3_in l hf) (lw_S q1268 q1269 q60 q1270) pdX3_in ⟨rfl, rfl⟩ ⟨Nat.le_of_ble_eq_true rfl, Nat.le_of_ble_eq_true rfl⟩ rfl hl.1 rfl (Nat.le_of_ble_eq_true rfl) dX3_border_4 ⟨Nat.zero_le _, Nat.zero_le _⟩ (fun r_4 hf => ?_)
  refine lv_if_ne (tgt := 12) hx hb dX3_border_7 (by decide) (fun c_7 => ?_) (fun c_7 => ?_)
  · replace hf := hf.2 c_7
    refine lv_aload_n hx hb dX3_border_12 rfl (lv_at hl 0 rfl) ?_
    refine cM_v (As := []) (rest := []) S hK rfl hP hS (metX3_look l hj hf) (lw_V q1309 q1311 qs27 q60 q1312) rfl pdX3_look ⟨rfl, rfl⟩ ⟨Nat.le_of_ble_eq_true rfl, Nat.le_of_ble_eq_true rfl⟩ rfl hl.1 rfl (Nat.le_of_ble_eq_true rfl) dX3_border_13 ⟨Nat.zero_le _, Nat.zero_le _⟩ (fun u_13 H locs hf hP hS => ?_)
    obtain ⟨dug_13, deep_13⟩ := u_13
    replace hP : va_P (dC, dI) vwCl (wM h dA depths owners roofs rate undos undoMany drawn dug_13 deep_13 holes holeMany tape taped place reads read_ row order bestOrder nears isKept keptRoofs kept lanes rowSizes items moved) H := hP
    try dsimp only at hf
    refine lv_aload_n hx hb dX3_border_16 rfl (lv_at hl 0 rfl) ?_
    refine cM_v (As := []) (rest := []) S hK rfl hP hS (metX3_findHoles l hj hf) (lw_V q1356 q1358 qs33 q60 q1359) rfl pdX3_findHoles ⟨rfl, rfl⟩ ⟨Nat.le_of_ble_eq_true rfl, Nat.le_of_ble_eq_true rfl⟩ rfl hl.1 rfl (Nat.le_of_ble_eq_true rfl) dX3_border_17 ⟨Nat.zero_le _, Nat.zero_le _⟩ (fun u_17 H locs hf hP hS => ?_)
    obtain ⟨holes_17, holeMany_17⟩ := u_17
    replace hP : va_P (dC, dI) vwCl (wM h dA depths owners roofs rate undos undoMany drawn dug_13 deep_13 holes_17 holeMany_17 tape taped place reads read_ row order bestOrder nears isKept keptRoofs kept lanes rowSizes items moved) H := hP
    try dsimp only at hf
    refine lv_iconst (v := (-1)) hx hb dX3_border_20 (by decide) ?_
    refine lv_istore_n (lv' := [(2, .int (-1)), (0, .ref (h 0)), (1, .int x1)]) hx hb dX3_border_21 rfl hl (by decide) rfl (fun ls hl => ?_)
    refine lv_iconst (v := 0) hx hb dX3_border_22 (by decide) ?_
    refine lv_istore_n (lv' := [(3, .int 0), (2, .int (-1)), (0, .ref (h 0)), (1, .int x1)]) hx hb dX3_border_23 rfl hl (by decide) rfl (fun ls hl => ?_)
    obtain ⟨fu, hf⟩ := hf
    exact tX3_border_24 S hK hj hret fu (-1) 0 _ _ _ hf hP hS (lv_sub hl [2, 3, 1, 0] rfl)
  · replace hf := hf.1 c_7
    refine lv_iconst (v := (-1)) hx hb dX3_border_10 (by decide) ?_
    exact hret _ _ _ _ _ _ _ _ _ hf hP hS dX3_border_11
/-! HoleCountyModel.cut(I)I -/
theorem pdX3_cut : DscOk yX3_cut 1 := by decide +kernel
abbrev rmX3_cut : Room := { frames := 3, cells := 0, slots := 0, locals := 71 }
abbrev RX3_cut_ : Room := (headSpec (ws_ yX3_cut cX3_cut 8 (some .int)) rmX3_cut).room
section
variable {p : Program} {l : Launch} {e : Env} {s : State} {m : MethodId} {args : Array Value} {below : List Frame} {meth : Method} {c : Code} {Qw : State → Prop} {dC : Nat → ClassId} {dI : Nat → Nat → Nat} {dA : Nat → ClassId} {h : Nat → Nat}
abbrev hrX3_cut (p : Program) (l : Launch) (e : Env) (s : State) (m : MethodId) (args : Array Value) (below : List Frame) (meth : Method) (c : Code) (dC : Nat → ClassId) (dI : Nat → Nat → Nat) (dA : Nat → ClassId) (h : Nat → Nat) (Qw : State → Prop) (Q : Int32 → Int64 → Int64 → Prop) (depths : (Nat → Int32)) (owners : (Nat → Int32)) (roofs : Int64) (rate : Int32) (undos : (Nat → Int32)) (undoMany : Int32) (drawn : Int32) (holes : (Nat → Int64)) (holeMany : Int32) (tape : (Nat → Int32)) (taped : Int32) (place : Int32) (reads : Int32) (read_ : (Nat → Int32)) (row : (Nat → Int32)) (order : (Nat → Int32)) (bestOrder : (Nat → Int32)) (nears : (Nat → Int32)) (isKept : Int32) (keptRoofs : Int64) (kept : (Nat → Int32)) (lanes : (Nat → Int32)) (rowSizes : (Nat → Int32)) (items : (Nat → Int64)) (moved : (Nat → Int64)) : Prop := ∀ (r : Int32) (dug : Int64) (deep : Int64) (H : Heap) (locs : List Loc) (pc : Nat) (ls : Array Slot), Q r dug deep → va_P (dC, dI) vwCl (wM h dA depths owners roofs rate undos undoMany drawn dug deep holes holeMany tape taped place reads read_ row order bestOrder nears isKept keptRoofs kept lanes rowSizes items moved) H → va_S (mA h) s.heap H locs → decode cX3_cut pc = .ok (.ireturn, 1) → W p l e RX3_cut_ s m args below meth c H locs 0 0 Qw (F0 m pc ls [.int r])
def wX3_cut_49 (Q : Int32 → Int64 → Int64 → Prop) (x4 : Int64) (x6 : Int32) (depths : (Nat → Int32)) (dug : Int64) (deep : Int64) : Nat → Int32 → Prop
  | 0, _ => False
  | n + 1, x7 => ((36 ≤ x7 → (Q (-4) dug deep)) ∧ (¬ 36 ≤ x7 → (wX3_has (fun r_60 => ((r_60 = 0 → (∀ x7_93 : Int32, x7_93 = x7 + 1 → ((wX3_cut_49 Q x4 x6 depths dug deep n) x7_93))) ∧ (¬ r_60 = 0 → (wX3_grown (fun r_79 => (wX3_largestOf (fun r_82 => ((r_82 ≤ x6 → (∀ x7_93 : Int32, x7_93 = x7 + 1 → ((wX3_cut_49 Q x4 x6 depths dug deep n) x7_93))) ∧ (¬ r_82 ≤ x6 → (Q x7 dug deep)))) r_79)) (1 <<< ((x7 : Int32).toInt64 &&& 63)) (dug ||| (1 <<< ((x7 : Int32).toInt64 &&& 63))))))) x4 x7)))
set_option maxHeartbeats 4000000 in
set_option maxRecDepth 100000 in
theorem tX3_cut_49 {Q : Int32 → Int64 → Int64 → Prop} {x4 : Int64} {x6 : Int32} {depths : (Nat → Int32)} {owners : (Nat → Int32)} {roofs : Int64} {rate : Int32} {undos : (Nat → Int32)} {undoMany : Int32} {drawn : Int32} {dug : Int64} {deep : Int64} {holes : (Nat → Int64)} {holeMany : Int32} {tape : (Nat → Int32)} {taped : Int32} {place : Int32} {reads : Int32} {read_ : (Nat → Int32)} {row : (Nat → Int32)} {order : (Nat → Int32)} {bestOrder : (Nat → Int32)} {nears : (Nat → Int32)} {isKept : Int32} {keptRoofs : Int64} {kept : (Nat → Int32)} {lanes : (Nat → Int32)} {rowSizes : (Nat → Int32)} {items : (Nat → Int64)} {moved : (Nat → Int64)} (S : CallFix p m c cX3_cut 8 s args lw_all RX3) (hK : va_K (dC, dI) vwCl (tysG dA) s) (hj : mJ h) (hret : hrX3_cut p l e s m args below meth c dC dI dA h Qw Q depths owners roofs rate undos undoMany drawn holes holeMany tape taped place reads read_ row order bestOrder nears isKept keptRoofs kept lanes rowSizes items moved) : ∀ (n : Nat) (x7 : Int32) (H : Heap) (locs : List Loc) (ls : Array Slot), wX3_cut_49 Q x4 x6 depths dug deep n x7 → va_P (dC, dI) vwCl (wM h dA depths owners roofs rate undos undoMany drawn dug deep holes holeMany tape taped place reads read_ row order bestOrder nears isKept keptRoofs kept lanes rowSizes items moved) H → va_S (mA h) s.heap H locs → lv_has ls 8 [(0, .ref (h 0)), (4, .long x4), (6, .int x6), (7, .int x7)] → W p l e RX3_cut_ s m args below meth c H locs 0 0 Qw (F0 m 49 ls []) := by
  obtain ⟨hx, hb, hml, hown, hts⟩ := id S
  intro n
  induction n with
  | zero => intro _ _ _ _ hf; exact hf.elim
  | succ n ih =>
    intro x7 H locs ls hf hP hS hl
    rw [wX3_cut_49] at hf
    refine lv_iload hx hb dX3_cut_49 (lv_at hl 3 rfl) ?_
    refine lv_bipush (v := 36) hx hb dX3_cut_51 (by decide) ?_
    refine lv_icmp_ge (tgt := 99) hx hb dX3_cut_53 (by decide) (fun c_53 => ?_) (fun c_53 => ?_)
    · replace hf := hf.1 c_53
      refine lv_bipush (v := (-4)) hx hb dX3_cut_99 (by decide) ?_
      exact hret _ _ _ _ _ _ _ hf hP hS dX3_cut_101
    · replace hf := hf.2 c_53
      refine lv_lload hx hb dX3_cut_56 (lv_at hl 1 rfl) ?_
      refine lv_iload hx hb dX3_cut_58 (lv_at hl 3 rfl) ?_
      refine cs_i (As := [.long x4, .int x7]) (rest := []) S (metX3_has l hf) (lw_S q1275 q1276 q60 q1277) pdX3_has ⟨rfl, rfl⟩ ⟨Nat.le_of_ble_eq_true rfl, Nat.le_of_ble_eq_true rfl⟩ rfl hl.1 rfl (Nat.le_of_ble_eq_true rfl) dX3_cut_60 ⟨Nat.zero_le _, Nat.zero_le _⟩ (fun r_60 hf => ?_)
      refine lv_if_eq (tgt := 93) hx hb dX3_cut_63 (by decide) (fun c_63 => ?_) (fun c_63 => ?_)
      · replace hf := hf.1 c_63
        obtain ⟨x7_93, ex7_93⟩ : ∃ z : Int32, z = x7 + 1 := ⟨_, rfl⟩
        replace hf := hf x7_93 ex7_93
        refine lv_iinc (v := x7_93) (lv' := [(7, .int x7_93), (0, .ref (h 0)), (4, .long x4), (6, .int x6)]) hx hb dX3_cut_93 hl (k := 3) rfl (by rw [ex7_93]; rfl) (by decide) rfl (fun ls hl => ?_)
        refine lv_goto (tgt := 49) hx hb dX3_cut_96 (by decide) ?_
        exact ih x7_93 _ _ _ hf hP hS (lv_sub hl [1, 2, 3, 0] rfl)
      · replace hf := hf.2 c_63
        refine lv_lconst (v := 1) hx hb dX3_cut_66 (by decide) ?_
        refine lv_iload hx hb dX3_cut_67 (lv_at hl 3 rfl) ?_
        refine lv_lshl (v := (1 <<< ((x7 : Int32).toInt64 &&& 63))) hx hb dX3_cut_69 rfl ?_
        refine lv_aload_n hx hb dX3_cut_70 rfl (lv_at hl 0 rfl) ?_
        refine gM_dug S hK hP dX3_cut_71 ?_
        refine lv_lconst (v := 1) hx hb dX3_cut_74 (by decide) ?_
        refine lv_iload hx hb dX3_cut_75 (lv_at hl 3 rfl) ?_
        refine lv_lshl (v := (1 <<< ((x7 : Int32).toInt64 &&& 63))) hx hb dX3_cut_77 rfl ?_
        refine lv_lor hx hb dX3_cut_78 ?_
        refine cs_l (As := [.long (1 <<< ((x7 : Int32).toInt64 &&& 63)), .long (dug ||| (1 <<< ((x7 : Int32).toInt64 &&& 63)))]) (rest := []) S (metX3_grown l hf) (lw_S q1317 q1318 q60 q1319) pdX3_grown ⟨rfl, rfl⟩ ⟨Nat.le_of_ble_eq_true rfl, Nat.le_of_ble_eq_true rfl⟩ rfl hl.1 rfl (Nat.le_of_ble_eq_true rfl) dX3_cut_79 ⟨Nat.zero_le _, Nat.zero_le _⟩ (fun r_79 hf => ?_)
        refine cs_i (As := [.long r_79]) (rest := []) S (metX3_largestOf l hf) (lw_S q1440 q1441 q60 q1442) pdX3_largestOf ⟨rfl, rfl⟩ ⟨Nat.le_of_ble_eq_true rfl, Nat.le_of_ble_eq_true rfl⟩ rfl hl.1 rfl (Nat.le_of_ble_eq_true rfl) dX3_cut_82 ⟨Nat.zero_le _, Nat.zero_le _⟩ (fun r_82 hf => ?_)
        refine lv_iload hx hb dX3_cut_85 (lv_at hl 2 rfl) ?_
        refine lv_icmp_le (tgt := 93) hx hb dX3_cut_87 (by decide) (fun c_87 => ?_) (fun c_87 => ?_)
        · replace hf := hf.1 c_87
          obtain ⟨x7_93, ex7_93⟩ : ∃ z : Int32, z = x7 + 1 := ⟨_, rfl⟩
          replace hf := hf x7_93 ex7_93
          refine lv_iinc (v := x7_93) (lv' := [(7, .int x7_93), (0, .ref (h 0)), (4, .long x4), (6, .int x6)]) hx hb dX3_cut_93 hl (k := 3) rfl (by rw [ex7_93]; rfl) (by decide) rfl (fun ls hl => ?_)
          refine lv_goto (tgt := 49) hx hb dX3_cut_96 (by decide) ?_
          exact ih x7_93 _ _ _ hf hP hS (lv_sub hl [1, 2, 3, 0] rfl)
        · replace hf := hf.2 c_87
          refine lv_iload hx hb dX3_cut_90 (lv_at hl 3 rfl) ?_
          exact hret _ _ _ _ _ _ _ hf hP hS dX3_cut_92
def wX3_cut (Q : Int32 → Int64 → Int64 → Prop) (depths : (Nat → Int32)) (dug : Int64) (deep : Int64) (x1 : Int32) : Prop := (wX3_isCell (fun r_1 => ((r_1 = 0 → (Q (-1) dug deep)) ∧ (¬ r_1 = 0 → (wX3_look (fun dug_10 deep_10 => (wX3_has (fun r_18 => ((r_18 = 0 → (Q (-2) dug_10 deep_10)) ∧ (¬ r_18 = 0 → (wX3_holeAt (fun r_29 => (wX3_rimOf (fun r_35 => (wX3_largestOf (fun r_41 => (∃ fu : Nat, wX3_cut_49 Q r_35 r_41 depths dug_10 deep_10 fu 0)) r_29)) dug_10 r_29)) dug_10 x1)))) dug_10 x1)) depths dug deep)))) x1)
end
set_option maxHeartbeats 4000000 in
set_option maxRecDepth 100000 in
theorem metX3_cut (l : Launch) {Q : Int32 → Int64 → Int64 → Prop} {depths : (Nat → Int32)} {owners : (Nat → Int32)} {roofs : Int64} {rate : Int32} {undos : (Nat → Int32)} {undoMany : Int32} {drawn : Int32} {dug : Int64} {deep : Int64} {holes : (Nat → Int64)} {holeMany : Int32} {tape : (Nat → Int32)} {taped : Int32} {place : Int32} {reads : Int32} {read_ : (Nat → Int32)} {row : (Nat → Int32)} {order : (Nat → Int32)} {bestOrder : (Nat → Int32)} {nears : (Nat → Int32)} {isKept : Int32} {keptRoofs : Int64} {kept : (Nat → Int32)} {lanes : (Nat → Int32)} {rowSizes : (Nat → Int32)} {items : (Nat → Int64)} {moved : (Nat → Int64)} {x1 : Int32} {dC : Nat → ClassId} {dI : Nat → Nat → Nat} {dA : Nat → ClassId} {h : Nat → Nat} (hj : mJ h) (hf : wX3_cut Q depths dug deep x1) : Met l yX3_cut (ws_ yX3_cut cX3_cut 8 (some .int)) rmX3_cut (mPc dC dI dA h [.int x1] (wM h dA depths owners roofs rate undos undoMany drawn dug deep holes holeMany tape taped place reads read_ row order bestOrder nears isKept keptRoofs kept lanes rowSizes items moved)) (va_Qi (fun (r : Int32) (u : Int64 × Int64) => Q r u.1 u.2) (fun u t => va_P (dC, dI) vwCl (wM h dA depths owners roofs rate undos undoMany drawn u.1 u.2 holes holeMany tape taped place reads read_ row order bestOrder nears isKept keptRoofs kept lanes rowSizes items moved) t.heap) (mA h)) 0 0 (mA h) := by
  refine Met.ofW (cc := cX3_cut) (maxL := 8) (ret := (some .int)) (by decide) rfl ?_
  intro p e s m args below meth c s₁ B hml hv
  obtain ⟨rfl, hP, hK⟩ := hv
  have hx := B.exec
  have hb := B.bytes
  have hr := B.returns
  have hts := atoms_spec (ws := (ws_ yX3_cut cX3_cut 8 (some .int))) B.pre
  have hts : ∀ w ∈ lw_all, w.before _ s = true := fun w h => hts w (List.mem_cons_of_mem _ h)
  have hown : s.vm.findClass RX3 = some m.cls := findClass_of_methodNamed B.named
  have hlocks := B.notSynchronized
  have S : CallFix p m c cX3_cut 8 s _ lw_all RX3 := ⟨hx, hb, hml, hown, hts⟩
  have hS : va_S (mA h) s.heap s.heap [] := va_S.rf
  have hl := lv_entry ([.ref (h 0), .int x1]) (n := 8) (Nat.le_of_ble_eq_true rfl)
  rw [lg_entry_eq]
  generalize (lg_sl ([.ref (h 0), .int x1]) ++ List.replicate (8 - (lg_sl ([.ref (h 0), .int x1])).length) Slot.unset).toArray = ls at hl ⊢
  replace hl : lv_has ls 8 [(0, .ref (h 0)), (1, .int x1)] := hl
  have hret : hrX3_cut p l e s m ([.ref (h 0), .int x1] : List Value).toArray below meth c dC dI dA h (MQ below (va_Qi (fun (r : Int32) (u : Int64 × Int64) => Q r u.1 u.2) (fun u t => va_P (dC, dI) vwCl (wM h dA depths owners roofs rate undos undoMany drawn u.1 u.2 holes holeMany tape taped place reads read_ row order bestOrder nears isKept keptRoofs kept lanes rowSizes items moved) t.heap) (mA h)) ([.ref (h 0), .int x1] : List Value).toArray s 0 0 (mA h)) Q depths owners roofs rate undos undoMany drawn holes holeMany tape taped place reads read_ row order bestOrder nears isKept keptRoofs kept lanes rowSizes items moved := fun r dug deep H locs pc ls hq hP hS hd => W.iret hx hb hr (fun t ht hW => ⟨⟨r, (dug, deep), rfl, hq, by subst ht; exact hP⟩, hS.F ht⟩) hS.2.2 hd
  unfold wX3_cut at hf
  refine lv_iload_n hx hb dX3_cut_0 rfl (lv_at hl 1 rfl) ?_
  refine cs_i (As := [.int x1]) (rest := []) S (metX3_isCell l hf) (lw_S q1264 q1265 q60 q1266) pdX3_isCell ⟨rfl, rfl⟩ ⟨Nat.le_of_ble_eq_true rfl, Nat.le_of_ble_eq_true rfl⟩ rfl hl.1 rfl (Nat.le_of_ble_eq_true rfl) dX3_cut_1 ⟨Nat.zero_le _, Nat.zero_le _⟩ (fun r_1 hf => ?_)
  refine lv_if_ne (tgt := 9) hx hb dX3_cut_4 (by decide) (fun c_4 => ?_) (fun c_4 => ?_)
  · replace hf := hf.2 c_4
    refine lv_aload_n hx hb dX3_cut_9 rfl (lv_at hl 0 rfl) ?_
    refine cM_v (As := []) (rest := []) S hK rfl hP hS (metX3_look l hj hf) (lw_V q1309 q1311 qs27 q60 q1312) rfl pdX3_look ⟨rfl, rfl⟩ ⟨Nat.le_of_ble_eq_true rfl, Nat.le_of_ble_eq_true rfl⟩ rfl hl.1 rfl (Nat.le_of_ble_eq_true rfl) dX3_cut_10 ⟨Nat.zero_le _, Nat.zero_le _⟩ (fun u_10 H locs hf hP hS => ?_)
    obtain ⟨dug_10, deep_10⟩ := u_10
    replace hP : va_P (dC, dI) vwCl (wM h dA depths owners roofs rate undos undoMany drawn dug_10 deep_10 holes holeMany tape taped place reads read_ row order bestOrder nears isKept keptRoofs kept lanes rowSizes items moved) H := hP
    try dsimp only at hf
    refine lv_aload_n hx hb dX3_cut_13 rfl (lv_at hl 0 rfl) ?_
    refine gM_dug S hK hP dX3_cut_14 ?_
    refine lv_iload_n hx hb dX3_cut_17 rfl (lv_at hl 1 rfl) ?_
    refine cs_i (As := [.long dug_10, .int x1]) (rest := []) S (metX3_has l hf) (lw_S q1275 q1276 q60 q1277) pdX3_has ⟨rfl, rfl⟩ ⟨Nat.le_of_ble_eq_true rfl, Nat.le_of_ble_eq_true rfl⟩ rfl hl.1 rfl (Nat.le_of_ble_eq_true rfl) dX3_cut_18 ⟨Nat.zero_le _, Nat.zero_le _⟩ (fun r_18 hf => ?_)
    refine lv_if_ne (tgt := 27) hx hb dX3_cut_21 (by decide) (fun c_21 => ?_) (fun c_21 => ?_)
    · replace hf := hf.2 c_21
      refine lv_aload_n hx hb dX3_cut_27 rfl (lv_at hl 0 rfl) ?_
      refine lv_iload_n hx hb dX3_cut_28 rfl (lv_at hl 1 rfl) ?_
      refine cM_l (As := [.int x1]) (rest := []) S hK rfl hP hS (metX3_holeAt l hj hf) (lw_V q1313 q1315 qs28 q60 q1316) rfl pdX3_holeAt ⟨rfl, rfl⟩ ⟨Nat.le_of_ble_eq_true rfl, Nat.le_of_ble_eq_true rfl⟩ rfl hl.1 rfl (Nat.le_of_ble_eq_true rfl) dX3_cut_29 ⟨Nat.zero_le _, Nat.zero_le _⟩ (fun r_29 u_29 H locs hf hP hS => ?_)
      replace hP : va_P (dC, dI) vwCl (wM h dA depths owners roofs rate undos undoMany drawn dug_10 deep_10 holes holeMany tape taped place reads read_ row order bestOrder nears isKept keptRoofs kept lanes rowSizes items moved) H := hP
      try dsimp only at hf
      refine lv_lstore_n (lv' := [(2, .long r_29), (0, .ref (h 0)), (1, .int x1)]) hx hb dX3_cut_32 rfl hl (by decide) rfl (fun ls hl => ?_)
      refine lv_aload_n hx hb dX3_cut_33 rfl (lv_at hl 1 rfl) ?_
      refine lv_lload_n hx hb dX3_cut_34 rfl (lv_at hl 0 rfl) ?_
      refine cM_l (As := [.long r_29]) (rest := []) S hK rfl hP hS (metX3_rimOf l hj hf) (lw_V q1421 q1423 qs40 q60 q1424) rfl pdX3_rimOf ⟨rfl, rfl⟩ ⟨Nat.le_of_ble_eq_true rfl, Nat.le_of_ble_eq_true rfl⟩ rfl hl.1 rfl (Nat.le_of_ble_eq_true rfl) dX3_cut_35 ⟨Nat.zero_le _, Nat.zero_le _⟩ (fun r_35 u_35 H locs hf hP hS => ?_)
      replace hP : va_P (dC, dI) vwCl (wM h dA depths owners roofs rate undos undoMany drawn dug_10 deep_10 holes holeMany tape taped place reads read_ row order bestOrder nears isKept keptRoofs kept lanes rowSizes items moved) H := hP
      try dsimp only at hf
      refine lv_lstore (lv' := [(4, .long r_35), (2, .long r_29), (0, .ref (h 0)), (1, .int x1)]) hx hb dX3_cut_38 hl (by decide) rfl (fun ls hl => ?_)
      refine lv_lload_n hx hb dX3_cut_40 rfl (lv_at hl 1 rfl) ?_
      refine cs_i (As := [.long r_29]) (rest := []) S (metX3_largestOf l hf) (lw_S q1440 q1441 q60 q1442) pdX3_largestOf ⟨rfl, rfl⟩ ⟨Nat.le_of_ble_eq_true rfl, Nat.le_of_ble_eq_true rfl⟩ rfl hl.1 rfl (Nat.le_of_ble_eq_true rfl) dX3_cut_41 ⟨Nat.zero_le _, Nat.zero_le _⟩ (fun r_41 hf => ?_)
      refine lv_istore (lv' := [(6, .int r_41), (4, .long r_35), (2, .long r_29), (0, .ref (h 0)), (1, .int x1)]) hx hb dX3_cut_44 hl (by decide) rfl (fun ls hl => ?_)
      refine lv_iconst (v := 0) hx hb dX3_cut_46 (by decide) ?_
      refine lv_istore (lv' := [(7, .int 0), (6, .int r_41), (4, .long r_35), (2, .long r_29), (0, .ref (h 0)), (1, .int x1)]) hx hb dX3_cut_47 hl (by decide) rfl (fun ls hl => ?_)
      obtain ⟨fu, hf⟩ := hf
      exact tX3_cut_49 S hK hj hret fu 0 _ _ _ hf hP hS (lv_sub hl [4, 2, 1, 0] rfl)
    · replace hf := hf.1 c_21
      refine lv_bipush (v := (-2)) hx hb dX3_cut_24 (by decide) ?_
      exact hret _ _ _ _ _ _ _ hf hP hS dX3_cut_26
  · replace hf := hf.1 c_4
    refine lv_iconst (v := (-1)) hx hb dX3_cut_7 (by decide) ?_
    exact hret _ _ _ _ _ _ _ hf hP hS dX3_cut_8
/-! HoleCountyModel.books(JIII)J -/
theorem pdX3_books : DscOk yX3_books 4 := by decide +kernel
abbrev rmX3_books : Room := { frames := 5, cells := 0, slots := 0, locals := 115 }
abbrev RX3_books_ : Room := (headSpec (ws_ yX3_books cX3_books 19 (some .long)) rmX3_books).room
section
variable {p : Program} {l : Launch} {e : Env} {s : State} {m : MethodId} {args : Array Value} {below : List Frame} {meth : Method} {c : Code} {Qw : State → Prop} {dC : Nat → ClassId} {dI : Nat → Nat → Nat} {dA : Nat → ClassId} {h : Nat → Nat}
abbrev hrX3_books (p : Program) (l : Launch) (e : Env) (s : State) (m : MethodId) (args : Array Value) (below : List Frame) (meth : Method) (c : Code) (dC : Nat → ClassId) (dI : Nat → Nat → Nat) (dA : Nat → ClassId) (h : Nat → Nat) (Qw : State → Prop) (Q : Int64 → Int64 → Int64 → (Nat → Int64) → Int32 → Prop) (depths : (Nat → Int32)) (owners : (Nat → Int32)) (roofs : Int64) (rate : Int32) (undos : (Nat → Int32)) (undoMany : Int32) (drawn : Int32) (tape : (Nat → Int32)) (taped : Int32) (place : Int32) (reads : Int32) (read_ : (Nat → Int32)) (row : (Nat → Int32)) (order : (Nat → Int32)) (bestOrder : (Nat → Int32)) (nears : (Nat → Int32)) (isKept : Int32) (keptRoofs : Int64) (kept : (Nat → Int32)) (lanes : (Nat → Int32)) (rowSizes : (Nat → Int32)) (items : (Nat → Int64)) (moved : (Nat → Int64)) : Prop := ∀ (r : Int64) (dug : Int64) (deep : Int64) (holes : (Nat → Int64)) (holeMany : Int32) (H : Heap) (locs : List Loc) (pc : Nat) (ls : Array Slot), Q r dug deep holes holeMany → va_P (dC, dI) vwCl (wM h dA depths owners roofs rate undos undoMany drawn dug deep holes holeMany tape taped place reads read_ row order bestOrder nears isKept keptRoofs kept lanes rowSizes items moved) H → va_S (mA h) s.heap H locs → decode cX3_books pc = .ok (.lreturn, 1) → W p l e RX3_books_ s m args below meth c H locs 0 0 Qw (F0 m pc ls [.long r])
def wX3_books_195 (Q : Int64 → Int64 → Int64 → (Nat → Int64) → Int32 → Prop) (k114 : Int32 → Int64 → Int64 → Int64 → Int32 → Int64 → Int64 → (Nat → Int64) → Int32 → Prop) (x1 : Int64) (x3 : Int32) (x4 : Int32) (x5 : Int32) (x6 : Int64) (x8 : Int32) (x9 : Int64) (x11 : Int64) (x13 : Int64) (x16 : Int64) (z0 : Int32) (depths : (Nat → Int32)) (roofs : Int64) (rate : Int32) (dug : Int64) (deep : Int64) (holes : (Nat → Int64)) (holeMany : Int32) : Prop := (∀ x16_203 : Int64, x16_203 = ((x16 - 1) &&& x1) → (k114 x8 x9 x11 x13 z0 x16_203 dug holes holeMany))
set_option maxHeartbeats 4000000 in
set_option maxRecDepth 100000 in
theorem tX3_books_195 {Q : Int64 → Int64 → Int64 → (Nat → Int64) → Int32 → Prop} {x1 : Int64} {x3 : Int32} {x4 : Int32} {x5 : Int32} {x6 : Int64} {depths : (Nat → Int32)} {owners : (Nat → Int32)} {roofs : Int64} {rate : Int32} {undos : (Nat → Int32)} {undoMany : Int32} {drawn : Int32} {tape : (Nat → Int32)} {taped : Int32} {place : Int32} {reads : Int32} {read_ : (Nat → Int32)} {row : (Nat → Int32)} {order : (Nat → Int32)} {bestOrder : (Nat → Int32)} {nears : (Nat → Int32)} {isKept : Int32} {keptRoofs : Int64} {kept : (Nat → Int32)} {lanes : (Nat → Int32)} {rowSizes : (Nat → Int32)} {items : (Nat → Int64)} {moved : (Nat → Int64)} {deep : Int64} (S : CallFix p m c cX3_books 19 s args lw_all RX3) (hK : va_K (dC, dI) vwCl (tysG dA) s) (hj : mJ h) (hret : hrX3_books p l e s m args below meth c dC dI dA h Qw Q depths owners roofs rate undos undoMany drawn tape taped place reads read_ row order bestOrder nears isKept keptRoofs kept lanes rowSizes items moved) {k114 : Int32 → Int64 → Int64 → Int64 → Int32 → Int64 → Int64 → (Nat → Int64) → Int32 → Prop} (hk114 : ∀ (x8 : Int32) (x9 : Int64) (x11 : Int64) (x13 : Int64) (x15 : Int32) (x16 : Int64) (dug : Int64) (holes : (Nat → Int64)) (holeMany : Int32) (H : Heap) (locs : List Loc) (ls : Array Slot), k114 x8 x9 x11 x13 x15 x16 dug holes holeMany → va_P (dC, dI) vwCl (wM h dA depths owners roofs rate undos undoMany drawn dug deep holes holeMany tape taped place reads read_ row order bestOrder nears isKept keptRoofs kept lanes rowSizes items moved) H → va_S (mA h) s.heap H locs → lv_has ls 19 [(0, .ref (h 0)), (1, .long x1), (3, .int x3), (4, .int x4), (5, .int x5), (6, .long x6), (8, .int x8), (9, .long x9), (11, .long x11), (13, .long x13), (15, .int x15), (16, .long x16)] → W p l e RX3_books_ s m args below meth c H locs 0 0 Qw (F0 m 114 ls [])) : ∀ (x8 : Int32) (x9 : Int64) (x11 : Int64) (x13 : Int64) (x16 : Int64) (z0 : Int32) (dug : Int64) (holes : (Nat → Int64)) (holeMany : Int32) (H : Heap) (locs : List Loc) (ls : Array Slot), wX3_books_195 Q k114 x1 x3 x4 x5 x6 x8 x9 x11 x13 x16 z0 depths roofs rate dug deep holes holeMany → va_P (dC, dI) vwCl (wM h dA depths owners roofs rate undos undoMany drawn dug deep holes holeMany tape taped place reads read_ row order bestOrder nears isKept keptRoofs kept lanes rowSizes items moved) H → va_S (mA h) s.heap H locs → lv_has ls 19 [(0, .ref (h 0)), (1, .long x1), (3, .int x3), (4, .int x4), (5, .int x5), (6, .long x6), (8, .int x8), (9, .long x9), (11, .long x11), (13, .long x13), (16, .long x16)] → W p l e RX3_books_ s m args below meth c H locs 0 0 Qw (F0 m 195 ls [.int z0]) := by
  obtain ⟨hx, hb, hml, hown, hts⟩ := id S
  intro x8 x9 x11 x13 x16 z0 dug holes holeMany H locs ls hf hP hS hl
  unfold wX3_books_195 at hf
  refine lv_istore (lv' := [(15, .int z0), (0, .ref (h 0)), (1, .long x1), (3, .int x3), (4, .int x4), (5, .int x5), (6, .long x6), (8, .int x8), (9, .long x9), (11, .long x11), (13, .long x13), (16, .long x16)]) hx hb dX3_books_195 hl (by decide) rfl (fun ls hl => ?_)
  refine lv_lload hx hb dX3_books_197 (lv_at hl 11 rfl) ?_
  refine lv_lconst (v := 1) hx hb dX3_books_199 (by decide) ?_
  refine lv_lsub hx hb dX3_books_200 ?_
  refine lv_lload_n hx hb dX3_books_201 rfl (lv_at hl 2 rfl) ?_
  refine lv_land hx hb dX3_books_202 ?_
  refine lv_topl (fun x16_203 ex16_203 => ?_)
  replace hf := hf x16_203 ex16_203
  refine lv_lstore (lv' := [(16, .long x16_203), (15, .int z0), (0, .ref (h 0)), (1, .long x1), (3, .int x3), (4, .int x4), (5, .int x5), (6, .long x6), (8, .int x8), (9, .long x9), (11, .long x11), (13, .long x13)]) hx hb dX3_books_203 hl (by decide) rfl (fun ls hl => ?_)
  refine lv_goto (tgt := 114) hx hb dX3_books_205 (by decide) ?_
  exact hk114 x8 x9 x11 x13 z0 x16_203 dug holes holeMany _ _ _ hf hP hS (lv_sub hl [2, 3, 4, 5, 6, 7, 8, 9, 10, 11, 1, 0] rfl)
def wX3_books_183 (Q : Int64 → Int64 → Int64 → (Nat → Int64) → Int32 → Prop) (k114 : Int32 → Int64 → Int64 → Int64 → Int32 → Int64 → Int64 → (Nat → Int64) → Int32 → Prop) (x1 : Int64) (x3 : Int32) (x4 : Int32) (x5 : Int32) (x6 : Int64) (x8 : Int32) (x9 : Int64) (x11 : Int64) (x13 : Int64) (x16 : Int64) (depths : (Nat → Int32)) (roofs : Int64) (rate : Int32) (dug : Int64) (deep : Int64) (holes : (Nat → Int64)) (holeMany : Int32) : Prop := ((x16 = 0 → (wX3_books_195 Q k114 x1 x3 x4 x5 x6 x8 x9 x11 x13 x16 0 depths roofs rate dug deep holes holeMany)) ∧ (¬ x16 = 0 → (wX3_books_195 Q k114 x1 x3 x4 x5 x6 x8 x9 x11 x13 x16 1 depths roofs rate dug deep holes holeMany)))
set_option maxHeartbeats 4000000 in
set_option maxRecDepth 100000 in
theorem tX3_books_183 {Q : Int64 → Int64 → Int64 → (Nat → Int64) → Int32 → Prop} {x1 : Int64} {x3 : Int32} {x4 : Int32} {x5 : Int32} {x6 : Int64} {depths : (Nat → Int32)} {owners : (Nat → Int32)} {roofs : Int64} {rate : Int32} {undos : (Nat → Int32)} {undoMany : Int32} {drawn : Int32} {tape : (Nat → Int32)} {taped : Int32} {place : Int32} {reads : Int32} {read_ : (Nat → Int32)} {row : (Nat → Int32)} {order : (Nat → Int32)} {bestOrder : (Nat → Int32)} {nears : (Nat → Int32)} {isKept : Int32} {keptRoofs : Int64} {kept : (Nat → Int32)} {lanes : (Nat → Int32)} {rowSizes : (Nat → Int32)} {items : (Nat → Int64)} {moved : (Nat → Int64)} {deep : Int64} (S : CallFix p m c cX3_books 19 s args lw_all RX3) (hK : va_K (dC, dI) vwCl (tysG dA) s) (hj : mJ h) (hret : hrX3_books p l e s m args below meth c dC dI dA h Qw Q depths owners roofs rate undos undoMany drawn tape taped place reads read_ row order bestOrder nears isKept keptRoofs kept lanes rowSizes items moved) {k114 : Int32 → Int64 → Int64 → Int64 → Int32 → Int64 → Int64 → (Nat → Int64) → Int32 → Prop} (hk114 : ∀ (x8 : Int32) (x9 : Int64) (x11 : Int64) (x13 : Int64) (x15 : Int32) (x16 : Int64) (dug : Int64) (holes : (Nat → Int64)) (holeMany : Int32) (H : Heap) (locs : List Loc) (ls : Array Slot), k114 x8 x9 x11 x13 x15 x16 dug holes holeMany → va_P (dC, dI) vwCl (wM h dA depths owners roofs rate undos undoMany drawn dug deep holes holeMany tape taped place reads read_ row order bestOrder nears isKept keptRoofs kept lanes rowSizes items moved) H → va_S (mA h) s.heap H locs → lv_has ls 19 [(0, .ref (h 0)), (1, .long x1), (3, .int x3), (4, .int x4), (5, .int x5), (6, .long x6), (8, .int x8), (9, .long x9), (11, .long x11), (13, .long x13), (15, .int x15), (16, .long x16)] → W p l e RX3_books_ s m args below meth c H locs 0 0 Qw (F0 m 114 ls [])) : ∀ (x8 : Int32) (x9 : Int64) (x11 : Int64) (x13 : Int64) (x16 : Int64) (dug : Int64) (holes : (Nat → Int64)) (holeMany : Int32) (H : Heap) (locs : List Loc) (ls : Array Slot), wX3_books_183 Q k114 x1 x3 x4 x5 x6 x8 x9 x11 x13 x16 depths roofs rate dug deep holes holeMany → va_P (dC, dI) vwCl (wM h dA depths owners roofs rate undos undoMany drawn dug deep holes holeMany tape taped place reads read_ row order bestOrder nears isKept keptRoofs kept lanes rowSizes items moved) H → va_S (mA h) s.heap H locs → lv_has ls 19 [(0, .ref (h 0)), (1, .long x1), (3, .int x3), (4, .int x4), (5, .int x5), (6, .long x6), (8, .int x8), (9, .long x9), (11, .long x11), (13, .long x13), (16, .long x16)] → W p l e RX3_books_ s m args below meth c H locs 0 0 Qw (F0 m 183 ls []) := by
  obtain ⟨hx, hb, hml, hown, hts⟩ := id S
  intro x8 x9 x11 x13 x16 dug holes holeMany H locs ls hf hP hS hl
  unfold wX3_books_183 at hf
  refine lv_lload hx hb dX3_books_183 (lv_at hl 10 rfl) ?_
  refine lv_lconst (v := 0) hx hb dX3_books_185 (by decide) ?_
  refine lc_eq (tgt := 194) hx hb dX3_books_186 dX3_books_187 (by decide) (fun c_186 => ?_) (fun c_186 => ?_)
  · replace hf := hf.1 c_186
    refine lv_iconst (v := 0) hx hb dX3_books_194 (by decide) ?_
    exact tX3_books_195 S hK hj hret hk114 x8 x9 x11 x13 x16 0 dug holes holeMany _ _ _ hf hP hS (lv_sub hl [0, 1, 2, 3, 4, 5, 6, 7, 8, 9, 10] rfl)
  · replace hf := hf.2 c_186
    refine lv_iconst (v := 1) hx hb dX3_books_190 (by decide) ?_
    refine lv_goto (tgt := 195) hx hb dX3_books_191 (by decide) ?_
    exact tX3_books_195 S hK hj hret hk114 x8 x9 x11 x13 x16 1 dug holes holeMany _ _ _ hf hP hS (lv_sub hl [0, 1, 2, 3, 4, 5, 6, 7, 8, 9, 10] rfl)
def wX3_books_158 (Q : Int64 → Int64 → Int64 → (Nat → Int64) → Int32 → Prop) (k114 : Int32 → Int64 → Int64 → Int64 → Int32 → Int64 → Int64 → (Nat → Int64) → Int32 → Prop) (x1 : Int64) (x3 : Int32) (x4 : Int32) (x5 : Int32) (x6 : Int64) (x8 : Int32) (x11 : Int64) (x13 : Int64) (x16 : Int64) (depths : (Nat → Int32)) (roofs : Int64) (rate : Int32) (dug : Int64) (deep : Int64) (holes : (Nat → Int64)) (holeMany : Int32) : Prop := (∀ x8_158 : Int32, x8_158 = x8 + 1 → (∀ x11_170 : Int64, x11_170 = (x11 &&& x16) → (∀ x13_181 : Int64, x13_181 = (x13 &&& (x16 ^^^ (-1))) → (wX3_books_183 Q k114 x1 x3 x4 x5 x6 x8_158 x16 x11_170 x13_181 x16 depths roofs rate dug deep holes holeMany))))
set_option maxHeartbeats 4000000 in
set_option maxRecDepth 100000 in
theorem tX3_books_158 {Q : Int64 → Int64 → Int64 → (Nat → Int64) → Int32 → Prop} {x1 : Int64} {x3 : Int32} {x4 : Int32} {x5 : Int32} {x6 : Int64} {depths : (Nat → Int32)} {owners : (Nat → Int32)} {roofs : Int64} {rate : Int32} {undos : (Nat → Int32)} {undoMany : Int32} {drawn : Int32} {tape : (Nat → Int32)} {taped : Int32} {place : Int32} {reads : Int32} {read_ : (Nat → Int32)} {row : (Nat → Int32)} {order : (Nat → Int32)} {bestOrder : (Nat → Int32)} {nears : (Nat → Int32)} {isKept : Int32} {keptRoofs : Int64} {kept : (Nat → Int32)} {lanes : (Nat → Int32)} {rowSizes : (Nat → Int32)} {items : (Nat → Int64)} {moved : (Nat → Int64)} {deep : Int64} (S : CallFix p m c cX3_books 19 s args lw_all RX3) (hK : va_K (dC, dI) vwCl (tysG dA) s) (hj : mJ h) (hret : hrX3_books p l e s m args below meth c dC dI dA h Qw Q depths owners roofs rate undos undoMany drawn tape taped place reads read_ row order bestOrder nears isKept keptRoofs kept lanes rowSizes items moved) {k114 : Int32 → Int64 → Int64 → Int64 → Int32 → Int64 → Int64 → (Nat → Int64) → Int32 → Prop} (hk114 : ∀ (x8 : Int32) (x9 : Int64) (x11 : Int64) (x13 : Int64) (x15 : Int32) (x16 : Int64) (dug : Int64) (holes : (Nat → Int64)) (holeMany : Int32) (H : Heap) (locs : List Loc) (ls : Array Slot), k114 x8 x9 x11 x13 x15 x16 dug holes holeMany → va_P (dC, dI) vwCl (wM h dA depths owners roofs rate undos undoMany drawn dug deep holes holeMany tape taped place reads read_ row order bestOrder nears isKept keptRoofs kept lanes rowSizes items moved) H → va_S (mA h) s.heap H locs → lv_has ls 19 [(0, .ref (h 0)), (1, .long x1), (3, .int x3), (4, .int x4), (5, .int x5), (6, .long x6), (8, .int x8), (9, .long x9), (11, .long x11), (13, .long x13), (15, .int x15), (16, .long x16)] → W p l e RX3_books_ s m args below meth c H locs 0 0 Qw (F0 m 114 ls [])) : ∀ (x8 : Int32) (x11 : Int64) (x13 : Int64) (x16 : Int64) (dug : Int64) (holes : (Nat → Int64)) (holeMany : Int32) (H : Heap) (locs : List Loc) (ls : Array Slot), wX3_books_158 Q k114 x1 x3 x4 x5 x6 x8 x11 x13 x16 depths roofs rate dug deep holes holeMany → va_P (dC, dI) vwCl (wM h dA depths owners roofs rate undos undoMany drawn dug deep holes holeMany tape taped place reads read_ row order bestOrder nears isKept keptRoofs kept lanes rowSizes items moved) H → va_S (mA h) s.heap H locs → lv_has ls 19 [(0, .ref (h 0)), (1, .long x1), (3, .int x3), (4, .int x4), (5, .int x5), (6, .long x6), (8, .int x8), (11, .long x11), (13, .long x13), (16, .long x16)] → W p l e RX3_books_ s m args below meth c H locs 0 0 Qw (F0 m 158 ls []) := by
  obtain ⟨hx, hb, hml, hown, hts⟩ := id S
  intro x8 x11 x13 x16 dug holes holeMany H locs ls hf hP hS hl
  unfold wX3_books_158 at hf
  obtain ⟨x8_158, ex8_158⟩ : ∃ z : Int32, z = x8 + 1 := ⟨_, rfl⟩
  replace hf := hf x8_158 ex8_158
  refine lv_iinc (v := x8_158) (lv' := [(8, .int x8_158), (0, .ref (h 0)), (1, .long x1), (3, .int x3), (4, .int x4), (5, .int x5), (6, .long x6), (11, .long x11), (13, .long x13), (16, .long x16)]) hx hb dX3_books_158 hl (k := 6) rfl (by rw [ex8_158]; rfl) (by decide) rfl (fun ls hl => ?_)
  refine lv_lload hx hb dX3_books_161 (lv_at hl 9 rfl) ?_
  refine lv_lstore (lv' := [(9, .long x16), (8, .int x8_158), (0, .ref (h 0)), (1, .long x1), (3, .int x3), (4, .int x4), (5, .int x5), (6, .long x6), (11, .long x11), (13, .long x13), (16, .long x16)]) hx hb dX3_books_163 hl (by decide) rfl (fun ls hl => ?_)
  refine lv_lload hx hb dX3_books_165 (lv_at hl 8 rfl) ?_
  refine lv_lload hx hb dX3_books_167 (lv_at hl 10 rfl) ?_
  refine lv_land hx hb dX3_books_169 ?_
  refine lv_topl (fun x11_170 ex11_170 => ?_)
  replace hf := hf x11_170 ex11_170
  refine lv_lstore (lv' := [(11, .long x11_170), (9, .long x16), (8, .int x8_158), (0, .ref (h 0)), (1, .long x1), (3, .int x3), (4, .int x4), (5, .int x5), (6, .long x6), (13, .long x13), (16, .long x16)]) hx hb dX3_books_170 hl (by decide) rfl (fun ls hl => ?_)
  refine lv_lload hx hb dX3_books_172 (lv_at hl 9 rfl) ?_
  refine lv_lload hx hb dX3_books_174 (lv_at hl 10 rfl) ?_
  refine lv_ldc2 (v := (-1)) hx hb hown (hts _ q1286) dX3_books_176 ?_
  refine lv_lxor hx hb dX3_books_179 ?_
  refine lv_land hx hb dX3_books_180 ?_
  refine lv_topl (fun x13_181 ex13_181 => ?_)
  replace hf := hf x13_181 ex13_181
  refine lv_lstore (lv' := [(13, .long x13_181), (11, .long x11_170), (9, .long x16), (8, .int x8_158), (0, .ref (h 0)), (1, .long x1), (3, .int x3), (4, .int x4), (5, .int x5), (6, .long x6), (16, .long x16)]) hx hb dX3_books_181 hl (by decide) rfl (fun ls hl => ?_)
  exact tX3_books_183 S hK hj hret hk114 x8_158 x16 x11_170 x13_181 x16 dug holes holeMany _ _ _ hf hP hS (lv_sub hl [4, 5, 6, 7, 8, 9, 3, 2, 1, 0, 10] rfl)
def wX3_books_146 (Q : Int64 → Int64 → Int64 → (Nat → Int64) → Int32 → Prop) (k114 : Int32 → Int64 → Int64 → Int64 → Int32 → Int64 → Int64 → (Nat → Int64) → Int32 → Prop) (x1 : Int64) (x3 : Int32) (x4 : Int32) (x5 : Int32) (x6 : Int64) (x8 : Int32) (x9 : Int64) (x11 : Int64) (x13 : Int64) (x16 : Int64) (x18 : Int32) (depths : (Nat → Int32)) (roofs : Int64) (rate : Int32) (dug : Int64) (deep : Int64) (holes : (Nat → Int64)) (holeMany : Int32) : Prop := ((x4 < 0 → (wX3_books_158 Q k114 x1 x3 x4 x5 x6 x8 x11 x13 x16 depths roofs rate dug deep holes holeMany)) ∧ (¬ x4 < 0 → ((x18 = x4 → (wX3_books_158 Q k114 x1 x3 x4 x5 x6 x8 x11 x13 x16 depths roofs rate dug deep holes holeMany)) ∧ (¬ x18 = x4 → (wX3_books_183 Q k114 x1 x3 x4 x5 x6 x8 x9 x11 x13 x16 depths roofs rate dug deep holes holeMany)))))
set_option maxHeartbeats 4000000 in
set_option maxRecDepth 100000 in
theorem tX3_books_146 {Q : Int64 → Int64 → Int64 → (Nat → Int64) → Int32 → Prop} {x1 : Int64} {x3 : Int32} {x4 : Int32} {x5 : Int32} {x6 : Int64} {depths : (Nat → Int32)} {owners : (Nat → Int32)} {roofs : Int64} {rate : Int32} {undos : (Nat → Int32)} {undoMany : Int32} {drawn : Int32} {tape : (Nat → Int32)} {taped : Int32} {place : Int32} {reads : Int32} {read_ : (Nat → Int32)} {row : (Nat → Int32)} {order : (Nat → Int32)} {bestOrder : (Nat → Int32)} {nears : (Nat → Int32)} {isKept : Int32} {keptRoofs : Int64} {kept : (Nat → Int32)} {lanes : (Nat → Int32)} {rowSizes : (Nat → Int32)} {items : (Nat → Int64)} {moved : (Nat → Int64)} {deep : Int64} (S : CallFix p m c cX3_books 19 s args lw_all RX3) (hK : va_K (dC, dI) vwCl (tysG dA) s) (hj : mJ h) (hret : hrX3_books p l e s m args below meth c dC dI dA h Qw Q depths owners roofs rate undos undoMany drawn tape taped place reads read_ row order bestOrder nears isKept keptRoofs kept lanes rowSizes items moved) {k114 : Int32 → Int64 → Int64 → Int64 → Int32 → Int64 → Int64 → (Nat → Int64) → Int32 → Prop} (hk114 : ∀ (x8 : Int32) (x9 : Int64) (x11 : Int64) (x13 : Int64) (x15 : Int32) (x16 : Int64) (dug : Int64) (holes : (Nat → Int64)) (holeMany : Int32) (H : Heap) (locs : List Loc) (ls : Array Slot), k114 x8 x9 x11 x13 x15 x16 dug holes holeMany → va_P (dC, dI) vwCl (wM h dA depths owners roofs rate undos undoMany drawn dug deep holes holeMany tape taped place reads read_ row order bestOrder nears isKept keptRoofs kept lanes rowSizes items moved) H → va_S (mA h) s.heap H locs → lv_has ls 19 [(0, .ref (h 0)), (1, .long x1), (3, .int x3), (4, .int x4), (5, .int x5), (6, .long x6), (8, .int x8), (9, .long x9), (11, .long x11), (13, .long x13), (15, .int x15), (16, .long x16)] → W p l e RX3_books_ s m args below meth c H locs 0 0 Qw (F0 m 114 ls [])) : ∀ (x8 : Int32) (x9 : Int64) (x11 : Int64) (x13 : Int64) (x16 : Int64) (x18 : Int32) (dug : Int64) (holes : (Nat → Int64)) (holeMany : Int32) (H : Heap) (locs : List Loc) (ls : Array Slot), wX3_books_146 Q k114 x1 x3 x4 x5 x6 x8 x9 x11 x13 x16 x18 depths roofs rate dug deep holes holeMany → va_P (dC, dI) vwCl (wM h dA depths owners roofs rate undos undoMany drawn dug deep holes holeMany tape taped place reads read_ row order bestOrder nears isKept keptRoofs kept lanes rowSizes items moved) H → va_S (mA h) s.heap H locs → lv_has ls 19 [(0, .ref (h 0)), (1, .long x1), (3, .int x3), (4, .int x4), (5, .int x5), (6, .long x6), (8, .int x8), (9, .long x9), (11, .long x11), (13, .long x13), (16, .long x16), (18, .int x18)] → W p l e RX3_books_ s m args below meth c H locs 0 0 Qw (F0 m 146 ls []) := by
  obtain ⟨hx, hb, hml, hown, hts⟩ := id S
  intro x8 x9 x11 x13 x16 x18 dug holes holeMany H locs ls hf hP hS hl
  unfold wX3_books_146 at hf
  refine lv_iload hx hb dX3_books_146 (lv_at hl 3 rfl) ?_
  refine lv_if_lt (tgt := 158) hx hb dX3_books_148 (by decide) (fun c_148 => ?_) (fun c_148 => ?_)
  · replace hf := hf.1 c_148
    exact tX3_books_158 S hK hj hret hk114 x8 x11 x13 x16 dug holes holeMany _ _ _ hf hP hS (lv_sub hl [0, 1, 2, 3, 4, 5, 6, 8, 9, 10] rfl)
  · replace hf := hf.2 c_148
    refine lv_iload hx hb dX3_books_151 (lv_at hl 11 rfl) ?_
    refine lv_iload hx hb dX3_books_153 (lv_at hl 3 rfl) ?_
    refine lv_icmp_ne (tgt := 183) hx hb dX3_books_155 (by decide) (fun c_155 => ?_) (fun c_155 => ?_)
    · replace hf := hf.2 c_155
      exact tX3_books_183 S hK hj hret hk114 x8 x9 x11 x13 x16 dug holes holeMany _ _ _ hf hP hS (lv_sub hl [0, 1, 2, 3, 4, 5, 6, 7, 8, 9, 10] rfl)
    · replace hf := hf.1 c_155
      exact tX3_books_158 S hK hj hret hk114 x8 x11 x13 x16 dug holes holeMany _ _ _ hf hP hS (lv_sub hl [0, 1, 2, 3, 4, 5, 6, 8, 9, 10] rfl)
def wX3_books_114 (Q : Int64 → Int64 → Int64 → (Nat → Int64) → Int32 → Prop) (x1 : Int64) (x3 : Int32) (x4 : Int32) (x5 : Int32) (x6 : Int64) (depths : (Nat → Int32)) (roofs : Int64) (rate : Int32) (deep : Int64) : Nat → Int32 → Int64 → Int64 → Int64 → Int32 → Int64 → Int64 → (Nat → Int64) → Int32 → Prop
  | 0, _, _, _, _, _, _, _, _, _ => False
  | n + 1, x8, x9, x11, x13, x15, x16, dug, holes, holeMany => ((x15 = 0 → ((x5 = 0 → (Q ((x8 : Int32).toInt64) dug deep holes holeMany)) ∧ (¬ x5 = 0 → ((x8 = 0 → (Q (-4) dug deep holes holeMany)) ∧ (¬ x8 = 0 → ((x5 = 1 → (Q x9 dug deep holes holeMany)) ∧ (¬ x5 = 1 → ((x5 = 2 → (Q x11 dug deep holes holeMany)) ∧ (¬ x5 = 2 → (Q x13 dug deep holes holeMany)))))))))) ∧ (¬ x15 = 0 → (∀ dug_125 : Int64, dug_125 = (x6 ||| x16) → (wX3_taxOfAll (fun r_129 holes_129 holeMany_129 => ((x3 < 0 → (wX3_books_146 Q (wX3_books_114 Q x1 x3 x4 x5 x6 depths roofs rate deep n) x1 x3 x4 x5 x6 x8 x9 x11 x13 x16 r_129 depths roofs rate dug_125 deep holes_129 holeMany_129)) ∧ (¬ x3 < 0 → ((holeMany_129 = x3 → (wX3_books_146 Q (wX3_books_114 Q x1 x3 x4 x5 x6 depths roofs rate deep n) x1 x3 x4 x5 x6 x8 x9 x11 x13 x16 r_129 depths roofs rate dug_125 deep holes_129 holeMany_129)) ∧ (¬ holeMany_129 = x3 → (wX3_books_183 Q (wX3_books_114 Q x1 x3 x4 x5 x6 depths roofs rate deep n) x1 x3 x4 x5 x6 x8 x9 x11 x13 x16 depths roofs rate dug_125 deep holes_129 holeMany_129)))))) roofs rate dug_125 deep holes holeMany))))
set_option maxHeartbeats 4000000 in
set_option maxRecDepth 100000 in
theorem tX3_books_114 {Q : Int64 → Int64 → Int64 → (Nat → Int64) → Int32 → Prop} {x1 : Int64} {x3 : Int32} {x4 : Int32} {x5 : Int32} {x6 : Int64} {depths : (Nat → Int32)} {owners : (Nat → Int32)} {roofs : Int64} {rate : Int32} {undos : (Nat → Int32)} {undoMany : Int32} {drawn : Int32} {deep : Int64} {tape : (Nat → Int32)} {taped : Int32} {place : Int32} {reads : Int32} {read_ : (Nat → Int32)} {row : (Nat → Int32)} {order : (Nat → Int32)} {bestOrder : (Nat → Int32)} {nears : (Nat → Int32)} {isKept : Int32} {keptRoofs : Int64} {kept : (Nat → Int32)} {lanes : (Nat → Int32)} {rowSizes : (Nat → Int32)} {items : (Nat → Int64)} {moved : (Nat → Int64)} (S : CallFix p m c cX3_books 19 s args lw_all RX3) (hK : va_K (dC, dI) vwCl (tysG dA) s) (hj : mJ h) (hret : hrX3_books p l e s m args below meth c dC dI dA h Qw Q depths owners roofs rate undos undoMany drawn tape taped place reads read_ row order bestOrder nears isKept keptRoofs kept lanes rowSizes items moved) : ∀ (n : Nat) (x8 : Int32) (x9 : Int64) (x11 : Int64) (x13 : Int64) (x15 : Int32) (x16 : Int64) (dug : Int64) (holes : (Nat → Int64)) (holeMany : Int32) (H : Heap) (locs : List Loc) (ls : Array Slot), wX3_books_114 Q x1 x3 x4 x5 x6 depths roofs rate deep n x8 x9 x11 x13 x15 x16 dug holes holeMany → va_P (dC, dI) vwCl (wM h dA depths owners roofs rate undos undoMany drawn dug deep holes holeMany tape taped place reads read_ row order bestOrder nears isKept keptRoofs kept lanes rowSizes items moved) H → va_S (mA h) s.heap H locs → lv_has ls 19 [(0, .ref (h 0)), (1, .long x1), (3, .int x3), (4, .int x4), (5, .int x5), (6, .long x6), (8, .int x8), (9, .long x9), (11, .long x11), (13, .long x13), (15, .int x15), (16, .long x16)] → W p l e RX3_books_ s m args below meth c H locs 0 0 Qw (F0 m 114 ls []) := by
  obtain ⟨hx, hb, hml, hown, hts⟩ := id S
  intro n
  induction n with
  | zero => intro _ _ _ _ _ _ _ _ _ _ _ _ hf; exact hf.elim
  | succ n ih =>
    intro x8 x9 x11 x13 x15 x16 dug holes holeMany H locs ls hf hP hS hl
    rw [wX3_books_114] at hf
    refine lv_iload hx hb dX3_books_114 (lv_at hl 10 rfl) ?_
    refine lv_if_eq (tgt := 208) hx hb dX3_books_116 (by decide) (fun c_116 => ?_) (fun c_116 => ?_)
    · replace hf := hf.1 c_116
      refine lv_iload hx hb dX3_books_208 (lv_at hl 4 rfl) ?_
      refine lv_if_ne (tgt := 219) hx hb dX3_books_210 (by decide) (fun c_210 => ?_) (fun c_210 => ?_)
      · replace hf := hf.2 c_210
        refine lv_iload hx hb dX3_books_219 (lv_at hl 6 rfl) ?_
        refine lv_if_ne (tgt := 230) hx hb dX3_books_221 (by decide) (fun c_221 => ?_) (fun c_221 => ?_)
        · replace hf := hf.2 c_221
          refine lv_iload hx hb dX3_books_230 (lv_at hl 4 rfl) ?_
          refine lv_iconst (v := 1) hx hb dX3_books_232 (by decide) ?_
          refine lv_icmp_ne (tgt := 241) hx hb dX3_books_233 (by decide) (fun c_233 => ?_) (fun c_233 => ?_)
          · replace hf := hf.2 c_233
            refine lv_iload hx hb dX3_books_241 (lv_at hl 4 rfl) ?_
            refine lv_iconst (v := 2) hx hb dX3_books_243 (by decide) ?_
            refine lv_icmp_ne (tgt := 252) hx hb dX3_books_244 (by decide) (fun c_244 => ?_) (fun c_244 => ?_)
            · replace hf := hf.2 c_244
              refine lv_lload hx hb dX3_books_252 (lv_at hl 9 rfl) ?_
              exact hret _ _ _ _ _ _ _ _ _ hf hP hS dX3_books_254
            · replace hf := hf.1 c_244
              refine lv_lload hx hb dX3_books_247 (lv_at hl 8 rfl) ?_
              refine lv_goto (tgt := 254) hx hb dX3_books_249 (by decide) ?_
              exact hret _ _ _ _ _ _ _ _ _ hf hP hS dX3_books_254
          · replace hf := hf.1 c_233
            refine lv_lload hx hb dX3_books_236 (lv_at hl 7 rfl) ?_
            refine lv_goto (tgt := 254) hx hb dX3_books_238 (by decide) ?_
            exact hret _ _ _ _ _ _ _ _ _ hf hP hS dX3_books_254
        · replace hf := hf.1 c_221
          refine lv_ldc2 (v := (-4)) hx hb hown (hts _ q1534) dX3_books_224 ?_
          refine lv_goto (tgt := 254) hx hb dX3_books_227 (by decide) ?_
          exact hret _ _ _ _ _ _ _ _ _ hf hP hS dX3_books_254
      · replace hf := hf.1 c_210
        refine lv_iload hx hb dX3_books_213 (lv_at hl 6 rfl) ?_
        refine lv_i2l (v := (x8 : Int32).toInt64) hx hb dX3_books_215 rfl ?_
        refine lv_goto (tgt := 254) hx hb dX3_books_216 (by decide) ?_
        exact hret _ _ _ _ _ _ _ _ _ hf hP hS dX3_books_254
    · replace hf := hf.2 c_116
      refine lv_aload_n hx hb dX3_books_119 rfl (lv_at hl 0 rfl) ?_
      refine lv_lload hx hb dX3_books_120 (lv_at hl 5 rfl) ?_
      refine lv_lload hx hb dX3_books_122 (lv_at hl 11 rfl) ?_
      refine lv_lor hx hb dX3_books_124 ?_
      refine lv_topl (fun dug_125 edug_125 => ?_)
      replace hf := hf dug_125 edug_125
      refine pM_dug S hK hj hP hS dX3_books_125 (fun H locs hP hS => ?_)
      refine lv_aload_n hx hb dX3_books_128 rfl (lv_at hl 0 rfl) ?_
      refine cM_i (As := []) (rest := []) S hK rfl hP hS (metX3_taxOfAll l hj hf) (lw_V q1393 q1395 qs37 q60 q1396) rfl pdX3_taxOfAll ⟨rfl, rfl⟩ ⟨Nat.le_of_ble_eq_true rfl, Nat.le_of_ble_eq_true rfl⟩ rfl hl.1 rfl (Nat.le_of_ble_eq_true rfl) dX3_books_129 ⟨Nat.zero_le _, Nat.zero_le _⟩ (fun r_129 u_129 H locs hf hP hS => ?_)
      obtain ⟨holes_129, holeMany_129⟩ := u_129
      replace hP : va_P (dC, dI) vwCl (wM h dA depths owners roofs rate undos undoMany drawn dug_125 deep holes_129 holeMany_129 tape taped place reads read_ row order bestOrder nears isKept keptRoofs kept lanes rowSizes items moved) H := hP
      try dsimp only at hf
      refine lv_istore (lv' := [(18, .int r_129), (0, .ref (h 0)), (1, .long x1), (3, .int x3), (4, .int x4), (5, .int x5), (6, .long x6), (8, .int x8), (9, .long x9), (11, .long x11), (13, .long x13), (15, .int x15), (16, .long x16)]) hx hb dX3_books_132 hl (by decide) rfl (fun ls hl => ?_)
      refine lv_iload_n hx hb dX3_books_134 rfl (lv_at hl 3 rfl) ?_
      refine lv_if_lt (tgt := 146) hx hb dX3_books_135 (by decide) (fun c_135 => ?_) (fun c_135 => ?_)
      · replace hf := hf.1 c_135
        exact tX3_books_146 S hK hj hret ih x8 x9 x11 x13 x16 r_129 dug_125 holes_129 holeMany_129 _ _ _ hf hP hS (lv_sub hl [1, 2, 3, 4, 5, 6, 7, 8, 9, 10, 12, 0] rfl)
      · replace hf := hf.2 c_135
        refine lv_aload_n hx hb dX3_books_138 rfl (lv_at hl 1 rfl) ?_
        refine gM_holeMany S hK hP dX3_books_139 ?_
        refine lv_iload_n hx hb dX3_books_142 rfl (lv_at hl 3 rfl) ?_
        refine lv_icmp_ne (tgt := 183) hx hb dX3_books_143 (by decide) (fun c_143 => ?_) (fun c_143 => ?_)
        · replace hf := hf.2 c_143
          exact tX3_books_183 S hK hj hret ih x8 x9 x11 x13 x16 dug_125 holes_129 holeMany_129 _ _ _ hf hP hS (lv_sub hl [1, 2, 3, 4, 5, 6, 7, 8, 9, 10, 12] rfl)
        · replace hf := hf.1 c_143
          exact tX3_books_146 S hK hj hret ih x8 x9 x11 x13 x16 r_129 dug_125 holes_129 holeMany_129 _ _ _ hf hP hS (lv_sub hl [1, 2, 3, 4, 5, 6, 7, 8, 9, 10, 12, 0] rfl)
def wX3_books (Q : Int64 → Int64 → Int64 → (Nat → Int64) → Int32 → Prop) (depths : (Nat → Int32)) (roofs : Int64) (rate : Int32) (dug : Int64) (deep : Int64) (holes : (Nat → Int64)) (holeMany : Int32) (x1 : Int64) (x3 : Int32) (x4 : Int32) (x5 : Int32) : Prop := (wX3_in (fun r_5 => ((r_5 = 0 → (Q (-1) dug deep holes holeMany)) ∧ (¬ r_5 = 0 → (wX3_ones (fun r_12 => ((6 < r_12 → (Q (-1) dug deep holes holeMany)) ∧ (¬ 6 < r_12 → (wX3_in (fun r_28 => ((r_28 = 0 → (Q (-1) dug deep holes holeMany)) ∧ (¬ r_28 = 0 → (wX3_in (fun r_43 => ((r_43 = 0 → (Q (-1) dug deep holes holeMany)) ∧ (¬ r_43 = 0 → (wX3_in (fun r_56 => ((r_56 = 0 → (Q (-1) dug deep holes holeMany)) ∧ (¬ r_56 = 0 → (wX3_look (fun dug_67 deep_67 => (∀ x6_80 : Int64, x6_80 = (dug_67 &&& (x1 ^^^ (-1))) → (∀ deep_93 : Int64, deep_93 = (deep_67 &&& (x1 ^^^ (-1))) → (∃ fu : Nat, wX3_books_114 Q x1 x3 x4 x5 x6_80 depths roofs rate deep_93 fu 0 0 x1 x1 1 x1 dug_67 holes holeMany)))) depths dug deep)))) ((x5 : Int32).toInt64) 0 3)))) ((x4 : Int32).toInt64) (-1) 9999)))) ((x3 : Int32).toInt64) (-1) 36)))) x1)))) x1 0 68719476735)
end
set_option maxHeartbeats 4000000 in
set_option maxRecDepth 100000 in
theorem metX3_books (l : Launch) {Q : Int64 → Int64 → Int64 → (Nat → Int64) → Int32 → Prop} {depths : (Nat → Int32)} {owners : (Nat → Int32)} {roofs : Int64} {rate : Int32} {undos : (Nat → Int32)} {undoMany : Int32} {drawn : Int32} {dug : Int64} {deep : Int64} {holes : (Nat → Int64)} {holeMany : Int32} {tape : (Nat → Int32)} {taped : Int32} {place : Int32} {reads : Int32} {read_ : (Nat → Int32)} {row : (Nat → Int32)} {order : (Nat → Int32)} {bestOrder : (Nat → Int32)} {nears : (Nat → Int32)} {isKept : Int32} {keptRoofs : Int64} {kept : (Nat → Int32)} {lanes : (Nat → Int32)} {rowSizes : (Nat → Int32)} {items : (Nat → Int64)} {moved : (Nat → Int64)} {x1 : Int64} {x3 : Int32} {x4 : Int32} {x5 : Int32} {dC : Nat → ClassId} {dI : Nat → Nat → Nat} {dA : Nat → ClassId} {h : Nat → Nat} (hj : mJ h) (hf : wX3_books Q depths roofs rate dug deep holes holeMany x1 x3 x4 x5) : Met l yX3_books (ws_ yX3_books cX3_books 19 (some .long)) rmX3_books (mPc dC dI dA h [.long x1, .int x3, .int x4, .int x5] (wM h dA depths owners roofs rate undos undoMany drawn dug deep holes holeMany tape taped place reads read_ row order bestOrder nears isKept keptRoofs kept lanes rowSizes items moved)) (va_Ql (fun (r : Int64) (u : Int64 × Int64 × (Nat → Int64) × Int32) => Q r u.1 u.2.1 u.2.2.1 u.2.2.2) (fun u t => va_P (dC, dI) vwCl (wM h dA depths owners roofs rate undos undoMany drawn u.1 u.2.1 u.2.2.1 u.2.2.2 tape taped place reads read_ row order bestOrder nears isKept keptRoofs kept lanes rowSizes items moved) t.heap) (mA h)) 0 0 (mA h) := by
  refine Met.ofW (cc := cX3_books) (maxL := 19) (ret := (some .long)) (by decide) rfl ?_
  intro p e s m args below meth c s₁ B hml hv
  obtain ⟨rfl, hP, hK⟩ := hv
  have hx := B.exec
  have hb := B.bytes
  have hr := B.returns
  have hts := atoms_spec (ws := (ws_ yX3_books cX3_books 19 (some .long))) B.pre
  have hts : ∀ w ∈ lw_all, w.before _ s = true := fun w h => hts w (List.mem_cons_of_mem _ h)
  have hown : s.vm.findClass RX3 = some m.cls := findClass_of_methodNamed B.named
  have hlocks := B.notSynchronized
  have S : CallFix p m c cX3_books 19 s _ lw_all RX3 := ⟨hx, hb, hml, hown, hts⟩
  have hS : va_S (mA h) s.heap s.heap [] := va_S.rf
  have hl := lv_entry ([.ref (h 0), .long x1, .int x3, .int x4, .int x5]) (n := 19) (Nat.le_of_ble_eq_true rfl)
  rw [lg_entry_eq]
  generalize (lg_sl ([.ref (h 0), .long x1, .int x3, .int x4, .int x5]) ++ List.replicate (19 - (lg_sl ([.ref (h 0), .long x1, .int x3, .int x4, .int x5])).length) Slot.unset).toArray = ls at hl ⊢
  replace hl : lv_has ls 19 [(0, .ref (h 0)), (1, .long x1), (3, .int x3), (4, .int x4), (5, .int x5)] := hl
  have hret : hrX3_books p l e s m ([.ref (h 0), .long x1, .int x3, .int x4, .int x5] : List Value).toArray below meth c dC dI dA h (MQ below (va_Ql (fun (r : Int64) (u : Int64 × Int64 × (Nat → Int64) × Int32) => Q r u.1 u.2.1 u.2.2.1 u.2.2.2) (fun u t => va_P (dC, dI) vwCl (wM h dA depths owners roofs rate undos undoMany drawn u.1 u.2.1 u.2.2.1 u.2.2.2 tape taped place reads read_ row order bestOrder nears isKept keptRoofs kept lanes rowSizes items moved) t.heap) (mA h)) ([.ref (h 0), .long x1, .int x3, .int x4, .int x5] : List Value).toArray s 0 0 (mA h)) Q depths owners roofs rate undos undoMany drawn tape taped place reads read_ row order bestOrder nears isKept keptRoofs kept lanes rowSizes items moved := fun r dug deep holes holeMany H locs pc ls hq hP hS hd => W.lret hx hb hr (fun t ht hW => ⟨⟨r, (dug, deep, holes, holeMany), rfl, hq, by subst ht; exact hP⟩, hS.F ht⟩) hS.2.2 hd
  unfold wX3_books at hf
  refine lv_lload_n hx hb dX3_books_0 rfl (lv_at hl 1 rfl) ?_
  refine lv_lconst (v := 0) hx hb dX3_books_1 (by decide) ?_
  refine lv_ldc2 (v := 68719476735) hx hb hown (hts _ q1325) dX3_books_2 ?_
  refine cs_i (As := [.long x1, .long 0, .long 68719476735]) (rest := []) S (metX3_in l hf) (lw_S q1268 q1269 q60 q1270) pdX3_in ⟨rfl, rfl⟩ ⟨Nat.le_of_ble_eq_true rfl, Nat.le_of_ble_eq_true rfl⟩ rfl hl.1 rfl (Nat.le_of_ble_eq_true rfl) dX3_books_5 ⟨Nat.zero_le _, Nat.zero_le _⟩ (fun r_5 hf => ?_)
  refine lv_if_eq (tgt := 62) hx hb dX3_books_8 (by decide) (fun c_8 => ?_) (fun c_8 => ?_)
  · replace hf := hf.1 c_8
    refine lv_ldc2 (v := (-1)) hx hb hown (hts _ q1286) dX3_books_62 ?_
    exact hret _ _ _ _ _ _ _ _ _ hf hP hS dX3_books_65
  · replace hf := hf.2 c_8
    refine lv_lload_n hx hb dX3_books_11 rfl (lv_at hl 1 rfl) ?_
    refine cs_i (As := [.long x1]) (rest := []) S (metX3_ones l hf) (lw_S q1390 q1391 q60 q1392) pdX3_ones ⟨rfl, rfl⟩ ⟨Nat.le_of_ble_eq_true rfl, Nat.le_of_ble_eq_true rfl⟩ rfl hl.1 rfl (Nat.le_of_ble_eq_true rfl) dX3_books_12 ⟨Nat.zero_le _, Nat.zero_le _⟩ (fun r_12 hf => ?_)
    refine lv_bipush (v := 6) hx hb dX3_books_15 (by decide) ?_
    refine lv_icmp_gt (tgt := 62) hx hb dX3_books_17 (by decide) (fun c_17 => ?_) (fun c_17 => ?_)
    · replace hf := hf.1 c_17
      refine lv_ldc2 (v := (-1)) hx hb hown (hts _ q1286) dX3_books_62 ?_
      exact hret _ _ _ _ _ _ _ _ _ hf hP hS dX3_books_65
    · replace hf := hf.2 c_17
      refine lv_iload_n hx hb dX3_books_20 rfl (lv_at hl 2 rfl) ?_
      refine lv_i2l (v := (x3 : Int32).toInt64) hx hb dX3_books_21 rfl ?_
      refine lv_ldc2 (v := (-1)) hx hb hown (hts _ q1286) dX3_books_22 ?_
      refine lv_ldc2 (v := 36) hx hb hown (hts _ q1533) dX3_books_25 ?_
      refine cs_i (As := [.long (x3 : Int32).toInt64, .long (-1), .long 36]) (rest := []) S (metX3_in l hf) (lw_S q1268 q1269 q60 q1270) pdX3_in ⟨rfl, rfl⟩ ⟨Nat.le_of_ble_eq_true rfl, Nat.le_of_ble_eq_true rfl⟩ rfl hl.1 rfl (Nat.le_of_ble_eq_true rfl) dX3_books_28 ⟨Nat.zero_le _, Nat.zero_le _⟩ (fun r_28 hf => ?_)
      refine lv_if_eq (tgt := 62) hx hb dX3_books_31 (by decide) (fun c_31 => ?_) (fun c_31 => ?_)
      · replace hf := hf.1 c_31
        refine lv_ldc2 (v := (-1)) hx hb hown (hts _ q1286) dX3_books_62 ?_
        exact hret _ _ _ _ _ _ _ _ _ hf hP hS dX3_books_65
      · replace hf := hf.2 c_31
        refine lv_iload hx hb dX3_books_34 (lv_at hl 3 rfl) ?_
        refine lv_i2l (v := (x4 : Int32).toInt64) hx hb dX3_books_36 rfl ?_
        refine lv_ldc2 (v := (-1)) hx hb hown (hts _ q1286) dX3_books_37 ?_
        refine lv_ldc2 (v := 9999) hx hb hown (hts _ q1471) dX3_books_40 ?_
        refine cs_i (As := [.long (x4 : Int32).toInt64, .long (-1), .long 9999]) (rest := []) S (metX3_in l hf) (lw_S q1268 q1269 q60 q1270) pdX3_in ⟨rfl, rfl⟩ ⟨Nat.le_of_ble_eq_true rfl, Nat.le_of_ble_eq_true rfl⟩ rfl hl.1 rfl (Nat.le_of_ble_eq_true rfl) dX3_books_43 ⟨Nat.zero_le _, Nat.zero_le _⟩ (fun r_43 hf => ?_)
        refine lv_if_eq (tgt := 62) hx hb dX3_books_46 (by decide) (fun c_46 => ?_) (fun c_46 => ?_)
        · replace hf := hf.1 c_46
          refine lv_ldc2 (v := (-1)) hx hb hown (hts _ q1286) dX3_books_62 ?_
          exact hret _ _ _ _ _ _ _ _ _ hf hP hS dX3_books_65
        · replace hf := hf.2 c_46
          refine lv_iload hx hb dX3_books_49 (lv_at hl 4 rfl) ?_
          refine lv_i2l (v := (x5 : Int32).toInt64) hx hb dX3_books_51 rfl ?_
          refine lv_lconst (v := 0) hx hb dX3_books_52 (by decide) ?_
          refine lv_ldc2 (v := 3) hx hb hown (hts _ q1453) dX3_books_53 ?_
          refine cs_i (As := [.long (x5 : Int32).toInt64, .long 0, .long 3]) (rest := []) S (metX3_in l hf) (lw_S q1268 q1269 q60 q1270) pdX3_in ⟨rfl, rfl⟩ ⟨Nat.le_of_ble_eq_true rfl, Nat.le_of_ble_eq_true rfl⟩ rfl hl.1 rfl (Nat.le_of_ble_eq_true rfl) dX3_books_56 ⟨Nat.zero_le _, Nat.zero_le _⟩ (fun r_56 hf => ?_)
          refine lv_if_ne (tgt := 66) hx hb dX3_books_59 (by decide) (fun c_59 => ?_) (fun c_59 => ?_)
          · replace hf := hf.2 c_59
            refine lv_aload_n hx hb dX3_books_66 rfl (lv_at hl 0 rfl) ?_
            refine cM_v (As := []) (rest := []) S hK rfl hP hS (metX3_look l hj hf) (lw_V q1309 q1311 qs27 q60 q1312) rfl pdX3_look ⟨rfl, rfl⟩ ⟨Nat.le_of_ble_eq_true rfl, Nat.le_of_ble_eq_true rfl⟩ rfl hl.1 rfl (Nat.le_of_ble_eq_true rfl) dX3_books_67 ⟨Nat.zero_le _, Nat.zero_le _⟩ (fun u_67 H locs hf hP hS => ?_)
            obtain ⟨dug_67, deep_67⟩ := u_67
            replace hP : va_P (dC, dI) vwCl (wM h dA depths owners roofs rate undos undoMany drawn dug_67 deep_67 holes holeMany tape taped place reads read_ row order bestOrder nears isKept keptRoofs kept lanes rowSizes items moved) H := hP
            try dsimp only at hf
            refine lv_aload_n hx hb dX3_books_70 rfl (lv_at hl 0 rfl) ?_
            refine gM_dug S hK hP dX3_books_71 ?_
            refine lv_lload_n hx hb dX3_books_74 rfl (lv_at hl 1 rfl) ?_
            refine lv_ldc2 (v := (-1)) hx hb hown (hts _ q1286) dX3_books_75 ?_
            refine lv_lxor hx hb dX3_books_78 ?_
            refine lv_land hx hb dX3_books_79 ?_
            refine lv_topl (fun x6_80 ex6_80 => ?_)
            replace hf := hf x6_80 ex6_80
            refine lv_lstore (lv' := [(6, .long x6_80), (0, .ref (h 0)), (1, .long x1), (3, .int x3), (4, .int x4), (5, .int x5)]) hx hb dX3_books_80 hl (by decide) rfl (fun ls hl => ?_)
            refine lv_aload_n hx hb dX3_books_82 rfl (lv_at hl 1 rfl) ?_
            refine lv_dup hx hb dX3_books_83 rfl ?_
            refine gM_deep S hK hP dX3_books_84 ?_
            refine lv_lload_n hx hb dX3_books_87 rfl (lv_at hl 2 rfl) ?_
            refine lv_ldc2 (v := (-1)) hx hb hown (hts _ q1286) dX3_books_88 ?_
            refine lv_lxor hx hb dX3_books_91 ?_
            refine lv_land hx hb dX3_books_92 ?_
            refine lv_topl (fun deep_93 edeep_93 => ?_)
            replace hf := hf deep_93 edeep_93
            refine pM_deep S hK hj hP hS dX3_books_93 (fun H locs hP hS => ?_)
            refine lv_iconst (v := 0) hx hb dX3_books_96 (by decide) ?_
            refine lv_istore (lv' := [(8, .int 0), (6, .long x6_80), (0, .ref (h 0)), (1, .long x1), (3, .int x3), (4, .int x4), (5, .int x5)]) hx hb dX3_books_97 hl (by decide) rfl (fun ls hl => ?_)
            refine lv_lconst (v := 0) hx hb dX3_books_99 (by decide) ?_
            refine lv_lstore (lv' := [(9, .long 0), (8, .int 0), (6, .long x6_80), (0, .ref (h 0)), (1, .long x1), (3, .int x3), (4, .int x4), (5, .int x5)]) hx hb dX3_books_100 hl (by decide) rfl (fun ls hl => ?_)
            refine lv_lload_n hx hb dX3_books_102 rfl (lv_at hl 4 rfl) ?_
            refine lv_lstore (lv' := [(11, .long x1), (9, .long 0), (8, .int 0), (6, .long x6_80), (0, .ref (h 0)), (1, .long x1), (3, .int x3), (4, .int x4), (5, .int x5)]) hx hb dX3_books_103 hl (by decide) rfl (fun ls hl => ?_)
            refine lv_lload_n hx hb dX3_books_105 rfl (lv_at hl 5 rfl) ?_
            refine lv_lstore (lv' := [(13, .long x1), (11, .long x1), (9, .long 0), (8, .int 0), (6, .long x6_80), (0, .ref (h 0)), (1, .long x1), (3, .int x3), (4, .int x4), (5, .int x5)]) hx hb dX3_books_106 hl (by decide) rfl (fun ls hl => ?_)
            refine lv_iconst (v := 1) hx hb dX3_books_108 (by decide) ?_
            refine lv_istore (lv' := [(15, .int 1), (13, .long x1), (11, .long x1), (9, .long 0), (8, .int 0), (6, .long x6_80), (0, .ref (h 0)), (1, .long x1), (3, .int x3), (4, .int x4), (5, .int x5)]) hx hb dX3_books_109 hl (by decide) rfl (fun ls hl => ?_)
            refine lv_lload_n hx hb dX3_books_111 rfl (lv_at hl 7 rfl) ?_
            refine lv_lstore (lv' := [(16, .long x1), (15, .int 1), (13, .long x1), (11, .long x1), (9, .long 0), (8, .int 0), (6, .long x6_80), (0, .ref (h 0)), (1, .long x1), (3, .int x3), (4, .int x4), (5, .int x5)]) hx hb dX3_books_112 hl (by decide) rfl (fun ls hl => ?_)
            obtain ⟨fu, hf⟩ := hf
            exact tX3_books_114 S hK hj hret fu 0 0 x1 x1 1 x1 dug_67 holes holeMany _ _ _ hf hP hS (lv_sub hl [7, 8, 9, 10, 11, 6, 5, 4, 3, 2, 1, 0] rfl)
          · replace hf := hf.1 c_59
            refine lv_ldc2 (v := (-1)) hx hb hown (hts _ q1286) dX3_books_62 ?_
            exact hret _ _ _ _ _ _ _ _ _ hf hP hS dX3_books_65
/-! HoleCountyModel.nextDraw(I)I -/
theorem pdX3_nextDraw : DscOk yX3_nextDraw 1 := by decide +kernel
abbrev rmX3_nextDraw : Room := { frames := 0, cells := 0, slots := 0, locals := 0 }
abbrev RX3_nextDraw_ : Room := (headSpec (ws_ yX3_nextDraw cX3_nextDraw 2 (some .int)) rmX3_nextDraw).room
section
variable {p : Program} {l : Launch} {e : Env} {s : State} {m : MethodId} {args : Array Value} {below : List Frame} {meth : Method} {c : Code} {Qw : State → Prop} {dC : Nat → ClassId} {dI : Nat → Nat → Nat} {dA : Nat → ClassId} {h : Nat → Nat}
abbrev hrX3_nextDraw (p : Program) (l : Launch) (e : Env) (s : State) (m : MethodId) (args : Array Value) (below : List Frame) (meth : Method) (c : Code) (dC : Nat → ClassId) (dI : Nat → Nat → Nat) (dA : Nat → ClassId) (h : Nat → Nat) (Qw : State → Prop) (Q : Int32 → Int32 → Prop) (depths : (Nat → Int32)) (owners : (Nat → Int32)) (roofs : Int64) (rate : Int32) (undos : (Nat → Int32)) (undoMany : Int32) (dug : Int64) (deep : Int64) (holes : (Nat → Int64)) (holeMany : Int32) (tape : (Nat → Int32)) (taped : Int32) (place : Int32) (reads : Int32) (read_ : (Nat → Int32)) (row : (Nat → Int32)) (order : (Nat → Int32)) (bestOrder : (Nat → Int32)) (nears : (Nat → Int32)) (isKept : Int32) (keptRoofs : Int64) (kept : (Nat → Int32)) (lanes : (Nat → Int32)) (rowSizes : (Nat → Int32)) (items : (Nat → Int64)) (moved : (Nat → Int64)) : Prop := ∀ (r : Int32) (drawn : Int32) (H : Heap) (locs : List Loc) (pc : Nat) (ls : Array Slot), Q r drawn → va_P (dC, dI) vwCl (wM h dA depths owners roofs rate undos undoMany drawn dug deep holes holeMany tape taped place reads read_ row order bestOrder nears isKept keptRoofs kept lanes rowSizes items moved) H → va_S (mA h) s.heap H locs → decode cX3_nextDraw pc = .ok (.ireturn, 1) → W p l e RX3_nextDraw_ s m args below meth c H locs 0 0 Qw (F0 m pc ls [.int r])
def wX3_nextDraw (Q : Int32 → Int32 → Prop) (drawn : Int32) (x1 : Int32) : Prop := (∀ drawn_19 : Int32, drawn_19 = (((((drawn : Int32).toInt64 * 1103515245) + 12345) &&& 2147483647) : Int64).toInt32 → (¬ x1 = 0 ∧ (Q ((drawn_19 / 65536) - (drawn_19 / 65536) / x1 * x1) drawn_19)))
end
set_option maxHeartbeats 4000000 in
set_option maxRecDepth 100000 in
theorem metX3_nextDraw (l : Launch) {Q : Int32 → Int32 → Prop} {depths : (Nat → Int32)} {owners : (Nat → Int32)} {roofs : Int64} {rate : Int32} {undos : (Nat → Int32)} {undoMany : Int32} {drawn : Int32} {dug : Int64} {deep : Int64} {holes : (Nat → Int64)} {holeMany : Int32} {tape : (Nat → Int32)} {taped : Int32} {place : Int32} {reads : Int32} {read_ : (Nat → Int32)} {row : (Nat → Int32)} {order : (Nat → Int32)} {bestOrder : (Nat → Int32)} {nears : (Nat → Int32)} {isKept : Int32} {keptRoofs : Int64} {kept : (Nat → Int32)} {lanes : (Nat → Int32)} {rowSizes : (Nat → Int32)} {items : (Nat → Int64)} {moved : (Nat → Int64)} {x1 : Int32} {dC : Nat → ClassId} {dI : Nat → Nat → Nat} {dA : Nat → ClassId} {h : Nat → Nat} (hj : mJ h) (hf : wX3_nextDraw Q drawn x1) : Met l yX3_nextDraw (ws_ yX3_nextDraw cX3_nextDraw 2 (some .int)) rmX3_nextDraw (mPc dC dI dA h [.int x1] (wM h dA depths owners roofs rate undos undoMany drawn dug deep holes holeMany tape taped place reads read_ row order bestOrder nears isKept keptRoofs kept lanes rowSizes items moved)) (va_Qi (fun (r : Int32) (u : Int32) => Q r u) (fun u t => va_P (dC, dI) vwCl (wM h dA depths owners roofs rate undos undoMany u dug deep holes holeMany tape taped place reads read_ row order bestOrder nears isKept keptRoofs kept lanes rowSizes items moved) t.heap) (mA h)) 0 0 (mA h) := by
  refine Met.ofW (cc := cX3_nextDraw) (maxL := 2) (ret := (some .int)) (by decide) rfl ?_
  intro p e s m args below meth c s₁ B hml hv
  obtain ⟨rfl, hP, hK⟩ := hv
  have hx := B.exec
  have hb := B.bytes
  have hr := B.returns
  have hts := atoms_spec (ws := (ws_ yX3_nextDraw cX3_nextDraw 2 (some .int))) B.pre
  have hts : ∀ w ∈ lw_all, w.before _ s = true := fun w h => hts w (List.mem_cons_of_mem _ h)
  have hown : s.vm.findClass RX3 = some m.cls := findClass_of_methodNamed B.named
  have hlocks := B.notSynchronized
  have S : CallFix p m c cX3_nextDraw 2 s _ lw_all RX3 := ⟨hx, hb, hml, hown, hts⟩
  have hS : va_S (mA h) s.heap s.heap [] := va_S.rf
  have hl := lv_entry ([.ref (h 0), .int x1]) (n := 2) (Nat.le_of_ble_eq_true rfl)
  rw [lg_entry_eq]
  generalize (lg_sl ([.ref (h 0), .int x1]) ++ List.replicate (2 - (lg_sl ([.ref (h 0), .int x1])).length) Slot.unset).toArray = ls at hl ⊢
  replace hl : lv_has ls 2 [(0, .ref (h 0)), (1, .int x1)] := hl
  have hret : hrX3_nextDraw p l e s m ([.ref (h 0), .int x1] : List Value).toArray below meth c dC dI dA h (MQ below (va_Qi (fun (r : Int32) (u : Int32) => Q r u) (fun u t => va_P (dC, dI) vwCl (wM h dA depths owners roofs rate undos undoMany u dug deep holes holeMany tape taped place reads read_ row order bestOrder nears isKept keptRoofs kept lanes rowSizes items moved) t.heap) (mA h)) ([.ref (h 0), .int x1] : List Value).toArray s 0 0 (mA h)) Q depths owners roofs rate undos undoMany dug deep holes holeMany tape taped place reads read_ row order bestOrder nears isKept keptRoofs kept lanes rowSizes items moved := fun r drawn H locs pc ls hq hP hS hd => W.iret hx hb hr (fun t ht hW => ⟨⟨r, drawn, rfl, hq, by subst ht; exact hP⟩, hS.F ht⟩) hS.2.2 hd
  unfold wX3_nextDraw at hf
  refine lv_aload_n hx hb dX3_nextDraw_0 rfl (lv_at hl 0 rfl) ?_
  refine lv_aload_n hx hb dX3_nextDraw_1 rfl (lv_at hl 0 rfl) ?_
  refine gM_drawn S hK hP dX3_nextDraw_2 ?_
  refine lv_i2l (v := (drawn : Int32).toInt64) hx hb dX3_nextDraw_5 rfl ?_
  refine lv_ldc2 (v := 1103515245) hx hb hown (hts _ q1543) dX3_nextDraw_6 ?_
  refine lv_lmul hx hb dX3_nextDraw_9 ?_
  refine lv_ldc2 (v := 12345) hx hb hown (hts _ q1544) dX3_nextDraw_10 ?_
  refine lv_ladd hx hb dX3_nextDraw_13 ?_
  refine lv_ldc2 (v := 2147483647) hx hb hown (hts _ q1545) dX3_nextDraw_14 ?_
  refine lv_land hx hb dX3_nextDraw_17 ?_
  refine lv_l2i (v := (((((drawn : Int32).toInt64 * 1103515245) + 12345) &&& 2147483647) : Int64).toInt32) hx hb dX3_nextDraw_18 rfl ?_
  refine lv_topi (fun drawn_19 edrawn_19 => ?_)
  replace hf := hf drawn_19 edrawn_19
  refine pM_drawn S hK hj hP hS dX3_nextDraw_19 (fun H locs hP hS => ?_)
  refine lv_aload_n hx hb dX3_nextDraw_22 rfl (lv_at hl 0 rfl) ?_
  refine gM_drawn S hK hP dX3_nextDraw_23 ?_
  refine lv_ldcw (v := 65536) hx hb hown (hts _ q1546) dX3_nextDraw_26 ?_
  refine lv_idiv hx hb dX3_nextDraw_29 (by decide) ?_
  refine lv_iload_n hx hb dX3_nextDraw_30 rfl (lv_at hl 1 rfl) ?_
  obtain ⟨hne, hf⟩ := hf
  refine lv_irem hx hb dX3_nextDraw_31 hne ?_
  exact hret _ _ _ _ _ _ hf hP hS dX3_nextDraw_32
/-! HoleCountyModel.lots(I)I -/
theorem pdX3_lots : DscOk yX3_lots 1 := by decide +kernel
abbrev rmX3_lots : Room := { frames := 1, cells := 0, slots := 0, locals := 25 }
abbrev RX3_lots_ : Room := (headSpec (ws_ yX3_lots cX3_lots 6 (some .int)) rmX3_lots).room
section
variable {p : Program} {l : Launch} {e : Env} {s : State} {m : MethodId} {args : Array Value} {below : List Frame} {meth : Method} {c : Code} {Qw : State → Prop} {dC : Nat → ClassId} {dI : Nat → Nat → Nat} {dA : Nat → ClassId} {h : Nat → Nat}
abbrev hrX3_lots (p : Program) (l : Launch) (e : Env) (s : State) (m : MethodId) (args : Array Value) (below : List Frame) (meth : Method) (c : Code) (dC : Nat → ClassId) (dI : Nat → Nat → Nat) (dA : Nat → ClassId) (h : Nat → Nat) (Qw : State → Prop) (Q : Int32 → (Nat → Int32) → Int64 → Int32 → Int32 → Prop) (owners : (Nat → Int32)) (rate : Int32) (undos : (Nat → Int32)) (dug : Int64) (deep : Int64) (holes : (Nat → Int64)) (holeMany : Int32) (tape : (Nat → Int32)) (taped : Int32) (place : Int32) (reads : Int32) (read_ : (Nat → Int32)) (row : (Nat → Int32)) (order : (Nat → Int32)) (bestOrder : (Nat → Int32)) (nears : (Nat → Int32)) (isKept : Int32) (keptRoofs : Int64) (kept : (Nat → Int32)) (lanes : (Nat → Int32)) (rowSizes : (Nat → Int32)) (items : (Nat → Int64)) (moved : (Nat → Int64)) : Prop := ∀ (r : Int32) (depths : (Nat → Int32)) (roofs : Int64) (undoMany : Int32) (drawn : Int32) (H : Heap) (locs : List Loc) (pc : Nat) (ls : Array Slot), Q r depths roofs undoMany drawn → va_P (dC, dI) vwCl (wM h dA depths owners roofs rate undos undoMany drawn dug deep holes holeMany tape taped place reads read_ row order bestOrder nears isKept keptRoofs kept lanes rowSizes items moved) H → va_S (mA h) s.heap H locs → decode cX3_lots pc = .ok (.ireturn, 1) → W p l e RX3_lots_ s m args below meth c H locs 0 0 Qw (F0 m pc ls [.int r])
def wX3_lots_72 (Q : Int32 → (Nat → Int32) → Int64 → Int32 → Int32 → Prop) (k18 : Int32 → Int32 → (Nat → Int32) → Int64 → Int32 → Prop) (x1 : Int32) (x2 : Int32) (x3 : Int32) (x4 : Int32) (x5 : Int32) (depths : (Nat → Int32)) (roofs : Int64) (undoMany : Int32) (drawn : Int32) : Prop := ((x5 = 0 → (vp_in x4 36 ∧ ((9 ≤ (depths (x4 : Int32).toNatClampNeg) → (∀ x3_103 : Int32, x3_103 = x3 + 1 → (k18 x2 x3_103 depths roofs drawn))) ∧ (¬ 9 ≤ (depths (x4 : Int32).toNatClampNeg) → (vp_in x4 36 ∧ (vp_in x4 36 ∧ (∀ depths_99 : Nat → Int32, depths_99 = upd depths (x4 : Int32).toNatClampNeg ((depths (x4 : Int32).toNatClampNeg) + 1) → (∀ x2_100 : Int32, x2_100 = x2 + 1 → (∀ x3_103 : Int32, x3_103 = x3 + 1 → (k18 x2_100 x3_103 depths_99 roofs drawn)))))))))) ∧ (¬ x5 = 0 → (∀ x3_103 : Int32, x3_103 = x3 + 1 → (k18 x2 x3_103 depths roofs drawn))))
set_option maxHeartbeats 4000000 in
set_option maxRecDepth 100000 in
theorem tX3_lots_72 {Q : Int32 → (Nat → Int32) → Int64 → Int32 → Int32 → Prop} {x1 : Int32} {owners : (Nat → Int32)} {rate : Int32} {undos : (Nat → Int32)} {dug : Int64} {deep : Int64} {holes : (Nat → Int64)} {holeMany : Int32} {tape : (Nat → Int32)} {taped : Int32} {place : Int32} {reads : Int32} {read_ : (Nat → Int32)} {row : (Nat → Int32)} {order : (Nat → Int32)} {bestOrder : (Nat → Int32)} {nears : (Nat → Int32)} {isKept : Int32} {keptRoofs : Int64} {kept : (Nat → Int32)} {lanes : (Nat → Int32)} {rowSizes : (Nat → Int32)} {items : (Nat → Int64)} {moved : (Nat → Int64)} {undoMany : Int32} (S : CallFix p m c cX3_lots 6 s args lw_all RX3) (hK : va_K (dC, dI) vwCl (tysG dA) s) (hj : mJ h) (hret : hrX3_lots p l e s m args below meth c dC dI dA h Qw Q owners rate undos dug deep holes holeMany tape taped place reads read_ row order bestOrder nears isKept keptRoofs kept lanes rowSizes items moved) {k18 : Int32 → Int32 → (Nat → Int32) → Int64 → Int32 → Prop} (hk18 : ∀ (x2 : Int32) (x3 : Int32) (depths : (Nat → Int32)) (roofs : Int64) (drawn : Int32) (H : Heap) (locs : List Loc) (ls : Array Slot), k18 x2 x3 depths roofs drawn → va_P (dC, dI) vwCl (wM h dA depths owners roofs rate undos undoMany drawn dug deep holes holeMany tape taped place reads read_ row order bestOrder nears isKept keptRoofs kept lanes rowSizes items moved) H → va_S (mA h) s.heap H locs → lv_has ls 6 [(0, .ref (h 0)), (1, .int x1), (2, .int x2), (3, .int x3)] → W p l e RX3_lots_ s m args below meth c H locs 0 0 Qw (F0 m 18 ls [])) : ∀ (x2 : Int32) (x3 : Int32) (x4 : Int32) (x5 : Int32) (depths : (Nat → Int32)) (roofs : Int64) (drawn : Int32) (H : Heap) (locs : List Loc) (ls : Array Slot), wX3_lots_72 Q k18 x1 x2 x3 x4 x5 depths roofs undoMany drawn → va_P (dC, dI) vwCl (wM h dA depths owners roofs rate undos undoMany drawn dug deep holes holeMany tape taped place reads read_ row order bestOrder nears isKept keptRoofs kept lanes rowSizes items moved) H → va_S (mA h) s.heap H locs → lv_has ls 6 [(0, .ref (h 0)), (1, .int x1), (2, .int x2), (3, .int x3), (4, .int x4), (5, .int x5)] → W p l e RX3_lots_ s m args below meth c H locs 0 0 Qw (F0 m 72 ls []) := by
  obtain ⟨hx, hb, hml, hown, hts⟩ := id S
  intro x2 x3 x4 x5 depths roofs drawn H locs ls hf hP hS hl
  unfold wX3_lots_72 at hf
  refine lv_iload hx hb dX3_lots_72 (lv_at hl 5 rfl) ?_
  refine lv_if_ne (tgt := 103) hx hb dX3_lots_74 (by decide) (fun c_74 => ?_) (fun c_74 => ?_)
  · replace hf := hf.2 c_74
    obtain ⟨x3_103, ex3_103⟩ : ∃ z : Int32, z = x3 + 1 := ⟨_, rfl⟩
    replace hf := hf x3_103 ex3_103
    refine lv_iinc (v := x3_103) (lv' := [(3, .int x3_103), (0, .ref (h 0)), (1, .int x1), (2, .int x2), (4, .int x4), (5, .int x5)]) hx hb dX3_lots_103 hl (k := 3) rfl (by rw [ex3_103]; rfl) (by decide) rfl (fun ls hl => ?_)
    refine lv_goto (tgt := 18) hx hb dX3_lots_106 (by decide) ?_
    exact hk18 x2 x3_103 depths roofs drawn _ _ _ hf hP hS (lv_sub hl [1, 2, 3, 0] rfl)
  · replace hf := hf.1 c_74
    refine lv_aload_n hx hb dX3_lots_77 rfl (lv_at hl 0 rfl) ?_
    refine gM_depths S hK hP dX3_lots_78 ?_
    refine lv_iload hx hb dX3_lots_81 (lv_at hl 4 rfl) ?_
    obtain ⟨hin, hf⟩ := hf
    refine lM_depths S hK hP hin dX3_lots_83 ?_
    refine lv_bipush (v := 9) hx hb dX3_lots_84 (by decide) ?_
    refine lv_icmp_ge (tgt := 103) hx hb dX3_lots_86 (by decide) (fun c_86 => ?_) (fun c_86 => ?_)
    · replace hf := hf.1 c_86
      obtain ⟨x3_103, ex3_103⟩ : ∃ z : Int32, z = x3 + 1 := ⟨_, rfl⟩
      replace hf := hf x3_103 ex3_103
      refine lv_iinc (v := x3_103) (lv' := [(3, .int x3_103), (0, .ref (h 0)), (1, .int x1), (2, .int x2), (4, .int x4), (5, .int x5)]) hx hb dX3_lots_103 hl (k := 3) rfl (by rw [ex3_103]; rfl) (by decide) rfl (fun ls hl => ?_)
      refine lv_goto (tgt := 18) hx hb dX3_lots_106 (by decide) ?_
      exact hk18 x2 x3_103 depths roofs drawn _ _ _ hf hP hS (lv_sub hl [1, 2, 3, 0] rfl)
    · replace hf := hf.2 c_86
      refine lv_aload_n hx hb dX3_lots_89 rfl (lv_at hl 0 rfl) ?_
      refine gM_depths S hK hP dX3_lots_90 ?_
      refine lv_iload hx hb dX3_lots_93 (lv_at hl 4 rfl) ?_
      refine lv_dup2_11 hx hb dX3_lots_95 rfl rfl ?_
      obtain ⟨hin, hf⟩ := hf
      refine lM_depths S hK hP hin dX3_lots_96 ?_
      refine lv_iconst (v := 1) hx hb dX3_lots_97 (by decide) ?_
      refine lv_iadd hx hb dX3_lots_98 ?_
      obtain ⟨hin, hf⟩ := hf
      obtain ⟨depths_99, edepths_99⟩ : ∃ z : Nat → Int32, z = upd depths (x4 : Int32).toNatClampNeg ((depths (x4 : Int32).toNatClampNeg) + 1) := ⟨_, rfl⟩
      replace hf := hf depths_99 edepths_99
      refine sM_depths S hK hj hP hS hin edepths_99 dX3_lots_99 (fun H locs hP hS => ?_)
      obtain ⟨x2_100, ex2_100⟩ : ∃ z : Int32, z = x2 + 1 := ⟨_, rfl⟩
      replace hf := hf x2_100 ex2_100
      refine lv_iinc (v := x2_100) (lv' := [(2, .int x2_100), (0, .ref (h 0)), (1, .int x1), (3, .int x3), (4, .int x4), (5, .int x5)]) hx hb dX3_lots_100 hl (k := 2) rfl (by rw [ex2_100]; rfl) (by decide) rfl (fun ls hl => ?_)
      obtain ⟨x3_103, ex3_103⟩ : ∃ z : Int32, z = x3 + 1 := ⟨_, rfl⟩
      replace hf := hf x3_103 ex3_103
      refine lv_iinc (v := x3_103) (lv' := [(3, .int x3_103), (2, .int x2_100), (0, .ref (h 0)), (1, .int x1), (4, .int x4), (5, .int x5)]) hx hb dX3_lots_103 hl (k := 3) rfl (by rw [ex3_103]; rfl) (by decide) rfl (fun ls hl => ?_)
      refine lv_goto (tgt := 18) hx hb dX3_lots_106 (by decide) ?_
      exact hk18 x2_100 x3_103 depths_99 roofs drawn _ _ _ hf hP hS (lv_sub hl [2, 3, 1, 0] rfl)
def wX3_lots_44 (Q : Int32 → (Nat → Int32) → Int64 → Int32 → Int32 → Prop) (k18 : Int32 → Int32 → (Nat → Int32) → Int64 → Int32 → Prop) (x1 : Int32) (x2 : Int32) (x3 : Int32) (x4 : Int32) (z0 : Int32) (depths : (Nat → Int32)) (roofs : Int64) (undoMany : Int32) (drawn : Int32) : Prop := ((z0 = 0 → (wX3_lots_72 Q k18 x1 x2 x3 x4 z0 depths roofs undoMany drawn)) ∧ (¬ z0 = 0 → (vp_in x4 36 ∧ (((depths (x4 : Int32).toNatClampNeg) ≤ 0 → (wX3_lots_72 Q k18 x1 x2 x3 x4 z0 depths roofs undoMany drawn)) ∧ (¬ (depths (x4 : Int32).toNatClampNeg) ≤ 0 → (wX3_put (fun depths_66 roofs_66 => (∀ x2_69 : Int32, x2_69 = x2 + 100 → (wX3_lots_72 Q k18 x1 x2_69 x3 x4 z0 depths_66 roofs_66 undoMany drawn))) depths roofs x4 0 0))))))
set_option maxHeartbeats 4000000 in
set_option maxRecDepth 100000 in
theorem tX3_lots_44 {Q : Int32 → (Nat → Int32) → Int64 → Int32 → Int32 → Prop} {x1 : Int32} {owners : (Nat → Int32)} {rate : Int32} {undos : (Nat → Int32)} {dug : Int64} {deep : Int64} {holes : (Nat → Int64)} {holeMany : Int32} {tape : (Nat → Int32)} {taped : Int32} {place : Int32} {reads : Int32} {read_ : (Nat → Int32)} {row : (Nat → Int32)} {order : (Nat → Int32)} {bestOrder : (Nat → Int32)} {nears : (Nat → Int32)} {isKept : Int32} {keptRoofs : Int64} {kept : (Nat → Int32)} {lanes : (Nat → Int32)} {rowSizes : (Nat → Int32)} {items : (Nat → Int64)} {moved : (Nat → Int64)} {undoMany : Int32} (S : CallFix p m c cX3_lots 6 s args lw_all RX3) (hK : va_K (dC, dI) vwCl (tysG dA) s) (hj : mJ h) (hret : hrX3_lots p l e s m args below meth c dC dI dA h Qw Q owners rate undos dug deep holes holeMany tape taped place reads read_ row order bestOrder nears isKept keptRoofs kept lanes rowSizes items moved) {k18 : Int32 → Int32 → (Nat → Int32) → Int64 → Int32 → Prop} (hk18 : ∀ (x2 : Int32) (x3 : Int32) (depths : (Nat → Int32)) (roofs : Int64) (drawn : Int32) (H : Heap) (locs : List Loc) (ls : Array Slot), k18 x2 x3 depths roofs drawn → va_P (dC, dI) vwCl (wM h dA depths owners roofs rate undos undoMany drawn dug deep holes holeMany tape taped place reads read_ row order bestOrder nears isKept keptRoofs kept lanes rowSizes items moved) H → va_S (mA h) s.heap H locs → lv_has ls 6 [(0, .ref (h 0)), (1, .int x1), (2, .int x2), (3, .int x3)] → W p l e RX3_lots_ s m args below meth c H locs 0 0 Qw (F0 m 18 ls [])) : ∀ (x2 : Int32) (x3 : Int32) (x4 : Int32) (z0 : Int32) (depths : (Nat → Int32)) (roofs : Int64) (drawn : Int32) (H : Heap) (locs : List Loc) (ls : Array Slot), wX3_lots_44 Q k18 x1 x2 x3 x4 z0 depths roofs undoMany drawn → va_P (dC, dI) vwCl (wM h dA depths owners roofs rate undos undoMany drawn dug deep holes holeMany tape taped place reads read_ row order bestOrder nears isKept keptRoofs kept lanes rowSizes items moved) H → va_S (mA h) s.heap H locs → lv_has ls 6 [(0, .ref (h 0)), (1, .int x1), (2, .int x2), (3, .int x3), (4, .int x4)] → W p l e RX3_lots_ s m args below meth c H locs 0 0 Qw (F0 m 44 ls [.int z0]) := by
  obtain ⟨hx, hb, hml, hown, hts⟩ := id S
  intro x2 x3 x4 z0 depths roofs drawn H locs ls hf hP hS hl
  unfold wX3_lots_44 at hf
  refine lv_istore (lv' := [(5, .int z0), (0, .ref (h 0)), (1, .int x1), (2, .int x2), (3, .int x3), (4, .int x4)]) hx hb dX3_lots_44 hl (by decide) rfl (fun ls hl => ?_)
  refine lv_iload hx hb dX3_lots_46 (lv_at hl 0 rfl) ?_
  refine lv_if_eq (tgt := 72) hx hb dX3_lots_48 (by decide) (fun c_48 => ?_) (fun c_48 => ?_)
  · replace hf := hf.1 c_48
    exact tX3_lots_72 S hK hj hret hk18 x2 x3 x4 z0 depths roofs drawn _ _ _ hf hP hS (lv_sub hl [1, 2, 3, 4, 5, 0] rfl)
  · replace hf := hf.2 c_48
    refine lv_aload_n hx hb dX3_lots_51 rfl (lv_at hl 1 rfl) ?_
    refine gM_depths S hK hP dX3_lots_52 ?_
    refine lv_iload hx hb dX3_lots_55 (lv_at hl 5 rfl) ?_
    obtain ⟨hin, hf⟩ := hf
    refine lM_depths S hK hP hin dX3_lots_57 ?_
    refine lv_if_le (tgt := 72) hx hb dX3_lots_58 (by decide) (fun c_58 => ?_) (fun c_58 => ?_)
    · replace hf := hf.1 c_58
      exact tX3_lots_72 S hK hj hret hk18 x2 x3 x4 z0 depths roofs drawn _ _ _ hf hP hS (lv_sub hl [1, 2, 3, 4, 5, 0] rfl)
    · replace hf := hf.2 c_58
      refine lv_aload_n hx hb dX3_lots_61 rfl (lv_at hl 1 rfl) ?_
      refine lv_iload hx hb dX3_lots_62 (lv_at hl 5 rfl) ?_
      refine lv_iconst (v := 0) hx hb dX3_lots_64 (by decide) ?_
      refine lv_iconst (v := 0) hx hb dX3_lots_65 (by decide) ?_
      refine cM_v (As := [.int x4, .int 0, .int 0]) (rest := []) S hK rfl hP hS (metX3_put l hj hf) (lw_V q1282 q1284 qs26 q60 q1285) rfl pdX3_put ⟨rfl, rfl⟩ ⟨Nat.le_of_ble_eq_true rfl, Nat.le_of_ble_eq_true rfl⟩ rfl hl.1 rfl (Nat.le_of_ble_eq_true rfl) dX3_lots_66 ⟨Nat.zero_le _, Nat.zero_le _⟩ (fun u_66 H locs hf hP hS => ?_)
      obtain ⟨depths_66, roofs_66⟩ := u_66
      replace hP : va_P (dC, dI) vwCl (wM h dA depths_66 owners roofs_66 rate undos undoMany drawn dug deep holes holeMany tape taped place reads read_ row order bestOrder nears isKept keptRoofs kept lanes rowSizes items moved) H := hP
      try dsimp only at hf
      obtain ⟨x2_69, ex2_69⟩ : ∃ z : Int32, z = x2 + 100 := ⟨_, rfl⟩
      replace hf := hf x2_69 ex2_69
      refine lv_iinc (v := x2_69) (lv' := [(2, .int x2_69), (5, .int z0), (0, .ref (h 0)), (1, .int x1), (3, .int x3), (4, .int x4)]) hx hb dX3_lots_69 hl (k := 3) rfl (by rw [ex2_69]; rfl) (by decide) rfl (fun ls hl => ?_)
      exact tX3_lots_72 S hK hj hret hk18 x2_69 x3 x4 z0 depths_66 roofs_66 drawn _ _ _ hf hP hS (lv_sub hl [2, 3, 0, 4, 5, 1] rfl)
def wX3_lots_18 (Q : Int32 → (Nat → Int32) → Int64 → Int32 → Int32 → Prop) (x1 : Int32) (undoMany : Int32) : Nat → Int32 → Int32 → (Nat → Int32) → Int64 → Int32 → Prop
  | 0, _, _, _, _, _ => False
  | n + 1, x2, x3, depths, roofs, drawn => ((x1 ≤ x3 → (Q x2 depths roofs 0 drawn)) ∧ (¬ x1 ≤ x3 → (wX3_nextDraw (fun r_26 drawn_26 => (wX3_nextDraw (fun r_33 drawn_33 => ((r_33 = 0 → (wX3_lots_44 Q (wX3_lots_18 Q x1 undoMany n) x1 x2 x3 r_26 1 depths roofs undoMany drawn_33)) ∧ (¬ r_33 = 0 → (wX3_lots_44 Q (wX3_lots_18 Q x1 undoMany n) x1 x2 x3 r_26 0 depths roofs undoMany drawn_33)))) drawn_26 4)) drawn 36)))
set_option maxHeartbeats 4000000 in
set_option maxRecDepth 100000 in
theorem tX3_lots_18 {Q : Int32 → (Nat → Int32) → Int64 → Int32 → Int32 → Prop} {x1 : Int32} {owners : (Nat → Int32)} {rate : Int32} {undos : (Nat → Int32)} {undoMany : Int32} {dug : Int64} {deep : Int64} {holes : (Nat → Int64)} {holeMany : Int32} {tape : (Nat → Int32)} {taped : Int32} {place : Int32} {reads : Int32} {read_ : (Nat → Int32)} {row : (Nat → Int32)} {order : (Nat → Int32)} {bestOrder : (Nat → Int32)} {nears : (Nat → Int32)} {isKept : Int32} {keptRoofs : Int64} {kept : (Nat → Int32)} {lanes : (Nat → Int32)} {rowSizes : (Nat → Int32)} {items : (Nat → Int64)} {moved : (Nat → Int64)} (S : CallFix p m c cX3_lots 6 s args lw_all RX3) (hK : va_K (dC, dI) vwCl (tysG dA) s) (hj : mJ h) (hret : hrX3_lots p l e s m args below meth c dC dI dA h Qw Q owners rate undos dug deep holes holeMany tape taped place reads read_ row order bestOrder nears isKept keptRoofs kept lanes rowSizes items moved) : ∀ (n : Nat) (x2 : Int32) (x3 : Int32) (depths : (Nat → Int32)) (roofs : Int64) (drawn : Int32) (H : Heap) (locs : List Loc) (ls : Array Slot), wX3_lots_18 Q x1 undoMany n x2 x3 depths roofs drawn → va_P (dC, dI) vwCl (wM h dA depths owners roofs rate undos undoMany drawn dug deep holes holeMany tape taped place reads read_ row order bestOrder nears isKept keptRoofs kept lanes rowSizes items moved) H → va_S (mA h) s.heap H locs → lv_has ls 6 [(0, .ref (h 0)), (1, .int x1), (2, .int x2), (3, .int x3)] → W p l e RX3_lots_ s m args below meth c H locs 0 0 Qw (F0 m 18 ls []) := by
  obtain ⟨hx, hb, hml, hown, hts⟩ := id S
  intro n
  induction n with
  | zero => intro _ _ _ _ _ _ _ _ hf; exact hf.elim
  | succ n ih =>
    intro x2 x3 depths roofs drawn H locs ls hf hP hS hl
    rw [wX3_lots_18] at hf
    refine lv_iload_n hx hb dX3_lots_18 rfl (lv_at hl 3 rfl) ?_
    refine lv_iload_n hx hb dX3_lots_19 rfl (lv_at hl 1 rfl) ?_
    refine lv_icmp_ge (tgt := 109) hx hb dX3_lots_20 (by decide) (fun c_20 => ?_) (fun c_20 => ?_)
    · replace hf := hf.1 c_20
      refine lv_aload_n hx hb dX3_lots_109 rfl (lv_at hl 0 rfl) ?_
      refine lv_iconst (v := 0) hx hb dX3_lots_110 (by decide) ?_
      refine pM_undoMany S hK hj hP hS dX3_lots_111 (fun H locs hP hS => ?_)
      refine lv_iload_n hx hb dX3_lots_114 rfl (lv_at hl 2 rfl) ?_
      exact hret _ _ _ _ _ _ _ _ _ hf hP hS dX3_lots_115
    · replace hf := hf.2 c_20
      refine lv_aload_n hx hb dX3_lots_23 rfl (lv_at hl 0 rfl) ?_
      refine lv_bipush (v := 36) hx hb dX3_lots_24 (by decide) ?_
      refine cM_i (As := [.int 36]) (rest := []) S hK rfl hP hS (metX3_nextDraw l hj hf) (lw_V q1539 q1541 qs50 q60 q1542) rfl pdX3_nextDraw ⟨rfl, rfl⟩ ⟨Nat.le_of_ble_eq_true rfl, Nat.le_of_ble_eq_true rfl⟩ rfl hl.1 rfl (Nat.le_of_ble_eq_true rfl) dX3_lots_26 ⟨Nat.zero_le _, Nat.zero_le _⟩ (fun r_26 u_26 H locs hf hP hS => ?_)
      obtain ⟨drawn_26, rfl⟩ : ∃ z, z = u_26 := ⟨_, rfl⟩
      replace hP : va_P (dC, dI) vwCl (wM h dA depths owners roofs rate undos undoMany drawn_26 dug deep holes holeMany tape taped place reads read_ row order bestOrder nears isKept keptRoofs kept lanes rowSizes items moved) H := hP
      refine lv_istore (lv' := [(4, .int r_26), (0, .ref (h 0)), (1, .int x1), (2, .int x2), (3, .int x3)]) hx hb dX3_lots_29 hl (by decide) rfl (fun ls hl => ?_)
      refine lv_aload_n hx hb dX3_lots_31 rfl (lv_at hl 1 rfl) ?_
      refine lv_iconst (v := 4) hx hb dX3_lots_32 (by decide) ?_
      refine cM_i (As := [.int 4]) (rest := []) S hK rfl hP hS (metX3_nextDraw l hj hf) (lw_V q1539 q1541 qs50 q60 q1542) rfl pdX3_nextDraw ⟨rfl, rfl⟩ ⟨Nat.le_of_ble_eq_true rfl, Nat.le_of_ble_eq_true rfl⟩ rfl hl.1 rfl (Nat.le_of_ble_eq_true rfl) dX3_lots_33 ⟨Nat.zero_le _, Nat.zero_le _⟩ (fun r_33 u_33 H locs hf hP hS => ?_)
      obtain ⟨drawn_33, rfl⟩ : ∃ z, z = u_33 := ⟨_, rfl⟩
      replace hP : va_P (dC, dI) vwCl (wM h dA depths owners roofs rate undos undoMany drawn_33 dug deep holes holeMany tape taped place reads read_ row order bestOrder nears isKept keptRoofs kept lanes rowSizes items moved) H := hP
      refine lv_if_ne (tgt := 43) hx hb dX3_lots_36 (by decide) (fun c_36 => ?_) (fun c_36 => ?_)
      · replace hf := hf.2 c_36
        refine lv_iconst (v := 0) hx hb dX3_lots_43 (by decide) ?_
        exact tX3_lots_44 S hK hj hret ih x2 x3 r_26 0 depths roofs drawn_33 _ _ _ hf hP hS (lv_sub hl [1, 2, 3, 4, 0] rfl)
      · replace hf := hf.1 c_36
        refine lv_iconst (v := 1) hx hb dX3_lots_39 (by decide) ?_
        refine lv_goto (tgt := 44) hx hb dX3_lots_40 (by decide) ?_
        exact tX3_lots_44 S hK hj hret ih x2 x3 r_26 1 depths roofs drawn_33 _ _ _ hf hP hS (lv_sub hl [1, 2, 3, 4, 0] rfl)
def wX3_lots (Q : Int32 → (Nat → Int32) → Int64 → Int32 → Int32 → Prop) (depths : (Nat → Int32)) (roofs : Int64) (undoMany : Int32) (drawn : Int32) (x1 : Int32) : Prop := (wX3_in (fun r_6 => ((r_6 = 0 → (Q (-1) depths roofs undoMany drawn)) ∧ (¬ r_6 = 0 → (∃ fu : Nat, wX3_lots_18 Q x1 undoMany fu 0 0 depths roofs drawn)))) ((x1 : Int32).toInt64) 1 99)
end
set_option maxHeartbeats 4000000 in
set_option maxRecDepth 100000 in
theorem metX3_lots (l : Launch) {Q : Int32 → (Nat → Int32) → Int64 → Int32 → Int32 → Prop} {depths : (Nat → Int32)} {owners : (Nat → Int32)} {roofs : Int64} {rate : Int32} {undos : (Nat → Int32)} {undoMany : Int32} {drawn : Int32} {dug : Int64} {deep : Int64} {holes : (Nat → Int64)} {holeMany : Int32} {tape : (Nat → Int32)} {taped : Int32} {place : Int32} {reads : Int32} {read_ : (Nat → Int32)} {row : (Nat → Int32)} {order : (Nat → Int32)} {bestOrder : (Nat → Int32)} {nears : (Nat → Int32)} {isKept : Int32} {keptRoofs : Int64} {kept : (Nat → Int32)} {lanes : (Nat → Int32)} {rowSizes : (Nat → Int32)} {items : (Nat → Int64)} {moved : (Nat → Int64)} {x1 : Int32} {dC : Nat → ClassId} {dI : Nat → Nat → Nat} {dA : Nat → ClassId} {h : Nat → Nat} (hj : mJ h) (hf : wX3_lots Q depths roofs undoMany drawn x1) : Met l yX3_lots (ws_ yX3_lots cX3_lots 6 (some .int)) rmX3_lots (mPc dC dI dA h [.int x1] (wM h dA depths owners roofs rate undos undoMany drawn dug deep holes holeMany tape taped place reads read_ row order bestOrder nears isKept keptRoofs kept lanes rowSizes items moved)) (va_Qi (fun (r : Int32) (u : (Nat → Int32) × Int64 × Int32 × Int32) => Q r u.1 u.2.1 u.2.2.1 u.2.2.2) (fun u t => va_P (dC, dI) vwCl (wM h dA u.1 owners u.2.1 rate undos u.2.2.1 u.2.2.2 dug deep holes holeMany tape taped place reads read_ row order bestOrder nears isKept keptRoofs kept lanes rowSizes items moved) t.heap) (mA h)) 0 0 (mA h) := by
  refine Met.ofW (cc := cX3_lots) (maxL := 6) (ret := (some .int)) (by decide) rfl ?_
  intro p e s m args below meth c s₁ B hml hv
  obtain ⟨rfl, hP, hK⟩ := hv
  have hx := B.exec
  have hb := B.bytes
  have hr := B.returns
  have hts := atoms_spec (ws := (ws_ yX3_lots cX3_lots 6 (some .int))) B.pre
  have hts : ∀ w ∈ lw_all, w.before _ s = true := fun w h => hts w (List.mem_cons_of_mem _ h)
  have hown : s.vm.findClass RX3 = some m.cls := findClass_of_methodNamed B.named
  have hlocks := B.notSynchronized
  have S : CallFix p m c cX3_lots 6 s _ lw_all RX3 := ⟨hx, hb, hml, hown, hts⟩
  have hS : va_S (mA h) s.heap s.heap [] := va_S.rf
  have hl := lv_entry ([.ref (h 0), .int x1]) (n := 6) (Nat.le_of_ble_eq_true rfl)
  rw [lg_entry_eq]
  generalize (lg_sl ([.ref (h 0), .int x1]) ++ List.replicate (6 - (lg_sl ([.ref (h 0), .int x1])).length) Slot.unset).toArray = ls at hl ⊢
  replace hl : lv_has ls 6 [(0, .ref (h 0)), (1, .int x1)] := hl
  have hret : hrX3_lots p l e s m ([.ref (h 0), .int x1] : List Value).toArray below meth c dC dI dA h (MQ below (va_Qi (fun (r : Int32) (u : (Nat → Int32) × Int64 × Int32 × Int32) => Q r u.1 u.2.1 u.2.2.1 u.2.2.2) (fun u t => va_P (dC, dI) vwCl (wM h dA u.1 owners u.2.1 rate undos u.2.2.1 u.2.2.2 dug deep holes holeMany tape taped place reads read_ row order bestOrder nears isKept keptRoofs kept lanes rowSizes items moved) t.heap) (mA h)) ([.ref (h 0), .int x1] : List Value).toArray s 0 0 (mA h)) Q owners rate undos dug deep holes holeMany tape taped place reads read_ row order bestOrder nears isKept keptRoofs kept lanes rowSizes items moved := fun r depths roofs undoMany drawn H locs pc ls hq hP hS hd => W.iret hx hb hr (fun t ht hW => ⟨⟨r, (depths, roofs, undoMany, drawn), rfl, hq, by subst ht; exact hP⟩, hS.F ht⟩) hS.2.2 hd
  unfold wX3_lots at hf
  refine lv_iload_n hx hb dX3_lots_0 rfl (lv_at hl 1 rfl) ?_
  refine lv_i2l (v := (x1 : Int32).toInt64) hx hb dX3_lots_1 rfl ?_
  refine lv_lconst (v := 1) hx hb dX3_lots_2 (by decide) ?_
  refine lv_ldc2 (v := 99) hx hb hown (hts _ q1304) dX3_lots_3 ?_
  refine cs_i (As := [.long (x1 : Int32).toInt64, .long 1, .long 99]) (rest := []) S (metX3_in l hf) (lw_S q1268 q1269 q60 q1270) pdX3_in ⟨rfl, rfl⟩ ⟨Nat.le_of_ble_eq_true rfl, Nat.le_of_ble_eq_true rfl⟩ rfl hl.1 rfl (Nat.le_of_ble_eq_true rfl) dX3_lots_6 ⟨Nat.zero_le _, Nat.zero_le _⟩ (fun r_6 hf => ?_)
  refine lv_if_ne (tgt := 14) hx hb dX3_lots_9 (by decide) (fun c_9 => ?_) (fun c_9 => ?_)
  · replace hf := hf.2 c_9
    refine lv_iconst (v := 0) hx hb dX3_lots_14 (by decide) ?_
    refine lv_istore_n (lv' := [(2, .int 0), (0, .ref (h 0)), (1, .int x1)]) hx hb dX3_lots_15 rfl hl (by decide) rfl (fun ls hl => ?_)
    refine lv_iconst (v := 0) hx hb dX3_lots_16 (by decide) ?_
    refine lv_istore_n (lv' := [(3, .int 0), (2, .int 0), (0, .ref (h 0)), (1, .int x1)]) hx hb dX3_lots_17 rfl hl (by decide) rfl (fun ls hl => ?_)
    obtain ⟨fu, hf⟩ := hf
    exact tX3_lots_18 S hK hj hret fu 0 0 depths roofs drawn _ _ _ hf hP hS (lv_sub hl [2, 3, 1, 0] rfl)
  · replace hf := hf.1 c_9
    refine lv_iconst (v := (-1)) hx hb dX3_lots_12 (by decide) ?_
    exact hret _ _ _ _ _ _ _ _ _ hf hP hS dX3_lots_13
