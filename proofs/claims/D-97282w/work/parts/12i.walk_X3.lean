/-! HoleCountyModel.lay(IIIII)I -/
theorem pdX3_lay : DscOk yX3_lay 5 := by decide +kernel
abbrev rmX3_lay : Room := { frames := 2, cells := 0, slots := 0, locals := 49 }
abbrev RX3_lay_ : Room := (headSpec (ws_ yX3_lay cX3_lay 10 (some .int)) rmX3_lay).room
section
variable {p : Program} {l : Launch} {e : Env} {s : State} {m : MethodId} {args : Array Value} {below : List Frame} {meth : Method} {c : Code} {Qw : State → Prop} {dC : Nat → ClassId} {dI : Nat → Nat → Nat} {dA : Nat → ClassId} {h : Nat → Nat}
abbrev hrX3_lay (p : Program) (l : Launch) (e : Env) (s : State) (m : MethodId) (args : Array Value) (below : List Frame) (meth : Method) (c : Code) (dC : Nat → ClassId) (dI : Nat → Nat → Nat) (dA : Nat → ClassId) (h : Nat → Nat) (Qw : State → Prop) (Q : Int32 → (Nat → Int32) → Int64 → Int32 → Prop) (owners : (Nat → Int32)) (rate : Int32) (undos : (Nat → Int32)) (drawn : Int32) (dug : Int64) (deep : Int64) (holes : (Nat → Int64)) (holeMany : Int32) (tape : (Nat → Int32)) (taped : Int32) (place : Int32) (reads : Int32) (read_ : (Nat → Int32)) (row : (Nat → Int32)) (order : (Nat → Int32)) (bestOrder : (Nat → Int32)) (nears : (Nat → Int32)) (isKept : Int32) (keptRoofs : Int64) (kept : (Nat → Int32)) (lanes : (Nat → Int32)) (rowSizes : (Nat → Int32)) (items : (Nat → Int64)) (moved : (Nat → Int64)) : Prop := ∀ (r : Int32) (depths : (Nat → Int32)) (roofs : Int64) (undoMany : Int32) (H : Heap) (locs : List Loc) (pc : Nat) (ls : Array Slot), Q r depths roofs undoMany → va_P (dC, dI) vwCl (wM h dA depths owners roofs rate undos undoMany drawn dug deep holes holeMany tape taped place reads read_ row order bestOrder nears isKept keptRoofs kept lanes rowSizes items moved) H → va_S (mA h) s.heap H locs → decode cX3_lay pc = .ok (.ireturn, 1) → W p l e RX3_lay_ s m args below meth c H locs 0 0 Qw (F0 m pc ls [.int r])
def wX3_lay_164 (Q : Int32 → (Nat → Int32) → Int64 → Int32 → Prop) (k113 : Int32 → (Nat → Int32) → Int64 → Prop) (x1 : Int32) (x5 : Int32) (x7 : Int32) (x8 : Int32) (z0 : Int32) (z1 : Int32) (z2 : Int32) (depths : (Nat → Int32)) (roofs : Int64) (undoMany : Int32) (lanes : (Nat → Int32)) (rowSizes : (Nat → Int32)) (items : (Nat → Int64)) : Prop := (wX3_put (fun depths_164 roofs_164 => (∀ x8_167 : Int32, x8_167 = x8 + 1 → (k113 x8_167 depths_164 roofs_164))) depths roofs z2 z1 z0)
set_option maxHeartbeats 4000000 in
set_option maxRecDepth 100000 in
theorem tX3_lay_164 {Q : Int32 → (Nat → Int32) → Int64 → Int32 → Prop} {x1 : Int32} {x5 : Int32} {x7 : Int32} {owners : (Nat → Int32)} {rate : Int32} {undos : (Nat → Int32)} {drawn : Int32} {dug : Int64} {deep : Int64} {holes : (Nat → Int64)} {holeMany : Int32} {tape : (Nat → Int32)} {taped : Int32} {place : Int32} {reads : Int32} {read_ : (Nat → Int32)} {row : (Nat → Int32)} {order : (Nat → Int32)} {bestOrder : (Nat → Int32)} {nears : (Nat → Int32)} {isKept : Int32} {keptRoofs : Int64} {kept : (Nat → Int32)} {lanes : (Nat → Int32)} {rowSizes : (Nat → Int32)} {items : (Nat → Int64)} {moved : (Nat → Int64)} {undoMany : Int32} (S : CallFix p m c cX3_lay 10 s args lw_all RX3) (hK : va_K (dC, dI) vwCl (tysG dA) s) (hj : mJ h) (hret : hrX3_lay p l e s m args below meth c dC dI dA h Qw Q owners rate undos drawn dug deep holes holeMany tape taped place reads read_ row order bestOrder nears isKept keptRoofs kept lanes rowSizes items moved) {k113 : Int32 → (Nat → Int32) → Int64 → Prop} (hk113 : ∀ (x8 : Int32) (depths : (Nat → Int32)) (roofs : Int64) (H : Heap) (locs : List Loc) (ls : Array Slot), k113 x8 depths roofs → va_P (dC, dI) vwCl (wM h dA depths owners roofs rate undos undoMany drawn dug deep holes holeMany tape taped place reads read_ row order bestOrder nears isKept keptRoofs kept lanes rowSizes items moved) H → va_S (mA h) s.heap H locs → lv_has ls 10 [(0, .ref (h 0)), (1, .int x1), (5, .int x5), (7, .int x7), (8, .int x8)] → W p l e RX3_lay_ s m args below meth c H locs 0 0 Qw (F0 m 113 ls [])) : ∀ (x8 : Int32) (z0 : Int32) (z1 : Int32) (z2 : Int32) (depths : (Nat → Int32)) (roofs : Int64) (H : Heap) (locs : List Loc) (ls : Array Slot), wX3_lay_164 Q k113 x1 x5 x7 x8 z0 z1 z2 depths roofs undoMany lanes rowSizes items → va_P (dC, dI) vwCl (wM h dA depths owners roofs rate undos undoMany drawn dug deep holes holeMany tape taped place reads read_ row order bestOrder nears isKept keptRoofs kept lanes rowSizes items moved) H → va_S (mA h) s.heap H locs → lv_has ls 10 [(0, .ref (h 0)), (1, .int x1), (5, .int x5), (7, .int x7), (8, .int x8)] → W p l e RX3_lay_ s m args below meth c H locs 0 0 Qw (F0 m 164 ls [.int z0, .int z1, .int z2, .ref (h 0)]) := by
  obtain ⟨hx, hb, hml, hown, hts⟩ := id S
  intro x8 z0 z1 z2 depths roofs H locs ls hf hP hS hl
  unfold wX3_lay_164 at hf
  refine cM_v (As := [.int z2, .int z1, .int z0]) (rest := []) S hK rfl hP hS (metX3_put l hj hf) (lw_V q1282 q1284 qs26 q60 q1285) rfl pdX3_put ⟨rfl, rfl⟩ ⟨Nat.le_of_ble_eq_true rfl, Nat.le_of_ble_eq_true rfl⟩ rfl hl.1 rfl (Nat.le_of_ble_eq_true rfl) dX3_lay_164 ⟨Nat.zero_le _, Nat.zero_le _⟩ (fun u_164 H locs hf hP hS => ?_)
  obtain ⟨depths_164, roofs_164⟩ := u_164
  replace hP : va_P (dC, dI) vwCl (wM h dA depths_164 owners roofs_164 rate undos undoMany drawn dug deep holes holeMany tape taped place reads read_ row order bestOrder nears isKept keptRoofs kept lanes rowSizes items moved) H := hP
  try dsimp only at hf
  obtain ⟨x8_167, ex8_167⟩ : ∃ z : Int32, z = x8 + 1 := ⟨_, rfl⟩
  replace hf := hf x8_167 ex8_167
  refine lv_iinc (v := x8_167) (lv' := [(8, .int x8_167), (0, .ref (h 0)), (1, .int x1), (5, .int x5), (7, .int x7)]) hx hb dX3_lay_167 hl (k := 4) rfl (by rw [ex8_167]; rfl) (by decide) rfl (fun ls hl => ?_)
  refine lv_goto (tgt := 113) hx hb dX3_lay_170 (by decide) ?_
  exact hk113 x8_167 depths_164 roofs_164 _ _ _ hf hP hS (lv_sub hl [1, 2, 3, 4, 0] rfl)
def wX3_lay_113 (Q : Int32 → (Nat → Int32) → Int64 → Int32 → Prop) (x1 : Int32) (x5 : Int32) (x7 : Int32) (undoMany : Int32) (lanes : (Nat → Int32)) (rowSizes : (Nat → Int32)) (items : (Nat → Int64)) : Nat → Int32 → (Nat → Int32) → Int64 → Prop
  | 0, _, _, _ => False
  | n + 1, x8, depths, roofs => ((x5 ≤ x8 → (Q x5 depths roofs 0)) ∧ (¬ x5 ≤ x8 → (vp_in (x7 + x8) 144 ∧ (∀ x9_131 : Int32, x9_131 = ((items ((x7 + x8) : Int32).toNatClampNeg) : Int64).toInt32 → ((x9_131 ≤ 0 → (wX3_lay_164 Q (wX3_lay_113 Q x1 x5 x7 undoMany lanes rowSizes items n) x1 x5 x7 x8 0 x9_131 (x1 + x8) depths roofs undoMany lanes rowSizes items)) ∧ (¬ x9_131 ≤ 0 → (wX3_has (fun r_153 => ((r_153 = 0 → (wX3_lay_164 Q (wX3_lay_113 Q x1 x5 x7 undoMany lanes rowSizes items n) x1 x5 x7 x8 0 x9_131 (x1 + x8) depths roofs undoMany lanes rowSizes items)) ∧ (¬ r_153 = 0 → (wX3_lay_164 Q (wX3_lay_113 Q x1 x5 x7 undoMany lanes rowSizes items n) x1 x5 x7 x8 1 x9_131 (x1 + x8) depths roofs undoMany lanes rowSizes items)))) roofs (x1 + x8))))))))
set_option maxHeartbeats 4000000 in
set_option maxRecDepth 100000 in
theorem tX3_lay_113 {Q : Int32 → (Nat → Int32) → Int64 → Int32 → Prop} {x1 : Int32} {x5 : Int32} {x7 : Int32} {owners : (Nat → Int32)} {rate : Int32} {undos : (Nat → Int32)} {undoMany : Int32} {drawn : Int32} {dug : Int64} {deep : Int64} {holes : (Nat → Int64)} {holeMany : Int32} {tape : (Nat → Int32)} {taped : Int32} {place : Int32} {reads : Int32} {read_ : (Nat → Int32)} {row : (Nat → Int32)} {order : (Nat → Int32)} {bestOrder : (Nat → Int32)} {nears : (Nat → Int32)} {isKept : Int32} {keptRoofs : Int64} {kept : (Nat → Int32)} {lanes : (Nat → Int32)} {rowSizes : (Nat → Int32)} {items : (Nat → Int64)} {moved : (Nat → Int64)} (S : CallFix p m c cX3_lay 10 s args lw_all RX3) (hK : va_K (dC, dI) vwCl (tysG dA) s) (hj : mJ h) (hret : hrX3_lay p l e s m args below meth c dC dI dA h Qw Q owners rate undos drawn dug deep holes holeMany tape taped place reads read_ row order bestOrder nears isKept keptRoofs kept lanes rowSizes items moved) : ∀ (n : Nat) (x8 : Int32) (depths : (Nat → Int32)) (roofs : Int64) (H : Heap) (locs : List Loc) (ls : Array Slot), wX3_lay_113 Q x1 x5 x7 undoMany lanes rowSizes items n x8 depths roofs → va_P (dC, dI) vwCl (wM h dA depths owners roofs rate undos undoMany drawn dug deep holes holeMany tape taped place reads read_ row order bestOrder nears isKept keptRoofs kept lanes rowSizes items moved) H → va_S (mA h) s.heap H locs → lv_has ls 10 [(0, .ref (h 0)), (1, .int x1), (5, .int x5), (7, .int x7), (8, .int x8)] → W p l e RX3_lay_ s m args below meth c H locs 0 0 Qw (F0 m 113 ls []) := by
  obtain ⟨hx, hb, hml, hown, hts⟩ := id S
  intro n
  induction n with
  | zero => intro _ _ _ _ _ _ hf; exact hf.elim
  | succ n ih =>
    intro x8 depths roofs H locs ls hf hP hS hl
    rw [wX3_lay_113] at hf
    refine lv_iload hx hb dX3_lay_113 (lv_at hl 4 rfl) ?_
    refine lv_iload hx hb dX3_lay_115 (lv_at hl 2 rfl) ?_
    refine lv_icmp_ge (tgt := 173) hx hb dX3_lay_117 (by decide) (fun c_117 => ?_) (fun c_117 => ?_)
    · replace hf := hf.1 c_117
      refine lv_aload_n hx hb dX3_lay_173 rfl (lv_at hl 0 rfl) ?_
      refine lv_iconst (v := 0) hx hb dX3_lay_174 (by decide) ?_
      refine pM_undoMany S hK hj hP hS dX3_lay_175 (fun H locs hP hS => ?_)
      refine lv_iload hx hb dX3_lay_178 (lv_at hl 2 rfl) ?_
      exact hret _ _ _ _ _ _ _ _ hf hP hS dX3_lay_180
    · replace hf := hf.2 c_117
      refine lv_aload_n hx hb dX3_lay_120 rfl (lv_at hl 0 rfl) ?_
      refine gM_items S hK hP dX3_lay_121 ?_
      refine lv_iload hx hb dX3_lay_124 (lv_at hl 3 rfl) ?_
      refine lv_iload hx hb dX3_lay_126 (lv_at hl 4 rfl) ?_
      refine lv_iadd hx hb dX3_lay_128 ?_
      obtain ⟨hin, hf⟩ := hf
      refine lM_items S hK hP hin dX3_lay_129 ?_
      refine lv_l2i (v := ((items ((x7 + x8) : Int32).toNatClampNeg) : Int64).toInt32) hx hb dX3_lay_130 rfl ?_
      refine lv_topi (fun x9_131 ex9_131 => ?_)
      replace hf := hf x9_131 ex9_131
      refine lv_istore (lv' := [(9, .int x9_131), (0, .ref (h 0)), (1, .int x1), (5, .int x5), (7, .int x7), (8, .int x8)]) hx hb dX3_lay_131 hl (by decide) rfl (fun ls hl => ?_)
      refine lv_aload_n hx hb dX3_lay_133 rfl (lv_at hl 1 rfl) ?_
      refine lv_iload_n hx hb dX3_lay_134 rfl (lv_at hl 2 rfl) ?_
      refine lv_iload hx hb dX3_lay_135 (lv_at hl 5 rfl) ?_
      refine lv_iadd hx hb dX3_lay_137 ?_
      refine lv_iload hx hb dX3_lay_138 (lv_at hl 0 rfl) ?_
      refine lv_iload hx hb dX3_lay_140 (lv_at hl 0 rfl) ?_
      refine lv_if_le (tgt := 163) hx hb dX3_lay_142 (by decide) (fun c_142 => ?_) (fun c_142 => ?_)
      · replace hf := hf.1 c_142
        refine lv_iconst (v := 0) hx hb dX3_lay_163 (by decide) ?_
        exact tX3_lay_164 S hK hj hret ih x8 0 x9_131 (x1 + x8) depths roofs _ _ _ hf hP hS (lv_sub hl [1, 2, 3, 4, 5] rfl)
      · replace hf := hf.2 c_142
        refine lv_aload_n hx hb dX3_lay_145 rfl (lv_at hl 1 rfl) ?_
        refine gM_roofs S hK hP dX3_lay_146 ?_
        refine lv_iload_n hx hb dX3_lay_149 rfl (lv_at hl 2 rfl) ?_
        refine lv_iload hx hb dX3_lay_150 (lv_at hl 5 rfl) ?_
        refine lv_iadd hx hb dX3_lay_152 ?_
        refine cs_i (As := [.long roofs, .int (x1 + x8)]) (rest := [.int x9_131, .int (x1 + x8), .ref (h 0)]) S (metX3_has l hf) (lw_S q1275 q1276 q60 q1277) pdX3_has ⟨rfl, rfl⟩ ⟨Nat.le_of_ble_eq_true rfl, Nat.le_of_ble_eq_true rfl⟩ rfl hl.1 rfl (Nat.le_of_ble_eq_true rfl) dX3_lay_153 ⟨Nat.zero_le _, Nat.zero_le _⟩ (fun r_153 hf => ?_)
        refine lv_if_eq (tgt := 163) hx hb dX3_lay_156 (by decide) (fun c_156 => ?_) (fun c_156 => ?_)
        · replace hf := hf.1 c_156
          refine lv_iconst (v := 0) hx hb dX3_lay_163 (by decide) ?_
          exact tX3_lay_164 S hK hj hret ih x8 0 x9_131 (x1 + x8) depths roofs _ _ _ hf hP hS (lv_sub hl [1, 2, 3, 4, 5] rfl)
        · replace hf := hf.2 c_156
          refine lv_iconst (v := 1) hx hb dX3_lay_159 (by decide) ?_
          refine lv_goto (tgt := 164) hx hb dX3_lay_160 (by decide) ?_
          exact tX3_lay_164 S hK hj hret ih x8 1 x9_131 (x1 + x8) depths roofs _ _ _ hf hP hS (lv_sub hl [1, 2, 3, 4, 5] rfl)
def wX3_lay_102 (Q : Int32 → (Nat → Int32) → Int64 → Int32 → Prop) (x1 : Int32) (x5 : Int32) (x6 : Int32) (x7 : Int32) (depths : (Nat → Int32)) (roofs : Int64) (undoMany : Int32) (lanes : (Nat → Int32)) (rowSizes : (Nat → Int32)) (items : (Nat → Int64)) : Prop := ((0 ≤ x6 → (∃ fu : Nat, wX3_lay_113 Q x1 x5 x7 undoMany lanes rowSizes items fu 0 depths roofs)) ∧ (¬ 0 ≤ x6 → (Q x6 depths roofs undoMany)))
set_option maxHeartbeats 4000000 in
set_option maxRecDepth 100000 in
theorem tX3_lay_102 {Q : Int32 → (Nat → Int32) → Int64 → Int32 → Prop} {owners : (Nat → Int32)} {rate : Int32} {undos : (Nat → Int32)} {drawn : Int32} {dug : Int64} {deep : Int64} {holes : (Nat → Int64)} {holeMany : Int32} {tape : (Nat → Int32)} {taped : Int32} {place : Int32} {reads : Int32} {read_ : (Nat → Int32)} {row : (Nat → Int32)} {order : (Nat → Int32)} {bestOrder : (Nat → Int32)} {nears : (Nat → Int32)} {isKept : Int32} {keptRoofs : Int64} {kept : (Nat → Int32)} {lanes : (Nat → Int32)} {rowSizes : (Nat → Int32)} {items : (Nat → Int64)} {moved : (Nat → Int64)} (S : CallFix p m c cX3_lay 10 s args lw_all RX3) (hK : va_K (dC, dI) vwCl (tysG dA) s) (hj : mJ h) (hret : hrX3_lay p l e s m args below meth c dC dI dA h Qw Q owners rate undos drawn dug deep holes holeMany tape taped place reads read_ row order bestOrder nears isKept keptRoofs kept lanes rowSizes items moved) : ∀ (x1 : Int32) (x5 : Int32) (x6 : Int32) (x7 : Int32) (depths : (Nat → Int32)) (roofs : Int64) (undoMany : Int32) (H : Heap) (locs : List Loc) (ls : Array Slot), wX3_lay_102 Q x1 x5 x6 x7 depths roofs undoMany lanes rowSizes items → va_P (dC, dI) vwCl (wM h dA depths owners roofs rate undos undoMany drawn dug deep holes holeMany tape taped place reads read_ row order bestOrder nears isKept keptRoofs kept lanes rowSizes items moved) H → va_S (mA h) s.heap H locs → lv_has ls 10 [(0, .ref (h 0)), (1, .int x1), (5, .int x5), (6, .int x6), (7, .int x7)] → W p l e RX3_lay_ s m args below meth c H locs 0 0 Qw (F0 m 102 ls []) := by
  obtain ⟨hx, hb, hml, hown, hts⟩ := id S
  intro x1 x5 x6 x7 depths roofs undoMany H locs ls hf hP hS hl
  unfold wX3_lay_102 at hf
  refine lv_iload hx hb dX3_lay_102 (lv_at hl 3 rfl) ?_
  refine lv_if_ge (tgt := 110) hx hb dX3_lay_104 (by decide) (fun c_104 => ?_) (fun c_104 => ?_)
  · replace hf := hf.1 c_104
    refine lv_iconst (v := 0) hx hb dX3_lay_110 (by decide) ?_
    refine lv_istore (lv' := [(8, .int 0), (0, .ref (h 0)), (1, .int x1), (5, .int x5), (6, .int x6), (7, .int x7)]) hx hb dX3_lay_111 hl (by decide) rfl (fun ls hl => ?_)
    obtain ⟨fu, hf⟩ := hf
    exact tX3_lay_113 S hK hj hret fu 0 depths roofs _ _ _ hf hP hS (lv_sub hl [1, 2, 3, 5, 0] rfl)
  · replace hf := hf.2 c_104
    refine lv_iload hx hb dX3_lay_107 (lv_at hl 3 rfl) ?_
    exact hret _ _ _ _ _ _ _ _ hf hP hS dX3_lay_109
def wX3_lay_56 (Q : Int32 → (Nat → Int32) → Int64 → Int32 → Prop) (x1 : Int32) (x5 : Int32) (x7 : Int32) (depths : (Nat → Int32)) (roofs : Int64) (undoMany : Int32) (lanes : (Nat → Int32)) (rowSizes : (Nat → Int32)) (items : (Nat → Int64)) : Nat → Int32 → Int32 → Prop
  | 0, _, _ => False
  | n + 1, x6, x8 => ((x5 ≤ x8 → (wX3_lay_102 Q x1 x5 x6 x7 depths roofs undoMany lanes rowSizes items)) ∧ (¬ x5 ≤ x8 → ((x6 = 0 → (vp_in (x7 + x8) 144 ∧ (wX3_in (fun r_82 => ((r_82 = 0 → (∀ x8_96 : Int32, x8_96 = x8 + 1 → ((wX3_lay_56 Q x1 x5 x7 depths roofs undoMany lanes rowSizes items n) (-2) x8_96))) ∧ (¬ r_82 = 0 → (∀ x8_96 : Int32, x8_96 = x8 + 1 → ((wX3_lay_56 Q x1 x5 x7 depths roofs undoMany lanes rowSizes items n) 0 x8_96))))) (items ((x7 + x8) : Int32).toNatClampNeg) 0 9))) ∧ (¬ x6 = 0 → (wX3_lay_102 Q x1 x5 x6 x7 depths roofs undoMany lanes rowSizes items)))))
set_option maxHeartbeats 4000000 in
set_option maxRecDepth 100000 in
theorem tX3_lay_56 {Q : Int32 → (Nat → Int32) → Int64 → Int32 → Prop} {x1 : Int32} {x5 : Int32} {x7 : Int32} {depths : (Nat → Int32)} {owners : (Nat → Int32)} {roofs : Int64} {rate : Int32} {undos : (Nat → Int32)} {undoMany : Int32} {drawn : Int32} {dug : Int64} {deep : Int64} {holes : (Nat → Int64)} {holeMany : Int32} {tape : (Nat → Int32)} {taped : Int32} {place : Int32} {reads : Int32} {read_ : (Nat → Int32)} {row : (Nat → Int32)} {order : (Nat → Int32)} {bestOrder : (Nat → Int32)} {nears : (Nat → Int32)} {isKept : Int32} {keptRoofs : Int64} {kept : (Nat → Int32)} {lanes : (Nat → Int32)} {rowSizes : (Nat → Int32)} {items : (Nat → Int64)} {moved : (Nat → Int64)} (S : CallFix p m c cX3_lay 10 s args lw_all RX3) (hK : va_K (dC, dI) vwCl (tysG dA) s) (hj : mJ h) (hret : hrX3_lay p l e s m args below meth c dC dI dA h Qw Q owners rate undos drawn dug deep holes holeMany tape taped place reads read_ row order bestOrder nears isKept keptRoofs kept lanes rowSizes items moved) : ∀ (n : Nat) (x6 : Int32) (x8 : Int32) (H : Heap) (locs : List Loc) (ls : Array Slot), wX3_lay_56 Q x1 x5 x7 depths roofs undoMany lanes rowSizes items n x6 x8 → va_P (dC, dI) vwCl (wM h dA depths owners roofs rate undos undoMany drawn dug deep holes holeMany tape taped place reads read_ row order bestOrder nears isKept keptRoofs kept lanes rowSizes items moved) H → va_S (mA h) s.heap H locs → lv_has ls 10 [(0, .ref (h 0)), (1, .int x1), (5, .int x5), (6, .int x6), (7, .int x7), (8, .int x8)] → W p l e RX3_lay_ s m args below meth c H locs 0 0 Qw (F0 m 56 ls []) := by
  obtain ⟨hx, hb, hml, hown, hts⟩ := id S
  intro n
  induction n with
  | zero => intro _ _ _ _ _ hf; exact hf.elim
  | succ n ih =>
    intro x6 x8 H locs ls hf hP hS hl
    rw [wX3_lay_56] at hf
    refine lv_iload hx hb dX3_lay_56 (lv_at hl 5 rfl) ?_
    refine lv_iload hx hb dX3_lay_58 (lv_at hl 2 rfl) ?_
    refine lv_icmp_ge (tgt := 102) hx hb dX3_lay_60 (by decide) (fun c_60 => ?_) (fun c_60 => ?_)
    · replace hf := hf.1 c_60
      exact tX3_lay_102 S hK hj hret x1 x5 x6 x7 depths roofs undoMany _ _ _ hf hP hS (lv_sub hl [0, 1, 2, 3, 4] rfl)
    · replace hf := hf.2 c_60
      refine lv_iload hx hb dX3_lay_63 (lv_at hl 3 rfl) ?_
      refine lv_if_ne (tgt := 102) hx hb dX3_lay_65 (by decide) (fun c_65 => ?_) (fun c_65 => ?_)
      · replace hf := hf.2 c_65
        exact tX3_lay_102 S hK hj hret x1 x5 x6 x7 depths roofs undoMany _ _ _ hf hP hS (lv_sub hl [0, 1, 2, 3, 4] rfl)
      · replace hf := hf.1 c_65
        refine lv_aload_n hx hb dX3_lay_68 rfl (lv_at hl 0 rfl) ?_
        refine gM_items S hK hP dX3_lay_69 ?_
        refine lv_iload hx hb dX3_lay_72 (lv_at hl 4 rfl) ?_
        refine lv_iload hx hb dX3_lay_74 (lv_at hl 5 rfl) ?_
        refine lv_iadd hx hb dX3_lay_76 ?_
        obtain ⟨hin, hf⟩ := hf
        refine lM_items S hK hP hin dX3_lay_77 ?_
        refine lv_lconst (v := 0) hx hb dX3_lay_78 (by decide) ?_
        refine lv_ldc2 (v := 9) hx hb hown (hts _ q1351) dX3_lay_79 ?_
        refine cs_i (As := [.long (items ((x7 + x8) : Int32).toNatClampNeg), .long 0, .long 9]) (rest := []) S (metX3_in l hf) (lw_S q1268 q1269 q60 q1270) pdX3_in ⟨rfl, rfl⟩ ⟨Nat.le_of_ble_eq_true rfl, Nat.le_of_ble_eq_true rfl⟩ rfl hl.1 rfl (Nat.le_of_ble_eq_true rfl) dX3_lay_82 ⟨Nat.zero_le _, Nat.zero_le _⟩ (fun r_82 hf => ?_)
        refine lv_if_eq (tgt := 92) hx hb dX3_lay_85 (by decide) (fun c_85 => ?_) (fun c_85 => ?_)
        · replace hf := hf.1 c_85
          refine lv_bipush (v := (-2)) hx hb dX3_lay_92 (by decide) ?_
          refine lv_istore (lv' := [(6, .int (-2)), (0, .ref (h 0)), (1, .int x1), (5, .int x5), (7, .int x7), (8, .int x8)]) hx hb dX3_lay_94 hl (by decide) rfl (fun ls hl => ?_)
          obtain ⟨x8_96, ex8_96⟩ : ∃ z : Int32, z = x8 + 1 := ⟨_, rfl⟩
          replace hf := hf x8_96 ex8_96
          refine lv_iinc (v := x8_96) (lv' := [(8, .int x8_96), (6, .int (-2)), (0, .ref (h 0)), (1, .int x1), (5, .int x5), (7, .int x7)]) hx hb dX3_lay_96 hl (k := 5) rfl (by rw [ex8_96]; rfl) (by decide) rfl (fun ls hl => ?_)
          refine lv_goto (tgt := 56) hx hb dX3_lay_99 (by decide) ?_
          exact ih (-2) x8_96 _ _ _ hf hP hS (lv_sub hl [2, 3, 4, 1, 5, 0] rfl)
        · replace hf := hf.2 c_85
          refine lv_iconst (v := 0) hx hb dX3_lay_88 (by decide) ?_
          refine lv_goto (tgt := 94) hx hb dX3_lay_89 (by decide) ?_
          refine lv_istore (lv' := [(6, .int 0), (0, .ref (h 0)), (1, .int x1), (5, .int x5), (7, .int x7), (8, .int x8)]) hx hb dX3_lay_94 hl (by decide) rfl (fun ls hl => ?_)
          obtain ⟨x8_96, ex8_96⟩ : ∃ z : Int32, z = x8 + 1 := ⟨_, rfl⟩
          replace hf := hf x8_96 ex8_96
          refine lv_iinc (v := x8_96) (lv' := [(8, .int x8_96), (6, .int 0), (0, .ref (h 0)), (1, .int x1), (5, .int x5), (7, .int x7)]) hx hb dX3_lay_96 hl (k := 5) rfl (by rw [ex8_96]; rfl) (by decide) rfl (fun ls hl => ?_)
          refine lv_goto (tgt := 56) hx hb dX3_lay_99 (by decide) ?_
          exact ih 0 x8_96 _ _ _ hf hP hS (lv_sub hl [2, 3, 4, 1, 5, 0] rfl)
def wX3_lay (Q : Int32 → (Nat → Int32) → Int64 → Int32 → Prop) (depths : (Nat → Int32)) (roofs : Int64) (undoMany : Int32) (lanes : (Nat → Int32)) (rowSizes : (Nat → Int32)) (items : (Nat → Int64)) (x1 : Int32) (x2 : Int32) (x3 : Int32) (x4 : Int32) (x5 : Int32) : Prop := (wX3_isCell (fun r_1 => ((r_1 = 0 → (Q (-1) depths roofs undoMany)) ∧ (¬ r_1 = 0 → (wX3_isSheet (fun r_9 => ((r_9 = 0 → (Q (-1) depths roofs undoMany)) ∧ (¬ r_9 = 0 → (wX3_in (fun r_24 => ((r_24 = 0 → (Q (-1) depths roofs undoMany)) ∧ (¬ r_24 = 0 → (wX3_lacksRow (fun r_39 => (∀ x7_51 : Int32, x7_51 = ((36 * x2) + x4) → (∃ fu : Nat, wX3_lay_56 Q x1 x5 x7_51 depths roofs undoMany lanes rowSizes items fu r_39 0))) lanes rowSizes x2 x3 x4 x5)))) ((x5 : Int32).toInt64) 1 (((36 - x1) : Int32).toInt64))))) x2 x3)))) x1)
end
set_option maxHeartbeats 4000000 in
set_option maxRecDepth 100000 in
theorem metX3_lay (l : Launch) {Q : Int32 → (Nat → Int32) → Int64 → Int32 → Prop} {depths : (Nat → Int32)} {owners : (Nat → Int32)} {roofs : Int64} {rate : Int32} {undos : (Nat → Int32)} {undoMany : Int32} {drawn : Int32} {dug : Int64} {deep : Int64} {holes : (Nat → Int64)} {holeMany : Int32} {tape : (Nat → Int32)} {taped : Int32} {place : Int32} {reads : Int32} {read_ : (Nat → Int32)} {row : (Nat → Int32)} {order : (Nat → Int32)} {bestOrder : (Nat → Int32)} {nears : (Nat → Int32)} {isKept : Int32} {keptRoofs : Int64} {kept : (Nat → Int32)} {lanes : (Nat → Int32)} {rowSizes : (Nat → Int32)} {items : (Nat → Int64)} {moved : (Nat → Int64)} {x1 : Int32} {x2 : Int32} {x3 : Int32} {x4 : Int32} {x5 : Int32} {dC : Nat → ClassId} {dI : Nat → Nat → Nat} {dA : Nat → ClassId} {h : Nat → Nat} (hj : mJ h) (hf : wX3_lay Q depths roofs undoMany lanes rowSizes items x1 x2 x3 x4 x5) : Met l yX3_lay (ws_ yX3_lay cX3_lay 10 (some .int)) rmX3_lay (mPc dC dI dA h [.int x1, .int x2, .int x3, .int x4, .int x5] (wM h dA depths owners roofs rate undos undoMany drawn dug deep holes holeMany tape taped place reads read_ row order bestOrder nears isKept keptRoofs kept lanes rowSizes items moved)) (va_Qi (fun (r : Int32) (u : (Nat → Int32) × Int64 × Int32) => Q r u.1 u.2.1 u.2.2) (fun u t => va_P (dC, dI) vwCl (wM h dA u.1 owners u.2.1 rate undos u.2.2 drawn dug deep holes holeMany tape taped place reads read_ row order bestOrder nears isKept keptRoofs kept lanes rowSizes items moved) t.heap) (mA h)) 0 0 (mA h) := by
  refine Met.ofW (cc := cX3_lay) (maxL := 10) (ret := (some .int)) (by decide) rfl ?_
  intro p e s m args below meth c s₁ B hml hv
  obtain ⟨rfl, hP, hK⟩ := hv
  have hx := B.exec
  have hb := B.bytes
  have hr := B.returns
  have hts := atoms_spec (ws := (ws_ yX3_lay cX3_lay 10 (some .int))) B.pre
  have hts : ∀ w ∈ lw_all, w.before _ s = true := fun w h => hts w (List.mem_cons_of_mem _ h)
  have hown : s.vm.findClass RX3 = some m.cls := findClass_of_methodNamed B.named
  have hlocks := B.notSynchronized
  have S : CallFix p m c cX3_lay 10 s _ lw_all RX3 := ⟨hx, hb, hml, hown, hts⟩
  have hS : va_S (mA h) s.heap s.heap [] := va_S.rf
  have hl := lv_entry ([.ref (h 0), .int x1, .int x2, .int x3, .int x4, .int x5]) (n := 10) (Nat.le_of_ble_eq_true rfl)
  rw [lg_entry_eq]
  generalize (lg_sl ([.ref (h 0), .int x1, .int x2, .int x3, .int x4, .int x5]) ++ List.replicate (10 - (lg_sl ([.ref (h 0), .int x1, .int x2, .int x3, .int x4, .int x5])).length) Slot.unset).toArray = ls at hl ⊢
  replace hl : lv_has ls 10 [(0, .ref (h 0)), (1, .int x1), (2, .int x2), (3, .int x3), (4, .int x4), (5, .int x5)] := hl
  have hret : hrX3_lay p l e s m ([.ref (h 0), .int x1, .int x2, .int x3, .int x4, .int x5] : List Value).toArray below meth c dC dI dA h (MQ below (va_Qi (fun (r : Int32) (u : (Nat → Int32) × Int64 × Int32) => Q r u.1 u.2.1 u.2.2) (fun u t => va_P (dC, dI) vwCl (wM h dA u.1 owners u.2.1 rate undos u.2.2 drawn dug deep holes holeMany tape taped place reads read_ row order bestOrder nears isKept keptRoofs kept lanes rowSizes items moved) t.heap) (mA h)) ([.ref (h 0), .int x1, .int x2, .int x3, .int x4, .int x5] : List Value).toArray s 0 0 (mA h)) Q owners rate undos drawn dug deep holes holeMany tape taped place reads read_ row order bestOrder nears isKept keptRoofs kept lanes rowSizes items moved := fun r depths roofs undoMany H locs pc ls hq hP hS hd => W.iret hx hb hr (fun t ht hW => ⟨⟨r, (depths, roofs, undoMany), rfl, hq, by subst ht; exact hP⟩, hS.F ht⟩) hS.2.2 hd
  unfold wX3_lay at hf
  refine lv_iload_n hx hb dX3_lay_0 rfl (lv_at hl 1 rfl) ?_
  refine cs_i (As := [.int x1]) (rest := []) S (metX3_isCell l hf) (lw_S q1264 q1265 q60 q1266) pdX3_isCell ⟨rfl, rfl⟩ ⟨Nat.le_of_ble_eq_true rfl, Nat.le_of_ble_eq_true rfl⟩ rfl hl.1 rfl (Nat.le_of_ble_eq_true rfl) dX3_lay_1 ⟨Nat.zero_le _, Nat.zero_le _⟩ (fun r_1 hf => ?_)
  refine lv_if_eq (tgt := 30) hx hb dX3_lay_4 (by decide) (fun c_4 => ?_) (fun c_4 => ?_)
  · replace hf := hf.1 c_4
    refine lv_iconst (v := (-1)) hx hb dX3_lay_30 (by decide) ?_
    exact hret _ _ _ _ _ _ _ _ hf hP hS dX3_lay_31
  · replace hf := hf.2 c_4
    refine lv_iload_n hx hb dX3_lay_7 rfl (lv_at hl 2 rfl) ?_
    refine lv_iload_n hx hb dX3_lay_8 rfl (lv_at hl 3 rfl) ?_
    refine cs_i (As := [.int x2, .int x3]) (rest := []) S (metX3_isSheet l hf) (lw_S q1567 q1568 q60 q1569) pdX3_isSheet ⟨rfl, rfl⟩ ⟨Nat.le_of_ble_eq_true rfl, Nat.le_of_ble_eq_true rfl⟩ rfl hl.1 rfl (Nat.le_of_ble_eq_true rfl) dX3_lay_9 ⟨Nat.zero_le _, Nat.zero_le _⟩ (fun r_9 hf => ?_)
    refine lv_if_eq (tgt := 30) hx hb dX3_lay_12 (by decide) (fun c_12 => ?_) (fun c_12 => ?_)
    · replace hf := hf.1 c_12
      refine lv_iconst (v := (-1)) hx hb dX3_lay_30 (by decide) ?_
      exact hret _ _ _ _ _ _ _ _ hf hP hS dX3_lay_31
    · replace hf := hf.2 c_12
      refine lv_iload hx hb dX3_lay_15 (lv_at hl 5 rfl) ?_
      refine lv_i2l (v := (x5 : Int32).toInt64) hx hb dX3_lay_17 rfl ?_
      refine lv_lconst (v := 1) hx hb dX3_lay_18 (by decide) ?_
      refine lv_bipush (v := 36) hx hb dX3_lay_19 (by decide) ?_
      refine lv_iload_n hx hb dX3_lay_21 rfl (lv_at hl 1 rfl) ?_
      refine lv_isub hx hb dX3_lay_22 ?_
      refine lv_i2l (v := ((36 - x1) : Int32).toInt64) hx hb dX3_lay_23 rfl ?_
      refine cs_i (As := [.long (x5 : Int32).toInt64, .long 1, .long ((36 - x1) : Int32).toInt64]) (rest := []) S (metX3_in l hf) (lw_S q1268 q1269 q60 q1270) pdX3_in ⟨rfl, rfl⟩ ⟨Nat.le_of_ble_eq_true rfl, Nat.le_of_ble_eq_true rfl⟩ rfl hl.1 rfl (Nat.le_of_ble_eq_true rfl) dX3_lay_24 ⟨Nat.zero_le _, Nat.zero_le _⟩ (fun r_24 hf => ?_)
      refine lv_if_ne (tgt := 32) hx hb dX3_lay_27 (by decide) (fun c_27 => ?_) (fun c_27 => ?_)
      · replace hf := hf.2 c_27
        refine lv_aload_n hx hb dX3_lay_32 rfl (lv_at hl 0 rfl) ?_
        refine lv_iload_n hx hb dX3_lay_33 rfl (lv_at hl 2 rfl) ?_
        refine lv_iload_n hx hb dX3_lay_34 rfl (lv_at hl 3 rfl) ?_
        refine lv_iload hx hb dX3_lay_35 (lv_at hl 4 rfl) ?_
        refine lv_iload hx hb dX3_lay_37 (lv_at hl 5 rfl) ?_
        refine cM_i (As := [.int x2, .int x3, .int x4, .int x5]) (rest := []) S hK rfl hP hS (metX3_lacksRow l hj hf) (lw_V q1578 q1580 qs52 q60 q1581) rfl pdX3_lacksRow ⟨rfl, rfl⟩ ⟨Nat.le_of_ble_eq_true rfl, Nat.le_of_ble_eq_true rfl⟩ rfl hl.1 rfl (Nat.le_of_ble_eq_true rfl) dX3_lay_39 ⟨Nat.zero_le _, Nat.zero_le _⟩ (fun r_39 u_39 H locs hf hP hS => ?_)
        replace hP : va_P (dC, dI) vwCl (wM h dA depths owners roofs rate undos undoMany drawn dug deep holes holeMany tape taped place reads read_ row order bestOrder nears isKept keptRoofs kept lanes rowSizes items moved) H := hP
        try dsimp only at hf
        refine lv_istore (lv' := [(6, .int r_39), (0, .ref (h 0)), (1, .int x1), (2, .int x2), (3, .int x3), (4, .int x4), (5, .int x5)]) hx hb dX3_lay_42 hl (by decide) rfl (fun ls hl => ?_)
        refine lv_bipush (v := 36) hx hb dX3_lay_44 (by decide) ?_
        refine lv_iload_n hx hb dX3_lay_46 rfl (lv_at hl 3 rfl) ?_
        refine lv_imul hx hb dX3_lay_47 ?_
        refine lv_iload hx hb dX3_lay_48 (lv_at hl 5 rfl) ?_
        refine lv_iadd hx hb dX3_lay_50 ?_
        refine lv_topi (fun x7_51 ex7_51 => ?_)
        replace hf := hf x7_51 ex7_51
        refine lv_istore (lv' := [(7, .int x7_51), (6, .int r_39), (0, .ref (h 0)), (1, .int x1), (2, .int x2), (3, .int x3), (4, .int x4), (5, .int x5)]) hx hb dX3_lay_51 hl (by decide) rfl (fun ls hl => ?_)
        refine lv_iconst (v := 0) hx hb dX3_lay_53 (by decide) ?_
        refine lv_istore (lv' := [(8, .int 0), (7, .int x7_51), (6, .int r_39), (0, .ref (h 0)), (1, .int x1), (2, .int x2), (3, .int x3), (4, .int x4), (5, .int x5)]) hx hb dX3_lay_54 hl (by decide) rfl (fun ls hl => ?_)
        obtain ⟨fu, hf⟩ := hf
        exact tX3_lay_56 S hK hj hret fu r_39 0 _ _ _ hf hP hS (lv_sub hl [3, 4, 8, 2, 1, 0] rfl)
      · replace hf := hf.1 c_27
        refine lv_iconst (v := (-1)) hx hb dX3_lay_30 (by decide) ?_
        exact hret _ _ _ _ _ _ _ _ hf hP hS dX3_lay_31
/-! HoleCountyModel.film(III)I -/
theorem pdX3_film : DscOk yX3_film 3 := by decide +kernel
abbrev rmX3_film : Room := { frames := 4, cells := 0, slots := 0, locals := 93 }
abbrev RX3_film_ : Room := (headSpec (ws_ yX3_film cX3_film 6 (some .int)) rmX3_film).room
section
variable {p : Program} {l : Launch} {e : Env} {s : State} {m : MethodId} {args : Array Value} {below : List Frame} {meth : Method} {c : Code} {Qw : State → Prop} {dC : Nat → ClassId} {dI : Nat → Nat → Nat} {dA : Nat → ClassId} {h : Nat → Nat}
abbrev hrX3_film (p : Program) (l : Launch) (e : Env) (s : State) (m : MethodId) (args : Array Value) (below : List Frame) (meth : Method) (c : Code) (dC : Nat → ClassId) (dI : Nat → Nat → Nat) (dA : Nat → ClassId) (h : Nat → Nat) (Qw : State → Prop) (Q : Int32 → Int64 → Int64 → (Nat → Int64) → Int32 → (Nat → Int64) → Prop) (depths : (Nat → Int32)) (owners : (Nat → Int32)) (roofs : Int64) (rate : Int32) (undos : (Nat → Int32)) (undoMany : Int32) (drawn : Int32) (tape : (Nat → Int32)) (taped : Int32) (place : Int32) (reads : Int32) (read_ : (Nat → Int32)) (row : (Nat → Int32)) (order : (Nat → Int32)) (bestOrder : (Nat → Int32)) (nears : (Nat → Int32)) (isKept : Int32) (keptRoofs : Int64) (kept : (Nat → Int32)) (lanes : (Nat → Int32)) (rowSizes : (Nat → Int32)) (moved : (Nat → Int64)) : Prop := ∀ (r : Int32) (dug : Int64) (deep : Int64) (holes : (Nat → Int64)) (holeMany : Int32) (items : (Nat → Int64)) (H : Heap) (locs : List Loc) (pc : Nat) (ls : Array Slot), Q r dug deep holes holeMany items → va_P (dC, dI) vwCl (wM h dA depths owners roofs rate undos undoMany drawn dug deep holes holeMany tape taped place reads read_ row order bestOrder nears isKept keptRoofs kept lanes rowSizes items moved) H → va_S (mA h) s.heap H locs → decode cX3_film pc = .ok (.ireturn, 1) → W p l e RX3_film_ s m args below meth c H locs 0 0 Qw (F0 m pc ls [.int r])
def wX3_film_42 (Q : Int32 → Int64 → Int64 → (Nat → Int64) → Int32 → (Nat → Int64) → Prop) (x1 : Int32) (x2 : Int32) (x3 : Int32) (depths : (Nat → Int32)) (roofs : Int64) (rate : Int32) (dug : Int64) (deep : Int64) (holes : (Nat → Int64)) (holeMany : Int32) (lanes : (Nat → Int32)) (rowSizes : (Nat → Int32)) : Nat → Int32 → (Nat → Int64) → Prop
  | 0, _, _ => False
  | n + 1, x5, items => ((holeMany ≤ x5 → (Q holeMany dug deep holes holeMany items)) ∧ (¬ holeMany ≤ x5 → (vp_in x5 36 ∧ (wX3_taxOf (fun r_73 => (wX3_asLane (fun r_77 => (vp_in (((36 * x1) + x3) + x5) 144 ∧ (∀ items_80 : Nat → Int64, items_80 = vp_updL items ((((36 * x1) + x3) + x5) : Int32).toNatClampNeg r_77 → (∀ x5_81 : Int32, x5_81 = x5 + 1 → ((wX3_film_42 Q x1 x2 x3 depths roofs rate dug deep holes holeMany lanes rowSizes n) x5_81 items_80))))) x2 ((r_73 : Int32).toInt64))) roofs rate deep (holes (x5 : Int32).toNatClampNeg)))))
set_option maxHeartbeats 4000000 in
set_option maxRecDepth 100000 in
theorem tX3_film_42 {Q : Int32 → Int64 → Int64 → (Nat → Int64) → Int32 → (Nat → Int64) → Prop} {x1 : Int32} {x2 : Int32} {x3 : Int32} {depths : (Nat → Int32)} {owners : (Nat → Int32)} {roofs : Int64} {rate : Int32} {undos : (Nat → Int32)} {undoMany : Int32} {drawn : Int32} {dug : Int64} {deep : Int64} {holes : (Nat → Int64)} {holeMany : Int32} {tape : (Nat → Int32)} {taped : Int32} {place : Int32} {reads : Int32} {read_ : (Nat → Int32)} {row : (Nat → Int32)} {order : (Nat → Int32)} {bestOrder : (Nat → Int32)} {nears : (Nat → Int32)} {isKept : Int32} {keptRoofs : Int64} {kept : (Nat → Int32)} {lanes : (Nat → Int32)} {rowSizes : (Nat → Int32)} {moved : (Nat → Int64)} (S : CallFix p m c cX3_film 6 s args lw_all RX3) (hK : va_K (dC, dI) vwCl (tysG dA) s) (hj : mJ h) (hret : hrX3_film p l e s m args below meth c dC dI dA h Qw Q depths owners roofs rate undos undoMany drawn tape taped place reads read_ row order bestOrder nears isKept keptRoofs kept lanes rowSizes moved) : ∀ (n : Nat) (x5 : Int32) (items : (Nat → Int64)) (H : Heap) (locs : List Loc) (ls : Array Slot), wX3_film_42 Q x1 x2 x3 depths roofs rate dug deep holes holeMany lanes rowSizes n x5 items → va_P (dC, dI) vwCl (wM h dA depths owners roofs rate undos undoMany drawn dug deep holes holeMany tape taped place reads read_ row order bestOrder nears isKept keptRoofs kept lanes rowSizes items moved) H → va_S (mA h) s.heap H locs → lv_has ls 6 [(0, .ref (h 0)), (1, .int x1), (2, .int x2), (3, .int x3), (5, .int x5)] → W p l e RX3_film_ s m args below meth c H locs 0 0 Qw (F0 m 42 ls []) := by
  obtain ⟨hx, hb, hml, hown, hts⟩ := id S
  intro n
  induction n with
  | zero => intro _ _ _ _ _ hf; exact hf.elim
  | succ n ih =>
    intro x5 items H locs ls hf hP hS hl
    rw [wX3_film_42] at hf
    refine lv_iload hx hb dX3_film_42 (lv_at hl 4 rfl) ?_
    refine lv_aload_n hx hb dX3_film_44 rfl (lv_at hl 0 rfl) ?_
    refine gM_holeMany S hK hP dX3_film_45 ?_
    refine lv_icmp_ge (tgt := 87) hx hb dX3_film_48 (by decide) (fun c_48 => ?_) (fun c_48 => ?_)
    · replace hf := hf.1 c_48
      refine lv_aload_n hx hb dX3_film_87 rfl (lv_at hl 0 rfl) ?_
      refine gM_holeMany S hK hP dX3_film_88 ?_
      exact hret _ _ _ _ _ _ _ _ _ _ hf hP hS dX3_film_91
    · replace hf := hf.2 c_48
      refine lv_aload_n hx hb dX3_film_51 rfl (lv_at hl 0 rfl) ?_
      refine gM_items S hK hP dX3_film_52 ?_
      refine lv_bipush (v := 36) hx hb dX3_film_55 (by decide) ?_
      refine lv_iload_n hx hb dX3_film_57 rfl (lv_at hl 1 rfl) ?_
      refine lv_imul hx hb dX3_film_58 ?_
      refine lv_iload_n hx hb dX3_film_59 rfl (lv_at hl 3 rfl) ?_
      refine lv_iadd hx hb dX3_film_60 ?_
      refine lv_iload hx hb dX3_film_61 (lv_at hl 4 rfl) ?_
      refine lv_iadd hx hb dX3_film_63 ?_
      refine lv_iload_n hx hb dX3_film_64 rfl (lv_at hl 2 rfl) ?_
      refine lv_aload_n hx hb dX3_film_65 rfl (lv_at hl 0 rfl) ?_
      refine lv_aload_n hx hb dX3_film_66 rfl (lv_at hl 0 rfl) ?_
      refine gM_holes S hK hP dX3_film_67 ?_
      refine lv_iload hx hb dX3_film_70 (lv_at hl 4 rfl) ?_
      obtain ⟨hin, hf⟩ := hf
      refine lM_holes S hK hP hin dX3_film_72 ?_
      refine cM_i (As := [.long (holes (x5 : Int32).toNatClampNeg)]) (rest := [.int x2, .int (((36 * x1) + x3) + x5), .ref (h 14)]) S hK rfl hP hS (metX3_taxOf l hj hf) (lw_V q1397 q1399 qs38 q60 q1400) rfl pdX3_taxOf ⟨rfl, rfl⟩ ⟨Nat.le_of_ble_eq_true rfl, Nat.le_of_ble_eq_true rfl⟩ rfl hl.1 rfl (Nat.le_of_ble_eq_true rfl) dX3_film_73 ⟨Nat.zero_le _, Nat.zero_le _⟩ (fun r_73 u_73 H locs hf hP hS => ?_)
      replace hP : va_P (dC, dI) vwCl (wM h dA depths owners roofs rate undos undoMany drawn dug deep holes holeMany tape taped place reads read_ row order bestOrder nears isKept keptRoofs kept lanes rowSizes items moved) H := hP
      try dsimp only at hf
      refine lv_i2l (v := (r_73 : Int32).toInt64) hx hb dX3_film_76 rfl ?_
      refine cs_l (As := [.int x2, .long (r_73 : Int32).toInt64]) (rest := [.int (((36 * x1) + x3) + x5), .ref (h 14)]) S (metX3_asLane l hf) (lw_S q1582 q1583 q60 q1584) pdX3_asLane ⟨rfl, rfl⟩ ⟨Nat.le_of_ble_eq_true rfl, Nat.le_of_ble_eq_true rfl⟩ rfl hl.1 rfl (Nat.le_of_ble_eq_true rfl) dX3_film_77 ⟨Nat.zero_le _, Nat.zero_le _⟩ (fun r_77 hf => ?_)
      obtain ⟨hin, hf⟩ := hf
      obtain ⟨items_80, eitems_80⟩ : ∃ z : Nat → Int64, z = vp_updL items ((((36 * x1) + x3) + x5) : Int32).toNatClampNeg r_77 := ⟨_, rfl⟩
      replace hf := hf items_80 eitems_80
      refine sM_items S hK hj hP hS hin eitems_80 dX3_film_80 (fun H locs hP hS => ?_)
      obtain ⟨x5_81, ex5_81⟩ : ∃ z : Int32, z = x5 + 1 := ⟨_, rfl⟩
      replace hf := hf x5_81 ex5_81
      refine lv_iinc (v := x5_81) (lv' := [(5, .int x5_81), (0, .ref (h 0)), (1, .int x1), (2, .int x2), (3, .int x3)]) hx hb dX3_film_81 hl (k := 4) rfl (by rw [ex5_81]; rfl) (by decide) rfl (fun ls hl => ?_)
      refine lv_goto (tgt := 42) hx hb dX3_film_84 (by decide) ?_
      exact ih x5_81 items_80 _ _ _ hf hP hS (lv_sub hl [1, 2, 3, 4, 0] rfl)
def wX3_film (Q : Int32 → Int64 → Int64 → (Nat → Int64) → Int32 → (Nat → Int64) → Prop) (depths : (Nat → Int32)) (roofs : Int64) (rate : Int32) (dug : Int64) (deep : Int64) (holes : (Nat → Int64)) (holeMany : Int32) (lanes : (Nat → Int32)) (rowSizes : (Nat → Int32)) (items : (Nat → Int64)) (x1 : Int32) (x2 : Int32) (x3 : Int32) : Prop := (wX3_isSheet (fun r_2 => ((r_2 = 0 → (Q (-1) dug deep holes holeMany items)) ∧ (¬ r_2 = 0 → (wX3_look (fun dug_11 deep_11 => (wX3_findHoles (fun holes_15 holeMany_15 => (wX3_lacksRow (fun r_26 => ((0 ≤ r_26 → (∃ fu : Nat, wX3_film_42 Q x1 x2 x3 depths roofs rate dug_11 deep_11 holes_15 holeMany_15 lanes rowSizes fu 0 items)) ∧ (¬ 0 ≤ r_26 → (Q r_26 dug_11 deep_11 holes_15 holeMany_15 items)))) lanes rowSizes x1 x2 x3 holeMany_15)) dug_11 holes holeMany)) depths dug deep)))) x1 x2)
end
set_option maxHeartbeats 4000000 in
set_option maxRecDepth 100000 in
theorem metX3_film (l : Launch) {Q : Int32 → Int64 → Int64 → (Nat → Int64) → Int32 → (Nat → Int64) → Prop} {depths : (Nat → Int32)} {owners : (Nat → Int32)} {roofs : Int64} {rate : Int32} {undos : (Nat → Int32)} {undoMany : Int32} {drawn : Int32} {dug : Int64} {deep : Int64} {holes : (Nat → Int64)} {holeMany : Int32} {tape : (Nat → Int32)} {taped : Int32} {place : Int32} {reads : Int32} {read_ : (Nat → Int32)} {row : (Nat → Int32)} {order : (Nat → Int32)} {bestOrder : (Nat → Int32)} {nears : (Nat → Int32)} {isKept : Int32} {keptRoofs : Int64} {kept : (Nat → Int32)} {lanes : (Nat → Int32)} {rowSizes : (Nat → Int32)} {items : (Nat → Int64)} {moved : (Nat → Int64)} {x1 : Int32} {x2 : Int32} {x3 : Int32} {dC : Nat → ClassId} {dI : Nat → Nat → Nat} {dA : Nat → ClassId} {h : Nat → Nat} (hj : mJ h) (hf : wX3_film Q depths roofs rate dug deep holes holeMany lanes rowSizes items x1 x2 x3) : Met l yX3_film (ws_ yX3_film cX3_film 6 (some .int)) rmX3_film (mPc dC dI dA h [.int x1, .int x2, .int x3] (wM h dA depths owners roofs rate undos undoMany drawn dug deep holes holeMany tape taped place reads read_ row order bestOrder nears isKept keptRoofs kept lanes rowSizes items moved)) (va_Qi (fun (r : Int32) (u : Int64 × Int64 × (Nat → Int64) × Int32 × (Nat → Int64)) => Q r u.1 u.2.1 u.2.2.1 u.2.2.2.1 u.2.2.2.2) (fun u t => va_P (dC, dI) vwCl (wM h dA depths owners roofs rate undos undoMany drawn u.1 u.2.1 u.2.2.1 u.2.2.2.1 tape taped place reads read_ row order bestOrder nears isKept keptRoofs kept lanes rowSizes u.2.2.2.2 moved) t.heap) (mA h)) 0 0 (mA h) := by
  refine Met.ofW (cc := cX3_film) (maxL := 6) (ret := (some .int)) (by decide) rfl ?_
  intro p e s m args below meth c s₁ B hml hv
  obtain ⟨rfl, hP, hK⟩ := hv
  have hx := B.exec
  have hb := B.bytes
  have hr := B.returns
  have hts := atoms_spec (ws := (ws_ yX3_film cX3_film 6 (some .int))) B.pre
  have hts : ∀ w ∈ lw_all, w.before _ s = true := fun w h => hts w (List.mem_cons_of_mem _ h)
  have hown : s.vm.findClass RX3 = some m.cls := findClass_of_methodNamed B.named
  have hlocks := B.notSynchronized
  have S : CallFix p m c cX3_film 6 s _ lw_all RX3 := ⟨hx, hb, hml, hown, hts⟩
  have hS : va_S (mA h) s.heap s.heap [] := va_S.rf
  have hl := lv_entry ([.ref (h 0), .int x1, .int x2, .int x3]) (n := 6) (Nat.le_of_ble_eq_true rfl)
  rw [lg_entry_eq]
  generalize (lg_sl ([.ref (h 0), .int x1, .int x2, .int x3]) ++ List.replicate (6 - (lg_sl ([.ref (h 0), .int x1, .int x2, .int x3])).length) Slot.unset).toArray = ls at hl ⊢
  replace hl : lv_has ls 6 [(0, .ref (h 0)), (1, .int x1), (2, .int x2), (3, .int x3)] := hl
  have hret : hrX3_film p l e s m ([.ref (h 0), .int x1, .int x2, .int x3] : List Value).toArray below meth c dC dI dA h (MQ below (va_Qi (fun (r : Int32) (u : Int64 × Int64 × (Nat → Int64) × Int32 × (Nat → Int64)) => Q r u.1 u.2.1 u.2.2.1 u.2.2.2.1 u.2.2.2.2) (fun u t => va_P (dC, dI) vwCl (wM h dA depths owners roofs rate undos undoMany drawn u.1 u.2.1 u.2.2.1 u.2.2.2.1 tape taped place reads read_ row order bestOrder nears isKept keptRoofs kept lanes rowSizes u.2.2.2.2 moved) t.heap) (mA h)) ([.ref (h 0), .int x1, .int x2, .int x3] : List Value).toArray s 0 0 (mA h)) Q depths owners roofs rate undos undoMany drawn tape taped place reads read_ row order bestOrder nears isKept keptRoofs kept lanes rowSizes moved := fun r dug deep holes holeMany items H locs pc ls hq hP hS hd => W.iret hx hb hr (fun t ht hW => ⟨⟨r, (dug, deep, holes, holeMany, items), rfl, hq, by subst ht; exact hP⟩, hS.F ht⟩) hS.2.2 hd
  unfold wX3_film at hf
  refine lv_iload_n hx hb dX3_film_0 rfl (lv_at hl 1 rfl) ?_
  refine lv_iload_n hx hb dX3_film_1 rfl (lv_at hl 2 rfl) ?_
  refine cs_i (As := [.int x1, .int x2]) (rest := []) S (metX3_isSheet l hf) (lw_S q1567 q1568 q60 q1569) pdX3_isSheet ⟨rfl, rfl⟩ ⟨Nat.le_of_ble_eq_true rfl, Nat.le_of_ble_eq_true rfl⟩ rfl hl.1 rfl (Nat.le_of_ble_eq_true rfl) dX3_film_2 ⟨Nat.zero_le _, Nat.zero_le _⟩ (fun r_2 hf => ?_)
  refine lv_if_ne (tgt := 10) hx hb dX3_film_5 (by decide) (fun c_5 => ?_) (fun c_5 => ?_)
  · replace hf := hf.2 c_5
    refine lv_aload_n hx hb dX3_film_10 rfl (lv_at hl 0 rfl) ?_
    refine cM_v (As := []) (rest := []) S hK rfl hP hS (metX3_look l hj hf) (lw_V q1309 q1311 qs27 q60 q1312) rfl pdX3_look ⟨rfl, rfl⟩ ⟨Nat.le_of_ble_eq_true rfl, Nat.le_of_ble_eq_true rfl⟩ rfl hl.1 rfl (Nat.le_of_ble_eq_true rfl) dX3_film_11 ⟨Nat.zero_le _, Nat.zero_le _⟩ (fun u_11 H locs hf hP hS => ?_)
    obtain ⟨dug_11, deep_11⟩ := u_11
    replace hP : va_P (dC, dI) vwCl (wM h dA depths owners roofs rate undos undoMany drawn dug_11 deep_11 holes holeMany tape taped place reads read_ row order bestOrder nears isKept keptRoofs kept lanes rowSizes items moved) H := hP
    try dsimp only at hf
    refine lv_aload_n hx hb dX3_film_14 rfl (lv_at hl 0 rfl) ?_
    refine cM_v (As := []) (rest := []) S hK rfl hP hS (metX3_findHoles l hj hf) (lw_V q1356 q1358 qs33 q60 q1359) rfl pdX3_findHoles ⟨rfl, rfl⟩ ⟨Nat.le_of_ble_eq_true rfl, Nat.le_of_ble_eq_true rfl⟩ rfl hl.1 rfl (Nat.le_of_ble_eq_true rfl) dX3_film_15 ⟨Nat.zero_le _, Nat.zero_le _⟩ (fun u_15 H locs hf hP hS => ?_)
    obtain ⟨holes_15, holeMany_15⟩ := u_15
    replace hP : va_P (dC, dI) vwCl (wM h dA depths owners roofs rate undos undoMany drawn dug_11 deep_11 holes_15 holeMany_15 tape taped place reads read_ row order bestOrder nears isKept keptRoofs kept lanes rowSizes items moved) H := hP
    try dsimp only at hf
    refine lv_aload_n hx hb dX3_film_18 rfl (lv_at hl 0 rfl) ?_
    refine lv_iload_n hx hb dX3_film_19 rfl (lv_at hl 1 rfl) ?_
    refine lv_iload_n hx hb dX3_film_20 rfl (lv_at hl 2 rfl) ?_
    refine lv_iload_n hx hb dX3_film_21 rfl (lv_at hl 3 rfl) ?_
    refine lv_aload_n hx hb dX3_film_22 rfl (lv_at hl 0 rfl) ?_
    refine gM_holeMany S hK hP dX3_film_23 ?_
    refine cM_i (As := [.int x1, .int x2, .int x3, .int holeMany_15]) (rest := []) S hK rfl hP hS (metX3_lacksRow l hj hf) (lw_V q1578 q1580 qs52 q60 q1581) rfl pdX3_lacksRow ⟨rfl, rfl⟩ ⟨Nat.le_of_ble_eq_true rfl, Nat.le_of_ble_eq_true rfl⟩ rfl hl.1 rfl (Nat.le_of_ble_eq_true rfl) dX3_film_26 ⟨Nat.zero_le _, Nat.zero_le _⟩ (fun r_26 u_26 H locs hf hP hS => ?_)
    replace hP : va_P (dC, dI) vwCl (wM h dA depths owners roofs rate undos undoMany drawn dug_11 deep_11 holes_15 holeMany_15 tape taped place reads read_ row order bestOrder nears isKept keptRoofs kept lanes rowSizes items moved) H := hP
    try dsimp only at hf
    refine lv_istore (lv' := [(4, .int r_26), (0, .ref (h 0)), (1, .int x1), (2, .int x2), (3, .int x3)]) hx hb dX3_film_29 hl (by decide) rfl (fun ls hl => ?_)
    refine lv_iload hx hb dX3_film_31 (lv_at hl 0 rfl) ?_
    refine lv_if_ge (tgt := 39) hx hb dX3_film_33 (by decide) (fun c_33 => ?_) (fun c_33 => ?_)
    · replace hf := hf.1 c_33
      refine lv_iconst (v := 0) hx hb dX3_film_39 (by decide) ?_
      refine lv_istore (lv' := [(5, .int 0), (4, .int r_26), (0, .ref (h 0)), (1, .int x1), (2, .int x2), (3, .int x3)]) hx hb dX3_film_40 hl (by decide) rfl (fun ls hl => ?_)
      obtain ⟨fu, hf⟩ := hf
      exact tX3_film_42 S hK hj hret fu 0 items _ _ _ hf hP hS (lv_sub hl [2, 3, 4, 5, 0] rfl)
    · replace hf := hf.2 c_33
      refine lv_iload hx hb dX3_film_36 (lv_at hl 0 rfl) ?_
      exact hret _ _ _ _ _ _ _ _ _ _ hf hP hS dX3_film_38
  · replace hf := hf.1 c_5
    refine lv_iconst (v := (-1)) hx hb dX3_film_8 (by decide) ?_
    exact hret _ _ _ _ _ _ _ _ _ _ hf hP hS dX3_film_9
/-! HoleCountyModel.miscounted(IIII)I -/
theorem pdX3_miscounted : DscOk yX3_miscounted 4 := by decide +kernel
abbrev rmX3_miscounted : Room := { frames := 3, cells := 0, slots := 0, locals := 71 }
abbrev RX3_miscounted_ : Room := (headSpec (ws_ yX3_miscounted cX3_miscounted 12 (some .int)) rmX3_miscounted).room
section
variable {p : Program} {l : Launch} {e : Env} {s : State} {m : MethodId} {args : Array Value} {below : List Frame} {meth : Method} {c : Code} {Qw : State → Prop} {dC : Nat → ClassId} {dI : Nat → Nat → Nat} {dA : Nat → ClassId} {h : Nat → Nat}
abbrev hrX3_miscounted (p : Program) (l : Launch) (e : Env) (s : State) (m : MethodId) (args : Array Value) (below : List Frame) (meth : Method) (c : Code) (dC : Nat → ClassId) (dI : Nat → Nat → Nat) (dA : Nat → ClassId) (h : Nat → Nat) (Qw : State → Prop) (Q : Int32 → Int64 → Int64 → Prop) (depths : (Nat → Int32)) (owners : (Nat → Int32)) (roofs : Int64) (rate : Int32) (undos : (Nat → Int32)) (undoMany : Int32) (drawn : Int32) (holes : (Nat → Int64)) (holeMany : Int32) (tape : (Nat → Int32)) (taped : Int32) (place : Int32) (reads : Int32) (read_ : (Nat → Int32)) (row : (Nat → Int32)) (order : (Nat → Int32)) (bestOrder : (Nat → Int32)) (nears : (Nat → Int32)) (isKept : Int32) (keptRoofs : Int64) (kept : (Nat → Int32)) (lanes : (Nat → Int32)) (rowSizes : (Nat → Int32)) (items : (Nat → Int64)) (moved : (Nat → Int64)) : Prop := ∀ (r : Int32) (dug : Int64) (deep : Int64) (H : Heap) (locs : List Loc) (pc : Nat) (ls : Array Slot), Q r dug deep → va_P (dC, dI) vwCl (wM h dA depths owners roofs rate undos undoMany drawn dug deep holes holeMany tape taped place reads read_ row order bestOrder nears isKept keptRoofs kept lanes rowSizes items moved) H → va_S (mA h) s.heap H locs → decode cX3_miscounted pc = .ok (.ireturn, 1) → W p l e RX3_miscounted_ s m args below meth c H locs 0 0 Qw (F0 m pc ls [.int r])
def wX3_miscounted_143 (Q : Int32 → Int64 → Int64 → Prop) (k51 : Int32 → Prop) (x1 : Int32) (x3 : Int32) (x4 : Int32) (x6 : Int32) (z0 : Int32) (depths : (Nat → Int32)) (dug : Int64) (deep : Int64) (lanes : (Nat → Int32)) (rowSizes : (Nat → Int32)) (items : (Nat → Int64)) : Prop := ((z0 = 0 → (Q x6 dug deep)) ∧ (¬ z0 = 0 → (∀ x6_153 : Int32, x6_153 = x6 + 1 → (k51 x6_153))))
set_option maxHeartbeats 4000000 in
set_option maxRecDepth 100000 in
theorem tX3_miscounted_143 {Q : Int32 → Int64 → Int64 → Prop} {x1 : Int32} {x3 : Int32} {x4 : Int32} {depths : (Nat → Int32)} {owners : (Nat → Int32)} {roofs : Int64} {rate : Int32} {undos : (Nat → Int32)} {undoMany : Int32} {drawn : Int32} {holes : (Nat → Int64)} {holeMany : Int32} {tape : (Nat → Int32)} {taped : Int32} {place : Int32} {reads : Int32} {read_ : (Nat → Int32)} {row : (Nat → Int32)} {order : (Nat → Int32)} {bestOrder : (Nat → Int32)} {nears : (Nat → Int32)} {isKept : Int32} {keptRoofs : Int64} {kept : (Nat → Int32)} {lanes : (Nat → Int32)} {rowSizes : (Nat → Int32)} {items : (Nat → Int64)} {moved : (Nat → Int64)} {dug : Int64} {deep : Int64} (S : CallFix p m c cX3_miscounted 12 s args lw_all RX3) (hK : va_K (dC, dI) vwCl (tysG dA) s) (hj : mJ h) (hret : hrX3_miscounted p l e s m args below meth c dC dI dA h Qw Q depths owners roofs rate undos undoMany drawn holes holeMany tape taped place reads read_ row order bestOrder nears isKept keptRoofs kept lanes rowSizes items moved) {k51 : Int32 → Prop} (hk51 : ∀ (x6 : Int32) (H : Heap) (locs : List Loc) (ls : Array Slot), k51 x6 → va_P (dC, dI) vwCl (wM h dA depths owners roofs rate undos undoMany drawn dug deep holes holeMany tape taped place reads read_ row order bestOrder nears isKept keptRoofs kept lanes rowSizes items moved) H → va_S (mA h) s.heap H locs → lv_has ls 12 [(0, .ref (h 0)), (1, .int x1), (3, .int x3), (4, .int x4), (6, .int x6)] → W p l e RX3_miscounted_ s m args below meth c H locs 0 0 Qw (F0 m 51 ls [])) : ∀ (x6 : Int32) (z0 : Int32) (H : Heap) (locs : List Loc) (ls : Array Slot), wX3_miscounted_143 Q k51 x1 x3 x4 x6 z0 depths dug deep lanes rowSizes items → va_P (dC, dI) vwCl (wM h dA depths owners roofs rate undos undoMany drawn dug deep holes holeMany tape taped place reads read_ row order bestOrder nears isKept keptRoofs kept lanes rowSizes items moved) H → va_S (mA h) s.heap H locs → lv_has ls 12 [(0, .ref (h 0)), (1, .int x1), (3, .int x3), (4, .int x4), (6, .int x6)] → W p l e RX3_miscounted_ s m args below meth c H locs 0 0 Qw (F0 m 143 ls [.int z0]) := by
  obtain ⟨hx, hb, hml, hown, hts⟩ := id S
  intro x6 z0 H locs ls hf hP hS hl
  unfold wX3_miscounted_143 at hf
  refine lv_istore (lv' := [(11, .int z0), (0, .ref (h 0)), (1, .int x1), (3, .int x3), (4, .int x4), (6, .int x6)]) hx hb dX3_miscounted_143 hl (by decide) rfl (fun ls hl => ?_)
  refine lv_iload hx hb dX3_miscounted_145 (lv_at hl 0 rfl) ?_
  refine lv_if_ne (tgt := 153) hx hb dX3_miscounted_147 (by decide) (fun c_147 => ?_) (fun c_147 => ?_)
  · replace hf := hf.2 c_147
    obtain ⟨x6_153, ex6_153⟩ : ∃ z : Int32, z = x6 + 1 := ⟨_, rfl⟩
    replace hf := hf x6_153 ex6_153
    refine lv_iinc (v := x6_153) (lv' := [(6, .int x6_153), (11, .int z0), (0, .ref (h 0)), (1, .int x1), (3, .int x3), (4, .int x4)]) hx hb dX3_miscounted_153 hl (k := 5) rfl (by rw [ex6_153]; rfl) (by decide) rfl (fun ls hl => ?_)
    refine lv_goto (tgt := 51) hx hb dX3_miscounted_156 (by decide) ?_
    exact hk51 x6_153 _ _ _ hf hP hS (lv_sub hl [2, 3, 4, 5, 0] rfl)
  · replace hf := hf.1 c_147
    refine lv_iload hx hb dX3_miscounted_150 (lv_at hl 5 rfl) ?_
    exact hret _ _ _ _ _ _ _ hf hP hS dX3_miscounted_152
def wX3_miscounted_51 (Q : Int32 → Int64 → Int64 → Prop) (x1 : Int32) (x3 : Int32) (x4 : Int32) (depths : (Nat → Int32)) (dug : Int64) (deep : Int64) (lanes : (Nat → Int32)) (rowSizes : (Nat → Int32)) (items : (Nat → Int64)) : Nat → Int32 → Prop
  | 0, _ => False
  | n + 1, x6 => ((x4 ≤ x6 → (Q (-4) dug deep)) ∧ (¬ x4 ≤ x6 → (vp_in (((36 * x1) + x3) + (2 * x6)) 144 ∧ (∀ x7_74 : Int64, x7_74 = (items ((((36 * x1) + x3) + (2 * x6)) : Int32).toNatClampNeg) → (vp_in ((((36 * x1) + x3) + (2 * x6)) + 1) 144 ∧ (∀ x9_94 : Int64, x9_94 = (items (((((36 * x1) + x3) + (2 * x6)) + 1) : Int32).toNatClampNeg) → (wX3_in (fun r_102 => ((r_102 = 0 → (wX3_miscounted_143 Q (wX3_miscounted_51 Q x1 x3 x4 depths dug deep lanes rowSizes items n) x1 x3 x4 x6 0 depths dug deep lanes rowSizes items)) ∧ (¬ r_102 = 0 → (wX3_has (fun r_115 => ((r_115 = 0 → (wX3_miscounted_143 Q (wX3_miscounted_51 Q x1 x3 x4 depths dug deep lanes rowSizes items n) x1 x3 x4 x6 0 depths dug deep lanes rowSizes items)) ∧ (¬ r_115 = 0 → (wX3_holeAt (fun r_125 => (wX3_ones (fun r_128 => (((r_128 : Int32).toInt64 = x9_94 → (wX3_miscounted_143 Q (wX3_miscounted_51 Q x1 x3 x4 depths dug deep lanes rowSizes items n) x1 x3 x4 x6 1 depths dug deep lanes rowSizes items)) ∧ (¬ (r_128 : Int32).toInt64 = x9_94 → (wX3_miscounted_143 Q (wX3_miscounted_51 Q x1 x3 x4 depths dug deep lanes rowSizes items n) x1 x3 x4 x6 0 depths dug deep lanes rowSizes items)))) r_125)) dug ((x7_74 : Int64).toInt32))))) dug ((x7_74 : Int64).toInt32))))) x7_74 0 35)))))))
set_option maxHeartbeats 4000000 in
set_option maxRecDepth 100000 in
theorem tX3_miscounted_51 {Q : Int32 → Int64 → Int64 → Prop} {x1 : Int32} {x3 : Int32} {x4 : Int32} {depths : (Nat → Int32)} {owners : (Nat → Int32)} {roofs : Int64} {rate : Int32} {undos : (Nat → Int32)} {undoMany : Int32} {drawn : Int32} {dug : Int64} {deep : Int64} {holes : (Nat → Int64)} {holeMany : Int32} {tape : (Nat → Int32)} {taped : Int32} {place : Int32} {reads : Int32} {read_ : (Nat → Int32)} {row : (Nat → Int32)} {order : (Nat → Int32)} {bestOrder : (Nat → Int32)} {nears : (Nat → Int32)} {isKept : Int32} {keptRoofs : Int64} {kept : (Nat → Int32)} {lanes : (Nat → Int32)} {rowSizes : (Nat → Int32)} {items : (Nat → Int64)} {moved : (Nat → Int64)} (S : CallFix p m c cX3_miscounted 12 s args lw_all RX3) (hK : va_K (dC, dI) vwCl (tysG dA) s) (hj : mJ h) (hret : hrX3_miscounted p l e s m args below meth c dC dI dA h Qw Q depths owners roofs rate undos undoMany drawn holes holeMany tape taped place reads read_ row order bestOrder nears isKept keptRoofs kept lanes rowSizes items moved) : ∀ (n : Nat) (x6 : Int32) (H : Heap) (locs : List Loc) (ls : Array Slot), wX3_miscounted_51 Q x1 x3 x4 depths dug deep lanes rowSizes items n x6 → va_P (dC, dI) vwCl (wM h dA depths owners roofs rate undos undoMany drawn dug deep holes holeMany tape taped place reads read_ row order bestOrder nears isKept keptRoofs kept lanes rowSizes items moved) H → va_S (mA h) s.heap H locs → lv_has ls 12 [(0, .ref (h 0)), (1, .int x1), (3, .int x3), (4, .int x4), (6, .int x6)] → W p l e RX3_miscounted_ s m args below meth c H locs 0 0 Qw (F0 m 51 ls []) := by
  obtain ⟨hx, hb, hml, hown, hts⟩ := id S
  intro n
  induction n with
  | zero => intro _ _ _ _ hf; exact hf.elim
  | succ n ih =>
    intro x6 H locs ls hf hP hS hl
    rw [wX3_miscounted_51] at hf
    refine lv_iload hx hb dX3_miscounted_51 (lv_at hl 4 rfl) ?_
    refine lv_iload hx hb dX3_miscounted_53 (lv_at hl 3 rfl) ?_
    refine lv_icmp_ge (tgt := 159) hx hb dX3_miscounted_55 (by decide) (fun c_55 => ?_) (fun c_55 => ?_)
    · replace hf := hf.1 c_55
      refine lv_bipush (v := (-4)) hx hb dX3_miscounted_159 (by decide) ?_
      exact hret _ _ _ _ _ _ _ hf hP hS dX3_miscounted_161
    · replace hf := hf.2 c_55
      refine lv_aload_n hx hb dX3_miscounted_58 rfl (lv_at hl 0 rfl) ?_
      refine gM_items S hK hP dX3_miscounted_59 ?_
      refine lv_bipush (v := 36) hx hb dX3_miscounted_62 (by decide) ?_
      refine lv_iload_n hx hb dX3_miscounted_64 rfl (lv_at hl 1 rfl) ?_
      refine lv_imul hx hb dX3_miscounted_65 ?_
      refine lv_iload_n hx hb dX3_miscounted_66 rfl (lv_at hl 2 rfl) ?_
      refine lv_iadd hx hb dX3_miscounted_67 ?_
      refine lv_iconst (v := 2) hx hb dX3_miscounted_68 (by decide) ?_
      refine lv_iload hx hb dX3_miscounted_69 (lv_at hl 4 rfl) ?_
      refine lv_imul hx hb dX3_miscounted_71 ?_
      refine lv_iadd hx hb dX3_miscounted_72 ?_
      obtain ⟨hin, hf⟩ := hf
      refine lM_items S hK hP hin dX3_miscounted_73 ?_
      refine lv_topl (fun x7_74 ex7_74 => ?_)
      replace hf := hf x7_74 ex7_74
      refine lv_lstore (lv' := [(7, .long x7_74), (0, .ref (h 0)), (1, .int x1), (3, .int x3), (4, .int x4), (6, .int x6)]) hx hb dX3_miscounted_74 hl (by decide) rfl (fun ls hl => ?_)
      refine lv_aload_n hx hb dX3_miscounted_76 rfl (lv_at hl 1 rfl) ?_
      refine gM_items S hK hP dX3_miscounted_77 ?_
      refine lv_bipush (v := 36) hx hb dX3_miscounted_80 (by decide) ?_
      refine lv_iload_n hx hb dX3_miscounted_82 rfl (lv_at hl 2 rfl) ?_
      refine lv_imul hx hb dX3_miscounted_83 ?_
      refine lv_iload_n hx hb dX3_miscounted_84 rfl (lv_at hl 3 rfl) ?_
      refine lv_iadd hx hb dX3_miscounted_85 ?_
      refine lv_iconst (v := 2) hx hb dX3_miscounted_86 (by decide) ?_
      refine lv_iload hx hb dX3_miscounted_87 (lv_at hl 5 rfl) ?_
      refine lv_imul hx hb dX3_miscounted_89 ?_
      refine lv_iadd hx hb dX3_miscounted_90 ?_
      refine lv_iconst (v := 1) hx hb dX3_miscounted_91 (by decide) ?_
      refine lv_iadd hx hb dX3_miscounted_92 ?_
      obtain ⟨hin, hf⟩ := hf
      refine lM_items S hK hP hin dX3_miscounted_93 ?_
      refine lv_topl (fun x9_94 ex9_94 => ?_)
      replace hf := hf x9_94 ex9_94
      refine lv_lstore (lv' := [(9, .long x9_94), (7, .long x7_74), (0, .ref (h 0)), (1, .int x1), (3, .int x3), (4, .int x4), (6, .int x6)]) hx hb dX3_miscounted_94 hl (by decide) rfl (fun ls hl => ?_)
      refine lv_lload hx hb dX3_miscounted_96 (lv_at hl 1 rfl) ?_
      refine lv_lconst (v := 0) hx hb dX3_miscounted_98 (by decide) ?_
      refine lv_ldc2 (v := 35) hx hb hown (hts _ q1267) dX3_miscounted_99 ?_
      refine cs_i (As := [.long x7_74, .long 0, .long 35]) (rest := []) S (metX3_in l hf) (lw_S q1268 q1269 q60 q1270) pdX3_in ⟨rfl, rfl⟩ ⟨Nat.le_of_ble_eq_true rfl, Nat.le_of_ble_eq_true rfl⟩ rfl hl.1 rfl (Nat.le_of_ble_eq_true rfl) dX3_miscounted_102 ⟨Nat.zero_le _, Nat.zero_le _⟩ (fun r_102 hf => ?_)
      refine lv_if_eq (tgt := 142) hx hb dX3_miscounted_105 (by decide) (fun c_105 => ?_) (fun c_105 => ?_)
      · replace hf := hf.1 c_105
        refine lv_iconst (v := 0) hx hb dX3_miscounted_142 (by decide) ?_
        exact tX3_miscounted_143 S hK hj hret ih x6 0 _ _ _ hf hP hS (lv_sub hl [2, 3, 4, 5, 6] rfl)
      · replace hf := hf.2 c_105
        refine lv_aload_n hx hb dX3_miscounted_108 rfl (lv_at hl 2 rfl) ?_
        refine gM_dug S hK hP dX3_miscounted_109 ?_
        refine lv_lload hx hb dX3_miscounted_112 (lv_at hl 1 rfl) ?_
        refine lv_l2i (v := (x7_74 : Int64).toInt32) hx hb dX3_miscounted_114 rfl ?_
        refine cs_i (As := [.long dug, .int (x7_74 : Int64).toInt32]) (rest := []) S (metX3_has l hf) (lw_S q1275 q1276 q60 q1277) pdX3_has ⟨rfl, rfl⟩ ⟨Nat.le_of_ble_eq_true rfl, Nat.le_of_ble_eq_true rfl⟩ rfl hl.1 rfl (Nat.le_of_ble_eq_true rfl) dX3_miscounted_115 ⟨Nat.zero_le _, Nat.zero_le _⟩ (fun r_115 hf => ?_)
        refine lv_if_eq (tgt := 142) hx hb dX3_miscounted_118 (by decide) (fun c_118 => ?_) (fun c_118 => ?_)
        · replace hf := hf.1 c_118
          refine lv_iconst (v := 0) hx hb dX3_miscounted_142 (by decide) ?_
          exact tX3_miscounted_143 S hK hj hret ih x6 0 _ _ _ hf hP hS (lv_sub hl [2, 3, 4, 5, 6] rfl)
        · replace hf := hf.2 c_118
          refine lv_aload_n hx hb dX3_miscounted_121 rfl (lv_at hl 2 rfl) ?_
          refine lv_lload hx hb dX3_miscounted_122 (lv_at hl 1 rfl) ?_
          refine lv_l2i (v := (x7_74 : Int64).toInt32) hx hb dX3_miscounted_124 rfl ?_
          refine cM_l (As := [.int (x7_74 : Int64).toInt32]) (rest := []) S hK rfl hP hS (metX3_holeAt l hj hf) (lw_V q1313 q1315 qs28 q60 q1316) rfl pdX3_holeAt ⟨rfl, rfl⟩ ⟨Nat.le_of_ble_eq_true rfl, Nat.le_of_ble_eq_true rfl⟩ rfl hl.1 rfl (Nat.le_of_ble_eq_true rfl) dX3_miscounted_125 ⟨Nat.zero_le _, Nat.zero_le _⟩ (fun r_125 u_125 H locs hf hP hS => ?_)
          replace hP : va_P (dC, dI) vwCl (wM h dA depths owners roofs rate undos undoMany drawn dug deep holes holeMany tape taped place reads read_ row order bestOrder nears isKept keptRoofs kept lanes rowSizes items moved) H := hP
          try dsimp only at hf
          refine cs_i (As := [.long r_125]) (rest := []) S (metX3_ones l hf) (lw_S q1390 q1391 q60 q1392) pdX3_ones ⟨rfl, rfl⟩ ⟨Nat.le_of_ble_eq_true rfl, Nat.le_of_ble_eq_true rfl⟩ rfl hl.1 rfl (Nat.le_of_ble_eq_true rfl) dX3_miscounted_128 ⟨Nat.zero_le _, Nat.zero_le _⟩ (fun r_128 hf => ?_)
          refine lv_i2l (v := (r_128 : Int32).toInt64) hx hb dX3_miscounted_131 rfl ?_
          refine lv_lload hx hb dX3_miscounted_132 (lv_at hl 0 rfl) ?_
          refine lc_ne (tgt := 142) hx hb dX3_miscounted_134 dX3_miscounted_135 (by decide) (fun c_134 => ?_) (fun c_134 => ?_)
          · replace hf := hf.2 c_134
            refine lv_iconst (v := 0) hx hb dX3_miscounted_142 (by decide) ?_
            exact tX3_miscounted_143 S hK hj hret ih x6 0 _ _ _ hf hP hS (lv_sub hl [2, 3, 4, 5, 6] rfl)
          · replace hf := hf.1 c_134
            refine lv_iconst (v := 1) hx hb dX3_miscounted_138 (by decide) ?_
            refine lv_goto (tgt := 143) hx hb dX3_miscounted_139 (by decide) ?_
            exact tX3_miscounted_143 S hK hj hret ih x6 1 _ _ _ hf hP hS (lv_sub hl [2, 3, 4, 5, 6] rfl)
def wX3_miscounted (Q : Int32 → Int64 → Int64 → Prop) (depths : (Nat → Int32)) (dug : Int64) (deep : Int64) (lanes : (Nat → Int32)) (rowSizes : (Nat → Int32)) (items : (Nat → Int64)) (x1 : Int32) (x2 : Int32) (x3 : Int32) (x4 : Int32) : Prop := (wX3_isSheet (fun r_2 => ((r_2 = 0 → (Q (-1) dug deep)) ∧ (¬ r_2 = 0 → (wX3_in (fun r_15 => ((r_15 = 0 → (Q (-1) dug deep)) ∧ (¬ r_15 = 0 → (wX3_lacksRow (fun r_31 => ((0 ≤ r_31 → (wX3_look (fun dug_45 deep_45 => (∃ fu : Nat, wX3_miscounted_51 Q x1 x3 x4 depths dug_45 deep_45 lanes rowSizes items fu 0)) depths dug deep)) ∧ (¬ 0 ≤ r_31 → (Q r_31 dug deep)))) lanes rowSizes x1 x2 x3 (2 * x4))))) ((x4 : Int32).toInt64) 1 12)))) x1 x2)
end
set_option maxHeartbeats 4000000 in
set_option maxRecDepth 100000 in
theorem metX3_miscounted (l : Launch) {Q : Int32 → Int64 → Int64 → Prop} {depths : (Nat → Int32)} {owners : (Nat → Int32)} {roofs : Int64} {rate : Int32} {undos : (Nat → Int32)} {undoMany : Int32} {drawn : Int32} {dug : Int64} {deep : Int64} {holes : (Nat → Int64)} {holeMany : Int32} {tape : (Nat → Int32)} {taped : Int32} {place : Int32} {reads : Int32} {read_ : (Nat → Int32)} {row : (Nat → Int32)} {order : (Nat → Int32)} {bestOrder : (Nat → Int32)} {nears : (Nat → Int32)} {isKept : Int32} {keptRoofs : Int64} {kept : (Nat → Int32)} {lanes : (Nat → Int32)} {rowSizes : (Nat → Int32)} {items : (Nat → Int64)} {moved : (Nat → Int64)} {x1 : Int32} {x2 : Int32} {x3 : Int32} {x4 : Int32} {dC : Nat → ClassId} {dI : Nat → Nat → Nat} {dA : Nat → ClassId} {h : Nat → Nat} (hj : mJ h) (hf : wX3_miscounted Q depths dug deep lanes rowSizes items x1 x2 x3 x4) : Met l yX3_miscounted (ws_ yX3_miscounted cX3_miscounted 12 (some .int)) rmX3_miscounted (mPc dC dI dA h [.int x1, .int x2, .int x3, .int x4] (wM h dA depths owners roofs rate undos undoMany drawn dug deep holes holeMany tape taped place reads read_ row order bestOrder nears isKept keptRoofs kept lanes rowSizes items moved)) (va_Qi (fun (r : Int32) (u : Int64 × Int64) => Q r u.1 u.2) (fun u t => va_P (dC, dI) vwCl (wM h dA depths owners roofs rate undos undoMany drawn u.1 u.2 holes holeMany tape taped place reads read_ row order bestOrder nears isKept keptRoofs kept lanes rowSizes items moved) t.heap) (mA h)) 0 0 (mA h) := by
  refine Met.ofW (cc := cX3_miscounted) (maxL := 12) (ret := (some .int)) (by decide) rfl ?_
  intro p e s m args below meth c s₁ B hml hv
  obtain ⟨rfl, hP, hK⟩ := hv
  have hx := B.exec
  have hb := B.bytes
  have hr := B.returns
  have hts := atoms_spec (ws := (ws_ yX3_miscounted cX3_miscounted 12 (some .int))) B.pre
  have hts : ∀ w ∈ lw_all, w.before _ s = true := fun w h => hts w (List.mem_cons_of_mem _ h)
  have hown : s.vm.findClass RX3 = some m.cls := findClass_of_methodNamed B.named
  have hlocks := B.notSynchronized
  have S : CallFix p m c cX3_miscounted 12 s _ lw_all RX3 := ⟨hx, hb, hml, hown, hts⟩
  have hS : va_S (mA h) s.heap s.heap [] := va_S.rf
  have hl := lv_entry ([.ref (h 0), .int x1, .int x2, .int x3, .int x4]) (n := 12) (Nat.le_of_ble_eq_true rfl)
  rw [lg_entry_eq]
  generalize (lg_sl ([.ref (h 0), .int x1, .int x2, .int x3, .int x4]) ++ List.replicate (12 - (lg_sl ([.ref (h 0), .int x1, .int x2, .int x3, .int x4])).length) Slot.unset).toArray = ls at hl ⊢
  replace hl : lv_has ls 12 [(0, .ref (h 0)), (1, .int x1), (2, .int x2), (3, .int x3), (4, .int x4)] := hl
  have hret : hrX3_miscounted p l e s m ([.ref (h 0), .int x1, .int x2, .int x3, .int x4] : List Value).toArray below meth c dC dI dA h (MQ below (va_Qi (fun (r : Int32) (u : Int64 × Int64) => Q r u.1 u.2) (fun u t => va_P (dC, dI) vwCl (wM h dA depths owners roofs rate undos undoMany drawn u.1 u.2 holes holeMany tape taped place reads read_ row order bestOrder nears isKept keptRoofs kept lanes rowSizes items moved) t.heap) (mA h)) ([.ref (h 0), .int x1, .int x2, .int x3, .int x4] : List Value).toArray s 0 0 (mA h)) Q depths owners roofs rate undos undoMany drawn holes holeMany tape taped place reads read_ row order bestOrder nears isKept keptRoofs kept lanes rowSizes items moved := fun r dug deep H locs pc ls hq hP hS hd => W.iret hx hb hr (fun t ht hW => ⟨⟨r, (dug, deep), rfl, hq, by subst ht; exact hP⟩, hS.F ht⟩) hS.2.2 hd
  unfold wX3_miscounted at hf
  refine lv_iload_n hx hb dX3_miscounted_0 rfl (lv_at hl 1 rfl) ?_
  refine lv_iload_n hx hb dX3_miscounted_1 rfl (lv_at hl 2 rfl) ?_
  refine cs_i (As := [.int x1, .int x2]) (rest := []) S (metX3_isSheet l hf) (lw_S q1567 q1568 q60 q1569) pdX3_isSheet ⟨rfl, rfl⟩ ⟨Nat.le_of_ble_eq_true rfl, Nat.le_of_ble_eq_true rfl⟩ rfl hl.1 rfl (Nat.le_of_ble_eq_true rfl) dX3_miscounted_2 ⟨Nat.zero_le _, Nat.zero_le _⟩ (fun r_2 hf => ?_)
  refine lv_if_eq (tgt := 21) hx hb dX3_miscounted_5 (by decide) (fun c_5 => ?_) (fun c_5 => ?_)
  · replace hf := hf.1 c_5
    refine lv_iconst (v := (-1)) hx hb dX3_miscounted_21 (by decide) ?_
    exact hret _ _ _ _ _ _ _ hf hP hS dX3_miscounted_22
  · replace hf := hf.2 c_5
    refine lv_iload hx hb dX3_miscounted_8 (lv_at hl 4 rfl) ?_
    refine lv_i2l (v := (x4 : Int32).toInt64) hx hb dX3_miscounted_10 rfl ?_
    refine lv_lconst (v := 1) hx hb dX3_miscounted_11 (by decide) ?_
    refine lv_ldc2 (v := 12) hx hb hown (hts _ q1597) dX3_miscounted_12 ?_
    refine cs_i (As := [.long (x4 : Int32).toInt64, .long 1, .long 12]) (rest := []) S (metX3_in l hf) (lw_S q1268 q1269 q60 q1270) pdX3_in ⟨rfl, rfl⟩ ⟨Nat.le_of_ble_eq_true rfl, Nat.le_of_ble_eq_true rfl⟩ rfl hl.1 rfl (Nat.le_of_ble_eq_true rfl) dX3_miscounted_15 ⟨Nat.zero_le _, Nat.zero_le _⟩ (fun r_15 hf => ?_)
    refine lv_if_ne (tgt := 23) hx hb dX3_miscounted_18 (by decide) (fun c_18 => ?_) (fun c_18 => ?_)
    · replace hf := hf.2 c_18
      refine lv_aload_n hx hb dX3_miscounted_23 rfl (lv_at hl 0 rfl) ?_
      refine lv_iload_n hx hb dX3_miscounted_24 rfl (lv_at hl 1 rfl) ?_
      refine lv_iload_n hx hb dX3_miscounted_25 rfl (lv_at hl 2 rfl) ?_
      refine lv_iload_n hx hb dX3_miscounted_26 rfl (lv_at hl 3 rfl) ?_
      refine lv_iconst (v := 2) hx hb dX3_miscounted_27 (by decide) ?_
      refine lv_iload hx hb dX3_miscounted_28 (lv_at hl 4 rfl) ?_
      refine lv_imul hx hb dX3_miscounted_30 ?_
      refine cM_i (As := [.int x1, .int x2, .int x3, .int (2 * x4)]) (rest := []) S hK rfl hP hS (metX3_lacksRow l hj hf) (lw_V q1578 q1580 qs52 q60 q1581) rfl pdX3_lacksRow ⟨rfl, rfl⟩ ⟨Nat.le_of_ble_eq_true rfl, Nat.le_of_ble_eq_true rfl⟩ rfl hl.1 rfl (Nat.le_of_ble_eq_true rfl) dX3_miscounted_31 ⟨Nat.zero_le _, Nat.zero_le _⟩ (fun r_31 u_31 H locs hf hP hS => ?_)
      replace hP : va_P (dC, dI) vwCl (wM h dA depths owners roofs rate undos undoMany drawn dug deep holes holeMany tape taped place reads read_ row order bestOrder nears isKept keptRoofs kept lanes rowSizes items moved) H := hP
      try dsimp only at hf
      refine lv_istore (lv' := [(5, .int r_31), (0, .ref (h 0)), (1, .int x1), (2, .int x2), (3, .int x3), (4, .int x4)]) hx hb dX3_miscounted_34 hl (by decide) rfl (fun ls hl => ?_)
      refine lv_iload hx hb dX3_miscounted_36 (lv_at hl 0 rfl) ?_
      refine lv_if_ge (tgt := 44) hx hb dX3_miscounted_38 (by decide) (fun c_38 => ?_) (fun c_38 => ?_)
      · replace hf := hf.1 c_38
        refine lv_aload_n hx hb dX3_miscounted_44 rfl (lv_at hl 1 rfl) ?_
        refine cM_v (As := []) (rest := []) S hK rfl hP hS (metX3_look l hj hf) (lw_V q1309 q1311 qs27 q60 q1312) rfl pdX3_look ⟨rfl, rfl⟩ ⟨Nat.le_of_ble_eq_true rfl, Nat.le_of_ble_eq_true rfl⟩ rfl hl.1 rfl (Nat.le_of_ble_eq_true rfl) dX3_miscounted_45 ⟨Nat.zero_le _, Nat.zero_le _⟩ (fun u_45 H locs hf hP hS => ?_)
        obtain ⟨dug_45, deep_45⟩ := u_45
        replace hP : va_P (dC, dI) vwCl (wM h dA depths owners roofs rate undos undoMany drawn dug_45 deep_45 holes holeMany tape taped place reads read_ row order bestOrder nears isKept keptRoofs kept lanes rowSizes items moved) H := hP
        try dsimp only at hf
        refine lv_iconst (v := 0) hx hb dX3_miscounted_48 (by decide) ?_
        refine lv_istore (lv' := [(6, .int 0), (5, .int r_31), (0, .ref (h 0)), (1, .int x1), (2, .int x2), (3, .int x3), (4, .int x4)]) hx hb dX3_miscounted_49 hl (by decide) rfl (fun ls hl => ?_)
        obtain ⟨fu, hf⟩ := hf
        exact tX3_miscounted_51 S hK hj hret fu 0 _ _ _ hf hP hS (lv_sub hl [2, 3, 5, 6, 0] rfl)
      · replace hf := hf.2 c_38
        refine lv_iload hx hb dX3_miscounted_41 (lv_at hl 0 rfl) ?_
        exact hret _ _ _ _ _ _ _ hf hP hS dX3_miscounted_43
    · replace hf := hf.1 c_18
      refine lv_iconst (v := (-1)) hx hb dX3_miscounted_21 (by decide) ?_
      exact hret _ _ _ _ _ _ _ hf hP hS dX3_miscounted_22
/-! HoleCountyModel.copy(IIIII)I -/
theorem pdX3_copy : DscOk yX3_copy 5 := by decide +kernel
abbrev rmX3_copy : Room := { frames := 1, cells := 0, slots := 0, locals := 25 }
abbrev RX3_copy_ : Room := (headSpec (ws_ yX3_copy cX3_copy 7 (some .int)) rmX3_copy).room
section
variable {p : Program} {l : Launch} {e : Env} {s : State} {m : MethodId} {args : Array Value} {below : List Frame} {meth : Method} {c : Code} {Qw : State → Prop} {dC : Nat → ClassId} {dI : Nat → Nat → Nat} {dA : Nat → ClassId} {h : Nat → Nat}
abbrev hrX3_copy (p : Program) (l : Launch) (e : Env) (s : State) (m : MethodId) (args : Array Value) (below : List Frame) (meth : Method) (c : Code) (dC : Nat → ClassId) (dI : Nat → Nat → Nat) (dA : Nat → ClassId) (h : Nat → Nat) (Qw : State → Prop) (Q : Int32 → (Nat → Int64) → (Nat → Int64) → Prop) (depths : (Nat → Int32)) (owners : (Nat → Int32)) (roofs : Int64) (rate : Int32) (undos : (Nat → Int32)) (undoMany : Int32) (drawn : Int32) (dug : Int64) (deep : Int64) (holes : (Nat → Int64)) (holeMany : Int32) (tape : (Nat → Int32)) (taped : Int32) (place : Int32) (reads : Int32) (read_ : (Nat → Int32)) (row : (Nat → Int32)) (order : (Nat → Int32)) (bestOrder : (Nat → Int32)) (nears : (Nat → Int32)) (isKept : Int32) (keptRoofs : Int64) (kept : (Nat → Int32)) (lanes : (Nat → Int32)) (rowSizes : (Nat → Int32)) : Prop := ∀ (r : Int32) (items : (Nat → Int64)) (moved : (Nat → Int64)) (H : Heap) (locs : List Loc) (pc : Nat) (ls : Array Slot), Q r items moved → va_P (dC, dI) vwCl (wM h dA depths owners roofs rate undos undoMany drawn dug deep holes holeMany tape taped place reads read_ row order bestOrder nears isKept keptRoofs kept lanes rowSizes items moved) H → va_S (mA h) s.heap H locs → decode cX3_copy pc = .ok (.ireturn, 1) → W p l e RX3_copy_ s m args below meth c H locs 0 0 Qw (F0 m pc ls [.int r])
def wX3_copy_154 (Q : Int32 → (Nat → Int64) → (Nat → Int64) → Prop) (x3 : Int32) (x4 : Int32) (x5 : Int32) (lanes : (Nat → Int32)) (rowSizes : (Nat → Int32)) (moved : (Nat → Int64)) : Nat → Int32 → (Nat → Int64) → Prop
  | 0, _, _ => False
  | n + 1, x6, items => ((x5 ≤ x6 → (Q x5 items moved)) ∧ (¬ x5 ≤ x6 → (vp_in x6 36 ∧ (vp_in (((36 * x3) + x4) + x6) 144 ∧ (∀ items_182 : Nat → Int64, items_182 = vp_updL items ((((36 * x3) + x4) + x6) : Int32).toNatClampNeg (moved (x6 : Int32).toNatClampNeg) → (∀ x6_183 : Int32, x6_183 = x6 + 1 → ((wX3_copy_154 Q x3 x4 x5 lanes rowSizes moved n) x6_183 items_182)))))))
set_option maxHeartbeats 4000000 in
set_option maxRecDepth 100000 in
theorem tX3_copy_154 {Q : Int32 → (Nat → Int64) → (Nat → Int64) → Prop} {x3 : Int32} {x4 : Int32} {x5 : Int32} {depths : (Nat → Int32)} {owners : (Nat → Int32)} {roofs : Int64} {rate : Int32} {undos : (Nat → Int32)} {undoMany : Int32} {drawn : Int32} {dug : Int64} {deep : Int64} {holes : (Nat → Int64)} {holeMany : Int32} {tape : (Nat → Int32)} {taped : Int32} {place : Int32} {reads : Int32} {read_ : (Nat → Int32)} {row : (Nat → Int32)} {order : (Nat → Int32)} {bestOrder : (Nat → Int32)} {nears : (Nat → Int32)} {isKept : Int32} {keptRoofs : Int64} {kept : (Nat → Int32)} {lanes : (Nat → Int32)} {rowSizes : (Nat → Int32)} {moved : (Nat → Int64)} (S : CallFix p m c cX3_copy 7 s args lw_all RX3) (hK : va_K (dC, dI) vwCl (tysG dA) s) (hj : mJ h) (hret : hrX3_copy p l e s m args below meth c dC dI dA h Qw Q depths owners roofs rate undos undoMany drawn dug deep holes holeMany tape taped place reads read_ row order bestOrder nears isKept keptRoofs kept lanes rowSizes) : ∀ (n : Nat) (x6 : Int32) (items : (Nat → Int64)) (H : Heap) (locs : List Loc) (ls : Array Slot), wX3_copy_154 Q x3 x4 x5 lanes rowSizes moved n x6 items → va_P (dC, dI) vwCl (wM h dA depths owners roofs rate undos undoMany drawn dug deep holes holeMany tape taped place reads read_ row order bestOrder nears isKept keptRoofs kept lanes rowSizes items moved) H → va_S (mA h) s.heap H locs → lv_has ls 7 [(0, .ref (h 0)), (3, .int x3), (4, .int x4), (5, .int x5), (6, .int x6)] → W p l e RX3_copy_ s m args below meth c H locs 0 0 Qw (F0 m 154 ls []) := by
  obtain ⟨hx, hb, hml, hown, hts⟩ := id S
  intro n
  induction n with
  | zero => intro _ _ _ _ _ hf; exact hf.elim
  | succ n ih =>
    intro x6 items H locs ls hf hP hS hl
    rw [wX3_copy_154] at hf
    refine lv_iload hx hb dX3_copy_154 (lv_at hl 4 rfl) ?_
    refine lv_iload hx hb dX3_copy_156 (lv_at hl 3 rfl) ?_
    refine lv_icmp_ge (tgt := 189) hx hb dX3_copy_158 (by decide) (fun c_158 => ?_) (fun c_158 => ?_)
    · replace hf := hf.1 c_158
      refine lv_iload hx hb dX3_copy_189 (lv_at hl 3 rfl) ?_
      exact hret _ _ _ _ _ _ _ hf hP hS dX3_copy_191
    · replace hf := hf.2 c_158
      refine lv_aload_n hx hb dX3_copy_161 rfl (lv_at hl 0 rfl) ?_
      refine gM_items S hK hP dX3_copy_162 ?_
      refine lv_bipush (v := 36) hx hb dX3_copy_165 (by decide) ?_
      refine lv_iload_n hx hb dX3_copy_167 rfl (lv_at hl 1 rfl) ?_
      refine lv_imul hx hb dX3_copy_168 ?_
      refine lv_iload hx hb dX3_copy_169 (lv_at hl 2 rfl) ?_
      refine lv_iadd hx hb dX3_copy_171 ?_
      refine lv_iload hx hb dX3_copy_172 (lv_at hl 4 rfl) ?_
      refine lv_iadd hx hb dX3_copy_174 ?_
      refine lv_aload_n hx hb dX3_copy_175 rfl (lv_at hl 0 rfl) ?_
      refine gM_moved S hK hP dX3_copy_176 ?_
      refine lv_iload hx hb dX3_copy_179 (lv_at hl 4 rfl) ?_
      obtain ⟨hin, hf⟩ := hf
      refine lM_moved S hK hP hin dX3_copy_181 ?_
      obtain ⟨hin, hf⟩ := hf
      obtain ⟨items_182, eitems_182⟩ : ∃ z : Nat → Int64, z = vp_updL items ((((36 * x3) + x4) + x6) : Int32).toNatClampNeg (moved (x6 : Int32).toNatClampNeg) := ⟨_, rfl⟩
      replace hf := hf items_182 eitems_182
      refine sM_items S hK hj hP hS hin eitems_182 dX3_copy_182 (fun H locs hP hS => ?_)
      obtain ⟨x6_183, ex6_183⟩ : ∃ z : Int32, z = x6 + 1 := ⟨_, rfl⟩
      replace hf := hf x6_183 ex6_183
      refine lv_iinc (v := x6_183) (lv' := [(6, .int x6_183), (0, .ref (h 0)), (3, .int x3), (4, .int x4), (5, .int x5)]) hx hb dX3_copy_183 hl (k := 4) rfl (by rw [ex6_183]; rfl) (by decide) rfl (fun ls hl => ?_)
      refine lv_goto (tgt := 154) hx hb dX3_copy_186 (by decide) ?_
      exact ih x6_183 items_182 _ _ _ hf hP hS (lv_sub hl [1, 2, 3, 4, 0] rfl)
def wX3_copy_117 (Q : Int32 → (Nat → Int64) → (Nat → Int64) → Prop) (x1 : Int32) (x2 : Int32) (x3 : Int32) (x4 : Int32) (x5 : Int32) (lanes : (Nat → Int32)) (rowSizes : (Nat → Int32)) (items : (Nat → Int64)) : Nat → Int32 → (Nat → Int64) → Prop
  | 0, _, _ => False
  | n + 1, x6, moved => ((x5 ≤ x6 → (∃ fu : Nat, wX3_copy_154 Q x3 x4 x5 lanes rowSizes moved fu 0 items)) ∧ (¬ x5 ≤ x6 → (vp_in (((36 * x1) + x2) + x6) 144 ∧ (vp_in x6 36 ∧ (∀ moved_144 : Nat → Int64, moved_144 = vp_updL moved (x6 : Int32).toNatClampNeg (items ((((36 * x1) + x2) + x6) : Int32).toNatClampNeg) → (∀ x6_145 : Int32, x6_145 = x6 + 1 → ((wX3_copy_117 Q x1 x2 x3 x4 x5 lanes rowSizes items n) x6_145 moved_144)))))))
set_option maxHeartbeats 4000000 in
set_option maxRecDepth 100000 in
theorem tX3_copy_117 {Q : Int32 → (Nat → Int64) → (Nat → Int64) → Prop} {x1 : Int32} {x2 : Int32} {x3 : Int32} {x4 : Int32} {x5 : Int32} {depths : (Nat → Int32)} {owners : (Nat → Int32)} {roofs : Int64} {rate : Int32} {undos : (Nat → Int32)} {undoMany : Int32} {drawn : Int32} {dug : Int64} {deep : Int64} {holes : (Nat → Int64)} {holeMany : Int32} {tape : (Nat → Int32)} {taped : Int32} {place : Int32} {reads : Int32} {read_ : (Nat → Int32)} {row : (Nat → Int32)} {order : (Nat → Int32)} {bestOrder : (Nat → Int32)} {nears : (Nat → Int32)} {isKept : Int32} {keptRoofs : Int64} {kept : (Nat → Int32)} {lanes : (Nat → Int32)} {rowSizes : (Nat → Int32)} {items : (Nat → Int64)} (S : CallFix p m c cX3_copy 7 s args lw_all RX3) (hK : va_K (dC, dI) vwCl (tysG dA) s) (hj : mJ h) (hret : hrX3_copy p l e s m args below meth c dC dI dA h Qw Q depths owners roofs rate undos undoMany drawn dug deep holes holeMany tape taped place reads read_ row order bestOrder nears isKept keptRoofs kept lanes rowSizes) : ∀ (n : Nat) (x6 : Int32) (moved : (Nat → Int64)) (H : Heap) (locs : List Loc) (ls : Array Slot), wX3_copy_117 Q x1 x2 x3 x4 x5 lanes rowSizes items n x6 moved → va_P (dC, dI) vwCl (wM h dA depths owners roofs rate undos undoMany drawn dug deep holes holeMany tape taped place reads read_ row order bestOrder nears isKept keptRoofs kept lanes rowSizes items moved) H → va_S (mA h) s.heap H locs → lv_has ls 7 [(0, .ref (h 0)), (1, .int x1), (2, .int x2), (3, .int x3), (4, .int x4), (5, .int x5), (6, .int x6)] → W p l e RX3_copy_ s m args below meth c H locs 0 0 Qw (F0 m 117 ls []) := by
  obtain ⟨hx, hb, hml, hown, hts⟩ := id S
  intro n
  induction n with
  | zero => intro _ _ _ _ _ hf; exact hf.elim
  | succ n ih =>
    intro x6 moved H locs ls hf hP hS hl
    rw [wX3_copy_117] at hf
    refine lv_iload hx hb dX3_copy_117 (lv_at hl 6 rfl) ?_
    refine lv_iload hx hb dX3_copy_119 (lv_at hl 5 rfl) ?_
    refine lv_icmp_ge (tgt := 151) hx hb dX3_copy_121 (by decide) (fun c_121 => ?_) (fun c_121 => ?_)
    · replace hf := hf.1 c_121
      refine lv_iconst (v := 0) hx hb dX3_copy_151 (by decide) ?_
      refine lv_istore (lv' := [(6, .int 0), (0, .ref (h 0)), (1, .int x1), (2, .int x2), (3, .int x3), (4, .int x4), (5, .int x5)]) hx hb dX3_copy_152 hl (by decide) rfl (fun ls hl => ?_)
      obtain ⟨fu, hf⟩ := hf
      exact tX3_copy_154 S hK hj hret fu 0 items _ _ _ hf hP hS (lv_sub hl [1, 4, 5, 6, 0] rfl)
    · replace hf := hf.2 c_121
      refine lv_aload_n hx hb dX3_copy_124 rfl (lv_at hl 0 rfl) ?_
      refine gM_moved S hK hP dX3_copy_125 ?_
      refine lv_iload hx hb dX3_copy_128 (lv_at hl 6 rfl) ?_
      refine lv_aload_n hx hb dX3_copy_130 rfl (lv_at hl 0 rfl) ?_
      refine gM_items S hK hP dX3_copy_131 ?_
      refine lv_bipush (v := 36) hx hb dX3_copy_134 (by decide) ?_
      refine lv_iload_n hx hb dX3_copy_136 rfl (lv_at hl 1 rfl) ?_
      refine lv_imul hx hb dX3_copy_137 ?_
      refine lv_iload_n hx hb dX3_copy_138 rfl (lv_at hl 2 rfl) ?_
      refine lv_iadd hx hb dX3_copy_139 ?_
      refine lv_iload hx hb dX3_copy_140 (lv_at hl 6 rfl) ?_
      refine lv_iadd hx hb dX3_copy_142 ?_
      obtain ⟨hin, hf⟩ := hf
      refine lM_items S hK hP hin dX3_copy_143 ?_
      obtain ⟨hin, hf⟩ := hf
      obtain ⟨moved_144, emoved_144⟩ : ∃ z : Nat → Int64, z = vp_updL moved (x6 : Int32).toNatClampNeg (items ((((36 * x1) + x2) + x6) : Int32).toNatClampNeg) := ⟨_, rfl⟩
      replace hf := hf moved_144 emoved_144
      refine sM_moved S hK hj hP hS hin emoved_144 dX3_copy_144 (fun H locs hP hS => ?_)
      obtain ⟨x6_145, ex6_145⟩ : ∃ z : Int32, z = x6 + 1 := ⟨_, rfl⟩
      replace hf := hf x6_145 ex6_145
      refine lv_iinc (v := x6_145) (lv' := [(6, .int x6_145), (0, .ref (h 0)), (1, .int x1), (2, .int x2), (3, .int x3), (4, .int x4), (5, .int x5)]) hx hb dX3_copy_145 hl (k := 6) rfl (by rw [ex6_145]; rfl) (by decide) rfl (fun ls hl => ?_)
      refine lv_goto (tgt := 117) hx hb dX3_copy_148 (by decide) ?_
      exact ih x6_145 moved_144 _ _ _ hf hP hS (lv_sub hl [1, 2, 3, 4, 5, 6, 0] rfl)
def wX3_copy (Q : Int32 → (Nat → Int64) → (Nat → Int64) → Prop) (lanes : (Nat → Int32)) (rowSizes : (Nat → Int32)) (items : (Nat → Int64)) (moved : (Nat → Int64)) (x1 : Int32) (x2 : Int32) (x3 : Int32) (x4 : Int32) (x5 : Int32) : Prop := (wX3_in (fun r_6 => ((r_6 = 0 → (Q (-1) items moved)) ∧ (¬ r_6 = 0 → (wX3_in (fun r_18 => ((r_18 = 0 → (Q (-1) items moved)) ∧ (¬ r_18 = 0 → (vp_in x1 4 ∧ (((lanes (x1 : Int32).toNatClampNeg) < 0 → (Q (-11) items moved)) ∧ (¬ (lanes (x1 : Int32).toNatClampNeg) < 0 → (vp_in x3 4 ∧ ((0 ≤ (lanes (x3 : Int32).toNatClampNeg) → (vp_in x1 4 ∧ (vp_in x3 4 ∧ (((lanes (x1 : Int32).toNatClampNeg) = (lanes (x3 : Int32).toNatClampNeg) → ((x5 < 0 → (Q (-13) items moved)) ∧ (¬ x5 < 0 → (vp_in x1 4 ∧ (wX3_in (fun r_84 => ((r_84 = 0 → (Q (-13) items moved)) ∧ (¬ r_84 = 0 → (vp_in x3 4 ∧ (wX3_in (fun r_105 => ((r_105 = 0 → (Q (-13) items moved)) ∧ (¬ r_105 = 0 → (∃ fu : Nat, wX3_copy_117 Q x1 x2 x3 x4 x5 lanes rowSizes items fu 0 moved)))) ((x4 : Int32).toInt64) 0 (((rowSizes (x3 : Int32).toNatClampNeg) : Int32).toInt64 - (x5 : Int32).toInt64)))))) ((x2 : Int32).toInt64) 0 (((rowSizes (x1 : Int32).toNatClampNeg) : Int32).toInt64 - (x5 : Int32).toInt64)))))) ∧ (¬ (lanes (x1 : Int32).toNatClampNeg) = (lanes (x3 : Int32).toNatClampNeg) → (Q (-12) items moved)))))) ∧ (¬ 0 ≤ (lanes (x3 : Int32).toNatClampNeg) → (Q (-11) items moved)))))))))) ((x3 : Int32).toInt64) 0 3)))) ((x1 : Int32).toInt64) 0 3)
end
set_option maxHeartbeats 4000000 in
set_option maxRecDepth 100000 in
theorem metX3_copy (l : Launch) {Q : Int32 → (Nat → Int64) → (Nat → Int64) → Prop} {depths : (Nat → Int32)} {owners : (Nat → Int32)} {roofs : Int64} {rate : Int32} {undos : (Nat → Int32)} {undoMany : Int32} {drawn : Int32} {dug : Int64} {deep : Int64} {holes : (Nat → Int64)} {holeMany : Int32} {tape : (Nat → Int32)} {taped : Int32} {place : Int32} {reads : Int32} {read_ : (Nat → Int32)} {row : (Nat → Int32)} {order : (Nat → Int32)} {bestOrder : (Nat → Int32)} {nears : (Nat → Int32)} {isKept : Int32} {keptRoofs : Int64} {kept : (Nat → Int32)} {lanes : (Nat → Int32)} {rowSizes : (Nat → Int32)} {items : (Nat → Int64)} {moved : (Nat → Int64)} {x1 : Int32} {x2 : Int32} {x3 : Int32} {x4 : Int32} {x5 : Int32} {dC : Nat → ClassId} {dI : Nat → Nat → Nat} {dA : Nat → ClassId} {h : Nat → Nat} (hj : mJ h) (hf : wX3_copy Q lanes rowSizes items moved x1 x2 x3 x4 x5) : Met l yX3_copy (ws_ yX3_copy cX3_copy 7 (some .int)) rmX3_copy (mPc dC dI dA h [.int x1, .int x2, .int x3, .int x4, .int x5] (wM h dA depths owners roofs rate undos undoMany drawn dug deep holes holeMany tape taped place reads read_ row order bestOrder nears isKept keptRoofs kept lanes rowSizes items moved)) (va_Qi (fun (r : Int32) (u : (Nat → Int64) × (Nat → Int64)) => Q r u.1 u.2) (fun u t => va_P (dC, dI) vwCl (wM h dA depths owners roofs rate undos undoMany drawn dug deep holes holeMany tape taped place reads read_ row order bestOrder nears isKept keptRoofs kept lanes rowSizes u.1 u.2) t.heap) (mA h)) 0 0 (mA h) := by
  refine Met.ofW (cc := cX3_copy) (maxL := 7) (ret := (some .int)) (by decide) rfl ?_
  intro p e s m args below meth c s₁ B hml hv
  obtain ⟨rfl, hP, hK⟩ := hv
  have hx := B.exec
  have hb := B.bytes
  have hr := B.returns
  have hts := atoms_spec (ws := (ws_ yX3_copy cX3_copy 7 (some .int))) B.pre
  have hts : ∀ w ∈ lw_all, w.before _ s = true := fun w h => hts w (List.mem_cons_of_mem _ h)
  have hown : s.vm.findClass RX3 = some m.cls := findClass_of_methodNamed B.named
  have hlocks := B.notSynchronized
  have S : CallFix p m c cX3_copy 7 s _ lw_all RX3 := ⟨hx, hb, hml, hown, hts⟩
  have hS : va_S (mA h) s.heap s.heap [] := va_S.rf
  have hl := lv_entry ([.ref (h 0), .int x1, .int x2, .int x3, .int x4, .int x5]) (n := 7) (Nat.le_of_ble_eq_true rfl)
  rw [lg_entry_eq]
  generalize (lg_sl ([.ref (h 0), .int x1, .int x2, .int x3, .int x4, .int x5]) ++ List.replicate (7 - (lg_sl ([.ref (h 0), .int x1, .int x2, .int x3, .int x4, .int x5])).length) Slot.unset).toArray = ls at hl ⊢
  replace hl : lv_has ls 7 [(0, .ref (h 0)), (1, .int x1), (2, .int x2), (3, .int x3), (4, .int x4), (5, .int x5)] := hl
  have hret : hrX3_copy p l e s m ([.ref (h 0), .int x1, .int x2, .int x3, .int x4, .int x5] : List Value).toArray below meth c dC dI dA h (MQ below (va_Qi (fun (r : Int32) (u : (Nat → Int64) × (Nat → Int64)) => Q r u.1 u.2) (fun u t => va_P (dC, dI) vwCl (wM h dA depths owners roofs rate undos undoMany drawn dug deep holes holeMany tape taped place reads read_ row order bestOrder nears isKept keptRoofs kept lanes rowSizes u.1 u.2) t.heap) (mA h)) ([.ref (h 0), .int x1, .int x2, .int x3, .int x4, .int x5] : List Value).toArray s 0 0 (mA h)) Q depths owners roofs rate undos undoMany drawn dug deep holes holeMany tape taped place reads read_ row order bestOrder nears isKept keptRoofs kept lanes rowSizes := fun r items moved H locs pc ls hq hP hS hd => W.iret hx hb hr (fun t ht hW => ⟨⟨r, (items, moved), rfl, hq, by subst ht; exact hP⟩, hS.F ht⟩) hS.2.2 hd
  unfold wX3_copy at hf
  refine lv_iload_n hx hb dX3_copy_0 rfl (lv_at hl 1 rfl) ?_
  refine lv_i2l (v := (x1 : Int32).toInt64) hx hb dX3_copy_1 rfl ?_
  refine lv_lconst (v := 0) hx hb dX3_copy_2 (by decide) ?_
  refine lv_ldc2 (v := 3) hx hb hown (hts _ q1453) dX3_copy_3 ?_
  refine cs_i (As := [.long (x1 : Int32).toInt64, .long 0, .long 3]) (rest := []) S (metX3_in l hf) (lw_S q1268 q1269 q60 q1270) pdX3_in ⟨rfl, rfl⟩ ⟨Nat.le_of_ble_eq_true rfl, Nat.le_of_ble_eq_true rfl⟩ rfl hl.1 rfl (Nat.le_of_ble_eq_true rfl) dX3_copy_6 ⟨Nat.zero_le _, Nat.zero_le _⟩ (fun r_6 hf => ?_)
  refine lv_if_eq (tgt := 24) hx hb dX3_copy_9 (by decide) (fun c_9 => ?_) (fun c_9 => ?_)
  · replace hf := hf.1 c_9
    refine lv_iconst (v := (-1)) hx hb dX3_copy_24 (by decide) ?_
    exact hret _ _ _ _ _ _ _ hf hP hS dX3_copy_25
  · replace hf := hf.2 c_9
    refine lv_iload_n hx hb dX3_copy_12 rfl (lv_at hl 3 rfl) ?_
    refine lv_i2l (v := (x3 : Int32).toInt64) hx hb dX3_copy_13 rfl ?_
    refine lv_lconst (v := 0) hx hb dX3_copy_14 (by decide) ?_
    refine lv_ldc2 (v := 3) hx hb hown (hts _ q1453) dX3_copy_15 ?_
    refine cs_i (As := [.long (x3 : Int32).toInt64, .long 0, .long 3]) (rest := []) S (metX3_in l hf) (lw_S q1268 q1269 q60 q1270) pdX3_in ⟨rfl, rfl⟩ ⟨Nat.le_of_ble_eq_true rfl, Nat.le_of_ble_eq_true rfl⟩ rfl hl.1 rfl (Nat.le_of_ble_eq_true rfl) dX3_copy_18 ⟨Nat.zero_le _, Nat.zero_le _⟩ (fun r_18 hf => ?_)
    refine lv_if_ne (tgt := 26) hx hb dX3_copy_21 (by decide) (fun c_21 => ?_) (fun c_21 => ?_)
    · replace hf := hf.2 c_21
      refine lv_aload_n hx hb dX3_copy_26 rfl (lv_at hl 0 rfl) ?_
      refine gM_lanes S hK hP dX3_copy_27 ?_
      refine lv_iload_n hx hb dX3_copy_30 rfl (lv_at hl 1 rfl) ?_
      obtain ⟨hin, hf⟩ := hf
      refine lM_lanes S hK hP hin dX3_copy_31 ?_
      refine lv_if_lt (tgt := 44) hx hb dX3_copy_32 (by decide) (fun c_32 => ?_) (fun c_32 => ?_)
      · replace hf := hf.1 c_32
        refine lv_bipush (v := (-11)) hx hb dX3_copy_44 (by decide) ?_
        exact hret _ _ _ _ _ _ _ hf hP hS dX3_copy_46
      · replace hf := hf.2 c_32
        refine lv_aload_n hx hb dX3_copy_35 rfl (lv_at hl 0 rfl) ?_
        refine gM_lanes S hK hP dX3_copy_36 ?_
        refine lv_iload_n hx hb dX3_copy_39 rfl (lv_at hl 3 rfl) ?_
        obtain ⟨hin, hf⟩ := hf
        refine lM_lanes S hK hP hin dX3_copy_40 ?_
        refine lv_if_ge (tgt := 47) hx hb dX3_copy_41 (by decide) (fun c_41 => ?_) (fun c_41 => ?_)
        · replace hf := hf.1 c_41
          refine lv_aload_n hx hb dX3_copy_47 rfl (lv_at hl 0 rfl) ?_
          refine gM_lanes S hK hP dX3_copy_48 ?_
          refine lv_iload_n hx hb dX3_copy_51 rfl (lv_at hl 1 rfl) ?_
          obtain ⟨hin, hf⟩ := hf
          refine lM_lanes S hK hP hin dX3_copy_52 ?_
          refine lv_aload_n hx hb dX3_copy_53 rfl (lv_at hl 0 rfl) ?_
          refine gM_lanes S hK hP dX3_copy_54 ?_
          refine lv_iload_n hx hb dX3_copy_57 rfl (lv_at hl 3 rfl) ?_
          obtain ⟨hin, hf⟩ := hf
          refine lM_lanes S hK hP hin dX3_copy_58 ?_
          refine lv_icmp_eq (tgt := 65) hx hb dX3_copy_59 (by decide) (fun c_59 => ?_) (fun c_59 => ?_)
          · replace hf := hf.1 c_59
            refine lv_iload hx hb dX3_copy_65 (lv_at hl 5 rfl) ?_
            refine lv_if_lt (tgt := 111) hx hb dX3_copy_67 (by decide) (fun c_67 => ?_) (fun c_67 => ?_)
            · replace hf := hf.1 c_67
              refine lv_bipush (v := (-13)) hx hb dX3_copy_111 (by decide) ?_
              exact hret _ _ _ _ _ _ _ hf hP hS dX3_copy_113
            · replace hf := hf.2 c_67
              refine lv_iload_n hx hb dX3_copy_70 rfl (lv_at hl 2 rfl) ?_
              refine lv_i2l (v := (x2 : Int32).toInt64) hx hb dX3_copy_71 rfl ?_
              refine lv_lconst (v := 0) hx hb dX3_copy_72 (by decide) ?_
              refine lv_aload_n hx hb dX3_copy_73 rfl (lv_at hl 0 rfl) ?_
              refine gM_rowSizes S hK hP dX3_copy_74 ?_
              refine lv_iload_n hx hb dX3_copy_77 rfl (lv_at hl 1 rfl) ?_
              obtain ⟨hin, hf⟩ := hf
              refine lM_rowSizes S hK hP hin dX3_copy_78 ?_
              refine lv_i2l (v := ((rowSizes (x1 : Int32).toNatClampNeg) : Int32).toInt64) hx hb dX3_copy_79 rfl ?_
              refine lv_iload hx hb dX3_copy_80 (lv_at hl 5 rfl) ?_
              refine lv_i2l (v := (x5 : Int32).toInt64) hx hb dX3_copy_82 rfl ?_
              refine lv_lsub hx hb dX3_copy_83 ?_
              refine cs_i (As := [.long (x2 : Int32).toInt64, .long 0, .long (((rowSizes (x1 : Int32).toNatClampNeg) : Int32).toInt64 - (x5 : Int32).toInt64)]) (rest := []) S (metX3_in l hf) (lw_S q1268 q1269 q60 q1270) pdX3_in ⟨rfl, rfl⟩ ⟨Nat.le_of_ble_eq_true rfl, Nat.le_of_ble_eq_true rfl⟩ rfl hl.1 rfl (Nat.le_of_ble_eq_true rfl) dX3_copy_84 ⟨Nat.zero_le _, Nat.zero_le _⟩ (fun r_84 hf => ?_)
              refine lv_if_eq (tgt := 111) hx hb dX3_copy_87 (by decide) (fun c_87 => ?_) (fun c_87 => ?_)
              · replace hf := hf.1 c_87
                refine lv_bipush (v := (-13)) hx hb dX3_copy_111 (by decide) ?_
                exact hret _ _ _ _ _ _ _ hf hP hS dX3_copy_113
              · replace hf := hf.2 c_87
                refine lv_iload hx hb dX3_copy_90 (lv_at hl 4 rfl) ?_
                refine lv_i2l (v := (x4 : Int32).toInt64) hx hb dX3_copy_92 rfl ?_
                refine lv_lconst (v := 0) hx hb dX3_copy_93 (by decide) ?_
                refine lv_aload_n hx hb dX3_copy_94 rfl (lv_at hl 0 rfl) ?_
                refine gM_rowSizes S hK hP dX3_copy_95 ?_
                refine lv_iload_n hx hb dX3_copy_98 rfl (lv_at hl 3 rfl) ?_
                obtain ⟨hin, hf⟩ := hf
                refine lM_rowSizes S hK hP hin dX3_copy_99 ?_
                refine lv_i2l (v := ((rowSizes (x3 : Int32).toNatClampNeg) : Int32).toInt64) hx hb dX3_copy_100 rfl ?_
                refine lv_iload hx hb dX3_copy_101 (lv_at hl 5 rfl) ?_
                refine lv_i2l (v := (x5 : Int32).toInt64) hx hb dX3_copy_103 rfl ?_
                refine lv_lsub hx hb dX3_copy_104 ?_
                refine cs_i (As := [.long (x4 : Int32).toInt64, .long 0, .long (((rowSizes (x3 : Int32).toNatClampNeg) : Int32).toInt64 - (x5 : Int32).toInt64)]) (rest := []) S (metX3_in l hf) (lw_S q1268 q1269 q60 q1270) pdX3_in ⟨rfl, rfl⟩ ⟨Nat.le_of_ble_eq_true rfl, Nat.le_of_ble_eq_true rfl⟩ rfl hl.1 rfl (Nat.le_of_ble_eq_true rfl) dX3_copy_105 ⟨Nat.zero_le _, Nat.zero_le _⟩ (fun r_105 hf => ?_)
                refine lv_if_ne (tgt := 114) hx hb dX3_copy_108 (by decide) (fun c_108 => ?_) (fun c_108 => ?_)
                · replace hf := hf.2 c_108
                  refine lv_iconst (v := 0) hx hb dX3_copy_114 (by decide) ?_
                  refine lv_istore (lv' := [(6, .int 0), (0, .ref (h 0)), (1, .int x1), (2, .int x2), (3, .int x3), (4, .int x4), (5, .int x5)]) hx hb dX3_copy_115 hl (by decide) rfl (fun ls hl => ?_)
                  obtain ⟨fu, hf⟩ := hf
                  exact tX3_copy_117 S hK hj hret fu 0 moved _ _ _ hf hP hS (lv_sub hl [1, 2, 3, 4, 5, 6, 0] rfl)
                · replace hf := hf.1 c_108
                  refine lv_bipush (v := (-13)) hx hb dX3_copy_111 (by decide) ?_
                  exact hret _ _ _ _ _ _ _ hf hP hS dX3_copy_113
          · replace hf := hf.2 c_59
            refine lv_bipush (v := (-12)) hx hb dX3_copy_62 (by decide) ?_
            exact hret _ _ _ _ _ _ _ hf hP hS dX3_copy_64
        · replace hf := hf.2 c_41
          refine lv_bipush (v := (-11)) hx hb dX3_copy_44 (by decide) ?_
          exact hret _ _ _ _ _ _ _ hf hP hS dX3_copy_46
    · replace hf := hf.1 c_21
      refine lv_iconst (v := (-1)) hx hb dX3_copy_24 (by decide) ?_
      exact hret _ _ _ _ _ _ _ hf hP hS dX3_copy_25
