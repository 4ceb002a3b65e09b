/-! HoleCounty.in(JJJ)Z -/
theorem pdX0_in : DscOk yX0_in 3 := by decide +kernel
abbrev rmX0_in : Room := { frames := 0, cells := 0, slots := 0, locals := 0 }
abbrev RX0_in_ : Room := (headSpec (ws_ yX0_in cX0_in 6 (some .boolean)) rmX0_in).room
section
variable {p : Program} {l : Launch} {e : Env} {s : State} {m : MethodId} {args : Array Value} {below : List Frame} {meth : Method} {c : Code} {Qw : State → Prop} {H : Heap} {locs : List Loc}
abbrev hrX0_in (p : Program) (l : Launch) (e : Env) (s : State) (m : MethodId) (args : Array Value) (below : List Frame) (meth : Method) (c : Code) (H : Heap) (locs : List Loc) (Qw : State → Prop) (Q : Int32 → Prop) : Prop := ∀ (r : Int32) (pc : Nat) (ls : Array Slot), bz r → Q r → decode cX0_in pc = .ok (.ireturn, 1) → W p l e RX0_in_ s m args below meth c H locs 0 0 Qw (F0 m pc ls [.int r])
def wX0_in (Q : Int32 → Prop) (x0 : Int64) (x2 : Int64) (x4 : Int64) : Prop := ((x0 < x2 → (Q 0)) ∧ (¬ x0 < x2 → ((x4 < x0 → (Q 0)) ∧ (¬ x4 < x0 → (Q 1)))))
end
set_option maxHeartbeats 4000000 in
set_option maxRecDepth 100000 in
theorem metX0_in (l : Launch) {Q : Int32 → Prop} {x0 : Int64} {x2 : Int64} {x4 : Int64} (hf : wX0_in Q x0 x2 x4) : Met l yX0_in (ws_ yX0_in cX0_in 6 (some .boolean)) rmX0_in (fun v _ => v = ([.long x0, .long x2, .long x4] : List Value).toArray) (vp_Si Q) 0 0 (fun _ => False) := by
  refine Met.ofW (cc := cX0_in) (maxL := 6) (ret := (some .boolean)) (by decide) rfl ?_
  intro p e s m args below meth c s₁ B hml hv
  subst hv
  have hx := B.exec
  have hb := B.bytes
  have hr := B.returns
  have hts := atoms_spec (ws := (ws_ yX0_in cX0_in 6 (some .boolean))) B.pre
  have hts : ∀ w ∈ lw_all, w.before _ s = true := fun w h => hts w (List.mem_cons_of_mem _ h)
  have hown : s.vm.findClass RX0 = some m.cls := findClass_of_methodNamed B.named
  have hlocks := B.notSynchronized
  have S : CallFix p m c cX0_in 6 s _ lw_all RX0 := ⟨hx, hb, hml, hown, hts⟩
  have hl := lv_entry ([.long x0, .long x2, .long x4]) (n := 6) (Nat.le_of_ble_eq_true rfl)
  rw [lg_entry_eq]
  generalize (lg_sl ([.long x0, .long x2, .long x4]) ++ List.replicate (6 - (lg_sl ([.long x0, .long x2, .long x4])).length) Slot.unset).toArray = ls at hl ⊢
  replace hl : lv_has ls 6 [(0, .long x0), (2, .long x2), (4, .long x4)] := hl
  have hret : hrX0_in p l e s m ([.long x0, .long x2, .long x4] : List Value).toArray below meth c s.heap [] (MQ below (vp_Si Q) ([.long x0, .long x2, .long x4] : List Value).toArray s 0 0 (fun _ => False)) Q := fun r pc ls hz hq hd => W.zret hx hb hr hz.1 (fun t ht hW => ⟨r, rfl, hq, ht⟩) t_nil hd
  unfold wX0_in at hf
  refine lv_lload_n hx hb dX0_in_0 rfl (lv_at hl 0 rfl) ?_
  refine lv_lload_n hx hb dX0_in_1 rfl (lv_at hl 1 rfl) ?_
  refine lc_lt (tgt := 17) hx hb dX0_in_2 dX0_in_3 (by decide) (fun c_2 => ?_) (fun c_2 => ?_)
  · replace hf := hf.1 c_2
    refine lv_iconst (v := 0) hx hb dX0_in_17 (by decide) ?_
    exact hret _ _ _ bz0 hf dX0_in_18
  · replace hf := hf.2 c_2
    refine lv_lload_n hx hb dX0_in_6 rfl (lv_at hl 0 rfl) ?_
    refine lv_lload hx hb dX0_in_7 (lv_at hl 2 rfl) ?_
    refine lc_gt (tgt := 17) hx hb dX0_in_9 dX0_in_10 (by decide) (fun c_9 => ?_) (fun c_9 => ?_)
    · replace hf := hf.1 c_9
      refine lv_iconst (v := 0) hx hb dX0_in_17 (by decide) ?_
      exact hret _ _ _ bz0 hf dX0_in_18
    · replace hf := hf.2 c_9
      refine lv_iconst (v := 1) hx hb dX0_in_13 (by decide) ?_
      refine lv_goto (tgt := 18) hx hb dX0_in_14 (by decide) ?_
      exact hret _ _ _ bz1 hf dX0_in_18
/-! HoleCounty.isCell(I)Z -/
theorem pdX0_isCell : DscOk yX0_isCell 1 := by decide +kernel
abbrev rmX0_isCell : Room := { frames := 1, cells := 0, slots := 0, locals := 25 }
abbrev RX0_isCell_ : Room := (headSpec (ws_ yX0_isCell cX0_isCell 1 (some .boolean)) rmX0_isCell).room
section
variable {p : Program} {l : Launch} {e : Env} {s : State} {m : MethodId} {args : Array Value} {below : List Frame} {meth : Method} {c : Code} {Qw : State → Prop} {H : Heap} {locs : List Loc}
abbrev hrX0_isCell (p : Program) (l : Launch) (e : Env) (s : State) (m : MethodId) (args : Array Value) (below : List Frame) (meth : Method) (c : Code) (H : Heap) (locs : List Loc) (Qw : State → Prop) (Q : Int32 → Prop) : Prop := ∀ (r : Int32) (pc : Nat) (ls : Array Slot), bz r → Q r → decode cX0_isCell pc = .ok (.ireturn, 1) → W p l e RX0_isCell_ s m args below meth c H locs 0 0 Qw (F0 m pc ls [.int r])
def wX0_isCell (Q : Int32 → Prop) (x0 : Int32) : Prop := (wX0_in (fun r_6 => (bz r_6 ∧ (Q r_6))) ((x0 : Int32).toInt64) 0 35)
end
set_option maxHeartbeats 4000000 in
set_option maxRecDepth 100000 in
theorem metX0_isCell (l : Launch) {Q : Int32 → Prop} {x0 : Int32} (hf : wX0_isCell Q x0) : Met l yX0_isCell (ws_ yX0_isCell cX0_isCell 1 (some .boolean)) rmX0_isCell (fun v _ => v = ([.int x0] : List Value).toArray) (vp_Si Q) 0 0 (fun _ => False) := by
  refine Met.ofW (cc := cX0_isCell) (maxL := 1) (ret := (some .boolean)) (by decide) rfl ?_
  intro p e s m args below meth c s₁ B hml hv
  subst hv
  have hx := B.exec
  have hb := B.bytes
  have hr := B.returns
  have hts := atoms_spec (ws := (ws_ yX0_isCell cX0_isCell 1 (some .boolean))) B.pre
  have hts : ∀ w ∈ lw_all, w.before _ s = true := fun w h => hts w (List.mem_cons_of_mem _ h)
  have hown : s.vm.findClass RX0 = some m.cls := findClass_of_methodNamed B.named
  have hlocks := B.notSynchronized
  have S : CallFix p m c cX0_isCell 1 s _ lw_all RX0 := ⟨hx, hb, hml, hown, hts⟩
  have hl := lv_entry ([.int x0]) (n := 1) (Nat.le_of_ble_eq_true rfl)
  rw [lg_entry_eq]
  generalize (lg_sl ([.int x0]) ++ List.replicate (1 - (lg_sl ([.int x0])).length) Slot.unset).toArray = ls at hl ⊢
  replace hl : lv_has ls 1 [(0, .int x0)] := hl
  have hret : hrX0_isCell p l e s m ([.int x0] : List Value).toArray below meth c s.heap [] (MQ below (vp_Si Q) ([.int x0] : List Value).toArray s 0 0 (fun _ => False)) Q := fun r pc ls hz hq hd => W.zret hx hb hr hz.1 (fun t ht hW => ⟨r, rfl, hq, ht⟩) t_nil hd
  unfold wX0_isCell at hf
  refine lv_iload_n hx hb dX0_isCell_0 rfl (lv_at hl 0 rfl) ?_
  refine lv_i2l (v := (x0 : Int32).toInt64) hx hb dX0_isCell_1 rfl ?_
  refine lv_lconst (v := 0) hx hb dX0_isCell_2 (by decide) ?_
  refine lv_ldc2 (v := 35) hx hb hown (hts _ q95) dX0_isCell_3 ?_
  refine cs_i (As := [.long (x0 : Int32).toInt64, .long 0, .long 35]) (rest := []) S (metX0_in l hf) (lw_S q96 q97 q54 q98) pdX0_in ⟨rfl, rfl⟩ ⟨Nat.le_of_ble_eq_true rfl, Nat.le_of_ble_eq_true rfl⟩ rfl hl.1 rfl (Nat.le_of_ble_eq_true rfl) dX0_isCell_6 ⟨Nat.zero_le _, Nat.zero_le _⟩ (fun r_6 hf => ?_)
  obtain ⟨hz, hf⟩ := hf
  exact hret _ _ _ hz hf dX0_isCell_9
/-! HoleCounty.has(JI)Z -/
theorem pdX0_has : DscOk yX0_has 2 := by decide +kernel
abbrev rmX0_has : Room := { frames := 0, cells := 0, slots := 0, locals := 0 }
abbrev RX0_has_ : Room := (headSpec (ws_ yX0_has cX0_has 3 (some .boolean)) rmX0_has).room
section
variable {p : Program} {l : Launch} {e : Env} {s : State} {m : MethodId} {args : Array Value} {below : List Frame} {meth : Method} {c : Code} {Qw : State → Prop} {H : Heap} {locs : List Loc}
abbrev hrX0_has (p : Program) (l : Launch) (e : Env) (s : State) (m : MethodId) (args : Array Value) (below : List Frame) (meth : Method) (c : Code) (H : Heap) (locs : List Loc) (Qw : State → Prop) (Q : Int32 → Prop) : Prop := ∀ (r : Int32) (pc : Nat) (ls : Array Slot), bz r → Q r → decode cX0_has pc = .ok (.ireturn, 1) → W p l e RX0_has_ s m args below meth c H locs 0 0 Qw (F0 m pc ls [.int r])
def wX0_has (Q : Int32 → Prop) (x0 : Int64) (x2 : Int32) : Prop := ((((x0 >>> ((x2 : Int32).toInt64 &&& 63)) &&& 1) = 1 → (Q 1)) ∧ (¬ ((x0 >>> ((x2 : Int32).toInt64 &&& 63)) &&& 1) = 1 → (Q 0)))
end
set_option maxHeartbeats 4000000 in
set_option maxRecDepth 100000 in
theorem metX0_has (l : Launch) {Q : Int32 → Prop} {x0 : Int64} {x2 : Int32} (hf : wX0_has Q x0 x2) : Met l yX0_has (ws_ yX0_has cX0_has 3 (some .boolean)) rmX0_has (fun v _ => v = ([.long x0, .int x2] : List Value).toArray) (vp_Si Q) 0 0 (fun _ => False) := by
  refine Met.ofW (cc := cX0_has) (maxL := 3) (ret := (some .boolean)) (by decide) rfl ?_
  intro p e s m args below meth c s₁ B hml hv
  subst hv
  have hx := B.exec
  have hb := B.bytes
  have hr := B.returns
  have hts := atoms_spec (ws := (ws_ yX0_has cX0_has 3 (some .boolean))) B.pre
  have hts : ∀ w ∈ lw_all, w.before _ s = true := fun w h => hts w (List.mem_cons_of_mem _ h)
  have hown : s.vm.findClass RX0 = some m.cls := findClass_of_methodNamed B.named
  have hlocks := B.notSynchronized
  have S : CallFix p m c cX0_has 3 s _ lw_all RX0 := ⟨hx, hb, hml, hown, hts⟩
  have hl := lv_entry ([.long x0, .int x2]) (n := 3) (Nat.le_of_ble_eq_true rfl)
  rw [lg_entry_eq]
  generalize (lg_sl ([.long x0, .int x2]) ++ List.replicate (3 - (lg_sl ([.long x0, .int x2])).length) Slot.unset).toArray = ls at hl ⊢
  replace hl : lv_has ls 3 [(0, .long x0), (2, .int x2)] := hl
  have hret : hrX0_has p l e s m ([.long x0, .int x2] : List Value).toArray below meth c s.heap [] (MQ below (vp_Si Q) ([.long x0, .int x2] : List Value).toArray s 0 0 (fun _ => False)) Q := fun r pc ls hz hq hd => W.zret hx hb hr hz.1 (fun t ht hW => ⟨r, rfl, hq, ht⟩) t_nil hd
  unfold wX0_has at hf
  refine lv_lload_n hx hb dX0_has_0 rfl (lv_at hl 0 rfl) ?_
  refine lv_iload_n hx hb dX0_has_1 rfl (lv_at hl 1 rfl) ?_
  refine lv_lshr (v := (x0 >>> ((x2 : Int32).toInt64 &&& 63))) hx hb dX0_has_2 rfl ?_
  refine lv_lconst (v := 1) hx hb dX0_has_3 (by decide) ?_
  refine lv_land hx hb dX0_has_4 ?_
  refine lv_lconst (v := 1) hx hb dX0_has_5 (by decide) ?_
  refine lc_ne (tgt := 14) hx hb dX0_has_6 dX0_has_7 (by decide) (fun c_6 => ?_) (fun c_6 => ?_)
  · replace hf := hf.2 c_6
    refine lv_iconst (v := 0) hx hb dX0_has_14 (by decide) ?_
    exact hret _ _ _ bz0 hf dX0_has_15
  · replace hf := hf.1 c_6
    refine lv_iconst (v := 1) hx hb dX0_has_10 (by decide) ?_
    refine lv_goto (tgt := 15) hx hb dX0_has_11 (by decide) ?_
    exact hret _ _ _ bz1 hf dX0_has_15
/-! HoleCounty.size(J)I -/
theorem pdX0_size : DscOk yX0_size 1 := by decide +kernel
abbrev rmX0_size : Room := { frames := 0, cells := 0, slots := 0, locals := 0 }
abbrev RX0_size_ : Room := (headSpec (ws_ yX0_size cX0_size 5 (some .int)) rmX0_size).room
section
variable {p : Program} {l : Launch} {e : Env} {s : State} {m : MethodId} {args : Array Value} {below : List Frame} {meth : Method} {c : Code} {Qw : State → Prop} {H : Heap} {locs : List Loc}
abbrev hrX0_size (p : Program) (l : Launch) (e : Env) (s : State) (m : MethodId) (args : Array Value) (below : List Frame) (meth : Method) (c : Code) (H : Heap) (locs : List Loc) (Qw : State → Prop) (Q : Int32 → Prop) : Prop := ∀ (r : Int32) (pc : Nat) (ls : Array Slot), Q r → decode cX0_size pc = .ok (.ireturn, 1) → W p l e RX0_size_ s m args below meth c H locs 0 0 Qw (F0 m pc ls [.int r])
def wX0_size_4 (Q : Int32 → Prop) : Nat → Int32 → Int64 → Prop
  | 0, _, _ => False
  | n + 1, x2, x3 => ((x3 = 0 → (Q x2)) ∧ (¬ x3 = 0 → (∀ x2_10 : Int32, x2_10 = x2 + 1 → (∀ x3_18 : Int64, x3_18 = (x3 &&& (x3 - 1)) → ((wX0_size_4 Q n) x2_10 x3_18)))))
set_option maxHeartbeats 4000000 in
set_option maxRecDepth 100000 in
theorem tX0_size_4 {Q : Int32 → Prop} (S : CallFix p m c cX0_size 5 s args lw_all RX0) (hret : hrX0_size p l e s m args below meth c H locs Qw Q) : ∀ (n : Nat) (x2 : Int32) (x3 : Int64) (ls : Array Slot), wX0_size_4 Q n x2 x3 → lv_has ls 5 [(2, .int x2), (3, .long x3)] → W p l e RX0_size_ s m args below meth c H locs 0 0 Qw (F0 m 4 ls []) := by
  obtain ⟨hx, hb, hml, hown, hts⟩ := id S
  intro n
  induction n with
  | zero => intro _ _ _ hf; exact hf.elim
  | succ n ih =>
    intro x2 x3 ls hf hl
    rw [wX0_size_4] at hf
    refine lv_lload_n hx hb dX0_size_4 rfl (lv_at hl 1 rfl) ?_
    refine lv_lconst (v := 0) hx hb dX0_size_5 (by decide) ?_
    refine lc_eq (tgt := 22) hx hb dX0_size_6 dX0_size_7 (by decide) (fun c_6 => ?_) (fun c_6 => ?_)
    · replace hf := hf.1 c_6
      refine lv_iload_n hx hb dX0_size_22 rfl (lv_at hl 0 rfl) ?_
      exact hret _ _ _ hf dX0_size_23
    · replace hf := hf.2 c_6
      obtain ⟨x2_10, ex2_10⟩ : ∃ z : Int32, z = x2 + 1 := ⟨_, rfl⟩
      replace hf := hf x2_10 ex2_10
      refine lv_iinc (v := x2_10) (lv' := [(2, .int x2_10), (3, .long x3)]) hx hb dX0_size_10 hl (k := 0) rfl (by rw [ex2_10]; rfl) (by decide) rfl (fun ls hl => ?_)
      refine lv_lload_n hx hb dX0_size_13 rfl (lv_at hl 1 rfl) ?_
      refine lv_lload_n hx hb dX0_size_14 rfl (lv_at hl 1 rfl) ?_
      refine lv_lconst (v := 1) hx hb dX0_size_15 (by decide) ?_
      refine lv_lsub hx hb dX0_size_16 ?_
      refine lv_land hx hb dX0_size_17 ?_
      refine lv_topl (fun x3_18 ex3_18 => ?_)
      replace hf := hf x3_18 ex3_18
      refine lv_lstore_n (lv' := [(3, .long x3_18), (2, .int x2_10)]) hx hb dX0_size_18 rfl hl (by decide) rfl (fun ls hl => ?_)
      refine lv_goto (tgt := 4) hx hb dX0_size_19 (by decide) ?_
      exact ih x2_10 x3_18 _ hf (lv_sub hl [1, 0] rfl)
def wX0_size (Q : Int32 → Prop) (x0 : Int64) : Prop := (∃ fu : Nat, wX0_size_4 Q fu 0 x0)
end
set_option maxHeartbeats 4000000 in
set_option maxRecDepth 100000 in
theorem metX0_size (l : Launch) {Q : Int32 → Prop} {x0 : Int64} (hf : wX0_size Q x0) : Met l yX0_size (ws_ yX0_size cX0_size 5 (some .int)) rmX0_size (fun v _ => v = ([.long x0] : List Value).toArray) (vp_Si Q) 0 0 (fun _ => False) := by
  refine Met.ofW (cc := cX0_size) (maxL := 5) (ret := (some .int)) (by decide) rfl ?_
  intro p e s m args below meth c s₁ B hml hv
  subst hv
  have hx := B.exec
  have hb := B.bytes
  have hr := B.returns
  have hts := atoms_spec (ws := (ws_ yX0_size cX0_size 5 (some .int))) B.pre
  have hts : ∀ w ∈ lw_all, w.before _ s = true := fun w h => hts w (List.mem_cons_of_mem _ h)
  have hown : s.vm.findClass RX0 = some m.cls := findClass_of_methodNamed B.named
  have hlocks := B.notSynchronized
  have S : CallFix p m c cX0_size 5 s _ lw_all RX0 := ⟨hx, hb, hml, hown, hts⟩
  have hl := lv_entry ([.long x0]) (n := 5) (Nat.le_of_ble_eq_true rfl)
  rw [lg_entry_eq]
  generalize (lg_sl ([.long x0]) ++ List.replicate (5 - (lg_sl ([.long x0])).length) Slot.unset).toArray = ls at hl ⊢
  replace hl : lv_has ls 5 [(0, .long x0)] := hl
  have hret : hrX0_size p l e s m ([.long x0] : List Value).toArray below meth c s.heap [] (MQ below (vp_Si Q) ([.long x0] : List Value).toArray s 0 0 (fun _ => False)) Q := fun r pc ls hq hd => W.iret hx hb hr (fun t ht hW => ⟨r, rfl, hq, ht⟩) t_nil hd
  unfold wX0_size at hf
  refine lv_iconst (v := 0) hx hb dX0_size_0 (by decide) ?_
  refine lv_istore_n (lv' := [(2, .int 0), (0, .long x0)]) hx hb dX0_size_1 rfl hl (by decide) rfl (fun ls hl => ?_)
  refine lv_lload_n hx hb dX0_size_2 rfl (lv_at hl 1 rfl) ?_
  refine lv_lstore_n (lv' := [(3, .long x0), (2, .int 0), (0, .long x0)]) hx hb dX0_size_3 rfl hl (by decide) rfl (fun ls hl => ?_)
  obtain ⟨fu, hf⟩ := hf
  exact tX0_size_4 S hret fu 0 x0 _ hf (lv_sub hl [1, 0] rfl)
/-! HoleCounty.least(J)I -/
theorem pdX0_least : DscOk yX0_least 1 := by decide +kernel
abbrev rmX0_least : Room := { frames := 1, cells := 0, slots := 0, locals := 22 }
abbrev RX0_least_ : Room := (headSpec (ws_ yX0_least cX0_least 3 (some .int)) rmX0_least).room
section
variable {p : Program} {l : Launch} {e : Env} {s : State} {m : MethodId} {args : Array Value} {below : List Frame} {meth : Method} {c : Code} {Qw : State → Prop} {H : Heap} {locs : List Loc}
abbrev hrX0_least (p : Program) (l : Launch) (e : Env) (s : State) (m : MethodId) (args : Array Value) (below : List Frame) (meth : Method) (c : Code) (H : Heap) (locs : List Loc) (Qw : State → Prop) (Q : Int32 → Prop) : Prop := ∀ (r : Int32) (pc : Nat) (ls : Array Slot), Q r → decode cX0_least pc = .ok (.ireturn, 1) → W p l e RX0_least_ s m args below meth c H locs 0 0 Qw (F0 m pc ls [.int r])
def wX0_least_2 (Q : Int32 → Prop) (x0 : Int64) : Nat → Int32 → Prop
  | 0, _ => False
  | n + 1, x2 => (wX0_has (fun r_4 => ((r_4 = 0 → (∀ x2_10 : Int32, x2_10 = x2 + 1 → ((wX0_least_2 Q x0 n) x2_10))) ∧ (¬ r_4 = 0 → (Q x2)))) x0 x2)
set_option maxHeartbeats 4000000 in
set_option maxRecDepth 100000 in
theorem tX0_least_2 {Q : Int32 → Prop} {x0 : Int64} (S : CallFix p m c cX0_least 3 s args lw_all RX0) (hret : hrX0_least p l e s m args below meth c H locs Qw Q) : ∀ (n : Nat) (x2 : Int32) (ls : Array Slot), wX0_least_2 Q x0 n x2 → lv_has ls 3 [(0, .long x0), (2, .int x2)] → W p l e RX0_least_ s m args below meth c H locs 0 0 Qw (F0 m 2 ls []) := by
  obtain ⟨hx, hb, hml, hown, hts⟩ := id S
  intro n
  induction n with
  | zero => intro _ _ hf; exact hf.elim
  | succ n ih =>
    intro x2 ls hf hl
    rw [wX0_least_2] at hf
    refine lv_lload_n hx hb dX0_least_2 rfl (lv_at hl 0 rfl) ?_
    refine lv_iload_n hx hb dX0_least_3 rfl (lv_at hl 1 rfl) ?_
    refine cs_i (As := [.long x0, .int x2]) (rest := []) S (metX0_has l hf) (lw_S q225 q108 q54 q109) pdX0_has ⟨rfl, rfl⟩ ⟨Nat.le_of_ble_eq_true rfl, Nat.le_of_ble_eq_true rfl⟩ rfl hl.1 rfl (Nat.le_of_ble_eq_true rfl) dX0_least_4 ⟨Nat.zero_le _, Nat.zero_le _⟩ (fun r_4 hf => ?_)
    refine lv_if_ne (tgt := 16) hx hb dX0_least_7 (by decide) (fun c_7 => ?_) (fun c_7 => ?_)
    · replace hf := hf.2 c_7
      refine lv_iload_n hx hb dX0_least_16 rfl (lv_at hl 1 rfl) ?_
      exact hret _ _ _ hf dX0_least_17
    · replace hf := hf.1 c_7
      obtain ⟨x2_10, ex2_10⟩ : ∃ z : Int32, z = x2 + 1 := ⟨_, rfl⟩
      replace hf := hf x2_10 ex2_10
      refine lv_iinc (v := x2_10) (lv' := [(2, .int x2_10), (0, .long x0)]) hx hb dX0_least_10 hl (k := 1) rfl (by rw [ex2_10]; rfl) (by decide) rfl (fun ls hl => ?_)
      refine lv_goto (tgt := 2) hx hb dX0_least_13 (by decide) ?_
      exact ih x2_10 _ hf (lv_sub hl [1, 0] rfl)
def wX0_least (Q : Int32 → Prop) (x0 : Int64) : Prop := (∃ fu : Nat, wX0_least_2 Q x0 fu 0)
end
set_option maxHeartbeats 4000000 in
set_option maxRecDepth 100000 in
theorem metX0_least (l : Launch) {Q : Int32 → Prop} {x0 : Int64} (hf : wX0_least Q x0) : Met l yX0_least (ws_ yX0_least cX0_least 3 (some .int)) rmX0_least (fun v _ => v = ([.long x0] : List Value).toArray) (vp_Si Q) 0 0 (fun _ => False) := by
  refine Met.ofW (cc := cX0_least) (maxL := 3) (ret := (some .int)) (by decide) rfl ?_
  intro p e s m args below meth c s₁ B hml hv
  subst hv
  have hx := B.exec
  have hb := B.bytes
  have hr := B.returns
  have hts := atoms_spec (ws := (ws_ yX0_least cX0_least 3 (some .int))) B.pre
  have hts : ∀ w ∈ lw_all, w.before _ s = true := fun w h => hts w (List.mem_cons_of_mem _ h)
  have hown : s.vm.findClass RX0 = some m.cls := findClass_of_methodNamed B.named
  have hlocks := B.notSynchronized
  have S : CallFix p m c cX0_least 3 s _ lw_all RX0 := ⟨hx, hb, hml, hown, hts⟩
  have hl := lv_entry ([.long x0]) (n := 3) (Nat.le_of_ble_eq_true rfl)
  rw [lg_entry_eq]
  generalize (lg_sl ([.long x0]) ++ List.replicate (3 - (lg_sl ([.long x0])).length) Slot.unset).toArray = ls at hl ⊢
  replace hl : lv_has ls 3 [(0, .long x0)] := hl
  have hret : hrX0_least p l e s m ([.long x0] : List Value).toArray below meth c s.heap [] (MQ below (vp_Si Q) ([.long x0] : List Value).toArray s 0 0 (fun _ => False)) Q := fun r pc ls hq hd => W.iret hx hb hr (fun t ht hW => ⟨r, rfl, hq, ht⟩) t_nil hd
  unfold wX0_least at hf
  refine lv_iconst (v := 0) hx hb dX0_least_0 (by decide) ?_
  refine lv_istore_n (lv' := [(2, .int 0), (0, .long x0)]) hx hb dX0_least_1 rfl hl (by decide) rfl (fun ls hl => ?_)
  obtain ⟨fu, hf⟩ := hf
  exact tX0_least_2 S hret fu 0 _ hf (lv_sub hl [1, 0] rfl)
/-! HoleCounty.isOwner(I)Z -/
theorem pdX0_isOwner : DscOk yX0_isOwner 1 := by decide +kernel
abbrev rmX0_isOwner : Room := { frames := 1, cells := 0, slots := 0, locals := 25 }
abbrev RX0_isOwner_ : Room := (headSpec (ws_ yX0_isOwner cX0_isOwner 1 (some .boolean)) rmX0_isOwner).room
section
variable {p : Program} {l : Launch} {e : Env} {s : State} {m : MethodId} {args : Array Value} {below : List Frame} {meth : Method} {c : Code} {Qw : State → Prop} {H : Heap} {locs : List Loc}
abbrev hrX0_isOwner (p : Program) (l : Launch) (e : Env) (s : State) (m : MethodId) (args : Array Value) (below : List Frame) (meth : Method) (c : Code) (H : Heap) (locs : List Loc) (Qw : State → Prop) (Q : Int32 → Prop) : Prop := ∀ (r : Int32) (pc : Nat) (ls : Array Slot), bz r → Q r → decode cX0_isOwner pc = .ok (.ireturn, 1) → W p l e RX0_isOwner_ s m args below meth c H locs 0 0 Qw (F0 m pc ls [.int r])
def wX0_isOwner (Q : Int32 → Prop) (x0 : Int32) : Prop := (wX0_in (fun r_6 => (bz r_6 ∧ (Q r_6))) ((x0 : Int32).toInt64) 0 3)
end
set_option maxHeartbeats 4000000 in
set_option maxRecDepth 100000 in
theorem metX0_isOwner (l : Launch) {Q : Int32 → Prop} {x0 : Int32} (hf : wX0_isOwner Q x0) : Met l yX0_isOwner (ws_ yX0_isOwner cX0_isOwner 1 (some .boolean)) rmX0_isOwner (fun v _ => v = ([.int x0] : List Value).toArray) (vp_Si Q) 0 0 (fun _ => False) := by
  refine Met.ofW (cc := cX0_isOwner) (maxL := 1) (ret := (some .boolean)) (by decide) rfl ?_
  intro p e s m args below meth c s₁ B hml hv
  subst hv
  have hx := B.exec
  have hb := B.bytes
  have hr := B.returns
  have hts := atoms_spec (ws := (ws_ yX0_isOwner cX0_isOwner 1 (some .boolean))) B.pre
  have hts : ∀ w ∈ lw_all, w.before _ s = true := fun w h => hts w (List.mem_cons_of_mem _ h)
  have hown : s.vm.findClass RX0 = some m.cls := findClass_of_methodNamed B.named
  have hlocks := B.notSynchronized
  have S : CallFix p m c cX0_isOwner 1 s _ lw_all RX0 := ⟨hx, hb, hml, hown, hts⟩
  have hl := lv_entry ([.int x0]) (n := 1) (Nat.le_of_ble_eq_true rfl)
  rw [lg_entry_eq]
  generalize (lg_sl ([.int x0]) ++ List.replicate (1 - (lg_sl ([.int x0])).length) Slot.unset).toArray = ls at hl ⊢
  replace hl : lv_has ls 1 [(0, .int x0)] := hl
  have hret : hrX0_isOwner p l e s m ([.int x0] : List Value).toArray below meth c s.heap [] (MQ below (vp_Si Q) ([.int x0] : List Value).toArray s 0 0 (fun _ => False)) Q := fun r pc ls hz hq hd => W.zret hx hb hr hz.1 (fun t ht hW => ⟨r, rfl, hq, ht⟩) t_nil hd
  unfold wX0_isOwner at hf
  refine lv_iload_n hx hb dX0_isOwner_0 rfl (lv_at hl 0 rfl) ?_
  refine lv_i2l (v := (x0 : Int32).toInt64) hx hb dX0_isOwner_1 rfl ?_
  refine lv_lconst (v := 0) hx hb dX0_isOwner_2 (by decide) ?_
  refine lv_ldc2 (v := 3) hx hb hown (hts _ q261) dX0_isOwner_3 ?_
  refine cs_i (As := [.long (x0 : Int32).toInt64, .long 0, .long 3]) (rest := []) S (metX0_in l hf) (lw_S q96 q97 q54 q98) pdX0_in ⟨rfl, rfl⟩ ⟨Nat.le_of_ble_eq_true rfl, Nat.le_of_ble_eq_true rfl⟩ rfl hl.1 rfl (Nat.le_of_ble_eq_true rfl) dX0_isOwner_6 ⟨Nat.zero_le _, Nat.zero_le _⟩ (fun r_6 hf => ?_)
  obtain ⟨hz, hf⟩ := hf
  exact hret _ _ _ hz hf dX0_isOwner_9
/-! HoleCounty.found(II)I -/
theorem pdX0_found : DscOk yX0_found 2 := by decide +kernel
abbrev rmX0_found : Room := { frames := 0, cells := 0, slots := 0, locals := 0 }
abbrev RX0_found_ : Room := (headSpec (ws_ yX0_found cX0_found 5 (some .int)) rmX0_found).room
section
variable {p : Program} {l : Launch} {e : Env} {s : State} {m : MethodId} {args : Array Value} {below : List Frame} {meth : Method} {c : Code} {Qw : State → Prop} {H : Heap} {locs : List Loc}
abbrev hrX0_found (p : Program) (l : Launch) (e : Env) (s : State) (m : MethodId) (args : Array Value) (below : List Frame) (meth : Method) (c : Code) (H : Heap) (locs : List Loc) (Qw : State → Prop) (Q : Int32 → Prop) : Prop := ∀ (r : Int32) (pc : Nat) (ls : Array Slot), Q r → decode cX0_found pc = .ok (.ireturn, 1) → W p l e RX0_found_ s m args below meth c H locs 0 0 Qw (F0 m pc ls [.int r])
def wX0_found_56 (Q : Int32 → Prop) (z0 : Int32) : Prop := ((z0 = 99 → (Q (-4))) ∧ (¬ z0 = 99 → (Q z0)))
set_option maxHeartbeats 4000000 in
set_option maxRecDepth 100000 in
theorem tX0_found_56 {Q : Int32 → Prop} (S : CallFix p m c cX0_found 5 s args lw_all RX0) (hret : hrX0_found p l e s m args below meth c H locs Qw Q) : ∀ (z0 : Int32) (ls : Array Slot), wX0_found_56 Q z0 → lv_has ls 5 [] → W p l e RX0_found_ s m args below meth c H locs 0 0 Qw (F0 m 56 ls [.int z0]) := by
  obtain ⟨hx, hb, hml, hown, hts⟩ := id S
  intro z0 ls hf hl
  unfold wX0_found_56 at hf
  refine lv_istore (lv' := [(4, .int z0)]) hx hb dX0_found_56 hl (by decide) rfl (fun ls hl => ?_)
  refine lv_iload hx hb dX0_found_58 (lv_at hl 0 rfl) ?_
  refine lv_bipush (v := 99) hx hb dX0_found_60 (by decide) ?_
  refine lv_icmp_ne (tgt := 70) hx hb dX0_found_62 (by decide) (fun c_62 => ?_) (fun c_62 => ?_)
  · replace hf := hf.2 c_62
    refine lv_iload hx hb dX0_found_70 (lv_at hl 0 rfl) ?_
    exact hret _ _ _ hf dX0_found_72
  · replace hf := hf.1 c_62
    refine lv_bipush (v := (-4)) hx hb dX0_found_65 (by decide) ?_
    refine lv_goto (tgt := 72) hx hb dX0_found_67 (by decide) ?_
    exact hret _ _ _ hf dX0_found_72
def wX0_found_34 (Q : Int32 → Prop) (x3 : Int32) (z0 : Int32) : Prop := ((x3 = 99 → (Q (z0 + 0))) ∧ (¬ x3 = 99 → (Q (z0 + 1))))
set_option maxHeartbeats 4000000 in
set_option maxRecDepth 100000 in
theorem tX0_found_34 {Q : Int32 → Prop} (S : CallFix p m c cX0_found 5 s args lw_all RX0) (hret : hrX0_found p l e s m args below meth c H locs Qw Q) : ∀ (x3 : Int32) (z0 : Int32) (ls : Array Slot), wX0_found_34 Q x3 z0 → lv_has ls 5 [(3, .int x3)] → W p l e RX0_found_ s m args below meth c H locs 0 0 Qw (F0 m 34 ls [.int z0]) := by
  obtain ⟨hx, hb, hml, hown, hts⟩ := id S
  intro x3 z0 ls hf hl
  unfold wX0_found_34 at hf
  refine lv_iload_n hx hb dX0_found_34 rfl (lv_at hl 0 rfl) ?_
  refine lv_bipush (v := 99) hx hb dX0_found_35 (by decide) ?_
  refine lv_icmp_ne (tgt := 44) hx hb dX0_found_37 (by decide) (fun c_37 => ?_) (fun c_37 => ?_)
  · replace hf := hf.2 c_37
    refine lv_iconst (v := 1) hx hb dX0_found_44 (by decide) ?_
    refine lv_iadd hx hb dX0_found_45 ?_
    exact hret _ _ _ hf dX0_found_46
  · replace hf := hf.1 c_37
    refine lv_iconst (v := 0) hx hb dX0_found_40 (by decide) ?_
    refine lv_goto (tgt := 45) hx hb dX0_found_41 (by decide) ?_
    refine lv_iadd hx hb dX0_found_45 ?_
    exact hret _ _ _ hf dX0_found_46
def wX0_found (Q : Int32 → Prop) (x0 : Int32) (x1 : Int32) : Prop := ((x0 = (-4) → (Q (-4))) ∧ (¬ x0 = (-4) → (∀ x2_13 : Int32, x2_13 = (x0 / 100) → (∀ x3_18 : Int32, x3_18 = (x0 - x0 / 100 * 100) → ((0 ≤ x1 → ((x1 = 0 → (wX0_found_56 Q x2_13)) ∧ (¬ x1 = 0 → (wX0_found_56 Q x3_18)))) ∧ (¬ 0 ≤ x1 → ((x2_13 = 99 → (wX0_found_34 Q x3_18 0)) ∧ (¬ x2_13 = 99 → (wX0_found_34 Q x3_18 1)))))))))
end
set_option maxHeartbeats 4000000 in
set_option maxRecDepth 100000 in
theorem metX0_found (l : Launch) {Q : Int32 → Prop} {x0 : Int32} {x1 : Int32} (hf : wX0_found Q x0 x1) : Met l yX0_found (ws_ yX0_found cX0_found 5 (some .int)) rmX0_found (fun v _ => v = ([.int x0, .int x1] : List Value).toArray) (vp_Si Q) 0 0 (fun _ => False) := by
  refine Met.ofW (cc := cX0_found) (maxL := 5) (ret := (some .int)) (by decide) rfl ?_
  intro p e s m args below meth c s₁ B hml hv
  subst hv
  have hx := B.exec
  have hb := B.bytes
  have hr := B.returns
  have hts := atoms_spec (ws := (ws_ yX0_found cX0_found 5 (some .int))) B.pre
  have hts : ∀ w ∈ lw_all, w.before _ s = true := fun w h => hts w (List.mem_cons_of_mem _ h)
  have hown : s.vm.findClass RX0 = some m.cls := findClass_of_methodNamed B.named
  have hlocks := B.notSynchronized
  have S : CallFix p m c cX0_found 5 s _ lw_all RX0 := ⟨hx, hb, hml, hown, hts⟩
  have hl := lv_entry ([.int x0, .int x1]) (n := 5) (Nat.le_of_ble_eq_true rfl)
  rw [lg_entry_eq]
  generalize (lg_sl ([.int x0, .int x1]) ++ List.replicate (5 - (lg_sl ([.int x0, .int x1])).length) Slot.unset).toArray = ls at hl ⊢
  replace hl : lv_has ls 5 [(0, .int x0), (1, .int x1)] := hl
  have hret : hrX0_found p l e s m ([.int x0, .int x1] : List Value).toArray below meth c s.heap [] (MQ below (vp_Si Q) ([.int x0, .int x1] : List Value).toArray s 0 0 (fun _ => False)) Q := fun r pc ls hq hd => W.iret hx hb hr (fun t ht hW => ⟨r, rfl, hq, ht⟩) t_nil hd
  unfold wX0_found at hf
  refine lv_iload_n hx hb dX0_found_0 rfl (lv_at hl 0 rfl) ?_
  refine lv_bipush (v := (-4)) hx hb dX0_found_1 (by decide) ?_
  refine lv_icmp_ne (tgt := 9) hx hb dX0_found_3 (by decide) (fun c_3 => ?_) (fun c_3 => ?_)
  · replace hf := hf.2 c_3
    refine lv_iload_n hx hb dX0_found_9 rfl (lv_at hl 0 rfl) ?_
    refine lv_bipush (v := 100) hx hb dX0_found_10 (by decide) ?_
    refine lv_idiv hx hb dX0_found_12 (by decide) ?_
    refine lv_topi (fun x2_13 ex2_13 => ?_)
    replace hf := hf x2_13 ex2_13
    refine lv_istore_n (lv' := [(2, .int x2_13), (0, .int x0), (1, .int x1)]) hx hb dX0_found_13 rfl hl (by decide) rfl (fun ls hl => ?_)
    refine lv_iload_n hx hb dX0_found_14 rfl (lv_at hl 1 rfl) ?_
    refine lv_bipush (v := 100) hx hb dX0_found_15 (by decide) ?_
    refine lv_irem hx hb dX0_found_17 (by decide) ?_
    refine lv_topi (fun x3_18 ex3_18 => ?_)
    replace hf := hf x3_18 ex3_18
    refine lv_istore_n (lv' := [(3, .int x3_18), (2, .int x2_13), (0, .int x0), (1, .int x1)]) hx hb dX0_found_18 rfl hl (by decide) rfl (fun ls hl => ?_)
    refine lv_iload_n hx hb dX0_found_19 rfl (lv_at hl 3 rfl) ?_
    refine lv_if_ge (tgt := 47) hx hb dX0_found_20 (by decide) (fun c_20 => ?_) (fun c_20 => ?_)
    · replace hf := hf.1 c_20
      refine lv_iload_n hx hb dX0_found_47 rfl (lv_at hl 3 rfl) ?_
      refine lv_if_ne (tgt := 55) hx hb dX0_found_48 (by decide) (fun c_48 => ?_) (fun c_48 => ?_)
      · replace hf := hf.2 c_48
        refine lv_iload_n hx hb dX0_found_55 rfl (lv_at hl 0 rfl) ?_
        exact tX0_found_56 S hret x3_18 _ hf (lv_sub hl [] rfl)
      · replace hf := hf.1 c_48
        refine lv_iload_n hx hb dX0_found_51 rfl (lv_at hl 1 rfl) ?_
        refine lv_goto (tgt := 56) hx hb dX0_found_52 (by decide) ?_
        exact tX0_found_56 S hret x2_13 _ hf (lv_sub hl [] rfl)
    · replace hf := hf.2 c_20
      refine lv_iload_n hx hb dX0_found_23 rfl (lv_at hl 1 rfl) ?_
      refine lv_bipush (v := 99) hx hb dX0_found_24 (by decide) ?_
      refine lv_icmp_ne (tgt := 33) hx hb dX0_found_26 (by decide) (fun c_26 => ?_) (fun c_26 => ?_)
      · replace hf := hf.2 c_26
        refine lv_iconst (v := 1) hx hb dX0_found_33 (by decide) ?_
        exact tX0_found_34 S hret x3_18 1 _ hf (lv_sub hl [0] rfl)
      · replace hf := hf.1 c_26
        refine lv_iconst (v := 0) hx hb dX0_found_29 (by decide) ?_
        refine lv_goto (tgt := 34) hx hb dX0_found_30 (by decide) ?_
        exact tX0_found_34 S hret x3_18 0 _ hf (lv_sub hl [0] rfl)
  · replace hf := hf.1 c_3
    refine lv_bipush (v := (-4)) hx hb dX0_found_6 (by decide) ?_
    exact hret _ _ _ hf dX0_found_8
/-! HoleCounty.apart(II)I -/
theorem pdX0_apart : DscOk yX0_apart 2 := by decide +kernel
abbrev rmX0_apart : Room := { frames := 1, cells := 0, slots := 0, locals := 21 }
abbrev RX0_apart_ : Room := (headSpec (ws_ yX0_apart cX0_apart 2 (some .int)) rmX0_apart).room
section
variable {p : Program} {l : Launch} {e : Env} {s : State} {m : MethodId} {args : Array Value} {below : List Frame} {meth : Method} {c : Code} {Qw : State → Prop} {H : Heap} {locs : List Loc}
abbrev hrX0_apart (p : Program) (l : Launch) (e : Env) (s : State) (m : MethodId) (args : Array Value) (below : List Frame) (meth : Method) (c : Code) (H : Heap) (locs : List Loc) (Qw : State → Prop) (Q : Int32 → Prop) : Prop := ∀ (r : Int32) (pc : Nat) (ls : Array Slot), Q r → decode cX0_apart pc = .ok (.ireturn, 1) → W p l e RX0_apart_ s m args below meth c H locs 0 0 Qw (F0 m pc ls [.int r])
def wX0_apart (Q : Int32 → Prop) (x0 : Int32) (x1 : Int32) : Prop := (Q ((if 0 ≤ ((x0 / 6) - (x1 / 6)) then ((x0 / 6) - (x1 / 6)) else 0 - ((x0 / 6) - (x1 / 6))) + (if 0 ≤ ((x0 - x0 / 6 * 6) - (x1 - x1 / 6 * 6)) then ((x0 - x0 / 6 * 6) - (x1 - x1 / 6 * 6)) else 0 - ((x0 - x0 / 6 * 6) - (x1 - x1 / 6 * 6)))))
end
set_option maxHeartbeats 4000000 in
set_option maxRecDepth 100000 in
theorem metX0_apart (l : Launch) {Q : Int32 → Prop} {x0 : Int32} {x1 : Int32} (hf : wX0_apart Q x0 x1) : Met l yX0_apart (ws_ yX0_apart cX0_apart 2 (some .int)) rmX0_apart (fun v _ => v = ([.int x0, .int x1] : List Value).toArray) (vp_Si Q) 0 0 (fun _ => False) := by
  refine Met.ofW (cc := cX0_apart) (maxL := 2) (ret := (some .int)) (by decide) rfl ?_
  intro p e s m args below meth c s₁ B hml hv
  subst hv
  have hx := B.exec
  have hb := B.bytes
  have hr := B.returns
  have hts := atoms_spec (ws := (ws_ yX0_apart cX0_apart 2 (some .int))) B.pre
  have hts : ∀ w ∈ lw_all, w.before _ s = true := fun w h => hts w (List.mem_cons_of_mem _ h)
  have hown : s.vm.findClass RX0 = some m.cls := findClass_of_methodNamed B.named
  have hlocks := B.notSynchronized
  have S : CallFix p m c cX0_apart 2 s _ lw_all RX0 := ⟨hx, hb, hml, hown, hts⟩
  have hl := lv_entry ([.int x0, .int x1]) (n := 2) (Nat.le_of_ble_eq_true rfl)
  rw [lg_entry_eq]
  generalize (lg_sl ([.int x0, .int x1]) ++ List.replicate (2 - (lg_sl ([.int x0, .int x1])).length) Slot.unset).toArray = ls at hl ⊢
  replace hl : lv_has ls 2 [(0, .int x0), (1, .int x1)] := hl
  have hret : hrX0_apart p l e s m ([.int x0, .int x1] : List Value).toArray below meth c s.heap [] (MQ below (vp_Si Q) ([.int x0, .int x1] : List Value).toArray s 0 0 (fun _ => False)) Q := fun r pc ls hq hd => W.iret hx hb hr (fun t ht hW => ⟨r, rfl, hq, ht⟩) t_nil hd
  unfold wX0_apart at hf
  refine lv_iload_n hx hb dX0_apart_0 rfl (lv_at hl 0 rfl) ?_
  refine lv_bipush (v := 6) hx hb dX0_apart_1 (by decide) ?_
  refine lv_idiv hx hb dX0_apart_3 (by decide) ?_
  refine lv_iload_n hx hb dX0_apart_4 rfl (lv_at hl 1 rfl) ?_
  refine lv_bipush (v := 6) hx hb dX0_apart_5 (by decide) ?_
  refine lv_idiv hx hb dX0_apart_7 (by decide) ?_
  refine lv_isub hx hb dX0_apart_8 ?_
  refine va_mabs hx hb (hml.trans hl.1.symm) hown (hts _ q690) (hts _ q691) (hts _ q66) (hts _ q692) (Nat.le_of_ble_eq_true rfl) (Nat.le_of_ble_eq_true rfl) (Nat.zero_le _) (Nat.zero_le _) dX0_apart_9 ?_
  refine lv_iload_n hx hb dX0_apart_12 rfl (lv_at hl 0 rfl) ?_
  refine lv_bipush (v := 6) hx hb dX0_apart_13 (by decide) ?_
  refine lv_irem hx hb dX0_apart_15 (by decide) ?_
  refine lv_iload_n hx hb dX0_apart_16 rfl (lv_at hl 1 rfl) ?_
  refine lv_bipush (v := 6) hx hb dX0_apart_17 (by decide) ?_
  refine lv_irem hx hb dX0_apart_19 (by decide) ?_
  refine lv_isub hx hb dX0_apart_20 ?_
  refine va_mabs hx hb (hml.trans hl.1.symm) hown (hts _ q690) (hts _ q691) (hts _ q66) (hts _ q692) (Nat.le_of_ble_eq_true rfl) (Nat.le_of_ble_eq_true rfl) (Nat.zero_le _) (Nat.zero_le _) dX0_apart_21 ?_
  refine lv_iadd hx hb dX0_apart_24 ?_
  exact hret _ _ _ hf dX0_apart_25
/-! HoleCounty.nearest(IJ)I -/
theorem pdX0_nearest : DscOk yX0_nearest 2 := by decide +kernel
abbrev rmX0_nearest : Room := { frames := 2, cells := 0, slots := 0, locals := 44 }
abbrev RX0_nearest_ : Room := (headSpec (ws_ yX0_nearest cX0_nearest 7 (some .int)) rmX0_nearest).room
section
variable {p : Program} {l : Launch} {e : Env} {s : State} {m : MethodId} {args : Array Value} {below : List Frame} {meth : Method} {c : Code} {Qw : State → Prop} {H : Heap} {locs : List Loc}
abbrev hrX0_nearest (p : Program) (l : Launch) (e : Env) (s : State) (m : MethodId) (args : Array Value) (below : List Frame) (meth : Method) (c : Code) (H : Heap) (locs : List Loc) (Qw : State → Prop) (Q : Int32 → Prop) : Prop := ∀ (r : Int32) (pc : Nat) (ls : Array Slot), Q r → decode cX0_nearest pc = .ok (.ireturn, 1) → W p l e RX0_nearest_ s m args below meth c H locs 0 0 Qw (F0 m pc ls [.int r])
def wX0_nearest_43 (Q : Int32 → Prop) (k6 : Int32 → Int64 → Prop) (x0 : Int32) (x3 : Int32) (x4 : Int64) : Prop := (∀ x4_50 : Int64, x4_50 = (x4 &&& (x4 - 1)) → (k6 x3 x4_50))
set_option maxHeartbeats 4000000 in
set_option maxRecDepth 100000 in
theorem tX0_nearest_43 {Q : Int32 → Prop} {x0 : Int32} (S : CallFix p m c cX0_nearest 7 s args lw_all RX0) (hret : hrX0_nearest p l e s m args below meth c H locs Qw Q) {k6 : Int32 → Int64 → Prop} (hk6 : ∀ (x3 : Int32) (x4 : Int64) (ls : Array Slot), k6 x3 x4 → lv_has ls 7 [(0, .int x0), (3, .int x3), (4, .long x4)] → W p l e RX0_nearest_ s m args below meth c H locs 0 0 Qw (F0 m 6 ls [])) : ∀ (x3 : Int32) (x4 : Int64) (ls : Array Slot), wX0_nearest_43 Q k6 x0 x3 x4 → lv_has ls 7 [(0, .int x0), (3, .int x3), (4, .long x4)] → W p l e RX0_nearest_ s m args below meth c H locs 0 0 Qw (F0 m 43 ls []) := by
  obtain ⟨hx, hb, hml, hown, hts⟩ := id S
  intro x3 x4 ls hf hl
  unfold wX0_nearest_43 at hf
  refine lv_lload hx hb dX0_nearest_43 (lv_at hl 2 rfl) ?_
  refine lv_lload hx hb dX0_nearest_45 (lv_at hl 2 rfl) ?_
  refine lv_lconst (v := 1) hx hb dX0_nearest_47 (by decide) ?_
  refine lv_lsub hx hb dX0_nearest_48 ?_
  refine lv_land hx hb dX0_nearest_49 ?_
  refine lv_topl (fun x4_50 ex4_50 => ?_)
  replace hf := hf x4_50 ex4_50
  refine lv_lstore (lv' := [(4, .long x4_50), (0, .int x0), (3, .int x3)]) hx hb dX0_nearest_50 hl (by decide) rfl (fun ls hl => ?_)
  refine lv_goto (tgt := 6) hx hb dX0_nearest_52 (by decide) ?_
  exact hk6 x3 x4_50 _ hf (lv_sub hl [1, 2, 0] rfl)
def wX0_nearest_6 (Q : Int32 → Prop) (x0 : Int32) : Nat → Int32 → Int64 → Prop
  | 0, _, _ => False
  | n + 1, x3, x4 => ((x4 = 0 → (Q x3)) ∧ (¬ x4 = 0 → (wX0_least (fun r_15 => ((x3 = (-4) → (wX0_nearest_43 Q (wX0_nearest_6 Q x0 n) x0 r_15 x4)) ∧ (¬ x3 = (-4) → (wX0_apart (fun r_29 => (wX0_apart (fun r_34 => ((r_34 ≤ r_29 → (wX0_nearest_43 Q (wX0_nearest_6 Q x0 n) x0 x3 x4)) ∧ (¬ r_34 ≤ r_29 → (wX0_nearest_43 Q (wX0_nearest_6 Q x0 n) x0 r_15 x4)))) x0 x3)) x0 r_15)))) x4)))
set_option maxHeartbeats 4000000 in
set_option maxRecDepth 100000 in
theorem tX0_nearest_6 {Q : Int32 → Prop} {x0 : Int32} (S : CallFix p m c cX0_nearest 7 s args lw_all RX0) (hret : hrX0_nearest p l e s m args below meth c H locs Qw Q) : ∀ (n : Nat) (x3 : Int32) (x4 : Int64) (ls : Array Slot), wX0_nearest_6 Q x0 n x3 x4 → lv_has ls 7 [(0, .int x0), (3, .int x3), (4, .long x4)] → W p l e RX0_nearest_ s m args below meth c H locs 0 0 Qw (F0 m 6 ls []) := by
  obtain ⟨hx, hb, hml, hown, hts⟩ := id S
  intro n
  induction n with
  | zero => intro _ _ _ hf; exact hf.elim
  | succ n ih =>
    intro x3 x4 ls hf hl
    rw [wX0_nearest_6] at hf
    refine lv_lload hx hb dX0_nearest_6 (lv_at hl 2 rfl) ?_
    refine lv_lconst (v := 0) hx hb dX0_nearest_8 (by decide) ?_
    refine lc_eq (tgt := 55) hx hb dX0_nearest_9 dX0_nearest_10 (by decide) (fun c_9 => ?_) (fun c_9 => ?_)
    · replace hf := hf.1 c_9
      refine lv_iload_n hx hb dX0_nearest_55 rfl (lv_at hl 1 rfl) ?_
      exact hret _ _ _ hf dX0_nearest_56
    · replace hf := hf.2 c_9
      refine lv_lload hx hb dX0_nearest_13 (lv_at hl 2 rfl) ?_
      refine cs_i (As := [.long x4]) (rest := []) S (metX0_least l hf) (lw_S q351 q223 q54 q224) pdX0_least ⟨rfl, rfl⟩ ⟨Nat.le_of_ble_eq_true rfl, Nat.le_of_ble_eq_true rfl⟩ rfl hl.1 rfl (Nat.le_of_ble_eq_true rfl) dX0_nearest_15 ⟨Nat.zero_le _, Nat.zero_le _⟩ (fun r_15 hf => ?_)
      refine lv_istore (lv' := [(6, .int r_15), (0, .int x0), (3, .int x3), (4, .long x4)]) hx hb dX0_nearest_18 hl (by decide) rfl (fun ls hl => ?_)
      refine lv_iload_n hx hb dX0_nearest_20 rfl (lv_at hl 2 rfl) ?_
      refine lv_bipush (v := (-4)) hx hb dX0_nearest_21 (by decide) ?_
      refine lv_icmp_eq (tgt := 40) hx hb dX0_nearest_23 (by decide) (fun c_23 => ?_) (fun c_23 => ?_)
      · replace hf := hf.1 c_23
        refine lv_iload hx hb dX0_nearest_40 (lv_at hl 0 rfl) ?_
        refine lv_istore_n (lv' := [(3, .int r_15), (6, .int r_15), (0, .int x0), (4, .long x4)]) hx hb dX0_nearest_42 rfl hl (by decide) rfl (fun ls hl => ?_)
        exact tX0_nearest_43 S hret ih r_15 x4 _ hf (lv_sub hl [2, 0, 3] rfl)
      · replace hf := hf.2 c_23
        refine lv_iload_n hx hb dX0_nearest_26 rfl (lv_at hl 1 rfl) ?_
        refine lv_iload hx hb dX0_nearest_27 (lv_at hl 0 rfl) ?_
        refine cs_i (As := [.int x0, .int r_15]) (rest := []) S (metX0_apart l hf) (lw_S q687 q688 q54 q689) pdX0_apart ⟨rfl, rfl⟩ ⟨Nat.le_of_ble_eq_true rfl, Nat.le_of_ble_eq_true rfl⟩ rfl hl.1 rfl (Nat.le_of_ble_eq_true rfl) dX0_nearest_29 ⟨Nat.zero_le _, Nat.zero_le _⟩ (fun r_29 hf => ?_)
        refine lv_iload_n hx hb dX0_nearest_32 rfl (lv_at hl 1 rfl) ?_
        refine lv_iload_n hx hb dX0_nearest_33 rfl (lv_at hl 2 rfl) ?_
        refine cs_i (As := [.int x0, .int x3]) (rest := [.int r_29]) S (metX0_apart l hf) (lw_S q687 q688 q54 q689) pdX0_apart ⟨rfl, rfl⟩ ⟨Nat.le_of_ble_eq_true rfl, Nat.le_of_ble_eq_true rfl⟩ rfl hl.1 rfl (Nat.le_of_ble_eq_true rfl) dX0_nearest_34 ⟨Nat.zero_le _, Nat.zero_le _⟩ (fun r_34 hf => ?_)
        refine lv_icmp_ge (tgt := 43) hx hb dX0_nearest_37 (by decide) (fun c_37 => ?_) (fun c_37 => ?_)
        · replace hf := hf.1 c_37
          exact tX0_nearest_43 S hret ih x3 x4 _ hf (lv_sub hl [1, 2, 3] rfl)
        · replace hf := hf.2 c_37
          refine lv_iload hx hb dX0_nearest_40 (lv_at hl 0 rfl) ?_
          refine lv_istore_n (lv' := [(3, .int r_15), (6, .int r_15), (0, .int x0), (4, .long x4)]) hx hb dX0_nearest_42 rfl hl (by decide) rfl (fun ls hl => ?_)
          exact tX0_nearest_43 S hret ih r_15 x4 _ hf (lv_sub hl [2, 0, 3] rfl)
def wX0_nearest (Q : Int32 → Prop) (x0 : Int32) (x1 : Int64) : Prop := (∃ fu : Nat, wX0_nearest_6 Q x0 fu (-4) x1)
end
set_option maxHeartbeats 4000000 in
set_option maxRecDepth 100000 in
theorem metX0_nearest (l : Launch) {Q : Int32 → Prop} {x0 : Int32} {x1 : Int64} (hf : wX0_nearest Q x0 x1) : Met l yX0_nearest (ws_ yX0_nearest cX0_nearest 7 (some .int)) rmX0_nearest (fun v _ => v = ([.int x0, .long x1] : List Value).toArray) (vp_Si Q) 0 0 (fun _ => False) := by
  refine Met.ofW (cc := cX0_nearest) (maxL := 7) (ret := (some .int)) (by decide) rfl ?_
  intro p e s m args below meth c s₁ B hml hv
  subst hv
  have hx := B.exec
  have hb := B.bytes
  have hr := B.returns
  have hts := atoms_spec (ws := (ws_ yX0_nearest cX0_nearest 7 (some .int))) B.pre
  have hts : ∀ w ∈ lw_all, w.before _ s = true := fun w h => hts w (List.mem_cons_of_mem _ h)
  have hown : s.vm.findClass RX0 = some m.cls := findClass_of_methodNamed B.named
  have hlocks := B.notSynchronized
  have S : CallFix p m c cX0_nearest 7 s _ lw_all RX0 := ⟨hx, hb, hml, hown, hts⟩
  have hl := lv_entry ([.int x0, .long x1]) (n := 7) (Nat.le_of_ble_eq_true rfl)
  rw [lg_entry_eq]
  generalize (lg_sl ([.int x0, .long x1]) ++ List.replicate (7 - (lg_sl ([.int x0, .long x1])).length) Slot.unset).toArray = ls at hl ⊢
  replace hl : lv_has ls 7 [(0, .int x0), (1, .long x1)] := hl
  have hret : hrX0_nearest p l e s m ([.int x0, .long x1] : List Value).toArray below meth c s.heap [] (MQ below (vp_Si Q) ([.int x0, .long x1] : List Value).toArray s 0 0 (fun _ => False)) Q := fun r pc ls hq hd => W.iret hx hb hr (fun t ht hW => ⟨r, rfl, hq, ht⟩) t_nil hd
  unfold wX0_nearest at hf
  refine lv_bipush (v := (-4)) hx hb dX0_nearest_0 (by decide) ?_
  refine lv_istore_n (lv' := [(3, .int (-4)), (0, .int x0), (1, .long x1)]) hx hb dX0_nearest_2 rfl hl (by decide) rfl (fun ls hl => ?_)
  refine lv_lload_n hx hb dX0_nearest_3 rfl (lv_at hl 2 rfl) ?_
  refine lv_lstore (lv' := [(4, .long x1), (3, .int (-4)), (0, .int x0), (1, .long x1)]) hx hb dX0_nearest_4 hl (by decide) rfl (fun ls hl => ?_)
  obtain ⟨fu, hf⟩ := hf
  exact tX0_nearest_6 S hret fu (-4) x1 _ hf (lv_sub hl [2, 1, 0] rfl)
/-! HoleCounty.isSheet(I)Z -/
theorem pdX0_isSheet : DscOk yX0_isSheet 1 := by decide +kernel
abbrev rmX0_isSheet : Room := { frames := 1, cells := 0, slots := 0, locals := 25 }
abbrev RX0_isSheet_ : Room := (headSpec (ws_ yX0_isSheet cX0_isSheet 1 (some .boolean)) rmX0_isSheet).room
section
variable {p : Program} {l : Launch} {e : Env} {s : State} {m : MethodId} {args : Array Value} {below : List Frame} {meth : Method} {c : Code} {Qw : State → Prop} {H : Heap} {locs : List Loc}
abbrev hrX0_isSheet (p : Program) (l : Launch) (e : Env) (s : State) (m : MethodId) (args : Array Value) (below : List Frame) (meth : Method) (c : Code) (H : Heap) (locs : List Loc) (Qw : State → Prop) (Q : Int32 → Prop) : Prop := ∀ (r : Int32) (pc : Nat) (ls : Array Slot), bz r → Q r → decode cX0_isSheet pc = .ok (.ireturn, 1) → W p l e RX0_isSheet_ s m args below meth c H locs 0 0 Qw (F0 m pc ls [.int r])
def wX0_isSheet (Q : Int32 → Prop) (x0 : Int32) : Prop := (wX0_in (fun r_6 => (bz r_6 ∧ (Q r_6))) ((x0 : Int32).toInt64) 0 3)
end
set_option maxHeartbeats 4000000 in
set_option maxRecDepth 100000 in
theorem metX0_isSheet (l : Launch) {Q : Int32 → Prop} {x0 : Int32} (hf : wX0_isSheet Q x0) : Met l yX0_isSheet (ws_ yX0_isSheet cX0_isSheet 1 (some .boolean)) rmX0_isSheet (fun v _ => v = ([.int x0] : List Value).toArray) (vp_Si Q) 0 0 (fun _ => False) := by
  refine Met.ofW (cc := cX0_isSheet) (maxL := 1) (ret := (some .boolean)) (by decide) rfl ?_
  intro p e s m args below meth c s₁ B hml hv
  subst hv
  have hx := B.exec
  have hb := B.bytes
  have hr := B.returns
  have hts := atoms_spec (ws := (ws_ yX0_isSheet cX0_isSheet 1 (some .boolean))) B.pre
  have hts : ∀ w ∈ lw_all, w.before _ s = true := fun w h => hts w (List.mem_cons_of_mem _ h)
  have hown : s.vm.findClass RX0 = some m.cls := findClass_of_methodNamed B.named
  have hlocks := B.notSynchronized
  have S : CallFix p m c cX0_isSheet 1 s _ lw_all RX0 := ⟨hx, hb, hml, hown, hts⟩
  have hl := lv_entry ([.int x0]) (n := 1) (Nat.le_of_ble_eq_true rfl)
  rw [lg_entry_eq]
  generalize (lg_sl ([.int x0]) ++ List.replicate (1 - (lg_sl ([.int x0])).length) Slot.unset).toArray = ls at hl ⊢
  replace hl : lv_has ls 1 [(0, .int x0)] := hl
  have hret : hrX0_isSheet p l e s m ([.int x0] : List Value).toArray below meth c s.heap [] (MQ below (vp_Si Q) ([.int x0] : List Value).toArray s 0 0 (fun _ => False)) Q := fun r pc ls hz hq hd => W.zret hx hb hr hz.1 (fun t ht hW => ⟨r, rfl, hq, ht⟩) t_nil hd
  unfold wX0_isSheet at hf
  refine lv_iload_n hx hb dX0_isSheet_0 rfl (lv_at hl 0 rfl) ?_
  refine lv_i2l (v := (x0 : Int32).toInt64) hx hb dX0_isSheet_1 rfl ?_
  refine lv_lconst (v := 0) hx hb dX0_isSheet_2 (by decide) ?_
  refine lv_ldc2 (v := 3) hx hb hown (hts _ q261) dX0_isSheet_3 ?_
  refine cs_i (As := [.long (x0 : Int32).toInt64, .long 0, .long 3]) (rest := []) S (metX0_in l hf) (lw_S q96 q97 q54 q98) pdX0_in ⟨rfl, rfl⟩ ⟨Nat.le_of_ble_eq_true rfl, Nat.le_of_ble_eq_true rfl⟩ rfl hl.1 rfl (Nat.le_of_ble_eq_true rfl) dX0_isSheet_6 ⟨Nat.zero_le _, Nat.zero_le _⟩ (fun r_6 hf => ?_)
  obtain ⟨hz, hf⟩ := hf
  exact hret _ _ _ hz hf dX0_isSheet_9
/-! HoleCounty.isLane(I)Z -/
theorem pdX0_isLane : DscOk yX0_isLane 1 := by decide +kernel
abbrev rmX0_isLane : Room := { frames := 1, cells := 0, slots := 0, locals := 25 }
abbrev RX0_isLane_ : Room := (headSpec (ws_ yX0_isLane cX0_isLane 1 (some .boolean)) rmX0_isLane).room
section
variable {p : Program} {l : Launch} {e : Env} {s : State} {m : MethodId} {args : Array Value} {below : List Frame} {meth : Method} {c : Code} {Qw : State → Prop} {H : Heap} {locs : List Loc}
abbrev hrX0_isLane (p : Program) (l : Launch) (e : Env) (s : State) (m : MethodId) (args : Array Value) (below : List Frame) (meth : Method) (c : Code) (H : Heap) (locs : List Loc) (Qw : State → Prop) (Q : Int32 → Prop) : Prop := ∀ (r : Int32) (pc : Nat) (ls : Array Slot), bz r → Q r → decode cX0_isLane pc = .ok (.ireturn, 1) → W p l e RX0_isLane_ s m args below meth c H locs 0 0 Qw (F0 m pc ls [.int r])
def wX0_isLane (Q : Int32 → Prop) (x0 : Int32) : Prop := (wX0_in (fun r_6 => (bz r_6 ∧ (Q r_6))) ((x0 : Int32).toInt64) 0 3)
end
set_option maxHeartbeats 4000000 in
set_option maxRecDepth 100000 in
theorem metX0_isLane (l : Launch) {Q : Int32 → Prop} {x0 : Int32} (hf : wX0_isLane Q x0) : Met l yX0_isLane (ws_ yX0_isLane cX0_isLane 1 (some .boolean)) rmX0_isLane (fun v _ => v = ([.int x0] : List Value).toArray) (vp_Si Q) 0 0 (fun _ => False) := by
  refine Met.ofW (cc := cX0_isLane) (maxL := 1) (ret := (some .boolean)) (by decide) rfl ?_
  intro p e s m args below meth c s₁ B hml hv
  subst hv
  have hx := B.exec
  have hb := B.bytes
  have hr := B.returns
  have hts := atoms_spec (ws := (ws_ yX0_isLane cX0_isLane 1 (some .boolean))) B.pre
  have hts : ∀ w ∈ lw_all, w.before _ s = true := fun w h => hts w (List.mem_cons_of_mem _ h)
  have hown : s.vm.findClass RX0 = some m.cls := findClass_of_methodNamed B.named
  have hlocks := B.notSynchronized
  have S : CallFix p m c cX0_isLane 1 s _ lw_all RX0 := ⟨hx, hb, hml, hown, hts⟩
  have hl := lv_entry ([.int x0]) (n := 1) (Nat.le_of_ble_eq_true rfl)
  rw [lg_entry_eq]
  generalize (lg_sl ([.int x0]) ++ List.replicate (1 - (lg_sl ([.int x0])).length) Slot.unset).toArray = ls at hl ⊢
  replace hl : lv_has ls 1 [(0, .int x0)] := hl
  have hret : hrX0_isLane p l e s m ([.int x0] : List Value).toArray below meth c s.heap [] (MQ below (vp_Si Q) ([.int x0] : List Value).toArray s 0 0 (fun _ => False)) Q := fun r pc ls hz hq hd => W.zret hx hb hr hz.1 (fun t ht hW => ⟨r, rfl, hq, ht⟩) t_nil hd
  unfold wX0_isLane at hf
  refine lv_iload_n hx hb dX0_isLane_0 rfl (lv_at hl 0 rfl) ?_
  refine lv_i2l (v := (x0 : Int32).toInt64) hx hb dX0_isLane_1 rfl ?_
  refine lv_lconst (v := 0) hx hb dX0_isLane_2 (by decide) ?_
  refine lv_ldc2 (v := 3) hx hb hown (hts _ q261) dX0_isLane_3 ?_
  refine cs_i (As := [.long (x0 : Int32).toInt64, .long 0, .long 3]) (rest := []) S (metX0_in l hf) (lw_S q96 q97 q54 q98) pdX0_in ⟨rfl, rfl⟩ ⟨Nat.le_of_ble_eq_true rfl, Nat.le_of_ble_eq_true rfl⟩ rfl hl.1 rfl (Nat.le_of_ble_eq_true rfl) dX0_isLane_6 ⟨Nat.zero_le _, Nat.zero_le _⟩ (fun r_6 hf => ?_)
  obtain ⟨hz, hf⟩ := hf
  exact hret _ _ _ hz hf dX0_isLane_9
/-! HoleCounty.beside(J)J -/
theorem pdX0_beside : DscOk yX0_beside 1 := by decide +kernel
abbrev rmX0_beside : Room := { frames := 0, cells := 0, slots := 0, locals := 0 }
abbrev RX0_beside_ : Room := (headSpec (ws_ yX0_beside cX0_beside 2 (some .long)) rmX0_beside).room
section
variable {p : Program} {l : Launch} {e : Env} {s : State} {m : MethodId} {args : Array Value} {below : List Frame} {meth : Method} {c : Code} {Qw : State → Prop} {dC : Nat → ClassId} {dI : Nat → Nat → Nat} {dA : Nat → ClassId} {eA mi : Nat}
abbrev hrX0_beside (p : Program) (l : Launch) (e : Env) (s : State) (m : MethodId) (args : Array Value) (below : List Frame) (meth : Method) (c : Code) (Qw : State → Prop) (Q : Int64 → Prop) : Prop := ∀ (r : Int64) (pc : Nat) (ls : Array Slot), Q r → decode cX0_beside pc = .ok (.lreturn, 1) → W p l e RX0_beside_ s m args below meth c s.heap [] 0 0 Qw (F0 m pc ls [.long r])
def wX0_beside (Q : Int64 → Prop) (x0 : Int64) : Prop := (Q (((((x0 <<< ((6 : Int32).toInt64 &&& 63)) ||| (x0 >>> ((6 : Int32).toInt64 &&& 63))) ||| ((x0 &&& (34905131040 ^^^ (-1))) <<< ((1 : Int32).toInt64 &&& 63))) ||| ((x0 &&& (1090785345 ^^^ (-1))) >>> ((1 : Int32).toInt64 &&& 63))) &&& 68719476735))
end
set_option maxHeartbeats 4000000 in
set_option maxRecDepth 100000 in
theorem metX0_beside (l : Launch) {Q : Int64 → Prop} {x0 : Int64} {dC : Nat → ClassId} {dI : Nat → Nat → Nat} {dA : Nat → ClassId} {eA mi : Nat} (hf : wX0_beside Q x0) : Met l yX0_beside (ws_ yX0_beside cX0_beside 2 (some .long)) rmX0_beside (rPc dC dI dA eA mi [.long x0] []) (vp_Sl Q) 0 0 (fun _ => False) := by
  refine Met.ofW (cc := cX0_beside) (maxL := 2) (ret := (some .long)) (by decide) rfl ?_
  intro p e s m args below meth c s₁ B hml hv
  obtain ⟨rfl, hP, hK, hE⟩ := hv
  have hx := B.exec
  have hb := B.bytes
  have hr := B.returns
  have hts := atoms_spec (ws := (ws_ yX0_beside cX0_beside 2 (some .long))) B.pre
  have hts : ∀ w ∈ lw_all, w.before _ s = true := fun w h => hts w (List.mem_cons_of_mem _ h)
  have hown : s.vm.findClass RX0 = some m.cls := findClass_of_methodNamed B.named
  have hlocks := B.notSynchronized
  have S : CallFix p m c cX0_beside 2 s _ lw_all RX0 := ⟨hx, hb, hml, hown, hts⟩
  have hl := lv_entry ([.long x0]) (n := 2) (Nat.le_of_ble_eq_true rfl)
  rw [lg_entry_eq]
  generalize (lg_sl ([.long x0]) ++ List.replicate (2 - (lg_sl ([.long x0])).length) Slot.unset).toArray = ls at hl ⊢
  replace hl : lv_has ls 2 [(0, .long x0)] := hl
  have hret : hrX0_beside p l e s m ([.long x0] : List Value).toArray below meth c (MQ below (vp_Sl Q) ([.long x0] : List Value).toArray s 0 0 (fun _ => False)) Q := fun r pc ls hq hd => W.lret hx hb hr (fun t ht hW => ⟨r, rfl, hq, ht⟩) t_nil hd
  unfold wX0_beside at hf
  refine lv_lload_n hx hb dX0_beside_0 rfl (lv_at hl 0 rfl) ?_
  refine lv_bipush (v := 6) hx hb dX0_beside_1 (by decide) ?_
  refine lv_lshl (v := (x0 <<< ((6 : Int32).toInt64 &&& 63))) hx hb dX0_beside_3 rfl ?_
  refine lv_lload_n hx hb dX0_beside_4 rfl (lv_at hl 0 rfl) ?_
  refine lv_bipush (v := 6) hx hb dX0_beside_5 (by decide) ?_
  refine lv_lshr (v := (x0 >>> ((6 : Int32).toInt64 &&& 63))) hx hb dX0_beside_7 rfl ?_
  refine lv_lor hx hb dX0_beside_8 ?_
  refine lv_lload_n hx hb dX0_beside_9 rfl (lv_at hl 0 rfl) ?_
  refine va_gets (v := .long 34905131040) hx hb hE.2.2.2.2.1 va_S.rf hown (hts _ q276) (fun _ h9 => h9) dX0_beside_10 ?_
  refine lv_ldc2 (v := (-1)) hx hb hown (hts _ q278) dX0_beside_13 ?_
  refine lv_lxor hx hb dX0_beside_16 ?_
  refine lv_land hx hb dX0_beside_17 ?_
  refine lv_iconst (v := 1) hx hb dX0_beside_18 (by decide) ?_
  refine lv_lshl (v := ((x0 &&& (34905131040 ^^^ (-1))) <<< ((1 : Int32).toInt64 &&& 63))) hx hb dX0_beside_19 rfl ?_
  refine lv_lor hx hb dX0_beside_20 ?_
  refine lv_lload_n hx hb dX0_beside_21 rfl (lv_at hl 0 rfl) ?_
  refine va_gets (v := .long 1090785345) hx hb hE.2.2.2.1 va_S.rf hown (hts _ q279) (fun _ h9 => h9) dX0_beside_22 ?_
  refine lv_ldc2 (v := (-1)) hx hb hown (hts _ q278) dX0_beside_25 ?_
  refine lv_lxor hx hb dX0_beside_28 ?_
  refine lv_land hx hb dX0_beside_29 ?_
  refine lv_iconst (v := 1) hx hb dX0_beside_30 (by decide) ?_
  refine lv_lshr (v := ((x0 &&& (1090785345 ^^^ (-1))) >>> ((1 : Int32).toInt64 &&& 63))) hx hb dX0_beside_31 rfl ?_
  refine lv_lor hx hb dX0_beside_32 ?_
  refine lv_ldc2 (v := 68719476735) hx hb hown (hts _ q281) dX0_beside_33 ?_
  refine lv_land hx hb dX0_beside_36 ?_
  exact hret _ _ _ hf dX0_beside_37
/-! HoleCounty.spread(JJ)J -/
theorem pdX0_spread : DscOk yX0_spread 2 := by decide +kernel
abbrev rmX0_spread : Room := { frames := 1, cells := 0, slots := 0, locals := 21 }
abbrev RX0_spread_ : Room := (headSpec (ws_ yX0_spread cX0_spread 8 (some .long)) rmX0_spread).room
section
variable {p : Program} {l : Launch} {e : Env} {s : State} {m : MethodId} {args : Array Value} {below : List Frame} {meth : Method} {c : Code} {Qw : State → Prop} {dC : Nat → ClassId} {dI : Nat → Nat → Nat} {dA : Nat → ClassId} {eA mi : Nat}
abbrev hrX0_spread (p : Program) (l : Launch) (e : Env) (s : State) (m : MethodId) (args : Array Value) (below : List Frame) (meth : Method) (c : Code) (Qw : State → Prop) (Q : Int64 → Prop) : Prop := ∀ (r : Int64) (pc : Nat) (ls : Array Slot), Q r → decode cX0_spread pc = .ok (.lreturn, 1) → W p l e RX0_spread_ s m args below meth c s.heap [] 0 0 Qw (F0 m pc ls [.long r])
def wX0_spread_8 (Q : Int64 → Prop) (x2 : Int64) : Nat → Int64 → Int64 → Prop
  | 0, _, _ => False
  | n + 1, x4, x6 => ((x4 = x6 → (Q x4)) ∧ (¬ x4 = x6 → (wX0_beside (fun r_24 => (∀ x4_30 : Int64, x4_30 = (x4 ||| (r_24 &&& x2)) → ((wX0_spread_8 Q x2 n) x4_30 x4))) x4)))
set_option maxHeartbeats 4000000 in
set_option maxRecDepth 100000 in
theorem tX0_spread_8 {Q : Int64 → Prop} {x2 : Int64} (S : CallFix p m c cX0_spread 8 s args lw_all RX0) (hK : va_K (dC, dI) vwCl (tysG dA) s) (hE : EG noA eA mi s s.heap) (hret : hrX0_spread p l e s m args below meth c Qw Q) : ∀ (n : Nat) (x4 : Int64) (x6 : Int64) (ls : Array Slot), wX0_spread_8 Q x2 n x4 x6 → lv_has ls 8 [(2, .long x2), (4, .long x4), (6, .long x6)] → W p l e RX0_spread_ s m args below meth c s.heap [] 0 0 Qw (F0 m 8 ls []) := by
  obtain ⟨hx, hb, hml, hown, hts⟩ := id S
  intro n
  induction n with
  | zero => intro _ _ _ hf; exact hf.elim
  | succ n ih =>
    intro x4 x6 ls hf hl
    rw [wX0_spread_8] at hf
    refine lv_lload hx hb dX0_spread_8 (lv_at hl 1 rfl) ?_
    refine lv_lload hx hb dX0_spread_10 (lv_at hl 2 rfl) ?_
    refine lc_eq (tgt := 35) hx hb dX0_spread_12 dX0_spread_13 (by decide) (fun c_12 => ?_) (fun c_12 => ?_)
    · replace hf := hf.1 c_12
      refine lv_lload hx hb dX0_spread_35 (lv_at hl 1 rfl) ?_
      exact hret _ _ _ hf dX0_spread_37
    · replace hf := hf.2 c_12
      refine lv_lload hx hb dX0_spread_16 (lv_at hl 1 rfl) ?_
      refine lv_lstore (lv' := [(6, .long x4), (2, .long x2), (4, .long x4)]) hx hb dX0_spread_18 hl (by decide) rfl (fun ls hl => ?_)
      refine lv_lload hx hb dX0_spread_20 (lv_at hl 2 rfl) ?_
      refine lv_lload hx hb dX0_spread_22 (lv_at hl 2 rfl) ?_
      refine cr_l (w0 := []) (As := [.long x4]) (rest := [.long x4]) S va_nil hK hE (metX0_beside l hf) (lw_S q273 q274 q54 q275) pdX0_beside ⟨rfl, rfl⟩ ⟨Nat.le_of_ble_eq_true rfl, Nat.le_of_ble_eq_true rfl⟩ rfl hl.1 rfl (Nat.le_of_ble_eq_true rfl) dX0_spread_24 ⟨Nat.zero_le _, Nat.zero_le _⟩ (fun r_24 hf => ?_)
      refine lv_lload_n hx hb dX0_spread_27 rfl (lv_at hl 1 rfl) ?_
      refine lv_land hx hb dX0_spread_28 ?_
      refine lv_lor hx hb dX0_spread_29 ?_
      refine lv_topl (fun x4_30 ex4_30 => ?_)
      replace hf := hf x4_30 ex4_30
      refine lv_lstore (lv' := [(4, .long x4_30), (6, .long x4), (2, .long x2)]) hx hb dX0_spread_30 hl (by decide) rfl (fun ls hl => ?_)
      refine lv_goto (tgt := 8) hx hb dX0_spread_32 (by decide) ?_
      exact ih x4_30 x4 _ hf (lv_sub hl [2, 0, 1] rfl)
def wX0_spread (Q : Int64 → Prop) (x0 : Int64) (x2 : Int64) : Prop := (∀ x4_3 : Int64, x4_3 = (x0 &&& x2) → (∃ fu : Nat, wX0_spread_8 Q x2 fu x4_3 0))
end
set_option maxHeartbeats 4000000 in
set_option maxRecDepth 100000 in
theorem metX0_spread (l : Launch) {Q : Int64 → Prop} {x0 : Int64} {x2 : Int64} {dC : Nat → ClassId} {dI : Nat → Nat → Nat} {dA : Nat → ClassId} {eA mi : Nat} (hf : wX0_spread Q x0 x2) : Met l yX0_spread (ws_ yX0_spread cX0_spread 8 (some .long)) rmX0_spread (rPc dC dI dA eA mi [.long x0, .long x2] []) (vp_Sl Q) 0 0 (fun _ => False) := by
  refine Met.ofW (cc := cX0_spread) (maxL := 8) (ret := (some .long)) (by decide) rfl ?_
  intro p e s m args below meth c s₁ B hml hv
  obtain ⟨rfl, hP, hK, hE⟩ := hv
  have hx := B.exec
  have hb := B.bytes
  have hr := B.returns
  have hts := atoms_spec (ws := (ws_ yX0_spread cX0_spread 8 (some .long))) B.pre
  have hts : ∀ w ∈ lw_all, w.before _ s = true := fun w h => hts w (List.mem_cons_of_mem _ h)
  have hown : s.vm.findClass RX0 = some m.cls := findClass_of_methodNamed B.named
  have hlocks := B.notSynchronized
  have S : CallFix p m c cX0_spread 8 s _ lw_all RX0 := ⟨hx, hb, hml, hown, hts⟩
  have hl := lv_entry ([.long x0, .long x2]) (n := 8) (Nat.le_of_ble_eq_true rfl)
  rw [lg_entry_eq]
  generalize (lg_sl ([.long x0, .long x2]) ++ List.replicate (8 - (lg_sl ([.long x0, .long x2])).length) Slot.unset).toArray = ls at hl ⊢
  replace hl : lv_has ls 8 [(0, .long x0), (2, .long x2)] := hl
  have hret : hrX0_spread p l e s m ([.long x0, .long x2] : List Value).toArray below meth c (MQ below (vp_Sl Q) ([.long x0, .long x2] : List Value).toArray s 0 0 (fun _ => False)) Q := fun r pc ls hq hd => W.lret hx hb hr (fun t ht hW => ⟨r, rfl, hq, ht⟩) t_nil hd
  unfold wX0_spread at hf
  refine lv_lload_n hx hb dX0_spread_0 rfl (lv_at hl 0 rfl) ?_
  refine lv_lload_n hx hb dX0_spread_1 rfl (lv_at hl 1 rfl) ?_
  refine lv_land hx hb dX0_spread_2 ?_
  refine lv_topl (fun x4_3 ex4_3 => ?_)
  replace hf := hf x4_3 ex4_3
  refine lv_lstore (lv' := [(4, .long x4_3), (0, .long x0), (2, .long x2)]) hx hb dX0_spread_3 hl (by decide) rfl (fun ls hl => ?_)
  refine lv_lconst (v := 0) hx hb dX0_spread_5 (by decide) ?_
  refine lv_lstore (lv' := [(6, .long 0), (4, .long x4_3), (0, .long x0), (2, .long x2)]) hx hb dX0_spread_6 hl (by decide) rfl (fun ls hl => ?_)
  obtain ⟨fu, hf⟩ := hf
  exact tX0_spread_8 S hK hE hret fu x4_3 0 _ hf (lv_sub hl [3, 1, 0] rfl)
/-! HoleCounty.pieces(J)I -/
theorem pdX0_pieces : DscOk yX0_pieces 1 := by decide +kernel
abbrev rmX0_pieces : Room := { frames := 2, cells := 0, slots := 0, locals := 48 }
abbrev RX0_pieces_ : Room := (headSpec (ws_ yX0_pieces cX0_pieces 5 (some .int)) rmX0_pieces).room
section
variable {p : Program} {l : Launch} {e : Env} {s : State} {m : MethodId} {args : Array Value} {below : List Frame} {meth : Method} {c : Code} {Qw : State → Prop} {dC : Nat → ClassId} {dI : Nat → Nat → Nat} {dA : Nat → ClassId} {eA mi : Nat}
abbrev hrX0_pieces (p : Program) (l : Launch) (e : Env) (s : State) (m : MethodId) (args : Array Value) (below : List Frame) (meth : Method) (c : Code) (Qw : State → Prop) (Q : Int32 → Prop) : Prop := ∀ (r : Int32) (pc : Nat) (ls : Array Slot), Q r → decode cX0_pieces pc = .ok (.ireturn, 1) → W p l e RX0_pieces_ s m args below meth c s.heap [] 0 0 Qw (F0 m pc ls [.int r])
def wX0_pieces_4 (Q : Int32 → Prop) : Nat → Int32 → Int64 → Prop
  | 0, _, _ => False
  | n + 1, x2, x3 => ((x3 = 0 → (Q x2)) ∧ (¬ x3 = 0 → (wX0_spread (fun r_16 => (∀ x3_24 : Int64, x3_24 = (x3 &&& (r_16 ^^^ (-1))) → (∀ x2_25 : Int32, x2_25 = x2 + 1 → ((wX0_pieces_4 Q n) x2_25 x3_24)))) (x3 &&& (-x3)) x3)))
set_option maxHeartbeats 4000000 in
set_option maxRecDepth 100000 in
theorem tX0_pieces_4 {Q : Int32 → Prop} (S : CallFix p m c cX0_pieces 5 s args lw_all RX0) (hK : va_K (dC, dI) vwCl (tysG dA) s) (hE : EG noA eA mi s s.heap) (hret : hrX0_pieces p l e s m args below meth c Qw Q) : ∀ (n : Nat) (x2 : Int32) (x3 : Int64) (ls : Array Slot), wX0_pieces_4 Q n x2 x3 → lv_has ls 5 [(2, .int x2), (3, .long x3)] → W p l e RX0_pieces_ s m args below meth c s.heap [] 0 0 Qw (F0 m 4 ls []) := by
  obtain ⟨hx, hb, hml, hown, hts⟩ := id S
  intro n
  induction n with
  | zero => intro _ _ _ hf; exact hf.elim
  | succ n ih =>
    intro x2 x3 ls hf hl
    rw [wX0_pieces_4] at hf
    refine lv_lload_n hx hb dX0_pieces_4 rfl (lv_at hl 1 rfl) ?_
    refine lv_lconst (v := 0) hx hb dX0_pieces_5 (by decide) ?_
    refine lc_eq (tgt := 31) hx hb dX0_pieces_6 dX0_pieces_7 (by decide) (fun c_6 => ?_) (fun c_6 => ?_)
    · replace hf := hf.1 c_6
      refine lv_iload_n hx hb dX0_pieces_31 rfl (lv_at hl 0 rfl) ?_
      exact hret _ _ _ hf dX0_pieces_32
    · replace hf := hf.2 c_6
      refine lv_lload_n hx hb dX0_pieces_10 rfl (lv_at hl 1 rfl) ?_
      refine lv_lload_n hx hb dX0_pieces_11 rfl (lv_at hl 1 rfl) ?_
      refine lv_lload_n hx hb dX0_pieces_12 rfl (lv_at hl 1 rfl) ?_
      refine lv_lneg hx hb dX0_pieces_13 ?_
      refine lv_land hx hb dX0_pieces_14 ?_
      refine lv_lload_n hx hb dX0_pieces_15 rfl (lv_at hl 1 rfl) ?_
      refine cr_l (w0 := []) (As := [.long (x3 &&& (-x3)), .long x3]) (rest := [.long x3]) S va_nil hK hE (metX0_spread l hf) (lw_S q360 q271 q54 q272) pdX0_spread ⟨rfl, rfl⟩ ⟨Nat.le_of_ble_eq_true rfl, Nat.le_of_ble_eq_true rfl⟩ rfl hl.1 rfl (Nat.le_of_ble_eq_true rfl) dX0_pieces_16 ⟨Nat.zero_le _, Nat.zero_le _⟩ (fun r_16 hf => ?_)
      refine lv_ldc2 (v := (-1)) hx hb hown (hts _ q278) dX0_pieces_19 ?_
      refine lv_lxor hx hb dX0_pieces_22 ?_
      refine lv_land hx hb dX0_pieces_23 ?_
      refine lv_topl (fun x3_24 ex3_24 => ?_)
      replace hf := hf x3_24 ex3_24
      refine lv_lstore_n (lv' := [(3, .long x3_24), (2, .int x2)]) hx hb dX0_pieces_24 rfl hl (by decide) rfl (fun ls hl => ?_)
      obtain ⟨x2_25, ex2_25⟩ : ∃ z : Int32, z = x2 + 1 := ⟨_, rfl⟩
      replace hf := hf x2_25 ex2_25
      refine lv_iinc (v := x2_25) (lv' := [(2, .int x2_25), (3, .long x3_24)]) hx hb dX0_pieces_25 hl (k := 1) rfl (by rw [ex2_25]; rfl) (by decide) rfl (fun ls hl => ?_)
      refine lv_goto (tgt := 4) hx hb dX0_pieces_28 (by decide) ?_
      exact ih x2_25 x3_24 _ hf (lv_sub hl [0, 1] rfl)
def wX0_pieces (Q : Int32 → Prop) (x0 : Int64) : Prop := (∃ fu : Nat, wX0_pieces_4 Q fu 0 x0)
end
set_option maxHeartbeats 4000000 in
set_option maxRecDepth 100000 in
theorem metX0_pieces (l : Launch) {Q : Int32 → Prop} {x0 : Int64} {dC : Nat → ClassId} {dI : Nat → Nat → Nat} {dA : Nat → ClassId} {eA mi : Nat} (hf : wX0_pieces Q x0) : Met l yX0_pieces (ws_ yX0_pieces cX0_pieces 5 (some .int)) rmX0_pieces (rPc dC dI dA eA mi [.long x0] []) (vp_Si Q) 0 0 (fun _ => False) := by
  refine Met.ofW (cc := cX0_pieces) (maxL := 5) (ret := (some .int)) (by decide) rfl ?_
  intro p e s m args below meth c s₁ B hml hv
  obtain ⟨rfl, hP, hK, hE⟩ := hv
  have hx := B.exec
  have hb := B.bytes
  have hr := B.returns
  have hts := atoms_spec (ws := (ws_ yX0_pieces cX0_pieces 5 (some .int))) B.pre
  have hts : ∀ w ∈ lw_all, w.before _ s = true := fun w h => hts w (List.mem_cons_of_mem _ h)
  have hown : s.vm.findClass RX0 = some m.cls := findClass_of_methodNamed B.named
  have hlocks := B.notSynchronized
  have S : CallFix p m c cX0_pieces 5 s _ lw_all RX0 := ⟨hx, hb, hml, hown, hts⟩
  have hl := lv_entry ([.long x0]) (n := 5) (Nat.le_of_ble_eq_true rfl)
  rw [lg_entry_eq]
  generalize (lg_sl ([.long x0]) ++ List.replicate (5 - (lg_sl ([.long x0])).length) Slot.unset).toArray = ls at hl ⊢
  replace hl : lv_has ls 5 [(0, .long x0)] := hl
  have hret : hrX0_pieces p l e s m ([.long x0] : List Value).toArray below meth c (MQ below (vp_Si Q) ([.long x0] : List Value).toArray s 0 0 (fun _ => False)) Q := fun r pc ls hq hd => W.iret hx hb hr (fun t ht hW => ⟨r, rfl, hq, ht⟩) t_nil hd
  unfold wX0_pieces at hf
  refine lv_iconst (v := 0) hx hb dX0_pieces_0 (by decide) ?_
  refine lv_istore_n (lv' := [(2, .int 0), (0, .long x0)]) hx hb dX0_pieces_1 rfl hl (by decide) rfl (fun ls hl => ?_)
  refine lv_lload_n hx hb dX0_pieces_2 rfl (lv_at hl 1 rfl) ?_
  refine lv_lstore_n (lv' := [(3, .long x0), (2, .int 0), (0, .long x0)]) hx hb dX0_pieces_3 rfl hl (by decide) rfl (fun ls hl => ?_)
  obtain ⟨fu, hf⟩ := hf
  exact tX0_pieces_4 S hK hE hret fu 0 x0 _ hf (lv_sub hl [1, 0] rfl)
/-! HoleCounty.fewestSplit(J)I -/
theorem pdX0_fewestSplit : DscOk yX0_fewestSplit 1 := by decide +kernel
abbrev rmX0_fewestSplit : Room := { frames := 3, cells := 0, slots := 0, locals := 72 }
abbrev RX0_fewestSplit_ : Room := (headSpec (ws_ yX0_fewestSplit cX0_fewestSplit 4 (some .int)) rmX0_fewestSplit).room
section
variable {p : Program} {l : Launch} {e : Env} {s : State} {m : MethodId} {args : Array Value} {below : List Frame} {meth : Method} {c : Code} {Qw : State → Prop} {dC : Nat → ClassId} {dI : Nat → Nat → Nat} {dA : Nat → ClassId} {eA mi : Nat}
abbrev hrX0_fewestSplit (p : Program) (l : Launch) (e : Env) (s : State) (m : MethodId) (args : Array Value) (below : List Frame) (meth : Method) (c : Code) (Qw : State → Prop) (Q : Int32 → Prop) : Prop := ∀ (r : Int32) (pc : Nat) (ls : Array Slot), Q r → decode cX0_fewestSplit pc = .ok (.ireturn, 1) → W p l e RX0_fewestSplit_ s m args below meth c s.heap [] 0 0 Qw (F0 m pc ls [.int r])
def wX0_fewestSplit_58 (Q : Int32 → Prop) (k48 : Int32 → Prop) (x0 : Int64) (x2 : Int32) : Nat → Int32 → Prop
  | 0, _ => False
  | n + 1, x3 => ((36 ≤ x3 → (∀ x2_113 : Int32, x2_113 = x2 + 1 → (k48 x2_113))) ∧ (¬ 36 ≤ x3 → (wX0_has (fun r_66 => ((r_66 = 0 → (∀ x3_107 : Int32, x3_107 = x3 + 1 → ((wX0_fewestSplit_58 Q k48 x0 x2 n) x3_107))) ∧ (¬ r_66 = 0 → (wX0_has (fun r_74 => ((r_74 = 0 → (∀ x3_107 : Int32, x3_107 = x3 + 1 → ((wX0_fewestSplit_58 Q k48 x0 x2 n) x3_107))) ∧ (¬ r_74 = 0 → (wX0_pieces (fun r_93 => ((r_93 ≤ 1 → (∀ x3_107 : Int32, x3_107 = x3 + 1 → ((wX0_fewestSplit_58 Q k48 x0 x2 n) x3_107))) ∧ (¬ r_93 ≤ 1 → (Q ((100 * x2) + x3))))) (x0 &&& (((1 <<< ((x2 : Int32).toInt64 &&& 63)) ||| (1 <<< ((x3 : Int32).toInt64 &&& 63))) ^^^ (-1))))))) x0 x3)))) x0 x2)))
set_option maxHeartbeats 4000000 in
set_option maxRecDepth 100000 in
theorem tX0_fewestSplit_58 {Q : Int32 → Prop} {x0 : Int64} {x2 : Int32} (S : CallFix p m c cX0_fewestSplit 4 s args lw_all RX0) (hK : va_K (dC, dI) vwCl (tysG dA) s) (hE : EG noA eA mi s s.heap) (hret : hrX0_fewestSplit p l e s m args below meth c Qw Q) {k48 : Int32 → Prop} (hk48 : ∀ (x2 : Int32) (ls : Array Slot), k48 x2 → lv_has ls 4 [(0, .long x0), (2, .int x2)] → W p l e RX0_fewestSplit_ s m args below meth c s.heap [] 0 0 Qw (F0 m 48 ls [])) : ∀ (n : Nat) (x3 : Int32) (ls : Array Slot), wX0_fewestSplit_58 Q k48 x0 x2 n x3 → lv_has ls 4 [(0, .long x0), (2, .int x2), (3, .int x3)] → W p l e RX0_fewestSplit_ s m args below meth c s.heap [] 0 0 Qw (F0 m 58 ls []) := by
  obtain ⟨hx, hb, hml, hown, hts⟩ := id S
  intro n
  induction n with
  | zero => intro _ _ hf; exact hf.elim
  | succ n ih =>
    intro x3 ls hf hl
    rw [wX0_fewestSplit_58] at hf
    refine lv_iload_n hx hb dX0_fewestSplit_58 rfl (lv_at hl 2 rfl) ?_
    refine lv_bipush (v := 36) hx hb dX0_fewestSplit_59 (by decide) ?_
    refine lv_icmp_ge (tgt := 113) hx hb dX0_fewestSplit_61 (by decide) (fun c_61 => ?_) (fun c_61 => ?_)
    · replace hf := hf.1 c_61
      obtain ⟨x2_113, ex2_113⟩ : ∃ z : Int32, z = x2 + 1 := ⟨_, rfl⟩
      replace hf := hf x2_113 ex2_113
      refine lv_iinc (v := x2_113) (lv' := [(2, .int x2_113), (0, .long x0), (3, .int x3)]) hx hb dX0_fewestSplit_113 hl (k := 1) rfl (by rw [ex2_113]; rfl) (by decide) rfl (fun ls hl => ?_)
      refine lv_goto (tgt := 48) hx hb dX0_fewestSplit_116 (by decide) ?_
      exact hk48 x2_113 _ hf (lv_sub hl [1, 0] rfl)
    · replace hf := hf.2 c_61
      refine lv_lload_n hx hb dX0_fewestSplit_64 rfl (lv_at hl 0 rfl) ?_
      refine lv_iload_n hx hb dX0_fewestSplit_65 rfl (lv_at hl 1 rfl) ?_
      refine cs_i (As := [.long x0, .int x2]) (rest := []) S (metX0_has l hf) (lw_S q225 q108 q54 q109) pdX0_has ⟨rfl, rfl⟩ ⟨Nat.le_of_ble_eq_true rfl, Nat.le_of_ble_eq_true rfl⟩ rfl hl.1 rfl (Nat.le_of_ble_eq_true rfl) dX0_fewestSplit_66 ⟨Nat.zero_le _, Nat.zero_le _⟩ (fun r_66 hf => ?_)
      refine lv_if_eq (tgt := 107) hx hb dX0_fewestSplit_69 (by decide) (fun c_69 => ?_) (fun c_69 => ?_)
      · replace hf := hf.1 c_69
        obtain ⟨x3_107, ex3_107⟩ : ∃ z : Int32, z = x3 + 1 := ⟨_, rfl⟩
        replace hf := hf x3_107 ex3_107
        refine lv_iinc (v := x3_107) (lv' := [(3, .int x3_107), (0, .long x0), (2, .int x2)]) hx hb dX0_fewestSplit_107 hl (k := 2) rfl (by rw [ex3_107]; rfl) (by decide) rfl (fun ls hl => ?_)
        refine lv_goto (tgt := 58) hx hb dX0_fewestSplit_110 (by decide) ?_
        exact ih x3_107 _ hf (lv_sub hl [1, 2, 0] rfl)
      · replace hf := hf.2 c_69
        refine lv_lload_n hx hb dX0_fewestSplit_72 rfl (lv_at hl 0 rfl) ?_
        refine lv_iload_n hx hb dX0_fewestSplit_73 rfl (lv_at hl 2 rfl) ?_
        refine cs_i (As := [.long x0, .int x3]) (rest := []) S (metX0_has l hf) (lw_S q225 q108 q54 q109) pdX0_has ⟨rfl, rfl⟩ ⟨Nat.le_of_ble_eq_true rfl, Nat.le_of_ble_eq_true rfl⟩ rfl hl.1 rfl (Nat.le_of_ble_eq_true rfl) dX0_fewestSplit_74 ⟨Nat.zero_le _, Nat.zero_le _⟩ (fun r_74 hf => ?_)
        refine lv_if_eq (tgt := 107) hx hb dX0_fewestSplit_77 (by decide) (fun c_77 => ?_) (fun c_77 => ?_)
        · replace hf := hf.1 c_77
          obtain ⟨x3_107, ex3_107⟩ : ∃ z : Int32, z = x3 + 1 := ⟨_, rfl⟩
          replace hf := hf x3_107 ex3_107
          refine lv_iinc (v := x3_107) (lv' := [(3, .int x3_107), (0, .long x0), (2, .int x2)]) hx hb dX0_fewestSplit_107 hl (k := 2) rfl (by rw [ex3_107]; rfl) (by decide) rfl (fun ls hl => ?_)
          refine lv_goto (tgt := 58) hx hb dX0_fewestSplit_110 (by decide) ?_
          exact ih x3_107 _ hf (lv_sub hl [1, 2, 0] rfl)
        · replace hf := hf.2 c_77
          refine lv_lload_n hx hb dX0_fewestSplit_80 rfl (lv_at hl 0 rfl) ?_
          refine lv_lconst (v := 1) hx hb dX0_fewestSplit_81 (by decide) ?_
          refine lv_iload_n hx hb dX0_fewestSplit_82 rfl (lv_at hl 1 rfl) ?_
          refine lv_lshl (v := (1 <<< ((x2 : Int32).toInt64 &&& 63))) hx hb dX0_fewestSplit_83 rfl ?_
          refine lv_lconst (v := 1) hx hb dX0_fewestSplit_84 (by decide) ?_
          refine lv_iload_n hx hb dX0_fewestSplit_85 rfl (lv_at hl 2 rfl) ?_
          refine lv_lshl (v := (1 <<< ((x3 : Int32).toInt64 &&& 63))) hx hb dX0_fewestSplit_86 rfl ?_
          refine lv_lor hx hb dX0_fewestSplit_87 ?_
          refine lv_ldc2 (v := (-1)) hx hb hown (hts _ q278) dX0_fewestSplit_88 ?_
          refine lv_lxor hx hb dX0_fewestSplit_91 ?_
          refine lv_land hx hb dX0_fewestSplit_92 ?_
          refine cr_i (w0 := []) (As := [.long (x0 &&& (((1 <<< ((x2 : Int32).toInt64 &&& 63)) ||| (1 <<< ((x3 : Int32).toInt64 &&& 63))) ^^^ (-1)))]) (rest := []) S va_nil hK hE (metX0_pieces l hf) (lw_S q357 q358 q54 q359) pdX0_pieces ⟨rfl, rfl⟩ ⟨Nat.le_of_ble_eq_true rfl, Nat.le_of_ble_eq_true rfl⟩ rfl hl.1 rfl (Nat.le_of_ble_eq_true rfl) dX0_fewestSplit_93 ⟨Nat.zero_le _, Nat.zero_le _⟩ (fun r_93 hf => ?_)
          refine lv_iconst (v := 1) hx hb dX0_fewestSplit_96 (by decide) ?_
          refine lv_icmp_le (tgt := 107) hx hb dX0_fewestSplit_97 (by decide) (fun c_97 => ?_) (fun c_97 => ?_)
          · replace hf := hf.1 c_97
            obtain ⟨x3_107, ex3_107⟩ : ∃ z : Int32, z = x3 + 1 := ⟨_, rfl⟩
            replace hf := hf x3_107 ex3_107
            refine lv_iinc (v := x3_107) (lv' := [(3, .int x3_107), (0, .long x0), (2, .int x2)]) hx hb dX0_fewestSplit_107 hl (k := 2) rfl (by rw [ex3_107]; rfl) (by decide) rfl (fun ls hl => ?_)
            refine lv_goto (tgt := 58) hx hb dX0_fewestSplit_110 (by decide) ?_
            exact ih x3_107 _ hf (lv_sub hl [1, 2, 0] rfl)
          · replace hf := hf.2 c_97
            refine lv_bipush (v := 100) hx hb dX0_fewestSplit_100 (by decide) ?_
            refine lv_iload_n hx hb dX0_fewestSplit_102 rfl (lv_at hl 1 rfl) ?_
            refine lv_imul hx hb dX0_fewestSplit_103 ?_
            refine lv_iload_n hx hb dX0_fewestSplit_104 rfl (lv_at hl 2 rfl) ?_
            refine lv_iadd hx hb dX0_fewestSplit_105 ?_
            exact hret _ _ _ hf dX0_fewestSplit_106
def wX0_fewestSplit_48 (Q : Int32 → Prop) (x0 : Int64) : Nat → Int32 → Prop
  | 0, _ => False
  | n + 1, x2 => ((36 ≤ x2 → (Q (-4))) ∧ (¬ 36 ≤ x2 → (∀ x3_57 : Int32, x3_57 = (x2 + 1) → (∃ fu : Nat, wX0_fewestSplit_58 Q (wX0_fewestSplit_48 Q x0 n) x0 x2 fu x3_57))))
set_option maxHeartbeats 4000000 in
set_option maxRecDepth 100000 in
theorem tX0_fewestSplit_48 {Q : Int32 → Prop} {x0 : Int64} (S : CallFix p m c cX0_fewestSplit 4 s args lw_all RX0) (hK : va_K (dC, dI) vwCl (tysG dA) s) (hE : EG noA eA mi s s.heap) (hret : hrX0_fewestSplit p l e s m args below meth c Qw Q) : ∀ (n : Nat) (x2 : Int32) (ls : Array Slot), wX0_fewestSplit_48 Q x0 n x2 → lv_has ls 4 [(0, .long x0), (2, .int x2)] → W p l e RX0_fewestSplit_ s m args below meth c s.heap [] 0 0 Qw (F0 m 48 ls []) := by
  obtain ⟨hx, hb, hml, hown, hts⟩ := id S
  intro n
  induction n with
  | zero => intro _ _ hf; exact hf.elim
  | succ n ih =>
    intro x2 ls hf hl
    rw [wX0_fewestSplit_48] at hf
    refine lv_iload_n hx hb dX0_fewestSplit_48 rfl (lv_at hl 1 rfl) ?_
    refine lv_bipush (v := 36) hx hb dX0_fewestSplit_49 (by decide) ?_
    refine lv_icmp_ge (tgt := 119) hx hb dX0_fewestSplit_51 (by decide) (fun c_51 => ?_) (fun c_51 => ?_)
    · replace hf := hf.1 c_51
      refine lv_bipush (v := (-4)) hx hb dX0_fewestSplit_119 (by decide) ?_
      exact hret _ _ _ hf dX0_fewestSplit_121
    · replace hf := hf.2 c_51
      refine lv_iload_n hx hb dX0_fewestSplit_54 rfl (lv_at hl 1 rfl) ?_
      refine lv_iconst (v := 1) hx hb dX0_fewestSplit_55 (by decide) ?_
      refine lv_iadd hx hb dX0_fewestSplit_56 ?_
      refine lv_topi (fun x3_57 ex3_57 => ?_)
      replace hf := hf x3_57 ex3_57
      refine lv_istore_n (lv' := [(3, .int x3_57), (0, .long x0), (2, .int x2)]) hx hb dX0_fewestSplit_57 rfl hl (by decide) rfl (fun ls hl => ?_)
      obtain ⟨fu, hf⟩ := hf
      exact tX0_fewestSplit_58 S hK hE hret ih fu x3_57 _ hf (lv_sub hl [1, 2, 0] rfl)
def wX0_fewestSplit_2 (Q : Int32 → Prop) (x0 : Int64) : Nat → Int32 → Prop
  | 0, _ => False
  | n + 1, x2 => ((36 ≤ x2 → (∃ fu : Nat, wX0_fewestSplit_48 Q x0 fu 0)) ∧ (¬ 36 ≤ x2 → (wX0_has (fun r_10 => ((r_10 = 0 → (∀ x2_40 : Int32, x2_40 = x2 + 1 → ((wX0_fewestSplit_2 Q x0 n) x2_40))) ∧ (¬ r_10 = 0 → (wX0_pieces (fun r_25 => ((r_25 ≤ 1 → (∀ x2_40 : Int32, x2_40 = x2 + 1 → ((wX0_fewestSplit_2 Q x0 n) x2_40))) ∧ (¬ r_25 ≤ 1 → (Q ((100 * x2) + 99))))) (x0 &&& ((1 <<< ((x2 : Int32).toInt64 &&& 63)) ^^^ (-1))))))) x0 x2)))
set_option maxHeartbeats 4000000 in
set_option maxRecDepth 100000 in
theorem tX0_fewestSplit_2 {Q : Int32 → Prop} {x0 : Int64} (S : CallFix p m c cX0_fewestSplit 4 s args lw_all RX0) (hK : va_K (dC, dI) vwCl (tysG dA) s) (hE : EG noA eA mi s s.heap) (hret : hrX0_fewestSplit p l e s m args below meth c Qw Q) : ∀ (n : Nat) (x2 : Int32) (ls : Array Slot), wX0_fewestSplit_2 Q x0 n x2 → lv_has ls 4 [(0, .long x0), (2, .int x2)] → W p l e RX0_fewestSplit_ s m args below meth c s.heap [] 0 0 Qw (F0 m 2 ls []) := by
  obtain ⟨hx, hb, hml, hown, hts⟩ := id S
  intro n
  induction n with
  | zero => intro _ _ hf; exact hf.elim
  | succ n ih =>
    intro x2 ls hf hl
    rw [wX0_fewestSplit_2] at hf
    refine lv_iload_n hx hb dX0_fewestSplit_2 rfl (lv_at hl 1 rfl) ?_
    refine lv_bipush (v := 36) hx hb dX0_fewestSplit_3 (by decide) ?_
    refine lv_icmp_ge (tgt := 46) hx hb dX0_fewestSplit_5 (by decide) (fun c_5 => ?_) (fun c_5 => ?_)
    · replace hf := hf.1 c_5
      refine lv_iconst (v := 0) hx hb dX0_fewestSplit_46 (by decide) ?_
      refine lv_istore_n (lv' := [(2, .int 0), (0, .long x0)]) hx hb dX0_fewestSplit_47 rfl hl (by decide) rfl (fun ls hl => ?_)
      obtain ⟨fu, hf⟩ := hf
      exact tX0_fewestSplit_48 S hK hE hret fu 0 _ hf (lv_sub hl [1, 0] rfl)
    · replace hf := hf.2 c_5
      refine lv_lload_n hx hb dX0_fewestSplit_8 rfl (lv_at hl 0 rfl) ?_
      refine lv_iload_n hx hb dX0_fewestSplit_9 rfl (lv_at hl 1 rfl) ?_
      refine cs_i (As := [.long x0, .int x2]) (rest := []) S (metX0_has l hf) (lw_S q225 q108 q54 q109) pdX0_has ⟨rfl, rfl⟩ ⟨Nat.le_of_ble_eq_true rfl, Nat.le_of_ble_eq_true rfl⟩ rfl hl.1 rfl (Nat.le_of_ble_eq_true rfl) dX0_fewestSplit_10 ⟨Nat.zero_le _, Nat.zero_le _⟩ (fun r_10 hf => ?_)
      refine lv_if_eq (tgt := 40) hx hb dX0_fewestSplit_13 (by decide) (fun c_13 => ?_) (fun c_13 => ?_)
      · replace hf := hf.1 c_13
        obtain ⟨x2_40, ex2_40⟩ : ∃ z : Int32, z = x2 + 1 := ⟨_, rfl⟩
        replace hf := hf x2_40 ex2_40
        refine lv_iinc (v := x2_40) (lv' := [(2, .int x2_40), (0, .long x0)]) hx hb dX0_fewestSplit_40 hl (k := 1) rfl (by rw [ex2_40]; rfl) (by decide) rfl (fun ls hl => ?_)
        refine lv_goto (tgt := 2) hx hb dX0_fewestSplit_43 (by decide) ?_
        exact ih x2_40 _ hf (lv_sub hl [1, 0] rfl)
      · replace hf := hf.2 c_13
        refine lv_lload_n hx hb dX0_fewestSplit_16 rfl (lv_at hl 0 rfl) ?_
        refine lv_lconst (v := 1) hx hb dX0_fewestSplit_17 (by decide) ?_
        refine lv_iload_n hx hb dX0_fewestSplit_18 rfl (lv_at hl 1 rfl) ?_
        refine lv_lshl (v := (1 <<< ((x2 : Int32).toInt64 &&& 63))) hx hb dX0_fewestSplit_19 rfl ?_
        refine lv_ldc2 (v := (-1)) hx hb hown (hts _ q278) dX0_fewestSplit_20 ?_
        refine lv_lxor hx hb dX0_fewestSplit_23 ?_
        refine lv_land hx hb dX0_fewestSplit_24 ?_
        refine cr_i (w0 := []) (As := [.long (x0 &&& ((1 <<< ((x2 : Int32).toInt64 &&& 63)) ^^^ (-1)))]) (rest := []) S va_nil hK hE (metX0_pieces l hf) (lw_S q357 q358 q54 q359) pdX0_pieces ⟨rfl, rfl⟩ ⟨Nat.le_of_ble_eq_true rfl, Nat.le_of_ble_eq_true rfl⟩ rfl hl.1 rfl (Nat.le_of_ble_eq_true rfl) dX0_fewestSplit_25 ⟨Nat.zero_le _, Nat.zero_le _⟩ (fun r_25 hf => ?_)
        refine lv_iconst (v := 1) hx hb dX0_fewestSplit_28 (by decide) ?_
        refine lv_icmp_le (tgt := 40) hx hb dX0_fewestSplit_29 (by decide) (fun c_29 => ?_) (fun c_29 => ?_)
        · replace hf := hf.1 c_29
          obtain ⟨x2_40, ex2_40⟩ : ∃ z : Int32, z = x2 + 1 := ⟨_, rfl⟩
          replace hf := hf x2_40 ex2_40
          refine lv_iinc (v := x2_40) (lv' := [(2, .int x2_40), (0, .long x0)]) hx hb dX0_fewestSplit_40 hl (k := 1) rfl (by rw [ex2_40]; rfl) (by decide) rfl (fun ls hl => ?_)
          refine lv_goto (tgt := 2) hx hb dX0_fewestSplit_43 (by decide) ?_
          exact ih x2_40 _ hf (lv_sub hl [1, 0] rfl)
        · replace hf := hf.2 c_29
          refine lv_bipush (v := 100) hx hb dX0_fewestSplit_32 (by decide) ?_
          refine lv_iload_n hx hb dX0_fewestSplit_34 rfl (lv_at hl 1 rfl) ?_
          refine lv_imul hx hb dX0_fewestSplit_35 ?_
          refine lv_bipush (v := 99) hx hb dX0_fewestSplit_36 (by decide) ?_
          refine lv_iadd hx hb dX0_fewestSplit_38 ?_
          exact hret _ _ _ hf dX0_fewestSplit_39
def wX0_fewestSplit (Q : Int32 → Prop) (x0 : Int64) : Prop := (∃ fu : Nat, wX0_fewestSplit_2 Q x0 fu 0)
end
set_option maxHeartbeats 4000000 in
set_option maxRecDepth 100000 in
theorem metX0_fewestSplit (l : Launch) {Q : Int32 → Prop} {x0 : Int64} {dC : Nat → ClassId} {dI : Nat → Nat → Nat} {dA : Nat → ClassId} {eA mi : Nat} (hf : wX0_fewestSplit Q x0) : Met l yX0_fewestSplit (ws_ yX0_fewestSplit cX0_fewestSplit 4 (some .int)) rmX0_fewestSplit (rPc dC dI dA eA mi [.long x0] []) (vp_Si Q) 0 0 (fun _ => False) := by
  refine Met.ofW (cc := cX0_fewestSplit) (maxL := 4) (ret := (some .int)) (by decide) rfl ?_
  intro p e s m args below meth c s₁ B hml hv
  obtain ⟨rfl, hP, hK, hE⟩ := hv
  have hx := B.exec
  have hb := B.bytes
  have hr := B.returns
  have hts := atoms_spec (ws := (ws_ yX0_fewestSplit cX0_fewestSplit 4 (some .int))) B.pre
  have hts : ∀ w ∈ lw_all, w.before _ s = true := fun w h => hts w (List.mem_cons_of_mem _ h)
  have hown : s.vm.findClass RX0 = some m.cls := findClass_of_methodNamed B.named
  have hlocks := B.notSynchronized
  have S : CallFix p m c cX0_fewestSplit 4 s _ lw_all RX0 := ⟨hx, hb, hml, hown, hts⟩
  have hl := lv_entry ([.long x0]) (n := 4) (Nat.le_of_ble_eq_true rfl)
  rw [lg_entry_eq]
  generalize (lg_sl ([.long x0]) ++ List.replicate (4 - (lg_sl ([.long x0])).length) Slot.unset).toArray = ls at hl ⊢
  replace hl : lv_has ls 4 [(0, .long x0)] := hl
  have hret : hrX0_fewestSplit p l e s m ([.long x0] : List Value).toArray below meth c (MQ below (vp_Si Q) ([.long x0] : List Value).toArray s 0 0 (fun _ => False)) Q := fun r pc ls hq hd => W.iret hx hb hr (fun t ht hW => ⟨r, rfl, hq, ht⟩) t_nil hd
  unfold wX0_fewestSplit at hf
  refine lv_iconst (v := 0) hx hb dX0_fewestSplit_0 (by decide) ?_
  refine lv_istore_n (lv' := [(2, .int 0), (0, .long x0)]) hx hb dX0_fewestSplit_1 rfl hl (by decide) rfl (fun ls hl => ?_)
  obtain ⟨fu, hf⟩ := hf
  exact tX0_fewestSplit_2 S hK hE hret fu 0 _ hf (lv_sub hl [1, 0] rfl)
/-! HoleCounty.between(IIJ)I -/
theorem pdX0_between : DscOk yX0_between 3 := by decide +kernel
abbrev rmX0_between : Room := { frames := 2, cells := 0, slots := 0, locals := 48 }
abbrev RX0_between_ : Room := (headSpec (ws_ yX0_between cX0_between 7 (some .int)) rmX0_between).room
section
variable {p : Program} {l : Launch} {e : Env} {s : State} {m : MethodId} {args : Array Value} {below : List Frame} {meth : Method} {c : Code} {Qw : State → Prop} {dC : Nat → ClassId} {dI : Nat → Nat → Nat} {dA : Nat → ClassId} {eA mi : Nat}
abbrev hrX0_between (p : Program) (l : Launch) (e : Env) (s : State) (m : MethodId) (args : Array Value) (below : List Frame) (meth : Method) (c : Code) (Qw : State → Prop) (Q : Int32 → Prop) : Prop := ∀ (r : Int32) (pc : Nat) (ls : Array Slot), Q r → decode cX0_between pc = .ok (.ireturn, 1) → W p l e RX0_between_ s m args below meth c s.heap [] 0 0 Qw (F0 m pc ls [.int r])
def wX0_between_12 (Q : Int32 → Prop) (x1 : Int32) (x2 : Int64) : Nat → Int64 → Int32 → Prop
  | 0, _, _ => False
  | n + 1, x4, x6 => (wX0_has (fun r_15 => ((r_15 = 0 → (wX0_beside (fun r_25 => (∀ x4_29 : Int64, x4_29 = (x4 ||| r_25) → (wX0_beside (fun r_35 => (wX0_spread (fun r_41 => (∀ x4_45 : Int64, x4_45 = (x4_29 ||| r_41) → (∀ x6_47 : Int32, x6_47 = x6 + 1 → ((wX0_between_12 Q x1 x2 n) x4_45 x6_47)))) (r_35 &&& x2) x2)) x4_29))) x4)) ∧ (¬ r_15 = 0 → (Q x6)))) x4 x1)
set_option maxHeartbeats 4000000 in
set_option maxRecDepth 100000 in
theorem tX0_between_12 {Q : Int32 → Prop} {x1 : Int32} {x2 : Int64} (S : CallFix p m c cX0_between 7 s args lw_all RX0) (hK : va_K (dC, dI) vwCl (tysG dA) s) (hE : EG noA eA mi s s.heap) (hret : hrX0_between p l e s m args below meth c Qw Q) : ∀ (n : Nat) (x4 : Int64) (x6 : Int32) (ls : Array Slot), wX0_between_12 Q x1 x2 n x4 x6 → lv_has ls 7 [(1, .int x1), (2, .long x2), (4, .long x4), (6, .int x6)] → W p l e RX0_between_ s m args below meth c s.heap [] 0 0 Qw (F0 m 12 ls []) := by
  obtain ⟨hx, hb, hml, hown, hts⟩ := id S
  intro n
  induction n with
  | zero => intro _ _ _ hf; exact hf.elim
  | succ n ih =>
    intro x4 x6 ls hf hl
    rw [wX0_between_12] at hf
    refine lv_lload hx hb dX0_between_12 (lv_at hl 2 rfl) ?_
    refine lv_iload_n hx hb dX0_between_14 rfl (lv_at hl 0 rfl) ?_
    refine cs_i (As := [.long x4, .int x1]) (rest := []) S (metX0_has l hf) (lw_S q225 q108 q54 q109) pdX0_has ⟨rfl, rfl⟩ ⟨Nat.le_of_ble_eq_true rfl, Nat.le_of_ble_eq_true rfl⟩ rfl hl.1 rfl (Nat.le_of_ble_eq_true rfl) dX0_between_15 ⟨Nat.zero_le _, Nat.zero_le _⟩ (fun r_15 hf => ?_)
    refine lv_if_ne (tgt := 53) hx hb dX0_between_18 (by decide) (fun c_18 => ?_) (fun c_18 => ?_)
    · replace hf := hf.2 c_18
      refine lv_iload hx hb dX0_between_53 (lv_at hl 3 rfl) ?_
      exact hret _ _ _ hf dX0_between_55
    · replace hf := hf.1 c_18
      refine lv_lload hx hb dX0_between_21 (lv_at hl 2 rfl) ?_
      refine lv_lload hx hb dX0_between_23 (lv_at hl 2 rfl) ?_
      refine cr_l (w0 := []) (As := [.long x4]) (rest := [.long x4]) S va_nil hK hE (metX0_beside l hf) (lw_S q273 q274 q54 q275) pdX0_beside ⟨rfl, rfl⟩ ⟨Nat.le_of_ble_eq_true rfl, Nat.le_of_ble_eq_true rfl⟩ rfl hl.1 rfl (Nat.le_of_ble_eq_true rfl) dX0_between_25 ⟨Nat.zero_le _, Nat.zero_le _⟩ (fun r_25 hf => ?_)
      refine lv_lor hx hb dX0_between_28 ?_
      refine lv_topl (fun x4_29 ex4_29 => ?_)
      replace hf := hf x4_29 ex4_29
      refine lv_lstore (lv' := [(4, .long x4_29), (1, .int x1), (2, .long x2), (6, .int x6)]) hx hb dX0_between_29 hl (by decide) rfl (fun ls hl => ?_)
      refine lv_lload hx hb dX0_between_31 (lv_at hl 0 rfl) ?_
      refine lv_lload hx hb dX0_between_33 (lv_at hl 0 rfl) ?_
      refine cr_l (w0 := []) (As := [.long x4_29]) (rest := [.long x4_29]) S va_nil hK hE (metX0_beside l hf) (lw_S q273 q274 q54 q275) pdX0_beside ⟨rfl, rfl⟩ ⟨Nat.le_of_ble_eq_true rfl, Nat.le_of_ble_eq_true rfl⟩ rfl hl.1 rfl (Nat.le_of_ble_eq_true rfl) dX0_between_35 ⟨Nat.zero_le _, Nat.zero_le _⟩ (fun r_35 hf => ?_)
      refine lv_lload_n hx hb dX0_between_38 rfl (lv_at hl 2 rfl) ?_
      refine lv_land hx hb dX0_between_39 ?_
      refine lv_lload_n hx hb dX0_between_40 rfl (lv_at hl 2 rfl) ?_
      refine cr_l (w0 := []) (As := [.long (r_35 &&& x2), .long x2]) (rest := [.long x4_29]) S va_nil hK hE (metX0_spread l hf) (lw_S q360 q271 q54 q272) pdX0_spread ⟨rfl, rfl⟩ ⟨Nat.le_of_ble_eq_true rfl, Nat.le_of_ble_eq_true rfl⟩ rfl hl.1 rfl (Nat.le_of_ble_eq_true rfl) dX0_between_41 ⟨Nat.zero_le _, Nat.zero_le _⟩ (fun r_41 hf => ?_)
      refine lv_lor hx hb dX0_between_44 ?_
      refine lv_topl (fun x4_45 ex4_45 => ?_)
      replace hf := hf x4_45 ex4_45
      refine lv_lstore (lv' := [(4, .long x4_45), (1, .int x1), (2, .long x2), (6, .int x6)]) hx hb dX0_between_45 hl (by decide) rfl (fun ls hl => ?_)
      obtain ⟨x6_47, ex6_47⟩ : ∃ z : Int32, z = x6 + 1 := ⟨_, rfl⟩
      replace hf := hf x6_47 ex6_47
      refine lv_iinc (v := x6_47) (lv' := [(6, .int x6_47), (4, .long x4_45), (1, .int x1), (2, .long x2)]) hx hb dX0_between_47 hl (k := 3) rfl (by rw [ex6_47]; rfl) (by decide) rfl (fun ls hl => ?_)
      refine lv_goto (tgt := 12) hx hb dX0_between_50 (by decide) ?_
      exact ih x4_45 x6_47 _ hf (lv_sub hl [2, 3, 1, 0] rfl)
def wX0_between (Q : Int32 → Prop) (x0 : Int32) (x1 : Int32) (x2 : Int64) : Prop := (wX0_spread (fun r_4 => (∃ fu : Nat, wX0_between_12 Q x1 x2 fu r_4 0)) (1 <<< ((x0 : Int32).toInt64 &&& 63)) x2)
end
set_option maxHeartbeats 4000000 in
set_option maxRecDepth 100000 in
theorem metX0_between (l : Launch) {Q : Int32 → Prop} {x0 : Int32} {x1 : Int32} {x2 : Int64} {dC : Nat → ClassId} {dI : Nat → Nat → Nat} {dA : Nat → ClassId} {eA mi : Nat} (hf : wX0_between Q x0 x1 x2) : Met l yX0_between (ws_ yX0_between cX0_between 7 (some .int)) rmX0_between (rPc dC dI dA eA mi [.int x0, .int x1, .long x2] []) (vp_Si Q) 0 0 (fun _ => False) := by
  refine Met.ofW (cc := cX0_between) (maxL := 7) (ret := (some .int)) (by decide) rfl ?_
  intro p e s m args below meth c s₁ B hml hv
  obtain ⟨rfl, hP, hK, hE⟩ := hv
  have hx := B.exec
  have hb := B.bytes
  have hr := B.returns
  have hts := atoms_spec (ws := (ws_ yX0_between cX0_between 7 (some .int))) B.pre
  have hts : ∀ w ∈ lw_all, w.before _ s = true := fun w h => hts w (List.mem_cons_of_mem _ h)
  have hown : s.vm.findClass RX0 = some m.cls := findClass_of_methodNamed B.named
  have hlocks := B.notSynchronized
  have S : CallFix p m c cX0_between 7 s _ lw_all RX0 := ⟨hx, hb, hml, hown, hts⟩
  have hl := lv_entry ([.int x0, .int x1, .long x2]) (n := 7) (Nat.le_of_ble_eq_true rfl)
  rw [lg_entry_eq]
  generalize (lg_sl ([.int x0, .int x1, .long x2]) ++ List.replicate (7 - (lg_sl ([.int x0, .int x1, .long x2])).length) Slot.unset).toArray = ls at hl ⊢
  replace hl : lv_has ls 7 [(0, .int x0), (1, .int x1), (2, .long x2)] := hl
  have hret : hrX0_between p l e s m ([.int x0, .int x1, .long x2] : List Value).toArray below meth c (MQ below (vp_Si Q) ([.int x0, .int x1, .long x2] : List Value).toArray s 0 0 (fun _ => False)) Q := fun r pc ls hq hd => W.iret hx hb hr (fun t ht hW => ⟨r, rfl, hq, ht⟩) t_nil hd
  unfold wX0_between at hf
  refine lv_lconst (v := 1) hx hb dX0_between_0 (by decide) ?_
  refine lv_iload_n hx hb dX0_between_1 rfl (lv_at hl 0 rfl) ?_
  refine lv_lshl (v := (1 <<< ((x0 : Int32).toInt64 &&& 63))) hx hb dX0_between_2 rfl ?_
  refine lv_lload_n hx hb dX0_between_3 rfl (lv_at hl 2 rfl) ?_
  refine cr_l (w0 := []) (As := [.long (1 <<< ((x0 : Int32).toInt64 &&& 63)), .long x2]) (rest := []) S va_nil hK hE (metX0_spread l hf) (lw_S q360 q271 q54 q272) pdX0_spread ⟨rfl, rfl⟩ ⟨Nat.le_of_ble_eq_true rfl, Nat.le_of_ble_eq_true rfl⟩ rfl hl.1 rfl (Nat.le_of_ble_eq_true rfl) dX0_between_4 ⟨Nat.zero_le _, Nat.zero_le _⟩ (fun r_4 hf => ?_)
  refine lv_lstore (lv' := [(4, .long r_4), (0, .int x0), (1, .int x1), (2, .long x2)]) hx hb dX0_between_7 hl (by decide) rfl (fun ls hl => ?_)
  refine lv_iconst (v := 0) hx hb dX0_between_9 (by decide) ?_
  refine lv_istore (lv' := [(6, .int 0), (4, .long r_4), (0, .int x0), (1, .int x1), (2, .long x2)]) hx hb dX0_between_10 hl (by decide) rfl (fun ls hl => ?_)
  obtain ⟨fu, hf⟩ := hf
  exact tX0_between_12 S hK hE hret fu r_4 0 _ hf (lv_sub hl [3, 4, 1, 0] rfl)
