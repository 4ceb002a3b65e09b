/-! LISTS: a read-only method that answers a reference or null -/
section LB
variable {p : Program} {l : Launch} {e : Env} {R : Room} {s : State} {m : MethodId} {args : Array Value} {below : List Frame} {meth : Method} {c : Code} {H : Heap} {locs : List Loc} {cells slots : Nat} {Q : State → Prop}
variable {cc : ByteArray} {pc nL : Nat} {ls : Array Slot} {rest st0 : List Value} {dC : Nat → ClassId} {dI : Nat → Nat → Nat} {dA : Nat → ClassId} {eA mi : Nat}
variable {y : MethodName} {bytes : ByteArray} {maxL n index : Nat} {ret : Option FieldType} {rm : Room} {own C : String} {As : List Value} {w0 : va_W}
theorem crv_q (S : CallFix p m c cc nL s args lw_all own) {a : Nat} (hrec : ∃ cell : Cell, H[a]? = some cell ∧ cell.vm.isStatics = false ∧ s.vm.findClass C = some cell.cls) (hP : va_P (dC, dI) vwCl w0 H) (hK : va_K (dC, dI) vwCl (tysG dA) s) (hE : EG noA eA mi s H) {Qr : Option Nat → Prop} (hM : Met l y (ws_ y bytes maxL ret) rm (rPc dC dI dA eA mi (.ref a :: As) w0) (va_Sq Qr) 0 0 (fun _ => False)) (hG : GoodIn lw_all (wsV own index C y (ws_ y bytes maxL ret))) (hC : y.cls = C) (hd : DscOk y n) (h0 : rm.cells = 0 ∧ rm.slots = 0) (hR : RmOk rm R maxL) (hn : As.length = n) (hsize : ls.size = nL) (hstack : st0 = As.reverse ++ .ref a :: rest) (hW : (rest.map fun v => v.category).sum ≤ 8) (hdg : decode cc pc = .ok (.invokevirtual index, 3)) (hf : cells ≤ R.cells ∧ slots ≤ R.slots)
    (kk : ∀ r : Option Nat, Qr r → W p l e R s m args below meth c H locs cells slots Q (F0 m (pc + 3) ls (va_rf r :: rest))) : W p l e R s m args below meth c H locs cells slots Q (F0 m pc ls st0) :=
  va_csq (W.runV S hM (cwV n S.2.2.2.2 hG rfl h0.1 h0.2 ⟨hC, hd⟩ hR) ⟨rblind, hrec, (rpreS hP hK hE).2⟩ rfl hn hsize hstack (lv_room hW) hdg hf) kk
end LB
/-! jdk/internal/util/Preconditions.checkIndex(IILjava/util/function/BiFunction;)I -/
theorem pdJ4_checkIndex : DscOk yJ4_checkIndex 3 := by decide +kernel
abbrev rmJ4_checkIndex : Room := { frames := 0, cells := 0, slots := 0, locals := 0 }
abbrev RJ4_checkIndex_ : Room := (headSpec (ws_ yJ4_checkIndex cJ4_checkIndex 3 (some .int)) rmJ4_checkIndex).room
section
variable {p : Program} {l : Launch} {e : Env} {s : State} {m : MethodId} {args : Array Value} {below : List Frame} {meth : Method} {c : Code} {Qw : State → Prop} {H : Heap} {locs : List Loc}
abbrev hrJ4_checkIndex (p : Program) (l : Launch) (e : Env) (s : State) (m : MethodId) (args : Array Value) (below : List Frame) (meth : Method) (c : Code) (H : Heap) (locs : List Loc) (Qw : State → Prop) (Q : Int32 → Prop) : Prop := ∀ (r : Int32) (pc : Nat) (ls : Array Slot), Q r → decode cJ4_checkIndex pc = .ok (.ireturn, 1) → W p l e RJ4_checkIndex_ s m args below meth c H locs 0 0 Qw (F0 m pc ls [.int r])
def wJ4_checkIndex (Q : Int32 → Prop) (x0 : Int32) (x1 : Int32) : Prop := ((x0 < 0 → False) ∧ (¬ x0 < 0 → ((x0 < x1 → (Q x0)) ∧ (¬ x0 < x1 → False))))
end
set_option maxHeartbeats 4000000 in
set_option maxRecDepth 100000 in
theorem metJ4_checkIndex (l : Launch) {Q : Int32 → Prop} {x0 : Int32} {x1 : Int32} (hf : wJ4_checkIndex Q x0 x1) : Met l yJ4_checkIndex (ws_ yJ4_checkIndex cJ4_checkIndex 3 (some .int)) rmJ4_checkIndex (fun v _ => v = ([.int x0, .int x1, .null] : List Value).toArray) (vp_Si Q) 0 0 (fun _ => False) := by
  refine Met.ofW (cc := cJ4_checkIndex) (maxL := 3) (ret := (some .int)) (by decide) rfl ?_
  intro p e s m args below meth c s₁ B hml hv
  subst hv
  have hx := B.exec
  have hb := B.bytes
  have hr := B.returns
  have hts := atoms_spec (ws := (ws_ yJ4_checkIndex cJ4_checkIndex 3 (some .int))) B.pre
  have hts : ∀ w ∈ lw_all, w.before _ s = true := fun w h => hts w (List.mem_cons_of_mem _ h)
  have hown : s.vm.findClass RJ4 = some m.cls := findClass_of_methodNamed B.named
  have hlocks := B.notSynchronized
  have S : CallFix p m c cJ4_checkIndex 3 s _ lw_all RJ4 := ⟨hx, hb, hml, hown, hts⟩
  have hl := lv_entry ([.int x0, .int x1, .null]) (n := 3) (Nat.le_of_ble_eq_true rfl)
  rw [lg_entry_eq]
  generalize (lg_sl ([.int x0, .int x1, .null]) ++ List.replicate (3 - (lg_sl ([.int x0, .int x1, .null])).length) Slot.unset).toArray = ls at hl ⊢
  replace hl : lv_has ls 3 [(0, .int x0), (1, .int x1), (2, .null)] := hl
  have hret : hrJ4_checkIndex p l e s m ([.int x0, .int x1, .null] : List Value).toArray below meth c s.heap [] (MQ below (vp_Si Q) ([.int x0, .int x1, .null] : List Value).toArray s 0 0 (fun _ => False)) Q := fun r pc ls hq hd => W.iret hx hb hr (fun t ht hW => ⟨r, rfl, hq, ht⟩) t_nil hd
  unfold wJ4_checkIndex at hf
  refine lv_iload_n hx hb dJ4_checkIndex_0 rfl (lv_at hl 0 rfl) ?_
  refine lv_if_lt (tgt := 9) hx hb dJ4_checkIndex_1 (by decide) (fun c_1 => ?_) (fun c_1 => ?_)
  · replace hf := hf.1 c_1
    exact hf.elim
  · replace hf := hf.2 c_1
    refine lv_iload_n hx hb dJ4_checkIndex_4 rfl (lv_at hl 0 rfl) ?_
    refine lv_iload_n hx hb dJ4_checkIndex_5 rfl (lv_at hl 1 rfl) ?_
    refine lv_icmp_lt (tgt := 16) hx hb dJ4_checkIndex_6 (by decide) (fun c_6 => ?_) (fun c_6 => ?_)
    · replace hf := hf.1 c_6
      refine lv_iload_n hx hb dJ4_checkIndex_16 rfl (lv_at hl 0 rfl) ?_
      exact hret _ _ _ hf dJ4_checkIndex_17
    · replace hf := hf.2 c_6
      exact hf.elim
/-! java/util/Objects.checkIndex(II)I -/
theorem pdJ3_checkIndex : DscOk yJ3_checkIndex 2 := by decide +kernel
abbrev rmJ3_checkIndex : Room := { frames := 1, cells := 0, slots := 0, locals := 22 }
abbrev RJ3_checkIndex_ : Room := (headSpec (ws_ yJ3_checkIndex cJ3_checkIndex 2 (some .int)) rmJ3_checkIndex).room
section
variable {p : Program} {l : Launch} {e : Env} {s : State} {m : MethodId} {args : Array Value} {below : List Frame} {meth : Method} {c : Code} {Qw : State → Prop} {H : Heap} {locs : List Loc}
abbrev hrJ3_checkIndex (p : Program) (l : Launch) (e : Env) (s : State) (m : MethodId) (args : Array Value) (below : List Frame) (meth : Method) (c : Code) (H : Heap) (locs : List Loc) (Qw : State → Prop) (Q : Int32 → Prop) : Prop := ∀ (r : Int32) (pc : Nat) (ls : Array Slot), Q r → decode cJ3_checkIndex pc = .ok (.ireturn, 1) → W p l e RJ3_checkIndex_ s m args below meth c H locs 0 0 Qw (F0 m pc ls [.int r])
def wJ3_checkIndex (Q : Int32 → Prop) (x0 : Int32) (x1 : Int32) : Prop := (wJ4_checkIndex (fun r_3 => (Q r_3)) x0 x1)
end
set_option maxHeartbeats 4000000 in
set_option maxRecDepth 100000 in
theorem metJ3_checkIndex (l : Launch) {Q : Int32 → Prop} {x0 : Int32} {x1 : Int32} (hf : wJ3_checkIndex Q x0 x1) : Met l yJ3_checkIndex (ws_ yJ3_checkIndex cJ3_checkIndex 2 (some .int)) rmJ3_checkIndex (fun v _ => v = ([.int x0, .int x1] : List Value).toArray) (vp_Si Q) 0 0 (fun _ => False) := by
  refine Met.ofW (cc := cJ3_checkIndex) (maxL := 2) (ret := (some .int)) (by decide) rfl ?_
  intro p e s m args below meth c s₁ B hml hv
  subst hv
  have hx := B.exec
  have hb := B.bytes
  have hr := B.returns
  have hts := atoms_spec (ws := (ws_ yJ3_checkIndex cJ3_checkIndex 2 (some .int))) B.pre
  have hts : ∀ w ∈ lw_all, w.before _ s = true := fun w h => hts w (List.mem_cons_of_mem _ h)
  have hown : s.vm.findClass RJ3 = some m.cls := findClass_of_methodNamed B.named
  have hlocks := B.notSynchronized
  have S : CallFix p m c cJ3_checkIndex 2 s _ lw_all RJ3 := ⟨hx, hb, hml, hown, hts⟩
  have hl := lv_entry ([.int x0, .int x1]) (n := 2) (Nat.le_of_ble_eq_true rfl)
  rw [lg_entry_eq]
  generalize (lg_sl ([.int x0, .int x1]) ++ List.replicate (2 - (lg_sl ([.int x0, .int x1])).length) Slot.unset).toArray = ls at hl ⊢
  replace hl : lv_has ls 2 [(0, .int x0), (1, .int x1)] := hl
  have hret : hrJ3_checkIndex p l e s m ([.int x0, .int x1] : List Value).toArray below meth c s.heap [] (MQ below (vp_Si Q) ([.int x0, .int x1] : List Value).toArray s 0 0 (fun _ => False)) Q := fun r pc ls hq hd => W.iret hx hb hr (fun t ht hW => ⟨r, rfl, hq, ht⟩) t_nil hd
  unfold wJ3_checkIndex at hf
  refine lv_iload_n hx hb dJ3_checkIndex_0 rfl (lv_at hl 0 rfl) ?_
  refine lv_iload_n hx hb dJ3_checkIndex_1 rfl (lv_at hl 1 rfl) ?_
  refine lv_null hx hb dJ3_checkIndex_2 ?_
  refine cs_i (As := [.int x0, .int x1, .null]) (rest := []) S (metJ4_checkIndex l hf) (lw_S q138 q139 q63 q140) pdJ4_checkIndex ⟨rfl, rfl⟩ ⟨Nat.le_of_ble_eq_true rfl, Nat.le_of_ble_eq_true rfl⟩ rfl hl.1 rfl (Nat.le_of_ble_eq_true rfl) dJ3_checkIndex_3 ⟨Nat.zero_le _, Nat.zero_le _⟩ (fun r_3 hf => ?_)
  exact hret _ _ _ hf dJ3_checkIndex_6
/-! java/util/ArrayList.size()I -/
theorem pdJ2_size : DscOk yJ2_size 0 := by decide +kernel
abbrev rmJ2_size : Room := { frames := 0, cells := 0, slots := 0, locals := 0 }
abbrev RJ2_size_ : Room := (headSpec (ws_ yJ2_size cJ2_size 1 (some .int)) rmJ2_size).room
section
variable {p : Program} {l : Launch} {e : Env} {s : State} {m : MethodId} {args : Array Value} {below : List Frame} {meth : Method} {c : Code} {Qw : State → Prop} {dC : Nat → ClassId} {dI : Nat → Nat → Nat} {dA : Nat → ClassId} {eA mi : Nat} {la ea : Nat}
abbrev hrJ2_size (p : Program) (l : Launch) (e : Env) (s : State) (m : MethodId) (args : Array Value) (below : List Frame) (meth : Method) (c : Code) (Qw : State → Prop) (Q : Int32 → Prop) : Prop := ∀ (r : Int32) (pc : Nat) (ls : Array Slot), Q r → decode cJ2_size pc = .ok (.ireturn, 1) → W p l e RJ2_size_ s m args below meth c s.heap [] 0 0 Qw (F0 m pc ls [.int r])
def wJ2_size (Q : Int32 → Prop) (size : Int32) : Prop := (Q size)
end
set_option maxHeartbeats 4000000 in
set_option maxRecDepth 100000 in
theorem metJ2_size (l : Launch) {Q : Int32 → Prop} {mc : Int32} {size : Int32} {dC : Nat → ClassId} {dI : Nat → Nat → Nat} {dA : Nat → ClassId} {eA mi : Nat} {la ea : Nat} (hf : wJ2_size Q size) : Met l yJ2_size (ws_ yJ2_size cJ2_size 1 (some .int)) rmJ2_size (rPc dC dI dA eA mi [.ref la] [(la, .inr (11, [.int mc, .ref ea, .int size]))]) (vp_Si Q) 0 0 (fun _ => False) := by
  refine Met.ofW (cc := cJ2_size) (maxL := 1) (ret := (some .int)) (by decide) rfl ?_
  intro p e s m args below meth c s₁ B hml hv
  obtain ⟨rfl, hP, hK, hE⟩ := hv
  have hx := B.exec
  have hb := B.bytes
  have hr := B.returns
  have hts := atoms_spec (ws := (ws_ yJ2_size cJ2_size 1 (some .int))) B.pre
  have hts : ∀ w ∈ lw_all, w.before _ s = true := fun w h => hts w (List.mem_cons_of_mem _ h)
  have hown : s.vm.findClass RJ2 = some m.cls := findClass_of_methodNamed B.named
  have hlocks := B.notSynchronized
  have S : CallFix p m c cJ2_size 1 s _ lw_all RJ2 := ⟨hx, hb, hml, hown, hts⟩
  have hl := lv_entry ([.ref la]) (n := 1) (Nat.le_of_ble_eq_true rfl)
  rw [lg_entry_eq]
  generalize (lg_sl ([.ref la]) ++ List.replicate (1 - (lg_sl ([.ref la])).length) Slot.unset).toArray = ls at hl ⊢
  replace hl : lv_has ls 1 [(0, .ref la)] := hl
  have hret : hrJ2_size p l e s m ([.ref la] : List Value).toArray below meth c (MQ below (vp_Si Q) ([.ref la] : List Value).toArray s 0 0 (fun _ => False)) Q := fun r pc ls hq hd => W.iret hx hb hr (fun t ht hW => ⟨r, rfl, hq, ht⟩) t_nil hd
  unfold wJ2_size at hf
  refine lv_aload_n hx hb dJ2_size_0 rfl (lv_at hl 0 rfl) ?_
  refine va_get (D := (dC, dI)) (ci := 11) (v := .int size) (C := RJ2) (T := TJ2) (N := 3) hx hb hts in_J2 hown hK hP 0 rfl rfl 2 (by decide) (hts _ q384) (fun _ h9 => h9) rfl dJ2_size_1 ?_
  exact hret _ _ _ hf dJ2_size_4
/-! java/util/ArrayList.isEmpty()Z -/
theorem pdJ2_isEmpty : DscOk yJ2_isEmpty 0 := by decide +kernel
abbrev rmJ2_isEmpty : Room := { frames := 0, cells := 0, slots := 0, locals := 0 }
abbrev RJ2_isEmpty_ : Room := (headSpec (ws_ yJ2_isEmpty cJ2_isEmpty 1 (some .boolean)) rmJ2_isEmpty).room
section
variable {p : Program} {l : Launch} {e : Env} {s : State} {m : MethodId} {args : Array Value} {below : List Frame} {meth : Method} {c : Code} {Qw : State → Prop} {dC : Nat → ClassId} {dI : Nat → Nat → Nat} {dA : Nat → ClassId} {eA mi : Nat} {la ea : Nat}
abbrev hrJ2_isEmpty (p : Program) (l : Launch) (e : Env) (s : State) (m : MethodId) (args : Array Value) (below : List Frame) (meth : Method) (c : Code) (Qw : State → Prop) (Q : Int32 → Prop) : Prop := ∀ (r : Int32) (pc : Nat) (ls : Array Slot), bz r → Q r → decode cJ2_isEmpty pc = .ok (.ireturn, 1) → W p l e RJ2_isEmpty_ s m args below meth c s.heap [] 0 0 Qw (F0 m pc ls [.int r])
def wJ2_isEmpty (Q : Int32 → Prop) (size : Int32) : Prop := ((size = 0 → (Q 1)) ∧ (¬ size = 0 → (Q 0)))
end
set_option maxHeartbeats 4000000 in
set_option maxRecDepth 100000 in
theorem metJ2_isEmpty (l : Launch) {Q : Int32 → Prop} {mc : Int32} {size : Int32} {dC : Nat → ClassId} {dI : Nat → Nat → Nat} {dA : Nat → ClassId} {eA mi : Nat} {la ea : Nat} (hf : wJ2_isEmpty Q size) : Met l yJ2_isEmpty (ws_ yJ2_isEmpty cJ2_isEmpty 1 (some .boolean)) rmJ2_isEmpty (rPc dC dI dA eA mi [.ref la] [(la, .inr (11, [.int mc, .ref ea, .int size]))]) (vp_Si Q) 0 0 (fun _ => False) := by
  refine Met.ofW (cc := cJ2_isEmpty) (maxL := 1) (ret := (some .boolean)) (by decide) rfl ?_
  intro p e s m args below meth c s₁ B hml hv
  obtain ⟨rfl, hP, hK, hE⟩ := hv
  have hx := B.exec
  have hb := B.bytes
  have hr := B.returns
  have hts := atoms_spec (ws := (ws_ yJ2_isEmpty cJ2_isEmpty 1 (some .boolean))) B.pre
  have hts : ∀ w ∈ lw_all, w.before _ s = true := fun w h => hts w (List.mem_cons_of_mem _ h)
  have hown : s.vm.findClass RJ2 = some m.cls := findClass_of_methodNamed B.named
  have hlocks := B.notSynchronized
  have S : CallFix p m c cJ2_isEmpty 1 s _ lw_all RJ2 := ⟨hx, hb, hml, hown, hts⟩
  have hl := lv_entry ([.ref la]) (n := 1) (Nat.le_of_ble_eq_true rfl)
  rw [lg_entry_eq]
  generalize (lg_sl ([.ref la]) ++ List.replicate (1 - (lg_sl ([.ref la])).length) Slot.unset).toArray = ls at hl ⊢
  replace hl : lv_has ls 1 [(0, .ref la)] := hl
  have hret : hrJ2_isEmpty p l e s m ([.ref la] : List Value).toArray below meth c (MQ below (vp_Si Q) ([.ref la] : List Value).toArray s 0 0 (fun _ => False)) Q := fun r pc ls hz hq hd => W.zret hx hb hr hz.1 (fun t ht hW => ⟨r, rfl, hq, ht⟩) t_nil hd
  unfold wJ2_isEmpty at hf
  refine lv_aload_n hx hb dJ2_isEmpty_0 rfl (lv_at hl 0 rfl) ?_
  refine va_get (D := (dC, dI)) (ci := 11) (v := .int size) (C := RJ2) (T := TJ2) (N := 3) hx hb hts in_J2 hown hK hP 0 rfl rfl 2 (by decide) (hts _ q384) (fun _ h9 => h9) rfl dJ2_isEmpty_1 ?_
  refine lv_if_ne (tgt := 11) hx hb dJ2_isEmpty_4 (by decide) (fun c_4 => ?_) (fun c_4 => ?_)
  · replace hf := hf.2 c_4
    refine lv_iconst (v := 0) hx hb dJ2_isEmpty_11 (by decide) ?_
    exact hret _ _ _ bz0 hf dJ2_isEmpty_12
  · replace hf := hf.1 c_4
    refine lv_iconst (v := 1) hx hb dJ2_isEmpty_7 (by decide) ?_
    refine lv_goto (tgt := 12) hx hb dJ2_isEmpty_8 (by decide) ?_
    exact hret _ _ _ bz1 hf dJ2_isEmpty_12
/-! java/util/ArrayList.elementData(I)Ljava/lang/Object; -/
theorem pdJ2_elementData : DscOk yJ2_elementData 1 := by decide +kernel
abbrev rmJ2_elementData : Room := { frames := 0, cells := 0, slots := 0, locals := 0 }
abbrev RJ2_elementData_ : Room := (headSpec (ws_ yJ2_elementData cJ2_elementData 2 (some (.object "java/lang/Object"))) rmJ2_elementData).room
section
variable {p : Program} {l : Launch} {e : Env} {s : State} {m : MethodId} {args : Array Value} {below : List Frame} {meth : Method} {c : Code} {Qw : State → Prop} {dC : Nat → ClassId} {dI : Nat → Nat → Nat} {dA : Nat → ClassId} {eA mi : Nat} {la ea : Nat}
abbrev hrJ2_elementData (p : Program) (l : Launch) (e : Env) (s : State) (m : MethodId) (args : Array Value) (below : List Frame) (meth : Method) (c : Code) (Qw : State → Prop) (Q : Option Nat → Prop) : Prop := ∀ (r : Option Nat) (pc : Nat) (ls : Array Slot), Q r → decode cJ2_elementData pc = .ok (.areturn, 1) → W p l e RJ2_elementData_ s m args below meth c s.heap [] 0 0 Qw (F0 m pc ls [va_rf r])
def wJ2_elementData (Q : Option Nat → Prop) (cap : Nat) (f : (Nat → Option Nat)) (x1 : Int32) : Prop := (vp_in x1 cap ∧ (Q (f (x1 : Int32).toNatClampNeg)))
end
set_option maxHeartbeats 4000000 in
set_option maxRecDepth 100000 in
theorem metJ2_elementData (l : Launch) {Q : Option Nat → Prop} {mc : Int32} {size : Int32} {cap : Nat} {f : (Nat → Option Nat)} {x1 : Int32} {dC : Nat → ClassId} {dI : Nat → Nat → Nat} {dA : Nat → ClassId} {eA mi : Nat} {la ea : Nat} (hf : wJ2_elementData Q cap f x1) : Met l yJ2_elementData (ws_ yJ2_elementData cJ2_elementData 2 (some (.object "java/lang/Object"))) rmJ2_elementData (rPc dC dI dA eA mi [.ref la, .int x1] [(la, .inr (11, [.int mc, .ref ea, .int size])), (ea, .inl (dA 4, cap, .inr (.inr (.inr (.inr f)))))]) (va_Sq Q) 0 0 (fun _ => False) := by
  refine Met.ofW (cc := cJ2_elementData) (maxL := 2) (ret := (some (.object "java/lang/Object"))) (by decide) rfl ?_
  intro p e s m args below meth c s₁ B hml hv
  obtain ⟨rfl, hP, hK, hE⟩ := hv
  have hx := B.exec
  have hb := B.bytes
  have hr := B.returns
  have hts := atoms_spec (ws := (ws_ yJ2_elementData cJ2_elementData 2 (some (.object "java/lang/Object")))) B.pre
  have hts : ∀ w ∈ lw_all, w.before _ s = true := fun w h => hts w (List.mem_cons_of_mem _ h)
  have hown : s.vm.findClass RJ2 = some m.cls := findClass_of_methodNamed B.named
  have hlocks := B.notSynchronized
  have S : CallFix p m c cJ2_elementData 2 s _ lw_all RJ2 := ⟨hx, hb, hml, hown, hts⟩
  have hl := lv_entry ([.ref la, .int x1]) (n := 2) (Nat.le_of_ble_eq_true rfl)
  rw [lg_entry_eq]
  generalize (lg_sl ([.ref la, .int x1]) ++ List.replicate (2 - (lg_sl ([.ref la, .int x1])).length) Slot.unset).toArray = ls at hl ⊢
  replace hl : lv_has ls 2 [(0, .ref la), (1, .int x1)] := hl
  have hret : hrJ2_elementData p l e s m ([.ref la, .int x1] : List Value).toArray below meth c (MQ below (va_Sq Q) ([.ref la, .int x1] : List Value).toArray s 0 0 (fun _ => False)) Q := fun r pc ls hq hd => W.aret hx hb hr (Or.inl ⟨_, rfl⟩) (va_rf_or r) (fun t ht hW => ⟨r, rfl, hq, ht⟩) t_nil hd
  unfold wJ2_elementData at hf
  refine lv_aload_n hx hb dJ2_elementData_0 rfl (lv_at hl 0 rfl) ?_
  refine va_get (D := (dC, dI)) (ci := 11) (v := .ref ea) (C := RJ2) (T := TJ2) (N := 3) hx hb hts in_J2 hown hK hP 0 rfl rfl 1 (by decide) (hts _ q383) (fun _ h9 => h9) rfl dJ2_elementData_1 ?_
  refine lv_iload_n hx hb dJ2_elementData_4 rfl (lv_at hl 1 rfl) ?_
  obtain ⟨hin, hf⟩ := hf
  refine va_aldq hx hb hK hP 1 4 rfl rfl hin dJ2_elementData_5 ?_
  exact hret _ _ _ hf dJ2_elementData_6
/-! java/util/ArrayList.get(I)Ljava/lang/Object; -/
theorem pdJ2_get : DscOk yJ2_get 1 := by decide +kernel
abbrev rmJ2_get : Room := { frames := 2, cells := 0, slots := 0, locals := 43 }
abbrev RJ2_get_ : Room := (headSpec (ws_ yJ2_get cJ2_get 2 (some (.object "java/lang/Object"))) rmJ2_get).room
section
variable {p : Program} {l : Launch} {e : Env} {s : State} {m : MethodId} {args : Array Value} {below : List Frame} {meth : Method} {c : Code} {Qw : State → Prop} {dC : Nat → ClassId} {dI : Nat → Nat → Nat} {dA : Nat → ClassId} {eA mi : Nat} {la ea : Nat}
abbrev hrJ2_get (p : Program) (l : Launch) (e : Env) (s : State) (m : MethodId) (args : Array Value) (below : List Frame) (meth : Method) (c : Code) (Qw : State → Prop) (Q : Option Nat → Prop) : Prop := ∀ (r : Option Nat) (pc : Nat) (ls : Array Slot), Q r → decode cJ2_get pc = .ok (.areturn, 1) → W p l e RJ2_get_ s m args below meth c s.heap [] 0 0 Qw (F0 m pc ls [va_rf r])
def wJ2_get (Q : Option Nat → Prop) (size : Int32) (cap : Nat) (f : (Nat → Option Nat)) (x1 : Int32) : Prop := (wJ3_checkIndex (fun r_5 => (wJ2_elementData (fun r_11 => (Q r_11)) cap f x1)) x1 size)
end
set_option maxHeartbeats 4000000 in
set_option maxRecDepth 100000 in
theorem metJ2_get (l : Launch) {Q : Option Nat → Prop} {mc : Int32} {size : Int32} {cap : Nat} {f : (Nat → Option Nat)} {x1 : Int32} {dC : Nat → ClassId} {dI : Nat → Nat → Nat} {dA : Nat → ClassId} {eA mi : Nat} {la ea : Nat} (hf : wJ2_get Q size cap f x1) : Met l yJ2_get (ws_ yJ2_get cJ2_get 2 (some (.object "java/lang/Object"))) rmJ2_get (rPc dC dI dA eA mi [.ref la, .int x1] [(la, .inr (11, [.int mc, .ref ea, .int size])), (ea, .inl (dA 4, cap, .inr (.inr (.inr (.inr f)))))]) (va_Sq Q) 0 0 (fun _ => False) := by
  refine Met.ofW (cc := cJ2_get) (maxL := 2) (ret := (some (.object "java/lang/Object"))) (by decide) rfl ?_
  intro p e s m args below meth c s₁ B hml hv
  obtain ⟨rfl, hP, hK, hE⟩ := hv
  have hx := B.exec
  have hb := B.bytes
  have hr := B.returns
  have hts := atoms_spec (ws := (ws_ yJ2_get cJ2_get 2 (some (.object "java/lang/Object")))) B.pre
  have hts : ∀ w ∈ lw_all, w.before _ s = true := fun w h => hts w (List.mem_cons_of_mem _ h)
  have hown : s.vm.findClass RJ2 = some m.cls := findClass_of_methodNamed B.named
  have hlocks := B.notSynchronized
  have S : CallFix p m c cJ2_get 2 s _ lw_all RJ2 := ⟨hx, hb, hml, hown, hts⟩
  have hl := lv_entry ([.ref la, .int x1]) (n := 2) (Nat.le_of_ble_eq_true rfl)
  rw [lg_entry_eq]
  generalize (lg_sl ([.ref la, .int x1]) ++ List.replicate (2 - (lg_sl ([.ref la, .int x1])).length) Slot.unset).toArray = ls at hl ⊢
  replace hl : lv_has ls 2 [(0, .ref la), (1, .int x1)] := hl
  have hret : hrJ2_get p l e s m ([.ref la, .int x1] : List Value).toArray below meth c (MQ below (va_Sq Q) ([.ref la, .int x1] : List Value).toArray s 0 0 (fun _ => False)) Q := fun r pc ls hq hd => W.aret hx hb hr (Or.inl ⟨_, rfl⟩) (va_rf_or r) (fun t ht hW => ⟨r, rfl, hq, ht⟩) t_nil hd
  unfold wJ2_get at hf
  refine lv_iload_n hx hb dJ2_get_0 rfl (lv_at hl 1 rfl) ?_
  refine lv_aload_n hx hb dJ2_get_1 rfl (lv_at hl 0 rfl) ?_
  refine va_get (D := (dC, dI)) (ci := 11) (v := .int size) (C := RJ2) (T := TJ2) (N := 3) hx hb hts in_J2 hown hK hP 0 rfl rfl 2 (by decide) (hts _ q384) (fun _ h9 => h9) rfl dJ2_get_2 ?_
  refine cs_i (As := [.int x1, .int size]) (rest := []) S (metJ3_checkIndex l hf) (lw_S q135 q136 q62 q137) pdJ3_checkIndex ⟨rfl, rfl⟩ ⟨Nat.le_of_ble_eq_true rfl, Nat.le_of_ble_eq_true rfl⟩ rfl hl.1 rfl (Nat.le_of_ble_eq_true rfl) dJ2_get_5 ⟨Nat.zero_le _, Nat.zero_le _⟩ (fun r_5 hf => ?_)
  refine lv_pop hx hb dJ2_get_8 rfl ?_
  refine lv_aload_n hx hb dJ2_get_9 rfl (lv_at hl 0 rfl) ?_
  refine lv_iload_n hx hb dJ2_get_10 rfl (lv_at hl 1 rfl) ?_
  refine crv_q (As := [.int x1]) (rest := []) S (va_recv hK hP (ci := 11) (q0 := 0) rfl rfl) (hP.sub (ws' := [(la, .inr (11, [.int mc, .ref ea, .int size])), (ea, .inl (dA 4, cap, .inr (.inr (.inr (.inr f)))))]) [0, 1] rfl) hK hE (metJ2_elementData l hf) (lw_V q401 q402 q403 q58 q404) rfl pdJ2_elementData ⟨rfl, rfl⟩ ⟨Nat.le_of_ble_eq_true rfl, Nat.le_of_ble_eq_true rfl⟩ rfl hl.1 rfl (Nat.le_of_ble_eq_true rfl) dJ2_get_11 ⟨Nat.zero_le _, Nat.zero_le _⟩ (fun r_11 hf => ?_)
  exact hret _ _ _ hf dJ2_get_14
