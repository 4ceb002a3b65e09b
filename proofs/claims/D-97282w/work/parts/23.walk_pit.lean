/-! HoleCounty$Pit.kind()I -/
theorem pdX5_kind : DscOk yX5_kind 0 := by decide +kernel
abbrev rmX5_kind : Room := { frames := 0, cells := 0, slots := 0, locals := 0 }
abbrev RX5_kind_ : Room := (headSpec (ws_ yX5_kind cX5_kind 1 (some .int)) rmX5_kind).room
section
variable {p : Program} {l : Launch} {e : Env} {s : State} {m : MethodId} {args : Array Value} {below : List Frame} {meth : Method} {c : Code} {Qw : State → Prop} {dC : Nat → ClassId} {dI : Nat → Nat → Nat} {dA : Nat → ClassId} {eA mi : Nat} {a ci : Nat}
abbrev hrX5_kind (p : Program) (l : Launch) (e : Env) (s : State) (m : MethodId) (args : Array Value) (below : List Frame) (meth : Method) (c : Code) (Qw : State → Prop) (Q : Int32 → Prop) : Prop := ∀ (r : Int32) (pc : Nat) (ls : Array Slot), Q r → decode cX5_kind pc = .ok (.ireturn, 1) → W p l e RX5_kind_ s m args below meth c s.heap [] 0 0 Qw (F0 m pc ls [.int r])
def wX5_kind (Q : Int32 → Prop) : Prop := (Q 0)
end
set_option maxHeartbeats 4000000 in
set_option maxRecDepth 100000 in
theorem metX5_kind (l : Launch) {Q : Int32 → Prop} {cells : Int64} {rate : Int32} {dC : Nat → ClassId} {dI : Nat → Nat → Nat} {dA : Nat → ClassId} {eA mi : Nat} {a ci : Nat} (hci : pK ci) (hf : wX5_kind Q) : Met l yX5_kind (ws_ yX5_kind cX5_kind 1 (some .int)) rmX5_kind (rPc dC dI dA eA mi [.ref a] [(a, .inr (ci, [.long cells, .int rate]))]) (vp_Si Q) 0 0 (fun _ => False) := by
  refine Met.ofW (cc := cX5_kind) (maxL := 1) (ret := (some .int)) (by decide) rfl ?_
  intro p e s m args below meth c s₁ B hml hv
  obtain ⟨rfl, hP, hK, hE⟩ := hv
  have hx := B.exec
  have hb := B.bytes
  have hr := B.returns
  have hts := atoms_spec (ws := (ws_ yX5_kind cX5_kind 1 (some .int))) B.pre
  have hts : ∀ w ∈ lw_all, w.before _ s = true := fun w h => hts w (List.mem_cons_of_mem _ h)
  have hown : s.vm.findClass RX5 = some m.cls := findClass_of_methodNamed B.named
  have hlocks := B.notSynchronized
  have S : CallFix p m c cX5_kind 1 s _ lw_all RX5 := ⟨hx, hb, hml, hown, hts⟩
  have hl := lv_entry ([.ref a]) (n := 1) (Nat.le_of_ble_eq_true rfl)
  rw [lg_entry_eq]
  generalize (lg_sl ([.ref a]) ++ List.replicate (1 - (lg_sl ([.ref a])).length) Slot.unset).toArray = ls at hl ⊢
  replace hl : lv_has ls 1 [(0, .ref a)] := hl
  have hret : hrX5_kind p l e s m ([.ref a] : List Value).toArray below meth c (MQ below (vp_Si Q) ([.ref a] : List Value).toArray s 0 0 (fun _ => False)) Q := fun r pc ls hq hd => W.iret hx hb hr (fun t ht hW => ⟨r, rfl, hq, ht⟩) t_nil hd
  unfold wX5_kind at hf
  refine lv_iconst (v := 0) hx hb dX5_kind_0 (by decide) ?_
  exact hret _ _ _ hf dX5_kind_1
/-! HoleCounty$Pit.tax()I -/
theorem pdX5_tax : DscOk yX5_tax 0 := by decide +kernel
abbrev rmX5_tax : Room := { frames := 1, cells := 0, slots := 0, locals := 24 }
abbrev RX5_tax_ : Room := (headSpec (ws_ yX5_tax cX5_tax 2 (some .int)) rmX5_tax).room
section
variable {p : Program} {l : Launch} {e : Env} {s : State} {m : MethodId} {args : Array Value} {below : List Frame} {meth : Method} {c : Code} {Qw : State → Prop} {dC : Nat → ClassId} {dI : Nat → Nat → Nat} {dA : Nat → ClassId} {eA mi : Nat} {a ci : Nat}
abbrev hrX5_tax (p : Program) (l : Launch) (e : Env) (s : State) (m : MethodId) (args : Array Value) (below : List Frame) (meth : Method) (c : Code) (Qw : State → Prop) (Q : Int32 → Prop) : Prop := ∀ (r : Int32) (pc : Nat) (ls : Array Slot), Q r → decode cX5_tax pc = .ok (.ireturn, 1) → W p l e RX5_tax_ s m args below meth c s.heap [] 0 0 Qw (F0 m pc ls [.int r])
def wX5_tax (Q : Int32 → Prop) (cells : Int64) (rate : Int32) : Prop := (wX0_size (fun r_4 => (Q (rate * ((if 3 < r_4 then 3 else r_4) + (2 * (if 0 < (r_4 - 3) then (r_4 - 3) else 0)))))) cells)
end
set_option maxHeartbeats 4000000 in
set_option maxRecDepth 100000 in
theorem metX5_tax (l : Launch) {Q : Int32 → Prop} {cells : Int64} {rate : Int32} {dC : Nat → ClassId} {dI : Nat → Nat → Nat} {dA : Nat → ClassId} {eA mi : Nat} {a ci : Nat} (hci : pK ci) (hf : wX5_tax Q cells rate) : Met l yX5_tax (ws_ yX5_tax cX5_tax 2 (some .int)) rmX5_tax (rPc dC dI dA eA mi [.ref a] [(a, .inr (ci, [.long cells, .int rate]))]) (vp_Si Q) 0 0 (fun _ => False) := by
  refine Met.ofW (cc := cX5_tax) (maxL := 2) (ret := (some .int)) (by decide) rfl ?_
  intro p e s m args below meth c s₁ B hml hv
  obtain ⟨rfl, hP, hK, hE⟩ := hv
  have hx := B.exec
  have hb := B.bytes
  have hr := B.returns
  have hts := atoms_spec (ws := (ws_ yX5_tax cX5_tax 2 (some .int))) B.pre
  have hts : ∀ w ∈ lw_all, w.before _ s = true := fun w h => hts w (List.mem_cons_of_mem _ h)
  have hown : s.vm.findClass RX5 = some m.cls := findClass_of_methodNamed B.named
  have hlocks := B.notSynchronized
  have S : CallFix p m c cX5_tax 2 s _ lw_all RX5 := ⟨hx, hb, hml, hown, hts⟩
  have hl := lv_entry ([.ref a]) (n := 2) (Nat.le_of_ble_eq_true rfl)
  rw [lg_entry_eq]
  generalize (lg_sl ([.ref a]) ++ List.replicate (2 - (lg_sl ([.ref a])).length) Slot.unset).toArray = ls at hl ⊢
  replace hl : lv_has ls 2 [(0, .ref a)] := hl
  have hret : hrX5_tax p l e s m ([.ref a] : List Value).toArray below meth c (MQ below (vp_Si Q) ([.ref a] : List Value).toArray s 0 0 (fun _ => False)) Q := fun r pc ls hq hd => W.iret hx hb hr (fun t ht hW => ⟨r, rfl, hq, ht⟩) t_nil hd
  unfold wX5_tax at hf
  refine lv_aload_n hx hb dX5_tax_0 rfl (lv_at hl 0 rfl) ?_
  refine gP_cells S hK hP 0 rfl hci (ref := "HoleCounty$Pit") (hts _ q298) (fun _ h9 => h9) dX5_tax_1 ?_
  refine csn_i (As := [.long cells]) (rest := []) S hE.1 (metX0_size l hf) q433 ⟨q362, q54, q363⟩ pdX0_size ⟨rfl, rfl⟩ ⟨Nat.le_of_ble_eq_true rfl, Nat.le_of_ble_eq_true rfl⟩ rfl hl.1 rfl (Nat.le_of_ble_eq_true rfl) dX5_tax_4 ⟨Nat.zero_le _, Nat.zero_le _⟩ (fun r_4 hf => ?_)
  refine lv_istore_n (lv' := [(1, .int r_4), (0, .ref a)]) hx hb dX5_tax_7 rfl hl (by decide) rfl (fun ls hl => ?_)
  refine lv_aload_n hx hb dX5_tax_8 rfl (lv_at hl 1 rfl) ?_
  refine gP_rate S hK hP 0 rfl hci (ref := "HoleCounty$Pit") (hts _ q302) (fun _ h9 => h9) dX5_tax_9 ?_
  refine lv_iload_n hx hb dX5_tax_12 rfl (lv_at hl 0 rfl) ?_
  refine lv_iconst (v := 3) hx hb dX5_tax_13 (by decide) ?_
  refine va_mmin hx hb (hml.trans hl.1.symm) hown (hts _ q438) (hts _ q209) (hts _ q66) (hts _ q210) (Nat.le_of_ble_eq_true rfl) (Nat.le_of_ble_eq_true rfl) (Nat.zero_le _) (Nat.zero_le _) dX5_tax_14 ?_
  refine lv_iconst (v := 2) hx hb dX5_tax_17 (by decide) ?_
  refine lv_iconst (v := 0) hx hb dX5_tax_18 (by decide) ?_
  refine lv_iload_n hx hb dX5_tax_19 rfl (lv_at hl 0 rfl) ?_
  refine lv_iconst (v := 3) hx hb dX5_tax_20 (by decide) ?_
  refine lv_isub hx hb dX5_tax_21 ?_
  refine va_mmax hx hb (hml.trans hl.1.symm) hown (hts _ q439) (hts _ q171) (hts _ q66) (hts _ q172) (Nat.le_of_ble_eq_true rfl) (Nat.le_of_ble_eq_true rfl) (Nat.zero_le _) (Nat.zero_le _) dX5_tax_22 ?_
  refine lv_imul hx hb dX5_tax_25 ?_
  refine lv_iadd hx hb dX5_tax_26 ?_
  refine lv_imul hx hb dX5_tax_27 ?_
  exact hret _ _ _ hf dX5_tax_28
/-! HoleCounty$Pit.rim()J -/
theorem pdX5_rim : DscOk yX5_rim 0 := by decide +kernel
abbrev rmX5_rim : Room := { frames := 1, cells := 0, slots := 0, locals := 21 }
abbrev RX5_rim_ : Room := (headSpec (ws_ yX5_rim cX5_rim 1 (some .long)) rmX5_rim).room
section
variable {p : Program} {l : Launch} {e : Env} {s : State} {m : MethodId} {args : Array Value} {below : List Frame} {meth : Method} {c : Code} {Qw : State → Prop} {dC : Nat → ClassId} {dI : Nat → Nat → Nat} {dA : Nat → ClassId} {eA mi : Nat} {a ci : Nat}
abbrev hrX5_rim (p : Program) (l : Launch) (e : Env) (s : State) (m : MethodId) (args : Array Value) (below : List Frame) (meth : Method) (c : Code) (Qw : State → Prop) (Q : Int64 → Prop) : Prop := ∀ (r : Int64) (pc : Nat) (ls : Array Slot), Q r → decode cX5_rim pc = .ok (.lreturn, 1) → W p l e RX5_rim_ s m args below meth c s.heap [] 0 0 Qw (F0 m pc ls [.long r])
def wX5_rim (Q : Int64 → Prop) (cells : Int64) : Prop := (wX0_beside (fun r_4 => (Q (r_4 &&& (cells ^^^ (-1))))) cells)
end
set_option maxHeartbeats 4000000 in
set_option maxRecDepth 100000 in
theorem metX5_rim (l : Launch) {Q : Int64 → Prop} {cells : Int64} {rate : Int32} {dC : Nat → ClassId} {dI : Nat → Nat → Nat} {dA : Nat → ClassId} {eA mi : Nat} {a ci : Nat} (hci : pK ci) (hf : wX5_rim Q cells) : Met l yX5_rim (ws_ yX5_rim cX5_rim 1 (some .long)) rmX5_rim (rPc dC dI dA eA mi [.ref a] [(a, .inr (ci, [.long cells, .int rate]))]) (vp_Sl Q) 0 0 (fun _ => False) := by
  refine Met.ofW (cc := cX5_rim) (maxL := 1) (ret := (some .long)) (by decide) rfl ?_
  intro p e s m args below meth c s₁ B hml hv
  obtain ⟨rfl, hP, hK, hE⟩ := hv
  have hx := B.exec
  have hb := B.bytes
  have hr := B.returns
  have hts := atoms_spec (ws := (ws_ yX5_rim cX5_rim 1 (some .long))) B.pre
  have hts : ∀ w ∈ lw_all, w.before _ s = true := fun w h => hts w (List.mem_cons_of_mem _ h)
  have hown : s.vm.findClass RX5 = some m.cls := findClass_of_methodNamed B.named
  have hlocks := B.notSynchronized
  have S : CallFix p m c cX5_rim 1 s _ lw_all RX5 := ⟨hx, hb, hml, hown, hts⟩
  have hl := lv_entry ([.ref a]) (n := 1) (Nat.le_of_ble_eq_true rfl)
  rw [lg_entry_eq]
  generalize (lg_sl ([.ref a]) ++ List.replicate (1 - (lg_sl ([.ref a])).length) Slot.unset).toArray = ls at hl ⊢
  replace hl : lv_has ls 1 [(0, .ref a)] := hl
  have hret : hrX5_rim p l e s m ([.ref a] : List Value).toArray below meth c (MQ below (vp_Sl Q) ([.ref a] : List Value).toArray s 0 0 (fun _ => False)) Q := fun r pc ls hq hd => W.lret hx hb hr (fun t ht hW => ⟨r, rfl, hq, ht⟩) t_nil hd
  unfold wX5_rim at hf
  refine lv_aload_n hx hb dX5_rim_0 rfl (lv_at hl 0 rfl) ?_
  refine gP_cells S hK hP 0 rfl hci (ref := "HoleCounty$Pit") (hts _ q298) (fun _ h9 => h9) dX5_rim_1 ?_
  refine crn_l (w0 := []) (As := [.long cells]) (rest := []) S va_nil hK hE (metX0_beside l hf) q477 ⟨q274, q54, q275⟩ pdX0_beside ⟨rfl, rfl⟩ ⟨Nat.le_of_ble_eq_true rfl, Nat.le_of_ble_eq_true rfl⟩ rfl hl.1 rfl (Nat.le_of_ble_eq_true rfl) dX5_rim_4 ⟨Nat.zero_le _, Nat.zero_le _⟩ (fun r_4 hf => ?_)
  refine lv_aload_n hx hb dX5_rim_7 rfl (lv_at hl 0 rfl) ?_
  refine gP_cells S hK hP 0 rfl hci (ref := "HoleCounty$Pit") (hts _ q298) (fun _ h9 => h9) dX5_rim_8 ?_
  refine lv_ldc2 (v := (-1)) hx hb hown (hts _ q432) dX5_rim_11 ?_
  refine lv_lxor hx hb dX5_rim_14 ?_
  refine lv_land hx hb dX5_rim_15 ?_
  exact hret _ _ _ hf dX5_rim_16
/-! HoleCounty$Pit.fence()I -/
theorem pdX5_fence : DscOk yX5_fence 0 := by decide +kernel
abbrev rmX5_fence : Room := { frames := 1, cells := 0, slots := 0, locals := 24 }
abbrev RX5_fence_ : Room := (headSpec (ws_ yX5_fence cX5_fence 2 (some .int)) rmX5_fence).room
section
variable {p : Program} {l : Launch} {e : Env} {s : State} {m : MethodId} {args : Array Value} {below : List Frame} {meth : Method} {c : Code} {Qw : State → Prop} {dC : Nat → ClassId} {dI : Nat → Nat → Nat} {dA : Nat → ClassId} {eA mi : Nat} {a ci : Nat}
abbrev hrX5_fence (p : Program) (l : Launch) (e : Env) (s : State) (m : MethodId) (args : Array Value) (below : List Frame) (meth : Method) (c : Code) (Qw : State → Prop) (Q : Int32 → Prop) : Prop := ∀ (r : Int32) (pc : Nat) (ls : Array Slot), Q r → decode cX5_fence pc = .ok (.ireturn, 1) → W p l e RX5_fence_ s m args below meth c s.heap [] 0 0 Qw (F0 m pc ls [.int r])
def wX5_fence (Q : Int32 → Prop) (cells : Int64) : Prop := (wX0_size (fun r_19 => (∀ x1_23 : Int32, x1_23 = (0 + r_19) → (wX0_size (fun r_41 => (∀ x1_45 : Int32, x1_45 = (x1_23 + r_41) → (wX0_size (fun r_70 => (∀ x1_74 : Int32, x1_74 = (x1_45 + r_70) → (wX0_size (fun r_99 => (∀ x1_103 : Int32, x1_103 = (x1_74 + r_99) → (Q x1_103))) (cells &&& (((cells &&& (1090785345 ^^^ (-1))) >>> ((1 : Int32).toInt64 &&& 63)) ^^^ (-1)))))) (cells &&& (((cells &&& (34905131040 ^^^ (-1))) <<< ((1 : Int32).toInt64 &&& 63)) ^^^ (-1)))))) (cells &&& ((cells >>> ((6 : Int32).toInt64 &&& 63)) ^^^ (-1)))))) (cells &&& ((cells <<< ((6 : Int32).toInt64 &&& 63)) ^^^ (-1))))
end
set_option maxHeartbeats 4000000 in
set_option maxRecDepth 100000 in
theorem metX5_fence (l : Launch) {Q : Int32 → Prop} {cells : Int64} {rate : Int32} {dC : Nat → ClassId} {dI : Nat → Nat → Nat} {dA : Nat → ClassId} {eA mi : Nat} {a ci : Nat} (hci : pK ci) (hf : wX5_fence Q cells) : Met l yX5_fence (ws_ yX5_fence cX5_fence 2 (some .int)) rmX5_fence (rPc dC dI dA eA mi [.ref a] [(a, .inr (ci, [.long cells, .int rate]))]) (vp_Si Q) 0 0 (fun _ => False) := by
  refine Met.ofW (cc := cX5_fence) (maxL := 2) (ret := (some .int)) (by decide) rfl ?_
  intro p e s m args below meth c s₁ B hml hv
  obtain ⟨rfl, hP, hK, hE⟩ := hv
  have hx := B.exec
  have hb := B.bytes
  have hr := B.returns
  have hts := atoms_spec (ws := (ws_ yX5_fence cX5_fence 2 (some .int))) B.pre
  have hts : ∀ w ∈ lw_all, w.before _ s = true := fun w h => hts w (List.mem_cons_of_mem _ h)
  have hown : s.vm.findClass RX5 = some m.cls := findClass_of_methodNamed B.named
  have hlocks := B.notSynchronized
  have S : CallFix p m c cX5_fence 2 s _ lw_all RX5 := ⟨hx, hb, hml, hown, hts⟩
  have hl := lv_entry ([.ref a]) (n := 2) (Nat.le_of_ble_eq_true rfl)
  rw [lg_entry_eq]
  generalize (lg_sl ([.ref a]) ++ List.replicate (2 - (lg_sl ([.ref a])).length) Slot.unset).toArray = ls at hl ⊢
  replace hl : lv_has ls 2 [(0, .ref a)] := hl
  have hret : hrX5_fence p l e s m ([.ref a] : List Value).toArray below meth c (MQ below (vp_Si Q) ([.ref a] : List Value).toArray s 0 0 (fun _ => False)) Q := fun r pc ls hq hd => W.iret hx hb hr (fun t ht hW => ⟨r, rfl, hq, ht⟩) t_nil hd
  unfold wX5_fence at hf
  refine lv_iconst (v := 0) hx hb dX5_fence_0 (by decide) ?_
  refine lv_istore_n (lv' := [(1, .int 0), (0, .ref a)]) hx hb dX5_fence_1 rfl hl (by decide) rfl (fun ls hl => ?_)
  refine lv_iload_n hx hb dX5_fence_2 rfl (lv_at hl 0 rfl) ?_
  refine lv_aload_n hx hb dX5_fence_3 rfl (lv_at hl 1 rfl) ?_
  refine gP_cells S hK hP 0 rfl hci (ref := "HoleCounty$Pit") (hts _ q298) (fun _ h9 => h9) dX5_fence_4 ?_
  refine lv_aload_n hx hb dX5_fence_7 rfl (lv_at hl 1 rfl) ?_
  refine gP_cells S hK hP 0 rfl hci (ref := "HoleCounty$Pit") (hts _ q298) (fun _ h9 => h9) dX5_fence_8 ?_
  refine lv_bipush (v := 6) hx hb dX5_fence_11 (by decide) ?_
  refine lv_lshl (v := (cells <<< ((6 : Int32).toInt64 &&& 63))) hx hb dX5_fence_13 rfl ?_
  refine lv_ldc2 (v := (-1)) hx hb hown (hts _ q432) dX5_fence_14 ?_
  refine lv_lxor hx hb dX5_fence_17 ?_
  refine lv_land hx hb dX5_fence_18 ?_
  refine csn_i (As := [.long (cells &&& ((cells <<< ((6 : Int32).toInt64 &&& 63)) ^^^ (-1)))]) (rest := [.int 0]) S hE.1 (metX0_size l hf) q433 ⟨q362, q54, q363⟩ pdX0_size ⟨rfl, rfl⟩ ⟨Nat.le_of_ble_eq_true rfl, Nat.le_of_ble_eq_true rfl⟩ rfl hl.1 rfl (Nat.le_of_ble_eq_true rfl) dX5_fence_19 ⟨Nat.zero_le _, Nat.zero_le _⟩ (fun r_19 hf => ?_)
  refine lv_iadd hx hb dX5_fence_22 ?_
  refine lv_topi (fun x1_23 ex1_23 => ?_)
  replace hf := hf x1_23 ex1_23
  refine lv_istore_n (lv' := [(1, .int x1_23), (0, .ref a)]) hx hb dX5_fence_23 rfl hl (by decide) rfl (fun ls hl => ?_)
  refine lv_iload_n hx hb dX5_fence_24 rfl (lv_at hl 0 rfl) ?_
  refine lv_aload_n hx hb dX5_fence_25 rfl (lv_at hl 1 rfl) ?_
  refine gP_cells S hK hP 0 rfl hci (ref := "HoleCounty$Pit") (hts _ q298) (fun _ h9 => h9) dX5_fence_26 ?_
  refine lv_aload_n hx hb dX5_fence_29 rfl (lv_at hl 1 rfl) ?_
  refine gP_cells S hK hP 0 rfl hci (ref := "HoleCounty$Pit") (hts _ q298) (fun _ h9 => h9) dX5_fence_30 ?_
  refine lv_bipush (v := 6) hx hb dX5_fence_33 (by decide) ?_
  refine lv_lshr (v := (cells >>> ((6 : Int32).toInt64 &&& 63))) hx hb dX5_fence_35 rfl ?_
  refine lv_ldc2 (v := (-1)) hx hb hown (hts _ q432) dX5_fence_36 ?_
  refine lv_lxor hx hb dX5_fence_39 ?_
  refine lv_land hx hb dX5_fence_40 ?_
  refine csn_i (As := [.long (cells &&& ((cells >>> ((6 : Int32).toInt64 &&& 63)) ^^^ (-1)))]) (rest := [.int x1_23]) S hE.1 (metX0_size l hf) q433 ⟨q362, q54, q363⟩ pdX0_size ⟨rfl, rfl⟩ ⟨Nat.le_of_ble_eq_true rfl, Nat.le_of_ble_eq_true rfl⟩ rfl hl.1 rfl (Nat.le_of_ble_eq_true rfl) dX5_fence_41 ⟨Nat.zero_le _, Nat.zero_le _⟩ (fun r_41 hf => ?_)
  refine lv_iadd hx hb dX5_fence_44 ?_
  refine lv_topi (fun x1_45 ex1_45 => ?_)
  replace hf := hf x1_45 ex1_45
  refine lv_istore_n (lv' := [(1, .int x1_45), (0, .ref a)]) hx hb dX5_fence_45 rfl hl (by decide) rfl (fun ls hl => ?_)
  refine lv_iload_n hx hb dX5_fence_46 rfl (lv_at hl 0 rfl) ?_
  refine lv_aload_n hx hb dX5_fence_47 rfl (lv_at hl 1 rfl) ?_
  refine gP_cells S hK hP 0 rfl hci (ref := "HoleCounty$Pit") (hts _ q298) (fun _ h9 => h9) dX5_fence_48 ?_
  refine lv_aload_n hx hb dX5_fence_51 rfl (lv_at hl 1 rfl) ?_
  refine gP_cells S hK hP 0 rfl hci (ref := "HoleCounty$Pit") (hts _ q298) (fun _ h9 => h9) dX5_fence_52 ?_
  refine va_getsN (v := .long 34905131040) hx hb hE.2.2.2.2.1 va_S.rf hown ((hE.1 _ q434 rfl).use rfl) (fun _ h9 => h9) dX5_fence_55 ?_
  refine lv_ldc2 (v := (-1)) hx hb hown (hts _ q432) dX5_fence_58 ?_
  refine lv_lxor hx hb dX5_fence_61 ?_
  refine lv_land hx hb dX5_fence_62 ?_
  refine lv_iconst (v := 1) hx hb dX5_fence_63 (by decide) ?_
  refine lv_lshl (v := ((cells &&& (34905131040 ^^^ (-1))) <<< ((1 : Int32).toInt64 &&& 63))) hx hb dX5_fence_64 rfl ?_
  refine lv_ldc2 (v := (-1)) hx hb hown (hts _ q432) dX5_fence_65 ?_
  refine lv_lxor hx hb dX5_fence_68 ?_
  refine lv_land hx hb dX5_fence_69 ?_
  refine csn_i (As := [.long (cells &&& (((cells &&& (34905131040 ^^^ (-1))) <<< ((1 : Int32).toInt64 &&& 63)) ^^^ (-1)))]) (rest := [.int x1_45]) S hE.1 (metX0_size l hf) q433 ⟨q362, q54, q363⟩ pdX0_size ⟨rfl, rfl⟩ ⟨Nat.le_of_ble_eq_true rfl, Nat.le_of_ble_eq_true rfl⟩ rfl hl.1 rfl (Nat.le_of_ble_eq_true rfl) dX5_fence_70 ⟨Nat.zero_le _, Nat.zero_le _⟩ (fun r_70 hf => ?_)
  refine lv_iadd hx hb dX5_fence_73 ?_
  refine lv_topi (fun x1_74 ex1_74 => ?_)
  replace hf := hf x1_74 ex1_74
  refine lv_istore_n (lv' := [(1, .int x1_74), (0, .ref a)]) hx hb dX5_fence_74 rfl hl (by decide) rfl (fun ls hl => ?_)
  refine lv_iload_n hx hb dX5_fence_75 rfl (lv_at hl 0 rfl) ?_
  refine lv_aload_n hx hb dX5_fence_76 rfl (lv_at hl 1 rfl) ?_
  refine gP_cells S hK hP 0 rfl hci (ref := "HoleCounty$Pit") (hts _ q298) (fun _ h9 => h9) dX5_fence_77 ?_
  refine lv_aload_n hx hb dX5_fence_80 rfl (lv_at hl 1 rfl) ?_
  refine gP_cells S hK hP 0 rfl hci (ref := "HoleCounty$Pit") (hts _ q298) (fun _ h9 => h9) dX5_fence_81 ?_
  refine va_getsN (v := .long 1090785345) hx hb hE.2.2.2.1 va_S.rf hown ((hE.1 _ q435 rfl).use rfl) (fun _ h9 => h9) dX5_fence_84 ?_
  refine lv_ldc2 (v := (-1)) hx hb hown (hts _ q432) dX5_fence_87 ?_
  refine lv_lxor hx hb dX5_fence_90 ?_
  refine lv_land hx hb dX5_fence_91 ?_
  refine lv_iconst (v := 1) hx hb dX5_fence_92 (by decide) ?_
  refine lv_lshr (v := ((cells &&& (1090785345 ^^^ (-1))) >>> ((1 : Int32).toInt64 &&& 63))) hx hb dX5_fence_93 rfl ?_
  refine lv_ldc2 (v := (-1)) hx hb hown (hts _ q432) dX5_fence_94 ?_
  refine lv_lxor hx hb dX5_fence_97 ?_
  refine lv_land hx hb dX5_fence_98 ?_
  refine csn_i (As := [.long (cells &&& (((cells &&& (1090785345 ^^^ (-1))) >>> ((1 : Int32).toInt64 &&& 63)) ^^^ (-1)))]) (rest := [.int x1_74]) S hE.1 (metX0_size l hf) q433 ⟨q362, q54, q363⟩ pdX0_size ⟨rfl, rfl⟩ ⟨Nat.le_of_ble_eq_true rfl, Nat.le_of_ble_eq_true rfl⟩ rfl hl.1 rfl (Nat.le_of_ble_eq_true rfl) dX5_fence_99 ⟨Nat.zero_le _, Nat.zero_le _⟩ (fun r_99 hf => ?_)
  refine lv_iadd hx hb dX5_fence_102 ?_
  refine lv_topi (fun x1_103 ex1_103 => ?_)
  replace hf := hf x1_103 ex1_103
  refine lv_istore_n (lv' := [(1, .int x1_103), (0, .ref a)]) hx hb dX5_fence_103 rfl hl (by decide) rfl (fun ls hl => ?_)
  refine lv_iload_n hx hb dX5_fence_104 rfl (lv_at hl 0 rfl) ?_
  exact hret _ _ _ hf dX5_fence_105
/-! HoleCounty$Pit.within()J -/
theorem pdX5_within : DscOk yX5_within 0 := by decide +kernel
abbrev rmX5_within : Room := { frames := 2, cells := 0, slots := 0, locals := 48 }
abbrev RX5_within_ : Room := (headSpec (ws_ yX5_within cX5_within 3 (some .long)) rmX5_within).room
section
variable {p : Program} {l : Launch} {e : Env} {s : State} {m : MethodId} {args : Array Value} {below : List Frame} {meth : Method} {c : Code} {Qw : State → Prop} {dC : Nat → ClassId} {dI : Nat → Nat → Nat} {dA : Nat → ClassId} {eA mi : Nat} {a ci : Nat}
abbrev hrX5_within (p : Program) (l : Launch) (e : Env) (s : State) (m : MethodId) (args : Array Value) (below : List Frame) (meth : Method) (c : Code) (Qw : State → Prop) (Q : Int64 → Prop) : Prop := ∀ (r : Int64) (pc : Nat) (ls : Array Slot), Q r → decode cX5_within pc = .ok (.lreturn, 1) → W p l e RX5_within_ s m args below meth c s.heap [] 0 0 Qw (F0 m pc ls [.long r])
def wX5_within (Q : Int64 → Prop) (cells : Int64) : Prop := (∀ x1_12 : Int64, x1_12 = (68719476735 &&& (cells ^^^ (-1))) → (wX0_spread (fun r_20 => (Q (x1_12 &&& (r_20 ^^^ (-1))))) (68208171135 &&& x1_12) x1_12))
end
set_option maxHeartbeats 4000000 in
set_option maxRecDepth 100000 in
theorem metX5_within (l : Launch) {Q : Int64 → Prop} {cells : Int64} {rate : Int32} {dC : Nat → ClassId} {dI : Nat → Nat → Nat} {dA : Nat → ClassId} {eA mi : Nat} {a ci : Nat} (hci : pK ci) (hf : wX5_within Q cells) : Met l yX5_within (ws_ yX5_within cX5_within 3 (some .long)) rmX5_within (rPc dC dI dA eA mi [.ref a] [(a, .inr (ci, [.long cells, .int rate]))]) (vp_Sl Q) 0 0 (fun _ => False) := by
  refine Met.ofW (cc := cX5_within) (maxL := 3) (ret := (some .long)) (by decide) rfl ?_
  intro p e s m args below meth c s₁ B hml hv
  obtain ⟨rfl, hP, hK, hE⟩ := hv
  have hx := B.exec
  have hb := B.bytes
  have hr := B.returns
  have hts := atoms_spec (ws := (ws_ yX5_within cX5_within 3 (some .long))) B.pre
  have hts : ∀ w ∈ lw_all, w.before _ s = true := fun w h => hts w (List.mem_cons_of_mem _ h)
  have hown : s.vm.findClass RX5 = some m.cls := findClass_of_methodNamed B.named
  have hlocks := B.notSynchronized
  have S : CallFix p m c cX5_within 3 s _ lw_all RX5 := ⟨hx, hb, hml, hown, hts⟩
  have hl := lv_entry ([.ref a]) (n := 3) (Nat.le_of_ble_eq_true rfl)
  rw [lg_entry_eq]
  generalize (lg_sl ([.ref a]) ++ List.replicate (3 - (lg_sl ([.ref a])).length) Slot.unset).toArray = ls at hl ⊢
  replace hl : lv_has ls 3 [(0, .ref a)] := hl
  have hret : hrX5_within p l e s m ([.ref a] : List Value).toArray below meth c (MQ below (vp_Sl Q) ([.ref a] : List Value).toArray s 0 0 (fun _ => False)) Q := fun r pc ls hq hd => W.lret hx hb hr (fun t ht hW => ⟨r, rfl, hq, ht⟩) t_nil hd
  unfold wX5_within at hf
  refine lv_ldc2 (v := 68719476735) hx hb hown (hts _ q503) dX5_within_0 ?_
  refine lv_aload_n hx hb dX5_within_3 rfl (lv_at hl 0 rfl) ?_
  refine gP_cells S hK hP 0 rfl hci (ref := "HoleCounty$Pit") (hts _ q298) (fun _ h9 => h9) dX5_within_4 ?_
  refine lv_ldc2 (v := (-1)) hx hb hown (hts _ q432) dX5_within_7 ?_
  refine lv_lxor hx hb dX5_within_10 ?_
  refine lv_land hx hb dX5_within_11 ?_
  refine lv_topl (fun x1_12 ex1_12 => ?_)
  replace hf := hf x1_12 ex1_12
  refine lv_lstore_n (lv' := [(1, .long x1_12), (0, .ref a)]) hx hb dX5_within_12 rfl hl (by decide) rfl (fun ls hl => ?_)
  refine lv_lload_n hx hb dX5_within_13 rfl (lv_at hl 0 rfl) ?_
  refine va_getsN (v := .long 68208171135) hx hb hE.2.2.2.2.2.2.2.1 va_S.rf hown ((hE.1 _ q504 rfl).use rfl) (fun _ h9 => h9) dX5_within_14 ?_
  refine lv_lload_n hx hb dX5_within_17 rfl (lv_at hl 0 rfl) ?_
  refine lv_land hx hb dX5_within_18 ?_
  refine lv_lload_n hx hb dX5_within_19 rfl (lv_at hl 0 rfl) ?_
  refine crn_l (w0 := []) (As := [.long (68208171135 &&& x1_12), .long x1_12]) (rest := [.long x1_12]) S va_nil hK hE (metX0_spread l hf) q505 ⟨q271, q54, q272⟩ pdX0_spread ⟨rfl, rfl⟩ ⟨Nat.le_of_ble_eq_true rfl, Nat.le_of_ble_eq_true rfl⟩ rfl hl.1 rfl (Nat.le_of_ble_eq_true rfl) dX5_within_20 ⟨Nat.zero_le _, Nat.zero_le _⟩ (fun r_20 hf => ?_)
  refine lv_ldc2 (v := (-1)) hx hb hown (hts _ q432) dX5_within_23 ?_
  refine lv_lxor hx hb dX5_within_26 ?_
  refine lv_land hx hb dX5_within_27 ?_
  exact hret _ _ _ hf dX5_within_28
/-! HoleCounty$Pit.largest()I -/
theorem pdX5_largest : DscOk yX5_largest 0 := by decide +kernel
abbrev rmX5_largest : Room := { frames := 0, cells := 0, slots := 0, locals := 0 }
abbrev RX5_largest_ : Room := (headSpec (ws_ yX5_largest cX5_largest 4 (some .int)) rmX5_largest).room
section
variable {p : Program} {l : Launch} {e : Env} {s : State} {m : MethodId} {args : Array Value} {below : List Frame} {meth : Method} {c : Code} {Qw : State → Prop} {dC : Nat → ClassId} {dI : Nat → Nat → Nat} {dA : Nat → ClassId} {eA mi : Nat} {a ci : Nat}
abbrev hrX5_largest (p : Program) (l : Launch) (e : Env) (s : State) (m : MethodId) (args : Array Value) (below : List Frame) (meth : Method) (c : Code) (Qw : State → Prop) (Q : Int32 → Prop) : Prop := ∀ (r : Int32) (pc : Nat) (ls : Array Slot), Q r → decode cX5_largest pc = .ok (.ireturn, 1) → W p l e RX5_largest_ s m args below meth c s.heap [] 0 0 Qw (F0 m pc ls [.int r])
def wX5_largest_7 (Q : Int32 → Prop) (cells : Int64) : Nat → Int32 → Int64 → Prop
  | 0, _, _ => False
  | n + 1, x1, x2 => ((x2 = 0 → (Q x1)) ∧ (¬ x2 = 0 → (∀ x1_13 : Int32, x1_13 = x1 + 1 → (∀ x2_29 : Int64, x2_29 = (x2 &&& ((x2 >>> ((1 : Int32).toInt64 &&& 63)) &&& (34905131040 ^^^ (-1)))) → (∀ x2_36 : Int64, x2_36 = (x2_29 &&& (x2_29 >>> ((6 : Int32).toInt64 &&& 63))) → ((wX5_largest_7 Q cells n) x1_13 x2_36))))))
set_option maxHeartbeats 4000000 in
set_option maxRecDepth 100000 in
theorem tX5_largest_7 {Q : Int32 → Prop} {cells : Int64} {rate : Int32} (S : CallFix p m c cX5_largest 4 s args lw_all RX5) (hK : va_K (dC, dI) vwCl (tysG dA) s) (hE : EG noA eA mi s s.heap) (hP : va_P (dC, dI) vwCl [(a, .inr (ci, [.long cells, .int rate]))] s.heap) (hci : pK ci) (hret : hrX5_largest p l e s m args below meth c Qw Q) : ∀ (n : Nat) (x1 : Int32) (x2 : Int64) (ls : Array Slot), wX5_largest_7 Q cells n x1 x2 → lv_has ls 4 [(1, .int x1), (2, .long x2)] → W p l e RX5_largest_ s m args below meth c s.heap [] 0 0 Qw (F0 m 7 ls []) := by
  obtain ⟨hx, hb, hml, hown, hts⟩ := id S
  intro n
  induction n with
  | zero => intro _ _ _ hf; exact hf.elim
  | succ n ih =>
    intro x1 x2 ls hf hl
    rw [wX5_largest_7] at hf
    refine lv_lload_n hx hb dX5_largest_7 rfl (lv_at hl 1 rfl) ?_
    refine lv_lconst (v := 0) hx hb dX5_largest_8 (by decide) ?_
    refine lc_eq (tgt := 40) hx hb dX5_largest_9 dX5_largest_10 (by decide) (fun c_9 => ?_) (fun c_9 => ?_)
    · replace hf := hf.1 c_9
      refine lv_iload_n hx hb dX5_largest_40 rfl (lv_at hl 0 rfl) ?_
      exact hret _ _ _ hf dX5_largest_41
    · replace hf := hf.2 c_9
      obtain ⟨x1_13, ex1_13⟩ : ∃ z : Int32, z = x1 + 1 := ⟨_, rfl⟩
      replace hf := hf x1_13 ex1_13
      refine lv_iinc (v := x1_13) (lv' := [(1, .int x1_13), (2, .long x2)]) hx hb dX5_largest_13 hl (k := 0) rfl (by rw [ex1_13]; rfl) (by decide) rfl (fun ls hl => ?_)
      refine lv_lload_n hx hb dX5_largest_16 rfl (lv_at hl 1 rfl) ?_
      refine lv_lload_n hx hb dX5_largest_17 rfl (lv_at hl 1 rfl) ?_
      refine lv_iconst (v := 1) hx hb dX5_largest_18 (by decide) ?_
      refine lv_lshr (v := (x2 >>> ((1 : Int32).toInt64 &&& 63))) hx hb dX5_largest_19 rfl ?_
      refine va_getsN (v := .long 34905131040) hx hb hE.2.2.2.2.1 va_S.rf hown ((hE.1 _ q434 rfl).use rfl) (fun _ h9 => h9) dX5_largest_20 ?_
      refine lv_ldc2 (v := (-1)) hx hb hown (hts _ q432) dX5_largest_23 ?_
      refine lv_lxor hx hb dX5_largest_26 ?_
      refine lv_land hx hb dX5_largest_27 ?_
      refine lv_land hx hb dX5_largest_28 ?_
      refine lv_topl (fun x2_29 ex2_29 => ?_)
      replace hf := hf x2_29 ex2_29
      refine lv_lstore_n (lv' := [(2, .long x2_29), (1, .int x1_13)]) hx hb dX5_largest_29 rfl hl (by decide) rfl (fun ls hl => ?_)
      refine lv_lload_n hx hb dX5_largest_30 rfl (lv_at hl 0 rfl) ?_
      refine lv_lload_n hx hb dX5_largest_31 rfl (lv_at hl 0 rfl) ?_
      refine lv_bipush (v := 6) hx hb dX5_largest_32 (by decide) ?_
      refine lv_lshr (v := (x2_29 >>> ((6 : Int32).toInt64 &&& 63))) hx hb dX5_largest_34 rfl ?_
      refine lv_land hx hb dX5_largest_35 ?_
      refine lv_topl (fun x2_36 ex2_36 => ?_)
      replace hf := hf x2_36 ex2_36
      refine lv_lstore_n (lv' := [(2, .long x2_36), (1, .int x1_13)]) hx hb dX5_largest_36 rfl hl (by decide) rfl (fun ls hl => ?_)
      refine lv_goto (tgt := 7) hx hb dX5_largest_37 (by decide) ?_
      exact ih x1_13 x2_36 _ hf (lv_sub hl [1, 0] rfl)
def wX5_largest (Q : Int32 → Prop) (cells : Int64) : Prop := (∃ fu : Nat, wX5_largest_7 Q cells fu 0 cells)
end
set_option maxHeartbeats 4000000 in
set_option maxRecDepth 100000 in
theorem metX5_largest (l : Launch) {Q : Int32 → Prop} {cells : Int64} {rate : Int32} {dC : Nat → ClassId} {dI : Nat → Nat → Nat} {dA : Nat → ClassId} {eA mi : Nat} {a ci : Nat} (hci : pK ci) (hf : wX5_largest Q cells) : Met l yX5_largest (ws_ yX5_largest cX5_largest 4 (some .int)) rmX5_largest (rPc dC dI dA eA mi [.ref a] [(a, .inr (ci, [.long cells, .int rate]))]) (vp_Si Q) 0 0 (fun _ => False) := by
  refine Met.ofW (cc := cX5_largest) (maxL := 4) (ret := (some .int)) (by decide) rfl ?_
  intro p e s m args below meth c s₁ B hml hv
  obtain ⟨rfl, hP, hK, hE⟩ := hv
  have hx := B.exec
  have hb := B.bytes
  have hr := B.returns
  have hts := atoms_spec (ws := (ws_ yX5_largest cX5_largest 4 (some .int))) B.pre
  have hts : ∀ w ∈ lw_all, w.before _ s = true := fun w h => hts w (List.mem_cons_of_mem _ h)
  have hown : s.vm.findClass RX5 = some m.cls := findClass_of_methodNamed B.named
  have hlocks := B.notSynchronized
  have S : CallFix p m c cX5_largest 4 s _ lw_all RX5 := ⟨hx, hb, hml, hown, hts⟩
  have hl := lv_entry ([.ref a]) (n := 4) (Nat.le_of_ble_eq_true rfl)
  rw [lg_entry_eq]
  generalize (lg_sl ([.ref a]) ++ List.replicate (4 - (lg_sl ([.ref a])).length) Slot.unset).toArray = ls at hl ⊢
  replace hl : lv_has ls 4 [(0, .ref a)] := hl
  have hret : hrX5_largest p l e s m ([.ref a] : List Value).toArray below meth c (MQ below (vp_Si Q) ([.ref a] : List Value).toArray s 0 0 (fun _ => False)) Q := fun r pc ls hq hd => W.iret hx hb hr (fun t ht hW => ⟨r, rfl, hq, ht⟩) t_nil hd
  unfold wX5_largest at hf
  refine lv_iconst (v := 0) hx hb dX5_largest_0 (by decide) ?_
  refine lv_istore_n (lv' := [(1, .int 0), (0, .ref a)]) hx hb dX5_largest_1 rfl hl (by decide) rfl (fun ls hl => ?_)
  refine lv_aload_n hx hb dX5_largest_2 rfl (lv_at hl 1 rfl) ?_
  refine gP_cells S hK hP 0 rfl hci (ref := "HoleCounty$Pit") (hts _ q298) (fun _ h9 => h9) dX5_largest_3 ?_
  refine lv_lstore_n (lv' := [(2, .long cells), (1, .int 0), (0, .ref a)]) hx hb dX5_largest_6 rfl hl (by decide) rfl (fun ls hl => ?_)
  obtain ⟨fu, hf⟩ := hf
  exact tX5_largest_7 S hK hE hP hci hret fu 0 cells _ hf (lv_sub hl [1, 0] rfl)
/-! HoleCounty$Shaft.kind()I -/
theorem pdX6_kind : DscOk yX6_kind 0 := by decide +kernel
abbrev rmX6_kind : Room := { frames := 1, cells := 0, slots := 0, locals := 20 }
abbrev RX6_kind_ : Room := (headSpec (ws_ yX6_kind cX6_kind 1 (some .int)) rmX6_kind).room
section
variable {p : Program} {l : Launch} {e : Env} {s : State} {m : MethodId} {args : Array Value} {below : List Frame} {meth : Method} {c : Code} {Qw : State → Prop} {dC : Nat → ClassId} {dI : Nat → Nat → Nat} {dA : Nat → ClassId} {eA mi : Nat} {a ci : Nat}
abbrev hrX6_kind (p : Program) (l : Launch) (e : Env) (s : State) (m : MethodId) (args : Array Value) (below : List Frame) (meth : Method) (c : Code) (Qw : State → Prop) (Q : Int32 → Prop) : Prop := ∀ (r : Int32) (pc : Nat) (ls : Array Slot), Q r → decode cX6_kind pc = .ok (.ireturn, 1) → W p l e RX6_kind_ s m args below meth c s.heap [] 0 0 Qw (F0 m pc ls [.int r])
def wX6_kind (Q : Int32 → Prop) : Prop := (wX5_kind (fun r_1 => (Q (r_1 + 2))))
end
set_option maxHeartbeats 4000000 in
set_option maxRecDepth 100000 in
theorem metX6_kind (l : Launch) {Q : Int32 → Prop} {cells : Int64} {rate : Int32} {dC : Nat → ClassId} {dI : Nat → Nat → Nat} {dA : Nat → ClassId} {eA mi : Nat} {a ci : Nat} (hci : pK ci) (hf : wX6_kind Q) : Met l yX6_kind (ws_ yX6_kind cX6_kind 1 (some .int)) rmX6_kind (rPc dC dI dA eA mi [.ref a] [(a, .inr (ci, [.long cells, .int rate]))]) (vp_Si Q) 0 0 (fun _ => False) := by
  refine Met.ofW (cc := cX6_kind) (maxL := 1) (ret := (some .int)) (by decide) rfl ?_
  intro p e s m args below meth c s₁ B hml hv
  obtain ⟨rfl, hP, hK, hE⟩ := hv
  have hx := B.exec
  have hb := B.bytes
  have hr := B.returns
  have hts := atoms_spec (ws := (ws_ yX6_kind cX6_kind 1 (some .int))) B.pre
  have hts : ∀ w ∈ lw_all, w.before _ s = true := fun w h => hts w (List.mem_cons_of_mem _ h)
  have hown : s.vm.findClass RX6 = some m.cls := findClass_of_methodNamed B.named
  have hlocks := B.notSynchronized
  have S : CallFix p m c cX6_kind 1 s _ lw_all RX6 := ⟨hx, hb, hml, hown, hts⟩
  have hl := lv_entry ([.ref a]) (n := 1) (Nat.le_of_ble_eq_true rfl)
  rw [lg_entry_eq]
  generalize (lg_sl ([.ref a]) ++ List.replicate (1 - (lg_sl ([.ref a])).length) Slot.unset).toArray = ls at hl ⊢
  replace hl : lv_has ls 1 [(0, .ref a)] := hl
  have hret : hrX6_kind p l e s m ([.ref a] : List Value).toArray below meth c (MQ below (vp_Si Q) ([.ref a] : List Value).toArray s 0 0 (fun _ => False)) Q := fun r pc ls hq hd => W.iret hx hb hr (fun t ht hW => ⟨r, rfl, hq, ht⟩) t_nil hd
  unfold wX6_kind at hf
  refine lv_aload_n hx hb dX6_kind_0 rfl (lv_at hl 0 rfl) ?_
  refine pSU_i (rest := []) S hK hE hP 0 rfl (metX5_kind l hci hf) (lw_SU q455 q448 q344 q446 q68 q465) (by decide +kernel) ⟨rfl, rfl⟩ ⟨Nat.le_of_ble_eq_true rfl, Nat.le_of_ble_eq_true rfl⟩ hl.1 rfl (Nat.le_of_ble_eq_true rfl) dX6_kind_1 ⟨Nat.zero_le _, Nat.zero_le _⟩ (fun r_1 hf => ?_)
  refine lv_iconst (v := 2) hx hb dX6_kind_4 (by decide) ?_
  refine lv_iadd hx hb dX6_kind_5 ?_
  exact hret _ _ _ hf dX6_kind_6
/-! HoleCounty$Shaft.tax()I -/
theorem pdX6_tax : DscOk yX6_tax 0 := by decide +kernel
abbrev rmX6_tax : Room := { frames := 2, cells := 0, slots := 0, locals := 45 }
abbrev RX6_tax_ : Room := (headSpec (ws_ yX6_tax cX6_tax 1 (some .int)) rmX6_tax).room
section
variable {p : Program} {l : Launch} {e : Env} {s : State} {m : MethodId} {args : Array Value} {below : List Frame} {meth : Method} {c : Code} {Qw : State → Prop} {dC : Nat → ClassId} {dI : Nat → Nat → Nat} {dA : Nat → ClassId} {eA mi : Nat} {a ci : Nat}
abbrev hrX6_tax (p : Program) (l : Launch) (e : Env) (s : State) (m : MethodId) (args : Array Value) (below : List Frame) (meth : Method) (c : Code) (Qw : State → Prop) (Q : Int32 → Prop) : Prop := ∀ (r : Int32) (pc : Nat) (ls : Array Slot), Q r → decode cX6_tax pc = .ok (.ireturn, 1) → W p l e RX6_tax_ s m args below meth c s.heap [] 0 0 Qw (F0 m pc ls [.int r])
def wX6_tax (Q : Int32 → Prop) (cells : Int64) (rate : Int32) : Prop := (wX5_tax (fun r_1 => (Q (r_1 + 10))) cells rate)
end
set_option maxHeartbeats 4000000 in
set_option maxRecDepth 100000 in
theorem metX6_tax (l : Launch) {Q : Int32 → Prop} {cells : Int64} {rate : Int32} {dC : Nat → ClassId} {dI : Nat → Nat → Nat} {dA : Nat → ClassId} {eA mi : Nat} {a ci : Nat} (hci : pK ci) (hf : wX6_tax Q cells rate) : Met l yX6_tax (ws_ yX6_tax cX6_tax 1 (some .int)) rmX6_tax (rPc dC dI dA eA mi [.ref a] [(a, .inr (ci, [.long cells, .int rate]))]) (vp_Si Q) 0 0 (fun _ => False) := by
  refine Met.ofW (cc := cX6_tax) (maxL := 1) (ret := (some .int)) (by decide) rfl ?_
  intro p e s m args below meth c s₁ B hml hv
  obtain ⟨rfl, hP, hK, hE⟩ := hv
  have hx := B.exec
  have hb := B.bytes
  have hr := B.returns
  have hts := atoms_spec (ws := (ws_ yX6_tax cX6_tax 1 (some .int))) B.pre
  have hts : ∀ w ∈ lw_all, w.before _ s = true := fun w h => hts w (List.mem_cons_of_mem _ h)
  have hown : s.vm.findClass RX6 = some m.cls := findClass_of_methodNamed B.named
  have hlocks := B.notSynchronized
  have S : CallFix p m c cX6_tax 1 s _ lw_all RX6 := ⟨hx, hb, hml, hown, hts⟩
  have hl := lv_entry ([.ref a]) (n := 1) (Nat.le_of_ble_eq_true rfl)
  rw [lg_entry_eq]
  generalize (lg_sl ([.ref a]) ++ List.replicate (1 - (lg_sl ([.ref a])).length) Slot.unset).toArray = ls at hl ⊢
  replace hl : lv_has ls 1 [(0, .ref a)] := hl
  have hret : hrX6_tax p l e s m ([.ref a] : List Value).toArray below meth c (MQ below (vp_Si Q) ([.ref a] : List Value).toArray s 0 0 (fun _ => False)) Q := fun r pc ls hq hd => W.iret hx hb hr (fun t ht hW => ⟨r, rfl, hq, ht⟩) t_nil hd
  unfold wX6_tax at hf
  refine lv_aload_n hx hb dX6_tax_0 rfl (lv_at hl 0 rfl) ?_
  refine pSU_i (rest := []) S hK hE hP 0 rfl (metX5_tax l hci hf) (lw_SU q415 q408 q344 q406 q68 q437) (by decide +kernel) ⟨rfl, rfl⟩ ⟨Nat.le_of_ble_eq_true rfl, Nat.le_of_ble_eq_true rfl⟩ hl.1 rfl (Nat.le_of_ble_eq_true rfl) dX6_tax_1 ⟨Nat.zero_le _, Nat.zero_le _⟩ (fun r_1 hf => ?_)
  refine lv_bipush (v := 10) hx hb dX6_tax_4 (by decide) ?_
  refine lv_iadd hx hb dX6_tax_6 ?_
  exact hret _ _ _ hf dX6_tax_7
/-! HoleCounty$Gap.kind()I -/
theorem pdX8_kind : DscOk yX8_kind 0 := by decide +kernel
abbrev rmX8_kind : Room := { frames := 1, cells := 0, slots := 0, locals := 20 }
abbrev RX8_kind_ : Room := (headSpec (ws_ yX8_kind cX8_kind 1 (some .int)) rmX8_kind).room
section
variable {p : Program} {l : Launch} {e : Env} {s : State} {m : MethodId} {args : Array Value} {below : List Frame} {meth : Method} {c : Code} {Qw : State → Prop} {dC : Nat → ClassId} {dI : Nat → Nat → Nat} {dA : Nat → ClassId} {eA mi : Nat} {a ci : Nat}
abbrev hrX8_kind (p : Program) (l : Launch) (e : Env) (s : State) (m : MethodId) (args : Array Value) (below : List Frame) (meth : Method) (c : Code) (Qw : State → Prop) (Q : Int32 → Prop) : Prop := ∀ (r : Int32) (pc : Nat) (ls : Array Slot), Q r → decode cX8_kind pc = .ok (.ireturn, 1) → W p l e RX8_kind_ s m args below meth c s.heap [] 0 0 Qw (F0 m pc ls [.int r])
def wX8_kind (Q : Int32 → Prop) : Prop := (wX5_kind (fun r_1 => (Q (r_1 + 1))))
end
set_option maxHeartbeats 4000000 in
set_option maxRecDepth 100000 in
theorem metX8_kind (l : Launch) {Q : Int32 → Prop} {cells : Int64} {rate : Int32} {dC : Nat → ClassId} {dI : Nat → Nat → Nat} {dA : Nat → ClassId} {eA mi : Nat} {a ci : Nat} (hci : pK ci) (hf : wX8_kind Q) : Met l yX8_kind (ws_ yX8_kind cX8_kind 1 (some .int)) rmX8_kind (rPc dC dI dA eA mi [.ref a] [(a, .inr (ci, [.long cells, .int rate]))]) (vp_Si Q) 0 0 (fun _ => False) := by
  refine Met.ofW (cc := cX8_kind) (maxL := 1) (ret := (some .int)) (by decide) rfl ?_
  intro p e s m args below meth c s₁ B hml hv
  obtain ⟨rfl, hP, hK, hE⟩ := hv
  have hx := B.exec
  have hb := B.bytes
  have hr := B.returns
  have hts := atoms_spec (ws := (ws_ yX8_kind cX8_kind 1 (some .int))) B.pre
  have hts : ∀ w ∈ lw_all, w.before _ s = true := fun w h => hts w (List.mem_cons_of_mem _ h)
  have hown : s.vm.findClass RX8 = some m.cls := findClass_of_methodNamed B.named
  have hlocks := B.notSynchronized
  have S : CallFix p m c cX8_kind 1 s _ lw_all RX8 := ⟨hx, hb, hml, hown, hts⟩
  have hl := lv_entry ([.ref a]) (n := 1) (Nat.le_of_ble_eq_true rfl)
  rw [lg_entry_eq]
  generalize (lg_sl ([.ref a]) ++ List.replicate (1 - (lg_sl ([.ref a])).length) Slot.unset).toArray = ls at hl ⊢
  replace hl : lv_has ls 1 [(0, .ref a)] := hl
  have hret : hrX8_kind p l e s m ([.ref a] : List Value).toArray below meth c (MQ below (vp_Si Q) ([.ref a] : List Value).toArray s 0 0 (fun _ => False)) Q := fun r pc ls hq hd => W.iret hx hb hr (fun t ht hW => ⟨r, rfl, hq, ht⟩) t_nil hd
  unfold wX8_kind at hf
  refine lv_aload_n hx hb dX8_kind_0 rfl (lv_at hl 0 rfl) ?_
  refine pSU_i (rest := []) S hK hE hP 0 rfl (metX5_kind l hci hf) (lw_SU q459 q448 q333 q446 q68 q465) (by decide +kernel) ⟨rfl, rfl⟩ ⟨Nat.le_of_ble_eq_true rfl, Nat.le_of_ble_eq_true rfl⟩ hl.1 rfl (Nat.le_of_ble_eq_true rfl) dX8_kind_1 ⟨Nat.zero_le _, Nat.zero_le _⟩ (fun r_1 hf => ?_)
  refine lv_iconst (v := 1) hx hb dX8_kind_4 (by decide) ?_
  refine lv_iadd hx hb dX8_kind_5 ?_
  exact hret _ _ _ hf dX8_kind_6
/-! HoleCounty$Gap.tax()I -/
theorem pdX8_tax : DscOk yX8_tax 0 := by decide +kernel
abbrev rmX8_tax : Room := { frames := 2, cells := 0, slots := 0, locals := 45 }
abbrev RX8_tax_ : Room := (headSpec (ws_ yX8_tax cX8_tax 1 (some .int)) rmX8_tax).room
section
variable {p : Program} {l : Launch} {e : Env} {s : State} {m : MethodId} {args : Array Value} {below : List Frame} {meth : Method} {c : Code} {Qw : State → Prop} {dC : Nat → ClassId} {dI : Nat → Nat → Nat} {dA : Nat → ClassId} {eA mi : Nat} {a ci : Nat}
abbrev hrX8_tax (p : Program) (l : Launch) (e : Env) (s : State) (m : MethodId) (args : Array Value) (below : List Frame) (meth : Method) (c : Code) (Qw : State → Prop) (Q : Int32 → Prop) : Prop := ∀ (r : Int32) (pc : Nat) (ls : Array Slot), Q r → decode cX8_tax pc = .ok (.ireturn, 1) → W p l e RX8_tax_ s m args below meth c s.heap [] 0 0 Qw (F0 m pc ls [.int r])
def wX8_tax (Q : Int32 → Prop) (cells : Int64) (rate : Int32) : Prop := (wX5_tax (fun r_1 => (Q (r_1 / 2))) cells rate)
end
set_option maxHeartbeats 4000000 in
set_option maxRecDepth 100000 in
theorem metX8_tax (l : Launch) {Q : Int32 → Prop} {cells : Int64} {rate : Int32} {dC : Nat → ClassId} {dI : Nat → Nat → Nat} {dA : Nat → ClassId} {eA mi : Nat} {a ci : Nat} (hci : pK ci) (hf : wX8_tax Q cells rate) : Met l yX8_tax (ws_ yX8_tax cX8_tax 1 (some .int)) rmX8_tax (rPc dC dI dA eA mi [.ref a] [(a, .inr (ci, [.long cells, .int rate]))]) (vp_Si Q) 0 0 (fun _ => False) := by
  refine Met.ofW (cc := cX8_tax) (maxL := 1) (ret := (some .int)) (by decide) rfl ?_
  intro p e s m args below meth c s₁ B hml hv
  obtain ⟨rfl, hP, hK, hE⟩ := hv
  have hx := B.exec
  have hb := B.bytes
  have hr := B.returns
  have hts := atoms_spec (ws := (ws_ yX8_tax cX8_tax 1 (some .int))) B.pre
  have hts : ∀ w ∈ lw_all, w.before _ s = true := fun w h => hts w (List.mem_cons_of_mem _ h)
  have hown : s.vm.findClass RX8 = some m.cls := findClass_of_methodNamed B.named
  have hlocks := B.notSynchronized
  have S : CallFix p m c cX8_tax 1 s _ lw_all RX8 := ⟨hx, hb, hml, hown, hts⟩
  have hl := lv_entry ([.ref a]) (n := 1) (Nat.le_of_ble_eq_true rfl)
  rw [lg_entry_eq]
  generalize (lg_sl ([.ref a]) ++ List.replicate (1 - (lg_sl ([.ref a])).length) Slot.unset).toArray = ls at hl ⊢
  replace hl : lv_has ls 1 [(0, .ref a)] := hl
  have hret : hrX8_tax p l e s m ([.ref a] : List Value).toArray below meth c (MQ below (vp_Si Q) ([.ref a] : List Value).toArray s 0 0 (fun _ => False)) Q := fun r pc ls hq hd => W.iret hx hb hr (fun t ht hW => ⟨r, rfl, hq, ht⟩) t_nil hd
  unfold wX8_tax at hf
  refine lv_aload_n hx hb dX8_tax_0 rfl (lv_at hl 0 rfl) ?_
  refine pSU_i (rest := []) S hK hE hP 0 rfl (metX5_tax l hci hf) (lw_SU q421 q408 q333 q406 q68 q437) (by decide +kernel) ⟨rfl, rfl⟩ ⟨Nat.le_of_ble_eq_true rfl, Nat.le_of_ble_eq_true rfl⟩ hl.1 rfl (Nat.le_of_ble_eq_true rfl) dX8_tax_1 ⟨Nat.zero_le _, Nat.zero_le _⟩ (fun r_1 hf => ?_)
  refine lv_iconst (v := 2) hx hb dX8_tax_4 (by decide) ?_
  refine lv_idiv hx hb dX8_tax_5 (by decide) ?_
  exact hret _ _ _ hf dX8_tax_6
/-! HoleCounty$Absence.kind()I -/
theorem pdX7_kind : DscOk yX7_kind 0 := by decide +kernel
abbrev rmX7_kind : Room := { frames := 2, cells := 0, slots := 0, locals := 40 }
abbrev RX7_kind_ : Room := (headSpec (ws_ yX7_kind cX7_kind 1 (some .int)) rmX7_kind).room
section
variable {p : Program} {l : Launch} {e : Env} {s : State} {m : MethodId} {args : Array Value} {below : List Frame} {meth : Method} {c : Code} {Qw : State → Prop} {dC : Nat → ClassId} {dI : Nat → Nat → Nat} {dA : Nat → ClassId} {eA mi : Nat} {a : Nat}
abbrev hrX7_kind (p : Program) (l : Launch) (e : Env) (s : State) (m : MethodId) (args : Array Value) (below : List Frame) (meth : Method) (c : Code) (Qw : State → Prop) (Q : Int32 → Prop) : Prop := ∀ (r : Int32) (pc : Nat) (ls : Array Slot), Q r → decode cX7_kind pc = .ok (.ireturn, 1) → W p l e RX7_kind_ s m args below meth c s.heap [] 0 0 Qw (F0 m pc ls [.int r])
def wX7_kind (Q : Int32 → Prop) : Prop := (wX6_kind (fun r_1 => (Q (r_1 + 2))))
end
set_option maxHeartbeats 4000000 in
set_option maxRecDepth 100000 in
theorem metX7_kind (l : Launch) {Q : Int32 → Prop} {cells : Int64} {rate : Int32} {dC : Nat → ClassId} {dI : Nat → Nat → Nat} {dA : Nat → ClassId} {eA mi : Nat} {a : Nat} (hf : wX7_kind Q) : Met l yX7_kind (ws_ yX7_kind cX7_kind 1 (some .int)) rmX7_kind (rPc dC dI dA eA mi [.ref a] [(a, .inr (7, [.long cells, .int rate]))]) (vp_Si Q) 0 0 (fun _ => False) := by
  refine Met.ofW (cc := cX7_kind) (maxL := 1) (ret := (some .int)) (by decide) rfl ?_
  intro p e s m args below meth c s₁ B hml hv
  obtain ⟨rfl, hP, hK, hE⟩ := hv
  have hx := B.exec
  have hb := B.bytes
  have hr := B.returns
  have hts := atoms_spec (ws := (ws_ yX7_kind cX7_kind 1 (some .int))) B.pre
  have hts : ∀ w ∈ lw_all, w.before _ s = true := fun w h => hts w (List.mem_cons_of_mem _ h)
  have hown : s.vm.findClass RX7 = some m.cls := findClass_of_methodNamed B.named
  have hlocks := B.notSynchronized
  have S : CallFix p m c cX7_kind 1 s _ lw_all RX7 := ⟨hx, hb, hml, hown, hts⟩
  have hl := lv_entry ([.ref a]) (n := 1) (Nat.le_of_ble_eq_true rfl)
  rw [lg_entry_eq]
  generalize (lg_sl ([.ref a]) ++ List.replicate (1 - (lg_sl ([.ref a])).length) Slot.unset).toArray = ls at hl ⊢
  replace hl : lv_has ls 1 [(0, .ref a)] := hl
  have hret : hrX7_kind p l e s m ([.ref a] : List Value).toArray below meth c (MQ below (vp_Si Q) ([.ref a] : List Value).toArray s 0 0 (fun _ => False)) Q := fun r pc ls hq hd => W.iret hx hb hr (fun t ht hW => ⟨r, rfl, hq, ht⟩) t_nil hd
  unfold wX7_kind at hf
  refine lv_aload_n hx hb dX7_kind_0 rfl (lv_at hl 0 rfl) ?_
  refine pSU_i (rest := []) S hK hE hP 0 rfl (metX6_kind l (pK_7) hf) (lw_SU q452 q1605 q307 q453 q69 q454) (by decide +kernel) ⟨rfl, rfl⟩ ⟨Nat.le_of_ble_eq_true rfl, Nat.le_of_ble_eq_true rfl⟩ hl.1 rfl (Nat.le_of_ble_eq_true rfl) dX7_kind_1 ⟨Nat.zero_le _, Nat.zero_le _⟩ (fun r_1 hf => ?_)
  refine lv_iconst (v := 2) hx hb dX7_kind_4 (by decide) ?_
  refine lv_iadd hx hb dX7_kind_5 ?_
  exact hret _ _ _ hf dX7_kind_6
/-! HoleCounty$Absence.tax()I -/
theorem pdX7_tax : DscOk yX7_tax 0 := by decide +kernel
abbrev rmX7_tax : Room := { frames := 3, cells := 0, slots := 0, locals := 65 }
abbrev RX7_tax_ : Room := (headSpec (ws_ yX7_tax cX7_tax 1 (some .int)) rmX7_tax).room
section
variable {p : Program} {l : Launch} {e : Env} {s : State} {m : MethodId} {args : Array Value} {below : List Frame} {meth : Method} {c : Code} {Qw : State → Prop} {dC : Nat → ClassId} {dI : Nat → Nat → Nat} {dA : Nat → ClassId} {eA mi : Nat} {a : Nat}
abbrev hrX7_tax (p : Program) (l : Launch) (e : Env) (s : State) (m : MethodId) (args : Array Value) (below : List Frame) (meth : Method) (c : Code) (Qw : State → Prop) (Q : Int32 → Prop) : Prop := ∀ (r : Int32) (pc : Nat) (ls : Array Slot), Q r → decode cX7_tax pc = .ok (.ireturn, 1) → W p l e RX7_tax_ s m args below meth c s.heap [] 0 0 Qw (F0 m pc ls [.int r])
def wX7_tax (Q : Int32 → Prop) (cells : Int64) (rate : Int32) : Prop := (wX6_tax (fun r_2 => (wX0_size (fun r_10 => (Q (if 0 < (r_2 - (3 * r_10)) then (r_2 - (3 * r_10)) else 0))) cells)) cells rate)
end
set_option maxHeartbeats 4000000 in
set_option maxRecDepth 100000 in
theorem metX7_tax (l : Launch) {Q : Int32 → Prop} {cells : Int64} {rate : Int32} {dC : Nat → ClassId} {dI : Nat → Nat → Nat} {dA : Nat → ClassId} {eA mi : Nat} {a : Nat} (hf : wX7_tax Q cells rate) : Met l yX7_tax (ws_ yX7_tax cX7_tax 1 (some .int)) rmX7_tax (rPc dC dI dA eA mi [.ref a] [(a, .inr (7, [.long cells, .int rate]))]) (vp_Si Q) 0 0 (fun _ => False) := by
  refine Met.ofW (cc := cX7_tax) (maxL := 1) (ret := (some .int)) (by decide) rfl ?_
  intro p e s m args below meth c s₁ B hml hv
  obtain ⟨rfl, hP, hK, hE⟩ := hv
  have hx := B.exec
  have hb := B.bytes
  have hr := B.returns
  have hts := atoms_spec (ws := (ws_ yX7_tax cX7_tax 1 (some .int))) B.pre
  have hts : ∀ w ∈ lw_all, w.before _ s = true := fun w h => hts w (List.mem_cons_of_mem _ h)
  have hown : s.vm.findClass RX7 = some m.cls := findClass_of_methodNamed B.named
  have hlocks := B.notSynchronized
  have S : CallFix p m c cX7_tax 1 s _ lw_all RX7 := ⟨hx, hb, hml, hown, hts⟩
  have hl := lv_entry ([.ref a]) (n := 1) (Nat.le_of_ble_eq_true rfl)
  rw [lg_entry_eq]
  generalize (lg_sl ([.ref a]) ++ List.replicate (1 - (lg_sl ([.ref a])).length) Slot.unset).toArray = ls at hl ⊢
  replace hl : lv_has ls 1 [(0, .ref a)] := hl
  have hret : hrX7_tax p l e s m ([.ref a] : List Value).toArray below meth c (MQ below (vp_Si Q) ([.ref a] : List Value).toArray s 0 0 (fun _ => False)) Q := fun r pc ls hq hd => W.iret hx hb hr (fun t ht hW => ⟨r, rfl, hq, ht⟩) t_nil hd
  unfold wX7_tax at hf
  refine lv_iconst (v := 0) hx hb dX7_tax_0 (by decide) ?_
  refine lv_aload_n hx hb dX7_tax_1 rfl (lv_at hl 0 rfl) ?_
  refine pSU_i (rest := [.int 0]) S hK hE hP 0 rfl (metX6_tax l (pK_7) hf) (lw_SU q412 q1603 q307 q413 q69 q414) (by decide +kernel) ⟨rfl, rfl⟩ ⟨Nat.le_of_ble_eq_true rfl, Nat.le_of_ble_eq_true rfl⟩ hl.1 rfl (Nat.le_of_ble_eq_true rfl) dX7_tax_2 ⟨Nat.zero_le _, Nat.zero_le _⟩ (fun r_2 hf => ?_)
  refine lv_iconst (v := 3) hx hb dX7_tax_5 (by decide) ?_
  refine lv_aload_n hx hb dX7_tax_6 rfl (lv_at hl 0 rfl) ?_
  refine gP_cells S hK hP 0 rfl (pK_7) (ref := "HoleCounty$Absence") (hts _ q299) (sf_cells s hts) dX7_tax_7 ?_
  refine csn_i (As := [.long cells]) (rest := [.int 3, .int r_2, .int 0]) S hE.1 (metX0_size l hf) q416 ⟨q362, q54, q363⟩ pdX0_size ⟨rfl, rfl⟩ ⟨Nat.le_of_ble_eq_true rfl, Nat.le_of_ble_eq_true rfl⟩ rfl hl.1 rfl (Nat.le_of_ble_eq_true rfl) dX7_tax_10 ⟨Nat.zero_le _, Nat.zero_le _⟩ (fun r_10 hf => ?_)
  refine lv_imul hx hb dX7_tax_13 ?_
  refine lv_isub hx hb dX7_tax_14 ?_
  refine va_mmax hx hb (hml.trans hl.1.symm) hown (hts _ q417) (hts _ q171) (hts _ q66) (hts _ q172) (Nat.le_of_ble_eq_true rfl) (Nat.le_of_ble_eq_true rfl) (Nat.zero_le _) (Nat.zero_le _) dX7_tax_15 ?_
  exact hret _ _ _ hf dX7_tax_18
/-! HoleCounty$Pass.kind()I -/
theorem pdX9_kind : DscOk yX9_kind 0 := by decide +kernel
abbrev rmX9_kind : Room := { frames := 2, cells := 0, slots := 0, locals := 40 }
abbrev RX9_kind_ : Room := (headSpec (ws_ yX9_kind cX9_kind 1 (some .int)) rmX9_kind).room
section
variable {p : Program} {l : Launch} {e : Env} {s : State} {m : MethodId} {args : Array Value} {below : List Frame} {meth : Method} {c : Code} {Qw : State → Prop} {dC : Nat → ClassId} {dI : Nat → Nat → Nat} {dA : Nat → ClassId} {eA mi : Nat} {a : Nat}
abbrev hrX9_kind (p : Program) (l : Launch) (e : Env) (s : State) (m : MethodId) (args : Array Value) (below : List Frame) (meth : Method) (c : Code) (Qw : State → Prop) (Q : Int32 → Prop) : Prop := ∀ (r : Int32) (pc : Nat) (ls : Array Slot), Q r → decode cX9_kind pc = .ok (.ireturn, 1) → W p l e RX9_kind_ s m args below meth c s.heap [] 0 0 Qw (F0 m pc ls [.int r])
def wX9_kind (Q : Int32 → Prop) : Prop := (wX8_kind (fun r_1 => (Q (r_1 + 2))))
end
set_option maxHeartbeats 4000000 in
set_option maxRecDepth 100000 in
theorem metX9_kind (l : Launch) {Q : Int32 → Prop} {cells : Int64} {rate : Int32} {dC : Nat → ClassId} {dI : Nat → Nat → Nat} {dA : Nat → ClassId} {eA mi : Nat} {a : Nat} (hf : wX9_kind Q) : Met l yX9_kind (ws_ yX9_kind cX9_kind 1 (some .int)) rmX9_kind (rPc dC dI dA eA mi [.ref a] [(a, .inr (9, [.long cells, .int rate]))]) (vp_Si Q) 0 0 (fun _ => False) := by
  refine Met.ofW (cc := cX9_kind) (maxL := 1) (ret := (some .int)) (by decide) rfl ?_
  intro p e s m args below meth c s₁ B hml hv
  obtain ⟨rfl, hP, hK, hE⟩ := hv
  have hx := B.exec
  have hb := B.bytes
  have hr := B.returns
  have hts := atoms_spec (ws := (ws_ yX9_kind cX9_kind 1 (some .int))) B.pre
  have hts : ∀ w ∈ lw_all, w.before _ s = true := fun w h => hts w (List.mem_cons_of_mem _ h)
  have hown : s.vm.findClass RX9 = some m.cls := findClass_of_methodNamed B.named
  have hlocks := B.notSynchronized
  have S : CallFix p m c cX9_kind 1 s _ lw_all RX9 := ⟨hx, hb, hml, hown, hts⟩
  have hl := lv_entry ([.ref a]) (n := 1) (Nat.le_of_ble_eq_true rfl)
  rw [lg_entry_eq]
  generalize (lg_sl ([.ref a]) ++ List.replicate (1 - (lg_sl ([.ref a])).length) Slot.unset).toArray = ls at hl ⊢
  replace hl : lv_has ls 1 [(0, .ref a)] := hl
  have hret : hrX9_kind p l e s m ([.ref a] : List Value).toArray below meth c (MQ below (vp_Si Q) ([.ref a] : List Value).toArray s 0 0 (fun _ => False)) Q := fun r pc ls hq hd => W.iret hx hb hr (fun t ht hW => ⟨r, rfl, hq, ht⟩) t_nil hd
  unfold wX9_kind at hf
  refine lv_aload_n hx hb dX9_kind_0 rfl (lv_at hl 0 rfl) ?_
  refine pSU_i (rest := []) S hK hE hP 0 rfl (metX8_kind l (pK_9) hf) (lw_SU q463 q1606 q325 q457 q71 q458) (by decide +kernel) ⟨rfl, rfl⟩ ⟨Nat.le_of_ble_eq_true rfl, Nat.le_of_ble_eq_true rfl⟩ hl.1 rfl (Nat.le_of_ble_eq_true rfl) dX9_kind_1 ⟨Nat.zero_le _, Nat.zero_le _⟩ (fun r_1 hf => ?_)
  refine lv_iconst (v := 2) hx hb dX9_kind_4 (by decide) ?_
  refine lv_iadd hx hb dX9_kind_5 ?_
  exact hret _ _ _ hf dX9_kind_6
/-! HoleCounty$Pass.tax()I -/
theorem pdX9_tax : DscOk yX9_tax 0 := by decide +kernel
abbrev rmX9_tax : Room := { frames := 3, cells := 0, slots := 0, locals := 65 }
abbrev RX9_tax_ : Room := (headSpec (ws_ yX9_tax cX9_tax 1 (some .int)) rmX9_tax).room
section
variable {p : Program} {l : Launch} {e : Env} {s : State} {m : MethodId} {args : Array Value} {below : List Frame} {meth : Method} {c : Code} {Qw : State → Prop} {dC : Nat → ClassId} {dI : Nat → Nat → Nat} {dA : Nat → ClassId} {eA mi : Nat} {a : Nat}
abbrev hrX9_tax (p : Program) (l : Launch) (e : Env) (s : State) (m : MethodId) (args : Array Value) (below : List Frame) (meth : Method) (c : Code) (Qw : State → Prop) (Q : Int32 → Prop) : Prop := ∀ (r : Int32) (pc : Nat) (ls : Array Slot), Q r → decode cX9_tax pc = .ok (.ireturn, 1) → W p l e RX9_tax_ s m args below meth c s.heap [] 0 0 Qw (F0 m pc ls [.int r])
def wX9_tax (Q : Int32 → Prop) (cells : Int64) (rate : Int32) : Prop := (wX8_tax (fun r_1 => (wX5_fence (fun r_5 => (Q (r_1 + r_5))) cells)) cells rate)
end
set_option maxHeartbeats 4000000 in
set_option maxRecDepth 100000 in
theorem metX9_tax (l : Launch) {Q : Int32 → Prop} {cells : Int64} {rate : Int32} {dC : Nat → ClassId} {dI : Nat → Nat → Nat} {dA : Nat → ClassId} {eA mi : Nat} {a : Nat} (hf : wX9_tax Q cells rate) : Met l yX9_tax (ws_ yX9_tax cX9_tax 1 (some .int)) rmX9_tax (rPc dC dI dA eA mi [.ref a] [(a, .inr (9, [.long cells, .int rate]))]) (vp_Si Q) 0 0 (fun _ => False) := by
  refine Met.ofW (cc := cX9_tax) (maxL := 1) (ret := (some .int)) (by decide) rfl ?_
  intro p e s m args below meth c s₁ B hml hv
  obtain ⟨rfl, hP, hK, hE⟩ := hv
  have hx := B.exec
  have hb := B.bytes
  have hr := B.returns
  have hts := atoms_spec (ws := (ws_ yX9_tax cX9_tax 1 (some .int))) B.pre
  have hts : ∀ w ∈ lw_all, w.before _ s = true := fun w h => hts w (List.mem_cons_of_mem _ h)
  have hown : s.vm.findClass RX9 = some m.cls := findClass_of_methodNamed B.named
  have hlocks := B.notSynchronized
  have S : CallFix p m c cX9_tax 1 s _ lw_all RX9 := ⟨hx, hb, hml, hown, hts⟩
  have hl := lv_entry ([.ref a]) (n := 1) (Nat.le_of_ble_eq_true rfl)
  rw [lg_entry_eq]
  generalize (lg_sl ([.ref a]) ++ List.replicate (1 - (lg_sl ([.ref a])).length) Slot.unset).toArray = ls at hl ⊢
  replace hl : lv_has ls 1 [(0, .ref a)] := hl
  have hret : hrX9_tax p l e s m ([.ref a] : List Value).toArray below meth c (MQ below (vp_Si Q) ([.ref a] : List Value).toArray s 0 0 (fun _ => False)) Q := fun r pc ls hq hd => W.iret hx hb hr (fun t ht hW => ⟨r, rfl, hq, ht⟩) t_nil hd
  unfold wX9_tax at hf
  refine lv_aload_n hx hb dX9_tax_0 rfl (lv_at hl 0 rfl) ?_
  refine pSU_i (rest := []) S hK hE hP 0 rfl (metX8_tax l (pK_9) hf) (lw_SU q425 q1604 q325 q419 q71 q420) (by decide +kernel) ⟨rfl, rfl⟩ ⟨Nat.le_of_ble_eq_true rfl, Nat.le_of_ble_eq_true rfl⟩ hl.1 rfl (Nat.le_of_ble_eq_true rfl) dX9_tax_1 ⟨Nat.zero_le _, Nat.zero_le _⟩ (fun r_1 hf => ?_)
  refine lv_aload_n hx hb dX9_tax_4 rfl (lv_at hl 0 rfl) ?_
  refine pPF (rest := [.int r_1]) S hK hE hP 0 rfl (metX5_fence l pK_9 hf) ⟨rfl, rfl⟩ ⟨Nat.le_of_ble_eq_true rfl, Nat.le_of_ble_eq_true rfl⟩ hl.1 rfl (Nat.le_of_ble_eq_true rfl) dX9_tax_5 ⟨Nat.zero_le _, Nat.zero_le _⟩ (fun r_5 hf => ?_)
  refine lv_iadd hx hb dX9_tax_8 ?_
  exact hret _ _ _ hf dX9_tax_9
/-! HoleCounty$Ground.dug()J -/
theorem pdX1_dug : DscOk yX1_dug 0 := by decide +kernel
abbrev rmX1_dug : Room := { frames := 0, cells := 0, slots := 0, locals := 0 }
abbrev RX1_dug_ : Room := (headSpec (ws_ yX1_dug cX1_dug 4 (some .long)) rmX1_dug).room
section
variable {p : Program} {l : Launch} {e : Env} {s : State} {m : MethodId} {args : Array Value} {below : List Frame} {meth : Method} {c : Code} {Qw : State → Prop} {dC : Nat → ClassId} {dI : Nat → Nat → Nat} {dA : Nat → ClassId} {eA mi : Nat} {g d : Nat}
abbrev hrX1_dug (p : Program) (l : Launch) (e : Env) (s : State) (m : MethodId) (args : Array Value) (below : List Frame) (meth : Method) (c : Code) (Qw : State → Prop) (Q : Int64 → Prop) : Prop := ∀ (r : Int64) (pc : Nat) (ls : Array Slot), Q r → decode cX1_dug pc = .ok (.lreturn, 1) → W p l e RX1_dug_ s m args below meth c s.heap [] 0 0 Qw (F0 m pc ls [.long r])
def wX1_dug_4 (Q : Int64 → Prop) (depths : (Nat → Int32)) : Nat → Int64 → Int32 → Prop
  | 0, _, _ => False
  | n + 1, x1, x3 => ((36 ≤ x3 → (Q x1)) ∧ (¬ 36 ≤ x3 → (vp_in x3 36 ∧ (((depths (x3 : Int32).toNatClampNeg) ≤ 0 → (∀ x1_28 : Int64, x1_28 = (x1 ||| 0) → (∀ x3_29 : Int32, x3_29 = x3 + 1 → ((wX1_dug_4 Q depths n) x1_28 x3_29)))) ∧ (¬ (depths (x3 : Int32).toNatClampNeg) ≤ 0 → (∀ x1_28 : Int64, x1_28 = (x1 ||| (1 <<< ((x3 : Int32).toInt64 &&& 63))) → (∀ x3_29 : Int32, x3_29 = x3 + 1 → ((wX1_dug_4 Q depths n) x1_28 x3_29))))))))
set_option maxHeartbeats 4000000 in
set_option maxRecDepth 100000 in
theorem tX1_dug_4 {Q : Int64 → Prop} {depths : (Nat → Int32)} {roofs : Int64} {rate : Int32} (S : CallFix p m c cX1_dug 4 s args lw_all RX1) (hK : va_K (dC, dI) vwCl (tysG dA) s) (hE : EG noA eA mi s s.heap) (hP : va_P (dC, dI) vwCl [(g, .inr (1, [.ref d, .long roofs, .int rate])), (d, .inl (dA 0, 36, .inl depths))] s.heap) (hret : hrX1_dug p l e s m args below meth c Qw Q) : ∀ (n : Nat) (x1 : Int64) (x3 : Int32) (ls : Array Slot), wX1_dug_4 Q depths n x1 x3 → lv_has ls 4 [(0, .ref g), (1, .long x1), (3, .int x3)] → W p l e RX1_dug_ s m args below meth c s.heap [] 0 0 Qw (F0 m 4 ls []) := by
  obtain ⟨hx, hb, hml, hown, hts⟩ := id S
  intro n
  induction n with
  | zero => intro _ _ _ hf; exact hf.elim
  | succ n ih =>
    intro x1 x3 ls hf hl
    rw [wX1_dug_4] at hf
    refine lv_iload_n hx hb dX1_dug_4 rfl (lv_at hl 2 rfl) ?_
    refine lv_bipush (v := 36) hx hb dX1_dug_5 (by decide) ?_
    refine lv_icmp_ge (tgt := 35) hx hb dX1_dug_7 (by decide) (fun c_7 => ?_) (fun c_7 => ?_)
    · replace hf := hf.1 c_7
      refine lv_lload_n hx hb dX1_dug_35 rfl (lv_at hl 1 rfl) ?_
      exact hret _ _ _ hf dX1_dug_36
    · replace hf := hf.2 c_7
      refine lv_lload_n hx hb dX1_dug_10 rfl (lv_at hl 1 rfl) ?_
      refine lv_aload_n hx hb dX1_dug_11 rfl (lv_at hl 0 rfl) ?_
      refine va_get (D := (dC, dI)) (ci := 1) (v := .ref d) (C := RX1) (T := TX1) (N := 3) hx hb hts in_X1 hown hK hP 0 rfl rfl 0 (by decide) (hts _ q1078) (fun _ h9 => h9) rfl dX1_dug_12 ?_
      refine lv_iload_n hx hb dX1_dug_15 rfl (lv_at hl 2 rfl) ?_
      obtain ⟨hin, hf⟩ := hf
      refine va_bald hx hb hK hP 1 0 rfl rfl hin dX1_dug_16 ?_
      refine lv_if_le (tgt := 26) hx hb dX1_dug_17 (by decide) (fun c_17 => ?_) (fun c_17 => ?_)
      · replace hf := hf.1 c_17
        refine lv_lconst (v := 0) hx hb dX1_dug_26 (by decide) ?_
        refine lv_lor hx hb dX1_dug_27 ?_
        refine lv_topl (fun x1_28 ex1_28 => ?_)
        replace hf := hf x1_28 ex1_28
        refine lv_lstore_n (lv' := [(1, .long x1_28), (0, .ref g), (3, .int x3)]) hx hb dX1_dug_28 rfl hl (by decide) rfl (fun ls hl => ?_)
        obtain ⟨x3_29, ex3_29⟩ : ∃ z : Int32, z = x3 + 1 := ⟨_, rfl⟩
        replace hf := hf x3_29 ex3_29
        refine lv_iinc (v := x3_29) (lv' := [(3, .int x3_29), (1, .long x1_28), (0, .ref g)]) hx hb dX1_dug_29 hl (k := 2) rfl (by rw [ex3_29]; rfl) (by decide) rfl (fun ls hl => ?_)
        refine lv_goto (tgt := 4) hx hb dX1_dug_32 (by decide) ?_
        exact ih x1_28 x3_29 _ hf (lv_sub hl [2, 1, 0] rfl)
      · replace hf := hf.2 c_17
        refine lv_lconst (v := 1) hx hb dX1_dug_20 (by decide) ?_
        refine lv_iload_n hx hb dX1_dug_21 rfl (lv_at hl 2 rfl) ?_
        refine lv_lshl (v := (1 <<< ((x3 : Int32).toInt64 &&& 63))) hx hb dX1_dug_22 rfl ?_
        refine lv_goto (tgt := 27) hx hb dX1_dug_23 (by decide) ?_
        refine lv_lor hx hb dX1_dug_27 ?_
        refine lv_topl (fun x1_28 ex1_28 => ?_)
        replace hf := hf x1_28 ex1_28
        refine lv_lstore_n (lv' := [(1, .long x1_28), (0, .ref g), (3, .int x3)]) hx hb dX1_dug_28 rfl hl (by decide) rfl (fun ls hl => ?_)
        obtain ⟨x3_29, ex3_29⟩ : ∃ z : Int32, z = x3 + 1 := ⟨_, rfl⟩
        replace hf := hf x3_29 ex3_29
        refine lv_iinc (v := x3_29) (lv' := [(3, .int x3_29), (1, .long x1_28), (0, .ref g)]) hx hb dX1_dug_29 hl (k := 2) rfl (by rw [ex3_29]; rfl) (by decide) rfl (fun ls hl => ?_)
        refine lv_goto (tgt := 4) hx hb dX1_dug_32 (by decide) ?_
        exact ih x1_28 x3_29 _ hf (lv_sub hl [2, 1, 0] rfl)
def wX1_dug (Q : Int64 → Prop) (depths : (Nat → Int32)) : Prop := (∃ fu : Nat, wX1_dug_4 Q depths fu 0 0)
end
set_option maxHeartbeats 4000000 in
set_option maxRecDepth 100000 in
theorem metX1_dug (l : Launch) {Q : Int64 → Prop} {depths : (Nat → Int32)} {roofs : Int64} {rate : Int32} {dC : Nat → ClassId} {dI : Nat → Nat → Nat} {dA : Nat → ClassId} {eA mi : Nat} {g d : Nat} (hf : wX1_dug Q depths) : Met l yX1_dug (ws_ yX1_dug cX1_dug 4 (some .long)) rmX1_dug (rPc dC dI dA eA mi [.ref g] [(g, .inr (1, [.ref d, .long roofs, .int rate])), (d, .inl (dA 0, 36, .inl depths))]) (vp_Sl Q) 0 0 (fun _ => False) := by
  refine Met.ofW (cc := cX1_dug) (maxL := 4) (ret := (some .long)) (by decide) rfl ?_
  intro p e s m args below meth c s₁ B hml hv
  obtain ⟨rfl, hP, hK, hE⟩ := hv
  have hx := B.exec
  have hb := B.bytes
  have hr := B.returns
  have hts := atoms_spec (ws := (ws_ yX1_dug cX1_dug 4 (some .long))) B.pre
  have hts : ∀ w ∈ lw_all, w.before _ s = true := fun w h => hts w (List.mem_cons_of_mem _ h)
  have hown : s.vm.findClass RX1 = some m.cls := findClass_of_methodNamed B.named
  have hlocks := B.notSynchronized
  have S : CallFix p m c cX1_dug 4 s _ lw_all RX1 := ⟨hx, hb, hml, hown, hts⟩
  have hl := lv_entry ([.ref g]) (n := 4) (Nat.le_of_ble_eq_true rfl)
  rw [lg_entry_eq]
  generalize (lg_sl ([.ref g]) ++ List.replicate (4 - (lg_sl ([.ref g])).length) Slot.unset).toArray = ls at hl ⊢
  replace hl : lv_has ls 4 [(0, .ref g)] := hl
  have hret : hrX1_dug p l e s m ([.ref g] : List Value).toArray below meth c (MQ below (vp_Sl Q) ([.ref g] : List Value).toArray s 0 0 (fun _ => False)) Q := fun r pc ls hq hd => W.lret hx hb hr (fun t ht hW => ⟨r, rfl, hq, ht⟩) t_nil hd
  unfold wX1_dug at hf
  refine lv_lconst (v := 0) hx hb dX1_dug_0 (by decide) ?_
  refine lv_lstore_n (lv' := [(1, .long 0), (0, .ref g)]) hx hb dX1_dug_1 rfl hl (by decide) rfl (fun ls hl => ?_)
  refine lv_iconst (v := 0) hx hb dX1_dug_2 (by decide) ?_
  refine lv_istore_n (lv' := [(3, .int 0), (1, .long 0), (0, .ref g)]) hx hb dX1_dug_3 rfl hl (by decide) rfl (fun ls hl => ?_)
  obtain ⟨fu, hf⟩ := hf
  exact tX1_dug_4 S hK hE hP hret fu 0 0 _ hf (lv_sub hl [2, 1, 0] rfl)
/-! HoleCounty$Ground.isDeep(J)Z -/
theorem pdX1_isDeep : DscOk yX1_isDeep 1 := by decide +kernel
abbrev rmX1_isDeep : Room := { frames := 2, cells := 0, slots := 0, locals := 44 }
abbrev RX1_isDeep_ : Room := (headSpec (ws_ yX1_isDeep cX1_isDeep 6 (some .boolean)) rmX1_isDeep).room
section
variable {p : Program} {l : Launch} {e : Env} {s : State} {m : MethodId} {args : Array Value} {below : List Frame} {meth : Method} {c : Code} {Qw : State → Prop} {dC : Nat → ClassId} {dI : Nat → Nat → Nat} {dA : Nat → ClassId} {eA mi : Nat} {g d : Nat}
abbrev hrX1_isDeep (p : Program) (l : Launch) (e : Env) (s : State) (m : MethodId) (args : Array Value) (below : List Frame) (meth : Method) (c : Code) (Qw : State → Prop) (Q : Int32 → Prop) : Prop := ∀ (r : Int32) (pc : Nat) (ls : Array Slot), bz r → Q r → decode cX1_isDeep pc = .ok (.ireturn, 1) → W p l e RX1_isDeep_ s m args below meth c s.heap [] 0 0 Qw (F0 m pc ls [.int r])
def wX1_isDeep_36 (Q : Int32 → Prop) (k5 : Int32 → Int64 → Prop) (depths : (Nat → Int32)) (x4 : Int64) (z0 : Int32) : Prop := (∀ x4_44 : Int64, x4_44 = (x4 &&& (x4 - 1)) → (k5 z0 x4_44))
set_option maxHeartbeats 4000000 in
set_option maxRecDepth 100000 in
theorem tX1_isDeep_36 {Q : Int32 → Prop} {depths : (Nat → Int32)} {roofs : Int64} {rate : Int32} (S : CallFix p m c cX1_isDeep 6 s args lw_all RX1) (hK : va_K (dC, dI) vwCl (tysG dA) s) (hE : EG noA eA mi s s.heap) (hP : va_P (dC, dI) vwCl [(g, .inr (1, [.ref d, .long roofs, .int rate])), (d, .inl (dA 0, 36, .inl depths))] s.heap) (hret : hrX1_isDeep p l e s m args below meth c Qw Q) {k5 : Int32 → Int64 → Prop} (hk5 : ∀ (x3 : Int32) (x4 : Int64) (ls : Array Slot), k5 x3 x4 → lv_has ls 6 [(0, .ref g), (3, .int x3), (4, .long x4)] → W p l e RX1_isDeep_ s m args below meth c s.heap [] 0 0 Qw (F0 m 5 ls [])) : ∀ (x4 : Int64) (z0 : Int32) (ls : Array Slot), wX1_isDeep_36 Q k5 depths x4 z0 → lv_has ls 6 [(0, .ref g), (4, .long x4)] → W p l e RX1_isDeep_ s m args below meth c s.heap [] 0 0 Qw (F0 m 36 ls [.int z0]) := by
  obtain ⟨hx, hb, hml, hown, hts⟩ := id S
  intro x4 z0 ls hf hl
  unfold wX1_isDeep_36 at hf
  refine lv_istore_n (lv' := [(3, .int z0), (0, .ref g), (4, .long x4)]) hx hb dX1_isDeep_36 rfl hl (by decide) rfl (fun ls hl => ?_)
  refine lv_lload hx hb dX1_isDeep_37 (lv_at hl 2 rfl) ?_
  refine lv_lload hx hb dX1_isDeep_39 (lv_at hl 2 rfl) ?_
  refine lv_lconst (v := 1) hx hb dX1_isDeep_41 (by decide) ?_
  refine lv_lsub hx hb dX1_isDeep_42 ?_
  refine lv_land hx hb dX1_isDeep_43 ?_
  refine lv_topl (fun x4_44 ex4_44 => ?_)
  replace hf := hf x4_44 ex4_44
  refine lv_lstore (lv' := [(4, .long x4_44), (3, .int z0), (0, .ref g)]) hx hb dX1_isDeep_44 hl (by decide) rfl (fun ls hl => ?_)
  refine lv_goto (tgt := 5) hx hb dX1_isDeep_46 (by decide) ?_
  exact hk5 z0 x4_44 _ hf (lv_sub hl [2, 1, 0] rfl)
def wX1_isDeep_5 (Q : Int32 → Prop) (depths : (Nat → Int32)) : Nat → Int32 → Int64 → Prop
  | 0, _, _ => False
  | n + 1, x3, x4 => ((x4 = 0 → (bz x3 ∧ (Q x3))) ∧ (¬ x4 = 0 → ((x3 = 0 → (wX0_least (fun r_22 => (vp_in r_22 36 ∧ (((depths (r_22 : Int32).toNatClampNeg) = 9 → (wX1_isDeep_36 Q (wX1_isDeep_5 Q depths n) depths x4 1)) ∧ (¬ (depths (r_22 : Int32).toNatClampNeg) = 9 → (wX1_isDeep_36 Q (wX1_isDeep_5 Q depths n) depths x4 0))))) x4)) ∧ (¬ x3 = 0 → (bz x3 ∧ (Q x3))))))
set_option maxHeartbeats 4000000 in
set_option maxRecDepth 100000 in
theorem tX1_isDeep_5 {Q : Int32 → Prop} {depths : (Nat → Int32)} {roofs : Int64} {rate : Int32} (S : CallFix p m c cX1_isDeep 6 s args lw_all RX1) (hK : va_K (dC, dI) vwCl (tysG dA) s) (hE : EG noA eA mi s s.heap) (hP : va_P (dC, dI) vwCl [(g, .inr (1, [.ref d, .long roofs, .int rate])), (d, .inl (dA 0, 36, .inl depths))] s.heap) (hret : hrX1_isDeep p l e s m args below meth c Qw Q) : ∀ (n : Nat) (x3 : Int32) (x4 : Int64) (ls : Array Slot), wX1_isDeep_5 Q depths n x3 x4 → lv_has ls 6 [(0, .ref g), (3, .int x3), (4, .long x4)] → W p l e RX1_isDeep_ s m args below meth c s.heap [] 0 0 Qw (F0 m 5 ls []) := by
  obtain ⟨hx, hb, hml, hown, hts⟩ := id S
  intro n
  induction n with
  | zero => intro _ _ _ hf; exact hf.elim
  | succ n ih =>
    intro x3 x4 ls hf hl
    rw [wX1_isDeep_5] at hf
    refine lv_lload hx hb dX1_isDeep_5 (lv_at hl 2 rfl) ?_
    refine lv_lconst (v := 0) hx hb dX1_isDeep_7 (by decide) ?_
    refine lc_eq (tgt := 49) hx hb dX1_isDeep_8 dX1_isDeep_9 (by decide) (fun c_8 => ?_) (fun c_8 => ?_)
    · replace hf := hf.1 c_8
      refine lv_iload_n hx hb dX1_isDeep_49 rfl (lv_at hl 1 rfl) ?_
      obtain ⟨hz, hf⟩ := hf
      exact hret _ _ _ hz hf dX1_isDeep_50
    · replace hf := hf.2 c_8
      refine lv_iload_n hx hb dX1_isDeep_12 rfl (lv_at hl 1 rfl) ?_
      refine lv_if_ne (tgt := 49) hx hb dX1_isDeep_13 (by decide) (fun c_13 => ?_) (fun c_13 => ?_)
      · replace hf := hf.2 c_13
        refine lv_iload_n hx hb dX1_isDeep_49 rfl (lv_at hl 1 rfl) ?_
        obtain ⟨hz, hf⟩ := hf
        exact hret _ _ _ hz hf dX1_isDeep_50
      · replace hf := hf.1 c_13
        refine lv_aload_n hx hb dX1_isDeep_16 rfl (lv_at hl 0 rfl) ?_
        refine va_get (D := (dC, dI)) (ci := 1) (v := .ref d) (C := RX1) (T := TX1) (N := 3) hx hb hts in_X1 hown hK hP 0 rfl rfl 0 (by decide) (hts _ q1078) (fun _ h9 => h9) rfl dX1_isDeep_17 ?_
        refine lv_lload hx hb dX1_isDeep_20 (lv_at hl 2 rfl) ?_
        refine csn_i (As := [.long x4]) (rest := [.ref d]) S hE.1 (metX0_least l hf) q222 ⟨q223, q54, q224⟩ pdX0_least ⟨rfl, rfl⟩ ⟨Nat.le_of_ble_eq_true rfl, Nat.le_of_ble_eq_true rfl⟩ rfl hl.1 rfl (Nat.le_of_ble_eq_true rfl) dX1_isDeep_22 ⟨Nat.zero_le _, Nat.zero_le _⟩ (fun r_22 hf => ?_)
        obtain ⟨hin, hf⟩ := hf
        refine va_bald hx hb hK hP 1 0 rfl rfl hin dX1_isDeep_25 ?_
        refine lv_bipush (v := 9) hx hb dX1_isDeep_26 (by decide) ?_
        refine lv_icmp_ne (tgt := 35) hx hb dX1_isDeep_28 (by decide) (fun c_28 => ?_) (fun c_28 => ?_)
        · replace hf := hf.2 c_28
          refine lv_iconst (v := 0) hx hb dX1_isDeep_35 (by decide) ?_
          exact tX1_isDeep_36 S hK hE hP hret ih x4 0 _ hf (lv_sub hl [0, 2] rfl)
        · replace hf := hf.1 c_28
          refine lv_iconst (v := 1) hx hb dX1_isDeep_31 (by decide) ?_
          refine lv_goto (tgt := 36) hx hb dX1_isDeep_32 (by decide) ?_
          exact tX1_isDeep_36 S hK hE hP hret ih x4 1 _ hf (lv_sub hl [0, 2] rfl)
def wX1_isDeep (Q : Int32 → Prop) (depths : (Nat → Int32)) (x1 : Int64) : Prop := (∃ fu : Nat, wX1_isDeep_5 Q depths fu 0 x1)
end
set_option maxHeartbeats 4000000 in
set_option maxRecDepth 100000 in
theorem metX1_isDeep (l : Launch) {Q : Int32 → Prop} {depths : (Nat → Int32)} {roofs : Int64} {rate : Int32} {x1 : Int64} {dC : Nat → ClassId} {dI : Nat → Nat → Nat} {dA : Nat → ClassId} {eA mi : Nat} {g d : Nat} (hf : wX1_isDeep Q depths x1) : Met l yX1_isDeep (ws_ yX1_isDeep cX1_isDeep 6 (some .boolean)) rmX1_isDeep (rPc dC dI dA eA mi [.ref g, .long x1] [(g, .inr (1, [.ref d, .long roofs, .int rate])), (d, .inl (dA 0, 36, .inl depths))]) (vp_Si Q) 0 0 (fun _ => False) := by
  refine Met.ofW (cc := cX1_isDeep) (maxL := 6) (ret := (some .boolean)) (by decide) rfl ?_
  intro p e s m args below meth c s₁ B hml hv
  obtain ⟨rfl, hP, hK, hE⟩ := hv
  have hx := B.exec
  have hb := B.bytes
  have hr := B.returns
  have hts := atoms_spec (ws := (ws_ yX1_isDeep cX1_isDeep 6 (some .boolean))) B.pre
  have hts : ∀ w ∈ lw_all, w.before _ s = true := fun w h => hts w (List.mem_cons_of_mem _ h)
  have hown : s.vm.findClass RX1 = some m.cls := findClass_of_methodNamed B.named
  have hlocks := B.notSynchronized
  have S : CallFix p m c cX1_isDeep 6 s _ lw_all RX1 := ⟨hx, hb, hml, hown, hts⟩
  have hl := lv_entry ([.ref g, .long x1]) (n := 6) (Nat.le_of_ble_eq_true rfl)
  rw [lg_entry_eq]
  generalize (lg_sl ([.ref g, .long x1]) ++ List.replicate (6 - (lg_sl ([.ref g, .long x1])).length) Slot.unset).toArray = ls at hl ⊢
  replace hl : lv_has ls 6 [(0, .ref g), (1, .long x1)] := hl
  have hret : hrX1_isDeep p l e s m ([.ref g, .long x1] : List Value).toArray below meth c (MQ below (vp_Si Q) ([.ref g, .long x1] : List Value).toArray s 0 0 (fun _ => False)) Q := fun r pc ls hz hq hd => W.zret hx hb hr hz.1 (fun t ht hW => ⟨r, rfl, hq, ht⟩) t_nil hd
  unfold wX1_isDeep at hf
  refine lv_iconst (v := 0) hx hb dX1_isDeep_0 (by decide) ?_
  refine lv_istore_n (lv' := [(3, .int 0), (0, .ref g), (1, .long x1)]) hx hb dX1_isDeep_1 rfl hl (by decide) rfl (fun ls hl => ?_)
  refine lv_lload_n hx hb dX1_isDeep_2 rfl (lv_at hl 2 rfl) ?_
  refine lv_lstore (lv' := [(4, .long x1), (3, .int 0), (0, .ref g), (1, .long x1)]) hx hb dX1_isDeep_3 hl (by decide) rfl (fun ls hl => ?_)
  obtain ⟨fu, hf⟩ := hf
  exact tX1_isDeep_5 S hK hE hP hret fu 0 x1 _ hf (lv_sub hl [2, 1, 0] rfl)
