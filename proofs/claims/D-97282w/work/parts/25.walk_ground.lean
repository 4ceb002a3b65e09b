/-! HoleCounty$Pit.<init>(JI)V -/
theorem pdX5_init : DscOk yX5_init 2 := by decide +kernel
abbrev rmX5_init : Room := { frames := 1, cells := 0, slots := 0, locals := 12 }
abbrev RX5_init_ : Room := (headSpec (ws_ yX5_init cX5_init 4 none) rmX5_init).room
section
variable {p : Program} {l : Launch} {e : Env} {s : State} {m : MethodId} {args : Array Value} {below : List Frame} {meth : Method} {c : Code} {Qw : State → Prop} {dC : Nat → ClassId} {dI : Nat → Nat → Nat} {dA : Nat → ClassId} {eA mi : Nat} {A : Nat → Prop} {a ci : Nat}
abbrev hrX5_init (p : Program) (l : Launch) (e : Env) (s : State) (m : MethodId) (args : Array Value) (below : List Frame) (meth : Method) (c : Code) (dC : Nat → ClassId) (dI : Nat → Nat → Nat) (dA : Nat → ClassId) (A : Nat → Prop) (a : Nat) (ci : Nat) (Qw : State → Prop) (Q : (Int64) → (Int32) → Prop) : Prop := ∀ (cells : Int64) (rate : Int32) (H : Heap) (locs : List Loc) (kc ks : Nat) (pc : Nat) (ls : Array Slot), kc ≤ 0 → ks ≤ 0 → Q cells rate → va_P (dC, dI) vwCl [(a, .inr (ci, [.long cells, .int rate]))] H → va_D A [(a, .inr (ci, [.long cells, .int rate]))] → va_S A s.heap H locs → decode cX5_init pc = .ok (.return_, 1) → W p l e RX5_init_ s m args below meth c H locs kc ks Qw (F0 m pc ls [])
def wX5_init (Q : (Int64) → (Int32) → Prop) (cells : Int64) (rate : Int32) (x1 : Int64) (x3 : Int32) : Prop := (Q x1 x3)
end
set_option maxHeartbeats 4000000 in
set_option maxRecDepth 100000 in
theorem metX5_init (l : Launch) {Q : (Int64) → (Int32) → Prop} {cells : Int64} {rate : Int32} {x1 : Int64} {x3 : Int32} {dC : Nat → ClassId} {dI : Nat → Nat → Nat} {dA : Nat → ClassId} {eA mi sz : Nat} {a ci : Nat} (hci : pK ci) (hf : wX5_init Q cells rate x1 x3) : Met l yX5_init (ws_ yX5_init cX5_init 4 none) rmX5_init (aPc dC dI dA eA mi sz [.ref a, .long x1, .int x3] [(a, .inr (ci, [.long cells, .int rate]))]) (va_Qv (fun (u : Int64 × Int32) => Q u.1 u.2) (aB dC dI [(a, .inr (ci, [.long cells, .int rate]))] sz (fun u => [(a, .inr (ci, [.long u.1, .int u.2]))])) (va_A [(a, .inr (ci, [.long cells, .int rate]))] sz)) 0 0 (va_A [(a, .inr (ci, [.long cells, .int rate]))] sz) := by
  refine Met.ofW (cc := cX5_init) (maxL := 4) (ret := none) (by decide) rfl ?_
  intro p e s m args below meth c s₁ B hml hv
  obtain ⟨rfl, hsz, hP, hK, hD0, hE⟩ := hv
  subst hsz
  have hx := B.exec
  have hb := B.bytes
  have hr := B.returns
  have hts := atoms_spec (ws := (ws_ yX5_init cX5_init 4 none)) B.pre
  have hts : ∀ w ∈ lw_all, w.before _ s = true := fun w h => hts w (List.mem_cons_of_mem _ h)
  have hown : s.vm.findClass RX5 = some m.cls := findClass_of_methodNamed B.named
  have hlocks := B.notSynchronized
  have hin : meth.name = "<init>" := (name_of_methodNamed B.named B.method).1
  have S : CallFix p m c cX5_init 4 s _ lw_all RX5 := ⟨hx, hb, hml, hown, hts⟩
  have hD := hD0.self (sz := s.heap.size)
  have hA : ∀ q : Nat, s.heap.size ≤ q → va_A [(a, .inr (ci, [.long cells, .int rate]))] s.heap.size q := fun q h => Or.inr h
  have hS : va_S (va_A [(a, .inr (ci, [.long cells, .int rate]))] s.heap.size) s.heap s.heap [] := va_S.rf
  have hl := lv_entry ([.ref a, .long x1, .int x3]) (n := 4) (Nat.le_of_ble_eq_true rfl)
  rw [lg_entry_eq]
  generalize (lg_sl ([.ref a, .long x1, .int x3]) ++ List.replicate (4 - (lg_sl ([.ref a, .long x1, .int x3])).length) Slot.unset).toArray = ls at hl ⊢
  replace hl : lv_has ls 4 [(0, .ref a), (1, .long x1), (3, .int x3)] := hl
  have hret : hrX5_init p l e s m ([.ref a, .long x1, .int x3] : List Value).toArray below meth c dC dI dA (va_A [(a, .inr (ci, [.long cells, .int rate]))] s.heap.size) a ci (MQ below (va_Qv (fun (u : Int64 × Int32) => Q u.1 u.2) (aB dC dI [(a, .inr (ci, [.long cells, .int rate]))] s.heap.size (fun u => [(a, .inr (ci, [.long u.1, .int u.2]))])) (va_A [(a, .inr (ci, [.long cells, .int rate]))] s.heap.size)) ([.ref a, .long x1, .int x3] : List Value).toArray s 0 0 (va_A [(a, .inr (ci, [.long cells, .int rate]))] s.heap.size)) Q := fun cells rate H locs kc ks pc ls h1 h2 hq hP hD hS hd => W.widen (k := 0) (n := 0) h1 h2 (W.vret hx hb hr (fun t ht hW => ⟨⟨(cells, rate), rfl, hq, by subst ht; exact ⟨hP, hD⟩⟩, hS.F ht⟩) hS.2.2 hd)
  generalize hAe : va_A [(a, .inr (ci, [.long cells, .int rate]))] s.heap.size = A at hD hA hS hE hret ⊢
  clear hAe
  unfold wX5_init at hf
  refine lv_aload_n hx hb dX5_init_0 rfl (lv_at hl 0 rfl) ?_
  refine W.objInit hx hb hown (hts _ q297) (hts _ q105) (hts _ q106) rfl (by rw [hml]; exact hl.1) rfl dX5_init_1 (Nat.le_of_ble_eq_true rfl) (Nat.le_of_ble_eq_true rfl) ?_
  refine W.eq (g2 := F0 m 4 ls []) rfl ?_
  refine lv_aload_n hx hb dX5_init_4 rfl (lv_at hl 0 rfl) ?_
  refine lv_lload_n hx hb dX5_init_5 rfl (lv_at hl 1 rfl) ?_
  refine fP_cells S hin hK hP hD hS hci dX5_init_6 (fun H locs hP hD hS => ?_)
  replace hP : va_P (dC, dI) vwCl [(a, .inr (ci, [.long x1, .int rate]))] H := hP
  replace hD : va_D A [(a, .inr (ci, [.long x1, .int rate]))] := hD
  refine lv_aload_n hx hb dX5_init_9 rfl (lv_at hl 0 rfl) ?_
  refine lv_iload_n hx hb dX5_init_10 rfl (lv_at hl 2 rfl) ?_
  refine fP_rate S hin hK hP hD hS hci dX5_init_11 (fun H locs hP hD hS => ?_)
  replace hP : va_P (dC, dI) vwCl [(a, .inr (ci, [.long x1, .int x3]))] H := hP
  replace hD : va_D A [(a, .inr (ci, [.long x1, .int x3]))] := hD
  exact hret _ _ _ _ _ _ _ _ (Nat.zero_le _) (Nat.zero_le _) hf (hP.sub [0] rfl) (hD.sub [0] (by decide) rfl) hS dX5_init_14
/-! HoleCounty$Shaft.<init>(JI)V -/
theorem pdX6_init : DscOk yX6_init 2 := by decide +kernel
abbrev rmX6_init : Room := { frames := 2, cells := 0, slots := 0, locals := 35 }
abbrev RX6_init_ : Room := (headSpec (ws_ yX6_init cX6_init 4 none) rmX6_init).room
section
variable {p : Program} {l : Launch} {e : Env} {s : State} {m : MethodId} {args : Array Value} {below : List Frame} {meth : Method} {c : Code} {Qw : State → Prop} {dC : Nat → ClassId} {dI : Nat → Nat → Nat} {dA : Nat → ClassId} {eA mi : Nat} {A : Nat → Prop} {a ci : Nat}
abbrev hrX6_init (p : Program) (l : Launch) (e : Env) (s : State) (m : MethodId) (args : Array Value) (below : List Frame) (meth : Method) (c : Code) (dC : Nat → ClassId) (dI : Nat → Nat → Nat) (dA : Nat → ClassId) (A : Nat → Prop) (a : Nat) (ci : Nat) (Qw : State → Prop) (Q : (Int64) → (Int32) → Prop) : Prop := ∀ (cells : Int64) (rate : Int32) (H : Heap) (locs : List Loc) (kc ks : Nat) (pc : Nat) (ls : Array Slot), kc ≤ 0 → ks ≤ 0 → Q cells rate → va_P (dC, dI) vwCl [(a, .inr (ci, [.long cells, .int rate]))] H → va_D A [(a, .inr (ci, [.long cells, .int rate]))] → va_S A s.heap H locs → decode cX6_init pc = .ok (.return_, 1) → W p l e RX6_init_ s m args below meth c H locs kc ks Qw (F0 m pc ls [])
def wX6_init (Q : (Int64) → (Int32) → Prop) (cells : Int64) (rate : Int32) (x1 : Int64) (x3 : Int32) : Prop := (wX5_init (fun cells_3 rate_3 => (Q cells_3 rate_3)) cells rate x1 x3)
end
set_option maxHeartbeats 4000000 in
set_option maxRecDepth 100000 in
theorem metX6_init (l : Launch) {Q : (Int64) → (Int32) → Prop} {cells : Int64} {rate : Int32} {x1 : Int64} {x3 : Int32} {dC : Nat → ClassId} {dI : Nat → Nat → Nat} {dA : Nat → ClassId} {eA mi sz : Nat} {a ci : Nat} (hci : pK ci) (hf : wX6_init Q cells rate x1 x3) : Met l yX6_init (ws_ yX6_init cX6_init 4 none) rmX6_init (aPc dC dI dA eA mi sz [.ref a, .long x1, .int x3] [(a, .inr (ci, [.long cells, .int rate]))]) (va_Qv (fun (u : Int64 × Int32) => Q u.1 u.2) (aB dC dI [(a, .inr (ci, [.long cells, .int rate]))] sz (fun u => [(a, .inr (ci, [.long u.1, .int u.2]))])) (va_A [(a, .inr (ci, [.long cells, .int rate]))] sz)) 0 0 (va_A [(a, .inr (ci, [.long cells, .int rate]))] sz) := by
  refine Met.ofW (cc := cX6_init) (maxL := 4) (ret := none) (by decide) rfl ?_
  intro p e s m args below meth c s₁ B hml hv
  obtain ⟨rfl, hsz, hP, hK, hD0, hE⟩ := hv
  subst hsz
  have hx := B.exec
  have hb := B.bytes
  have hr := B.returns
  have hts := atoms_spec (ws := (ws_ yX6_init cX6_init 4 none)) B.pre
  have hts : ∀ w ∈ lw_all, w.before _ s = true := fun w h => hts w (List.mem_cons_of_mem _ h)
  have hown : s.vm.findClass RX6 = some m.cls := findClass_of_methodNamed B.named
  have hlocks := B.notSynchronized
  have hin : meth.name = "<init>" := (name_of_methodNamed B.named B.method).1
  have S : CallFix p m c cX6_init 4 s _ lw_all RX6 := ⟨hx, hb, hml, hown, hts⟩
  have hD := hD0.self (sz := s.heap.size)
  have hA : ∀ q : Nat, s.heap.size ≤ q → va_A [(a, .inr (ci, [.long cells, .int rate]))] s.heap.size q := fun q h => Or.inr h
  have hS : va_S (va_A [(a, .inr (ci, [.long cells, .int rate]))] s.heap.size) s.heap s.heap [] := va_S.rf
  have hl := lv_entry ([.ref a, .long x1, .int x3]) (n := 4) (Nat.le_of_ble_eq_true rfl)
  rw [lg_entry_eq]
  generalize (lg_sl ([.ref a, .long x1, .int x3]) ++ List.replicate (4 - (lg_sl ([.ref a, .long x1, .int x3])).length) Slot.unset).toArray = ls at hl ⊢
  replace hl : lv_has ls 4 [(0, .ref a), (1, .long x1), (3, .int x3)] := hl
  have hret : hrX6_init p l e s m ([.ref a, .long x1, .int x3] : List Value).toArray below meth c dC dI dA (va_A [(a, .inr (ci, [.long cells, .int rate]))] s.heap.size) a ci (MQ below (va_Qv (fun (u : Int64 × Int32) => Q u.1 u.2) (aB dC dI [(a, .inr (ci, [.long cells, .int rate]))] s.heap.size (fun u => [(a, .inr (ci, [.long u.1, .int u.2]))])) (va_A [(a, .inr (ci, [.long cells, .int rate]))] s.heap.size)) ([.ref a, .long x1, .int x3] : List Value).toArray s 0 0 (va_A [(a, .inr (ci, [.long cells, .int rate]))] s.heap.size)) Q := fun cells rate H locs kc ks pc ls h1 h2 hq hP hD hS hd => W.widen (k := 0) (n := 0) h1 h2 (W.vret hx hb hr (fun t ht hW => ⟨⟨(cells, rate), rfl, hq, by subst ht; exact ⟨hP, hD⟩⟩, hS.F ht⟩) hS.2.2 hd)
  generalize hAe : va_A [(a, .inr (ci, [.long cells, .int rate]))] s.heap.size = A at hD hA hS hE hret ⊢
  clear hAe
  unfold wX6_init at hf
  refine lv_aload_n hx hb dX6_init_0 rfl (lv_at hl 0 rfl) ?_
  refine lv_lload_n hx hb dX6_init_1 rfl (lv_at hl 1 rfl) ?_
  refine lv_iload_n hx hb dX6_init_2 rfl (lv_at hl 2 rfl) ?_
  refine aC_v (wr := []) hP hD hS hA [0] [] rfl rfl (by decide) (by decide) (va_runI (As := [.long x1, .int x3]) (rest := []) S (metX5_init l hci hf) (cwI 2 hts (lw_meth q296) rfl rfl rfl (hts _ q68) (hts _ q294) (hts _ q295) rfl pdX5_init ⟨Nat.le_of_ble_eq_true rfl, Nat.le_of_ble_eq_true rfl⟩) (apreS hK hE hP hD hS hA [0] rfl rfl (by decide)) rfl rfl hl.1 rfl (lv_room (Nat.le_of_ble_eq_true rfl)) dX6_init_3 ⟨(Nat.zero_le _), (Nat.zero_le _)⟩) (fun u_3 H locs hf hP hD hS => ?_)
  obtain ⟨cells_3, rate_3⟩ := u_3
  replace hP : va_P (dC, dI) vwCl [(a, .inr (ci, [.long cells_3, .int rate_3]))] H := hP
  replace hD : va_D A [(a, .inr (ci, [.long cells_3, .int rate_3]))] := hD
  try dsimp only at hf
  exact hret _ _ _ _ _ _ _ _ (Nat.zero_le _) (Nat.zero_le _) hf (hP.sub [0] rfl) (hD.sub [0] (by decide) rfl) hS dX6_init_6
/-! HoleCounty$Absence.<init>(JI)V -/
theorem pdX7_init : DscOk yX7_init 2 := by decide +kernel
abbrev rmX7_init : Room := { frames := 3, cells := 0, slots := 0, locals := 58 }
abbrev RX7_init_ : Room := (headSpec (ws_ yX7_init cX7_init 4 none) rmX7_init).room
section
variable {p : Program} {l : Launch} {e : Env} {s : State} {m : MethodId} {args : Array Value} {below : List Frame} {meth : Method} {c : Code} {Qw : State → Prop} {dC : Nat → ClassId} {dI : Nat → Nat → Nat} {dA : Nat → ClassId} {eA mi : Nat} {A : Nat → Prop} {a ci : Nat}
abbrev hrX7_init (p : Program) (l : Launch) (e : Env) (s : State) (m : MethodId) (args : Array Value) (below : List Frame) (meth : Method) (c : Code) (dC : Nat → ClassId) (dI : Nat → Nat → Nat) (dA : Nat → ClassId) (A : Nat → Prop) (a : Nat) (ci : Nat) (Qw : State → Prop) (Q : (Int64) → (Int32) → Prop) : Prop := ∀ (cells : Int64) (rate : Int32) (H : Heap) (locs : List Loc) (kc ks : Nat) (pc : Nat) (ls : Array Slot), kc ≤ 0 → ks ≤ 0 → Q cells rate → va_P (dC, dI) vwCl [(a, .inr (ci, [.long cells, .int rate]))] H → va_D A [(a, .inr (ci, [.long cells, .int rate]))] → va_S A s.heap H locs → decode cX7_init pc = .ok (.return_, 1) → W p l e RX7_init_ s m args below meth c H locs kc ks Qw (F0 m pc ls [])
def wX7_init (Q : (Int64) → (Int32) → Prop) (cells : Int64) (rate : Int32) (x1 : Int64) (x3 : Int32) : Prop := (wX6_init (fun cells_3 rate_3 => (Q cells_3 rate_3)) cells rate x1 x3)
end
set_option maxHeartbeats 4000000 in
set_option maxRecDepth 100000 in
theorem metX7_init (l : Launch) {Q : (Int64) → (Int32) → Prop} {cells : Int64} {rate : Int32} {x1 : Int64} {x3 : Int32} {dC : Nat → ClassId} {dI : Nat → Nat → Nat} {dA : Nat → ClassId} {eA mi sz : Nat} {a ci : Nat} (hci : pK ci) (hf : wX7_init Q cells rate x1 x3) : Met l yX7_init (ws_ yX7_init cX7_init 4 none) rmX7_init (aPc dC dI dA eA mi sz [.ref a, .long x1, .int x3] [(a, .inr (ci, [.long cells, .int rate]))]) (va_Qv (fun (u : Int64 × Int32) => Q u.1 u.2) (aB dC dI [(a, .inr (ci, [.long cells, .int rate]))] sz (fun u => [(a, .inr (ci, [.long u.1, .int u.2]))])) (va_A [(a, .inr (ci, [.long cells, .int rate]))] sz)) 0 0 (va_A [(a, .inr (ci, [.long cells, .int rate]))] sz) := by
  refine Met.ofW (cc := cX7_init) (maxL := 4) (ret := none) (by decide) rfl ?_
  intro p e s m args below meth c s₁ B hml hv
  obtain ⟨rfl, hsz, hP, hK, hD0, hE⟩ := hv
  subst hsz
  have hx := B.exec
  have hb := B.bytes
  have hr := B.returns
  have hts := atoms_spec (ws := (ws_ yX7_init cX7_init 4 none)) B.pre
  have hts : ∀ w ∈ lw_all, w.before _ s = true := fun w h => hts w (List.mem_cons_of_mem _ h)
  have hown : s.vm.findClass RX7 = some m.cls := findClass_of_methodNamed B.named
  have hlocks := B.notSynchronized
  have hin : meth.name = "<init>" := (name_of_methodNamed B.named B.method).1
  have S : CallFix p m c cX7_init 4 s _ lw_all RX7 := ⟨hx, hb, hml, hown, hts⟩
  have hD := hD0.self (sz := s.heap.size)
  have hA : ∀ q : Nat, s.heap.size ≤ q → va_A [(a, .inr (ci, [.long cells, .int rate]))] s.heap.size q := fun q h => Or.inr h
  have hS : va_S (va_A [(a, .inr (ci, [.long cells, .int rate]))] s.heap.size) s.heap s.heap [] := va_S.rf
  have hl := lv_entry ([.ref a, .long x1, .int x3]) (n := 4) (Nat.le_of_ble_eq_true rfl)
  rw [lg_entry_eq]
  generalize (lg_sl ([.ref a, .long x1, .int x3]) ++ List.replicate (4 - (lg_sl ([.ref a, .long x1, .int x3])).length) Slot.unset).toArray = ls at hl ⊢
  replace hl : lv_has ls 4 [(0, .ref a), (1, .long x1), (3, .int x3)] := hl
  have hret : hrX7_init p l e s m ([.ref a, .long x1, .int x3] : List Value).toArray below meth c dC dI dA (va_A [(a, .inr (ci, [.long cells, .int rate]))] s.heap.size) a ci (MQ below (va_Qv (fun (u : Int64 × Int32) => Q u.1 u.2) (aB dC dI [(a, .inr (ci, [.long cells, .int rate]))] s.heap.size (fun u => [(a, .inr (ci, [.long u.1, .int u.2]))])) (va_A [(a, .inr (ci, [.long cells, .int rate]))] s.heap.size)) ([.ref a, .long x1, .int x3] : List Value).toArray s 0 0 (va_A [(a, .inr (ci, [.long cells, .int rate]))] s.heap.size)) Q := fun cells rate H locs kc ks pc ls h1 h2 hq hP hD hS hd => W.widen (k := 0) (n := 0) h1 h2 (W.vret hx hb hr (fun t ht hW => ⟨⟨(cells, rate), rfl, hq, by subst ht; exact ⟨hP, hD⟩⟩, hS.F ht⟩) hS.2.2 hd)
  generalize hAe : va_A [(a, .inr (ci, [.long cells, .int rate]))] s.heap.size = A at hD hA hS hE hret ⊢
  clear hAe
  unfold wX7_init at hf
  refine lv_aload_n hx hb dX7_init_0 rfl (lv_at hl 0 rfl) ?_
  refine lv_lload_n hx hb dX7_init_1 rfl (lv_at hl 1 rfl) ?_
  refine lv_iload_n hx hb dX7_init_2 rfl (lv_at hl 2 rfl) ?_
  refine aC_v (wr := []) hP hD hS hA [0] [] rfl rfl (by decide) (by decide) (va_runI (As := [.long x1, .int x3]) (rest := []) S (metX6_init l hci hf) (cwI 2 hts (lw_meth q293) rfl rfl rfl (hts _ q69) (hts _ q291) (hts _ q292) rfl pdX6_init ⟨Nat.le_of_ble_eq_true rfl, Nat.le_of_ble_eq_true rfl⟩) (apreS hK hE hP hD hS hA [0] rfl rfl (by decide)) rfl rfl hl.1 rfl (lv_room (Nat.le_of_ble_eq_true rfl)) dX7_init_3 ⟨(Nat.zero_le _), (Nat.zero_le _)⟩) (fun u_3 H locs hf hP hD hS => ?_)
  obtain ⟨cells_3, rate_3⟩ := u_3
  replace hP : va_P (dC, dI) vwCl [(a, .inr (ci, [.long cells_3, .int rate_3]))] H := hP
  replace hD : va_D A [(a, .inr (ci, [.long cells_3, .int rate_3]))] := hD
  try dsimp only at hf
  exact hret _ _ _ _ _ _ _ _ (Nat.zero_le _) (Nat.zero_le _) hf (hP.sub [0] rfl) (hD.sub [0] (by decide) rfl) hS dX7_init_6
/-! HoleCounty$Gap.<init>(JI)V -/
theorem pdX8_init : DscOk yX8_init 2 := by decide +kernel
abbrev rmX8_init : Room := { frames := 2, cells := 0, slots := 0, locals := 35 }
abbrev RX8_init_ : Room := (headSpec (ws_ yX8_init cX8_init 4 none) rmX8_init).room
section
variable {p : Program} {l : Launch} {e : Env} {s : State} {m : MethodId} {args : Array Value} {below : List Frame} {meth : Method} {c : Code} {Qw : State → Prop} {dC : Nat → ClassId} {dI : Nat → Nat → Nat} {dA : Nat → ClassId} {eA mi : Nat} {A : Nat → Prop} {a ci : Nat}
abbrev hrX8_init (p : Program) (l : Launch) (e : Env) (s : State) (m : MethodId) (args : Array Value) (below : List Frame) (meth : Method) (c : Code) (dC : Nat → ClassId) (dI : Nat → Nat → Nat) (dA : Nat → ClassId) (A : Nat → Prop) (a : Nat) (ci : Nat) (Qw : State → Prop) (Q : (Int64) → (Int32) → Prop) : Prop := ∀ (cells : Int64) (rate : Int32) (H : Heap) (locs : List Loc) (kc ks : Nat) (pc : Nat) (ls : Array Slot), kc ≤ 0 → ks ≤ 0 → Q cells rate → va_P (dC, dI) vwCl [(a, .inr (ci, [.long cells, .int rate]))] H → va_D A [(a, .inr (ci, [.long cells, .int rate]))] → va_S A s.heap H locs → decode cX8_init pc = .ok (.return_, 1) → W p l e RX8_init_ s m args below meth c H locs kc ks Qw (F0 m pc ls [])
def wX8_init (Q : (Int64) → (Int32) → Prop) (cells : Int64) (rate : Int32) (x1 : Int64) (x3 : Int32) : Prop := (wX5_init (fun cells_3 rate_3 => (Q cells_3 rate_3)) cells rate x1 x3)
end
set_option maxHeartbeats 4000000 in
set_option maxRecDepth 100000 in
theorem metX8_init (l : Launch) {Q : (Int64) → (Int32) → Prop} {cells : Int64} {rate : Int32} {x1 : Int64} {x3 : Int32} {dC : Nat → ClassId} {dI : Nat → Nat → Nat} {dA : Nat → ClassId} {eA mi sz : Nat} {a ci : Nat} (hci : pK ci) (hf : wX8_init Q cells rate x1 x3) : Met l yX8_init (ws_ yX8_init cX8_init 4 none) rmX8_init (aPc dC dI dA eA mi sz [.ref a, .long x1, .int x3] [(a, .inr (ci, [.long cells, .int rate]))]) (va_Qv (fun (u : Int64 × Int32) => Q u.1 u.2) (aB dC dI [(a, .inr (ci, [.long cells, .int rate]))] sz (fun u => [(a, .inr (ci, [.long u.1, .int u.2]))])) (va_A [(a, .inr (ci, [.long cells, .int rate]))] sz)) 0 0 (va_A [(a, .inr (ci, [.long cells, .int rate]))] sz) := by
  refine Met.ofW (cc := cX8_init) (maxL := 4) (ret := none) (by decide) rfl ?_
  intro p e s m args below meth c s₁ B hml hv
  obtain ⟨rfl, hsz, hP, hK, hD0, hE⟩ := hv
  subst hsz
  have hx := B.exec
  have hb := B.bytes
  have hr := B.returns
  have hts := atoms_spec (ws := (ws_ yX8_init cX8_init 4 none)) B.pre
  have hts : ∀ w ∈ lw_all, w.before _ s = true := fun w h => hts w (List.mem_cons_of_mem _ h)
  have hown : s.vm.findClass RX8 = some m.cls := findClass_of_methodNamed B.named
  have hlocks := B.notSynchronized
  have hin : meth.name = "<init>" := (name_of_methodNamed B.named B.method).1
  have S : CallFix p m c cX8_init 4 s _ lw_all RX8 := ⟨hx, hb, hml, hown, hts⟩
  have hD := hD0.self (sz := s.heap.size)
  have hA : ∀ q : Nat, s.heap.size ≤ q → va_A [(a, .inr (ci, [.long cells, .int rate]))] s.heap.size q := fun q h => Or.inr h
  have hS : va_S (va_A [(a, .inr (ci, [.long cells, .int rate]))] s.heap.size) s.heap s.heap [] := va_S.rf
  have hl := lv_entry ([.ref a, .long x1, .int x3]) (n := 4) (Nat.le_of_ble_eq_true rfl)
  rw [lg_entry_eq]
  generalize (lg_sl ([.ref a, .long x1, .int x3]) ++ List.replicate (4 - (lg_sl ([.ref a, .long x1, .int x3])).length) Slot.unset).toArray = ls at hl ⊢
  replace hl : lv_has ls 4 [(0, .ref a), (1, .long x1), (3, .int x3)] := hl
  have hret : hrX8_init p l e s m ([.ref a, .long x1, .int x3] : List Value).toArray below meth c dC dI dA (va_A [(a, .inr (ci, [.long cells, .int rate]))] s.heap.size) a ci (MQ below (va_Qv (fun (u : Int64 × Int32) => Q u.1 u.2) (aB dC dI [(a, .inr (ci, [.long cells, .int rate]))] s.heap.size (fun u => [(a, .inr (ci, [.long u.1, .int u.2]))])) (va_A [(a, .inr (ci, [.long cells, .int rate]))] s.heap.size)) ([.ref a, .long x1, .int x3] : List Value).toArray s 0 0 (va_A [(a, .inr (ci, [.long cells, .int rate]))] s.heap.size)) Q := fun cells rate H locs kc ks pc ls h1 h2 hq hP hD hS hd => W.widen (k := 0) (n := 0) h1 h2 (W.vret hx hb hr (fun t ht hW => ⟨⟨(cells, rate), rfl, hq, by subst ht; exact ⟨hP, hD⟩⟩, hS.F ht⟩) hS.2.2 hd)
  generalize hAe : va_A [(a, .inr (ci, [.long cells, .int rate]))] s.heap.size = A at hD hA hS hE hret ⊢
  clear hAe
  unfold wX8_init at hf
  refine lv_aload_n hx hb dX8_init_0 rfl (lv_at hl 0 rfl) ?_
  refine lv_lload_n hx hb dX8_init_1 rfl (lv_at hl 1 rfl) ?_
  refine lv_iload_n hx hb dX8_init_2 rfl (lv_at hl 2 rfl) ?_
  refine aC_v (wr := []) hP hD hS hA [0] [] rfl rfl (by decide) (by decide) (va_runI (As := [.long x1, .int x3]) (rest := []) S (metX5_init l hci hf) (cwI 2 hts (lw_meth q296) rfl rfl rfl (hts _ q68) (hts _ q322) (hts _ q295) rfl pdX5_init ⟨Nat.le_of_ble_eq_true rfl, Nat.le_of_ble_eq_true rfl⟩) (apreS hK hE hP hD hS hA [0] rfl rfl (by decide)) rfl rfl hl.1 rfl (lv_room (Nat.le_of_ble_eq_true rfl)) dX8_init_3 ⟨(Nat.zero_le _), (Nat.zero_le _)⟩) (fun u_3 H locs hf hP hD hS => ?_)
  obtain ⟨cells_3, rate_3⟩ := u_3
  replace hP : va_P (dC, dI) vwCl [(a, .inr (ci, [.long cells_3, .int rate_3]))] H := hP
  replace hD : va_D A [(a, .inr (ci, [.long cells_3, .int rate_3]))] := hD
  try dsimp only at hf
  exact hret _ _ _ _ _ _ _ _ (Nat.zero_le _) (Nat.zero_le _) hf (hP.sub [0] rfl) (hD.sub [0] (by decide) rfl) hS dX8_init_6
/-! HoleCounty$Pass.<init>(JI)V -/
theorem pdX9_init : DscOk yX9_init 2 := by decide +kernel
abbrev rmX9_init : Room := { frames := 3, cells := 0, slots := 0, locals := 58 }
abbrev RX9_init_ : Room := (headSpec (ws_ yX9_init cX9_init 4 none) rmX9_init).room
section
variable {p : Program} {l : Launch} {e : Env} {s : State} {m : MethodId} {args : Array Value} {below : List Frame} {meth : Method} {c : Code} {Qw : State → Prop} {dC : Nat → ClassId} {dI : Nat → Nat → Nat} {dA : Nat → ClassId} {eA mi : Nat} {A : Nat → Prop} {a ci : Nat}
abbrev hrX9_init (p : Program) (l : Launch) (e : Env) (s : State) (m : MethodId) (args : Array Value) (below : List Frame) (meth : Method) (c : Code) (dC : Nat → ClassId) (dI : Nat → Nat → Nat) (dA : Nat → ClassId) (A : Nat → Prop) (a : Nat) (ci : Nat) (Qw : State → Prop) (Q : (Int64) → (Int32) → Prop) : Prop := ∀ (cells : Int64) (rate : Int32) (H : Heap) (locs : List Loc) (kc ks : Nat) (pc : Nat) (ls : Array Slot), kc ≤ 0 → ks ≤ 0 → Q cells rate → va_P (dC, dI) vwCl [(a, .inr (ci, [.long cells, .int rate]))] H → va_D A [(a, .inr (ci, [.long cells, .int rate]))] → va_S A s.heap H locs → decode cX9_init pc = .ok (.return_, 1) → W p l e RX9_init_ s m args below meth c H locs kc ks Qw (F0 m pc ls [])
def wX9_init (Q : (Int64) → (Int32) → Prop) (cells : Int64) (rate : Int32) (x1 : Int64) (x3 : Int32) : Prop := (wX8_init (fun cells_3 rate_3 => (Q cells_3 rate_3)) cells rate x1 x3)
end
set_option maxHeartbeats 4000000 in
set_option maxRecDepth 100000 in
theorem metX9_init (l : Launch) {Q : (Int64) → (Int32) → Prop} {cells : Int64} {rate : Int32} {x1 : Int64} {x3 : Int32} {dC : Nat → ClassId} {dI : Nat → Nat → Nat} {dA : Nat → ClassId} {eA mi sz : Nat} {a ci : Nat} (hci : pK ci) (hf : wX9_init Q cells rate x1 x3) : Met l yX9_init (ws_ yX9_init cX9_init 4 none) rmX9_init (aPc dC dI dA eA mi sz [.ref a, .long x1, .int x3] [(a, .inr (ci, [.long cells, .int rate]))]) (va_Qv (fun (u : Int64 × Int32) => Q u.1 u.2) (aB dC dI [(a, .inr (ci, [.long cells, .int rate]))] sz (fun u => [(a, .inr (ci, [.long u.1, .int u.2]))])) (va_A [(a, .inr (ci, [.long cells, .int rate]))] sz)) 0 0 (va_A [(a, .inr (ci, [.long cells, .int rate]))] sz) := by
  refine Met.ofW (cc := cX9_init) (maxL := 4) (ret := none) (by decide) rfl ?_
  intro p e s m args below meth c s₁ B hml hv
  obtain ⟨rfl, hsz, hP, hK, hD0, hE⟩ := hv
  subst hsz
  have hx := B.exec
  have hb := B.bytes
  have hr := B.returns
  have hts := atoms_spec (ws := (ws_ yX9_init cX9_init 4 none)) B.pre
  have hts : ∀ w ∈ lw_all, w.before _ s = true := fun w h => hts w (List.mem_cons_of_mem _ h)
  have hown : s.vm.findClass RX9 = some m.cls := findClass_of_methodNamed B.named
  have hlocks := B.notSynchronized
  have hin : meth.name = "<init>" := (name_of_methodNamed B.named B.method).1
  have S : CallFix p m c cX9_init 4 s _ lw_all RX9 := ⟨hx, hb, hml, hown, hts⟩
  have hD := hD0.self (sz := s.heap.size)
  have hA : ∀ q : Nat, s.heap.size ≤ q → va_A [(a, .inr (ci, [.long cells, .int rate]))] s.heap.size q := fun q h => Or.inr h
  have hS : va_S (va_A [(a, .inr (ci, [.long cells, .int rate]))] s.heap.size) s.heap s.heap [] := va_S.rf
  have hl := lv_entry ([.ref a, .long x1, .int x3]) (n := 4) (Nat.le_of_ble_eq_true rfl)
  rw [lg_entry_eq]
  generalize (lg_sl ([.ref a, .long x1, .int x3]) ++ List.replicate (4 - (lg_sl ([.ref a, .long x1, .int x3])).length) Slot.unset).toArray = ls at hl ⊢
  replace hl : lv_has ls 4 [(0, .ref a), (1, .long x1), (3, .int x3)] := hl
  have hret : hrX9_init p l e s m ([.ref a, .long x1, .int x3] : List Value).toArray below meth c dC dI dA (va_A [(a, .inr (ci, [.long cells, .int rate]))] s.heap.size) a ci (MQ below (va_Qv (fun (u : Int64 × Int32) => Q u.1 u.2) (aB dC dI [(a, .inr (ci, [.long cells, .int rate]))] s.heap.size (fun u => [(a, .inr (ci, [.long u.1, .int u.2]))])) (va_A [(a, .inr (ci, [.long cells, .int rate]))] s.heap.size)) ([.ref a, .long x1, .int x3] : List Value).toArray s 0 0 (va_A [(a, .inr (ci, [.long cells, .int rate]))] s.heap.size)) Q := fun cells rate H locs kc ks pc ls h1 h2 hq hP hD hS hd => W.widen (k := 0) (n := 0) h1 h2 (W.vret hx hb hr (fun t ht hW => ⟨⟨(cells, rate), rfl, hq, by subst ht; exact ⟨hP, hD⟩⟩, hS.F ht⟩) hS.2.2 hd)
  generalize hAe : va_A [(a, .inr (ci, [.long cells, .int rate]))] s.heap.size = A at hD hA hS hE hret ⊢
  clear hAe
  unfold wX9_init at hf
  refine lv_aload_n hx hb dX9_init_0 rfl (lv_at hl 0 rfl) ?_
  refine lv_lload_n hx hb dX9_init_1 rfl (lv_at hl 1 rfl) ?_
  refine lv_iload_n hx hb dX9_init_2 rfl (lv_at hl 2 rfl) ?_
  refine aC_v (wr := []) hP hD hS hA [0] [] rfl rfl (by decide) (by decide) (va_runI (As := [.long x1, .int x3]) (rest := []) S (metX8_init l hci hf) (cwI 2 hts (lw_meth q321) rfl rfl rfl (hts _ q71) (hts _ q319) (hts _ q320) rfl pdX8_init ⟨Nat.le_of_ble_eq_true rfl, Nat.le_of_ble_eq_true rfl⟩) (apreS hK hE hP hD hS hA [0] rfl rfl (by decide)) rfl rfl hl.1 rfl (lv_room (Nat.le_of_ble_eq_true rfl)) dX9_init_3 ⟨(Nat.zero_le _), (Nat.zero_le _)⟩) (fun u_3 H locs hf hP hD hS => ?_)
  obtain ⟨cells_3, rate_3⟩ := u_3
  replace hP : va_P (dC, dI) vwCl [(a, .inr (ci, [.long cells_3, .int rate_3]))] H := hP
  replace hD : va_D A [(a, .inr (ci, [.long cells_3, .int rate_3]))] := hD
  try dsimp only at hf
  exact hret _ _ _ _ _ _ _ _ (Nat.zero_le _) (Nat.zero_le _) hf (hP.sub [0] rfl) (hD.sub [0] (by decide) rfl) hS dX9_init_6
/-! HoleCounty$Ground.made(J)LHoleCounty$Pit; -/
theorem pdX1_made : DscOk yX1_made 1 := by decide +kernel
abbrev rmX1_made : Room := { frames := 4, cells := 1, slots := 2, locals := 81 }
abbrev RX1_made_ : Room := (headSpec (ws_ yX1_made cX1_made 3 (some (.object "HoleCounty$Pit"))) rmX1_made).room
section
variable {p : Program} {l : Launch} {e : Env} {s : State} {m : MethodId} {args : Array Value} {below : List Frame} {meth : Method} {c : Code} {Qw : State → Prop} {dC : Nat → ClassId} {dI : Nat → Nat → Nat} {dA : Nat → ClassId} {eA mi : Nat} {A : Nat → Prop} {g d : Nat}
abbrev hrX1_made (p : Program) (l : Launch) (e : Env) (s : State) (m : MethodId) (args : Array Value) (below : List Frame) (meth : Method) (c : Code) (dC : Nat → ClassId) (dI : Nat → Nat → Nat) (dA : Nat → ClassId) (A : Nat → Prop) (g : Nat) (d : Nat) (Qw : State → Prop) (Q : Nat → Int64 → Int32 → Prop) (depths : (Nat → Int32)) (roofs : Int64) (rate : Int32) : Prop := ∀ (ra ci : Nat) (pcells : Int64) (prate : Int32) (H : Heap) (locs : List Loc) (kc ks : Nat) (pc : Nat) (ls : Array Slot), kc ≤ 1 → ks ≤ 2 → pK ci → Q ci pcells prate → va_P (dC, dI) vwCl [(g, .inr (1, [.ref d, .long roofs, .int rate])), (d, .inl (dA 0, 36, .inl depths)), (ra, .inr (ci, [.long pcells, .int prate]))] H → va_D A [(g, .inr (1, [.ref d, .long roofs, .int rate])), (d, .inl (dA 0, 36, .inl depths)), (ra, .inr (ci, [.long pcells, .int prate]))] → va_S A s.heap H locs → decode cX1_made pc = .ok (.areturn, 1) → W p l e RX1_made_ s m args below meth c H locs kc ks Qw (F0 m pc ls [.ref ra])
def wX1_made_81 (Q : Nat → Int64 → Int32 → Prop) (x1 : Int64) (roofs : Int64) (rate : Int32) (depths : (Nat → Int32)) (kc : Nat) (ks : Nat) : Prop := (((x1 &&& 68208171135) = 0 → (wX1_isDeep (fun r_106 => ((r_106 = 0 → (kc + 1 ≤ 1 ∧ ks + 2 ≤ 2 ∧ (wX5_init (fun cells_127_136 rate_127_136 => (Q 5 cells_127_136 rate_127_136)) 0 0 x1 rate))) ∧ (¬ r_106 = 0 → (kc + 1 ≤ 1 ∧ ks + 2 ≤ 2 ∧ (wX6_init (fun cells_112_121 rate_112_121 => (Q 6 cells_112_121 rate_112_121)) 0 0 x1 rate))))) depths x1)) ∧ (¬ (x1 &&& 68208171135) = 0 → (kc + 1 ≤ 1 ∧ ks + 2 ≤ 2 ∧ (wX8_init (fun cells_91_100 rate_91_100 => (Q 8 cells_91_100 rate_91_100)) 0 0 x1 rate))))
set_option maxHeartbeats 4000000 in
set_option maxRecDepth 100000 in
theorem tX1_made_81 {Q : Nat → Int64 → Int32 → Prop} {depths : (Nat → Int32)} {roofs : Int64} {rate : Int32} (S : CallFix p m c cX1_made 3 s args lw_all RX1) (hK : va_K (dC, dI) vwCl (tysG dA) s) (hE : EG A eA mi s s.heap) (hA : ∀ q, s.heap.size ≤ q → A q) (hret : hrX1_made p l e s m args below meth c dC dI dA A g d Qw Q depths roofs rate) : ∀ (x1 : Int64) (kc ks : Nat) (H : Heap) (locs : List Loc) (ls : Array Slot), kc ≤ 1 → ks ≤ 2 → wX1_made_81 Q x1 roofs rate depths kc ks → va_P (dC, dI) vwCl [(g, .inr (1, [.ref d, .long roofs, .int rate])), (d, .inl (dA 0, 36, .inl depths))] H → va_D A [(g, .inr (1, [.ref d, .long roofs, .int rate])), (d, .inl (dA 0, 36, .inl depths))] → va_S A s.heap H locs → lv_has ls 3 [(0, .ref g), (1, .long x1)] → W p l e RX1_made_ s m args below meth c H locs kc ks Qw (F0 m 81 ls []) := by
  obtain ⟨hx, hb, hml, hown, hts⟩ := id S
  intro x1 kc ks H locs ls hkc hks hf hP hD hS hl
  unfold wX1_made_81 at hf
  refine lv_lload_n hx hb dX1_made_81 rfl (lv_at hl 1 rfl) ?_
  refine va_getsN (v := .long 68208171135) hx hb hE.2.2.2.2.2.2.2.1 hS hown ((hE.1 _ q326 rfl).use rfl) (fun _ h9 => h9) dX1_made_82 ?_
  refine lv_land hx hb dX1_made_85 ?_
  refine lv_lconst (v := 0) hx hb dX1_made_86 (by decide) ?_
  refine lc_eq (tgt := 104) hx hb dX1_made_87 dX1_made_88 (by decide) (fun c_87 => ?_) (fun c_87 => ?_)
  · replace hf := hf.1 c_87
    refine lv_aload_n hx hb dX1_made_104 rfl (lv_at hl 0 rfl) ?_
    refine lv_lload_n hx hb dX1_made_105 rfl (lv_at hl 1 rfl) ?_
    refine crv_i (As := [.long x1]) (rest := []) S (va_recv hK hP (ci := 1) (q0 := 0) rfl rfl) (hP.sub (ws' := [(g, .inr (1, [.ref d, .long roofs, .int rate])), (d, .inl (dA 0, 36, .inl depths))]) [0, 1] rfl) hK (EG.now hE hS) (metX1_isDeep l hf) (lw_V q334 q336 qs4 q55 q338) rfl pdX1_isDeep ⟨rfl, rfl⟩ ⟨Nat.le_of_ble_eq_true rfl, Nat.le_of_ble_eq_true rfl⟩ rfl hl.1 rfl (Nat.le_of_ble_eq_true rfl) dX1_made_106 ⟨hkc, hks⟩ (fun r_106 hf => ?_)
    refine lv_if_eq (tgt := 127) hx hb dX1_made_109 (by decide) (fun c_109 => ?_) (fun c_109 => ?_)
    · replace hf := hf.1 c_109
      obtain ⟨hc_127, hs_127, hf⟩ := hf
      have hbud : kc + 1 ≤ 1 ∧ ks + 2 ≤ 2 := ⟨hc_127, hs_127⟩
      refine va_new (ci := 5) (fs := [.long 0, .int 0]) (C := RX5) (T := TX5) (N := 2) hx hb hts in_X5 tyX5 tyX5_ok hown (hts _ q345) (hts _ q346) (hts _ q68) hK hP hD hS hA rfl (fun j hj => match j, hj with | 0, _ => rfl | 1, _ => rfl) hbud.1 hbud.2 dX1_made_127 (fun q_127 H hP hD hS => ?_)
      replace hP : va_P (dC, dI) vwCl [(g, .inr (1, [.ref d, .long roofs, .int rate])), (d, .inl (dA 0, 36, .inl depths)), (q_127, .inr (5, [.long 0, .int 0]))] H := hP
      replace hD : va_D A [(g, .inr (1, [.ref d, .long roofs, .int rate])), (d, .inl (dA 0, 36, .inl depths)), (q_127, .inr (5, [.long 0, .int 0]))] := hD
      refine lv_dup hx hb dX1_made_130 rfl ?_
      refine lv_lload_n hx hb dX1_made_131 rfl (lv_at hl 1 rfl) ?_
      refine lv_aload_n hx hb dX1_made_132 rfl (lv_at hl 0 rfl) ?_
      refine va_get (D := (dC, dI)) (ci := 1) (v := .int rate) (C := RX1) (T := TX1) (N := 3) hx hb hts in_X1 hown hK hP 0 rfl rfl 2 (by decide) (hts _ q1084) (fun _ h9 => h9) rfl dX1_made_133 ?_
      refine aC_v (wr := [(g, .inr (1, [.ref d, .long roofs, .int rate])), (d, .inl (dA 0, 36, .inl depths))]) hP hD hS hA [2] [0, 1] rfl rfl (by decide) (by decide) (va_runI (As := [.long x1, .int rate]) (rest := [.ref q_127]) S (metX5_init l (pK_5) hf) (cwI 2 hts (lw_meth q296) rfl rfl rfl (hts _ q68) (hts _ q347) (hts _ q295) rfl pdX5_init ⟨Nat.le_of_ble_eq_true rfl, Nat.le_of_ble_eq_true rfl⟩) (apreS hK hE hP hD hS hA [2] rfl rfl (by decide)) rfl rfl hl.1 rfl (lv_room (Nat.le_of_ble_eq_true rfl)) dX1_made_136 ⟨hc_127, hs_127⟩) (fun u_136 H locs hf hP hD hS => ?_)
      obtain ⟨cells_127_136, rate_127_136⟩ := u_136
      replace hP : va_P (dC, dI) vwCl [(g, .inr (1, [.ref d, .long roofs, .int rate])), (d, .inl (dA 0, 36, .inl depths)), (q_127, .inr (5, [.long cells_127_136, .int rate_127_136]))] H := hP
      replace hD : va_D A [(g, .inr (1, [.ref d, .long roofs, .int rate])), (d, .inl (dA 0, 36, .inl depths)), (q_127, .inr (5, [.long cells_127_136, .int rate_127_136]))] := hD
      try dsimp only at hf
      exact hret _ _ _ _ _ _ _ _ _ _ hc_127 hs_127 (pK_5) hf (hP.sub [0, 1, 2] rfl) (hD.sub [0, 1, 2] (by decide) rfl) hS dX1_made_139
    · replace hf := hf.2 c_109
      obtain ⟨hc_112, hs_112, hf⟩ := hf
      have hbud : kc + 1 ≤ 1 ∧ ks + 2 ≤ 2 := ⟨hc_112, hs_112⟩
      refine va_new (ci := 6) (fs := [.long 0, .int 0]) (C := RX6) (T := TX6) (N := 2) hx hb hts in_X6 tyX6 tyX6_ok hown (hts _ q339) (hts _ q340) (hts _ q69) hK hP hD hS hA rfl (fun j hj => match j, hj with | 0, _ => rfl | 1, _ => rfl) hbud.1 hbud.2 dX1_made_112 (fun q_112 H hP hD hS => ?_)
      replace hP : va_P (dC, dI) vwCl [(g, .inr (1, [.ref d, .long roofs, .int rate])), (d, .inl (dA 0, 36, .inl depths)), (q_112, .inr (6, [.long 0, .int 0]))] H := hP
      replace hD : va_D A [(g, .inr (1, [.ref d, .long roofs, .int rate])), (d, .inl (dA 0, 36, .inl depths)), (q_112, .inr (6, [.long 0, .int 0]))] := hD
      refine lv_dup hx hb dX1_made_115 rfl ?_
      refine lv_lload_n hx hb dX1_made_116 rfl (lv_at hl 1 rfl) ?_
      refine lv_aload_n hx hb dX1_made_117 rfl (lv_at hl 0 rfl) ?_
      refine va_get (D := (dC, dI)) (ci := 1) (v := .int rate) (C := RX1) (T := TX1) (N := 3) hx hb hts in_X1 hown hK hP 0 rfl rfl 2 (by decide) (hts _ q1084) (fun _ h9 => h9) rfl dX1_made_118 ?_
      refine aC_v (wr := [(g, .inr (1, [.ref d, .long roofs, .int rate])), (d, .inl (dA 0, 36, .inl depths))]) hP hD hS hA [2] [0, 1] rfl rfl (by decide) (by decide) (va_runI (As := [.long x1, .int rate]) (rest := [.ref q_112]) S (metX6_init l (pK_6) hf) (cwI 2 hts (lw_meth q293) rfl rfl rfl (hts _ q69) (hts _ q341) (hts _ q292) rfl pdX6_init ⟨Nat.le_of_ble_eq_true rfl, Nat.le_of_ble_eq_true rfl⟩) (apreS hK hE hP hD hS hA [2] rfl rfl (by decide)) rfl rfl hl.1 rfl (lv_room (Nat.le_of_ble_eq_true rfl)) dX1_made_121 ⟨hc_112, hs_112⟩) (fun u_121 H locs hf hP hD hS => ?_)
      obtain ⟨cells_112_121, rate_112_121⟩ := u_121
      replace hP : va_P (dC, dI) vwCl [(g, .inr (1, [.ref d, .long roofs, .int rate])), (d, .inl (dA 0, 36, .inl depths)), (q_112, .inr (6, [.long cells_112_121, .int rate_112_121]))] H := hP
      replace hD : va_D A [(g, .inr (1, [.ref d, .long roofs, .int rate])), (d, .inl (dA 0, 36, .inl depths)), (q_112, .inr (6, [.long cells_112_121, .int rate_112_121]))] := hD
      try dsimp only at hf
      refine lv_goto (tgt := 139) hx hb dX1_made_124 (by decide) ?_
      exact hret _ _ _ _ _ _ _ _ _ _ hc_112 hs_112 (pK_6) hf (hP.sub [0, 1, 2] rfl) (hD.sub [0, 1, 2] (by decide) rfl) hS dX1_made_139
  · replace hf := hf.2 c_87
    obtain ⟨hc_91, hs_91, hf⟩ := hf
    have hbud : kc + 1 ≤ 1 ∧ ks + 2 ≤ 2 := ⟨hc_91, hs_91⟩
    refine va_new (ci := 8) (fs := [.long 0, .int 0]) (C := RX8) (T := TX8) (N := 2) hx hb hts in_X8 tyX8 tyX8_ok hown (hts _ q328) (hts _ q329) (hts _ q71) hK hP hD hS hA rfl (fun j hj => match j, hj with | 0, _ => rfl | 1, _ => rfl) hbud.1 hbud.2 dX1_made_91 (fun q_91 H hP hD hS => ?_)
    replace hP : va_P (dC, dI) vwCl [(g, .inr (1, [.ref d, .long roofs, .int rate])), (d, .inl (dA 0, 36, .inl depths)), (q_91, .inr (8, [.long 0, .int 0]))] H := hP
    replace hD : va_D A [(g, .inr (1, [.ref d, .long roofs, .int rate])), (d, .inl (dA 0, 36, .inl depths)), (q_91, .inr (8, [.long 0, .int 0]))] := hD
    refine lv_dup hx hb dX1_made_94 rfl ?_
    refine lv_lload_n hx hb dX1_made_95 rfl (lv_at hl 1 rfl) ?_
    refine lv_aload_n hx hb dX1_made_96 rfl (lv_at hl 0 rfl) ?_
    refine va_get (D := (dC, dI)) (ci := 1) (v := .int rate) (C := RX1) (T := TX1) (N := 3) hx hb hts in_X1 hown hK hP 0 rfl rfl 2 (by decide) (hts _ q1084) (fun _ h9 => h9) rfl dX1_made_97 ?_
    refine aC_v (wr := [(g, .inr (1, [.ref d, .long roofs, .int rate])), (d, .inl (dA 0, 36, .inl depths))]) hP hD hS hA [2] [0, 1] rfl rfl (by decide) (by decide) (va_runI (As := [.long x1, .int rate]) (rest := [.ref q_91]) S (metX8_init l (pK_8) hf) (cwI 2 hts (lw_meth q321) rfl rfl rfl (hts _ q71) (hts _ q330) (hts _ q320) rfl pdX8_init ⟨Nat.le_of_ble_eq_true rfl, Nat.le_of_ble_eq_true rfl⟩) (apreS hK hE hP hD hS hA [2] rfl rfl (by decide)) rfl rfl hl.1 rfl (lv_room (Nat.le_of_ble_eq_true rfl)) dX1_made_100 ⟨hc_91, hs_91⟩) (fun u_100 H locs hf hP hD hS => ?_)
    obtain ⟨cells_91_100, rate_91_100⟩ := u_100
    replace hP : va_P (dC, dI) vwCl [(g, .inr (1, [.ref d, .long roofs, .int rate])), (d, .inl (dA 0, 36, .inl depths)), (q_91, .inr (8, [.long cells_91_100, .int rate_91_100]))] H := hP
    replace hD : va_D A [(g, .inr (1, [.ref d, .long roofs, .int rate])), (d, .inl (dA 0, 36, .inl depths)), (q_91, .inr (8, [.long cells_91_100, .int rate_91_100]))] := hD
    try dsimp only at hf
    exact hret _ _ _ _ _ _ _ _ _ _ hc_91 hs_91 (pK_8) hf (hP.sub [0, 1, 2] rfl) (hD.sub [0, 1, 2] (by decide) rfl) hS dX1_made_103
def wX1_made_68 (Q : Nat → Int64 → Int32 → Prop) (x1 : Int64) (roofs : Int64) (rate : Int32) (depths : (Nat → Int32)) (kc : Nat) (ks : Nat) : Prop := (kc + 1 ≤ 1 ∧ ks + 2 ≤ 2 ∧ (wX9_init (fun cells_68_77 rate_68_77 => (Q 9 cells_68_77 rate_68_77)) 0 0 x1 rate))
set_option maxHeartbeats 4000000 in
set_option maxRecDepth 100000 in
theorem tX1_made_68 {Q : Nat → Int64 → Int32 → Prop} {depths : (Nat → Int32)} {roofs : Int64} {rate : Int32} (S : CallFix p m c cX1_made 3 s args lw_all RX1) (hK : va_K (dC, dI) vwCl (tysG dA) s) (hE : EG A eA mi s s.heap) (hA : ∀ q, s.heap.size ≤ q → A q) (hret : hrX1_made p l e s m args below meth c dC dI dA A g d Qw Q depths roofs rate) : ∀ (x1 : Int64) (kc ks : Nat) (H : Heap) (locs : List Loc) (ls : Array Slot), kc ≤ 1 → ks ≤ 2 → wX1_made_68 Q x1 roofs rate depths kc ks → va_P (dC, dI) vwCl [(g, .inr (1, [.ref d, .long roofs, .int rate])), (d, .inl (dA 0, 36, .inl depths))] H → va_D A [(g, .inr (1, [.ref d, .long roofs, .int rate])), (d, .inl (dA 0, 36, .inl depths))] → va_S A s.heap H locs → lv_has ls 3 [(0, .ref g), (1, .long x1)] → W p l e RX1_made_ s m args below meth c H locs kc ks Qw (F0 m 68 ls []) := by
  obtain ⟨hx, hb, hml, hown, hts⟩ := id S
  intro x1 kc ks H locs ls hkc hks hf hP hD hS hl
  unfold wX1_made_68 at hf
  obtain ⟨hc_68, hs_68, hf⟩ := hf
  have hbud : kc + 1 ≤ 1 ∧ ks + 2 ≤ 2 := ⟨hc_68, hs_68⟩
  refine va_new (ci := 9) (fs := [.long 0, .int 0]) (C := RX9) (T := TX9) (N := 2) hx hb hts in_X9 tyX9 tyX9_ok hown (hts _ q314) (hts _ q315) (hts _ q72) hK hP hD hS hA rfl (fun j hj => match j, hj with | 0, _ => rfl | 1, _ => rfl) hbud.1 hbud.2 dX1_made_68 (fun q_68 H hP hD hS => ?_)
  replace hP : va_P (dC, dI) vwCl [(g, .inr (1, [.ref d, .long roofs, .int rate])), (d, .inl (dA 0, 36, .inl depths)), (q_68, .inr (9, [.long 0, .int 0]))] H := hP
  replace hD : va_D A [(g, .inr (1, [.ref d, .long roofs, .int rate])), (d, .inl (dA 0, 36, .inl depths)), (q_68, .inr (9, [.long 0, .int 0]))] := hD
  refine lv_dup hx hb dX1_made_71 rfl ?_
  refine lv_lload_n hx hb dX1_made_72 rfl (lv_at hl 1 rfl) ?_
  refine lv_aload_n hx hb dX1_made_73 rfl (lv_at hl 0 rfl) ?_
  refine va_get (D := (dC, dI)) (ci := 1) (v := .int rate) (C := RX1) (T := TX1) (N := 3) hx hb hts in_X1 hown hK hP 0 rfl rfl 2 (by decide) (hts _ q1084) (fun _ h9 => h9) rfl dX1_made_74 ?_
  refine aC_v (wr := [(g, .inr (1, [.ref d, .long roofs, .int rate])), (d, .inl (dA 0, 36, .inl depths))]) hP hD hS hA [2] [0, 1] rfl rfl (by decide) (by decide) (va_runI (As := [.long x1, .int rate]) (rest := [.ref q_68]) S (metX9_init l (pK_9) hf) (cwI 2 hts (lw_meth q318) rfl rfl rfl (hts _ q72) (hts _ q316) (hts _ q317) rfl pdX9_init ⟨Nat.le_of_ble_eq_true rfl, Nat.le_of_ble_eq_true rfl⟩) (apreS hK hE hP hD hS hA [2] rfl rfl (by decide)) rfl rfl hl.1 rfl (lv_room (Nat.le_of_ble_eq_true rfl)) dX1_made_77 ⟨hc_68, hs_68⟩) (fun u_77 H locs hf hP hD hS => ?_)
  obtain ⟨cells_68_77, rate_68_77⟩ := u_77
  replace hP : va_P (dC, dI) vwCl [(g, .inr (1, [.ref d, .long roofs, .int rate])), (d, .inl (dA 0, 36, .inl depths)), (q_68, .inr (9, [.long cells_68_77, .int rate_68_77]))] H := hP
  replace hD : va_D A [(g, .inr (1, [.ref d, .long roofs, .int rate])), (d, .inl (dA 0, 36, .inl depths)), (q_68, .inr (9, [.long cells_68_77, .int rate_68_77]))] := hD
  try dsimp only at hf
  exact hret _ _ _ _ _ _ _ _ _ _ hc_68 hs_68 (pK_9) hf (hP.sub [0, 1, 2] rfl) (hD.sub [0, 1, 2] (by decide) rfl) hS dX1_made_80
def wX1_made_48 (Q : Nat → Int64 → Int32 → Prop) (x1 : Int64) (roofs : Int64) (rate : Int32) (depths : (Nat → Int32)) (kc : Nat) (ks : Nat) : Prop := (((x1 &&& 1090785345) = 0 → (wX1_made_81 Q x1 roofs rate depths kc ks)) ∧ (¬ (x1 &&& 1090785345) = 0 → (((x1 &&& 34905131040) = 0 → (wX1_made_81 Q x1 roofs rate depths kc ks)) ∧ (¬ (x1 &&& 34905131040) = 0 → (wX1_made_68 Q x1 roofs rate depths kc ks)))))
set_option maxHeartbeats 4000000 in
set_option maxRecDepth 100000 in
theorem tX1_made_48 {Q : Nat → Int64 → Int32 → Prop} {depths : (Nat → Int32)} {roofs : Int64} {rate : Int32} (S : CallFix p m c cX1_made 3 s args lw_all RX1) (hK : va_K (dC, dI) vwCl (tysG dA) s) (hE : EG A eA mi s s.heap) (hA : ∀ q, s.heap.size ≤ q → A q) (hret : hrX1_made p l e s m args below meth c dC dI dA A g d Qw Q depths roofs rate) : ∀ (x1 : Int64) (kc ks : Nat) (H : Heap) (locs : List Loc) (ls : Array Slot), kc ≤ 1 → ks ≤ 2 → wX1_made_48 Q x1 roofs rate depths kc ks → va_P (dC, dI) vwCl [(g, .inr (1, [.ref d, .long roofs, .int rate])), (d, .inl (dA 0, 36, .inl depths))] H → va_D A [(g, .inr (1, [.ref d, .long roofs, .int rate])), (d, .inl (dA 0, 36, .inl depths))] → va_S A s.heap H locs → lv_has ls 3 [(0, .ref g), (1, .long x1)] → W p l e RX1_made_ s m args below meth c H locs kc ks Qw (F0 m 48 ls []) := by
  obtain ⟨hx, hb, hml, hown, hts⟩ := id S
  intro x1 kc ks H locs ls hkc hks hf hP hD hS hl
  unfold wX1_made_48 at hf
  refine lv_lload_n hx hb dX1_made_48 rfl (lv_at hl 1 rfl) ?_
  refine va_getsN (v := .long 1090785345) hx hb hE.2.2.2.1 hS hown ((hE.1 _ q312 rfl).use rfl) (fun _ h9 => h9) dX1_made_49 ?_
  refine lv_land hx hb dX1_made_52 ?_
  refine lv_lconst (v := 0) hx hb dX1_made_53 (by decide) ?_
  refine lc_eq (tgt := 81) hx hb dX1_made_54 dX1_made_55 (by decide) (fun c_54 => ?_) (fun c_54 => ?_)
  · replace hf := hf.1 c_54
    exact tX1_made_81 S hK hE hA hret x1 kc ks _ _ _ hkc hks hf (hP.sub [0, 1] rfl) (hD.sub [0, 1] (by decide) rfl) hS (lv_sub hl [0, 1] rfl)
  · replace hf := hf.2 c_54
    refine lv_lload_n hx hb dX1_made_58 rfl (lv_at hl 1 rfl) ?_
    refine va_getsN (v := .long 34905131040) hx hb hE.2.2.2.2.1 hS hown ((hE.1 _ q313 rfl).use rfl) (fun _ h9 => h9) dX1_made_59 ?_
    refine lv_land hx hb dX1_made_62 ?_
    refine lv_lconst (v := 0) hx hb dX1_made_63 (by decide) ?_
    refine lc_eq (tgt := 81) hx hb dX1_made_64 dX1_made_65 (by decide) (fun c_64 => ?_) (fun c_64 => ?_)
    · replace hf := hf.1 c_64
      exact tX1_made_81 S hK hE hA hret x1 kc ks _ _ _ hkc hks hf (hP.sub [0, 1] rfl) (hD.sub [0, 1] (by decide) rfl) hS (lv_sub hl [0, 1] rfl)
    · replace hf := hf.2 c_64
      exact tX1_made_68 S hK hE hA hret x1 kc ks _ _ _ hkc hks hf (hP.sub [0, 1] rfl) (hD.sub [0, 1] (by decide) rfl) hS (lv_sub hl [0, 1] rfl)
def wX1_made (Q : Nat → Int64 → Int32 → Prop) (depths : (Nat → Int32)) (roofs : Int64) (rate : Int32) (x1 : Int64) : Prop := (((x1 &&& (roofs ^^^ (-1))) = 0 → (wX7_init (fun cells_15_24 rate_15_24 => (Q 7 cells_15_24 rate_15_24)) 0 0 x1 rate)) ∧ (¬ (x1 &&& (roofs ^^^ (-1))) = 0 → (((x1 &&& 63) = 0 → (wX1_made_48 Q x1 roofs rate depths 0 0)) ∧ (¬ (x1 &&& 63) = 0 → (((x1 &&& 67645734912) = 0 → (wX1_made_48 Q x1 roofs rate depths 0 0)) ∧ (¬ (x1 &&& 67645734912) = 0 → (wX1_made_68 Q x1 roofs rate depths 0 0)))))))
end
set_option maxHeartbeats 4000000 in
set_option maxRecDepth 100000 in
theorem metX1_made (l : Launch) {Q : Nat → Int64 → Int32 → Prop} {depths : (Nat → Int32)} {roofs : Int64} {rate : Int32} {x1 : Int64} {dC : Nat → ClassId} {dI : Nat → Nat → Nat} {dA : Nat → ClassId} {eA mi sz : Nat} {g d : Nat} (hf : wX1_made Q depths roofs rate x1) : Met l yX1_made (ws_ yX1_made cX1_made 3 (some (.object "HoleCounty$Pit"))) rmX1_made (aPc dC dI dA eA mi sz [.ref g, .long x1] [(g, .inr (1, [.ref d, .long roofs, .int rate])), (d, .inl (dA 0, 36, .inl depths))]) (va_Qr (fun (u : Nat × Int64 × Int32) => pK u.1 ∧ Q u.1 u.2.1 u.2.2) (aBr dC dI [(g, .inr (1, [.ref d, .long roofs, .int rate])), (d, .inl (dA 0, 36, .inl depths))] sz (fun u ra => [(g, .inr (1, [.ref d, .long roofs, .int rate])), (d, .inl (dA 0, 36, .inl depths)), (ra, .inr (u.1, [.long u.2.1, .int u.2.2]))])) (va_A [(g, .inr (1, [.ref d, .long roofs, .int rate])), (d, .inl (dA 0, 36, .inl depths))] sz)) 1 2 (va_A [(g, .inr (1, [.ref d, .long roofs, .int rate])), (d, .inl (dA 0, 36, .inl depths))] sz) := by
  refine Met.ofW (cc := cX1_made) (maxL := 3) (ret := (some (.object "HoleCounty$Pit"))) (by decide) rfl ?_
  intro p e s m args below meth c s₁ B hml hv
  obtain ⟨rfl, hsz, hP, hK, hD0, hE⟩ := hv
  subst hsz
  have hx := B.exec
  have hb := B.bytes
  have hr := B.returns
  have hts := atoms_spec (ws := (ws_ yX1_made cX1_made 3 (some (.object "HoleCounty$Pit")))) B.pre
  have hts : ∀ w ∈ lw_all, w.before _ s = true := fun w h => hts w (List.mem_cons_of_mem _ h)
  have hown : s.vm.findClass RX1 = some m.cls := findClass_of_methodNamed B.named
  have hlocks := B.notSynchronized
  have S : CallFix p m c cX1_made 3 s _ lw_all RX1 := ⟨hx, hb, hml, hown, hts⟩
  have hD := hD0.self (sz := s.heap.size)
  have hA : ∀ q : Nat, s.heap.size ≤ q → va_A [(g, .inr (1, [.ref d, .long roofs, .int rate])), (d, .inl (dA 0, 36, .inl depths))] s.heap.size q := fun q h => Or.inr h
  have hS : va_S (va_A [(g, .inr (1, [.ref d, .long roofs, .int rate])), (d, .inl (dA 0, 36, .inl depths))] s.heap.size) s.heap s.heap [] := va_S.rf
  have hl := lv_entry ([.ref g, .long x1]) (n := 3) (Nat.le_of_ble_eq_true rfl)
  rw [lg_entry_eq]
  generalize (lg_sl ([.ref g, .long x1]) ++ List.replicate (3 - (lg_sl ([.ref g, .long x1])).length) Slot.unset).toArray = ls at hl ⊢
  replace hl : lv_has ls 3 [(0, .ref g), (1, .long x1)] := hl
  have hret : hrX1_made p l e s m ([.ref g, .long x1] : List Value).toArray below meth c dC dI dA (va_A [(g, .inr (1, [.ref d, .long roofs, .int rate])), (d, .inl (dA 0, 36, .inl depths))] s.heap.size) g d (MQ below (va_Qr (fun (u : Nat × Int64 × Int32) => pK u.1 ∧ Q u.1 u.2.1 u.2.2) (aBr dC dI [(g, .inr (1, [.ref d, .long roofs, .int rate])), (d, .inl (dA 0, 36, .inl depths))] s.heap.size (fun u ra => [(g, .inr (1, [.ref d, .long roofs, .int rate])), (d, .inl (dA 0, 36, .inl depths)), (ra, .inr (u.1, [.long u.2.1, .int u.2.2]))])) (va_A [(g, .inr (1, [.ref d, .long roofs, .int rate])), (d, .inl (dA 0, 36, .inl depths))] s.heap.size)) ([.ref g, .long x1] : List Value).toArray s 1 2 (va_A [(g, .inr (1, [.ref d, .long roofs, .int rate])), (d, .inl (dA 0, 36, .inl depths))] s.heap.size)) Q depths roofs rate := fun ra ci pcells prate H locs kc ks pc ls h1 h2 hk hq hP hD hS hd => W.widen (k := 1) (n := 2) h1 h2 (W.aret hx hb hr (Or.inl ⟨_, rfl⟩) (Or.inr ⟨_, rfl⟩) (fun t ht hW => ⟨⟨(ci, pcells, prate), ra, rfl, ⟨hk, hq⟩, by subst ht; exact ⟨hP, hD⟩⟩, hS.F ht⟩) hS.2.2 hd)
  generalize hAe : va_A [(g, .inr (1, [.ref d, .long roofs, .int rate])), (d, .inl (dA 0, 36, .inl depths))] s.heap.size = A at hD hA hS hE hret ⊢
  clear hAe
  unfold wX1_made at hf
  refine lv_lload_n hx hb dX1_made_0 rfl (lv_at hl 1 rfl) ?_
  refine lv_aload_n hx hb dX1_made_1 rfl (lv_at hl 0 rfl) ?_
  refine va_get (D := (dC, dI)) (ci := 1) (v := .long roofs) (C := RX1) (T := TX1) (N := 3) hx hb hts in_X1 hown hK hP 0 rfl rfl 1 (by decide) (hts _ q1082) (fun _ h9 => h9) rfl dX1_made_2 ?_
  refine lv_ldc2 (v := (-1)) hx hb hown (hts _ q226) dX1_made_5 ?_
  refine lv_lxor hx hb dX1_made_8 ?_
  refine lv_land hx hb dX1_made_9 ?_
  refine lv_lconst (v := 0) hx hb dX1_made_10 (by decide) ?_
  refine lc_ne (tgt := 28) hx hb dX1_made_11 dX1_made_12 (by decide) (fun c_11 => ?_) (fun c_11 => ?_)
  · replace hf := hf.2 c_11
    refine lv_lload_n hx hb dX1_made_28 rfl (lv_at hl 1 rfl) ?_
    refine va_getsN (v := .long 63) hx hb hE.2.2.2.2.2.1 hS hown ((hE.1 _ q308 rfl).use rfl) (fun _ h9 => h9) dX1_made_29 ?_
    refine lv_land hx hb dX1_made_32 ?_
    refine lv_lconst (v := 0) hx hb dX1_made_33 (by decide) ?_
    refine lc_eq (tgt := 48) hx hb dX1_made_34 dX1_made_35 (by decide) (fun c_34 => ?_) (fun c_34 => ?_)
    · replace hf := hf.1 c_34
      exact tX1_made_48 S hK hE hA hret x1 0 0 _ _ _ (Nat.zero_le _) (Nat.zero_le _) hf (hP.sub [0, 1] rfl) (hD.sub [0, 1] (by decide) rfl) hS (lv_sub hl [0, 1] rfl)
    · replace hf := hf.2 c_34
      refine lv_lload_n hx hb dX1_made_38 rfl (lv_at hl 1 rfl) ?_
      refine va_getsN (v := .long 67645734912) hx hb hE.2.2.2.2.2.2.1 hS hown ((hE.1 _ q310 rfl).use rfl) (fun _ h9 => h9) dX1_made_39 ?_
      refine lv_land hx hb dX1_made_42 ?_
      refine lv_lconst (v := 0) hx hb dX1_made_43 (by decide) ?_
      refine lc_ne (tgt := 68) hx hb dX1_made_44 dX1_made_45 (by decide) (fun c_44 => ?_) (fun c_44 => ?_)
      · replace hf := hf.2 c_44
        exact tX1_made_68 S hK hE hA hret x1 0 0 _ _ _ (Nat.zero_le _) (Nat.zero_le _) hf (hP.sub [0, 1] rfl) (hD.sub [0, 1] (by decide) rfl) hS (lv_sub hl [0, 1] rfl)
      · replace hf := hf.1 c_44
        exact tX1_made_48 S hK hE hA hret x1 0 0 _ _ _ (Nat.zero_le _) (Nat.zero_le _) hf (hP.sub [0, 1] rfl) (hD.sub [0, 1] (by decide) rfl) hS (lv_sub hl [0, 1] rfl)
  · replace hf := hf.1 c_11
    have hbud : 0 + 1 ≤ 1 ∧ 0 + 2 ≤ 2 := ⟨Nat.le_of_ble_eq_true rfl, Nat.le_of_ble_eq_true rfl⟩
    refine va_new (ci := 7) (fs := [.long 0, .int 0]) (C := RX7) (T := TX7) (N := 2) hx hb hts in_X7 tyX7 tyX7_ok hown (hts _ q286) (hts _ q287) (hts _ q70) hK hP hD hS hA rfl (fun j hj => match j, hj with | 0, _ => rfl | 1, _ => rfl) hbud.1 hbud.2 dX1_made_15 (fun q_15 H hP hD hS => ?_)
    replace hP : va_P (dC, dI) vwCl [(g, .inr (1, [.ref d, .long roofs, .int rate])), (d, .inl (dA 0, 36, .inl depths)), (q_15, .inr (7, [.long 0, .int 0]))] H := hP
    replace hD : va_D A [(g, .inr (1, [.ref d, .long roofs, .int rate])), (d, .inl (dA 0, 36, .inl depths)), (q_15, .inr (7, [.long 0, .int 0]))] := hD
    refine lv_dup hx hb dX1_made_18 rfl ?_
    refine lv_lload_n hx hb dX1_made_19 rfl (lv_at hl 1 rfl) ?_
    refine lv_aload_n hx hb dX1_made_20 rfl (lv_at hl 0 rfl) ?_
    refine va_get (D := (dC, dI)) (ci := 1) (v := .int rate) (C := RX1) (T := TX1) (N := 3) hx hb hts in_X1 hown hK hP 0 rfl rfl 2 (by decide) (hts _ q1084) (fun _ h9 => h9) rfl dX1_made_21 ?_
    refine aC_v (wr := [(g, .inr (1, [.ref d, .long roofs, .int rate])), (d, .inl (dA 0, 36, .inl depths))]) hP hD hS hA [2] [0, 1] rfl rfl (by decide) (by decide) (va_runI (As := [.long x1, .int rate]) (rest := [.ref q_15]) S (metX7_init l (pK_7) hf) (cwI 2 hts (lw_meth q290) rfl rfl rfl (hts _ q70) (hts _ q288) (hts _ q289) rfl pdX7_init ⟨Nat.le_of_ble_eq_true rfl, Nat.le_of_ble_eq_true rfl⟩) (apreS hK hE hP hD hS hA [2] rfl rfl (by decide)) rfl rfl hl.1 rfl (lv_room (Nat.le_of_ble_eq_true rfl)) dX1_made_24 ⟨(Nat.le_of_ble_eq_true rfl), (Nat.le_of_ble_eq_true rfl)⟩) (fun u_24 H locs hf hP hD hS => ?_)
    obtain ⟨cells_15_24, rate_15_24⟩ := u_24
    replace hP : va_P (dC, dI) vwCl [(g, .inr (1, [.ref d, .long roofs, .int rate])), (d, .inl (dA 0, 36, .inl depths)), (q_15, .inr (7, [.long cells_15_24, .int rate_15_24]))] H := hP
    replace hD : va_D A [(g, .inr (1, [.ref d, .long roofs, .int rate])), (d, .inl (dA 0, 36, .inl depths)), (q_15, .inr (7, [.long cells_15_24, .int rate_15_24]))] := hD
    try dsimp only at hf
    exact hret _ _ _ _ _ _ _ _ _ _ (Nat.le_of_ble_eq_true rfl) (Nat.le_of_ble_eq_true rfl) (pK_7) hf (hP.sub [0, 1, 2] rfl) (hD.sub [0, 1, 2] (by decide) rfl) hS dX1_made_27
/-! HoleCounty$Ground.hole(I)LHoleCounty$Pit; -/
theorem pdX1_hole : DscOk yX1_hole 1 := by decide +kernel
abbrev rmX1_hole : Room := { frames := 5, cells := 1, slots := 2, locals := 103 }
abbrev RX1_hole_ : Room := (headSpec (ws_ yX1_hole cX1_hole 4 (some (.object "HoleCounty$Pit"))) rmX1_hole).room
section
variable {p : Program} {l : Launch} {e : Env} {s : State} {m : MethodId} {args : Array Value} {below : List Frame} {meth : Method} {c : Code} {Qw : State → Prop} {dC : Nat → ClassId} {dI : Nat → Nat → Nat} {dA : Nat → ClassId} {eA mi : Nat} {A : Nat → Prop} {g d : Nat}
abbrev hrX1_hole (p : Program) (l : Launch) (e : Env) (s : State) (m : MethodId) (args : Array Value) (below : List Frame) (meth : Method) (c : Code) (dC : Nat → ClassId) (dI : Nat → Nat → Nat) (dA : Nat → ClassId) (A : Nat → Prop) (g : Nat) (d : Nat) (Qw : State → Prop) (Q : Nat → Int64 → Int32 → Prop) (depths : (Nat → Int32)) (roofs : Int64) (rate : Int32) : Prop := ∀ (ra ci : Nat) (pcells : Int64) (prate : Int32) (H : Heap) (locs : List Loc) (kc ks : Nat) (pc : Nat) (ls : Array Slot), kc ≤ 1 → ks ≤ 2 → pK ci → Q ci pcells prate → va_P (dC, dI) vwCl [(g, .inr (1, [.ref d, .long roofs, .int rate])), (d, .inl (dA 0, 36, .inl depths)), (ra, .inr (ci, [.long pcells, .int prate]))] H → va_D A [(g, .inr (1, [.ref d, .long roofs, .int rate])), (d, .inl (dA 0, 36, .inl depths)), (ra, .inr (ci, [.long pcells, .int prate]))] → va_S A s.heap H locs → decode cX1_hole pc = .ok (.areturn, 1) → W p l e RX1_hole_ s m args below meth c H locs kc ks Qw (F0 m pc ls [.ref ra])
abbrev hnX1_hole (p : Program) (l : Launch) (e : Env) (s : State) (m : MethodId) (args : Array Value) (below : List Frame) (meth : Method) (c : Code) (dC : Nat → ClassId) (dI : Nat → Nat → Nat) (dA : Nat → ClassId) (A : Nat → Prop) (g : Nat) (d : Nat) (Qw : State → Prop) (Qn : Prop) (depths : (Nat → Int32)) (roofs : Int64) (rate : Int32) : Prop := ∀ (H : Heap) (locs : List Loc) (kc ks : Nat) (pc : Nat) (ls : Array Slot), kc ≤ 1 → ks ≤ 2 → Qn → va_P (dC, dI) vwCl [(g, .inr (1, [.ref d, .long roofs, .int rate])), (d, .inl (dA 0, 36, .inl depths))] H → va_D A [(g, .inr (1, [.ref d, .long roofs, .int rate])), (d, .inl (dA 0, 36, .inl depths))] → va_S A s.heap H locs → decode cX1_hole pc = .ok (.areturn, 1) → W p l e RX1_hole_ s m args below meth c H locs kc ks Qw (F0 m pc ls [.null])
def wX1_hole (Qn : Prop) (Q : Nat → Int64 → Int32 → Prop) (depths : (Nat → Int32)) (roofs : Int64) (rate : Int32) (x1 : Int32) : Prop := (wX1_dug (fun r_4 => (wX0_spread (fun r_7 => ((r_7 = 0 → Qn) ∧ (¬ r_7 = 0 → (wX1_made (fun ci_23 cells_23 rate_23 => (Q ci_23 cells_23 rate_23)) depths roofs rate r_7)))) (1 <<< ((x1 : Int32).toInt64 &&& 63)) r_4)) depths)
end
set_option maxHeartbeats 4000000 in
set_option maxRecDepth 100000 in
theorem metX1_hole (l : Launch) {Qn : Prop} {Q : Nat → Int64 → Int32 → Prop} {depths : (Nat → Int32)} {roofs : Int64} {rate : Int32} {x1 : Int32} {dC : Nat → ClassId} {dI : Nat → Nat → Nat} {dA : Nat → ClassId} {eA mi sz : Nat} {g d : Nat} (hf : wX1_hole Qn Q depths roofs rate x1) : Met l yX1_hole (ws_ yX1_hole cX1_hole 4 (some (.object "HoleCounty$Pit"))) rmX1_hole (aPc dC dI dA eA mi sz [.ref g, .int x1] [(g, .inr (1, [.ref d, .long roofs, .int rate])), (d, .inl (dA 0, 36, .inl depths))]) (va_Qq (fun (r : Option Nat) (u : Option (Nat × Nat × Int64 × Int32)) => r = u.map (fun z => z.1) ∧ match u with | none => Qn | some z => pK z.2.1 ∧ Q z.2.1 z.2.2.1 z.2.2.2) (aB dC dI [(g, .inr (1, [.ref d, .long roofs, .int rate])), (d, .inl (dA 0, 36, .inl depths))] sz (fun (u : Option (Nat × Nat × Int64 × Int32)) => match u with | none => [(g, .inr (1, [.ref d, .long roofs, .int rate])), (d, .inl (dA 0, 36, .inl depths))] | some z => [(g, .inr (1, [.ref d, .long roofs, .int rate])), (d, .inl (dA 0, 36, .inl depths)), (z.1, .inr (z.2.1, [.long z.2.2.1, .int z.2.2.2]))])) (va_A [(g, .inr (1, [.ref d, .long roofs, .int rate])), (d, .inl (dA 0, 36, .inl depths))] sz)) 1 2 (va_A [(g, .inr (1, [.ref d, .long roofs, .int rate])), (d, .inl (dA 0, 36, .inl depths))] sz) := by
  refine Met.ofW (cc := cX1_hole) (maxL := 4) (ret := (some (.object "HoleCounty$Pit"))) (by decide) rfl ?_
  intro p e s m args below meth c s₁ B hml hv
  obtain ⟨rfl, hsz, hP, hK, hD0, hE⟩ := hv
  subst hsz
  have hx := B.exec
  have hb := B.bytes
  have hr := B.returns
  have hts := atoms_spec (ws := (ws_ yX1_hole cX1_hole 4 (some (.object "HoleCounty$Pit")))) B.pre
  have hts : ∀ w ∈ lw_all, w.before _ s = true := fun w h => hts w (List.mem_cons_of_mem _ h)
  have hown : s.vm.findClass RX1 = some m.cls := findClass_of_methodNamed B.named
  have hlocks := B.notSynchronized
  have S : CallFix p m c cX1_hole 4 s _ lw_all RX1 := ⟨hx, hb, hml, hown, hts⟩
  have hD := hD0.self (sz := s.heap.size)
  have hA : ∀ q : Nat, s.heap.size ≤ q → va_A [(g, .inr (1, [.ref d, .long roofs, .int rate])), (d, .inl (dA 0, 36, .inl depths))] s.heap.size q := fun q h => Or.inr h
  have hS : va_S (va_A [(g, .inr (1, [.ref d, .long roofs, .int rate])), (d, .inl (dA 0, 36, .inl depths))] s.heap.size) s.heap s.heap [] := va_S.rf
  have hl := lv_entry ([.ref g, .int x1]) (n := 4) (Nat.le_of_ble_eq_true rfl)
  rw [lg_entry_eq]
  generalize (lg_sl ([.ref g, .int x1]) ++ List.replicate (4 - (lg_sl ([.ref g, .int x1])).length) Slot.unset).toArray = ls at hl ⊢
  replace hl : lv_has ls 4 [(0, .ref g), (1, .int x1)] := hl
  have hret : hrX1_hole p l e s m ([.ref g, .int x1] : List Value).toArray below meth c dC dI dA (va_A [(g, .inr (1, [.ref d, .long roofs, .int rate])), (d, .inl (dA 0, 36, .inl depths))] s.heap.size) g d (MQ below (va_Qq (fun (r : Option Nat) (u : Option (Nat × Nat × Int64 × Int32)) => r = u.map (fun z => z.1) ∧ match u with | none => Qn | some z => pK z.2.1 ∧ Q z.2.1 z.2.2.1 z.2.2.2) (aB dC dI [(g, .inr (1, [.ref d, .long roofs, .int rate])), (d, .inl (dA 0, 36, .inl depths))] s.heap.size (fun (u : Option (Nat × Nat × Int64 × Int32)) => match u with | none => [(g, .inr (1, [.ref d, .long roofs, .int rate])), (d, .inl (dA 0, 36, .inl depths))] | some z => [(g, .inr (1, [.ref d, .long roofs, .int rate])), (d, .inl (dA 0, 36, .inl depths)), (z.1, .inr (z.2.1, [.long z.2.2.1, .int z.2.2.2]))])) (va_A [(g, .inr (1, [.ref d, .long roofs, .int rate])), (d, .inl (dA 0, 36, .inl depths))] s.heap.size)) ([.ref g, .int x1] : List Value).toArray s 1 2 (va_A [(g, .inr (1, [.ref d, .long roofs, .int rate])), (d, .inl (dA 0, 36, .inl depths))] s.heap.size)) Q depths roofs rate := fun ra ci pcells prate H locs kc ks pc ls h1 h2 hk hq hP hD hS hd => W.widen (k := 1) (n := 2) h1 h2 (W.aret hx hb hr (Or.inl ⟨_, rfl⟩) (Or.inr ⟨_, rfl⟩) (fun t ht hW => ⟨⟨some ra, some (ra, ci, pcells, prate), rfl, ⟨rfl, hk, hq⟩, by subst ht; exact ⟨hP, hD⟩⟩, hS.F ht⟩) hS.2.2 hd)
  have hretN : hnX1_hole p l e s m ([.ref g, .int x1] : List Value).toArray below meth c dC dI dA (va_A [(g, .inr (1, [.ref d, .long roofs, .int rate])), (d, .inl (dA 0, 36, .inl depths))] s.heap.size) g d (MQ below (va_Qq (fun (r : Option Nat) (u : Option (Nat × Nat × Int64 × Int32)) => r = u.map (fun z => z.1) ∧ match u with | none => Qn | some z => pK z.2.1 ∧ Q z.2.1 z.2.2.1 z.2.2.2) (aB dC dI [(g, .inr (1, [.ref d, .long roofs, .int rate])), (d, .inl (dA 0, 36, .inl depths))] s.heap.size (fun (u : Option (Nat × Nat × Int64 × Int32)) => match u with | none => [(g, .inr (1, [.ref d, .long roofs, .int rate])), (d, .inl (dA 0, 36, .inl depths))] | some z => [(g, .inr (1, [.ref d, .long roofs, .int rate])), (d, .inl (dA 0, 36, .inl depths)), (z.1, .inr (z.2.1, [.long z.2.2.1, .int z.2.2.2]))])) (va_A [(g, .inr (1, [.ref d, .long roofs, .int rate])), (d, .inl (dA 0, 36, .inl depths))] s.heap.size)) ([.ref g, .int x1] : List Value).toArray s 1 2 (va_A [(g, .inr (1, [.ref d, .long roofs, .int rate])), (d, .inl (dA 0, 36, .inl depths))] s.heap.size)) Qn depths roofs rate := fun H locs kc ks pc ls h1 h2 hq hP hD hS hd => W.widen (k := 1) (n := 2) h1 h2 (W.aret hx hb hr (Or.inl ⟨_, rfl⟩) (Or.inl rfl) (fun t ht hW => ⟨⟨none, none, rfl, ⟨rfl, hq⟩, by subst ht; exact ⟨hP, hD⟩⟩, hS.F ht⟩) hS.2.2 hd)
  generalize hAe : va_A [(g, .inr (1, [.ref d, .long roofs, .int rate])), (d, .inl (dA 0, 36, .inl depths))] s.heap.size = A at hD hA hS hE hret hretN ⊢
  clear hAe
  unfold wX1_hole at hf
  refine lv_lconst (v := 1) hx hb dX1_hole_0 (by decide) ?_
  refine lv_iload_n hx hb dX1_hole_1 rfl (lv_at hl 1 rfl) ?_
  refine lv_lshl (v := (1 <<< ((x1 : Int32).toInt64 &&& 63))) hx hb dX1_hole_2 rfl ?_
  refine lv_aload_n hx hb dX1_hole_3 rfl (lv_at hl 0 rfl) ?_
  refine crv_l (As := []) (rest := [.long (1 <<< ((x1 : Int32).toInt64 &&& 63))]) S (va_recv hK hP (ci := 1) (q0 := 0) rfl rfl) (hP.sub (ws' := [(g, .inr (1, [.ref d, .long roofs, .int rate])), (d, .inl (dA 0, 36, .inl depths))]) [0, 1] rfl) hK (EG.now hE hS) (metX1_dug l hf) (lw_V q266 q267 q268 q55 q269) rfl pdX1_dug ⟨rfl, rfl⟩ ⟨Nat.le_of_ble_eq_true rfl, Nat.le_of_ble_eq_true rfl⟩ rfl hl.1 rfl (Nat.le_of_ble_eq_true rfl) dX1_hole_4 ⟨Nat.zero_le _, Nat.zero_le _⟩ (fun r_4 hf => ?_)
  refine crn_l (w0 := []) (As := [.long (1 <<< ((x1 : Int32).toInt64 &&& 63)), .long r_4]) (rest := []) S va_nil hK (EG.now hE hS) (metX0_spread l hf) q270 ⟨q271, q54, q272⟩ pdX0_spread ⟨rfl, rfl⟩ ⟨Nat.le_of_ble_eq_true rfl, Nat.le_of_ble_eq_true rfl⟩ rfl hl.1 rfl (Nat.le_of_ble_eq_true rfl) dX1_hole_7 ⟨Nat.zero_le _, Nat.zero_le _⟩ (fun r_7 hf => ?_)
  refine lv_lstore_n (lv' := [(2, .long r_7), (0, .ref g), (1, .int x1)]) hx hb dX1_hole_10 rfl hl (by decide) rfl (fun ls hl => ?_)
  refine lv_lload_n hx hb dX1_hole_11 rfl (lv_at hl 0 rfl) ?_
  refine lv_lconst (v := 0) hx hb dX1_hole_12 (by decide) ?_
  refine lc_ne (tgt := 21) hx hb dX1_hole_13 dX1_hole_14 (by decide) (fun c_13 => ?_) (fun c_13 => ?_)
  · replace hf := hf.2 c_13
    refine lv_aload_n hx hb dX1_hole_21 rfl (lv_at hl 1 rfl) ?_
    refine lv_lload_n hx hb dX1_hole_22 rfl (lv_at hl 0 rfl) ?_
    refine aC_r (wr := []) hP hD hS hA [0, 1] [] rfl rfl (by decide) (by decide) (va_runV (As := [.long r_7]) (rest := []) S (metX1_made l hf) (cwV 1 hts (lw_V q282 q283 q284 q55 q285) rfl rfl rfl ⟨rfl, pdX1_made⟩ ⟨Nat.le_of_ble_eq_true rfl, Nat.le_of_ble_eq_true rfl⟩) ⟨ablind, va_recv hK hP (ci := 1) (q0 := 0) rfl rfl, (apreS hK hE hP hD hS hA [0, 1] rfl rfl (by decide)).2⟩ rfl rfl hl.1 rfl (lv_room (Nat.le_of_ble_eq_true rfl)) dX1_hole_23 ⟨Nat.le_of_ble_eq_true rfl, Nat.le_of_ble_eq_true rfl⟩) (fun u_23 q_23 H locs hf hP hD hS => ?_)
    obtain ⟨ci_23, cells_23, rate_23⟩ := u_23
    obtain ⟨hci_23, hf⟩ := hf
    replace hP : va_P (dC, dI) vwCl [(g, .inr (1, [.ref d, .long roofs, .int rate])), (d, .inl (dA 0, 36, .inl depths)), (q_23, .inr (ci_23, [.long cells_23, .int rate_23]))] H := hP
    replace hD : va_D A [(g, .inr (1, [.ref d, .long roofs, .int rate])), (d, .inl (dA 0, 36, .inl depths)), (q_23, .inr (ci_23, [.long cells_23, .int rate_23]))] := hD
    try dsimp only at hf
    exact hret _ _ _ _ _ _ _ _ _ _ (Nat.le_of_ble_eq_true rfl) (Nat.le_of_ble_eq_true rfl) hci_23 hf (hP.sub [0, 1, 2] rfl) (hD.sub [0, 1, 2] (by decide) rfl) hS dX1_hole_26
  · replace hf := hf.1 c_13
    refine lv_null hx hb dX1_hole_17 ?_
    refine lv_goto (tgt := 26) hx hb dX1_hole_18 (by decide) ?_
    exact hretN _ _ _ _ _ _ (Nat.zero_le _) (Nat.zero_le _) hf (hP.sub [0, 1] rfl) (hD.sub [0, 1] (by decide) rfl) hS dX1_hole_26
/-! HoleCounty$Ground.becomes(JI)V -/
theorem pdX1_becomes : DscOk yX1_becomes 2 := by decide +kernel
abbrev rmX1_becomes : Room := { frames := 2, cells := 0, slots := 0, locals := 44 }
abbrev RX1_becomes_ : Room := (headSpec (ws_ yX1_becomes cX1_becomes 6 none) rmX1_becomes).room
section
variable {p : Program} {l : Launch} {e : Env} {s : State} {m : MethodId} {args : Array Value} {below : List Frame} {meth : Method} {c : Code} {Qw : State → Prop} {dC : Nat → ClassId} {dI : Nat → Nat → Nat} {dA : Nat → ClassId} {eA mi : Nat} {A : Nat → Prop} {g d : Nat}
abbrev hrX1_becomes (p : Program) (l : Launch) (e : Env) (s : State) (m : MethodId) (args : Array Value) (below : List Frame) (meth : Method) (c : Code) (dC : Nat → ClassId) (dI : Nat → Nat → Nat) (dA : Nat → ClassId) (A : Nat → Prop) (g : Nat) (d : Nat) (Qw : State → Prop) (Q : (Nat → Int32) → (Int64) → Prop) (rate : Int32) : Prop := ∀ (depths : (Nat → Int32)) (roofs : Int64) (H : Heap) (locs : List Loc) (kc ks : Nat) (pc : Nat) (ls : Array Slot), kc ≤ 0 → ks ≤ 0 → Q depths roofs → va_P (dC, dI) vwCl [(g, .inr (1, [.ref d, .long roofs, .int rate])), (d, .inl (dA 0, 36, .inl depths))] H → va_D A [(g, .inr (1, [.ref d, .long roofs, .int rate])), (d, .inl (dA 0, 36, .inl depths))] → va_S A s.heap H locs → decode cX1_becomes pc = .ok (.return_, 1) → W p l e RX1_becomes_ s m args below meth c H locs kc ks Qw (F0 m pc ls [])
def wX1_becomes_3 (Q : (Nat → Int32) → (Int64) → Prop) (x1 : Int64) (x3 : Int32) (roofs : Int64) : Nat → Int64 → (Nat → Int32) → Prop
  | 0, _, _ => False
  | n + 1, x4, depths => ((x4 = 0 → ((x3 = 0 → (∀ roofs_49 : Int64, roofs_49 = (roofs &&& (x1 ^^^ (-1))) → (Q depths roofs_49))) ∧ (¬ x3 = 0 → (Q depths roofs)))) ∧ (¬ x4 = 0 → (wX0_least (fun r_16 => (vp_in r_16 36 ∧ (∀ depths_21 : Nat → Int32, depths_21 = upd depths (r_16 : Int32).toNatClampNeg (vp_nar .byte ((x3 : Int32).toInt8.toInt32)) → (∀ x4_29 : Int64, x4_29 = (x4 &&& (x4 - 1)) → ((wX1_becomes_3 Q x1 x3 roofs n) x4_29 depths_21))))) x4)))
set_option maxHeartbeats 4000000 in
set_option maxRecDepth 100000 in
theorem tX1_becomes_3 {Q : (Nat → Int32) → (Int64) → Prop} {x1 : Int64} {x3 : Int32} {roofs : Int64} {rate : Int32} (S : CallFix p m c cX1_becomes 6 s args lw_all RX1) (hK : va_K (dC, dI) vwCl (tysG dA) s) (hE : EG A eA mi s s.heap) (hA : ∀ q, s.heap.size ≤ q → A q) (hret : hrX1_becomes p l e s m args below meth c dC dI dA A g d Qw Q rate) : ∀ (n : Nat) (x4 : Int64) (depths : (Nat → Int32)) (H : Heap) (locs : List Loc) (ls : Array Slot), wX1_becomes_3 Q x1 x3 roofs n x4 depths → va_P (dC, dI) vwCl [(g, .inr (1, [.ref d, .long roofs, .int rate])), (d, .inl (dA 0, 36, .inl depths))] H → va_D A [(g, .inr (1, [.ref d, .long roofs, .int rate])), (d, .inl (dA 0, 36, .inl depths))] → va_S A s.heap H locs → lv_has ls 6 [(0, .ref g), (1, .long x1), (3, .int x3), (4, .long x4)] → W p l e RX1_becomes_ s m args below meth c H locs 0 0 Qw (F0 m 3 ls []) := by
  obtain ⟨hx, hb, hml, hown, hts⟩ := id S
  intro n
  induction n with
  | zero => intro _ _ _ _ _ hf; exact hf.elim
  | succ n ih =>
    intro x4 depths H locs ls hf hP hD hS hl
    rw [wX1_becomes_3] at hf
    refine lv_lload hx hb dX1_becomes_3 (lv_at hl 3 rfl) ?_
    refine lv_lconst (v := 0) hx hb dX1_becomes_5 (by decide) ?_
    refine lc_eq (tgt := 34) hx hb dX1_becomes_6 dX1_becomes_7 (by decide) (fun c_6 => ?_) (fun c_6 => ?_)
    · replace hf := hf.1 c_6
      refine lv_iload_n hx hb dX1_becomes_34 rfl (lv_at hl 2 rfl) ?_
      refine lv_if_ne (tgt := 52) hx hb dX1_becomes_35 (by decide) (fun c_35 => ?_) (fun c_35 => ?_)
      · replace hf := hf.2 c_35
        exact hret _ _ _ _ _ _ _ _ (Nat.zero_le _) (Nat.zero_le _) hf (hP.sub [0, 1] rfl) (hD.sub [0, 1] (by decide) rfl) hS dX1_becomes_52
      · replace hf := hf.1 c_35
        refine lv_aload_n hx hb dX1_becomes_38 rfl (lv_at hl 0 rfl) ?_
        refine lv_dup hx hb dX1_becomes_39 rfl ?_
        refine va_get (D := (dC, dI)) (ci := 1) (v := .long roofs) (C := RX1) (T := TX1) (N := 3) hx hb hts in_X1 hown hK hP 0 rfl rfl 1 (by decide) (hts _ q1082) (fun _ h9 => h9) rfl dX1_becomes_40 ?_
        refine lv_lload_n hx hb dX1_becomes_43 rfl (lv_at hl 1 rfl) ?_
        refine lv_ldc2 (v := (-1)) hx hb hown (hts _ q226) dX1_becomes_44 ?_
        refine lv_lxor hx hb dX1_becomes_47 ?_
        refine lv_land hx hb dX1_becomes_48 ?_
        refine lv_topl (fun roofs_49 eroofs_49 => ?_)
        replace hf := hf roofs_49 eroofs_49
        refine va_put (D := (dC, dI)) (ci := 1) (v := .long roofs_49) (ty := .long) (C := RX1) (T := TX1) (N := 3) hx hb hts in_X1 tyX1 tyX1_ok nmX1 hown hK hP hD hS 0 rfl rfl 1 (by decide) (hts _ q1082) (fun _ h9 => h9) rfl (by decide +kernel) rfl rfl (Nat.le_of_ble_eq_true rfl) dX1_becomes_49 (fun H locs hP hD hS => ?_)
        replace hP : va_P (dC, dI) vwCl [(g, .inr (1, [.ref d, .long roofs_49, .int rate])), (d, .inl (dA 0, 36, .inl depths))] H := hP
        replace hD : va_D A [(g, .inr (1, [.ref d, .long roofs_49, .int rate])), (d, .inl (dA 0, 36, .inl depths))] := hD
        exact hret _ _ _ _ _ _ _ _ (Nat.zero_le _) (Nat.zero_le _) hf (hP.sub [0, 1] rfl) (hD.sub [0, 1] (by decide) rfl) hS dX1_becomes_52
    · replace hf := hf.2 c_6
      refine lv_aload_n hx hb dX1_becomes_10 rfl (lv_at hl 0 rfl) ?_
      refine va_get (D := (dC, dI)) (ci := 1) (v := .ref d) (C := RX1) (T := TX1) (N := 3) hx hb hts in_X1 hown hK hP 0 rfl rfl 0 (by decide) (hts _ q1078) (fun _ h9 => h9) rfl dX1_becomes_11 ?_
      refine lv_lload hx hb dX1_becomes_14 (lv_at hl 3 rfl) ?_
      refine csn_i (As := [.long x4]) (rest := [.ref d]) S hE.1 (metX0_least l hf) q222 ⟨q223, q54, q224⟩ pdX0_least ⟨rfl, rfl⟩ ⟨Nat.le_of_ble_eq_true rfl, Nat.le_of_ble_eq_true rfl⟩ rfl hl.1 rfl (Nat.le_of_ble_eq_true rfl) dX1_becomes_16 ⟨Nat.zero_le _, Nat.zero_le _⟩ (fun r_16 hf => ?_)
      refine lv_iload_n hx hb dX1_becomes_19 rfl (lv_at hl 2 rfl) ?_
      refine lv_i2b (v := (x3 : Int32).toInt8.toInt32) hx hb dX1_becomes_20 rfl ?_
      obtain ⟨hin_, hf⟩ := hf
      obtain ⟨depths_21, edepths_21⟩ : ∃ z : Nat → Int32, z = upd depths (r_16 : Int32).toNatClampNeg (vp_nar .byte ((x3 : Int32).toInt8.toInt32)) := ⟨_, rfl⟩
      replace hf := hf depths_21 edepths_21
      refine va_bast hx hb hK hP hD hS 1 0 rfl rfl hin_ dX1_becomes_21 (fun H locs hP hD hS => ?_)
      rw [← edepths_21] at hP hD
      replace hP : va_P (dC, dI) vwCl [(g, .inr (1, [.ref d, .long roofs, .int rate])), (d, .inl (dA 0, 36, .inl depths_21))] H := hP
      replace hD : va_D A [(g, .inr (1, [.ref d, .long roofs, .int rate])), (d, .inl (dA 0, 36, .inl depths_21))] := hD
      refine lv_lload hx hb dX1_becomes_22 (lv_at hl 3 rfl) ?_
      refine lv_lload hx hb dX1_becomes_24 (lv_at hl 3 rfl) ?_
      refine lv_lconst (v := 1) hx hb dX1_becomes_26 (by decide) ?_
      refine lv_lsub hx hb dX1_becomes_27 ?_
      refine lv_land hx hb dX1_becomes_28 ?_
      refine lv_topl (fun x4_29 ex4_29 => ?_)
      replace hf := hf x4_29 ex4_29
      refine lv_lstore (lv' := [(4, .long x4_29), (0, .ref g), (1, .long x1), (3, .int x3)]) hx hb dX1_becomes_29 hl (by decide) rfl (fun ls hl => ?_)
      refine lv_goto (tgt := 3) hx hb dX1_becomes_31 (by decide) ?_
      exact ih x4_29 depths_21 _ _ _ hf (hP.sub [0, 1] rfl) (hD.sub [0, 1] (by decide) rfl) hS (lv_sub hl [1, 2, 3, 0] rfl)
def wX1_becomes (Q : (Nat → Int32) → (Int64) → Prop) (depths : (Nat → Int32)) (roofs : Int64) (x1 : Int64) (x3 : Int32) : Prop := (∃ fu : Nat, wX1_becomes_3 Q x1 x3 roofs fu x1 depths)
end
set_option maxHeartbeats 4000000 in
set_option maxRecDepth 100000 in
theorem metX1_becomes (l : Launch) {Q : (Nat → Int32) → (Int64) → Prop} {depths : (Nat → Int32)} {roofs : Int64} {rate : Int32} {x1 : Int64} {x3 : Int32} {dC : Nat → ClassId} {dI : Nat → Nat → Nat} {dA : Nat → ClassId} {eA mi sz : Nat} {g d : Nat} (hf : wX1_becomes Q depths roofs x1 x3) : Met l yX1_becomes (ws_ yX1_becomes cX1_becomes 6 none) rmX1_becomes (aPc dC dI dA eA mi sz [.ref g, .long x1, .int x3] [(g, .inr (1, [.ref d, .long roofs, .int rate])), (d, .inl (dA 0, 36, .inl depths))]) (va_Qv (fun (u : (Nat → Int32) × Int64) => Q u.1 u.2) (aB dC dI [(g, .inr (1, [.ref d, .long roofs, .int rate])), (d, .inl (dA 0, 36, .inl depths))] sz (fun u => [(g, .inr (1, [.ref d, .long u.2, .int rate])), (d, .inl (dA 0, 36, .inl u.1))])) (va_A [(g, .inr (1, [.ref d, .long roofs, .int rate])), (d, .inl (dA 0, 36, .inl depths))] sz)) 0 0 (va_A [(g, .inr (1, [.ref d, .long roofs, .int rate])), (d, .inl (dA 0, 36, .inl depths))] sz) := by
  refine Met.ofW (cc := cX1_becomes) (maxL := 6) (ret := none) (by decide) rfl ?_
  intro p e s m args below meth c s₁ B hml hv
  obtain ⟨rfl, hsz, hP, hK, hD0, hE⟩ := hv
  subst hsz
  have hx := B.exec
  have hb := B.bytes
  have hr := B.returns
  have hts := atoms_spec (ws := (ws_ yX1_becomes cX1_becomes 6 none)) B.pre
  have hts : ∀ w ∈ lw_all, w.before _ s = true := fun w h => hts w (List.mem_cons_of_mem _ h)
  have hown : s.vm.findClass RX1 = some m.cls := findClass_of_methodNamed B.named
  have hlocks := B.notSynchronized
  have S : CallFix p m c cX1_becomes 6 s _ lw_all RX1 := ⟨hx, hb, hml, hown, hts⟩
  have hD := hD0.self (sz := s.heap.size)
  have hA : ∀ q : Nat, s.heap.size ≤ q → va_A [(g, .inr (1, [.ref d, .long roofs, .int rate])), (d, .inl (dA 0, 36, .inl depths))] s.heap.size q := fun q h => Or.inr h
  have hS : va_S (va_A [(g, .inr (1, [.ref d, .long roofs, .int rate])), (d, .inl (dA 0, 36, .inl depths))] s.heap.size) s.heap s.heap [] := va_S.rf
  have hl := lv_entry ([.ref g, .long x1, .int x3]) (n := 6) (Nat.le_of_ble_eq_true rfl)
  rw [lg_entry_eq]
  generalize (lg_sl ([.ref g, .long x1, .int x3]) ++ List.replicate (6 - (lg_sl ([.ref g, .long x1, .int x3])).length) Slot.unset).toArray = ls at hl ⊢
  replace hl : lv_has ls 6 [(0, .ref g), (1, .long x1), (3, .int x3)] := hl
  have hret : hrX1_becomes p l e s m ([.ref g, .long x1, .int x3] : List Value).toArray below meth c dC dI dA (va_A [(g, .inr (1, [.ref d, .long roofs, .int rate])), (d, .inl (dA 0, 36, .inl depths))] s.heap.size) g d (MQ below (va_Qv (fun (u : (Nat → Int32) × Int64) => Q u.1 u.2) (aB dC dI [(g, .inr (1, [.ref d, .long roofs, .int rate])), (d, .inl (dA 0, 36, .inl depths))] s.heap.size (fun u => [(g, .inr (1, [.ref d, .long u.2, .int rate])), (d, .inl (dA 0, 36, .inl u.1))])) (va_A [(g, .inr (1, [.ref d, .long roofs, .int rate])), (d, .inl (dA 0, 36, .inl depths))] s.heap.size)) ([.ref g, .long x1, .int x3] : List Value).toArray s 0 0 (va_A [(g, .inr (1, [.ref d, .long roofs, .int rate])), (d, .inl (dA 0, 36, .inl depths))] s.heap.size)) Q rate := fun depths roofs H locs kc ks pc ls h1 h2 hq hP hD hS hd => W.widen (k := 0) (n := 0) h1 h2 (W.vret hx hb hr (fun t ht hW => ⟨⟨(depths, roofs), rfl, hq, by subst ht; exact ⟨hP, hD⟩⟩, hS.F ht⟩) hS.2.2 hd)
  generalize hAe : va_A [(g, .inr (1, [.ref d, .long roofs, .int rate])), (d, .inl (dA 0, 36, .inl depths))] s.heap.size = A at hD hA hS hE hret ⊢
  clear hAe
  unfold wX1_becomes at hf
  refine lv_lload_n hx hb dX1_becomes_0 rfl (lv_at hl 1 rfl) ?_
  refine lv_lstore (lv' := [(4, .long x1), (0, .ref g), (1, .long x1), (3, .int x3)]) hx hb dX1_becomes_1 hl (by decide) rfl (fun ls hl => ?_)
  obtain ⟨fu, hf⟩ := hf
  exact tX1_becomes_3 S hK hE hA hret fu x1 depths _ _ _ hf (hP.sub [0, 1] rfl) (hD.sub [0, 1] (by decide) rfl) hS (lv_sub hl [1, 2, 3, 0] rfl)
