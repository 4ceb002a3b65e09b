/-! HoleCounty$Ground.takes(LHoleCounty$Ground;)V -/
theorem pdX1_takes : DscOk yX1_takes 1 := by decide +kernel
abbrev rmX1_takes : Room := { frames := 1, cells := 0, slots := 0, locals := 40 }
abbrev RX1_takes_ : Room := (headSpec (ws_ yX1_takes cX1_takes 2 none) rmX1_takes).room
section
variable {p : Program} {l : Launch} {e : Env} {s : State} {m : MethodId} {args : Array Value} {below : List Frame} {meth : Method} {c : Code} {Qw : State → Prop} {dC : Nat → ClassId} {dI : Nat → Nat → Nat} {dA : Nat → ClassId} {eA mi : Nat} {A : Nat → Prop} {g d g2 d2 : Nat}
abbrev hrX1_takes (p : Program) (l : Launch) (e : Env) (s : State) (m : MethodId) (args : Array Value) (below : List Frame) (meth : Method) (c : Code) (dC : Nat → ClassId) (dI : Nat → Nat → Nat) (dA : Nat → ClassId) (A : Nat → Prop) (g : Nat) (d : Nat) (g2 : Nat) (d2 : Nat) (Qw : State → Prop) (Q : (Nat → Int32) → (Int64) → (Int32) → Prop) (od : (Nat → Int32)) (oro : Int64) (ort : Int32) : Prop := ∀ (depths : (Nat → Int32)) (roofs : Int64) (rate : Int32) (H : Heap) (locs : List Loc) (kc ks : Nat) (pc : Nat) (ls : Array Slot), kc ≤ 0 → ks ≤ 0 → Q depths roofs rate → va_P (dC, dI) vwCl [(g, .inr (1, [.ref d, .long roofs, .int rate])), (d, .inl (dA 0, 36, .inl depths)), (g2, .inr (1, [.ref d2, .long oro, .int ort])), (d2, .inl (dA 0, 36, .inl od))] H → va_D A [(g, .inr (1, [.ref d, .long roofs, .int rate])), (d, .inl (dA 0, 36, .inl depths)), (g2, .inr (1, [.ref d2, .long oro, .int ort])), (d2, .inl (dA 0, 36, .inl od))] → va_S A s.heap H locs → decode cX1_takes pc = .ok (.return_, 1) → W p l e RX1_takes_ s m args below meth c H locs kc ks Qw (F0 m pc ls [])
def wX1_takes (Q : (Nat → Int32) → (Int64) → (Int32) → Prop) (depths : (Nat → Int32)) (roofs : Int64) (rate : Int32) (od : (Nat → Int32)) (oro : Int64) (ort : Int32) : Prop := ((∀ i, i < (36 : Int32).toNatClampNeg → fits .byte (.int (od ((0 : Int32).toNatClampNeg + i))) = true) ∧ (∀ depths_12 : Nat → Int32, depths_12 = (va_cpy od depths (0 : Int32).toNatClampNeg (0 : Int32).toNatClampNeg (36 : Int32).toNatClampNeg) → (Q depths_12 oro ort)))
end
set_option maxHeartbeats 4000000 in
set_option maxRecDepth 100000 in
theorem metX1_takes (l : Launch) {Q : (Nat → Int32) → (Int64) → (Int32) → Prop} {depths : (Nat → Int32)} {roofs : Int64} {rate : Int32} {od : (Nat → Int32)} {oro : Int64} {ort : Int32} {dC : Nat → ClassId} {dI : Nat → Nat → Nat} {dA : Nat → ClassId} {eA mi sz : Nat} {g d g2 d2 : Nat} (hf : wX1_takes Q depths roofs rate od oro ort) : Met l yX1_takes (ws_ yX1_takes cX1_takes 2 none) rmX1_takes (aPc dC dI dA eA mi sz [.ref g, .ref g2] [(g, .inr (1, [.ref d, .long roofs, .int rate])), (d, .inl (dA 0, 36, .inl depths)), (g2, .inr (1, [.ref d2, .long oro, .int ort])), (d2, .inl (dA 0, 36, .inl od))]) (va_Qv (fun (u : (Nat → Int32) × Int64 × Int32) => Q u.1 u.2.1 u.2.2) (aB dC dI [(g, .inr (1, [.ref d, .long roofs, .int rate])), (d, .inl (dA 0, 36, .inl depths)), (g2, .inr (1, [.ref d2, .long oro, .int ort])), (d2, .inl (dA 0, 36, .inl od))] sz (fun u => [(g, .inr (1, [.ref d, .long u.2.1, .int u.2.2])), (d, .inl (dA 0, 36, .inl u.1)), (g2, .inr (1, [.ref d2, .long oro, .int ort])), (d2, .inl (dA 0, 36, .inl od))])) (va_A [(g, .inr (1, [.ref d, .long roofs, .int rate])), (d, .inl (dA 0, 36, .inl depths)), (g2, .inr (1, [.ref d2, .long oro, .int ort])), (d2, .inl (dA 0, 36, .inl od))] sz)) 0 0 (va_A [(g, .inr (1, [.ref d, .long roofs, .int rate])), (d, .inl (dA 0, 36, .inl depths)), (g2, .inr (1, [.ref d2, .long oro, .int ort])), (d2, .inl (dA 0, 36, .inl od))] sz) := by
  refine Met.ofW (cc := cX1_takes) (maxL := 2) (ret := none) (by decide) rfl ?_
  intro p e s m args below meth c s₁ B hml hv
  obtain ⟨rfl, hsz, hP, hK, hD0, hE⟩ := hv
  subst hsz
  have hx := B.exec
  have hb := B.bytes
  have hr := B.returns
  have hts := atoms_spec (ws := (ws_ yX1_takes cX1_takes 2 none)) B.pre
  have hts : ∀ w ∈ lw_all, w.before _ s = true := fun w h => hts w (List.mem_cons_of_mem _ h)
  have hown : s.vm.findClass RX1 = some m.cls := findClass_of_methodNamed B.named
  have hlocks := B.notSynchronized
  have S : CallFix p m c cX1_takes 2 s _ lw_all RX1 := ⟨hx, hb, hml, hown, hts⟩
  have hD := hD0.self (sz := s.heap.size)
  have hA : ∀ q : Nat, s.heap.size ≤ q → va_A [(g, .inr (1, [.ref d, .long roofs, .int rate])), (d, .inl (dA 0, 36, .inl depths)), (g2, .inr (1, [.ref d2, .long oro, .int ort])), (d2, .inl (dA 0, 36, .inl od))] s.heap.size q := fun q h => Or.inr h
  have hS : va_S (va_A [(g, .inr (1, [.ref d, .long roofs, .int rate])), (d, .inl (dA 0, 36, .inl depths)), (g2, .inr (1, [.ref d2, .long oro, .int ort])), (d2, .inl (dA 0, 36, .inl od))] s.heap.size) s.heap s.heap [] := va_S.rf
  have hl := lv_entry ([.ref g, .ref g2]) (n := 2) (Nat.le_of_ble_eq_true rfl)
  rw [lg_entry_eq]
  generalize (lg_sl ([.ref g, .ref g2]) ++ List.replicate (2 - (lg_sl ([.ref g, .ref g2])).length) Slot.unset).toArray = ls at hl ⊢
  replace hl : lv_has ls 2 [(0, .ref g), (1, .ref g2)] := hl
  have hret : hrX1_takes p l e s m ([.ref g, .ref g2] : List Value).toArray below meth c dC dI dA (va_A [(g, .inr (1, [.ref d, .long roofs, .int rate])), (d, .inl (dA 0, 36, .inl depths)), (g2, .inr (1, [.ref d2, .long oro, .int ort])), (d2, .inl (dA 0, 36, .inl od))] s.heap.size) g d g2 d2 (MQ below (va_Qv (fun (u : (Nat → Int32) × Int64 × Int32) => Q u.1 u.2.1 u.2.2) (aB dC dI [(g, .inr (1, [.ref d, .long roofs, .int rate])), (d, .inl (dA 0, 36, .inl depths)), (g2, .inr (1, [.ref d2, .long oro, .int ort])), (d2, .inl (dA 0, 36, .inl od))] s.heap.size (fun u => [(g, .inr (1, [.ref d, .long u.2.1, .int u.2.2])), (d, .inl (dA 0, 36, .inl u.1)), (g2, .inr (1, [.ref d2, .long oro, .int ort])), (d2, .inl (dA 0, 36, .inl od))])) (va_A [(g, .inr (1, [.ref d, .long roofs, .int rate])), (d, .inl (dA 0, 36, .inl depths)), (g2, .inr (1, [.ref d2, .long oro, .int ort])), (d2, .inl (dA 0, 36, .inl od))] s.heap.size)) ([.ref g, .ref g2] : List Value).toArray s 0 0 (va_A [(g, .inr (1, [.ref d, .long roofs, .int rate])), (d, .inl (dA 0, 36, .inl depths)), (g2, .inr (1, [.ref d2, .long oro, .int ort])), (d2, .inl (dA 0, 36, .inl od))] s.heap.size)) Q od oro ort := fun depths roofs rate H locs kc ks pc ls h1 h2 hq hP hD hS hd => W.widen (k := 0) (n := 0) h1 h2 (W.vret hx hb hr (fun t ht hW => ⟨⟨(depths, roofs, rate), rfl, hq, by subst ht; exact ⟨hP, hD⟩⟩, hS.F ht⟩) hS.2.2 hd)
  generalize hAe : va_A [(g, .inr (1, [.ref d, .long roofs, .int rate])), (d, .inl (dA 0, 36, .inl depths)), (g2, .inr (1, [.ref d2, .long oro, .int ort])), (d2, .inl (dA 0, 36, .inl od))] s.heap.size = A at hD hA hS hE hret ⊢
  clear hAe
  unfold wX1_takes at hf
  refine lv_aload_n hx hb dX1_takes_0 rfl (lv_at hl 1 rfl) ?_
  refine va_get (D := (dC, dI)) (ci := 1) (v := .ref d2) (C := RX1) (T := TX1) (N := 3) hx hb hts in_X1 hown hK hP 2 rfl rfl 0 (by decide) (hts _ q1078) (fun _ h9 => h9) rfl dX1_takes_1 ?_
  refine lv_iconst (v := 0) hx hb dX1_takes_4 (by decide) ?_
  refine lv_aload_n hx hb dX1_takes_5 rfl (lv_at hl 0 rfl) ?_
  refine va_get (D := (dC, dI)) (ci := 1) (v := .ref d) (C := RX1) (T := TX1) (N := 3) hx hb hts in_X1 hown hK hP 0 rfl rfl 0 (by decide) (hts _ q1078) (fun _ h9 => h9) rfl dX1_takes_6 ?_
  refine lv_iconst (v := 0) hx hb dX1_takes_9 (by decide) ?_
  refine lv_bipush (v := 36) hx hb dX1_takes_10 (by decide) ?_
  obtain ⟨ha_12_0, hf⟩ := hf
  refine va_copyi hx hb (hml.trans hl.1.symm) hown (hts _ q634) (hts _ q148) (hts _ q147) (hts _ q64) hK hP hD hS 3 1 0 0 rfl rfl rfl rfl rfl (by decide) (by decide) (by decide) (by decide) (by decide) ha_12_0 (Nat.le_of_ble_eq_true rfl) (Nat.le_of_ble_eq_true rfl) dX1_takes_12 (fun H locs hP hD hS => ?_)
  obtain ⟨depths_12, edepths_12⟩ : ∃ z : Nat → Int32, z = (va_cpy od depths (0 : Int32).toNatClampNeg (0 : Int32).toNatClampNeg (36 : Int32).toNatClampNeg) := ⟨_, rfl⟩
  replace hf := hf depths_12 edepths_12
  rw [← edepths_12] at hP hD
  replace hP : va_P (dC, dI) vwCl [(g, .inr (1, [.ref d, .long roofs, .int rate])), (d, .inl (dA 0, 36, .inl depths_12)), (g2, .inr (1, [.ref d2, .long oro, .int ort])), (d2, .inl (dA 0, 36, .inl od))] H := hP
  replace hD : va_D A [(g, .inr (1, [.ref d, .long roofs, .int rate])), (d, .inl (dA 0, 36, .inl depths_12)), (g2, .inr (1, [.ref d2, .long oro, .int ort])), (d2, .inl (dA 0, 36, .inl od))] := hD
  refine lv_aload_n hx hb dX1_takes_15 rfl (lv_at hl 0 rfl) ?_
  refine lv_aload_n hx hb dX1_takes_16 rfl (lv_at hl 1 rfl) ?_
  refine va_get (D := (dC, dI)) (ci := 1) (v := .long oro) (C := RX1) (T := TX1) (N := 3) hx hb hts in_X1 hown hK hP 2 rfl rfl 1 (by decide) (hts _ q1082) (fun _ h9 => h9) rfl dX1_takes_17 ?_
  refine va_put (D := (dC, dI)) (ci := 1) (v := .long oro) (ty := .long) (C := RX1) (T := TX1) (N := 3) hx hb hts in_X1 tyX1 tyX1_ok nmX1 hown hK hP hD hS 0 rfl rfl 1 (by decide) (hts _ q1082) (fun _ h9 => h9) rfl (by decide +kernel) rfl rfl (Nat.le_of_ble_eq_true rfl) dX1_takes_20 (fun H locs hP hD hS => ?_)
  replace hP : va_P (dC, dI) vwCl [(g, .inr (1, [.ref d, .long oro, .int rate])), (d, .inl (dA 0, 36, .inl depths_12)), (g2, .inr (1, [.ref d2, .long oro, .int ort])), (d2, .inl (dA 0, 36, .inl od))] H := hP
  replace hD : va_D A [(g, .inr (1, [.ref d, .long oro, .int rate])), (d, .inl (dA 0, 36, .inl depths_12)), (g2, .inr (1, [.ref d2, .long oro, .int ort])), (d2, .inl (dA 0, 36, .inl od))] := hD
  refine lv_aload_n hx hb dX1_takes_23 rfl (lv_at hl 0 rfl) ?_
  refine lv_aload_n hx hb dX1_takes_24 rfl (lv_at hl 1 rfl) ?_
  refine va_get (D := (dC, dI)) (ci := 1) (v := .int ort) (C := RX1) (T := TX1) (N := 3) hx hb hts in_X1 hown hK hP 2 rfl rfl 2 (by decide) (hts _ q1084) (fun _ h9 => h9) rfl dX1_takes_25 ?_
  refine va_put (D := (dC, dI)) (ci := 1) (v := .int ort) (ty := .int) (C := RX1) (T := TX1) (N := 3) hx hb hts in_X1 tyX1 tyX1_ok nmX1 hown hK hP hD hS 0 rfl rfl 2 (by decide) (hts _ q1084) (fun _ h9 => h9) rfl (by decide +kernel) rfl rfl (Nat.le_of_ble_eq_true rfl) dX1_takes_28 (fun H locs hP hD hS => ?_)
  replace hP : va_P (dC, dI) vwCl [(g, .inr (1, [.ref d, .long oro, .int ort])), (d, .inl (dA 0, 36, .inl depths_12)), (g2, .inr (1, [.ref d2, .long oro, .int ort])), (d2, .inl (dA 0, 36, .inl od))] H := hP
  replace hD : va_D A [(g, .inr (1, [.ref d, .long oro, .int ort])), (d, .inl (dA 0, 36, .inl depths_12)), (g2, .inr (1, [.ref d2, .long oro, .int ort])), (d2, .inl (dA 0, 36, .inl od))] := hD
  exact hret _ _ _ _ _ _ _ _ _ (Nat.zero_le _) (Nat.zero_le _) hf (hP.sub [0, 1, 2, 3] rfl) (hD.sub [0, 1, 2, 3] (by decide) rfl) hS dX1_takes_31
/-! HoleCounty$Ground.<init>()V -/
theorem pdX1_init : DscOk yX1_init 0 := by decide +kernel
abbrev rmX1_init : Room := { frames := 1, cells := 1, slots := 36, locals := 12 }
abbrev RX1_init_ : Room := (headSpec (ws_ yX1_init cX1_init 1 none) rmX1_init).room
section
variable {p : Program} {l : Launch} {e : Env} {s : State} {m : MethodId} {args : Array Value} {below : List Frame} {meth : Method} {c : Code} {Qw : State → Prop} {dC : Nat → ClassId} {dI : Nat → Nat → Nat} {dA : Nat → ClassId} {eA mi : Nat} {A : Nat → Prop} {g : Nat}
abbrev hrX1_init (p : Program) (l : Launch) (e : Env) (s : State) (m : MethodId) (args : Array Value) (below : List Frame) (meth : Method) (c : Code) (dC : Nat → ClassId) (dI : Nat → Nat → Nat) (dA : Nat → ClassId) (A : Nat → Prop) (g : Nat) (Qw : State → Prop) (Q : (Int32) → Prop) (roofs : Int64) (rate : Int32) : Prop := ∀ (ra : Nat) (rate1 : Int32) (H : Heap) (locs : List Loc) (kc ks : Nat) (pc : Nat) (ls : Array Slot), kc ≤ 1 → ks ≤ 36 → Q rate1 → va_P (dC, dI) vwCl [(g, .inr (1, [.ref ra, .long roofs, .int rate1])), (ra, .inl (dA 0, 36, .inl (fun _ => 0)))] H → va_D A [(g, .inr (1, [.ref ra, .long roofs, .int rate1])), (ra, .inl (dA 0, 36, .inl (fun _ => 0)))] → va_S A s.heap H locs → decode cX1_init pc = .ok (.return_, 1) → W p l e RX1_init_ s m args below meth c H locs kc ks Qw (F0 m pc ls [])
def wX1_init (Q : (Int32) → Prop) (rate : Int32) : Prop := (Q 2)
end
set_option maxHeartbeats 4000000 in
set_option maxRecDepth 100000 in
theorem metX1_init (l : Launch) {Q : (Int32) → Prop} {roofs : Int64} {rate : Int32} {dC : Nat → ClassId} {dI : Nat → Nat → Nat} {dA : Nat → ClassId} {eA mi sz : Nat} {g : Nat} (hf : wX1_init Q rate) : Met l yX1_init (ws_ yX1_init cX1_init 1 none) rmX1_init (aPc dC dI dA eA mi sz [.ref g] [(g, .inr (1, [.null, .long roofs, .int rate]))]) (va_Qv (fun (u : Nat × Int32) => Q u.2) (aB dC dI [(g, .inr (1, [.null, .long roofs, .int rate]))] sz (fun (u : Nat × Int32) => [(g, .inr (1, [.ref u.1, .long roofs, .int u.2])), (u.1, .inl (dA 0, 36, .inl (fun _ => 0)))])) (va_A [(g, .inr (1, [.null, .long roofs, .int rate]))] sz)) 1 36 (va_A [(g, .inr (1, [.null, .long roofs, .int rate]))] sz) := by
  refine Met.ofW (cc := cX1_init) (maxL := 1) (ret := none) (by decide) rfl ?_
  intro p e s m args below meth c s₁ B hml hv
  obtain ⟨rfl, hsz, hP, hK, hD0, hE⟩ := hv
  subst hsz
  have hx := B.exec
  have hb := B.bytes
  have hr := B.returns
  have hts := atoms_spec (ws := (ws_ yX1_init cX1_init 1 none)) B.pre
  have hts : ∀ w ∈ lw_all, w.before _ s = true := fun w h => hts w (List.mem_cons_of_mem _ h)
  have hown : s.vm.findClass RX1 = some m.cls := findClass_of_methodNamed B.named
  have hlocks := B.notSynchronized
  have hin : meth.name = "<init>" := (name_of_methodNamed B.named B.method).1
  have S : CallFix p m c cX1_init 1 s _ lw_all RX1 := ⟨hx, hb, hml, hown, hts⟩
  have hD := hD0.self (sz := s.heap.size)
  have hA : ∀ q : Nat, s.heap.size ≤ q → va_A [(g, .inr (1, [.null, .long roofs, .int rate]))] s.heap.size q := fun q h => Or.inr h
  have hS : va_S (va_A [(g, .inr (1, [.null, .long roofs, .int rate]))] s.heap.size) s.heap s.heap [] := va_S.rf
  have hl := lv_entry ([.ref g]) (n := 1) (Nat.le_of_ble_eq_true rfl)
  rw [lg_entry_eq]
  generalize (lg_sl ([.ref g]) ++ List.replicate (1 - (lg_sl ([.ref g])).length) Slot.unset).toArray = ls at hl ⊢
  replace hl : lv_has ls 1 [(0, .ref g)] := hl
  have hret : hrX1_init p l e s m ([.ref g] : List Value).toArray below meth c dC dI dA (va_A [(g, .inr (1, [.null, .long roofs, .int rate]))] s.heap.size) g (MQ below (va_Qv (fun (u : Nat × Int32) => Q u.2) (aB dC dI [(g, .inr (1, [.null, .long roofs, .int rate]))] s.heap.size (fun (u : Nat × Int32) => [(g, .inr (1, [.ref u.1, .long roofs, .int u.2])), (u.1, .inl (dA 0, 36, .inl (fun _ => 0)))])) (va_A [(g, .inr (1, [.null, .long roofs, .int rate]))] s.heap.size)) ([.ref g] : List Value).toArray s 1 36 (va_A [(g, .inr (1, [.null, .long roofs, .int rate]))] s.heap.size)) Q roofs rate := fun ra rate1 H locs kc ks pc ls h1 h2 hq hP hD hS hd => W.widen (k := 1) (n := 36) h1 h2 (W.vret hx hb hr (fun t ht hW => ⟨⟨(ra, rate1), rfl, hq, by subst ht; exact ⟨hP, hD⟩⟩, hS.F ht⟩) hS.2.2 hd)
  generalize hAe : va_A [(g, .inr (1, [.null, .long roofs, .int rate]))] s.heap.size = A at hD hA hS hE hret ⊢
  clear hAe
  unfold wX1_init at hf
  refine lv_aload_n hx hb dX1_init_0 rfl (lv_at hl 0 rfl) ?_
  refine W.objInit hx hb hown (hts _ q1077) (hts _ q105) (hts _ q106) rfl (by rw [hml]; exact hl.1) rfl dX1_init_1 (Nat.le_of_ble_eq_true rfl) (Nat.le_of_ble_eq_true rfl) ?_
  refine W.eq (g2 := F0 m 4 ls []) rfl ?_
  refine lv_aload_n hx hb dX1_init_4 rfl (lv_at hl 0 rfl) ?_
  refine lv_bipush (v := 36) hx hb dX1_init_5 (by decide) ?_
  have hbud : 0 + 1 ≤ 1 ∧ 0 + 36 ≤ 36 := ⟨Nat.le_of_ble_eq_true rfl, Nat.le_of_ble_eq_true rfl⟩
  refine va_newa (atype := .byte) (ty := .byte) (N' := 36) (a0 := (36, .inl (fun _ => 0))) hx hb (hts _ q616) rfl hK hP hD hS hA (fun cA => rfl) (by decide) (by decide) (by decide) hbud.1 hbud.2 dX1_init_7 (fun q_7 cA_7 H hK2 hP hD hS => ?_)
  obtain rfl : cA_7 = dA 0 := ty_one (s := s) (t1 := []) (t2 := []) (hK2.2 6 _ rfl).2 (hK.2 0 _ rfl).2
  replace hP : va_P (dC, dI) vwCl [(g, .inr (1, [.null, .long roofs, .int rate])), (q_7, .inl (dA 0, 36, .inl (fun _ => 0)))] H := hP
  replace hD : va_D A [(g, .inr (1, [.null, .long roofs, .int rate])), (q_7, .inl (dA 0, 36, .inl (fun _ => 0)))] := hD
  refine va_putF (D := (dC, dI)) (ci := 1) (v := .ref q_7) (ty := tyX1 0) (C := RX1) (T := TX1) (N := 3) hx hb hts in_X1 tyX1 tyX1_ok nmX1 hown hK hP hD hS 0 rfl rfl 0 (by decide) (hts _ q1078) (fun _ h9 => h9) rfl hin rfl (by decide +kernel) rfl rfl (Nat.le_of_ble_eq_true rfl) dX1_init_9 (fun H locs hP hD hS => ?_)
  replace hP : va_P (dC, dI) vwCl [(g, .inr (1, [.ref q_7, .long roofs, .int rate])), (q_7, .inl (dA 0, 36, .inl (fun _ => 0)))] H := hP
  replace hD : va_D A [(g, .inr (1, [.ref q_7, .long roofs, .int rate])), (q_7, .inl (dA 0, 36, .inl (fun _ => 0)))] := hD
  refine lv_aload_n hx hb dX1_init_12 rfl (lv_at hl 0 rfl) ?_
  refine lv_iconst (v := 2) hx hb dX1_init_13 (by decide) ?_
  refine va_put (D := (dC, dI)) (ci := 1) (v := .int 2) (ty := .int) (C := RX1) (T := TX1) (N := 3) hx hb hts in_X1 tyX1 tyX1_ok nmX1 hown hK hP hD hS 0 rfl rfl 2 (by decide) (hts _ q1084) (fun _ h9 => h9) rfl (by decide +kernel) rfl rfl (Nat.le_of_ble_eq_true rfl) dX1_init_14 (fun H locs hP hD hS => ?_)
  replace hP : va_P (dC, dI) vwCl [(g, .inr (1, [.ref q_7, .long roofs, .int 2])), (q_7, .inl (dA 0, 36, .inl (fun _ => 0)))] H := hP
  replace hD : va_D A [(g, .inr (1, [.ref q_7, .long roofs, .int 2])), (q_7, .inl (dA 0, 36, .inl (fun _ => 0)))] := hD
  exact hret q_7 2 _ _ _ _ _ _ (Nat.le_of_ble_eq_true rfl) (Nat.le_of_ble_eq_true rfl) hf (hP.sub [0, 1] rfl) (hD.sub [0, 1] (by decide) rfl) hS dX1_init_17
