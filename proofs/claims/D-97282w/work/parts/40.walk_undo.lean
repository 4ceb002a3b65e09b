/-! java/util/ArrayList.fastRemove([Ljava/lang/Object;I)V -/
theorem pdJ2_fastRemove : DscOk yJ2_fastRemove 2 := by decide +kernel
abbrev rmJ2_fastRemove : Room := { frames := 1, cells := 0, slots := 0, locals := 40 }
abbrev RJ2_fastRemove_ : Room := (headSpec (ws_ yJ2_fastRemove cJ2_fastRemove 4 none) rmJ2_fastRemove).room
section
variable {p : Program} {l : Launch} {e : Env} {s : State} {m : MethodId} {args : Array Value} {below : List Frame} {meth : Method} {c : Code} {Qw : State → Prop} {dC : Nat → ClassId} {dI : Nat → Nat → Nat} {dA : Nat → ClassId} {eA mi : Nat} {A : Nat → Prop} {la ea : Nat}
abbrev hrJ2_fastRemove (p : Program) (l : Launch) (e : Env) (s : State) (m : MethodId) (args : Array Value) (below : List Frame) (meth : Method) (c : Code) (dC : Nat → ClassId) (dI : Nat → Nat → Nat) (dA : Nat → ClassId) (A : Nat → Prop) (la : Nat) (ea : Nat) (Qw : State → Prop) (Q : (Int32) → (Int32) → (Nat → Option Nat) → Prop) : Prop := ∀ (mc : Int32) (size : Int32) (f : (Nat → Option Nat)) (H : Heap) (locs : List Loc) (kc ks : Nat) (pc : Nat) (ls : Array Slot), kc ≤ 0 → ks ≤ 0 → Q mc size f → va_P (dC, dI) vwCl [(la, .inr (11, [.int mc, .ref ea, .int size])), (ea, .inl (dA 4, 10, .inr (.inr (.inr (.inr f)))))] H → va_D A [(la, .inr (11, [.int mc, .ref ea, .int size])), (ea, .inl (dA 4, 10, .inr (.inr (.inr (.inr f)))))] → va_S A s.heap H locs → decode cJ2_fastRemove pc = .ok (.return_, 1) → W p l e RJ2_fastRemove_ s m args below meth c H locs kc ks Qw (F0 m pc ls [])
def wJ2_fastRemove_34 (Q : (Int32) → (Int32) → (Nat → Option Nat) → Prop) (x3 : Int32) (mc : Int32) (size : Int32) (f : (Nat → Option Nat)) : Prop := (vp_in x3 10 ∧ (Q mc x3 (va_up f (x3 : Int32).toNatClampNeg none)))
set_option maxHeartbeats 4000000 in
set_option maxRecDepth 100000 in
theorem tJ2_fastRemove_34 {Q : (Int32) → (Int32) → (Nat → Option Nat) → Prop} (S : CallFix p m c cJ2_fastRemove 4 s args lw_all RJ2) (hK : va_K (dC, dI) vwCl (tysG dA) s) (hE : EG A eA mi s s.heap) (hA : ∀ q, s.heap.size ≤ q → A q) (hret : hrJ2_fastRemove p l e s m args below meth c dC dI dA A la ea Qw Q) : ∀ (x3 : Int32) (mc : Int32) (size : Int32) (f : (Nat → Option Nat)) (H : Heap) (locs : List Loc) (ls : Array Slot), wJ2_fastRemove_34 Q x3 mc size f → va_P (dC, dI) vwCl [(la, .inr (11, [.int mc, .ref ea, .int size])), (ea, .inl (dA 4, 10, .inr (.inr (.inr (.inr f)))))] H → va_D A [(la, .inr (11, [.int mc, .ref ea, .int size])), (ea, .inl (dA 4, 10, .inr (.inr (.inr (.inr f)))))] → va_S A s.heap H locs → lv_has ls 4 [(0, .ref la), (1, .ref ea), (3, .int x3)] → W p l e RJ2_fastRemove_ s m args below meth c H locs 0 0 Qw (F0 m 34 ls []) := by
  obtain ⟨hx, hb, hml, hown, hts⟩ := id S
  intro x3 mc size f H locs ls hf hP hD hS hl
  unfold wJ2_fastRemove_34 at hf
  refine lv_aload_n hx hb dJ2_fastRemove_34 rfl (lv_at hl 1 rfl) ?_
  refine lv_aload_n hx hb dJ2_fastRemove_35 rfl (lv_at hl 0 rfl) ?_
  refine lv_iload_n hx hb dJ2_fastRemove_36 rfl (lv_at hl 2 rfl) ?_
  refine lv_dup_x1 hx hb dJ2_fastRemove_37 rfl rfl ?_
  refine va_put (D := (dC, dI)) (ci := 11) (v := .int x3) (ty := .int) (C := RJ2) (T := TJ2) (N := 3) hx hb hts in_J2 tyJ2 tyJ2_ok nmJ2 hown hK hP hD hS 0 rfl rfl 2 (by decide) (hts _ q384) (fun _ h9 => h9) rfl (by decide +kernel) rfl rfl (Nat.le_of_ble_eq_true rfl) dJ2_fastRemove_38 (fun H locs hP hD hS => ?_)
  replace hP : va_P (dC, dI) vwCl [(la, .inr (11, [.int mc, .ref ea, .int x3])), (ea, .inl (dA 4, 10, .inr (.inr (.inr (.inr f)))))] H := hP
  replace hD : va_D A [(la, .inr (11, [.int mc, .ref ea, .int x3])), (ea, .inl (dA 4, 10, .inr (.inr (.inr (.inr f)))))] := hD
  refine lv_null hx hb dJ2_fastRemove_41 ?_
  obtain ⟨hin_, hf⟩ := hf
  refine va_astqN hx hb hK hP hD hS 1 4 rfl rfl hin_ dJ2_fastRemove_42 (fun H locs hP hD hS => ?_)
  replace hP : va_P (dC, dI) vwCl [(la, .inr (11, [.int mc, .ref ea, .int x3])), (ea, .inl (dA 4, 10, .inr (.inr (.inr (.inr (va_up f (x3 : Int32).toNatClampNeg none))))))] H := hP
  replace hD : va_D A [(la, .inr (11, [.int mc, .ref ea, .int x3])), (ea, .inl (dA 4, 10, .inr (.inr (.inr (.inr (va_up f (x3 : Int32).toNatClampNeg none))))))] := hD
  exact hret _ _ _ _ _ _ _ _ _ (Nat.zero_le _) (Nat.zero_le _) hf (hP.sub [0, 1] rfl) (hD.sub [0, 1] (by decide) rfl) hS dJ2_fastRemove_43
def wJ2_fastRemove (Q : (Int32) → (Int32) → (Nat → Option Nat) → Prop) (mc : Int32) (size : Int32) (f : (Nat → Option Nat)) (x2 : Int32) : Prop := (∀ modCount_7 : Int32, modCount_7 = (mc + 1) → (∀ x3_17 : Int32, x3_17 = (size - 1) → (((size - 1) ≤ x2 → (wJ2_fastRemove_34 Q x3_17 modCount_7 size f)) ∧ (¬ (size - 1) ≤ x2 → (¬ (x2 + 1) < 0 ∧ (¬ x2 < 0 ∧ (¬ (x3_17 - x2) < 0 ∧ (((x2 + 1) : Int32).toNatClampNeg + ((x3_17 - x2) : Int32).toNatClampNeg ≤ 10 ∧ ((x2 : Int32).toNatClampNeg + ((x3_17 - x2) : Int32).toNatClampNeg ≤ 10 ∧ (wJ2_fastRemove_34 Q x3_17 modCount_7 size (va_cpy f f ((x2 + 1) : Int32).toNatClampNeg (x2 : Int32).toNatClampNeg ((x3_17 - x2) : Int32).toNatClampNeg)))))))))))
end
set_option maxHeartbeats 4000000 in
set_option maxRecDepth 100000 in
theorem metJ2_fastRemove (l : Launch) {Q : (Int32) → (Int32) → (Nat → Option Nat) → Prop} {mc : Int32} {size : Int32} {f : (Nat → Option Nat)} {x2 : Int32} {dC : Nat → ClassId} {dI : Nat → Nat → Nat} {dA : Nat → ClassId} {eA mi sz : Nat} {la ea : Nat} (hf : wJ2_fastRemove Q mc size f x2) : Met l yJ2_fastRemove (ws_ yJ2_fastRemove cJ2_fastRemove 4 none) rmJ2_fastRemove (aPv dC dI dA eA mi sz [.ref la, .ref ea, .int x2] [(la, .inr (11, [.int mc, .ref ea, .int size])), (ea, .inl (dA 4, 10, .inr (.inr (.inr (.inr f)))))] f) (va_Qv (fun (u : Int32 × Int32 × (Nat → Option Nat)) => Q u.1 u.2.1 u.2.2) (aB dC dI [(la, .inr (11, [.int mc, .ref ea, .int size])), (ea, .inl (dA 4, 10, .inr (.inr (.inr (.inr f)))))] sz (fun u => [(la, .inr (11, [.int u.1, .ref ea, .int u.2.1])), (ea, .inl (dA 4, 10, .inr (.inr (.inr (.inr u.2.2)))))])) (va_A [(la, .inr (11, [.int mc, .ref ea, .int size])), (ea, .inl (dA 4, 10, .inr (.inr (.inr (.inr f)))))] sz)) 0 0 (va_A [(la, .inr (11, [.int mc, .ref ea, .int size])), (ea, .inl (dA 4, 10, .inr (.inr (.inr (.inr f)))))] sz) := by
  refine Met.ofW (cc := cJ2_fastRemove) (maxL := 4) (ret := none) (by decide) rfl ?_
  intro p e s m args below meth c s₁ B hml hv
  obtain ⟨rfl, hsz, hP, hK, hD0, hE, hV⟩ := hv
  subst hsz
  have hx := B.exec
  have hb := B.bytes
  have hr := B.returns
  have hts := atoms_spec (ws := (ws_ yJ2_fastRemove cJ2_fastRemove 4 none)) B.pre
  have hts : ∀ w ∈ lw_all, w.before _ s = true := fun w h => hts w (List.mem_cons_of_mem _ h)
  have hown : s.vm.findClass RJ2 = some m.cls := findClass_of_methodNamed B.named
  have hlocks := B.notSynchronized
  have S : CallFix p m c cJ2_fastRemove 4 s _ lw_all RJ2 := ⟨hx, hb, hml, hown, hts⟩
  have hD := hD0.self (sz := s.heap.size)
  have hA : ∀ q : Nat, s.heap.size ≤ q → va_A [(la, .inr (11, [.int mc, .ref ea, .int size])), (ea, .inl (dA 4, 10, .inr (.inr (.inr (.inr f)))))] s.heap.size q := fun q h => Or.inr h
  have hS : va_S (va_A [(la, .inr (11, [.int mc, .ref ea, .int size])), (ea, .inl (dA 4, 10, .inr (.inr (.inr (.inr f)))))] s.heap.size) s.heap s.heap [] := va_S.rf
  have hl := lv_entry ([.ref la, .ref ea, .int x2]) (n := 4) (Nat.le_of_ble_eq_true rfl)
  rw [lg_entry_eq]
  generalize (lg_sl ([.ref la, .ref ea, .int x2]) ++ List.replicate (4 - (lg_sl ([.ref la, .ref ea, .int x2])).length) Slot.unset).toArray = ls at hl ⊢
  replace hl : lv_has ls 4 [(0, .ref la), (1, .ref ea), (2, .int x2)] := hl
  have hret : hrJ2_fastRemove p l e s m ([.ref la, .ref ea, .int x2] : List Value).toArray below meth c dC dI dA (va_A [(la, .inr (11, [.int mc, .ref ea, .int size])), (ea, .inl (dA 4, 10, .inr (.inr (.inr (.inr f)))))] s.heap.size) la ea (MQ below (va_Qv (fun (u : Int32 × Int32 × (Nat → Option Nat)) => Q u.1 u.2.1 u.2.2) (aB dC dI [(la, .inr (11, [.int mc, .ref ea, .int size])), (ea, .inl (dA 4, 10, .inr (.inr (.inr (.inr f)))))] s.heap.size (fun u => [(la, .inr (11, [.int u.1, .ref ea, .int u.2.1])), (ea, .inl (dA 4, 10, .inr (.inr (.inr (.inr u.2.2)))))])) (va_A [(la, .inr (11, [.int mc, .ref ea, .int size])), (ea, .inl (dA 4, 10, .inr (.inr (.inr (.inr f)))))] s.heap.size)) ([.ref la, .ref ea, .int x2] : List Value).toArray s 0 0 (va_A [(la, .inr (11, [.int mc, .ref ea, .int size])), (ea, .inl (dA 4, 10, .inr (.inr (.inr (.inr f)))))] s.heap.size)) Q := fun mc size f H locs kc ks pc ls h1 h2 hq hP hD hS hd => W.widen (k := 0) (n := 0) h1 h2 (W.vret hx hb hr (fun t ht hW => ⟨⟨(mc, size, f), rfl, hq, by subst ht; exact ⟨hP, hD⟩⟩, hS.F ht⟩) hS.2.2 hd)
  generalize hAe : va_A [(la, .inr (11, [.int mc, .ref ea, .int size])), (ea, .inl (dA 4, 10, .inr (.inr (.inr (.inr f)))))] s.heap.size = A at hD hA hS hE hret hV ⊢
  clear hAe
  unfold wJ2_fastRemove at hf
  refine lv_aload_n hx hb dJ2_fastRemove_0 rfl (lv_at hl 0 rfl) ?_
  refine lv_dup hx hb dJ2_fastRemove_1 rfl ?_
  refine va_get (D := (dC, dI)) (ci := 11) (v := .int mc) (C := RJ2) (T := TJ2) (N := 3) hx hb hts in_J2 hown hK hP 0 rfl rfl 0 (by decide) (hts _ q386) (fun x9 h9 => u_same (hts _ q387) x9 h9) rfl dJ2_fastRemove_2 ?_
  refine lv_iconst (v := 1) hx hb dJ2_fastRemove_5 (by decide) ?_
  refine lv_iadd hx hb dJ2_fastRemove_6 ?_
  refine lv_topi (fun modCount_7 emodCount_7 => ?_)
  replace hf := hf modCount_7 emodCount_7
  refine va_put (D := (dC, dI)) (ci := 11) (v := .int modCount_7) (ty := .int) (C := RJ2) (T := TJ2) (N := 3) hx hb hts in_J2 tyJ2 tyJ2_ok nmJ2 hown hK hP hD hS 0 rfl rfl 0 (by decide) (hts _ q386) (fun x9 h9 => u_same (hts _ q387) x9 h9) rfl (by decide +kernel) rfl rfl (Nat.le_of_ble_eq_true rfl) dJ2_fastRemove_7 (fun H locs hP hD hS => ?_)
  replace hP : va_P (dC, dI) vwCl [(la, .inr (11, [.int modCount_7, .ref ea, .int size])), (ea, .inl (dA 4, 10, .inr (.inr (.inr (.inr f)))))] H := hP
  replace hD : va_D A [(la, .inr (11, [.int modCount_7, .ref ea, .int size])), (ea, .inl (dA 4, 10, .inr (.inr (.inr (.inr f)))))] := hD
  refine lv_aload_n hx hb dJ2_fastRemove_10 rfl (lv_at hl 0 rfl) ?_
  refine va_get (D := (dC, dI)) (ci := 11) (v := .int size) (C := RJ2) (T := TJ2) (N := 3) hx hb hts in_J2 hown hK hP 0 rfl rfl 2 (by decide) (hts _ q384) (fun _ h9 => h9) rfl dJ2_fastRemove_11 ?_
  refine lv_iconst (v := 1) hx hb dJ2_fastRemove_14 (by decide) ?_
  refine lv_isub hx hb dJ2_fastRemove_15 ?_
  refine lv_dup hx hb dJ2_fastRemove_16 rfl ?_
  refine lv_topi (fun x3_17 ex3_17 => ?_)
  replace hf := hf x3_17 ex3_17
  refine lv_istore_n (lv' := [(3, .int x3_17), (0, .ref la), (1, .ref ea), (2, .int x2)]) hx hb dJ2_fastRemove_17 rfl hl (by decide) rfl (fun ls hl => ?_)
  refine lv_iload_n hx hb dJ2_fastRemove_18 rfl (lv_at hl 3 rfl) ?_
  refine lv_icmp_le (tgt := 34) hx hb dJ2_fastRemove_19 (by decide) (fun c_19 => ?_) (fun c_19 => ?_)
  · replace hf := hf.1 c_19
    exact tJ2_fastRemove_34 S hK hE hA hret x3_17 modCount_7 size f _ _ _ hf (hP.sub [0, 1] rfl) (hD.sub [0, 1] (by decide) rfl) hS (lv_sub hl [1, 2, 0] rfl)
  · replace hf := hf.2 c_19
    refine lv_aload_n hx hb dJ2_fastRemove_22 rfl (lv_at hl 2 rfl) ?_
    refine lv_iload_n hx hb dJ2_fastRemove_23 rfl (lv_at hl 3 rfl) ?_
    refine lv_iconst (v := 1) hx hb dJ2_fastRemove_24 (by decide) ?_
    refine lv_iadd hx hb dJ2_fastRemove_25 ?_
    refine lv_aload_n hx hb dJ2_fastRemove_26 rfl (lv_at hl 2 rfl) ?_
    refine lv_iload_n hx hb dJ2_fastRemove_27 rfl (lv_at hl 3 rfl) ?_
    refine lv_iload_n hx hb dJ2_fastRemove_28 rfl (lv_at hl 0 rfl) ?_
    refine lv_iload_n hx hb dJ2_fastRemove_29 rfl (lv_at hl 3 rfl) ?_
    refine lv_isub hx hb dJ2_fastRemove_30 ?_
    obtain ⟨ha_31_0, hf⟩ := hf
    obtain ⟨ha_31_1, hf⟩ := hf
    obtain ⟨ha_31_2, hf⟩ := hf
    obtain ⟨ha_31_3, hf⟩ := hf
    obtain ⟨ha_31_4, hf⟩ := hf
    refine va_copyM hx hb (hml.trans hl.1.symm) hown (hts _ q146) (hts _ q148) (hts _ q147) (hts _ q64) hK hP hD hS 1 1 4 4 rfl rfl rfl rfl ha_31_0 ha_31_1 ha_31_2 ha_31_3 ha_31_4 (fun _ _ _ hy => hV.now hS hy) (Nat.le_of_ble_eq_true rfl) (Nat.le_of_ble_eq_true rfl) dJ2_fastRemove_31 (fun H locs hP hD hS => ?_)
    replace hP : va_P (dC, dI) vwCl [(la, .inr (11, [.int modCount_7, .ref ea, .int size])), (ea, .inl (dA 4, 10, .inr (.inr (.inr (.inr (va_cpy f f ((x2 + 1) : Int32).toNatClampNeg (x2 : Int32).toNatClampNeg ((x3_17 - x2) : Int32).toNatClampNeg))))))] H := hP
    replace hD : va_D A [(la, .inr (11, [.int modCount_7, .ref ea, .int size])), (ea, .inl (dA 4, 10, .inr (.inr (.inr (.inr (va_cpy f f ((x2 + 1) : Int32).toNatClampNeg (x2 : Int32).toNatClampNeg ((x3_17 - x2) : Int32).toNatClampNeg))))))] := hD
    exact tJ2_fastRemove_34 S hK hE hA hret x3_17 modCount_7 size (va_cpy f f ((x2 + 1) : Int32).toNatClampNeg (x2 : Int32).toNatClampNeg ((x3_17 - x2) : Int32).toNatClampNeg) _ _ _ hf (hP.sub [0, 1] rfl) (hD.sub [0, 1] (by decide) rfl) hS (lv_sub hl [1, 2, 0] rfl)
/-! java/util/ArrayList.remove(I)Ljava/lang/Object; -/
theorem pdJ2_remove : DscOk yJ2_remove 1 := by decide +kernel
abbrev rmJ2_remove : Room := { frames := 2, cells := 0, slots := 0, locals := 63 }
abbrev RJ2_remove_ : Room := (headSpec (ws_ yJ2_remove cJ2_remove 4 (some (.object "java/lang/Object"))) rmJ2_remove).room
section
variable {p : Program} {l : Launch} {e : Env} {s : State} {m : MethodId} {args : Array Value} {below : List Frame} {meth : Method} {c : Code} {Qw : State → Prop} {dC : Nat → ClassId} {dI : Nat → Nat → Nat} {dA : Nat → ClassId} {eA mi : Nat} {A : Nat → Prop} {la ea : Nat}
abbrev hrJ2_remove (p : Program) (l : Launch) (e : Env) (s : State) (m : MethodId) (args : Array Value) (below : List Frame) (meth : Method) (c : Code) (dC : Nat → ClassId) (dI : Nat → Nat → Nat) (dA : Nat → ClassId) (A : Nat → Prop) (la : Nat) (ea : Nat) (Qw : State → Prop) (Q : Option Nat → (Int32) → (Int32) → (Nat → Option Nat) → Prop) : Prop := ∀ (r : Option Nat) (mc : Int32) (size : Int32) (f : (Nat → Option Nat)) (H : Heap) (locs : List Loc) (kc ks : Nat) (pc : Nat) (ls : Array Slot), kc ≤ 0 → ks ≤ 0 → Q r mc size f → va_P (dC, dI) vwCl [(la, .inr (11, [.int mc, .ref ea, .int size])), (ea, .inl (dA 4, 10, .inr (.inr (.inr (.inr f)))))] H → va_D A [(la, .inr (11, [.int mc, .ref ea, .int size])), (ea, .inl (dA 4, 10, .inr (.inr (.inr (.inr f)))))] → va_S A s.heap H locs → decode cJ2_remove pc = .ok (.areturn, 1) → W p l e RJ2_remove_ s m args below meth c H locs kc ks Qw (F0 m pc ls [va_rf r])
def wJ2_remove (Q : Option Nat → (Int32) → (Int32) → (Nat → Option Nat) → Prop) (mc : Int32) (size : Int32) (f : (Nat → Option Nat)) (x1 : Int32) : Prop := (wJ3_checkIndex (fun r_5 => (vp_in x1 10 ∧ (f (x1 : Int32).toNatClampNeg).isSome = true ∧ (wJ2_fastRemove (fun mc_21 size_21 f_21 => (Q (f (x1 : Int32).toNatClampNeg) mc_21 size_21 f_21)) mc size f x1))) x1 size)
end
set_option maxHeartbeats 4000000 in
set_option maxRecDepth 100000 in
theorem metJ2_remove (l : Launch) {Q : Option Nat → (Int32) → (Int32) → (Nat → Option Nat) → Prop} {mc : Int32} {size : Int32} {f : (Nat → Option Nat)} {x1 : Int32} {dC : Nat → ClassId} {dI : Nat → Nat → Nat} {dA : Nat → ClassId} {eA mi sz : Nat} {la ea : Nat} (hf : wJ2_remove Q mc size f x1) : Met l yJ2_remove (ws_ yJ2_remove cJ2_remove 4 (some (.object "java/lang/Object"))) rmJ2_remove (aPv dC dI dA eA mi sz [.ref la, .int x1] [(la, .inr (11, [.int mc, .ref ea, .int size])), (ea, .inl (dA 4, 10, .inr (.inr (.inr (.inr f)))))] f) (va_Qq (fun (r : Option Nat) (u : Int32 × Int32 × (Nat → Option Nat)) => Q r u.1 u.2.1 u.2.2) (aB dC dI [(la, .inr (11, [.int mc, .ref ea, .int size])), (ea, .inl (dA 4, 10, .inr (.inr (.inr (.inr f)))))] sz (fun u => [(la, .inr (11, [.int u.1, .ref ea, .int u.2.1])), (ea, .inl (dA 4, 10, .inr (.inr (.inr (.inr u.2.2)))))])) (va_A [(la, .inr (11, [.int mc, .ref ea, .int size])), (ea, .inl (dA 4, 10, .inr (.inr (.inr (.inr f)))))] sz)) 0 0 (va_A [(la, .inr (11, [.int mc, .ref ea, .int size])), (ea, .inl (dA 4, 10, .inr (.inr (.inr (.inr f)))))] sz) := by
  refine Met.ofW (cc := cJ2_remove) (maxL := 4) (ret := (some (.object "java/lang/Object"))) (by decide) rfl ?_
  intro p e s m args below meth c s₁ B hml hv
  obtain ⟨rfl, hsz, hP, hK, hD0, hE, hV⟩ := hv
  subst hsz
  have hx := B.exec
  have hb := B.bytes
  have hr := B.returns
  have hts := atoms_spec (ws := (ws_ yJ2_remove cJ2_remove 4 (some (.object "java/lang/Object")))) B.pre
  have hts : ∀ w ∈ lw_all, w.before _ s = true := fun w h => hts w (List.mem_cons_of_mem _ h)
  have hown : s.vm.findClass RJ2 = some m.cls := findClass_of_methodNamed B.named
  have hlocks := B.notSynchronized
  have S : CallFix p m c cJ2_remove 4 s _ lw_all RJ2 := ⟨hx, hb, hml, hown, hts⟩
  have hD := hD0.self (sz := s.heap.size)
  have hA : ∀ q : Nat, s.heap.size ≤ q → va_A [(la, .inr (11, [.int mc, .ref ea, .int size])), (ea, .inl (dA 4, 10, .inr (.inr (.inr (.inr f)))))] s.heap.size q := fun q h => Or.inr h
  have hS : va_S (va_A [(la, .inr (11, [.int mc, .ref ea, .int size])), (ea, .inl (dA 4, 10, .inr (.inr (.inr (.inr f)))))] s.heap.size) s.heap s.heap [] := va_S.rf
  have hl := lv_entry ([.ref la, .int x1]) (n := 4) (Nat.le_of_ble_eq_true rfl)
  rw [lg_entry_eq]
  generalize (lg_sl ([.ref la, .int x1]) ++ List.replicate (4 - (lg_sl ([.ref la, .int x1])).length) Slot.unset).toArray = ls at hl ⊢
  replace hl : lv_has ls 4 [(0, .ref la), (1, .int x1)] := hl
  have hret : hrJ2_remove p l e s m ([.ref la, .int x1] : List Value).toArray below meth c dC dI dA (va_A [(la, .inr (11, [.int mc, .ref ea, .int size])), (ea, .inl (dA 4, 10, .inr (.inr (.inr (.inr f)))))] s.heap.size) la ea (MQ below (va_Qq (fun (r : Option Nat) (u : Int32 × Int32 × (Nat → Option Nat)) => Q r u.1 u.2.1 u.2.2) (aB dC dI [(la, .inr (11, [.int mc, .ref ea, .int size])), (ea, .inl (dA 4, 10, .inr (.inr (.inr (.inr f)))))] s.heap.size (fun u => [(la, .inr (11, [.int u.1, .ref ea, .int u.2.1])), (ea, .inl (dA 4, 10, .inr (.inr (.inr (.inr u.2.2)))))])) (va_A [(la, .inr (11, [.int mc, .ref ea, .int size])), (ea, .inl (dA 4, 10, .inr (.inr (.inr (.inr f)))))] s.heap.size)) ([.ref la, .int x1] : List Value).toArray s 0 0 (va_A [(la, .inr (11, [.int mc, .ref ea, .int size])), (ea, .inl (dA 4, 10, .inr (.inr (.inr (.inr f)))))] s.heap.size)) Q := fun r mc size f H locs kc ks pc ls h1 h2 hq hP hD hS hd => W.widen (k := 0) (n := 0) h1 h2 (W.aret hx hb hr (Or.inl ⟨_, rfl⟩) (va_rf_or r) (fun t ht hW => ⟨⟨r, (mc, size, f), rfl, hq, by subst ht; exact ⟨hP, hD⟩⟩, hS.F ht⟩) hS.2.2 hd)
  generalize hAe : va_A [(la, .inr (11, [.int mc, .ref ea, .int size])), (ea, .inl (dA 4, 10, .inr (.inr (.inr (.inr f)))))] s.heap.size = A at hD hA hS hE hret hV ⊢
  clear hAe
  unfold wJ2_remove at hf
  refine lv_iload_n hx hb dJ2_remove_0 rfl (lv_at hl 1 rfl) ?_
  refine lv_aload_n hx hb dJ2_remove_1 rfl (lv_at hl 0 rfl) ?_
  refine va_get (D := (dC, dI)) (ci := 11) (v := .int size) (C := RJ2) (T := TJ2) (N := 3) hx hb hts in_J2 hown hK hP 0 rfl rfl 2 (by decide) (hts _ q384) (fun _ h9 => h9) rfl dJ2_remove_2 ?_
  refine cs_i (As := [.int x1, .int size]) (rest := []) S (metJ3_checkIndex l hf) (lw_S q135 q136 q62 q137) pdJ3_checkIndex ⟨rfl, rfl⟩ ⟨Nat.le_of_ble_eq_true rfl, Nat.le_of_ble_eq_true rfl⟩ rfl hl.1 rfl (Nat.le_of_ble_eq_true rfl) dJ2_remove_5 ⟨Nat.zero_le _, Nat.zero_le _⟩ (fun r_5 hf => ?_)
  refine lv_pop hx hb dJ2_remove_8 rfl ?_
  refine lv_aload_n hx hb dJ2_remove_9 rfl (lv_at hl 0 rfl) ?_
  refine va_get (D := (dC, dI)) (ci := 11) (v := .ref ea) (C := RJ2) (T := TJ2) (N := 3) hx hb hts in_J2 hown hK hP 0 rfl rfl 1 (by decide) (hts _ q383) (fun _ h9 => h9) rfl dJ2_remove_10 ?_
  refine lv_astore_n (lv' := [(2, .ref ea), (0, .ref la), (1, .int x1)]) hx hb dJ2_remove_13 rfl hl (by decide) rfl (fun ls hl => ?_)
  refine lv_aload_n hx hb dJ2_remove_14 rfl (lv_at hl 0 rfl) ?_
  refine lv_iload_n hx hb dJ2_remove_15 rfl (lv_at hl 2 rfl) ?_
  obtain ⟨hin, hsome, hf⟩ := hf
  refine va_aldq hx hb hK hP 1 4 rfl rfl hin dJ2_remove_16 ?_
  obtain ⟨y_16, ey_16⟩ := Option.isSome_iff_exists.mp hsome
  rw [ey_16]
  refine W.eq (g2 := F0 m 17 ls (.ref y_16 :: [])) rfl ?_
  refine lv_astore_n (lv' := [(3, .ref y_16), (2, .ref ea), (0, .ref la), (1, .int x1)]) hx hb dJ2_remove_17 rfl hl (by decide) rfl (fun ls hl => ?_)
  refine lv_aload_n hx hb dJ2_remove_18 rfl (lv_at hl 2 rfl) ?_
  refine lv_aload_n hx hb dJ2_remove_19 rfl (lv_at hl 1 rfl) ?_
  refine lv_iload_n hx hb dJ2_remove_20 rfl (lv_at hl 3 rfl) ?_
  refine aC_v (wr := []) hP hD hS hA [0, 1] [] rfl rfl (by decide) (by decide) (va_runV (As := [.ref ea, .int x1]) (rest := []) S (metJ2_fastRemove l hf) (cwV 2 hts (lw_V q141 q143 qs0 q58 q145) rfl rfl rfl ⟨rfl, pdJ2_fastRemove⟩ ⟨Nat.le_of_ble_eq_true rfl, Nat.le_of_ble_eq_true rfl⟩) ⟨ablindV, va_recv hK hP (ci := 11) (q0 := 0) rfl rfl, (apreV hK hE hV hP hD hS hA [0, 1] rfl rfl (by decide)).2⟩ rfl rfl hl.1 rfl (lv_room (Nat.le_of_ble_eq_true rfl)) dJ2_remove_21 ⟨(Nat.zero_le _), (Nat.zero_le _)⟩) (fun u_21 H locs hf hP hD hS => ?_)
  obtain ⟨mc_21, size_21, f_21⟩ := u_21
  replace hP : va_P (dC, dI) vwCl [(la, .inr (11, [.int mc_21, .ref ea, .int size_21])), (ea, .inl (dA 4, 10, .inr (.inr (.inr (.inr f_21)))))] H := hP
  replace hD : va_D A [(la, .inr (11, [.int mc_21, .ref ea, .int size_21])), (ea, .inl (dA 4, 10, .inr (.inr (.inr (.inr f_21)))))] := hD
  try dsimp only at hf
  refine lv_aload_n hx hb dJ2_remove_24 rfl (lv_at hl 0 rfl) ?_
  rw [show (Value.ref y_16) = va_rf (f (x1 : Int32).toNatClampNeg) by rw [ey_16]; rfl]
  exact hret _ _ _ _ _ _ _ _ _ _ (Nat.zero_le _) (Nat.zero_le _) hf (hP.sub [0, 1] rfl) (hD.sub [0, 1] (by decide) rfl) hS dJ2_remove_25
/-! java/util/ArrayList.clear()V -/
theorem pdJ2_clear : DscOk yJ2_clear 0 := by decide +kernel
abbrev rmJ2_clear : Room := { frames := 0, cells := 0, slots := 0, locals := 0 }
abbrev RJ2_clear_ : Room := (headSpec (ws_ yJ2_clear cJ2_clear 4 none) rmJ2_clear).room
section
variable {p : Program} {l : Launch} {e : Env} {s : State} {m : MethodId} {args : Array Value} {below : List Frame} {meth : Method} {c : Code} {Qw : State → Prop} {dC : Nat → ClassId} {dI : Nat → Nat → Nat} {dA : Nat → ClassId} {eA mi : Nat} {A : Nat → Prop} {la ea : Nat}
abbrev hrJ2_clear (p : Program) (l : Launch) (e : Env) (s : State) (m : MethodId) (args : Array Value) (below : List Frame) (meth : Method) (c : Code) (dC : Nat → ClassId) (dI : Nat → Nat → Nat) (dA : Nat → ClassId) (A : Nat → Prop) (la : Nat) (ea : Nat) (Qw : State → Prop) (Q : (Int32) → (Int32) → (Nat → Option Nat) → Prop) : Prop := ∀ (mc : Int32) (size : Int32) (f : (Nat → Option Nat)) (H : Heap) (locs : List Loc) (kc ks : Nat) (pc : Nat) (ls : Array Slot), kc ≤ 0 → ks ≤ 0 → Q mc size f → va_P (dC, dI) vwCl [(la, .inr (11, [.int mc, .ref ea, .int size])), (ea, .inl (dA 4, 10, .inr (.inr (.inr (.inr f)))))] H → va_D A [(la, .inr (11, [.int mc, .ref ea, .int size])), (ea, .inl (dA 4, 10, .inr (.inr (.inr (.inr f)))))] → va_S A s.heap H locs → decode cJ2_clear pc = .ok (.return_, 1) → W p l e RJ2_clear_ s m args below meth c H locs kc ks Qw (F0 m pc ls [])
def wJ2_clear_27 (Q : (Int32) → (Int32) → (Nat → Option Nat) → Prop) (x2 : Int32) (mc : Int32) (size : Int32) : Nat → Int32 → (Nat → Option Nat) → Prop
  | 0, _, _ => False
  | n + 1, x3, f => ((x2 ≤ x3 → (Q mc size f)) ∧ (¬ x2 ≤ x3 → (vp_in x3 10 ∧ (∀ x3_36 : Int32, x3_36 = x3 + 1 → ((wJ2_clear_27 Q x2 mc size n) x3_36 (va_up f (x3 : Int32).toNatClampNeg none))))))
set_option maxHeartbeats 4000000 in
set_option maxRecDepth 100000 in
theorem tJ2_clear_27 {Q : (Int32) → (Int32) → (Nat → Option Nat) → Prop} {x2 : Int32} {mc : Int32} {size : Int32} (S : CallFix p m c cJ2_clear 4 s args lw_all RJ2) (hK : va_K (dC, dI) vwCl (tysG dA) s) (hE : EG A eA mi s s.heap) (hA : ∀ q, s.heap.size ≤ q → A q) (hret : hrJ2_clear p l e s m args below meth c dC dI dA A la ea Qw Q) : ∀ (n : Nat) (x3 : Int32) (f : (Nat → Option Nat)) (H : Heap) (locs : List Loc) (ls : Array Slot), wJ2_clear_27 Q x2 mc size n x3 f → va_P (dC, dI) vwCl [(la, .inr (11, [.int mc, .ref ea, .int size])), (ea, .inl (dA 4, 10, .inr (.inr (.inr (.inr f)))))] H → va_D A [(la, .inr (11, [.int mc, .ref ea, .int size])), (ea, .inl (dA 4, 10, .inr (.inr (.inr (.inr f)))))] → va_S A s.heap H locs → lv_has ls 4 [(1, .ref ea), (2, .int x2), (3, .int x3)] → W p l e RJ2_clear_ s m args below meth c H locs 0 0 Qw (F0 m 27 ls []) := by
  obtain ⟨hx, hb, hml, hown, hts⟩ := id S
  intro n
  induction n with
  | zero => intro _ _ _ _ _ hf; exact hf.elim
  | succ n ih =>
    intro x3 f H locs ls hf hP hD hS hl
    rw [wJ2_clear_27] at hf
    refine lv_iload_n hx hb dJ2_clear_27 rfl (lv_at hl 2 rfl) ?_
    refine lv_iload_n hx hb dJ2_clear_28 rfl (lv_at hl 1 rfl) ?_
    refine lv_icmp_ge (tgt := 42) hx hb dJ2_clear_29 (by decide) (fun c_29 => ?_) (fun c_29 => ?_)
    · replace hf := hf.1 c_29
      exact hret _ _ _ _ _ _ _ _ _ (Nat.zero_le _) (Nat.zero_le _) hf (hP.sub [0, 1] rfl) (hD.sub [0, 1] (by decide) rfl) hS dJ2_clear_42
    · replace hf := hf.2 c_29
      refine lv_aload_n hx hb dJ2_clear_32 rfl (lv_at hl 0 rfl) ?_
      refine lv_iload_n hx hb dJ2_clear_33 rfl (lv_at hl 2 rfl) ?_
      refine lv_null hx hb dJ2_clear_34 ?_
      obtain ⟨hin_, hf⟩ := hf
      refine va_astqN hx hb hK hP hD hS 1 4 rfl rfl hin_ dJ2_clear_35 (fun H locs hP hD hS => ?_)
      replace hP : va_P (dC, dI) vwCl [(la, .inr (11, [.int mc, .ref ea, .int size])), (ea, .inl (dA 4, 10, .inr (.inr (.inr (.inr (va_up f (x3 : Int32).toNatClampNeg none))))))] H := hP
      replace hD : va_D A [(la, .inr (11, [.int mc, .ref ea, .int size])), (ea, .inl (dA 4, 10, .inr (.inr (.inr (.inr (va_up f (x3 : Int32).toNatClampNeg none))))))] := hD
      obtain ⟨x3_36, ex3_36⟩ : ∃ z : Int32, z = x3 + 1 := ⟨_, rfl⟩
      replace hf := hf x3_36 ex3_36
      refine lv_iinc (v := x3_36) (lv' := [(3, .int x3_36), (1, .ref ea), (2, .int x2)]) hx hb dJ2_clear_36 hl (k := 2) rfl (by rw [ex3_36]; rfl) (by decide) rfl (fun ls hl => ?_)
      refine lv_goto (tgt := 27) hx hb dJ2_clear_39 (by decide) ?_
      exact ih x3_36 (va_up f (x3 : Int32).toNatClampNeg none) _ _ _ hf (hP.sub [0, 1] rfl) (hD.sub [0, 1] (by decide) rfl) hS (lv_sub hl [1, 2, 0] rfl)
def wJ2_clear (Q : (Int32) → (Int32) → (Nat → Option Nat) → Prop) (mc : Int32) (size : Int32) (f : (Nat → Option Nat)) : Prop := (∀ modCount_7 : Int32, modCount_7 = (mc + 1) → (∃ fu : Nat, wJ2_clear_27 Q size modCount_7 0 fu 0 f))
end
set_option maxHeartbeats 4000000 in
set_option maxRecDepth 100000 in
theorem metJ2_clear (l : Launch) {Q : (Int32) → (Int32) → (Nat → Option Nat) → Prop} {mc : Int32} {size : Int32} {f : (Nat → Option Nat)} {dC : Nat → ClassId} {dI : Nat → Nat → Nat} {dA : Nat → ClassId} {eA mi sz : Nat} {la ea : Nat} (hf : wJ2_clear Q mc size f) : Met l yJ2_clear (ws_ yJ2_clear cJ2_clear 4 none) rmJ2_clear (aPc dC dI dA eA mi sz [.ref la] [(la, .inr (11, [.int mc, .ref ea, .int size])), (ea, .inl (dA 4, 10, .inr (.inr (.inr (.inr f)))))]) (va_Qv (fun (u : Int32 × Int32 × (Nat → Option Nat)) => Q u.1 u.2.1 u.2.2) (aB dC dI [(la, .inr (11, [.int mc, .ref ea, .int size])), (ea, .inl (dA 4, 10, .inr (.inr (.inr (.inr f)))))] sz (fun u => [(la, .inr (11, [.int u.1, .ref ea, .int u.2.1])), (ea, .inl (dA 4, 10, .inr (.inr (.inr (.inr u.2.2)))))])) (va_A [(la, .inr (11, [.int mc, .ref ea, .int size])), (ea, .inl (dA 4, 10, .inr (.inr (.inr (.inr f)))))] sz)) 0 0 (va_A [(la, .inr (11, [.int mc, .ref ea, .int size])), (ea, .inl (dA 4, 10, .inr (.inr (.inr (.inr f)))))] sz) := by
  refine Met.ofW (cc := cJ2_clear) (maxL := 4) (ret := none) (by decide) rfl ?_
  intro p e s m args below meth c s₁ B hml hv
  obtain ⟨rfl, hsz, hP, hK, hD0, hE⟩ := hv
  subst hsz
  have hx := B.exec
  have hb := B.bytes
  have hr := B.returns
  have hts := atoms_spec (ws := (ws_ yJ2_clear cJ2_clear 4 none)) B.pre
  have hts : ∀ w ∈ lw_all, w.before _ s = true := fun w h => hts w (List.mem_cons_of_mem _ h)
  have hown : s.vm.findClass RJ2 = some m.cls := findClass_of_methodNamed B.named
  have hlocks := B.notSynchronized
  have S : CallFix p m c cJ2_clear 4 s _ lw_all RJ2 := ⟨hx, hb, hml, hown, hts⟩
  have hD := hD0.self (sz := s.heap.size)
  have hA : ∀ q : Nat, s.heap.size ≤ q → va_A [(la, .inr (11, [.int mc, .ref ea, .int size])), (ea, .inl (dA 4, 10, .inr (.inr (.inr (.inr f)))))] s.heap.size q := fun q h => Or.inr h
  have hS : va_S (va_A [(la, .inr (11, [.int mc, .ref ea, .int size])), (ea, .inl (dA 4, 10, .inr (.inr (.inr (.inr f)))))] s.heap.size) s.heap s.heap [] := va_S.rf
  have hl := lv_entry ([.ref la]) (n := 4) (Nat.le_of_ble_eq_true rfl)
  rw [lg_entry_eq]
  generalize (lg_sl ([.ref la]) ++ List.replicate (4 - (lg_sl ([.ref la])).length) Slot.unset).toArray = ls at hl ⊢
  replace hl : lv_has ls 4 [(0, .ref la)] := hl
  have hret : hrJ2_clear p l e s m ([.ref la] : List Value).toArray below meth c dC dI dA (va_A [(la, .inr (11, [.int mc, .ref ea, .int size])), (ea, .inl (dA 4, 10, .inr (.inr (.inr (.inr f)))))] s.heap.size) la ea (MQ below (va_Qv (fun (u : Int32 × Int32 × (Nat → Option Nat)) => Q u.1 u.2.1 u.2.2) (aB dC dI [(la, .inr (11, [.int mc, .ref ea, .int size])), (ea, .inl (dA 4, 10, .inr (.inr (.inr (.inr f)))))] s.heap.size (fun u => [(la, .inr (11, [.int u.1, .ref ea, .int u.2.1])), (ea, .inl (dA 4, 10, .inr (.inr (.inr (.inr u.2.2)))))])) (va_A [(la, .inr (11, [.int mc, .ref ea, .int size])), (ea, .inl (dA 4, 10, .inr (.inr (.inr (.inr f)))))] s.heap.size)) ([.ref la] : List Value).toArray s 0 0 (va_A [(la, .inr (11, [.int mc, .ref ea, .int size])), (ea, .inl (dA 4, 10, .inr (.inr (.inr (.inr f)))))] s.heap.size)) Q := fun mc size f H locs kc ks pc ls h1 h2 hq hP hD hS hd => W.widen (k := 0) (n := 0) h1 h2 (W.vret hx hb hr (fun t ht hW => ⟨⟨(mc, size, f), rfl, hq, by subst ht; exact ⟨hP, hD⟩⟩, hS.F ht⟩) hS.2.2 hd)
  generalize hAe : va_A [(la, .inr (11, [.int mc, .ref ea, .int size])), (ea, .inl (dA 4, 10, .inr (.inr (.inr (.inr f)))))] s.heap.size = A at hD hA hS hE hret ⊢
  clear hAe
  unfold wJ2_clear at hf
  refine lv_aload_n hx hb dJ2_clear_0 rfl (lv_at hl 0 rfl) ?_
  refine lv_dup hx hb dJ2_clear_1 rfl ?_
  refine va_get (D := (dC, dI)) (ci := 11) (v := .int mc) (C := RJ2) (T := TJ2) (N := 3) hx hb hts in_J2 hown hK hP 0 rfl rfl 0 (by decide) (hts _ q386) (fun x9 h9 => u_same (hts _ q387) x9 h9) rfl dJ2_clear_2 ?_
  refine lv_iconst (v := 1) hx hb dJ2_clear_5 (by decide) ?_
  refine lv_iadd hx hb dJ2_clear_6 ?_
  refine lv_topi (fun modCount_7 emodCount_7 => ?_)
  replace hf := hf modCount_7 emodCount_7
  refine va_put (D := (dC, dI)) (ci := 11) (v := .int modCount_7) (ty := .int) (C := RJ2) (T := TJ2) (N := 3) hx hb hts in_J2 tyJ2 tyJ2_ok nmJ2 hown hK hP hD hS 0 rfl rfl 0 (by decide) (hts _ q386) (fun x9 h9 => u_same (hts _ q387) x9 h9) rfl (by decide +kernel) rfl rfl (Nat.le_of_ble_eq_true rfl) dJ2_clear_7 (fun H locs hP hD hS => ?_)
  replace hP : va_P (dC, dI) vwCl [(la, .inr (11, [.int modCount_7, .ref ea, .int size])), (ea, .inl (dA 4, 10, .inr (.inr (.inr (.inr f)))))] H := hP
  replace hD : va_D A [(la, .inr (11, [.int modCount_7, .ref ea, .int size])), (ea, .inl (dA 4, 10, .inr (.inr (.inr (.inr f)))))] := hD
  refine lv_aload_n hx hb dJ2_clear_10 rfl (lv_at hl 0 rfl) ?_
  refine va_get (D := (dC, dI)) (ci := 11) (v := .ref ea) (C := RJ2) (T := TJ2) (N := 3) hx hb hts in_J2 hown hK hP 0 rfl rfl 1 (by decide) (hts _ q383) (fun _ h9 => h9) rfl dJ2_clear_11 ?_
  refine lv_astore_n (lv' := [(1, .ref ea), (0, .ref la)]) hx hb dJ2_clear_14 rfl hl (by decide) rfl (fun ls hl => ?_)
  refine lv_aload_n hx hb dJ2_clear_15 rfl (lv_at hl 1 rfl) ?_
  refine va_get (D := (dC, dI)) (ci := 11) (v := .int size) (C := RJ2) (T := TJ2) (N := 3) hx hb hts in_J2 hown hK hP 0 rfl rfl 2 (by decide) (hts _ q384) (fun _ h9 => h9) rfl dJ2_clear_16 ?_
  refine lv_istore_n (lv' := [(2, .int size), (1, .ref ea), (0, .ref la)]) hx hb dJ2_clear_19 rfl hl (by decide) rfl (fun ls hl => ?_)
  refine lv_aload_n hx hb dJ2_clear_20 rfl (lv_at hl 2 rfl) ?_
  refine lv_iconst (v := 0) hx hb dJ2_clear_21 (by decide) ?_
  refine lv_dup_x1 hx hb dJ2_clear_22 rfl rfl ?_
  refine va_put (D := (dC, dI)) (ci := 11) (v := .int 0) (ty := .int) (C := RJ2) (T := TJ2) (N := 3) hx hb hts in_J2 tyJ2 tyJ2_ok nmJ2 hown hK hP hD hS 0 rfl rfl 2 (by decide) (hts _ q384) (fun _ h9 => h9) rfl (by decide +kernel) rfl rfl (Nat.le_of_ble_eq_true rfl) dJ2_clear_23 (fun H locs hP hD hS => ?_)
  replace hP : va_P (dC, dI) vwCl [(la, .inr (11, [.int modCount_7, .ref ea, .int 0])), (ea, .inl (dA 4, 10, .inr (.inr (.inr (.inr f)))))] H := hP
  replace hD : va_D A [(la, .inr (11, [.int modCount_7, .ref ea, .int 0])), (ea, .inl (dA 4, 10, .inr (.inr (.inr (.inr f)))))] := hD
  refine lv_istore_n (lv' := [(3, .int 0), (2, .int size), (1, .ref ea), (0, .ref la)]) hx hb dJ2_clear_26 rfl hl (by decide) rfl (fun ls hl => ?_)
  obtain ⟨fu, hf⟩ := hf
  exact tJ2_clear_27 S hK hE hA hret fu 0 f _ _ _ hf (hP.sub [0, 1] rfl) (hD.sub [0, 1] (by decide) rfl) hS (lv_sub hl [2, 1, 0] rfl)
/-! java/util/ArrayList.clear()V -/
abbrev rmJ2_clear_e : Room := { frames := 0, cells := 0, slots := 0, locals := 0 }
abbrev RJ2_clear_e_ : Room := (headSpec (ws_ yJ2_clear cJ2_clear 4 none) rmJ2_clear_e).room
section
variable {p : Program} {l : Launch} {e : Env} {s : State} {m : MethodId} {args : Array Value} {below : List Frame} {meth : Method} {c : Code} {Qw : State → Prop} {dC : Nat → ClassId} {dI : Nat → Nat → Nat} {dA : Nat → ClassId} {eA mi : Nat} {A : Nat → Prop} {la : Nat}
abbrev hrJ2_clear_e (p : Program) (l : Launch) (e : Env) (s : State) (m : MethodId) (args : Array Value) (below : List Frame) (meth : Method) (c : Code) (dC : Nat → ClassId) (dI : Nat → Nat → Nat) (dA : Nat → ClassId) (A : Nat → Prop) (la : Nat) (Qw : State → Prop) (Q : (Int32) → (Int32) → Prop) : Prop := ∀ (mc : Int32) (size : Int32) (H : Heap) (locs : List Loc) (kc ks : Nat) (pc : Nat) (ls : Array Slot), kc ≤ 0 → ks ≤ 0 → Q mc size → va_P (dC, dI) vwCl [(la, .inr (11, [.int mc, .ref eA, .int size]))] H → va_D A [(la, .inr (11, [.int mc, .ref eA, .int size]))] → va_S A s.heap H locs → decode cJ2_clear pc = .ok (.return_, 1) → W p l e RJ2_clear_e_ s m args below meth c H locs kc ks Qw (F0 m pc ls [])
def wJ2_clear_e (Q : (Int32) → (Int32) → Prop) (mc : Int32) (size : Int32) : Prop := (∀ modCount_7 : Int32, modCount_7 = (mc + 1) → ((size ≤ 0 → (Q modCount_7 0)) ∧ (¬ size ≤ 0 → False)))
end
set_option maxHeartbeats 4000000 in
set_option maxRecDepth 100000 in
theorem metJ2_clear_e (l : Launch) {Q : (Int32) → (Int32) → Prop} {mc : Int32} {size : Int32} {dC : Nat → ClassId} {dI : Nat → Nat → Nat} {dA : Nat → ClassId} {eA mi sz : Nat} {la : Nat} (hf : wJ2_clear_e Q mc size) : Met l yJ2_clear (ws_ yJ2_clear cJ2_clear 4 none) rmJ2_clear_e (aPc dC dI dA eA mi sz [.ref la] [(la, .inr (11, [.int mc, .ref eA, .int size]))]) (va_Qv (fun (u : Int32 × Int32) => Q u.1 u.2) (aB dC dI [(la, .inr (11, [.int mc, .ref eA, .int size]))] sz (fun u => [(la, .inr (11, [.int u.1, .ref eA, .int u.2]))])) (va_A [(la, .inr (11, [.int mc, .ref eA, .int size]))] sz)) 0 0 (va_A [(la, .inr (11, [.int mc, .ref eA, .int size]))] sz) := by
  refine Met.ofW (cc := cJ2_clear) (maxL := 4) (ret := none) (by decide) rfl ?_
  intro p e s m args below meth c s₁ B hml hv
  obtain ⟨rfl, hsz, hP, hK, hD0, hE⟩ := hv
  subst hsz
  have hx := B.exec
  have hb := B.bytes
  have hr := B.returns
  have hts := atoms_spec (ws := (ws_ yJ2_clear cJ2_clear 4 none)) B.pre
  have hts : ∀ w ∈ lw_all, w.before _ s = true := fun w h => hts w (List.mem_cons_of_mem _ h)
  have hown : s.vm.findClass RJ2 = some m.cls := findClass_of_methodNamed B.named
  have hlocks := B.notSynchronized
  have S : CallFix p m c cJ2_clear 4 s _ lw_all RJ2 := ⟨hx, hb, hml, hown, hts⟩
  have hD := hD0.self (sz := s.heap.size)
  have hA : ∀ q : Nat, s.heap.size ≤ q → va_A [(la, .inr (11, [.int mc, .ref eA, .int size]))] s.heap.size q := fun q h => Or.inr h
  have hS : va_S (va_A [(la, .inr (11, [.int mc, .ref eA, .int size]))] s.heap.size) s.heap s.heap [] := va_S.rf
  have hl := lv_entry ([.ref la]) (n := 4) (Nat.le_of_ble_eq_true rfl)
  rw [lg_entry_eq]
  generalize (lg_sl ([.ref la]) ++ List.replicate (4 - (lg_sl ([.ref la])).length) Slot.unset).toArray = ls at hl ⊢
  replace hl : lv_has ls 4 [(0, .ref la)] := hl
  have hret : hrJ2_clear_e p l e s m ([.ref la] : List Value).toArray below meth c dC dI dA (va_A [(la, .inr (11, [.int mc, .ref eA, .int size]))] s.heap.size) la (MQ below (va_Qv (fun (u : Int32 × Int32) => Q u.1 u.2) (aB dC dI [(la, .inr (11, [.int mc, .ref eA, .int size]))] s.heap.size (fun u => [(la, .inr (11, [.int u.1, .ref eA, .int u.2]))])) (va_A [(la, .inr (11, [.int mc, .ref eA, .int size]))] s.heap.size)) ([.ref la] : List Value).toArray s 0 0 (va_A [(la, .inr (11, [.int mc, .ref eA, .int size]))] s.heap.size)) Q := fun mc size H locs kc ks pc ls h1 h2 hq hP hD hS hd => W.widen (k := 0) (n := 0) h1 h2 (W.vret hx hb hr (fun t ht hW => ⟨⟨(mc, size), rfl, hq, by subst ht; exact ⟨hP, hD⟩⟩, hS.F ht⟩) hS.2.2 hd)
  generalize hAe : va_A [(la, .inr (11, [.int mc, .ref eA, .int size]))] s.heap.size = A at hD hA hS hE hret ⊢
  clear hAe
  unfold wJ2_clear_e at hf
  refine lv_aload_n hx hb dJ2_clear_0 rfl (lv_at hl 0 rfl) ?_
  refine lv_dup hx hb dJ2_clear_1 rfl ?_
  refine va_get (D := (dC, dI)) (ci := 11) (v := .int mc) (C := RJ2) (T := TJ2) (N := 3) hx hb hts in_J2 hown hK hP 0 rfl rfl 0 (by decide) (hts _ q386) (fun x9 h9 => u_same (hts _ q387) x9 h9) rfl dJ2_clear_2 ?_
  refine lv_iconst (v := 1) hx hb dJ2_clear_5 (by decide) ?_
  refine lv_iadd hx hb dJ2_clear_6 ?_
  refine lv_topi (fun modCount_7 emodCount_7 => ?_)
  replace hf := hf modCount_7 emodCount_7
  refine va_put (D := (dC, dI)) (ci := 11) (v := .int modCount_7) (ty := .int) (C := RJ2) (T := TJ2) (N := 3) hx hb hts in_J2 tyJ2 tyJ2_ok nmJ2 hown hK hP hD hS 0 rfl rfl 0 (by decide) (hts _ q386) (fun x9 h9 => u_same (hts _ q387) x9 h9) rfl (by decide +kernel) rfl rfl (Nat.le_of_ble_eq_true rfl) dJ2_clear_7 (fun H locs hP hD hS => ?_)
  replace hP : va_P (dC, dI) vwCl [(la, .inr (11, [.int modCount_7, .ref eA, .int size]))] H := hP
  replace hD : va_D A [(la, .inr (11, [.int modCount_7, .ref eA, .int size]))] := hD
  refine lv_aload_n hx hb dJ2_clear_10 rfl (lv_at hl 0 rfl) ?_
  refine va_get (D := (dC, dI)) (ci := 11) (v := .ref eA) (C := RJ2) (T := TJ2) (N := 3) hx hb hts in_J2 hown hK hP 0 rfl rfl 1 (by decide) (hts _ q383) (fun _ h9 => h9) rfl dJ2_clear_11 ?_
  refine lv_astore_n (lv' := [(1, .ref eA), (0, .ref la)]) hx hb dJ2_clear_14 rfl hl (by decide) rfl (fun ls hl => ?_)
  refine lv_aload_n hx hb dJ2_clear_15 rfl (lv_at hl 1 rfl) ?_
  refine va_get (D := (dC, dI)) (ci := 11) (v := .int size) (C := RJ2) (T := TJ2) (N := 3) hx hb hts in_J2 hown hK hP 0 rfl rfl 2 (by decide) (hts _ q384) (fun _ h9 => h9) rfl dJ2_clear_16 ?_
  refine lv_istore_n (lv' := [(2, .int size), (1, .ref eA), (0, .ref la)]) hx hb dJ2_clear_19 rfl hl (by decide) rfl (fun ls hl => ?_)
  refine lv_aload_n hx hb dJ2_clear_20 rfl (lv_at hl 2 rfl) ?_
  refine lv_iconst (v := 0) hx hb dJ2_clear_21 (by decide) ?_
  refine lv_dup_x1 hx hb dJ2_clear_22 rfl rfl ?_
  refine va_put (D := (dC, dI)) (ci := 11) (v := .int 0) (ty := .int) (C := RJ2) (T := TJ2) (N := 3) hx hb hts in_J2 tyJ2 tyJ2_ok nmJ2 hown hK hP hD hS 0 rfl rfl 2 (by decide) (hts _ q384) (fun _ h9 => h9) rfl (by decide +kernel) rfl rfl (Nat.le_of_ble_eq_true rfl) dJ2_clear_23 (fun H locs hP hD hS => ?_)
  replace hP : va_P (dC, dI) vwCl [(la, .inr (11, [.int modCount_7, .ref eA, .int 0]))] H := hP
  replace hD : va_D A [(la, .inr (11, [.int modCount_7, .ref eA, .int 0]))] := hD
  refine lv_istore_n (lv' := [(3, .int 0), (2, .int size), (1, .ref eA), (0, .ref la)]) hx hb dJ2_clear_26 rfl hl (by decide) rfl (fun ls hl => ?_)
  refine lv_iload_n hx hb dJ2_clear_27 rfl (lv_at hl 0 rfl) ?_
  refine lv_iload_n hx hb dJ2_clear_28 rfl (lv_at hl 1 rfl) ?_
  refine lv_icmp_ge (tgt := 42) hx hb dJ2_clear_29 (by decide) (fun c_29 => ?_) (fun c_29 => ?_)
  · replace hf := hf.1 c_29
    exact hret _ _ _ _ _ _ _ _ (Nat.zero_le _) (Nat.zero_le _) hf (hP.sub [0] rfl) (hD.sub [0] (by decide) rfl) hS dJ2_clear_42
  · replace hf := hf.2 c_29
    exact hf.elim
/-! java/util/Arrays.copyOf([Ljava/lang/Object;ILjava/lang/Class;)[Ljava/lang/Object; -/
abbrev rmJ7_copyOf_2_n : Room := { frames := 1, cells := 1, slots := 10, locals := 40 }
abbrev RJ7_copyOf_2_n_ : Room := (headSpec (ws_ yJ7_copyOf_2 cJ7_copyOf_2 4 (some (.array (.object "java/lang/Object")))) rmJ7_copyOf_2_n).room
section
variable {p : Program} {l : Launch} {e : Env} {s : State} {m : MethodId} {args : Array Value} {below : List Frame} {meth : Method} {c : Code} {Qw : State → Prop} {dC : Nat → ClassId} {dI : Nat → Nat → Nat} {dA : Nat → ClassId} {eA mi : Nat} {A : Nat → Prop} {ea : Nat}
abbrev hrJ7_copyOf_2_n (p : Program) (l : Launch) (e : Env) (s : State) (m : MethodId) (args : Array Value) (below : List Frame) (meth : Method) (c : Code) (dC : Nat → ClassId) (dI : Nat → Nat → Nat) (dA : Nat → ClassId) (A : Nat → Prop) (ea : Nat) (Qw : State → Prop) (Q : (Nat) → Prop) (f : (Nat → Option Nat)) (x1 : Int32) : Prop := ∀ (ra : Nat) (nn : Nat) (H : Heap) (locs : List Loc) (kc ks : Nat) (pc : Nat) (ls : Array Slot), kc ≤ 1 → ks ≤ 10 → Q nn → va_P (dC, dI) vwCl [(ea, .inl (dA 4, 10, .inr (.inr (.inr (.inr f))))), (ra, .inl (dA 4, nn, .inr (.inr (.inr (.inr (va_cpy f (fun _ => none) (0 : Int32).toNatClampNeg (0 : Int32).toNatClampNeg ((if x1 < 10 then x1 else 10) : Int32).toNatClampNeg))))))] H → va_D A [(ea, .inl (dA 4, 10, .inr (.inr (.inr (.inr f))))), (ra, .inl (dA 4, nn, .inr (.inr (.inr (.inr (va_cpy f (fun _ => none) (0 : Int32).toNatClampNeg (0 : Int32).toNatClampNeg ((if x1 < 10 then x1 else 10) : Int32).toNatClampNeg))))))] → va_S A s.heap H locs → decode cJ7_copyOf_2 pc = .ok (.areturn, 1) → W p l e RJ7_copyOf_2_n_ s m args below meth c H locs kc ks Qw (F0 m pc ls [.ref ra])
def wJ7_copyOf_2_n (Q : (Nat) → Prop) (f : (Nat → Option Nat)) (x1 : Int32) : Prop := (¬ x1 < 0 ∧ (x1 : Int32).toNatClampNeg ≤ 10 ∧ (¬ (if x1 < 10 then x1 else 10) < 0 ∧ ((0 : Int32).toNatClampNeg + ((if x1 < 10 then x1 else 10) : Int32).toNatClampNeg ≤ 10 ∧ ((0 : Int32).toNatClampNeg + ((if x1 < 10 then x1 else 10) : Int32).toNatClampNeg ≤ (x1 : Int32).toNatClampNeg ∧ (Q ((x1 : Int32).toNatClampNeg))))))
end
set_option maxHeartbeats 4000000 in
set_option maxRecDepth 100000 in
theorem metJ7_copyOf_2_n (l : Launch) {Q : (Nat) → Prop} {f : (Nat → Option Nat)} {x1 : Int32} {dC : Nat → ClassId} {dI : Nat → Nat → Nat} {dA : Nat → ClassId} {eA mi sz : Nat} {ea : Nat} (hf : wJ7_copyOf_2_n Q f x1) : Met l yJ7_copyOf_2 (ws_ yJ7_copyOf_2 cJ7_copyOf_2 4 (some (.array (.object "java/lang/Object")))) rmJ7_copyOf_2_n (aPv dC dI dA eA mi sz [.ref ea, .int x1, .ref mi] [(ea, .inl (dA 4, 10, .inr (.inr (.inr (.inr f)))))] f) (va_Qq (fun (r : Option Nat) (u : Nat × Nat) => r = some u.1 ∧ Q u.2) (aB dC dI [(ea, .inl (dA 4, 10, .inr (.inr (.inr (.inr f)))))] sz (fun (u : Nat × Nat) => [(ea, .inl (dA 4, 10, .inr (.inr (.inr (.inr f))))), (u.1, .inl (dA 4, u.2, .inr (.inr (.inr (.inr (va_cpy f (fun _ => none) (0 : Int32).toNatClampNeg (0 : Int32).toNatClampNeg ((if x1 < 10 then x1 else 10) : Int32).toNatClampNeg))))))])) (va_A [(ea, .inl (dA 4, 10, .inr (.inr (.inr (.inr f)))))] sz)) 1 10 (va_A [(ea, .inl (dA 4, 10, .inr (.inr (.inr (.inr f)))))] sz) := by
  refine Met.ofW (cc := cJ7_copyOf_2) (maxL := 4) (ret := (some (.array (.object "java/lang/Object")))) (by decide) rfl ?_
  intro p e s m args below meth c s₁ B hml hv
  obtain ⟨rfl, hsz, hP, hK, hD0, hE, hV⟩ := hv
  subst hsz
  have hx := B.exec
  have hb := B.bytes
  have hr := B.returns
  have hts := atoms_spec (ws := (ws_ yJ7_copyOf_2 cJ7_copyOf_2 4 (some (.array (.object "java/lang/Object"))))) B.pre
  have hts : ∀ w ∈ lw_all, w.before _ s = true := fun w h => hts w (List.mem_cons_of_mem _ h)
  have hown : s.vm.findClass RJ7 = some m.cls := findClass_of_methodNamed B.named
  have hlocks := B.notSynchronized
  have S : CallFix p m c cJ7_copyOf_2 4 s _ lw_all RJ7 := ⟨hx, hb, hml, hown, hts⟩
  have hD := hD0.self (sz := s.heap.size)
  have hA : ∀ q : Nat, s.heap.size ≤ q → va_A [(ea, .inl (dA 4, 10, .inr (.inr (.inr (.inr f)))))] s.heap.size q := fun q h => Or.inr h
  have hS : va_S (va_A [(ea, .inl (dA 4, 10, .inr (.inr (.inr (.inr f)))))] s.heap.size) s.heap s.heap [] := va_S.rf
  have hl := lv_entry ([.ref ea, .int x1, .ref mi]) (n := 4) (Nat.le_of_ble_eq_true rfl)
  rw [lg_entry_eq]
  generalize (lg_sl ([.ref ea, .int x1, .ref mi]) ++ List.replicate (4 - (lg_sl ([.ref ea, .int x1, .ref mi])).length) Slot.unset).toArray = ls at hl ⊢
  replace hl : lv_has ls 4 [(0, .ref ea), (1, .int x1), (2, .ref mi)] := hl
  have hret : hrJ7_copyOf_2_n p l e s m ([.ref ea, .int x1, .ref mi] : List Value).toArray below meth c dC dI dA (va_A [(ea, .inl (dA 4, 10, .inr (.inr (.inr (.inr f)))))] s.heap.size) ea (MQ below (va_Qq (fun (r : Option Nat) (u : Nat × Nat) => r = some u.1 ∧ Q u.2) (aB dC dI [(ea, .inl (dA 4, 10, .inr (.inr (.inr (.inr f)))))] s.heap.size (fun (u : Nat × Nat) => [(ea, .inl (dA 4, 10, .inr (.inr (.inr (.inr f))))), (u.1, .inl (dA 4, u.2, .inr (.inr (.inr (.inr (va_cpy f (fun _ => none) (0 : Int32).toNatClampNeg (0 : Int32).toNatClampNeg ((if x1 < 10 then x1 else 10) : Int32).toNatClampNeg))))))])) (va_A [(ea, .inl (dA 4, 10, .inr (.inr (.inr (.inr f)))))] s.heap.size)) ([.ref ea, .int x1, .ref mi] : List Value).toArray s 1 10 (va_A [(ea, .inl (dA 4, 10, .inr (.inr (.inr (.inr f)))))] s.heap.size)) Q f x1 := fun ra nn H locs kc ks pc ls h1 h2 hq hP hD hS hd => W.widen (k := 1) (n := 10) h1 h2 (W.aret hx hb hr (Or.inr ⟨_, rfl⟩) (Or.inr ⟨_, rfl⟩) (fun t ht hW => ⟨⟨some ra, (ra, nn), rfl, ⟨rfl, hq⟩, by subst ht; exact ⟨hP, hD⟩⟩, hS.F ht⟩) hS.2.2 hd)
  generalize hAe : va_A [(ea, .inl (dA 4, 10, .inr (.inr (.inr (.inr f)))))] s.heap.size = A at hD hA hS hE hret hV ⊢
  clear hAe
  unfold wJ7_copyOf_2_n at hf
  refine lv_aload_n hx hb dJ7_copyOf_2_0 rfl (lv_at hl 2 rfl) ?_
  refine va_ldcM hx hb hown (hts _ q205) hE.2.1.1.2 dJ7_copyOf_2_1 ?_
  refine lv_acmp_ne (rx := some mi) (ry := some mi) (tgt := 13) hx hb dJ7_copyOf_2_3 (by decide) (fun h => absurd rfl h) (fun _ => ?_)
  refine lv_iload_n hx hb dJ7_copyOf_2_6 rfl (lv_at hl 1 rfl) ?_
  obtain ⟨hnn, hnl, hf⟩ := hf
  have hbud : 1 ≤ 1 ∧ 0 + (x1 : Int32).toNatClampNeg ≤ 10 := ⟨Nat.le_refl _, by omega⟩
  refine va_newq (n := x1) (N' := (x1 : Int32).toNatClampNeg) hx hb hown (hts _ q207) hE.2.1.1.1 hK hP hD hS hA hnn rfl (by omega) hbud.1 hbud.2 dJ7_copyOf_2_7 (fun q_7 cA_7 H hK2 hP hD hS => ?_)
  obtain rfl : cA_7 = dA 4 := ty_one (s := s) (t1 := []) (t2 := []) (hK2.2 6 _ rfl).2 (hK.2 4 _ rfl).2
  replace hP : va_P (dC, dI) vwCl [(ea, .inl (dA 4, 10, .inr (.inr (.inr (.inr f))))), (q_7, .inl (dA 4, (x1 : Int32).toNatClampNeg, .inr (.inr (.inr (.inr (fun _ => none))))))] H := hP
  replace hD : va_D A [(ea, .inl (dA 4, 10, .inr (.inr (.inr (.inr f))))), (q_7, .inl (dA 4, (x1 : Int32).toNatClampNeg, .inr (.inr (.inr (.inr (fun _ => none))))))] := hD
  refine lv_goto (tgt := 24) hx hb dJ7_copyOf_2_10 (by decide) ?_
  refine lv_astore_n (lv' := [(3, .ref q_7), (0, .ref ea), (1, .int x1), (2, .ref mi)]) hx hb dJ7_copyOf_2_24 rfl hl (by decide) rfl (fun ls hl => ?_)
  refine lv_aload_n hx hb dJ7_copyOf_2_25 rfl (lv_at hl 1 rfl) ?_
  refine lv_iconst (v := 0) hx hb dJ7_copyOf_2_26 (by decide) ?_
  refine lv_aload_n hx hb dJ7_copyOf_2_27 rfl (lv_at hl 0 rfl) ?_
  refine lv_iconst (v := 0) hx hb dJ7_copyOf_2_28 (by decide) ?_
  refine lv_aload_n hx hb dJ7_copyOf_2_29 rfl (lv_at hl 1 rfl) ?_
  refine va_alen (v := 10) hx hb hK hP 0 4 rfl rfl rfl dJ7_copyOf_2_30 ?_
  refine lv_iload_n hx hb dJ7_copyOf_2_31 rfl (lv_at hl 2 rfl) ?_
  refine va_mmin hx hb (hml.trans hl.1.symm) hown (hts _ q208) (hts _ q209) (hts _ q66) (hts _ q210) (Nat.le_of_ble_eq_true rfl) (Nat.le_of_ble_eq_true rfl) hbud.1 hbud.2 dJ7_copyOf_2_32 ?_
  obtain ⟨ha_35_0, hf⟩ := hf
  obtain ⟨ha_35_1, hf⟩ := hf
  obtain ⟨ha_35_2, hf⟩ := hf
  refine va_copyM hx hb (hml.trans hl.1.symm) hown (hts _ q211) (hts _ q148) (hts _ q147) (hts _ q64) hK hP hD hS 0 1 4 4 rfl rfl rfl rfl (by decide) (by decide) ha_35_0 ha_35_1 ha_35_2 (fun _ _ _ hy => hV.now hS hy) (Nat.le_of_ble_eq_true rfl) (Nat.le_of_ble_eq_true rfl) dJ7_copyOf_2_35 (fun H locs hP hD hS => ?_)
  replace hP : va_P (dC, dI) vwCl [(ea, .inl (dA 4, 10, .inr (.inr (.inr (.inr f))))), (q_7, .inl (dA 4, (x1 : Int32).toNatClampNeg, .inr (.inr (.inr (.inr (va_cpy f (fun _ => none) (0 : Int32).toNatClampNeg (0 : Int32).toNatClampNeg ((if x1 < 10 then x1 else 10) : Int32).toNatClampNeg))))))] H := hP
  replace hD : va_D A [(ea, .inl (dA 4, 10, .inr (.inr (.inr (.inr f))))), (q_7, .inl (dA 4, (x1 : Int32).toNatClampNeg, .inr (.inr (.inr (.inr (va_cpy f (fun _ => none) (0 : Int32).toNatClampNeg (0 : Int32).toNatClampNeg ((if x1 < 10 then x1 else 10) : Int32).toNatClampNeg))))))] := hD
  refine lv_aload_n hx hb dJ7_copyOf_2_38 rfl (lv_at hl 0 rfl) ?_
  exact hret q_7 ((x1 : Int32).toNatClampNeg) _ _ _ _ _ _ hbud.1 hbud.2 hf (hP.sub [0, 1] rfl) (hD.sub [0, 1] (by decide) rfl) hS dJ7_copyOf_2_39
/-! java/util/Arrays.copyOf([Ljava/lang/Object;I)[Ljava/lang/Object; -/
abbrev rmJ7_copyOf_n : Room := { frames := 2, cells := 1, slots := 10, locals := 63 }
abbrev RJ7_copyOf_n_ : Room := (headSpec (ws_ yJ7_copyOf cJ7_copyOf 2 (some (.array (.object "java/lang/Object")))) rmJ7_copyOf_n).room
section
variable {p : Program} {l : Launch} {e : Env} {s : State} {m : MethodId} {args : Array Value} {below : List Frame} {meth : Method} {c : Code} {Qw : State → Prop} {dC : Nat → ClassId} {dI : Nat → Nat → Nat} {dA : Nat → ClassId} {eA mi : Nat} {A : Nat → Prop} {ea : Nat}
abbrev hrJ7_copyOf_n (p : Program) (l : Launch) (e : Env) (s : State) (m : MethodId) (args : Array Value) (below : List Frame) (meth : Method) (c : Code) (dC : Nat → ClassId) (dI : Nat → Nat → Nat) (dA : Nat → ClassId) (A : Nat → Prop) (ea : Nat) (Qw : State → Prop) (Q : (Nat) → Prop) (f : (Nat → Option Nat)) (x1 : Int32) : Prop := ∀ (ra : Nat) (nn : Nat) (H : Heap) (locs : List Loc) (kc ks : Nat) (pc : Nat) (ls : Array Slot), kc ≤ 1 → ks ≤ 10 → Q nn → va_P (dC, dI) vwCl [(ea, .inl (dA 4, 10, .inr (.inr (.inr (.inr f))))), (ra, .inl (dA 4, nn, .inr (.inr (.inr (.inr (va_cpy f (fun _ => none) (0 : Int32).toNatClampNeg (0 : Int32).toNatClampNeg ((if x1 < 10 then x1 else 10) : Int32).toNatClampNeg))))))] H → va_D A [(ea, .inl (dA 4, 10, .inr (.inr (.inr (.inr f))))), (ra, .inl (dA 4, nn, .inr (.inr (.inr (.inr (va_cpy f (fun _ => none) (0 : Int32).toNatClampNeg (0 : Int32).toNatClampNeg ((if x1 < 10 then x1 else 10) : Int32).toNatClampNeg))))))] → va_S A s.heap H locs → decode cJ7_copyOf pc = .ok (.areturn, 1) → W p l e RJ7_copyOf_n_ s m args below meth c H locs kc ks Qw (F0 m pc ls [.ref ra])
def wJ7_copyOf_n (Q : (Nat) → Prop) (f : (Nat → Option Nat)) (x1 : Int32) : Prop := (wJ7_copyOf_2_n (fun nn_6 => (Q nn_6)) f x1)
end
set_option maxHeartbeats 4000000 in
set_option maxRecDepth 100000 in
theorem metJ7_copyOf_n (l : Launch) {Q : (Nat) → Prop} {f : (Nat → Option Nat)} {x1 : Int32} {dC : Nat → ClassId} {dI : Nat → Nat → Nat} {dA : Nat → ClassId} {eA mi sz : Nat} {ea : Nat} (hf : wJ7_copyOf_n Q f x1) : Met l yJ7_copyOf (ws_ yJ7_copyOf cJ7_copyOf 2 (some (.array (.object "java/lang/Object")))) rmJ7_copyOf_n (aPv dC dI dA eA mi sz [.ref ea, .int x1] [(ea, .inl (dA 4, 10, .inr (.inr (.inr (.inr f)))))] f) (va_Qq (fun (r : Option Nat) (u : Nat × Nat) => r = some u.1 ∧ Q u.2) (aB dC dI [(ea, .inl (dA 4, 10, .inr (.inr (.inr (.inr f)))))] sz (fun (u : Nat × Nat) => [(ea, .inl (dA 4, 10, .inr (.inr (.inr (.inr f))))), (u.1, .inl (dA 4, u.2, .inr (.inr (.inr (.inr (va_cpy f (fun _ => none) (0 : Int32).toNatClampNeg (0 : Int32).toNatClampNeg ((if x1 < 10 then x1 else 10) : Int32).toNatClampNeg))))))])) (va_A [(ea, .inl (dA 4, 10, .inr (.inr (.inr (.inr f)))))] sz)) 1 10 (va_A [(ea, .inl (dA 4, 10, .inr (.inr (.inr (.inr f)))))] sz) := by
  refine Met.ofW (cc := cJ7_copyOf) (maxL := 2) (ret := (some (.array (.object "java/lang/Object")))) (by decide) rfl ?_
  intro p e s m args below meth c s₁ B hml hv
  obtain ⟨rfl, hsz, hP, hK, hD0, hE, hV⟩ := hv
  subst hsz
  have hx := B.exec
  have hb := B.bytes
  have hr := B.returns
  have hts := atoms_spec (ws := (ws_ yJ7_copyOf cJ7_copyOf 2 (some (.array (.object "java/lang/Object"))))) B.pre
  have hts : ∀ w ∈ lw_all, w.before _ s = true := fun w h => hts w (List.mem_cons_of_mem _ h)
  have hown : s.vm.findClass RJ7 = some m.cls := findClass_of_methodNamed B.named
  have hlocks := B.notSynchronized
  have S : CallFix p m c cJ7_copyOf 2 s _ lw_all RJ7 := ⟨hx, hb, hml, hown, hts⟩
  have hD := hD0.self (sz := s.heap.size)
  have hA : ∀ q : Nat, s.heap.size ≤ q → va_A [(ea, .inl (dA 4, 10, .inr (.inr (.inr (.inr f)))))] s.heap.size q := fun q h => Or.inr h
  have hS : va_S (va_A [(ea, .inl (dA 4, 10, .inr (.inr (.inr (.inr f)))))] s.heap.size) s.heap s.heap [] := va_S.rf
  have hl := lv_entry ([.ref ea, .int x1]) (n := 2) (Nat.le_of_ble_eq_true rfl)
  rw [lg_entry_eq]
  generalize (lg_sl ([.ref ea, .int x1]) ++ List.replicate (2 - (lg_sl ([.ref ea, .int x1])).length) Slot.unset).toArray = ls at hl ⊢
  replace hl : lv_has ls 2 [(0, .ref ea), (1, .int x1)] := hl
  have hret : hrJ7_copyOf_n p l e s m ([.ref ea, .int x1] : List Value).toArray below meth c dC dI dA (va_A [(ea, .inl (dA 4, 10, .inr (.inr (.inr (.inr f)))))] s.heap.size) ea (MQ below (va_Qq (fun (r : Option Nat) (u : Nat × Nat) => r = some u.1 ∧ Q u.2) (aB dC dI [(ea, .inl (dA 4, 10, .inr (.inr (.inr (.inr f)))))] s.heap.size (fun (u : Nat × Nat) => [(ea, .inl (dA 4, 10, .inr (.inr (.inr (.inr f))))), (u.1, .inl (dA 4, u.2, .inr (.inr (.inr (.inr (va_cpy f (fun _ => none) (0 : Int32).toNatClampNeg (0 : Int32).toNatClampNeg ((if x1 < 10 then x1 else 10) : Int32).toNatClampNeg))))))])) (va_A [(ea, .inl (dA 4, 10, .inr (.inr (.inr (.inr f)))))] s.heap.size)) ([.ref ea, .int x1] : List Value).toArray s 1 10 (va_A [(ea, .inl (dA 4, 10, .inr (.inr (.inr (.inr f)))))] s.heap.size)) Q f x1 := fun ra nn H locs kc ks pc ls h1 h2 hq hP hD hS hd => W.widen (k := 1) (n := 10) h1 h2 (W.aret hx hb hr (Or.inr ⟨_, rfl⟩) (Or.inr ⟨_, rfl⟩) (fun t ht hW => ⟨⟨some ra, (ra, nn), rfl, ⟨rfl, hq⟩, by subst ht; exact ⟨hP, hD⟩⟩, hS.F ht⟩) hS.2.2 hd)
  generalize hAe : va_A [(ea, .inl (dA 4, 10, .inr (.inr (.inr (.inr f)))))] s.heap.size = A at hD hA hS hE hret hV ⊢
  clear hAe
  unfold wJ7_copyOf_n at hf
  refine lv_aload_n hx hb dJ7_copyOf_0 rfl (lv_at hl 0 rfl) ?_
  refine lv_iload_n hx hb dJ7_copyOf_1 rfl (lv_at hl 1 rfl) ?_
  refine lv_aload_n hx hb dJ7_copyOf_2 rfl (lv_at hl 0 rfl) ?_
  refine va_getC hx hb (hml.trans hl.1.symm) hown (hts _ q180) ((hE.1 _ q1641 rfl).use rfl) (hts _ q1640) (hts _ q181) (hts _ q201) hE.2.1.1.2 (arr_recv hP 0 rfl (va_nmO (hK.2 4 _ rfl).2 (by decide))) (Nat.le_of_ble_eq_true rfl) (Nat.le_of_ble_eq_true rfl) dJ7_copyOf_3 ?_
  refine aC_q (wr := []) hP hD hS hA [0] [] rfl rfl (by decide) (by decide) (va_runS (As := [.ref ea, .int x1, .ref mi]) (rest := []) S (metJ7_copyOf_2_n l hf) (va_cwS 3 hts (lw_S q202 q203 q67 q204) rfl rfl rfl pdJ7_copyOf_2 ⟨Nat.le_of_ble_eq_true rfl, Nat.le_of_ble_eq_true rfl⟩) (apreV hK hE hV hP hD hS hA [0] rfl rfl (by decide)) rfl rfl hl.1 rfl (lv_room (Nat.le_of_ble_eq_true rfl)) dJ7_copyOf_6 ⟨Nat.le_of_ble_eq_true rfl, Nat.le_of_ble_eq_true rfl⟩) (fun r_6 u_6 H locs hf hP hD hS => ?_)
  obtain ⟨ra_6, nn_6⟩ := u_6
  obtain ⟨er_6, hf⟩ := hf
  subst er_6
  replace hP : va_P (dC, dI) vwCl [(ea, .inl (dA 4, 10, .inr (.inr (.inr (.inr f))))), (ra_6, .inl (dA 4, nn_6, .inr (.inr (.inr (.inr (va_cpy f (fun _ => none) (0 : Int32).toNatClampNeg (0 : Int32).toNatClampNeg ((if x1 < 10 then x1 else 10) : Int32).toNatClampNeg))))))] H := hP
  replace hD : va_D A [(ea, .inl (dA 4, 10, .inr (.inr (.inr (.inr f))))), (ra_6, .inl (dA 4, nn_6, .inr (.inr (.inr (.inr (va_cpy f (fun _ => none) (0 : Int32).toNatClampNeg (0 : Int32).toNatClampNeg ((if x1 < 10 then x1 else 10) : Int32).toNatClampNeg))))))] := hD
  try dsimp only at hf
  refine W.eq (g2 := F0 m 9 ls (.ref ra_6 :: [])) rfl ?_
  exact hret ra_6 nn_6 _ _ _ _ _ _ (Nat.le_of_ble_eq_true rfl) (Nat.le_of_ble_eq_true rfl) hf (hP.sub [0, 1] rfl) (hD.sub [0, 1] (by decide) rfl) hS dJ7_copyOf_9
/-! java/util/Arrays.copyOf([Ljava/lang/Object;ILjava/lang/Class;)[Ljava/lang/Object; -/
abbrev rmJ7_copyOf_2_z : Room := { frames := 1, cells := 1, slots := 0, locals := 40 }
abbrev RJ7_copyOf_2_z_ : Room := (headSpec (ws_ yJ7_copyOf_2 cJ7_copyOf_2 4 (some (.array (.object "java/lang/Object")))) rmJ7_copyOf_2_z).room
section
variable {p : Program} {l : Launch} {e : Env} {s : State} {m : MethodId} {args : Array Value} {below : List Frame} {meth : Method} {c : Code} {Qw : State → Prop} {dC : Nat → ClassId} {dI : Nat → Nat → Nat} {dA : Nat → ClassId} {eA mi : Nat} {A : Nat → Prop}
abbrev hrJ7_copyOf_2_z (p : Program) (l : Launch) (e : Env) (s : State) (m : MethodId) (args : Array Value) (below : List Frame) (meth : Method) (c : Code) (dC : Nat → ClassId) (dI : Nat → Nat → Nat) (dA : Nat → ClassId) (A : Nat → Prop) (Qw : State → Prop) (Q : Prop) (x1 : Int32) : Prop := ∀ (ra : Nat) (H : Heap) (locs : List Loc) (kc ks : Nat) (pc : Nat) (ls : Array Slot), kc ≤ 1 → ks ≤ 0 → Q → va_P (dC, dI) vwCl [(ra, .inl (dA 4, 0, .inr (.inr (.inr (.inr (va_cpy (fun _ => none) (fun _ => none) (0 : Int32).toNatClampNeg (0 : Int32).toNatClampNeg ((if x1 < 0 then x1 else 0) : Int32).toNatClampNeg))))))] H → va_D A [(ra, .inl (dA 4, 0, .inr (.inr (.inr (.inr (va_cpy (fun _ => none) (fun _ => none) (0 : Int32).toNatClampNeg (0 : Int32).toNatClampNeg ((if x1 < 0 then x1 else 0) : Int32).toNatClampNeg))))))] → va_S A s.heap H locs → decode cJ7_copyOf_2 pc = .ok (.areturn, 1) → W p l e RJ7_copyOf_2_z_ s m args below meth c H locs kc ks Qw (F0 m pc ls [.ref ra])
def wJ7_copyOf_2_z (Q : Prop) (x1 : Int32) : Prop := (x1 = 0 ∧ (¬ (if x1 < 0 then x1 else 0) < 0 ∧ ((0 : Int32).toNatClampNeg + ((if x1 < 0 then x1 else 0) : Int32).toNatClampNeg ≤ 0 ∧ ((0 : Int32).toNatClampNeg + ((if x1 < 0 then x1 else 0) : Int32).toNatClampNeg ≤ 0 ∧ Q))))
end
set_option maxHeartbeats 4000000 in
set_option maxRecDepth 100000 in
theorem metJ7_copyOf_2_z (l : Launch) {Q : Prop} {x1 : Int32} {dC : Nat → ClassId} {dI : Nat → Nat → Nat} {dA : Nat → ClassId} {eA mi sz : Nat} (hf : wJ7_copyOf_2_z Q x1) : Met l yJ7_copyOf_2 (ws_ yJ7_copyOf_2 cJ7_copyOf_2 4 (some (.array (.object "java/lang/Object")))) rmJ7_copyOf_2_z (aPc dC dI dA eA mi sz [.ref eA, .int x1, .ref mi] []) (va_Qq (fun (r : Option Nat) (u : Nat) => r = some u ∧ Q) (aB dC dI [] sz (fun (u : Nat) => [(u, .inl (dA 4, 0, .inr (.inr (.inr (.inr (va_cpy (fun _ => none) (fun _ => none) (0 : Int32).toNatClampNeg (0 : Int32).toNatClampNeg ((if x1 < 0 then x1 else 0) : Int32).toNatClampNeg))))))])) (va_A [] sz)) 1 0 (va_A [] sz) := by
  refine Met.ofW (cc := cJ7_copyOf_2) (maxL := 4) (ret := (some (.array (.object "java/lang/Object")))) (by decide) rfl ?_
  intro p e s m args below meth c s₁ B hml hv
  obtain ⟨rfl, hsz, hP, hK, hD0, hE⟩ := hv
  subst hsz
  have hx := B.exec
  have hb := B.bytes
  have hr := B.returns
  have hts := atoms_spec (ws := (ws_ yJ7_copyOf_2 cJ7_copyOf_2 4 (some (.array (.object "java/lang/Object"))))) B.pre
  have hts : ∀ w ∈ lw_all, w.before _ s = true := fun w h => hts w (List.mem_cons_of_mem _ h)
  have hown : s.vm.findClass RJ7 = some m.cls := findClass_of_methodNamed B.named
  have hlocks := B.notSynchronized
  have S : CallFix p m c cJ7_copyOf_2 4 s _ lw_all RJ7 := ⟨hx, hb, hml, hown, hts⟩
  have hD := hD0.self (sz := s.heap.size)
  have hA : ∀ q : Nat, s.heap.size ≤ q → va_A [] s.heap.size q := fun q h => Or.inr h
  have hS : va_S (va_A [] s.heap.size) s.heap s.heap [] := va_S.rf
  have hl := lv_entry ([.ref eA, .int x1, .ref mi]) (n := 4) (Nat.le_of_ble_eq_true rfl)
  rw [lg_entry_eq]
  generalize (lg_sl ([.ref eA, .int x1, .ref mi]) ++ List.replicate (4 - (lg_sl ([.ref eA, .int x1, .ref mi])).length) Slot.unset).toArray = ls at hl ⊢
  replace hl : lv_has ls 4 [(0, .ref eA), (1, .int x1), (2, .ref mi)] := hl
  have hret : hrJ7_copyOf_2_z p l e s m ([.ref eA, .int x1, .ref mi] : List Value).toArray below meth c dC dI dA (va_A [] s.heap.size) (MQ below (va_Qq (fun (r : Option Nat) (u : Nat) => r = some u ∧ Q) (aB dC dI [] s.heap.size (fun (u : Nat) => [(u, .inl (dA 4, 0, .inr (.inr (.inr (.inr (va_cpy (fun _ => none) (fun _ => none) (0 : Int32).toNatClampNeg (0 : Int32).toNatClampNeg ((if x1 < 0 then x1 else 0) : Int32).toNatClampNeg))))))])) (va_A [] s.heap.size)) ([.ref eA, .int x1, .ref mi] : List Value).toArray s 1 0 (va_A [] s.heap.size)) Q x1 := fun ra H locs kc ks pc ls h1 h2 hq hP hD hS hd => W.widen (k := 1) (n := 0) h1 h2 (W.aret hx hb hr (Or.inr ⟨_, rfl⟩) (Or.inr ⟨_, rfl⟩) (fun t ht hW => ⟨⟨some ra, ra, rfl, ⟨rfl, hq⟩, by subst ht; exact ⟨hP, hD⟩⟩, hS.F ht⟩) hS.2.2 hd)
  generalize hAe : va_A [] s.heap.size = A at hD hA hS hE hret ⊢
  clear hAe
  unfold wJ7_copyOf_2_z at hf
  refine lv_aload_n hx hb dJ7_copyOf_2_0 rfl (lv_at hl 2 rfl) ?_
  refine va_ldcM hx hb hown (hts _ q205) hE.2.1.1.2 dJ7_copyOf_2_1 ?_
  refine lv_acmp_ne (rx := some mi) (ry := some mi) (tgt := 13) hx hb dJ7_copyOf_2_3 (by decide) (fun h => absurd rfl h) (fun _ => ?_)
  refine lv_iload_n hx hb dJ7_copyOf_2_6 rfl (lv_at hl 1 rfl) ?_
  obtain ⟨hnl, hf⟩ := hf
  refine lv_topi (fun z_ ez_ => ?_)
  obtain rfl : z_ = 0 := ez_.trans hnl
  have hbud : 0 + 1 ≤ 1 ∧ 0 + 0 ≤ 0 := ⟨Nat.le_of_ble_eq_true rfl, Nat.le_of_ble_eq_true rfl⟩
  refine va_newq (n := 0) (N' := 0) hx hb hown (hts _ q207) hE.2.1.1.1 hK hP hD hS hA (by decide) (by decide) (by decide) hbud.1 hbud.2 dJ7_copyOf_2_7 (fun q_7 cA_7 H hK2 hP hD hS => ?_)
  obtain rfl : cA_7 = dA 4 := ty_one (s := s) (t1 := []) (t2 := []) (hK2.2 6 _ rfl).2 (hK.2 4 _ rfl).2
  replace hP : va_P (dC, dI) vwCl [(q_7, .inl (dA 4, 0, .inr (.inr (.inr (.inr (fun _ => none))))))] H := hP
  replace hD : va_D A [(q_7, .inl (dA 4, 0, .inr (.inr (.inr (.inr (fun _ => none))))))] := hD
  refine lv_goto (tgt := 24) hx hb dJ7_copyOf_2_10 (by decide) ?_
  refine lv_astore_n (lv' := [(3, .ref q_7), (0, .ref eA), (1, .int x1), (2, .ref mi)]) hx hb dJ7_copyOf_2_24 rfl hl (by decide) rfl (fun ls hl => ?_)
  refine lv_aload_n hx hb dJ7_copyOf_2_25 rfl (lv_at hl 1 rfl) ?_
  refine lv_iconst (v := 0) hx hb dJ7_copyOf_2_26 (by decide) ?_
  refine lv_aload_n hx hb dJ7_copyOf_2_27 rfl (lv_at hl 0 rfl) ?_
  refine lv_iconst (v := 0) hx hb dJ7_copyOf_2_28 (by decide) ?_
  refine lv_aload_n hx hb dJ7_copyOf_2_29 rfl (lv_at hl 1 rfl) ?_
  refine va_tlen (v := 0) hx hb hE.2.2.2.2.2.2.2.2.2.1 hS rfl dJ7_copyOf_2_30 ?_
  refine lv_iload_n hx hb dJ7_copyOf_2_31 rfl (lv_at hl 2 rfl) ?_
  refine va_mmin hx hb (hml.trans hl.1.symm) hown (hts _ q208) (hts _ q209) (hts _ q66) (hts _ q210) (Nat.le_of_ble_eq_true rfl) (Nat.le_of_ble_eq_true rfl) (Nat.le_of_ble_eq_true rfl) (Nat.le_of_ble_eq_true rfl) dJ7_copyOf_2_32 ?_
  obtain ⟨ha_35_0, hf⟩ := hf
  obtain ⟨ha_35_1, hf⟩ := hf
  obtain ⟨ha_35_2, hf⟩ := hf
  refine va_copyg hx hb (hml.trans hl.1.symm) hown (hts _ q211) (hts _ q148) (hts _ q147) (hts _ q64) hK hP hD hS 0 4 hE.2.2.2.2.2.2.2.2.2.1 rfl rfl (by decide) (by decide) ha_35_0 ha_35_1 ha_35_2 (Nat.le_of_ble_eq_true rfl) (Nat.le_of_ble_eq_true rfl) dJ7_copyOf_2_35 (fun H locs hP hD hS => ?_)
  replace hP : va_P (dC, dI) vwCl [(q_7, .inl (dA 4, 0, .inr (.inr (.inr (.inr (va_cpy (fun _ => none) (fun _ => none) (0 : Int32).toNatClampNeg (0 : Int32).toNatClampNeg ((if x1 < 0 then x1 else 0) : Int32).toNatClampNeg))))))] H := hP
  replace hD : va_D A [(q_7, .inl (dA 4, 0, .inr (.inr (.inr (.inr (va_cpy (fun _ => none) (fun _ => none) (0 : Int32).toNatClampNeg (0 : Int32).toNatClampNeg ((if x1 < 0 then x1 else 0) : Int32).toNatClampNeg))))))] := hD
  refine lv_aload_n hx hb dJ7_copyOf_2_38 rfl (lv_at hl 0 rfl) ?_
  exact hret q_7 _ _ _ _ _ _ (Nat.le_of_ble_eq_true rfl) (Nat.le_of_ble_eq_true rfl) hf (hP.sub [0] rfl) (hD.sub [0] (by decide) rfl) hS dJ7_copyOf_2_39
/-! java/util/Arrays.copyOf([Ljava/lang/Object;I)[Ljava/lang/Object; -/
abbrev rmJ7_copyOf_z : Room := { frames := 2, cells := 1, slots := 0, locals := 63 }
abbrev RJ7_copyOf_z_ : Room := (headSpec (ws_ yJ7_copyOf cJ7_copyOf 2 (some (.array (.object "java/lang/Object")))) rmJ7_copyOf_z).room
section
variable {p : Program} {l : Launch} {e : Env} {s : State} {m : MethodId} {args : Array Value} {below : List Frame} {meth : Method} {c : Code} {Qw : State → Prop} {dC : Nat → ClassId} {dI : Nat → Nat → Nat} {dA : Nat → ClassId} {eA mi : Nat} {A : Nat → Prop}
abbrev hrJ7_copyOf_z (p : Program) (l : Launch) (e : Env) (s : State) (m : MethodId) (args : Array Value) (below : List Frame) (meth : Method) (c : Code) (dC : Nat → ClassId) (dI : Nat → Nat → Nat) (dA : Nat → ClassId) (A : Nat → Prop) (Qw : State → Prop) (Q : Prop) (x1 : Int32) : Prop := ∀ (ra : Nat) (H : Heap) (locs : List Loc) (kc ks : Nat) (pc : Nat) (ls : Array Slot), kc ≤ 1 → ks ≤ 0 → Q → va_P (dC, dI) vwCl [(ra, .inl (dA 4, 0, .inr (.inr (.inr (.inr (va_cpy (fun _ => none) (fun _ => none) (0 : Int32).toNatClampNeg (0 : Int32).toNatClampNeg ((if x1 < 0 then x1 else 0) : Int32).toNatClampNeg))))))] H → va_D A [(ra, .inl (dA 4, 0, .inr (.inr (.inr (.inr (va_cpy (fun _ => none) (fun _ => none) (0 : Int32).toNatClampNeg (0 : Int32).toNatClampNeg ((if x1 < 0 then x1 else 0) : Int32).toNatClampNeg))))))] → va_S A s.heap H locs → decode cJ7_copyOf pc = .ok (.areturn, 1) → W p l e RJ7_copyOf_z_ s m args below meth c H locs kc ks Qw (F0 m pc ls [.ref ra])
def wJ7_copyOf_z (Q : Prop) (x1 : Int32) : Prop := (wJ7_copyOf_2_z Q x1)
end
set_option maxHeartbeats 4000000 in
set_option maxRecDepth 100000 in
theorem metJ7_copyOf_z (l : Launch) {Q : Prop} {x1 : Int32} {dC : Nat → ClassId} {dI : Nat → Nat → Nat} {dA : Nat → ClassId} {eA mi sz : Nat} (hf : wJ7_copyOf_z Q x1) : Met l yJ7_copyOf (ws_ yJ7_copyOf cJ7_copyOf 2 (some (.array (.object "java/lang/Object")))) rmJ7_copyOf_z (aPc dC dI dA eA mi sz [.ref eA, .int x1] []) (va_Qq (fun (r : Option Nat) (u : Nat) => r = some u ∧ Q) (aB dC dI [] sz (fun (u : Nat) => [(u, .inl (dA 4, 0, .inr (.inr (.inr (.inr (va_cpy (fun _ => none) (fun _ => none) (0 : Int32).toNatClampNeg (0 : Int32).toNatClampNeg ((if x1 < 0 then x1 else 0) : Int32).toNatClampNeg))))))])) (va_A [] sz)) 1 0 (va_A [] sz) := by
  refine Met.ofW (cc := cJ7_copyOf) (maxL := 2) (ret := (some (.array (.object "java/lang/Object")))) (by decide) rfl ?_
  intro p e s m args below meth c s₁ B hml hv
  obtain ⟨rfl, hsz, hP, hK, hD0, hE⟩ := hv
  subst hsz
  have hx := B.exec
  have hb := B.bytes
  have hr := B.returns
  have hts := atoms_spec (ws := (ws_ yJ7_copyOf cJ7_copyOf 2 (some (.array (.object "java/lang/Object"))))) B.pre
  have hts : ∀ w ∈ lw_all, w.before _ s = true := fun w h => hts w (List.mem_cons_of_mem _ h)
  have hown : s.vm.findClass RJ7 = some m.cls := findClass_of_methodNamed B.named
  have hlocks := B.notSynchronized
  have S : CallFix p m c cJ7_copyOf 2 s _ lw_all RJ7 := ⟨hx, hb, hml, hown, hts⟩
  have hD := hD0.self (sz := s.heap.size)
  have hA : ∀ q : Nat, s.heap.size ≤ q → va_A [] s.heap.size q := fun q h => Or.inr h
  have hS : va_S (va_A [] s.heap.size) s.heap s.heap [] := va_S.rf
  have hl := lv_entry ([.ref eA, .int x1]) (n := 2) (Nat.le_of_ble_eq_true rfl)
  rw [lg_entry_eq]
  generalize (lg_sl ([.ref eA, .int x1]) ++ List.replicate (2 - (lg_sl ([.ref eA, .int x1])).length) Slot.unset).toArray = ls at hl ⊢
  replace hl : lv_has ls 2 [(0, .ref eA), (1, .int x1)] := hl
  have hret : hrJ7_copyOf_z p l e s m ([.ref eA, .int x1] : List Value).toArray below meth c dC dI dA (va_A [] s.heap.size) (MQ below (va_Qq (fun (r : Option Nat) (u : Nat) => r = some u ∧ Q) (aB dC dI [] s.heap.size (fun (u : Nat) => [(u, .inl (dA 4, 0, .inr (.inr (.inr (.inr (va_cpy (fun _ => none) (fun _ => none) (0 : Int32).toNatClampNeg (0 : Int32).toNatClampNeg ((if x1 < 0 then x1 else 0) : Int32).toNatClampNeg))))))])) (va_A [] s.heap.size)) ([.ref eA, .int x1] : List Value).toArray s 1 0 (va_A [] s.heap.size)) Q x1 := fun ra H locs kc ks pc ls h1 h2 hq hP hD hS hd => W.widen (k := 1) (n := 0) h1 h2 (W.aret hx hb hr (Or.inr ⟨_, rfl⟩) (Or.inr ⟨_, rfl⟩) (fun t ht hW => ⟨⟨some ra, ra, rfl, ⟨rfl, hq⟩, by subst ht; exact ⟨hP, hD⟩⟩, hS.F ht⟩) hS.2.2 hd)
  generalize hAe : va_A [] s.heap.size = A at hD hA hS hE hret ⊢
  clear hAe
  unfold wJ7_copyOf_z at hf
  refine lv_aload_n hx hb dJ7_copyOf_0 rfl (lv_at hl 0 rfl) ?_
  refine lv_iload_n hx hb dJ7_copyOf_1 rfl (lv_at hl 1 rfl) ?_
  refine lv_aload_n hx hb dJ7_copyOf_2 rfl (lv_at hl 0 rfl) ?_
  refine va_getC hx hb (hml.trans hl.1.symm) hown (hts _ q180) ((hE.1 _ q1641 rfl).use rfl) (hts _ q1640) (hts _ q181) (hts _ q201) hE.2.1.1.2 (va_Orecv hE.2.2.2.2.2.2.2.2.2.2.1 hS) (Nat.le_of_ble_eq_true rfl) (Nat.le_of_ble_eq_true rfl) dJ7_copyOf_3 ?_
  refine aC_q (wr := []) hP hD hS hA [] [] rfl rfl (by decide) (by decide) (va_runS (As := [.ref eA, .int x1, .ref mi]) (rest := []) S (metJ7_copyOf_2_z l hf) (va_cwS 3 hts (lw_S q202 q203 q67 q204) rfl rfl rfl pdJ7_copyOf_2 ⟨Nat.le_of_ble_eq_true rfl, Nat.le_of_ble_eq_true rfl⟩) (apreS hK hE hP hD hS hA [] rfl rfl (by decide)) rfl rfl hl.1 rfl (lv_room (Nat.le_of_ble_eq_true rfl)) dJ7_copyOf_6 ⟨Nat.le_of_ble_eq_true rfl, Nat.le_of_ble_eq_true rfl⟩) (fun r_6 u_6 H locs hf hP hD hS => ?_)
  obtain ⟨ra_6, rfl⟩ : ∃ z, z = u_6 := ⟨_, rfl⟩
  obtain ⟨er_6, hf⟩ := hf
  subst er_6
  replace hP : va_P (dC, dI) vwCl [(ra_6, .inl (dA 4, 0, .inr (.inr (.inr (.inr (va_cpy (fun _ => none) (fun _ => none) (0 : Int32).toNatClampNeg (0 : Int32).toNatClampNeg ((if x1 < 0 then x1 else 0) : Int32).toNatClampNeg))))))] H := hP
  replace hD : va_D A [(ra_6, .inl (dA 4, 0, .inr (.inr (.inr (.inr (va_cpy (fun _ => none) (fun _ => none) (0 : Int32).toNatClampNeg (0 : Int32).toNatClampNeg ((if x1 < 0 then x1 else 0) : Int32).toNatClampNeg))))))] := hD
  try dsimp only at hf
  refine W.eq (g2 := F0 m 9 ls (.ref ra_6 :: [])) rfl ?_
  exact hret ra_6 _ _ _ _ _ _ (Nat.le_of_ble_eq_true rfl) (Nat.le_of_ble_eq_true rfl) hf (hP.sub [0] rfl) (hD.sub [0] (by decide) rfl) hS dJ7_copyOf_9
