/-! java/lang/Throwable.<init>(Ljava/lang/String;Ljava/lang/Throwable;ZZ)V -/
theorem pdJ8_init_3 : DscOk yJ8_init_3 4 := by decide +kernel
abbrev rmJ8_init_3 : Room := { frames := 1, cells := 0, slots := 0, locals := 12 }
abbrev RJ8_init_3_ : Room := (headSpec (ws_ yJ8_init_3 cJ8_init_3 5 none) rmJ8_init_3).room
section
variable {p : Program} {l : Launch} {e : Env} {s : State} {m : MethodId} {args : Array Value} {below : List Frame} {meth : Method} {c : Code} {Qw : State → Prop} {dC : Nat → ClassId} {dI : Nat → Nat → Nat} {dA : Nat → ClassId} {eA mi : Nat} {A : Nat → Prop} {fa : Nat}
abbrev hrJ8_init_3 (p : Program) (l : Launch) (e : Env) (s : State) (m : MethodId) (args : Array Value) (below : List Frame) (meth : Method) (c : Code) (dC : Nat → ClassId) (dI : Nat → Nat → Nat) (dA : Nat → ClassId) (A : Nat → Prop) (fa : Nat) (Qw : State → Prop) (Q : Prop) (fdep : Int32) (fpl : Int32) : Prop := ∀ (H : Heap) (locs : List Loc) (kc ks : Nat) (pc : Nat) (ls : Array Slot), kc ≤ 0 → ks ≤ 0 → Q → va_P (dC, dI) vwCl [(fa, .inr (10, [.null, .null, .null, .null, .null, .int fdep, .int fpl]))] H → va_D A [(fa, .inr (10, [.null, .null, .null, .null, .null, .int fdep, .int fpl]))] → va_S A s.heap H locs → decode cJ8_init_3 pc = .ok (.return_, 1) → W p l e RJ8_init_3_ s m args below meth c H locs kc ks Qw (F0 m pc ls [])
def wJ8_init_3 (Q : Prop) (x3 : Int32) (x4 : Int32) : Prop := ((x4 = 0 → ((x3 = 0 → (Q)) ∧ (¬ x3 = 0 → False))) ∧ (¬ x4 = 0 → False))
end
set_option maxHeartbeats 4000000 in
set_option maxRecDepth 100000 in
theorem metJ8_init_3 (l : Launch) {Q : Prop} {fdep : Int32} {fpl : Int32} {x3 : Int32} {x4 : Int32} {dC : Nat → ClassId} {dI : Nat → Nat → Nat} {dA : Nat → ClassId} {eA mi sz : Nat} {fa : Nat} (hf : wJ8_init_3 Q x3 x4) : Met l yJ8_init_3 (ws_ yJ8_init_3 cJ8_init_3 5 none) rmJ8_init_3 (aPc dC dI dA eA mi sz [.ref fa, .null, .null, .int x3, .int x4] [(fa, .inr (10, [.null, .null, .null, .null, .null, .int fdep, .int fpl]))]) (va_Qv (fun (u : Unit) => Q) (aB dC dI [(fa, .inr (10, [.null, .null, .null, .null, .null, .int fdep, .int fpl]))] sz (fun u => [(fa, .inr (10, [.null, .null, .null, .null, .null, .int fdep, .int fpl]))])) (va_A [(fa, .inr (10, [.null, .null, .null, .null, .null, .int fdep, .int fpl]))] sz)) 0 0 (va_A [(fa, .inr (10, [.null, .null, .null, .null, .null, .int fdep, .int fpl]))] sz) := by
  refine Met.ofW (cc := cJ8_init_3) (maxL := 5) (ret := none) (by decide) rfl ?_
  intro p e s m args below meth c s₁ B hml hv
  obtain ⟨rfl, hsz, hP, hK, hD0, hE⟩ := hv
  subst hsz
  have hx := B.exec
  have hb := B.bytes
  have hr := B.returns
  have hts := atoms_spec (ws := (ws_ yJ8_init_3 cJ8_init_3 5 none)) B.pre
  have hts : ∀ w ∈ lw_all, w.before _ s = true := fun w h => hts w (List.mem_cons_of_mem _ h)
  have hown : s.vm.findClass RJ8 = some m.cls := findClass_of_methodNamed B.named
  have hlocks := B.notSynchronized
  have hin : meth.name = "<init>" := (name_of_methodNamed B.named B.method).1
  have S : CallFix p m c cJ8_init_3 5 s _ lw_all RJ8 := ⟨hx, hb, hml, hown, hts⟩
  have hD := hD0.self (sz := s.heap.size)
  have hA : ∀ q : Nat, s.heap.size ≤ q → va_A [(fa, .inr (10, [.null, .null, .null, .null, .null, .int fdep, .int fpl]))] s.heap.size q := fun q h => Or.inr h
  have hS : va_S (va_A [(fa, .inr (10, [.null, .null, .null, .null, .null, .int fdep, .int fpl]))] s.heap.size) s.heap s.heap [] := va_S.rf
  have hl := lv_entry ([.ref fa, .null, .null, .int x3, .int x4]) (n := 5) (Nat.le_of_ble_eq_true rfl)
  rw [lg_entry_eq]
  generalize (lg_sl ([.ref fa, .null, .null, .int x3, .int x4]) ++ List.replicate (5 - (lg_sl ([.ref fa, .null, .null, .int x3, .int x4])).length) Slot.unset).toArray = ls at hl ⊢
  replace hl : lv_has ls 5 [(0, .ref fa), (1, .null), (2, .null), (3, .int x3), (4, .int x4)] := hl
  have hret : hrJ8_init_3 p l e s m ([.ref fa, .null, .null, .int x3, .int x4] : List Value).toArray below meth c dC dI dA (va_A [(fa, .inr (10, [.null, .null, .null, .null, .null, .int fdep, .int fpl]))] s.heap.size) fa (MQ below (va_Qv (fun (u : Unit) => Q) (aB dC dI [(fa, .inr (10, [.null, .null, .null, .null, .null, .int fdep, .int fpl]))] s.heap.size (fun u => [(fa, .inr (10, [.null, .null, .null, .null, .null, .int fdep, .int fpl]))])) (va_A [(fa, .inr (10, [.null, .null, .null, .null, .null, .int fdep, .int fpl]))] s.heap.size)) ([.ref fa, .null, .null, .int x3, .int x4] : List Value).toArray s 0 0 (va_A [(fa, .inr (10, [.null, .null, .null, .null, .null, .int fdep, .int fpl]))] s.heap.size)) Q fdep fpl := fun H locs kc ks pc ls h1 h2 hq hP hD hS hd => W.widen (k := 0) (n := 0) h1 h2 (W.vret hx hb hr (fun t ht hW => ⟨⟨(), rfl, hq, by subst ht; exact ⟨hP, hD⟩⟩, hS.F ht⟩) hS.2.2 hd)
  generalize hAe : va_A [(fa, .inr (10, [.null, .null, .null, .null, .null, .int fdep, .int fpl]))] s.heap.size = A at hD hA hS hE hret ⊢
  clear hAe
  unfold wJ8_init_3 at hf
  refine lv_aload_n hx hb dJ8_init_3_0 rfl (lv_at hl 0 rfl) ?_
  refine W.objInit hx hb hown (hts _ q546) (hts _ q105) (hts _ q106) rfl (by rw [hml]; exact hl.1) rfl dJ8_init_3_1 (Nat.le_of_ble_eq_true rfl) (Nat.le_of_ble_eq_true rfl) ?_
  refine W.eq (g2 := F0 m 4 ls []) rfl ?_
  refine lv_aload_n hx hb dJ8_init_3_4 rfl (lv_at hl 0 rfl) ?_
  refine lv_aload_n hx hb dJ8_init_3_5 rfl (lv_at hl 0 rfl) ?_
  refine va_put (D := (dC, dI)) (ci := 10) (v := .ref fa) (ty := tyX10 0) (C := RX10) (T := TX10) (N := 7) hx hb hts in_X10 tyX10 tyX10_ok nmX10 hown hK hP hD hS 0 rfl rfl 0 (by decide) (hts _ q582) (fun _ h9 => h9) rfl (by decide +kernel) rfl rfl (Nat.le_of_ble_eq_true rfl) dJ8_init_3_6 (fun H locs hP hD hS => ?_)
  replace hP : va_P (dC, dI) vwCl [(fa, .inr (10, [.ref fa, .null, .null, .null, .null, .int fdep, .int fpl]))] H := hP
  replace hD : va_D A [(fa, .inr (10, [.ref fa, .null, .null, .null, .null, .int fdep, .int fpl]))] := hD
  refine lv_aload_n hx hb dJ8_init_3_9 rfl (lv_at hl 0 rfl) ?_
  rcases hE.2.2.2.2.2.2.2.2.2.2.2.2.1 with hz_10 | ⟨t_10, hz_10⟩
  · refine va_gets (v := .null) hx hb hz_10 hS hown (hts _ q547) (fun _ h9 => h9) dJ8_init_3_10 ?_
    refine va_put (D := (dC, dI)) (ci := 10) (v := .null) (ty := tyX10 1) (C := RX10) (T := TX10) (N := 7) hx hb hts in_X10 tyX10 tyX10_ok nmX10 hown hK hP hD hS 0 rfl rfl 1 (by decide) (hts _ q583) (fun _ h9 => h9) rfl (by decide +kernel) rfl rfl (Nat.le_of_ble_eq_true rfl) dJ8_init_3_13 (fun H locs hP hD hS => ?_)
    replace hP : va_P (dC, dI) vwCl [(fa, .inr (10, [.ref fa, .null, .null, .null, .null, .int fdep, .int fpl]))] H := hP
    replace hD : va_D A [(fa, .inr (10, [.ref fa, .null, .null, .null, .null, .int fdep, .int fpl]))] := hD
    refine lv_aload_n hx hb dJ8_init_3_16 rfl (lv_at hl 0 rfl) ?_
    rcases hE.2.2.2.2.2.2.2.2.2.2.2.2.2.1 with hz_17 | ⟨t_17, hz_17⟩
    · refine va_gets (v := .null) hx hb hz_17 hS hown (hts _ q549) (fun _ h9 => h9) dJ8_init_3_17 ?_
      refine va_put (D := (dC, dI)) (ci := 10) (v := .null) (ty := tyX10 2) (C := RX10) (T := TX10) (N := 7) hx hb hts in_X10 tyX10 tyX10_ok nmX10 hown hK hP hD hS 0 rfl rfl 2 (by decide) (hts _ q584) (fun _ h9 => h9) rfl (by decide +kernel) rfl rfl (Nat.le_of_ble_eq_true rfl) dJ8_init_3_20 (fun H locs hP hD hS => ?_)
      replace hP : va_P (dC, dI) vwCl [(fa, .inr (10, [.ref fa, .null, .null, .null, .null, .int fdep, .int fpl]))] H := hP
      replace hD : va_D A [(fa, .inr (10, [.ref fa, .null, .null, .null, .null, .int fdep, .int fpl]))] := hD
      refine lv_iload hx hb dJ8_init_3_23 (lv_at hl 4 rfl) ?_
      refine lv_if_eq (tgt := 36) hx hb dJ8_init_3_25 (by decide) (fun c_25 => ?_) (fun c_25 => ?_)
      · replace hf := hf.1 c_25
        refine lv_aload_n hx hb dJ8_init_3_36 rfl (lv_at hl 0 rfl) ?_
        refine lv_null hx hb dJ8_init_3_37 ?_
        refine va_put (D := (dC, dI)) (ci := 10) (v := .null) (ty := tyX10 1) (C := RX10) (T := TX10) (N := 7) hx hb hts in_X10 tyX10 tyX10_ok nmX10 hown hK hP hD hS 0 rfl rfl 1 (by decide) (hts _ q583) (fun _ h9 => h9) rfl (by decide +kernel) rfl rfl (Nat.le_of_ble_eq_true rfl) dJ8_init_3_38 (fun H locs hP hD hS => ?_)
        replace hP : va_P (dC, dI) vwCl [(fa, .inr (10, [.ref fa, .null, .null, .null, .null, .int fdep, .int fpl]))] H := hP
        replace hD : va_D A [(fa, .inr (10, [.ref fa, .null, .null, .null, .null, .int fdep, .int fpl]))] := hD
        refine lv_aload_n hx hb dJ8_init_3_41 rfl (lv_at hl 0 rfl) ?_
        refine lv_aload_nN hx hb dJ8_init_3_42 rfl (lv_at hl 1 rfl) ?_
        refine va_put (D := (dC, dI)) (ci := 10) (v := .null) (ty := tyX10 3) (C := RX10) (T := TX10) (N := 7) hx hb hts in_X10 tyX10 tyX10_ok nmX10 hown hK hP hD hS 0 rfl rfl 3 (by decide) (hts _ q581) (fun _ h9 => h9) rfl (by decide +kernel) rfl rfl (Nat.le_of_ble_eq_true rfl) dJ8_init_3_43 (fun H locs hP hD hS => ?_)
        replace hP : va_P (dC, dI) vwCl [(fa, .inr (10, [.ref fa, .null, .null, .null, .null, .int fdep, .int fpl]))] H := hP
        replace hD : va_D A [(fa, .inr (10, [.ref fa, .null, .null, .null, .null, .int fdep, .int fpl]))] := hD
        refine lv_aload_n hx hb dJ8_init_3_46 rfl (lv_at hl 0 rfl) ?_
        refine lv_aload_nN hx hb dJ8_init_3_47 rfl (lv_at hl 2 rfl) ?_
        refine va_put (D := (dC, dI)) (ci := 10) (v := .null) (ty := tyX10 0) (C := RX10) (T := TX10) (N := 7) hx hb hts in_X10 tyX10 tyX10_ok nmX10 hown hK hP hD hS 0 rfl rfl 0 (by decide) (hts _ q582) (fun _ h9 => h9) rfl (by decide +kernel) rfl rfl (Nat.le_of_ble_eq_true rfl) dJ8_init_3_48 (fun H locs hP hD hS => ?_)
        replace hP : va_P (dC, dI) vwCl [(fa, .inr (10, [.null, .null, .null, .null, .null, .int fdep, .int fpl]))] H := hP
        replace hD : va_D A [(fa, .inr (10, [.null, .null, .null, .null, .null, .int fdep, .int fpl]))] := hD
        refine lv_iload_n hx hb dJ8_init_3_51 rfl (lv_at hl 3 rfl) ?_
        refine lv_if_ne (tgt := 60) hx hb dJ8_init_3_52 (by decide) (fun c_52 => ?_) (fun c_52 => ?_)
        · replace hf := hf.2 c_52
          exact hf.elim
        · replace hf := hf.1 c_52
          refine lv_aload_n hx hb dJ8_init_3_55 rfl (lv_at hl 0 rfl) ?_
          refine lv_null hx hb dJ8_init_3_56 ?_
          refine va_put (D := (dC, dI)) (ci := 10) (v := .null) (ty := tyX10 2) (C := RX10) (T := TX10) (N := 7) hx hb hts in_X10 tyX10 tyX10_ok nmX10 hown hK hP hD hS 0 rfl rfl 2 (by decide) (hts _ q584) (fun _ h9 => h9) rfl (by decide +kernel) rfl rfl (Nat.le_of_ble_eq_true rfl) dJ8_init_3_57 (fun H locs hP hD hS => ?_)
          replace hP : va_P (dC, dI) vwCl [(fa, .inr (10, [.null, .null, .null, .null, .null, .int fdep, .int fpl]))] H := hP
          replace hD : va_D A [(fa, .inr (10, [.null, .null, .null, .null, .null, .int fdep, .int fpl]))] := hD
          exact hret _ _ _ _ _ _ (Nat.zero_le _) (Nat.zero_le _) hf (hP.sub [0] rfl) (hD.sub [0] (by decide) rfl) hS dJ8_init_3_60
      · replace hf := hf.2 c_25
        exact hf.elim
    · refine va_gets (v := .ref t_17) hx hb hz_17 hS hown (hts _ q549) (fun _ h9 => h9) dJ8_init_3_17 ?_
      refine va_put (D := (dC, dI)) (ci := 10) (v := .ref t_17) (ty := tyX10 2) (C := RX10) (T := TX10) (N := 7) hx hb hts in_X10 tyX10 tyX10_ok nmX10 hown hK hP hD hS 0 rfl rfl 2 (by decide) (hts _ q584) (fun _ h9 => h9) rfl (by decide +kernel) rfl rfl (Nat.le_of_ble_eq_true rfl) dJ8_init_3_20 (fun H locs hP hD hS => ?_)
      replace hP : va_P (dC, dI) vwCl [(fa, .inr (10, [.ref fa, .null, .ref t_17, .null, .null, .int fdep, .int fpl]))] H := hP
      replace hD : va_D A [(fa, .inr (10, [.ref fa, .null, .ref t_17, .null, .null, .int fdep, .int fpl]))] := hD
      refine lv_iload hx hb dJ8_init_3_23 (lv_at hl 4 rfl) ?_
      refine lv_if_eq (tgt := 36) hx hb dJ8_init_3_25 (by decide) (fun c_25 => ?_) (fun c_25 => ?_)
      · replace hf := hf.1 c_25
        refine lv_aload_n hx hb dJ8_init_3_36 rfl (lv_at hl 0 rfl) ?_
        refine lv_null hx hb dJ8_init_3_37 ?_
        refine va_put (D := (dC, dI)) (ci := 10) (v := .null) (ty := tyX10 1) (C := RX10) (T := TX10) (N := 7) hx hb hts in_X10 tyX10 tyX10_ok nmX10 hown hK hP hD hS 0 rfl rfl 1 (by decide) (hts _ q583) (fun _ h9 => h9) rfl (by decide +kernel) rfl rfl (Nat.le_of_ble_eq_true rfl) dJ8_init_3_38 (fun H locs hP hD hS => ?_)
        replace hP : va_P (dC, dI) vwCl [(fa, .inr (10, [.ref fa, .null, .ref t_17, .null, .null, .int fdep, .int fpl]))] H := hP
        replace hD : va_D A [(fa, .inr (10, [.ref fa, .null, .ref t_17, .null, .null, .int fdep, .int fpl]))] := hD
        refine lv_aload_n hx hb dJ8_init_3_41 rfl (lv_at hl 0 rfl) ?_
        refine lv_aload_nN hx hb dJ8_init_3_42 rfl (lv_at hl 1 rfl) ?_
        refine va_put (D := (dC, dI)) (ci := 10) (v := .null) (ty := tyX10 3) (C := RX10) (T := TX10) (N := 7) hx hb hts in_X10 tyX10 tyX10_ok nmX10 hown hK hP hD hS 0 rfl rfl 3 (by decide) (hts _ q581) (fun _ h9 => h9) rfl (by decide +kernel) rfl rfl (Nat.le_of_ble_eq_true rfl) dJ8_init_3_43 (fun H locs hP hD hS => ?_)
        replace hP : va_P (dC, dI) vwCl [(fa, .inr (10, [.ref fa, .null, .ref t_17, .null, .null, .int fdep, .int fpl]))] H := hP
        replace hD : va_D A [(fa, .inr (10, [.ref fa, .null, .ref t_17, .null, .null, .int fdep, .int fpl]))] := hD
        refine lv_aload_n hx hb dJ8_init_3_46 rfl (lv_at hl 0 rfl) ?_
        refine lv_aload_nN hx hb dJ8_init_3_47 rfl (lv_at hl 2 rfl) ?_
        refine va_put (D := (dC, dI)) (ci := 10) (v := .null) (ty := tyX10 0) (C := RX10) (T := TX10) (N := 7) hx hb hts in_X10 tyX10 tyX10_ok nmX10 hown hK hP hD hS 0 rfl rfl 0 (by decide) (hts _ q582) (fun _ h9 => h9) rfl (by decide +kernel) rfl rfl (Nat.le_of_ble_eq_true rfl) dJ8_init_3_48 (fun H locs hP hD hS => ?_)
        replace hP : va_P (dC, dI) vwCl [(fa, .inr (10, [.null, .null, .ref t_17, .null, .null, .int fdep, .int fpl]))] H := hP
        replace hD : va_D A [(fa, .inr (10, [.null, .null, .ref t_17, .null, .null, .int fdep, .int fpl]))] := hD
        refine lv_iload_n hx hb dJ8_init_3_51 rfl (lv_at hl 3 rfl) ?_
        refine lv_if_ne (tgt := 60) hx hb dJ8_init_3_52 (by decide) (fun c_52 => ?_) (fun c_52 => ?_)
        · replace hf := hf.2 c_52
          exact hf.elim
        · replace hf := hf.1 c_52
          refine lv_aload_n hx hb dJ8_init_3_55 rfl (lv_at hl 0 rfl) ?_
          refine lv_null hx hb dJ8_init_3_56 ?_
          refine va_put (D := (dC, dI)) (ci := 10) (v := .null) (ty := tyX10 2) (C := RX10) (T := TX10) (N := 7) hx hb hts in_X10 tyX10 tyX10_ok nmX10 hown hK hP hD hS 0 rfl rfl 2 (by decide) (hts _ q584) (fun _ h9 => h9) rfl (by decide +kernel) rfl rfl (Nat.le_of_ble_eq_true rfl) dJ8_init_3_57 (fun H locs hP hD hS => ?_)
          replace hP : va_P (dC, dI) vwCl [(fa, .inr (10, [.null, .null, .null, .null, .null, .int fdep, .int fpl]))] H := hP
          replace hD : va_D A [(fa, .inr (10, [.null, .null, .null, .null, .null, .int fdep, .int fpl]))] := hD
          exact hret _ _ _ _ _ _ (Nat.zero_le _) (Nat.zero_le _) hf (hP.sub [0] rfl) (hD.sub [0] (by decide) rfl) hS dJ8_init_3_60
      · replace hf := hf.2 c_25
        exact hf.elim
  · refine va_gets (v := .ref t_10) hx hb hz_10 hS hown (hts _ q547) (fun _ h9 => h9) dJ8_init_3_10 ?_
    refine va_put (D := (dC, dI)) (ci := 10) (v := .ref t_10) (ty := tyX10 1) (C := RX10) (T := TX10) (N := 7) hx hb hts in_X10 tyX10 tyX10_ok nmX10 hown hK hP hD hS 0 rfl rfl 1 (by decide) (hts _ q583) (fun _ h9 => h9) rfl (by decide +kernel) rfl rfl (Nat.le_of_ble_eq_true rfl) dJ8_init_3_13 (fun H locs hP hD hS => ?_)
    replace hP : va_P (dC, dI) vwCl [(fa, .inr (10, [.ref fa, .ref t_10, .null, .null, .null, .int fdep, .int fpl]))] H := hP
    replace hD : va_D A [(fa, .inr (10, [.ref fa, .ref t_10, .null, .null, .null, .int fdep, .int fpl]))] := hD
    refine lv_aload_n hx hb dJ8_init_3_16 rfl (lv_at hl 0 rfl) ?_
    rcases hE.2.2.2.2.2.2.2.2.2.2.2.2.2.1 with hz_17 | ⟨t_17, hz_17⟩
    · refine va_gets (v := .null) hx hb hz_17 hS hown (hts _ q549) (fun _ h9 => h9) dJ8_init_3_17 ?_
      refine va_put (D := (dC, dI)) (ci := 10) (v := .null) (ty := tyX10 2) (C := RX10) (T := TX10) (N := 7) hx hb hts in_X10 tyX10 tyX10_ok nmX10 hown hK hP hD hS 0 rfl rfl 2 (by decide) (hts _ q584) (fun _ h9 => h9) rfl (by decide +kernel) rfl rfl (Nat.le_of_ble_eq_true rfl) dJ8_init_3_20 (fun H locs hP hD hS => ?_)
      replace hP : va_P (dC, dI) vwCl [(fa, .inr (10, [.ref fa, .ref t_10, .null, .null, .null, .int fdep, .int fpl]))] H := hP
      replace hD : va_D A [(fa, .inr (10, [.ref fa, .ref t_10, .null, .null, .null, .int fdep, .int fpl]))] := hD
      refine lv_iload hx hb dJ8_init_3_23 (lv_at hl 4 rfl) ?_
      refine lv_if_eq (tgt := 36) hx hb dJ8_init_3_25 (by decide) (fun c_25 => ?_) (fun c_25 => ?_)
      · replace hf := hf.1 c_25
        refine lv_aload_n hx hb dJ8_init_3_36 rfl (lv_at hl 0 rfl) ?_
        refine lv_null hx hb dJ8_init_3_37 ?_
        refine va_put (D := (dC, dI)) (ci := 10) (v := .null) (ty := tyX10 1) (C := RX10) (T := TX10) (N := 7) hx hb hts in_X10 tyX10 tyX10_ok nmX10 hown hK hP hD hS 0 rfl rfl 1 (by decide) (hts _ q583) (fun _ h9 => h9) rfl (by decide +kernel) rfl rfl (Nat.le_of_ble_eq_true rfl) dJ8_init_3_38 (fun H locs hP hD hS => ?_)
        replace hP : va_P (dC, dI) vwCl [(fa, .inr (10, [.ref fa, .null, .null, .null, .null, .int fdep, .int fpl]))] H := hP
        replace hD : va_D A [(fa, .inr (10, [.ref fa, .null, .null, .null, .null, .int fdep, .int fpl]))] := hD
        refine lv_aload_n hx hb dJ8_init_3_41 rfl (lv_at hl 0 rfl) ?_
        refine lv_aload_nN hx hb dJ8_init_3_42 rfl (lv_at hl 1 rfl) ?_
        refine va_put (D := (dC, dI)) (ci := 10) (v := .null) (ty := tyX10 3) (C := RX10) (T := TX10) (N := 7) hx hb hts in_X10 tyX10 tyX10_ok nmX10 hown hK hP hD hS 0 rfl rfl 3 (by decide) (hts _ q581) (fun _ h9 => h9) rfl (by decide +kernel) rfl rfl (Nat.le_of_ble_eq_true rfl) dJ8_init_3_43 (fun H locs hP hD hS => ?_)
        replace hP : va_P (dC, dI) vwCl [(fa, .inr (10, [.ref fa, .null, .null, .null, .null, .int fdep, .int fpl]))] H := hP
        replace hD : va_D A [(fa, .inr (10, [.ref fa, .null, .null, .null, .null, .int fdep, .int fpl]))] := hD
        refine lv_aload_n hx hb dJ8_init_3_46 rfl (lv_at hl 0 rfl) ?_
        refine lv_aload_nN hx hb dJ8_init_3_47 rfl (lv_at hl 2 rfl) ?_
        refine va_put (D := (dC, dI)) (ci := 10) (v := .null) (ty := tyX10 0) (C := RX10) (T := TX10) (N := 7) hx hb hts in_X10 tyX10 tyX10_ok nmX10 hown hK hP hD hS 0 rfl rfl 0 (by decide) (hts _ q582) (fun _ h9 => h9) rfl (by decide +kernel) rfl rfl (Nat.le_of_ble_eq_true rfl) dJ8_init_3_48 (fun H locs hP hD hS => ?_)
        replace hP : va_P (dC, dI) vwCl [(fa, .inr (10, [.null, .null, .null, .null, .null, .int fdep, .int fpl]))] H := hP
        replace hD : va_D A [(fa, .inr (10, [.null, .null, .null, .null, .null, .int fdep, .int fpl]))] := hD
        refine lv_iload_n hx hb dJ8_init_3_51 rfl (lv_at hl 3 rfl) ?_
        refine lv_if_ne (tgt := 60) hx hb dJ8_init_3_52 (by decide) (fun c_52 => ?_) (fun c_52 => ?_)
        · replace hf := hf.2 c_52
          exact hf.elim
        · replace hf := hf.1 c_52
          refine lv_aload_n hx hb dJ8_init_3_55 rfl (lv_at hl 0 rfl) ?_
          refine lv_null hx hb dJ8_init_3_56 ?_
          refine va_put (D := (dC, dI)) (ci := 10) (v := .null) (ty := tyX10 2) (C := RX10) (T := TX10) (N := 7) hx hb hts in_X10 tyX10 tyX10_ok nmX10 hown hK hP hD hS 0 rfl rfl 2 (by decide) (hts _ q584) (fun _ h9 => h9) rfl (by decide +kernel) rfl rfl (Nat.le_of_ble_eq_true rfl) dJ8_init_3_57 (fun H locs hP hD hS => ?_)
          replace hP : va_P (dC, dI) vwCl [(fa, .inr (10, [.null, .null, .null, .null, .null, .int fdep, .int fpl]))] H := hP
          replace hD : va_D A [(fa, .inr (10, [.null, .null, .null, .null, .null, .int fdep, .int fpl]))] := hD
          exact hret _ _ _ _ _ _ (Nat.zero_le _) (Nat.zero_le _) hf (hP.sub [0] rfl) (hD.sub [0] (by decide) rfl) hS dJ8_init_3_60
      · replace hf := hf.2 c_25
        exact hf.elim
    · refine va_gets (v := .ref t_17) hx hb hz_17 hS hown (hts _ q549) (fun _ h9 => h9) dJ8_init_3_17 ?_
      refine va_put (D := (dC, dI)) (ci := 10) (v := .ref t_17) (ty := tyX10 2) (C := RX10) (T := TX10) (N := 7) hx hb hts in_X10 tyX10 tyX10_ok nmX10 hown hK hP hD hS 0 rfl rfl 2 (by decide) (hts _ q584) (fun _ h9 => h9) rfl (by decide +kernel) rfl rfl (Nat.le_of_ble_eq_true rfl) dJ8_init_3_20 (fun H locs hP hD hS => ?_)
      replace hP : va_P (dC, dI) vwCl [(fa, .inr (10, [.ref fa, .ref t_10, .ref t_17, .null, .null, .int fdep, .int fpl]))] H := hP
      replace hD : va_D A [(fa, .inr (10, [.ref fa, .ref t_10, .ref t_17, .null, .null, .int fdep, .int fpl]))] := hD
      refine lv_iload hx hb dJ8_init_3_23 (lv_at hl 4 rfl) ?_
      refine lv_if_eq (tgt := 36) hx hb dJ8_init_3_25 (by decide) (fun c_25 => ?_) (fun c_25 => ?_)
      · replace hf := hf.1 c_25
        refine lv_aload_n hx hb dJ8_init_3_36 rfl (lv_at hl 0 rfl) ?_
        refine lv_null hx hb dJ8_init_3_37 ?_
        refine va_put (D := (dC, dI)) (ci := 10) (v := .null) (ty := tyX10 1) (C := RX10) (T := TX10) (N := 7) hx hb hts in_X10 tyX10 tyX10_ok nmX10 hown hK hP hD hS 0 rfl rfl 1 (by decide) (hts _ q583) (fun _ h9 => h9) rfl (by decide +kernel) rfl rfl (Nat.le_of_ble_eq_true rfl) dJ8_init_3_38 (fun H locs hP hD hS => ?_)
        replace hP : va_P (dC, dI) vwCl [(fa, .inr (10, [.ref fa, .null, .ref t_17, .null, .null, .int fdep, .int fpl]))] H := hP
        replace hD : va_D A [(fa, .inr (10, [.ref fa, .null, .ref t_17, .null, .null, .int fdep, .int fpl]))] := hD
        refine lv_aload_n hx hb dJ8_init_3_41 rfl (lv_at hl 0 rfl) ?_
        refine lv_aload_nN hx hb dJ8_init_3_42 rfl (lv_at hl 1 rfl) ?_
        refine va_put (D := (dC, dI)) (ci := 10) (v := .null) (ty := tyX10 3) (C := RX10) (T := TX10) (N := 7) hx hb hts in_X10 tyX10 tyX10_ok nmX10 hown hK hP hD hS 0 rfl rfl 3 (by decide) (hts _ q581) (fun _ h9 => h9) rfl (by decide +kernel) rfl rfl (Nat.le_of_ble_eq_true rfl) dJ8_init_3_43 (fun H locs hP hD hS => ?_)
        replace hP : va_P (dC, dI) vwCl [(fa, .inr (10, [.ref fa, .null, .ref t_17, .null, .null, .int fdep, .int fpl]))] H := hP
        replace hD : va_D A [(fa, .inr (10, [.ref fa, .null, .ref t_17, .null, .null, .int fdep, .int fpl]))] := hD
        refine lv_aload_n hx hb dJ8_init_3_46 rfl (lv_at hl 0 rfl) ?_
        refine lv_aload_nN hx hb dJ8_init_3_47 rfl (lv_at hl 2 rfl) ?_
        refine va_put (D := (dC, dI)) (ci := 10) (v := .null) (ty := tyX10 0) (C := RX10) (T := TX10) (N := 7) hx hb hts in_X10 tyX10 tyX10_ok nmX10 hown hK hP hD hS 0 rfl rfl 0 (by decide) (hts _ q582) (fun _ h9 => h9) rfl (by decide +kernel) rfl rfl (Nat.le_of_ble_eq_true rfl) dJ8_init_3_48 (fun H locs hP hD hS => ?_)
        replace hP : va_P (dC, dI) vwCl [(fa, .inr (10, [.null, .null, .ref t_17, .null, .null, .int fdep, .int fpl]))] H := hP
        replace hD : va_D A [(fa, .inr (10, [.null, .null, .ref t_17, .null, .null, .int fdep, .int fpl]))] := hD
        refine lv_iload_n hx hb dJ8_init_3_51 rfl (lv_at hl 3 rfl) ?_
        refine lv_if_ne (tgt := 60) hx hb dJ8_init_3_52 (by decide) (fun c_52 => ?_) (fun c_52 => ?_)
        · replace hf := hf.2 c_52
          exact hf.elim
        · replace hf := hf.1 c_52
          refine lv_aload_n hx hb dJ8_init_3_55 rfl (lv_at hl 0 rfl) ?_
          refine lv_null hx hb dJ8_init_3_56 ?_
          refine va_put (D := (dC, dI)) (ci := 10) (v := .null) (ty := tyX10 2) (C := RX10) (T := TX10) (N := 7) hx hb hts in_X10 tyX10 tyX10_ok nmX10 hown hK hP hD hS 0 rfl rfl 2 (by decide) (hts _ q584) (fun _ h9 => h9) rfl (by decide +kernel) rfl rfl (Nat.le_of_ble_eq_true rfl) dJ8_init_3_57 (fun H locs hP hD hS => ?_)
          replace hP : va_P (dC, dI) vwCl [(fa, .inr (10, [.null, .null, .null, .null, .null, .int fdep, .int fpl]))] H := hP
          replace hD : va_D A [(fa, .inr (10, [.null, .null, .null, .null, .null, .int fdep, .int fpl]))] := hD
          exact hret _ _ _ _ _ _ (Nat.zero_le _) (Nat.zero_le _) hf (hP.sub [0] rfl) (hD.sub [0] (by decide) rfl) hS dJ8_init_3_60
      · replace hf := hf.2 c_25
        exact hf.elim
/-! java/lang/Exception.<init>(Ljava/lang/String;Ljava/lang/Throwable;ZZ)V -/
theorem pdJ9_init_2 : DscOk yJ9_init_2 4 := by decide +kernel
abbrev rmJ9_init_2 : Room := { frames := 2, cells := 0, slots := 0, locals := 36 }
abbrev RJ9_init_2_ : Room := (headSpec (ws_ yJ9_init_2 cJ9_init_2 5 none) rmJ9_init_2).room
section
variable {p : Program} {l : Launch} {e : Env} {s : State} {m : MethodId} {args : Array Value} {below : List Frame} {meth : Method} {c : Code} {Qw : State → Prop} {dC : Nat → ClassId} {dI : Nat → Nat → Nat} {dA : Nat → ClassId} {eA mi : Nat} {A : Nat → Prop} {fa : Nat}
abbrev hrJ9_init_2 (p : Program) (l : Launch) (e : Env) (s : State) (m : MethodId) (args : Array Value) (below : List Frame) (meth : Method) (c : Code) (dC : Nat → ClassId) (dI : Nat → Nat → Nat) (dA : Nat → ClassId) (A : Nat → Prop) (fa : Nat) (Qw : State → Prop) (Q : Prop) (fdep : Int32) (fpl : Int32) : Prop := ∀ (H : Heap) (locs : List Loc) (kc ks : Nat) (pc : Nat) (ls : Array Slot), kc ≤ 0 → ks ≤ 0 → Q → va_P (dC, dI) vwCl [(fa, .inr (10, [.null, .null, .null, .null, .null, .int fdep, .int fpl]))] H → va_D A [(fa, .inr (10, [.null, .null, .null, .null, .null, .int fdep, .int fpl]))] → va_S A s.heap H locs → decode cJ9_init_2 pc = .ok (.return_, 1) → W p l e RJ9_init_2_ s m args below meth c H locs kc ks Qw (F0 m pc ls [])
def wJ9_init_2 (Q : Prop) (x3 : Int32) (x4 : Int32) : Prop := (wJ8_init_3 (Q) x3 x4)
end
set_option maxHeartbeats 4000000 in
set_option maxRecDepth 100000 in
theorem metJ9_init_2 (l : Launch) {Q : Prop} {fdep : Int32} {fpl : Int32} {x3 : Int32} {x4 : Int32} {dC : Nat → ClassId} {dI : Nat → Nat → Nat} {dA : Nat → ClassId} {eA mi sz : Nat} {fa : Nat} (hf : wJ9_init_2 Q x3 x4) : Met l yJ9_init_2 (ws_ yJ9_init_2 cJ9_init_2 5 none) rmJ9_init_2 (aPc dC dI dA eA mi sz [.ref fa, .null, .null, .int x3, .int x4] [(fa, .inr (10, [.null, .null, .null, .null, .null, .int fdep, .int fpl]))]) (va_Qv (fun (u : Unit) => Q) (aB dC dI [(fa, .inr (10, [.null, .null, .null, .null, .null, .int fdep, .int fpl]))] sz (fun u => [(fa, .inr (10, [.null, .null, .null, .null, .null, .int fdep, .int fpl]))])) (va_A [(fa, .inr (10, [.null, .null, .null, .null, .null, .int fdep, .int fpl]))] sz)) 0 0 (va_A [(fa, .inr (10, [.null, .null, .null, .null, .null, .int fdep, .int fpl]))] sz) := by
  refine Met.ofW (cc := cJ9_init_2) (maxL := 5) (ret := none) (by decide) rfl ?_
  intro p e s m args below meth c s₁ B hml hv
  obtain ⟨rfl, hsz, hP, hK, hD0, hE⟩ := hv
  subst hsz
  have hx := B.exec
  have hb := B.bytes
  have hr := B.returns
  have hts := atoms_spec (ws := (ws_ yJ9_init_2 cJ9_init_2 5 none)) B.pre
  have hts : ∀ w ∈ lw_all, w.before _ s = true := fun w h => hts w (List.mem_cons_of_mem _ h)
  have hown : s.vm.findClass RJ9 = some m.cls := findClass_of_methodNamed B.named
  have hlocks := B.notSynchronized
  have hin : meth.name = "<init>" := (name_of_methodNamed B.named B.method).1
  have S : CallFix p m c cJ9_init_2 5 s _ lw_all RJ9 := ⟨hx, hb, hml, hown, hts⟩
  have hD := hD0.self (sz := s.heap.size)
  have hA : ∀ q : Nat, s.heap.size ≤ q → va_A [(fa, .inr (10, [.null, .null, .null, .null, .null, .int fdep, .int fpl]))] s.heap.size q := fun q h => Or.inr h
  have hS : va_S (va_A [(fa, .inr (10, [.null, .null, .null, .null, .null, .int fdep, .int fpl]))] s.heap.size) s.heap s.heap [] := va_S.rf
  have hl := lv_entry ([.ref fa, .null, .null, .int x3, .int x4]) (n := 5) (Nat.le_of_ble_eq_true rfl)
  rw [lg_entry_eq]
  generalize (lg_sl ([.ref fa, .null, .null, .int x3, .int x4]) ++ List.replicate (5 - (lg_sl ([.ref fa, .null, .null, .int x3, .int x4])).length) Slot.unset).toArray = ls at hl ⊢
  replace hl : lv_has ls 5 [(0, .ref fa), (1, .null), (2, .null), (3, .int x3), (4, .int x4)] := hl
  have hret : hrJ9_init_2 p l e s m ([.ref fa, .null, .null, .int x3, .int x4] : List Value).toArray below meth c dC dI dA (va_A [(fa, .inr (10, [.null, .null, .null, .null, .null, .int fdep, .int fpl]))] s.heap.size) fa (MQ below (va_Qv (fun (u : Unit) => Q) (aB dC dI [(fa, .inr (10, [.null, .null, .null, .null, .null, .int fdep, .int fpl]))] s.heap.size (fun u => [(fa, .inr (10, [.null, .null, .null, .null, .null, .int fdep, .int fpl]))])) (va_A [(fa, .inr (10, [.null, .null, .null, .null, .null, .int fdep, .int fpl]))] s.heap.size)) ([.ref fa, .null, .null, .int x3, .int x4] : List Value).toArray s 0 0 (va_A [(fa, .inr (10, [.null, .null, .null, .null, .null, .int fdep, .int fpl]))] s.heap.size)) Q fdep fpl := fun H locs kc ks pc ls h1 h2 hq hP hD hS hd => W.widen (k := 0) (n := 0) h1 h2 (W.vret hx hb hr (fun t ht hW => ⟨⟨(), rfl, hq, by subst ht; exact ⟨hP, hD⟩⟩, hS.F ht⟩) hS.2.2 hd)
  generalize hAe : va_A [(fa, .inr (10, [.null, .null, .null, .null, .null, .int fdep, .int fpl]))] s.heap.size = A at hD hA hS hE hret ⊢
  clear hAe
  unfold wJ9_init_2 at hf
  refine lv_aload_n hx hb dJ9_init_2_0 rfl (lv_at hl 0 rfl) ?_
  refine lv_aload_nN hx hb dJ9_init_2_1 rfl (lv_at hl 1 rfl) ?_
  refine lv_aload_nN hx hb dJ9_init_2_2 rfl (lv_at hl 2 rfl) ?_
  refine lv_iload_n hx hb dJ9_init_2_3 rfl (lv_at hl 3 rfl) ?_
  refine lv_iload hx hb dJ9_init_2_4 (lv_at hl 4 rfl) ?_
  refine aC_v (wr := []) hP hD hS hA [0] [] rfl rfl (by decide) (by decide) (va_runI (As := [.null, .null, .int x3, .int x4]) (rest := []) S (metJ8_init_3 l hf) (cwI 4 hts (lw_meth q765) rfl rfl rfl (hts _ q73) (hts _ q763) (hts _ q764) rfl pdJ8_init_3 ⟨Nat.le_of_ble_eq_true rfl, Nat.le_of_ble_eq_true rfl⟩) (apreS hK hE hP hD hS hA [0] rfl rfl (by decide)) rfl rfl hl.1 rfl (lv_room (Nat.le_of_ble_eq_true rfl)) dJ9_init_2_6 ⟨(Nat.zero_le _), (Nat.zero_le _)⟩) (fun u_6 H locs hf hP hD hS => ?_)
  replace hP : va_P (dC, dI) vwCl [(fa, .inr (10, [.null, .null, .null, .null, .null, .int fdep, .int fpl]))] H := hP
  replace hD : va_D A [(fa, .inr (10, [.null, .null, .null, .null, .null, .int fdep, .int fpl]))] := hD
  try dsimp only at hf
  exact hret _ _ _ _ _ _ (Nat.zero_le _) (Nat.zero_le _) hf (hP.sub [0] rfl) (hD.sub [0] (by decide) rfl) hS dJ9_init_2_9
/-! HoleCounty$Fault.<init>(I)V -/
theorem pdX10_init : DscOk yX10_init 1 := by decide +kernel
abbrev rmX10_init : Room := { frames := 3, cells := 0, slots := 0, locals := 60 }
abbrev RX10_init_ : Room := (headSpec (ws_ yX10_init cX10_init 2 none) rmX10_init).room
section
variable {p : Program} {l : Launch} {e : Env} {s : State} {m : MethodId} {args : Array Value} {below : List Frame} {meth : Method} {c : Code} {Qw : State → Prop} {dC : Nat → ClassId} {dI : Nat → Nat → Nat} {dA : Nat → ClassId} {eA mi : Nat} {A : Nat → Prop} {fa : Nat}
abbrev hrX10_init (p : Program) (l : Launch) (e : Env) (s : State) (m : MethodId) (args : Array Value) (below : List Frame) (meth : Method) (c : Code) (dC : Nat → ClassId) (dI : Nat → Nat → Nat) (dA : Nat → ClassId) (A : Nat → Prop) (fa : Nat) (Qw : State → Prop) (Q : (Int32) → Prop) (fdep : Int32) : Prop := ∀ (fpl : Int32) (H : Heap) (locs : List Loc) (kc ks : Nat) (pc : Nat) (ls : Array Slot), kc ≤ 0 → ks ≤ 0 → Q fpl → va_P (dC, dI) vwCl [(fa, .inr (10, [.null, .null, .null, .null, .null, .int fdep, .int fpl]))] H → va_D A [(fa, .inr (10, [.null, .null, .null, .null, .null, .int fdep, .int fpl]))] → va_S A s.heap H locs → decode cX10_init pc = .ok (.return_, 1) → W p l e RX10_init_ s m args below meth c H locs kc ks Qw (F0 m pc ls [])
def wX10_init (Q : (Int32) → Prop) (fpl : Int32) (x1 : Int32) : Prop := (wJ9_init_2 (Q x1) 0 0)
end
set_option maxHeartbeats 4000000 in
set_option maxRecDepth 100000 in
theorem metX10_init (l : Launch) {Q : (Int32) → Prop} {fdep : Int32} {fpl : Int32} {x1 : Int32} {dC : Nat → ClassId} {dI : Nat → Nat → Nat} {dA : Nat → ClassId} {eA mi sz : Nat} {fa : Nat} (hf : wX10_init Q fpl x1) : Met l yX10_init (ws_ yX10_init cX10_init 2 none) rmX10_init (aPc dC dI dA eA mi sz [.ref fa, .int x1] [(fa, .inr (10, [.null, .null, .null, .null, .null, .int fdep, .int fpl]))]) (va_Qv (fun (u : Int32) => Q u) (aB dC dI [(fa, .inr (10, [.null, .null, .null, .null, .null, .int fdep, .int fpl]))] sz (fun u => [(fa, .inr (10, [.null, .null, .null, .null, .null, .int fdep, .int u]))])) (va_A [(fa, .inr (10, [.null, .null, .null, .null, .null, .int fdep, .int fpl]))] sz)) 0 0 (va_A [(fa, .inr (10, [.null, .null, .null, .null, .null, .int fdep, .int fpl]))] sz) := by
  refine Met.ofW (cc := cX10_init) (maxL := 2) (ret := none) (by decide) rfl ?_
  intro p e s m args below meth c s₁ B hml hv
  obtain ⟨rfl, hsz, hP, hK, hD0, hE⟩ := hv
  subst hsz
  have hx := B.exec
  have hb := B.bytes
  have hr := B.returns
  have hts := atoms_spec (ws := (ws_ yX10_init cX10_init 2 none)) B.pre
  have hts : ∀ w ∈ lw_all, w.before _ s = true := fun w h => hts w (List.mem_cons_of_mem _ h)
  have hown : s.vm.findClass RX10 = some m.cls := findClass_of_methodNamed B.named
  have hlocks := B.notSynchronized
  have hin : meth.name = "<init>" := (name_of_methodNamed B.named B.method).1
  have S : CallFix p m c cX10_init 2 s _ lw_all RX10 := ⟨hx, hb, hml, hown, hts⟩
  have hD := hD0.self (sz := s.heap.size)
  have hA : ∀ q : Nat, s.heap.size ≤ q → va_A [(fa, .inr (10, [.null, .null, .null, .null, .null, .int fdep, .int fpl]))] s.heap.size q := fun q h => Or.inr h
  have hS : va_S (va_A [(fa, .inr (10, [.null, .null, .null, .null, .null, .int fdep, .int fpl]))] s.heap.size) s.heap s.heap [] := va_S.rf
  have hl := lv_entry ([.ref fa, .int x1]) (n := 2) (Nat.le_of_ble_eq_true rfl)
  rw [lg_entry_eq]
  generalize (lg_sl ([.ref fa, .int x1]) ++ List.replicate (2 - (lg_sl ([.ref fa, .int x1])).length) Slot.unset).toArray = ls at hl ⊢
  replace hl : lv_has ls 2 [(0, .ref fa), (1, .int x1)] := hl
  have hret : hrX10_init p l e s m ([.ref fa, .int x1] : List Value).toArray below meth c dC dI dA (va_A [(fa, .inr (10, [.null, .null, .null, .null, .null, .int fdep, .int fpl]))] s.heap.size) fa (MQ below (va_Qv (fun (u : Int32) => Q u) (aB dC dI [(fa, .inr (10, [.null, .null, .null, .null, .null, .int fdep, .int fpl]))] s.heap.size (fun u => [(fa, .inr (10, [.null, .null, .null, .null, .null, .int fdep, .int u]))])) (va_A [(fa, .inr (10, [.null, .null, .null, .null, .null, .int fdep, .int fpl]))] s.heap.size)) ([.ref fa, .int x1] : List Value).toArray s 0 0 (va_A [(fa, .inr (10, [.null, .null, .null, .null, .null, .int fdep, .int fpl]))] s.heap.size)) Q fdep := fun fpl H locs kc ks pc ls h1 h2 hq hP hD hS hd => W.widen (k := 0) (n := 0) h1 h2 (W.vret hx hb hr (fun t ht hW => ⟨⟨fpl, rfl, hq, by subst ht; exact ⟨hP, hD⟩⟩, hS.F ht⟩) hS.2.2 hd)
  generalize hAe : va_A [(fa, .inr (10, [.null, .null, .null, .null, .null, .int fdep, .int fpl]))] s.heap.size = A at hD hA hS hE hret ⊢
  clear hAe
  unfold wX10_init at hf
  refine lv_aload_n hx hb dX10_init_0 rfl (lv_at hl 0 rfl) ?_
  refine lv_null hx hb dX10_init_1 ?_
  refine lv_null hx hb dX10_init_2 ?_
  refine lv_iconst (v := 0) hx hb dX10_init_3 (by decide) ?_
  refine lv_iconst (v := 0) hx hb dX10_init_4 (by decide) ?_
  refine aC_v (wr := []) hP hD hS hA [0] [] rfl rfl (by decide) (by decide) (va_runI (As := [.null, .null, .int 0, .int 0]) (rest := []) S (metJ9_init_2 l hf) (cwI 4 hts (lw_meth q762) rfl rfl rfl (hts _ q74) (hts _ q760) (hts _ q761) rfl pdJ9_init_2 ⟨Nat.le_of_ble_eq_true rfl, Nat.le_of_ble_eq_true rfl⟩) (apreS hK hE hP hD hS hA [0] rfl rfl (by decide)) rfl rfl hl.1 rfl (lv_room (Nat.le_of_ble_eq_true rfl)) dX10_init_5 ⟨(Nat.zero_le _), (Nat.zero_le _)⟩) (fun u_5 H locs hf hP hD hS => ?_)
  replace hP : va_P (dC, dI) vwCl [(fa, .inr (10, [.null, .null, .null, .null, .null, .int fdep, .int fpl]))] H := hP
  replace hD : va_D A [(fa, .inr (10, [.null, .null, .null, .null, .null, .int fdep, .int fpl]))] := hD
  try dsimp only at hf
  refine lv_aload_n hx hb dX10_init_8 rfl (lv_at hl 0 rfl) ?_
  refine lv_iload_n hx hb dX10_init_9 rfl (lv_at hl 1 rfl) ?_
  refine va_putF (D := (dC, dI)) (ci := 10) (v := .int x1) (ty := .int) (C := RX10) (T := TX10) (N := 7) hx hb hts in_X10 tyX10 tyX10_ok nmX10 hown hK hP hD hS 0 rfl rfl 6 (by decide) (hts _ q766) (fun _ h9 => h9) rfl hin rfl (by decide +kernel) rfl rfl (Nat.le_of_ble_eq_true rfl) dX10_init_10 (fun H locs hP hD hS => ?_)
  replace hP : va_P (dC, dI) vwCl [(fa, .inr (10, [.null, .null, .null, .null, .null, .int fdep, .int x1]))] H := hP
  replace hD : va_D A [(fa, .inr (10, [.null, .null, .null, .null, .null, .int fdep, .int x1]))] := hD
  exact hret _ _ _ _ _ _ _ (Nat.zero_le _) (Nat.zero_le _) hf (hP.sub [0] rfl) (hD.sub [0] (by decide) rfl) hS dX10_init_13
