/-! Ground.tax() -/
def wX1_tax_9 (Q : Int32 → Prop) (rate : Int32) (n : Nat) (pk : Nat → Nat) (pm : Nat → Int64) : Nat → Int32 → Int32 → Prop
  | 0, _, _ => False
  | fu + 1, x1, x3 => (nI n ≤ x3 → Q x1) ∧ (¬ nI n ≤ x3 → vp_in x3 n ∧ wP_tax (fun r => wX1_tax_9 Q rate n pk pm fu (x1 + r) (x3 + 1)) (pk (x3 : Int32).toNatClampNeg) (pm (x3 : Int32).toNatClampNeg) rate)
def wX1_tax (Q : Int32 → Prop) (depths : Nat → Int32) (roofs : Int64) (rate : Int32) : Prop := wX1_holes (fun n pk pm => ∃ fu, wX1_tax_9 Q rate n pk pm fu 0 0) depths roofs rate
theorem pdX1_tax : DscOk yX1_tax 0 := by decide +kernel
abbrev rmX1_tax : Room := { frames := 8, cells := 22, slots := 86, locals := 196 }
abbrev RX1_tax_ : Room := (headSpec (ws_ yX1_tax cX1_tax 4 (some .int)) rmX1_tax).room
section TX
variable {p : Program} {l : Launch} {e : Env} {s : State} {m : MethodId} {args : Array Value} {below : List Frame} {meth : Method} {c : Code} {Qw : State → Prop} {dC : Nat → ClassId} {dI : Nat → Nat → Nat} {dA : Nat → ClassId} {eA mi : Nat} {A : Nat → Prop} {g d : Nat}
set_option maxHeartbeats 4000000 in
set_option maxRecDepth 100000 in
theorem tX1_tax_9 {Q : Int32 → Prop} {depths : Nat → Int32} {roofs : Int64} {rate : Int32} {la ea cap n : Nat} {mc : Int32} {pa pk : Nat → Nat} {pm : Nat → Int64} {H : Heap} {locs : List Loc} (S : CallFix p m c cX1_tax 4 s args lw_all RX1) (hK : va_K (dC, dI) vwCl (tysG dA) s) (hE : EG A eA mi s s.heap) (hok : lOk eA ea cap n pk) (hn : n ≤ 18) (hP : va_P (dC, dI) vwCl (lP dA la ea cap mc n pa pk pm rate ++ gW dA g d depths roofs rate) H) (hS : va_S A s.heap H locs)
    (hret : ∀ (r : Int32) (pc : Nat) (ls : Array Slot), Q r → decode cX1_tax pc = .ok (.ireturn, 1) → W p l e RX1_tax_ s m args below meth c H locs 22 86 Qw (F0 m pc ls [.int r])) :
    ∀ (fu : Nat) (x1 x3 : Int32) (ls : Array Slot), wX1_tax_9 Q rate n pk pm fu x1 x3 → lv_has ls 4 [(1, .int x1), (2, .ref la), (3, .int x3)] → W p l e RX1_tax_ s m args below meth c H locs 22 86 Qw (F0 m 9 ls []) := by
  obtain ⟨hx, hb, hml, hown, hts⟩ := id S
  have hm : (la, Sum.inr (11, [.int mc, .ref ea, .int (nI n)])) ∈ lP dA la ea cap mc n pa pk pm rate ++ gW dA g d depths roofs rate := List.mem_append_left _ (by unfold lP; exact List.mem_cons_self)
  intro fu
  induction fu with
  | zero => intro _ _ _ hf; exact hf.elim
  | succ fu ih =>
    intro x1 x3 ls hf hl
    rw [wX1_tax_9] at hf
    refine lv_iload_n hx hb dX1_tax_9 rfl (lv_at hl 2 rfl) ?_
    refine lv_aload_n hx hb dX1_tax_10 rfl (lv_at hl 1 rfl) ?_
    refine lst_size (rest := [.int x3]) S hK (EG.now hE hS) hP hm (by omega) q396 ⟨Nat.le_of_ble_eq_true rfl, Nat.le_of_ble_eq_true rfl⟩ hl.1 rfl (Nat.le_of_ble_eq_true rfl) dX1_tax_11 ⟨Nat.le_refl _, Nat.le_refl _⟩ ?_
    refine lv_icmp_ge (tgt := 37) hx hb dX1_tax_14 (by decide) (fun c_14 => ?_) (fun c_14 => ?_)
    · replace hf := hf.1 c_14
      refine lv_iload_n hx hb dX1_tax_37 rfl (lv_at hl 0 rfl) ?_
      exact hret _ _ _ hf dX1_tax_38
    · obtain ⟨hin, hf⟩ := hf.2 c_14
      refine lv_iload_n hx hb dX1_tax_17 rfl (lv_at hl 0 rfl) ?_
      refine lv_aload_n hx hb dX1_tax_18 rfl (lv_at hl 1 rfl) ?_
      refine lv_iload_n hx hb dX1_tax_19 rfl (lv_at hl 2 rfl) ?_
      refine lst_get (rest := [.int x1]) (n := n) (pa := pa) (pk := pk) (pm := pm) (rate := rate) (cap := cap) (ea := ea) (mc := mc) S hK (EG.now hE hS) hP (fun q hq => List.mem_append_left _ hq) hok hin q397 q345 ⟨Nat.le_of_ble_eq_true rfl, Nat.le_of_ble_eq_true rfl⟩ hl.1 rfl (Nat.le_of_ble_eq_true rfl) dX1_tax_20 dX1_tax_23 ⟨Nat.le_refl _, Nat.le_refl _⟩ (fun hm2 hk2 => ?_)
      refine pv_tax (rest := [.int x1]) S hK (EG.now hE hS) hP hm2 hk2 q405 hf ⟨Nat.le_of_ble_eq_true rfl, Nat.le_of_ble_eq_true rfl⟩ hl.1 rfl (Nat.le_of_ble_eq_true rfl) dX1_tax_26 ⟨Nat.le_refl _, Nat.le_refl _⟩ (fun r hf => ?_)
      refine lv_iadd hx hb dX1_tax_29 ?_
      refine lv_istore_n (lv' := [(1, .int (x1 + r)), (2, .ref la), (3, .int x3)]) hx hb dX1_tax_30 rfl hl (by decide) rfl (fun ls hl => ?_)
      refine lv_iinc (v := x3 + 1) (lv' := [(3, .int (x3 + 1)), (1, .int (x1 + r)), (2, .ref la)]) hx hb dX1_tax_31 hl (k := 2) rfl rfl (by decide) rfl (fun ls hl => ?_)
      refine lv_goto (tgt := 9) hx hb dX1_tax_34 (by decide) ?_
      exact ih _ _ _ hf (lv_sub hl [1, 2, 0] rfl)
end TX
set_option maxHeartbeats 4000000 in
set_option maxRecDepth 100000 in
theorem metX1_tax (l : Launch) {Q : Int32 → Prop} {depths : Nat → Int32} {roofs : Int64} {rate : Int32} {dC : Nat → ClassId} {dI : Nat → Nat → Nat} {dA : Nat → ClassId} {eA mi sz : Nat} {g d : Nat} (hf : wX1_tax Q depths roofs rate) : Met l yX1_tax (ws_ yX1_tax cX1_tax 4 (some .int)) rmX1_tax (aPc dC dI dA eA mi sz [.ref g] (gW dA g d depths roofs rate)) (va_Qi (fun (r : Int32) (u : Unit) => Q r) (aB dC dI (gW dA g d depths roofs rate) sz (fun u => gW dA g d depths roofs rate)) (va_A (gW dA g d depths roofs rate) sz)) 22 86 (va_A (gW dA g d depths roofs rate) sz) := by
  refine Met.ofW (cc := cX1_tax) (maxL := 4) (ret := (some .int)) (by decide) rfl ?_
  intro p e s m args below meth c s₁ B hml hv
  obtain ⟨rfl, hsz, hP, hK, hD0, hE⟩ := hv
  subst hsz
  have hx := B.exec
  have hb := B.bytes
  have hr := B.returns
  have hts := atoms_spec (ws := (ws_ yX1_tax cX1_tax 4 (some .int))) B.pre
  have hts : ∀ w ∈ lw_all, w.before _ s = true := fun w h => hts w (List.mem_cons_of_mem _ h)
  have hown : s.vm.findClass RX1 = some m.cls := findClass_of_methodNamed B.named
  have hlocks := B.notSynchronized
  have S : CallFix p m c cX1_tax 4 s _ lw_all RX1 := ⟨hx, hb, hml, hown, hts⟩
  have hD := hD0.self (sz := s.heap.size)
  have hA : ∀ q : Nat, s.heap.size ≤ q → va_A (gW dA g d depths roofs rate) s.heap.size q := fun q h => Or.inr h
  have hS : va_S (va_A (gW dA g d depths roofs rate) s.heap.size) s.heap s.heap [] := va_S.rf
  have hl := lv_entry ([.ref g]) (n := 4) (Nat.le_of_ble_eq_true rfl)
  rw [lg_entry_eq]
  generalize (lg_sl ([.ref g]) ++ List.replicate (4 - (lg_sl ([.ref g])).length) Slot.unset).toArray = ls at hl ⊢
  replace hl : lv_has ls 4 [(0, .ref g)] := hl
  unfold wX1_tax at hf
  refine lv_iconst (v := 0) hx hb dX1_tax_0 (by decide) ?_
  refine lv_istore_n (lv' := [(1, .int 0), (0, .ref g)]) hx hb dX1_tax_1 rfl hl (by decide) rfl (fun ls hl => ?_)
  refine lv_aload_n hx hb dX1_tax_2 rfl (lv_at hl 1 rfl) ?_
  refine aC_r (wr := []) hP hD hS hA [0, 1] [] rfl rfl (by decide) (by decide) (va_runV (As := []) (rest := []) S (metX1_holes l hf) (cwV 0 hts (lw_V q368 q369 q370 q55 q371) rfl rfl rfl ⟨rfl, pdX1_holes⟩ ⟨Nat.le_of_ble_eq_true rfl, Nat.le_of_ble_eq_true rfl⟩) ⟨ablind, va_recv hK hP (ci := 1) (q0 := 0) rfl rfl, (apreS hK hE hP hD hS hA [0, 1] rfl rfl (by decide)).2⟩ rfl rfl hl.1 rfl (lv_room (Nat.le_of_ble_eq_true rfl)) dX1_tax_3 ⟨Nat.le_of_ble_eq_true rfl, Nat.le_of_ble_eq_true rfl⟩) (fun u la H locs hq hP hD hS => ?_)
  obtain ⟨ea, cap, mc, n, pa, pk, pm⟩ := u
  obtain ⟨hok, hn, fu, hf⟩ := hq
  replace hP : va_P (dC, dI) vwCl (lP dA la ea cap mc n pa pk pm rate ++ gW dA g d depths roofs rate) H := hP
  replace hD : va_D (va_A (gW dA g d depths roofs rate) s.heap.size) (lP dA la ea cap mc n pa pk pm rate ++ gW dA g d depths roofs rate) := hD
  refine lv_astore_n (lv' := [(2, .ref la), (1, .int 0), (0, .ref g)]) hx hb dX1_tax_6 rfl hl (by decide) rfl (fun ls hl => ?_)
  refine lv_iconst (v := 0) hx hb dX1_tax_7 (by decide) ?_
  refine lv_istore_n (lv' := [(3, .int 0), (2, .ref la), (1, .int 0), (0, .ref g)]) hx hb dX1_tax_8 rfl hl (by decide) rfl (fun ls hl => ?_)
  exact tX1_tax_9 S hK hE hok hn hP hS (fun r pc ls hq hd => W.iret hx hb hr (fun t ht hW => ⟨⟨r, (), rfl, hq, by subst ht; exact ⟨hP.of_mem (fun q hq => List.mem_append_right _ hq), (hD.perm List.perm_append_comm).left⟩⟩, hS.F ht⟩) hS.2.2 hd) fu 0 0 ls hf (lv_sub hl [2, 1, 0] rfl)
