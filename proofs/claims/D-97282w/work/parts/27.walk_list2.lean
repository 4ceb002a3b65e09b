/-! LISTS: what may be put in, an array's class -/
def pO (ci : Nat) : Prop := ci = 4 ∨ pK ci
theorem pO_4 : pO 4 := Or.inl rfl
theorem pO_p {ci : Nat} (h : pK ci) : pO ci := Or.inr h
theorem anyO {dC : Nat → ClassId} {dI : Nat → Nat → Nat} {dA : Nat → ClassId} {s : State} {H : Heap} {ws : va_W} {x ci : Nat} {fs : List Value} (hK : va_K (dC, dI) vwCl (tysG dA) s) (hP : va_P (dC, dI) vwCl ws H) (q0 : Nat) (he : ws[q0]? = some (x, .inr (ci, fs))) (hO : pO ci) (hN : NG s) : va_Any "java/lang/Object" s H x := by
  rcases hO with rfl | rfl | rfl | rfl | rfl | rfl
  · exact va_rAny (r := (RX4, TX4, 4)) hK hP he rfl (vb_asgC (hN _ q1624 rfl))
  · exact va_rAny (r := (RX5, TX5, 2)) hK hP he rfl (vb_asgC (hN _ q1629 rfl))
  · exact va_rAny (r := (RX6, TX6, 2)) hK hP he rfl (vb_asgC (hN _ q1628 rfl))
  · exact va_rAny (r := (RX7, TX7, 2)) hK hP he rfl (vb_asgC (hN _ q1625 rfl))
  · exact va_rAny (r := (RX8, TX8, 2)) hK hP he rfl (vb_asgC (hN _ q1627 rfl))
  · exact va_rAny (r := (RX9, TX9, 2)) hK hP he rfl (vb_asgC (hN _ q1626 rfl))
theorem arr_recv {D : va_G} {cl : List vw_C} {s : State} {H : Heap} {ws : va_W} {a : Nat} {cA : ClassId} {x : vp_A} {nm : String} (hP : va_P D cl ws H) (q0 : Nat) (he : ws[q0]? = some (a, .inl (cA, x))) (hnm : s.vm.findClass nm = some cA) : ∃ cell : Cell, H[a]? = some cell ∧ cell.vm.isStatics = false ∧ s.vm.findClass nm = some cell.cls := by
  have h := hP q0 _ he
  refine ⟨vp_cell cA x, h, ?_, ?_⟩
  · obtain ⟨n, f | f | f | f | f⟩ := x <;> rfl
  · rw [hnm]
    obtain ⟨n, f | f | f | f | f⟩ := x <;> rfl
/-- a list's elements: objects that nobody writes here -/
def VE (A : Nat → Prop) (f : Nat → Option Nat) (U : State) (H : Heap) : Prop := ∀ (j y : Nat), f j = some y → ¬ A y ∧ va_Any "java/lang/Object" U H y
theorem va_Any.moved {E : String} {u U : State} {H : Heap} {a : Nat} (hvm : u.vm.Alike U.vm) (h : va_Any E u H a) : va_Any E U H a := by
  obtain ⟨cell, h1, h2, ⟨kC, h3⟩, h4⟩ := h
  obtain ⟨k', hk', -⟩ := hvm.2.2 _ _ h3
  exact ⟨cell, h1, h2, ⟨k', hk'⟩, fun comp hc => by rw [hvm.assignable]; exact h4 comp (by rw [← hvm.findClass]; exact hc)⟩
theorem VE.moved {A : Nat → Prop} {f : Nat → Option Nat} {u U : State} {H : Heap} (hvm : u.vm.Alike U.vm) (h : VE A f u H) : VE A f U H := fun j y hy => ⟨(h j y hy).1, (h j y hy).2.moved hvm⟩
theorem VE.kept {A : Nat → Prop} {f : Nat → Option Nat} {U : State} {H H1 : Heap} (h : VE A f U H) (hq : ∀ a : Nat, a < H.size → ¬ A a → H1[a]? = H[a]?) : VE A f U H1 := by
  intro j y hy
  obtain ⟨h1, cell, h2, h3⟩ := h j y hy
  exact ⟨h1, cell, by rw [hq y (Array.getElem?_eq_some_iff.mp h2).1 h1]; exact h2, h3⟩
theorem VE.narrow {A B : Nat → Prop} {f : Nat → Option Nat} {U : State} {H : Heap} (h : VE A f U H) (hAB : ∀ q, B q → A q) : VE B f U H := fun j y hy => ⟨fun z => (h j y hy).1 (hAB y z), (h j y hy).2⟩
theorem VE.now {A : Nat → Prop} {f : Nat → Option Nat} {s : State} {H : Heap} {locs : List Loc} (hV : VE A f s s.heap) (hS : va_S A s.heap H locs) {j y : Nat} (hy : f j = some y) : va_Any "java/lang/Object" s H y := (hV.kept hS.2.1 j y hy).2
abbrev aPv (dC : Nat → ClassId) (dI : Nat → Nat → Nat) (dA : Nat → ClassId) (eA mi sz : Nat) (As : List Value) (w0 : va_W) (f : Nat → Option Nat) : Array Value → State → Prop := va_Pc As (fun U => U.heap.size = sz ∧ va_P (dC, dI) vwCl w0 U.heap ∧ va_K (dC, dI) vwCl (tysG dA) U ∧ va_D (fun _ => True) w0 ∧ EG (va_A w0 sz) eA mi U U.heap ∧ VE (va_A w0 sz) f U U.heap)
section AV
variable {s : State} {H : Heap} {locs : List Loc} {dC : Nat → ClassId} {dI : Nat → Nat → Nat} {dA : Nat → ClassId} {eA mi : Nat} {A : Nat → Prop} {As : List Value} {w0 ws wc : va_W} {sz : Nat} {f : Nat → Option Nat}
theorem ablindV : FrameBlind (aPv dC dI dA eA mi sz As w0 f) := fun a U g mk q => ⟨q.1, q.2.1, q.2.2.1, va_K.moved (u := U) (U := U.calling g mk a) (Vm.Alike.refl U.vm) q.2.2.2.1, q.2.2.2.2.1, EG.same (u := U) (U := U.calling g mk a) rfl q.2.2.2.2.2.1, VE.moved (u := U) (U := U.calling g mk a) (Vm.Alike.refl U.vm) q.2.2.2.2.2.2⟩
theorem apreV (hK : va_K (dC, dI) vwCl (tysG dA) s) (hE : EG A eA mi s s.heap) (hV : VE A f s s.heap) (hP : va_P (dC, dI) vwCl ws H) (hD : va_D A ws) (hS : va_S A s.heap H locs) (hA : ∀ q, s.heap.size ≤ q → A q) (isC : List Nat) (hCf : isC.filterMap (fun i => ws[i]?) = wc) (hCm : isC.map (fun i => ws[i]?) = wc.map some) (hn : va_nd isC = true) : PreS s H (aPv dC dI dA eA mi H.size As wc f) As :=
  ⟨ablindV, fun U hU hW => ⟨rfl, by rw [hU], by rw [hU]; exact hP.sub isC hCf, va_K.moved hW.alike hK, (hD.sub isC hn hCm).weaken (fun _ _ _ _ => trivial), by rw [hU]; exact ((hE.kept hS.2.1).narrow (va_free hD hS hA isC hCm)).warm hW, by rw [hU]; exact ((hV.kept hS.2.1).narrow (va_free hD hS hA isC hCm)).moved hW.alike⟩⟩
end AV
/-! java/util/ArrayList.grow(I)[Ljava/lang/Object; -/
theorem pdJ2_grow_2 : DscOk yJ2_grow_2 1 := by decide +kernel
abbrev rmJ2_grow_2_e : Room := { frames := 1, cells := 1, slots := 10, locals := 21 }
abbrev RJ2_grow_2_e_ : Room := (headSpec (ws_ yJ2_grow_2 cJ2_grow_2 4 (some (.array (.object "java/lang/Object")))) rmJ2_grow_2_e).room
section
variable {p : Program} {l : Launch} {e : Env} {s : State} {m : MethodId} {args : Array Value} {below : List Frame} {meth : Method} {c : Code} {Qw : State → Prop} {dC : Nat → ClassId} {dI : Nat → Nat → Nat} {dA : Nat → ClassId} {eA mi : Nat} {A : Nat → Prop} {la : Nat}
abbrev hrJ2_grow_2_e (p : Program) (l : Launch) (e : Env) (s : State) (m : MethodId) (args : Array Value) (below : List Frame) (meth : Method) (c : Code) (dC : Nat → ClassId) (dI : Nat → Nat → Nat) (dA : Nat → ClassId) (A : Nat → Prop) (la : Nat) (Qw : State → Prop) (Q : Prop) (mc : Int32) (size : Int32) : Prop := ∀ (ra : Nat) (H : Heap) (locs : List Loc) (kc ks : Nat) (pc : Nat) (ls : Array Slot), kc ≤ 1 → ks ≤ 10 → Q → va_P (dC, dI) vwCl [(la, .inr (11, [.int mc, .ref ra, .int size])), (ra, .inl (dA 4, 10, .inr (.inr (.inr (.inr (fun _ => none))))))] H → va_D A [(la, .inr (11, [.int mc, .ref ra, .int size])), (ra, .inl (dA 4, 10, .inr (.inr (.inr (.inr (fun _ => none))))))] → va_S A s.heap H locs → decode cJ2_grow_2 pc = .ok (.areturn, 1) → W p l e RJ2_grow_2_e_ s m args below meth c H locs kc ks Qw (F0 m pc ls [.ref ra])
def wJ2_grow_2_e (Q : Prop) (x1 : Int32) : Prop := ((0 < (0 : Int32) → False) ∧ (¬ 0 < (0 : Int32) → ((if 10 < x1 then x1 else 10) = 10 ∧ Q)))
end
set_option maxHeartbeats 4000000 in
set_option maxRecDepth 100000 in
theorem metJ2_grow_2_e (l : Launch) {Q : Prop} {mc : Int32} {size : Int32} {x1 : Int32} {dC : Nat → ClassId} {dI : Nat → Nat → Nat} {dA : Nat → ClassId} {eA mi sz : Nat} {la : Nat} (hf : wJ2_grow_2_e Q x1) : Met l yJ2_grow_2 (ws_ yJ2_grow_2 cJ2_grow_2 4 (some (.array (.object "java/lang/Object")))) rmJ2_grow_2_e (aPc dC dI dA eA mi sz [.ref la, .int x1] [(la, .inr (11, [.int mc, .ref eA, .int size]))]) (va_Qq (fun (r : Option Nat) (u : Nat) => r = some u ∧ Q) (aB dC dI [(la, .inr (11, [.int mc, .ref eA, .int size]))] sz (fun (u : Nat) => [(la, .inr (11, [.int mc, .ref u, .int size])), (u, .inl (dA 4, 10, .inr (.inr (.inr (.inr (fun _ => none))))))])) (va_A [(la, .inr (11, [.int mc, .ref eA, .int size]))] sz)) 1 10 (va_A [(la, .inr (11, [.int mc, .ref eA, .int size]))] sz) := by
  refine Met.ofW (cc := cJ2_grow_2) (maxL := 4) (ret := (some (.array (.object "java/lang/Object")))) (by decide) rfl ?_
  intro p e s m args below meth c s₁ B hml hv
  obtain ⟨rfl, hsz, hP, hK, hD0, hE⟩ := hv
  subst hsz
  have hx := B.exec
  have hb := B.bytes
  have hr := B.returns
  have hts := atoms_spec (ws := (ws_ yJ2_grow_2 cJ2_grow_2 4 (some (.array (.object "java/lang/Object"))))) B.pre
  have hts : ∀ w ∈ lw_all, w.before _ s = true := fun w h => hts w (List.mem_cons_of_mem _ h)
  have hown : s.vm.findClass RJ2 = some m.cls := findClass_of_methodNamed B.named
  have hlocks := B.notSynchronized
  have S : CallFix p m c cJ2_grow_2 4 s _ lw_all RJ2 := ⟨hx, hb, hml, hown, hts⟩
  have hD := hD0.self (sz := s.heap.size)
  have hA : ∀ q : Nat, s.heap.size ≤ q → va_A [(la, .inr (11, [.int mc, .ref eA, .int size]))] s.heap.size q := fun q h => Or.inr h
  have hS : va_S (va_A [(la, .inr (11, [.int mc, .ref eA, .int size]))] s.heap.size) s.heap s.heap [] := va_S.rf
  have hl := lv_entry ([.ref la, .int x1]) (n := 4) (Nat.le_of_ble_eq_true rfl)
  rw [lg_entry_eq]
  generalize (lg_sl ([.ref la, .int x1]) ++ List.replicate (4 - (lg_sl ([.ref la, .int x1])).length) Slot.unset).toArray = ls at hl ⊢
  replace hl : lv_has ls 4 [(0, .ref la), (1, .int x1)] := hl
  have hret : hrJ2_grow_2_e p l e s m ([.ref la, .int x1] : List Value).toArray below meth c dC dI dA (va_A [(la, .inr (11, [.int mc, .ref eA, .int size]))] s.heap.size) la (MQ below (va_Qq (fun (r : Option Nat) (u : Nat) => r = some u ∧ Q) (aB dC dI [(la, .inr (11, [.int mc, .ref eA, .int size]))] s.heap.size (fun (u : Nat) => [(la, .inr (11, [.int mc, .ref u, .int size])), (u, .inl (dA 4, 10, .inr (.inr (.inr (.inr (fun _ => none))))))])) (va_A [(la, .inr (11, [.int mc, .ref eA, .int size]))] s.heap.size)) ([.ref la, .int x1] : List Value).toArray s 1 10 (va_A [(la, .inr (11, [.int mc, .ref eA, .int size]))] s.heap.size)) Q mc size := fun ra H locs kc ks pc ls h1 h2 hq hP hD hS hd => W.widen (k := 1) (n := 10) h1 h2 (W.aret hx hb hr (Or.inr ⟨_, rfl⟩) (Or.inr ⟨_, rfl⟩) (fun t ht hW => ⟨⟨some ra, ra, rfl, ⟨rfl, hq⟩, by subst ht; exact ⟨hP, hD⟩⟩, hS.F ht⟩) hS.2.2 hd)
  generalize hAe : va_A [(la, .inr (11, [.int mc, .ref eA, .int size]))] s.heap.size = A at hD hA hS hE hret ⊢
  clear hAe
  unfold wJ2_grow_2_e at hf
  refine lv_aload_n hx hb dJ2_grow_2_0 rfl (lv_at hl 0 rfl) ?_
  refine va_get (D := (dC, dI)) (ci := 11) (v := .ref eA) (C := RJ2) (T := TJ2) (N := 3) hx hb hts in_J2 hown hK hP 0 rfl rfl 1 (by decide) (hts _ q383) (fun _ h9 => h9) rfl dJ2_grow_2_1 ?_
  refine va_tlen (v := 0) hx hb hE.2.2.2.2.2.2.2.2.2.1 hS rfl dJ2_grow_2_4 ?_
  refine lv_istore_n (lv' := [(2, .int 0), (0, .ref la), (1, .int x1)]) hx hb dJ2_grow_2_5 rfl hl (by decide) rfl (fun ls hl => ?_)
  refine lv_iload_n hx hb dJ2_grow_2_6 rfl (lv_at hl 0 rfl) ?_
  refine lv_if_gt (tgt := 20) hx hb dJ2_grow_2_7 (by decide) (fun c_7 => ?_) (fun c_7 => ?_)
  · replace hf := hf.1 c_7
    exact hf.elim
  · replace hf := hf.2 c_7
    refine lv_aload_n hx hb dJ2_grow_2_10 rfl (lv_at hl 1 rfl) ?_
    refine va_get (D := (dC, dI)) (ci := 11) (v := .ref eA) (C := RJ2) (T := TJ2) (N := 3) hx hb hts in_J2 hown hK hP 0 rfl rfl 1 (by decide) (hts _ q383) (fun _ h9 => h9) rfl dJ2_grow_2_11 ?_
    refine va_gets (v := .ref eA) hx hb hE.2.2.2.2.2.2.2.2.1 hS hown (hts _ q165) (fun _ h9 => h9) dJ2_grow_2_14 ?_
    refine lv_acmp_eq (rx := some eA) (ry := some eA) (tgt := 45) hx hb dJ2_grow_2_17 (by decide) (fun _ => ?_) (fun h => absurd rfl h)
    refine lv_aload_n hx hb dJ2_grow_2_45 rfl (lv_at hl 1 rfl) ?_
    refine lv_bipush (v := 10) hx hb dJ2_grow_2_46 (by decide) ?_
    refine lv_iload_n hx hb dJ2_grow_2_48 rfl (lv_at hl 2 rfl) ?_
    refine va_mmax hx hb (hml.trans hl.1.symm) hown (hts _ q212) (hts _ q171) (hts _ q66) (hts _ q172) (Nat.le_of_ble_eq_true rfl) (Nat.le_of_ble_eq_true rfl) (Nat.zero_le _) (Nat.zero_le _) dJ2_grow_2_49 ?_
    obtain ⟨hnl, hf⟩ := hf
    refine lv_topi (fun z_ ez_ => ?_)
    obtain rfl : z_ = 10 := ez_.trans hnl
    have hbud : 0 + 1 ≤ 1 ∧ 0 + 10 ≤ 10 := ⟨Nat.le_of_ble_eq_true rfl, Nat.le_of_ble_eq_true rfl⟩
    refine va_newq (n := 10) (N' := 10) hx hb hown (hts _ q213) hE.2.1.1.1 hK hP hD hS hA (by decide) (by decide) (by decide) hbud.1 hbud.2 dJ2_grow_2_52 (fun q_52 cA_52 H hK2 hP hD hS => ?_)
    obtain rfl : cA_52 = dA 4 := ty_one (s := s) (t1 := []) (t2 := []) (hK2.2 6 _ rfl).2 (hK.2 4 _ rfl).2
    replace hP : va_P (dC, dI) vwCl [(la, .inr (11, [.int mc, .ref eA, .int size])), (q_52, .inl (dA 4, 10, .inr (.inr (.inr (.inr (fun _ => none))))))] H := hP
    replace hD : va_D A [(la, .inr (11, [.int mc, .ref eA, .int size])), (q_52, .inl (dA 4, 10, .inr (.inr (.inr (.inr (fun _ => none))))))] := hD
    refine lv_dup_x1 hx hb dJ2_grow_2_55 rfl rfl ?_
    refine va_put (D := (dC, dI)) (ci := 11) (v := .ref q_52) (ty := tyJ2 1) (C := RJ2) (T := TJ2) (N := 3) hx hb hts in_J2 tyJ2 tyJ2_ok nmJ2 hown hK hP hD hS 0 rfl rfl 1 (by decide) (hts _ q383) (fun _ h9 => h9) rfl (by decide +kernel) rfl rfl (Nat.le_of_ble_eq_true rfl) dJ2_grow_2_56 (fun H locs hP hD hS => ?_)
    replace hP : va_P (dC, dI) vwCl [(la, .inr (11, [.int mc, .ref q_52, .int size])), (q_52, .inl (dA 4, 10, .inr (.inr (.inr (.inr (fun _ => none))))))] H := hP
    replace hD : va_D A [(la, .inr (11, [.int mc, .ref q_52, .int size])), (q_52, .inl (dA 4, 10, .inr (.inr (.inr (.inr (fun _ => none))))))] := hD
    exact hret q_52 _ _ _ _ _ _ (Nat.le_of_ble_eq_true rfl) (Nat.le_of_ble_eq_true rfl) hf (hP.sub [0, 1] rfl) (hD.sub [0, 1] (by decide) rfl) hS dJ2_grow_2_59
/-! java/util/ArrayList.grow()[Ljava/lang/Object; -/
theorem pdJ2_grow : DscOk yJ2_grow 0 := by decide +kernel
abbrev rmJ2_grow_e : Room := { frames := 2, cells := 1, slots := 10, locals := 44 }
abbrev RJ2_grow_e_ : Room := (headSpec (ws_ yJ2_grow cJ2_grow 1 (some (.array (.object "java/lang/Object")))) rmJ2_grow_e).room
section
variable {p : Program} {l : Launch} {e : Env} {s : State} {m : MethodId} {args : Array Value} {below : List Frame} {meth : Method} {c : Code} {Qw : State → Prop} {dC : Nat → ClassId} {dI : Nat → Nat → Nat} {dA : Nat → ClassId} {eA mi : Nat} {A : Nat → Prop} {la : Nat}
abbrev hrJ2_grow_e (p : Program) (l : Launch) (e : Env) (s : State) (m : MethodId) (args : Array Value) (below : List Frame) (meth : Method) (c : Code) (dC : Nat → ClassId) (dI : Nat → Nat → Nat) (dA : Nat → ClassId) (A : Nat → Prop) (la : Nat) (Qw : State → Prop) (Q : Prop) (mc : Int32) (size : Int32) : Prop := ∀ (ra : Nat) (H : Heap) (locs : List Loc) (kc ks : Nat) (pc : Nat) (ls : Array Slot), kc ≤ 1 → ks ≤ 10 → Q → va_P (dC, dI) vwCl [(la, .inr (11, [.int mc, .ref ra, .int size])), (ra, .inl (dA 4, 10, .inr (.inr (.inr (.inr (fun _ => none))))))] H → va_D A [(la, .inr (11, [.int mc, .ref ra, .int size])), (ra, .inl (dA 4, 10, .inr (.inr (.inr (.inr (fun _ => none))))))] → va_S A s.heap H locs → decode cJ2_grow pc = .ok (.areturn, 1) → W p l e RJ2_grow_e_ s m args below meth c H locs kc ks Qw (F0 m pc ls [.ref ra])
def wJ2_grow_e (Q : Prop) (size : Int32) : Prop := (wJ2_grow_2_e Q (size + 1))
end
set_option maxHeartbeats 4000000 in
set_option maxRecDepth 100000 in
theorem metJ2_grow_e (l : Launch) {Q : Prop} {mc : Int32} {size : Int32} {dC : Nat → ClassId} {dI : Nat → Nat → Nat} {dA : Nat → ClassId} {eA mi sz : Nat} {la : Nat} (hf : wJ2_grow_e Q size) : Met l yJ2_grow (ws_ yJ2_grow cJ2_grow 1 (some (.array (.object "java/lang/Object")))) rmJ2_grow_e (aPc dC dI dA eA mi sz [.ref la] [(la, .inr (11, [.int mc, .ref eA, .int size]))]) (va_Qq (fun (r : Option Nat) (u : Nat) => r = some u ∧ Q) (aB dC dI [(la, .inr (11, [.int mc, .ref eA, .int size]))] sz (fun (u : Nat) => [(la, .inr (11, [.int mc, .ref u, .int size])), (u, .inl (dA 4, 10, .inr (.inr (.inr (.inr (fun _ => none))))))])) (va_A [(la, .inr (11, [.int mc, .ref eA, .int size]))] sz)) 1 10 (va_A [(la, .inr (11, [.int mc, .ref eA, .int size]))] sz) := by
  refine Met.ofW (cc := cJ2_grow) (maxL := 1) (ret := (some (.array (.object "java/lang/Object")))) (by decide) rfl ?_
  intro p e s m args below meth c s₁ B hml hv
  obtain ⟨rfl, hsz, hP, hK, hD0, hE⟩ := hv
  subst hsz
  have hx := B.exec
  have hb := B.bytes
  have hr := B.returns
  have hts := atoms_spec (ws := (ws_ yJ2_grow cJ2_grow 1 (some (.array (.object "java/lang/Object"))))) B.pre
  have hts : ∀ w ∈ lw_all, w.before _ s = true := fun w h => hts w (List.mem_cons_of_mem _ h)
  have hown : s.vm.findClass RJ2 = some m.cls := findClass_of_methodNamed B.named
  have hlocks := B.notSynchronized
  have S : CallFix p m c cJ2_grow 1 s _ lw_all RJ2 := ⟨hx, hb, hml, hown, hts⟩
  have hD := hD0.self (sz := s.heap.size)
  have hA : ∀ q : Nat, s.heap.size ≤ q → va_A [(la, .inr (11, [.int mc, .ref eA, .int size]))] s.heap.size q := fun q h => Or.inr h
  have hS : va_S (va_A [(la, .inr (11, [.int mc, .ref eA, .int size]))] s.heap.size) s.heap s.heap [] := va_S.rf
  have hl := lv_entry ([.ref la]) (n := 1) (Nat.le_of_ble_eq_true rfl)
  rw [lg_entry_eq]
  generalize (lg_sl ([.ref la]) ++ List.replicate (1 - (lg_sl ([.ref la])).length) Slot.unset).toArray = ls at hl ⊢
  replace hl : lv_has ls 1 [(0, .ref la)] := hl
  have hret : hrJ2_grow_e p l e s m ([.ref la] : List Value).toArray below meth c dC dI dA (va_A [(la, .inr (11, [.int mc, .ref eA, .int size]))] s.heap.size) la (MQ below (va_Qq (fun (r : Option Nat) (u : Nat) => r = some u ∧ Q) (aB dC dI [(la, .inr (11, [.int mc, .ref eA, .int size]))] s.heap.size (fun (u : Nat) => [(la, .inr (11, [.int mc, .ref u, .int size])), (u, .inl (dA 4, 10, .inr (.inr (.inr (.inr (fun _ => none))))))])) (va_A [(la, .inr (11, [.int mc, .ref eA, .int size]))] s.heap.size)) ([.ref la] : List Value).toArray s 1 10 (va_A [(la, .inr (11, [.int mc, .ref eA, .int size]))] s.heap.size)) Q mc size := fun ra H locs kc ks pc ls h1 h2 hq hP hD hS hd => W.widen (k := 1) (n := 10) h1 h2 (W.aret hx hb hr (Or.inr ⟨_, rfl⟩) (Or.inr ⟨_, rfl⟩) (fun t ht hW => ⟨⟨some ra, ra, rfl, ⟨rfl, hq⟩, by subst ht; exact ⟨hP, hD⟩⟩, hS.F ht⟩) hS.2.2 hd)
  generalize hAe : va_A [(la, .inr (11, [.int mc, .ref eA, .int size]))] s.heap.size = A at hD hA hS hE hret ⊢
  clear hAe
  unfold wJ2_grow_e at hf
  refine lv_aload_n hx hb dJ2_grow_0 rfl (lv_at hl 0 rfl) ?_
  refine lv_aload_n hx hb dJ2_grow_1 rfl (lv_at hl 0 rfl) ?_
  refine va_get (D := (dC, dI)) (ci := 11) (v := .int size) (C := RJ2) (T := TJ2) (N := 3) hx hb hts in_J2 hown hK hP 0 rfl rfl 2 (by decide) (hts _ q384) (fun _ h9 => h9) rfl dJ2_grow_2 ?_
  refine lv_iconst (v := 1) hx hb dJ2_grow_5 (by decide) ?_
  refine lv_iadd hx hb dJ2_grow_6 ?_
  refine aC_q (wr := []) hP hD hS hA [0] [] rfl rfl (by decide) (by decide) (va_runV (As := [.int (size + 1)]) (rest := []) S (metJ2_grow_2_e l hf) (cwV 1 hts (lw_V q161 q163 qs3 q58 q164) rfl rfl rfl ⟨rfl, pdJ2_grow_2⟩ ⟨Nat.le_of_ble_eq_true rfl, Nat.le_of_ble_eq_true rfl⟩) ⟨ablind, va_recv hK hP (ci := 11) (q0 := 0) rfl rfl, (apreS hK hE hP hD hS hA [0] rfl rfl (by decide)).2⟩ rfl rfl hl.1 rfl (lv_room (Nat.le_of_ble_eq_true rfl)) dJ2_grow_7 ⟨Nat.le_of_ble_eq_true rfl, Nat.le_of_ble_eq_true rfl⟩) (fun r_7 u_7 H locs hf hP hD hS => ?_)
  obtain ⟨ra_7, rfl⟩ : ∃ z, z = u_7 := ⟨_, rfl⟩
  obtain ⟨er_7, hf⟩ := hf
  subst er_7
  replace hP : va_P (dC, dI) vwCl [(la, .inr (11, [.int mc, .ref ra_7, .int size])), (ra_7, .inl (dA 4, 10, .inr (.inr (.inr (.inr (fun _ => none))))))] H := hP
  replace hD : va_D A [(la, .inr (11, [.int mc, .ref ra_7, .int size])), (ra_7, .inl (dA 4, 10, .inr (.inr (.inr (.inr (fun _ => none))))))] := hD
  try dsimp only at hf
  refine W.eq (g2 := F0 m 10 ls (.ref ra_7 :: [])) rfl ?_
  exact hret ra_7 _ _ _ _ _ _ (Nat.le_of_ble_eq_true rfl) (Nat.le_of_ble_eq_true rfl) hf (hP.sub [0, 1] rfl) (hD.sub [0, 1] (by decide) rfl) hS dJ2_grow_10
/-! java/util/ArrayList.add(Ljava/lang/Object;[Ljava/lang/Object;I)V -/
theorem pdJ2_add_2 : DscOk yJ2_add_2 3 := by decide +kernel
abbrev rmJ2_add_2_e : Room := { frames := 3, cells := 1, slots := 10, locals := 64 }
abbrev RJ2_add_2_e_ : Room := (headSpec (ws_ yJ2_add_2 cJ2_add_2 4 none) rmJ2_add_2_e).room
section
variable {p : Program} {l : Launch} {e : Env} {s : State} {m : MethodId} {args : Array Value} {below : List Frame} {meth : Method} {c : Code} {Qw : State → Prop} {dC : Nat → ClassId} {dI : Nat → Nat → Nat} {dA : Nat → ClassId} {eA mi : Nat} {A : Nat → Prop} {la : Nat} {x ci : Nat} {fs : List Value}
abbrev hrJ2_add_2_e (p : Program) (l : Launch) (e : Env) (s : State) (m : MethodId) (args : Array Value) (below : List Frame) (meth : Method) (c : Code) (dC : Nat → ClassId) (dI : Nat → Nat → Nat) (dA : Nat → ClassId) (A : Nat → Prop) (la : Nat) (x : Nat) (ci : Nat) (fs : List Value) (Qw : State → Prop) (Q : (Int32) → Prop) (mc : Int32) (size : Int32) (x3 : Int32) : Prop := ∀ (ra : Nat) (size1 : Int32) (H : Heap) (locs : List Loc) (kc ks : Nat) (pc : Nat) (ls : Array Slot), kc ≤ 1 → ks ≤ 10 → Q size1 → va_P (dC, dI) vwCl [(la, .inr (11, [.int mc, .ref ra, .int size1])), (ra, .inl (dA 4, 10, .inr (.inr (.inr (.inr (va_up (fun _ => none) (x3 : Int32).toNatClampNeg (some x))))))), (x, .inr (ci, fs))] H → va_D A [(la, .inr (11, [.int mc, .ref ra, .int size1])), (ra, .inl (dA 4, 10, .inr (.inr (.inr (.inr (va_up (fun _ => none) (x3 : Int32).toNatClampNeg (some x))))))), (x, .inr (ci, fs))] → va_S A s.heap H locs → decode cJ2_add_2 pc = .ok (.return_, 1) → W p l e RJ2_add_2_e_ s m args below meth c H locs kc ks Qw (F0 m pc ls [])
def wJ2_add_2_e (Q : (Int32) → Prop) (size : Int32) (x3 : Int32) : Prop := ((x3 = 0 → (wJ2_grow_e (vp_in x3 10 ∧ (∀ size_19 : Int32, size_19 = (x3 + 1) → (Q size_19))) size)) ∧ (¬ x3 = 0 → False))
end
set_option maxHeartbeats 4000000 in
set_option maxRecDepth 100000 in
theorem metJ2_add_2_e (l : Launch) {Q : (Int32) → Prop} {mc : Int32} {size : Int32} {x3 : Int32} {dC : Nat → ClassId} {dI : Nat → Nat → Nat} {dA : Nat → ClassId} {eA mi sz : Nat} {la : Nat} {x ci : Nat} {fs : List Value} (hO : pO ci) (hf : wJ2_add_2_e Q size x3) : Met l yJ2_add_2 (ws_ yJ2_add_2 cJ2_add_2 4 none) rmJ2_add_2_e (aPc dC dI dA eA mi sz [.ref la, .ref x, .ref eA, .int x3] [(la, .inr (11, [.int mc, .ref eA, .int size])), (x, .inr (ci, fs))]) (va_Qv (fun (u : Nat × Int32) => Q u.2) (aB dC dI [(la, .inr (11, [.int mc, .ref eA, .int size])), (x, .inr (ci, fs))] sz (fun (u : Nat × Int32) => [(la, .inr (11, [.int mc, .ref u.1, .int u.2])), (u.1, .inl (dA 4, 10, .inr (.inr (.inr (.inr (va_up (fun _ => none) (x3 : Int32).toNatClampNeg (some x))))))), (x, .inr (ci, fs))])) (va_A [(la, .inr (11, [.int mc, .ref eA, .int size])), (x, .inr (ci, fs))] sz)) 1 10 (va_A [(la, .inr (11, [.int mc, .ref eA, .int size])), (x, .inr (ci, fs))] sz) := by
  refine Met.ofW (cc := cJ2_add_2) (maxL := 4) (ret := none) (by decide) rfl ?_
  intro p e s m args below meth c s₁ B hml hv
  obtain ⟨rfl, hsz, hP, hK, hD0, hE⟩ := hv
  subst hsz
  have hx := B.exec
  have hb := B.bytes
  have hr := B.returns
  have hts := atoms_spec (ws := (ws_ yJ2_add_2 cJ2_add_2 4 none)) B.pre
  have hts : ∀ w ∈ lw_all, w.before _ s = true := fun w h => hts w (List.mem_cons_of_mem _ h)
  have hown : s.vm.findClass RJ2 = some m.cls := findClass_of_methodNamed B.named
  have hlocks := B.notSynchronized
  have S : CallFix p m c cJ2_add_2 4 s _ lw_all RJ2 := ⟨hx, hb, hml, hown, hts⟩
  have hD := hD0.self (sz := s.heap.size)
  have hA : ∀ q : Nat, s.heap.size ≤ q → va_A [(la, .inr (11, [.int mc, .ref eA, .int size])), (x, .inr (ci, fs))] s.heap.size q := fun q h => Or.inr h
  have hS : va_S (va_A [(la, .inr (11, [.int mc, .ref eA, .int size])), (x, .inr (ci, fs))] s.heap.size) s.heap s.heap [] := va_S.rf
  have hl := lv_entry ([.ref la, .ref x, .ref eA, .int x3]) (n := 4) (Nat.le_of_ble_eq_true rfl)
  rw [lg_entry_eq]
  generalize (lg_sl ([.ref la, .ref x, .ref eA, .int x3]) ++ List.replicate (4 - (lg_sl ([.ref la, .ref x, .ref eA, .int x3])).length) Slot.unset).toArray = ls at hl ⊢
  replace hl : lv_has ls 4 [(0, .ref la), (1, .ref x), (2, .ref eA), (3, .int x3)] := hl
  have hret : hrJ2_add_2_e p l e s m ([.ref la, .ref x, .ref eA, .int x3] : List Value).toArray below meth c dC dI dA (va_A [(la, .inr (11, [.int mc, .ref eA, .int size])), (x, .inr (ci, fs))] s.heap.size) la x ci fs (MQ below (va_Qv (fun (u : Nat × Int32) => Q u.2) (aB dC dI [(la, .inr (11, [.int mc, .ref eA, .int size])), (x, .inr (ci, fs))] s.heap.size (fun (u : Nat × Int32) => [(la, .inr (11, [.int mc, .ref u.1, .int u.2])), (u.1, .inl (dA 4, 10, .inr (.inr (.inr (.inr (va_up (fun _ => none) (x3 : Int32).toNatClampNeg (some x))))))), (x, .inr (ci, fs))])) (va_A [(la, .inr (11, [.int mc, .ref eA, .int size])), (x, .inr (ci, fs))] s.heap.size)) ([.ref la, .ref x, .ref eA, .int x3] : List Value).toArray s 1 10 (va_A [(la, .inr (11, [.int mc, .ref eA, .int size])), (x, .inr (ci, fs))] s.heap.size)) Q mc size x3 := fun ra size1 H locs kc ks pc ls h1 h2 hq hP hD hS hd => W.widen (k := 1) (n := 10) h1 h2 (W.vret hx hb hr (fun t ht hW => ⟨⟨(ra, size1), rfl, hq, by subst ht; exact ⟨hP, hD⟩⟩, hS.F ht⟩) hS.2.2 hd)
  generalize hAe : va_A [(la, .inr (11, [.int mc, .ref eA, .int size])), (x, .inr (ci, fs))] s.heap.size = A at hD hA hS hE hret ⊢
  clear hAe
  unfold wJ2_add_2_e at hf
  refine lv_iload_n hx hb dJ2_add_2_0 rfl (lv_at hl 3 rfl) ?_
  refine lv_aload_n hx hb dJ2_add_2_1 rfl (lv_at hl 2 rfl) ?_
  refine va_tlen (v := 0) hx hb hE.2.2.2.2.2.2.2.2.2.1 hS rfl dJ2_add_2_2 ?_
  refine lv_icmp_ne (tgt := 11) hx hb dJ2_add_2_3 (by decide) (fun c_3 => ?_) (fun c_3 => ?_)
  · replace hf := hf.2 c_3
    exact hf.elim
  · replace hf := hf.1 c_3
    refine lv_aload_n hx hb dJ2_add_2_6 rfl (lv_at hl 0 rfl) ?_
    refine aC_q (wr := [(x, .inr (ci, fs))]) hP hD hS hA [0] [1] rfl rfl (by decide) (by decide) (va_runV (As := []) (rest := []) S (metJ2_grow_e l hf) (cwV 0 hts (lw_V q157 q159 qs2 q58 q160) rfl rfl rfl ⟨rfl, pdJ2_grow⟩ ⟨Nat.le_of_ble_eq_true rfl, Nat.le_of_ble_eq_true rfl⟩) ⟨ablind, va_recv hK hP (ci := 11) (q0 := 0) rfl rfl, (apreS hK hE hP hD hS hA [0] rfl rfl (by decide)).2⟩ rfl rfl hl.1 rfl (lv_room (Nat.le_of_ble_eq_true rfl)) dJ2_add_2_7 ⟨Nat.le_of_ble_eq_true rfl, Nat.le_of_ble_eq_true rfl⟩) (fun r_7 u_7 H locs hf hP hD hS => ?_)
    obtain ⟨ra_7, rfl⟩ : ∃ z, z = u_7 := ⟨_, rfl⟩
    obtain ⟨er_7, hf⟩ := hf
    subst er_7
    replace hP : va_P (dC, dI) vwCl [(x, .inr (ci, fs)), (la, .inr (11, [.int mc, .ref ra_7, .int size])), (ra_7, .inl (dA 4, 10, .inr (.inr (.inr (.inr (fun _ => none))))))] H := hP
    replace hD : va_D A [(x, .inr (ci, fs)), (la, .inr (11, [.int mc, .ref ra_7, .int size])), (ra_7, .inl (dA 4, 10, .inr (.inr (.inr (.inr (fun _ => none))))))] := hD
    try dsimp only at hf
    refine W.eq (g2 := F0 m 10 ls (.ref ra_7 :: [])) rfl ?_
    refine lv_astore_n (lv' := [(2, .ref ra_7), (0, .ref la), (1, .ref x), (3, .int x3)]) hx hb dJ2_add_2_10 rfl hl (by decide) rfl (fun ls hl => ?_)
    refine lv_aload_n hx hb dJ2_add_2_11 rfl (lv_at hl 0 rfl) ?_
    refine lv_iload_n hx hb dJ2_add_2_12 rfl (lv_at hl 3 rfl) ?_
    refine lv_aload_n hx hb dJ2_add_2_13 rfl (lv_at hl 2 rfl) ?_
    obtain ⟨hin_, hf⟩ := hf
    refine va_astqM hx hb hK hP hD hS 2 4 rfl rfl (anyO hK hP 0 rfl hO hE.1) hin_ dJ2_add_2_14 (fun H locs hP hD hS => ?_)
    replace hP : va_P (dC, dI) vwCl [(x, .inr (ci, fs)), (la, .inr (11, [.int mc, .ref ra_7, .int size])), (ra_7, .inl (dA 4, 10, .inr (.inr (.inr (.inr (va_up (fun _ => none) (x3 : Int32).toNatClampNeg (some x)))))))] H := hP
    replace hD : va_D A [(x, .inr (ci, fs)), (la, .inr (11, [.int mc, .ref ra_7, .int size])), (ra_7, .inl (dA 4, 10, .inr (.inr (.inr (.inr (va_up (fun _ => none) (x3 : Int32).toNatClampNeg (some x)))))))] := hD
    refine lv_aload_n hx hb dJ2_add_2_15 rfl (lv_at hl 1 rfl) ?_
    refine lv_iload_n hx hb dJ2_add_2_16 rfl (lv_at hl 3 rfl) ?_
    refine lv_iconst (v := 1) hx hb dJ2_add_2_17 (by decide) ?_
    refine lv_iadd hx hb dJ2_add_2_18 ?_
    refine lv_topi (fun size_19 esize_19 => ?_)
    replace hf := hf size_19 esize_19
    refine va_put (D := (dC, dI)) (ci := 11) (v := .int size_19) (ty := .int) (C := RJ2) (T := TJ2) (N := 3) hx hb hts in_J2 tyJ2 tyJ2_ok nmJ2 hown hK hP hD hS 1 rfl rfl 2 (by decide) (hts _ q384) (fun _ h9 => h9) rfl (by decide +kernel) rfl rfl (Nat.le_of_ble_eq_true rfl) dJ2_add_2_19 (fun H locs hP hD hS => ?_)
    replace hP : va_P (dC, dI) vwCl [(x, .inr (ci, fs)), (la, .inr (11, [.int mc, .ref ra_7, .int size_19])), (ra_7, .inl (dA 4, 10, .inr (.inr (.inr (.inr (va_up (fun _ => none) (x3 : Int32).toNatClampNeg (some x)))))))] H := hP
    replace hD : va_D A [(x, .inr (ci, fs)), (la, .inr (11, [.int mc, .ref ra_7, .int size_19])), (ra_7, .inl (dA 4, 10, .inr (.inr (.inr (.inr (va_up (fun _ => none) (x3 : Int32).toNatClampNeg (some x)))))))] := hD
    exact hret ra_7 size_19 _ _ _ _ _ _ (Nat.le_of_ble_eq_true rfl) (Nat.le_of_ble_eq_true rfl) hf (hP.sub [1, 2, 0] rfl) (hD.sub [1, 2, 0] (by decide) rfl) hS dJ2_add_2_22
/-! java/util/ArrayList.add(Ljava/lang/Object;)Z -/
theorem pdJ2_add : DscOk yJ2_add 1 := by decide +kernel
abbrev rmJ2_add_e : Room := { frames := 4, cells := 1, slots := 10, locals := 87 }
abbrev RJ2_add_e_ : Room := (headSpec (ws_ yJ2_add cJ2_add 2 (some .boolean)) rmJ2_add_e).room
section
variable {p : Program} {l : Launch} {e : Env} {s : State} {m : MethodId} {args : Array Value} {below : List Frame} {meth : Method} {c : Code} {Qw : State → Prop} {dC : Nat → ClassId} {dI : Nat → Nat → Nat} {dA : Nat → ClassId} {eA mi : Nat} {A : Nat → Prop} {la : Nat} {x ci : Nat} {fs : List Value}
abbrev hrJ2_add_e (p : Program) (l : Launch) (e : Env) (s : State) (m : MethodId) (args : Array Value) (below : List Frame) (meth : Method) (c : Code) (dC : Nat → ClassId) (dI : Nat → Nat → Nat) (dA : Nat → ClassId) (A : Nat → Prop) (la : Nat) (x : Nat) (ci : Nat) (fs : List Value) (Qw : State → Prop) (Q : Int32 → (Int32) → Prop) (mc : Int32) (size : Int32) : Prop := ∀ (r : Int32) (ra : Nat) (mc1 : Int32) (size1 : Int32) (H : Heap) (locs : List Loc) (kc ks : Nat) (pc : Nat) (ls : Array Slot), kc ≤ 1 → ks ≤ 10 → bz r → Q r size1 → va_P (dC, dI) vwCl [(la, .inr (11, [.int mc1, .ref ra, .int size1])), (ra, .inl (dA 4, 10, .inr (.inr (.inr (.inr (va_up (fun _ => none) (size : Int32).toNatClampNeg (some x))))))), (x, .inr (ci, fs))] H → va_D A [(la, .inr (11, [.int mc1, .ref ra, .int size1])), (ra, .inl (dA 4, 10, .inr (.inr (.inr (.inr (va_up (fun _ => none) (size : Int32).toNatClampNeg (some x))))))), (x, .inr (ci, fs))] → va_S A s.heap H locs → decode cJ2_add pc = .ok (.ireturn, 1) → W p l e RJ2_add_e_ s m args below meth c H locs kc ks Qw (F0 m pc ls [.int r])
def wJ2_add_e (Q : Int32 → (Int32) → Prop) (mc : Int32) (size : Int32) : Prop := (∀ modCount_7 : Int32, modCount_7 = (mc + 1) → (wJ2_add_2_e (fun size1_20 => (Q 1 size1_20)) size size))
end
set_option maxHeartbeats 4000000 in
set_option maxRecDepth 100000 in
theorem metJ2_add_e (l : Launch) {Q : Int32 → (Int32) → Prop} {mc : Int32} {size : Int32} {dC : Nat → ClassId} {dI : Nat → Nat → Nat} {dA : Nat → ClassId} {eA mi sz : Nat} {la : Nat} {x ci : Nat} {fs : List Value} (hO : pO ci) (hf : wJ2_add_e Q mc size) : Met l yJ2_add (ws_ yJ2_add cJ2_add 2 (some .boolean)) rmJ2_add_e (aPc dC dI dA eA mi sz [.ref la, .ref x] [(la, .inr (11, [.int mc, .ref eA, .int size])), (x, .inr (ci, fs))]) (va_Qi (fun (r : Int32) (u : Nat × Int32 × Int32) => Q r u.2.2) (aB dC dI [(la, .inr (11, [.int mc, .ref eA, .int size])), (x, .inr (ci, fs))] sz (fun (u : Nat × Int32 × Int32) => [(la, .inr (11, [.int u.2.1, .ref u.1, .int u.2.2])), (u.1, .inl (dA 4, 10, .inr (.inr (.inr (.inr (va_up (fun _ => none) (size : Int32).toNatClampNeg (some x))))))), (x, .inr (ci, fs))])) (va_A [(la, .inr (11, [.int mc, .ref eA, .int size])), (x, .inr (ci, fs))] sz)) 1 10 (va_A [(la, .inr (11, [.int mc, .ref eA, .int size])), (x, .inr (ci, fs))] sz) := by
  refine Met.ofW (cc := cJ2_add) (maxL := 2) (ret := (some .boolean)) (by decide) rfl ?_
  intro p e s m args below meth c s₁ B hml hv
  obtain ⟨rfl, hsz, hP, hK, hD0, hE⟩ := hv
  subst hsz
  have hx := B.exec
  have hb := B.bytes
  have hr := B.returns
  have hts := atoms_spec (ws := (ws_ yJ2_add cJ2_add 2 (some .boolean))) B.pre
  have hts : ∀ w ∈ lw_all, w.before _ s = true := fun w h => hts w (List.mem_cons_of_mem _ h)
  have hown : s.vm.findClass RJ2 = some m.cls := findClass_of_methodNamed B.named
  have hlocks := B.notSynchronized
  have S : CallFix p m c cJ2_add 2 s _ lw_all RJ2 := ⟨hx, hb, hml, hown, hts⟩
  have hD := hD0.self (sz := s.heap.size)
  have hA : ∀ q : Nat, s.heap.size ≤ q → va_A [(la, .inr (11, [.int mc, .ref eA, .int size])), (x, .inr (ci, fs))] s.heap.size q := fun q h => Or.inr h
  have hS : va_S (va_A [(la, .inr (11, [.int mc, .ref eA, .int size])), (x, .inr (ci, fs))] s.heap.size) s.heap s.heap [] := va_S.rf
  have hl := lv_entry ([.ref la, .ref x]) (n := 2) (Nat.le_of_ble_eq_true rfl)
  rw [lg_entry_eq]
  generalize (lg_sl ([.ref la, .ref x]) ++ List.replicate (2 - (lg_sl ([.ref la, .ref x])).length) Slot.unset).toArray = ls at hl ⊢
  replace hl : lv_has ls 2 [(0, .ref la), (1, .ref x)] := hl
  have hret : hrJ2_add_e p l e s m ([.ref la, .ref x] : List Value).toArray below meth c dC dI dA (va_A [(la, .inr (11, [.int mc, .ref eA, .int size])), (x, .inr (ci, fs))] s.heap.size) la x ci fs (MQ below (va_Qi (fun (r : Int32) (u : Nat × Int32 × Int32) => Q r u.2.2) (aB dC dI [(la, .inr (11, [.int mc, .ref eA, .int size])), (x, .inr (ci, fs))] s.heap.size (fun (u : Nat × Int32 × Int32) => [(la, .inr (11, [.int u.2.1, .ref u.1, .int u.2.2])), (u.1, .inl (dA 4, 10, .inr (.inr (.inr (.inr (va_up (fun _ => none) (size : Int32).toNatClampNeg (some x))))))), (x, .inr (ci, fs))])) (va_A [(la, .inr (11, [.int mc, .ref eA, .int size])), (x, .inr (ci, fs))] s.heap.size)) ([.ref la, .ref x] : List Value).toArray s 1 10 (va_A [(la, .inr (11, [.int mc, .ref eA, .int size])), (x, .inr (ci, fs))] s.heap.size)) Q mc size := fun r ra mc1 size1 H locs kc ks pc ls h1 h2 hz hq hP hD hS hd => W.widen (k := 1) (n := 10) h1 h2 (W.zret hx hb hr hz.1 (fun t ht hW => ⟨⟨r, (ra, mc1, size1), rfl, hq, by subst ht; exact ⟨hP, hD⟩⟩, hS.F ht⟩) hS.2.2 hd)
  generalize hAe : va_A [(la, .inr (11, [.int mc, .ref eA, .int size])), (x, .inr (ci, fs))] s.heap.size = A at hD hA hS hE hret ⊢
  clear hAe
  unfold wJ2_add_e at hf
  refine lv_aload_n hx hb dJ2_add_0 rfl (lv_at hl 0 rfl) ?_
  refine lv_dup hx hb dJ2_add_1 rfl ?_
  refine va_get (D := (dC, dI)) (ci := 11) (v := .int mc) (C := RJ2) (T := TJ2) (N := 3) hx hb hts in_J2 hown hK hP 0 rfl rfl 0 (by decide) (hts _ q386) (fun x9 h9 => u_same (hts _ q387) x9 h9) rfl dJ2_add_2 ?_
  refine lv_iconst (v := 1) hx hb dJ2_add_5 (by decide) ?_
  refine lv_iadd hx hb dJ2_add_6 ?_
  refine lv_topi (fun modCount_7 emodCount_7 => ?_)
  replace hf := hf modCount_7 emodCount_7
  refine va_put (D := (dC, dI)) (ci := 11) (v := .int modCount_7) (ty := .int) (C := RJ2) (T := TJ2) (N := 3) hx hb hts in_J2 tyJ2 tyJ2_ok nmJ2 hown hK hP hD hS 0 rfl rfl 0 (by decide) (hts _ q386) (fun x9 h9 => u_same (hts _ q387) x9 h9) rfl (by decide +kernel) rfl rfl (Nat.le_of_ble_eq_true rfl) dJ2_add_7 (fun H locs hP hD hS => ?_)
  replace hP : va_P (dC, dI) vwCl [(la, .inr (11, [.int modCount_7, .ref eA, .int size])), (x, .inr (ci, fs))] H := hP
  replace hD : va_D A [(la, .inr (11, [.int modCount_7, .ref eA, .int size])), (x, .inr (ci, fs))] := hD
  refine lv_aload_n hx hb dJ2_add_10 rfl (lv_at hl 0 rfl) ?_
  refine lv_aload_n hx hb dJ2_add_11 rfl (lv_at hl 1 rfl) ?_
  refine lv_aload_n hx hb dJ2_add_12 rfl (lv_at hl 0 rfl) ?_
  refine va_get (D := (dC, dI)) (ci := 11) (v := .ref eA) (C := RJ2) (T := TJ2) (N := 3) hx hb hts in_J2 hown hK hP 0 rfl rfl 1 (by decide) (hts _ q383) (fun _ h9 => h9) rfl dJ2_add_13 ?_
  refine lv_aload_n hx hb dJ2_add_16 rfl (lv_at hl 0 rfl) ?_
  refine va_get (D := (dC, dI)) (ci := 11) (v := .int size) (C := RJ2) (T := TJ2) (N := 3) hx hb hts in_J2 hown hK hP 0 rfl rfl 2 (by decide) (hts _ q384) (fun _ h9 => h9) rfl dJ2_add_17 ?_
  refine aC_v (wr := []) hP hD hS hA [0, 1] [] rfl rfl (by decide) (by decide) (va_runV (As := [.ref x, .ref eA, .int size]) (rest := []) S (metJ2_add_2_e l hO hf) (cwV 3 hts (lw_V q153 q155 qs1 q58 q156) rfl rfl rfl ⟨rfl, pdJ2_add_2⟩ ⟨Nat.le_of_ble_eq_true rfl, Nat.le_of_ble_eq_true rfl⟩) ⟨ablind, va_recv hK hP (ci := 11) (q0 := 0) rfl rfl, (apreS hK hE hP hD hS hA [0, 1] rfl rfl (by decide)).2⟩ rfl rfl hl.1 rfl (lv_room (Nat.le_of_ble_eq_true rfl)) dJ2_add_20 ⟨Nat.le_of_ble_eq_true rfl, Nat.le_of_ble_eq_true rfl⟩) (fun u_20 H locs hf hP hD hS => ?_)
  obtain ⟨ra_20, size1_20⟩ := u_20
  replace hP : va_P (dC, dI) vwCl [(la, .inr (11, [.int modCount_7, .ref ra_20, .int size1_20])), (ra_20, .inl (dA 4, 10, .inr (.inr (.inr (.inr (va_up (fun _ => none) (size : Int32).toNatClampNeg (some x))))))), (x, .inr (ci, fs))] H := hP
  replace hD : va_D A [(la, .inr (11, [.int modCount_7, .ref ra_20, .int size1_20])), (ra_20, .inl (dA 4, 10, .inr (.inr (.inr (.inr (va_up (fun _ => none) (size : Int32).toNatClampNeg (some x))))))), (x, .inr (ci, fs))] := hD
  try dsimp only at hf
  refine lv_iconst (v := 1) hx hb dJ2_add_23 (by decide) ?_
  exact hret _ ra_20 modCount_7 size1_20 _ _ _ _ _ _ (Nat.le_of_ble_eq_true rfl) (Nat.le_of_ble_eq_true rfl) bz1 hf (hP.sub [0, 1, 2] rfl) (hD.sub [0, 1, 2] (by decide) rfl) hS dJ2_add_24
/-! java/util/ArrayList.add(Ljava/lang/Object;[Ljava/lang/Object;I)V -/
abbrev rmJ2_add_2_r : Room := { frames := 0, cells := 0, slots := 0, locals := 0 }
abbrev RJ2_add_2_r_ : Room := (headSpec (ws_ yJ2_add_2 cJ2_add_2 4 none) rmJ2_add_2_r).room
section
variable {p : Program} {l : Launch} {e : Env} {s : State} {m : MethodId} {args : Array Value} {below : List Frame} {meth : Method} {c : Code} {Qw : State → Prop} {dC : Nat → ClassId} {dI : Nat → Nat → Nat} {dA : Nat → ClassId} {eA mi : Nat} {A : Nat → Prop} {la ea : Nat} {x ci : Nat} {fs : List Value}
abbrev hrJ2_add_2_r (p : Program) (l : Launch) (e : Env) (s : State) (m : MethodId) (args : Array Value) (below : List Frame) (meth : Method) (c : Code) (dC : Nat → ClassId) (dI : Nat → Nat → Nat) (dA : Nat → ClassId) (A : Nat → Prop) (la : Nat) (ea : Nat) (x : Nat) (ci : Nat) (fs : List Value) (Qw : State → Prop) (Q : (Int32) → Prop) (mc : Int32) (size : Int32) (cap : Nat) (f : (Nat → Option Nat)) (x3 : Int32) : Prop := ∀ (size1 : Int32) (H : Heap) (locs : List Loc) (kc ks : Nat) (pc : Nat) (ls : Array Slot), kc ≤ 0 → ks ≤ 0 → Q size1 → va_P (dC, dI) vwCl [(la, .inr (11, [.int mc, .ref ea, .int size1])), (ea, .inl (dA 4, cap, .inr (.inr (.inr (.inr (va_up f (x3 : Int32).toNatClampNeg (some x))))))), (x, .inr (ci, fs))] H → va_D A [(la, .inr (11, [.int mc, .ref ea, .int size1])), (ea, .inl (dA 4, cap, .inr (.inr (.inr (.inr (va_up f (x3 : Int32).toNatClampNeg (some x))))))), (x, .inr (ci, fs))] → va_S A s.heap H locs → decode cJ2_add_2 pc = .ok (.return_, 1) → W p l e RJ2_add_2_r_ s m args below meth c H locs kc ks Qw (F0 m pc ls [])
def wJ2_add_2_r (Q : (Int32) → Prop) (size : Int32) (cap : Nat) (f : (Nat → Option Nat)) (x3 : Int32) : Prop := ((x3 = (Int32.ofNat cap) → False) ∧ (¬ x3 = (Int32.ofNat cap) → (vp_in x3 cap ∧ (∀ size_19 : Int32, size_19 = (x3 + 1) → (Q size_19)))))
end
set_option maxHeartbeats 4000000 in
set_option maxRecDepth 100000 in
theorem metJ2_add_2_r (l : Launch) {Q : (Int32) → Prop} {mc : Int32} {size : Int32} {cap : Nat} {f : (Nat → Option Nat)} {x3 : Int32} {dC : Nat → ClassId} {dI : Nat → Nat → Nat} {dA : Nat → ClassId} {eA mi sz : Nat} {la ea : Nat} {x ci : Nat} {fs : List Value} (hO : pO ci) (hf : wJ2_add_2_r Q size cap f x3) : Met l yJ2_add_2 (ws_ yJ2_add_2 cJ2_add_2 4 none) rmJ2_add_2_r (aPc dC dI dA eA mi sz [.ref la, .ref x, .ref ea, .int x3] [(la, .inr (11, [.int mc, .ref ea, .int size])), (ea, .inl (dA 4, cap, .inr (.inr (.inr (.inr f))))), (x, .inr (ci, fs))]) (va_Qv (fun (u : Int32) => Q u) (aB dC dI [(la, .inr (11, [.int mc, .ref ea, .int size])), (ea, .inl (dA 4, cap, .inr (.inr (.inr (.inr f))))), (x, .inr (ci, fs))] sz (fun (u : Int32) => [(la, .inr (11, [.int mc, .ref ea, .int u])), (ea, .inl (dA 4, cap, .inr (.inr (.inr (.inr (va_up f (x3 : Int32).toNatClampNeg (some x))))))), (x, .inr (ci, fs))])) (va_A [(la, .inr (11, [.int mc, .ref ea, .int size])), (ea, .inl (dA 4, cap, .inr (.inr (.inr (.inr f))))), (x, .inr (ci, fs))] sz)) 0 0 (va_A [(la, .inr (11, [.int mc, .ref ea, .int size])), (ea, .inl (dA 4, cap, .inr (.inr (.inr (.inr f))))), (x, .inr (ci, fs))] sz) := by
  refine Met.ofW (cc := cJ2_add_2) (maxL := 4) (ret := none) (by decide) rfl ?_
  intro p e s m args below meth c s₁ B hml hv
  obtain ⟨rfl, hsz, hP, hK, hD0, hE⟩ := hv
  subst hsz
  have hx := B.exec
  have hb := B.bytes
  have hr := B.returns
  have hts := atoms_spec (ws := (ws_ yJ2_add_2 cJ2_add_2 4 none)) B.pre
  have hts : ∀ w ∈ lw_all, w.before _ s = true := fun w h => hts w (List.mem_cons_of_mem _ h)
  have hown : s.vm.findClass RJ2 = some m.cls := findClass_of_methodNamed B.named
  have hlocks := B.notSynchronized
  have S : CallFix p m c cJ2_add_2 4 s _ lw_all RJ2 := ⟨hx, hb, hml, hown, hts⟩
  have hD := hD0.self (sz := s.heap.size)
  have hA : ∀ q : Nat, s.heap.size ≤ q → va_A [(la, .inr (11, [.int mc, .ref ea, .int size])), (ea, .inl (dA 4, cap, .inr (.inr (.inr (.inr f))))), (x, .inr (ci, fs))] s.heap.size q := fun q h => Or.inr h
  have hS : va_S (va_A [(la, .inr (11, [.int mc, .ref ea, .int size])), (ea, .inl (dA 4, cap, .inr (.inr (.inr (.inr f))))), (x, .inr (ci, fs))] s.heap.size) s.heap s.heap [] := va_S.rf
  have hl := lv_entry ([.ref la, .ref x, .ref ea, .int x3]) (n := 4) (Nat.le_of_ble_eq_true rfl)
  rw [lg_entry_eq]
  generalize (lg_sl ([.ref la, .ref x, .ref ea, .int x3]) ++ List.replicate (4 - (lg_sl ([.ref la, .ref x, .ref ea, .int x3])).length) Slot.unset).toArray = ls at hl ⊢
  replace hl : lv_has ls 4 [(0, .ref la), (1, .ref x), (2, .ref ea), (3, .int x3)] := hl
  have hret : hrJ2_add_2_r p l e s m ([.ref la, .ref x, .ref ea, .int x3] : List Value).toArray below meth c dC dI dA (va_A [(la, .inr (11, [.int mc, .ref ea, .int size])), (ea, .inl (dA 4, cap, .inr (.inr (.inr (.inr f))))), (x, .inr (ci, fs))] s.heap.size) la ea x ci fs (MQ below (va_Qv (fun (u : Int32) => Q u) (aB dC dI [(la, .inr (11, [.int mc, .ref ea, .int size])), (ea, .inl (dA 4, cap, .inr (.inr (.inr (.inr f))))), (x, .inr (ci, fs))] s.heap.size (fun (u : Int32) => [(la, .inr (11, [.int mc, .ref ea, .int u])), (ea, .inl (dA 4, cap, .inr (.inr (.inr (.inr (va_up f (x3 : Int32).toNatClampNeg (some x))))))), (x, .inr (ci, fs))])) (va_A [(la, .inr (11, [.int mc, .ref ea, .int size])), (ea, .inl (dA 4, cap, .inr (.inr (.inr (.inr f))))), (x, .inr (ci, fs))] s.heap.size)) ([.ref la, .ref x, .ref ea, .int x3] : List Value).toArray s 0 0 (va_A [(la, .inr (11, [.int mc, .ref ea, .int size])), (ea, .inl (dA 4, cap, .inr (.inr (.inr (.inr f))))), (x, .inr (ci, fs))] s.heap.size)) Q mc size cap f x3 := fun size1 H locs kc ks pc ls h1 h2 hq hP hD hS hd => W.widen (k := 0) (n := 0) h1 h2 (W.vret hx hb hr (fun t ht hW => ⟨⟨size1, rfl, hq, by subst ht; exact ⟨hP, hD⟩⟩, hS.F ht⟩) hS.2.2 hd)
  generalize hAe : va_A [(la, .inr (11, [.int mc, .ref ea, .int size])), (ea, .inl (dA 4, cap, .inr (.inr (.inr (.inr f))))), (x, .inr (ci, fs))] s.heap.size = A at hD hA hS hE hret ⊢
  clear hAe
  unfold wJ2_add_2_r at hf
  refine lv_iload_n hx hb dJ2_add_2_0 rfl (lv_at hl 3 rfl) ?_
  refine lv_aload_n hx hb dJ2_add_2_1 rfl (lv_at hl 2 rfl) ?_
  refine va_alen (v := (Int32.ofNat cap)) hx hb hK hP 1 4 rfl rfl rfl dJ2_add_2_2 ?_
  refine lv_icmp_ne (tgt := 11) hx hb dJ2_add_2_3 (by decide) (fun c_3 => ?_) (fun c_3 => ?_)
  · replace hf := hf.2 c_3
    refine lv_aload_n hx hb dJ2_add_2_11 rfl (lv_at hl 2 rfl) ?_
    refine lv_iload_n hx hb dJ2_add_2_12 rfl (lv_at hl 3 rfl) ?_
    refine lv_aload_n hx hb dJ2_add_2_13 rfl (lv_at hl 1 rfl) ?_
    obtain ⟨hin_, hf⟩ := hf
    refine va_astqM hx hb hK hP hD hS 1 4 rfl rfl (anyO hK hP 2 rfl hO hE.1) hin_ dJ2_add_2_14 (fun H locs hP hD hS => ?_)
    replace hP : va_P (dC, dI) vwCl [(la, .inr (11, [.int mc, .ref ea, .int size])), (ea, .inl (dA 4, cap, .inr (.inr (.inr (.inr (va_up f (x3 : Int32).toNatClampNeg (some x))))))), (x, .inr (ci, fs))] H := hP
    replace hD : va_D A [(la, .inr (11, [.int mc, .ref ea, .int size])), (ea, .inl (dA 4, cap, .inr (.inr (.inr (.inr (va_up f (x3 : Int32).toNatClampNeg (some x))))))), (x, .inr (ci, fs))] := hD
    refine lv_aload_n hx hb dJ2_add_2_15 rfl (lv_at hl 0 rfl) ?_
    refine lv_iload_n hx hb dJ2_add_2_16 rfl (lv_at hl 3 rfl) ?_
    refine lv_iconst (v := 1) hx hb dJ2_add_2_17 (by decide) ?_
    refine lv_iadd hx hb dJ2_add_2_18 ?_
    refine lv_topi (fun size_19 esize_19 => ?_)
    replace hf := hf size_19 esize_19
    refine va_put (D := (dC, dI)) (ci := 11) (v := .int size_19) (ty := .int) (C := RJ2) (T := TJ2) (N := 3) hx hb hts in_J2 tyJ2 tyJ2_ok nmJ2 hown hK hP hD hS 0 rfl rfl 2 (by decide) (hts _ q384) (fun _ h9 => h9) rfl (by decide +kernel) rfl rfl (Nat.le_of_ble_eq_true rfl) dJ2_add_2_19 (fun H locs hP hD hS => ?_)
    replace hP : va_P (dC, dI) vwCl [(la, .inr (11, [.int mc, .ref ea, .int size_19])), (ea, .inl (dA 4, cap, .inr (.inr (.inr (.inr (va_up f (x3 : Int32).toNatClampNeg (some x))))))), (x, .inr (ci, fs))] H := hP
    replace hD : va_D A [(la, .inr (11, [.int mc, .ref ea, .int size_19])), (ea, .inl (dA 4, cap, .inr (.inr (.inr (.inr (va_up f (x3 : Int32).toNatClampNeg (some x))))))), (x, .inr (ci, fs))] := hD
    exact hret size_19 _ _ _ _ _ _ (Nat.zero_le _) (Nat.zero_le _) hf (hP.sub [0, 1, 2] rfl) (hD.sub [0, 1, 2] (by decide) rfl) hS dJ2_add_2_22
  · replace hf := hf.1 c_3
    exact hf.elim
/-! java/util/ArrayList.add(Ljava/lang/Object;)Z -/
abbrev rmJ2_add_r : Room := { frames := 1, cells := 0, slots := 0, locals := 23 }
abbrev RJ2_add_r_ : Room := (headSpec (ws_ yJ2_add cJ2_add 2 (some .boolean)) rmJ2_add_r).room
section
variable {p : Program} {l : Launch} {e : Env} {s : State} {m : MethodId} {args : Array Value} {below : List Frame} {meth : Method} {c : Code} {Qw : State → Prop} {dC : Nat → ClassId} {dI : Nat → Nat → Nat} {dA : Nat → ClassId} {eA mi : Nat} {A : Nat → Prop} {la ea : Nat} {x ci : Nat} {fs : List Value}
abbrev hrJ2_add_r (p : Program) (l : Launch) (e : Env) (s : State) (m : MethodId) (args : Array Value) (below : List Frame) (meth : Method) (c : Code) (dC : Nat → ClassId) (dI : Nat → Nat → Nat) (dA : Nat → ClassId) (A : Nat → Prop) (la : Nat) (ea : Nat) (x : Nat) (ci : Nat) (fs : List Value) (Qw : State → Prop) (Q : Int32 → (Int32) → Prop) (mc : Int32) (size : Int32) (cap : Nat) (f : (Nat → Option Nat)) : Prop := ∀ (r : Int32) (mc1 : Int32) (size1 : Int32) (H : Heap) (locs : List Loc) (kc ks : Nat) (pc : Nat) (ls : Array Slot), kc ≤ 0 → ks ≤ 0 → bz r → Q r size1 → va_P (dC, dI) vwCl [(la, .inr (11, [.int mc1, .ref ea, .int size1])), (ea, .inl (dA 4, cap, .inr (.inr (.inr (.inr (va_up f (size : Int32).toNatClampNeg (some x))))))), (x, .inr (ci, fs))] H → va_D A [(la, .inr (11, [.int mc1, .ref ea, .int size1])), (ea, .inl (dA 4, cap, .inr (.inr (.inr (.inr (va_up f (size : Int32).toNatClampNeg (some x))))))), (x, .inr (ci, fs))] → va_S A s.heap H locs → decode cJ2_add pc = .ok (.ireturn, 1) → W p l e RJ2_add_r_ s m args below meth c H locs kc ks Qw (F0 m pc ls [.int r])
def wJ2_add_r (Q : Int32 → (Int32) → Prop) (mc : Int32) (size : Int32) (cap : Nat) (f : (Nat → Option Nat)) : Prop := (∀ modCount_7 : Int32, modCount_7 = (mc + 1) → (wJ2_add_2_r (fun size1_20 => (Q 1 size1_20)) size cap f size))
end
set_option maxHeartbeats 4000000 in
set_option maxRecDepth 100000 in
theorem metJ2_add_r (l : Launch) {Q : Int32 → (Int32) → Prop} {mc : Int32} {size : Int32} {cap : Nat} {f : (Nat → Option Nat)} {dC : Nat → ClassId} {dI : Nat → Nat → Nat} {dA : Nat → ClassId} {eA mi sz : Nat} {la ea : Nat} {x ci : Nat} {fs : List Value} (hO : pO ci) (hf : wJ2_add_r Q mc size cap f) : Met l yJ2_add (ws_ yJ2_add cJ2_add 2 (some .boolean)) rmJ2_add_r (aPc dC dI dA eA mi sz [.ref la, .ref x] [(la, .inr (11, [.int mc, .ref ea, .int size])), (ea, .inl (dA 4, cap, .inr (.inr (.inr (.inr f))))), (x, .inr (ci, fs))]) (va_Qi (fun (r : Int32) (u : Int32 × Int32) => Q r u.2) (aB dC dI [(la, .inr (11, [.int mc, .ref ea, .int size])), (ea, .inl (dA 4, cap, .inr (.inr (.inr (.inr f))))), (x, .inr (ci, fs))] sz (fun (u : Int32 × Int32) => [(la, .inr (11, [.int u.1, .ref ea, .int u.2])), (ea, .inl (dA 4, cap, .inr (.inr (.inr (.inr (va_up f (size : Int32).toNatClampNeg (some x))))))), (x, .inr (ci, fs))])) (va_A [(la, .inr (11, [.int mc, .ref ea, .int size])), (ea, .inl (dA 4, cap, .inr (.inr (.inr (.inr f))))), (x, .inr (ci, fs))] sz)) 0 0 (va_A [(la, .inr (11, [.int mc, .ref ea, .int size])), (ea, .inl (dA 4, cap, .inr (.inr (.inr (.inr f))))), (x, .inr (ci, fs))] sz) := by
  refine Met.ofW (cc := cJ2_add) (maxL := 2) (ret := (some .boolean)) (by decide) rfl ?_
  intro p e s m args below meth c s₁ B hml hv
  obtain ⟨rfl, hsz, hP, hK, hD0, hE⟩ := hv
  subst hsz
  have hx := B.exec
  have hb := B.bytes
  have hr := B.returns
  have hts := atoms_spec (ws := (ws_ yJ2_add cJ2_add 2 (some .boolean))) B.pre
  have hts : ∀ w ∈ lw_all, w.before _ s = true := fun w h => hts w (List.mem_cons_of_mem _ h)
  have hown : s.vm.findClass RJ2 = some m.cls := findClass_of_methodNamed B.named
  have hlocks := B.notSynchronized
  have S : CallFix p m c cJ2_add 2 s _ lw_all RJ2 := ⟨hx, hb, hml, hown, hts⟩
  have hD := hD0.self (sz := s.heap.size)
  have hA : ∀ q : Nat, s.heap.size ≤ q → va_A [(la, .inr (11, [.int mc, .ref ea, .int size])), (ea, .inl (dA 4, cap, .inr (.inr (.inr (.inr f))))), (x, .inr (ci, fs))] s.heap.size q := fun q h => Or.inr h
  have hS : va_S (va_A [(la, .inr (11, [.int mc, .ref ea, .int size])), (ea, .inl (dA 4, cap, .inr (.inr (.inr (.inr f))))), (x, .inr (ci, fs))] s.heap.size) s.heap s.heap [] := va_S.rf
  have hl := lv_entry ([.ref la, .ref x]) (n := 2) (Nat.le_of_ble_eq_true rfl)
  rw [lg_entry_eq]
  generalize (lg_sl ([.ref la, .ref x]) ++ List.replicate (2 - (lg_sl ([.ref la, .ref x])).length) Slot.unset).toArray = ls at hl ⊢
  replace hl : lv_has ls 2 [(0, .ref la), (1, .ref x)] := hl
  have hret : hrJ2_add_r p l e s m ([.ref la, .ref x] : List Value).toArray below meth c dC dI dA (va_A [(la, .inr (11, [.int mc, .ref ea, .int size])), (ea, .inl (dA 4, cap, .inr (.inr (.inr (.inr f))))), (x, .inr (ci, fs))] s.heap.size) la ea x ci fs (MQ below (va_Qi (fun (r : Int32) (u : Int32 × Int32) => Q r u.2) (aB dC dI [(la, .inr (11, [.int mc, .ref ea, .int size])), (ea, .inl (dA 4, cap, .inr (.inr (.inr (.inr f))))), (x, .inr (ci, fs))] s.heap.size (fun (u : Int32 × Int32) => [(la, .inr (11, [.int u.1, .ref ea, .int u.2])), (ea, .inl (dA 4, cap, .inr (.inr (.inr (.inr (va_up f (size : Int32).toNatClampNeg (some x))))))), (x, .inr (ci, fs))])) (va_A [(la, .inr (11, [.int mc, .ref ea, .int size])), (ea, .inl (dA 4, cap, .inr (.inr (.inr (.inr f))))), (x, .inr (ci, fs))] s.heap.size)) ([.ref la, .ref x] : List Value).toArray s 0 0 (va_A [(la, .inr (11, [.int mc, .ref ea, .int size])), (ea, .inl (dA 4, cap, .inr (.inr (.inr (.inr f))))), (x, .inr (ci, fs))] s.heap.size)) Q mc size cap f := fun r mc1 size1 H locs kc ks pc ls h1 h2 hz hq hP hD hS hd => W.widen (k := 0) (n := 0) h1 h2 (W.zret hx hb hr hz.1 (fun t ht hW => ⟨⟨r, (mc1, size1), rfl, hq, by subst ht; exact ⟨hP, hD⟩⟩, hS.F ht⟩) hS.2.2 hd)
  generalize hAe : va_A [(la, .inr (11, [.int mc, .ref ea, .int size])), (ea, .inl (dA 4, cap, .inr (.inr (.inr (.inr f))))), (x, .inr (ci, fs))] s.heap.size = A at hD hA hS hE hret ⊢
  clear hAe
  unfold wJ2_add_r at hf
  refine lv_aload_n hx hb dJ2_add_0 rfl (lv_at hl 0 rfl) ?_
  refine lv_dup hx hb dJ2_add_1 rfl ?_
  refine va_get (D := (dC, dI)) (ci := 11) (v := .int mc) (C := RJ2) (T := TJ2) (N := 3) hx hb hts in_J2 hown hK hP 0 rfl rfl 0 (by decide) (hts _ q386) (fun x9 h9 => u_same (hts _ q387) x9 h9) rfl dJ2_add_2 ?_
  refine lv_iconst (v := 1) hx hb dJ2_add_5 (by decide) ?_
  refine lv_iadd hx hb dJ2_add_6 ?_
  refine lv_topi (fun modCount_7 emodCount_7 => ?_)
  replace hf := hf modCount_7 emodCount_7
  refine va_put (D := (dC, dI)) (ci := 11) (v := .int modCount_7) (ty := .int) (C := RJ2) (T := TJ2) (N := 3) hx hb hts in_J2 tyJ2 tyJ2_ok nmJ2 hown hK hP hD hS 0 rfl rfl 0 (by decide) (hts _ q386) (fun x9 h9 => u_same (hts _ q387) x9 h9) rfl (by decide +kernel) rfl rfl (Nat.le_of_ble_eq_true rfl) dJ2_add_7 (fun H locs hP hD hS => ?_)
  replace hP : va_P (dC, dI) vwCl [(la, .inr (11, [.int modCount_7, .ref ea, .int size])), (ea, .inl (dA 4, cap, .inr (.inr (.inr (.inr f))))), (x, .inr (ci, fs))] H := hP
  replace hD : va_D A [(la, .inr (11, [.int modCount_7, .ref ea, .int size])), (ea, .inl (dA 4, cap, .inr (.inr (.inr (.inr f))))), (x, .inr (ci, fs))] := hD
  refine lv_aload_n hx hb dJ2_add_10 rfl (lv_at hl 0 rfl) ?_
  refine lv_aload_n hx hb dJ2_add_11 rfl (lv_at hl 1 rfl) ?_
  refine lv_aload_n hx hb dJ2_add_12 rfl (lv_at hl 0 rfl) ?_
  refine va_get (D := (dC, dI)) (ci := 11) (v := .ref ea) (C := RJ2) (T := TJ2) (N := 3) hx hb hts in_J2 hown hK hP 0 rfl rfl 1 (by decide) (hts _ q383) (fun _ h9 => h9) rfl dJ2_add_13 ?_
  refine lv_aload_n hx hb dJ2_add_16 rfl (lv_at hl 0 rfl) ?_
  refine va_get (D := (dC, dI)) (ci := 11) (v := .int size) (C := RJ2) (T := TJ2) (N := 3) hx hb hts in_J2 hown hK hP 0 rfl rfl 2 (by decide) (hts _ q384) (fun _ h9 => h9) rfl dJ2_add_17 ?_
  refine aC_v (wr := []) hP hD hS hA [0, 1, 2] [] rfl rfl (by decide) (by decide) (va_runV (As := [.ref x, .ref ea, .int size]) (rest := []) S (metJ2_add_2_r l hO hf) (cwV 3 hts (lw_V q153 q155 qs1 q58 q156) rfl rfl rfl ⟨rfl, pdJ2_add_2⟩ ⟨Nat.le_of_ble_eq_true rfl, Nat.le_of_ble_eq_true rfl⟩) ⟨ablind, va_recv hK hP (ci := 11) (q0 := 0) rfl rfl, (apreS hK hE hP hD hS hA [0, 1, 2] rfl rfl (by decide)).2⟩ rfl rfl hl.1 rfl (lv_room (Nat.le_of_ble_eq_true rfl)) dJ2_add_20 ⟨(Nat.zero_le _), (Nat.zero_le _)⟩) (fun u_20 H locs hf hP hD hS => ?_)
  obtain ⟨size1_20, rfl⟩ : ∃ z, z = u_20 := ⟨_, rfl⟩
  replace hP : va_P (dC, dI) vwCl [(la, .inr (11, [.int modCount_7, .ref ea, .int size1_20])), (ea, .inl (dA 4, cap, .inr (.inr (.inr (.inr (va_up f (size : Int32).toNatClampNeg (some x))))))), (x, .inr (ci, fs))] H := hP
  replace hD : va_D A [(la, .inr (11, [.int modCount_7, .ref ea, .int size1_20])), (ea, .inl (dA 4, cap, .inr (.inr (.inr (.inr (va_up f (size : Int32).toNatClampNeg (some x))))))), (x, .inr (ci, fs))] := hD
  try dsimp only at hf
  refine lv_iconst (v := 1) hx hb dJ2_add_23 (by decide) ?_
  exact hret _ modCount_7 size1_20 _ _ _ _ _ _ (Nat.zero_le _) (Nat.zero_le _) bz1 hf (hP.sub [0, 1, 2] rfl) (hD.sub [0, 1, 2] (by decide) rfl) hS dJ2_add_24
/-! java/util/AbstractCollection.<init>()V -/
theorem pdJ0_init : DscOk yJ0_init 0 := by decide +kernel
abbrev rmJ0_init : Room := { frames := 1, cells := 0, slots := 0, locals := 12 }
abbrev RJ0_init_ : Room := (headSpec (ws_ yJ0_init cJ0_init 1 none) rmJ0_init).room
section
variable {p : Program} {l : Launch} {e : Env} {s : State} {m : MethodId} {args : Array Value} {below : List Frame} {meth : Method} {c : Code} {Qw : State → Prop} {dC : Nat → ClassId} {dI : Nat → Nat → Nat} {dA : Nat → ClassId} {eA mi : Nat} {A : Nat → Prop} {la : Nat}
abbrev hrJ0_init (p : Program) (l : Launch) (e : Env) (s : State) (m : MethodId) (args : Array Value) (below : List Frame) (meth : Method) (c : Code) (dC : Nat → ClassId) (dI : Nat → Nat → Nat) (dA : Nat → ClassId) (A : Nat → Prop) (la : Nat) (Qw : State → Prop) (Q : Prop) (mc : Int32) (size : Int32) : Prop := ∀ (H : Heap) (locs : List Loc) (kc ks : Nat) (pc : Nat) (ls : Array Slot), kc ≤ 0 → ks ≤ 0 → Q → va_P (dC, dI) vwCl [(la, .inr (11, [.int mc, .null, .int size]))] H → va_D A [(la, .inr (11, [.int mc, .null, .int size]))] → va_S A s.heap H locs → decode cJ0_init pc = .ok (.return_, 1) → W p l e RJ0_init_ s m args below meth c H locs kc ks Qw (F0 m pc ls [])
def wJ0_init (Q : Prop) : Prop := (Q)
end
set_option maxHeartbeats 4000000 in
set_option maxRecDepth 100000 in
theorem metJ0_init (l : Launch) {Q : Prop} {mc : Int32} {size : Int32} {dC : Nat → ClassId} {dI : Nat → Nat → Nat} {dA : Nat → ClassId} {eA mi sz : Nat} {la : Nat} (hf : wJ0_init Q) : Met l yJ0_init (ws_ yJ0_init cJ0_init 1 none) rmJ0_init (aPc dC dI dA eA mi sz [.ref la] [(la, .inr (11, [.int mc, .null, .int size]))]) (va_Qv (fun (u : Unit) => Q) (aB dC dI [(la, .inr (11, [.int mc, .null, .int size]))] sz (fun u => [(la, .inr (11, [.int mc, .null, .int size]))])) (va_A [(la, .inr (11, [.int mc, .null, .int size]))] sz)) 0 0 (va_A [(la, .inr (11, [.int mc, .null, .int size]))] sz) := by
  refine Met.ofW (cc := cJ0_init) (maxL := 1) (ret := none) (by decide) rfl ?_
  intro p e s m args below meth c s₁ B hml hv
  obtain ⟨rfl, hsz, hP, hK, hD0, hE⟩ := hv
  subst hsz
  have hx := B.exec
  have hb := B.bytes
  have hr := B.returns
  have hts := atoms_spec (ws := (ws_ yJ0_init cJ0_init 1 none)) B.pre
  have hts : ∀ w ∈ lw_all, w.before _ s = true := fun w h => hts w (List.mem_cons_of_mem _ h)
  have hown : s.vm.findClass RJ0 = some m.cls := findClass_of_methodNamed B.named
  have hlocks := B.notSynchronized
  have hin : meth.name = "<init>" := (name_of_methodNamed B.named B.method).1
  have S : CallFix p m c cJ0_init 1 s _ lw_all RJ0 := ⟨hx, hb, hml, hown, hts⟩
  have hD := hD0.self (sz := s.heap.size)
  have hA : ∀ q : Nat, s.heap.size ≤ q → va_A [(la, .inr (11, [.int mc, .null, .int size]))] s.heap.size q := fun q h => Or.inr h
  have hS : va_S (va_A [(la, .inr (11, [.int mc, .null, .int size]))] s.heap.size) s.heap s.heap [] := va_S.rf
  have hl := lv_entry ([.ref la]) (n := 1) (Nat.le_of_ble_eq_true rfl)
  rw [lg_entry_eq]
  generalize (lg_sl ([.ref la]) ++ List.replicate (1 - (lg_sl ([.ref la])).length) Slot.unset).toArray = ls at hl ⊢
  replace hl : lv_has ls 1 [(0, .ref la)] := hl
  have hret : hrJ0_init p l e s m ([.ref la] : List Value).toArray below meth c dC dI dA (va_A [(la, .inr (11, [.int mc, .null, .int size]))] s.heap.size) la (MQ below (va_Qv (fun (u : Unit) => Q) (aB dC dI [(la, .inr (11, [.int mc, .null, .int size]))] s.heap.size (fun u => [(la, .inr (11, [.int mc, .null, .int size]))])) (va_A [(la, .inr (11, [.int mc, .null, .int size]))] s.heap.size)) ([.ref la] : List Value).toArray s 0 0 (va_A [(la, .inr (11, [.int mc, .null, .int size]))] s.heap.size)) Q mc size := fun H locs kc ks pc ls h1 h2 hq hP hD hS hd => W.widen (k := 0) (n := 0) h1 h2 (W.vret hx hb hr (fun t ht hW => ⟨⟨(), rfl, hq, by subst ht; exact ⟨hP, hD⟩⟩, hS.F ht⟩) hS.2.2 hd)
  generalize hAe : va_A [(la, .inr (11, [.int mc, .null, .int size]))] s.heap.size = A at hD hA hS hE hret ⊢
  clear hAe
  unfold wJ0_init at hf
  refine lv_aload_n hx hb dJ0_init_0 rfl (lv_at hl 0 rfl) ?_
  refine W.objInit hx hb hown (hts _ q382) (hts _ q105) (hts _ q106) rfl (by rw [hml]; exact hl.1) rfl dJ0_init_1 (Nat.le_of_ble_eq_true rfl) (Nat.le_of_ble_eq_true rfl) ?_
  refine W.eq (g2 := F0 m 4 ls []) rfl ?_
  exact hret _ _ _ _ _ _ (Nat.zero_le _) (Nat.zero_le _) hf (hP.sub [0] rfl) (hD.sub [0] (by decide) rfl) hS dJ0_init_4
/-! java/util/AbstractList.<init>()V -/
theorem pdJ1_init : DscOk yJ1_init 0 := by decide +kernel
abbrev rmJ1_init : Room := { frames := 2, cells := 0, slots := 0, locals := 32 }
abbrev RJ1_init_ : Room := (headSpec (ws_ yJ1_init cJ1_init 1 none) rmJ1_init).room
section
variable {p : Program} {l : Launch} {e : Env} {s : State} {m : MethodId} {args : Array Value} {below : List Frame} {meth : Method} {c : Code} {Qw : State → Prop} {dC : Nat → ClassId} {dI : Nat → Nat → Nat} {dA : Nat → ClassId} {eA mi : Nat} {A : Nat → Prop} {la : Nat}
abbrev hrJ1_init (p : Program) (l : Launch) (e : Env) (s : State) (m : MethodId) (args : Array Value) (below : List Frame) (meth : Method) (c : Code) (dC : Nat → ClassId) (dI : Nat → Nat → Nat) (dA : Nat → ClassId) (A : Nat → Prop) (la : Nat) (Qw : State → Prop) (Q : (Int32) → Prop) (size : Int32) : Prop := ∀ (mc : Int32) (H : Heap) (locs : List Loc) (kc ks : Nat) (pc : Nat) (ls : Array Slot), kc ≤ 0 → ks ≤ 0 → Q mc → va_P (dC, dI) vwCl [(la, .inr (11, [.int mc, .null, .int size]))] H → va_D A [(la, .inr (11, [.int mc, .null, .int size]))] → va_S A s.heap H locs → decode cJ1_init pc = .ok (.return_, 1) → W p l e RJ1_init_ s m args below meth c H locs kc ks Qw (F0 m pc ls [])
def wJ1_init (Q : (Int32) → Prop) (mc : Int32) : Prop := (wJ0_init (Q 0))
end
set_option maxHeartbeats 4000000 in
set_option maxRecDepth 100000 in
theorem metJ1_init (l : Launch) {Q : (Int32) → Prop} {mc : Int32} {size : Int32} {dC : Nat → ClassId} {dI : Nat → Nat → Nat} {dA : Nat → ClassId} {eA mi sz : Nat} {la : Nat} (hf : wJ1_init Q mc) : Met l yJ1_init (ws_ yJ1_init cJ1_init 1 none) rmJ1_init (aPc dC dI dA eA mi sz [.ref la] [(la, .inr (11, [.int mc, .null, .int size]))]) (va_Qv (fun (u : Int32) => Q u) (aB dC dI [(la, .inr (11, [.int mc, .null, .int size]))] sz (fun u => [(la, .inr (11, [.int u, .null, .int size]))])) (va_A [(la, .inr (11, [.int mc, .null, .int size]))] sz)) 0 0 (va_A [(la, .inr (11, [.int mc, .null, .int size]))] sz) := by
  refine Met.ofW (cc := cJ1_init) (maxL := 1) (ret := none) (by decide) rfl ?_
  intro p e s m args below meth c s₁ B hml hv
  obtain ⟨rfl, hsz, hP, hK, hD0, hE⟩ := hv
  subst hsz
  have hx := B.exec
  have hb := B.bytes
  have hr := B.returns
  have hts := atoms_spec (ws := (ws_ yJ1_init cJ1_init 1 none)) B.pre
  have hts : ∀ w ∈ lw_all, w.before _ s = true := fun w h => hts w (List.mem_cons_of_mem _ h)
  have hown : s.vm.findClass RJ1 = some m.cls := findClass_of_methodNamed B.named
  have hlocks := B.notSynchronized
  have hin : meth.name = "<init>" := (name_of_methodNamed B.named B.method).1
  have S : CallFix p m c cJ1_init 1 s _ lw_all RJ1 := ⟨hx, hb, hml, hown, hts⟩
  have hD := hD0.self (sz := s.heap.size)
  have hA : ∀ q : Nat, s.heap.size ≤ q → va_A [(la, .inr (11, [.int mc, .null, .int size]))] s.heap.size q := fun q h => Or.inr h
  have hS : va_S (va_A [(la, .inr (11, [.int mc, .null, .int size]))] s.heap.size) s.heap s.heap [] := va_S.rf
  have hl := lv_entry ([.ref la]) (n := 1) (Nat.le_of_ble_eq_true rfl)
  rw [lg_entry_eq]
  generalize (lg_sl ([.ref la]) ++ List.replicate (1 - (lg_sl ([.ref la])).length) Slot.unset).toArray = ls at hl ⊢
  replace hl : lv_has ls 1 [(0, .ref la)] := hl
  have hret : hrJ1_init p l e s m ([.ref la] : List Value).toArray below meth c dC dI dA (va_A [(la, .inr (11, [.int mc, .null, .int size]))] s.heap.size) la (MQ below (va_Qv (fun (u : Int32) => Q u) (aB dC dI [(la, .inr (11, [.int mc, .null, .int size]))] s.heap.size (fun u => [(la, .inr (11, [.int u, .null, .int size]))])) (va_A [(la, .inr (11, [.int mc, .null, .int size]))] s.heap.size)) ([.ref la] : List Value).toArray s 0 0 (va_A [(la, .inr (11, [.int mc, .null, .int size]))] s.heap.size)) Q size := fun mc H locs kc ks pc ls h1 h2 hq hP hD hS hd => W.widen (k := 0) (n := 0) h1 h2 (W.vret hx hb hr (fun t ht hW => ⟨⟨mc, rfl, hq, by subst ht; exact ⟨hP, hD⟩⟩, hS.F ht⟩) hS.2.2 hd)
  generalize hAe : va_A [(la, .inr (11, [.int mc, .null, .int size]))] s.heap.size = A at hD hA hS hE hret ⊢
  clear hAe
  unfold wJ1_init at hf
  refine lv_aload_n hx hb dJ1_init_0 rfl (lv_at hl 0 rfl) ?_
  refine aC_v (wr := []) hP hD hS hA [0] [] rfl rfl (by decide) (by decide) (va_runI (As := []) (rest := []) S (metJ0_init l hf) (cwI 0 hts (lw_meth q381) rfl rfl rfl (hts _ q56) (hts _ q379) (hts _ q380) rfl pdJ0_init ⟨Nat.le_of_ble_eq_true rfl, Nat.le_of_ble_eq_true rfl⟩) (apreS hK hE hP hD hS hA [0] rfl rfl (by decide)) rfl rfl hl.1 rfl (lv_room (Nat.le_of_ble_eq_true rfl)) dJ1_init_1 ⟨(Nat.zero_le _), (Nat.zero_le _)⟩) (fun u_1 H locs hf hP hD hS => ?_)
  replace hP : va_P (dC, dI) vwCl [(la, .inr (11, [.int mc, .null, .int size]))] H := hP
  replace hD : va_D A [(la, .inr (11, [.int mc, .null, .int size]))] := hD
  try dsimp only at hf
  refine lv_aload_n hx hb dJ1_init_4 rfl (lv_at hl 0 rfl) ?_
  refine lv_iconst (v := 0) hx hb dJ1_init_5 (by decide) ?_
  refine va_put (D := (dC, dI)) (ci := 11) (v := .int 0) (ty := .int) (C := RJ2) (T := TJ2) (N := 3) hx hb hts in_J2 tyJ2 tyJ2_ok nmJ2 hown hK hP hD hS 0 rfl rfl 0 (by decide) (hts _ q385) (fun _ h9 => h9) rfl (by decide +kernel) rfl rfl (Nat.le_of_ble_eq_true rfl) dJ1_init_6 (fun H locs hP hD hS => ?_)
  replace hP : va_P (dC, dI) vwCl [(la, .inr (11, [.int 0, .null, .int size]))] H := hP
  replace hD : va_D A [(la, .inr (11, [.int 0, .null, .int size]))] := hD
  exact hret _ _ _ _ _ _ _ (Nat.zero_le _) (Nat.zero_le _) hf (hP.sub [0] rfl) (hD.sub [0] (by decide) rfl) hS dJ1_init_9
/-! java/util/ArrayList.<init>()V -/
theorem pdJ2_init : DscOk yJ2_init 0 := by decide +kernel
abbrev rmJ2_init : Room := { frames := 3, cells := 0, slots := 0, locals := 52 }
abbrev RJ2_init_ : Room := (headSpec (ws_ yJ2_init cJ2_init 1 none) rmJ2_init).room
section
variable {p : Program} {l : Launch} {e : Env} {s : State} {m : MethodId} {args : Array Value} {below : List Frame} {meth : Method} {c : Code} {Qw : State → Prop} {dC : Nat → ClassId} {dI : Nat → Nat → Nat} {dA : Nat → ClassId} {eA mi : Nat} {A : Nat → Prop} {la : Nat}
abbrev hrJ2_init (p : Program) (l : Launch) (e : Env) (s : State) (m : MethodId) (args : Array Value) (below : List Frame) (meth : Method) (c : Code) (dC : Nat → ClassId) (dI : Nat → Nat → Nat) (dA : Nat → ClassId) (A : Nat → Prop) (la : Nat) (Qw : State → Prop) (Q : Prop) (mc : Int32) (size : Int32) : Prop := ∀ (mc1 : Int32) (H : Heap) (locs : List Loc) (kc ks : Nat) (pc : Nat) (ls : Array Slot), kc ≤ 0 → ks ≤ 0 → Q → va_P (dC, dI) vwCl [(la, .inr (11, [.int mc1, .ref eA, .int size]))] H → va_D A [(la, .inr (11, [.int mc1, .ref eA, .int size]))] → va_S A s.heap H locs → decode cJ2_init pc = .ok (.return_, 1) → W p l e RJ2_init_ s m args below meth c H locs kc ks Qw (F0 m pc ls [])
def wJ2_init (Q : Prop) (mc : Int32) : Prop := (wJ1_init (fun mc_1 => (Q)) mc)
end
set_option maxHeartbeats 4000000 in
set_option maxRecDepth 100000 in
theorem metJ2_init (l : Launch) {Q : Prop} {mc : Int32} {size : Int32} {dC : Nat → ClassId} {dI : Nat → Nat → Nat} {dA : Nat → ClassId} {eA mi sz : Nat} {la : Nat} (hf : wJ2_init Q mc) : Met l yJ2_init (ws_ yJ2_init cJ2_init 1 none) rmJ2_init (aPc dC dI dA eA mi sz [.ref la] [(la, .inr (11, [.int mc, .null, .int size]))]) (va_Qv (fun (u : Int32) => Q) (aB dC dI [(la, .inr (11, [.int mc, .null, .int size]))] sz (fun (u : Int32) => [(la, .inr (11, [.int u, .ref eA, .int size]))])) (va_A [(la, .inr (11, [.int mc, .null, .int size]))] sz)) 0 0 (va_A [(la, .inr (11, [.int mc, .null, .int size]))] sz) := by
  refine Met.ofW (cc := cJ2_init) (maxL := 1) (ret := none) (by decide) rfl ?_
  intro p e s m args below meth c s₁ B hml hv
  obtain ⟨rfl, hsz, hP, hK, hD0, hE⟩ := hv
  subst hsz
  have hx := B.exec
  have hb := B.bytes
  have hr := B.returns
  have hts := atoms_spec (ws := (ws_ yJ2_init cJ2_init 1 none)) B.pre
  have hts : ∀ w ∈ lw_all, w.before _ s = true := fun w h => hts w (List.mem_cons_of_mem _ h)
  have hown : s.vm.findClass RJ2 = some m.cls := findClass_of_methodNamed B.named
  have hlocks := B.notSynchronized
  have hin : meth.name = "<init>" := (name_of_methodNamed B.named B.method).1
  have S : CallFix p m c cJ2_init 1 s _ lw_all RJ2 := ⟨hx, hb, hml, hown, hts⟩
  have hD := hD0.self (sz := s.heap.size)
  have hA : ∀ q : Nat, s.heap.size ≤ q → va_A [(la, .inr (11, [.int mc, .null, .int size]))] s.heap.size q := fun q h => Or.inr h
  have hS : va_S (va_A [(la, .inr (11, [.int mc, .null, .int size]))] s.heap.size) s.heap s.heap [] := va_S.rf
  have hl := lv_entry ([.ref la]) (n := 1) (Nat.le_of_ble_eq_true rfl)
  rw [lg_entry_eq]
  generalize (lg_sl ([.ref la]) ++ List.replicate (1 - (lg_sl ([.ref la])).length) Slot.unset).toArray = ls at hl ⊢
  replace hl : lv_has ls 1 [(0, .ref la)] := hl
  have hret : hrJ2_init p l e s m ([.ref la] : List Value).toArray below meth c dC dI dA (va_A [(la, .inr (11, [.int mc, .null, .int size]))] s.heap.size) la (MQ below (va_Qv (fun (u : Int32) => Q) (aB dC dI [(la, .inr (11, [.int mc, .null, .int size]))] s.heap.size (fun (u : Int32) => [(la, .inr (11, [.int u, .ref eA, .int size]))])) (va_A [(la, .inr (11, [.int mc, .null, .int size]))] s.heap.size)) ([.ref la] : List Value).toArray s 0 0 (va_A [(la, .inr (11, [.int mc, .null, .int size]))] s.heap.size)) Q mc size := fun mc1 H locs kc ks pc ls h1 h2 hq hP hD hS hd => W.widen (k := 0) (n := 0) h1 h2 (W.vret hx hb hr (fun t ht hW => ⟨⟨mc1, rfl, hq, by subst ht; exact ⟨hP, hD⟩⟩, hS.F ht⟩) hS.2.2 hd)
  generalize hAe : va_A [(la, .inr (11, [.int mc, .null, .int size]))] s.heap.size = A at hD hA hS hE hret ⊢
  clear hAe
  unfold wJ2_init at hf
  refine lv_aload_n hx hb dJ2_init_0 rfl (lv_at hl 0 rfl) ?_
  refine aC_v (wr := []) hP hD hS hA [0] [] rfl rfl (by decide) (by decide) (va_runI (As := []) (rest := []) S (metJ1_init l hf) (cwI 0 hts (lw_meth q378) rfl rfl rfl (hts _ q57) (hts _ q376) (hts _ q377) rfl pdJ1_init ⟨Nat.le_of_ble_eq_true rfl, Nat.le_of_ble_eq_true rfl⟩) (apreS hK hE hP hD hS hA [0] rfl rfl (by decide)) rfl rfl hl.1 rfl (lv_room (Nat.le_of_ble_eq_true rfl)) dJ2_init_1 ⟨(Nat.zero_le _), (Nat.zero_le _)⟩) (fun u_1 H locs hf hP hD hS => ?_)
  obtain ⟨mc_1, rfl⟩ : ∃ z, z = u_1 := ⟨_, rfl⟩
  replace hP : va_P (dC, dI) vwCl [(la, .inr (11, [.int mc_1, .null, .int size]))] H := hP
  replace hD : va_D A [(la, .inr (11, [.int mc_1, .null, .int size]))] := hD
  refine lv_aload_n hx hb dJ2_init_4 rfl (lv_at hl 0 rfl) ?_
  refine va_gets (v := .ref eA) hx hb hE.2.2.2.2.2.2.2.2.1 hS hown (hts _ q165) (fun _ h9 => h9) dJ2_init_5 ?_
  refine va_put (D := (dC, dI)) (ci := 11) (v := .ref eA) (ty := tyJ2 1) (C := RJ2) (T := TJ2) (N := 3) hx hb hts in_J2 tyJ2 tyJ2_ok nmJ2 hown hK hP hD hS 0 rfl rfl 1 (by decide) (hts _ q383) (fun _ h9 => h9) rfl (by decide +kernel) rfl rfl (Nat.le_of_ble_eq_true rfl) dJ2_init_8 (fun H locs hP hD hS => ?_)
  replace hP : va_P (dC, dI) vwCl [(la, .inr (11, [.int mc_1, .ref eA, .int size]))] H := hP
  replace hD : va_D A [(la, .inr (11, [.int mc_1, .ref eA, .int size]))] := hD
  exact hret mc_1 _ _ _ _ _ _ (Nat.zero_le _) (Nat.zero_le _) hf (hP.sub [0] rfl) (hD.sub [0] (by decide) rfl) hS dJ2_init_11
/-! jdk/internal/util/ArraysSupport.newLength(III)I -/
theorem pdJ5_newLength : DscOk yJ5_newLength 3 := by decide +kernel
abbrev rmJ5_newLength : Room := { frames := 1, cells := 0, slots := 0, locals := 21 }
abbrev RJ5_newLength_ : Room := (headSpec (ws_ yJ5_newLength cJ5_newLength 4 (some .int)) rmJ5_newLength).room
section
variable {p : Program} {l : Launch} {e : Env} {s : State} {m : MethodId} {args : Array Value} {below : List Frame} {meth : Method} {c : Code} {Qw : State → Prop} {H : Heap} {locs : List Loc}
abbrev hrJ5_newLength (p : Program) (l : Launch) (e : Env) (s : State) (m : MethodId) (args : Array Value) (below : List Frame) (meth : Method) (c : Code) (H : Heap) (locs : List Loc) (Qw : State → Prop) (Q : Int32 → Prop) : Prop := ∀ (r : Int32) (pc : Nat) (ls : Array Slot), Q r → decode cJ5_newLength pc = .ok (.ireturn, 1) → W p l e RJ5_newLength_ s m args below meth c H locs 0 0 Qw (F0 m pc ls [.int r])
def wJ5_newLength (Q : Int32 → Prop) (x0 : Int32) (x1 : Int32) (x2 : Int32) : Prop := (∀ x3_7 : Int32, x3_7 = (x0 + (if x1 < x2 then x2 else x1)) → ((x3_7 ≤ 0 → False) ∧ (¬ x3_7 ≤ 0 → ((2147483639 < x3_7 → False) ∧ (¬ 2147483639 < x3_7 → (Q x3_7))))))
end
set_option maxHeartbeats 4000000 in
set_option maxRecDepth 100000 in
theorem metJ5_newLength (l : Launch) {Q : Int32 → Prop} {x0 : Int32} {x1 : Int32} {x2 : Int32} (hf : wJ5_newLength Q x0 x1 x2) : Met l yJ5_newLength (ws_ yJ5_newLength cJ5_newLength 4 (some .int)) rmJ5_newLength (fun v _ => v = ([.int x0, .int x1, .int x2] : List Value).toArray) (vp_Si Q) 0 0 (fun _ => False) := by
  refine Met.ofW (cc := cJ5_newLength) (maxL := 4) (ret := (some .int)) (by decide) rfl ?_
  intro p e s m args below meth c s₁ B hml hv
  subst hv
  have hx := B.exec
  have hb := B.bytes
  have hr := B.returns
  have hts := atoms_spec (ws := (ws_ yJ5_newLength cJ5_newLength 4 (some .int))) B.pre
  have hts : ∀ w ∈ lw_all, w.before _ s = true := fun w h => hts w (List.mem_cons_of_mem _ h)
  have hown : s.vm.findClass RJ5 = some m.cls := findClass_of_methodNamed B.named
  have hlocks := B.notSynchronized
  have S : CallFix p m c cJ5_newLength 4 s _ lw_all RJ5 := ⟨hx, hb, hml, hown, hts⟩
  have hl := lv_entry ([.int x0, .int x1, .int x2]) (n := 4) (Nat.le_of_ble_eq_true rfl)
  rw [lg_entry_eq]
  generalize (lg_sl ([.int x0, .int x1, .int x2]) ++ List.replicate (4 - (lg_sl ([.int x0, .int x1, .int x2])).length) Slot.unset).toArray = ls at hl ⊢
  replace hl : lv_has ls 4 [(0, .int x0), (1, .int x1), (2, .int x2)] := hl
  have hret : hrJ5_newLength p l e s m ([.int x0, .int x1, .int x2] : List Value).toArray below meth c s.heap [] (MQ below (vp_Si Q) ([.int x0, .int x1, .int x2] : List Value).toArray s 0 0 (fun _ => False)) Q := fun r pc ls hq hd => W.iret hx hb hr (fun t ht hW => ⟨r, rfl, hq, ht⟩) t_nil hd
  unfold wJ5_newLength at hf
  refine lv_iload_n hx hb dJ5_newLength_0 rfl (lv_at hl 0 rfl) ?_
  refine lv_iload_n hx hb dJ5_newLength_1 rfl (lv_at hl 1 rfl) ?_
  refine lv_iload_n hx hb dJ5_newLength_2 rfl (lv_at hl 2 rfl) ?_
  refine va_mmax hx hb (hml.trans hl.1.symm) hown (hts _ q170) (hts _ q171) (hts _ q66) (hts _ q172) (Nat.le_of_ble_eq_true rfl) (Nat.le_of_ble_eq_true rfl) (Nat.zero_le _) (Nat.zero_le _) dJ5_newLength_3 ?_
  refine lv_iadd hx hb dJ5_newLength_6 ?_
  refine lv_topi (fun x3_7 ex3_7 => ?_)
  replace hf := hf x3_7 ex3_7
  refine lv_istore_n (lv' := [(3, .int x3_7), (0, .int x0), (1, .int x1), (2, .int x2)]) hx hb dJ5_newLength_7 rfl hl (by decide) rfl (fun ls hl => ?_)
  refine lv_iconst (v := 0) hx hb dJ5_newLength_8 (by decide) ?_
  refine lv_iload_n hx hb dJ5_newLength_9 rfl (lv_at hl 0 rfl) ?_
  refine lv_icmp_ge (tgt := 21) hx hb dJ5_newLength_10 (by decide) (fun c_10 => ?_) (fun c_10 => ?_)
  · replace hf := hf.1 c_10
    exact hf.elim
  · replace hf := hf.2 c_10
    refine lv_iload_n hx hb dJ5_newLength_13 rfl (lv_at hl 0 rfl) ?_
    refine lv_ldc (v := 2147483639) hx hb hown (hts _ q173) dJ5_newLength_14 ?_
    refine lv_icmp_gt (tgt := 21) hx hb dJ5_newLength_16 (by decide) (fun c_16 => ?_) (fun c_16 => ?_)
    · replace hf := hf.1 c_16
      exact hf.elim
    · replace hf := hf.2 c_16
      refine lv_iload_n hx hb dJ5_newLength_19 rfl (lv_at hl 0 rfl) ?_
      exact hret _ _ _ hf dJ5_newLength_20
/-! java/util/Arrays.copyOf([Ljava/lang/Object;ILjava/lang/Class;)[Ljava/lang/Object; -/
theorem pdJ7_copyOf_2 : DscOk yJ7_copyOf_2 3 := by decide +kernel
abbrev rmJ7_copyOf_2_10 : Room := { frames := 1, cells := 1, slots := 15, locals := 40 }
abbrev RJ7_copyOf_2_10_ : Room := (headSpec (ws_ yJ7_copyOf_2 cJ7_copyOf_2 4 (some (.array (.object "java/lang/Object")))) rmJ7_copyOf_2_10).room
section
variable {p : Program} {l : Launch} {e : Env} {s : State} {m : MethodId} {args : Array Value} {below : List Frame} {meth : Method} {c : Code} {Qw : State → Prop} {dC : Nat → ClassId} {dI : Nat → Nat → Nat} {dA : Nat → ClassId} {eA mi : Nat} {A : Nat → Prop} {ea : Nat}
abbrev hrJ7_copyOf_2_10 (p : Program) (l : Launch) (e : Env) (s : State) (m : MethodId) (args : Array Value) (below : List Frame) (meth : Method) (c : Code) (dC : Nat → ClassId) (dI : Nat → Nat → Nat) (dA : Nat → ClassId) (A : Nat → Prop) (ea : Nat) (Qw : State → Prop) (Q : Prop) (f : (Nat → Option Nat)) (x1 : Int32) : Prop := ∀ (ra : Nat) (H : Heap) (locs : List Loc) (kc ks : Nat) (pc : Nat) (ls : Array Slot), kc ≤ 1 → ks ≤ 15 → Q → va_P (dC, dI) vwCl [(ea, .inl (dA 4, 10, .inr (.inr (.inr (.inr f))))), (ra, .inl (dA 4, 15, .inr (.inr (.inr (.inr (va_cpy f (fun _ => none) (0 : Int32).toNatClampNeg (0 : Int32).toNatClampNeg ((if x1 < 10 then x1 else 10) : Int32).toNatClampNeg))))))] H → va_D A [(ea, .inl (dA 4, 10, .inr (.inr (.inr (.inr f))))), (ra, .inl (dA 4, 15, .inr (.inr (.inr (.inr (va_cpy f (fun _ => none) (0 : Int32).toNatClampNeg (0 : Int32).toNatClampNeg ((if x1 < 10 then x1 else 10) : Int32).toNatClampNeg))))))] → va_S A s.heap H locs → decode cJ7_copyOf_2 pc = .ok (.areturn, 1) → W p l e RJ7_copyOf_2_10_ s m args below meth c H locs kc ks Qw (F0 m pc ls [.ref ra])
def wJ7_copyOf_2_10 (Q : Prop) (f : (Nat → Option Nat)) (x1 : Int32) : Prop := (x1 = 15 ∧ (¬ (if x1 < 10 then x1 else 10) < 0 ∧ ((0 : Int32).toNatClampNeg + ((if x1 < 10 then x1 else 10) : Int32).toNatClampNeg ≤ 10 ∧ ((0 : Int32).toNatClampNeg + ((if x1 < 10 then x1 else 10) : Int32).toNatClampNeg ≤ 15 ∧ Q))))
end
set_option maxHeartbeats 4000000 in
set_option maxRecDepth 100000 in
theorem metJ7_copyOf_2_10 (l : Launch) {Q : Prop} {f : (Nat → Option Nat)} {x1 : Int32} {dC : Nat → ClassId} {dI : Nat → Nat → Nat} {dA : Nat → ClassId} {eA mi sz : Nat} {ea : Nat} (hf : wJ7_copyOf_2_10 Q f x1) : Met l yJ7_copyOf_2 (ws_ yJ7_copyOf_2 cJ7_copyOf_2 4 (some (.array (.object "java/lang/Object")))) rmJ7_copyOf_2_10 (aPv dC dI dA eA mi sz [.ref ea, .int x1, .ref mi] [(ea, .inl (dA 4, 10, .inr (.inr (.inr (.inr f)))))] f) (va_Qq (fun (r : Option Nat) (u : Nat) => r = some u ∧ Q) (aB dC dI [(ea, .inl (dA 4, 10, .inr (.inr (.inr (.inr f)))))] sz (fun (u : Nat) => [(ea, .inl (dA 4, 10, .inr (.inr (.inr (.inr f))))), (u, .inl (dA 4, 15, .inr (.inr (.inr (.inr (va_cpy f (fun _ => none) (0 : Int32).toNatClampNeg (0 : Int32).toNatClampNeg ((if x1 < 10 then x1 else 10) : Int32).toNatClampNeg))))))])) (va_A [(ea, .inl (dA 4, 10, .inr (.inr (.inr (.inr f)))))] sz)) 1 15 (va_A [(ea, .inl (dA 4, 10, .inr (.inr (.inr (.inr f)))))] sz) := by
  refine Met.ofW (cc := cJ7_copyOf_2) (maxL := 4) (ret := (some (.array (.object "java/lang/Object")))) (by decide) rfl ?_
  intro p e s m args below meth c s₁ B hml hv
  obtain ⟨rfl, hsz, hP, hK, hD0, hE, hV⟩ := hv
  subst hsz
  have hx := B.exec
  have hb := B.bytes
  have hr := B.returns
  have hts := atoms_spec (ws := (ws_ yJ7_copyOf_2 cJ7_copyOf_2 4 (some (.array (.object "java/lang/Object"))))) B.pre
  have hts : ∀ w ∈ lw_all, w.before _ s = true := fun w h => hts w (List.mem_cons_of_mem _ h)
  have hown : s.vm.findClass RJ7 = some m.cls := findClass_of_methodNamed B.named
  have hlocks := B.notSynchronized
  have S : CallFix p m c cJ7_copyOf_2 4 s _ lw_all RJ7 := ⟨hx, hb, hml, hown, hts⟩
  have hD := hD0.self (sz := s.heap.size)
  have hA : ∀ q : Nat, s.heap.size ≤ q → va_A [(ea, .inl (dA 4, 10, .inr (.inr (.inr (.inr f)))))] s.heap.size q := fun q h => Or.inr h
  have hS : va_S (va_A [(ea, .inl (dA 4, 10, .inr (.inr (.inr (.inr f)))))] s.heap.size) s.heap s.heap [] := va_S.rf
  have hl := lv_entry ([.ref ea, .int x1, .ref mi]) (n := 4) (Nat.le_of_ble_eq_true rfl)
  rw [lg_entry_eq]
  generalize (lg_sl ([.ref ea, .int x1, .ref mi]) ++ List.replicate (4 - (lg_sl ([.ref ea, .int x1, .ref mi])).length) Slot.unset).toArray = ls at hl ⊢
  replace hl : lv_has ls 4 [(0, .ref ea), (1, .int x1), (2, .ref mi)] := hl
  have hret : hrJ7_copyOf_2_10 p l e s m ([.ref ea, .int x1, .ref mi] : List Value).toArray below meth c dC dI dA (va_A [(ea, .inl (dA 4, 10, .inr (.inr (.inr (.inr f)))))] s.heap.size) ea (MQ below (va_Qq (fun (r : Option Nat) (u : Nat) => r = some u ∧ Q) (aB dC dI [(ea, .inl (dA 4, 10, .inr (.inr (.inr (.inr f)))))] s.heap.size (fun (u : Nat) => [(ea, .inl (dA 4, 10, .inr (.inr (.inr (.inr f))))), (u, .inl (dA 4, 15, .inr (.inr (.inr (.inr (va_cpy f (fun _ => none) (0 : Int32).toNatClampNeg (0 : Int32).toNatClampNeg ((if x1 < 10 then x1 else 10) : Int32).toNatClampNeg))))))])) (va_A [(ea, .inl (dA 4, 10, .inr (.inr (.inr (.inr f)))))] s.heap.size)) ([.ref ea, .int x1, .ref mi] : List Value).toArray s 1 15 (va_A [(ea, .inl (dA 4, 10, .inr (.inr (.inr (.inr f)))))] s.heap.size)) Q f x1 := fun ra H locs kc ks pc ls h1 h2 hq hP hD hS hd => W.widen (k := 1) (n := 15) h1 h2 (W.aret hx hb hr (Or.inr ⟨_, rfl⟩) (Or.inr ⟨_, rfl⟩) (fun t ht hW => ⟨⟨some ra, ra, rfl, ⟨rfl, hq⟩, by subst ht; exact ⟨hP, hD⟩⟩, hS.F ht⟩) hS.2.2 hd)
  generalize hAe : va_A [(ea, .inl (dA 4, 10, .inr (.inr (.inr (.inr f)))))] s.heap.size = A at hD hA hS hE hret hV ⊢
  clear hAe
  unfold wJ7_copyOf_2_10 at hf
  refine lv_aload_n hx hb dJ7_copyOf_2_0 rfl (lv_at hl 2 rfl) ?_
  refine va_ldcM hx hb hown (hts _ q205) hE.2.1.1.2 dJ7_copyOf_2_1 ?_
  refine lv_acmp_ne (rx := some mi) (ry := some mi) (tgt := 13) hx hb dJ7_copyOf_2_3 (by decide) (fun h => absurd rfl h) (fun _ => ?_)
  refine lv_iload_n hx hb dJ7_copyOf_2_6 rfl (lv_at hl 1 rfl) ?_
  obtain ⟨hnl, hf⟩ := hf
  refine lv_topi (fun z_ ez_ => ?_)
  obtain rfl : z_ = 15 := ez_.trans hnl
  have hbud : 0 + 1 ≤ 1 ∧ 0 + 15 ≤ 15 := ⟨Nat.le_of_ble_eq_true rfl, Nat.le_of_ble_eq_true rfl⟩
  refine va_newq (n := 15) (N' := 15) hx hb hown (hts _ q207) hE.2.1.1.1 hK hP hD hS hA (by decide) (by decide) (by decide) hbud.1 hbud.2 dJ7_copyOf_2_7 (fun q_7 cA_7 H hK2 hP hD hS => ?_)
  obtain rfl : cA_7 = dA 4 := ty_one (s := s) (t1 := []) (t2 := []) (hK2.2 6 _ rfl).2 (hK.2 4 _ rfl).2
  replace hP : va_P (dC, dI) vwCl [(ea, .inl (dA 4, 10, .inr (.inr (.inr (.inr f))))), (q_7, .inl (dA 4, 15, .inr (.inr (.inr (.inr (fun _ => none))))))] H := hP
  replace hD : va_D A [(ea, .inl (dA 4, 10, .inr (.inr (.inr (.inr f))))), (q_7, .inl (dA 4, 15, .inr (.inr (.inr (.inr (fun _ => none))))))] := hD
  refine lv_goto (tgt := 24) hx hb dJ7_copyOf_2_10 (by decide) ?_
  refine lv_astore_n (lv' := [(3, .ref q_7), (0, .ref ea), (1, .int x1), (2, .ref mi)]) hx hb dJ7_copyOf_2_24 rfl hl (by decide) rfl (fun ls hl => ?_)
  refine lv_aload_n hx hb dJ7_copyOf_2_25 rfl (lv_at hl 1 rfl) ?_
  refine lv_iconst (v := 0) hx hb dJ7_copyOf_2_26 (by decide) ?_
  refine lv_aload_n hx hb dJ7_copyOf_2_27 rfl (lv_at hl 0 rfl) ?_
  refine lv_iconst (v := 0) hx hb dJ7_copyOf_2_28 (by decide) ?_
  refine lv_aload_n hx hb dJ7_copyOf_2_29 rfl (lv_at hl 1 rfl) ?_
  refine va_alen (v := 10) hx hb hK hP 0 4 rfl rfl rfl dJ7_copyOf_2_30 ?_
  refine lv_iload_n hx hb dJ7_copyOf_2_31 rfl (lv_at hl 2 rfl) ?_
  refine va_mmin hx hb (hml.trans hl.1.symm) hown (hts _ q208) (hts _ q209) (hts _ q66) (hts _ q210) (Nat.le_of_ble_eq_true rfl) (Nat.le_of_ble_eq_true rfl) (Nat.le_of_ble_eq_true rfl) (Nat.le_of_ble_eq_true rfl) dJ7_copyOf_2_32 ?_
  obtain ⟨ha_35_0, hf⟩ := hf
  obtain ⟨ha_35_1, hf⟩ := hf
  obtain ⟨ha_35_2, hf⟩ := hf
  refine va_copyM hx hb (hml.trans hl.1.symm) hown (hts _ q211) (hts _ q148) (hts _ q147) (hts _ q64) hK hP hD hS 0 1 4 4 rfl rfl rfl rfl (by decide) (by decide) ha_35_0 ha_35_1 ha_35_2 (fun _ _ _ hy => hV.now hS hy) (Nat.le_of_ble_eq_true rfl) (Nat.le_of_ble_eq_true rfl) dJ7_copyOf_2_35 (fun H locs hP hD hS => ?_)
  replace hP : va_P (dC, dI) vwCl [(ea, .inl (dA 4, 10, .inr (.inr (.inr (.inr f))))), (q_7, .inl (dA 4, 15, .inr (.inr (.inr (.inr (va_cpy f (fun _ => none) (0 : Int32).toNatClampNeg (0 : Int32).toNatClampNeg ((if x1 < 10 then x1 else 10) : Int32).toNatClampNeg))))))] H := hP
  replace hD : va_D A [(ea, .inl (dA 4, 10, .inr (.inr (.inr (.inr f))))), (q_7, .inl (dA 4, 15, .inr (.inr (.inr (.inr (va_cpy f (fun _ => none) (0 : Int32).toNatClampNeg (0 : Int32).toNatClampNeg ((if x1 < 10 then x1 else 10) : Int32).toNatClampNeg))))))] := hD
  refine lv_aload_n hx hb dJ7_copyOf_2_38 rfl (lv_at hl 0 rfl) ?_
  exact hret q_7 _ _ _ _ _ _ (Nat.le_of_ble_eq_true rfl) (Nat.le_of_ble_eq_true rfl) hf (hP.sub [0, 1] rfl) (hD.sub [0, 1] (by decide) rfl) hS dJ7_copyOf_2_39
/-! java/util/Arrays.copyOf([Ljava/lang/Object;I)[Ljava/lang/Object; -/
theorem pdJ7_copyOf : DscOk yJ7_copyOf 2 := by decide +kernel
abbrev rmJ7_copyOf_10 : Room := { frames := 2, cells := 1, slots := 15, locals := 63 }
abbrev RJ7_copyOf_10_ : Room := (headSpec (ws_ yJ7_copyOf cJ7_copyOf 2 (some (.array (.object "java/lang/Object")))) rmJ7_copyOf_10).room
section
variable {p : Program} {l : Launch} {e : Env} {s : State} {m : MethodId} {args : Array Value} {below : List Frame} {meth : Method} {c : Code} {Qw : State → Prop} {dC : Nat → ClassId} {dI : Nat → Nat → Nat} {dA : Nat → ClassId} {eA mi : Nat} {A : Nat → Prop} {ea : Nat}
abbrev hrJ7_copyOf_10 (p : Program) (l : Launch) (e : Env) (s : State) (m : MethodId) (args : Array Value) (below : List Frame) (meth : Method) (c : Code) (dC : Nat → ClassId) (dI : Nat → Nat → Nat) (dA : Nat → ClassId) (A : Nat → Prop) (ea : Nat) (Qw : State → Prop) (Q : Prop) (f : (Nat → Option Nat)) (x1 : Int32) : Prop := ∀ (ra : Nat) (H : Heap) (locs : List Loc) (kc ks : Nat) (pc : Nat) (ls : Array Slot), kc ≤ 1 → ks ≤ 15 → Q → va_P (dC, dI) vwCl [(ea, .inl (dA 4, 10, .inr (.inr (.inr (.inr f))))), (ra, .inl (dA 4, 15, .inr (.inr (.inr (.inr (va_cpy f (fun _ => none) (0 : Int32).toNatClampNeg (0 : Int32).toNatClampNeg ((if x1 < 10 then x1 else 10) : Int32).toNatClampNeg))))))] H → va_D A [(ea, .inl (dA 4, 10, .inr (.inr (.inr (.inr f))))), (ra, .inl (dA 4, 15, .inr (.inr (.inr (.inr (va_cpy f (fun _ => none) (0 : Int32).toNatClampNeg (0 : Int32).toNatClampNeg ((if x1 < 10 then x1 else 10) : Int32).toNatClampNeg))))))] → va_S A s.heap H locs → decode cJ7_copyOf pc = .ok (.areturn, 1) → W p l e RJ7_copyOf_10_ s m args below meth c H locs kc ks Qw (F0 m pc ls [.ref ra])
def wJ7_copyOf_10 (Q : Prop) (f : (Nat → Option Nat)) (x1 : Int32) : Prop := (wJ7_copyOf_2_10 Q f x1)
end
set_option maxHeartbeats 4000000 in
set_option maxRecDepth 100000 in
theorem metJ7_copyOf_10 (l : Launch) {Q : Prop} {f : (Nat → Option Nat)} {x1 : Int32} {dC : Nat → ClassId} {dI : Nat → Nat → Nat} {dA : Nat → ClassId} {eA mi sz : Nat} {ea : Nat} (hf : wJ7_copyOf_10 Q f x1) : Met l yJ7_copyOf (ws_ yJ7_copyOf cJ7_copyOf 2 (some (.array (.object "java/lang/Object")))) rmJ7_copyOf_10 (aPv dC dI dA eA mi sz [.ref ea, .int x1] [(ea, .inl (dA 4, 10, .inr (.inr (.inr (.inr f)))))] f) (va_Qq (fun (r : Option Nat) (u : Nat) => r = some u ∧ Q) (aB dC dI [(ea, .inl (dA 4, 10, .inr (.inr (.inr (.inr f)))))] sz (fun (u : Nat) => [(ea, .inl (dA 4, 10, .inr (.inr (.inr (.inr f))))), (u, .inl (dA 4, 15, .inr (.inr (.inr (.inr (va_cpy f (fun _ => none) (0 : Int32).toNatClampNeg (0 : Int32).toNatClampNeg ((if x1 < 10 then x1 else 10) : Int32).toNatClampNeg))))))])) (va_A [(ea, .inl (dA 4, 10, .inr (.inr (.inr (.inr f)))))] sz)) 1 15 (va_A [(ea, .inl (dA 4, 10, .inr (.inr (.inr (.inr f)))))] sz) := by
  refine Met.ofW (cc := cJ7_copyOf) (maxL := 2) (ret := (some (.array (.object "java/lang/Object")))) (by decide) rfl ?_
  intro p e s m args below meth c s₁ B hml hv
  obtain ⟨rfl, hsz, hP, hK, hD0, hE, hV⟩ := hv
  subst hsz
  have hx := B.exec
  have hb := B.bytes
  have hr := B.returns
  have hts := atoms_spec (ws := (ws_ yJ7_copyOf cJ7_copyOf 2 (some (.array (.object "java/lang/Object"))))) B.pre
  have hts : ∀ w ∈ lw_all, w.before _ s = true := fun w h => hts w (List.mem_cons_of_mem _ h)
  have hown : s.vm.findClass RJ7 = some m.cls := findClass_of_methodNamed B.named
  have hlocks := B.notSynchronized
  have S : CallFix p m c cJ7_copyOf 2 s _ lw_all RJ7 := ⟨hx, hb, hml, hown, hts⟩
  have hD := hD0.self (sz := s.heap.size)
  have hA : ∀ q : Nat, s.heap.size ≤ q → va_A [(ea, .inl (dA 4, 10, .inr (.inr (.inr (.inr f)))))] s.heap.size q := fun q h => Or.inr h
  have hS : va_S (va_A [(ea, .inl (dA 4, 10, .inr (.inr (.inr (.inr f)))))] s.heap.size) s.heap s.heap [] := va_S.rf
  have hl := lv_entry ([.ref ea, .int x1]) (n := 2) (Nat.le_of_ble_eq_true rfl)
  rw [lg_entry_eq]
  generalize (lg_sl ([.ref ea, .int x1]) ++ List.replicate (2 - (lg_sl ([.ref ea, .int x1])).length) Slot.unset).toArray = ls at hl ⊢
  replace hl : lv_has ls 2 [(0, .ref ea), (1, .int x1)] := hl
  have hret : hrJ7_copyOf_10 p l e s m ([.ref ea, .int x1] : List Value).toArray below meth c dC dI dA (va_A [(ea, .inl (dA 4, 10, .inr (.inr (.inr (.inr f)))))] s.heap.size) ea (MQ below (va_Qq (fun (r : Option Nat) (u : Nat) => r = some u ∧ Q) (aB dC dI [(ea, .inl (dA 4, 10, .inr (.inr (.inr (.inr f)))))] s.heap.size (fun (u : Nat) => [(ea, .inl (dA 4, 10, .inr (.inr (.inr (.inr f))))), (u, .inl (dA 4, 15, .inr (.inr (.inr (.inr (va_cpy f (fun _ => none) (0 : Int32).toNatClampNeg (0 : Int32).toNatClampNeg ((if x1 < 10 then x1 else 10) : Int32).toNatClampNeg))))))])) (va_A [(ea, .inl (dA 4, 10, .inr (.inr (.inr (.inr f)))))] s.heap.size)) ([.ref ea, .int x1] : List Value).toArray s 1 15 (va_A [(ea, .inl (dA 4, 10, .inr (.inr (.inr (.inr f)))))] s.heap.size)) Q f x1 := fun ra H locs kc ks pc ls h1 h2 hq hP hD hS hd => W.widen (k := 1) (n := 15) h1 h2 (W.aret hx hb hr (Or.inr ⟨_, rfl⟩) (Or.inr ⟨_, rfl⟩) (fun t ht hW => ⟨⟨some ra, ra, rfl, ⟨rfl, hq⟩, by subst ht; exact ⟨hP, hD⟩⟩, hS.F ht⟩) hS.2.2 hd)
  generalize hAe : va_A [(ea, .inl (dA 4, 10, .inr (.inr (.inr (.inr f)))))] s.heap.size = A at hD hA hS hE hret hV ⊢
  clear hAe
  unfold wJ7_copyOf_10 at hf
  refine lv_aload_n hx hb dJ7_copyOf_0 rfl (lv_at hl 0 rfl) ?_
  refine lv_iload_n hx hb dJ7_copyOf_1 rfl (lv_at hl 1 rfl) ?_
  refine lv_aload_n hx hb dJ7_copyOf_2 rfl (lv_at hl 0 rfl) ?_
  refine va_getC hx hb (hml.trans hl.1.symm) hown (hts _ q180) ((hE.1 _ q1641 rfl).use rfl) (hts _ q1640) (hts _ q181) (hts _ q201) hE.2.1.1.2 (arr_recv hP 0 rfl (va_nmO (hK.2 4 _ rfl).2 (by decide))) (Nat.le_of_ble_eq_true rfl) (Nat.le_of_ble_eq_true rfl) dJ7_copyOf_3 ?_
  refine aC_q (wr := []) hP hD hS hA [0] [] rfl rfl (by decide) (by decide) (va_runS (As := [.ref ea, .int x1, .ref mi]) (rest := []) S (metJ7_copyOf_2_10 l hf) (va_cwS 3 hts (lw_S q202 q203 q67 q204) rfl rfl rfl pdJ7_copyOf_2 ⟨Nat.le_of_ble_eq_true rfl, Nat.le_of_ble_eq_true rfl⟩) (apreV hK hE hV hP hD hS hA [0] rfl rfl (by decide)) rfl rfl hl.1 rfl (lv_room (Nat.le_of_ble_eq_true rfl)) dJ7_copyOf_6 ⟨Nat.le_of_ble_eq_true rfl, Nat.le_of_ble_eq_true rfl⟩) (fun r_6 u_6 H locs hf hP hD hS => ?_)
  obtain ⟨ra_6, rfl⟩ : ∃ z, z = u_6 := ⟨_, rfl⟩
  obtain ⟨er_6, hf⟩ := hf
  subst er_6
  replace hP : va_P (dC, dI) vwCl [(ea, .inl (dA 4, 10, .inr (.inr (.inr (.inr f))))), (ra_6, .inl (dA 4, 15, .inr (.inr (.inr (.inr (va_cpy f (fun _ => none) (0 : Int32).toNatClampNeg (0 : Int32).toNatClampNeg ((if x1 < 10 then x1 else 10) : Int32).toNatClampNeg))))))] H := hP
  replace hD : va_D A [(ea, .inl (dA 4, 10, .inr (.inr (.inr (.inr f))))), (ra_6, .inl (dA 4, 15, .inr (.inr (.inr (.inr (va_cpy f (fun _ => none) (0 : Int32).toNatClampNeg (0 : Int32).toNatClampNeg ((if x1 < 10 then x1 else 10) : Int32).toNatClampNeg))))))] := hD
  try dsimp only at hf
  refine W.eq (g2 := F0 m 9 ls (.ref ra_6 :: [])) rfl ?_
  exact hret ra_6 _ _ _ _ _ _ (Nat.le_of_ble_eq_true rfl) (Nat.le_of_ble_eq_true rfl) hf (hP.sub [0, 1] rfl) (hD.sub [0, 1] (by decide) rfl) hS dJ7_copyOf_9
/-! java/util/ArrayList.grow(I)[Ljava/lang/Object; -/
abbrev rmJ2_grow_2_10 : Room := { frames := 3, cells := 1, slots := 15, locals := 84 }
abbrev RJ2_grow_2_10_ : Room := (headSpec (ws_ yJ2_grow_2 cJ2_grow_2 4 (some (.array (.object "java/lang/Object")))) rmJ2_grow_2_10).room
section
variable {p : Program} {l : Launch} {e : Env} {s : State} {m : MethodId} {args : Array Value} {below : List Frame} {meth : Method} {c : Code} {Qw : State → Prop} {dC : Nat → ClassId} {dI : Nat → Nat → Nat} {dA : Nat → ClassId} {eA mi : Nat} {A : Nat → Prop} {la ea : Nat}
abbrev hrJ2_grow_2_10 (p : Program) (l : Launch) (e : Env) (s : State) (m : MethodId) (args : Array Value) (below : List Frame) (meth : Method) (c : Code) (dC : Nat → ClassId) (dI : Nat → Nat → Nat) (dA : Nat → ClassId) (A : Nat → Prop) (la : Nat) (ea : Nat) (Qw : State → Prop) (Q : Prop) (mc : Int32) (size : Int32) (f : (Nat → Option Nat)) : Prop := ∀ (ra : Nat) (H : Heap) (locs : List Loc) (kc ks : Nat) (pc : Nat) (ls : Array Slot), kc ≤ 1 → ks ≤ 15 → Q → va_P (dC, dI) vwCl [(la, .inr (11, [.int mc, .ref ra, .int size])), (ra, .inl (dA 4, 15, .inr (.inr (.inr (.inr (va_cpy f (fun _ => none) 0 0 10))))))] H → va_D A [(la, .inr (11, [.int mc, .ref ra, .int size])), (ra, .inl (dA 4, 15, .inr (.inr (.inr (.inr (va_cpy f (fun _ => none) 0 0 10))))))] → va_S A s.heap H locs → decode cJ2_grow_2 pc = .ok (.areturn, 1) → W p l e RJ2_grow_2_10_ s m args below meth c H locs kc ks Qw (F0 m pc ls [.ref ra])
def wJ2_grow_2_10 (Q : Prop) (f : (Nat → Option Nat)) (x1 : Int32) : Prop := ((0 < (10 : Int32) → (wJ5_newLength (fun r_27 => (r_27 = 15 ∧ (wJ7_copyOf_10 Q f 15))) 10 (x1 - 10) ((10 : Int32) >>> (1 &&& 31)))) ∧ (¬ 0 < (10 : Int32) → False))
end
set_option maxHeartbeats 4000000 in
set_option maxRecDepth 100000 in
theorem metJ2_grow_2_10 (l : Launch) {Q : Prop} {mc : Int32} {size : Int32} {f : (Nat → Option Nat)} {x1 : Int32} {dC : Nat → ClassId} {dI : Nat → Nat → Nat} {dA : Nat → ClassId} {eA mi sz : Nat} {la ea : Nat} (hf : wJ2_grow_2_10 Q f x1) : Met l yJ2_grow_2 (ws_ yJ2_grow_2 cJ2_grow_2 4 (some (.array (.object "java/lang/Object")))) rmJ2_grow_2_10 (aPv dC dI dA eA mi sz [.ref la, .int x1] [(la, .inr (11, [.int mc, .ref ea, .int size])), (ea, .inl (dA 4, 10, .inr (.inr (.inr (.inr f)))))] f) (va_Qq (fun (r : Option Nat) (u : Nat) => r = some u ∧ Q) (aB dC dI [(la, .inr (11, [.int mc, .ref ea, .int size])), (ea, .inl (dA 4, 10, .inr (.inr (.inr (.inr f)))))] sz (fun (u : Nat) => [(la, .inr (11, [.int mc, .ref u, .int size])), (u, .inl (dA 4, 15, .inr (.inr (.inr (.inr (va_cpy f (fun _ => none) 0 0 10))))))])) (va_A [(la, .inr (11, [.int mc, .ref ea, .int size])), (ea, .inl (dA 4, 10, .inr (.inr (.inr (.inr f)))))] sz)) 1 15 (va_A [(la, .inr (11, [.int mc, .ref ea, .int size])), (ea, .inl (dA 4, 10, .inr (.inr (.inr (.inr f)))))] sz) := by
  refine Met.ofW (cc := cJ2_grow_2) (maxL := 4) (ret := (some (.array (.object "java/lang/Object")))) (by decide) rfl ?_
  intro p e s m args below meth c s₁ B hml hv
  obtain ⟨rfl, hsz, hP, hK, hD0, hE, hV⟩ := hv
  subst hsz
  have hx := B.exec
  have hb := B.bytes
  have hr := B.returns
  have hts := atoms_spec (ws := (ws_ yJ2_grow_2 cJ2_grow_2 4 (some (.array (.object "java/lang/Object"))))) B.pre
  have hts : ∀ w ∈ lw_all, w.before _ s = true := fun w h => hts w (List.mem_cons_of_mem _ h)
  have hown : s.vm.findClass RJ2 = some m.cls := findClass_of_methodNamed B.named
  have hlocks := B.notSynchronized
  have S : CallFix p m c cJ2_grow_2 4 s _ lw_all RJ2 := ⟨hx, hb, hml, hown, hts⟩
  have hD := hD0.self (sz := s.heap.size)
  have hA : ∀ q : Nat, s.heap.size ≤ q → va_A [(la, .inr (11, [.int mc, .ref ea, .int size])), (ea, .inl (dA 4, 10, .inr (.inr (.inr (.inr f)))))] s.heap.size q := fun q h => Or.inr h
  have hS : va_S (va_A [(la, .inr (11, [.int mc, .ref ea, .int size])), (ea, .inl (dA 4, 10, .inr (.inr (.inr (.inr f)))))] s.heap.size) s.heap s.heap [] := va_S.rf
  have hl := lv_entry ([.ref la, .int x1]) (n := 4) (Nat.le_of_ble_eq_true rfl)
  rw [lg_entry_eq]
  generalize (lg_sl ([.ref la, .int x1]) ++ List.replicate (4 - (lg_sl ([.ref la, .int x1])).length) Slot.unset).toArray = ls at hl ⊢
  replace hl : lv_has ls 4 [(0, .ref la), (1, .int x1)] := hl
  have hret : hrJ2_grow_2_10 p l e s m ([.ref la, .int x1] : List Value).toArray below meth c dC dI dA (va_A [(la, .inr (11, [.int mc, .ref ea, .int size])), (ea, .inl (dA 4, 10, .inr (.inr (.inr (.inr f)))))] s.heap.size) la ea (MQ below (va_Qq (fun (r : Option Nat) (u : Nat) => r = some u ∧ Q) (aB dC dI [(la, .inr (11, [.int mc, .ref ea, .int size])), (ea, .inl (dA 4, 10, .inr (.inr (.inr (.inr f)))))] s.heap.size (fun (u : Nat) => [(la, .inr (11, [.int mc, .ref u, .int size])), (u, .inl (dA 4, 15, .inr (.inr (.inr (.inr (va_cpy f (fun _ => none) 0 0 10))))))])) (va_A [(la, .inr (11, [.int mc, .ref ea, .int size])), (ea, .inl (dA 4, 10, .inr (.inr (.inr (.inr f)))))] s.heap.size)) ([.ref la, .int x1] : List Value).toArray s 1 15 (va_A [(la, .inr (11, [.int mc, .ref ea, .int size])), (ea, .inl (dA 4, 10, .inr (.inr (.inr (.inr f)))))] s.heap.size)) Q mc size f := fun ra H locs kc ks pc ls h1 h2 hq hP hD hS hd => W.widen (k := 1) (n := 15) h1 h2 (W.aret hx hb hr (Or.inr ⟨_, rfl⟩) (Or.inr ⟨_, rfl⟩) (fun t ht hW => ⟨⟨some ra, ra, rfl, ⟨rfl, hq⟩, by subst ht; exact ⟨hP, hD⟩⟩, hS.F ht⟩) hS.2.2 hd)
  generalize hAe : va_A [(la, .inr (11, [.int mc, .ref ea, .int size])), (ea, .inl (dA 4, 10, .inr (.inr (.inr (.inr f)))))] s.heap.size = A at hD hA hS hE hret hV ⊢
  clear hAe
  unfold wJ2_grow_2_10 at hf
  refine lv_aload_n hx hb dJ2_grow_2_0 rfl (lv_at hl 0 rfl) ?_
  refine va_get (D := (dC, dI)) (ci := 11) (v := .ref ea) (C := RJ2) (T := TJ2) (N := 3) hx hb hts in_J2 hown hK hP 0 rfl rfl 1 (by decide) (hts _ q383) (fun _ h9 => h9) rfl dJ2_grow_2_1 ?_
  refine va_alen (v := 10) hx hb hK hP 1 4 rfl rfl rfl dJ2_grow_2_4 ?_
  refine lv_istore_n (lv' := [(2, .int 10), (0, .ref la), (1, .int x1)]) hx hb dJ2_grow_2_5 rfl hl (by decide) rfl (fun ls hl => ?_)
  refine lv_iload_n hx hb dJ2_grow_2_6 rfl (lv_at hl 0 rfl) ?_
  refine lv_if_gt (tgt := 20) hx hb dJ2_grow_2_7 (by decide) (fun c_7 => ?_) (fun c_7 => ?_)
  · replace hf := hf.1 c_7
    refine lv_iload_n hx hb dJ2_grow_2_20 rfl (lv_at hl 0 rfl) ?_
    refine lv_iload_n hx hb dJ2_grow_2_21 rfl (lv_at hl 2 rfl) ?_
    refine lv_iload_n hx hb dJ2_grow_2_22 rfl (lv_at hl 0 rfl) ?_
    refine lv_isub hx hb dJ2_grow_2_23 ?_
    refine lv_iload_n hx hb dJ2_grow_2_24 rfl (lv_at hl 0 rfl) ?_
    refine lv_iconst (v := 1) hx hb dJ2_grow_2_25 (by decide) ?_
    refine lv_ishr hx hb dJ2_grow_2_26 ?_
    refine cs_i (As := [.int 10, .int (x1 - 10), .int ((10 : Int32) >>> (1 &&& 31))]) (rest := []) S (metJ5_newLength l hf) (lw_S q167 q168 q65 q169) pdJ5_newLength ⟨rfl, rfl⟩ ⟨Nat.le_of_ble_eq_true rfl, Nat.le_of_ble_eq_true rfl⟩ rfl hl.1 rfl (Nat.le_of_ble_eq_true rfl) dJ2_grow_2_27 ⟨Nat.zero_le _, Nat.zero_le _⟩ (fun r_27 hf => ?_)
    refine lv_istore_n (lv' := [(3, .int r_27), (2, .int 10), (0, .ref la), (1, .int x1)]) hx hb dJ2_grow_2_30 rfl hl (by decide) rfl (fun ls hl => ?_)
    refine lv_aload_n hx hb dJ2_grow_2_31 rfl (lv_at hl 2 rfl) ?_
    refine lv_aload_n hx hb dJ2_grow_2_32 rfl (lv_at hl 2 rfl) ?_
    refine va_get (D := (dC, dI)) (ci := 11) (v := .ref ea) (C := RJ2) (T := TJ2) (N := 3) hx hb hts in_J2 hown hK hP 0 rfl rfl 1 (by decide) (hts _ q383) (fun _ h9 => h9) rfl dJ2_grow_2_33 ?_
    refine lv_iload_n hx hb dJ2_grow_2_36 rfl (lv_at hl 0 rfl) ?_
    obtain ⟨hnl, hf⟩ := hf
    refine lv_topi (fun z_ ez_ => ?_)
    obtain rfl : z_ = 15 := ez_.trans hnl
    refine aC_q (wr := [(la, .inr (11, [.int mc, .ref ea, .int size]))]) hP hD hS hA [1] [0] rfl rfl (by decide) (by decide) (va_runS (As := [.ref ea, .int 15]) (rest := [.ref la]) S (metJ7_copyOf_10 l hf) (va_cwS 2 hts (lw_S q177 q178 q67 q179) rfl rfl rfl pdJ7_copyOf ⟨Nat.le_of_ble_eq_true rfl, Nat.le_of_ble_eq_true rfl⟩) (apreV hK hE hV hP hD hS hA [1] rfl rfl (by decide)) rfl rfl hl.1 rfl (lv_room (Nat.le_of_ble_eq_true rfl)) dJ2_grow_2_37 ⟨Nat.le_of_ble_eq_true rfl, Nat.le_of_ble_eq_true rfl⟩) (fun r_37 u_37 H locs hf hP hD hS => ?_)
    obtain ⟨ra_37, rfl⟩ : ∃ z, z = u_37 := ⟨_, rfl⟩
    obtain ⟨er_37, hf⟩ := hf
    subst er_37
    replace hP : va_P (dC, dI) vwCl [(la, .inr (11, [.int mc, .ref ea, .int size])), (ea, .inl (dA 4, 10, .inr (.inr (.inr (.inr f))))), (ra_37, .inl (dA 4, 15, .inr (.inr (.inr (.inr (va_cpy f (fun _ => none) (0 : Int32).toNatClampNeg (0 : Int32).toNatClampNeg ((if 15 < 10 then 15 else 10) : Int32).toNatClampNeg))))))] H := hP
    replace hD : va_D A [(la, .inr (11, [.int mc, .ref ea, .int size])), (ea, .inl (dA 4, 10, .inr (.inr (.inr (.inr f))))), (ra_37, .inl (dA 4, 15, .inr (.inr (.inr (.inr (va_cpy f (fun _ => none) (0 : Int32).toNatClampNeg (0 : Int32).toNatClampNeg ((if 15 < 10 then 15 else 10) : Int32).toNatClampNeg))))))] := hD
    try dsimp only at hf
    refine W.eq (g2 := F0 m 40 ls (.ref ra_37 :: [.ref la])) rfl ?_
    replace hP : va_P (dC, dI) vwCl [(la, .inr (11, [.int mc, .ref ea, .int size])), (ea, .inl (dA 4, 10, .inr (.inr (.inr (.inr f))))), (ra_37, .inl (dA 4, 15, .inr (.inr (.inr (.inr (va_cpy f (fun _ => none) 0 0 10))))))] H := hP
    replace hD : va_D A [(la, .inr (11, [.int mc, .ref ea, .int size])), (ea, .inl (dA 4, 10, .inr (.inr (.inr (.inr f))))), (ra_37, .inl (dA 4, 15, .inr (.inr (.inr (.inr (va_cpy f (fun _ => none) 0 0 10))))))] := hD
    refine lv_dup_x1 hx hb dJ2_grow_2_40 rfl rfl ?_
    refine va_put (D := (dC, dI)) (ci := 11) (v := .ref ra_37) (ty := tyJ2 1) (C := RJ2) (T := TJ2) (N := 3) hx hb hts in_J2 tyJ2 tyJ2_ok nmJ2 hown hK hP hD hS 0 rfl rfl 1 (by decide) (hts _ q383) (fun _ h9 => h9) rfl (by decide +kernel) rfl rfl (Nat.le_of_ble_eq_true rfl) dJ2_grow_2_41 (fun H locs hP hD hS => ?_)
    replace hP : va_P (dC, dI) vwCl [(la, .inr (11, [.int mc, .ref ra_37, .int size])), (ea, .inl (dA 4, 10, .inr (.inr (.inr (.inr f))))), (ra_37, .inl (dA 4, 15, .inr (.inr (.inr (.inr (va_cpy f (fun _ => none) 0 0 10))))))] H := hP
    replace hD : va_D A [(la, .inr (11, [.int mc, .ref ra_37, .int size])), (ea, .inl (dA 4, 10, .inr (.inr (.inr (.inr f))))), (ra_37, .inl (dA 4, 15, .inr (.inr (.inr (.inr (va_cpy f (fun _ => none) 0 0 10))))))] := hD
    exact hret ra_37 _ _ _ _ _ _ (Nat.le_of_ble_eq_true rfl) (Nat.le_of_ble_eq_true rfl) hf (hP.sub [0, 2] rfl) (hD.sub [0, 2] (by decide) rfl) hS dJ2_grow_2_44
  · replace hf := hf.2 c_7
    exact hf.elim
/-! java/util/ArrayList.grow()[Ljava/lang/Object; -/
abbrev rmJ2_grow_10 : Room := { frames := 4, cells := 1, slots := 15, locals := 107 }
abbrev RJ2_grow_10_ : Room := (headSpec (ws_ yJ2_grow cJ2_grow 1 (some (.array (.object "java/lang/Object")))) rmJ2_grow_10).room
section
variable {p : Program} {l : Launch} {e : Env} {s : State} {m : MethodId} {args : Array Value} {below : List Frame} {meth : Method} {c : Code} {Qw : State → Prop} {dC : Nat → ClassId} {dI : Nat → Nat → Nat} {dA : Nat → ClassId} {eA mi : Nat} {A : Nat → Prop} {la ea : Nat}
abbrev hrJ2_grow_10 (p : Program) (l : Launch) (e : Env) (s : State) (m : MethodId) (args : Array Value) (below : List Frame) (meth : Method) (c : Code) (dC : Nat → ClassId) (dI : Nat → Nat → Nat) (dA : Nat → ClassId) (A : Nat → Prop) (la : Nat) (ea : Nat) (Qw : State → Prop) (Q : Prop) (mc : Int32) (size : Int32) (f : (Nat → Option Nat)) : Prop := ∀ (ra : Nat) (H : Heap) (locs : List Loc) (kc ks : Nat) (pc : Nat) (ls : Array Slot), kc ≤ 1 → ks ≤ 15 → Q → va_P (dC, dI) vwCl [(la, .inr (11, [.int mc, .ref ra, .int size])), (ra, .inl (dA 4, 15, .inr (.inr (.inr (.inr (va_cpy f (fun _ => none) 0 0 10))))))] H → va_D A [(la, .inr (11, [.int mc, .ref ra, .int size])), (ra, .inl (dA 4, 15, .inr (.inr (.inr (.inr (va_cpy f (fun _ => none) 0 0 10))))))] → va_S A s.heap H locs → decode cJ2_grow pc = .ok (.areturn, 1) → W p l e RJ2_grow_10_ s m args below meth c H locs kc ks Qw (F0 m pc ls [.ref ra])
def wJ2_grow_10 (Q : Prop) (size : Int32) (f : (Nat → Option Nat)) : Prop := (wJ2_grow_2_10 Q f (size + 1))
end
set_option maxHeartbeats 4000000 in
set_option maxRecDepth 100000 in
theorem metJ2_grow_10 (l : Launch) {Q : Prop} {mc : Int32} {size : Int32} {f : (Nat → Option Nat)} {dC : Nat → ClassId} {dI : Nat → Nat → Nat} {dA : Nat → ClassId} {eA mi sz : Nat} {la ea : Nat} (hf : wJ2_grow_10 Q size f) : Met l yJ2_grow (ws_ yJ2_grow cJ2_grow 1 (some (.array (.object "java/lang/Object")))) rmJ2_grow_10 (aPv dC dI dA eA mi sz [.ref la] [(la, .inr (11, [.int mc, .ref ea, .int size])), (ea, .inl (dA 4, 10, .inr (.inr (.inr (.inr f)))))] f) (va_Qq (fun (r : Option Nat) (u : Nat) => r = some u ∧ Q) (aB dC dI [(la, .inr (11, [.int mc, .ref ea, .int size])), (ea, .inl (dA 4, 10, .inr (.inr (.inr (.inr f)))))] sz (fun (u : Nat) => [(la, .inr (11, [.int mc, .ref u, .int size])), (u, .inl (dA 4, 15, .inr (.inr (.inr (.inr (va_cpy f (fun _ => none) 0 0 10))))))])) (va_A [(la, .inr (11, [.int mc, .ref ea, .int size])), (ea, .inl (dA 4, 10, .inr (.inr (.inr (.inr f)))))] sz)) 1 15 (va_A [(la, .inr (11, [.int mc, .ref ea, .int size])), (ea, .inl (dA 4, 10, .inr (.inr (.inr (.inr f)))))] sz) := by
  refine Met.ofW (cc := cJ2_grow) (maxL := 1) (ret := (some (.array (.object "java/lang/Object")))) (by decide) rfl ?_
  intro p e s m args below meth c s₁ B hml hv
  obtain ⟨rfl, hsz, hP, hK, hD0, hE, hV⟩ := hv
  subst hsz
  have hx := B.exec
  have hb := B.bytes
  have hr := B.returns
  have hts := atoms_spec (ws := (ws_ yJ2_grow cJ2_grow 1 (some (.array (.object "java/lang/Object"))))) B.pre
  have hts : ∀ w ∈ lw_all, w.before _ s = true := fun w h => hts w (List.mem_cons_of_mem _ h)
  have hown : s.vm.findClass RJ2 = some m.cls := findClass_of_methodNamed B.named
  have hlocks := B.notSynchronized
  have S : CallFix p m c cJ2_grow 1 s _ lw_all RJ2 := ⟨hx, hb, hml, hown, hts⟩
  have hD := hD0.self (sz := s.heap.size)
  have hA : ∀ q : Nat, s.heap.size ≤ q → va_A [(la, .inr (11, [.int mc, .ref ea, .int size])), (ea, .inl (dA 4, 10, .inr (.inr (.inr (.inr f)))))] s.heap.size q := fun q h => Or.inr h
  have hS : va_S (va_A [(la, .inr (11, [.int mc, .ref ea, .int size])), (ea, .inl (dA 4, 10, .inr (.inr (.inr (.inr f)))))] s.heap.size) s.heap s.heap [] := va_S.rf
  have hl := lv_entry ([.ref la]) (n := 1) (Nat.le_of_ble_eq_true rfl)
  rw [lg_entry_eq]
  generalize (lg_sl ([.ref la]) ++ List.replicate (1 - (lg_sl ([.ref la])).length) Slot.unset).toArray = ls at hl ⊢
  replace hl : lv_has ls 1 [(0, .ref la)] := hl
  have hret : hrJ2_grow_10 p l e s m ([.ref la] : List Value).toArray below meth c dC dI dA (va_A [(la, .inr (11, [.int mc, .ref ea, .int size])), (ea, .inl (dA 4, 10, .inr (.inr (.inr (.inr f)))))] s.heap.size) la ea (MQ below (va_Qq (fun (r : Option Nat) (u : Nat) => r = some u ∧ Q) (aB dC dI [(la, .inr (11, [.int mc, .ref ea, .int size])), (ea, .inl (dA 4, 10, .inr (.inr (.inr (.inr f)))))] s.heap.size (fun (u : Nat) => [(la, .inr (11, [.int mc, .ref u, .int size])), (u, .inl (dA 4, 15, .inr (.inr (.inr (.inr (va_cpy f (fun _ => none) 0 0 10))))))])) (va_A [(la, .inr (11, [.int mc, .ref ea, .int size])), (ea, .inl (dA 4, 10, .inr (.inr (.inr (.inr f)))))] s.heap.size)) ([.ref la] : List Value).toArray s 1 15 (va_A [(la, .inr (11, [.int mc, .ref ea, .int size])), (ea, .inl (dA 4, 10, .inr (.inr (.inr (.inr f)))))] s.heap.size)) Q mc size f := fun ra H locs kc ks pc ls h1 h2 hq hP hD hS hd => W.widen (k := 1) (n := 15) h1 h2 (W.aret hx hb hr (Or.inr ⟨_, rfl⟩) (Or.inr ⟨_, rfl⟩) (fun t ht hW => ⟨⟨some ra, ra, rfl, ⟨rfl, hq⟩, by subst ht; exact ⟨hP, hD⟩⟩, hS.F ht⟩) hS.2.2 hd)
  generalize hAe : va_A [(la, .inr (11, [.int mc, .ref ea, .int size])), (ea, .inl (dA 4, 10, .inr (.inr (.inr (.inr f)))))] s.heap.size = A at hD hA hS hE hret hV ⊢
  clear hAe
  unfold wJ2_grow_10 at hf
  refine lv_aload_n hx hb dJ2_grow_0 rfl (lv_at hl 0 rfl) ?_
  refine lv_aload_n hx hb dJ2_grow_1 rfl (lv_at hl 0 rfl) ?_
  refine va_get (D := (dC, dI)) (ci := 11) (v := .int size) (C := RJ2) (T := TJ2) (N := 3) hx hb hts in_J2 hown hK hP 0 rfl rfl 2 (by decide) (hts _ q384) (fun _ h9 => h9) rfl dJ2_grow_2 ?_
  refine lv_iconst (v := 1) hx hb dJ2_grow_5 (by decide) ?_
  refine lv_iadd hx hb dJ2_grow_6 ?_
  refine aC_q (wr := []) hP hD hS hA [0, 1] [] rfl rfl (by decide) (by decide) (va_runV (As := [.int (size + 1)]) (rest := []) S (metJ2_grow_2_10 l hf) (cwV 1 hts (lw_V q161 q163 qs3 q58 q164) rfl rfl rfl ⟨rfl, pdJ2_grow_2⟩ ⟨Nat.le_of_ble_eq_true rfl, Nat.le_of_ble_eq_true rfl⟩) ⟨ablindV, va_recv hK hP (ci := 11) (q0 := 0) rfl rfl, (apreV hK hE hV hP hD hS hA [0, 1] rfl rfl (by decide)).2⟩ rfl rfl hl.1 rfl (lv_room (Nat.le_of_ble_eq_true rfl)) dJ2_grow_7 ⟨Nat.le_of_ble_eq_true rfl, Nat.le_of_ble_eq_true rfl⟩) (fun r_7 u_7 H locs hf hP hD hS => ?_)
  obtain ⟨ra_7, rfl⟩ : ∃ z, z = u_7 := ⟨_, rfl⟩
  obtain ⟨er_7, hf⟩ := hf
  subst er_7
  replace hP : va_P (dC, dI) vwCl [(la, .inr (11, [.int mc, .ref ra_7, .int size])), (ra_7, .inl (dA 4, 15, .inr (.inr (.inr (.inr (va_cpy f (fun _ => none) 0 0 10))))))] H := hP
  replace hD : va_D A [(la, .inr (11, [.int mc, .ref ra_7, .int size])), (ra_7, .inl (dA 4, 15, .inr (.inr (.inr (.inr (va_cpy f (fun _ => none) 0 0 10))))))] := hD
  try dsimp only at hf
  refine W.eq (g2 := F0 m 10 ls (.ref ra_7 :: [])) rfl ?_
  exact hret ra_7 _ _ _ _ _ _ (Nat.le_of_ble_eq_true rfl) (Nat.le_of_ble_eq_true rfl) hf (hP.sub [0, 1] rfl) (hD.sub [0, 1] (by decide) rfl) hS dJ2_grow_10
/-! java/util/ArrayList.add(Ljava/lang/Object;[Ljava/lang/Object;I)V -/
abbrev rmJ2_add_2_10 : Room := { frames := 5, cells := 1, slots := 15, locals := 127 }
abbrev RJ2_add_2_10_ : Room := (headSpec (ws_ yJ2_add_2 cJ2_add_2 4 none) rmJ2_add_2_10).room
section
variable {p : Program} {l : Launch} {e : Env} {s : State} {m : MethodId} {args : Array Value} {below : List Frame} {meth : Method} {c : Code} {Qw : State → Prop} {dC : Nat → ClassId} {dI : Nat → Nat → Nat} {dA : Nat → ClassId} {eA mi : Nat} {A : Nat → Prop} {la ea : Nat} {x ci : Nat} {fs : List Value}
abbrev hrJ2_add_2_10 (p : Program) (l : Launch) (e : Env) (s : State) (m : MethodId) (args : Array Value) (below : List Frame) (meth : Method) (c : Code) (dC : Nat → ClassId) (dI : Nat → Nat → Nat) (dA : Nat → ClassId) (A : Nat → Prop) (la : Nat) (ea : Nat) (x : Nat) (ci : Nat) (fs : List Value) (Qw : State → Prop) (Q : (Int32) → Prop) (mc : Int32) (size : Int32) (f : (Nat → Option Nat)) (x3 : Int32) : Prop := ∀ (ra : Nat) (size1 : Int32) (H : Heap) (locs : List Loc) (kc ks : Nat) (pc : Nat) (ls : Array Slot), kc ≤ 1 → ks ≤ 15 → Q size1 → va_P (dC, dI) vwCl [(la, .inr (11, [.int mc, .ref ra, .int size1])), (ra, .inl (dA 4, 15, .inr (.inr (.inr (.inr (va_up (va_cpy f (fun _ => none) 0 0 10) (x3 : Int32).toNatClampNeg (some x))))))), (x, .inr (ci, fs))] H → va_D A [(la, .inr (11, [.int mc, .ref ra, .int size1])), (ra, .inl (dA 4, 15, .inr (.inr (.inr (.inr (va_up (va_cpy f (fun _ => none) 0 0 10) (x3 : Int32).toNatClampNeg (some x))))))), (x, .inr (ci, fs))] → va_S A s.heap H locs → decode cJ2_add_2 pc = .ok (.return_, 1) → W p l e RJ2_add_2_10_ s m args below meth c H locs kc ks Qw (F0 m pc ls [])
def wJ2_add_2_10 (Q : (Int32) → Prop) (size : Int32) (f : (Nat → Option Nat)) (x3 : Int32) : Prop := ((x3 = 10 → (wJ2_grow_10 (vp_in x3 15 ∧ (∀ size_19 : Int32, size_19 = (x3 + 1) → (Q size_19))) size f)) ∧ (¬ x3 = 10 → False))
end
set_option maxHeartbeats 4000000 in
set_option maxRecDepth 100000 in
theorem metJ2_add_2_10 (l : Launch) {Q : (Int32) → Prop} {mc : Int32} {size : Int32} {f : (Nat → Option Nat)} {x3 : Int32} {dC : Nat → ClassId} {dI : Nat → Nat → Nat} {dA : Nat → ClassId} {eA mi sz : Nat} {la ea : Nat} {x ci : Nat} {fs : List Value} (hO : pO ci) (hf : wJ2_add_2_10 Q size f x3) : Met l yJ2_add_2 (ws_ yJ2_add_2 cJ2_add_2 4 none) rmJ2_add_2_10 (aPv dC dI dA eA mi sz [.ref la, .ref x, .ref ea, .int x3] [(la, .inr (11, [.int mc, .ref ea, .int size])), (ea, .inl (dA 4, 10, .inr (.inr (.inr (.inr f))))), (x, .inr (ci, fs))] f) (va_Qv (fun (u : Nat × Int32) => Q u.2) (aB dC dI [(la, .inr (11, [.int mc, .ref ea, .int size])), (ea, .inl (dA 4, 10, .inr (.inr (.inr (.inr f))))), (x, .inr (ci, fs))] sz (fun (u : Nat × Int32) => [(la, .inr (11, [.int mc, .ref u.1, .int u.2])), (u.1, .inl (dA 4, 15, .inr (.inr (.inr (.inr (va_up (va_cpy f (fun _ => none) 0 0 10) (x3 : Int32).toNatClampNeg (some x))))))), (x, .inr (ci, fs))])) (va_A [(la, .inr (11, [.int mc, .ref ea, .int size])), (ea, .inl (dA 4, 10, .inr (.inr (.inr (.inr f))))), (x, .inr (ci, fs))] sz)) 1 15 (va_A [(la, .inr (11, [.int mc, .ref ea, .int size])), (ea, .inl (dA 4, 10, .inr (.inr (.inr (.inr f))))), (x, .inr (ci, fs))] sz) := by
  refine Met.ofW (cc := cJ2_add_2) (maxL := 4) (ret := none) (by decide) rfl ?_
  intro p e s m args below meth c s₁ B hml hv
  obtain ⟨rfl, hsz, hP, hK, hD0, hE, hV⟩ := hv
  subst hsz
  have hx := B.exec
  have hb := B.bytes
  have hr := B.returns
  have hts := atoms_spec (ws := (ws_ yJ2_add_2 cJ2_add_2 4 none)) B.pre
  have hts : ∀ w ∈ lw_all, w.before _ s = true := fun w h => hts w (List.mem_cons_of_mem _ h)
  have hown : s.vm.findClass RJ2 = some m.cls := findClass_of_methodNamed B.named
  have hlocks := B.notSynchronized
  have S : CallFix p m c cJ2_add_2 4 s _ lw_all RJ2 := ⟨hx, hb, hml, hown, hts⟩
  have hD := hD0.self (sz := s.heap.size)
  have hA : ∀ q : Nat, s.heap.size ≤ q → va_A [(la, .inr (11, [.int mc, .ref ea, .int size])), (ea, .inl (dA 4, 10, .inr (.inr (.inr (.inr f))))), (x, .inr (ci, fs))] s.heap.size q := fun q h => Or.inr h
  have hS : va_S (va_A [(la, .inr (11, [.int mc, .ref ea, .int size])), (ea, .inl (dA 4, 10, .inr (.inr (.inr (.inr f))))), (x, .inr (ci, fs))] s.heap.size) s.heap s.heap [] := va_S.rf
  have hl := lv_entry ([.ref la, .ref x, .ref ea, .int x3]) (n := 4) (Nat.le_of_ble_eq_true rfl)
  rw [lg_entry_eq]
  generalize (lg_sl ([.ref la, .ref x, .ref ea, .int x3]) ++ List.replicate (4 - (lg_sl ([.ref la, .ref x, .ref ea, .int x3])).length) Slot.unset).toArray = ls at hl ⊢
  replace hl : lv_has ls 4 [(0, .ref la), (1, .ref x), (2, .ref ea), (3, .int x3)] := hl
  have hret : hrJ2_add_2_10 p l e s m ([.ref la, .ref x, .ref ea, .int x3] : List Value).toArray below meth c dC dI dA (va_A [(la, .inr (11, [.int mc, .ref ea, .int size])), (ea, .inl (dA 4, 10, .inr (.inr (.inr (.inr f))))), (x, .inr (ci, fs))] s.heap.size) la ea x ci fs (MQ below (va_Qv (fun (u : Nat × Int32) => Q u.2) (aB dC dI [(la, .inr (11, [.int mc, .ref ea, .int size])), (ea, .inl (dA 4, 10, .inr (.inr (.inr (.inr f))))), (x, .inr (ci, fs))] s.heap.size (fun (u : Nat × Int32) => [(la, .inr (11, [.int mc, .ref u.1, .int u.2])), (u.1, .inl (dA 4, 15, .inr (.inr (.inr (.inr (va_up (va_cpy f (fun _ => none) 0 0 10) (x3 : Int32).toNatClampNeg (some x))))))), (x, .inr (ci, fs))])) (va_A [(la, .inr (11, [.int mc, .ref ea, .int size])), (ea, .inl (dA 4, 10, .inr (.inr (.inr (.inr f))))), (x, .inr (ci, fs))] s.heap.size)) ([.ref la, .ref x, .ref ea, .int x3] : List Value).toArray s 1 15 (va_A [(la, .inr (11, [.int mc, .ref ea, .int size])), (ea, .inl (dA 4, 10, .inr (.inr (.inr (.inr f))))), (x, .inr (ci, fs))] s.heap.size)) Q mc size f x3 := fun ra size1 H locs kc ks pc ls h1 h2 hq hP hD hS hd => W.widen (k := 1) (n := 15) h1 h2 (W.vret hx hb hr (fun t ht hW => ⟨⟨(ra, size1), rfl, hq, by subst ht; exact ⟨hP, hD⟩⟩, hS.F ht⟩) hS.2.2 hd)
  generalize hAe : va_A [(la, .inr (11, [.int mc, .ref ea, .int size])), (ea, .inl (dA 4, 10, .inr (.inr (.inr (.inr f))))), (x, .inr (ci, fs))] s.heap.size = A at hD hA hS hE hret hV ⊢
  clear hAe
  unfold wJ2_add_2_10 at hf
  refine lv_iload_n hx hb dJ2_add_2_0 rfl (lv_at hl 3 rfl) ?_
  refine lv_aload_n hx hb dJ2_add_2_1 rfl (lv_at hl 2 rfl) ?_
  refine va_alen (v := 10) hx hb hK hP 1 4 rfl rfl rfl dJ2_add_2_2 ?_
  refine lv_icmp_ne (tgt := 11) hx hb dJ2_add_2_3 (by decide) (fun c_3 => ?_) (fun c_3 => ?_)
  · replace hf := hf.2 c_3
    exact hf.elim
  · replace hf := hf.1 c_3
    refine lv_aload_n hx hb dJ2_add_2_6 rfl (lv_at hl 0 rfl) ?_
    refine aC_q (wr := [(x, .inr (ci, fs))]) hP hD hS hA [0, 1] [2] rfl rfl (by decide) (by decide) (va_runV (As := []) (rest := []) S (metJ2_grow_10 l hf) (cwV 0 hts (lw_V q157 q159 qs2 q58 q160) rfl rfl rfl ⟨rfl, pdJ2_grow⟩ ⟨Nat.le_of_ble_eq_true rfl, Nat.le_of_ble_eq_true rfl⟩) ⟨ablindV, va_recv hK hP (ci := 11) (q0 := 0) rfl rfl, (apreV hK hE hV hP hD hS hA [0, 1] rfl rfl (by decide)).2⟩ rfl rfl hl.1 rfl (lv_room (Nat.le_of_ble_eq_true rfl)) dJ2_add_2_7 ⟨Nat.le_of_ble_eq_true rfl, Nat.le_of_ble_eq_true rfl⟩) (fun r_7 u_7 H locs hf hP hD hS => ?_)
    obtain ⟨ra_7, rfl⟩ : ∃ z, z = u_7 := ⟨_, rfl⟩
    obtain ⟨er_7, hf⟩ := hf
    subst er_7
    replace hP : va_P (dC, dI) vwCl [(x, .inr (ci, fs)), (la, .inr (11, [.int mc, .ref ra_7, .int size])), (ra_7, .inl (dA 4, 15, .inr (.inr (.inr (.inr (va_cpy f (fun _ => none) 0 0 10))))))] H := hP
    replace hD : va_D A [(x, .inr (ci, fs)), (la, .inr (11, [.int mc, .ref ra_7, .int size])), (ra_7, .inl (dA 4, 15, .inr (.inr (.inr (.inr (va_cpy f (fun _ => none) 0 0 10))))))] := hD
    try dsimp only at hf
    refine W.eq (g2 := F0 m 10 ls (.ref ra_7 :: [])) rfl ?_
    refine lv_astore_n (lv' := [(2, .ref ra_7), (0, .ref la), (1, .ref x), (3, .int x3)]) hx hb dJ2_add_2_10 rfl hl (by decide) rfl (fun ls hl => ?_)
    refine lv_aload_n hx hb dJ2_add_2_11 rfl (lv_at hl 0 rfl) ?_
    refine lv_iload_n hx hb dJ2_add_2_12 rfl (lv_at hl 3 rfl) ?_
    refine lv_aload_n hx hb dJ2_add_2_13 rfl (lv_at hl 2 rfl) ?_
    obtain ⟨hin_, hf⟩ := hf
    refine va_astqM hx hb hK hP hD hS 2 4 rfl rfl (anyO hK hP 0 rfl hO hE.1) hin_ dJ2_add_2_14 (fun H locs hP hD hS => ?_)
    replace hP : va_P (dC, dI) vwCl [(x, .inr (ci, fs)), (la, .inr (11, [.int mc, .ref ra_7, .int size])), (ra_7, .inl (dA 4, 15, .inr (.inr (.inr (.inr (va_up (va_cpy f (fun _ => none) 0 0 10) (x3 : Int32).toNatClampNeg (some x)))))))] H := hP
    replace hD : va_D A [(x, .inr (ci, fs)), (la, .inr (11, [.int mc, .ref ra_7, .int size])), (ra_7, .inl (dA 4, 15, .inr (.inr (.inr (.inr (va_up (va_cpy f (fun _ => none) 0 0 10) (x3 : Int32).toNatClampNeg (some x)))))))] := hD
    refine lv_aload_n hx hb dJ2_add_2_15 rfl (lv_at hl 1 rfl) ?_
    refine lv_iload_n hx hb dJ2_add_2_16 rfl (lv_at hl 3 rfl) ?_
    refine lv_iconst (v := 1) hx hb dJ2_add_2_17 (by decide) ?_
    refine lv_iadd hx hb dJ2_add_2_18 ?_
    refine lv_topi (fun size_19 esize_19 => ?_)
    replace hf := hf size_19 esize_19
    refine va_put (D := (dC, dI)) (ci := 11) (v := .int size_19) (ty := .int) (C := RJ2) (T := TJ2) (N := 3) hx hb hts in_J2 tyJ2 tyJ2_ok nmJ2 hown hK hP hD hS 1 rfl rfl 2 (by decide) (hts _ q384) (fun _ h9 => h9) rfl (by decide +kernel) rfl rfl (Nat.le_of_ble_eq_true rfl) dJ2_add_2_19 (fun H locs hP hD hS => ?_)
    replace hP : va_P (dC, dI) vwCl [(x, .inr (ci, fs)), (la, .inr (11, [.int mc, .ref ra_7, .int size_19])), (ra_7, .inl (dA 4, 15, .inr (.inr (.inr (.inr (va_up (va_cpy f (fun _ => none) 0 0 10) (x3 : Int32).toNatClampNeg (some x)))))))] H := hP
    replace hD : va_D A [(x, .inr (ci, fs)), (la, .inr (11, [.int mc, .ref ra_7, .int size_19])), (ra_7, .inl (dA 4, 15, .inr (.inr (.inr (.inr (va_up (va_cpy f (fun _ => none) 0 0 10) (x3 : Int32).toNatClampNeg (some x)))))))] := hD
    exact hret ra_7 size_19 _ _ _ _ _ _ (Nat.le_of_ble_eq_true rfl) (Nat.le_of_ble_eq_true rfl) hf (hP.sub [1, 2, 0] rfl) (hD.sub [1, 2, 0] (by decide) rfl) hS dJ2_add_2_22
/-! java/util/ArrayList.add(Ljava/lang/Object;)Z -/
abbrev rmJ2_add_10 : Room := { frames := 6, cells := 1, slots := 15, locals := 150 }
abbrev RJ2_add_10_ : Room := (headSpec (ws_ yJ2_add cJ2_add 2 (some .boolean)) rmJ2_add_10).room
section
variable {p : Program} {l : Launch} {e : Env} {s : State} {m : MethodId} {args : Array Value} {below : List Frame} {meth : Method} {c : Code} {Qw : State → Prop} {dC : Nat → ClassId} {dI : Nat → Nat → Nat} {dA : Nat → ClassId} {eA mi : Nat} {A : Nat → Prop} {la ea : Nat} {x ci : Nat} {fs : List Value}
abbrev hrJ2_add_10 (p : Program) (l : Launch) (e : Env) (s : State) (m : MethodId) (args : Array Value) (below : List Frame) (meth : Method) (c : Code) (dC : Nat → ClassId) (dI : Nat → Nat → Nat) (dA : Nat → ClassId) (A : Nat → Prop) (la : Nat) (ea : Nat) (x : Nat) (ci : Nat) (fs : List Value) (Qw : State → Prop) (Q : Int32 → (Int32) → Prop) (mc : Int32) (size : Int32) (f : (Nat → Option Nat)) : Prop := ∀ (r : Int32) (ra : Nat) (mc1 : Int32) (size1 : Int32) (H : Heap) (locs : List Loc) (kc ks : Nat) (pc : Nat) (ls : Array Slot), kc ≤ 1 → ks ≤ 15 → bz r → Q r size1 → va_P (dC, dI) vwCl [(la, .inr (11, [.int mc1, .ref ra, .int size1])), (ra, .inl (dA 4, 15, .inr (.inr (.inr (.inr (va_up (va_cpy f (fun _ => none) 0 0 10) (size : Int32).toNatClampNeg (some x))))))), (x, .inr (ci, fs))] H → va_D A [(la, .inr (11, [.int mc1, .ref ra, .int size1])), (ra, .inl (dA 4, 15, .inr (.inr (.inr (.inr (va_up (va_cpy f (fun _ => none) 0 0 10) (size : Int32).toNatClampNeg (some x))))))), (x, .inr (ci, fs))] → va_S A s.heap H locs → decode cJ2_add pc = .ok (.ireturn, 1) → W p l e RJ2_add_10_ s m args below meth c H locs kc ks Qw (F0 m pc ls [.int r])
def wJ2_add_10 (Q : Int32 → (Int32) → Prop) (mc : Int32) (size : Int32) (f : (Nat → Option Nat)) : Prop := (∀ modCount_7 : Int32, modCount_7 = (mc + 1) → (wJ2_add_2_10 (fun size1_20 => (Q 1 size1_20)) size f size))
end
set_option maxHeartbeats 4000000 in
set_option maxRecDepth 100000 in
theorem metJ2_add_10 (l : Launch) {Q : Int32 → (Int32) → Prop} {mc : Int32} {size : Int32} {f : (Nat → Option Nat)} {dC : Nat → ClassId} {dI : Nat → Nat → Nat} {dA : Nat → ClassId} {eA mi sz : Nat} {la ea : Nat} {x ci : Nat} {fs : List Value} (hO : pO ci) (hf : wJ2_add_10 Q mc size f) : Met l yJ2_add (ws_ yJ2_add cJ2_add 2 (some .boolean)) rmJ2_add_10 (aPv dC dI dA eA mi sz [.ref la, .ref x] [(la, .inr (11, [.int mc, .ref ea, .int size])), (ea, .inl (dA 4, 10, .inr (.inr (.inr (.inr f))))), (x, .inr (ci, fs))] f) (va_Qi (fun (r : Int32) (u : Nat × Int32 × Int32) => Q r u.2.2) (aB dC dI [(la, .inr (11, [.int mc, .ref ea, .int size])), (ea, .inl (dA 4, 10, .inr (.inr (.inr (.inr f))))), (x, .inr (ci, fs))] sz (fun (u : Nat × Int32 × Int32) => [(la, .inr (11, [.int u.2.1, .ref u.1, .int u.2.2])), (u.1, .inl (dA 4, 15, .inr (.inr (.inr (.inr (va_up (va_cpy f (fun _ => none) 0 0 10) (size : Int32).toNatClampNeg (some x))))))), (x, .inr (ci, fs))])) (va_A [(la, .inr (11, [.int mc, .ref ea, .int size])), (ea, .inl (dA 4, 10, .inr (.inr (.inr (.inr f))))), (x, .inr (ci, fs))] sz)) 1 15 (va_A [(la, .inr (11, [.int mc, .ref ea, .int size])), (ea, .inl (dA 4, 10, .inr (.inr (.inr (.inr f))))), (x, .inr (ci, fs))] sz) := by
  refine Met.ofW (cc := cJ2_add) (maxL := 2) (ret := (some .boolean)) (by decide) rfl ?_
  intro p e s m args below meth c s₁ B hml hv
  obtain ⟨rfl, hsz, hP, hK, hD0, hE, hV⟩ := hv
  subst hsz
  have hx := B.exec
  have hb := B.bytes
  have hr := B.returns
  have hts := atoms_spec (ws := (ws_ yJ2_add cJ2_add 2 (some .boolean))) B.pre
  have hts : ∀ w ∈ lw_all, w.before _ s = true := fun w h => hts w (List.mem_cons_of_mem _ h)
  have hown : s.vm.findClass RJ2 = some m.cls := findClass_of_methodNamed B.named
  have hlocks := B.notSynchronized
  have S : CallFix p m c cJ2_add 2 s _ lw_all RJ2 := ⟨hx, hb, hml, hown, hts⟩
  have hD := hD0.self (sz := s.heap.size)
  have hA : ∀ q : Nat, s.heap.size ≤ q → va_A [(la, .inr (11, [.int mc, .ref ea, .int size])), (ea, .inl (dA 4, 10, .inr (.inr (.inr (.inr f))))), (x, .inr (ci, fs))] s.heap.size q := fun q h => Or.inr h
  have hS : va_S (va_A [(la, .inr (11, [.int mc, .ref ea, .int size])), (ea, .inl (dA 4, 10, .inr (.inr (.inr (.inr f))))), (x, .inr (ci, fs))] s.heap.size) s.heap s.heap [] := va_S.rf
  have hl := lv_entry ([.ref la, .ref x]) (n := 2) (Nat.le_of_ble_eq_true rfl)
  rw [lg_entry_eq]
  generalize (lg_sl ([.ref la, .ref x]) ++ List.replicate (2 - (lg_sl ([.ref la, .ref x])).length) Slot.unset).toArray = ls at hl ⊢
  replace hl : lv_has ls 2 [(0, .ref la), (1, .ref x)] := hl
  have hret : hrJ2_add_10 p l e s m ([.ref la, .ref x] : List Value).toArray below meth c dC dI dA (va_A [(la, .inr (11, [.int mc, .ref ea, .int size])), (ea, .inl (dA 4, 10, .inr (.inr (.inr (.inr f))))), (x, .inr (ci, fs))] s.heap.size) la ea x ci fs (MQ below (va_Qi (fun (r : Int32) (u : Nat × Int32 × Int32) => Q r u.2.2) (aB dC dI [(la, .inr (11, [.int mc, .ref ea, .int size])), (ea, .inl (dA 4, 10, .inr (.inr (.inr (.inr f))))), (x, .inr (ci, fs))] s.heap.size (fun (u : Nat × Int32 × Int32) => [(la, .inr (11, [.int u.2.1, .ref u.1, .int u.2.2])), (u.1, .inl (dA 4, 15, .inr (.inr (.inr (.inr (va_up (va_cpy f (fun _ => none) 0 0 10) (size : Int32).toNatClampNeg (some x))))))), (x, .inr (ci, fs))])) (va_A [(la, .inr (11, [.int mc, .ref ea, .int size])), (ea, .inl (dA 4, 10, .inr (.inr (.inr (.inr f))))), (x, .inr (ci, fs))] s.heap.size)) ([.ref la, .ref x] : List Value).toArray s 1 15 (va_A [(la, .inr (11, [.int mc, .ref ea, .int size])), (ea, .inl (dA 4, 10, .inr (.inr (.inr (.inr f))))), (x, .inr (ci, fs))] s.heap.size)) Q mc size f := fun r ra mc1 size1 H locs kc ks pc ls h1 h2 hz hq hP hD hS hd => W.widen (k := 1) (n := 15) h1 h2 (W.zret hx hb hr hz.1 (fun t ht hW => ⟨⟨r, (ra, mc1, size1), rfl, hq, by subst ht; exact ⟨hP, hD⟩⟩, hS.F ht⟩) hS.2.2 hd)
  generalize hAe : va_A [(la, .inr (11, [.int mc, .ref ea, .int size])), (ea, .inl (dA 4, 10, .inr (.inr (.inr (.inr f))))), (x, .inr (ci, fs))] s.heap.size = A at hD hA hS hE hret hV ⊢
  clear hAe
  unfold wJ2_add_10 at hf
  refine lv_aload_n hx hb dJ2_add_0 rfl (lv_at hl 0 rfl) ?_
  refine lv_dup hx hb dJ2_add_1 rfl ?_
  refine va_get (D := (dC, dI)) (ci := 11) (v := .int mc) (C := RJ2) (T := TJ2) (N := 3) hx hb hts in_J2 hown hK hP 0 rfl rfl 0 (by decide) (hts _ q386) (fun x9 h9 => u_same (hts _ q387) x9 h9) rfl dJ2_add_2 ?_
  refine lv_iconst (v := 1) hx hb dJ2_add_5 (by decide) ?_
  refine lv_iadd hx hb dJ2_add_6 ?_
  refine lv_topi (fun modCount_7 emodCount_7 => ?_)
  replace hf := hf modCount_7 emodCount_7
  refine va_put (D := (dC, dI)) (ci := 11) (v := .int modCount_7) (ty := .int) (C := RJ2) (T := TJ2) (N := 3) hx hb hts in_J2 tyJ2 tyJ2_ok nmJ2 hown hK hP hD hS 0 rfl rfl 0 (by decide) (hts _ q386) (fun x9 h9 => u_same (hts _ q387) x9 h9) rfl (by decide +kernel) rfl rfl (Nat.le_of_ble_eq_true rfl) dJ2_add_7 (fun H locs hP hD hS => ?_)
  replace hP : va_P (dC, dI) vwCl [(la, .inr (11, [.int modCount_7, .ref ea, .int size])), (ea, .inl (dA 4, 10, .inr (.inr (.inr (.inr f))))), (x, .inr (ci, fs))] H := hP
  replace hD : va_D A [(la, .inr (11, [.int modCount_7, .ref ea, .int size])), (ea, .inl (dA 4, 10, .inr (.inr (.inr (.inr f))))), (x, .inr (ci, fs))] := hD
  refine lv_aload_n hx hb dJ2_add_10 rfl (lv_at hl 0 rfl) ?_
  refine lv_aload_n hx hb dJ2_add_11 rfl (lv_at hl 1 rfl) ?_
  refine lv_aload_n hx hb dJ2_add_12 rfl (lv_at hl 0 rfl) ?_
  refine va_get (D := (dC, dI)) (ci := 11) (v := .ref ea) (C := RJ2) (T := TJ2) (N := 3) hx hb hts in_J2 hown hK hP 0 rfl rfl 1 (by decide) (hts _ q383) (fun _ h9 => h9) rfl dJ2_add_13 ?_
  refine lv_aload_n hx hb dJ2_add_16 rfl (lv_at hl 0 rfl) ?_
  refine va_get (D := (dC, dI)) (ci := 11) (v := .int size) (C := RJ2) (T := TJ2) (N := 3) hx hb hts in_J2 hown hK hP 0 rfl rfl 2 (by decide) (hts _ q384) (fun _ h9 => h9) rfl dJ2_add_17 ?_
  refine aC_v (wr := []) hP hD hS hA [0, 1, 2] [] rfl rfl (by decide) (by decide) (va_runV (As := [.ref x, .ref ea, .int size]) (rest := []) S (metJ2_add_2_10 l hO hf) (cwV 3 hts (lw_V q153 q155 qs1 q58 q156) rfl rfl rfl ⟨rfl, pdJ2_add_2⟩ ⟨Nat.le_of_ble_eq_true rfl, Nat.le_of_ble_eq_true rfl⟩) ⟨ablindV, va_recv hK hP (ci := 11) (q0 := 0) rfl rfl, (apreV hK hE hV hP hD hS hA [0, 1, 2] rfl rfl (by decide)).2⟩ rfl rfl hl.1 rfl (lv_room (Nat.le_of_ble_eq_true rfl)) dJ2_add_20 ⟨Nat.le_of_ble_eq_true rfl, Nat.le_of_ble_eq_true rfl⟩) (fun u_20 H locs hf hP hD hS => ?_)
  obtain ⟨ra_20, size1_20⟩ := u_20
  replace hP : va_P (dC, dI) vwCl [(la, .inr (11, [.int modCount_7, .ref ra_20, .int size1_20])), (ra_20, .inl (dA 4, 15, .inr (.inr (.inr (.inr (va_up (va_cpy f (fun _ => none) 0 0 10) (size : Int32).toNatClampNeg (some x))))))), (x, .inr (ci, fs))] H := hP
  replace hD : va_D A [(la, .inr (11, [.int modCount_7, .ref ra_20, .int size1_20])), (ra_20, .inl (dA 4, 15, .inr (.inr (.inr (.inr (va_up (va_cpy f (fun _ => none) 0 0 10) (size : Int32).toNatClampNeg (some x))))))), (x, .inr (ci, fs))] := hD
  try dsimp only at hf
  refine lv_iconst (v := 1) hx hb dJ2_add_23 (by decide) ?_
  exact hret _ ra_20 modCount_7 size1_20 _ _ _ _ _ _ (Nat.le_of_ble_eq_true rfl) (Nat.le_of_ble_eq_true rfl) bz1 hf (hP.sub [0, 1, 2] rfl) (hD.sub [0, 1, 2] (by decide) rfl) hS dJ2_add_24
/-! java/util/Arrays.copyOf([Ljava/lang/Object;ILjava/lang/Class;)[Ljava/lang/Object; -/
abbrev rmJ7_copyOf_2_15 : Room := { frames := 1, cells := 1, slots := 22, locals := 40 }
abbrev RJ7_copyOf_2_15_ : Room := (headSpec (ws_ yJ7_copyOf_2 cJ7_copyOf_2 4 (some (.array (.object "java/lang/Object")))) rmJ7_copyOf_2_15).room
section
variable {p : Program} {l : Launch} {e : Env} {s : State} {m : MethodId} {args : Array Value} {below : List Frame} {meth : Method} {c : Code} {Qw : State → Prop} {dC : Nat → ClassId} {dI : Nat → Nat → Nat} {dA : Nat → ClassId} {eA mi : Nat} {A : Nat → Prop} {ea : Nat}
abbrev hrJ7_copyOf_2_15 (p : Program) (l : Launch) (e : Env) (s : State) (m : MethodId) (args : Array Value) (below : List Frame) (meth : Method) (c : Code) (dC : Nat → ClassId) (dI : Nat → Nat → Nat) (dA : Nat → ClassId) (A : Nat → Prop) (ea : Nat) (Qw : State → Prop) (Q : Prop) (f : (Nat → Option Nat)) (x1 : Int32) : Prop := ∀ (ra : Nat) (H : Heap) (locs : List Loc) (kc ks : Nat) (pc : Nat) (ls : Array Slot), kc ≤ 1 → ks ≤ 22 → Q → va_P (dC, dI) vwCl [(ea, .inl (dA 4, 15, .inr (.inr (.inr (.inr f))))), (ra, .inl (dA 4, 22, .inr (.inr (.inr (.inr (va_cpy f (fun _ => none) (0 : Int32).toNatClampNeg (0 : Int32).toNatClampNeg ((if x1 < 15 then x1 else 15) : Int32).toNatClampNeg))))))] H → va_D A [(ea, .inl (dA 4, 15, .inr (.inr (.inr (.inr f))))), (ra, .inl (dA 4, 22, .inr (.inr (.inr (.inr (va_cpy f (fun _ => none) (0 : Int32).toNatClampNeg (0 : Int32).toNatClampNeg ((if x1 < 15 then x1 else 15) : Int32).toNatClampNeg))))))] → va_S A s.heap H locs → decode cJ7_copyOf_2 pc = .ok (.areturn, 1) → W p l e RJ7_copyOf_2_15_ s m args below meth c H locs kc ks Qw (F0 m pc ls [.ref ra])
def wJ7_copyOf_2_15 (Q : Prop) (f : (Nat → Option Nat)) (x1 : Int32) : Prop := (x1 = 22 ∧ (¬ (if x1 < 15 then x1 else 15) < 0 ∧ ((0 : Int32).toNatClampNeg + ((if x1 < 15 then x1 else 15) : Int32).toNatClampNeg ≤ 15 ∧ ((0 : Int32).toNatClampNeg + ((if x1 < 15 then x1 else 15) : Int32).toNatClampNeg ≤ 22 ∧ Q))))
end
set_option maxHeartbeats 4000000 in
set_option maxRecDepth 100000 in
theorem metJ7_copyOf_2_15 (l : Launch) {Q : Prop} {f : (Nat → Option Nat)} {x1 : Int32} {dC : Nat → ClassId} {dI : Nat → Nat → Nat} {dA : Nat → ClassId} {eA mi sz : Nat} {ea : Nat} (hf : wJ7_copyOf_2_15 Q f x1) : Met l yJ7_copyOf_2 (ws_ yJ7_copyOf_2 cJ7_copyOf_2 4 (some (.array (.object "java/lang/Object")))) rmJ7_copyOf_2_15 (aPv dC dI dA eA mi sz [.ref ea, .int x1, .ref mi] [(ea, .inl (dA 4, 15, .inr (.inr (.inr (.inr f)))))] f) (va_Qq (fun (r : Option Nat) (u : Nat) => r = some u ∧ Q) (aB dC dI [(ea, .inl (dA 4, 15, .inr (.inr (.inr (.inr f)))))] sz (fun (u : Nat) => [(ea, .inl (dA 4, 15, .inr (.inr (.inr (.inr f))))), (u, .inl (dA 4, 22, .inr (.inr (.inr (.inr (va_cpy f (fun _ => none) (0 : Int32).toNatClampNeg (0 : Int32).toNatClampNeg ((if x1 < 15 then x1 else 15) : Int32).toNatClampNeg))))))])) (va_A [(ea, .inl (dA 4, 15, .inr (.inr (.inr (.inr f)))))] sz)) 1 22 (va_A [(ea, .inl (dA 4, 15, .inr (.inr (.inr (.inr f)))))] sz) := by
  refine Met.ofW (cc := cJ7_copyOf_2) (maxL := 4) (ret := (some (.array (.object "java/lang/Object")))) (by decide) rfl ?_
  intro p e s m args below meth c s₁ B hml hv
  obtain ⟨rfl, hsz, hP, hK, hD0, hE, hV⟩ := hv
  subst hsz
  have hx := B.exec
  have hb := B.bytes
  have hr := B.returns
  have hts := atoms_spec (ws := (ws_ yJ7_copyOf_2 cJ7_copyOf_2 4 (some (.array (.object "java/lang/Object"))))) B.pre
  have hts : ∀ w ∈ lw_all, w.before _ s = true := fun w h => hts w (List.mem_cons_of_mem _ h)
  have hown : s.vm.findClass RJ7 = some m.cls := findClass_of_methodNamed B.named
  have hlocks := B.notSynchronized
  have S : CallFix p m c cJ7_copyOf_2 4 s _ lw_all RJ7 := ⟨hx, hb, hml, hown, hts⟩
  have hD := hD0.self (sz := s.heap.size)
  have hA : ∀ q : Nat, s.heap.size ≤ q → va_A [(ea, .inl (dA 4, 15, .inr (.inr (.inr (.inr f)))))] s.heap.size q := fun q h => Or.inr h
  have hS : va_S (va_A [(ea, .inl (dA 4, 15, .inr (.inr (.inr (.inr f)))))] s.heap.size) s.heap s.heap [] := va_S.rf
  have hl := lv_entry ([.ref ea, .int x1, .ref mi]) (n := 4) (Nat.le_of_ble_eq_true rfl)
  rw [lg_entry_eq]
  generalize (lg_sl ([.ref ea, .int x1, .ref mi]) ++ List.replicate (4 - (lg_sl ([.ref ea, .int x1, .ref mi])).length) Slot.unset).toArray = ls at hl ⊢
  replace hl : lv_has ls 4 [(0, .ref ea), (1, .int x1), (2, .ref mi)] := hl
  have hret : hrJ7_copyOf_2_15 p l e s m ([.ref ea, .int x1, .ref mi] : List Value).toArray below meth c dC dI dA (va_A [(ea, .inl (dA 4, 15, .inr (.inr (.inr (.inr f)))))] s.heap.size) ea (MQ below (va_Qq (fun (r : Option Nat) (u : Nat) => r = some u ∧ Q) (aB dC dI [(ea, .inl (dA 4, 15, .inr (.inr (.inr (.inr f)))))] s.heap.size (fun (u : Nat) => [(ea, .inl (dA 4, 15, .inr (.inr (.inr (.inr f))))), (u, .inl (dA 4, 22, .inr (.inr (.inr (.inr (va_cpy f (fun _ => none) (0 : Int32).toNatClampNeg (0 : Int32).toNatClampNeg ((if x1 < 15 then x1 else 15) : Int32).toNatClampNeg))))))])) (va_A [(ea, .inl (dA 4, 15, .inr (.inr (.inr (.inr f)))))] s.heap.size)) ([.ref ea, .int x1, .ref mi] : List Value).toArray s 1 22 (va_A [(ea, .inl (dA 4, 15, .inr (.inr (.inr (.inr f)))))] s.heap.size)) Q f x1 := fun ra H locs kc ks pc ls h1 h2 hq hP hD hS hd => W.widen (k := 1) (n := 22) h1 h2 (W.aret hx hb hr (Or.inr ⟨_, rfl⟩) (Or.inr ⟨_, rfl⟩) (fun t ht hW => ⟨⟨some ra, ra, rfl, ⟨rfl, hq⟩, by subst ht; exact ⟨hP, hD⟩⟩, hS.F ht⟩) hS.2.2 hd)
  generalize hAe : va_A [(ea, .inl (dA 4, 15, .inr (.inr (.inr (.inr f)))))] s.heap.size = A at hD hA hS hE hret hV ⊢
  clear hAe
  unfold wJ7_copyOf_2_15 at hf
  refine lv_aload_n hx hb dJ7_copyOf_2_0 rfl (lv_at hl 2 rfl) ?_
  refine va_ldcM hx hb hown (hts _ q205) hE.2.1.1.2 dJ7_copyOf_2_1 ?_
  refine lv_acmp_ne (rx := some mi) (ry := some mi) (tgt := 13) hx hb dJ7_copyOf_2_3 (by decide) (fun h => absurd rfl h) (fun _ => ?_)
  refine lv_iload_n hx hb dJ7_copyOf_2_6 rfl (lv_at hl 1 rfl) ?_
  obtain ⟨hnl, hf⟩ := hf
  refine lv_topi (fun z_ ez_ => ?_)
  obtain rfl : z_ = 22 := ez_.trans hnl
  have hbud : 0 + 1 ≤ 1 ∧ 0 + 22 ≤ 22 := ⟨Nat.le_of_ble_eq_true rfl, Nat.le_of_ble_eq_true rfl⟩
  refine va_newq (n := 22) (N' := 22) hx hb hown (hts _ q207) hE.2.1.1.1 hK hP hD hS hA (by decide) (by decide) (by decide) hbud.1 hbud.2 dJ7_copyOf_2_7 (fun q_7 cA_7 H hK2 hP hD hS => ?_)
  obtain rfl : cA_7 = dA 4 := ty_one (s := s) (t1 := []) (t2 := []) (hK2.2 6 _ rfl).2 (hK.2 4 _ rfl).2
  replace hP : va_P (dC, dI) vwCl [(ea, .inl (dA 4, 15, .inr (.inr (.inr (.inr f))))), (q_7, .inl (dA 4, 22, .inr (.inr (.inr (.inr (fun _ => none))))))] H := hP
  replace hD : va_D A [(ea, .inl (dA 4, 15, .inr (.inr (.inr (.inr f))))), (q_7, .inl (dA 4, 22, .inr (.inr (.inr (.inr (fun _ => none))))))] := hD
  refine lv_goto (tgt := 24) hx hb dJ7_copyOf_2_10 (by decide) ?_
  refine lv_astore_n (lv' := [(3, .ref q_7), (0, .ref ea), (1, .int x1), (2, .ref mi)]) hx hb dJ7_copyOf_2_24 rfl hl (by decide) rfl (fun ls hl => ?_)
  refine lv_aload_n hx hb dJ7_copyOf_2_25 rfl (lv_at hl 1 rfl) ?_
  refine lv_iconst (v := 0) hx hb dJ7_copyOf_2_26 (by decide) ?_
  refine lv_aload_n hx hb dJ7_copyOf_2_27 rfl (lv_at hl 0 rfl) ?_
  refine lv_iconst (v := 0) hx hb dJ7_copyOf_2_28 (by decide) ?_
  refine lv_aload_n hx hb dJ7_copyOf_2_29 rfl (lv_at hl 1 rfl) ?_
  refine va_alen (v := 15) hx hb hK hP 0 4 rfl rfl rfl dJ7_copyOf_2_30 ?_
  refine lv_iload_n hx hb dJ7_copyOf_2_31 rfl (lv_at hl 2 rfl) ?_
  refine va_mmin hx hb (hml.trans hl.1.symm) hown (hts _ q208) (hts _ q209) (hts _ q66) (hts _ q210) (Nat.le_of_ble_eq_true rfl) (Nat.le_of_ble_eq_true rfl) (Nat.le_of_ble_eq_true rfl) (Nat.le_of_ble_eq_true rfl) dJ7_copyOf_2_32 ?_
  obtain ⟨ha_35_0, hf⟩ := hf
  obtain ⟨ha_35_1, hf⟩ := hf
  obtain ⟨ha_35_2, hf⟩ := hf
  refine va_copyM hx hb (hml.trans hl.1.symm) hown (hts _ q211) (hts _ q148) (hts _ q147) (hts _ q64) hK hP hD hS 0 1 4 4 rfl rfl rfl rfl (by decide) (by decide) ha_35_0 ha_35_1 ha_35_2 (fun _ _ _ hy => hV.now hS hy) (Nat.le_of_ble_eq_true rfl) (Nat.le_of_ble_eq_true rfl) dJ7_copyOf_2_35 (fun H locs hP hD hS => ?_)
  replace hP : va_P (dC, dI) vwCl [(ea, .inl (dA 4, 15, .inr (.inr (.inr (.inr f))))), (q_7, .inl (dA 4, 22, .inr (.inr (.inr (.inr (va_cpy f (fun _ => none) (0 : Int32).toNatClampNeg (0 : Int32).toNatClampNeg ((if x1 < 15 then x1 else 15) : Int32).toNatClampNeg))))))] H := hP
  replace hD : va_D A [(ea, .inl (dA 4, 15, .inr (.inr (.inr (.inr f))))), (q_7, .inl (dA 4, 22, .inr (.inr (.inr (.inr (va_cpy f (fun _ => none) (0 : Int32).toNatClampNeg (0 : Int32).toNatClampNeg ((if x1 < 15 then x1 else 15) : Int32).toNatClampNeg))))))] := hD
  refine lv_aload_n hx hb dJ7_copyOf_2_38 rfl (lv_at hl 0 rfl) ?_
  exact hret q_7 _ _ _ _ _ _ (Nat.le_of_ble_eq_true rfl) (Nat.le_of_ble_eq_true rfl) hf (hP.sub [0, 1] rfl) (hD.sub [0, 1] (by decide) rfl) hS dJ7_copyOf_2_39
/-! java/util/Arrays.copyOf([Ljava/lang/Object;I)[Ljava/lang/Object; -/
abbrev rmJ7_copyOf_15 : Room := { frames := 2, cells := 1, slots := 22, locals := 63 }
abbrev RJ7_copyOf_15_ : Room := (headSpec (ws_ yJ7_copyOf cJ7_copyOf 2 (some (.array (.object "java/lang/Object")))) rmJ7_copyOf_15).room
section
variable {p : Program} {l : Launch} {e : Env} {s : State} {m : MethodId} {args : Array Value} {below : List Frame} {meth : Method} {c : Code} {Qw : State → Prop} {dC : Nat → ClassId} {dI : Nat → Nat → Nat} {dA : Nat → ClassId} {eA mi : Nat} {A : Nat → Prop} {ea : Nat}
abbrev hrJ7_copyOf_15 (p : Program) (l : Launch) (e : Env) (s : State) (m : MethodId) (args : Array Value) (below : List Frame) (meth : Method) (c : Code) (dC : Nat → ClassId) (dI : Nat → Nat → Nat) (dA : Nat → ClassId) (A : Nat → Prop) (ea : Nat) (Qw : State → Prop) (Q : Prop) (f : (Nat → Option Nat)) (x1 : Int32) : Prop := ∀ (ra : Nat) (H : Heap) (locs : List Loc) (kc ks : Nat) (pc : Nat) (ls : Array Slot), kc ≤ 1 → ks ≤ 22 → Q → va_P (dC, dI) vwCl [(ea, .inl (dA 4, 15, .inr (.inr (.inr (.inr f))))), (ra, .inl (dA 4, 22, .inr (.inr (.inr (.inr (va_cpy f (fun _ => none) (0 : Int32).toNatClampNeg (0 : Int32).toNatClampNeg ((if x1 < 15 then x1 else 15) : Int32).toNatClampNeg))))))] H → va_D A [(ea, .inl (dA 4, 15, .inr (.inr (.inr (.inr f))))), (ra, .inl (dA 4, 22, .inr (.inr (.inr (.inr (va_cpy f (fun _ => none) (0 : Int32).toNatClampNeg (0 : Int32).toNatClampNeg ((if x1 < 15 then x1 else 15) : Int32).toNatClampNeg))))))] → va_S A s.heap H locs → decode cJ7_copyOf pc = .ok (.areturn, 1) → W p l e RJ7_copyOf_15_ s m args below meth c H locs kc ks Qw (F0 m pc ls [.ref ra])
def wJ7_copyOf_15 (Q : Prop) (f : (Nat → Option Nat)) (x1 : Int32) : Prop := (wJ7_copyOf_2_15 Q f x1)
end
set_option maxHeartbeats 4000000 in
set_option maxRecDepth 100000 in
theorem metJ7_copyOf_15 (l : Launch) {Q : Prop} {f : (Nat → Option Nat)} {x1 : Int32} {dC : Nat → ClassId} {dI : Nat → Nat → Nat} {dA : Nat → ClassId} {eA mi sz : Nat} {ea : Nat} (hf : wJ7_copyOf_15 Q f x1) : Met l yJ7_copyOf (ws_ yJ7_copyOf cJ7_copyOf 2 (some (.array (.object "java/lang/Object")))) rmJ7_copyOf_15 (aPv dC dI dA eA mi sz [.ref ea, .int x1] [(ea, .inl (dA 4, 15, .inr (.inr (.inr (.inr f)))))] f) (va_Qq (fun (r : Option Nat) (u : Nat) => r = some u ∧ Q) (aB dC dI [(ea, .inl (dA 4, 15, .inr (.inr (.inr (.inr f)))))] sz (fun (u : Nat) => [(ea, .inl (dA 4, 15, .inr (.inr (.inr (.inr f))))), (u, .inl (dA 4, 22, .inr (.inr (.inr (.inr (va_cpy f (fun _ => none) (0 : Int32).toNatClampNeg (0 : Int32).toNatClampNeg ((if x1 < 15 then x1 else 15) : Int32).toNatClampNeg))))))])) (va_A [(ea, .inl (dA 4, 15, .inr (.inr (.inr (.inr f)))))] sz)) 1 22 (va_A [(ea, .inl (dA 4, 15, .inr (.inr (.inr (.inr f)))))] sz) := by
  refine Met.ofW (cc := cJ7_copyOf) (maxL := 2) (ret := (some (.array (.object "java/lang/Object")))) (by decide) rfl ?_
  intro p e s m args below meth c s₁ B hml hv
  obtain ⟨rfl, hsz, hP, hK, hD0, hE, hV⟩ := hv
  subst hsz
  have hx := B.exec
  have hb := B.bytes
  have hr := B.returns
  have hts := atoms_spec (ws := (ws_ yJ7_copyOf cJ7_copyOf 2 (some (.array (.object "java/lang/Object"))))) B.pre
  have hts : ∀ w ∈ lw_all, w.before _ s = true := fun w h => hts w (List.mem_cons_of_mem _ h)
  have hown : s.vm.findClass RJ7 = some m.cls := findClass_of_methodNamed B.named
  have hlocks := B.notSynchronized
  have S : CallFix p m c cJ7_copyOf 2 s _ lw_all RJ7 := ⟨hx, hb, hml, hown, hts⟩
  have hD := hD0.self (sz := s.heap.size)
  have hA : ∀ q : Nat, s.heap.size ≤ q → va_A [(ea, .inl (dA 4, 15, .inr (.inr (.inr (.inr f)))))] s.heap.size q := fun q h => Or.inr h
  have hS : va_S (va_A [(ea, .inl (dA 4, 15, .inr (.inr (.inr (.inr f)))))] s.heap.size) s.heap s.heap [] := va_S.rf
  have hl := lv_entry ([.ref ea, .int x1]) (n := 2) (Nat.le_of_ble_eq_true rfl)
  rw [lg_entry_eq]
  generalize (lg_sl ([.ref ea, .int x1]) ++ List.replicate (2 - (lg_sl ([.ref ea, .int x1])).length) Slot.unset).toArray = ls at hl ⊢
  replace hl : lv_has ls 2 [(0, .ref ea), (1, .int x1)] := hl
  have hret : hrJ7_copyOf_15 p l e s m ([.ref ea, .int x1] : List Value).toArray below meth c dC dI dA (va_A [(ea, .inl (dA 4, 15, .inr (.inr (.inr (.inr f)))))] s.heap.size) ea (MQ below (va_Qq (fun (r : Option Nat) (u : Nat) => r = some u ∧ Q) (aB dC dI [(ea, .inl (dA 4, 15, .inr (.inr (.inr (.inr f)))))] s.heap.size (fun (u : Nat) => [(ea, .inl (dA 4, 15, .inr (.inr (.inr (.inr f))))), (u, .inl (dA 4, 22, .inr (.inr (.inr (.inr (va_cpy f (fun _ => none) (0 : Int32).toNatClampNeg (0 : Int32).toNatClampNeg ((if x1 < 15 then x1 else 15) : Int32).toNatClampNeg))))))])) (va_A [(ea, .inl (dA 4, 15, .inr (.inr (.inr (.inr f)))))] s.heap.size)) ([.ref ea, .int x1] : List Value).toArray s 1 22 (va_A [(ea, .inl (dA 4, 15, .inr (.inr (.inr (.inr f)))))] s.heap.size)) Q f x1 := fun ra H locs kc ks pc ls h1 h2 hq hP hD hS hd => W.widen (k := 1) (n := 22) h1 h2 (W.aret hx hb hr (Or.inr ⟨_, rfl⟩) (Or.inr ⟨_, rfl⟩) (fun t ht hW => ⟨⟨some ra, ra, rfl, ⟨rfl, hq⟩, by subst ht; exact ⟨hP, hD⟩⟩, hS.F ht⟩) hS.2.2 hd)
  generalize hAe : va_A [(ea, .inl (dA 4, 15, .inr (.inr (.inr (.inr f)))))] s.heap.size = A at hD hA hS hE hret hV ⊢
  clear hAe
  unfold wJ7_copyOf_15 at hf
  refine lv_aload_n hx hb dJ7_copyOf_0 rfl (lv_at hl 0 rfl) ?_
  refine lv_iload_n hx hb dJ7_copyOf_1 rfl (lv_at hl 1 rfl) ?_
  refine lv_aload_n hx hb dJ7_copyOf_2 rfl (lv_at hl 0 rfl) ?_
  refine va_getC hx hb (hml.trans hl.1.symm) hown (hts _ q180) ((hE.1 _ q1641 rfl).use rfl) (hts _ q1640) (hts _ q181) (hts _ q201) hE.2.1.1.2 (arr_recv hP 0 rfl (va_nmO (hK.2 4 _ rfl).2 (by decide))) (Nat.le_of_ble_eq_true rfl) (Nat.le_of_ble_eq_true rfl) dJ7_copyOf_3 ?_
  refine aC_q (wr := []) hP hD hS hA [0] [] rfl rfl (by decide) (by decide) (va_runS (As := [.ref ea, .int x1, .ref mi]) (rest := []) S (metJ7_copyOf_2_15 l hf) (va_cwS 3 hts (lw_S q202 q203 q67 q204) rfl rfl rfl pdJ7_copyOf_2 ⟨Nat.le_of_ble_eq_true rfl, Nat.le_of_ble_eq_true rfl⟩) (apreV hK hE hV hP hD hS hA [0] rfl rfl (by decide)) rfl rfl hl.1 rfl (lv_room (Nat.le_of_ble_eq_true rfl)) dJ7_copyOf_6 ⟨Nat.le_of_ble_eq_true rfl, Nat.le_of_ble_eq_true rfl⟩) (fun r_6 u_6 H locs hf hP hD hS => ?_)
  obtain ⟨ra_6, rfl⟩ : ∃ z, z = u_6 := ⟨_, rfl⟩
  obtain ⟨er_6, hf⟩ := hf
  subst er_6
  replace hP : va_P (dC, dI) vwCl [(ea, .inl (dA 4, 15, .inr (.inr (.inr (.inr f))))), (ra_6, .inl (dA 4, 22, .inr (.inr (.inr (.inr (va_cpy f (fun _ => none) (0 : Int32).toNatClampNeg (0 : Int32).toNatClampNeg ((if x1 < 15 then x1 else 15) : Int32).toNatClampNeg))))))] H := hP
  replace hD : va_D A [(ea, .inl (dA 4, 15, .inr (.inr (.inr (.inr f))))), (ra_6, .inl (dA 4, 22, .inr (.inr (.inr (.inr (va_cpy f (fun _ => none) (0 : Int32).toNatClampNeg (0 : Int32).toNatClampNeg ((if x1 < 15 then x1 else 15) : Int32).toNatClampNeg))))))] := hD
  try dsimp only at hf
  refine W.eq (g2 := F0 m 9 ls (.ref ra_6 :: [])) rfl ?_
  exact hret ra_6 _ _ _ _ _ _ (Nat.le_of_ble_eq_true rfl) (Nat.le_of_ble_eq_true rfl) hf (hP.sub [0, 1] rfl) (hD.sub [0, 1] (by decide) rfl) hS dJ7_copyOf_9
/-! java/util/ArrayList.grow(I)[Ljava/lang/Object; -/
abbrev rmJ2_grow_2_15 : Room := { frames := 3, cells := 1, slots := 22, locals := 84 }
abbrev RJ2_grow_2_15_ : Room := (headSpec (ws_ yJ2_grow_2 cJ2_grow_2 4 (some (.array (.object "java/lang/Object")))) rmJ2_grow_2_15).room
section
variable {p : Program} {l : Launch} {e : Env} {s : State} {m : MethodId} {args : Array Value} {below : List Frame} {meth : Method} {c : Code} {Qw : State → Prop} {dC : Nat → ClassId} {dI : Nat → Nat → Nat} {dA : Nat → ClassId} {eA mi : Nat} {A : Nat → Prop} {la ea : Nat}
abbrev hrJ2_grow_2_15 (p : Program) (l : Launch) (e : Env) (s : State) (m : MethodId) (args : Array Value) (below : List Frame) (meth : Method) (c : Code) (dC : Nat → ClassId) (dI : Nat → Nat → Nat) (dA : Nat → ClassId) (A : Nat → Prop) (la : Nat) (ea : Nat) (Qw : State → Prop) (Q : Prop) (mc : Int32) (size : Int32) (f : (Nat → Option Nat)) : Prop := ∀ (ra : Nat) (H : Heap) (locs : List Loc) (kc ks : Nat) (pc : Nat) (ls : Array Slot), kc ≤ 1 → ks ≤ 22 → Q → va_P (dC, dI) vwCl [(la, .inr (11, [.int mc, .ref ra, .int size])), (ra, .inl (dA 4, 22, .inr (.inr (.inr (.inr (va_cpy f (fun _ => none) 0 0 15))))))] H → va_D A [(la, .inr (11, [.int mc, .ref ra, .int size])), (ra, .inl (dA 4, 22, .inr (.inr (.inr (.inr (va_cpy f (fun _ => none) 0 0 15))))))] → va_S A s.heap H locs → decode cJ2_grow_2 pc = .ok (.areturn, 1) → W p l e RJ2_grow_2_15_ s m args below meth c H locs kc ks Qw (F0 m pc ls [.ref ra])
def wJ2_grow_2_15 (Q : Prop) (f : (Nat → Option Nat)) (x1 : Int32) : Prop := ((0 < (15 : Int32) → (wJ5_newLength (fun r_27 => (r_27 = 22 ∧ (wJ7_copyOf_15 Q f 22))) 15 (x1 - 15) ((15 : Int32) >>> (1 &&& 31)))) ∧ (¬ 0 < (15 : Int32) → False))
end
set_option maxHeartbeats 4000000 in
set_option maxRecDepth 100000 in
theorem metJ2_grow_2_15 (l : Launch) {Q : Prop} {mc : Int32} {size : Int32} {f : (Nat → Option Nat)} {x1 : Int32} {dC : Nat → ClassId} {dI : Nat → Nat → Nat} {dA : Nat → ClassId} {eA mi sz : Nat} {la ea : Nat} (hf : wJ2_grow_2_15 Q f x1) : Met l yJ2_grow_2 (ws_ yJ2_grow_2 cJ2_grow_2 4 (some (.array (.object "java/lang/Object")))) rmJ2_grow_2_15 (aPv dC dI dA eA mi sz [.ref la, .int x1] [(la, .inr (11, [.int mc, .ref ea, .int size])), (ea, .inl (dA 4, 15, .inr (.inr (.inr (.inr f)))))] f) (va_Qq (fun (r : Option Nat) (u : Nat) => r = some u ∧ Q) (aB dC dI [(la, .inr (11, [.int mc, .ref ea, .int size])), (ea, .inl (dA 4, 15, .inr (.inr (.inr (.inr f)))))] sz (fun (u : Nat) => [(la, .inr (11, [.int mc, .ref u, .int size])), (u, .inl (dA 4, 22, .inr (.inr (.inr (.inr (va_cpy f (fun _ => none) 0 0 15))))))])) (va_A [(la, .inr (11, [.int mc, .ref ea, .int size])), (ea, .inl (dA 4, 15, .inr (.inr (.inr (.inr f)))))] sz)) 1 22 (va_A [(la, .inr (11, [.int mc, .ref ea, .int size])), (ea, .inl (dA 4, 15, .inr (.inr (.inr (.inr f)))))] sz) := by
  refine Met.ofW (cc := cJ2_grow_2) (maxL := 4) (ret := (some (.array (.object "java/lang/Object")))) (by decide) rfl ?_
  intro p e s m args below meth c s₁ B hml hv
  obtain ⟨rfl, hsz, hP, hK, hD0, hE, hV⟩ := hv
  subst hsz
  have hx := B.exec
  have hb := B.bytes
  have hr := B.returns
  have hts := atoms_spec (ws := (ws_ yJ2_grow_2 cJ2_grow_2 4 (some (.array (.object "java/lang/Object"))))) B.pre
  have hts : ∀ w ∈ lw_all, w.before _ s = true := fun w h => hts w (List.mem_cons_of_mem _ h)
  have hown : s.vm.findClass RJ2 = some m.cls := findClass_of_methodNamed B.named
  have hlocks := B.notSynchronized
  have S : CallFix p m c cJ2_grow_2 4 s _ lw_all RJ2 := ⟨hx, hb, hml, hown, hts⟩
  have hD := hD0.self (sz := s.heap.size)
  have hA : ∀ q : Nat, s.heap.size ≤ q → va_A [(la, .inr (11, [.int mc, .ref ea, .int size])), (ea, .inl (dA 4, 15, .inr (.inr (.inr (.inr f)))))] s.heap.size q := fun q h => Or.inr h
  have hS : va_S (va_A [(la, .inr (11, [.int mc, .ref ea, .int size])), (ea, .inl (dA 4, 15, .inr (.inr (.inr (.inr f)))))] s.heap.size) s.heap s.heap [] := va_S.rf
  have hl := lv_entry ([.ref la, .int x1]) (n := 4) (Nat.le_of_ble_eq_true rfl)
  rw [lg_entry_eq]
  generalize (lg_sl ([.ref la, .int x1]) ++ List.replicate (4 - (lg_sl ([.ref la, .int x1])).length) Slot.unset).toArray = ls at hl ⊢
  replace hl : lv_has ls 4 [(0, .ref la), (1, .int x1)] := hl
  have hret : hrJ2_grow_2_15 p l e s m ([.ref la, .int x1] : List Value).toArray below meth c dC dI dA (va_A [(la, .inr (11, [.int mc, .ref ea, .int size])), (ea, .inl (dA 4, 15, .inr (.inr (.inr (.inr f)))))] s.heap.size) la ea (MQ below (va_Qq (fun (r : Option Nat) (u : Nat) => r = some u ∧ Q) (aB dC dI [(la, .inr (11, [.int mc, .ref ea, .int size])), (ea, .inl (dA 4, 15, .inr (.inr (.inr (.inr f)))))] s.heap.size (fun (u : Nat) => [(la, .inr (11, [.int mc, .ref u, .int size])), (u, .inl (dA 4, 22, .inr (.inr (.inr (.inr (va_cpy f (fun _ => none) 0 0 15))))))])) (va_A [(la, .inr (11, [.int mc, .ref ea, .int size])), (ea, .inl (dA 4, 15, .inr (.inr (.inr (.inr f)))))] s.heap.size)) ([.ref la, .int x1] : List Value).toArray s 1 22 (va_A [(la, .inr (11, [.int mc, .ref ea, .int size])), (ea, .inl (dA 4, 15, .inr (.inr (.inr (.inr f)))))] s.heap.size)) Q mc size f := fun ra H locs kc ks pc ls h1 h2 hq hP hD hS hd => W.widen (k := 1) (n := 22) h1 h2 (W.aret hx hb hr (Or.inr ⟨_, rfl⟩) (Or.inr ⟨_, rfl⟩) (fun t ht hW => ⟨⟨some ra, ra, rfl, ⟨rfl, hq⟩, by subst ht; exact ⟨hP, hD⟩⟩, hS.F ht⟩) hS.2.2 hd)
  generalize hAe : va_A [(la, .inr (11, [.int mc, .ref ea, .int size])), (ea, .inl (dA 4, 15, .inr (.inr (.inr (.inr f)))))] s.heap.size = A at hD hA hS hE hret hV ⊢
  clear hAe
  unfold wJ2_grow_2_15 at hf
  refine lv_aload_n hx hb dJ2_grow_2_0 rfl (lv_at hl 0 rfl) ?_
  refine va_get (D := (dC, dI)) (ci := 11) (v := .ref ea) (C := RJ2) (T := TJ2) (N := 3) hx hb hts in_J2 hown hK hP 0 rfl rfl 1 (by decide) (hts _ q383) (fun _ h9 => h9) rfl dJ2_grow_2_1 ?_
  refine va_alen (v := 15) hx hb hK hP 1 4 rfl rfl rfl dJ2_grow_2_4 ?_
  refine lv_istore_n (lv' := [(2, .int 15), (0, .ref la), (1, .int x1)]) hx hb dJ2_grow_2_5 rfl hl (by decide) rfl (fun ls hl => ?_)
  refine lv_iload_n hx hb dJ2_grow_2_6 rfl (lv_at hl 0 rfl) ?_
  refine lv_if_gt (tgt := 20) hx hb dJ2_grow_2_7 (by decide) (fun c_7 => ?_) (fun c_7 => ?_)
  · replace hf := hf.1 c_7
    refine lv_iload_n hx hb dJ2_grow_2_20 rfl (lv_at hl 0 rfl) ?_
    refine lv_iload_n hx hb dJ2_grow_2_21 rfl (lv_at hl 2 rfl) ?_
    refine lv_iload_n hx hb dJ2_grow_2_22 rfl (lv_at hl 0 rfl) ?_
    refine lv_isub hx hb dJ2_grow_2_23 ?_
    refine lv_iload_n hx hb dJ2_grow_2_24 rfl (lv_at hl 0 rfl) ?_
    refine lv_iconst (v := 1) hx hb dJ2_grow_2_25 (by decide) ?_
    refine lv_ishr hx hb dJ2_grow_2_26 ?_
    refine cs_i (As := [.int 15, .int (x1 - 15), .int ((15 : Int32) >>> (1 &&& 31))]) (rest := []) S (metJ5_newLength l hf) (lw_S q167 q168 q65 q169) pdJ5_newLength ⟨rfl, rfl⟩ ⟨Nat.le_of_ble_eq_true rfl, Nat.le_of_ble_eq_true rfl⟩ rfl hl.1 rfl (Nat.le_of_ble_eq_true rfl) dJ2_grow_2_27 ⟨Nat.zero_le _, Nat.zero_le _⟩ (fun r_27 hf => ?_)
    refine lv_istore_n (lv' := [(3, .int r_27), (2, .int 15), (0, .ref la), (1, .int x1)]) hx hb dJ2_grow_2_30 rfl hl (by decide) rfl (fun ls hl => ?_)
    refine lv_aload_n hx hb dJ2_grow_2_31 rfl (lv_at hl 2 rfl) ?_
    refine lv_aload_n hx hb dJ2_grow_2_32 rfl (lv_at hl 2 rfl) ?_
    refine va_get (D := (dC, dI)) (ci := 11) (v := .ref ea) (C := RJ2) (T := TJ2) (N := 3) hx hb hts in_J2 hown hK hP 0 rfl rfl 1 (by decide) (hts _ q383) (fun _ h9 => h9) rfl dJ2_grow_2_33 ?_
    refine lv_iload_n hx hb dJ2_grow_2_36 rfl (lv_at hl 0 rfl) ?_
    obtain ⟨hnl, hf⟩ := hf
    refine lv_topi (fun z_ ez_ => ?_)
    obtain rfl : z_ = 22 := ez_.trans hnl
    refine aC_q (wr := [(la, .inr (11, [.int mc, .ref ea, .int size]))]) hP hD hS hA [1] [0] rfl rfl (by decide) (by decide) (va_runS (As := [.ref ea, .int 22]) (rest := [.ref la]) S (metJ7_copyOf_15 l hf) (va_cwS 2 hts (lw_S q177 q178 q67 q179) rfl rfl rfl pdJ7_copyOf ⟨Nat.le_of_ble_eq_true rfl, Nat.le_of_ble_eq_true rfl⟩) (apreV hK hE hV hP hD hS hA [1] rfl rfl (by decide)) rfl rfl hl.1 rfl (lv_room (Nat.le_of_ble_eq_true rfl)) dJ2_grow_2_37 ⟨Nat.le_of_ble_eq_true rfl, Nat.le_of_ble_eq_true rfl⟩) (fun r_37 u_37 H locs hf hP hD hS => ?_)
    obtain ⟨ra_37, rfl⟩ : ∃ z, z = u_37 := ⟨_, rfl⟩
    obtain ⟨er_37, hf⟩ := hf
    subst er_37
    replace hP : va_P (dC, dI) vwCl [(la, .inr (11, [.int mc, .ref ea, .int size])), (ea, .inl (dA 4, 15, .inr (.inr (.inr (.inr f))))), (ra_37, .inl (dA 4, 22, .inr (.inr (.inr (.inr (va_cpy f (fun _ => none) (0 : Int32).toNatClampNeg (0 : Int32).toNatClampNeg ((if 22 < 15 then 22 else 15) : Int32).toNatClampNeg))))))] H := hP
    replace hD : va_D A [(la, .inr (11, [.int mc, .ref ea, .int size])), (ea, .inl (dA 4, 15, .inr (.inr (.inr (.inr f))))), (ra_37, .inl (dA 4, 22, .inr (.inr (.inr (.inr (va_cpy f (fun _ => none) (0 : Int32).toNatClampNeg (0 : Int32).toNatClampNeg ((if 22 < 15 then 22 else 15) : Int32).toNatClampNeg))))))] := hD
    try dsimp only at hf
    refine W.eq (g2 := F0 m 40 ls (.ref ra_37 :: [.ref la])) rfl ?_
    replace hP : va_P (dC, dI) vwCl [(la, .inr (11, [.int mc, .ref ea, .int size])), (ea, .inl (dA 4, 15, .inr (.inr (.inr (.inr f))))), (ra_37, .inl (dA 4, 22, .inr (.inr (.inr (.inr (va_cpy f (fun _ => none) 0 0 15))))))] H := hP
    replace hD : va_D A [(la, .inr (11, [.int mc, .ref ea, .int size])), (ea, .inl (dA 4, 15, .inr (.inr (.inr (.inr f))))), (ra_37, .inl (dA 4, 22, .inr (.inr (.inr (.inr (va_cpy f (fun _ => none) 0 0 15))))))] := hD
    refine lv_dup_x1 hx hb dJ2_grow_2_40 rfl rfl ?_
    refine va_put (D := (dC, dI)) (ci := 11) (v := .ref ra_37) (ty := tyJ2 1) (C := RJ2) (T := TJ2) (N := 3) hx hb hts in_J2 tyJ2 tyJ2_ok nmJ2 hown hK hP hD hS 0 rfl rfl 1 (by decide) (hts _ q383) (fun _ h9 => h9) rfl (by decide +kernel) rfl rfl (Nat.le_of_ble_eq_true rfl) dJ2_grow_2_41 (fun H locs hP hD hS => ?_)
    replace hP : va_P (dC, dI) vwCl [(la, .inr (11, [.int mc, .ref ra_37, .int size])), (ea, .inl (dA 4, 15, .inr (.inr (.inr (.inr f))))), (ra_37, .inl (dA 4, 22, .inr (.inr (.inr (.inr (va_cpy f (fun _ => none) 0 0 15))))))] H := hP
    replace hD : va_D A [(la, .inr (11, [.int mc, .ref ra_37, .int size])), (ea, .inl (dA 4, 15, .inr (.inr (.inr (.inr f))))), (ra_37, .inl (dA 4, 22, .inr (.inr (.inr (.inr (va_cpy f (fun _ => none) 0 0 15))))))] := hD
    exact hret ra_37 _ _ _ _ _ _ (Nat.le_of_ble_eq_true rfl) (Nat.le_of_ble_eq_true rfl) hf (hP.sub [0, 2] rfl) (hD.sub [0, 2] (by decide) rfl) hS dJ2_grow_2_44
  · replace hf := hf.2 c_7
    exact hf.elim
/-! java/util/ArrayList.grow()[Ljava/lang/Object; -/
abbrev rmJ2_grow_15 : Room := { frames := 4, cells := 1, slots := 22, locals := 107 }
abbrev RJ2_grow_15_ : Room := (headSpec (ws_ yJ2_grow cJ2_grow 1 (some (.array (.object "java/lang/Object")))) rmJ2_grow_15).room
section
variable {p : Program} {l : Launch} {e : Env} {s : State} {m : MethodId} {args : Array Value} {below : List Frame} {meth : Method} {c : Code} {Qw : State → Prop} {dC : Nat → ClassId} {dI : Nat → Nat → Nat} {dA : Nat → ClassId} {eA mi : Nat} {A : Nat → Prop} {la ea : Nat}
abbrev hrJ2_grow_15 (p : Program) (l : Launch) (e : Env) (s : State) (m : MethodId) (args : Array Value) (below : List Frame) (meth : Method) (c : Code) (dC : Nat → ClassId) (dI : Nat → Nat → Nat) (dA : Nat → ClassId) (A : Nat → Prop) (la : Nat) (ea : Nat) (Qw : State → Prop) (Q : Prop) (mc : Int32) (size : Int32) (f : (Nat → Option Nat)) : Prop := ∀ (ra : Nat) (H : Heap) (locs : List Loc) (kc ks : Nat) (pc : Nat) (ls : Array Slot), kc ≤ 1 → ks ≤ 22 → Q → va_P (dC, dI) vwCl [(la, .inr (11, [.int mc, .ref ra, .int size])), (ra, .inl (dA 4, 22, .inr (.inr (.inr (.inr (va_cpy f (fun _ => none) 0 0 15))))))] H → va_D A [(la, .inr (11, [.int mc, .ref ra, .int size])), (ra, .inl (dA 4, 22, .inr (.inr (.inr (.inr (va_cpy f (fun _ => none) 0 0 15))))))] → va_S A s.heap H locs → decode cJ2_grow pc = .ok (.areturn, 1) → W p l e RJ2_grow_15_ s m args below meth c H locs kc ks Qw (F0 m pc ls [.ref ra])
def wJ2_grow_15 (Q : Prop) (size : Int32) (f : (Nat → Option Nat)) : Prop := (wJ2_grow_2_15 Q f (size + 1))
end
set_option maxHeartbeats 4000000 in
set_option maxRecDepth 100000 in
theorem metJ2_grow_15 (l : Launch) {Q : Prop} {mc : Int32} {size : Int32} {f : (Nat → Option Nat)} {dC : Nat → ClassId} {dI : Nat → Nat → Nat} {dA : Nat → ClassId} {eA mi sz : Nat} {la ea : Nat} (hf : wJ2_grow_15 Q size f) : Met l yJ2_grow (ws_ yJ2_grow cJ2_grow 1 (some (.array (.object "java/lang/Object")))) rmJ2_grow_15 (aPv dC dI dA eA mi sz [.ref la] [(la, .inr (11, [.int mc, .ref ea, .int size])), (ea, .inl (dA 4, 15, .inr (.inr (.inr (.inr f)))))] f) (va_Qq (fun (r : Option Nat) (u : Nat) => r = some u ∧ Q) (aB dC dI [(la, .inr (11, [.int mc, .ref ea, .int size])), (ea, .inl (dA 4, 15, .inr (.inr (.inr (.inr f)))))] sz (fun (u : Nat) => [(la, .inr (11, [.int mc, .ref u, .int size])), (u, .inl (dA 4, 22, .inr (.inr (.inr (.inr (va_cpy f (fun _ => none) 0 0 15))))))])) (va_A [(la, .inr (11, [.int mc, .ref ea, .int size])), (ea, .inl (dA 4, 15, .inr (.inr (.inr (.inr f)))))] sz)) 1 22 (va_A [(la, .inr (11, [.int mc, .ref ea, .int size])), (ea, .inl (dA 4, 15, .inr (.inr (.inr (.inr f)))))] sz) := by
  refine Met.ofW (cc := cJ2_grow) (maxL := 1) (ret := (some (.array (.object "java/lang/Object")))) (by decide) rfl ?_
  intro p e s m args below meth c s₁ B hml hv
  obtain ⟨rfl, hsz, hP, hK, hD0, hE, hV⟩ := hv
  subst hsz
  have hx := B.exec
  have hb := B.bytes
  have hr := B.returns
  have hts := atoms_spec (ws := (ws_ yJ2_grow cJ2_grow 1 (some (.array (.object "java/lang/Object"))))) B.pre
  have hts : ∀ w ∈ lw_all, w.before _ s = true := fun w h => hts w (List.mem_cons_of_mem _ h)
  have hown : s.vm.findClass RJ2 = some m.cls := findClass_of_methodNamed B.named
  have hlocks := B.notSynchronized
  have S : CallFix p m c cJ2_grow 1 s _ lw_all RJ2 := ⟨hx, hb, hml, hown, hts⟩
  have hD := hD0.self (sz := s.heap.size)
  have hA : ∀ q : Nat, s.heap.size ≤ q → va_A [(la, .inr (11, [.int mc, .ref ea, .int size])), (ea, .inl (dA 4, 15, .inr (.inr (.inr (.inr f)))))] s.heap.size q := fun q h => Or.inr h
  have hS : va_S (va_A [(la, .inr (11, [.int mc, .ref ea, .int size])), (ea, .inl (dA 4, 15, .inr (.inr (.inr (.inr f)))))] s.heap.size) s.heap s.heap [] := va_S.rf
  have hl := lv_entry ([.ref la]) (n := 1) (Nat.le_of_ble_eq_true rfl)
  rw [lg_entry_eq]
  generalize (lg_sl ([.ref la]) ++ List.replicate (1 - (lg_sl ([.ref la])).length) Slot.unset).toArray = ls at hl ⊢
  replace hl : lv_has ls 1 [(0, .ref la)] := hl
  have hret : hrJ2_grow_15 p l e s m ([.ref la] : List Value).toArray below meth c dC dI dA (va_A [(la, .inr (11, [.int mc, .ref ea, .int size])), (ea, .inl (dA 4, 15, .inr (.inr (.inr (.inr f)))))] s.heap.size) la ea (MQ below (va_Qq (fun (r : Option Nat) (u : Nat) => r = some u ∧ Q) (aB dC dI [(la, .inr (11, [.int mc, .ref ea, .int size])), (ea, .inl (dA 4, 15, .inr (.inr (.inr (.inr f)))))] s.heap.size (fun (u : Nat) => [(la, .inr (11, [.int mc, .ref u, .int size])), (u, .inl (dA 4, 22, .inr (.inr (.inr (.inr (va_cpy f (fun _ => none) 0 0 15))))))])) (va_A [(la, .inr (11, [.int mc, .ref ea, .int size])), (ea, .inl (dA 4, 15, .inr (.inr (.inr (.inr f)))))] s.heap.size)) ([.ref la] : List Value).toArray s 1 22 (va_A [(la, .inr (11, [.int mc, .ref ea, .int size])), (ea, .inl (dA 4, 15, .inr (.inr (.inr (.inr f)))))] s.heap.size)) Q mc size f := fun ra H locs kc ks pc ls h1 h2 hq hP hD hS hd => W.widen (k := 1) (n := 22) h1 h2 (W.aret hx hb hr (Or.inr ⟨_, rfl⟩) (Or.inr ⟨_, rfl⟩) (fun t ht hW => ⟨⟨some ra, ra, rfl, ⟨rfl, hq⟩, by subst ht; exact ⟨hP, hD⟩⟩, hS.F ht⟩) hS.2.2 hd)
  generalize hAe : va_A [(la, .inr (11, [.int mc, .ref ea, .int size])), (ea, .inl (dA 4, 15, .inr (.inr (.inr (.inr f)))))] s.heap.size = A at hD hA hS hE hret hV ⊢
  clear hAe
  unfold wJ2_grow_15 at hf
  refine lv_aload_n hx hb dJ2_grow_0 rfl (lv_at hl 0 rfl) ?_
  refine lv_aload_n hx hb dJ2_grow_1 rfl (lv_at hl 0 rfl) ?_
  refine va_get (D := (dC, dI)) (ci := 11) (v := .int size) (C := RJ2) (T := TJ2) (N := 3) hx hb hts in_J2 hown hK hP 0 rfl rfl 2 (by decide) (hts _ q384) (fun _ h9 => h9) rfl dJ2_grow_2 ?_
  refine lv_iconst (v := 1) hx hb dJ2_grow_5 (by decide) ?_
  refine lv_iadd hx hb dJ2_grow_6 ?_
  refine aC_q (wr := []) hP hD hS hA [0, 1] [] rfl rfl (by decide) (by decide) (va_runV (As := [.int (size + 1)]) (rest := []) S (metJ2_grow_2_15 l hf) (cwV 1 hts (lw_V q161 q163 qs3 q58 q164) rfl rfl rfl ⟨rfl, pdJ2_grow_2⟩ ⟨Nat.le_of_ble_eq_true rfl, Nat.le_of_ble_eq_true rfl⟩) ⟨ablindV, va_recv hK hP (ci := 11) (q0 := 0) rfl rfl, (apreV hK hE hV hP hD hS hA [0, 1] rfl rfl (by decide)).2⟩ rfl rfl hl.1 rfl (lv_room (Nat.le_of_ble_eq_true rfl)) dJ2_grow_7 ⟨Nat.le_of_ble_eq_true rfl, Nat.le_of_ble_eq_true rfl⟩) (fun r_7 u_7 H locs hf hP hD hS => ?_)
  obtain ⟨ra_7, rfl⟩ : ∃ z, z = u_7 := ⟨_, rfl⟩
  obtain ⟨er_7, hf⟩ := hf
  subst er_7
  replace hP : va_P (dC, dI) vwCl [(la, .inr (11, [.int mc, .ref ra_7, .int size])), (ra_7, .inl (dA 4, 22, .inr (.inr (.inr (.inr (va_cpy f (fun _ => none) 0 0 15))))))] H := hP
  replace hD : va_D A [(la, .inr (11, [.int mc, .ref ra_7, .int size])), (ra_7, .inl (dA 4, 22, .inr (.inr (.inr (.inr (va_cpy f (fun _ => none) 0 0 15))))))] := hD
  try dsimp only at hf
  refine W.eq (g2 := F0 m 10 ls (.ref ra_7 :: [])) rfl ?_
  exact hret ra_7 _ _ _ _ _ _ (Nat.le_of_ble_eq_true rfl) (Nat.le_of_ble_eq_true rfl) hf (hP.sub [0, 1] rfl) (hD.sub [0, 1] (by decide) rfl) hS dJ2_grow_10
/-! java/util/ArrayList.add(Ljava/lang/Object;[Ljava/lang/Object;I)V -/
abbrev rmJ2_add_2_15 : Room := { frames := 5, cells := 1, slots := 22, locals := 127 }
abbrev RJ2_add_2_15_ : Room := (headSpec (ws_ yJ2_add_2 cJ2_add_2 4 none) rmJ2_add_2_15).room
section
variable {p : Program} {l : Launch} {e : Env} {s : State} {m : MethodId} {args : Array Value} {below : List Frame} {meth : Method} {c : Code} {Qw : State → Prop} {dC : Nat → ClassId} {dI : Nat → Nat → Nat} {dA : Nat → ClassId} {eA mi : Nat} {A : Nat → Prop} {la ea : Nat} {x ci : Nat} {fs : List Value}
abbrev hrJ2_add_2_15 (p : Program) (l : Launch) (e : Env) (s : State) (m : MethodId) (args : Array Value) (below : List Frame) (meth : Method) (c : Code) (dC : Nat → ClassId) (dI : Nat → Nat → Nat) (dA : Nat → ClassId) (A : Nat → Prop) (la : Nat) (ea : Nat) (x : Nat) (ci : Nat) (fs : List Value) (Qw : State → Prop) (Q : (Int32) → Prop) (mc : Int32) (size : Int32) (f : (Nat → Option Nat)) (x3 : Int32) : Prop := ∀ (ra : Nat) (size1 : Int32) (H : Heap) (locs : List Loc) (kc ks : Nat) (pc : Nat) (ls : Array Slot), kc ≤ 1 → ks ≤ 22 → Q size1 → va_P (dC, dI) vwCl [(la, .inr (11, [.int mc, .ref ra, .int size1])), (ra, .inl (dA 4, 22, .inr (.inr (.inr (.inr (va_up (va_cpy f (fun _ => none) 0 0 15) (x3 : Int32).toNatClampNeg (some x))))))), (x, .inr (ci, fs))] H → va_D A [(la, .inr (11, [.int mc, .ref ra, .int size1])), (ra, .inl (dA 4, 22, .inr (.inr (.inr (.inr (va_up (va_cpy f (fun _ => none) 0 0 15) (x3 : Int32).toNatClampNeg (some x))))))), (x, .inr (ci, fs))] → va_S A s.heap H locs → decode cJ2_add_2 pc = .ok (.return_, 1) → W p l e RJ2_add_2_15_ s m args below meth c H locs kc ks Qw (F0 m pc ls [])
def wJ2_add_2_15 (Q : (Int32) → Prop) (size : Int32) (f : (Nat → Option Nat)) (x3 : Int32) : Prop := ((x3 = 15 → (wJ2_grow_15 (vp_in x3 22 ∧ (∀ size_19 : Int32, size_19 = (x3 + 1) → (Q size_19))) size f)) ∧ (¬ x3 = 15 → False))
end
set_option maxHeartbeats 4000000 in
set_option maxRecDepth 100000 in
theorem metJ2_add_2_15 (l : Launch) {Q : (Int32) → Prop} {mc : Int32} {size : Int32} {f : (Nat → Option Nat)} {x3 : Int32} {dC : Nat → ClassId} {dI : Nat → Nat → Nat} {dA : Nat → ClassId} {eA mi sz : Nat} {la ea : Nat} {x ci : Nat} {fs : List Value} (hO : pO ci) (hf : wJ2_add_2_15 Q size f x3) : Met l yJ2_add_2 (ws_ yJ2_add_2 cJ2_add_2 4 none) rmJ2_add_2_15 (aPv dC dI dA eA mi sz [.ref la, .ref x, .ref ea, .int x3] [(la, .inr (11, [.int mc, .ref ea, .int size])), (ea, .inl (dA 4, 15, .inr (.inr (.inr (.inr f))))), (x, .inr (ci, fs))] f) (va_Qv (fun (u : Nat × Int32) => Q u.2) (aB dC dI [(la, .inr (11, [.int mc, .ref ea, .int size])), (ea, .inl (dA 4, 15, .inr (.inr (.inr (.inr f))))), (x, .inr (ci, fs))] sz (fun (u : Nat × Int32) => [(la, .inr (11, [.int mc, .ref u.1, .int u.2])), (u.1, .inl (dA 4, 22, .inr (.inr (.inr (.inr (va_up (va_cpy f (fun _ => none) 0 0 15) (x3 : Int32).toNatClampNeg (some x))))))), (x, .inr (ci, fs))])) (va_A [(la, .inr (11, [.int mc, .ref ea, .int size])), (ea, .inl (dA 4, 15, .inr (.inr (.inr (.inr f))))), (x, .inr (ci, fs))] sz)) 1 22 (va_A [(la, .inr (11, [.int mc, .ref ea, .int size])), (ea, .inl (dA 4, 15, .inr (.inr (.inr (.inr f))))), (x, .inr (ci, fs))] sz) := by
  refine Met.ofW (cc := cJ2_add_2) (maxL := 4) (ret := none) (by decide) rfl ?_
  intro p e s m args below meth c s₁ B hml hv
  obtain ⟨rfl, hsz, hP, hK, hD0, hE, hV⟩ := hv
  subst hsz
  have hx := B.exec
  have hb := B.bytes
  have hr := B.returns
  have hts := atoms_spec (ws := (ws_ yJ2_add_2 cJ2_add_2 4 none)) B.pre
  have hts : ∀ w ∈ lw_all, w.before _ s = true := fun w h => hts w (List.mem_cons_of_mem _ h)
  have hown : s.vm.findClass RJ2 = some m.cls := findClass_of_methodNamed B.named
  have hlocks := B.notSynchronized
  have S : CallFix p m c cJ2_add_2 4 s _ lw_all RJ2 := ⟨hx, hb, hml, hown, hts⟩
  have hD := hD0.self (sz := s.heap.size)
  have hA : ∀ q : Nat, s.heap.size ≤ q → va_A [(la, .inr (11, [.int mc, .ref ea, .int size])), (ea, .inl (dA 4, 15, .inr (.inr (.inr (.inr f))))), (x, .inr (ci, fs))] s.heap.size q := fun q h => Or.inr h
  have hS : va_S (va_A [(la, .inr (11, [.int mc, .ref ea, .int size])), (ea, .inl (dA 4, 15, .inr (.inr (.inr (.inr f))))), (x, .inr (ci, fs))] s.heap.size) s.heap s.heap [] := va_S.rf
  have hl := lv_entry ([.ref la, .ref x, .ref ea, .int x3]) (n := 4) (Nat.le_of_ble_eq_true rfl)
  rw [lg_entry_eq]
  generalize (lg_sl ([.ref la, .ref x, .ref ea, .int x3]) ++ List.replicate (4 - (lg_sl ([.ref la, .ref x, .ref ea, .int x3])).length) Slot.unset).toArray = ls at hl ⊢
  replace hl : lv_has ls 4 [(0, .ref la), (1, .ref x), (2, .ref ea), (3, .int x3)] := hl
  have hret : hrJ2_add_2_15 p l e s m ([.ref la, .ref x, .ref ea, .int x3] : List Value).toArray below meth c dC dI dA (va_A [(la, .inr (11, [.int mc, .ref ea, .int size])), (ea, .inl (dA 4, 15, .inr (.inr (.inr (.inr f))))), (x, .inr (ci, fs))] s.heap.size) la ea x ci fs (MQ below (va_Qv (fun (u : Nat × Int32) => Q u.2) (aB dC dI [(la, .inr (11, [.int mc, .ref ea, .int size])), (ea, .inl (dA 4, 15, .inr (.inr (.inr (.inr f))))), (x, .inr (ci, fs))] s.heap.size (fun (u : Nat × Int32) => [(la, .inr (11, [.int mc, .ref u.1, .int u.2])), (u.1, .inl (dA 4, 22, .inr (.inr (.inr (.inr (va_up (va_cpy f (fun _ => none) 0 0 15) (x3 : Int32).toNatClampNeg (some x))))))), (x, .inr (ci, fs))])) (va_A [(la, .inr (11, [.int mc, .ref ea, .int size])), (ea, .inl (dA 4, 15, .inr (.inr (.inr (.inr f))))), (x, .inr (ci, fs))] s.heap.size)) ([.ref la, .ref x, .ref ea, .int x3] : List Value).toArray s 1 22 (va_A [(la, .inr (11, [.int mc, .ref ea, .int size])), (ea, .inl (dA 4, 15, .inr (.inr (.inr (.inr f))))), (x, .inr (ci, fs))] s.heap.size)) Q mc size f x3 := fun ra size1 H locs kc ks pc ls h1 h2 hq hP hD hS hd => W.widen (k := 1) (n := 22) h1 h2 (W.vret hx hb hr (fun t ht hW => ⟨⟨(ra, size1), rfl, hq, by subst ht; exact ⟨hP, hD⟩⟩, hS.F ht⟩) hS.2.2 hd)
  generalize hAe : va_A [(la, .inr (11, [.int mc, .ref ea, .int size])), (ea, .inl (dA 4, 15, .inr (.inr (.inr (.inr f))))), (x, .inr (ci, fs))] s.heap.size = A at hD hA hS hE hret hV ⊢
  clear hAe
  unfold wJ2_add_2_15 at hf
  refine lv_iload_n hx hb dJ2_add_2_0 rfl (lv_at hl 3 rfl) ?_
  refine lv_aload_n hx hb dJ2_add_2_1 rfl (lv_at hl 2 rfl) ?_
  refine va_alen (v := 15) hx hb hK hP 1 4 rfl rfl rfl dJ2_add_2_2 ?_
  refine lv_icmp_ne (tgt := 11) hx hb dJ2_add_2_3 (by decide) (fun c_3 => ?_) (fun c_3 => ?_)
  · replace hf := hf.2 c_3
    exact hf.elim
  · replace hf := hf.1 c_3
    refine lv_aload_n hx hb dJ2_add_2_6 rfl (lv_at hl 0 rfl) ?_
    refine aC_q (wr := [(x, .inr (ci, fs))]) hP hD hS hA [0, 1] [2] rfl rfl (by decide) (by decide) (va_runV (As := []) (rest := []) S (metJ2_grow_15 l hf) (cwV 0 hts (lw_V q157 q159 qs2 q58 q160) rfl rfl rfl ⟨rfl, pdJ2_grow⟩ ⟨Nat.le_of_ble_eq_true rfl, Nat.le_of_ble_eq_true rfl⟩) ⟨ablindV, va_recv hK hP (ci := 11) (q0 := 0) rfl rfl, (apreV hK hE hV hP hD hS hA [0, 1] rfl rfl (by decide)).2⟩ rfl rfl hl.1 rfl (lv_room (Nat.le_of_ble_eq_true rfl)) dJ2_add_2_7 ⟨Nat.le_of_ble_eq_true rfl, Nat.le_of_ble_eq_true rfl⟩) (fun r_7 u_7 H locs hf hP hD hS => ?_)
    obtain ⟨ra_7, rfl⟩ : ∃ z, z = u_7 := ⟨_, rfl⟩
    obtain ⟨er_7, hf⟩ := hf
    subst er_7
    replace hP : va_P (dC, dI) vwCl [(x, .inr (ci, fs)), (la, .inr (11, [.int mc, .ref ra_7, .int size])), (ra_7, .inl (dA 4, 22, .inr (.inr (.inr (.inr (va_cpy f (fun _ => none) 0 0 15))))))] H := hP
    replace hD : va_D A [(x, .inr (ci, fs)), (la, .inr (11, [.int mc, .ref ra_7, .int size])), (ra_7, .inl (dA 4, 22, .inr (.inr (.inr (.inr (va_cpy f (fun _ => none) 0 0 15))))))] := hD
    try dsimp only at hf
    refine W.eq (g2 := F0 m 10 ls (.ref ra_7 :: [])) rfl ?_
    refine lv_astore_n (lv' := [(2, .ref ra_7), (0, .ref la), (1, .ref x), (3, .int x3)]) hx hb dJ2_add_2_10 rfl hl (by decide) rfl (fun ls hl => ?_)
    refine lv_aload_n hx hb dJ2_add_2_11 rfl (lv_at hl 0 rfl) ?_
    refine lv_iload_n hx hb dJ2_add_2_12 rfl (lv_at hl 3 rfl) ?_
    refine lv_aload_n hx hb dJ2_add_2_13 rfl (lv_at hl 2 rfl) ?_
    obtain ⟨hin_, hf⟩ := hf
    refine va_astqM hx hb hK hP hD hS 2 4 rfl rfl (anyO hK hP 0 rfl hO hE.1) hin_ dJ2_add_2_14 (fun H locs hP hD hS => ?_)
    replace hP : va_P (dC, dI) vwCl [(x, .inr (ci, fs)), (la, .inr (11, [.int mc, .ref ra_7, .int size])), (ra_7, .inl (dA 4, 22, .inr (.inr (.inr (.inr (va_up (va_cpy f (fun _ => none) 0 0 15) (x3 : Int32).toNatClampNeg (some x)))))))] H := hP
    replace hD : va_D A [(x, .inr (ci, fs)), (la, .inr (11, [.int mc, .ref ra_7, .int size])), (ra_7, .inl (dA 4, 22, .inr (.inr (.inr (.inr (va_up (va_cpy f (fun _ => none) 0 0 15) (x3 : Int32).toNatClampNeg (some x)))))))] := hD
    refine lv_aload_n hx hb dJ2_add_2_15 rfl (lv_at hl 1 rfl) ?_
    refine lv_iload_n hx hb dJ2_add_2_16 rfl (lv_at hl 3 rfl) ?_
    refine lv_iconst (v := 1) hx hb dJ2_add_2_17 (by decide) ?_
    refine lv_iadd hx hb dJ2_add_2_18 ?_
    refine lv_topi (fun size_19 esize_19 => ?_)
    replace hf := hf size_19 esize_19
    refine va_put (D := (dC, dI)) (ci := 11) (v := .int size_19) (ty := .int) (C := RJ2) (T := TJ2) (N := 3) hx hb hts in_J2 tyJ2 tyJ2_ok nmJ2 hown hK hP hD hS 1 rfl rfl 2 (by decide) (hts _ q384) (fun _ h9 => h9) rfl (by decide +kernel) rfl rfl (Nat.le_of_ble_eq_true rfl) dJ2_add_2_19 (fun H locs hP hD hS => ?_)
    replace hP : va_P (dC, dI) vwCl [(x, .inr (ci, fs)), (la, .inr (11, [.int mc, .ref ra_7, .int size_19])), (ra_7, .inl (dA 4, 22, .inr (.inr (.inr (.inr (va_up (va_cpy f (fun _ => none) 0 0 15) (x3 : Int32).toNatClampNeg (some x)))))))] H := hP
    replace hD : va_D A [(x, .inr (ci, fs)), (la, .inr (11, [.int mc, .ref ra_7, .int size_19])), (ra_7, .inl (dA 4, 22, .inr (.inr (.inr (.inr (va_up (va_cpy f (fun _ => none) 0 0 15) (x3 : Int32).toNatClampNeg (some x)))))))] := hD
    exact hret ra_7 size_19 _ _ _ _ _ _ (Nat.le_of_ble_eq_true rfl) (Nat.le_of_ble_eq_true rfl) hf (hP.sub [1, 2, 0] rfl) (hD.sub [1, 2, 0] (by decide) rfl) hS dJ2_add_2_22
/-! java/util/ArrayList.add(Ljava/lang/Object;)Z -/
abbrev rmJ2_add_15 : Room := { frames := 6, cells := 1, slots := 22, locals := 150 }
abbrev RJ2_add_15_ : Room := (headSpec (ws_ yJ2_add cJ2_add 2 (some .boolean)) rmJ2_add_15).room
section
variable {p : Program} {l : Launch} {e : Env} {s : State} {m : MethodId} {args : Array Value} {below : List Frame} {meth : Method} {c : Code} {Qw : State → Prop} {dC : Nat → ClassId} {dI : Nat → Nat → Nat} {dA : Nat → ClassId} {eA mi : Nat} {A : Nat → Prop} {la ea : Nat} {x ci : Nat} {fs : List Value}
abbrev hrJ2_add_15 (p : Program) (l : Launch) (e : Env) (s : State) (m : MethodId) (args : Array Value) (below : List Frame) (meth : Method) (c : Code) (dC : Nat → ClassId) (dI : Nat → Nat → Nat) (dA : Nat → ClassId) (A : Nat → Prop) (la : Nat) (ea : Nat) (x : Nat) (ci : Nat) (fs : List Value) (Qw : State → Prop) (Q : Int32 → (Int32) → Prop) (mc : Int32) (size : Int32) (f : (Nat → Option Nat)) : Prop := ∀ (r : Int32) (ra : Nat) (mc1 : Int32) (size1 : Int32) (H : Heap) (locs : List Loc) (kc ks : Nat) (pc : Nat) (ls : Array Slot), kc ≤ 1 → ks ≤ 22 → bz r → Q r size1 → va_P (dC, dI) vwCl [(la, .inr (11, [.int mc1, .ref ra, .int size1])), (ra, .inl (dA 4, 22, .inr (.inr (.inr (.inr (va_up (va_cpy f (fun _ => none) 0 0 15) (size : Int32).toNatClampNeg (some x))))))), (x, .inr (ci, fs))] H → va_D A [(la, .inr (11, [.int mc1, .ref ra, .int size1])), (ra, .inl (dA 4, 22, .inr (.inr (.inr (.inr (va_up (va_cpy f (fun _ => none) 0 0 15) (size : Int32).toNatClampNeg (some x))))))), (x, .inr (ci, fs))] → va_S A s.heap H locs → decode cJ2_add pc = .ok (.ireturn, 1) → W p l e RJ2_add_15_ s m args below meth c H locs kc ks Qw (F0 m pc ls [.int r])
def wJ2_add_15 (Q : Int32 → (Int32) → Prop) (mc : Int32) (size : Int32) (f : (Nat → Option Nat)) : Prop := (∀ modCount_7 : Int32, modCount_7 = (mc + 1) → (wJ2_add_2_15 (fun size1_20 => (Q 1 size1_20)) size f size))
end
set_option maxHeartbeats 4000000 in
set_option maxRecDepth 100000 in
theorem metJ2_add_15 (l : Launch) {Q : Int32 → (Int32) → Prop} {mc : Int32} {size : Int32} {f : (Nat → Option Nat)} {dC : Nat → ClassId} {dI : Nat → Nat → Nat} {dA : Nat → ClassId} {eA mi sz : Nat} {la ea : Nat} {x ci : Nat} {fs : List Value} (hO : pO ci) (hf : wJ2_add_15 Q mc size f) : Met l yJ2_add (ws_ yJ2_add cJ2_add 2 (some .boolean)) rmJ2_add_15 (aPv dC dI dA eA mi sz [.ref la, .ref x] [(la, .inr (11, [.int mc, .ref ea, .int size])), (ea, .inl (dA 4, 15, .inr (.inr (.inr (.inr f))))), (x, .inr (ci, fs))] f) (va_Qi (fun (r : Int32) (u : Nat × Int32 × Int32) => Q r u.2.2) (aB dC dI [(la, .inr (11, [.int mc, .ref ea, .int size])), (ea, .inl (dA 4, 15, .inr (.inr (.inr (.inr f))))), (x, .inr (ci, fs))] sz (fun (u : Nat × Int32 × Int32) => [(la, .inr (11, [.int u.2.1, .ref u.1, .int u.2.2])), (u.1, .inl (dA 4, 22, .inr (.inr (.inr (.inr (va_up (va_cpy f (fun _ => none) 0 0 15) (size : Int32).toNatClampNeg (some x))))))), (x, .inr (ci, fs))])) (va_A [(la, .inr (11, [.int mc, .ref ea, .int size])), (ea, .inl (dA 4, 15, .inr (.inr (.inr (.inr f))))), (x, .inr (ci, fs))] sz)) 1 22 (va_A [(la, .inr (11, [.int mc, .ref ea, .int size])), (ea, .inl (dA 4, 15, .inr (.inr (.inr (.inr f))))), (x, .inr (ci, fs))] sz) := by
  refine Met.ofW (cc := cJ2_add) (maxL := 2) (ret := (some .boolean)) (by decide) rfl ?_
  intro p e s m args below meth c s₁ B hml hv
  obtain ⟨rfl, hsz, hP, hK, hD0, hE, hV⟩ := hv
  subst hsz
  have hx := B.exec
  have hb := B.bytes
  have hr := B.returns
  have hts := atoms_spec (ws := (ws_ yJ2_add cJ2_add 2 (some .boolean))) B.pre
  have hts : ∀ w ∈ lw_all, w.before _ s = true := fun w h => hts w (List.mem_cons_of_mem _ h)
  have hown : s.vm.findClass RJ2 = some m.cls := findClass_of_methodNamed B.named
  have hlocks := B.notSynchronized
  have S : CallFix p m c cJ2_add 2 s _ lw_all RJ2 := ⟨hx, hb, hml, hown, hts⟩
  have hD := hD0.self (sz := s.heap.size)
  have hA : ∀ q : Nat, s.heap.size ≤ q → va_A [(la, .inr (11, [.int mc, .ref ea, .int size])), (ea, .inl (dA 4, 15, .inr (.inr (.inr (.inr f))))), (x, .inr (ci, fs))] s.heap.size q := fun q h => Or.inr h
  have hS : va_S (va_A [(la, .inr (11, [.int mc, .ref ea, .int size])), (ea, .inl (dA 4, 15, .inr (.inr (.inr (.inr f))))), (x, .inr (ci, fs))] s.heap.size) s.heap s.heap [] := va_S.rf
  have hl := lv_entry ([.ref la, .ref x]) (n := 2) (Nat.le_of_ble_eq_true rfl)
  rw [lg_entry_eq]
  generalize (lg_sl ([.ref la, .ref x]) ++ List.replicate (2 - (lg_sl ([.ref la, .ref x])).length) Slot.unset).toArray = ls at hl ⊢
  replace hl : lv_has ls 2 [(0, .ref la), (1, .ref x)] := hl
  have hret : hrJ2_add_15 p l e s m ([.ref la, .ref x] : List Value).toArray below meth c dC dI dA (va_A [(la, .inr (11, [.int mc, .ref ea, .int size])), (ea, .inl (dA 4, 15, .inr (.inr (.inr (.inr f))))), (x, .inr (ci, fs))] s.heap.size) la ea x ci fs (MQ below (va_Qi (fun (r : Int32) (u : Nat × Int32 × Int32) => Q r u.2.2) (aB dC dI [(la, .inr (11, [.int mc, .ref ea, .int size])), (ea, .inl (dA 4, 15, .inr (.inr (.inr (.inr f))))), (x, .inr (ci, fs))] s.heap.size (fun (u : Nat × Int32 × Int32) => [(la, .inr (11, [.int u.2.1, .ref u.1, .int u.2.2])), (u.1, .inl (dA 4, 22, .inr (.inr (.inr (.inr (va_up (va_cpy f (fun _ => none) 0 0 15) (size : Int32).toNatClampNeg (some x))))))), (x, .inr (ci, fs))])) (va_A [(la, .inr (11, [.int mc, .ref ea, .int size])), (ea, .inl (dA 4, 15, .inr (.inr (.inr (.inr f))))), (x, .inr (ci, fs))] s.heap.size)) ([.ref la, .ref x] : List Value).toArray s 1 22 (va_A [(la, .inr (11, [.int mc, .ref ea, .int size])), (ea, .inl (dA 4, 15, .inr (.inr (.inr (.inr f))))), (x, .inr (ci, fs))] s.heap.size)) Q mc size f := fun r ra mc1 size1 H locs kc ks pc ls h1 h2 hz hq hP hD hS hd => W.widen (k := 1) (n := 22) h1 h2 (W.zret hx hb hr hz.1 (fun t ht hW => ⟨⟨r, (ra, mc1, size1), rfl, hq, by subst ht; exact ⟨hP, hD⟩⟩, hS.F ht⟩) hS.2.2 hd)
  generalize hAe : va_A [(la, .inr (11, [.int mc, .ref ea, .int size])), (ea, .inl (dA 4, 15, .inr (.inr (.inr (.inr f))))), (x, .inr (ci, fs))] s.heap.size = A at hD hA hS hE hret hV ⊢
  clear hAe
  unfold wJ2_add_15 at hf
  refine lv_aload_n hx hb dJ2_add_0 rfl (lv_at hl 0 rfl) ?_
  refine lv_dup hx hb dJ2_add_1 rfl ?_
  refine va_get (D := (dC, dI)) (ci := 11) (v := .int mc) (C := RJ2) (T := TJ2) (N := 3) hx hb hts in_J2 hown hK hP 0 rfl rfl 0 (by decide) (hts _ q386) (fun x9 h9 => u_same (hts _ q387) x9 h9) rfl dJ2_add_2 ?_
  refine lv_iconst (v := 1) hx hb dJ2_add_5 (by decide) ?_
  refine lv_iadd hx hb dJ2_add_6 ?_
  refine lv_topi (fun modCount_7 emodCount_7 => ?_)
  replace hf := hf modCount_7 emodCount_7
  refine va_put (D := (dC, dI)) (ci := 11) (v := .int modCount_7) (ty := .int) (C := RJ2) (T := TJ2) (N := 3) hx hb hts in_J2 tyJ2 tyJ2_ok nmJ2 hown hK hP hD hS 0 rfl rfl 0 (by decide) (hts _ q386) (fun x9 h9 => u_same (hts _ q387) x9 h9) rfl (by decide +kernel) rfl rfl (Nat.le_of_ble_eq_true rfl) dJ2_add_7 (fun H locs hP hD hS => ?_)
  replace hP : va_P (dC, dI) vwCl [(la, .inr (11, [.int modCount_7, .ref ea, .int size])), (ea, .inl (dA 4, 15, .inr (.inr (.inr (.inr f))))), (x, .inr (ci, fs))] H := hP
  replace hD : va_D A [(la, .inr (11, [.int modCount_7, .ref ea, .int size])), (ea, .inl (dA 4, 15, .inr (.inr (.inr (.inr f))))), (x, .inr (ci, fs))] := hD
  refine lv_aload_n hx hb dJ2_add_10 rfl (lv_at hl 0 rfl) ?_
  refine lv_aload_n hx hb dJ2_add_11 rfl (lv_at hl 1 rfl) ?_
  refine lv_aload_n hx hb dJ2_add_12 rfl (lv_at hl 0 rfl) ?_
  refine va_get (D := (dC, dI)) (ci := 11) (v := .ref ea) (C := RJ2) (T := TJ2) (N := 3) hx hb hts in_J2 hown hK hP 0 rfl rfl 1 (by decide) (hts _ q383) (fun _ h9 => h9) rfl dJ2_add_13 ?_
  refine lv_aload_n hx hb dJ2_add_16 rfl (lv_at hl 0 rfl) ?_
  refine va_get (D := (dC, dI)) (ci := 11) (v := .int size) (C := RJ2) (T := TJ2) (N := 3) hx hb hts in_J2 hown hK hP 0 rfl rfl 2 (by decide) (hts _ q384) (fun _ h9 => h9) rfl dJ2_add_17 ?_
  refine aC_v (wr := []) hP hD hS hA [0, 1, 2] [] rfl rfl (by decide) (by decide) (va_runV (As := [.ref x, .ref ea, .int size]) (rest := []) S (metJ2_add_2_15 l hO hf) (cwV 3 hts (lw_V q153 q155 qs1 q58 q156) rfl rfl rfl ⟨rfl, pdJ2_add_2⟩ ⟨Nat.le_of_ble_eq_true rfl, Nat.le_of_ble_eq_true rfl⟩) ⟨ablindV, va_recv hK hP (ci := 11) (q0 := 0) rfl rfl, (apreV hK hE hV hP hD hS hA [0, 1, 2] rfl rfl (by decide)).2⟩ rfl rfl hl.1 rfl (lv_room (Nat.le_of_ble_eq_true rfl)) dJ2_add_20 ⟨Nat.le_of_ble_eq_true rfl, Nat.le_of_ble_eq_true rfl⟩) (fun u_20 H locs hf hP hD hS => ?_)
  obtain ⟨ra_20, size1_20⟩ := u_20
  replace hP : va_P (dC, dI) vwCl [(la, .inr (11, [.int modCount_7, .ref ra_20, .int size1_20])), (ra_20, .inl (dA 4, 22, .inr (.inr (.inr (.inr (va_up (va_cpy f (fun _ => none) 0 0 15) (size : Int32).toNatClampNeg (some x))))))), (x, .inr (ci, fs))] H := hP
  replace hD : va_D A [(la, .inr (11, [.int modCount_7, .ref ra_20, .int size1_20])), (ra_20, .inl (dA 4, 22, .inr (.inr (.inr (.inr (va_up (va_cpy f (fun _ => none) 0 0 15) (size : Int32).toNatClampNeg (some x))))))), (x, .inr (ci, fs))] := hD
  try dsimp only at hf
  refine lv_iconst (v := 1) hx hb dJ2_add_23 (by decide) ?_
  exact hret _ ra_20 modCount_7 size1_20 _ _ _ _ _ _ (Nat.le_of_ble_eq_true rfl) (Nat.le_of_ble_eq_true rfl) bz1 hf (hP.sub [0, 1, 2] rfl) (hD.sub [0, 1, 2] (by decide) rfl) hS dJ2_add_24
