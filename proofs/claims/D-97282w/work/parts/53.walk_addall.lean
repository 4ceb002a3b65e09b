/-! A CALL BY AN INTERFACE -/
section AF
variable {p : Program} {l : Launch} {e : Env} {R : Room} {s : State} {m : MethodId} {args : Array Value} {below : List Frame} {meth : Method} {c : Code} {H : Heap} {locs : List Loc} {kc ks : Nat} {Q : State → Prop}
variable {cc : ByteArray} {pc nL : Nat} {ls : Array Slot} {rest st0 : List Value} {dC : Nat → ClassId} {dI : Nat → Nat → Nat} {dA : Nat → ClassId} {eA mi : Nat} {A : Nat → Prop}
variable {mc ms : Nat} {As : List Value} {w0 ws wc wr : va_W} {sz : Nat} {a : Array Value}
theorem aF_q {Y : Type} {post : Option Nat → Y → Prop} {w1 : Y → va_W} (hP : va_P (dC, dI) vwCl ws H) (hD : va_D A ws) (hS : va_S A s.heap H locs) (hA : ∀ q, s.heap.size ≤ q → A q) (isC isR : List Nat) (hC : isC.map (fun i => ws[i]?) = wc.map some) (hR : isR.map (fun i => ws[i]?) = wr.map some) (hn : va_nd isR = true) (hdis : ∀ i ∈ isR, i ∉ isC)
    (hr : va_Run5 p l e R s m args below meth c H locs kc ks mc ms (F0 m pc ls st0) rest (va_Qq post (aB dC dI wc H.size w1) (va_A wc H.size) a) (va_A wc H.size))
    (kk : ∀ (r : Option Nat) (u : Y) (H1 : Heap) (locs1 : List Loc), post r u → va_P (dC, dI) vwCl (wr ++ w1 u) H1 → va_D A (wr ++ w1 u) → va_S A s.heap H1 locs1 → W p l e R s m args below meth c H1 locs1 (kc + mc) (ks + ms) Q (F0 m (pc + 5) ls (va_rf r :: rest))) : W p l e R s m args below meth c H locs kc ks Q (F0 m pc ls st0) :=
  va_callFq hr hS (fun q _ h => va_free hD hS hA isC hC q h) (va_free hD hS hA isC hC) (fun r u t H1 locs1 ht hvm hp hB hz hk hS1 => by
    obtain ⟨hP2, hD2⟩ := va_join hP hD isC isR hC hR hn hdis hk (va_free hD hS hA isC hC) (by rw [← ht]; exact hB.1) hB.2
    exact kk r u H1 locs1 hp hP2 hD2 hS1)
theorem lw_F {own : String} {idx : Nat} {C : String} {x y : MethodName} {b : ByteArray} {L : Nat} {r : Option FieldType} (h1 : Cond.methodLink own idx x ∈ lw_all) (h2 : Cond.selects C x y ∈ lw_all) (h3 : Cond.instanceMethod y ∈ lw_all) (h4 : Cond.initialized y.cls ∈ lw_all) (h5 : Cond.code y b L r ∈ lw_all) : GoodIn lw_all (va_wsF own idx C x y (ws_ y b L r)) := by
  refine lw_app ?_ (lw_meth h5)
  intro w hw
  simp only [List.mem_cons, List.not_mem_nil, or_false] at hw
  rcases hw with e | e | e | e
  · rw [e]; exact h1
  · rw [e]; exact h2
  · rw [e]; exact h3
  · rw [e]; exact h4
end AF
theorem pdCol : DscOk yCol 0 := by decide +kernel
theorem VE.cpy {A : Nat → Prop} {f : Nat → Option Nat} {s : State} {H : Heap} {locs : List Loc} (hV : VE A f s s.heap) (hS : va_S A s.heap H locs) {a b n j y : Nat} (hy : va_cpy f (fun _ => none) a b n j = some y) : va_Any "java/lang/Object" s H y := by
  unfold va_cpy at hy
  split at hy
  · exact hV.now hS hy
  · exact absurd hy (by simp)
/-! java/util/ArrayList.toArray()[Ljava/lang/Object; -/
theorem pdJ2_toArray : DscOk yJ2_toArray 0 := by decide +kernel
abbrev rmJ2_toArray_n : Room := { frames := 3, cells := 1, slots := 10, locals := 84 }
abbrev RJ2_toArray_n_ : Room := (headSpec (ws_ yJ2_toArray cJ2_toArray 1 (some (.array (.object "java/lang/Object")))) rmJ2_toArray_n).room
section
variable {p : Program} {l : Launch} {e : Env} {s : State} {m : MethodId} {args : Array Value} {below : List Frame} {meth : Method} {c : Code} {Qw : State → Prop} {dC : Nat → ClassId} {dI : Nat → Nat → Nat} {dA : Nat → ClassId} {eA mi : Nat} {A : Nat → Prop} {la ea : Nat}
abbrev hrJ2_toArray_n (p : Program) (l : Launch) (e : Env) (s : State) (m : MethodId) (args : Array Value) (below : List Frame) (meth : Method) (c : Code) (dC : Nat → ClassId) (dI : Nat → Nat → Nat) (dA : Nat → ClassId) (A : Nat → Prop) (la : Nat) (ea : Nat) (Qw : State → Prop) (Q : (Nat) → Prop) (mc : Int32) (size : Int32) (f : (Nat → Option Nat)) : Prop := ∀ (ra : Nat) (nn : Nat) (H : Heap) (locs : List Loc) (kc ks : Nat) (pc : Nat) (ls : Array Slot), kc ≤ 1 → ks ≤ 10 → Q nn → va_P (dC, dI) vwCl [(la, .inr (11, [.int mc, .ref ea, .int size])), (ea, .inl (dA 4, 10, .inr (.inr (.inr (.inr f))))), (ra, .inl (dA 4, nn, .inr (.inr (.inr (.inr (va_cpy f (fun _ => none) (0 : Int32).toNatClampNeg (0 : Int32).toNatClampNeg ((if size < 10 then size else 10) : Int32).toNatClampNeg))))))] H → va_D A [(la, .inr (11, [.int mc, .ref ea, .int size])), (ea, .inl (dA 4, 10, .inr (.inr (.inr (.inr f))))), (ra, .inl (dA 4, nn, .inr (.inr (.inr (.inr (va_cpy f (fun _ => none) (0 : Int32).toNatClampNeg (0 : Int32).toNatClampNeg ((if size < 10 then size else 10) : Int32).toNatClampNeg))))))] → va_S A s.heap H locs → decode cJ2_toArray pc = .ok (.areturn, 1) → W p l e RJ2_toArray_n_ s m args below meth c H locs kc ks Qw (F0 m pc ls [.ref ra])
def wJ2_toArray_n (Q : (Nat) → Prop) (size : Int32) (f : (Nat → Option Nat)) : Prop := (wJ7_copyOf_n (fun nn_8 => (Q nn_8)) f size)
end
set_option maxHeartbeats 4000000 in
set_option maxRecDepth 100000 in
theorem metJ2_toArray_n (l : Launch) {Q : (Nat) → Prop} {mc : Int32} {size : Int32} {f : (Nat → Option Nat)} {dC : Nat → ClassId} {dI : Nat → Nat → Nat} {dA : Nat → ClassId} {eA mi sz : Nat} {la ea : Nat} (hf : wJ2_toArray_n Q size f) : Met l yJ2_toArray (ws_ yJ2_toArray cJ2_toArray 1 (some (.array (.object "java/lang/Object")))) rmJ2_toArray_n (aPv dC dI dA eA mi sz [.ref la] [(la, .inr (11, [.int mc, .ref ea, .int size])), (ea, .inl (dA 4, 10, .inr (.inr (.inr (.inr f)))))] f) (va_Qq (fun (r : Option Nat) (u : Nat × Nat) => r = some u.1 ∧ Q u.2) (aB dC dI [(la, .inr (11, [.int mc, .ref ea, .int size])), (ea, .inl (dA 4, 10, .inr (.inr (.inr (.inr f)))))] sz (fun (u : Nat × Nat) => [(la, .inr (11, [.int mc, .ref ea, .int size])), (ea, .inl (dA 4, 10, .inr (.inr (.inr (.inr f))))), (u.1, .inl (dA 4, u.2, .inr (.inr (.inr (.inr (va_cpy f (fun _ => none) (0 : Int32).toNatClampNeg (0 : Int32).toNatClampNeg ((if size < 10 then size else 10) : Int32).toNatClampNeg))))))])) (va_A [(la, .inr (11, [.int mc, .ref ea, .int size])), (ea, .inl (dA 4, 10, .inr (.inr (.inr (.inr f)))))] sz)) 1 10 (va_A [(la, .inr (11, [.int mc, .ref ea, .int size])), (ea, .inl (dA 4, 10, .inr (.inr (.inr (.inr f)))))] sz) := by
  refine Met.ofW (cc := cJ2_toArray) (maxL := 1) (ret := (some (.array (.object "java/lang/Object")))) (by decide) rfl ?_
  intro p e s m args below meth c s₁ B hml hv
  obtain ⟨rfl, hsz, hP, hK, hD0, hE, hV⟩ := hv
  subst hsz
  have hx := B.exec
  have hb := B.bytes
  have hr := B.returns
  have hts := atoms_spec (ws := (ws_ yJ2_toArray cJ2_toArray 1 (some (.array (.object "java/lang/Object"))))) B.pre
  have hts : ∀ w ∈ lw_all, w.before _ s = true := fun w h => hts w (List.mem_cons_of_mem _ h)
  have hown : s.vm.findClass RJ2 = some m.cls := findClass_of_methodNamed B.named
  have hlocks := B.notSynchronized
  have S : CallFix p m c cJ2_toArray 1 s _ lw_all RJ2 := ⟨hx, hb, hml, hown, hts⟩
  have hD := hD0.self (sz := s.heap.size)
  have hA : ∀ q : Nat, s.heap.size ≤ q → va_A [(la, .inr (11, [.int mc, .ref ea, .int size])), (ea, .inl (dA 4, 10, .inr (.inr (.inr (.inr f)))))] s.heap.size q := fun q h => Or.inr h
  have hS : va_S (va_A [(la, .inr (11, [.int mc, .ref ea, .int size])), (ea, .inl (dA 4, 10, .inr (.inr (.inr (.inr f)))))] s.heap.size) s.heap s.heap [] := va_S.rf
  have hl := lv_entry ([.ref la]) (n := 1) (Nat.le_of_ble_eq_true rfl)
  rw [lg_entry_eq]
  generalize (lg_sl ([.ref la]) ++ List.replicate (1 - (lg_sl ([.ref la])).length) Slot.unset).toArray = ls at hl ⊢
  replace hl : lv_has ls 1 [(0, .ref la)] := hl
  have hret : hrJ2_toArray_n p l e s m ([.ref la] : List Value).toArray below meth c dC dI dA (va_A [(la, .inr (11, [.int mc, .ref ea, .int size])), (ea, .inl (dA 4, 10, .inr (.inr (.inr (.inr f)))))] s.heap.size) la ea (MQ below (va_Qq (fun (r : Option Nat) (u : Nat × Nat) => r = some u.1 ∧ Q u.2) (aB dC dI [(la, .inr (11, [.int mc, .ref ea, .int size])), (ea, .inl (dA 4, 10, .inr (.inr (.inr (.inr f)))))] s.heap.size (fun (u : Nat × Nat) => [(la, .inr (11, [.int mc, .ref ea, .int size])), (ea, .inl (dA 4, 10, .inr (.inr (.inr (.inr f))))), (u.1, .inl (dA 4, u.2, .inr (.inr (.inr (.inr (va_cpy f (fun _ => none) (0 : Int32).toNatClampNeg (0 : Int32).toNatClampNeg ((if size < 10 then size else 10) : Int32).toNatClampNeg))))))])) (va_A [(la, .inr (11, [.int mc, .ref ea, .int size])), (ea, .inl (dA 4, 10, .inr (.inr (.inr (.inr f)))))] s.heap.size)) ([.ref la] : List Value).toArray s 1 10 (va_A [(la, .inr (11, [.int mc, .ref ea, .int size])), (ea, .inl (dA 4, 10, .inr (.inr (.inr (.inr f)))))] s.heap.size)) Q mc size f := fun ra nn H locs kc ks pc ls h1 h2 hq hP hD hS hd => W.widen (k := 1) (n := 10) h1 h2 (W.aret hx hb hr (Or.inr ⟨_, rfl⟩) (Or.inr ⟨_, rfl⟩) (fun t ht hW => ⟨⟨some ra, (ra, nn), rfl, ⟨rfl, hq⟩, by subst ht; exact ⟨hP, hD⟩⟩, hS.F ht⟩) hS.2.2 hd)
  generalize hAe : va_A [(la, .inr (11, [.int mc, .ref ea, .int size])), (ea, .inl (dA 4, 10, .inr (.inr (.inr (.inr f)))))] s.heap.size = A at hD hA hS hE hret hV ⊢
  clear hAe
  unfold wJ2_toArray_n at hf
  refine lv_aload_n hx hb dJ2_toArray_0 rfl (lv_at hl 0 rfl) ?_
  refine va_get (D := (dC, dI)) (ci := 11) (v := .ref ea) (C := RJ2) (T := TJ2) (N := 3) hx hb hts in_J2 hown hK hP 0 rfl rfl 1 (by decide) (hts _ q383) (fun _ h9 => h9) rfl dJ2_toArray_1 ?_
  refine lv_aload_n hx hb dJ2_toArray_4 rfl (lv_at hl 0 rfl) ?_
  refine va_get (D := (dC, dI)) (ci := 11) (v := .int size) (C := RJ2) (T := TJ2) (N := 3) hx hb hts in_J2 hown hK hP 0 rfl rfl 2 (by decide) (hts _ q384) (fun _ h9 => h9) rfl dJ2_toArray_5 ?_
  refine aC_q (wr := [(la, .inr (11, [.int mc, .ref ea, .int size]))]) hP hD hS hA [1] [0] rfl rfl (by decide) (by decide) (va_runS (As := [.ref ea, .int size]) (rest := []) S (metJ7_copyOf_n l hf) (va_cwS 2 hts (lw_S q177 q178 q67 q179) rfl rfl rfl pdJ7_copyOf ⟨Nat.le_of_ble_eq_true rfl, Nat.le_of_ble_eq_true rfl⟩) (apreV hK hE hV hP hD hS hA [1] rfl rfl (by decide)) rfl rfl hl.1 rfl (lv_room (Nat.le_of_ble_eq_true rfl)) dJ2_toArray_8 ⟨Nat.le_of_ble_eq_true rfl, Nat.le_of_ble_eq_true rfl⟩) (fun r_8 u_8 H locs hf hP hD hS => ?_)
  obtain ⟨ra_8, nn_8⟩ := u_8
  obtain ⟨er_8, hf⟩ := hf
  subst er_8
  replace hP : va_P (dC, dI) vwCl [(la, .inr (11, [.int mc, .ref ea, .int size])), (ea, .inl (dA 4, 10, .inr (.inr (.inr (.inr f))))), (ra_8, .inl (dA 4, nn_8, .inr (.inr (.inr (.inr (va_cpy f (fun _ => none) (0 : Int32).toNatClampNeg (0 : Int32).toNatClampNeg ((if size < 10 then size else 10) : Int32).toNatClampNeg))))))] H := hP
  replace hD : va_D A [(la, .inr (11, [.int mc, .ref ea, .int size])), (ea, .inl (dA 4, 10, .inr (.inr (.inr (.inr f))))), (ra_8, .inl (dA 4, nn_8, .inr (.inr (.inr (.inr (va_cpy f (fun _ => none) (0 : Int32).toNatClampNeg (0 : Int32).toNatClampNeg ((if size < 10 then size else 10) : Int32).toNatClampNeg))))))] := hD
  try dsimp only at hf
  refine W.eq (g2 := F0 m 11 ls (.ref ra_8 :: [])) rfl ?_
  exact hret ra_8 nn_8 _ _ _ _ _ _ (Nat.le_of_ble_eq_true rfl) (Nat.le_of_ble_eq_true rfl) hf (hP.sub [0, 1, 2] rfl) (hD.sub [0, 1, 2] (by decide) rfl) hS dJ2_toArray_11
/-! java/util/ArrayList.toArray()[Ljava/lang/Object; -/
abbrev rmJ2_toArray_z : Room := { frames := 3, cells := 1, slots := 0, locals := 84 }
abbrev RJ2_toArray_z_ : Room := (headSpec (ws_ yJ2_toArray cJ2_toArray 1 (some (.array (.object "java/lang/Object")))) rmJ2_toArray_z).room
section
variable {p : Program} {l : Launch} {e : Env} {s : State} {m : MethodId} {args : Array Value} {below : List Frame} {meth : Method} {c : Code} {Qw : State → Prop} {dC : Nat → ClassId} {dI : Nat → Nat → Nat} {dA : Nat → ClassId} {eA mi : Nat} {A : Nat → Prop} {la : Nat}
abbrev hrJ2_toArray_z (p : Program) (l : Launch) (e : Env) (s : State) (m : MethodId) (args : Array Value) (below : List Frame) (meth : Method) (c : Code) (dC : Nat → ClassId) (dI : Nat → Nat → Nat) (dA : Nat → ClassId) (A : Nat → Prop) (la : Nat) (Qw : State → Prop) (Q : Prop) (mc : Int32) (size : Int32) : Prop := ∀ (ra : Nat) (H : Heap) (locs : List Loc) (kc ks : Nat) (pc : Nat) (ls : Array Slot), kc ≤ 1 → ks ≤ 0 → Q → va_P (dC, dI) vwCl [(la, .inr (11, [.int mc, .ref eA, .int size])), (ra, .inl (dA 4, 0, .inr (.inr (.inr (.inr (va_cpy (fun _ => none) (fun _ => none) (0 : Int32).toNatClampNeg (0 : Int32).toNatClampNeg ((if size < 0 then size else 0) : Int32).toNatClampNeg))))))] H → va_D A [(la, .inr (11, [.int mc, .ref eA, .int size])), (ra, .inl (dA 4, 0, .inr (.inr (.inr (.inr (va_cpy (fun _ => none) (fun _ => none) (0 : Int32).toNatClampNeg (0 : Int32).toNatClampNeg ((if size < 0 then size else 0) : Int32).toNatClampNeg))))))] → va_S A s.heap H locs → decode cJ2_toArray pc = .ok (.areturn, 1) → W p l e RJ2_toArray_z_ s m args below meth c H locs kc ks Qw (F0 m pc ls [.ref ra])
def wJ2_toArray_z (Q : Prop) (size : Int32) : Prop := (wJ7_copyOf_z Q size)
end
set_option maxHeartbeats 4000000 in
set_option maxRecDepth 100000 in
theorem metJ2_toArray_z (l : Launch) {Q : Prop} {mc : Int32} {size : Int32} {dC : Nat → ClassId} {dI : Nat → Nat → Nat} {dA : Nat → ClassId} {eA mi sz : Nat} {la : Nat} (hf : wJ2_toArray_z Q size) : Met l yJ2_toArray (ws_ yJ2_toArray cJ2_toArray 1 (some (.array (.object "java/lang/Object")))) rmJ2_toArray_z (aPc dC dI dA eA mi sz [.ref la] [(la, .inr (11, [.int mc, .ref eA, .int size]))]) (va_Qq (fun (r : Option Nat) (u : Nat) => r = some u ∧ Q) (aB dC dI [(la, .inr (11, [.int mc, .ref eA, .int size]))] sz (fun (u : Nat) => [(la, .inr (11, [.int mc, .ref eA, .int size])), (u, .inl (dA 4, 0, .inr (.inr (.inr (.inr (va_cpy (fun _ => none) (fun _ => none) (0 : Int32).toNatClampNeg (0 : Int32).toNatClampNeg ((if size < 0 then size else 0) : Int32).toNatClampNeg))))))])) (va_A [(la, .inr (11, [.int mc, .ref eA, .int size]))] sz)) 1 0 (va_A [(la, .inr (11, [.int mc, .ref eA, .int size]))] sz) := by
  refine Met.ofW (cc := cJ2_toArray) (maxL := 1) (ret := (some (.array (.object "java/lang/Object")))) (by decide) rfl ?_
  intro p e s m args below meth c s₁ B hml hv
  obtain ⟨rfl, hsz, hP, hK, hD0, hE⟩ := hv
  subst hsz
  have hx := B.exec
  have hb := B.bytes
  have hr := B.returns
  have hts := atoms_spec (ws := (ws_ yJ2_toArray cJ2_toArray 1 (some (.array (.object "java/lang/Object"))))) B.pre
  have hts : ∀ w ∈ lw_all, w.before _ s = true := fun w h => hts w (List.mem_cons_of_mem _ h)
  have hown : s.vm.findClass RJ2 = some m.cls := findClass_of_methodNamed B.named
  have hlocks := B.notSynchronized
  have S : CallFix p m c cJ2_toArray 1 s _ lw_all RJ2 := ⟨hx, hb, hml, hown, hts⟩
  have hD := hD0.self (sz := s.heap.size)
  have hA : ∀ q : Nat, s.heap.size ≤ q → va_A [(la, .inr (11, [.int mc, .ref eA, .int size]))] s.heap.size q := fun q h => Or.inr h
  have hS : va_S (va_A [(la, .inr (11, [.int mc, .ref eA, .int size]))] s.heap.size) s.heap s.heap [] := va_S.rf
  have hl := lv_entry ([.ref la]) (n := 1) (Nat.le_of_ble_eq_true rfl)
  rw [lg_entry_eq]
  generalize (lg_sl ([.ref la]) ++ List.replicate (1 - (lg_sl ([.ref la])).length) Slot.unset).toArray = ls at hl ⊢
  replace hl : lv_has ls 1 [(0, .ref la)] := hl
  have hret : hrJ2_toArray_z p l e s m ([.ref la] : List Value).toArray below meth c dC dI dA (va_A [(la, .inr (11, [.int mc, .ref eA, .int size]))] s.heap.size) la (MQ below (va_Qq (fun (r : Option Nat) (u : Nat) => r = some u ∧ Q) (aB dC dI [(la, .inr (11, [.int mc, .ref eA, .int size]))] s.heap.size (fun (u : Nat) => [(la, .inr (11, [.int mc, .ref eA, .int size])), (u, .inl (dA 4, 0, .inr (.inr (.inr (.inr (va_cpy (fun _ => none) (fun _ => none) (0 : Int32).toNatClampNeg (0 : Int32).toNatClampNeg ((if size < 0 then size else 0) : Int32).toNatClampNeg))))))])) (va_A [(la, .inr (11, [.int mc, .ref eA, .int size]))] s.heap.size)) ([.ref la] : List Value).toArray s 1 0 (va_A [(la, .inr (11, [.int mc, .ref eA, .int size]))] s.heap.size)) Q mc size := fun ra H locs kc ks pc ls h1 h2 hq hP hD hS hd => W.widen (k := 1) (n := 0) h1 h2 (W.aret hx hb hr (Or.inr ⟨_, rfl⟩) (Or.inr ⟨_, rfl⟩) (fun t ht hW => ⟨⟨some ra, ra, rfl, ⟨rfl, hq⟩, by subst ht; exact ⟨hP, hD⟩⟩, hS.F ht⟩) hS.2.2 hd)
  generalize hAe : va_A [(la, .inr (11, [.int mc, .ref eA, .int size]))] s.heap.size = A at hD hA hS hE hret ⊢
  clear hAe
  unfold wJ2_toArray_z at hf
  refine lv_aload_n hx hb dJ2_toArray_0 rfl (lv_at hl 0 rfl) ?_
  refine va_get (D := (dC, dI)) (ci := 11) (v := .ref eA) (C := RJ2) (T := TJ2) (N := 3) hx hb hts in_J2 hown hK hP 0 rfl rfl 1 (by decide) (hts _ q383) (fun _ h9 => h9) rfl dJ2_toArray_1 ?_
  refine lv_aload_n hx hb dJ2_toArray_4 rfl (lv_at hl 0 rfl) ?_
  refine va_get (D := (dC, dI)) (ci := 11) (v := .int size) (C := RJ2) (T := TJ2) (N := 3) hx hb hts in_J2 hown hK hP 0 rfl rfl 2 (by decide) (hts _ q384) (fun _ h9 => h9) rfl dJ2_toArray_5 ?_
  refine aC_q (wr := [(la, .inr (11, [.int mc, .ref eA, .int size]))]) hP hD hS hA [] [0] rfl rfl (by decide) (by decide) (va_runS (As := [.ref eA, .int size]) (rest := []) S (metJ7_copyOf_z l hf) (va_cwS 2 hts (lw_S q177 q178 q67 q179) rfl rfl rfl pdJ7_copyOf ⟨Nat.le_of_ble_eq_true rfl, Nat.le_of_ble_eq_true rfl⟩) (apreS hK hE hP hD hS hA [] rfl rfl (by decide)) rfl rfl hl.1 rfl (lv_room (Nat.le_of_ble_eq_true rfl)) dJ2_toArray_8 ⟨Nat.le_of_ble_eq_true rfl, Nat.le_of_ble_eq_true rfl⟩) (fun r_8 u_8 H locs hf hP hD hS => ?_)
  obtain ⟨ra_8, rfl⟩ : ∃ z, z = u_8 := ⟨_, rfl⟩
  obtain ⟨er_8, hf⟩ := hf
  subst er_8
  replace hP : va_P (dC, dI) vwCl [(la, .inr (11, [.int mc, .ref eA, .int size])), (ra_8, .inl (dA 4, 0, .inr (.inr (.inr (.inr (va_cpy (fun _ => none) (fun _ => none) (0 : Int32).toNatClampNeg (0 : Int32).toNatClampNeg ((if size < 0 then size else 0) : Int32).toNatClampNeg))))))] H := hP
  replace hD : va_D A [(la, .inr (11, [.int mc, .ref eA, .int size])), (ra_8, .inl (dA 4, 0, .inr (.inr (.inr (.inr (va_cpy (fun _ => none) (fun _ => none) (0 : Int32).toNatClampNeg (0 : Int32).toNatClampNeg ((if size < 0 then size else 0) : Int32).toNatClampNeg))))))] := hD
  try dsimp only at hf
  refine W.eq (g2 := F0 m 11 ls (.ref ra_8 :: [])) rfl ?_
  exact hret ra_8 _ _ _ _ _ _ (Nat.le_of_ble_eq_true rfl) (Nat.le_of_ble_eq_true rfl) hf (hP.sub [0, 1] rfl) (hD.sub [0, 1] (by decide) rfl) hS dJ2_toArray_11
/-! java/util/ArrayList.addAll(Ljava/util/Collection;)Z -/
theorem pdJ2_addAll : DscOk yJ2_addAll 1 := by decide +kernel
abbrev rmJ2_addAll_zz : Room := { frames := 4, cells := 1, slots := 0, locals := 104 }
abbrev RJ2_addAll_zz_ : Room := (headSpec (ws_ yJ2_addAll cJ2_addAll 6 (some .boolean)) rmJ2_addAll_zz).room
section
variable {p : Program} {l : Launch} {e : Env} {s : State} {m : MethodId} {args : Array Value} {below : List Frame} {meth : Method} {c : Code} {Qw : State → Prop} {dC : Nat → ClassId} {dI : Nat → Nat → Nat} {dA : Nat → ClassId} {eA mi : Nat} {A : Nat → Prop} {la ea : Nat} {lb : Nat}
abbrev hrJ2_addAll_zz (p : Program) (l : Launch) (e : Env) (s : State) (m : MethodId) (args : Array Value) (below : List Frame) (meth : Method) (c : Code) (dC : Nat → ClassId) (dI : Nat → Nat → Nat) (dA : Nat → ClassId) (A : Nat → Prop) (la : Nat) (ea : Nat) (lb : Nat) (Qw : State → Prop) (Q : Int32 → (Int32) → Prop) (size : Int32) (mc2 : Int32) (size2 : Int32) : Prop := ∀ (r : Int32) (mc : Int32) (H : Heap) (locs : List Loc) (kc ks : Nat) (pc : Nat) (ls : Array Slot), kc ≤ 1 → ks ≤ 0 → bz r → Q r mc → va_P (dC, dI) vwCl [(la, .inr (11, [.int mc, .ref ea, .int size])), (lb, .inr (11, [.int mc2, .ref eA, .int size2]))] H → va_D A [(la, .inr (11, [.int mc, .ref ea, .int size])), (lb, .inr (11, [.int mc2, .ref eA, .int size2]))] → va_S A s.heap H locs → decode cJ2_addAll pc = .ok (.ireturn, 1) → W p l e RJ2_addAll_zz_ s m args below meth c H locs kc ks Qw (F0 m pc ls [.int r])
def wJ2_addAll_zz (Q : Int32 → (Int32) → Prop) (mc : Int32) (size2 : Int32) : Prop := (wJ2_toArray_z (∀ modCount_14 : Int32, modCount_14 = (mc + 1) → (((0 : Int32) = 0 → (Q 0 modCount_14)) ∧ (¬ (0 : Int32) = 0 → False))) size2)
end
set_option maxHeartbeats 4000000 in
set_option maxRecDepth 100000 in
theorem metJ2_addAll_zz (l : Launch) {Q : Int32 → (Int32) → Prop} {mc : Int32} {size : Int32} {mc2 : Int32} {size2 : Int32} {dC : Nat → ClassId} {dI : Nat → Nat → Nat} {dA : Nat → ClassId} {eA mi sz : Nat} {la ea : Nat} {lb : Nat} (hf : wJ2_addAll_zz Q mc size2) : Met l yJ2_addAll (ws_ yJ2_addAll cJ2_addAll 6 (some .boolean)) rmJ2_addAll_zz (aPc dC dI dA eA mi sz [.ref la, .ref lb] [(la, .inr (11, [.int mc, .ref ea, .int size])), (lb, .inr (11, [.int mc2, .ref eA, .int size2]))]) (va_Qi (fun (r : Int32) (u : Int32) => Q r u) (aB dC dI [(la, .inr (11, [.int mc, .ref ea, .int size])), (lb, .inr (11, [.int mc2, .ref eA, .int size2]))] sz (fun u => [(la, .inr (11, [.int u, .ref ea, .int size])), (lb, .inr (11, [.int mc2, .ref eA, .int size2]))])) (va_A [(la, .inr (11, [.int mc, .ref ea, .int size])), (lb, .inr (11, [.int mc2, .ref eA, .int size2]))] sz)) 1 0 (va_A [(la, .inr (11, [.int mc, .ref ea, .int size])), (lb, .inr (11, [.int mc2, .ref eA, .int size2]))] sz) := by
  refine Met.ofW (cc := cJ2_addAll) (maxL := 6) (ret := (some .boolean)) (by decide) rfl ?_
  intro p e s m args below meth c s₁ B hml hv
  obtain ⟨rfl, hsz, hP, hK, hD0, hE⟩ := hv
  subst hsz
  have hx := B.exec
  have hb := B.bytes
  have hr := B.returns
  have hts := atoms_spec (ws := (ws_ yJ2_addAll cJ2_addAll 6 (some .boolean))) B.pre
  have hts : ∀ w ∈ lw_all, w.before _ s = true := fun w h => hts w (List.mem_cons_of_mem _ h)
  have hown : s.vm.findClass RJ2 = some m.cls := findClass_of_methodNamed B.named
  have hlocks := B.notSynchronized
  have S : CallFix p m c cJ2_addAll 6 s _ lw_all RJ2 := ⟨hx, hb, hml, hown, hts⟩
  have hD := hD0.self (sz := s.heap.size)
  have hA : ∀ q : Nat, s.heap.size ≤ q → va_A [(la, .inr (11, [.int mc, .ref ea, .int size])), (lb, .inr (11, [.int mc2, .ref eA, .int size2]))] s.heap.size q := fun q h => Or.inr h
  have hS : va_S (va_A [(la, .inr (11, [.int mc, .ref ea, .int size])), (lb, .inr (11, [.int mc2, .ref eA, .int size2]))] s.heap.size) s.heap s.heap [] := va_S.rf
  have hl := lv_entry ([.ref la, .ref lb]) (n := 6) (Nat.le_of_ble_eq_true rfl)
  rw [lg_entry_eq]
  generalize (lg_sl ([.ref la, .ref lb]) ++ List.replicate (6 - (lg_sl ([.ref la, .ref lb])).length) Slot.unset).toArray = ls at hl ⊢
  replace hl : lv_has ls 6 [(0, .ref la), (1, .ref lb)] := hl
  have hret : hrJ2_addAll_zz p l e s m ([.ref la, .ref lb] : List Value).toArray below meth c dC dI dA (va_A [(la, .inr (11, [.int mc, .ref ea, .int size])), (lb, .inr (11, [.int mc2, .ref eA, .int size2]))] s.heap.size) la ea lb (MQ below (va_Qi (fun (r : Int32) (u : Int32) => Q r u) (aB dC dI [(la, .inr (11, [.int mc, .ref ea, .int size])), (lb, .inr (11, [.int mc2, .ref eA, .int size2]))] s.heap.size (fun u => [(la, .inr (11, [.int u, .ref ea, .int size])), (lb, .inr (11, [.int mc2, .ref eA, .int size2]))])) (va_A [(la, .inr (11, [.int mc, .ref ea, .int size])), (lb, .inr (11, [.int mc2, .ref eA, .int size2]))] s.heap.size)) ([.ref la, .ref lb] : List Value).toArray s 1 0 (va_A [(la, .inr (11, [.int mc, .ref ea, .int size])), (lb, .inr (11, [.int mc2, .ref eA, .int size2]))] s.heap.size)) Q size mc2 size2 := fun r mc H locs kc ks pc ls h1 h2 hz hq hP hD hS hd => W.widen (k := 1) (n := 0) h1 h2 (W.zret hx hb hr hz.1 (fun t ht hW => ⟨⟨r, mc, rfl, hq, by subst ht; exact ⟨hP, hD⟩⟩, hS.F ht⟩) hS.2.2 hd)
  generalize hAe : va_A [(la, .inr (11, [.int mc, .ref ea, .int size])), (lb, .inr (11, [.int mc2, .ref eA, .int size2]))] s.heap.size = A at hD hA hS hE hret ⊢
  clear hAe
  unfold wJ2_addAll_zz at hf
  refine lv_aload_n hx hb dJ2_addAll_0 rfl (lv_at hl 1 rfl) ?_
  refine aF_q (wr := [(la, .inr (11, [.int mc, .ref ea, .int size]))]) hP hD hS hA [1] [0] rfl rfl (by decide) (by decide) (va_runF (As := []) (rest := []) (hK.1 11 _ rfl).2 S (metJ2_toArray_z l hf) (va_cwF 0 hts (lw_F q893 q897 q899 q58 q901) rfl rfl rfl hE.2.2.1.2.1 pdCol ⟨Nat.le_of_ble_eq_true rfl, Nat.le_of_ble_eq_true rfl⟩) ⟨ablind, va_recv hK hP (ci := 11) (q0 := 1) rfl rfl, (apreS hK hE hP hD hS hA [1] rfl rfl (by decide)).2⟩ rfl rfl hl.1 rfl (lv_room (Nat.le_of_ble_eq_true rfl)) dJ2_addAll_1 ⟨Nat.le_of_ble_eq_true rfl, Nat.le_of_ble_eq_true rfl⟩) (fun r_1 u_1 H locs hf hP hD hS => ?_)
  obtain ⟨ra_1, rfl⟩ : ∃ z, z = u_1 := ⟨_, rfl⟩
  obtain ⟨er_1, hf⟩ := hf
  subst er_1
  replace hP : va_P (dC, dI) vwCl [(la, .inr (11, [.int mc, .ref ea, .int size])), (lb, .inr (11, [.int mc2, .ref eA, .int size2])), (ra_1, .inl (dA 4, 0, .inr (.inr (.inr (.inr (va_cpy (fun _ => none) (fun _ => none) (0 : Int32).toNatClampNeg (0 : Int32).toNatClampNeg ((if size2 < 0 then size2 else 0) : Int32).toNatClampNeg))))))] H := hP
  replace hD : va_D A [(la, .inr (11, [.int mc, .ref ea, .int size])), (lb, .inr (11, [.int mc2, .ref eA, .int size2])), (ra_1, .inl (dA 4, 0, .inr (.inr (.inr (.inr (va_cpy (fun _ => none) (fun _ => none) (0 : Int32).toNatClampNeg (0 : Int32).toNatClampNeg ((if size2 < 0 then size2 else 0) : Int32).toNatClampNeg))))))] := hD
  try dsimp only at hf
  refine W.eq (g2 := F0 m 6 ls (.ref ra_1 :: [])) rfl ?_
  refine lv_astore_n (lv' := [(2, .ref ra_1), (0, .ref la), (1, .ref lb)]) hx hb dJ2_addAll_6 rfl hl (by decide) rfl (fun ls hl => ?_)
  refine lv_aload_n hx hb dJ2_addAll_7 rfl (lv_at hl 1 rfl) ?_
  refine lv_dup hx hb dJ2_addAll_8 rfl ?_
  refine va_get (D := (dC, dI)) (ci := 11) (v := .int mc) (C := RJ2) (T := TJ2) (N := 3) hx hb hts in_J2 hown hK hP 0 rfl rfl 0 (by decide) (hts _ q386) (fun x9 h9 => u_same (hts _ q387) x9 h9) rfl dJ2_addAll_9 ?_
  refine lv_iconst (v := 1) hx hb dJ2_addAll_12 (by decide) ?_
  refine lv_iadd hx hb dJ2_addAll_13 ?_
  refine lv_topi (fun modCount_14 emodCount_14 => ?_)
  replace hf := hf modCount_14 emodCount_14
  refine va_put (D := (dC, dI)) (ci := 11) (v := .int modCount_14) (ty := .int) (C := RJ2) (T := TJ2) (N := 3) hx hb hts in_J2 tyJ2 tyJ2_ok nmJ2 hown hK hP hD hS 0 rfl rfl 0 (by decide) (hts _ q386) (fun x9 h9 => u_same (hts _ q387) x9 h9) rfl (by decide +kernel) rfl rfl (Nat.le_of_ble_eq_true rfl) dJ2_addAll_14 (fun H locs hP hD hS => ?_)
  replace hP : va_P (dC, dI) vwCl [(la, .inr (11, [.int modCount_14, .ref ea, .int size])), (lb, .inr (11, [.int mc2, .ref eA, .int size2])), (ra_1, .inl (dA 4, 0, .inr (.inr (.inr (.inr (va_cpy (fun _ => none) (fun _ => none) (0 : Int32).toNatClampNeg (0 : Int32).toNatClampNeg ((if size2 < 0 then size2 else 0) : Int32).toNatClampNeg))))))] H := hP
  replace hD : va_D A [(la, .inr (11, [.int modCount_14, .ref ea, .int size])), (lb, .inr (11, [.int mc2, .ref eA, .int size2])), (ra_1, .inl (dA 4, 0, .inr (.inr (.inr (.inr (va_cpy (fun _ => none) (fun _ => none) (0 : Int32).toNatClampNeg (0 : Int32).toNatClampNeg ((if size2 < 0 then size2 else 0) : Int32).toNatClampNeg))))))] := hD
  refine lv_aload_n hx hb dJ2_addAll_17 rfl (lv_at hl 0 rfl) ?_
  refine va_alen (v := 0) hx hb hK hP 2 4 rfl rfl rfl dJ2_addAll_18 ?_
  refine lv_istore_n (lv' := [(3, .int 0), (2, .ref ra_1), (0, .ref la), (1, .ref lb)]) hx hb dJ2_addAll_19 rfl hl (by decide) rfl (fun ls hl => ?_)
  refine lv_iload_n hx hb dJ2_addAll_20 rfl (lv_at hl 0 rfl) ?_
  refine lv_if_ne (tgt := 26) hx hb dJ2_addAll_21 (by decide) (fun c_21 => ?_) (fun c_21 => ?_)
  · replace hf := hf.2 c_21
    exact hf.elim
  · replace hf := hf.1 c_21
    refine lv_iconst (v := 0) hx hb dJ2_addAll_24 (by decide) ?_
    exact hret _ _ _ _ _ _ _ _ (Nat.le_of_ble_eq_true rfl) (Nat.le_of_ble_eq_true rfl) bz0 hf (hP.sub [0, 1] rfl) (hD.sub [0, 1] (by decide) rfl) hS dJ2_addAll_25
/-! java/util/ArrayList.addAll(Ljava/util/Collection;)Z -/
abbrev rmJ2_addAll_nz : Room := { frames := 4, cells := 1, slots := 10, locals := 104 }
abbrev RJ2_addAll_nz_ : Room := (headSpec (ws_ yJ2_addAll cJ2_addAll 6 (some .boolean)) rmJ2_addAll_nz).room
section
variable {p : Program} {l : Launch} {e : Env} {s : State} {m : MethodId} {args : Array Value} {below : List Frame} {meth : Method} {c : Code} {Qw : State → Prop} {dC : Nat → ClassId} {dI : Nat → Nat → Nat} {dA : Nat → ClassId} {eA mi : Nat} {A : Nat → Prop} {la ea : Nat} {lb eb : Nat}
abbrev hrJ2_addAll_nz (p : Program) (l : Launch) (e : Env) (s : State) (m : MethodId) (args : Array Value) (below : List Frame) (meth : Method) (c : Code) (dC : Nat → ClassId) (dI : Nat → Nat → Nat) (dA : Nat → ClassId) (A : Nat → Prop) (la : Nat) (ea : Nat) (lb : Nat) (eb : Nat) (Qw : State → Prop) (Q : Int32 → (Int32) → Prop) (size : Int32) (mc2 : Int32) (size2 : Int32) (f2 : (Nat → Option Nat)) : Prop := ∀ (r : Int32) (mc : Int32) (H : Heap) (locs : List Loc) (kc ks : Nat) (pc : Nat) (ls : Array Slot), kc ≤ 1 → ks ≤ 10 → bz r → Q r mc → va_P (dC, dI) vwCl [(la, .inr (11, [.int mc, .ref ea, .int size])), (lb, .inr (11, [.int mc2, .ref eb, .int size2])), (eb, .inl (dA 4, 10, .inr (.inr (.inr (.inr f2)))))] H → va_D A [(la, .inr (11, [.int mc, .ref ea, .int size])), (lb, .inr (11, [.int mc2, .ref eb, .int size2])), (eb, .inl (dA 4, 10, .inr (.inr (.inr (.inr f2)))))] → va_S A s.heap H locs → decode cJ2_addAll pc = .ok (.ireturn, 1) → W p l e RJ2_addAll_nz_ s m args below meth c H locs kc ks Qw (F0 m pc ls [.int r])
def wJ2_addAll_nz (Q : Int32 → (Int32) → Prop) (mc : Int32) (size2 : Int32) (f2 : (Nat → Option Nat)) : Prop := (wJ2_toArray_n (fun nn_1 => (∀ modCount_14 : Int32, modCount_14 = (mc + 1) → (∀ x3_19 : Int32, x3_19 = (Int32.ofNat nn_1) → ((x3_19 = 0 → (Q 0 modCount_14)) ∧ (¬ x3_19 = 0 → False))))) size2 f2)
end
set_option maxHeartbeats 4000000 in
set_option maxRecDepth 100000 in
theorem metJ2_addAll_nz (l : Launch) {Q : Int32 → (Int32) → Prop} {mc : Int32} {size : Int32} {mc2 : Int32} {size2 : Int32} {f2 : (Nat → Option Nat)} {dC : Nat → ClassId} {dI : Nat → Nat → Nat} {dA : Nat → ClassId} {eA mi sz : Nat} {la ea : Nat} {lb eb : Nat} (hf : wJ2_addAll_nz Q mc size2 f2) : Met l yJ2_addAll (ws_ yJ2_addAll cJ2_addAll 6 (some .boolean)) rmJ2_addAll_nz (aPv dC dI dA eA mi sz [.ref la, .ref lb] [(la, .inr (11, [.int mc, .ref ea, .int size])), (lb, .inr (11, [.int mc2, .ref eb, .int size2])), (eb, .inl (dA 4, 10, .inr (.inr (.inr (.inr f2)))))] f2) (va_Qi (fun (r : Int32) (u : Int32) => Q r u) (aB dC dI [(la, .inr (11, [.int mc, .ref ea, .int size])), (lb, .inr (11, [.int mc2, .ref eb, .int size2])), (eb, .inl (dA 4, 10, .inr (.inr (.inr (.inr f2)))))] sz (fun u => [(la, .inr (11, [.int u, .ref ea, .int size])), (lb, .inr (11, [.int mc2, .ref eb, .int size2])), (eb, .inl (dA 4, 10, .inr (.inr (.inr (.inr f2)))))])) (va_A [(la, .inr (11, [.int mc, .ref ea, .int size])), (lb, .inr (11, [.int mc2, .ref eb, .int size2])), (eb, .inl (dA 4, 10, .inr (.inr (.inr (.inr f2)))))] sz)) 1 10 (va_A [(la, .inr (11, [.int mc, .ref ea, .int size])), (lb, .inr (11, [.int mc2, .ref eb, .int size2])), (eb, .inl (dA 4, 10, .inr (.inr (.inr (.inr f2)))))] sz) := by
  refine Met.ofW (cc := cJ2_addAll) (maxL := 6) (ret := (some .boolean)) (by decide) rfl ?_
  intro p e s m args below meth c s₁ B hml hv
  obtain ⟨rfl, hsz, hP, hK, hD0, hE, hV⟩ := hv
  subst hsz
  have hx := B.exec
  have hb := B.bytes
  have hr := B.returns
  have hts := atoms_spec (ws := (ws_ yJ2_addAll cJ2_addAll 6 (some .boolean))) B.pre
  have hts : ∀ w ∈ lw_all, w.before _ s = true := fun w h => hts w (List.mem_cons_of_mem _ h)
  have hown : s.vm.findClass RJ2 = some m.cls := findClass_of_methodNamed B.named
  have hlocks := B.notSynchronized
  have S : CallFix p m c cJ2_addAll 6 s _ lw_all RJ2 := ⟨hx, hb, hml, hown, hts⟩
  have hD := hD0.self (sz := s.heap.size)
  have hA : ∀ q : Nat, s.heap.size ≤ q → va_A [(la, .inr (11, [.int mc, .ref ea, .int size])), (lb, .inr (11, [.int mc2, .ref eb, .int size2])), (eb, .inl (dA 4, 10, .inr (.inr (.inr (.inr f2)))))] s.heap.size q := fun q h => Or.inr h
  have hS : va_S (va_A [(la, .inr (11, [.int mc, .ref ea, .int size])), (lb, .inr (11, [.int mc2, .ref eb, .int size2])), (eb, .inl (dA 4, 10, .inr (.inr (.inr (.inr f2)))))] s.heap.size) s.heap s.heap [] := va_S.rf
  have hl := lv_entry ([.ref la, .ref lb]) (n := 6) (Nat.le_of_ble_eq_true rfl)
  rw [lg_entry_eq]
  generalize (lg_sl ([.ref la, .ref lb]) ++ List.replicate (6 - (lg_sl ([.ref la, .ref lb])).length) Slot.unset).toArray = ls at hl ⊢
  replace hl : lv_has ls 6 [(0, .ref la), (1, .ref lb)] := hl
  have hret : hrJ2_addAll_nz p l e s m ([.ref la, .ref lb] : List Value).toArray below meth c dC dI dA (va_A [(la, .inr (11, [.int mc, .ref ea, .int size])), (lb, .inr (11, [.int mc2, .ref eb, .int size2])), (eb, .inl (dA 4, 10, .inr (.inr (.inr (.inr f2)))))] s.heap.size) la ea lb eb (MQ below (va_Qi (fun (r : Int32) (u : Int32) => Q r u) (aB dC dI [(la, .inr (11, [.int mc, .ref ea, .int size])), (lb, .inr (11, [.int mc2, .ref eb, .int size2])), (eb, .inl (dA 4, 10, .inr (.inr (.inr (.inr f2)))))] s.heap.size (fun u => [(la, .inr (11, [.int u, .ref ea, .int size])), (lb, .inr (11, [.int mc2, .ref eb, .int size2])), (eb, .inl (dA 4, 10, .inr (.inr (.inr (.inr f2)))))])) (va_A [(la, .inr (11, [.int mc, .ref ea, .int size])), (lb, .inr (11, [.int mc2, .ref eb, .int size2])), (eb, .inl (dA 4, 10, .inr (.inr (.inr (.inr f2)))))] s.heap.size)) ([.ref la, .ref lb] : List Value).toArray s 1 10 (va_A [(la, .inr (11, [.int mc, .ref ea, .int size])), (lb, .inr (11, [.int mc2, .ref eb, .int size2])), (eb, .inl (dA 4, 10, .inr (.inr (.inr (.inr f2)))))] s.heap.size)) Q size mc2 size2 f2 := fun r mc H locs kc ks pc ls h1 h2 hz hq hP hD hS hd => W.widen (k := 1) (n := 10) h1 h2 (W.zret hx hb hr hz.1 (fun t ht hW => ⟨⟨r, mc, rfl, hq, by subst ht; exact ⟨hP, hD⟩⟩, hS.F ht⟩) hS.2.2 hd)
  generalize hAe : va_A [(la, .inr (11, [.int mc, .ref ea, .int size])), (lb, .inr (11, [.int mc2, .ref eb, .int size2])), (eb, .inl (dA 4, 10, .inr (.inr (.inr (.inr f2)))))] s.heap.size = A at hD hA hS hE hret hV ⊢
  clear hAe
  unfold wJ2_addAll_nz at hf
  refine lv_aload_n hx hb dJ2_addAll_0 rfl (lv_at hl 1 rfl) ?_
  refine aF_q (wr := [(la, .inr (11, [.int mc, .ref ea, .int size]))]) hP hD hS hA [1, 2] [0] rfl rfl (by decide) (by decide) (va_runF (As := []) (rest := []) (hK.1 11 _ rfl).2 S (metJ2_toArray_n l hf) (va_cwF 0 hts (lw_F q893 q897 q899 q58 q901) rfl rfl rfl hE.2.2.1.2.1 pdCol ⟨Nat.le_of_ble_eq_true rfl, Nat.le_of_ble_eq_true rfl⟩) ⟨ablindV, va_recv hK hP (ci := 11) (q0 := 1) rfl rfl, (apreV hK hE hV hP hD hS hA [1, 2] rfl rfl (by decide)).2⟩ rfl rfl hl.1 rfl (lv_room (Nat.le_of_ble_eq_true rfl)) dJ2_addAll_1 ⟨Nat.le_of_ble_eq_true rfl, Nat.le_of_ble_eq_true rfl⟩) (fun r_1 u_1 H locs hf hP hD hS => ?_)
  obtain ⟨ra_1, nn_1⟩ := u_1
  obtain ⟨er_1, hf⟩ := hf
  subst er_1
  replace hP : va_P (dC, dI) vwCl [(la, .inr (11, [.int mc, .ref ea, .int size])), (lb, .inr (11, [.int mc2, .ref eb, .int size2])), (eb, .inl (dA 4, 10, .inr (.inr (.inr (.inr f2))))), (ra_1, .inl (dA 4, nn_1, .inr (.inr (.inr (.inr (va_cpy f2 (fun _ => none) (0 : Int32).toNatClampNeg (0 : Int32).toNatClampNeg ((if size2 < 10 then size2 else 10) : Int32).toNatClampNeg))))))] H := hP
  replace hD : va_D A [(la, .inr (11, [.int mc, .ref ea, .int size])), (lb, .inr (11, [.int mc2, .ref eb, .int size2])), (eb, .inl (dA 4, 10, .inr (.inr (.inr (.inr f2))))), (ra_1, .inl (dA 4, nn_1, .inr (.inr (.inr (.inr (va_cpy f2 (fun _ => none) (0 : Int32).toNatClampNeg (0 : Int32).toNatClampNeg ((if size2 < 10 then size2 else 10) : Int32).toNatClampNeg))))))] := hD
  try dsimp only at hf
  refine W.eq (g2 := F0 m 6 ls (.ref ra_1 :: [])) rfl ?_
  refine lv_astore_n (lv' := [(2, .ref ra_1), (0, .ref la), (1, .ref lb)]) hx hb dJ2_addAll_6 rfl hl (by decide) rfl (fun ls hl => ?_)
  refine lv_aload_n hx hb dJ2_addAll_7 rfl (lv_at hl 1 rfl) ?_
  refine lv_dup hx hb dJ2_addAll_8 rfl ?_
  refine va_get (D := (dC, dI)) (ci := 11) (v := .int mc) (C := RJ2) (T := TJ2) (N := 3) hx hb hts in_J2 hown hK hP 0 rfl rfl 0 (by decide) (hts _ q386) (fun x9 h9 => u_same (hts _ q387) x9 h9) rfl dJ2_addAll_9 ?_
  refine lv_iconst (v := 1) hx hb dJ2_addAll_12 (by decide) ?_
  refine lv_iadd hx hb dJ2_addAll_13 ?_
  refine lv_topi (fun modCount_14 emodCount_14 => ?_)
  replace hf := hf modCount_14 emodCount_14
  refine va_put (D := (dC, dI)) (ci := 11) (v := .int modCount_14) (ty := .int) (C := RJ2) (T := TJ2) (N := 3) hx hb hts in_J2 tyJ2 tyJ2_ok nmJ2 hown hK hP hD hS 0 rfl rfl 0 (by decide) (hts _ q386) (fun x9 h9 => u_same (hts _ q387) x9 h9) rfl (by decide +kernel) rfl rfl (Nat.le_of_ble_eq_true rfl) dJ2_addAll_14 (fun H locs hP hD hS => ?_)
  replace hP : va_P (dC, dI) vwCl [(la, .inr (11, [.int modCount_14, .ref ea, .int size])), (lb, .inr (11, [.int mc2, .ref eb, .int size2])), (eb, .inl (dA 4, 10, .inr (.inr (.inr (.inr f2))))), (ra_1, .inl (dA 4, nn_1, .inr (.inr (.inr (.inr (va_cpy f2 (fun _ => none) (0 : Int32).toNatClampNeg (0 : Int32).toNatClampNeg ((if size2 < 10 then size2 else 10) : Int32).toNatClampNeg))))))] H := hP
  replace hD : va_D A [(la, .inr (11, [.int modCount_14, .ref ea, .int size])), (lb, .inr (11, [.int mc2, .ref eb, .int size2])), (eb, .inl (dA 4, 10, .inr (.inr (.inr (.inr f2))))), (ra_1, .inl (dA 4, nn_1, .inr (.inr (.inr (.inr (va_cpy f2 (fun _ => none) (0 : Int32).toNatClampNeg (0 : Int32).toNatClampNeg ((if size2 < 10 then size2 else 10) : Int32).toNatClampNeg))))))] := hD
  refine lv_aload_n hx hb dJ2_addAll_17 rfl (lv_at hl 0 rfl) ?_
  refine va_alen (v := (Int32.ofNat nn_1)) hx hb hK hP 3 4 rfl rfl rfl dJ2_addAll_18 ?_
  refine lv_topi (fun x3_19 ex3_19 => ?_)
  replace hf := hf x3_19 ex3_19
  refine lv_istore_n (lv' := [(3, .int x3_19), (2, .ref ra_1), (0, .ref la), (1, .ref lb)]) hx hb dJ2_addAll_19 rfl hl (by decide) rfl (fun ls hl => ?_)
  refine lv_iload_n hx hb dJ2_addAll_20 rfl (lv_at hl 0 rfl) ?_
  refine lv_if_ne (tgt := 26) hx hb dJ2_addAll_21 (by decide) (fun c_21 => ?_) (fun c_21 => ?_)
  · replace hf := hf.2 c_21
    exact hf.elim
  · replace hf := hf.1 c_21
    refine lv_iconst (v := 0) hx hb dJ2_addAll_24 (by decide) ?_
    exact hret _ _ _ _ _ _ _ _ (Nat.le_of_ble_eq_true rfl) (Nat.le_of_ble_eq_true rfl) bz0 hf (hP.sub [0, 1, 2] rfl) (hD.sub [0, 1, 2] (by decide) rfl) hS dJ2_addAll_25
/-! java/util/ArrayList.addAll(Ljava/util/Collection;)Z -/
abbrev rmJ2_addAll_ne : Room := { frames := 4, cells := 2, slots := 20, locals := 104 }
abbrev RJ2_addAll_ne_ : Room := (headSpec (ws_ yJ2_addAll cJ2_addAll 6 (some .boolean)) rmJ2_addAll_ne).room
section
variable {p : Program} {l : Launch} {e : Env} {s : State} {m : MethodId} {args : Array Value} {below : List Frame} {meth : Method} {c : Code} {Qw : State → Prop} {dC : Nat → ClassId} {dI : Nat → Nat → Nat} {dA : Nat → ClassId} {eA mi : Nat} {A : Nat → Prop} {la : Nat} {lb eb : Nat}
abbrev hrJ2_addAll_ne (p : Program) (l : Launch) (e : Env) (s : State) (m : MethodId) (args : Array Value) (below : List Frame) (meth : Method) (c : Code) (dC : Nat → ClassId) (dI : Nat → Nat → Nat) (dA : Nat → ClassId) (A : Nat → Prop) (la : Nat) (lb : Nat) (eb : Nat) (Qw : State → Prop) (Q : Int32 → (Int32) → (Nat → Option Nat) → Prop) (mc : Int32) (size : Int32) (mc2 : Int32) (size2 : Int32) (f2 : (Nat → Option Nat)) : Prop := ∀ (r : Int32) (ra : Nat) (mc1 : Int32) (size1 : Int32) (f1 : Nat → Option Nat) (H : Heap) (locs : List Loc) (kc ks : Nat) (pc : Nat) (ls : Array Slot), kc ≤ 2 → ks ≤ 20 → bz r → Q r size1 f1 → va_P (dC, dI) vwCl [(la, .inr (11, [.int mc1, .ref ra, .int size1])), (lb, .inr (11, [.int mc2, .ref eb, .int size2])), (eb, .inl (dA 4, 10, .inr (.inr (.inr (.inr f2))))), (ra, .inl (dA 4, 10, .inr (.inr (.inr (.inr f1)))))] H → va_D A [(la, .inr (11, [.int mc1, .ref ra, .int size1])), (lb, .inr (11, [.int mc2, .ref eb, .int size2])), (eb, .inl (dA 4, 10, .inr (.inr (.inr (.inr f2))))), (ra, .inl (dA 4, 10, .inr (.inr (.inr (.inr f1)))))] → va_S A s.heap H locs → decode cJ2_addAll pc = .ok (.ireturn, 1) → W p l e RJ2_addAll_ne_ s m args below meth c H locs kc ks Qw (F0 m pc ls [.int r])
def wJ2_addAll_ne (Q : Int32 → (Int32) → (Nat → Option Nat) → Prop) (mc : Int32) (size : Int32) (size2 : Int32) (f2 : (Nat → Option Nat)) : Prop := (wJ2_toArray_n (fun nn_1 => (∀ modCount_14 : Int32, modCount_14 = (mc + 1) → (∀ x3_19 : Int32, x3_19 = (Int32.ofNat nn_1) → ((x3_19 = 0 → False) ∧ (¬ x3_19 = 0 → ((x3_19 ≤ (0 - size) → False) ∧ (¬ x3_19 ≤ (0 - size) → (wJ2_grow_2_e (¬ size < 0 ∧ (¬ x3_19 < 0 ∧ ((0 : Int32).toNatClampNeg + (x3_19 : Int32).toNatClampNeg ≤ nn_1 ∧ ((size : Int32).toNatClampNeg + (x3_19 : Int32).toNatClampNeg ≤ 10 ∧ (∀ size_71 : Int32, size_71 = (size + x3_19) → (Q 1 size_71 (va_cpy (va_cpy f2 (fun _ => none) (0 : Int32).toNatClampNeg (0 : Int32).toNatClampNeg ((if size2 < 10 then size2 else 10) : Int32).toNatClampNeg) (fun _ => none) (0 : Int32).toNatClampNeg (size : Int32).toNatClampNeg (x3_19 : Int32).toNatClampNeg))))))) (size + x3_19))))))))) size2 f2)
end
set_option maxHeartbeats 4000000 in
set_option maxRecDepth 100000 in
theorem metJ2_addAll_ne (l : Launch) {Q : Int32 → (Int32) → (Nat → Option Nat) → Prop} {mc : Int32} {size : Int32} {mc2 : Int32} {size2 : Int32} {f2 : (Nat → Option Nat)} {dC : Nat → ClassId} {dI : Nat → Nat → Nat} {dA : Nat → ClassId} {eA mi sz : Nat} {la : Nat} {lb eb : Nat} (hf : wJ2_addAll_ne Q mc size size2 f2) : Met l yJ2_addAll (ws_ yJ2_addAll cJ2_addAll 6 (some .boolean)) rmJ2_addAll_ne (aPv dC dI dA eA mi sz [.ref la, .ref lb] [(la, .inr (11, [.int mc, .ref eA, .int size])), (lb, .inr (11, [.int mc2, .ref eb, .int size2])), (eb, .inl (dA 4, 10, .inr (.inr (.inr (.inr f2)))))] f2) (va_Qi (fun (r : Int32) (u : Nat × Int32 × Int32 × (Nat → Option Nat)) => Q r u.2.2.1 u.2.2.2) (aB dC dI [(la, .inr (11, [.int mc, .ref eA, .int size])), (lb, .inr (11, [.int mc2, .ref eb, .int size2])), (eb, .inl (dA 4, 10, .inr (.inr (.inr (.inr f2)))))] sz (fun (u : Nat × Int32 × Int32 × (Nat → Option Nat)) => [(la, .inr (11, [.int u.2.1, .ref u.1, .int u.2.2.1])), (lb, .inr (11, [.int mc2, .ref eb, .int size2])), (eb, .inl (dA 4, 10, .inr (.inr (.inr (.inr f2))))), (u.1, .inl (dA 4, 10, .inr (.inr (.inr (.inr u.2.2.2)))))])) (va_A [(la, .inr (11, [.int mc, .ref eA, .int size])), (lb, .inr (11, [.int mc2, .ref eb, .int size2])), (eb, .inl (dA 4, 10, .inr (.inr (.inr (.inr f2)))))] sz)) 2 20 (va_A [(la, .inr (11, [.int mc, .ref eA, .int size])), (lb, .inr (11, [.int mc2, .ref eb, .int size2])), (eb, .inl (dA 4, 10, .inr (.inr (.inr (.inr f2)))))] sz) := by
  refine Met.ofW (cc := cJ2_addAll) (maxL := 6) (ret := (some .boolean)) (by decide) rfl ?_
  intro p e s m args below meth c s₁ B hml hv
  obtain ⟨rfl, hsz, hP, hK, hD0, hE, hV⟩ := hv
  subst hsz
  have hx := B.exec
  have hb := B.bytes
  have hr := B.returns
  have hts := atoms_spec (ws := (ws_ yJ2_addAll cJ2_addAll 6 (some .boolean))) B.pre
  have hts : ∀ w ∈ lw_all, w.before _ s = true := fun w h => hts w (List.mem_cons_of_mem _ h)
  have hown : s.vm.findClass RJ2 = some m.cls := findClass_of_methodNamed B.named
  have hlocks := B.notSynchronized
  have S : CallFix p m c cJ2_addAll 6 s _ lw_all RJ2 := ⟨hx, hb, hml, hown, hts⟩
  have hD := hD0.self (sz := s.heap.size)
  have hA : ∀ q : Nat, s.heap.size ≤ q → va_A [(la, .inr (11, [.int mc, .ref eA, .int size])), (lb, .inr (11, [.int mc2, .ref eb, .int size2])), (eb, .inl (dA 4, 10, .inr (.inr (.inr (.inr f2)))))] s.heap.size q := fun q h => Or.inr h
  have hS : va_S (va_A [(la, .inr (11, [.int mc, .ref eA, .int size])), (lb, .inr (11, [.int mc2, .ref eb, .int size2])), (eb, .inl (dA 4, 10, .inr (.inr (.inr (.inr f2)))))] s.heap.size) s.heap s.heap [] := va_S.rf
  have hl := lv_entry ([.ref la, .ref lb]) (n := 6) (Nat.le_of_ble_eq_true rfl)
  rw [lg_entry_eq]
  generalize (lg_sl ([.ref la, .ref lb]) ++ List.replicate (6 - (lg_sl ([.ref la, .ref lb])).length) Slot.unset).toArray = ls at hl ⊢
  replace hl : lv_has ls 6 [(0, .ref la), (1, .ref lb)] := hl
  have hret : hrJ2_addAll_ne p l e s m ([.ref la, .ref lb] : List Value).toArray below meth c dC dI dA (va_A [(la, .inr (11, [.int mc, .ref eA, .int size])), (lb, .inr (11, [.int mc2, .ref eb, .int size2])), (eb, .inl (dA 4, 10, .inr (.inr (.inr (.inr f2)))))] s.heap.size) la lb eb (MQ below (va_Qi (fun (r : Int32) (u : Nat × Int32 × Int32 × (Nat → Option Nat)) => Q r u.2.2.1 u.2.2.2) (aB dC dI [(la, .inr (11, [.int mc, .ref eA, .int size])), (lb, .inr (11, [.int mc2, .ref eb, .int size2])), (eb, .inl (dA 4, 10, .inr (.inr (.inr (.inr f2)))))] s.heap.size (fun (u : Nat × Int32 × Int32 × (Nat → Option Nat)) => [(la, .inr (11, [.int u.2.1, .ref u.1, .int u.2.2.1])), (lb, .inr (11, [.int mc2, .ref eb, .int size2])), (eb, .inl (dA 4, 10, .inr (.inr (.inr (.inr f2))))), (u.1, .inl (dA 4, 10, .inr (.inr (.inr (.inr u.2.2.2)))))])) (va_A [(la, .inr (11, [.int mc, .ref eA, .int size])), (lb, .inr (11, [.int mc2, .ref eb, .int size2])), (eb, .inl (dA 4, 10, .inr (.inr (.inr (.inr f2)))))] s.heap.size)) ([.ref la, .ref lb] : List Value).toArray s 2 20 (va_A [(la, .inr (11, [.int mc, .ref eA, .int size])), (lb, .inr (11, [.int mc2, .ref eb, .int size2])), (eb, .inl (dA 4, 10, .inr (.inr (.inr (.inr f2)))))] s.heap.size)) Q mc size mc2 size2 f2 := fun r ra mc1 size1 f1 H locs kc ks pc ls h1 h2 hz hq hP hD hS hd => W.widen (k := 2) (n := 20) h1 h2 (W.zret hx hb hr hz.1 (fun t ht hW => ⟨⟨r, (ra, mc1, size1, f1), rfl, hq, by subst ht; exact ⟨hP, hD⟩⟩, hS.F ht⟩) hS.2.2 hd)
  generalize hAe : va_A [(la, .inr (11, [.int mc, .ref eA, .int size])), (lb, .inr (11, [.int mc2, .ref eb, .int size2])), (eb, .inl (dA 4, 10, .inr (.inr (.inr (.inr f2)))))] s.heap.size = A at hD hA hS hE hret hV ⊢
  clear hAe
  unfold wJ2_addAll_ne at hf
  refine lv_aload_n hx hb dJ2_addAll_0 rfl (lv_at hl 1 rfl) ?_
  refine aF_q (wr := [(la, .inr (11, [.int mc, .ref eA, .int size]))]) hP hD hS hA [1, 2] [0] rfl rfl (by decide) (by decide) (va_runF (As := []) (rest := []) (hK.1 11 _ rfl).2 S (metJ2_toArray_n l hf) (va_cwF 0 hts (lw_F q893 q897 q899 q58 q901) rfl rfl rfl hE.2.2.1.2.1 pdCol ⟨Nat.le_of_ble_eq_true rfl, Nat.le_of_ble_eq_true rfl⟩) ⟨ablindV, va_recv hK hP (ci := 11) (q0 := 1) rfl rfl, (apreV hK hE hV hP hD hS hA [1, 2] rfl rfl (by decide)).2⟩ rfl rfl hl.1 rfl (lv_room (Nat.le_of_ble_eq_true rfl)) dJ2_addAll_1 ⟨Nat.le_of_ble_eq_true rfl, Nat.le_of_ble_eq_true rfl⟩) (fun r_1 u_1 H locs hf hP hD hS => ?_)
  obtain ⟨ra_1, nn_1⟩ := u_1
  obtain ⟨er_1, hf⟩ := hf
  subst er_1
  replace hP : va_P (dC, dI) vwCl [(la, .inr (11, [.int mc, .ref eA, .int size])), (lb, .inr (11, [.int mc2, .ref eb, .int size2])), (eb, .inl (dA 4, 10, .inr (.inr (.inr (.inr f2))))), (ra_1, .inl (dA 4, nn_1, .inr (.inr (.inr (.inr (va_cpy f2 (fun _ => none) (0 : Int32).toNatClampNeg (0 : Int32).toNatClampNeg ((if size2 < 10 then size2 else 10) : Int32).toNatClampNeg))))))] H := hP
  replace hD : va_D A [(la, .inr (11, [.int mc, .ref eA, .int size])), (lb, .inr (11, [.int mc2, .ref eb, .int size2])), (eb, .inl (dA 4, 10, .inr (.inr (.inr (.inr f2))))), (ra_1, .inl (dA 4, nn_1, .inr (.inr (.inr (.inr (va_cpy f2 (fun _ => none) (0 : Int32).toNatClampNeg (0 : Int32).toNatClampNeg ((if size2 < 10 then size2 else 10) : Int32).toNatClampNeg))))))] := hD
  try dsimp only at hf
  refine W.eq (g2 := F0 m 6 ls (.ref ra_1 :: [])) rfl ?_
  refine lv_astore_n (lv' := [(2, .ref ra_1), (0, .ref la), (1, .ref lb)]) hx hb dJ2_addAll_6 rfl hl (by decide) rfl (fun ls hl => ?_)
  refine lv_aload_n hx hb dJ2_addAll_7 rfl (lv_at hl 1 rfl) ?_
  refine lv_dup hx hb dJ2_addAll_8 rfl ?_
  refine va_get (D := (dC, dI)) (ci := 11) (v := .int mc) (C := RJ2) (T := TJ2) (N := 3) hx hb hts in_J2 hown hK hP 0 rfl rfl 0 (by decide) (hts _ q386) (fun x9 h9 => u_same (hts _ q387) x9 h9) rfl dJ2_addAll_9 ?_
  refine lv_iconst (v := 1) hx hb dJ2_addAll_12 (by decide) ?_
  refine lv_iadd hx hb dJ2_addAll_13 ?_
  refine lv_topi (fun modCount_14 emodCount_14 => ?_)
  replace hf := hf modCount_14 emodCount_14
  refine va_put (D := (dC, dI)) (ci := 11) (v := .int modCount_14) (ty := .int) (C := RJ2) (T := TJ2) (N := 3) hx hb hts in_J2 tyJ2 tyJ2_ok nmJ2 hown hK hP hD hS 0 rfl rfl 0 (by decide) (hts _ q386) (fun x9 h9 => u_same (hts _ q387) x9 h9) rfl (by decide +kernel) rfl rfl (Nat.le_of_ble_eq_true rfl) dJ2_addAll_14 (fun H locs hP hD hS => ?_)
  replace hP : va_P (dC, dI) vwCl [(la, .inr (11, [.int modCount_14, .ref eA, .int size])), (lb, .inr (11, [.int mc2, .ref eb, .int size2])), (eb, .inl (dA 4, 10, .inr (.inr (.inr (.inr f2))))), (ra_1, .inl (dA 4, nn_1, .inr (.inr (.inr (.inr (va_cpy f2 (fun _ => none) (0 : Int32).toNatClampNeg (0 : Int32).toNatClampNeg ((if size2 < 10 then size2 else 10) : Int32).toNatClampNeg))))))] H := hP
  replace hD : va_D A [(la, .inr (11, [.int modCount_14, .ref eA, .int size])), (lb, .inr (11, [.int mc2, .ref eb, .int size2])), (eb, .inl (dA 4, 10, .inr (.inr (.inr (.inr f2))))), (ra_1, .inl (dA 4, nn_1, .inr (.inr (.inr (.inr (va_cpy f2 (fun _ => none) (0 : Int32).toNatClampNeg (0 : Int32).toNatClampNeg ((if size2 < 10 then size2 else 10) : Int32).toNatClampNeg))))))] := hD
  refine lv_aload_n hx hb dJ2_addAll_17 rfl (lv_at hl 0 rfl) ?_
  refine va_alen (v := (Int32.ofNat nn_1)) hx hb hK hP 3 4 rfl rfl rfl dJ2_addAll_18 ?_
  refine lv_topi (fun x3_19 ex3_19 => ?_)
  replace hf := hf x3_19 ex3_19
  refine lv_istore_n (lv' := [(3, .int x3_19), (2, .ref ra_1), (0, .ref la), (1, .ref lb)]) hx hb dJ2_addAll_19 rfl hl (by decide) rfl (fun ls hl => ?_)
  refine lv_iload_n hx hb dJ2_addAll_20 rfl (lv_at hl 0 rfl) ?_
  refine lv_if_ne (tgt := 26) hx hb dJ2_addAll_21 (by decide) (fun c_21 => ?_) (fun c_21 => ?_)
  · replace hf := hf.2 c_21
    refine lv_iload_n hx hb dJ2_addAll_26 rfl (lv_at hl 0 rfl) ?_
    refine lv_aload_n hx hb dJ2_addAll_27 rfl (lv_at hl 2 rfl) ?_
    refine va_get (D := (dC, dI)) (ci := 11) (v := .ref eA) (C := RJ2) (T := TJ2) (N := 3) hx hb hts in_J2 hown hK hP 0 rfl rfl 1 (by decide) (hts _ q383) (fun _ h9 => h9) rfl dJ2_addAll_28 ?_
    refine lv_dup hx hb dJ2_addAll_31 rfl ?_
    refine lv_astore (lv' := [(4, .ref eA), (3, .int x3_19), (2, .ref ra_1), (0, .ref la), (1, .ref lb)]) hx hb dJ2_addAll_32 hl (by decide) rfl (fun ls hl => ?_)
    refine va_tlen (v := 0) hx hb hE.2.2.2.2.2.2.2.2.2.1 hS rfl dJ2_addAll_34 ?_
    refine lv_aload_n hx hb dJ2_addAll_35 rfl (lv_at hl 3 rfl) ?_
    refine va_get (D := (dC, dI)) (ci := 11) (v := .int size) (C := RJ2) (T := TJ2) (N := 3) hx hb hts in_J2 hown hK hP 0 rfl rfl 2 (by decide) (hts _ q384) (fun _ h9 => h9) rfl dJ2_addAll_36 ?_
    refine lv_dup hx hb dJ2_addAll_39 rfl ?_
    refine lv_istore (lv' := [(5, .int size), (4, .ref eA), (3, .int x3_19), (2, .ref ra_1), (0, .ref la), (1, .ref lb)]) hx hb dJ2_addAll_40 hl (by decide) rfl (fun ls hl => ?_)
    refine lv_isub hx hb dJ2_addAll_42 ?_
    refine lv_icmp_le (tgt := 56) hx hb dJ2_addAll_43 (by decide) (fun c_43 => ?_) (fun c_43 => ?_)
    · replace hf := hf.1 c_43
      exact hf.elim
    · replace hf := hf.2 c_43
      refine lv_aload_n hx hb dJ2_addAll_46 rfl (lv_at hl 4 rfl) ?_
      refine lv_iload hx hb dJ2_addAll_47 (lv_at hl 0 rfl) ?_
      refine lv_iload_n hx hb dJ2_addAll_49 rfl (lv_at hl 2 rfl) ?_
      refine lv_iadd hx hb dJ2_addAll_50 ?_
      refine aC_q (wr := [(lb, .inr (11, [.int mc2, .ref eb, .int size2])), (eb, .inl (dA 4, 10, .inr (.inr (.inr (.inr f2))))), (ra_1, .inl (dA 4, nn_1, .inr (.inr (.inr (.inr (va_cpy f2 (fun _ => none) (0 : Int32).toNatClampNeg (0 : Int32).toNatClampNeg ((if size2 < 10 then size2 else 10) : Int32).toNatClampNeg))))))]) hP hD hS hA [0] [1, 2, 3] rfl rfl (by decide) (by decide) (va_runV (As := [.int (size + x3_19)]) (rest := []) S (metJ2_grow_2_e l hf) (cwV 1 hts (lw_V q161 q163 qs3 q58 q164) rfl rfl rfl ⟨rfl, pdJ2_grow_2⟩ ⟨Nat.le_of_ble_eq_true rfl, Nat.le_of_ble_eq_true rfl⟩) ⟨ablind, va_recv hK hP (ci := 11) (q0 := 0) rfl rfl, (apreS hK hE hP hD hS hA [0] rfl rfl (by decide)).2⟩ rfl rfl hl.1 rfl (lv_room (Nat.le_of_ble_eq_true rfl)) dJ2_addAll_51 ⟨Nat.le_of_ble_eq_true rfl, Nat.le_of_ble_eq_true rfl⟩) (fun r_51 u_51 H locs hf hP hD hS => ?_)
      obtain ⟨ra_51, rfl⟩ : ∃ z, z = u_51 := ⟨_, rfl⟩
      obtain ⟨er_51, hf⟩ := hf
      subst er_51
      replace hP : va_P (dC, dI) vwCl [(lb, .inr (11, [.int mc2, .ref eb, .int size2])), (eb, .inl (dA 4, 10, .inr (.inr (.inr (.inr f2))))), (ra_1, .inl (dA 4, nn_1, .inr (.inr (.inr (.inr (va_cpy f2 (fun _ => none) (0 : Int32).toNatClampNeg (0 : Int32).toNatClampNeg ((if size2 < 10 then size2 else 10) : Int32).toNatClampNeg)))))), (la, .inr (11, [.int modCount_14, .ref ra_51, .int size])), (ra_51, .inl (dA 4, 10, .inr (.inr (.inr (.inr (fun _ => none))))))] H := hP
      replace hD : va_D A [(lb, .inr (11, [.int mc2, .ref eb, .int size2])), (eb, .inl (dA 4, 10, .inr (.inr (.inr (.inr f2))))), (ra_1, .inl (dA 4, nn_1, .inr (.inr (.inr (.inr (va_cpy f2 (fun _ => none) (0 : Int32).toNatClampNeg (0 : Int32).toNatClampNeg ((if size2 < 10 then size2 else 10) : Int32).toNatClampNeg)))))), (la, .inr (11, [.int modCount_14, .ref ra_51, .int size])), (ra_51, .inl (dA 4, 10, .inr (.inr (.inr (.inr (fun _ => none))))))] := hD
      try dsimp only at hf
      refine W.eq (g2 := F0 m 54 ls (.ref ra_51 :: [])) rfl ?_
      refine lv_astore (lv' := [(4, .ref ra_51), (5, .int size), (3, .int x3_19), (2, .ref ra_1), (0, .ref la), (1, .ref lb)]) hx hb dJ2_addAll_54 hl (by decide) rfl (fun ls hl => ?_)
      refine lv_aload_n hx hb dJ2_addAll_56 rfl (lv_at hl 3 rfl) ?_
      refine lv_iconst (v := 0) hx hb dJ2_addAll_57 (by decide) ?_
      refine lv_aload hx hb dJ2_addAll_58 (lv_at hl 0 rfl) ?_
      refine lv_iload hx hb dJ2_addAll_60 (lv_at hl 1 rfl) ?_
      refine lv_iload_n hx hb dJ2_addAll_62 rfl (lv_at hl 2 rfl) ?_
      obtain ⟨ha_63_0, hf⟩ := hf
      obtain ⟨ha_63_1, hf⟩ := hf
      obtain ⟨ha_63_2, hf⟩ := hf
      obtain ⟨ha_63_3, hf⟩ := hf
      refine va_copyM hx hb (hml.trans hl.1.symm) hown (hts _ q146) (hts _ q148) (hts _ q147) (hts _ q64) hK hP hD hS 2 4 4 4 rfl rfl rfl rfl (by decide) ha_63_0 ha_63_1 ha_63_2 ha_63_3 (fun _ _ _ hy => hV.cpy hS hy) (Nat.le_of_ble_eq_true rfl) (Nat.le_of_ble_eq_true rfl) dJ2_addAll_63 (fun H locs hP hD hS => ?_)
      replace hP : va_P (dC, dI) vwCl [(lb, .inr (11, [.int mc2, .ref eb, .int size2])), (eb, .inl (dA 4, 10, .inr (.inr (.inr (.inr f2))))), (ra_1, .inl (dA 4, nn_1, .inr (.inr (.inr (.inr (va_cpy f2 (fun _ => none) (0 : Int32).toNatClampNeg (0 : Int32).toNatClampNeg ((if size2 < 10 then size2 else 10) : Int32).toNatClampNeg)))))), (la, .inr (11, [.int modCount_14, .ref ra_51, .int size])), (ra_51, .inl (dA 4, 10, .inr (.inr (.inr (.inr (va_cpy (va_cpy f2 (fun _ => none) (0 : Int32).toNatClampNeg (0 : Int32).toNatClampNeg ((if size2 < 10 then size2 else 10) : Int32).toNatClampNeg) (fun _ => none) (0 : Int32).toNatClampNeg (size : Int32).toNatClampNeg (x3_19 : Int32).toNatClampNeg))))))] H := hP
      replace hD : va_D A [(lb, .inr (11, [.int mc2, .ref eb, .int size2])), (eb, .inl (dA 4, 10, .inr (.inr (.inr (.inr f2))))), (ra_1, .inl (dA 4, nn_1, .inr (.inr (.inr (.inr (va_cpy f2 (fun _ => none) (0 : Int32).toNatClampNeg (0 : Int32).toNatClampNeg ((if size2 < 10 then size2 else 10) : Int32).toNatClampNeg)))))), (la, .inr (11, [.int modCount_14, .ref ra_51, .int size])), (ra_51, .inl (dA 4, 10, .inr (.inr (.inr (.inr (va_cpy (va_cpy f2 (fun _ => none) (0 : Int32).toNatClampNeg (0 : Int32).toNatClampNeg ((if size2 < 10 then size2 else 10) : Int32).toNatClampNeg) (fun _ => none) (0 : Int32).toNatClampNeg (size : Int32).toNatClampNeg (x3_19 : Int32).toNatClampNeg))))))] := hD
      refine lv_aload_n hx hb dJ2_addAll_66 rfl (lv_at hl 4 rfl) ?_
      refine lv_iload hx hb dJ2_addAll_67 (lv_at hl 1 rfl) ?_
      refine lv_iload_n hx hb dJ2_addAll_69 rfl (lv_at hl 2 rfl) ?_
      refine lv_iadd hx hb dJ2_addAll_70 ?_
      refine lv_topi (fun size_71 esize_71 => ?_)
      replace hf := hf size_71 esize_71
      refine va_put (D := (dC, dI)) (ci := 11) (v := .int size_71) (ty := .int) (C := RJ2) (T := TJ2) (N := 3) hx hb hts in_J2 tyJ2 tyJ2_ok nmJ2 hown hK hP hD hS 3 rfl rfl 2 (by decide) (hts _ q384) (fun _ h9 => h9) rfl (by decide +kernel) rfl rfl (Nat.le_of_ble_eq_true rfl) dJ2_addAll_71 (fun H locs hP hD hS => ?_)
      replace hP : va_P (dC, dI) vwCl [(lb, .inr (11, [.int mc2, .ref eb, .int size2])), (eb, .inl (dA 4, 10, .inr (.inr (.inr (.inr f2))))), (ra_1, .inl (dA 4, nn_1, .inr (.inr (.inr (.inr (va_cpy f2 (fun _ => none) (0 : Int32).toNatClampNeg (0 : Int32).toNatClampNeg ((if size2 < 10 then size2 else 10) : Int32).toNatClampNeg)))))), (la, .inr (11, [.int modCount_14, .ref ra_51, .int size_71])), (ra_51, .inl (dA 4, 10, .inr (.inr (.inr (.inr (va_cpy (va_cpy f2 (fun _ => none) (0 : Int32).toNatClampNeg (0 : Int32).toNatClampNeg ((if size2 < 10 then size2 else 10) : Int32).toNatClampNeg) (fun _ => none) (0 : Int32).toNatClampNeg (size : Int32).toNatClampNeg (x3_19 : Int32).toNatClampNeg))))))] H := hP
      replace hD : va_D A [(lb, .inr (11, [.int mc2, .ref eb, .int size2])), (eb, .inl (dA 4, 10, .inr (.inr (.inr (.inr f2))))), (ra_1, .inl (dA 4, nn_1, .inr (.inr (.inr (.inr (va_cpy f2 (fun _ => none) (0 : Int32).toNatClampNeg (0 : Int32).toNatClampNeg ((if size2 < 10 then size2 else 10) : Int32).toNatClampNeg)))))), (la, .inr (11, [.int modCount_14, .ref ra_51, .int size_71])), (ra_51, .inl (dA 4, 10, .inr (.inr (.inr (.inr (va_cpy (va_cpy f2 (fun _ => none) (0 : Int32).toNatClampNeg (0 : Int32).toNatClampNeg ((if size2 < 10 then size2 else 10) : Int32).toNatClampNeg) (fun _ => none) (0 : Int32).toNatClampNeg (size : Int32).toNatClampNeg (x3_19 : Int32).toNatClampNeg))))))] := hD
      refine lv_iconst (v := 1) hx hb dJ2_addAll_74 (by decide) ?_
      exact hret _ ra_51 modCount_14 size_71 (va_cpy (va_cpy f2 (fun _ => none) (0 : Int32).toNatClampNeg (0 : Int32).toNatClampNeg ((if size2 < 10 then size2 else 10) : Int32).toNatClampNeg) (fun _ => none) (0 : Int32).toNatClampNeg (size : Int32).toNatClampNeg (x3_19 : Int32).toNatClampNeg) _ _ _ _ _ _ (Nat.le_of_ble_eq_true rfl) (Nat.le_of_ble_eq_true rfl) bz1 hf (hP.sub [3, 0, 1, 4] rfl) (hD.sub [3, 0, 1, 4] (by decide) rfl) hS dJ2_addAll_75
  · replace hf := hf.1 c_21
    exact hf.elim
/-! java/util/ArrayList.addAll(Ljava/util/Collection;)Z -/
abbrev rmJ2_addAll_nr : Room := { frames := 4, cells := 1, slots := 10, locals := 104 }
abbrev RJ2_addAll_nr_ : Room := (headSpec (ws_ yJ2_addAll cJ2_addAll 6 (some .boolean)) rmJ2_addAll_nr).room
section
variable {p : Program} {l : Launch} {e : Env} {s : State} {m : MethodId} {args : Array Value} {below : List Frame} {meth : Method} {c : Code} {Qw : State → Prop} {dC : Nat → ClassId} {dI : Nat → Nat → Nat} {dA : Nat → ClassId} {eA mi : Nat} {A : Nat → Prop} {la ea : Nat} {lb eb : Nat}
abbrev hrJ2_addAll_nr (p : Program) (l : Launch) (e : Env) (s : State) (m : MethodId) (args : Array Value) (below : List Frame) (meth : Method) (c : Code) (dC : Nat → ClassId) (dI : Nat → Nat → Nat) (dA : Nat → ClassId) (A : Nat → Prop) (la : Nat) (ea : Nat) (lb : Nat) (eb : Nat) (Qw : State → Prop) (Q : Int32 → (Int32) → (Int32) → (Nat → Option Nat) → Prop) (mc2 : Int32) (size2 : Int32) (f2 : (Nat → Option Nat)) : Prop := ∀ (r : Int32) (mc : Int32) (size : Int32) (f : (Nat → Option Nat)) (H : Heap) (locs : List Loc) (kc ks : Nat) (pc : Nat) (ls : Array Slot), kc ≤ 1 → ks ≤ 10 → bz r → Q r mc size f → va_P (dC, dI) vwCl [(la, .inr (11, [.int mc, .ref ea, .int size])), (ea, .inl (dA 4, 10, .inr (.inr (.inr (.inr f))))), (lb, .inr (11, [.int mc2, .ref eb, .int size2])), (eb, .inl (dA 4, 10, .inr (.inr (.inr (.inr f2)))))] H → va_D A [(la, .inr (11, [.int mc, .ref ea, .int size])), (ea, .inl (dA 4, 10, .inr (.inr (.inr (.inr f))))), (lb, .inr (11, [.int mc2, .ref eb, .int size2])), (eb, .inl (dA 4, 10, .inr (.inr (.inr (.inr f2)))))] → va_S A s.heap H locs → decode cJ2_addAll pc = .ok (.ireturn, 1) → W p l e RJ2_addAll_nr_ s m args below meth c H locs kc ks Qw (F0 m pc ls [.int r])
def wJ2_addAll_nr (Q : Int32 → (Int32) → (Int32) → (Nat → Option Nat) → Prop) (mc : Int32) (size : Int32) (f : (Nat → Option Nat)) (size2 : Int32) (f2 : (Nat → Option Nat)) : Prop := (wJ2_toArray_n (fun nn_1 => (∀ modCount_14 : Int32, modCount_14 = (mc + 1) → (∀ x3_19 : Int32, x3_19 = (Int32.ofNat nn_1) → ((x3_19 = 0 → False) ∧ (¬ x3_19 = 0 → ((x3_19 ≤ (10 - size) → (¬ size < 0 ∧ (¬ x3_19 < 0 ∧ ((0 : Int32).toNatClampNeg + (x3_19 : Int32).toNatClampNeg ≤ nn_1 ∧ ((size : Int32).toNatClampNeg + (x3_19 : Int32).toNatClampNeg ≤ 10 ∧ (∀ size_71 : Int32, size_71 = (size + x3_19) → (Q 1 modCount_14 size_71 (va_cpy (va_cpy f2 (fun _ => none) (0 : Int32).toNatClampNeg (0 : Int32).toNatClampNeg ((if size2 < 10 then size2 else 10) : Int32).toNatClampNeg) f (0 : Int32).toNatClampNeg (size : Int32).toNatClampNeg (x3_19 : Int32).toNatClampNeg)))))))) ∧ (¬ x3_19 ≤ (10 - size) → False))))))) size2 f2)
end
set_option maxHeartbeats 4000000 in
set_option maxRecDepth 100000 in
theorem metJ2_addAll_nr (l : Launch) {Q : Int32 → (Int32) → (Int32) → (Nat → Option Nat) → Prop} {mc : Int32} {size : Int32} {f : (Nat → Option Nat)} {mc2 : Int32} {size2 : Int32} {f2 : (Nat → Option Nat)} {dC : Nat → ClassId} {dI : Nat → Nat → Nat} {dA : Nat → ClassId} {eA mi sz : Nat} {la ea : Nat} {lb eb : Nat} (hf : wJ2_addAll_nr Q mc size f size2 f2) : Met l yJ2_addAll (ws_ yJ2_addAll cJ2_addAll 6 (some .boolean)) rmJ2_addAll_nr (aPv dC dI dA eA mi sz [.ref la, .ref lb] [(la, .inr (11, [.int mc, .ref ea, .int size])), (ea, .inl (dA 4, 10, .inr (.inr (.inr (.inr f))))), (lb, .inr (11, [.int mc2, .ref eb, .int size2])), (eb, .inl (dA 4, 10, .inr (.inr (.inr (.inr f2)))))] f2) (va_Qi (fun (r : Int32) (u : Int32 × Int32 × (Nat → Option Nat)) => Q r u.1 u.2.1 u.2.2) (aB dC dI [(la, .inr (11, [.int mc, .ref ea, .int size])), (ea, .inl (dA 4, 10, .inr (.inr (.inr (.inr f))))), (lb, .inr (11, [.int mc2, .ref eb, .int size2])), (eb, .inl (dA 4, 10, .inr (.inr (.inr (.inr f2)))))] sz (fun u => [(la, .inr (11, [.int u.1, .ref ea, .int u.2.1])), (ea, .inl (dA 4, 10, .inr (.inr (.inr (.inr u.2.2))))), (lb, .inr (11, [.int mc2, .ref eb, .int size2])), (eb, .inl (dA 4, 10, .inr (.inr (.inr (.inr f2)))))])) (va_A [(la, .inr (11, [.int mc, .ref ea, .int size])), (ea, .inl (dA 4, 10, .inr (.inr (.inr (.inr f))))), (lb, .inr (11, [.int mc2, .ref eb, .int size2])), (eb, .inl (dA 4, 10, .inr (.inr (.inr (.inr f2)))))] sz)) 1 10 (va_A [(la, .inr (11, [.int mc, .ref ea, .int size])), (ea, .inl (dA 4, 10, .inr (.inr (.inr (.inr f))))), (lb, .inr (11, [.int mc2, .ref eb, .int size2])), (eb, .inl (dA 4, 10, .inr (.inr (.inr (.inr f2)))))] sz) := by
  refine Met.ofW (cc := cJ2_addAll) (maxL := 6) (ret := (some .boolean)) (by decide) rfl ?_
  intro p e s m args below meth c s₁ B hml hv
  obtain ⟨rfl, hsz, hP, hK, hD0, hE, hV⟩ := hv
  subst hsz
  have hx := B.exec
  have hb := B.bytes
  have hr := B.returns
  have hts := atoms_spec (ws := (ws_ yJ2_addAll cJ2_addAll 6 (some .boolean))) B.pre
  have hts : ∀ w ∈ lw_all, w.before _ s = true := fun w h => hts w (List.mem_cons_of_mem _ h)
  have hown : s.vm.findClass RJ2 = some m.cls := findClass_of_methodNamed B.named
  have hlocks := B.notSynchronized
  have S : CallFix p m c cJ2_addAll 6 s _ lw_all RJ2 := ⟨hx, hb, hml, hown, hts⟩
  have hD := hD0.self (sz := s.heap.size)
  have hA : ∀ q : Nat, s.heap.size ≤ q → va_A [(la, .inr (11, [.int mc, .ref ea, .int size])), (ea, .inl (dA 4, 10, .inr (.inr (.inr (.inr f))))), (lb, .inr (11, [.int mc2, .ref eb, .int size2])), (eb, .inl (dA 4, 10, .inr (.inr (.inr (.inr f2)))))] s.heap.size q := fun q h => Or.inr h
  have hS : va_S (va_A [(la, .inr (11, [.int mc, .ref ea, .int size])), (ea, .inl (dA 4, 10, .inr (.inr (.inr (.inr f))))), (lb, .inr (11, [.int mc2, .ref eb, .int size2])), (eb, .inl (dA 4, 10, .inr (.inr (.inr (.inr f2)))))] s.heap.size) s.heap s.heap [] := va_S.rf
  have hl := lv_entry ([.ref la, .ref lb]) (n := 6) (Nat.le_of_ble_eq_true rfl)
  rw [lg_entry_eq]
  generalize (lg_sl ([.ref la, .ref lb]) ++ List.replicate (6 - (lg_sl ([.ref la, .ref lb])).length) Slot.unset).toArray = ls at hl ⊢
  replace hl : lv_has ls 6 [(0, .ref la), (1, .ref lb)] := hl
  have hret : hrJ2_addAll_nr p l e s m ([.ref la, .ref lb] : List Value).toArray below meth c dC dI dA (va_A [(la, .inr (11, [.int mc, .ref ea, .int size])), (ea, .inl (dA 4, 10, .inr (.inr (.inr (.inr f))))), (lb, .inr (11, [.int mc2, .ref eb, .int size2])), (eb, .inl (dA 4, 10, .inr (.inr (.inr (.inr f2)))))] s.heap.size) la ea lb eb (MQ below (va_Qi (fun (r : Int32) (u : Int32 × Int32 × (Nat → Option Nat)) => Q r u.1 u.2.1 u.2.2) (aB dC dI [(la, .inr (11, [.int mc, .ref ea, .int size])), (ea, .inl (dA 4, 10, .inr (.inr (.inr (.inr f))))), (lb, .inr (11, [.int mc2, .ref eb, .int size2])), (eb, .inl (dA 4, 10, .inr (.inr (.inr (.inr f2)))))] s.heap.size (fun u => [(la, .inr (11, [.int u.1, .ref ea, .int u.2.1])), (ea, .inl (dA 4, 10, .inr (.inr (.inr (.inr u.2.2))))), (lb, .inr (11, [.int mc2, .ref eb, .int size2])), (eb, .inl (dA 4, 10, .inr (.inr (.inr (.inr f2)))))])) (va_A [(la, .inr (11, [.int mc, .ref ea, .int size])), (ea, .inl (dA 4, 10, .inr (.inr (.inr (.inr f))))), (lb, .inr (11, [.int mc2, .ref eb, .int size2])), (eb, .inl (dA 4, 10, .inr (.inr (.inr (.inr f2)))))] s.heap.size)) ([.ref la, .ref lb] : List Value).toArray s 1 10 (va_A [(la, .inr (11, [.int mc, .ref ea, .int size])), (ea, .inl (dA 4, 10, .inr (.inr (.inr (.inr f))))), (lb, .inr (11, [.int mc2, .ref eb, .int size2])), (eb, .inl (dA 4, 10, .inr (.inr (.inr (.inr f2)))))] s.heap.size)) Q mc2 size2 f2 := fun r mc size f H locs kc ks pc ls h1 h2 hz hq hP hD hS hd => W.widen (k := 1) (n := 10) h1 h2 (W.zret hx hb hr hz.1 (fun t ht hW => ⟨⟨r, (mc, size, f), rfl, hq, by subst ht; exact ⟨hP, hD⟩⟩, hS.F ht⟩) hS.2.2 hd)
  generalize hAe : va_A [(la, .inr (11, [.int mc, .ref ea, .int size])), (ea, .inl (dA 4, 10, .inr (.inr (.inr (.inr f))))), (lb, .inr (11, [.int mc2, .ref eb, .int size2])), (eb, .inl (dA 4, 10, .inr (.inr (.inr (.inr f2)))))] s.heap.size = A at hD hA hS hE hret hV ⊢
  clear hAe
  unfold wJ2_addAll_nr at hf
  refine lv_aload_n hx hb dJ2_addAll_0 rfl (lv_at hl 1 rfl) ?_
  refine aF_q (wr := [(la, .inr (11, [.int mc, .ref ea, .int size])), (ea, .inl (dA 4, 10, .inr (.inr (.inr (.inr f)))))]) hP hD hS hA [2, 3] [0, 1] rfl rfl (by decide) (by decide) (va_runF (As := []) (rest := []) (hK.1 11 _ rfl).2 S (metJ2_toArray_n l hf) (va_cwF 0 hts (lw_F q893 q897 q899 q58 q901) rfl rfl rfl hE.2.2.1.2.1 pdCol ⟨Nat.le_of_ble_eq_true rfl, Nat.le_of_ble_eq_true rfl⟩) ⟨ablindV, va_recv hK hP (ci := 11) (q0 := 2) rfl rfl, (apreV hK hE hV hP hD hS hA [2, 3] rfl rfl (by decide)).2⟩ rfl rfl hl.1 rfl (lv_room (Nat.le_of_ble_eq_true rfl)) dJ2_addAll_1 ⟨Nat.le_of_ble_eq_true rfl, Nat.le_of_ble_eq_true rfl⟩) (fun r_1 u_1 H locs hf hP hD hS => ?_)
  obtain ⟨ra_1, nn_1⟩ := u_1
  obtain ⟨er_1, hf⟩ := hf
  subst er_1
  replace hP : va_P (dC, dI) vwCl [(la, .inr (11, [.int mc, .ref ea, .int size])), (ea, .inl (dA 4, 10, .inr (.inr (.inr (.inr f))))), (lb, .inr (11, [.int mc2, .ref eb, .int size2])), (eb, .inl (dA 4, 10, .inr (.inr (.inr (.inr f2))))), (ra_1, .inl (dA 4, nn_1, .inr (.inr (.inr (.inr (va_cpy f2 (fun _ => none) (0 : Int32).toNatClampNeg (0 : Int32).toNatClampNeg ((if size2 < 10 then size2 else 10) : Int32).toNatClampNeg))))))] H := hP
  replace hD : va_D A [(la, .inr (11, [.int mc, .ref ea, .int size])), (ea, .inl (dA 4, 10, .inr (.inr (.inr (.inr f))))), (lb, .inr (11, [.int mc2, .ref eb, .int size2])), (eb, .inl (dA 4, 10, .inr (.inr (.inr (.inr f2))))), (ra_1, .inl (dA 4, nn_1, .inr (.inr (.inr (.inr (va_cpy f2 (fun _ => none) (0 : Int32).toNatClampNeg (0 : Int32).toNatClampNeg ((if size2 < 10 then size2 else 10) : Int32).toNatClampNeg))))))] := hD
  try dsimp only at hf
  refine W.eq (g2 := F0 m 6 ls (.ref ra_1 :: [])) rfl ?_
  refine lv_astore_n (lv' := [(2, .ref ra_1), (0, .ref la), (1, .ref lb)]) hx hb dJ2_addAll_6 rfl hl (by decide) rfl (fun ls hl => ?_)
  refine lv_aload_n hx hb dJ2_addAll_7 rfl (lv_at hl 1 rfl) ?_
  refine lv_dup hx hb dJ2_addAll_8 rfl ?_
  refine va_get (D := (dC, dI)) (ci := 11) (v := .int mc) (C := RJ2) (T := TJ2) (N := 3) hx hb hts in_J2 hown hK hP 0 rfl rfl 0 (by decide) (hts _ q386) (fun x9 h9 => u_same (hts _ q387) x9 h9) rfl dJ2_addAll_9 ?_
  refine lv_iconst (v := 1) hx hb dJ2_addAll_12 (by decide) ?_
  refine lv_iadd hx hb dJ2_addAll_13 ?_
  refine lv_topi (fun modCount_14 emodCount_14 => ?_)
  replace hf := hf modCount_14 emodCount_14
  refine va_put (D := (dC, dI)) (ci := 11) (v := .int modCount_14) (ty := .int) (C := RJ2) (T := TJ2) (N := 3) hx hb hts in_J2 tyJ2 tyJ2_ok nmJ2 hown hK hP hD hS 0 rfl rfl 0 (by decide) (hts _ q386) (fun x9 h9 => u_same (hts _ q387) x9 h9) rfl (by decide +kernel) rfl rfl (Nat.le_of_ble_eq_true rfl) dJ2_addAll_14 (fun H locs hP hD hS => ?_)
  replace hP : va_P (dC, dI) vwCl [(la, .inr (11, [.int modCount_14, .ref ea, .int size])), (ea, .inl (dA 4, 10, .inr (.inr (.inr (.inr f))))), (lb, .inr (11, [.int mc2, .ref eb, .int size2])), (eb, .inl (dA 4, 10, .inr (.inr (.inr (.inr f2))))), (ra_1, .inl (dA 4, nn_1, .inr (.inr (.inr (.inr (va_cpy f2 (fun _ => none) (0 : Int32).toNatClampNeg (0 : Int32).toNatClampNeg ((if size2 < 10 then size2 else 10) : Int32).toNatClampNeg))))))] H := hP
  replace hD : va_D A [(la, .inr (11, [.int modCount_14, .ref ea, .int size])), (ea, .inl (dA 4, 10, .inr (.inr (.inr (.inr f))))), (lb, .inr (11, [.int mc2, .ref eb, .int size2])), (eb, .inl (dA 4, 10, .inr (.inr (.inr (.inr f2))))), (ra_1, .inl (dA 4, nn_1, .inr (.inr (.inr (.inr (va_cpy f2 (fun _ => none) (0 : Int32).toNatClampNeg (0 : Int32).toNatClampNeg ((if size2 < 10 then size2 else 10) : Int32).toNatClampNeg))))))] := hD
  refine lv_aload_n hx hb dJ2_addAll_17 rfl (lv_at hl 0 rfl) ?_
  refine va_alen (v := (Int32.ofNat nn_1)) hx hb hK hP 4 4 rfl rfl rfl dJ2_addAll_18 ?_
  refine lv_topi (fun x3_19 ex3_19 => ?_)
  replace hf := hf x3_19 ex3_19
  refine lv_istore_n (lv' := [(3, .int x3_19), (2, .ref ra_1), (0, .ref la), (1, .ref lb)]) hx hb dJ2_addAll_19 rfl hl (by decide) rfl (fun ls hl => ?_)
  refine lv_iload_n hx hb dJ2_addAll_20 rfl (lv_at hl 0 rfl) ?_
  refine lv_if_ne (tgt := 26) hx hb dJ2_addAll_21 (by decide) (fun c_21 => ?_) (fun c_21 => ?_)
  · replace hf := hf.2 c_21
    refine lv_iload_n hx hb dJ2_addAll_26 rfl (lv_at hl 0 rfl) ?_
    refine lv_aload_n hx hb dJ2_addAll_27 rfl (lv_at hl 2 rfl) ?_
    refine va_get (D := (dC, dI)) (ci := 11) (v := .ref ea) (C := RJ2) (T := TJ2) (N := 3) hx hb hts in_J2 hown hK hP 0 rfl rfl 1 (by decide) (hts _ q383) (fun _ h9 => h9) rfl dJ2_addAll_28 ?_
    refine lv_dup hx hb dJ2_addAll_31 rfl ?_
    refine lv_astore (lv' := [(4, .ref ea), (3, .int x3_19), (2, .ref ra_1), (0, .ref la), (1, .ref lb)]) hx hb dJ2_addAll_32 hl (by decide) rfl (fun ls hl => ?_)
    refine va_alen (v := 10) hx hb hK hP 1 4 rfl rfl rfl dJ2_addAll_34 ?_
    refine lv_aload_n hx hb dJ2_addAll_35 rfl (lv_at hl 3 rfl) ?_
    refine va_get (D := (dC, dI)) (ci := 11) (v := .int size) (C := RJ2) (T := TJ2) (N := 3) hx hb hts in_J2 hown hK hP 0 rfl rfl 2 (by decide) (hts _ q384) (fun _ h9 => h9) rfl dJ2_addAll_36 ?_
    refine lv_dup hx hb dJ2_addAll_39 rfl ?_
    refine lv_istore (lv' := [(5, .int size), (4, .ref ea), (3, .int x3_19), (2, .ref ra_1), (0, .ref la), (1, .ref lb)]) hx hb dJ2_addAll_40 hl (by decide) rfl (fun ls hl => ?_)
    refine lv_isub hx hb dJ2_addAll_42 ?_
    refine lv_icmp_le (tgt := 56) hx hb dJ2_addAll_43 (by decide) (fun c_43 => ?_) (fun c_43 => ?_)
    · replace hf := hf.1 c_43
      refine lv_aload_n hx hb dJ2_addAll_56 rfl (lv_at hl 3 rfl) ?_
      refine lv_iconst (v := 0) hx hb dJ2_addAll_57 (by decide) ?_
      refine lv_aload hx hb dJ2_addAll_58 (lv_at hl 1 rfl) ?_
      refine lv_iload hx hb dJ2_addAll_60 (lv_at hl 0 rfl) ?_
      refine lv_iload_n hx hb dJ2_addAll_62 rfl (lv_at hl 2 rfl) ?_
      obtain ⟨ha_63_0, hf⟩ := hf
      obtain ⟨ha_63_1, hf⟩ := hf
      obtain ⟨ha_63_2, hf⟩ := hf
      obtain ⟨ha_63_3, hf⟩ := hf
      refine va_copyM hx hb (hml.trans hl.1.symm) hown (hts _ q146) (hts _ q148) (hts _ q147) (hts _ q64) hK hP hD hS 4 1 4 4 rfl rfl rfl rfl (by decide) ha_63_0 ha_63_1 ha_63_2 ha_63_3 (fun _ _ _ hy => hV.cpy hS hy) (Nat.le_of_ble_eq_true rfl) (Nat.le_of_ble_eq_true rfl) dJ2_addAll_63 (fun H locs hP hD hS => ?_)
      replace hP : va_P (dC, dI) vwCl [(la, .inr (11, [.int modCount_14, .ref ea, .int size])), (ea, .inl (dA 4, 10, .inr (.inr (.inr (.inr (va_cpy (va_cpy f2 (fun _ => none) (0 : Int32).toNatClampNeg (0 : Int32).toNatClampNeg ((if size2 < 10 then size2 else 10) : Int32).toNatClampNeg) f (0 : Int32).toNatClampNeg (size : Int32).toNatClampNeg (x3_19 : Int32).toNatClampNeg)))))), (lb, .inr (11, [.int mc2, .ref eb, .int size2])), (eb, .inl (dA 4, 10, .inr (.inr (.inr (.inr f2))))), (ra_1, .inl (dA 4, nn_1, .inr (.inr (.inr (.inr (va_cpy f2 (fun _ => none) (0 : Int32).toNatClampNeg (0 : Int32).toNatClampNeg ((if size2 < 10 then size2 else 10) : Int32).toNatClampNeg))))))] H := hP
      replace hD : va_D A [(la, .inr (11, [.int modCount_14, .ref ea, .int size])), (ea, .inl (dA 4, 10, .inr (.inr (.inr (.inr (va_cpy (va_cpy f2 (fun _ => none) (0 : Int32).toNatClampNeg (0 : Int32).toNatClampNeg ((if size2 < 10 then size2 else 10) : Int32).toNatClampNeg) f (0 : Int32).toNatClampNeg (size : Int32).toNatClampNeg (x3_19 : Int32).toNatClampNeg)))))), (lb, .inr (11, [.int mc2, .ref eb, .int size2])), (eb, .inl (dA 4, 10, .inr (.inr (.inr (.inr f2))))), (ra_1, .inl (dA 4, nn_1, .inr (.inr (.inr (.inr (va_cpy f2 (fun _ => none) (0 : Int32).toNatClampNeg (0 : Int32).toNatClampNeg ((if size2 < 10 then size2 else 10) : Int32).toNatClampNeg))))))] := hD
      refine lv_aload_n hx hb dJ2_addAll_66 rfl (lv_at hl 4 rfl) ?_
      refine lv_iload hx hb dJ2_addAll_67 (lv_at hl 0 rfl) ?_
      refine lv_iload_n hx hb dJ2_addAll_69 rfl (lv_at hl 2 rfl) ?_
      refine lv_iadd hx hb dJ2_addAll_70 ?_
      refine lv_topi (fun size_71 esize_71 => ?_)
      replace hf := hf size_71 esize_71
      refine va_put (D := (dC, dI)) (ci := 11) (v := .int size_71) (ty := .int) (C := RJ2) (T := TJ2) (N := 3) hx hb hts in_J2 tyJ2 tyJ2_ok nmJ2 hown hK hP hD hS 0 rfl rfl 2 (by decide) (hts _ q384) (fun _ h9 => h9) rfl (by decide +kernel) rfl rfl (Nat.le_of_ble_eq_true rfl) dJ2_addAll_71 (fun H locs hP hD hS => ?_)
      replace hP : va_P (dC, dI) vwCl [(la, .inr (11, [.int modCount_14, .ref ea, .int size_71])), (ea, .inl (dA 4, 10, .inr (.inr (.inr (.inr (va_cpy (va_cpy f2 (fun _ => none) (0 : Int32).toNatClampNeg (0 : Int32).toNatClampNeg ((if size2 < 10 then size2 else 10) : Int32).toNatClampNeg) f (0 : Int32).toNatClampNeg (size : Int32).toNatClampNeg (x3_19 : Int32).toNatClampNeg)))))), (lb, .inr (11, [.int mc2, .ref eb, .int size2])), (eb, .inl (dA 4, 10, .inr (.inr (.inr (.inr f2))))), (ra_1, .inl (dA 4, nn_1, .inr (.inr (.inr (.inr (va_cpy f2 (fun _ => none) (0 : Int32).toNatClampNeg (0 : Int32).toNatClampNeg ((if size2 < 10 then size2 else 10) : Int32).toNatClampNeg))))))] H := hP
      replace hD : va_D A [(la, .inr (11, [.int modCount_14, .ref ea, .int size_71])), (ea, .inl (dA 4, 10, .inr (.inr (.inr (.inr (va_cpy (va_cpy f2 (fun _ => none) (0 : Int32).toNatClampNeg (0 : Int32).toNatClampNeg ((if size2 < 10 then size2 else 10) : Int32).toNatClampNeg) f (0 : Int32).toNatClampNeg (size : Int32).toNatClampNeg (x3_19 : Int32).toNatClampNeg)))))), (lb, .inr (11, [.int mc2, .ref eb, .int size2])), (eb, .inl (dA 4, 10, .inr (.inr (.inr (.inr f2))))), (ra_1, .inl (dA 4, nn_1, .inr (.inr (.inr (.inr (va_cpy f2 (fun _ => none) (0 : Int32).toNatClampNeg (0 : Int32).toNatClampNeg ((if size2 < 10 then size2 else 10) : Int32).toNatClampNeg))))))] := hD
      refine lv_iconst (v := 1) hx hb dJ2_addAll_74 (by decide) ?_
      exact hret _ _ _ _ _ _ _ _ _ _ (Nat.le_of_ble_eq_true rfl) (Nat.le_of_ble_eq_true rfl) bz1 hf (hP.sub [0, 1, 2, 3] rfl) (hD.sub [0, 1, 2, 3] (by decide) rfl) hS dJ2_addAll_75
    · replace hf := hf.2 c_43
      exact hf.elim
  · replace hf := hf.1 c_21
    exact hf.elim
