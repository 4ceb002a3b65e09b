/-! THE COUNTY'S ENVIRONMENT: words that don't ride, statics, the empty array of ArrayList; contracts that only read -/
/-- the words that a method carries at its start -/
def nwOk : Cond → Bool
  | .fieldLinkNest .. => true
  | .methodLinkNest .. => true
  | .declares .. => true
  | .castable .. => true
  | _ => false
def NG (U : State) : Prop := ∀ w ∈ lw_tbl, nwOk w = true → va_Nw w U
theorem nw_on {w : Cond} (h : nwOk w = true) : w.onTables = true := by
  cases w <;> first | rfl | cases h
theorem NG.same {u U : State} (h : u.vm = U.vm) (hN : NG u) : NG U := fun w hw hk => va_Nw.same (nw_on hk) h (hN w hw hk)
theorem NG.warm {s U : State} (hW : s.WarmedH U.vm) (hN : NG s) : NG U := by
  intro w hw hk
  have h := hN w hw hk
  cases w <;> first | exact va_Nw.warmF hW h | exact va_Nw.warmM hW h | exact va_Nw.warmD hW h | exact va_Nw.warmC hW h | cases hk
theorem NG.of {A : Array Value} {s : State} (h : ∀ w ∈ lw_tbl, w.before A s = true) : NG s := fun w hw hk => va_Nw.of (nw_on hk) (h w hw)
/-- a static field is laid -/
def va_L (C n d : String) (A : Nat → Prop) (U : State) (H : Heap) : Prop := ∃ (c : ClassId) (k : Class) (i : Nat) (f : Field) (a : Nat) (cell : Cell), U.vm.findClass C = some c ∧ U.fieldFound? C n d = some (c, k, i, f) ∧ f.isStatic = true ∧ k.statics = some a ∧ H[a]? = some cell ∧ cell.vm.isStatics = true ∧ cell.cls = c ∧ f.slot < cell.slots.size ∧ k.staticTypes[f.slot]? = some f.type ∧ ¬ A a
theorem va_L.moved {C n d : String} {A : Nat → Prop} {u U : State} {H : Heap} (hvm : u.vm.Alike U.vm) (h : va_L C n d A u H) : va_L C n d A U H := by
  obtain ⟨c, k, i, f, a, cell, h1, h2, h3, h4, h5, h6, h7, h8, h9, h10⟩ := h
  obtain ⟨k', hi', he⟩ := State.fieldFound?_setVm hvm h2
  exact ⟨c, k', i, f, a, cell, by rw [hvm.findClass]; exact h1, hi', h3, by rw [he]; exact h4, h5, h6, h7, h8, by rw [he]; exact h9, h10⟩
theorem va_L.kept {C n d : String} {A : Nat → Prop} {U : State} {H H1 : Heap} (h : va_L C n d A U H) (hq : ∀ a : Nat, a < H.size → ¬ A a → H1[a]? = H[a]?) : va_L C n d A U H1 := by
  obtain ⟨c, k, i, f, a, cell, h1, h2, h3, h4, h5, h6, h7, h8, h9, h10⟩ := h
  exact ⟨c, k, i, f, a, cell, h1, h2, h3, h4, by rw [hq a (Array.getElem?_eq_some_iff.mp h5).1 h10]; exact h5, h6, h7, h8, h9, h10⟩
theorem va_L.narrow {C n d : String} {A B : Nat → Prop} {U : State} {H : Heap} (h : va_L C n d A U H) (hAB : ∀ q, B q → A q) : va_L C n d B U H := by
  obtain ⟨c, k, i, f, a, cell, h1, h2, h3, h4, h5, h6, h7, h8, h9, h10⟩ := h
  exact ⟨c, k, i, f, a, cell, h1, h2, h3, h4, h5, h6, h7, h8, h9, fun z => h10 (hAB a z)⟩
/-- the statics: A is what may be written -/
def ZG (A : Nat → Prop) (eA : Nat) (U : State) (H : Heap) : Prop :=
  va_Z RX0 "FIRST" "J" (.long 1090785345) A U H ∧ va_Z RX0 "LAST" "J" (.long 34905131040) A U H ∧ va_Z RX0 "TOP" "J" (.long 63) A U H ∧ va_Z RX0 "BOTTOM" "J" (.long 67645734912) A U H ∧ va_Z RX0 "EDGE" "J" (.long 68208171135) A U H
  ∧ va_Z RJ2 "DEFAULTCAPACITY_EMPTY_ELEMENTDATA" "[Ljava/lang/Object;" (.ref eA) A U H ∧ va_T (.object "java/lang/Object") eA 0 (fun _ => .null) A U H
  ∧ va_O "[Ljava/lang/Object;" eA A U H ∧ va_Z "java/lang/String" "COMPACT_STRINGS" "Z" (.int 1) A U H ∧ va_Zq "java/lang/Throwable" "UNASSIGNED_STACK" "[Ljava/lang/StackTraceElement;" A U H ∧ va_Zq "java/lang/Throwable" "SUPPRESSED_SENTINEL" "Ljava/util/List;" A U H
  ∧ va_L "java/lang/Throwable" "UNASSIGNED_STACK" "[Ljava/lang/StackTraceElement;" A U H ∧ va_L "java/lang/Throwable" "SUPPRESSED_SENTINEL" "Ljava/util/List;" A U H
theorem ZG.moved {A : Nat → Prop} {eA : Nat} {u U : State} {H : Heap} (hvm : u.vm.Alike U.vm) (h : ZG A eA u H) : ZG A eA U H :=
  ⟨va_Z.moved hvm h.1, va_Z.moved hvm h.2.1, va_Z.moved hvm h.2.2.1, va_Z.moved hvm h.2.2.2.1, va_Z.moved hvm h.2.2.2.2.1, va_Z.moved hvm h.2.2.2.2.2.1, va_T.moved hvm h.2.2.2.2.2.2.1, va_O.moved hvm h.2.2.2.2.2.2.2.1, va_Z.moved hvm h.2.2.2.2.2.2.2.2.1, va_Zq.moved hvm h.2.2.2.2.2.2.2.2.2.1, va_Zq.moved hvm h.2.2.2.2.2.2.2.2.2.2.1, va_L.moved hvm h.2.2.2.2.2.2.2.2.2.2.2.1, va_L.moved hvm h.2.2.2.2.2.2.2.2.2.2.2.2⟩
theorem ZG.kept {A : Nat → Prop} {eA : Nat} {U : State} {H H1 : Heap} (h : ZG A eA U H) (hq : ∀ a : Nat, a < H.size → ¬ A a → H1[a]? = H[a]?) : ZG A eA U H1 :=
  ⟨va_Z.kept h.1 hq, va_Z.kept h.2.1 hq, va_Z.kept h.2.2.1 hq, va_Z.kept h.2.2.2.1 hq, va_Z.kept h.2.2.2.2.1 hq, va_Z.kept h.2.2.2.2.2.1 hq, va_T.kept h.2.2.2.2.2.2.1 hq, va_O.kept h.2.2.2.2.2.2.2.1 hq, va_Z.kept h.2.2.2.2.2.2.2.2.1 hq, va_Zq.kept h.2.2.2.2.2.2.2.2.2.1 hq, va_Zq.kept h.2.2.2.2.2.2.2.2.2.2.1 hq, va_L.kept h.2.2.2.2.2.2.2.2.2.2.2.1 hq, va_L.kept h.2.2.2.2.2.2.2.2.2.2.2.2 hq⟩
theorem ZG.narrow {A B : Nat → Prop} {eA : Nat} {U : State} {H : Heap} (h : ZG A eA U H) (hAB : ∀ q, B q → A q) : ZG B eA U H :=
  ⟨va_Z.narrow h.1 hAB, va_Z.narrow h.2.1 hAB, va_Z.narrow h.2.2.1 hAB, va_Z.narrow h.2.2.2.1 hAB, va_Z.narrow h.2.2.2.2.1 hAB, va_Z.narrow h.2.2.2.2.2.1 hAB, va_T.narrow h.2.2.2.2.2.2.1 hAB, va_O.narrow h.2.2.2.2.2.2.2.1 hAB, va_Z.narrow h.2.2.2.2.2.2.2.2.1 hAB, va_Zq.narrow h.2.2.2.2.2.2.2.2.2.1 hAB, va_Zq.narrow h.2.2.2.2.2.2.2.2.2.2.1 hAB, va_L.narrow h.2.2.2.2.2.2.2.2.2.2.2.1 hAB, va_L.narrow h.2.2.2.2.2.2.2.2.2.2.2.2 hAB⟩
/-- nothing is written -/
abbrev noA : Nat → Prop := fun _ => False
/-- the class Object[] and its object -/
def OG (mi : Nat) (U : State) : Prop := va_AO "java/lang/Object" U ∧ va_Mi "[Ljava/lang/Object;" mi U
theorem OG.moved {mi : Nat} {u U : State} (hvm : u.vm.Alike U.vm) (h : OG mi u) : OG mi U := ⟨va_AO.moved hvm h.1, va_Mi.moved hvm h.2⟩
/-- the two String constants -/
def SG (A : Nat → Prop) (U : State) (H : Heap) : Prop := ∃ adK adV : Nat → Nat, vk_S 2 [5, 3] [[48, 49, 50, 51, 45], [100, 102, 114]] adK adV A U H ∧ vk_R "HoleCounty" 301 "0123-" (adK 0) U ∧ vk_R "HoleCounty" 319 "dfr" (adK 1) U
theorem SG.warm {A : Nat → Prop} {s U : State} {H : Heap} (hW : s.WarmedH U.vm) (h : SG A s H) : SG A U H := by
  obtain ⟨k, v, h1, h2, h3⟩ := h
  exact ⟨k, v, h1.moved hW.alike, h2.warm hW, h3.warm hW⟩
theorem SG.same {A : Nat → Prop} {u U : State} {H : Heap} (hv : u.vm = U.vm) (h : SG A u H) : SG A U H := by
  obtain ⟨k, v, h1, h2, h3⟩ := h
  exact ⟨k, v, h1.moved (by rw [hv]; exact Vm.Alike.refl U.vm), h2.same hv.symm, h3.same hv.symm⟩
theorem SG.kept {A : Nat → Prop} {U : State} {H H1 : Heap} (h : SG A U H) (hq : ∀ a : Nat, a < H.size → ¬ A a → H1[a]? = H[a]?) : SG A U H1 := by
  obtain ⟨k, v, h1, h2⟩ := h
  exact ⟨k, v, h1.kept hq, h2⟩
theorem SG.narrow {A B : Nat → Prop} {U : State} {H : Heap} (h : SG A U H) (hAB : ∀ q, B q → A q) : SG B U H := by
  obtain ⟨k, v, h1, h2⟩ := h
  exact ⟨k, v, h1.narrow hAB, h2⟩
/-- whether objects of one class may be cast to another -/
def asg (A B : String) (s : State) (v : Bool) : Prop := ∃ a b, s.vm.findClass A = some a ∧ s.vm.findClass B = some b ∧ s.vm.assignable a b = v
theorem asg.moved {A B : String} {u U : State} {v : Bool} (hvm : u.vm.Alike U.vm) (h : asg A B u v) : asg A B U v := by
  obtain ⟨a, b, h1, h2, h3⟩ := h
  exact ⟨a, b, by rw [hvm.findClass]; exact h1, by rw [hvm.findClass]; exact h2, by rw [hvm.assignable]; exact h3⟩
/-- what can't be cast -/
abbrev ncL : List (String × String) := [("java/lang/ClassCastException", "java/lang/NullPointerException"), ("java/lang/ArrayIndexOutOfBoundsException", "java/lang/NullPointerException"), ("java/lang/ArrayIndexOutOfBoundsException", "java/lang/ClassCastException"), ("java/lang/ArrayStoreException", "java/lang/NullPointerException"), ("java/lang/ArrayIndexOutOfBoundsException", "java/lang/ArrayStoreException"),
  ("[B", "[S"), ("[B", "[I"), ("[B", "[J"), ("[S", "[B"), ("[S", "[I"), ("[S", "[J"), ("[I", "[B"), ("[I", "[S"), ("[I", "[J"), ("[J", "[B"), ("[J", "[S"), ("[J", "[I")]
def NC (U : State) : Prop := ∀ q ∈ ncL, asg q.1 q.2 U false
theorem NC.moved {u U : State} (hvm : u.vm.Alike U.vm) (h : NC u) : NC U := fun q hq => (h q hq).moved hvm
/-- Collection.toArray() by ArrayList's, and the class Held[] -/
abbrev yCol : MethodName := ⟨"java/util/Collection", "toArray", "()[Ljava/lang/Object;"⟩
def HG (U : State) : Prop := va_AO "HoleCounty$Held" U ∧ va_Fw RJ2 yCol yJ2_toArray U ∧ NC U
theorem HG.moved {u U : State} (hvm : u.vm.Alike U.vm) (h : HG u) : HG U := ⟨va_AO.moved hvm h.1, va_Fw.moved (by decide) hvm h.2.1, h.2.2.moved hvm⟩
/-- the environment -/
def EG (A : Nat → Prop) (eA mi : Nat) (U : State) (H : Heap) : Prop := NG U ∧ (OG mi U ∧ SG A U H) ∧ HG U ∧ ZG A eA U H
theorem EG.warm {A : Nat → Prop} {eA mi : Nat} {s U : State} {H : Heap} (hW : s.WarmedH U.vm) (h : EG A eA mi s H) : EG A eA mi U H := ⟨h.1.warm hW, ⟨h.2.1.1.moved hW.alike, h.2.1.2.warm hW⟩, h.2.2.1.moved hW.alike, h.2.2.2.moved hW.alike⟩
theorem EG.same {A : Nat → Prop} {eA mi : Nat} {u U : State} {H : Heap} (hv : u.vm = U.vm) (h : EG A eA mi u H) : EG A eA mi U H := ⟨h.1.same hv, ⟨h.2.1.1.moved (by rw [hv]; exact Vm.Alike.refl U.vm), h.2.1.2.same hv⟩, h.2.2.1.moved (by rw [hv]; exact Vm.Alike.refl U.vm), h.2.2.2.moved (by rw [hv]; exact Vm.Alike.refl U.vm)⟩
theorem EG.kept {A : Nat → Prop} {eA mi : Nat} {U : State} {H H1 : Heap} (h : EG A eA mi U H) (hq : ∀ a : Nat, a < H.size → ¬ A a → H1[a]? = H[a]?) : EG A eA mi U H1 := ⟨h.1, ⟨h.2.1.1, h.2.1.2.kept hq⟩, h.2.2.1, h.2.2.2.kept hq⟩
theorem EG.narrow {A B : Nat → Prop} {eA mi : Nat} {U : State} {H : Heap} (h : EG A eA mi U H) (hAB : ∀ q, B q → A q) : EG B eA mi U H := ⟨h.1, ⟨h.2.1.1, h.2.1.2.narrow hAB⟩, h.2.2.1, h.2.2.2.narrow hAB⟩
/-- a contract's start: cells, classes, environment -/
abbrev rPc (dC : Nat → ClassId) (dI : Nat → Nat → Nat) (dA : Nat → ClassId) (eA mi : Nat) (As : List Value) (w0 : va_W) : Array Value → State → Prop := va_Pc As (fun U => va_P (dC, dI) vwCl w0 U.heap ∧ va_K (dC, dI) vwCl (tysG dA) U ∧ EG noA eA mi U U.heap)
section RO
variable {p : Program} {l : Launch} {e : Env} {R : Room} {s : State} {m : MethodId} {args : Array Value} {below : List Frame} {meth : Method} {c : Code} {H : Heap} {locs : List Loc} {cells slots : Nat} {Q : State → Prop}
variable {cc : ByteArray} {pc nL : Nat} {ls : Array Slot} {rest st0 : List Value} {dC : Nat → ClassId} {dI : Nat → Nat → Nat} {dA : Nat → ClassId} {eA mi : Nat}
variable {y : MethodName} {bytes : ByteArray} {maxL n index : Nat} {ret : Option FieldType} {rm : Room} {own C : String} {As : List Value} {w0 : va_W}
theorem rblind : FrameBlind (rPc dC dI dA eA mi As w0) := fun a U g mk q => ⟨q.1, q.2.1, va_K.moved (u := U) (U := U.calling g mk a) (Vm.Alike.refl U.vm) q.2.2.1, EG.same (u := U) (U := U.calling g mk a) rfl q.2.2.2⟩
theorem rpreS (hP : va_P (dC, dI) vwCl w0 H) (hK : va_K (dC, dI) vwCl (tysG dA) s) (hE : EG noA eA mi s H) : PreS s H (rPc dC dI dA eA mi As w0) As := ⟨rblind, fun U hU hW => ⟨rfl, by rw [hU]; exact hP, va_K.moved hW.alike hK, by rw [hU]; exact hE.warm hW⟩⟩
/-- what a read-only contract asks and gives, static, by the class's own link -/
theorem cr_i (S : CallFix p m c cc nL s args lw_all own) (hP : va_P (dC, dI) vwCl w0 H) (hK : va_K (dC, dI) vwCl (tysG dA) s) (hE : EG noA eA mi s H) {Qr : Int32 → Prop} (hM : Met l y (ws_ y bytes maxL ret) rm (rPc dC dI dA eA mi As w0) (vp_Si Qr) 0 0 (fun _ => False)) (hG : GoodIn lw_all (va_wsS own index y (ws_ y bytes maxL ret))) (hd : DscOk y n) (h0 : rm.cells = 0 ∧ rm.slots = 0) (hR : RmOk rm R maxL) (hn : As.length = n) (hsize : ls.size = nL) (hstack : st0 = As.reverse ++ rest) (hW : (rest.map fun v => v.category).sum ≤ 8) (hdg : decode cc pc = .ok (.invokestatic index, 3)) (hf : cells ≤ R.cells ∧ slots ≤ R.slots)
    (kk : ∀ r : Int32, Qr r → W p l e R s m args below meth c H locs cells slots Q (F0 m (pc + 3) ls (.int r :: rest))) : W p l e R s m args below meth c H locs cells slots Q (F0 m pc ls st0) :=
  vp_callSi (W.runS S hM (va_cwS n S.2.2.2.2 hG rfl h0.1 h0.2 hd hR) (rpreS hP hK hE) rfl hn hsize hstack (lv_room hW) hdg hf) kk
theorem cr_l (S : CallFix p m c cc nL s args lw_all own) (hP : va_P (dC, dI) vwCl w0 H) (hK : va_K (dC, dI) vwCl (tysG dA) s) (hE : EG noA eA mi s H) {Qr : Int64 → Prop} (hM : Met l y (ws_ y bytes maxL ret) rm (rPc dC dI dA eA mi As w0) (vp_Sl Qr) 0 0 (fun _ => False)) (hG : GoodIn lw_all (va_wsS own index y (ws_ y bytes maxL ret))) (hd : DscOk y n) (h0 : rm.cells = 0 ∧ rm.slots = 0) (hR : RmOk rm R maxL) (hn : As.length = n) (hsize : ls.size = nL) (hstack : st0 = As.reverse ++ rest) (hW : (rest.map fun v => v.category).sum ≤ 8) (hdg : decode cc pc = .ok (.invokestatic index, 3)) (hf : cells ≤ R.cells ∧ slots ≤ R.slots)
    (kk : ∀ r : Int64, Qr r → W p l e R s m args below meth c H locs cells slots Q (F0 m (pc + 3) ls (.long r :: rest))) : W p l e R s m args below meth c H locs cells slots Q (F0 m pc ls st0) :=
  vp_callSl (W.runS S hM (va_cwS n S.2.2.2.2 hG rfl h0.1 h0.2 hd hR) (rpreS hP hK hE) rfl hn hsize hstack (lv_room hW) hdg hf) kk
/-- static, by a nest mate's link -/
theorem crn_i (S : CallFix p m c cc nL s args lw_all own) {host : String} (hP : va_P (dC, dI) vwCl w0 H) (hK : va_K (dC, dI) vwCl (tysG dA) s) (hE : EG noA eA mi s H) {Qr : Int32 → Prop} (hM : Met l y (ws_ y bytes maxL ret) rm (rPc dC dI dA eA mi As w0) (vp_Si Qr) 0 0 (fun _ => False)) (hl : Cond.methodLinkNest own index y host ∈ lw_tbl) (hq : Cond.static y ∈ lw_all ∧ Cond.initialized y.cls ∈ lw_all ∧ Cond.code y bytes maxL ret ∈ lw_all) (hd : DscOk y n) (h0 : rm.cells = 0 ∧ rm.slots = 0) (hR : RmOk rm R maxL) (hn : As.length = n) (hsize : ls.size = nL) (hstack : st0 = As.reverse ++ rest) (hW : (rest.map fun v => v.category).sum ≤ 8) (hdg : decode cc pc = .ok (.invokestatic index, 3)) (hf : cells ≤ R.cells ∧ slots ≤ R.slots)
    (kk : ∀ r : Int32, Qr r → W p l e R s m args below meth c H locs cells slots Q (F0 m (pc + 3) ls (.int r :: rest))) : W p l e R s m args below meth c H locs cells slots Q (F0 m pc ls st0) :=
  vp_callSi (va_runSN S hM ⟨va_cnB n S.2.2.2.2 (lw_meth hq.2.2) rfl h0.1 h0.2 (hE.1 _ hl rfl) (S.2.2.2.2 _ hq.2.1) hd hR, S.2.2.2.2 _ hq.1, trivial⟩ (rpreS hP hK hE) rfl hn hsize hstack (lv_room hW) hdg hf).run kk
theorem crn_l (S : CallFix p m c cc nL s args lw_all own) {host : String} (hP : va_P (dC, dI) vwCl w0 H) (hK : va_K (dC, dI) vwCl (tysG dA) s) (hE : EG noA eA mi s H) {Qr : Int64 → Prop} (hM : Met l y (ws_ y bytes maxL ret) rm (rPc dC dI dA eA mi As w0) (vp_Sl Qr) 0 0 (fun _ => False)) (hl : Cond.methodLinkNest own index y host ∈ lw_tbl) (hq : Cond.static y ∈ lw_all ∧ Cond.initialized y.cls ∈ lw_all ∧ Cond.code y bytes maxL ret ∈ lw_all) (hd : DscOk y n) (h0 : rm.cells = 0 ∧ rm.slots = 0) (hR : RmOk rm R maxL) (hn : As.length = n) (hsize : ls.size = nL) (hstack : st0 = As.reverse ++ rest) (hW : (rest.map fun v => v.category).sum ≤ 8) (hdg : decode cc pc = .ok (.invokestatic index, 3)) (hf : cells ≤ R.cells ∧ slots ≤ R.slots)
    (kk : ∀ r : Int64, Qr r → W p l e R s m args below meth c H locs cells slots Q (F0 m (pc + 3) ls (.long r :: rest))) : W p l e R s m args below meth c H locs cells slots Q (F0 m pc ls st0) :=
  vp_callSl (va_runSN S hM ⟨va_cnB n S.2.2.2.2 (lw_meth hq.2.2) rfl h0.1 h0.2 (hE.1 _ hl rfl) (S.2.2.2.2 _ hq.2.1) hd hR, S.2.2.2.2 _ hq.1, trivial⟩ (rpreS hP hK hE) rfl hn hsize hstack (lv_room hW) hdg hf).run kk
/-- a pure static method (no environment asked) by a nest mate's link -/
theorem csn_i (S : CallFix p m c cc nL s args lw_all own) {host : String} (hE : NG s) {Qr : Int32 → Prop} (hM : Met l y (ws_ y bytes maxL ret) rm (fun v _ => v = As.toArray) (vp_Si Qr) 0 0 (fun _ => False)) (hl : Cond.methodLinkNest own index y host ∈ lw_tbl) (hq : Cond.static y ∈ lw_all ∧ Cond.initialized y.cls ∈ lw_all ∧ Cond.code y bytes maxL ret ∈ lw_all) (hd : DscOk y n) (h0 : rm.cells = 0 ∧ rm.slots = 0) (hR : RmOk rm R maxL) (hn : As.length = n) (hsize : ls.size = nL) (hstack : st0 = As.reverse ++ rest) (hW : (rest.map fun v => v.category).sum ≤ 8) (hdg : decode cc pc = .ok (.invokestatic index, 3)) (hf : cells ≤ R.cells ∧ slots ≤ R.slots)
    (kk : ∀ r : Int32, Qr r → W p l e R s m args below meth c H locs cells slots Q (F0 m (pc + 3) ls (.int r :: rest))) : W p l e R s m args below meth c H locs cells slots Q (F0 m pc ls st0) :=
  vp_callSi (va_runSN S hM ⟨va_cnB n S.2.2.2.2 (lw_meth hq.2.2) rfl h0.1 h0.2 (hE _ hl rfl) (S.2.2.2.2 _ hq.2.1) hd hR, S.2.2.2.2 _ hq.1, trivial⟩ preEq rfl hn hsize hstack (lv_room hW) hdg hf).run kk
/-- an object's own method that only reads -/
theorem crv_i (S : CallFix p m c cc nL s args lw_all own) {a : Nat} (hrec : ∃ cell : Cell, H[a]? = some cell ∧ cell.vm.isStatics = false ∧ s.vm.findClass C = some cell.cls) (hP : va_P (dC, dI) vwCl w0 H) (hK : va_K (dC, dI) vwCl (tysG dA) s) (hE : EG noA eA mi s H) {Qr : Int32 → Prop} (hM : Met l y (ws_ y bytes maxL ret) rm (rPc dC dI dA eA mi (.ref a :: As) w0) (vp_Si Qr) 0 0 (fun _ => False)) (hG : GoodIn lw_all (wsV own index C y (ws_ y bytes maxL ret))) (hC : y.cls = C) (hd : DscOk y n) (h0 : rm.cells = 0 ∧ rm.slots = 0) (hR : RmOk rm R maxL) (hn : As.length = n) (hsize : ls.size = nL) (hstack : st0 = As.reverse ++ .ref a :: rest) (hW : (rest.map fun v => v.category).sum ≤ 8) (hdg : decode cc pc = .ok (.invokevirtual index, 3)) (hf : cells ≤ R.cells ∧ slots ≤ R.slots)
    (kk : ∀ r : Int32, Qr r → W p l e R s m args below meth c H locs cells slots Q (F0 m (pc + 3) ls (.int r :: rest))) : W p l e R s m args below meth c H locs cells slots Q (F0 m pc ls st0) :=
  vp_callSi (W.runV S hM (cwV n S.2.2.2.2 hG rfl h0.1 h0.2 ⟨hC, hd⟩ hR) ⟨rblind, hrec, (rpreS hP hK hE).2⟩ rfl hn hsize hstack (lv_room hW) hdg hf) kk
theorem crv_l (S : CallFix p m c cc nL s args lw_all own) {a : Nat} (hrec : ∃ cell : Cell, H[a]? = some cell ∧ cell.vm.isStatics = false ∧ s.vm.findClass C = some cell.cls) (hP : va_P (dC, dI) vwCl w0 H) (hK : va_K (dC, dI) vwCl (tysG dA) s) (hE : EG noA eA mi s H) {Qr : Int64 → Prop} (hM : Met l y (ws_ y bytes maxL ret) rm (rPc dC dI dA eA mi (.ref a :: As) w0) (vp_Sl Qr) 0 0 (fun _ => False)) (hG : GoodIn lw_all (wsV own index C y (ws_ y bytes maxL ret))) (hC : y.cls = C) (hd : DscOk y n) (h0 : rm.cells = 0 ∧ rm.slots = 0) (hR : RmOk rm R maxL) (hn : As.length = n) (hsize : ls.size = nL) (hstack : st0 = As.reverse ++ .ref a :: rest) (hW : (rest.map fun v => v.category).sum ≤ 8) (hdg : decode cc pc = .ok (.invokevirtual index, 3)) (hf : cells ≤ R.cells ∧ slots ≤ R.slots)
    (kk : ∀ r : Int64, Qr r → W p l e R s m args below meth c H locs cells slots Q (F0 m (pc + 3) ls (.long r :: rest))) : W p l e R s m args below meth c H locs cells slots Q (F0 m pc ls st0) :=
  vp_callSl (W.runV S hM (cwV n S.2.2.2.2 hG rfl h0.1 h0.2 ⟨hC, hd⟩ hR) ⟨rblind, hrec, (rpreS hP hK hE).2⟩ rfl hn hsize hstack (lv_room hW) hdg hf) kk
theorem va_nil {D : va_G} {cl : List vw_C} {H : Heap} : va_P D cl [] H := fun k q h => by cases h
end RO
