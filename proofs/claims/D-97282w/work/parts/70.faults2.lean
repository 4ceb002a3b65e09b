/-! FAULTS OF THE SHEETS: texts that are bounded, stores out of bounds, casts that fail, sizes below 0, an own throw -/
/-- a message that is known and not long -/
def okTx (text : String) : Prop := (text == notModelled) = false ∧ (stringBytes (stringToUtf16 text)).size + 10 ≤ 500
theorem okTx_of {text : String} (h : (text == notModelled) = false) (hn : text.toList.length ≤ 120) : okTx text := by
  refine ⟨h, ?_⟩
  have b1 := stringBytes_size_le (stringToUtf16 text)
  have b2 := utf16_size_le text
  omega
theorem ixText_ok (i : Int32) {n : Nat} (h : n < 2 ^ 31) : okTx (ixText i n) :=
  okTx_of (show (ixText i n == notModelled) = false from index_text_modelled i n) (Nat.le_trans (show (ixText i n).toList.length ≤ 53 from index_text_length i h) (by decide))
theorem negText_ok {n : Int32} (h : n < 0) : okTx (toString n) := ⟨negative_text_modelled h, by have := negative_text_bytes n; omega⟩
/-- a class by its name: no hidden one, the bootstrap loader's -/
theorem find_full {vm : Vm} {name : String} {c : ClassId} (h : vm.findClass name = some c) : ∃ k, vm.classes[c]? = some k ∧ k.name = name ∧ k.hidden = none ∧ k.loader = none := by
  obtain ⟨hlt, hp, _⟩ := Array.findIdx?_eq_some_iff_getElem.mp h
  refine ⟨vm.classes[c], by simp [hlt], ?_⟩
  simp only [Bool.and_eq_true, beq_iff_eq, Option.isNone_iff_eq_none] at hp
  exact ⟨hp.1.1.1, hp.1.1.2, hp.2⟩
/-- what a cast says that fails between arrays of numbers -/
def ccText (b : Bool) (C D : String) : String := "class " ++ dotted C ++ " cannot be cast to class " ++ dotted D ++ " (" ++ (dotted C ++ " and " ++ dotted D ++ " are in " ++ ((if b then "module java.base" else "unnamed module") ++ " of loader " ++ "'bootstrap'")) ++ ")"
theorem cc_msg {vm : Vm} {k1 k2 : Class} {C D : String} (n1 : k1.name = C) (n2 : k2.name = D) (h1 : k1.hidden = none) (h2 : k2.hidden = none) (l1 : k1.loader = none) (l2 : k2.loader = none) (p1 : k1.ofPrimitives = true) (p2 : k2.ofPrimitives = true) : ∃ b, Op.checkcast.message vm k1 k2 = ccText b C D := by
  have s1 : k1.shown = dotted C := by unfold Class.shown; rw [h1, n1]
  have s2 : k2.shown = dotted D := by unfold Class.shown; rw [h2, n2]
  have m1 : vm.moduleOf k1 = vm.modules.find? (fun m => m.name == "java.base") := by unfold Vm.moduleOf; rw [p1]; rfl
  have m2 : vm.moduleOf k2 = vm.modules.find? (fun m => m.name == "java.base") := by unfold Vm.moduleOf; rw [p2]; rfl
  have hs : vm.sameModule k1 k2 = true := by
    unfold Vm.sameModule
    rw [m1, m2]
    cases vm.modules.find? (fun m => m.name == "java.base") with
    | none => rw [l1, l2]; rfl
    | some x => exact beq_self_eq_true x.obj
  have hh : ∃ b : Bool, vm.home k1 = (if b then "module java.base" else "unnamed module") ++ " of loader " ++ "'bootstrap'" := by
    unfold Vm.home
    rw [m1, l1]
    cases e : vm.modules.find? (fun m => m.name == "java.base") with
    | none => exact ⟨false, rfl⟩
    | some x =>
      refine ⟨true, ?_⟩
      have : x.name = "java.base" := by
        have := List.find?_some e
        simpa using this
      show "module " ++ x.name ++ " of loader " ++ "'bootstrap'" = _
      rw [this]
      rfl
  obtain ⟨b, hb⟩ := hh
  refine ⟨b, ?_⟩
  unfold Op.checkcast.message Vm.homes ccText
  rw [s1, s2, hs, hb]
  rfl
abbrev prL : List String := ["[B", "[S", "[I", "[J"]
theorem dot_len (C : String) : (dotted C).toList.length = C.toList.length := by
  unfold dotted turned
  rw [String.toList_ofList, List.length_map]
theorem pr_two : ∀ C ∈ prL, C.toList.length = 2 := by decide
theorem cc_ok (C : String) (hC : C ∈ prL) (D : String) (hD : D ∈ prL) (b : Bool) : okTx (ccText b C D) := by
  refine okTx_of ?_ ?_
  · rw [beq_eq_false_iff_ne]
    intro h
    have h2 := congrArg String.toList h
    unfold ccText at h2
    simp only [String.toList_append, List.append_assoc] at h2
    have h3 : "class ".toList = 'c' :: "lass ".toList := by decide
    have h4 : notModelled.toList = '\u0000' :: " a message that is not modelled".toList := by decide
    rw [h3, h4] at h2
    simp at h2
  · unfold ccText
    simp only [String.toList_append, List.length_append, dot_len, pr_two C hC, pr_two D hD]
    have a1 : "class ".toList.length = 6 := by decide
    have a2 : " cannot be cast to class ".toList.length = 25 := by decide
    have a3 : " (".toList.length = 2 := by decide
    have a4 : " and ".toList.length = 5 := by decide
    have a5 : " are in ".toList.length = 8 := by decide
    have a6 : " of loader ".toList.length = 11 := by decide
    have a7 : "'bootstrap'".toList.length = 11 := by decide
    have a8 : ")".toList.length = 1 := by decide
    have a9 : (if b then "module java.base" else "unnamed module").toList.length ≤ 16 := by cases b <;> decide
    omega
theorem pr_len : ∀ C ∈ prL, ((withoutBrackets C).length == 1) = true := by decide
theorem prim_of {k : Class} {comp : ClassId} {ty : FieldType} (hk : k.kind = .array comp ty) (hn : k.name ∈ prL) : k.ofPrimitives = true := by
  unfold Class.ofPrimitives
  rw [hk]
  exact pr_len _ hn
section FB
variable {p : Program} {l : Launch} {e : Env} {R : Room} {s : State} {m : MethodId} {args : Array Value} {below : List Frame} {meth : Method} {c : Code} {H : Heap} {locs : List Loc} {kc ks : Nat} {Q : State → Prop}
variable {cc : ByteArray} {pc nL : Nat} {ls : Array Slot} {rest : List Value} {D : va_G} {cl : List vw_C} {tys : List (ClassId × FieldType)} {ws : va_W} {a : Nat}
theorem x_neg (hexec : p.tables.exec = Jvm.exec) (hb : c.code = cc) {n : Int32} (hn : n < 0) {atype : ArrayType} (hdg : decode cc pc = .ok (.newarray atype, 2))
    (k : ∀ text, okTx text → Fl p l e R s m args below meth c H locs kc ks Q (F0 m pc ls rest) "java/lang/NegativeArraySizeException" (some text)) : W p l e R s m args below meth c H locs kc ks Q (F0 m pc ls (.int n :: rest)) := by
  intro T hT X
  obtain ⟨t, a1, b1⟩ := k _ (negText_ok hn) T hT X
  exact ⟨t, X.newarrayNegative hexec (g := F0 m pc ls (.int n :: rest)) rfl hn rfl (by rw [hb]; exact hdg) t a1, b1⟩
theorem x_out {i : Int32} {n : Nat} {cA : ClassId} {z : Nat → Value} (h : ¬ vp_in i n) : i < 0 ∨ (arrV cA n z).slots.size ≤ i.toNatClampNeg := by
  rw [arrV_size]
  exact Classical.not_not.mp h
theorem x_bast (hexec : p.tables.exec = Jvm.exec) (hb : c.code = cc) (hK : va_K D cl tys s) (hP : va_P D cl ws H) (q0 t0 : Nat) {cA : ClassId} {n : Nat} {f : Nat → Int32} (ha : ws[q0]? = some (a, .inl (cA, n, .inl f))) (ht : tys[t0]? = some (cA, .byte)) {i v : Int32} (ho : ¬ vp_in i n) (hn : n ≤ 36) (hdg : decode cc pc = .ok (.bastore, 1))
    (k : ∀ text, okTx text → Fl p l e R s m args below meth c H locs kc ks Q (F0 m pc ls rest) "java/lang/ArrayIndexOutOfBoundsException" (some text)) : W p l e R s m args below meth c H locs kc ks Q (F0 m pc ls (.int v :: .int i :: .ref a :: rest)) := by
  have hc : H[a]? = some (arrV cA n (fun j => .int (f j))) := hP q0 _ ha
  refine f_bastO hexec hb hc ((hK.2 t0 _ ht).1 n (fun j => .int (f j))) (x_out ho) hdg ?_
  rw [arrV_size]
  exact k _ (ixText_ok i (by omega))
theorem x_sast (hexec : p.tables.exec = Jvm.exec) (hb : c.code = cc) (hK : va_K D cl tys s) (hP : va_P D cl ws H) (q0 t0 : Nat) {cA : ClassId} {n : Nat} {f : Nat → Int32} (ha : ws[q0]? = some (a, .inl (cA, n, .inl f))) (ht : tys[t0]? = some (cA, .short)) {i v : Int32} (ho : ¬ vp_in i n) (hn : n ≤ 36) (hdg : decode cc pc = .ok (.sastore, 1))
    (k : ∀ text, okTx text → Fl p l e R s m args below meth c H locs kc ks Q (F0 m pc ls rest) "java/lang/ArrayIndexOutOfBoundsException" (some text)) : W p l e R s m args below meth c H locs kc ks Q (F0 m pc ls (.int v :: .int i :: .ref a :: rest)) := by
  have hc : H[a]? = some (arrV cA n (fun j => .int (f j))) := hP q0 _ ha
  refine f_sastO hexec hb hc ((hK.2 t0 _ ht).1 n (fun j => .int (f j))) (x_out ho) hdg ?_
  rw [arrV_size]
  exact k _ (ixText_ok i (by omega))
theorem x_iast (hexec : p.tables.exec = Jvm.exec) (hb : c.code = cc) (hK : va_K D cl tys s) (hP : va_P D cl ws H) (q0 t0 : Nat) {cA : ClassId} {n : Nat} {f : Nat → Int32} (ha : ws[q0]? = some (a, .inl (cA, n, .inl f))) (ht : tys[t0]? = some (cA, .int)) {i v : Int32} (ho : ¬ vp_in i n) (hn : n ≤ 36) (hdg : decode cc pc = .ok (.iastore, 1))
    (k : ∀ text, okTx text → Fl p l e R s m args below meth c H locs kc ks Q (F0 m pc ls rest) "java/lang/ArrayIndexOutOfBoundsException" (some text)) : W p l e R s m args below meth c H locs kc ks Q (F0 m pc ls (.int v :: .int i :: .ref a :: rest)) := by
  have hc : H[a]? = some (arrV cA n (fun j => .int (f j))) := hP q0 _ ha
  refine f_iastO hexec hb hc ((hK.2 t0 _ ht).1 n (fun j => .int (f j))) (x_out ho) hdg ?_
  rw [arrV_size]
  exact k _ (ixText_ok i (by omega))
theorem x_last (hexec : p.tables.exec = Jvm.exec) (hb : c.code = cc) (hK : va_K D cl tys s) (hP : va_P D cl ws H) (q0 t0 : Nat) {cA : ClassId} {n : Nat} {f : Nat → Int64} (ha : ws[q0]? = some (a, .inl (cA, n, .inr (.inl f)))) (ht : tys[t0]? = some (cA, .long)) {i : Int32} {v : Int64} (ho : ¬ vp_in i n) (hn : n ≤ 36) (hdg : decode cc pc = .ok (.lastore, 1))
    (k : ∀ text, okTx text → Fl p l e R s m args below meth c H locs kc ks Q (F0 m pc ls rest) "java/lang/ArrayIndexOutOfBoundsException" (some text)) : W p l e R s m args below meth c H locs kc ks Q (F0 m pc ls (.long v :: .int i :: .ref a :: rest)) := by
  have hc : H[a]? = some (arrV cA n (fun j => .long (f j))) := hP q0 _ ha
  refine f_lastO hexec hb hc ((hK.2 t0 _ ht).1 n (fun j => .long (f j))) (x_out ho) hdg ?_
  rw [arrV_size]
  exact k _ (ixText_ok i (by omega))
/-- the class of an array of numbers, by its name -/
theorem va_nmP {cA : ClassId} {ty : FieldType} {nm : String} (h : va_RA s cA ty) (hp : refKind ty = false) (e : "[" ++ ty.toString = nm) : s.vm.findClass nm = some cA := by
  subst e
  cases ty <;> first | exact h | (exact absurd hp (by decide)) | cases hp
theorem castFail {T : State} (X : Stand p l e R s m args below meth c T locs kc ks) (hexec : p.tables.exec = Jvm.exec)
    {own name C : String} {index : Nat} (hown : s.vm.findClass own = some m.cls) (hlink : (Cond.classLink own index name).before args s = true)
    {a : Addr} {cell : Cell} {cT : ClassId} (hcell : T.heap[a]? = some cell) (hobj : cell.vm.isStatics = false) (hC : s.vm.findClass C = some cell.cls) (hcT : s.vm.findClass name = some cT) (hasg : s.vm.assignable cell.cls cT = false)
    {g : JFrame} (hg : g.method = m) {rest : List Value} (hstack : g.stack = .ref a :: rest) (hdg : decode c.code g.pc = .ok (.checkcast index, 3)) :
    ∃ (vm' : Vm) (k1 k2 : Class), Stand p l e R s m args below meth c (T.setVm vm') locs kc ks ∧ s.vm.Alike vm' ∧ vm'.classes[cell.cls]? = some k1 ∧ vm'.classes[cT]? = some k2 ∧
      ∀ target, Steps p.tables e below (((T.setVm vm').setTop g).pushFrame (.throwNew "java/lang/ClassCastException" (some (Op.checkcast.message vm' k1 k2)) none)) target → Steps p.tables e below (T.setTop g) target := by
  have hpl : e.platform.magicAccessors = ({} : Platform).magicAccessors := by rw [X.admits.platform]
  obtain ⟨c', hc', hcl⟩ := Cond.classLink_spec hown hlink e.platform hpl
  cases hcT.symm.trans hc'
  obtain ⟨dk, _, _, kt, hd, _, _, _, _, hkt, _, hopen⟩ := hcl.here
  have hcl₀ := X.warmed.classLinks hcl
  have hW' : s.WarmedH (T.vm.noted m.cls index (.cls cT)) := X.warmed.noted hd hopen (State.rightAt_cls hcl)
  obtain ⟨ks0, hks0, -⟩ := Vm.findClass_spec hC
  obtain ⟨ks', hks', -⟩ := hW'.alike.2.2 _ _ hks0
  obtain ⟨kt', hkt', -⟩ := hW'.alike.2.2 _ _ hkt
  refine ⟨_, ks', kt', X.noted hW', hW'.alike, hks', hkt', fun target hrest => ?_⟩
  subst hg
  have h1 : ¬ (T.vm.noted g.method.cls index (Resolved.cls cT)).assignable cell.cls cT = true := by rw [hW'.alike.assignable, hasg]; exact fun h => by cases h
  jvm_step X.here [hexec, hdg, Op.checkcast.wp_cold (e := e) (s := T) (f := g) X.here.top hstack (resolveClass_links e.toSetting hcl₀) hcl₀.ready,
    Op.checkcast.wp_ready (e := e) (s := T.setVm (T.vm.noted g.method.cls index (.cls cT))) (f := g) X.here.top hcl₀.ready hstack]
  refine ⟨cell, hcell, VmData.noStatics_of hobj, ks', hks', kt', hkt', ?_⟩
  rw [if_neg h1]
  exact hrest
theorem x_cast (hexec : p.tables.exec = Jvm.exec) (hb : c.code = cc) {own C nm : String} {index : Nat} (hown : s.vm.findClass own = some m.cls) (hlink : (Cond.classLink own index nm).before args s = true) (hc : asg C nm s false) (hC : C ∈ prL) (hnm : nm ∈ prL)
    (hK : va_K D cl tys s) (hP : va_P D cl ws H) (q0 t0 t1 : Nat) {cA cB : ClassId} {x : vp_A} {ty ty' : FieldType} (ha : ws[q0]? = some (a, .inl (cA, x))) (ht : tys[t0]? = some (cA, ty)) (ht' : tys[t1]? = some (cB, ty')) (hn0 : s.vm.findClass C = some cA) (hn1 : s.vm.findClass nm = some cB) (hdg : decode cc pc = .ok (.checkcast index, 3))
    (k : ∀ text, okTx text → Fl p l e R s m args below meth c H locs kc ks Q (F0 m pc ls (.ref a :: rest)) "java/lang/ClassCastException" (some text)) : W p l e R s m args below meth c H locs kc ks Q (F0 m pc ls (.ref a :: rest)) := by
  have hvm0 : (vp_cell cA x).vm = .none := by
    obtain ⟨n, f | f | f | f | f⟩ := x <;> rfl
  have hcl0 : (vp_cell cA x).cls = cA := by
    obtain ⟨n, f | f | f | f | f⟩ := x <;> rfl
  obtain ⟨c0, c1, g0, g1, g2⟩ := hc
  cases g0.symm.trans hn0
  cases g1.symm.trans hn1
  intro T hT X
  obtain ⟨vm', k1, k2, X', hal, hk1, hk2, st⟩ := castFail X hexec hown hlink (a := a) (cell := vp_cell cA x) (cT := cB) (by rw [hT]; exact hP q0 _ ha) (by rw [hvm0]; rfl) (by rw [hcl0]; exact hn0) hn1 (by rw [hcl0]; exact g2) (g := F0 m pc ls (.ref a :: rest)) rfl (rest := rest) rfl (by rw [hb]; exact hdg)
  rw [hcl0] at hk1
  obtain ⟨k1', hk1', a1, a2, a3⟩ := find_full (vm := vm') (name := C) (by rw [hal.findClass]; exact hn0)
  obtain ⟨k2', hk2', b1, b2, b3⟩ := find_full (vm := vm') (name := nm) (by rw [hal.findClass]; exact hn1)
  cases hk1.symm.trans hk1'
  cases hk2.symm.trans hk2'
  obtain ⟨-, s1, hs1, cm1, hs1k⟩ := (hK.2 t0 _ ht).1 0 (fun _ => .null)
  obtain ⟨-, s2, hs2, cm2, hs2k⟩ := (hK.2 t1 _ ht').1 0 (fun _ => .null)
  obtain ⟨s1', hs1', e1⟩ := hal.2.2 _ _ hs1
  obtain ⟨s2', hs2', e2⟩ := hal.2.2 _ _ hs2
  cases hk1.symm.trans hs1'
  cases hk2.symm.trans hs2'
  obtain ⟨b, hmsg⟩ := cc_msg (vm := vm') a1 b1 a2 b2 a3 b3 (prim_of (by rw [e1]; exact hs1k) (by rw [a1]; exact hC)) (prim_of (by rw [e2]; exact hs2k) (by rw [b1]; exact hnm))
  obtain ⟨t, w1, w2⟩ := k (ccText b C nm) (cc_ok C hC nm hnm b) (T.setVm vm') hT X'
  exact ⟨t, st t (by rw [hmsg]; exact w1), w2⟩
end FB
theorem exc.at {nm : String} {x : Nat} {s t : State} {H : Heap} (h : exc nm x s H) (ht : t.heap = H) (hW : s.WarmedH t.vm) : exc nm x t t.heap := by
  obtain ⟨cell, g1, g2, g3⟩ := h
  exact ⟨cell, by rw [ht]; exact g1, g2, by rw [hW.alike.findClass]; exact g3⟩
