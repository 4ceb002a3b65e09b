/-! AN OWN THROW: new X, dup, X's constructor, athrow -/
section OT
variable {p : Program} {l : Launch} {e : Env} {R : Room} {s : State} {m : MethodId} {args : Array Value} {below : List Frame} {meth : Method} {c : Code} {H : Heap} {locs : List Loc} {kc ks : Nat} {Q : State → Prop}
variable {cc : ByteArray} {nL pc : Nat} {ls : Array Slot} {rest : List Value} {dC : Nat → ClassId} {dI : Nat → Nat → Nat} {dA : Nat → ClassId} {eA mi : Nat} {A : Nat → Prop} {ws : va_W} {own : String}
set_option maxHeartbeats 4000000 in
theorem own_new (S : CallFix p m c cc nL s args lw_all own) {cls : String} {names : List String} {i0 ic : Nat} (hcls : Bundle.fit cls = true) (hnames : ∀ n ∈ names, Bundle.fit n = true)
    (hat : ∀ w ∈ Bundle.ownAtoms0 own ic cls names, w.before args s = true) (hini : (Cond.initialized cls).before args s = true) (hcl : (Cond.classLink own i0 cls).before args s = true) (hE : EG A eA mi s s.heap) (hfl : l.stackTraces = false) (hP : va_P (dC, dI) vwCl ws H) (hS : va_S A s.heap H locs) (hA : ∀ q, s.heap.size ≤ q → A q)
    (hsize : ls.size = nL) (d0 : decode cc pc = .ok (.new i0, 3)) (d3 : decode cc (pc + 3) = .ok (.dup, 1)) (d4 : decode cc (pc + 4) = .ok (.invokespecial ic, 3)) (d7 : decode cc (pc + 7) = .ok (.athrow, 1))
    (hRf : names.length + 3 < R.frames) (hRl : ((rest.map fun v => v.category).sum + 1) + (13 * (names.length + 1) + 41) ≤ R.locals) (hbd : kc + 1 ≤ R.cells ∧ ks + 6 ≤ R.slots)
    (kk : ∀ (x : Nat) (H1 : Heap) (locs1 : List Loc), va_P (dC, dI) vwCl ws H1 → va_S A s.heap H1 locs1 → exc cls x s H1 → WT p l e R s m args below meth c H1 locs1 (kc + 1) (ks + 6) Q (F0 m (pc + 7) ls rest) x) : W p l e R s m args below meth c H locs kc ks Q (F0 m pc ls rest) := by
  obtain ⟨hexec, hb, hml, hown, hts⟩ := id S
  have a' : ∀ x, x ∈ Bundle.ownAtoms0 own ic cls names → x.holds args s none s [] = true := fun x hx => hat x hx
  obtain ⟨cX, kX, hfoundX, hkX, hord, -, -, hn6⟩ := Cond.instantiable_spec (a' (.instantiable cls 6) (by simp [Bundle.ownAtoms0]))
  refine W.newcK hexec hb hown hcl (hat (.instantiable cls 6) (by simp [Bundle.ownAtoms0])) hini rfl d0 hbd.1 hbd.2 hfoundX rfl fun H1 kX' hkX' e1 z1 o1 => ?_
  cases hkX'.symm.trans hkX
  refine W.eq (g2 := F0 m (pc + 3) ls (.ref H.size :: rest)) rfl ?_
  refine lv_dup hexec hb d3 rfl ?_
  intro T' hT X
  have htr : e.platform.stackTraces = false := by rw [X.admits.platform]; exact hfl
  have howns : e.platform.frameOwnsMonitors = true := by rw [X.admits.platform]
  have hfin : e.platform.finalization = false := by rw [X.admits.platform]
  have hpl : e.platform.magicAccessors = ({} : Platform).magicAccessors := by rw [X.admits.platform]
  obtain ⟨T, Z, L, LZ, Y⟩ := ThrowableC.of_atoms (args := args) howns hfin hpl (fun x hx => hat x (by simp [Bundle.ownAtoms0, hx]))
  obtain ⟨P1, Ps, hlen, L1, hL, hP1m, hlink1, hlink⟩ := Bundle.chain0 (args := args) hpl Y.init0 names cls hcls hnames (fun x hx => hat x (by simp [Bundle.ownAtoms0, hx]))
  have hfound : s.vm.findClass cls = some P1.m.cls := findClass_of_methodNamed hP1m
  cases Option.some.inj (hfoundX.symm.trans hfound)
  have hk := hkX
  have hsel0 : selectMethod e.platform s.vm P1.m.cls T.fill0 = .method T.fill0 := by
    obtain ⟨c2, r2, m2, q1, q2, q3, q4, -⟩ := Cond.selects_spec (a' (.selects cls Bundle.tFill0 Bundle.tFill0) (by simp [Bundle.ownAtoms0]))
    cases Option.some.inj (q1.symm.trans hfound)
    cases Option.some.inj (q2.symm.trans (State.methodFound?_of_named Y.fill0 (by decide)))
    cases Option.some.inj (q3.symm.trans Y.fill0)
    rw [Launch.admits_selectMethod X.admits]; exact q4
  have hselF : selectMethod e.platform s.vm P1.m.cls T.fill = .method T.fill := by
    obtain ⟨c2, r2, m2, q1, q2, q3, q4, -⟩ := Cond.selects_spec (a' (.selects cls Bundle.tFill Bundle.tFill) (by simp [Bundle.ownAtoms0]))
    cases Option.some.inj (q1.symm.trans hfound)
    cases Option.some.inj (q2.symm.trans (State.methodFound?_of_named Y.fill (by decide)))
    cases Option.some.inj (q3.symm.trans Y.fill)
    rw [Launch.admits_selectMethod X.admits]; exact q4
  obtain ⟨cellS, hcS0, hiss⟩ := Y.statics
  obtain ⟨u0, hu0⟩ := Cond.staticRefV Y.unassigned L.unassignedStatic L.statics hcS0 hiss (a' (.isRef (.static Bundle.tN "UNASSIGNED_STACK" Bundle.steD)) (by simp [Bundle.ownAtoms0]))
  obtain ⟨sen, hsen⟩ := Cond.staticRefV Y.sentinel L.sentinelStatic L.statics hcS0 hiss (a' (.isRef (.static Bundle.tN "SUPPRESSED_SENTINEL" Bundle.listD)) (by simp [Bundle.ownAtoms0]))
  obtain ⟨ci198, i198, fB, hk198, hg198, ha198, hsB, -, hnB, htB, hffB⟩ := Cond.ownField (t := .object "java/lang/Object") Y.found L.cls (by decide +kernel) (a' (.fieldLink Bundle.tN 198 Bundle.tN "backtrace" "Ljava/lang/Object;") (by simp [Bundle.ownAtoms0])) (a' (.lays Bundle.tN Bundle.tN "backtrace" "Ljava/lang/Object;") (by simp [Bundle.ownAtoms0])) e.platform hpl
  have haS : T.aS < s.heap.size := (Array.getElem?_eq_some_iff.mp hcS0).1
  have hcellS : T'.heap[T.aS]? = some cellS := by rw [hT, o1 _ (Nat.lt_of_lt_of_le haS hS.1), statics_now hE Y L.statics hS]; exact hcS0
  have hknownS : cellS.vm ≠ .unknown := by
    intro hu
    rw [hu] at hiss
    cases hiss
  have hneS : T.aS ≠ H.size := Nat.ne_of_lt (Nat.lt_of_lt_of_le haS hS.1)
  obtain ⟨iM, hffM⟩ := Y.msg
  obtain ⟨tyC, eC, hdC, hdnC⟩ := Cond.laysAt hfound hk Y.cause (a' (.lays cls Bundle.tN "cause" "Ljava/lang/Throwable;") (by simp [Bundle.ownAtoms0]))
  obtain ⟨tyS, eS, hdS, hdnS⟩ := Cond.laysAt hfound hk Y.stack (a' (.lays cls Bundle.tN "stackTrace" Bundle.steD) (by simp [Bundle.ownAtoms0]))
  obtain ⟨tyP, eP, hdP, hdnP⟩ := Cond.laysAt hfound hk Y.supp (a' (.lays cls Bundle.tN "suppressedExceptions" Bundle.listD) (by simp [Bundle.ownAtoms0]))
  obtain ⟨tyB, eB, hdB, hdnB⟩ := Cond.laysAt hfound hk hffB (a' (.lays cls Bundle.tN "backtrace" "Ljava/lang/Object;") (by simp [Bundle.ownAtoms0]))
  have bC := Cond.laysApart hdB hdC hdnB hdnC (by rw [hnB, Y.causeName]; decide)
  have bS := Cond.laysApart hdB hdS hdnB hdnS (by rw [hnB, Y.stackName]; decide)
  have bP := Cond.laysApart hdB hdP hdnB hdnP (by rw [hnB, Y.suppName]; decide)
  have hskip : SkipFacts T e.platform s (fun u => u) u0 ((preparedCellV T.toThrowableT (freshCell P1.m.cls kX) H.size u0 sen).withEntry T'.cur) :=
    ⟨{ ci198 := ci198, i198 := i198, fBack := fB }, ⟨hk198, hg198, ha198, hsB⟩, by
      have := fresh_default (c := P1.m.cls) tyB
      rw [htB] at this
      simpa [preparedCellV, Cell.setSlot, Cell.withEntry, Array.getElem?_setIfInBounds, bC, bS, bP, bC.symm, bS.symm, bP.symm, defaultValue] using this, fun _ _ => rfl⟩
  have hcell : T'.heap[H.size]? = some (freshCell P1.m.cls kX) := by rw [hT]; exact e1
  obtain ⟨tm, methC, cdC, kC, vm₁, hnC, -, -, -, -, -, -, -, hW₁, st1⟩ := Steps.initCold (tb := p.tables) (e := e) (below := below) (s := s) (U := T') X.here hexec X.warmed hpl hown (t := Bundle.init0 cls) rfl rfl (Bundle.fit_spec hcls).2
    (a' (.methodLink own ic (Bundle.init0 cls)) (by simp [Bundle.ownAtoms0])) (hat (.instanceMethod (Bundle.init0 cls)) (by cases names <;> simp [Bundle.ownAtoms0, Bundle.chain0Atoms, Bundle.passAtoms])) (bytes := Bundle.five) (maxL := 1) (hat (.code (Bundle.init0 cls) Bundle.five 1 none) (by cases names <;> simp [Bundle.ownAtoms0, Bundle.chain0Atoms, Bundle.passAtoms]))
    (f := F0 m (pc + 4) ls (.ref H.size :: .ref H.size :: rest)) rfl (a := H.size) (rest := .ref H.size :: rest) rfl (by rw [hb]; exact d4)
  cases Option.some.inj (hnC.symm.trans hP1m)
  have X₁ := X.noted hW₁
  obtain ⟨vm₂, X₂, st2⟩ := X₁.ctorPlainOffV hexec (g := F0 m (pc + 4) ls (.ref H.size :: rest)) rfl (hsize.trans hml.symm) T L Z LZ (P1 :: Ps)
    (fun P hP => by rcases List.mem_cons.mp hP with rfl | hP; exact L1; exact hL P hP) ⟨hlink1, hlink⟩ (u0 := u0) (sen := sen) (self := H.size) (cell := freshCell P1.m.cls kX) (cellS := cellS)
    hcell (fun _ => by simp) (by simp) rfl rfl hsel0 hselF hcellS hneS hknownS hu0 hsen
    (Takes.of_laid hk hord tyC (by rw [Y.causeType]; rfl)) (Takes.of_laid hk hord tyS (by rw [Y.stackType]; exact fits_refV_array _ u0)) (Takes.of_laid hk hord tyP (by rw [Y.suppType]; exact fits_refV_object _ sen)) Y.objLocals hskip htr [] (by rw [hb]; exact d4)
    (by simp only [List.length_cons, hlen]; omega) (by simp only [List.length_cons, hlen]; show 2 * 0 + (1 + (rest.map fun v => v.category).sum) + _ ≤ _; omega)
  have hne : ∀ q : Nat, q < H.size → (((T'.setVm vm₁).setVm vm₂).setCell H.size ((preparedCellV T.toThrowableT (freshCell P1.m.cls kX) H.size u0 sen).setSlot T.fStack.slot u0.v)).heap[q]? = H[q]? := by
    intro q hq
    have hqn : H.size ≠ q := fun z => by omega
    rw [State.heap_setCell_other hqn]
    show T'.heap[q]? = _
    rw [hT]
    exact o1 q hq
  have hzz : H.size ≤ (((T'.setVm vm₁).setVm vm₂).setCell H.size ((preparedCellV T.toThrowableT (freshCell P1.m.cls kX) H.size u0 sen).setSlot T.fStack.slot u0.v)).heap.size := by
    have z : (((T'.setVm vm₁).setVm vm₂).setCell H.size ((preparedCellV T.toThrowableT (freshCell P1.m.cls kX) H.size u0 sen).setSlot T.fStack.slot u0.v)).heap.size = T'.heap.size := by simp [State.setCell]
    rw [z, hT, z1]
    omega
  have hcx := State.heap_setCell_self (s := (T'.setVm vm₁).setVm vm₂) (x := (preparedCellV T.toThrowableT (freshCell P1.m.cls kX) H.size u0 sen).setSlot T.fStack.slot u0.v) (show ((T'.setVm vm₁).setVm vm₂).heap[H.size]? = some (freshCell P1.m.cls kX) from hcell)
  have hAx : A H.size := hA _ hS.1
  obtain ⟨hP1, hS1⟩ := va_grow hP hS hzz hne (locs1 := locs ++ [⟨H.size, T.fCause.slot⟩, ⟨H.size, T.fStack.slot⟩, ⟨H.size, T.fSupp.slot⟩, ⟨H.size, T.fStack.slot⟩]) (fun q hq => by
    simp only [List.mem_append, List.mem_cons, List.not_mem_nil, or_false] at hq
    rcases hq with h | rfl | rfl | rfl | rfl
    · exact Or.inl h
    all_goals exact Or.inr hAx)
  obtain ⟨t, a1, b1⟩ := (W.throw hexec hb d7 (kk H.size _ _ hP1 hS1 ⟨_, hcx, rfl, hfound⟩)) _ rfl X₂
  exact ⟨t, st1 t (fun acts => by rw [doInvoke_state]; exact st2 t a1), b1⟩
end OT
theorem own_IX : (Bundle.ownAtoms0 RX0 390 "java/lang/ArrayIndexOutOfBoundsException" ["java/lang/IndexOutOfBoundsException", "java/lang/RuntimeException", "java/lang/Exception"]).all (fun w => stOk w || (decide (w ∈ lw_tbl) && (goodWord w || nwOk w))) = true := by decide +kernel
