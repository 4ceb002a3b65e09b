/-! WHAT THE MACHINE THROWS: NullPointerException -/
section VN
variable {p : Program} {l : Launch} {e : Env} {R : Room} {s : State} {m : MethodId} {args : Array Value} {below : List Frame} {meth : Method} {c : Code} {H : Heap} {locs : List Loc} {kc ks : Nat} {Q : State → Prop}
variable {cc : ByteArray} {nL : Nat} {dC : Nat → ClassId} {dI : Nat → Nat → Nat} {dA : Nat → ClassId} {eA mi : Nat} {A : Nat → Prop} {ws : va_W} {own : String}
/-- new cells at the end keep a world -/
theorem va_grow {H1 : Heap} (hP : va_P (dC, dI) vwCl ws H) (hS : va_S A s.heap H locs) (hz : H.size ≤ H1.size) (hk : ∀ q : Nat, q < H.size → H1[q]? = H[q]?) {locs1 : List Loc} (hl : ∀ q ∈ locs1, q ∈ locs ∨ A q.base) : va_P (dC, dI) vwCl ws H1 ∧ va_S A s.heap H1 locs1 := by
  refine ⟨fun k q hq => (hP k q hq).kept (hk q.1 (hP k q hq).lt), Nat.le_trans hS.1 hz, fun q g1 g2 => ?_, fun q hq => ?_⟩
  · rw [hk q (Nat.lt_of_lt_of_le g1 hS.1)]
    exact hS.2.1 q g1 g2
  · rcases hl q hq with h | h
    · exact hS.2.2 q h
    · exact h
/-- the cell of Throwable's statics stands as at the start -/
theorem statics_now {T : ThrowableC} {Z : Init0T} (hE : EG A eA mi s s.heap) (Y : Bundle.Ties T Z s) (hst : T.kT.statics = some T.aS) (hS : va_S A s.heap H locs) : H[T.aS]? = s.heap[T.aS]? := by
  obtain ⟨c, k, i, f, a, cell, h1, h2, h3, h4, h5, h6, h7, h8, h9, h10⟩ := hE.2.2.2.2.2.2.2.2.2.2.2.2.2.2.1
  have e1 := Option.some.inj (h2.symm.trans Y.unassigned)
  simp only [Prod.mk.injEq] at e1
  obtain ⟨-, rfl, -, -⟩ := e1
  cases h4.symm.trans hst
  exact hS.2.1 _ (Array.getElem?_eq_some_iff.mp h5).1 h10
set_option maxHeartbeats 4000000 in
theorem vm_npe (hexec : p.tables.exec = Jvm.exec) (hat : ∀ w ∈ Bundle.npeArmAtoms 8, w.before args s = true) (hE : EG A eA mi s s.heap) (hfl : l.stackTraces = false) (hP : va_P (dC, dI) vwCl ws H) (hS : va_S A s.heap H locs) (hA : ∀ q, s.heap.size ≤ q → A q)
    {g : JFrame} (hg : g.method = m) (hsize : g.locals.size = c.maxLocals) (hRf : 7 < R.frames) (hRl : 2 * g.monitorRoom + (g.stack.map fun v => v.category).sum + 10240 ≤ R.locals) (hb : kc + 1 ≤ R.cells ∧ ks + 8 ≤ R.slots)
    (kk : ∀ (x : Nat) (H1 : Heap) (locs1 : List Loc), va_P (dC, dI) vwCl ws H1 → va_S A s.heap H1 locs1 → exc "java/lang/NullPointerException" x s H1 → WT p l e R s m args below meth c H1 locs1 (kc + 1) (ks + 8) Q g x) :
    ∀ T : State, T.heap = H → Stand p l e R s m args below meth c T locs kc ks → ∃ t, Steps p.tables e below ((T.setTop g).pushFrame (.throwNew "java/lang/NullPointerException" none none)) t ∧ Q t := by
  intro T' hT X
  have htr : e.platform.stackTraces = false := by rw [X.admits.platform]; exact hfl
  have howns : e.platform.frameOwnsMonitors = true := by rw [X.admits.platform]
  have hfin : e.platform.finalization = false := by rw [X.admits.platform]
  have hpl : e.platform.magicAccessors = ({} : Platform).magicAccessors := by rw [X.admits.platform]
  have hpl2 : e.platform.arrayCloneIsPublic = true := by rw [X.admits.platform]
  have a : ∀ x, x ∈ Bundle.npeArmAtoms 8 → x.holds args s none s [] = true := fun x hx => hat x hx
  obtain ⟨T, Z, L, LZ, Y⟩ := ThrowableC.of_atoms (args := args) howns hfin hpl (fun x hx => hat x (by simp [Bundle.npeArmAtoms, hx]))
  obtain ⟨N, LN, hcN, hnNF, hordN, hffS⟩ := NpeC.of_atoms (args := args) hpl hpl2 L Y (fun x hx => hat x (by simp [Bundle.npeArmAtoms, hx]))
  obtain ⟨P1, L1, hP1m, hP1s⟩ := PassC.of_atoms (args := args) (s := s) hpl (X := Bundle.nN) (Y := Bundle.rN) (by decide) (by decide) LibCode.NullPointerException.Init0.at_0 LibCode.NullPointerException.Init0.at_1 LibCode.NullPointerException.Init0.at_4 (fun x hx => hat x (by simp [Bundle.npeArmAtoms, hx]))
  obtain ⟨PR, LR, hPRm, hPRs⟩ := PassC.of_atoms (args := args) (s := s) hpl (X := Bundle.rN) (Y := Bundle.eN) (by decide) (by decide) LibCode.RuntimeException.Init0.at_0 LibCode.RuntimeException.Init0.at_1 LibCode.RuntimeException.Init0.at_4 (fun x hx => hat x (by simp [Bundle.npeArmAtoms, hx]))
  obtain ⟨PE, LEx, hPEm, hPEs⟩ := PassC.of_atoms (args := args) (s := s) hpl (X := Bundle.eN) (Y := Bundle.tN) (by decide) (by decide) LibCode.Exception.Init0.at_0 LibCode.Exception.Init0.at_1 LibCode.Exception.Init0.at_4 (fun x hx => hat x (by simp [Bundle.npeArmAtoms, hx]))
  have hfound : s.vm.findClass Bundle.nN = some P1.m.cls := findClass_of_methodNamed hP1m
  have ecls : N.cN = P1.m.cls := Option.some.inj (hcN.symm.trans hfound)
  have hk : s.vm.classes[P1.m.cls]? = some N.kN := by rw [← ecls]; exact LN.cls
  have hinit := Cond.initialized_spec hfound hk (a (.initialized Bundle.nN) (by simp [Bundle.npeArmAtoms]))
  have hctor : N.kN.findMethod "<init>" "()V" = some P1.m.idx := findMethod_of_methodNamed hP1m hk
  obtain ⟨c1, k1, hc1, hk1, -, -, -, hn⟩ := Cond.instantiable_spec (a (.instantiable Bundle.nN 8) (by simp [Bundle.npeArmAtoms]))
  cases Option.some.inj (hc1.symm.trans hfound)
  cases Option.some.inj (hk1.symm.trans hk)
  have hlink1 : P1.sup = PR.m := Option.some.inj (hP1s.symm.trans hPRm)
  have hlinkR : PR.sup = PE.m := Option.some.inj (hPRs.symm.trans hPEm)
  have hlinkE : PE.sup = Z.m T.toThrowableT := Option.some.inj (hPEs.symm.trans Y.init0)
  have hsel0 : selectMethod e.platform s.vm P1.m.cls T.fill0 = .method T.fill0 := by
    obtain ⟨c2, r2, m2, q1, q2, q3, q4, -⟩ := Cond.selects_spec (a (.selects Bundle.nN Bundle.tFill0 Bundle.tFill0) (by simp [Bundle.npeArmAtoms]))
    cases Option.some.inj (q1.symm.trans hfound)
    cases Option.some.inj (q2.symm.trans (State.methodFound?_of_named Y.fill0 (by decide)))
    cases Option.some.inj (q3.symm.trans Y.fill0)
    rw [Launch.admits_selectMethod X.admits]; exact q4
  have hselF : selectMethod e.platform s.vm P1.m.cls T.fill = .method N.fill := by
    obtain ⟨c2, r2, m2, q1, q2, q3, q4, -⟩ := Cond.selects_spec (a (.selects Bundle.nN Bundle.tFill Bundle.nFill) (by simp [Bundle.npeArmAtoms]))
    cases Option.some.inj (q1.symm.trans hfound)
    cases Option.some.inj (q2.symm.trans (State.methodFound?_of_named Y.fill (by decide)))
    cases Option.some.inj (q3.symm.trans hnNF)
    rw [Launch.admits_selectMethod X.admits]; exact q4
  obtain ⟨cellS, hcS0, hiss⟩ := Y.statics
  obtain ⟨u0, hu0⟩ := Cond.staticRefV Y.unassigned L.unassignedStatic L.statics hcS0 hiss (a (.isRef (.static Bundle.tN "UNASSIGNED_STACK" Bundle.steD)) (by simp [Bundle.npeArmAtoms]))
  obtain ⟨sen, hsen⟩ := Cond.staticRefV Y.sentinel L.sentinelStatic L.statics hcS0 hiss (a (.isRef (.static Bundle.tN "SUPPRESSED_SENTINEL" Bundle.listD)) (by simp [Bundle.npeArmAtoms]))
  obtain ⟨ci198, i198, fB, hk198, hg198, ha198, hsB, -, hnB, htB, hffB⟩ := Cond.ownField (t := .object "java/lang/Object") Y.found L.cls (by decide +kernel) (a (.fieldLink Bundle.tN 198 Bundle.tN "backtrace" Bundle.objD) (by simp [Bundle.npeArmAtoms])) (a (.lays Bundle.tN Bundle.tN "backtrace" Bundle.objD) (by simp [Bundle.npeArmAtoms])) e.platform hpl
  have hcellS : T'.heap[T.aS]? = some cellS := by rw [hT, statics_now hE Y L.statics hS]; exact hcS0
  have hknownS : cellS.vm ≠ .unknown := by
    intro hu
    rw [hu] at hiss
    cases hiss
  obtain ⟨tyC, eC, hdC, hdnC⟩ := Cond.laysAt hfound hk Y.cause (a (.lays Bundle.nN Bundle.tN "cause" "Ljava/lang/Throwable;") (by simp [Bundle.npeArmAtoms]))
  obtain ⟨tyS, eS, hdS, hdnS⟩ := Cond.laysAt hfound hk Y.stack (a (.lays Bundle.nN Bundle.tN "stackTrace" Bundle.steD) (by simp [Bundle.npeArmAtoms]))
  obtain ⟨tyP, eP, hdP, hdnP⟩ := Cond.laysAt hfound hk Y.supp (a (.lays Bundle.nN Bundle.tN "suppressedExceptions" Bundle.listD) (by simp [Bundle.npeArmAtoms]))
  obtain ⟨tyX, eX, hdX, hdnX⟩ := Cond.laysAt hfound hk hffS (a (.lays Bundle.nN Bundle.nN "extendedMessageState" "I") (by simp [Bundle.npeArmAtoms, Bundle.npeAtoms]))
  have hnX : N.fState.name = "extendedMessageState" := (State.fieldFound?_type hffS (t := .int) (by decide +kernel)).1
  obtain ⟨tyB, eB, hdB, hdnB⟩ := Cond.laysAt hfound hk hffB (a (.lays Bundle.nN Bundle.tN "backtrace" Bundle.objD) (by simp [Bundle.npeArmAtoms]))
  have bC := Cond.laysApart hdB hdC hdnB hdnC (by rw [hnB, Y.causeName]; decide)
  have bS := Cond.laysApart hdB hdS hdnB hdnS (by rw [hnB, Y.stackName]; decide)
  have bP := Cond.laysApart hdB hdP hdnB hdnP (by rw [hnB, Y.suppName]; decide)
  have bX := Cond.laysApart hdB hdX hdnB hdnX (by rw [hnB, hnX]; decide)
  have hskip : SkipFacts T e.platform s (fun u => u) u0 ((npeCell N.toNpeT (preparedCellV T.toThrowableT (freshCell P1.m.cls N.kN) T'.heap.size u0 sen) T'.cur).withEntry T'.cur) :=
    ⟨{ ci198 := ci198, i198 := i198, fBack := fB }, ⟨hk198, hg198, ha198, hsB⟩, by
      have := fresh_default (c := P1.m.cls) tyB
      rw [htB] at this
      simpa [npeCell, preparedCellV, Cell.setSlot, Cell.withEntry, Array.getElem?_setIfInBounds, bC, bS, bP, bX, bC.symm, bS.symm, bP.symm, bX.symm, defaultValue] using this, fun _ _ => rfl⟩
  have h : At T' g.method c below := by rw [hg]; exact X.here
  obtain ⟨hbeyond, hfreeW⟩ := X.vmMayThrow hsize (.throwNew "java/lang/NullPointerException" none none) (fun f hf => by cases hf) rfl hRl
  have hfr' : T'.frames.length + ([PR, PE] : List PassC).length + 5 < (e.platform.stackLimits T'.me).1 := by have := X.framesAbove hRf; simp only [List.length_cons, List.length_nil]; omega
  have hwd' : (stackUse (.java g :: T'.frames.tail)).2 + 13 * ([PR, PE] : List PassC).length + 68 ≤ (e.platform.stackLimits T'.me).2 := by have := X.stackAbove hsize (K := 13 * 2 + 68) (by omega); simp only [List.length_cons, List.length_nil]; omega
  obtain ⟨vm', hW', st⟩ := Steps.vmThrowsNpeColdByV p (s₀ := s) (S := T') (g := g) h hexec T L Z LZ N LN X.warmed (t := T'.cur) rfl P1 L1 [PR, PE] (fun P hP => by
      simp only [List.mem_cons, List.not_mem_nil, or_false] at hP
      rcases hP with rfl | rfl
      · exact LR
      · exact LEx) hlink1 ⟨hlinkR, hlinkE, trivial⟩ hfound hk hinit hordN hctor
    (Launch.admits_hotImplicitExceptions X.admits) hbeyond hfreeW (X.cellsAbove hb.1) (X.slotsAbove (by rw [hn]; exact hb.2))
    (Nn := fun u => u) heapOnly_id (fun _ _ => rfl) (fun _ => rfl) (fun u x y => setCell_twice _ _ _ _) (fun _ => Nat.le_refl _) (cN := ((npeCell N.toNpeT (preparedCellV T.toThrowableT (freshCell P1.m.cls N.kN) T'.heap.size u0 sen) T'.cur).withEntry T'.cur))
    hsel0 hcellS hknownS hu0 (by rw [fresh_default tyX, LN.stateInt]; rfl)
    (Cond.laysApart hdC hdX hdnC hdnX (by rw [Y.causeName, hnX]; decide)) (Cond.laysApart hdS hdX hdnS hdnX (by rw [Y.stackName, hnX]; decide)) (Cond.laysApart hdP hdX hdnP hdnX (by rw [Y.suppName, hnX]; decide))
    (Takes.of_laid hk hordN tyS (by rw [Y.stackType]; exact fits_refV_array _ u0)) (Takes.of_laid hk hordN tyX (by rw [LN.stateInt]; rfl))
    (fun _ hu => hu) (fun _ hu => hu) rfl rfl rfl (by simp [npeCell, preparedCellV, Cell.setSlot, Cell.withEntry]) hskip (fun _ _ hA hW _ hroom _ hrest => L.nativeOff p htr hA hW hroom hrest) hselF hsen
    (Takes.of_laid hk hordN tyC (by rw [Y.causeType]; rfl)) (Takes.of_laid hk hordN tyP (by rw [Y.suppType]; exact fits_refV_object _ sen)) Y.objLocals rfl hfr' hwd'
  rw [npeBareV_eq T.toThrowableT N.toNpeT T'.heap.size u0 sen T'.cur rfl rfl] at st
  have X2 := (X.pushed (freshCell P1.m.cls N.kN)).noted hW'
  have hsz : ((T'.pushCell (freshCell P1.m.cls N.kN)).setVm vm').heap.size = T'.heap.size + 1 := State.heap_size_pushCell _ _
  have ha : T'.heap.size < ((T'.pushCell (freshCell P1.m.cls N.kN)).setVm vm').heap.size := by rw [hsz]; omega
  have hcell : ((T'.pushCell (freshCell P1.m.cls N.kN)).setVm vm').heap[T'.heap.size]? = some (freshCell P1.m.cls N.kN) := State.heap_pushCell_size T' (freshCell P1.m.cls N.kN)
  have X3 := ((((X2.stored hcell T.fCause.slot (.ref T'.heap.size)).storedAgain ha T.fStack.slot u0.v).storedAgain ha T.fSupp.slot sen.v).storedAgain ha N.fState.slot (.int 1)).storedAgain ha T.fStack.slot u0.v
  have hslots : (freshCell P1.m.cls N.kN).slots.size = 8 := by simp [hn]
  rw [hslots] at X3
  have hne : ∀ q : Nat, q < H.size → (((T'.pushCell (freshCell P1.m.cls N.kN)).setVm vm').setCell T'.heap.size (npeBareV T.toThrowableT N.toNpeT (freshCell P1.m.cls N.kN) T'.heap.size u0 sen)).heap[q]? = H[q]? := by
    intro q hq
    rw [← hT] at hq ⊢
    simp [State.setCell, State.setVm, State.pushCell, Array.getElem?_setIfInBounds, Array.getElem?_push, Nat.ne_of_lt hq, Nat.ne_of_gt hq]
  have hzz : H.size ≤ (((T'.pushCell (freshCell P1.m.cls N.kN)).setVm vm').setCell T'.heap.size (npeBareV T.toThrowableT N.toNpeT (freshCell P1.m.cls N.kN) T'.heap.size u0 sen)).heap.size := by
    rw [← hT]
    simp [State.setCell, State.setVm, State.pushCell]
  have hcx : (((T'.pushCell (freshCell P1.m.cls N.kN)).setVm vm').setCell T'.heap.size (npeBareV T.toThrowableT N.toNpeT (freshCell P1.m.cls N.kN) T'.heap.size u0 sen)).heap[T'.heap.size]? = some (npeBareV T.toThrowableT N.toNpeT (freshCell P1.m.cls N.kN) T'.heap.size u0 sen) := by
    simp [State.setCell, State.setVm, State.pushCell, Array.getElem?_setIfInBounds]
  have hAx : A T'.heap.size := hA _ (by rw [hT]; exact hS.1)
  obtain ⟨hP1, hS1⟩ := va_grow hP hS hzz hne (locs1 := locs ++ [⟨T'.heap.size, T.fCause.slot⟩] ++ [⟨T'.heap.size, T.fStack.slot⟩] ++ [⟨T'.heap.size, T.fSupp.slot⟩] ++ [⟨T'.heap.size, N.fState.slot⟩] ++ [⟨T'.heap.size, T.fStack.slot⟩]) (fun q hq => by
    simp only [List.append_assoc, List.cons_append, List.nil_append, List.mem_append, List.mem_cons, List.not_mem_nil, or_false] at hq
    rcases hq with h | rfl | rfl | rfl | rfl | rfl
    · exact Or.inl h
    all_goals exact Or.inr hAx)
  obtain ⟨t, a1, b1⟩ := kk T'.heap.size _ _ hP1 hS1 ⟨_, hcx, rfl, hfound⟩ _ rfl X3
  refine ⟨t, st t ?_, b1⟩
  obtain ⟨g1, hfrM⟩ := X3.frames_eq
  rw [State.pushFrame, State.frames_setTop _ hfrM, State.setTop_of_frames _ hfrM, State.setFrames_setFrames] at a1
  rw [X.tail]
  exact a1
end VN
