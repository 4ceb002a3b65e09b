/-! WHAT A NATIVE METHOD THROWS: NullPointerException -/
section OVN
set_option maxHeartbeats 4000000 in
theorem ov_npe (p : Program) {e : Env} {below base : List Frame} {s₀ S : State} (hgo : S.goesOn) (hcur : S.cur < S.threads.size) (hbase : ∃ mid, base = mid ++ below) (hexec : p.tables.exec = Jvm.exec)
    (T : ThrowableC) (L : T.Links e.platform s₀) (Z : Init0T) (LZ : Z.Laid T.toThrowableT) (N : NpeC) (LN : N.Links T e.platform s₀) (hW : s₀.WarmedH S.vm)
    (P1 : PassC) (L1 : P1.Links0 e.platform s₀) (Ps : List PassC) (hL : ∀ P, P ∈ Ps → P.Links0 e.platform s₀) (hlink1 : P1.sup = firstOf (Z.m T.toThrowableT) (Ps.map (·.toPassT))) (hlink : PassesOn (Z.m T.toThrowableT) (Ps.map (·.toPassT)))
    {kX : Class} (hfound : s₀.vm.findClass "java/lang/NullPointerException" = some P1.m.cls) (hk : s₀.vm.classes[P1.m.cls]? = some kX) (hinit : kX.init = .initialized) (hord : kX.kind = .ordinary)
    (hctor : kX.findMethod "<init>" "()V" = some P1.m.idx) (hhot : e.platform.hotImplicitExceptions = false)
    (hbeyond : e.platform.stackBeyond ((((S.setFrames (.throwNew "java/lang/NullPointerException" none none :: base)).threads[(S.setFrames (.throwNew "java/lang/NullPointerException" none none :: base)).cur]?).map (·.stackBytes)).getD 0) (S.setFrames (.throwNew "java/lang/NullPointerException" none none :: base)).frames = false)
    (hfreeW : e.platform.vmThrowRoom ≤ e.platform.stackFree ((((S.setFrames (.throwNew "java/lang/NullPointerException" none none :: base)).threads[(S.setFrames (.throwNew "java/lang/NullPointerException" none none :: base)).cur]?).map (·.stackBytes)).getD 0) (S.setFrames (.throwNew "java/lang/NullPointerException" none none :: base)).frames)
    (hcells : S.heap.size + 1 ≤ e.platform.maxCells) (hslots : S.slotsUsed + kX.instanceTypes.size ≤ e.platform.maxSlots)
    {u0 sen : RefV} {cellS : Cell} (hsel0 : selectMethod e.platform s₀.vm (freshCell P1.m.cls kX).cls T.fill0 = .method T.fill0)
    (hcellS : S.heap[T.aS]? = some cellS) (hknownS : cellS.vm ≠ .unknown) (hvU : cellS.slots[T.fUnassigned.slot]? = some u0.v)
    (hv0 : (freshCell P1.m.cls kX).slots[N.fState.slot]? = some (.int 0)) (hneC : T.fCause.slot ≠ N.fState.slot) (hneSt : T.fStack.slot ≠ N.fState.slot) (hneP : T.fSupp.slot ≠ N.fState.slot)
    (htS : Takes s₀ (freshCell P1.m.cls kX) T.fStack u0.v) (ht1 : Takes s₀ (freshCell P1.m.cls kX) N.fState (.int 1))
    (hskip : SkipFacts T e.platform s₀ (fun u => u) u0 ((npeCell N.toNpeT (preparedCellV T.toThrowableT (freshCell P1.m.cls kX) S.heap.size u0 sen) S.cur).withEntry S.cur))
    (hnat : u0.v ≠ .null → ∀ u : State, At u T.fill T.codeFill below → s₀.WarmedH u.vm → u.heap[S.heap.size]? = some ((npeCell N.toNpeT (preparedCellV T.toThrowableT (freshCell P1.m.cls kX) S.heap.size u0 sen) S.cur).withEntry S.cur) →
      e.platform.stackFull (((u.setTop (fillJ T.fill S.heap.size 16 [])).threads[(u.setTop (fillJ T.fill S.heap.size 16 [])).cur]?).getD { frames := [] }) (u.setTop (fillJ T.fill S.heap.size 16 [])).frames (nativeFrameWords "java/lang/Throwable" "fillInStackTrace" 2) = false → ∀ t' : State,
      Steps p.tables e below (u.setTop (fillJ T.fill S.heap.size 19 [.ref S.heap.size])) t' →
      Steps p.tables e below (doInvoke e (u.setTop (fillJ T.fill S.heap.size 16 [])) [] T.fill0 #[.ref S.heap.size, .int 0]).1 t')
    (hselF : selectMethod e.platform s₀.vm (freshCell P1.m.cls kX).cls T.fill = .method N.fill) (hvSen : cellS.slots[T.fSentinel.slot]? = some sen.v)
    (htC : Takes s₀ (freshCell P1.m.cls kX) T.fCause (.ref S.heap.size)) (htP : Takes s₀ (freshCell P1.m.cls kX) T.fSupp sen.v) (hobjLocals : T.codeObj.maxLocals = 1)
    {lim : Nat × Nat} (hlim : e.platform.stackLimits S.me = lim) (hframes : base.length + Ps.length + 5 < lim.1) (hwords : (stackUse base).2 + 13 * Ps.length + 68 ≤ lim.2) :
    ∃ vm', s₀.WarmedH vm' ∧ ∀ target, Steps p.tables e below ((((S.pushCell (freshCell P1.m.cls kX)).setVm vm').setCell S.heap.size (((npeCell N.toNpeT (preparedCellV T.toThrowableT (freshCell P1.m.cls kX) S.heap.size u0 sen) S.cur).withEntry S.cur).setSlot T.fStack.slot u0.v).left.left).setFrames (.throwing S.heap.size :: base)) target →
      Steps p.tables e below (S.setFrames (.throwNew "java/lang/NullPointerException" none none :: base)) target := by
  obtain ⟨kX', hk', he'⟩ := hW.alike.2.2 _ _ hk
  have hty : kX'.instanceTypes = kX.instanceTypes := by rw [he']
  have hfresh : freshCell P1.m.cls kX' = (freshCell P1.m.cls kX) := by
    show ({ cls := P1.m.cls, slots := kX'.instanceTypes.map defaultValue, vm := .none } : Cell) = _
    rw [hty]
  have hltS : T.aS < S.heap.size := (Array.getElem?_eq_some_iff.mp hcellS).1
  have key : ∃ vm', s₀.WarmedH vm' ∧ ∀ target, Steps p.tables e below ((((S.pushCell (freshCell P1.m.cls kX)).setVm vm').setCell S.heap.size (((npeCell N.toNpeT (preparedCellV T.toThrowableT (freshCell P1.m.cls kX) S.heap.size u0 sen) S.cur).withEntry S.cur).setSlot T.fStack.slot u0.v).left.left).setFrames (.throwing S.heap.size :: base)) target →
      Steps p.tables e below (doInvoke e ((S.pushCell (freshCell P1.m.cls kX)).setFrames (.thenThrow S.heap.size :: base)) [] P1.m #[.ref S.heap.size]).1 target := by
    have hcellW : (S.pushCell (freshCell P1.m.cls kX)).heap[S.heap.size]? = some (freshCell P1.m.cls kX) := State.heap_pushCell_size S (freshCell P1.m.cls kX)
    have hcSW : (S.pushCell (freshCell P1.m.cls kX)).heap[T.aS]? = some cellS := by
      rw [← hcellS]
      simp [State.pushCell, Array.getElem?_push, Nat.ne_of_lt hltS]
    have hlimW : e.platform.stackLimits (S.pushCell (freshCell P1.m.cls kX)).me = lim := hlim
    have hWW : s₀.WarmedH (S.pushCell (freshCell P1.m.cls kX)).vm := hW
    have hgoW : (S.pushCell (freshCell P1.m.cls kX)).goesOn := hgo
    have hWcur : (S.pushCell (freshCell P1.m.cls kX)).cur = S.cur := rfl
    have hcurW : (S.pushCell (freshCell P1.m.cls kX)).cur < (S.pushCell (freshCell P1.m.cls kX)).threads.size := hcur
    have hne : T.aS ≠ S.heap.size := Nat.ne_of_lt hltS
    generalize (S.pushCell (freshCell P1.m.cls kX)) = W at hgoW hWcur hcurW hcellW hcSW hlimW hWW ⊢
    generalize S.heap.size = self at *
    obtain ⟨hfN, -, -⟩ := ov_in hgoW hcurW hbase self (hWW.methodAt L1.method) L1.code (hWW.plainAt L1.plain) (pass0J P1.m self 0 [])
    have hlimN : e.platform.stackLimits (W.setFrames (.thenThrow self :: base)).me = lim := by rw [State.stackLimits_setFrames]; exact hlimW
    have hroom := roomAbove (pl := e.platform) (u := W.setFrames (.thenThrow self :: base)) (vars := 1) (pushed := [.thenThrow self]) (base := base) (free := 13 * Ps.length + 68) (lim := lim) hfN hlimN
      (by simp only [List.length_cons, List.length_nil]; omega) (by omega) (by rw [stackUse_light _ _ (fun f hf => by cases hf) rfl, stackUse_nil]; show 0 + 1 + 11 ≤ _; omega)
    refine ov_ctor0 hgoW hcurW hbase hexec (H := fun u => u.setCell self (((npeCell N.toNpeT (preparedCellV T.toThrowableT (freshCell P1.m.cls kX) self u0 sen) S.cur).withEntry S.cur).setSlot T.fStack.slot u0.v).left.left) (heapOnly_id.thenSetCell self _) P1 L1 hWW self hroom (fun vm1 hW1 hI1 => ?_)
    rw [hlink1]
    obtain ⟨-, -, hfI⟩ := ov_in (W := W.setVm vm1) hgoW hcurW hbase self (hW1.methodAt L1.method) L1.code (hW1.plainAt (U := W.setVm vm1) L1.plain) (pass0J P1.m self 0 [])
    have hXvm : ∀ w, (((W.setVm vm1).setFrames (.thenThrow self :: base)).pushFrame (.java (pass0J P1.m self 0 []))).setVm w = (((W.setVm w).setFrames (.thenThrow self :: base)).pushFrame (.java (pass0J P1.m self 0 []))) := fun w => by rw [State.pushFrame_setVm, State.setFrames_setVm, State.setVm_twice]
    have hXc : (((W.setVm vm1).setFrames (.thenThrow self :: base)).pushFrame (.java (pass0J P1.m self 0 []))).heap[self]? = some (freshCell P1.m.cls kX) := hcellW
    have hXS : (((W.setVm vm1).setFrames (.thenThrow self :: base)).pushFrame (.java (pass0J P1.m self 0 []))).heap[T.aS]? = some cellS := hcSW
    have hXcur : (((W.setVm vm1).setFrames (.thenThrow self :: base)).pushFrame (.java (pass0J P1.m self 0 []))).cur = S.cur := hWcur
    have hXW : s₀.WarmedH (((W.setVm vm1).setFrames (.thenThrow self :: base)).pushFrame (.java (pass0J P1.m self 0 []))).vm := hW1
    have hXlim : e.platform.stackLimits (((W.setVm vm1).setFrames (.thenThrow self :: base)).pushFrame (.java (pass0J P1.m self 0 []))).me = lim := by rw [State.stackLimits_pushFrame, State.stackLimits_setFrames]; exact hlimW
    suffices hs : ∃ vm2, s₀.WarmedH vm2 ∧ ∀ t' : State, Steps p.tables e below ((((((W.setVm vm1).setFrames (.thenThrow self :: base)).pushFrame (.java (pass0J P1.m self 0 []))).setVm vm2).setCell self (((npeCell N.toNpeT (preparedCellV T.toThrowableT (freshCell P1.m.cls kX) self u0 sen) S.cur).withEntry S.cur).setSlot T.fStack.slot u0.v).left.left).setTop (pass0J P1.m self 4 [])) t' →
        Steps p.tables e below (doInvoke e ((((W.setVm vm1).setFrames (.thenThrow self :: base)).pushFrame (.java (pass0J P1.m self 0 []))).setTop (pass0J P1.m self 1 [])) [] (firstOf (Z.m T.toThrowableT) (Ps.map (·.toPassT))) #[.ref self]).1 t' by
      obtain ⟨vm2, hW2, st⟩ := hs
      exact ⟨vm2, hW2, fun t' h' => st t' (by rw [hXvm]; exact h')⟩
    clear hXvm
    generalize (((W.setVm vm1).setFrames (.thenThrow self :: base)).pushFrame (.java (pass0J P1.m self 0 []))) = X at hI1 hfI hXc hXS hXcur hXW hXlim ⊢
    exact Steps.initNpe0ColdByV p (V := X) (g := pass0J P1.m self 1 []) (c := P1.code) (self := self) hI1 hexec T L Z LZ N LN hXW hXcur (Nn := fun u => u) heapOnly_id (fun _ _ => rfl) (fun _ => rfl) (fun u x y => setCell_twice _ _ _ _) (fun _ => Nat.le_refl _) hXc
      (by intro k hk'; cases hk') (by intro hk'; cases hk') rfl hk hsel0 hXS hne hknownS hvU hv0 hneC hneSt hneP htS ht1
      (fun _ hu => hu) (fun _ hu => hu) rfl rfl rfl (by simp [npeCell, preparedCellV, Cell.setSlot, Cell.withEntry]) hskip hnat hselF hvSen htC htP hobjLocals Ps hL hlink (ig := .invokespecial P1.index) (len := 3) [] hXlim
      (by rw [hfI]; simp only [List.length_cons]; omega)
      (by rw [hfI, List.tail_cons, stackUse_java, stackUse_light _ _ (fun f hf => by cases hf) rfl]
          show (stackUse base).2 + (1 + 11 + 2 * 0 + operandWords []) + 13 * Ps.length + 55 ≤ lim.2
          simp only [operandWords, List.foldl_nil]
          omega)
      L1.at1
  obtain ⟨vm', hW', st⟩ := key
  refine ⟨vm', hW', fun target hrest => ?_⟩
  obtain ⟨mid, hmid⟩ := hbase
  have hf0 : (S.setFrames (.throwNew "java/lang/NullPointerException" none none :: base)).frames = .throwNew "java/lang/NullPointerException" none none :: base := State.frames_setFrames _ hcur
  refine Steps.head (ov_go hgo _) ⟨.throwNew "java/lang/NullPointerException" none none :: mid, by rw [hf0, hmid]; rfl, by simp, by simp⟩ ?_
  rw [stepThread_throwNew hf0, stepThrowNew_plain (s := S.setFrames (.throwNew "java/lang/NullPointerException" none none :: base)) (c := P1.m.cls) (k := kX') (i := P1.m.idx) (by decide) (by decide) (by show S.vm.findClass _ = _; rw [hW.alike.findClass]; exact hfound) hk' (by rw [he']; exact hinit) (by rw [he']; exact hord) hhot hbeyond hfreeW (by rw [he']; exact hctor) hcells (by rw [hty]; exact hslots)]
  rw [State.pushCell_setFrames, State.setFrames_setFrames, hfresh]
  exact st target hrest
end OVN
section VNN
variable {p : Program} {l : Launch} {e : Env} {R : Room} {s : State} {m : MethodId} {args : Array Value} {below : List Frame} {meth : Method} {c : Code} {H : Heap} {locs : List Loc} {kc ks : Nat} {Q : State → Prop}
variable {cc : ByteArray} {nL : Nat} {dC : Nat → ClassId} {dI : Nat → Nat → Nat} {dA : Nat → ClassId} {eA mi : Nat} {A : Nat → Prop} {ws : va_W} {own : String}
set_option maxHeartbeats 4000000 in
theorem nat_npe (hexec : p.tables.exec = Jvm.exec) (hat : ∀ w ∈ Bundle.npeArmAtoms 8, w.before args s = true) (hE : EG A eA mi s s.heap) (hfl : l.stackTraces = false) (hP : va_P (dC, dI) vwCl ws H) (hS : va_S A s.heap H locs) (hA : ∀ q, s.heap.size ≤ q → A q)
    {g : JFrame} (hg : g.method = m) (hsize : g.locals.size = c.maxLocals) {nf : NFrame} (hnw : nf.words = 0) (haw : nf.awaiting = false) (hlk : nf.locked = none) (hRf : 8 < R.frames) (hRl : 2 * g.monitorRoom + (g.stack.map fun v => v.category).sum + 10240 ≤ R.locals) (hb : kc + 1 ≤ R.cells ∧ ks + 8 ≤ R.slots)
    (kk : ∀ (x : Nat) (H1 : Heap) (locs1 : List Loc), va_P (dC, dI) vwCl ws H1 → va_S A s.heap H1 locs1 → exc "java/lang/NullPointerException" x s H1 → WT p l e R s m args below meth c H1 locs1 (kc + 1) (ks + 8) Q g x) :
    ∀ T : State, T.heap = H → Stand p l e R s m args below meth c T locs kc ks → ∃ t, Steps p.tables e below (T.setFrames (.throwNew "java/lang/NullPointerException" none none :: .native nf :: .java g :: below)) t ∧ Q t := by
  intro T' hT X
  have htr : e.platform.stackTraces = false := by rw [X.admits.platform]; exact hfl
  have howns : e.platform.frameOwnsMonitors = true := by rw [X.admits.platform]
  have hfin : e.platform.finalization = false := by rw [X.admits.platform]
  have hpl : e.platform.magicAccessors = ({} : Platform).magicAccessors := by rw [X.admits.platform]
  have hpl2 : e.platform.arrayCloneIsPublic = true := by rw [X.admits.platform]
  have a : ∀ x, x ∈ Bundle.npeArmAtoms 8 → x.holds args s none s [] = true := fun x hx => hat x hx
  obtain ⟨T, Z, L, LZ, Y⟩ := ThrowableC.of_atoms (args := args) howns hfin hpl (fun x hx => hat x (by simp [Bundle.npeArmAtoms, hx]))
  obtain ⟨N, LN, hcN, hnNF, hordN, hffS⟩ := NpeC.of_atoms (args := args) hpl hpl2 L Y (fun x hx => hat x (by simp [Bundle.npeArmAtoms, hx]))
  obtain ⟨P1, L1, hP1m, hP1s⟩ := PassC.of_atoms (args := args) (s := s) hpl (X := Bundle.nN) (Y := Bundle.rN) (by decide) (by decide) LibCode.NullPointerException.Init0.at_0 LibCode.NullPointerException.Init0.at_1 LibCode.NullPointerException.Init0.at_4 (fun x hx => hat x (by simp [Bundle.npeArmAtoms, hx]))
  obtain ⟨PR, LR, hPRm, hPRs⟩ := PassC.of_atoms (args := args) (s := s) hpl (X := Bundle.rN) (Y := Bundle.eN) (by decide) (by decide) LibCode.RuntimeException.Init0.at_0 LibCode.RuntimeException.Init0.at_1 LibCode.RuntimeException.Init0.at_4 (fun x hx => hat x (by simp [Bundle.npeArmAtoms, hx]))
  obtain ⟨PE, LEx, hPEm, hPEs⟩ := PassC.of_atoms (args := args) (s := s) hpl (X := Bundle.eN) (Y := Bundle.tN) (by decide) (by decide) LibCode.Exception.Init0.at_0 LibCode.Exception.Init0.at_1 LibCode.Exception.Init0.at_4 (fun x hx => hat x (by simp [Bundle.npeArmAtoms, hx]))
  have hfound : s.vm.findClass Bundle.nN = some P1.m.cls := findClass_of_methodNamed hP1m
  have ecls : N.cN = P1.m.cls := Option.some.inj (hcN.symm.trans hfound)
  have hk : s.vm.classes[P1.m.cls]? = some N.kN := by rw [← ecls]; exact LN.cls
  have hinit := Cond.initialized_spec hfound hk (a (.initialized Bundle.nN) (by simp [Bundle.npeArmAtoms]))
  have hctor : N.kN.findMethod "<init>" "()V" = some P1.m.idx := findMethod_of_methodNamed hP1m hk
  obtain ⟨c1, k1, hc1, hk1, -, -, -, hn⟩ := Cond.instantiable_spec (a (.instantiable Bundle.nN 8) (by simp [Bundle.npeArmAtoms]))
  cases Option.some.inj (hc1.symm.trans hfound)
  cases Option.some.inj (hk1.symm.trans hk)
  have hlink1 : P1.sup = PR.m := Option.some.inj (hP1s.symm.trans hPRm)
  have hlinkR : PR.sup = PE.m := Option.some.inj (hPRs.symm.trans hPEm)
  have hlinkE : PE.sup = Z.m T.toThrowableT := Option.some.inj (hPEs.symm.trans Y.init0)
  have hsel0 : selectMethod e.platform s.vm P1.m.cls T.fill0 = .method T.fill0 := by
    obtain ⟨c2, r2, m2, q1, q2, q3, q4, -⟩ := Cond.selects_spec (a (.selects Bundle.nN Bundle.tFill0 Bundle.tFill0) (by simp [Bundle.npeArmAtoms]))
    cases Option.some.inj (q1.symm.trans hfound)
    cases Option.some.inj (q2.symm.trans (State.methodFound?_of_named Y.fill0 (by decide)))
    cases Option.some.inj (q3.symm.trans Y.fill0)
    rw [Launch.admits_selectMethod X.admits]; exact q4
  have hselF : selectMethod e.platform s.vm P1.m.cls T.fill = .method N.fill := by
    obtain ⟨c2, r2, m2, q1, q2, q3, q4, -⟩ := Cond.selects_spec (a (.selects Bundle.nN Bundle.tFill Bundle.nFill) (by simp [Bundle.npeArmAtoms]))
    cases Option.some.inj (q1.symm.trans hfound)
    cases Option.some.inj (q2.symm.trans (State.methodFound?_of_named Y.fill (by decide)))
    cases Option.some.inj (q3.symm.trans hnNF)
    rw [Launch.admits_selectMethod X.admits]; exact q4
  obtain ⟨cellS, hcS0, hiss⟩ := Y.statics
  obtain ⟨u0, hu0⟩ := Cond.staticRefV Y.unassigned L.unassignedStatic L.statics hcS0 hiss (a (.isRef (.static Bundle.tN "UNASSIGNED_STACK" Bundle.steD)) (by simp [Bundle.npeArmAtoms]))
  obtain ⟨sen, hsen⟩ := Cond.staticRefV Y.sentinel L.sentinelStatic L.statics hcS0 hiss (a (.isRef (.static Bundle.tN "SUPPRESSED_SENTINEL" Bundle.listD)) (by simp [Bundle.npeArmAtoms]))
  obtain ⟨ci198, i198, fB, hk198, hg198, ha198, hsB, -, hnB, htB, hffB⟩ := Cond.ownField (t := .object "java/lang/Object") Y.found L.cls (by decide +kernel) (a (.fieldLink Bundle.tN 198 Bundle.tN "backtrace" Bundle.objD) (by simp [Bundle.npeArmAtoms])) (a (.lays Bundle.tN Bundle.tN "backtrace" Bundle.objD) (by simp [Bundle.npeArmAtoms])) e.platform hpl
  have hcellS : T'.heap[T.aS]? = some cellS := by rw [hT, statics_now hE Y L.statics hS]; exact hcS0
  have hknownS : cellS.vm ≠ .unknown := by
    intro hu
    rw [hu] at hiss
    cases hiss
  obtain ⟨tyC, eC, hdC, hdnC⟩ := Cond.laysAt hfound hk Y.cause (a (.lays Bundle.nN Bundle.tN "cause" "Ljava/lang/Throwable;") (by simp [Bundle.npeArmAtoms]))
  obtain ⟨tyS, eS, hdS, hdnS⟩ := Cond.laysAt hfound hk Y.stack (a (.lays Bundle.nN Bundle.tN "stackTrace" Bundle.steD) (by simp [Bundle.npeArmAtoms]))
  obtain ⟨tyP, eP, hdP, hdnP⟩ := Cond.laysAt hfound hk Y.supp (a (.lays Bundle.nN Bundle.tN "suppressedExceptions" Bundle.listD) (by simp [Bundle.npeArmAtoms]))
  obtain ⟨tyX, eX, hdX, hdnX⟩ := Cond.laysAt hfound hk hffS (a (.lays Bundle.nN Bundle.nN "extendedMessageState" "I") (by simp [Bundle.npeArmAtoms, Bundle.npeAtoms]))
  have hnX : N.fState.name = "extendedMessageState" := (State.fieldFound?_type hffS (t := .int) (by decide +kernel)).1
  obtain ⟨tyB, eB, hdB, hdnB⟩ := Cond.laysAt hfound hk hffB (a (.lays Bundle.nN Bundle.tN "backtrace" Bundle.objD) (by simp [Bundle.npeArmAtoms]))
  have bC := Cond.laysApart hdB hdC hdnB hdnC (by rw [hnB, Y.causeName]; decide)
  have bS := Cond.laysApart hdB hdS hdnB hdnS (by rw [hnB, Y.stackName]; decide)
  have bP := Cond.laysApart hdB hdP hdnB hdnP (by rw [hnB, Y.suppName]; decide)
  have bX := Cond.laysApart hdB hdX hdnB hdnX (by rw [hnB, hnX]; decide)
  have hskip : SkipFacts T e.platform s (fun u => u) u0 ((npeCell N.toNpeT (preparedCellV T.toThrowableT (freshCell P1.m.cls N.kN) T'.heap.size u0 sen) T'.cur).withEntry T'.cur) :=
    ⟨{ ci198 := ci198, i198 := i198, fBack := fB }, ⟨hk198, hg198, ha198, hsB⟩, by
      have := fresh_default (c := P1.m.cls) tyB
      rw [htB] at this
      simpa [npeCell, preparedCellV, Cell.setSlot, Cell.withEntry, Array.getElem?_setIfInBounds, bC, bS, bP, bX, bC.symm, bS.symm, bP.symm, bX.symm, defaultValue] using this, fun _ _ => rfl⟩
  have hgoT : T'.goesOn := ⟨X.here.running, X.here.runnable, X.here.alone⟩
  obtain ⟨g00, hfr00⟩ := X.frames_eq
  have hcurT : T'.cur < T'.threads.size := State.cur_lt_of_frames hfr00
  have hbase : ∃ mid, (Frame.native nf :: Frame.java g :: below) = mid ++ below := ⟨[.native nf, .java g], rfl⟩
  obtain ⟨hbeyond, hfreeW⟩ := ov_may X hsize hnw (.throwNew "java/lang/NullPointerException" none none) (fun f hf => by cases hf) rfl hRl
  have hfl0 : T'.frames.length = below.length + 1 := by rw [hfr00]; rfl
  have hfr' : (Frame.native nf :: Frame.java g :: below).length + ([PR, PE] : List PassC).length + 5 < (e.platform.stackLimits T'.me).1 := by have := X.framesAbove hRf; simp only [List.length_cons, List.length_nil]; omega
  have hwd' : (stackUse (Frame.native nf :: Frame.java g :: below)).2 + 13 * ([PR, PE] : List PassC).length + 68 ≤ (e.platform.stackLimits T'.me).2 := by
    have := X.stackAbove hsize (K := 13 * 2 + 68) (by omega)
    rw [X.tail] at this
    rw [stackUse_light _ _ (fun f hf => by cases hf) (show (Frame.native nf).words = 0 from hnw)]
    simp only [List.length_cons, List.length_nil]
    omega
  obtain ⟨vm', hW', st⟩ := ov_npe p (s₀ := s) (S := T') (base := Frame.native nf :: Frame.java g :: below) hgoT hcurT hbase hexec T L Z LZ N LN X.warmed P1 L1 [PR, PE] (fun P hP => by
      simp only [List.mem_cons, List.not_mem_nil, or_false] at hP
      rcases hP with rfl | rfl
      · exact LR
      · exact LEx) hlink1 ⟨hlinkR, hlinkE, trivial⟩ hfound hk hinit hordN hctor
    (Launch.admits_hotImplicitExceptions X.admits) hbeyond hfreeW (X.cellsAbove hb.1) (X.slotsAbove (by rw [hn]; exact hb.2))
    hsel0 hcellS hknownS hu0 (by rw [fresh_default tyX, LN.stateInt]; rfl)
    (Cond.laysApart hdC hdX hdnC hdnX (by rw [Y.causeName, hnX]; decide)) (Cond.laysApart hdS hdX hdnS hdnX (by rw [Y.stackName, hnX]; decide)) (Cond.laysApart hdP hdX hdnP hdnX (by rw [Y.suppName, hnX]; decide))
    (Takes.of_laid hk hordN tyS (by rw [Y.stackType]; exact fits_refV_array _ u0)) (Takes.of_laid hk hordN tyX (by rw [LN.stateInt]; rfl))
    hskip (fun _ _ hA hW _ hroom _ hrest => L.nativeOff p htr hA hW hroom hrest) hselF hsen
    (Takes.of_laid hk hordN tyC (by rw [Y.causeType]; rfl)) (Takes.of_laid hk hordN tyP (by rw [Y.suppType]; exact fits_refV_object _ sen)) Y.objLocals rfl hfr' hwd'
  rw [npeBareV_eq T.toThrowableT N.toNpeT T'.heap.size u0 sen T'.cur rfl rfl] at st
  have X2 := (X.pushed (freshCell P1.m.cls N.kN)).noted hW'
  have hsz : ((T'.pushCell (freshCell P1.m.cls N.kN)).setVm vm').heap.size = T'.heap.size + 1 := State.heap_size_pushCell _ _
  have ha : T'.heap.size < ((T'.pushCell (freshCell P1.m.cls N.kN)).setVm vm').heap.size := by rw [hsz]; omega
  have hcell : ((T'.pushCell (freshCell P1.m.cls N.kN)).setVm vm').heap[T'.heap.size]? = some (freshCell P1.m.cls N.kN) := State.heap_pushCell_size T' (freshCell P1.m.cls N.kN)
  have X3 := ((((X2.stored hcell T.fCause.slot (.ref T'.heap.size)).storedAgain ha T.fStack.slot u0.v).storedAgain ha T.fSupp.slot sen.v).storedAgain ha N.fState.slot (.int 1)).storedAgain ha T.fStack.slot u0.v
  have hslots : (freshCell P1.m.cls N.kN).slots.size = 8 := by simp [hn]
  rw [hslots] at X3
  have hne : ∀ q : Nat, q < H.size → (((T'.pushCell (freshCell P1.m.cls N.kN)).setVm vm').setCell T'.heap.size (npeBareV T.toThrowableT N.toNpeT (freshCell P1.m.cls N.kN) T'.heap.size u0 sen)).heap[q]? = H[q]? := by
    intro q hq
    rw [← hT] at hq ⊢
    simp [State.setCell, State.setVm, State.pushCell, Array.getElem?_setIfInBounds, Array.getElem?_push, Nat.ne_of_lt hq, Nat.ne_of_gt hq]
  have hzz : H.size ≤ (((T'.pushCell (freshCell P1.m.cls N.kN)).setVm vm').setCell T'.heap.size (npeBareV T.toThrowableT N.toNpeT (freshCell P1.m.cls N.kN) T'.heap.size u0 sen)).heap.size := by
    rw [← hT]
    simp [State.setCell, State.setVm, State.pushCell]
  have hcx : (((T'.pushCell (freshCell P1.m.cls N.kN)).setVm vm').setCell T'.heap.size (npeBareV T.toThrowableT N.toNpeT (freshCell P1.m.cls N.kN) T'.heap.size u0 sen)).heap[T'.heap.size]? = some (npeBareV T.toThrowableT N.toNpeT (freshCell P1.m.cls N.kN) T'.heap.size u0 sen) := by
    simp [State.setCell, State.setVm, State.pushCell, Array.getElem?_setIfInBounds]
  have hAx : A T'.heap.size := hA _ (by rw [hT]; exact hS.1)
  obtain ⟨hP1, hS1⟩ := va_grow hP hS hzz hne (locs1 := locs ++ [⟨T'.heap.size, T.fCause.slot⟩] ++ [⟨T'.heap.size, T.fStack.slot⟩] ++ [⟨T'.heap.size, T.fSupp.slot⟩] ++ [⟨T'.heap.size, N.fState.slot⟩] ++ [⟨T'.heap.size, T.fStack.slot⟩]) (fun q hq => by
    simp only [List.append_assoc, List.cons_append, List.nil_append, List.mem_append, List.mem_cons, List.not_mem_nil, or_false] at hq
    rcases hq with h | rfl | rfl | rfl | rfl | rfl
    · exact Or.inl h
    all_goals exact Or.inr hAx)
  obtain ⟨t, a1, b1⟩ := kk T'.heap.size _ _ hP1 hS1 ⟨_, hcx, rfl, hfound⟩ _ rfl X3
  refine ⟨t, st t ?_, b1⟩
  obtain ⟨g1, hfrM⟩ := X3.frames_eq
  rw [State.pushFrame, State.frames_setTop _ hfrM, State.setTop_of_frames _ hfrM, State.setFrames_setFrames] at a1
  exact ov_pop ⟨X3.here.running, X3.here.runnable, X3.here.alone⟩ (State.cur_lt_of_frames hfrM) ⟨[.java g], rfl⟩ haw hlk a1
end VNN
