section OVM
set_option maxHeartbeats 4000000 in
theorem ov_msg (p : Program) {e : Env} {below base : List Frame} {s₀ S : State} (hgo : S.goesOn) (hcur : S.cur < S.threads.size) (hbase : ∃ mid, base = mid ++ below) (hexec : p.tables.exec = Jvm.exec)
    (T : ThrowableC) (L : T.Links e.platform s₀) (Z : Init0T) (LZ : Z.LaidS T.toThrowableT) (M : MsgC) (LM : M.Links T e.platform s₀) (hW : s₀.WarmedH S.vm) (Zs : StringT) (LZs : Zs.Laid s₀.vm)
    (P1 : PassC) (L1 : P1.LinksS e.platform s₀) (Ps : List PassC) (hL : ∀ P, P ∈ Ps → P.LinksS e.platform s₀) (hlink1 : P1.sup = firstOf (Z.m T.toThrowableT) (Ps.map (·.toPassT))) (hlink : PassesOn (Z.m T.toThrowableT) (Ps.map (·.toPassT)))
    {cls m : String} {kX : Class} (hsoe : (cls == "java/lang/StackOverflowError") = false) (hoom : (cls == "java/lang/OutOfMemoryError") = false)
    (hfound : s₀.vm.findClass cls = some P1.m.cls) (hk : s₀.vm.classes[P1.m.cls]? = some kX) (hinit : kX.init = .initialized) (hord : kX.kind = .ordinary)
    (hctor : kX.findMethod "<init>" "(Ljava/lang/String;)V" = some P1.m.idx) (hhot : e.platform.hotImplicitExceptions = false)
    (hbeyond : e.platform.stackBeyond ((((S.setFrames (.throwNew cls (some m) none :: base)).threads[(S.setFrames (.throwNew cls (some m) none :: base)).cur]?).map (·.stackBytes)).getD 0) (S.setFrames (.throwNew cls (some m) none :: base)).frames = false)
    (hfreeW : e.platform.vmThrowRoom ≤ e.platform.stackFree ((((S.setFrames (.throwNew cls (some m) none :: base)).threads[(S.setFrames (.throwNew cls (some m) none :: base)).cur]?).map (·.stackBytes)).getD 0) (S.setFrames (.throwNew cls (some m) none :: base)).frames)
    (hm : (m == notModelled) = false)
    (hlimit : ¬ (stringBytes (stringToUtf16 m)).size > e.platform.arrayLengthLimit) (hheap : ¬ (stringBytes (stringToUtf16 m)).size * componentBytes .byte > e.platform.maxHeapBytes)
    (hcells : S.heap.size + 3 ≤ e.platform.maxCells) (hslots : S.slotsUsed + (stringBytes (stringToUtf16 m)).size + Zs.kS.instanceTypes.size + kX.instanceTypes.size ≤ e.platform.maxSlots)
    (hfitv : s₀.fitsSlot Zs.cS .none Zs.fv.slot (.ref S.heap.size) = true) (hfitc : s₀.fitsSlot Zs.cS .none Zs.fc.slot (.int (stringCoder (stringToUtf16 m))) = true)
    {u0 sen : RefV} {cellS : Cell} (hsel0 : selectMethod e.platform s₀.vm (freshCell P1.m.cls kX).cls T.fill0 = .method T.fill0)
    (hcellS : S.heap[T.aS]? = some cellS) (hknownS : cellS.vm ≠ .unknown) (hvU : cellS.slots[T.fUnassigned.slot]? = some u0.v) (htS : Takes s₀ (freshCell P1.m.cls kX) T.fStack u0.v)
    (hskip : SkipFacts T e.platform s₀ (fun u => u) u0 ((preparedCellV T.toThrowableT (freshCell P1.m.cls kX) (S.heap.size + 2) u0 sen).withEntry S.cur))
    (hnat : u0.v ≠ .null → ∀ u : State, At u T.fill T.codeFill below → s₀.WarmedH u.vm → u.heap[(S.heap.size + 2)]? = some ((preparedCellV T.toThrowableT (freshCell P1.m.cls kX) (S.heap.size + 2) u0 sen).withEntry S.cur) →
      e.platform.stackFull (((u.setTop (fillJ T.fill (S.heap.size + 2) 16 [])).threads[(u.setTop (fillJ T.fill (S.heap.size + 2) 16 [])).cur]?).getD { frames := [] }) (u.setTop (fillJ T.fill (S.heap.size + 2) 16 [])).frames (nativeFrameWords "java/lang/Throwable" "fillInStackTrace" 2) = false → ∀ t' : State,
      Steps p.tables e below (u.setTop (fillJ T.fill (S.heap.size + 2) 19 [.ref (S.heap.size + 2)])) t' →
      Steps p.tables e below (doInvoke e (u.setTop (fillJ T.fill (S.heap.size + 2) 16 [])) [] T.fill0 #[.ref (S.heap.size + 2), .int 0]).1 t')
    (hselF : selectMethod e.platform s₀.vm (freshCell P1.m.cls kX).cls T.fill = .method T.fill) (hvSen : cellS.slots[T.fSentinel.slot]? = some sen.v)
    (htC : Takes s₀ (freshCell P1.m.cls kX) T.fCause (.ref (S.heap.size + 2))) (htP : Takes s₀ (freshCell P1.m.cls kX) T.fSupp sen.v) (htM : Takes s₀ (freshCell P1.m.cls kX) T.fMsg (.ref (S.heap.size + 1))) (hobjLocals : T.codeObj.maxLocals = 1)
    {lim : Nat × Nat} (hlim : e.platform.stackLimits S.me = lim) (hframes : base.length + Ps.length + 4 < lim.1) (hwords : (stackUse base).2 + 13 * Ps.length + 55 ≤ lim.2) :
    ∃ vm', s₀.WarmedH vm' ∧ ∀ target, Steps p.tables e below ((((withThrown S Zs m P1.m.cls kX).setVm vm').setCell (S.heap.size + 2) ((((preparedCellV T.toThrowableT (freshCell P1.m.cls kX) (S.heap.size + 2) u0 sen).withEntry S.cur).setSlot T.fStack.slot u0.v).left.setSlot T.fMsg.slot (.ref (S.heap.size + 1)))).setFrames (.throwing (S.heap.size + 2) :: base)) target →
      Steps p.tables e below (S.setFrames (.throwNew cls (some m) none :: base)) target := by
  obtain ⟨kX', hk', he'⟩ := hW.alike.2.2 _ _ hk
  have hty : kX'.instanceTypes = kX.instanceTypes := by rw [he']
  have hfresh : freshCell P1.m.cls kX' = (freshCell P1.m.cls kX) := by
    show ({ cls := P1.m.cls, slots := kX'.instanceTypes.map defaultValue, vm := .none } : Cell) = _
    rw [hty]
  obtain ⟨kS', kB', LZ', htyS⟩ := LZs.warmer hW.alike
  have hsame : withThrown S { Zs with kS := kS', kB := kB' } m P1.m.cls kX' = (withThrown S Zs m P1.m.cls kX) := by
    rw [← withThrown_warmer S Zs (kB' := kB') htyS m P1.m.cls kX]
    show (withString S _ _ _ _ _ _).pushCell (freshCell P1.m.cls kX') = (withString S _ _ _ _ _ _).pushCell (freshCell P1.m.cls kX)
    rw [hfresh]
  have hfs : S.fitsSlot = s₀.fitsSlot := (show S.fitsSlot = (s₀.setVm S.vm).fitsSlot from rfl).trans (State.fitsSlot_setVm hW.alike)
  obtain ⟨w1, w2, -, w4, w5, -, w7⟩ := withThrown_facts e.platform S Zs m P1.m.cls kX
  have hltS : T.aS < S.heap.size := (Array.getElem?_eq_some_iff.mp hcellS).1
  have hgoW : (withThrown S Zs m P1.m.cls kX).goesOn := hgo
  have hWcur : (withThrown S Zs m P1.m.cls kX).cur = S.cur := by simp [withThrown, withString]
  have hcurW : (withThrown S Zs m P1.m.cls kX).cur < (withThrown S Zs m P1.m.cls kX).threads.size := hcur
  have key : ∃ vm', s₀.WarmedH vm' ∧ ∀ target, Steps p.tables e below ((((withThrown S Zs m P1.m.cls kX).setVm vm').setCell (S.heap.size + 2) ((((preparedCellV T.toThrowableT (freshCell P1.m.cls kX) (S.heap.size + 2) u0 sen).withEntry S.cur).setSlot T.fStack.slot u0.v).left.setSlot T.fMsg.slot (.ref (S.heap.size + 1)))).setFrames (.throwing (S.heap.size + 2) :: base)) target →
      Steps p.tables e below (doInvoke e ((withThrown S Zs m P1.m.cls kX).setFrames (.thenThrow (S.heap.size + 2) :: base)) [] P1.m #[.ref (S.heap.size + 2), .ref (S.heap.size + 1)]).1 target := by
    have hcellW := w4
    have hcSW : (withThrown S Zs m P1.m.cls kX).heap[T.aS]? = some cellS := (w5 _ hltS).trans hcellS
    have hlimW : e.platform.stackLimits (withThrown S Zs m P1.m.cls kX).me = lim := by rw [w7]; exact hlim
    have hWW : s₀.WarmedH (withThrown S Zs m P1.m.cls kX).vm := by rw [w1]; exact hW
    generalize (withThrown S Zs m P1.m.cls kX) = W at hgoW hWcur hcurW hcellW hcSW hlimW hWW ⊢
    have hne : T.aS ≠ S.heap.size + 2 := Nat.ne_of_lt (Nat.lt_of_lt_of_le hltS (Nat.le_add_right _ 2))
    generalize S.heap.size + 2 = self at *
    generalize S.heap.size + 1 = str at *
    obtain ⟨hfN, -, -⟩ := ov_in hgoW hcurW hbase self (hWW.methodAt L1.method) L1.code (hWW.plainAt L1.plain) (passJ P1.m self (.ref str) 0 [])
    have hlimN : e.platform.stackLimits (W.setFrames (.thenThrow self :: base)).me = lim := by rw [State.stackLimits_setFrames]; exact hlimW
    have hroom := roomAbove (pl := e.platform) (u := W.setFrames (.thenThrow self :: base)) (vars := 2) (pushed := [.thenThrow self]) (base := base) (free := 13 * Ps.length + 55) (lim := lim) hfN hlimN
      (by simp only [List.length_cons, List.length_nil]; omega) (by omega) (by rw [stackUse_light _ _ (fun f hf => by cases hf) rfl, stackUse_nil]; show 0 + 2 + 11 ≤ _; omega)
    refine ov_ctorS hgoW hcurW hbase hexec (H := fun u => u.setCell self ((((preparedCellV T.toThrowableT (freshCell P1.m.cls kX) self u0 sen).withEntry S.cur).setSlot T.fStack.slot u0.v).left.setSlot T.fMsg.slot (.ref str))) (heapOnly_id.thenSetCell self _) P1 L1 hWW self str hroom (fun vm1 hW1 hI1 => ?_)
    rw [hlink1]
    obtain ⟨-, -, hfI⟩ := ov_in (W := W.setVm vm1) hgoW hcurW hbase self (hW1.methodAt L1.method) L1.code (hW1.plainAt (U := W.setVm vm1) L1.plain) (passJ P1.m self (.ref str) 0 [])
    have hXvm : ∀ w, (((W.setVm vm1).setFrames (.thenThrow self :: base)).pushFrame (.java (passJ P1.m self (.ref str) 0 []))).setVm w = (((W.setVm w).setFrames (.thenThrow self :: base)).pushFrame (.java (passJ P1.m self (.ref str) 0 []))) := fun w => by rw [State.pushFrame_setVm, State.setFrames_setVm, State.setVm_twice]
    have hXc : (((W.setVm vm1).setFrames (.thenThrow self :: base)).pushFrame (.java (passJ P1.m self (.ref str) 0 []))).heap[self]? = some (freshCell P1.m.cls kX) := hcellW
    have hXS : (((W.setVm vm1).setFrames (.thenThrow self :: base)).pushFrame (.java (passJ P1.m self (.ref str) 0 []))).heap[T.aS]? = some cellS := hcSW
    have hXcur : (((W.setVm vm1).setFrames (.thenThrow self :: base)).pushFrame (.java (passJ P1.m self (.ref str) 0 []))).cur = S.cur := hWcur
    have hXW : s₀.WarmedH (((W.setVm vm1).setFrames (.thenThrow self :: base)).pushFrame (.java (passJ P1.m self (.ref str) 0 []))).vm := hW1
    have hXlim : e.platform.stackLimits (((W.setVm vm1).setFrames (.thenThrow self :: base)).pushFrame (.java (passJ P1.m self (.ref str) 0 []))).me = lim := by rw [State.stackLimits_pushFrame, State.stackLimits_setFrames]; exact hlimW
    suffices hs : ∃ vm2, s₀.WarmedH vm2 ∧ ∀ t' : State, Steps p.tables e below ((((((W.setVm vm1).setFrames (.thenThrow self :: base)).pushFrame (.java (passJ P1.m self (.ref str) 0 []))).setVm vm2).setCell self ((((preparedCellV T.toThrowableT (freshCell P1.m.cls kX) self u0 sen).withEntry S.cur).setSlot T.fStack.slot u0.v).left.setSlot T.fMsg.slot (.ref str))).setTop (passJ P1.m self (.ref str) 5 [])) t' →
        Steps p.tables e below (doInvoke e ((((W.setVm vm1).setFrames (.thenThrow self :: base)).pushFrame (.java (passJ P1.m self (.ref str) 0 []))).setTop (passJ P1.m self (.ref str) 2 [])) [] (firstOf (Z.m T.toThrowableT) (Ps.map (·.toPassT))) #[.ref self, .ref str]).1 t' by
      obtain ⟨vm2, hW2, st⟩ := hs
      exact ⟨vm2, hW2, fun t' h' => st t' (by rw [hXvm]; exact h')⟩
    clear hXvm
    generalize (((W.setVm vm1).setFrames (.thenThrow self :: base)).pushFrame (.java (passJ P1.m self (.ref str) 0 []))) = X at hI1 hfI hXc hXS hXcur hXW hXlim ⊢
    exact Steps.initThrowableSColdByV p (V := X) (g := passJ P1.m self (.ref str) 2 []) (c := P1.code) (self := self) hI1 hexec T L Z LZ M LM hXW hXcur (Nn := fun u => u) heapOnly_id (fun _ _ => rfl) (fun _ => rfl) (fun u x y => setCell_twice _ _ _ _) (fun _ => Nat.le_refl _) (msg := .ref str) rfl hXc
      (by intro k hk'; cases hk') (by intro hk'; cases hk') rfl hsel0 hXS hne hknownS hvU htS (fun _ hu => hu) (fun _ hu => hu) rfl rfl rfl (by simp [preparedCellV, Cell.setSlot, Cell.withEntry]) hskip hnat hselF hvSen htC htP htM hobjLocals Ps hL hlink (ig := .invokespecial P1.index) (len := 3) [] hXlim
      (by rw [hfI]; simp only [List.length_cons]; omega)
      (by rw [hfI, List.tail_cons, stackUse_java, stackUse_light _ _ (fun f hf => by cases hf) rfl]
          show (stackUse base).2 + (2 + 11 + 2 * 0 + operandWords []) + 13 * Ps.length + 42 ≤ lim.2
          simp only [operandWords, List.foldl_nil]
          omega)
      L1.at2
  obtain ⟨vm', hW', st⟩ := key
  refine ⟨vm', hW', fun target hrest => ?_⟩
  obtain ⟨mid, hmid⟩ := hbase
  have hv1 : S.fitsSlot Zs.cS .none Zs.fv.slot (.ref S.heap.size) = true := by rw [hfs]; exact hfitv
  have hv2 : S.fitsSlot Zs.cS .none Zs.fc.slot (.int (stringCoder (stringToUtf16 m))) = true := by rw [hfs]; exact hfitc
  have hf0 : (S.setFrames (.throwNew cls (some m) none :: base)).frames = .throwNew cls (some m) none :: base := State.frames_setFrames _ hcur
  refine Steps.head (ov_go hgo _) ⟨.throwNew cls (some m) none :: mid, by rw [hf0, hmid]; rfl, by simp, by simp⟩ ?_
  rw [stepThread_throwNew hf0, stepThrowNew_message (s := S.setFrames (.throwNew cls (some m) none :: base)) (c := P1.m.cls) (k := kX') (i := P1.m.idx) { Zs with kS := kS', kB := kB' } LZ' hsoe hoom (by show S.vm.findClass cls = _; rw [hW.alike.findClass]; exact hfound) hk' (by rw [he']; exact hinit) (by rw [he']; exact hord) hhot hbeyond hfreeW hm (by rw [he']; exact hctor) hlimit hheap hcells
    (by show S.slotsUsed + _ + kS'.instanceTypes.size + kX'.instanceTypes.size ≤ _; rw [htyS, hty]; exact hslots) hv1 hv2]
  rw [withThrown_setFrames, State.setFrames_setFrames, hsame]
  exact st target hrest
end OVM
/-! WHAT A NATIVE METHOD THROWS: with a message -/
section VMN
variable {p : Program} {l : Launch} {e : Env} {R : Room} {s : State} {m : MethodId} {args : Array Value} {below : List Frame} {meth : Method} {c : Code} {H : Heap} {locs : List Loc} {kc ks : Nat} {Q : State → Prop}
variable {cc : ByteArray} {nL : Nat} {dC : Nat → ClassId} {dI : Nat → Nat → Nat} {dA : Nat → ClassId} {eA mi : Nat} {A : Nat → Prop} {ws : va_W} {own : String}
theorem ov_pop {tb : Tables} {e : Env} {below : List Frame} {u target : State} {a : Addr} {f : NFrame} {r : List Frame} (hgo : u.goesOn) (hcur : u.cur < u.threads.size) (hr : ∃ mid, r = mid ++ below)
    (haw : f.awaiting = false) (hl : f.locked = none) (hrest : Steps tb e below (u.setFrames (.throwing a :: r)) target) : Steps tb e below (u.setFrames (.throwing a :: .native f :: r)) target := by
  obtain ⟨mid, hmid⟩ := hr
  have hf : (u.setFrames (.throwing a :: .native f :: r)).frames = .throwing a :: .native f :: r := State.frames_setFrames _ hcur
  refine Steps.head (ov_go hgo _) ⟨.throwing a :: .native f :: mid, by rw [hf, hmid]; rfl, by simp, by simp⟩ ?_
  have hst : (stepThread tb e (u.setFrames (.throwing a :: .native f :: r))).1 = (u.setFrames (.throwing a :: .native f :: r)).setFrames (.throwing a :: r) := by
    unfold stepThread
    simp only [hf]
    unfold stepThrowing
    simp only [haw, Bool.false_eq_true, if_false, hl]
    unfold vmDo
    generalize hg : Sem.go _ e false _ (u.setFrames (.throwing a :: .native f :: r)) = res
    obtain ⟨as, rfl, -⟩ := Sem.eq_ok_of hg (a := true) (s' := u.setFrames (.throwing a :: .native f :: r)) (acts' := []) (by simp [leaveIfLocked, unmarked, Action.isMark])
    rfl
  rw [hst, State.setFrames_setFrames]
  exact hrest
theorem ov_may {T : State} (X : Stand p l e R s m args below meth c T locs kc ks) {g : JFrame} (hsize : g.locals.size = c.maxLocals) {nf : NFrame} (hnw : nf.words = 0) (note : Frame) (hnote : ∀ f, note ≠ .java f) (hw : note.words = 0)
    (hK : 2 * g.monitorRoom + (g.stack.map fun v => v.category).sum + 10240 ≤ R.locals) :
    e.platform.stackBeyond ((((T.setFrames (note :: .native nf :: .java g :: below)).threads[(T.setFrames (note :: .native nf :: .java g :: below)).cur]?).map (·.stackBytes)).getD 0) (T.setFrames (note :: .native nf :: .java g :: below)).frames = false ∧
      e.platform.vmThrowRoom ≤ e.platform.stackFree ((((T.setFrames (note :: .native nf :: .java g :: below)).threads[(T.setFrames (note :: .native nf :: .java g :: below)).cur]?).map (·.stackBytes)).getD 0) (T.setFrames (note :: .native nf :: .java g :: below)).frames := by
  obtain ⟨g₀, hfr⟩ := X.frames_eq
  have hcur : T.cur < T.threads.size := State.cur_lt_of_frames hfr
  have hb : ((((T.setFrames (note :: .native nf :: .java g :: below)).threads[(T.setFrames (note :: .native nf :: .java g :: below)).cur]?).map (·.stackBytes)).getD 0) = T.me.stackBytes := by
    rw [← State.stackBytes_setFrames T (note :: .native nf :: .java g :: below)]
    exact State.stackBytes_me (T.setFrames (note :: .native nf :: .java g :: below))
  have hA := X.stackAbove hsize hK
  rw [X.tail] at hA
  have hlimit : (e.platform.stackLimits T.me).2 = (e.platform.limitsFor T.me.stackBytes).2 := rfl
  rw [hb, State.frames_setFrames _ hcur, Launch.admits_vmThrowRoom X.admits]
  unfold Platform.stackBeyond Platform.stackFree
  rw [stackUse_light _ _ hnote hw, stackUse_light _ _ (fun f hf => by cases hf) (show (Frame.native nf).words = 0 from hnw)]
  refine ⟨decide_eq_false (by omega), by omega⟩
set_option maxHeartbeats 4000000 in
theorem nat_msg (hexec : p.tables.exec = Jvm.exec) {cls : String} {names : List String} {text : String} {nb : Nat} (hcls : Bundle.fit cls = true) (hnames : ∀ n ∈ names, Bundle.fit n = true) (hsoe : (cls == "java/lang/StackOverflowError") = false) (hoom : (cls == "java/lang/OutOfMemoryError") = false)
    (hat : ∀ w ∈ Bundle.messageArmAtoms cls names, w.before args s = true) (hE : EG A eA mi s s.heap) (hfl : l.stackTraces = false) (hP : va_P (dC, dI) vwCl ws H) (hS : va_S A s.heap H locs) (hA : ∀ q, s.heap.size ≤ q → A q)
    (htext : (text == notModelled) = false) (hnb : (stringBytes (stringToUtf16 text)).size + 10 ≤ nb) (hnb2 : nb ≤ 100000)
    {g : JFrame} (hg : g.method = m) (hsize : g.locals.size = c.maxLocals) {nf : NFrame} (hnw : nf.words = 0) (haw : nf.awaiting = false) (hlk : nf.locked = none) (hRf : names.length + 5 < R.frames) (hRl : 2 * g.monitorRoom + (g.stack.map fun v => v.category).sum + 10240 ≤ R.locals) (hshort : names.length ≤ 3) (hb : kc + 3 ≤ R.cells ∧ ks + nb ≤ R.slots)
    (kk : ∀ (x : Nat) (H1 : Heap) (locs1 : List Loc), va_P (dC, dI) vwCl ws H1 → va_S A s.heap H1 locs1 → exc cls x s H1 → WT p l e R s m args below meth c H1 locs1 (kc + 3) (ks + nb) Q g x) :
    ∀ T : State, T.heap = H → Stand p l e R s m args below meth c T locs kc ks → ∃ t, Steps p.tables e below (T.setFrames (.throwNew cls (some text) none :: .native nf :: .java g :: below)) t ∧ Q t := by
  intro T' hT X
  have htr : e.platform.stackTraces = false := by rw [X.admits.platform]; exact hfl
  have howns : e.platform.frameOwnsMonitors = true := by rw [X.admits.platform]
  have hfin : e.platform.finalization = false := by rw [X.admits.platform]
  have hpl : e.platform.magicAccessors = ({} : Platform).magicAccessors := by rw [X.admits.platform]
  have hlimit : ¬ (stringBytes (stringToUtf16 text)).size > e.platform.arrayLengthLimit := by
    rw [Launch.admits_arrayLengthLimit X.admits]
    have : (100000 : Nat) ≤ _ := show 100000 ≤ ({} : Platform).arrayLengthLimit by decide
    omega
  have hheap : ¬ (stringBytes (stringToUtf16 text)).size * componentBytes .byte > e.platform.maxHeapBytes := by
    rw [Launch.admits_maxHeapBytes X.admits]
    have h1 : componentBytes .byte = 1 := by decide
    have : (100000 : Nat) ≤ _ := show 100000 ≤ ({} : Platform).maxHeapBytes by decide
    rw [h1]
    omega
  have a : ∀ x, x ∈ Bundle.messageArmAtoms cls names → x.holds args s none s [] = true := fun x hx => hat x hx
  obtain ⟨T, Z0, L, -, Y⟩ := ThrowableC.of_atoms (args := args) howns hfin hpl (fun x hx => hat x (by simp [Bundle.messageArmAtoms, hx]))
  obtain ⟨Z, M, LZ, LM, hnZ⟩ := Init0T.ofS_atoms (args := args) hpl L Y (fun x hx => hat x (by simp [Bundle.messageArmAtoms, hx]))
  obtain ⟨P1, Ps, hlen, L1, hL, hP1m, hlink1, hlink⟩ := Bundle.chainS (args := args) hpl hnZ names cls hcls hnames (fun x hx => hat x (by simp [Bundle.messageArmAtoms, hx]))
  obtain ⟨Zs, LZs, hn4, hfitv, hfitc⟩ := StringT.of_atoms (args := args) (fun x hx => hat x (by simp [Bundle.messageArmAtoms, hx]))
  have hfound : s.vm.findClass cls = some P1.m.cls := findClass_of_methodNamed hP1m
  obtain ⟨c1, kX, hc1, hk, hord, -, -, hn6⟩ := Cond.instantiable_spec (a (.instantiable cls 6) (by simp [Bundle.messageArmAtoms]))
  cases Option.some.inj (hc1.symm.trans hfound)
  have hinit := Cond.initialized_spec hfound hk (a (.initialized cls) (by simp [Bundle.messageArmAtoms]))
  have hctor : kX.findMethod "<init>" "(Ljava/lang/String;)V" = some P1.m.idx := findMethod_of_methodNamed hP1m hk
  have hsel0 : selectMethod e.platform s.vm P1.m.cls T.fill0 = .method T.fill0 := by
    obtain ⟨c2, r2, m2, q1, q2, q3, q4, -⟩ := Cond.selects_spec (a (.selects cls Bundle.tFill0 Bundle.tFill0) (by simp [Bundle.messageArmAtoms]))
    cases Option.some.inj (q1.symm.trans hfound)
    cases Option.some.inj (q2.symm.trans (State.methodFound?_of_named Y.fill0 (by decide)))
    cases Option.some.inj (q3.symm.trans Y.fill0)
    rw [Launch.admits_selectMethod X.admits]; exact q4
  have hselF : selectMethod e.platform s.vm P1.m.cls T.fill = .method T.fill := by
    obtain ⟨c2, r2, m2, q1, q2, q3, q4, -⟩ := Cond.selects_spec (a (.selects cls Bundle.tFill Bundle.tFill) (by simp [Bundle.messageArmAtoms]))
    cases Option.some.inj (q1.symm.trans hfound)
    cases Option.some.inj (q2.symm.trans (State.methodFound?_of_named Y.fill (by decide)))
    cases Option.some.inj (q3.symm.trans Y.fill)
    rw [Launch.admits_selectMethod X.admits]; exact q4
  obtain ⟨cellS, hcS0, hiss⟩ := Y.statics
  obtain ⟨u0, hu0⟩ := Cond.staticRefV Y.unassigned L.unassignedStatic L.statics hcS0 hiss (a (.isRef (.static Bundle.tN "UNASSIGNED_STACK" Bundle.steD)) (by simp [Bundle.messageArmAtoms]))
  obtain ⟨sen, hsen⟩ := Cond.staticRefV Y.sentinel L.sentinelStatic L.statics hcS0 hiss (a (.isRef (.static Bundle.tN "SUPPRESSED_SENTINEL" Bundle.listD)) (by simp [Bundle.messageArmAtoms]))
  obtain ⟨ci198, i198, fB, hk198, hg198, ha198, hsB, -, hnB, htB, hffB⟩ := Cond.ownField (t := .object "java/lang/Object") Y.found L.cls (by decide +kernel) (a (.fieldLink Bundle.tN 198 Bundle.tN "backtrace" "Ljava/lang/Object;") (by simp [Bundle.messageArmAtoms])) (a (.lays Bundle.tN Bundle.tN "backtrace" "Ljava/lang/Object;") (by simp [Bundle.messageArmAtoms])) e.platform hpl
  have hcellS : T'.heap[T.aS]? = some cellS := by rw [hT, statics_now hE Y L.statics hS]; exact hcS0
  have hknownS : cellS.vm ≠ .unknown := by
    intro hu
    rw [hu] at hiss
    cases hiss
  obtain ⟨iM, hffM⟩ := Y.msg
  obtain ⟨tyC, eC, hdC, hdnC⟩ := Cond.laysAt hfound hk Y.cause (a (.lays cls Bundle.tN "cause" "Ljava/lang/Throwable;") (by simp [Bundle.messageArmAtoms]))
  obtain ⟨tyS, eS, hdS, hdnS⟩ := Cond.laysAt hfound hk Y.stack (a (.lays cls Bundle.tN "stackTrace" Bundle.steD) (by simp [Bundle.messageArmAtoms]))
  obtain ⟨tyP, eP, hdP, hdnP⟩ := Cond.laysAt hfound hk Y.supp (a (.lays cls Bundle.tN "suppressedExceptions" Bundle.listD) (by simp [Bundle.messageArmAtoms]))
  obtain ⟨tyM, eM, hdM, hdnM⟩ := Cond.laysAt hfound hk hffM (a (.lays cls Bundle.tN "detailMessage" "Ljava/lang/String;") (by simp [Bundle.messageArmAtoms]))
  obtain ⟨tyB, eB, hdB, hdnB⟩ := Cond.laysAt hfound hk hffB (a (.lays cls Bundle.tN "backtrace" "Ljava/lang/Object;") (by simp [Bundle.messageArmAtoms]))
  have bC := Cond.laysApart hdB hdC hdnB hdnC (by rw [hnB, Y.causeName]; decide)
  have bS := Cond.laysApart hdB hdS hdnB hdnS (by rw [hnB, Y.stackName]; decide)
  have bP := Cond.laysApart hdB hdP hdnB hdnP (by rw [hnB, Y.suppName]; decide)
  have hskip : SkipFacts T e.platform s (fun u => u) u0 ((preparedCellV T.toThrowableT (freshCell P1.m.cls kX) (T'.heap.size + 2) u0 sen).withEntry T'.cur) :=
    ⟨{ ci198 := ci198, i198 := i198, fBack := fB }, ⟨hk198, hg198, ha198, hsB⟩, by
      have := fresh_default (c := P1.m.cls) tyB
      rw [htB] at this
      simpa [preparedCellV, Cell.setSlot, Cell.withEntry, Array.getElem?_setIfInBounds, bC, bS, bP, bC.symm, bS.symm, bP.symm, defaultValue] using this, fun _ _ => rfl⟩
  have hgoT : T'.goesOn := ⟨X.here.running, X.here.runnable, X.here.alone⟩
  obtain ⟨g00, hfr00⟩ := X.frames_eq
  have hcurT : T'.cur < T'.threads.size := State.cur_lt_of_frames hfr00
  have hbase : ∃ mid, (Frame.native nf :: Frame.java g :: below) = mid ++ below := ⟨[.native nf, .java g], rfl⟩
  obtain ⟨hbeyond, hfreeW⟩ := ov_may X hsize hnw (.throwNew cls (some text) none) (fun f hf => by cases hf) rfl hRl
  have hfl0 : T'.frames.length = below.length + 1 := by rw [hfr00]; rfl
  have hfr' : (Frame.native nf :: Frame.java g :: below).length + Ps.length + 4 < (e.platform.stackLimits T'.me).1 := by have := X.framesAbove hRf; rw [hlen]; simp only [List.length_cons]; omega
  have hwd' : (stackUse (Frame.native nf :: Frame.java g :: below)).2 + 13 * Ps.length + 55 ≤ (e.platform.stackLimits T'.me).2 := by
    have := X.stackAbove hsize (K := 13 * Ps.length + 55) (by rw [hlen]; omega)
    rw [X.tail] at this
    rw [stackUse_light _ _ (fun f hf => by cases hf) (show (Frame.native nf).words = 0 from hnw)]
    omega
  have hslots : T'.slotsUsed + (stringBytes (stringToUtf16 text)).size + Zs.kS.instanceTypes.size + kX.instanceTypes.size ≤ e.platform.maxSlots := by have := X.slotsAbove (n := nb) hb.2; rw [hn4, hn6]; omega
  obtain ⟨vm', hW', st⟩ := ov_msg p (s₀ := s) (S := T') (base := Frame.native nf :: Frame.java g :: below) hgoT hcurT hbase hexec T L Z LZ M LM X.warmed Zs LZs P1 L1 Ps hL hlink1 hlink hsoe hoom hfound hk hinit hord hctor
    (Launch.admits_hotImplicitExceptions X.admits) hbeyond hfreeW htext hlimit hheap (X.cellsAbove hb.1) hslots (hfitv _) (hfitc _)
    hsel0 hcellS hknownS hu0 (Takes.of_laid hk hord tyS (by rw [Y.stackType]; exact fits_refV_array _ u0)) hskip (fun _ _ hA hW _ hroom _ hrest => L.nativeOff p htr hA hW hroom hrest) hselF hsen
    (Takes.of_laid hk hord tyC (by rw [Y.causeType]; rfl)) (Takes.of_laid hk hord tyP (by rw [Y.suppType]; exact fits_refV_object _ sen)) (Takes.of_laid hk hord tyM (by rw [Y.msgType]; rfl)) Y.objLocals rfl hfr' hwd'
  rw [plainBareV_eq T.toThrowableT (T'.heap.size + 2) u0 sen (.ref (T'.heap.size + 1)) T'.cur rfl rfl] at st
  obtain ⟨-, -, w3, w4, -, -, -⟩ := withThrown_facts e.platform T' Zs text P1.m.cls kX
  have X3 := ((X.pushed (bytesOf Zs.cB (stringToUtf16 text))).pushed (stringAt Zs.cS Zs.kS Zs.fv Zs.fc (stringToUtf16 text) T'.heap.size)).pushed (freshCell P1.m.cls kX)
  have b1 : (bytesOf Zs.cB (stringToUtf16 text)).slots.size = (stringBytes (stringToUtf16 text)).size := by
    rw [(Cell.writeAll_facts _ _).2.2]; simp [bytes0]
  have b2 : (stringAt Zs.cS Zs.kS Zs.fv Zs.fc (stringToUtf16 text) T'.heap.size).slots.size = 4 := by simp [string0, Cell.setSlot, hn4]
  have b3 : (freshCell P1.m.cls kX).slots.size = 6 := by simp [hn6]
  rw [b1, b2, b3] at X3
  have hgrow : ∀ q : Nat, q < H.size → ((((T'.pushCell (bytesOf Zs.cB (stringToUtf16 text))).pushCell (stringAt Zs.cS Zs.kS Zs.fv Zs.fc (stringToUtf16 text) T'.heap.size)).pushCell (freshCell P1.m.cls kX))).heap[q]? = H[q]? := by
    intro q hq
    rw [← hT] at hq ⊢
    have hq1 : q < T'.heap.size + 1 := by omega
    have hq2 : q < T'.heap.size + 1 + 1 := by omega
    simp [State.pushCell, Array.getElem?_push, Nat.ne_of_lt hq, Nat.ne_of_lt hq1, Nat.ne_of_lt hq2]
  rw [← withString_eq] at X3 hgrow
  have X4 := X3.noted hW'
  have ha : (T'.heap.size + 2) < ((withThrown T' Zs text P1.m.cls kX).setVm vm').heap.size := by show _ < (withThrown T' Zs text P1.m.cls kX).heap.size; rw [w3]; omega
  have hcell : ((withThrown T' Zs text P1.m.cls kX).setVm vm').heap[(T'.heap.size + 2)]? = some (freshCell P1.m.cls kX) := w4
  have X5 := ((((X4.stored hcell T.fCause.slot (.ref (T'.heap.size + 2))).storedAgain ha T.fStack.slot u0.v).storedAgain ha T.fSupp.slot sen.v).storedAgain ha T.fStack.slot u0.v).storedAgain ha T.fMsg.slot (.ref (T'.heap.size + 1))
  have X6 := stand_widen X5 (Nat.le_refl (kc + 3)) (show ks + (stringBytes (stringToUtf16 text)).size + 4 + 6 ≤ ks + nb by omega)
  have hne : ∀ q : Nat, q < H.size → (((withThrown T' Zs text P1.m.cls kX).setVm vm').setCell (T'.heap.size + 2) (plainBareV T.toThrowableT (freshCell P1.m.cls kX) (T'.heap.size + 2) u0 sen (.ref (T'.heap.size + 1)))).heap[q]? = H[q]? := by
    intro q hq
    have hq' : q < T'.heap.size := by rw [hT]; exact hq
    have hqn : T'.heap.size + 2 ≠ q := fun z => by rw [← z] at hq'; exact absurd hq' (Nat.not_lt.mpr (Nat.le_add_right _ _))
    rw [State.heap_setCell_other hqn]
    exact hgrow q hq
  have hzz : H.size ≤ (((withThrown T' Zs text P1.m.cls kX).setVm vm').setCell (T'.heap.size + 2) (plainBareV T.toThrowableT (freshCell P1.m.cls kX) (T'.heap.size + 2) u0 sen (.ref (T'.heap.size + 1)))).heap.size := by
    have z : (((withThrown T' Zs text P1.m.cls kX).setVm vm').setCell (T'.heap.size + 2) (plainBareV T.toThrowableT (freshCell P1.m.cls kX) (T'.heap.size + 2) u0 sen (.ref (T'.heap.size + 1)))).heap.size = ((withThrown T' Zs text P1.m.cls kX).setVm vm').heap.size := by simp [State.setCell]
    rw [z, ← hT]
    omega
  have hcx := State.heap_setCell_self (s := (withThrown T' Zs text P1.m.cls kX).setVm vm') (x := plainBareV T.toThrowableT (freshCell P1.m.cls kX) (T'.heap.size + 2) u0 sen (.ref (T'.heap.size + 1))) hcell
  have hAx : A (T'.heap.size + 2) := hA _ (by have := hS.1; rw [hT]; omega)
  obtain ⟨hP1, hS1⟩ := va_grow hP hS hzz hne (locs1 := locs ++ [⟨T'.heap.size + 2, T.fCause.slot⟩] ++ [⟨T'.heap.size + 2, T.fStack.slot⟩] ++ [⟨T'.heap.size + 2, T.fSupp.slot⟩] ++ [⟨T'.heap.size + 2, T.fStack.slot⟩] ++ [⟨T'.heap.size + 2, T.fMsg.slot⟩]) (fun q hq => by
    simp only [List.append_assoc, List.cons_append, List.nil_append, List.mem_append, List.mem_cons, List.not_mem_nil, or_false] at hq
    rcases hq with h | rfl | rfl | rfl | rfl | rfl
    · exact Or.inl h
    all_goals exact Or.inr hAx)
  obtain ⟨t, a1, b9⟩ := kk (T'.heap.size + 2) _ _ hP1 hS1 ⟨_, hcx, rfl, hfound⟩ _ rfl X6
  refine ⟨t, st t ?_, b9⟩
  obtain ⟨g1, hfrM⟩ := X6.frames_eq
  rw [State.pushFrame, State.frames_setTop _ hfrM, State.setTop_of_frames _ hfrM, State.setFrames_setFrames] at a1
  exact ov_pop ⟨X6.here.running, X6.here.runnable, X6.here.alone⟩ (State.cur_lt_of_frames hfrM) ⟨[.java g], rfl⟩ haw hlk a1
end VMN
