/-! CALLS OF METHODS THAT THROW -/
section TC
variable {p : Program} {l : Launch} {e : Env} {R : Room} {s : State} {m : MethodId} {args : Array Value} {below : List Frame} {meth : Method} {c : Code} {H : Heap} {locs : List Loc} {cells slots : Nat} {Q : State → Prop}
variable {y : MethodName} {bytes cc : ByteArray} {maxL nL mc ms n index : Nat} {ret : Option FieldType} {ws : List Cond} {rm : Room} {Pc : Array Value → State → Prop} {Qc : Array Value → State → Outcome → State → Prop} {free : Addr → Prop} {Ts : List Cond} {own C : String} {b : Addr} {As rest : List Value} {g : JFrame}
/-- what a call of a method that throws comes to: the note above the caller's frame -/
abbrev Thrown (l : Launch) (R : Room) (p : Program) (e : Env) (below : List Frame) (s : State) (args : Array Value) (m : MethodId) (meth : Method) (c : Code) (A : Pt) (g : JFrame) (mk : MethodId) (a : Array Value) (Qc : Array Value → State → Outcome → State → Prop) (mc ms : Nat) (free : Addr → Prop) : Prop :=
  ∃ (x : Nat) (g' : JFrame) (mk' : MethodId) (t U' : State) (L : List Loc), Stand p l e R s m args below meth c U' (A.locs ++ L) (A.cells + mc) (A.slots + ms) ∧ (∀ q ∈ L, free q.base) ∧ U'.heap = t.heap ∧ U'.vm = t.vm ∧ Qc a (A.U.calling g' mk' a) (.threw x) t ∧
    Steps p.tables e below (doInvoke e (A.U.setTop g) [] mk a).1 ((U'.setTop g).pushFrame (.throwing x))
theorem thrown_of (hM : MetT l y ws rm Pc Qc mc ms free) (hblind : FrameBlind Pc) (cb : CallB R s args own index y bytes maxL ret ws rm mc ms n) {A : Pt} {ig : Instr} {len : Nat} {mk : MethodId} {a : Array Value}
    (X : Stand p l e R s m args below meth c A.U A.locs A.cells A.slots) (hg : g.method = m) (hsize : g.locals.size = c.maxLocals) (hdg : decode c.code g.pc = .ok (ig, len)) (hW : 2 * g.monitorRoom + (g.stack.map fun v => v.category).sum ≤ 8)
    (hn : A.U.methodNamed? y = some mk) (h4 : A.cells + mc ≤ R.cells) (h5 : A.slots + ms ≤ R.slots) (hp : Pc a A.U) : Thrown l R p e below s args m meth c A g mk a Qc mc ms free := by
  obtain ⟨hrc, hrs, hframes, hlocals, hws, hcw, -, hini, -⟩ := cb
  obtain ⟨U, Ls, c0, s0⟩ := A
  dsimp only [Pt.U, Pt.locs, Pt.cells, Pt.slots] at X hn h4 h5 hp ⊢
  have h1 : (headSpec ws rm).pre.before a U = true := atoms_intro fun w hw => hws w hw _ _ X.warmed
  have h2 : (Cond.code y bytes maxL ret).before a U = true := hws _ hcw _ _ X.warmed
  have h3 : (Cond.initialized y.cls).before a U = true := word_at X.warmed (Or.inl (by first | rfl | simp [Cond.onTables, Cond.keeps, Cond.steady])) hini
  obtain ⟨methY, cY, hmY, hcY, -, hlY, -, -, -, -⟩ := Cond.code_spec hn h2
  obtain ⟨kY, hkY, -⟩ := className_of_methodNamed hn
  have hinitY : kY.init = .initialized := Cond.initialized_spec (findClass_of_methodNamed hn) hkY h3
  have h : At U g.method c below := by rw [hg]; exact X.here
  have happ : (headSpec ws rm).appliesLoose y e.platform (U.calling g mk a) = true :=
    Spec.appliesLoose_calling (g := g) h hdg hn hkY hinitY
      (X.room_calling (g := g) (R' := rm) hsize hmY hcY hframes (by rw [hlY]; omega) (by rw [hrc]; exact h4) (by rw [hrs]; exact h5)) h1
  obtain ⟨mid, hmid⟩ := h.above
  have hfr : (U.setTop g).frames = (.java g :: mid) ++ below := by rw [State.frames_setTop' g h.top, hmid]; rfl
  obtain ⟨o, u2, hsteps, -, hend, hq⟩ := Steps.callFree hM p X.admits X.cas X.clock (acts := []) hfr happ (hblind _ _ _ _ hp) trivial
  rw [State.frames_setTop' g h.top] at hend
  obtain ⟨hq1, L, ⟨⟨x, rfl⟩, hW2, e2, q2, q3, q4, q5, q6⟩, hL⟩ := hq
  have e3 : u2 = ({ (U.calling g mk a).setFrames u2.frames with heap := u2.heap, slotsUsed := u2.slotsUsed } : State).setVm u2.vm := by
    have z : u2 = ({ u2 with vm := (U.calling g mk a).vm } : State).setVm u2.vm := rfl
    refine z.trans ?_
    exact congrArg (fun v : State => v.setVm u2.vm) e2
  have hf2 : u2.frames = .throwing x :: .java g :: U.frames.tail := hend
  have hW' : U.WarmedH u2.vm := hW2
  obtain ⟨g0, hg0⟩ := Option.isSome_iff_exists.mp h.top
  obtain ⟨r, hr⟩ := State.topJava?_eq_some.mp hg0
  have hs2 : u2 = ((({ U with heap := u2.heap, slotsUsed := u2.slotsUsed } : State).setVm u2.vm).setTop g).pushFrame (.throwing x) := by
    have hr' : (({ U with heap := u2.heap, slotsUsed := u2.slotsUsed } : State).setVm u2.vm).frames = .java g0 :: r := hr
    refine e3.trans ?_
    rw [hf2, State.calling_eq h.top, State.setFrames_setFrames, State.pushFrame, State.frames_setTop _ hr', State.setTop_of_frames _ hr', State.setFrames_setFrames, hr]
    rfl
  have hsame : U.sameButNew ({ U with heap := u2.heap, slotsUsed := u2.slotsUsed } : State) L mc ms := by
    refine ⟨?_, q2, q3, q4, q5, q6⟩
    obtain ⟨t, ht, -⟩ := State.frames_cons hr
    show ({ U with heap := u2.heap, slotsUsed := u2.slotsUsed } : State) = { U.setFrames U.frames with heap := u2.heap, slotsUsed := u2.slotsUsed }
    rw [State.setFrames_self ht]
  subst hg
  refine ⟨x, g, mk, u2, (({ U with heap := u2.heap, slotsUsed := u2.slotsUsed } : State).setVm u2.vm), L, ?_, hL, rfl, rfl, hq1, ?_⟩
  · exact ⟨X.admits, X.cas, X.clock, X.frames, X.room, X.hears, X.method, X.code, (X.here.setHeapUsed u2.heap u2.slotsUsed).setVm hW'.alike, X.tail, State.WarmedH.trans X.warmed hW', X.limits, X.bytes, X.same.trans (hsame.setVm s.vm)⟩
  · rw [← hs2]
    exact hsteps
/-- a call that throws, as a run -/
def tRun (p : Program) (l : Launch) (e : Env) (R : Room) (s : State) (m : MethodId) (args : Array Value) (below : List Frame) (meth : Method) (c : Code) (H : Heap) (locs : List Loc) (cells slots mc ms : Nat) (g : JFrame) (rest : List Value) (Qa : State → Outcome → State → Prop) (free : Addr → Prop) : Prop :=
  ∀ T : State, T.heap = H → Stand p l e R s m args below meth c T locs cells slots → ∃ (x : Nat) (st₀ t T' : State) (L : List Loc), st₀.heap = H ∧ Stand p l e R s m args below meth c T' (locs ++ L) (cells + mc) (slots + ms) ∧ (∀ q ∈ L, free q.base) ∧ T'.heap = t.heap ∧ T'.vm = t.vm ∧ Qa st₀ (.threw x) t ∧
    ∀ tg, Steps p.tables e below ((T'.setTop { g with stack := rest }).pushFrame (.throwing x)) tg → Steps p.tables e below (T.setTop g) tg
theorem tRunV (S : CallFix p m c cc nL s args Ts own) (hM : MetT l y ws rm Pc Qc mc ms free) (cw : CallW R s args own C index y bytes maxL ret ws rm mc ms n) (hp : PreV s H C b Pc As)
    (hg : g.method = m) (hn : As.length = n) (hsize : g.locals.size = nL) (hstack : g.stack = As.reverse ++ .ref b :: rest) (hW : 2 * g.monitorRoom + (rest.map fun v => v.category).sum ≤ 8) (hdg : decode cc g.pc = .ok (.invokevirtual index, 3)) (hf : cells + mc ≤ R.cells ∧ slots + ms ≤ R.slots) :
    tRun p l e R s m args below meth c H locs cells slots mc ms g rest (Qc (Value.ref b :: As).toArray) free := by
  obtain ⟨cb, hin, hse⟩ := cw
  obtain ⟨-, -, -, -, -, -, hcode, -, hy, hlen, hl⟩ := id cb
  obtain ⟨hx, hb, hml, ho, -⟩ := S
  obtain ⟨hbl, ⟨cellB, hcB, hoB, hclB⟩, hPc⟩ := hp
  intro T hT X
  obtain ⟨mk, methM, hnamed, hmethM, hstM, habM⟩ := Cond.instanceMethod_spec hin
  obtain ⟨methM', cM, hmethM', -, -, -, -, -, -, hsigM⟩ := Cond.code_spec hnamed hcode
  cases hmethM.symm.trans hmethM'
  obtain ⟨c2, r2, m2, q1, q2, q3, q4, kP, hkP, hkPi⟩ := Cond.selects_spec hse
  cases hclB.symm.trans q1
  cases (State.methodFound?_of_named hnamed hy).symm.trans q2
  cases hnamed.symm.trans q3
  have hselP : selectMethod e.platform s.vm cellB.cls mk = .method mk := by rw [Launch.admits_selectMethod X.admits]; exact q4
  obtain ⟨vm1, X1, hstep1⟩ := X.invokevirtual hx ho hl hnamed hmethM hstM hkP hkPi hy (a := b) (cell := cellB) (by rw [hT]; exact hcB)
    (fun z h => by rw [h] at hoB; cases hoB) hselP hmethM habM hkP hkPi (g := g) hg (argsL := As) (rest := rest) (hn.trans (hlen _ hsigM)) hstack (by rw [hb]; exact hdg)
  obtain ⟨x, g', mk', t, U', L, XB, hL, e1, e2, hq, st⟩ := thrown_of (g := { g with stack := rest }) (A := ⟨T.setVm vm1, locs, cells, slots⟩) (a := (Value.ref b :: As).toArray) (mk := mk) hM hbl cb X1 hg (hsize.trans hml.symm) (by rw [hb]; exact hdg) hW (X1.named hnamed) hf.1 hf.2 (hPc (T.setVm vm1) hT X1.warmed)
  dsimp only [Pt.U, Pt.locs, Pt.cells, Pt.slots] at XB hq st
  exact ⟨x, (T.setVm vm1).calling g' mk' (Value.ref b :: As).toArray, t, U', L, hT, XB, hL, e1, e2, hq, fun tg h => hstep1 _ fun acts => by rw [doInvoke_state]; exact st.trans h⟩
theorem tRunS (S : CallFix p m c cc nL s args Ts own) (hM : MetT l y ws rm Pc Qc mc ms free) (cw : CallB R s args own index y bytes maxL ret ws rm mc ms n ∧ (Cond.static y).before args s = true) (hp : PreS s H Pc As)
    (hg : g.method = m) (hn : As.length = n) (hsize : g.locals.size = nL) (hstack : g.stack = As.reverse ++ rest) (hW : 2 * g.monitorRoom + (rest.map fun v => v.category).sum ≤ 8) (hdg : decode cc g.pc = .ok (.invokestatic index, 3)) (hf : cells + mc ≤ R.cells ∧ slots + ms ≤ R.slots) :
    tRun p l e R s m args below meth c H locs cells slots mc ms g rest (Qc As.toArray) free := by
  obtain ⟨cb, hstt⟩ := cw
  obtain ⟨-, -, -, -, -, -, hcode, hini, hy, hlen, hl⟩ := id cb
  obtain ⟨hx, hb, hml, ho, -⟩ := S
  obtain ⟨hbl, hPc⟩ := hp
  intro T hT X
  obtain ⟨mk, hnamed⟩ := Cond.code_named hcode
  obtain ⟨methM, cM, hmethM, -, -, -, -, -, -, hsigM⟩ := Cond.code_spec hnamed hcode
  have hstatic : methM.isStatic = true := Cond.static_spec hnamed hmethM hstt
  obtain ⟨kP, hkP, -⟩ := className_of_methodNamed hnamed
  have hinitP : kP.init = .initialized := Cond.initialized_spec (findClass_of_methodNamed hnamed) hkP hini
  obtain ⟨vm1, X1, hstep1⟩ := X.invokestatic hx ho hl hnamed hmethM hstatic hkP hinitP hy (g := g) hg (argsL := As) (rest := rest) (hn.trans (hlen _ hsigM)) hstack (by rw [hb]; exact hdg)
  obtain ⟨x, g', mk', t, U', L, XB, hL, e1, e2, hq, st⟩ := thrown_of (g := { g with stack := rest }) (A := ⟨T.setVm vm1, locs, cells, slots⟩) (a := As.toArray) (mk := mk) hM hbl cb X1 hg (hsize.trans hml.symm) (by rw [hb]; exact hdg) hW (X1.named hnamed) hf.1 hf.2 (hPc (T.setVm vm1) hT X1.warmed)
  dsimp only [Pt.U, Pt.locs, Pt.cells, Pt.slots] at XB hq st
  exact ⟨x, (T.setVm vm1).calling g' mk' As.toArray, t, U', L, hT, XB, hL, e1, e2, hq, fun tg h => hstep1 _ fun acts => by rw [doInvoke_state]; exact st.trans h⟩
end TC
