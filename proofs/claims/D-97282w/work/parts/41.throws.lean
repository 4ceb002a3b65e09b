/-! WHAT IS THROWN: methods that end by a throw, their calls, and where it is caught -/
section TH
variable {p : Program} {l : Launch} {e : Env} {R : Room} {s : State} {m : MethodId} {args : Array Value} {below : List Frame} {meth : Method} {c : Code} {H : Heap} {locs : List Loc} {cells slots : Nat} {Q : State → Prop}
/-- the walk at the note 'x is thrown', above the frame g -/
def WT (p : Program) (l : Launch) (e : Env) (R : Room) (s : State) (m : MethodId) (args : Array Value) (below : List Frame) (meth : Method) (c : Code) (H : Heap) (locs : List Loc) (cells slots : Nat) (Q : State → Prop) (g : JFrame) (x : Nat) : Prop :=
  ∀ T : State, T.heap = H → Stand p l e R s m args below meth c T locs cells slots → ∃ t, Steps p.tables e below ((T.setTop g).pushFrame (.throwing x)) t ∧ Q t
/-- an invocation that ended by a throw: nothing moved but L and at most k cells of n slots -/
def tEnd (u : State) (o : Outcome) (t : State) (L : List Loc) (k n : Nat) : Prop := (∃ x, o = .threw x) ∧ u.WarmedH t.vm ∧ u.sameButNew ({ t with vm := u.vm } : State) L k n
def MetT (l : Launch) (y : MethodName) (ws : List Cond) (rm : Room) (Pc : Array Value → State → Prop) (Qc : Array Value → State → Outcome → State → Prop) (mc ms : Nat) (free : Addr → Prop) : Prop :=
  MetFree l y (headSpec ws rm) Pc (fun _ _ _ _ _ => True) (fun a st o t => Qc a st o t ∧ ∃ L, tEnd st o t L mc ms ∧ ∀ q ∈ L, free q.base)
def TQ (below : List Frame) (Qc : Array Value → State → Outcome → State → Prop) (a : Array Value) (s : State) (mc ms : Nat) (free : Addr → Prop) : State → Prop := fun t =>
  ∃ o, t.status = .running ∧ Ended t below o ∧ Qc a s o t ∧ ∃ L, tEnd s o t L mc ms ∧ ∀ q ∈ L, free q.base
theorem MetT.ofW {y : MethodName} {ws ws' : List Cond} {rm : Room} {Pc : Array Value → State → Prop} {Qc : Array Value → State → Outcome → State → Prop} {mc ms : Nat} {free : Addr → Prop} {cc : ByteArray} {maxL : Nat} {ret : Option FieldType}
    (hy : plainName y.cls = true) (hw : ws = Cond.code y cc maxL ret :: ws')
    (body : ∀ p e s m args below meth c s₁, BodyLoose p l y (headSpec ws rm) cc maxL ret e s m args below meth c s₁ → c.maxLocals = maxL → c.exceptionTable.toList = [] → Pc args s →
      W p l e (headSpec ws rm).room s m args below meth c s.heap [] 0 0 (TQ below Qc args s mc ms free) (entryFrame m args maxL)) : MetT l y ws rm Pc Qc mc ms free := by
  refine MetFree.of_bodyS (code := cc) (maxLocals := maxL) (ret := ret) hy ?_ ?_
  · intro args s m h hn
    obtain ⟨meth, c, h1, h2, h3, h4, h5, h6, -, -⟩ := Cond.code_spec hn (atoms_spec (ws := ws) h _ (by rw [hw]; exact List.mem_cons_self))
    exact ⟨meth, c, h1, h2, h3, h4, h5, h6⟩
  · intro p e s m args below meth c s₁ B hml hP _
    have hh0 : s₁.heap = s.heap := by rw [B.state]; rfl
    have X := Stand.of_body B
    have hempty : c.exceptionTable.toList = [] := by
      obtain ⟨meth', c', h1, h2, h3, h4, h5, h6, h7, -⟩ := Cond.code_spec B.named (atoms_spec (ws := ws) B.pre _ (by rw [hw]; exact List.mem_cons_self))
      cases X.method.symm.trans h1
      cases X.code.symm.trans h2
      rw [Array.isEmpty_iff.mp h7]
    obtain ⟨t, a1, o, b1, b2, b3⟩ := body p e s m args below meth c s₁ B hml hempty hP s₁ hh0 X
    exact ⟨t, o, a1, b1, b2, ⟨b3.1, b3.2⟩⟩
/-- it leaves the method -/
theorem WT.out {Qc : Array Value → State → Outcome → State → Prop} {free : Addr → Prop} {x : Nat} {pc : Nat} {ls : Array Slot} {rest : List Value}
    (hq : ∀ t : State, t.heap = H → s.WarmedH t.vm → Qc args s (.threw x) t) (hf : ∀ q ∈ locs, free q.base) (hout : ∀ y ∈ c.exceptionTable.toList, covers y pc = false) (hlocks : meth.locks = false) :
    WT p l e R s m args below meth c H locs cells slots (TQ below Qc args s cells slots free) (F0 m pc ls rest) x := by
  intro T hT X
  obtain ⟨a1, a2, a3, a4, a5⟩ := X.leaveThrown x (g := F0 m pc ls rest) rfl rfl rfl hout hlocks
  exact ⟨_, a1, .threw x, a2, a3, hq _ hT a4, locs, ⟨⟨x, rfl⟩, a4, a5⟩, hf⟩
theorem WT.widen {g : JFrame} {x k n : Nat} (h1 : cells ≤ k) (h2 : slots ≤ n) (kk : WT p l e R s m args below meth c H locs k n Q g x) : WT p l e R s m args below meth c H locs cells slots Q g x := fun T hT X => kk T hT (stand_widen X h1 h2)
variable {cc : ByteArray} {pc : Nat} {ls : Array Slot} {rest : List Value}
theorem W.throw (hexec : p.tables.exec = Jvm.exec) (hb : c.code = cc) {x : Nat} (hdg : decode cc pc = .ok (.athrow, 1)) (k : WT p l e R s m args below meth c H locs cells slots Q (F0 m pc ls rest) x) : W p l e R s m args below meth c H locs cells slots Q (F0 m pc ls (.ref x :: rest)) := by
  intro T hT X
  obtain ⟨t, a1, b1⟩ := k T hT X
  refine ⟨t, ?_, b1⟩
  have hdg' : decode c.code pc = .ok (.athrow, 1) := by rw [hb]; exact hdg
  jvm_step X.here [hexec, hdg', athrow.wp_sem]
  exact a1
end TH
