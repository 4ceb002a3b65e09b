/-! METHODS WITH HANDLERS: their walk, where it is caught -/
theorem MetW.ofW {l : Launch} {y : MethodName} {ws ws' : List Cond} {rm : Room} {Pc : Array Value → State → Prop} {Qc : Array Value → State → Outcome → State → Prop} {mc ms : Nat} {free : Addr → Prop} {cc : ByteArray} {maxL : Nat} {ret : Option FieldType} {hh : List (Nat × Nat × Nat × Nat)}
    (hy : plainName y.cls = true) (hw : ws = Cond.codeWith y cc maxL ret hh :: ws')
    (body : ∀ p e s m args below meth c s₁, BodyLoose p l y (headSpec ws rm) cc maxL ret e s m args below meth c s₁ → c.maxLocals = maxL → c.exceptionTable.toList.map (fun h => (h.startPc, h.endPc, h.handlerPc, h.catchType)) = hh → Pc args s →
      W p l e (headSpec ws rm).room s m args below meth c s.heap [] 0 0 (MQ below Qc args s mc ms free) (entryFrame m args maxL)) : Met l y ws rm Pc Qc mc ms free := by
  refine MetFree.of_bodyS (code := cc) (maxLocals := maxL) (ret := ret) hy ?_ ?_
  · intro args s m h hn
    obtain ⟨m9, meth, c, hn9, h1, h2, h3, h4, -, h5, h6, -⟩ := Cond.codeWith_spec (atoms_spec (ws := ws) h _ (by rw [hw]; exact List.mem_cons_self))
    cases hn.symm.trans hn9
    exact ⟨meth, c, h1, h2, h3, h4, h5, h6⟩
  · intro p e s m args below meth c s₁ B hml hP _
    have hh0 : s₁.heap = s.heap := by rw [B.state]; rfl
    have X := Stand.of_body B
    have hxt : c.exceptionTable.toList.map (fun h => (h.startPc, h.endPc, h.handlerPc, h.catchType)) = hh := by
      obtain ⟨m9, meth', c', hn9, h1, h2, h3, h4, h5, -, -, -⟩ := Cond.codeWith_spec (atoms_spec (ws := ws) B.pre _ (by rw [hw]; exact List.mem_cons_self))
      cases B.named.symm.trans hn9
      cases X.method.symm.trans h1
      cases X.code.symm.trans h2
      exact h5
    obtain ⟨t, a1, o, b1, b2, b3⟩ := body p e s m args below meth c s₁ B hml hxt hP s₁ hh0 X
    exact ⟨t, o, a1, b1, b2, ⟨b3.1, b3.2⟩⟩
/-- how a thrown object comes to a handler, by the table's numbers -/
def CatH (s : State) (args : Array Value) (own nm : String) (pc h : Nat) : List (Nat × Nat × Nat × Nat) → Prop
  | [] => False
  | (a, b, hp, ct) :: t => ((decide (a ≤ pc) && decide (pc < b)) = false ∧ CatH s args own nm pc h t) ∨ ((decide (a ≤ pc) && decide (pc < b)) = true ∧ ct = 0 ∧ h = hp) ∨
      ((decide (a ≤ pc) && decide (pc < b)) = true ∧ ct ≠ 0 ∧ ∃ nm', (Cond.classLink own ct nm').before args s = true ∧ ((asg nm nm' s true ∧ h = hp) ∨ (asg nm nm' s false ∧ CatH s args own nm pc h t)))
theorem cat_of {s : State} {args : Array Value} {own nm : String} {pc h : Nat} : ∀ (L : List ExceptionTableEntry) (hh : List (Nat × Nat × Nat × Nat)), L.map (fun h => (h.startPc, h.endPc, h.handlerPc, h.catchType)) = hh → CatH s args own nm pc h hh → Cat s args own nm pc h L := by
  intro L
  induction L with
  | nil => intro hh e q; subst e; exact q
  | cons x t ih =>
    intro hh e q
    subst e
    rw [List.map_cons] at q
    unfold CatH at q
    unfold Cat
    have hc : covers x pc = (decide (x.startPc ≤ pc) && decide (pc < x.endPc)) := rfl
    rw [hc]
    rcases q with q | q | q
    · exact Or.inl ⟨q.1, ih _ rfl q.2⟩
    · exact Or.inr (Or.inl q)
    · obtain ⟨q1, q2, nm', q3, q4⟩ := q
      refine Or.inr (Or.inr ⟨q1, q2, nm', q3, ?_⟩)
      rcases q4 with q4 | q4
      · exact Or.inl q4
      · exact Or.inr ⟨q4.1, ih _ rfl q4.2⟩
theorem asg.yes {A B : String} {s : State} {args : Array Value} (h : (Cond.castable A B).before args s = true) : asg A B s true := by
  obtain ⟨c3, t3, w1, w2, w3⟩ := Cond.castable_spec h
  exact ⟨c3, t3, w1, w2, w3⟩
theorem CatH.hit {s : State} {args : Array Value} {own nm nm' : String} {pc a b hp ct : Nat} {t : List (Nat × Nat × Nat × Nat)} (h1 : (decide (a ≤ pc) && decide (pc < b)) = true) (h0 : ct ≠ 0) (hl : (Cond.classLink own ct nm').before args s = true) (ha : asg nm nm' s true) : CatH s args own nm pc hp ((a, b, hp, ct) :: t) := Or.inr (Or.inr ⟨h1, h0, nm', hl, Or.inl ⟨ha, rfl⟩⟩)
theorem CatH.pass {s : State} {args : Array Value} {own nm nm' : String} {pc h a b hp ct : Nat} {t : List (Nat × Nat × Nat × Nat)} (h1 : (decide (a ≤ pc) && decide (pc < b)) = true) (h0 : ct ≠ 0) (hl : (Cond.classLink own ct nm').before args s = true) (ha : asg nm nm' s false) (k : CatH s args own nm pc h t) : CatH s args own nm pc h ((a, b, hp, ct) :: t) := Or.inr (Or.inr ⟨h1, h0, nm', hl, Or.inr ⟨ha, k⟩⟩)
theorem CatH.skip {s : State} {args : Array Value} {own nm : String} {pc h a b hp ct : Nat} {t : List (Nat × Nat × Nat × Nat)} (h1 : (decide (a ≤ pc) && decide (pc < b)) = false) (k : CatH s args own nm pc h t) : CatH s args own nm pc h ((a, b, hp, ct) :: t) := Or.inl ⟨h1, k⟩
theorem CatH.any {s : State} {args : Array Value} {own nm : String} {pc a b hp : Nat} {t : List (Nat × Nat × Nat × Nat)} (h1 : (decide (a ≤ pc) && decide (pc < b)) = true) : CatH s args own nm pc hp ((a, b, hp, 0) :: t) := Or.inr (Or.inl ⟨h1, rfl, rfl⟩)
