/-! WHERE IT IS CAUGHT -/
section CA
theorem go_hit {Q : Handler → Pre} {E : CtlPost} {e : Env} {d : Bool} {acts : List Action} {u : State} {f : JFrame} {a : Addr} {x : ExceptionTableEntry} {t : List ExceptionTableEntry} {k : ClassId} {cell : Cell} (hx : covers x f.pc = true) (h0 : x.catchType ≠ 0)
    (hl : u.vm.ClassLinks e.platform f.method.cls x.catchType k) (hcell : u.heap[a]? = some cell) (hobj : ∀ z, cell.vm ≠ .statics z) (hk : ∃ z, u.vm.classes[cell.cls]? = some z) (hc : ∃ z, u.vm.classes[k]? = some z) (hfit : u.vm.assignable cell.cls k = true) :
    wp (findHandler.go f a (x :: t)) Q E e d acts u ↔ Q (.found x.handlerPc) d acts (u.setVm (u.vm.noted f.method.cls x.catchType (.cls k))) := by
  simp only [covers] at hx
  obtain ⟨ha, ht⟩ := (resolveClass_links e.toSetting hl).op (op := VmOp.resolveClass f.method.cls x.catchType) rfl
  have hal : u.vm.Alike (u.vm.noted f.method.cls x.catchType (.cls k)) := (Vm.Alike.refl u.vm).noted _ _ _
  obtain ⟨k1, hk1⟩ := hk
  obtain ⟨k2, hk2⟩ := hc
  obtain ⟨k1', hk1', -⟩ := hal.2.2 _ _ hk1
  obtain ⟨k2', hk2', -⟩ := hal.2.2 _ _ hk2
  have hfit' : (u.vm.noted f.method.cls x.catchType (.cls k)).assignable cell.cls k = true := by rw [hal.assignable]; exact hfit
  simp [findHandler.go, hx, h0, ha, ht, hcell, hobj, hk1', hk2', hfit', VmOp.dirties, VmOp.acts]
theorem go_pass {Q : Handler → Pre} {E : CtlPost} {e : Env} {d : Bool} {acts : List Action} {u : State} {f : JFrame} {a : Addr} {x : ExceptionTableEntry} {t : List ExceptionTableEntry} {k : ClassId} {cell : Cell} (hx : covers x f.pc = true) (h0 : x.catchType ≠ 0)
    (hl : u.vm.ClassLinks e.platform f.method.cls x.catchType k) (hcell : u.heap[a]? = some cell) (hobj : ∀ z, cell.vm ≠ .statics z) (hk : ∃ z, u.vm.classes[cell.cls]? = some z) (hc : ∃ z, u.vm.classes[k]? = some z) (hno : u.vm.assignable cell.cls k = false) :
    wp (findHandler.go f a (x :: t)) Q E e d acts u ↔ wp (findHandler.go f a t) Q E e d acts (u.setVm (u.vm.noted f.method.cls x.catchType (.cls k))) := by
  simp only [covers] at hx
  obtain ⟨ha, ht⟩ := (resolveClass_links e.toSetting hl).op (op := VmOp.resolveClass f.method.cls x.catchType) rfl
  have hal : u.vm.Alike (u.vm.noted f.method.cls x.catchType (.cls k)) := (Vm.Alike.refl u.vm).noted _ _ _
  obtain ⟨k1, hk1⟩ := hk
  obtain ⟨k2, hk2⟩ := hc
  obtain ⟨k1', hk1', -⟩ := hal.2.2 _ _ hk1
  obtain ⟨k2', hk2', -⟩ := hal.2.2 _ _ hk2
  have hno' : (u.vm.noted f.method.cls x.catchType (.cls k)).assignable cell.cls k = false := by rw [hal.assignable]; exact hno
  simp [findHandler.go, hx, h0, ha, ht, hcell, hobj, hk1', hk2', hno', VmOp.dirties, VmOp.acts]
end CA
theorem asg.no {A B : String} {s : State} {args : Array Value} (h : (Cond.not (Cond.castable A B)).before args s = true) : asg A B s false := by
  simp only [Cond.before, Cond.holds, Cond.value] at h
  cases ha : s.vm.findClass A with
  | none => simp [ha] at h
  | some a =>
    cases hb : s.vm.findClass B with
    | none => simp [ha, hb] at h
    | some b =>
      simp [ha, hb] at h
      exact ⟨a, b, ha, hb, h⟩
/-- how a thrown object of the class nm comes to the handler at h -/
def Cat (s : State) (args : Array Value) (own nm : String) (pc h : Nat) : List ExceptionTableEntry → Prop
  | [] => False
  | x :: t => (covers x pc = false ∧ Cat s args own nm pc h t) ∨ (covers x pc = true ∧ x.catchType = 0 ∧ h = x.handlerPc) ∨
      (covers x pc = true ∧ x.catchType ≠ 0 ∧ ∃ nm', (Cond.classLink own x.catchType nm').before args s = true ∧ ((asg nm nm' s true ∧ h = x.handlerPc) ∨ (asg nm nm' s false ∧ Cat s args own nm pc h t)))
theorem cat_find {e : Env} {s : State} {args : Array Value} {own nm : String} {h : Nat} {f : JFrame} {a : Addr} {cell : Cell} (hpl : e.platform.magicAccessors = ({} : Platform).magicAccessors) (hown : s.vm.findClass own = some f.method.cls) (hobj : cell.vm.isStatics = false) (hcls : s.vm.findClass nm = some cell.cls) :
    ∀ (ts : List ExceptionTableEntry), Cat s args own nm f.pc h ts → ∀ u : State, s.WarmedH u.vm → u.heap[a]? = some cell → ∃ vm' : Vm, s.WarmedH vm' ∧ ∀ (Q : Handler → Pre) (E : CtlPost) (d : Bool) (acts : List Action), wp (findHandler.go f a ts) Q E e d acts u ↔ Q (.found h) d acts (u.setVm vm') := by
  intro ts
  induction ts with
  | nil => intro hc; exact hc.elim
  | cons x t ih =>
    intro hc u hu hcell
    rcases hc with ⟨h1, h2⟩ | ⟨h1, h2, rfl⟩ | ⟨h1, h2, nm', hl, h3⟩
    · obtain ⟨vm', hw, hq⟩ := ih h2 u hu hcell
      exact ⟨vm', hw, fun Q E d acts => by rw [Jvm.W.findHandler_go_skip h1]; exact hq Q E d acts⟩
    · exact ⟨u.vm, hu, fun Q E d acts => by rw [Jvm.W.findHandler_go_any h1 h2]; rfl⟩
    · obtain ⟨c', hc', hcl⟩ := Cond.classLink_spec hown hl e.platform hpl
      obtain ⟨dk, _, _, kt, hd, _, _, _, _, hkt, _, hop⟩ := hcl.here
      have hcl0 := hu.classLinks hcl
      have hW' : s.WarmedH (u.vm.noted f.method.cls x.catchType (.cls c')) := hu.noted hd hop (State.rightAt_cls hcl)
      have hal := hu.alike
      obtain ⟨kt', hkt', -⟩ := hal.2.2 _ _ hkt
      obtain ⟨kc, hkc, -⟩ := Vm.findClass_spec hcls
      obtain ⟨kc', hkc', -⟩ := hal.2.2 _ _ hkc
      rcases h3 with ⟨⟨a1, b1, g1, g2, g3⟩, rfl⟩ | ⟨⟨a1, b1, g1, g2, g3⟩, h4⟩
      · cases hcls.symm.trans g1
        cases hc'.symm.trans g2
        exact ⟨_, hW', fun Q E d acts => go_hit h1 h2 hcl0 hcell (VmData.ne_statics_of hobj) ⟨kc', hkc'⟩ ⟨kt', hkt'⟩ (by rw [hal.assignable]; exact g3)⟩
      · cases hcls.symm.trans g1
        cases hc'.symm.trans g2
        obtain ⟨vm', hw, hq⟩ := ih h4 (u.setVm (u.vm.noted f.method.cls x.catchType (.cls c'))) hW' hcell
        refine ⟨vm', hw, fun Q E d acts => ?_⟩
        rw [go_pass h1 h2 hcl0 hcell (VmData.ne_statics_of hobj) ⟨kc', hkc'⟩ ⟨kt', hkt'⟩ (by rw [hal.assignable]; exact g3)]
        exact hq Q E d acts
/-- the search's end: the frame at its handler, warmer tables -/
theorem step_caught {tb : Tables} {e : Env} {u target : State} {g : JFrame} {c : Code} {below : List Frame} {a : Addr} (h : At u g.method c below) {pc : Nat} {vm' : Vm}
    (hfind : ∀ (Q : Handler → Pre) (E : CtlPost) (d : Bool) (acts : List Action), wp (findHandler g a) Q E e d acts ((u.setTop g).pushFrame (.throwing a)) ↔ Q (.found pc) d acts (((u.setTop g).pushFrame (.throwing a)).setVm vm'))
    (hrest : Steps tb e below ((u.setVm vm').setTop { g with pc := pc, stack := [.ref a] }) target) : Steps tb e below ((u.setTop g).pushFrame (.throwing a)) target := by
  obtain ⟨hgo, hw⟩ := h.throwing a
  refine Steps.head hgo hw ?_
  have hst : ∀ r, (stepThrowing e ((u.setTop g).pushFrame (.throwing a)) a (.java g :: r)).1 = (((u.setTop g).pushFrame (.throwing a)).setVm vm').setFrames (.java { g with pc := pc, stack := [.ref a] } :: r) := by
    intro r
    simp only [stepThrowing, searchFrame, vmDo]
    generalize hr : Sem.go _ e false [] ((u.setTop g).pushFrame (.throwing a)) = res
    obtain ⟨as, rfl, ha⟩ := Sem.eq_ok_of hr (a := Handler.found pc) (s' := ((u.setTop g).pushFrame (.throwing a)).setVm vm') (acts' := []) (by simp [hfind _ _ _ _])
    rfl
  rw [stepThread_throwing (frames_entered h.top _), hst]
  obtain ⟨g0, hg⟩ := Option.isSome_iff_exists.mp h.top
  obtain ⟨r, hr⟩ := State.topJava?_eq_some.mp hg
  have hr' : (u.setVm vm').frames = .java g0 :: r := hr
  have hsf : ∀ (z : State) (F G : List Frame), ((z.setFrames F).setVm vm').setFrames G = (z.setVm vm').setFrames G := by
    intro z F G
    have h1 : (z.setFrames F).setVm vm' = (z.setVm vm').setFrames F := rfl
    rw [h1, State.setFrames_setFrames]
  rw [State.setTop_of_frames _ hr'] at hrest
  rw [hr, List.tail_cons, State.pushFrame, hsf, State.setTop_of_frames _ hr, hsf]
  exact hrest
section CT
variable {p : Program} {l : Launch} {e : Env} {R : Room} {s : State} {m : MethodId} {args : Array Value} {below : List Frame} {meth : Method} {c : Code} {H : Heap} {locs : List Loc} {cells slots : Nat} {Q : State → Prop}
variable {cc : ByteArray} {pc nL : Nat} {ls : Array Slot} {rest st0 : List Value} {own nm : String} {x h : Nat}
/-- an object of a class, by its name -/
def exc (nm : String) (x : Nat) (U : State) (H : Heap) : Prop := ∃ cell : Cell, H[x]? = some cell ∧ cell.vm.isStatics = false ∧ U.vm.findClass nm = some cell.cls
/-- it is caught -/
theorem WT.caught (S : CallFix p m c cc nL s args lw_all own) (hX : exc nm x s H) (hc : Cat s args own nm pc h c.exceptionTable.toList) (k : W p l e R s m args below meth c H locs cells slots Q (F0 m h ls [.ref x])) : WT p l e R s m args below meth c H locs cells slots Q (F0 m pc ls rest) x := by
  intro T hT X
  obtain ⟨cell, hcell, hobj, hcls⟩ := hX
  have hpl : e.platform.magicAccessors = ({} : Platform).magicAccessors := by rw [X.admits.platform]
  obtain ⟨vm', hw, hq⟩ := cat_find (e := e) (f := F0 m pc ls rest) (a := x) hpl S.2.2.2.1 hobj hcls _ hc ((T.setTop (F0 m pc ls rest)).pushFrame (.throwing x)) (by rw [Stand.throwing_vm]; exact X.warmed) (by rw [Stand.throwing_heap, hT]; exact hcell)
  obtain ⟨t, a1, b1⟩ := k (T.setVm vm') hT (X.noted hw)
  refine ⟨t, step_caught (c := c) X.here (fun Q E d acts => ?_) a1, b1⟩
  rw [Jvm.W.findHandler_eq (meth := meth) (code := c) (by rw [Stand.throwing_vm]; exact X.method') X.code]
  exact hq Q E d acts
end CT
