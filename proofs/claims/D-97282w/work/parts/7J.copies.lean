/-! WHAT System.arraycopy REFUSES -/
section CP
variable {Q : Option Value → Pre} {E : CtlPost} {e : Env} {d : Bool} {acts : List Action} {u : State}
theorem cp_null1 (sp dp n : Int32) (dst : Value) (hE : E (.throwNew "java/lang/NullPointerException" none) acts u) : wp (Native.java_lang_System.arraycopy.sem #[.null, .int sp, dst, .int dp, .int n]) Q E e d acts u := by
  show wp (do Jvm.mark "nat.java_lang_System.arraycopy/null"; Jvm.throwNew "java/lang/NullPointerException") Q E e d acts u
  simp only [wp_bind', W.mark, W.throwNew]
  exact hE
theorem cp_null2 (a : Addr) (sp dp n : Int32) (hE : E (.throwNew "java/lang/NullPointerException" none) acts u) : wp (Native.java_lang_System.arraycopy.sem #[.ref a, .int sp, .null, .int dp, .int n]) Q E e d acts u := by
  show wp (do Jvm.mark "nat.java_lang_System.arraycopy/null"; Jvm.throwNew "java/lang/NullPointerException") Q E e d acts u
  simp only [wp_bind', W.mark, W.throwNew]
  exact hE
theorem kind_len {ty : FieldType} (h : ty = .byte ∨ ty = .short ∨ ty = .int ∨ ty = .long) : (Native.java_lang_System.arraycopy.kindName ty).toList.length ≤ 5 := by
  rcases h with rfl | rfl | rfl | rfl <;> decide
theorem len_app (a b : String) : (a ++ b).toList.length = a.toList.length + b.toList.length := by rw [String.toList_append, List.length_append]
theorem okTx_a {w : String} (h : w.toList.length ≤ 100) : okTx ("arraycopy: " ++ w) := by
  refine okTx_of ?_ ?_
  · rw [beq_eq_false_iff_ne]
    intro q
    have h2 := congrArg String.toList q
    rw [String.toList_append] at h2
    have h3 : "arraycopy: ".toList = 'a' :: "rraycopy: ".toList := by decide
    have h4 : notModelled.toList = '\u0000' :: " a message that is not modelled".toList := by decide
    rw [h3, h4] at h2
    simp at h2
  · rw [len_app]
    have : "arraycopy: ".toList.length = 11 := by decide
    omega
theorem cp_types {t1 t2 : FieldType} (p1 : t1 = .byte ∨ t1 = .short ∨ t1 = .int ∨ t1 = .long) (p2 : t2 = .byte ∨ t2 = .short ∨ t2 = .int ∨ t2 = .long) (hne : t1 ≠ t2) :
    ∃ text, okTx text ∧ ∀ {Q : Option Value → Pre} {E : CtlPost} {e : Env} {d : Bool} {acts : List Action} {u : State} {a b : Addr} {sp dp n : Int32} {cs cd : Cell} {k1 k2 : Class} {c1 c2 : ClassId}, u.heap[a]? = some cs → u.heap[b]? = some cd → (∀ k, cs.vm ≠ .statics k) → (∀ k, cd.vm ≠ .statics k) →
      u.vm.classes[cs.cls]? = some k1 → u.vm.classes[cd.cls]? = some k2 → k1.kind = .array c1 t1 → k2.kind = .array c2 t2 → E (.throwNew "java/lang/ArrayStoreException" (some text)) acts u → wp (Native.java_lang_System.arraycopy.sem #[.ref a, .int sp, .ref b, .int dp, .int n]) Q E e d acts u := by
  have hty : ((refKind t1 != refKind t2) || (!refKind t1 && t1 != t2)) = true := by
    rcases p1 with rfl | rfl | rfl | rfl <;> rcases p2 with rfl | rfl | rfl | rfl <;> first | exact absurd rfl hne | decide
  refine ⟨"arraycopy: type mismatch: can not copy " ++ Native.java_lang_System.arraycopy.kindName t1 ++ "[] into " ++ Native.java_lang_System.arraycopy.kindName t2 ++ "[]", ?_, fun hs hd h1 h2 hk1 hk2 e1 e2 hE => ?_⟩
  · have e : "arraycopy: type mismatch: can not copy " = "arraycopy: " ++ "type mismatch: can not copy " := by decide
    rw [e, String.append_assoc, String.append_assoc, String.append_assoc, String.append_assoc]
    refine okTx_a ?_
    simp only [len_app]
    have a1 : "type mismatch: can not copy ".toList.length = 28 := by decide
    have a2 : "[] into ".toList.length = 8 := by decide
    have a3 : "[]".toList.length = 2 := by decide
    have a4 := kind_len p1
    have a5 := kind_len p2
    omega
  · rw [Native.java_lang_System.arraycopy.sem_refs]
    unfold Native.java_lang_System.arraycopy.behind
    simp only [wp_bind', W.classOf, W.theClass, hs, hd, hk1, hk2, Option.some.injEq, exists_eq_left', e1, e2]
    refine ⟨h1, h2, ?_⟩
    unfold refKind at hty
    simp only [hty, if_true, wp_bind', W.mark, W.throwNew]
    exact hE
theorem sum_print (x y : Int32) : (toString (x.toInt + y.toInt)).toList.length ≤ 11 := by
  have a1 := Int32.toInt_lt x
  have a2 := Int32.le_toInt x
  have b1 := Int32.toInt_lt y
  have b2 := Int32.le_toInt y
  show (Int.repr (x.toInt + y.toInt)).toList.length ≤ 11
  cases h : x.toInt + y.toInt with
  | ofNat m =>
    have h1 : (m : Int) = x.toInt + y.toInt := h.symm
    have := nat_print (n := m) (by omega)
    show (toString m).toList.length ≤ 11
    omega
  | negSucc m =>
    have h1 : -((m : Int) + 1) = x.toInt + y.toInt := by rw [h, Int.negSucc_eq]
    have := nat_print (n := m.succ) (by omega)
    show ("-" ++ toString m.succ).toList.length ≤ 11
    rw [String.toList_append, List.length_append]
    have h0 : "-".toList.length = 1 := by decide
    omega
theorem cp_bounds {t1 : FieldType} {l1 l2 : Nat} {sp dp n : Int32} (p1 : t1 = .byte ∨ t1 = .short ∨ t1 = .int ∨ t1 = .long) (hl1 : l1 ≤ 36) (hl2 : l2 ≤ 36)
    (hf : sp < 0 ∨ dp < 0 ∨ n < 0 ∨ sp.toInt + n.toInt > l1 ∨ dp.toInt + n.toInt > l2) :
    ∃ text, okTx text ∧ ∀ {Q : Option Value → Pre} {E : CtlPost} {e : Env} {d : Bool} {acts : List Action} {u : State} {a b : Addr} {cs cd : Cell} {k1 k2 : Class} {c1 c2 : ClassId}, u.heap[a]? = some cs → u.heap[b]? = some cd → (∀ k, cs.vm ≠ .statics k) → (∀ k, cd.vm ≠ .statics k) →
      u.vm.classes[cs.cls]? = some k1 → u.vm.classes[cd.cls]? = some k2 → k1.kind = .array c1 t1 → k2.kind = .array c2 t1 → cs.slots.size = l1 → cd.slots.size = l2 → E (.throwNew "java/lang/ArrayIndexOutOfBoundsException" (some text)) acts u → wp (Native.java_lang_System.arraycopy.sem #[.ref a, .int sp, .ref b, .int dp, .int n]) Q E e d acts u := by
  have hty : ((refKind t1 != refKind t1) || (!refKind t1 && t1 != t1)) = false := by
    rcases p1 with rfl | rfl | rfl | rfl <;> decide
  have hkl := kind_len p1
  have n1 := nat_print (n := l1) (by omega)
  have n2 := nat_print (n := l2) (by omega)
  have q1 : "[".toList.length = 1 := by decide
  have q2 : "]".toList.length = 1 := by decide
  have q3 : " out of bounds for ".toList.length = 19 := by decide
  by_cases g1 : sp < 0
  · refine ⟨"arraycopy: " ++ ("source index " ++ toString sp ++ " out of bounds for " ++ (Native.java_lang_System.arraycopy.kindName t1 ++ "[" ++ toString l1 ++ "]")), okTx_a ?_, fun hs hd h1 h2 hk1 hk2 e1 e2 z1 z2 hE => ?_⟩
    · simp only [len_app]
      have q4 : "source index ".toList.length = 13 := by decide
      have q5 := int32_print sp
      omega
    · rw [Native.java_lang_System.arraycopy.sem_refs]
      unfold Native.java_lang_System.arraycopy.behind
      simp only [wp_bind', W.classOf, W.theClass, hs, hd, hk1, hk2, Option.some.injEq, exists_eq_left', e1, e2]
      refine ⟨h1, h2, ?_⟩
      unfold refKind at hty
      simp only [hty, Bool.false_eq_true, if_false]
      simp only [wp_bind', W.sizeOf, hs, hd, z1, z2, Option.some.injEq, exists_eq_left']
      simp only [g1, if_true, if_false]
      simp only [wp_bind', W.mark, W.throwNew]
      exact hE
  by_cases g2 : dp < 0
  · refine ⟨"arraycopy: " ++ ("destination index " ++ toString dp ++ " out of bounds for " ++ (Native.java_lang_System.arraycopy.kindName t1 ++ "[" ++ toString l2 ++ "]")), okTx_a ?_, fun hs hd h1 h2 hk1 hk2 e1 e2 z1 z2 hE => ?_⟩
    · simp only [len_app]
      have q4 : "destination index ".toList.length = 18 := by decide
      have q5 := int32_print dp
      omega
    · rw [Native.java_lang_System.arraycopy.sem_refs]
      unfold Native.java_lang_System.arraycopy.behind
      simp only [wp_bind', W.classOf, W.theClass, hs, hd, hk1, hk2, Option.some.injEq, exists_eq_left', e1, e2]
      refine ⟨h1, h2, ?_⟩
      unfold refKind at hty
      simp only [hty, Bool.false_eq_true, if_false]
      simp only [wp_bind', W.sizeOf, hs, hd, z1, z2, Option.some.injEq, exists_eq_left']
      simp only [g1, g2, if_true, if_false]
      simp only [wp_bind', W.mark, W.throwNew]
      exact hE
  by_cases g3 : n < 0
  · refine ⟨"arraycopy: " ++ ("length " ++ toString n ++ " is negative"), okTx_a ?_, fun hs hd h1 h2 hk1 hk2 e1 e2 z1 z2 hE => ?_⟩
    · simp only [len_app]
      have q4 : "length ".toList.length = 7 := by decide
      have q5 := int32_print n
      have q6 : " is negative".toList.length = 12 := by decide
      omega
    · rw [Native.java_lang_System.arraycopy.sem_refs]
      unfold Native.java_lang_System.arraycopy.behind
      simp only [wp_bind', W.classOf, W.theClass, hs, hd, hk1, hk2, Option.some.injEq, exists_eq_left', e1, e2]
      refine ⟨h1, h2, ?_⟩
      unfold refKind at hty
      simp only [hty, Bool.false_eq_true, if_false]
      simp only [wp_bind', W.sizeOf, hs, hd, z1, z2, Option.some.injEq, exists_eq_left']
      simp only [g1, g2, g3, if_true, if_false]
      simp only [wp_bind', W.mark, W.throwNew]
      exact hE
  by_cases g4 : sp.toInt + n.toInt > l1
  · refine ⟨"arraycopy: " ++ ("last source index " ++ toString (sp.toInt + n.toInt) ++ " out of bounds for " ++ (Native.java_lang_System.arraycopy.kindName t1 ++ "[" ++ toString l1 ++ "]")), okTx_a ?_, fun hs hd h1 h2 hk1 hk2 e1 e2 z1 z2 hE => ?_⟩
    · simp only [len_app]
      have q4 : "last source index ".toList.length = 18 := by decide
      have q5 := sum_print sp n
      omega
    · rw [Native.java_lang_System.arraycopy.sem_refs]
      unfold Native.java_lang_System.arraycopy.behind
      simp only [wp_bind', W.classOf, W.theClass, hs, hd, hk1, hk2, Option.some.injEq, exists_eq_left', e1, e2]
      refine ⟨h1, h2, ?_⟩
      unfold refKind at hty
      simp only [hty, Bool.false_eq_true, if_false]
      simp only [wp_bind', W.sizeOf, hs, hd, z1, z2, Option.some.injEq, exists_eq_left']
      simp only [g1, g2, g3, g4, if_true, if_false]
      simp only [wp_bind', W.mark, W.throwNew]
      exact hE
  have g5 : dp.toInt + n.toInt > l2 := (((hf.resolve_left g1).resolve_left g2).resolve_left g3).resolve_left g4
  refine ⟨"arraycopy: " ++ ("last destination index " ++ toString (dp.toInt + n.toInt) ++ " out of bounds for " ++ (Native.java_lang_System.arraycopy.kindName t1 ++ "[" ++ toString l2 ++ "]")), okTx_a ?_, fun hs hd h1 h2 hk1 hk2 e1 e2 z1 z2 hE => ?_⟩
  · simp only [len_app]
    have q4 : "last destination index ".toList.length = 23 := by decide
    have q5 := sum_print dp n
    omega
  · rw [Native.java_lang_System.arraycopy.sem_refs]
    unfold Native.java_lang_System.arraycopy.behind
    simp only [wp_bind', W.classOf, W.theClass, hs, hd, hk1, hk2, Option.some.injEq, exists_eq_left', e1, e2]
    refine ⟨h1, h2, ?_⟩
    unfold refKind at hty
    simp only [hty, Bool.false_eq_true, if_false]
    simp only [wp_bind', W.sizeOf, hs, hd, z1, z2, Option.some.injEq, exists_eq_left']
    simp only [g1, g2, g3, g4, g5, if_true, if_false]
    simp only [wp_bind', W.mark, W.throwNew]
    exact hE
end CP
section CQ
variable {p : Program} {l : Launch} {e : Env} {R : Room} {s : State} {m : MethodId} {args : Array Value} {below : List Frame} {meth : Method} {c : Code} {H : Heap} {locs : List Loc} {kc ks : Nat} {Q : State → Prop}
variable {cc : ByteArray} {nL pc : Nat} {ls : Array Slot} {rest : List Value} {own : String}
abbrev cpPs : List FieldType := [.object "java/lang/Object", .int, .object "java/lang/Object", .int, .int]
/-- the call of arraycopy that throws: to the note above the native's frame -/
theorem x_copy (S : CallFix p m c cc nL s args lw_all own) {index : Nat} (hlink : (Cond.methodLink own index arraycopyName).before args s = true) (hnat : (Cond.native arraycopyName).before args s = true) (hstat : (Cond.static arraycopyName).before args s = true) (hini : (Cond.initialized "java/lang/System").before args s = true)
    {src dst : Value} {sp dp n : Int32} {cls : String} {msg : Option String} (hsize : ls.size = nL)
    (hseen : ∀ x : Method, x.isStatic = true → x.sig.parameters = cpPs → seenByNative x #[src, .int sp, dst, .int dp, .int n] = #[src, .int sp, dst, .int dp, .int n]) (hwd : operandWords [src, .int sp, dst, .int dp, .int n] = 5)
    (hsem : ∀ (U : State) (E : CtlPost), U.heap = H → s.vm.Alike U.vm → (∀ a, E (.throwNew cls msg) a U) → wp (Native.java_lang_System.arraycopy.sem #[src, .int sp, dst, .int dp, .int n]) (fun _ _ _ _ => False) E e false [] U)
    (hframes : 1 ≤ R.frames) (hlocals : (rest.map fun v => v.category).sum + 18 ≤ R.locals) (hdg : decode cc pc = .ok (.invokestatic index, 3))
    (kk : ∀ nf : NFrame, nf.words = 0 → nf.awaiting = false → nf.locked = none → ∀ T : State, T.heap = H → Stand p l e R s m args below meth c T locs kc ks → ∃ t, Steps p.tables e below (T.setFrames (.throwNew cls msg none :: .native nf :: .java (F0 m pc ls rest) :: below)) t ∧ Q t) :
    W p l e R s m args below meth c H locs kc ks Q (F0 m pc ls (.int n :: .int dp :: dst :: .int sp :: src :: rest)) := by
  obtain ⟨hx, hb, hml, hown, -⟩ := S
  intro T hT X
  obtain ⟨r, kS, methS, hnS, hmS, hkS, N⟩ := NativeOf.of_static hnat hstat (ps := cpPs) (ret := none) (by decide +kernel)
  have hinitS : kS.init = .initialized := Cond.initialized_spec (findClass_of_methodNamed hnS) hkS hini
  obtain ⟨vm', X', step⟩ := X.invokestatic hx hown hlink hnS hmS N.static hkS hinitS (by decide) (g := F0 m pc ls (.int n :: .int dp :: dst :: .int sp :: src :: rest)) rfl (argsL := [src, .int sp, dst, .int dp, .int n]) (rest := rest) (by rw [N.sig]; rfl) rfl (by rw [hb]; exact hdg)
  have hA' : s.vm.Alike vm' := X'.warmed.alike
  obtain ⟨kS', N'⟩ := N.alike hA'
  have hfull := X'.notFull (g := F0 m pc ls rest) (hsize.trans hml.symm) (vars := nativeFrameWords "java/lang/System" "arraycopy" 5) hframes (by show 2 * 0 + (rest.map fun v => v.category).sum + (7 + 11) ≤ _; omega)
  have hs2 : seenByNative methS [src, .int sp, dst, .int dp, .int n].toArray = #[src, .int sp, dst, .int dp, .int n] := hseen methS N.static N.sig
  obtain ⟨t, a1, b1⟩ := kk { method := r, args := seenByNative methS [src, .int sp, dst, .int dp, .int n].toArray, locked := none } rfl rfl rfl (T.setVm vm') hT X'
  refine ⟨t, step t (fun acts => ?_), b1⟩
  have h : At (T.setVm vm') (F0 m pc ls rest).method c below := X'.here
  have hm : ((T.setVm vm').setTop (F0 m pc ls rest)).vm.method? r = some methS := by
    show vm'.method? r = some methS
    rw [hA'.method?]; exact hmS
  have hroom' : e.platform.stackFull ((((T.setVm vm').setTop (F0 m pc ls rest)).threads[((T.setVm vm').setTop (F0 m pc ls rest)).cur]?).getD { frames := [] }) ((T.setVm vm').setTop (F0 m pc ls rest)).frames
      (nativeFrameWords (((((T.setVm vm').setTop (F0 m pc ls rest)).vm.classes[r.cls]?).map (·.name)).getD "") methS.name (operandWords [src, .int sp, dst, .int dp, .int n].toArray.toList)) = false := by
    have h1 : ((((T.setVm vm').setTop (F0 m pc ls rest)).vm.classes[r.cls]?).map (·.name)).getD "" = "java/lang/System" := by
      show ((vm'.classes[r.cls]?).map (·.name)).getD "" = _
      rw [N'.cls]
      exact N'.className
    rw [h1, N'.name, show operandWords [src, .int sp, dst, .int dp, .int n].toArray.toList = 5 from hwd]
    exact hfull
  rw [(Fast.doInvoke_native (s := (T.setVm vm').setTop (F0 m pc ls rest)) (e := e) (acts := acts) (args := [src, .int sp, dst, .int dp, .int n].toArray) hm N'.native N'.noCode N'.noLock hroom').1]
  have hfe := frames_entered (g := F0 m pc ls rest) h.top (.native { method := r, args := seenByNative methS [src, .int sp, dst, .int dp, .int n].toArray, locked := none })
  obtain ⟨mid, hmid⟩ := h.above
  refine Steps.head ⟨h.running, by simpa using h.runnable, by simpa using h.alone⟩
    ⟨.native { method := r, args := seenByNative methS [src, .int sp, dst, .int dp, .int n].toArray, locked := none } :: .java (F0 m pc ls rest) :: mid, by rw [hfe, hmid]; rfl, by simp, by simp⟩ ?_
  rw [stepThread_native (f := { method := r, args := seenByNative methS [src, .int sp, dst, .int dp, .int n].toArray, locked := none }) (k := kS') (x := methS) (row := arraycopyRow) hfe N'.cls N'.meth N'.boot (by rw [N'.className, N'.name, N'.desc]; exact arraycopy_row p) rfl]
  have hw1 : wpRun (arraycopyRow.sem (seenByNative methS [src, .int sp, dst, .int dp, .int n].toArray)) (fun _ _ _ => False)
      (fun x s₁ _ => x = .throwNew cls msg ∧ s₁ = ((T.setVm vm').setTop (F0 m pc ls rest)).pushFrame (.native { method := r, args := seenByNative methS [src, .int sp, dst, .int dp, .int n].toArray, locked := none })) e
      (((T.setVm vm').setTop (F0 m pc ls rest)).pushFrame (.native { method := r, args := seenByNative methS [src, .int sp, dst, .int dp, .int n].toArray, locked := none })) := by
    rw [hs2, arraycopyRow_sem]
    exact hsem _ _ (by rw [← hT]; rfl) hA' (fun _ => ⟨rfl, rfl⟩)
  have hw2 := (wpRun_iff_run _ _ _ _ _).mp hw1
  obtain ⟨g1, hfrM⟩ := X'.frames_eq
  have h1 : ((T.setVm vm').setTop (F0 m pc ls rest)).pushFrame (.native { method := r, args := seenByNative methS [src, .int sp, dst, .int dp, .int n].toArray, locked := none }) = (T.setVm vm').setFrames (.native { method := r, args := seenByNative methS [src, .int sp, dst, .int dp, .int n].toArray, locked := none } :: .java (F0 m pc ls rest) :: below) := by
    rw [State.pushFrame, State.frames_setTop _ hfrM, State.setTop_of_frames _ hfrM, State.setFrames_setFrames]
  have a2 : Steps p.tables e below ((((T.setVm vm').setTop (F0 m pc ls rest)).pushFrame (.native { method := r, args := seenByNative methS [src, .int sp, dst, .int dp, .int n].toArray, locked := none })).pushFrame (.throwNew cls msg none)) t := by
    rw [h1, State.pushFrame, State.frames_setFrames _ (State.cur_lt_of_frames hfrM), State.setFrames_setFrames]
    exact a1
  cases hr : (arraycopyRow.sem (seenByNative methS [src, .int sp, dst, .int dp, .int n].toArray)).run e (((T.setVm vm').setTop (F0 m pc ls rest)).pushFrame (.native { method := r, args := seenByNative methS [src, .int sp, dst, .int dp, .int n].toArray, locked := none })) with
  | ok v s₁ acts₁ => rw [hr] at hw2; exact hw2.elim
  | ctl x s₁ acts₁ =>
    rw [hr] at hw2
    cases x <;> first
      | exact hw2.elim
      | (obtain ⟨h1, h2⟩ := hw2; cases h1; subst h2; exact a2)
      | (obtain ⟨h1, -⟩ := hw2; cases h1)
end CQ
