/-! TEXT CONSTANTS: a String that is told by its bytes -/
def STs (A : Nat → Prop) (sa va n : Nat) (f : Nat → Int32) (U : State) (H : Heap) : Prop :=
  va_O "java/lang/String" sa A U H ∧ va_OF "java/lang/String" "coder" "B" (.int 0) sa A U H ∧ va_OF "java/lang/String" "value" "[B" (.ref va) sa A U H ∧ va_T .byte va n (fun j => .int (f j)) A U H
theorem STs.moved {A : Nat → Prop} {sa va n : Nat} {f : Nat → Int32} {u U : State} {H : Heap} (hvm : u.vm.Alike U.vm) (h : STs A sa va n f u H) : STs A sa va n f U H :=
  ⟨va_O.moved hvm h.1, va_OF.moved hvm h.2.1, va_OF.moved hvm h.2.2.1, va_T.moved hvm h.2.2.2⟩
theorem STs.kept {A : Nat → Prop} {sa va n : Nat} {f : Nat → Int32} {U : State} {H H1 : Heap} (h : STs A sa va n f U H) (hq : ∀ a : Nat, a < H.size → ¬ A a → H1[a]? = H[a]?) : STs A sa va n f U H1 :=
  ⟨h.1.kept hq, h.2.1.kept hq, h.2.2.1.kept hq, h.2.2.2.kept hq⟩
theorem STs.narrow {A B : Nat → Prop} {sa va n : Nat} {f : Nat → Int32} {U : State} {H : Heap} (h : STs A sa va n f U H) (hAB : ∀ q, B q → A q) : STs B sa va n f U H :=
  ⟨h.1.narrow hAB, h.2.1.narrow hAB, h.2.2.1.narrow hAB, h.2.2.2.narrow hAB⟩
theorem STs.now {A : Nat → Prop} {sa va n : Nat} {f : Nat → Int32} {s : State} {H : Heap} {locs : List Loc} (h : STs A sa va n f s s.heap) (hS : va_S A s.heap H locs) : STs noA sa va n f s H :=
  (h.kept hS.2.1).narrow (fun _ z => z.elim)
theorem STs.recv {A : Nat → Prop} {sa va n : Nat} {f : Nat → Int32} {s : State} {H : Heap} (h : STs A sa va n f s H) : ∃ cell : Cell, H[sa]? = some cell ∧ cell.vm.isStatics = false ∧ s.vm.findClass "java/lang/String" = some cell.cls := by
  obtain ⟨cell, h1, h2, h3, -⟩ := h.1
  exact ⟨cell, h1, h2, h3⟩
/-- the letters of the two constants -/
def ltO : Nat → Int32 := fun j => ([[48, 49, 50, 51, 45], [100, 102, 114]].getD 0 [] : List Int32).getD j 0
def ltD : Nat → Int32 := fun j => ([[48, 49, 50, 51, 45], [100, 102, 114]].getD 1 [] : List Int32).getD j 0
theorem SG.st {A : Nat → Prop} {U : State} {H : Heap} (h : SG A U H) : ∃ s0 v0 s1 v1 : Nat, vk_R "HoleCounty" 301 "0123-" s0 U ∧ vk_R "HoleCounty" 319 "dfr" s1 U ∧ STs A s0 v0 5 ltO U H ∧ STs A s1 v1 3 ltD U H := by
  obtain ⟨k, v, h1, h2, h3⟩ := h
  exact ⟨k 0, v 0, k 1, v 1, h2, h3, h1.1 0 (by decide), h1.1 1 (by decide)⟩
abbrev sPc (eA mi : Nat) (As : List Value) (sa va n : Nat) (f : Nat → Int32) : Array Value → State → Prop := va_Pc As (fun U => EG noA eA mi U U.heap ∧ STs noA sa va n f U U.heap)
abbrev aPs (dC : Nat → ClassId) (dI : Nat → Nat → Nat) (dA : Nat → ClassId) (eA mi sz : Nat) (As : List Value) (w0 : va_W) (sa va n : Nat) (f : Nat → Int32) : Array Value → State → Prop := va_Pc As (fun U => U.heap.size = sz ∧ va_P (dC, dI) vwCl w0 U.heap ∧ va_K (dC, dI) vwCl (tysG dA) U ∧ va_D (fun _ => True) w0 ∧ EG (va_A w0 sz) eA mi U U.heap ∧ STs (va_A w0 sz) sa va n f U U.heap)
section STR
variable {p : Program} {l : Launch} {e : Env} {R : Room} {s : State} {m : MethodId} {args : Array Value} {below : List Frame} {meth : Method} {c : Code} {H : Heap} {locs : List Loc} {cells slots : Nat} {Q : State → Prop}
variable {cc : ByteArray} {pc nL : Nat} {ls : Array Slot} {rest st0 : List Value} {dC : Nat → ClassId} {dI : Nat → Nat → Nat} {dA : Nat → ClassId} {eA mi : Nat} {A : Nat → Prop} {w0 ws wc : va_W} {sz sa va nn : Nat} {sf : Nat → Int32}
variable {y : MethodName} {bytes : ByteArray} {maxL n index : Nat} {ret : Option FieldType} {rm : Room} {own : String} {As : List Value}
theorem ldcSW {T : State} (X : Stand p l e R s m args below meth c T locs cells slots) (hexec : p.tables.exec = Jvm.exec) {text : String} {a : Addr} (hown : s.vm.findClass own = some m.cls)
    (hconst : (Cond.stringRef own index text).before args s = true) (hev : (Term.string own index).eval args s none [] s = some (.ref a)) {g : JFrame} (hg : g.method = m) (hdg : decode c.code g.pc = .ok (.ldc_w index, 3)) :
    ∀ target, Steps p.tables e below (T.setTop { g with pc := g.pc + 3, stack := .ref a :: g.stack }) target → Steps p.tables e below (T.setTop g) target := by
  obtain ⟨k, cf, i, a', hk, hcf, hcp, -, hr, hev'⟩ := Cond.stringRef_spec hown hconst
  cases hev.symm.trans hev'
  obtain ⟨k', hk', he⟩ := X.warmed.alike.2.2 _ _ hk
  have hr' : k'.resolved[index]? = some (some (.string a)) := by
    rcases X.warmed.entry hk hk' index with h | ⟨h, -⟩
    · rw [h]; exact hr
    · rw [hr] at h; cases h
  intro target hrest
  subst hg
  jvm_step X.here [hexec, hdg, Op.ldc_w.wp_string (e := e) (s := T) (f := g) X.here.top hk' (by rw [he]; exact hcf) hcp hr']
  exact hrest
theorem va_ldcSw (hexec : p.tables.exec = Jvm.exec) (hb : c.code = cc) {tx : String} {q : Nat} (hown : s.vm.findClass own = some m.cls) (hZ : vk_R own index tx q s) (hdg : decode cc pc = .ok (.ldc_w index, 3))
    (k : W p l e R s m args below meth c H locs cells slots Q (F0 m (pc + 3) ls (.ref q :: rest))) : W p l e R s m args below meth c H locs cells slots Q (F0 m pc ls rest) := by
  intro T hT X
  obtain ⟨t, a1, b1⟩ := k T hT X
  have h1 : (Cond.stringRef own index tx).before args s = true := hZ.1
  exact ⟨t, ldcSW X hexec hown (text := tx) (a := q) h1 hZ.2 (g := F0 m pc ls rest) rfl (by rw [hb]; exact hdg) t a1, b1⟩
theorem sblind : FrameBlind (sPc eA mi As sa va nn sf) := fun a U g mk q => ⟨q.1, EG.same (u := U) (U := U.calling g mk a) rfl q.2.1, STs.moved (u := U) (U := U.calling g mk a) (Vm.Alike.refl U.vm) q.2.2⟩
theorem sprS (hE : EG noA eA mi s H) (hT : STs noA sa va nn sf s H) : PreS s H (sPc eA mi As sa va nn sf) As := ⟨sblind, fun U hU hW => ⟨rfl, by rw [hU]; exact hE.warm hW, by rw [hU]; exact hT.moved hW.alike⟩⟩
theorem ablindS : FrameBlind (aPs dC dI dA eA mi sz As w0 sa va nn sf) := fun a U g mk q => ⟨q.1, q.2.1, q.2.2.1, va_K.moved (u := U) (U := U.calling g mk a) (Vm.Alike.refl U.vm) q.2.2.2.1, q.2.2.2.2.1, EG.same (u := U) (U := U.calling g mk a) rfl q.2.2.2.2.2.1, STs.moved (u := U) (U := U.calling g mk a) (Vm.Alike.refl U.vm) q.2.2.2.2.2.2⟩
theorem apreSt (hK : va_K (dC, dI) vwCl (tysG dA) s) (hE : EG A eA mi s s.heap) (hV : STs A sa va nn sf s s.heap) (hP : va_P (dC, dI) vwCl ws H) (hD : va_D A ws) (hS : va_S A s.heap H locs) (hA : ∀ q, s.heap.size ≤ q → A q) (isC : List Nat) (hCf : isC.filterMap (fun i => ws[i]?) = wc) (hCm : isC.map (fun i => ws[i]?) = wc.map some) (hn : va_nd isC = true) : PreS s H (aPs dC dI dA eA mi H.size As wc sa va nn sf) As :=
  ⟨ablindS, fun U hU hW => ⟨rfl, by rw [hU], by rw [hU]; exact hP.sub isC hCf, va_K.moved hW.alike hK, (hD.sub isC hn hCm).weaken (fun _ _ _ _ => trivial), by rw [hU]; exact ((hE.kept hS.2.1).narrow (va_free hD hS hA isC hCm)).warm hW, by rw [hU]; exact ((hV.kept hS.2.1).narrow (va_free hD hS hA isC hCm)).moved hW.alike⟩⟩
theorem csS_i (S : CallFix p m c cc nL s args lw_all own) (hE : EG noA eA mi s H) (hT : STs noA sa va nn sf s H) {Qr : Int32 → Prop} (hM : Met l y (ws_ y bytes maxL ret) rm (sPc eA mi As sa va nn sf) (vp_Si Qr) 0 0 (fun _ => False)) (hG : GoodIn lw_all (va_wsS own index y (ws_ y bytes maxL ret))) (hd : DscOk y n) (h0 : rm.cells = 0 ∧ rm.slots = 0) (hR : RmOk rm R maxL) (hn : As.length = n) (hsize : ls.size = nL) (hstack : st0 = As.reverse ++ rest) (hW : (rest.map fun v => v.category).sum ≤ 8) (hdg : decode cc pc = .ok (.invokestatic index, 3)) (hf : cells ≤ R.cells ∧ slots ≤ R.slots)
    (kk : ∀ r : Int32, Qr r → W p l e R s m args below meth c H locs cells slots Q (F0 m (pc + 3) ls (.int r :: rest))) : W p l e R s m args below meth c H locs cells slots Q (F0 m pc ls st0) :=
  vp_callSi (W.runS S hM (va_cwS n S.2.2.2.2 hG rfl h0.1 h0.2 hd hR) (sprS hE hT) rfl hn hsize hstack (lv_room hW) hdg hf) kk
theorem csV_i (S : CallFix p m c cc nL s args lw_all own) (hE : EG noA eA mi s H) (hT : STs noA sa va nn sf s H) {Qr : Int32 → Prop} (hM : Met l y (ws_ y bytes maxL ret) rm (sPc eA mi (.ref sa :: As) sa va nn sf) (vp_Si Qr) 0 0 (fun _ => False)) (hG : GoodIn lw_all (wsV own index "java/lang/String" y (ws_ y bytes maxL ret))) (hC : y.cls = "java/lang/String") (hd : DscOk y n) (h0 : rm.cells = 0 ∧ rm.slots = 0) (hR : RmOk rm R maxL) (hn : As.length = n) (hsize : ls.size = nL) (hstack : st0 = As.reverse ++ .ref sa :: rest) (hW : (rest.map fun v => v.category).sum ≤ 8) (hdg : decode cc pc = .ok (.invokevirtual index, 3)) (hf : cells ≤ R.cells ∧ slots ≤ R.slots)
    (kk : ∀ r : Int32, Qr r → W p l e R s m args below meth c H locs cells slots Q (F0 m (pc + 3) ls (.int r :: rest))) : W p l e R s m args below meth c H locs cells slots Q (F0 m pc ls st0) :=
  vp_callSi (W.runV S hM (cwV n S.2.2.2.2 hG rfl h0.1 h0.2 ⟨hC, hd⟩ hR) ⟨sblind, hT.recv, (sprS hE hT).2⟩ rfl hn hsize hstack (lv_room hW) hdg hf) kk
end STR

/-! java/lang/StringLatin1.canEncode(I)Z -/
theorem pdJ11_canEncode : DscOk yJ11_canEncode 1 := by decide +kernel
abbrev rmJ11_canEncode : Room := { frames := 0, cells := 0, slots := 0, locals := 0 }
abbrev RJ11_canEncode_ : Room := (headSpec (ws_ yJ11_canEncode cJ11_canEncode 1 (some .boolean)) rmJ11_canEncode).room
section
variable {p : Program} {l : Launch} {e : Env} {s : State} {m : MethodId} {args : Array Value} {below : List Frame} {meth : Method} {c : Code} {Qw : State → Prop} {H : Heap} {locs : List Loc}
abbrev hrJ11_canEncode (p : Program) (l : Launch) (e : Env) (s : State) (m : MethodId) (args : Array Value) (below : List Frame) (meth : Method) (c : Code) (H : Heap) (locs : List Loc) (Qw : State → Prop) (Q : Int32 → Prop) : Prop := ∀ (r : Int32) (pc : Nat) (ls : Array Slot), bz r → Q r → decode cJ11_canEncode pc = .ok (.ireturn, 1) → W p l e RJ11_canEncode_ s m args below meth c H locs 0 0 Qw (F0 m pc ls [.int r])
def wJ11_canEncode (Q : Int32 → Prop) (x0 : Int32) : Prop := ((x0 < 0 → (Q 0)) ∧ (¬ x0 < 0 → ((255 < x0 → (Q 0)) ∧ (¬ 255 < x0 → (Q 1)))))
end
set_option maxHeartbeats 4000000 in
set_option maxRecDepth 100000 in
theorem metJ11_canEncode (l : Launch) {Q : Int32 → Prop} {x0 : Int32} (hf : wJ11_canEncode Q x0) : Met l yJ11_canEncode (ws_ yJ11_canEncode cJ11_canEncode 1 (some .boolean)) rmJ11_canEncode (fun v _ => v = ([.int x0] : List Value).toArray) (vp_Si Q) 0 0 (fun _ => False) := by
  refine Met.ofW (cc := cJ11_canEncode) (maxL := 1) (ret := (some .boolean)) (by decide) rfl ?_
  intro p e s m args below meth c s₁ B hml hv
  subst hv
  have hx := B.exec
  have hb := B.bytes
  have hr := B.returns
  have hts := atoms_spec (ws := (ws_ yJ11_canEncode cJ11_canEncode 1 (some .boolean))) B.pre
  have hts : ∀ w ∈ lw_all, w.before _ s = true := fun w h => hts w (List.mem_cons_of_mem _ h)
  have hown : s.vm.findClass RJ11 = some m.cls := findClass_of_methodNamed B.named
  have hlocks := B.notSynchronized
  have S : CallFix p m c cJ11_canEncode 1 s _ lw_all RJ11 := ⟨hx, hb, hml, hown, hts⟩
  have hl := lv_entry ([.int x0]) (n := 1) (Nat.le_of_ble_eq_true rfl)
  rw [lg_entry_eq]
  generalize (lg_sl ([.int x0]) ++ List.replicate (1 - (lg_sl ([.int x0])).length) Slot.unset).toArray = ls at hl ⊢
  replace hl : lv_has ls 1 [(0, .int x0)] := hl
  have hret : hrJ11_canEncode p l e s m ([.int x0] : List Value).toArray below meth c s.heap [] (MQ below (vp_Si Q) ([.int x0] : List Value).toArray s 0 0 (fun _ => False)) Q := fun r pc ls hz hq hd => W.zret hx hb hr hz.1 (fun t ht hW => ⟨r, rfl, hq, ht⟩) t_nil hd
  unfold wJ11_canEncode at hf
  refine lv_iload_n hx hb dJ11_canEncode_0 rfl (lv_at hl 0 rfl) ?_
  refine lv_if_lt (tgt := 15) hx hb dJ11_canEncode_1 (by decide) (fun c_1 => ?_) (fun c_1 => ?_)
  · replace hf := hf.1 c_1
    refine lv_iconst (v := 0) hx hb dJ11_canEncode_15 (by decide) ?_
    exact hret _ _ _ bz0 hf dJ11_canEncode_16
  · replace hf := hf.2 c_1
    refine lv_iload_n hx hb dJ11_canEncode_4 rfl (lv_at hl 0 rfl) ?_
    refine lv_sipush (v := 255) hx hb dJ11_canEncode_5 (by decide) ?_
    refine lv_icmp_gt (tgt := 15) hx hb dJ11_canEncode_8 (by decide) (fun c_8 => ?_) (fun c_8 => ?_)
    · replace hf := hf.1 c_8
      refine lv_iconst (v := 0) hx hb dJ11_canEncode_15 (by decide) ?_
      exact hret _ _ _ bz0 hf dJ11_canEncode_16
    · replace hf := hf.2 c_8
      refine lv_iconst (v := 1) hx hb dJ11_canEncode_11 (by decide) ?_
      refine lv_goto (tgt := 16) hx hb dJ11_canEncode_12 (by decide) ?_
      exact hret _ _ _ bz1 hf dJ11_canEncode_16
/-! java/lang/StringLatin1.indexOfChar([BIII)I -/
theorem pdJ11_indexOfChar : DscOk yJ11_indexOfChar 4 := by decide +kernel
abbrev rmJ11_indexOfChar : Room := { frames := 0, cells := 0, slots := 0, locals := 0 }
abbrev RJ11_indexOfChar_ : Room := (headSpec (ws_ yJ11_indexOfChar cJ11_indexOfChar 6 (some .int)) rmJ11_indexOfChar).room
section
variable {p : Program} {l : Launch} {e : Env} {s : State} {m : MethodId} {args : Array Value} {below : List Frame} {meth : Method} {c : Code} {Qw : State → Prop} {eA mi : Nat} {sa va nn : Nat} {sf : Nat → Int32}
abbrev hrJ11_indexOfChar (p : Program) (l : Launch) (e : Env) (s : State) (m : MethodId) (args : Array Value) (below : List Frame) (meth : Method) (c : Code) (Qw : State → Prop) (Q : Int32 → Prop) : Prop := ∀ (r : Int32) (pc : Nat) (ls : Array Slot), Q r → decode cJ11_indexOfChar pc = .ok (.ireturn, 1) → W p l e RJ11_indexOfChar_ s m args below meth c s.heap [] 0 0 Qw (F0 m pc ls [.int r])
def wJ11_indexOfChar_7 (Q : Int32 → Prop) (x3 : Int32) (x4 : Int32) (nn : Nat) (sf : (Nat → Int32)) : Nat → Int32 → Prop
  | 0, _ => False
  | n + 1, x5 => ((x3 ≤ x5 → (Q (-1))) ∧ (¬ x3 ≤ x5 → (vp_in x5 nn ∧ (((sf (x5 : Int32).toNatClampNeg) = x4 → (Q x5)) ∧ (¬ (sf (x5 : Int32).toNatClampNeg) = x4 → (∀ x5_25 : Int32, x5_25 = x5 + 1 → ((wJ11_indexOfChar_7 Q x3 x4 nn sf n) x5_25)))))))
set_option maxHeartbeats 4000000 in
set_option maxRecDepth 100000 in
theorem tJ11_indexOfChar_7 {Q : Int32 → Prop} {x3 : Int32} {x4 : Int32}  (S : CallFix p m c cJ11_indexOfChar 6 s args lw_all RJ11) (hE : EG noA eA mi s s.heap) (hT : STs noA sa va nn sf s s.heap) (hret : hrJ11_indexOfChar p l e s m args below meth c Qw Q) : ∀ (n : Nat) (x5 : Int32) (ls : Array Slot), wJ11_indexOfChar_7 Q x3 x4 nn sf n x5 → lv_has ls 6 [(0, .ref va), (3, .int x3), (4, .int x4), (5, .int x5)] → W p l e RJ11_indexOfChar_ s m args below meth c s.heap [] 0 0 Qw (F0 m 7 ls []) := by
  obtain ⟨hx, hb, hml, hown, hts⟩ := id S
  intro n
  induction n with
  | zero => intro _ _ hf; exact hf.elim
  | succ n ih =>
    intro x5 ls hf hl
    rw [wJ11_indexOfChar_7] at hf
    refine lv_iload hx hb dJ11_indexOfChar_7 (lv_at hl 3 rfl) ?_
    refine lv_iload_n hx hb dJ11_indexOfChar_9 rfl (lv_at hl 1 rfl) ?_
    refine lv_icmp_ge (tgt := 31) hx hb dJ11_indexOfChar_10 (by decide) (fun c_10 => ?_) (fun c_10 => ?_)
    · replace hf := hf.1 c_10
      refine lv_iconst (v := (-1)) hx hb dJ11_indexOfChar_31 (by decide) ?_
      exact hret _ _ _ hf dJ11_indexOfChar_32
    · replace hf := hf.2 c_10
      refine lv_aload_n hx hb dJ11_indexOfChar_13 rfl (lv_at hl 0 rfl) ?_
      refine lv_iload hx hb dJ11_indexOfChar_14 (lv_at hl 3 rfl) ?_
      obtain ⟨hin, hf⟩ := hf
      refine va_tb (v := .int (sf (x5 : Int32).toNatClampNeg)) hx hb hT.2.2.2 va_S.rf hin rfl dJ11_indexOfChar_16 ?_
      refine lv_iload hx hb dJ11_indexOfChar_17 (lv_at hl 2 rfl) ?_
      refine lv_icmp_ne (tgt := 25) hx hb dJ11_indexOfChar_19 (by decide) (fun c_19 => ?_) (fun c_19 => ?_)
      · replace hf := hf.2 c_19
        obtain ⟨x5_25, ex5_25⟩ : ∃ z : Int32, z = x5 + 1 := ⟨_, rfl⟩
        replace hf := hf x5_25 ex5_25
        refine lv_iinc (v := x5_25) (lv' := [(5, .int x5_25), (0, .ref va), (3, .int x3), (4, .int x4)]) hx hb dJ11_indexOfChar_25 hl (k := 3) rfl (by rw [ex5_25]; rfl) (by decide) rfl (fun ls hl => ?_)
        refine lv_goto (tgt := 7) hx hb dJ11_indexOfChar_28 (by decide) ?_
        exact ih x5_25 _ hf (lv_sub hl [1, 2, 3, 0] rfl)
      · replace hf := hf.1 c_19
        refine lv_iload hx hb dJ11_indexOfChar_22 (lv_at hl 3 rfl) ?_
        exact hret _ _ _ hf dJ11_indexOfChar_24
def wJ11_indexOfChar (Q : Int32 → Prop) (nn : Nat) (sf : (Nat → Int32)) (x1 : Int32) (x2 : Int32) (x3 : Int32) : Prop := (∀ x4_2 : Int32, x4_2 = (x1 : Int32).toInt8.toInt32 → (∃ fu : Nat, wJ11_indexOfChar_7 Q x3 x4_2 nn sf fu x2))
end
set_option maxHeartbeats 4000000 in
set_option maxRecDepth 100000 in
theorem metJ11_indexOfChar (l : Launch) {Q : Int32 → Prop}  {x1 : Int32} {x2 : Int32} {x3 : Int32} {eA mi : Nat} {sa va nn : Nat} {sf : Nat → Int32} (hf : wJ11_indexOfChar Q nn sf x1 x2 x3) : Met l yJ11_indexOfChar (ws_ yJ11_indexOfChar cJ11_indexOfChar 6 (some .int)) rmJ11_indexOfChar (sPc eA mi [.ref va, .int x1, .int x2, .int x3] sa va nn sf) (vp_Si Q) 0 0 (fun _ => False) := by
  refine Met.ofW (cc := cJ11_indexOfChar) (maxL := 6) (ret := (some .int)) (by decide) rfl ?_
  intro p e s m args below meth c s₁ B hml hv
  obtain ⟨rfl, hE, hT⟩ := hv
  have hx := B.exec
  have hb := B.bytes
  have hr := B.returns
  have hts := atoms_spec (ws := (ws_ yJ11_indexOfChar cJ11_indexOfChar 6 (some .int))) B.pre
  have hts : ∀ w ∈ lw_all, w.before _ s = true := fun w h => hts w (List.mem_cons_of_mem _ h)
  have hown : s.vm.findClass RJ11 = some m.cls := findClass_of_methodNamed B.named
  have hlocks := B.notSynchronized
  have S : CallFix p m c cJ11_indexOfChar 6 s _ lw_all RJ11 := ⟨hx, hb, hml, hown, hts⟩
  have hl := lv_entry ([.ref va, .int x1, .int x2, .int x3]) (n := 6) (Nat.le_of_ble_eq_true rfl)
  rw [lg_entry_eq]
  generalize (lg_sl ([.ref va, .int x1, .int x2, .int x3]) ++ List.replicate (6 - (lg_sl ([.ref va, .int x1, .int x2, .int x3])).length) Slot.unset).toArray = ls at hl ⊢
  replace hl : lv_has ls 6 [(0, .ref va), (1, .int x1), (2, .int x2), (3, .int x3)] := hl
  have hret : hrJ11_indexOfChar p l e s m ([.ref va, .int x1, .int x2, .int x3] : List Value).toArray below meth c (MQ below (vp_Si Q) ([.ref va, .int x1, .int x2, .int x3] : List Value).toArray s 0 0 (fun _ => False)) Q := fun r pc ls hq hd => W.iret hx hb hr (fun t ht hW => ⟨r, rfl, hq, ht⟩) t_nil hd
  unfold wJ11_indexOfChar at hf
  refine lv_iload_n hx hb dJ11_indexOfChar_0 rfl (lv_at hl 1 rfl) ?_
  refine lv_i2b (v := (x1 : Int32).toInt8.toInt32) hx hb dJ11_indexOfChar_1 rfl ?_
  refine lv_topi (fun x4_2 ex4_2 => ?_)
  replace hf := hf x4_2 ex4_2
  refine lv_istore (lv' := [(4, .int x4_2), (0, .ref va), (1, .int x1), (2, .int x2), (3, .int x3)]) hx hb dJ11_indexOfChar_2 hl (by decide) rfl (fun ls hl => ?_)
  refine lv_iload_n hx hb dJ11_indexOfChar_4 rfl (lv_at hl 3 rfl) ?_
  refine lv_istore (lv' := [(5, .int x2), (4, .int x4_2), (0, .ref va), (1, .int x1), (2, .int x2), (3, .int x3)]) hx hb dJ11_indexOfChar_5 hl (by decide) rfl (fun ls hl => ?_)
  obtain ⟨fu, hf⟩ := hf
  exact tJ11_indexOfChar_7 S hE hT hret fu x2 _ hf (lv_sub hl [2, 5, 1, 0] rfl)
/-! java/lang/StringLatin1.indexOf([BIII)I -/
theorem pdJ11_indexOf : DscOk yJ11_indexOf 4 := by decide +kernel
abbrev rmJ11_indexOf : Room := { frames := 1, cells := 0, slots := 0, locals := 25 }
abbrev RJ11_indexOf_ : Room := (headSpec (ws_ yJ11_indexOf cJ11_indexOf 4 (some .int)) rmJ11_indexOf).room
section
variable {p : Program} {l : Launch} {e : Env} {s : State} {m : MethodId} {args : Array Value} {below : List Frame} {meth : Method} {c : Code} {Qw : State → Prop} {eA mi : Nat} {sa va nn : Nat} {sf : Nat → Int32}
abbrev hrJ11_indexOf (p : Program) (l : Launch) (e : Env) (s : State) (m : MethodId) (args : Array Value) (below : List Frame) (meth : Method) (c : Code) (Qw : State → Prop) (Q : Int32 → Prop) : Prop := ∀ (r : Int32) (pc : Nat) (ls : Array Slot), Q r → decode cJ11_indexOf pc = .ok (.ireturn, 1) → W p l e RJ11_indexOf_ s m args below meth c s.heap [] 0 0 Qw (F0 m pc ls [.int r])
def wJ11_indexOf (Q : Int32 → Prop) (nn : Nat) (sf : (Nat → Int32)) (x1 : Int32) (x2 : Int32) (x3 : Int32) : Prop := (wJ11_canEncode (fun r_1 => ((r_1 = 0 → (Q (-1))) ∧ (¬ r_1 = 0 → (∀ x2_14 : Int32, x2_14 = (if x2 < 0 then 0 else x2) → (∀ x3_21 : Int32, x3_21 = (if (Int32.ofNat nn) < x3 then (Int32.ofNat nn) else x3) → ((x2_14 < x3_21 → (wJ11_indexOfChar (fun r_33 => (Q r_33)) nn sf x1 x2_14 x3_21)) ∧ (¬ x2_14 < x3_21 → (Q (-1))))))))) x1)
end
set_option maxHeartbeats 4000000 in
set_option maxRecDepth 100000 in
theorem metJ11_indexOf (l : Launch) {Q : Int32 → Prop}  {x1 : Int32} {x2 : Int32} {x3 : Int32} {eA mi : Nat} {sa va nn : Nat} {sf : Nat → Int32} (hf : wJ11_indexOf Q nn sf x1 x2 x3) : Met l yJ11_indexOf (ws_ yJ11_indexOf cJ11_indexOf 4 (some .int)) rmJ11_indexOf (sPc eA mi [.ref va, .int x1, .int x2, .int x3] sa va nn sf) (vp_Si Q) 0 0 (fun _ => False) := by
  refine Met.ofW (cc := cJ11_indexOf) (maxL := 4) (ret := (some .int)) (by decide) rfl ?_
  intro p e s m args below meth c s₁ B hml hv
  obtain ⟨rfl, hE, hT⟩ := hv
  have hx := B.exec
  have hb := B.bytes
  have hr := B.returns
  have hts := atoms_spec (ws := (ws_ yJ11_indexOf cJ11_indexOf 4 (some .int))) B.pre
  have hts : ∀ w ∈ lw_all, w.before _ s = true := fun w h => hts w (List.mem_cons_of_mem _ h)
  have hown : s.vm.findClass RJ11 = some m.cls := findClass_of_methodNamed B.named
  have hlocks := B.notSynchronized
  have S : CallFix p m c cJ11_indexOf 4 s _ lw_all RJ11 := ⟨hx, hb, hml, hown, hts⟩
  have hl := lv_entry ([.ref va, .int x1, .int x2, .int x3]) (n := 4) (Nat.le_of_ble_eq_true rfl)
  rw [lg_entry_eq]
  generalize (lg_sl ([.ref va, .int x1, .int x2, .int x3]) ++ List.replicate (4 - (lg_sl ([.ref va, .int x1, .int x2, .int x3])).length) Slot.unset).toArray = ls at hl ⊢
  replace hl : lv_has ls 4 [(0, .ref va), (1, .int x1), (2, .int x2), (3, .int x3)] := hl
  have hret : hrJ11_indexOf p l e s m ([.ref va, .int x1, .int x2, .int x3] : List Value).toArray below meth c (MQ below (vp_Si Q) ([.ref va, .int x1, .int x2, .int x3] : List Value).toArray s 0 0 (fun _ => False)) Q := fun r pc ls hq hd => W.iret hx hb hr (fun t ht hW => ⟨r, rfl, hq, ht⟩) t_nil hd
  unfold wJ11_indexOf at hf
  refine lv_iload_n hx hb dJ11_indexOf_0 rfl (lv_at hl 1 rfl) ?_
  refine cs_i (As := [.int x1]) (rest := []) S (metJ11_canEncode l hf) (lw_S q815 q816 q77 q817) pdJ11_canEncode ⟨rfl, rfl⟩ ⟨Nat.le_of_ble_eq_true rfl, Nat.le_of_ble_eq_true rfl⟩ rfl hl.1 rfl (Nat.le_of_ble_eq_true rfl) dJ11_indexOf_1 ⟨Nat.zero_le _, Nat.zero_le _⟩ (fun r_1 hf => ?_)
  refine lv_if_ne (tgt := 9) hx hb dJ11_indexOf_4 (by decide) (fun c_4 => ?_) (fun c_4 => ?_)
  · replace hf := hf.2 c_4
    refine lv_iload_n hx hb dJ11_indexOf_9 rfl (lv_at hl 2 rfl) ?_
    refine lv_iconst (v := 0) hx hb dJ11_indexOf_10 (by decide) ?_
    refine va_mmax hx hb (hml.trans hl.1.symm) hown (hts _ q818) (hts _ q171) (hts _ q66) (hts _ q172) (Nat.le_of_ble_eq_true rfl) (Nat.le_of_ble_eq_true rfl) (Nat.zero_le _) (Nat.zero_le _) dJ11_indexOf_11 ?_
    refine lv_topi (fun x2_14 ex2_14 => ?_)
    replace hf := hf x2_14 ex2_14
    refine lv_istore_n (lv' := [(2, .int x2_14), (0, .ref va), (1, .int x1), (3, .int x3)]) hx hb dJ11_indexOf_14 rfl hl (by decide) rfl (fun ls hl => ?_)
    refine lv_iload_n hx hb dJ11_indexOf_15 rfl (lv_at hl 3 rfl) ?_
    refine lv_aload_n hx hb dJ11_indexOf_16 rfl (lv_at hl 1 rfl) ?_
    refine va_tlen (v := Int32.ofNat nn) hx hb hT.2.2.2 va_S.rf rfl dJ11_indexOf_17 ?_
    refine va_mmin hx hb (hml.trans hl.1.symm) hown (hts _ q819) (hts _ q209) (hts _ q66) (hts _ q210) (Nat.le_of_ble_eq_true rfl) (Nat.le_of_ble_eq_true rfl) (Nat.zero_le _) (Nat.zero_le _) dJ11_indexOf_18 ?_
    refine lv_topi (fun x3_21 ex3_21 => ?_)
    replace hf := hf x3_21 ex3_21
    refine lv_istore_n (lv' := [(3, .int x3_21), (2, .int x2_14), (0, .ref va), (1, .int x1)]) hx hb dJ11_indexOf_21 rfl hl (by decide) rfl (fun ls hl => ?_)
    refine lv_iload_n hx hb dJ11_indexOf_22 rfl (lv_at hl 1 rfl) ?_
    refine lv_iload_n hx hb dJ11_indexOf_23 rfl (lv_at hl 0 rfl) ?_
    refine lv_icmp_lt (tgt := 29) hx hb dJ11_indexOf_24 (by decide) (fun c_24 => ?_) (fun c_24 => ?_)
    · replace hf := hf.1 c_24
      refine lv_aload_n hx hb dJ11_indexOf_29 rfl (lv_at hl 2 rfl) ?_
      refine lv_iload_n hx hb dJ11_indexOf_30 rfl (lv_at hl 3 rfl) ?_
      refine lv_iload_n hx hb dJ11_indexOf_31 rfl (lv_at hl 1 rfl) ?_
      refine lv_iload_n hx hb dJ11_indexOf_32 rfl (lv_at hl 0 rfl) ?_
      refine csS_i (As := [.ref va, .int x1, .int x2_14, .int x3_21]) (rest := []) S hE hT (metJ11_indexOfChar l hf) (lw_S q820 q821 q77 q822) pdJ11_indexOfChar ⟨rfl, rfl⟩ ⟨Nat.le_of_ble_eq_true rfl, Nat.le_of_ble_eq_true rfl⟩ rfl hl.1 rfl (Nat.le_of_ble_eq_true rfl) dJ11_indexOf_33 ⟨Nat.zero_le _, Nat.zero_le _⟩ (fun r_33 hf => ?_)
      exact hret _ _ _ hf dJ11_indexOf_36
    · replace hf := hf.2 c_24
      refine lv_iconst (v := (-1)) hx hb dJ11_indexOf_27 (by decide) ?_
      exact hret _ _ _ hf dJ11_indexOf_28
  · replace hf := hf.1 c_4
    refine lv_iconst (v := (-1)) hx hb dJ11_indexOf_7 (by decide) ?_
    exact hret _ _ _ hf dJ11_indexOf_8
/-! java/lang/String.isLatin1()Z -/
theorem pdJ10_isLatin1 : DscOk yJ10_isLatin1 0 := by decide +kernel
abbrev rmJ10_isLatin1 : Room := { frames := 0, cells := 0, slots := 0, locals := 0 }
abbrev RJ10_isLatin1_ : Room := (headSpec (ws_ yJ10_isLatin1 cJ10_isLatin1 1 (some .boolean)) rmJ10_isLatin1).room
section
variable {p : Program} {l : Launch} {e : Env} {s : State} {m : MethodId} {args : Array Value} {below : List Frame} {meth : Method} {c : Code} {Qw : State → Prop} {eA mi : Nat} {sa va nn : Nat} {sf : Nat → Int32}
abbrev hrJ10_isLatin1 (p : Program) (l : Launch) (e : Env) (s : State) (m : MethodId) (args : Array Value) (below : List Frame) (meth : Method) (c : Code) (Qw : State → Prop) (Q : Int32 → Prop) : Prop := ∀ (r : Int32) (pc : Nat) (ls : Array Slot), bz r → Q r → decode cJ10_isLatin1 pc = .ok (.ireturn, 1) → W p l e RJ10_isLatin1_ s m args below meth c s.heap [] 0 0 Qw (F0 m pc ls [.int r])
def wJ10_isLatin1 (Q : Int32 → Prop) : Prop := (((1 : Int32) = 0 → (Q 0)) ∧ (¬ (1 : Int32) = 0 → (((0 : Int32) = 0 → (Q 1)) ∧ (¬ (0 : Int32) = 0 → (Q 0)))))
end
set_option maxHeartbeats 4000000 in
set_option maxRecDepth 100000 in
theorem metJ10_isLatin1 (l : Launch) {Q : Int32 → Prop}  {eA mi : Nat} {sa va nn : Nat} {sf : Nat → Int32} (hf : wJ10_isLatin1 Q) : Met l yJ10_isLatin1 (ws_ yJ10_isLatin1 cJ10_isLatin1 1 (some .boolean)) rmJ10_isLatin1 (sPc eA mi [.ref sa] sa va nn sf) (vp_Si Q) 0 0 (fun _ => False) := by
  refine Met.ofW (cc := cJ10_isLatin1) (maxL := 1) (ret := (some .boolean)) (by decide) rfl ?_
  intro p e s m args below meth c s₁ B hml hv
  obtain ⟨rfl, hE, hT⟩ := hv
  have hx := B.exec
  have hb := B.bytes
  have hr := B.returns
  have hts := atoms_spec (ws := (ws_ yJ10_isLatin1 cJ10_isLatin1 1 (some .boolean))) B.pre
  have hts : ∀ w ∈ lw_all, w.before _ s = true := fun w h => hts w (List.mem_cons_of_mem _ h)
  have hown : s.vm.findClass RJ10 = some m.cls := findClass_of_methodNamed B.named
  have hlocks := B.notSynchronized
  have S : CallFix p m c cJ10_isLatin1 1 s _ lw_all RJ10 := ⟨hx, hb, hml, hown, hts⟩
  have hl := lv_entry ([.ref sa]) (n := 1) (Nat.le_of_ble_eq_true rfl)
  rw [lg_entry_eq]
  generalize (lg_sl ([.ref sa]) ++ List.replicate (1 - (lg_sl ([.ref sa])).length) Slot.unset).toArray = ls at hl ⊢
  replace hl : lv_has ls 1 [(0, .ref sa)] := hl
  have hret : hrJ10_isLatin1 p l e s m ([.ref sa] : List Value).toArray below meth c (MQ below (vp_Si Q) ([.ref sa] : List Value).toArray s 0 0 (fun _ => False)) Q := fun r pc ls hz hq hd => W.zret hx hb hr hz.1 (fun t ht hW => ⟨r, rfl, hq, ht⟩) t_nil hd
  unfold wJ10_isLatin1 at hf
  refine va_gets (v := .int 1) hx hb hE.2.2.2.2.2.2.2.2.2.2.2.1 va_S.rf hown (hts _ q802) (fun _ h9 => h9) dJ10_isLatin1_0 ?_
  refine lv_if_eq (tgt := 17) hx hb dJ10_isLatin1_3 (by decide) (fun c_3 => ?_) (fun c_3 => ?_)
  · replace hf := hf.1 c_3
    refine lv_iconst (v := 0) hx hb dJ10_isLatin1_17 (by decide) ?_
    exact hret _ _ _ bz0 hf dJ10_isLatin1_18
  · replace hf := hf.2 c_3
    refine lv_aload_n hx hb dJ10_isLatin1_6 rfl (lv_at hl 0 rfl) ?_
    refine vk_getf hx hb hT.2.1 va_S.rf hown (hts _ q1648) (fun _ h9 => h9) dJ10_isLatin1_7 ?_
    refine lv_if_ne (tgt := 17) hx hb dJ10_isLatin1_10 (by decide) (fun c_10 => ?_) (fun c_10 => ?_)
    · replace hf := hf.2 c_10
      refine lv_iconst (v := 0) hx hb dJ10_isLatin1_17 (by decide) ?_
      exact hret _ _ _ bz0 hf dJ10_isLatin1_18
    · replace hf := hf.1 c_10
      refine lv_iconst (v := 1) hx hb dJ10_isLatin1_13 (by decide) ?_
      refine lv_goto (tgt := 18) hx hb dJ10_isLatin1_14 (by decide) ?_
      exact hret _ _ _ bz1 hf dJ10_isLatin1_18
/-! java/lang/String.coder()B -/
theorem pdJ10_coder : DscOk yJ10_coder 0 := by decide +kernel
abbrev rmJ10_coder : Room := { frames := 0, cells := 0, slots := 0, locals := 0 }
abbrev RJ10_coder_ : Room := (headSpec (ws_ yJ10_coder cJ10_coder 1 (some .byte)) rmJ10_coder).room
section
variable {p : Program} {l : Launch} {e : Env} {s : State} {m : MethodId} {args : Array Value} {below : List Frame} {meth : Method} {c : Code} {Qw : State → Prop} {eA mi : Nat} {sa va nn : Nat} {sf : Nat → Int32}
abbrev hrJ10_coder (p : Program) (l : Launch) (e : Env) (s : State) (m : MethodId) (args : Array Value) (below : List Frame) (meth : Method) (c : Code) (Qw : State → Prop) (Q : Int32 → Prop) : Prop := ∀ (r : Int32) (pc : Nat) (ls : Array Slot), narrow .byte (.int r) = .int r → Q r → decode cJ10_coder pc = .ok (.ireturn, 1) → W p l e RJ10_coder_ s m args below meth c s.heap [] 0 0 Qw (F0 m pc ls [.int r])
def wJ10_coder (Q : Int32 → Prop) : Prop := (((1 : Int32) = 0 → (Q 1)) ∧ (¬ (1 : Int32) = 0 → (Q 0)))
end
set_option maxHeartbeats 4000000 in
set_option maxRecDepth 100000 in
theorem metJ10_coder (l : Launch) {Q : Int32 → Prop}  {eA mi : Nat} {sa va nn : Nat} {sf : Nat → Int32} (hf : wJ10_coder Q) : Met l yJ10_coder (ws_ yJ10_coder cJ10_coder 1 (some .byte)) rmJ10_coder (sPc eA mi [.ref sa] sa va nn sf) (vp_Si Q) 0 0 (fun _ => False) := by
  refine Met.ofW (cc := cJ10_coder) (maxL := 1) (ret := (some .byte)) (by decide) rfl ?_
  intro p e s m args below meth c s₁ B hml hv
  obtain ⟨rfl, hE, hT⟩ := hv
  have hx := B.exec
  have hb := B.bytes
  have hr := B.returns
  have hts := atoms_spec (ws := (ws_ yJ10_coder cJ10_coder 1 (some .byte))) B.pre
  have hts : ∀ w ∈ lw_all, w.before _ s = true := fun w h => hts w (List.mem_cons_of_mem _ h)
  have hown : s.vm.findClass RJ10 = some m.cls := findClass_of_methodNamed B.named
  have hlocks := B.notSynchronized
  have S : CallFix p m c cJ10_coder 1 s _ lw_all RJ10 := ⟨hx, hb, hml, hown, hts⟩
  have hl := lv_entry ([.ref sa]) (n := 1) (Nat.le_of_ble_eq_true rfl)
  rw [lg_entry_eq]
  generalize (lg_sl ([.ref sa]) ++ List.replicate (1 - (lg_sl ([.ref sa])).length) Slot.unset).toArray = ls at hl ⊢
  replace hl : lv_has ls 1 [(0, .ref sa)] := hl
  have hret : hrJ10_coder p l e s m ([.ref sa] : List Value).toArray below meth c (MQ below (vp_Si Q) ([.ref sa] : List Value).toArray s 0 0 (fun _ => False)) Q := fun r pc ls hz hq hd => W.zret hx hb hr hz (fun t ht hW => ⟨r, rfl, hq, ht⟩) t_nil hd
  unfold wJ10_coder at hf
  refine va_gets (v := .int 1) hx hb hE.2.2.2.2.2.2.2.2.2.2.2.1 va_S.rf hown (hts _ q802) (fun _ h9 => h9) dJ10_coder_0 ?_
  refine lv_if_eq (tgt := 13) hx hb dJ10_coder_3 (by decide) (fun c_3 => ?_) (fun c_3 => ?_)
  · replace hf := hf.1 c_3
    refine lv_iconst (v := 1) hx hb dJ10_coder_13 (by decide) ?_
    exact hret _ _ _ rfl hf dJ10_coder_14
  · replace hf := hf.2 c_3
    refine lv_aload_n hx hb dJ10_coder_6 rfl (lv_at hl 0 rfl) ?_
    refine vk_getf hx hb hT.2.1 va_S.rf hown (hts _ q1648) (fun _ h9 => h9) dJ10_coder_7 ?_
    refine lv_goto (tgt := 14) hx hb dJ10_coder_10 (by decide) ?_
    exact hret _ _ _ rfl hf dJ10_coder_14
/-! java/lang/String.length()I -/
theorem pdJ10_length : DscOk yJ10_length 0 := by decide +kernel
abbrev rmJ10_length : Room := { frames := 1, cells := 0, slots := 0, locals := 20 }
abbrev RJ10_length_ : Room := (headSpec (ws_ yJ10_length cJ10_length 1 (some .int)) rmJ10_length).room
section
variable {p : Program} {l : Launch} {e : Env} {s : State} {m : MethodId} {args : Array Value} {below : List Frame} {meth : Method} {c : Code} {Qw : State → Prop} {eA mi : Nat} {sa va nn : Nat} {sf : Nat → Int32}
abbrev hrJ10_length (p : Program) (l : Launch) (e : Env) (s : State) (m : MethodId) (args : Array Value) (below : List Frame) (meth : Method) (c : Code) (Qw : State → Prop) (Q : Int32 → Prop) : Prop := ∀ (r : Int32) (pc : Nat) (ls : Array Slot), Q r → decode cJ10_length pc = .ok (.ireturn, 1) → W p l e RJ10_length_ s m args below meth c s.heap [] 0 0 Qw (F0 m pc ls [.int r])
def wJ10_length (Q : Int32 → Prop) (nn : Nat) : Prop := (wJ10_coder (fun r_6 => (Q ((Int32.ofNat nn) >>> (r_6 &&& 31)))))
end
set_option maxHeartbeats 4000000 in
set_option maxRecDepth 100000 in
theorem metJ10_length (l : Launch) {Q : Int32 → Prop}  {eA mi : Nat} {sa va nn : Nat} {sf : Nat → Int32} (hf : wJ10_length Q nn) : Met l yJ10_length (ws_ yJ10_length cJ10_length 1 (some .int)) rmJ10_length (sPc eA mi [.ref sa] sa va nn sf) (vp_Si Q) 0 0 (fun _ => False) := by
  refine Met.ofW (cc := cJ10_length) (maxL := 1) (ret := (some .int)) (by decide) rfl ?_
  intro p e s m args below meth c s₁ B hml hv
  obtain ⟨rfl, hE, hT⟩ := hv
  have hx := B.exec
  have hb := B.bytes
  have hr := B.returns
  have hts := atoms_spec (ws := (ws_ yJ10_length cJ10_length 1 (some .int))) B.pre
  have hts : ∀ w ∈ lw_all, w.before _ s = true := fun w h => hts w (List.mem_cons_of_mem _ h)
  have hown : s.vm.findClass RJ10 = some m.cls := findClass_of_methodNamed B.named
  have hlocks := B.notSynchronized
  have S : CallFix p m c cJ10_length 1 s _ lw_all RJ10 := ⟨hx, hb, hml, hown, hts⟩
  have hl := lv_entry ([.ref sa]) (n := 1) (Nat.le_of_ble_eq_true rfl)
  rw [lg_entry_eq]
  generalize (lg_sl ([.ref sa]) ++ List.replicate (1 - (lg_sl ([.ref sa])).length) Slot.unset).toArray = ls at hl ⊢
  replace hl : lv_has ls 1 [(0, .ref sa)] := hl
  have hret : hrJ10_length p l e s m ([.ref sa] : List Value).toArray below meth c (MQ below (vp_Si Q) ([.ref sa] : List Value).toArray s 0 0 (fun _ => False)) Q := fun r pc ls hq hd => W.iret hx hb hr (fun t ht hW => ⟨r, rfl, hq, ht⟩) t_nil hd
  unfold wJ10_length at hf
  refine lv_aload_n hx hb dJ10_length_0 rfl (lv_at hl 0 rfl) ?_
  refine vk_getf hx hb hT.2.2.1 va_S.rf hown (hts _ q1649) (fun _ h9 => h9) dJ10_length_1 ?_
  refine va_tlen (v := Int32.ofNat nn) hx hb hT.2.2.2 va_S.rf rfl dJ10_length_4 ?_
  refine lv_aload_n hx hb dJ10_length_5 rfl (lv_at hl 0 rfl) ?_
  refine csV_i (As := []) (rest := [.int (Int32.ofNat nn)]) S hE hT (metJ10_coder l hf) (lw_V q808 q809 q810 q76 q811) rfl pdJ10_coder ⟨rfl, rfl⟩ ⟨Nat.le_of_ble_eq_true rfl, Nat.le_of_ble_eq_true rfl⟩ rfl hl.1 rfl (Nat.le_of_ble_eq_true rfl) dJ10_length_6 ⟨Nat.zero_le _, Nat.zero_le _⟩ (fun r_6 hf => ?_)
  refine lv_ishr hx hb dJ10_length_9 ?_
  exact hret _ _ _ hf dJ10_length_10
/-! java/lang/String.indexOf(II)I -/
theorem pdJ10_indexOf_2 : DscOk yJ10_indexOf_2 2 := by decide +kernel
abbrev rmJ10_indexOf_2 : Room := { frames := 2, cells := 0, slots := 0, locals := 48 }
abbrev RJ10_indexOf_2_ : Room := (headSpec (ws_ yJ10_indexOf_2 cJ10_indexOf_2 3 (some .int)) rmJ10_indexOf_2).room
section
variable {p : Program} {l : Launch} {e : Env} {s : State} {m : MethodId} {args : Array Value} {below : List Frame} {meth : Method} {c : Code} {Qw : State → Prop} {eA mi : Nat} {sa va nn : Nat} {sf : Nat → Int32}
abbrev hrJ10_indexOf_2 (p : Program) (l : Launch) (e : Env) (s : State) (m : MethodId) (args : Array Value) (below : List Frame) (meth : Method) (c : Code) (Qw : State → Prop) (Q : Int32 → Prop) : Prop := ∀ (r : Int32) (pc : Nat) (ls : Array Slot), Q r → decode cJ10_indexOf_2 pc = .ok (.ireturn, 1) → W p l e RJ10_indexOf_2_ s m args below meth c s.heap [] 0 0 Qw (F0 m pc ls [.int r])
def wJ10_indexOf_2 (Q : Int32 → Prop) (nn : Nat) (sf : (Nat → Int32)) (x1 : Int32) (x2 : Int32) : Prop := (wJ10_isLatin1 (fun r_1 => ((r_1 = 0 → False) ∧ (¬ r_1 = 0 → (wJ10_length (fun r_14 => (wJ11_indexOf (fun r_17 => (Q r_17)) nn sf x1 x2 r_14)) nn)))))
end
set_option maxHeartbeats 4000000 in
set_option maxRecDepth 100000 in
theorem metJ10_indexOf_2 (l : Launch) {Q : Int32 → Prop}  {x1 : Int32} {x2 : Int32} {eA mi : Nat} {sa va nn : Nat} {sf : Nat → Int32} (hf : wJ10_indexOf_2 Q nn sf x1 x2) : Met l yJ10_indexOf_2 (ws_ yJ10_indexOf_2 cJ10_indexOf_2 3 (some .int)) rmJ10_indexOf_2 (sPc eA mi [.ref sa, .int x1, .int x2] sa va nn sf) (vp_Si Q) 0 0 (fun _ => False) := by
  refine Met.ofW (cc := cJ10_indexOf_2) (maxL := 3) (ret := (some .int)) (by decide) rfl ?_
  intro p e s m args below meth c s₁ B hml hv
  obtain ⟨rfl, hE, hT⟩ := hv
  have hx := B.exec
  have hb := B.bytes
  have hr := B.returns
  have hts := atoms_spec (ws := (ws_ yJ10_indexOf_2 cJ10_indexOf_2 3 (some .int))) B.pre
  have hts : ∀ w ∈ lw_all, w.before _ s = true := fun w h => hts w (List.mem_cons_of_mem _ h)
  have hown : s.vm.findClass RJ10 = some m.cls := findClass_of_methodNamed B.named
  have hlocks := B.notSynchronized
  have S : CallFix p m c cJ10_indexOf_2 3 s _ lw_all RJ10 := ⟨hx, hb, hml, hown, hts⟩
  have hl := lv_entry ([.ref sa, .int x1, .int x2]) (n := 3) (Nat.le_of_ble_eq_true rfl)
  rw [lg_entry_eq]
  generalize (lg_sl ([.ref sa, .int x1, .int x2]) ++ List.replicate (3 - (lg_sl ([.ref sa, .int x1, .int x2])).length) Slot.unset).toArray = ls at hl ⊢
  replace hl : lv_has ls 3 [(0, .ref sa), (1, .int x1), (2, .int x2)] := hl
  have hret : hrJ10_indexOf_2 p l e s m ([.ref sa, .int x1, .int x2] : List Value).toArray below meth c (MQ below (vp_Si Q) ([.ref sa, .int x1, .int x2] : List Value).toArray s 0 0 (fun _ => False)) Q := fun r pc ls hq hd => W.iret hx hb hr (fun t ht hW => ⟨r, rfl, hq, ht⟩) t_nil hd
  unfold wJ10_indexOf_2 at hf
  refine lv_aload_n hx hb dJ10_indexOf_2_0 rfl (lv_at hl 0 rfl) ?_
  refine csV_i (As := []) (rest := []) S hE hT (metJ10_isLatin1 l hf) (lw_V q798 q799 q800 q76 q801) rfl pdJ10_isLatin1 ⟨rfl, rfl⟩ ⟨Nat.le_of_ble_eq_true rfl, Nat.le_of_ble_eq_true rfl⟩ rfl hl.1 rfl (Nat.le_of_ble_eq_true rfl) dJ10_indexOf_2_1 ⟨Nat.zero_le _, Nat.zero_le _⟩ (fun r_1 hf => ?_)
  refine lv_if_eq (tgt := 23) hx hb dJ10_indexOf_2_4 (by decide) (fun c_4 => ?_) (fun c_4 => ?_)
  · replace hf := hf.1 c_4
    exact hf.elim
  · replace hf := hf.2 c_4
    refine lv_aload_n hx hb dJ10_indexOf_2_7 rfl (lv_at hl 0 rfl) ?_
    refine vk_getf hx hb hT.2.2.1 va_S.rf hown (hts _ q1649) (fun _ h9 => h9) dJ10_indexOf_2_8 ?_
    refine lv_iload_n hx hb dJ10_indexOf_2_11 rfl (lv_at hl 1 rfl) ?_
    refine lv_iload_n hx hb dJ10_indexOf_2_12 rfl (lv_at hl 2 rfl) ?_
    refine lv_aload_n hx hb dJ10_indexOf_2_13 rfl (lv_at hl 0 rfl) ?_
    refine csV_i (As := []) (rest := [.int x2, .int x1, .ref va]) S hE hT (metJ10_length l hf) (lw_V q804 q805 q806 q76 q807) rfl pdJ10_length ⟨rfl, rfl⟩ ⟨Nat.le_of_ble_eq_true rfl, Nat.le_of_ble_eq_true rfl⟩ rfl hl.1 rfl (Nat.le_of_ble_eq_true rfl) dJ10_indexOf_2_14 ⟨Nat.zero_le _, Nat.zero_le _⟩ (fun r_14 hf => ?_)
    refine csS_i (As := [.ref va, .int x1, .int x2, .int r_14]) (rest := []) S hE hT (metJ11_indexOf l hf) (lw_S q812 q813 q77 q814) pdJ11_indexOf ⟨rfl, rfl⟩ ⟨Nat.le_of_ble_eq_true rfl, Nat.le_of_ble_eq_true rfl⟩ rfl hl.1 rfl (Nat.le_of_ble_eq_true rfl) dJ10_indexOf_2_17 ⟨Nat.zero_le _, Nat.zero_le _⟩ (fun r_17 hf => ?_)
    refine lv_goto (tgt := 36) hx hb dJ10_indexOf_2_20 (by decide) ?_
    exact hret _ _ _ hf dJ10_indexOf_2_36
/-! java/lang/String.indexOf(I)I -/
theorem pdJ10_indexOf : DscOk yJ10_indexOf 1 := by decide +kernel
abbrev rmJ10_indexOf : Room := { frames := 3, cells := 0, slots := 0, locals := 70 }
abbrev RJ10_indexOf_ : Room := (headSpec (ws_ yJ10_indexOf cJ10_indexOf 2 (some .int)) rmJ10_indexOf).room
section
variable {p : Program} {l : Launch} {e : Env} {s : State} {m : MethodId} {args : Array Value} {below : List Frame} {meth : Method} {c : Code} {Qw : State → Prop} {eA mi : Nat} {sa va nn : Nat} {sf : Nat → Int32}
abbrev hrJ10_indexOf (p : Program) (l : Launch) (e : Env) (s : State) (m : MethodId) (args : Array Value) (below : List Frame) (meth : Method) (c : Code) (Qw : State → Prop) (Q : Int32 → Prop) : Prop := ∀ (r : Int32) (pc : Nat) (ls : Array Slot), Q r → decode cJ10_indexOf pc = .ok (.ireturn, 1) → W p l e RJ10_indexOf_ s m args below meth c s.heap [] 0 0 Qw (F0 m pc ls [.int r])
def wJ10_indexOf (Q : Int32 → Prop) (nn : Nat) (sf : (Nat → Int32)) (x1 : Int32) : Prop := (wJ10_indexOf_2 (fun r_3 => (Q r_3)) nn sf x1 0)
end
set_option maxHeartbeats 4000000 in
set_option maxRecDepth 100000 in
theorem metJ10_indexOf (l : Launch) {Q : Int32 → Prop}  {x1 : Int32} {eA mi : Nat} {sa va nn : Nat} {sf : Nat → Int32} (hf : wJ10_indexOf Q nn sf x1) : Met l yJ10_indexOf (ws_ yJ10_indexOf cJ10_indexOf 2 (some .int)) rmJ10_indexOf (sPc eA mi [.ref sa, .int x1] sa va nn sf) (vp_Si Q) 0 0 (fun _ => False) := by
  refine Met.ofW (cc := cJ10_indexOf) (maxL := 2) (ret := (some .int)) (by decide) rfl ?_
  intro p e s m args below meth c s₁ B hml hv
  obtain ⟨rfl, hE, hT⟩ := hv
  have hx := B.exec
  have hb := B.bytes
  have hr := B.returns
  have hts := atoms_spec (ws := (ws_ yJ10_indexOf cJ10_indexOf 2 (some .int))) B.pre
  have hts : ∀ w ∈ lw_all, w.before _ s = true := fun w h => hts w (List.mem_cons_of_mem _ h)
  have hown : s.vm.findClass RJ10 = some m.cls := findClass_of_methodNamed B.named
  have hlocks := B.notSynchronized
  have S : CallFix p m c cJ10_indexOf 2 s _ lw_all RJ10 := ⟨hx, hb, hml, hown, hts⟩
  have hl := lv_entry ([.ref sa, .int x1]) (n := 2) (Nat.le_of_ble_eq_true rfl)
  rw [lg_entry_eq]
  generalize (lg_sl ([.ref sa, .int x1]) ++ List.replicate (2 - (lg_sl ([.ref sa, .int x1])).length) Slot.unset).toArray = ls at hl ⊢
  replace hl : lv_has ls 2 [(0, .ref sa), (1, .int x1)] := hl
  have hret : hrJ10_indexOf p l e s m ([.ref sa, .int x1] : List Value).toArray below meth c (MQ below (vp_Si Q) ([.ref sa, .int x1] : List Value).toArray s 0 0 (fun _ => False)) Q := fun r pc ls hq hd => W.iret hx hb hr (fun t ht hW => ⟨r, rfl, hq, ht⟩) t_nil hd
  unfold wJ10_indexOf at hf
  refine lv_aload_n hx hb dJ10_indexOf_0 rfl (lv_at hl 0 rfl) ?_
  refine lv_iload_n hx hb dJ10_indexOf_1 rfl (lv_at hl 1 rfl) ?_
  refine lv_iconst (v := 0) hx hb dJ10_indexOf_2 (by decide) ?_
  refine csV_i (As := [.int x1, .int 0]) (rest := []) S hE hT (metJ10_indexOf_2 l hf) (lw_V q794 q795 q796 q76 q797) rfl pdJ10_indexOf_2 ⟨rfl, rfl⟩ ⟨Nat.le_of_ble_eq_true rfl, Nat.le_of_ble_eq_true rfl⟩ rfl hl.1 rfl (Nat.le_of_ble_eq_true rfl) dJ10_indexOf_3 ⟨Nat.zero_le _, Nat.zero_le _⟩ (fun r_3 hf => ?_)
  exact hret _ _ _ hf dJ10_indexOf_6
