/-! FROM A FAULTING INSTRUCTION TO WHAT THE MACHINE THROWS -/
section FA
variable {p : Program} {l : Launch} {e : Env} {R : Room} {s : State} {m : MethodId} {args : Array Value} {below : List Frame} {meth : Method} {c : Code} {H : Heap} {locs : List Loc} {kc ks : Nat} {Q : State → Prop}
variable {cc : ByteArray} {pc : Nat} {ls : Array Slot} {rest : List Value}
/-- where a fault leads: the note that such an exception is to be made -/
abbrev Fl (p : Program) (l : Launch) (e : Env) (R : Room) (s : State) (m : MethodId) (args : Array Value) (below : List Frame) (meth : Method) (c : Code) (H : Heap) (locs : List Loc) (kc ks : Nat) (Q : State → Prop) (g : JFrame) (cls : String) (msg : Option String) : Prop :=
  ∀ T : State, T.heap = H → Stand p l e R s m args below meth c T locs kc ks → ∃ t, Steps p.tables e below ((T.setTop g).pushFrame (.throwNew cls msg none)) t ∧ Q t
/-- what is said of a place that isn't there -/
def ixText (i : Int32) (n : Nat) : String := "Index " ++ toString i ++ " out of bounds for length " ++ toString n
theorem ixText_eq (i : Int32) (n : Nat) : outOfBounds i n = .throwNew "java/lang/ArrayIndexOutOfBoundsException" (some (ixText i n)) := by
  simp [outOfBounds, ixText, toString]
theorem f_idiv0 (hexec : p.tables.exec = Jvm.exec) (hb : c.code = cc) {x : Int32} (hdg : decode cc pc = .ok (.idiv, 1)) (k : Fl p l e R s m args below meth c H locs kc ks Q (F0 m pc ls rest) "java/lang/ArithmeticException" (some "/ by zero")) : W p l e R s m args below meth c H locs kc ks Q (F0 m pc ls (.int 0 :: .int x :: rest)) := by
  intro T hT X
  obtain ⟨t, a1, b1⟩ := k T hT X
  refine ⟨t, ?_, b1⟩
  have hdg' : decode c.code pc = .ok (.idiv, 1) := by rw [hb]; exact hdg
  jvm_step X.here [X.here.top, hexec, hdg', idiv.wp_sem]
  exact a1
theorem f_len0 (hexec : p.tables.exec = Jvm.exec) (hb : c.code = cc) (hdg : decode cc pc = .ok (.arraylength, 1)) (k : Fl p l e R s m args below meth c H locs kc ks Q (F0 m pc ls rest) "java/lang/NullPointerException" none) : W p l e R s m args below meth c H locs kc ks Q (F0 m pc ls (.null :: rest)) := by
  intro T hT X
  obtain ⟨t, a1, b1⟩ := k T hT X
  refine ⟨t, ?_, b1⟩
  have hdg' : decode c.code pc = .ok (.arraylength, 1) := by rw [hb]; exact hdg
  jvm_step X.here [X.here.top, hexec, hdg', arraylength.wp_sem, nullPointer]
  exact a1
theorem f_bastN (hexec : p.tables.exec = Jvm.exec) (hb : c.code = cc) {v : Int32} {i : Int32} (hdg : decode cc pc = .ok (.bastore, 1)) (k : Fl p l e R s m args below meth c H locs kc ks Q (F0 m pc ls rest) "java/lang/NullPointerException" none) : W p l e R s m args below meth c H locs kc ks Q (F0 m pc ls (.int v :: .int i :: .null :: rest)) := by
  intro T hT X
  obtain ⟨t, a1, b1⟩ := k T hT X
  refine ⟨t, ?_, b1⟩
  have hdg' : decode c.code pc = .ok (.bastore, 1) := by rw [hb]; exact hdg
  jvm_step X.here [X.here.top, hexec, hdg', bastore.wp_sem, nullPointer]
  exact ⟨v, i, .null, rest, ⟨rfl, rfl, rfl, rfl⟩, a1⟩
theorem f_bastO (hexec : p.tables.exec = Jvm.exec) (hb : c.code = cc) {v : Int32} {i : Int32} {a : Nat} {cell : Cell} {ty : FieldType} (hcell : H[a]? = some cell) (harr : s.isArrayOf cell ty) (ho : i < 0 ∨ cell.slots.size ≤ i.toNatClampNeg) (hdg : decode cc pc = .ok (.bastore, 1)) (k : Fl p l e R s m args below meth c H locs kc ks Q (F0 m pc ls rest) "java/lang/ArrayIndexOutOfBoundsException" (some (ixText i cell.slots.size))) : W p l e R s m args below meth c H locs kc ks Q (F0 m pc ls (.int v :: .int i :: .ref a :: rest)) := by
  intro T hT X
  obtain ⟨t, a1, b1⟩ := k T hT X
  refine ⟨t, ?_, b1⟩
  have hdg' : decode c.code pc = .ok (.bastore, 1) := by rw [hb]; exact hdg
  have hc' : T.heap[a]? = some cell := by rw [hT]; exact hcell
  have harr' : T.isArray cell := by
    obtain ⟨g1, k1, g2, comp, g3⟩ := harr
    obtain ⟨k2, g4, g5⟩ := X.warmed.alike.2.2 _ _ g2
    exact ⟨g1, k2, g4, comp, ty, by rw [g5]; exact g3⟩
  jvm_step X.here [X.here.top, hexec, hdg', bastore.wp_sem, ixText_eq]
  exact ⟨v, i, .ref a, rest, ⟨rfl, rfl, rfl, rfl⟩, cell, hc', harr', by rw [if_pos ho]; exact a1⟩
theorem f_sastN (hexec : p.tables.exec = Jvm.exec) (hb : c.code = cc) {v : Int32} {i : Int32} (hdg : decode cc pc = .ok (.sastore, 1)) (k : Fl p l e R s m args below meth c H locs kc ks Q (F0 m pc ls rest) "java/lang/NullPointerException" none) : W p l e R s m args below meth c H locs kc ks Q (F0 m pc ls (.int v :: .int i :: .null :: rest)) := by
  intro T hT X
  obtain ⟨t, a1, b1⟩ := k T hT X
  refine ⟨t, ?_, b1⟩
  have hdg' : decode c.code pc = .ok (.sastore, 1) := by rw [hb]; exact hdg
  jvm_step X.here [X.here.top, hexec, hdg', sastore.wp_sem, nullPointer]
  exact ⟨v, i, .null, rest, ⟨rfl, rfl, rfl, rfl⟩, a1⟩
theorem f_sastO (hexec : p.tables.exec = Jvm.exec) (hb : c.code = cc) {v : Int32} {i : Int32} {a : Nat} {cell : Cell} {ty : FieldType} (hcell : H[a]? = some cell) (harr : s.isArrayOf cell ty) (ho : i < 0 ∨ cell.slots.size ≤ i.toNatClampNeg) (hdg : decode cc pc = .ok (.sastore, 1)) (k : Fl p l e R s m args below meth c H locs kc ks Q (F0 m pc ls rest) "java/lang/ArrayIndexOutOfBoundsException" (some (ixText i cell.slots.size))) : W p l e R s m args below meth c H locs kc ks Q (F0 m pc ls (.int v :: .int i :: .ref a :: rest)) := by
  intro T hT X
  obtain ⟨t, a1, b1⟩ := k T hT X
  refine ⟨t, ?_, b1⟩
  have hdg' : decode c.code pc = .ok (.sastore, 1) := by rw [hb]; exact hdg
  have hc' : T.heap[a]? = some cell := by rw [hT]; exact hcell
  have harr' : T.isArray cell := by
    obtain ⟨g1, k1, g2, comp, g3⟩ := harr
    obtain ⟨k2, g4, g5⟩ := X.warmed.alike.2.2 _ _ g2
    exact ⟨g1, k2, g4, comp, ty, by rw [g5]; exact g3⟩
  jvm_step X.here [X.here.top, hexec, hdg', sastore.wp_sem, ixText_eq]
  exact ⟨v, i, .ref a, rest, ⟨rfl, rfl, rfl, rfl⟩, cell, hc', harr', by rw [if_pos ho]; exact a1⟩
theorem f_iastN (hexec : p.tables.exec = Jvm.exec) (hb : c.code = cc) {v : Int32} {i : Int32} (hdg : decode cc pc = .ok (.iastore, 1)) (k : Fl p l e R s m args below meth c H locs kc ks Q (F0 m pc ls rest) "java/lang/NullPointerException" none) : W p l e R s m args below meth c H locs kc ks Q (F0 m pc ls (.int v :: .int i :: .null :: rest)) := by
  intro T hT X
  obtain ⟨t, a1, b1⟩ := k T hT X
  refine ⟨t, ?_, b1⟩
  have hdg' : decode c.code pc = .ok (.iastore, 1) := by rw [hb]; exact hdg
  jvm_step X.here [X.here.top, hexec, hdg', iastore.wp_sem, nullPointer]
  exact ⟨v, i, .null, rest, ⟨rfl, rfl, rfl, rfl⟩, a1⟩
theorem f_iastO (hexec : p.tables.exec = Jvm.exec) (hb : c.code = cc) {v : Int32} {i : Int32} {a : Nat} {cell : Cell} {ty : FieldType} (hcell : H[a]? = some cell) (harr : s.isArrayOf cell ty) (ho : i < 0 ∨ cell.slots.size ≤ i.toNatClampNeg) (hdg : decode cc pc = .ok (.iastore, 1)) (k : Fl p l e R s m args below meth c H locs kc ks Q (F0 m pc ls rest) "java/lang/ArrayIndexOutOfBoundsException" (some (ixText i cell.slots.size))) : W p l e R s m args below meth c H locs kc ks Q (F0 m pc ls (.int v :: .int i :: .ref a :: rest)) := by
  intro T hT X
  obtain ⟨t, a1, b1⟩ := k T hT X
  refine ⟨t, ?_, b1⟩
  have hdg' : decode c.code pc = .ok (.iastore, 1) := by rw [hb]; exact hdg
  have hc' : T.heap[a]? = some cell := by rw [hT]; exact hcell
  have harr' : T.isArray cell := by
    obtain ⟨g1, k1, g2, comp, g3⟩ := harr
    obtain ⟨k2, g4, g5⟩ := X.warmed.alike.2.2 _ _ g2
    exact ⟨g1, k2, g4, comp, ty, by rw [g5]; exact g3⟩
  jvm_step X.here [X.here.top, hexec, hdg', iastore.wp_sem, ixText_eq]
  exact ⟨v, i, .ref a, rest, ⟨rfl, rfl, rfl, rfl⟩, cell, hc', harr', by rw [if_pos ho]; exact a1⟩
theorem f_lastN (hexec : p.tables.exec = Jvm.exec) (hb : c.code = cc) {v : Int64} {i : Int32} (hdg : decode cc pc = .ok (.lastore, 1)) (k : Fl p l e R s m args below meth c H locs kc ks Q (F0 m pc ls rest) "java/lang/NullPointerException" none) : W p l e R s m args below meth c H locs kc ks Q (F0 m pc ls (.long v :: .int i :: .null :: rest)) := by
  intro T hT X
  obtain ⟨t, a1, b1⟩ := k T hT X
  refine ⟨t, ?_, b1⟩
  have hdg' : decode c.code pc = .ok (.lastore, 1) := by rw [hb]; exact hdg
  jvm_step X.here [X.here.top, hexec, hdg', lastore.wp_sem, nullPointer]
  exact ⟨v, i, .null, rest, ⟨rfl, rfl, rfl, rfl⟩, a1⟩
theorem f_lastO (hexec : p.tables.exec = Jvm.exec) (hb : c.code = cc) {v : Int64} {i : Int32} {a : Nat} {cell : Cell} {ty : FieldType} (hcell : H[a]? = some cell) (harr : s.isArrayOf cell ty) (ho : i < 0 ∨ cell.slots.size ≤ i.toNatClampNeg) (hdg : decode cc pc = .ok (.lastore, 1)) (k : Fl p l e R s m args below meth c H locs kc ks Q (F0 m pc ls rest) "java/lang/ArrayIndexOutOfBoundsException" (some (ixText i cell.slots.size))) : W p l e R s m args below meth c H locs kc ks Q (F0 m pc ls (.long v :: .int i :: .ref a :: rest)) := by
  intro T hT X
  obtain ⟨t, a1, b1⟩ := k T hT X
  refine ⟨t, ?_, b1⟩
  have hdg' : decode c.code pc = .ok (.lastore, 1) := by rw [hb]; exact hdg
  have hc' : T.heap[a]? = some cell := by rw [hT]; exact hcell
  have harr' : T.isArray cell := by
    obtain ⟨g1, k1, g2, comp, g3⟩ := harr
    obtain ⟨k2, g4, g5⟩ := X.warmed.alike.2.2 _ _ g2
    exact ⟨g1, k2, g4, comp, ty, by rw [g5]; exact g3⟩
  jvm_step X.here [X.here.top, hexec, hdg', lastore.wp_sem, ixText_eq]
  exact ⟨v, i, .ref a, rest, ⟨rfl, rfl, rfl, rfl⟩, cell, hc', harr', by rw [if_pos ho]; exact a1⟩
end FA
