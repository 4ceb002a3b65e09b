/-! WHAT THE MACHINE THROWS: the tables' words for it -/
def stOk : Cond → Bool
  | .isRef (.static "java/lang/Throwable" "UNASSIGNED_STACK" "[Ljava/lang/StackTraceElement;") => true
  | .isRef (.static "java/lang/Throwable" "SUPPRESSED_SENTINEL" "Ljava/util/List;") => true
  | .laysStatic "java/lang/Throwable" "UNASSIGNED_STACK" "[Ljava/lang/StackTraceElement;" => true
  | .laysStatic "java/lang/Throwable" "SUPPRESSED_SENTINEL" "Ljava/util/List;" => true
  | _ => false
theorem stOk_cases {w : Cond} (h : stOk w = true) : w = .isRef (.static "java/lang/Throwable" "UNASSIGNED_STACK" "[Ljava/lang/StackTraceElement;") ∨ w = .isRef (.static "java/lang/Throwable" "SUPPRESSED_SENTINEL" "Ljava/util/List;") ∨ w = .laysStatic "java/lang/Throwable" "UNASSIGNED_STACK" "[Ljava/lang/StackTraceElement;" ∨ w = .laysStatic "java/lang/Throwable" "SUPPRESSED_SENTINEL" "Ljava/util/List;" := by
  unfold stOk at h
  split at h
  · exact Or.inl rfl
  · exact Or.inr (Or.inl rfl)
  · exact Or.inr (Or.inr (Or.inl rfl))
  · exact Or.inr (Or.inr (Or.inr rfl))
  · cases h
theorem va_Z.isRef {C n d : String} {v : Value} {A : Nat → Prop} {s : State} {args : Array Value} (h : va_Z C n d v A s s.heap) (hv : v = .null ∨ ∃ a, v = .ref a) : (Cond.isRef (.static C n d)).before args s = true := by
  obtain ⟨cf, kf, fi, f, a, cell, h1, h2, h3, h4, h5, h6, h7, h8⟩ := h
  have he : (Term.static C n d).eval args s none [] s = some v := by
    rw [← h7]
    simp [Term.eval, State.fieldNamed?, h1, h2, h4, h5, h6]
  rcases hv with rfl | ⟨b, rfl⟩ <;> simp [Cond.before, Cond.holds, Cond.value, he]
theorem va_L.lays {C n d : String} {A : Nat → Prop} {s : State} {args : Array Value} (h : va_L C n d A s s.heap) : (Cond.laysStatic C n d).before args s = true := by
  obtain ⟨c, k, i, f, a, cell, h1, h2, h3, h4, h5, h6, h7, h8, h9, h10⟩ := h
  simp [Cond.before, Cond.holds, Cond.value, h1, h2, h3, h4, h5, h6, h7, h8, h9]
/-- words of a list that the tables have, at a method's start -/
theorem atoms_have {L : List Cond} (hL : L.all (fun w => stOk w || (decide (w ∈ lw_tbl) && (goodWord w || nwOk w))) = true) {s : State} {args : Array Value} {A : Nat → Prop} {eA mi : Nat} (hts : ∀ w ∈ lw_all, w.before args s = true) (hE : EG A eA mi s s.heap) : ∀ w ∈ L, w.before args s = true := by
  intro w hw
  have h := List.all_eq_true.mp hL w hw
  rw [Bool.or_eq_true] at h
  have hZ := hE.2.2.2
  rcases h with h | h
  · rcases stOk_cases h with rfl | rfl | rfl | rfl
    · rcases hZ.2.2.2.2.2.2.2.2.2.1 with z | ⟨t, z⟩
      · exact z.isRef (Or.inl rfl)
      · exact z.isRef (Or.inr ⟨t, rfl⟩)
    · rcases hZ.2.2.2.2.2.2.2.2.2.2.1 with z | ⟨t, z⟩
      · exact z.isRef (Or.inl rfl)
      · exact z.isRef (Or.inr ⟨t, rfl⟩)
    · exact hZ.2.2.2.2.2.2.2.2.2.2.2.1.lays
    · exact hZ.2.2.2.2.2.2.2.2.2.2.2.2.lays
  · rw [Bool.and_eq_true, decide_eq_true_eq, Bool.or_eq_true] at h
    rcases h.2 with g | g
    · exact hts w (lw_g h.1 g)
    · exact (hE.1 w h.1 g).use (nw_on g)
theorem npe_mem : (Bundle.npeArmAtoms 8).all (fun w => stOk w || (decide (w ∈ lw_tbl) && (goodWord w || nwOk w))) = true := by decide +kernel
theorem msg_AE : (Bundle.messageArmAtoms "java/lang/ArithmeticException" ["java/lang/RuntimeException", "java/lang/Exception"]).all (fun w => stOk w || (decide (w ∈ lw_tbl) && (goodWord w || nwOk w))) = true := by decide +kernel
theorem msg_CC : (Bundle.messageArmAtoms "java/lang/ClassCastException" ["java/lang/RuntimeException", "java/lang/Exception"]).all (fun w => stOk w || (decide (w ∈ lw_tbl) && (goodWord w || nwOk w))) = true := by decide +kernel
theorem msg_NS : (Bundle.messageArmAtoms "java/lang/NegativeArraySizeException" ["java/lang/RuntimeException", "java/lang/Exception"]).all (fun w => stOk w || (decide (w ∈ lw_tbl) && (goodWord w || nwOk w))) = true := by decide +kernel
theorem msg_AS : (Bundle.messageArmAtoms "java/lang/ArrayStoreException" ["java/lang/RuntimeException", "java/lang/Exception"]).all (fun w => stOk w || (decide (w ∈ lw_tbl) && (goodWord w || nwOk w))) = true := by decide +kernel
theorem msg_IX : (Bundle.messageArmAtoms "java/lang/ArrayIndexOutOfBoundsException" ["java/lang/IndexOutOfBoundsException", "java/lang/RuntimeException", "java/lang/Exception"]).all (fun w => stOk w || (decide (w ∈ lw_tbl) && (goodWord w || nwOk w))) = true := by decide +kernel
