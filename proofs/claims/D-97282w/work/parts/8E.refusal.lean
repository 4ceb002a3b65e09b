/-! WHAT REFUSES ITEMS OF A SHEET -/
theorem neg_dif {a b : Nat} (ha : a ≤ 36) (hb : b ≤ 36) (h : a < b) : (nI a - nI b : Int32) < 0 := by
  have : ∀ (a b : Fin 37), a.val < b.val → (nI a.val - nI b.val : Int32) < 0 := by decide +kernel
  exact this ⟨a, by omega⟩ ⟨b, by omega⟩ h
/-- n items from w on, in a row of rn -/
theorem row_n {w : Int32} {rn m : Nat} (hr : rn ≤ 36) (hm : m ≤ 36) : (0 ≤ w ∧ w ≤ nI rn - nI m) ↔ ∃ i, i + m ≤ rn ∧ w = nI i := by
  rcases Nat.lt_or_ge rn m with z | z
  · refine ⟨fun h => ?_, fun ⟨i, h, _⟩ => by omega⟩
    exact absurd (Int32.lt_of_le_of_lt h.2 (neg_dif hr hm z)) (Int32.not_lt.mpr h.1)
  · rw [nI_subN z]
    constructor
    · intro h
      obtain ⟨k, h1, h2⟩ := nI_ofN (n := rn - m) h.1 h.2 (by omega)
      exact ⟨k, by omega, h2⟩
    · rintro ⟨i, h1, rfl⟩
      exact ⟨(nI_leN (a := 0) (by decide) (by omega)).mpr (by omega), (nI_leN (by omega) (by omega)).mpr (by omega)⟩
theorem pRef_N {Q : Int32 → Prop} {shf : Nat → Option Nat} {hd k : Nat} {y w n : Int32} (hk : k < 4) (hs : shf k = some hd) (h : Q (-11)) : wX0_refusal_N Q shf hd (nI k) y w n := by
  unfold wX0_refusal_N wX0_looksAt_N_np wX0_sizeOf_N_np
  exact ⟨in_nI hk (by decide), by rw [clam_nI (by omega)]; exact hs, fun _ => h, fun _ => ⟨fun _ => h, fun _ => ⟨fun _ => h, fun _ => h⟩⟩⟩
theorem looks_B {Q : (Nat → Int64) → Prop} {rf : Nat → Int32} {rn m i : Nat} (hr : rn ≤ 36) (him : i + m ≤ rn) : ∀ (n c : Nat) (tk : Nat → Int64), c + n = m + 1 → c ≤ m → (∀ j, j < c → tk j = (rf (i + j)).toInt64) → (∀ tk' : Nat → Int64, (∀ j, j < m → tk' j = (rf (i + j)).toInt64) → Q tk') → wX0_looksAt_B_39 Q (nI 0) (nI i) (nI m) rf rn n (nI c) tk := by
  intro n
  induction n with
  | zero => intro c tk h1 h2; omega
  | succ n ih =>
    intro c tk h1 h2 h3 h
    unfold wX0_looksAt_B_39
    by_cases e : c = m
    · subst e
      exact sw1 (Int32.le_refl _) (h tk h3)
    · refine sw0 (fun q => by have := (nI_leN (by omega) (by omega)).mp q; omega) ?_
      unfold wX0_itemOf_B
      refine sw1 rfl (?_)
      rw [nI_add]
      refine ⟨in_nI (by omega) (by omega), ?_⟩
      rw [clam_nI (by omega), clam_nI (by omega)]
      refine ⟨in_nI (by omega) (by decide), ?_⟩
      intro tk2 e2 x ex
      rw [ex, nI_1]
      refine ih (c + 1) tk2 (by omega) (by omega) (fun j hj => ?_) h
      rw [e2]
      by_cases e3 : j = c
      · subst e3
        exact if_pos rfl
      · show (if j = c then _ else tk j) = _
        rw [if_neg e3]
        exact h3 j (by omega)
theorem pRef_B {Q : Int32 → (Nat → Int64) → Prop} {tk : Nat → Int64} {shf : Nat → Option Nat} {hd k rn m : Nat} {rf : Nat → Int32} {y w : Int32} (hk : k < 4) (hs : shf k = some hd) (hr : rn ≤ 36) (hm : m ≤ 36) (hy : 0 ≤ y ∧ y ≤ 3) (h12 : y ≠ nI 0 → Q (-12) tk) (h13 : y = nI 0 → ¬ (0 ≤ w ∧ w ≤ nI rn - nI m) → Q (-13) tk) (h0 : y = nI 0 → ∀ i, i + m ≤ rn → w = nI i → ∀ tk' : Nat → Int64, (∀ j, j < m → tk' j = (rf (i + j)).toInt64) → Q 0 tk') : wX0_refusal_B Q tk shf hd rn rf (nI k) y w (nI m) := by
  unfold wX0_refusal_B
  refine ⟨in_nI hk (by decide), by rw [clam_nI (by omega)]; exact hs, ?_⟩
  by_cases e : y = nI 0
  · subst e
    by_cases hw : ∃ i, i + m ≤ rn ∧ w = nI i
    · obtain ⟨i, hi, rfl⟩ := hw
      refine Or.inl ?_
      unfold wX0_looksAt_B wX0_sizeOf_B
      refine sw1 rfl (?_)
      refine pX0_inI (lo := 0) (hi := nI rn) ⟨fun q => absurd ⟨(nI_leN (a := 0) (by decide) (by omega)).mpr (by omega), (nI_leN (by omega) (by omega)).mpr (by omega)⟩ (b2_0 q), fun _ => sw1 ?_ ⟨m + 1, ?_⟩⟩
      · show nI m ≤ nI rn - nI i
        rw [nI_subN (by omega)]
        exact (nI_leN (by omega) (by omega)).mpr (by omega)
      · have := looks_B (Q := fun tk' => Q 0 tk') (rf := rf) (rn := rn) (m := m) (i := i) hr hi (m + 1) 0 tk (by omega) (by omega) (fun j hj => absurd hj (Nat.not_lt_zero j)) (h0 rfl i hi rfl)
        rw [nI_0] at this
        exact this
    · refine Or.inr (Or.inr ?_)
      have q13 := h13 rfl (fun z => hw ((row_n hr hm).mp z))
      unfold wX0_looksAt_B_ix wX0_sizeOf_B
      refine sw1 rfl (?_)
      refine pX0_inI (lo := 0) (hi := nI rn) ⟨fun _ => ?_, fun q => ?_⟩
      · unfold wX0_looksAt_B_ix_28
        exact ⟨by decide, by decide, q13⟩
      · obtain ⟨i, h1, h2⟩ := nI_ofN (n := rn) (b2_1 q).1 (b2_1 q).2 (by omega)
        subst h2
        refine sw0 (fun z => hw ⟨i, ?_, rfl⟩) ?_
        · have z : nI m ≤ nI rn - nI i := z
          rw [nI_subN h1] at z
          have := (nI_leN (by omega) (by omega)).mp z
          omega
        · unfold wX0_looksAt_B_ix_28
          exact ⟨by decide, by decide, q13⟩
  · refine Or.inr (Or.inl ?_)
    have m := h12 e
    unfold wX0_looksAt_B_cc wX0_sizeOf_B_cc
    obtain ⟨c, hc, rfl⟩ := s_ex hy
    exact sw0 e ⟨fun _ => m, fun _ => ⟨fun _ => m, fun _ => m⟩⟩
theorem looks_S {Q : (Nat → Int64) → Prop} {rf : Nat → Int32} {rn m i : Nat} (hr : rn ≤ 36) (him : i + m ≤ rn) : ∀ (n c : Nat) (tk : Nat → Int64), c + n = m + 1 → c ≤ m → (∀ j, j < c → tk j = (rf (i + j)).toInt64) → (∀ tk' : Nat → Int64, (∀ j, j < m → tk' j = (rf (i + j)).toInt64) → Q tk') → wX0_looksAt_S_39 Q (nI 1) (nI i) (nI m) rf rn n (nI c) tk := by
  intro n
  induction n with
  | zero => intro c tk h1 h2; omega
  | succ n ih =>
    intro c tk h1 h2 h3 h
    unfold wX0_looksAt_S_39
    by_cases e : c = m
    · subst e
      exact sw1 (Int32.le_refl _) (h tk h3)
    · refine sw0 (fun q => by have := (nI_leN (by omega) (by omega)).mp q; omega) ?_
      unfold wX0_itemOf_S
      refine sw0 (by decide) (sw1 rfl (?_))
      rw [nI_add]
      refine ⟨in_nI (by omega) (by omega), ?_⟩
      rw [clam_nI (by omega), clam_nI (by omega)]
      refine ⟨in_nI (by omega) (by decide), ?_⟩
      intro tk2 e2 x ex
      rw [ex, nI_1]
      refine ih (c + 1) tk2 (by omega) (by omega) (fun j hj => ?_) h
      rw [e2]
      by_cases e3 : j = c
      · subst e3
        exact if_pos rfl
      · show (if j = c then _ else tk j) = _
        rw [if_neg e3]
        exact h3 j (by omega)
theorem pRef_S {Q : Int32 → (Nat → Int64) → Prop} {tk : Nat → Int64} {shf : Nat → Option Nat} {hd k rn m : Nat} {rf : Nat → Int32} {y w : Int32} (hk : k < 4) (hs : shf k = some hd) (hr : rn ≤ 36) (hm : m ≤ 36) (hy : 0 ≤ y ∧ y ≤ 3) (h12 : y ≠ nI 1 → Q (-12) tk) (h13 : y = nI 1 → ¬ (0 ≤ w ∧ w ≤ nI rn - nI m) → Q (-13) tk) (h0 : y = nI 1 → ∀ i, i + m ≤ rn → w = nI i → ∀ tk' : Nat → Int64, (∀ j, j < m → tk' j = (rf (i + j)).toInt64) → Q 0 tk') : wX0_refusal_S Q tk shf hd rn rf (nI k) y w (nI m) := by
  unfold wX0_refusal_S
  refine ⟨in_nI hk (by decide), by rw [clam_nI (by omega)]; exact hs, ?_⟩
  by_cases e : y = nI 1
  · subst e
    by_cases hw : ∃ i, i + m ≤ rn ∧ w = nI i
    · obtain ⟨i, hi, rfl⟩ := hw
      refine Or.inl ?_
      unfold wX0_looksAt_S wX0_sizeOf_S
      refine sw0 (by decide) (sw1 rfl (?_))
      refine pX0_inI (lo := 0) (hi := nI rn) ⟨fun q => absurd ⟨(nI_leN (a := 0) (by decide) (by omega)).mpr (by omega), (nI_leN (by omega) (by omega)).mpr (by omega)⟩ (b2_0 q), fun _ => sw1 ?_ ⟨m + 1, ?_⟩⟩
      · show nI m ≤ nI rn - nI i
        rw [nI_subN (by omega)]
        exact (nI_leN (by omega) (by omega)).mpr (by omega)
      · have := looks_S (Q := fun tk' => Q 0 tk') (rf := rf) (rn := rn) (m := m) (i := i) hr hi (m + 1) 0 tk (by omega) (by omega) (fun j hj => absurd hj (Nat.not_lt_zero j)) (h0 rfl i hi rfl)
        rw [nI_0] at this
        exact this
    · refine Or.inr (Or.inr ?_)
      have q13 := h13 rfl (fun z => hw ((row_n hr hm).mp z))
      unfold wX0_looksAt_S_ix wX0_sizeOf_S
      refine sw0 (by decide) (sw1 rfl (?_))
      refine pX0_inI (lo := 0) (hi := nI rn) ⟨fun _ => ?_, fun q => ?_⟩
      · unfold wX0_looksAt_S_ix_28
        exact ⟨by decide, by decide, q13⟩
      · obtain ⟨i, h1, h2⟩ := nI_ofN (n := rn) (b2_1 q).1 (b2_1 q).2 (by omega)
        subst h2
        refine sw0 (fun z => hw ⟨i, ?_, rfl⟩) ?_
        · have z : nI m ≤ nI rn - nI i := z
          rw [nI_subN h1] at z
          have := (nI_leN (by omega) (by omega)).mp z
          omega
        · unfold wX0_looksAt_S_ix_28
          exact ⟨by decide, by decide, q13⟩
  · refine Or.inr (Or.inl ?_)
    have m := h12 e
    unfold wX0_looksAt_S_cc wX0_sizeOf_S_cc
    obtain ⟨c, hc, rfl⟩ := s_ex hy
    exact ⟨fun _ => m, fun _ => sw0 e ⟨fun _ => m, fun _ => m⟩⟩
theorem looks_I {Q : (Nat → Int64) → Prop} {rf : Nat → Int32} {rn m i : Nat} (hr : rn ≤ 36) (him : i + m ≤ rn) : ∀ (n c : Nat) (tk : Nat → Int64), c + n = m + 1 → c ≤ m → (∀ j, j < c → tk j = (rf (i + j)).toInt64) → (∀ tk' : Nat → Int64, (∀ j, j < m → tk' j = (rf (i + j)).toInt64) → Q tk') → wX0_looksAt_I_39 Q (nI 2) (nI i) (nI m) rf rn n (nI c) tk := by
  intro n
  induction n with
  | zero => intro c tk h1 h2; omega
  | succ n ih =>
    intro c tk h1 h2 h3 h
    unfold wX0_looksAt_I_39
    by_cases e : c = m
    · subst e
      exact sw1 (Int32.le_refl _) (h tk h3)
    · refine sw0 (fun q => by have := (nI_leN (by omega) (by omega)).mp q; omega) ?_
      unfold wX0_itemOf_I
      refine sw0 (by decide) (sw0 (by decide) (sw1 rfl (?_)))
      rw [nI_add]
      refine ⟨in_nI (by omega) (by omega), ?_⟩
      rw [clam_nI (by omega), clam_nI (by omega)]
      refine ⟨in_nI (by omega) (by decide), ?_⟩
      intro tk2 e2 x ex
      rw [ex, nI_1]
      refine ih (c + 1) tk2 (by omega) (by omega) (fun j hj => ?_) h
      rw [e2]
      by_cases e3 : j = c
      · subst e3
        exact if_pos rfl
      · show (if j = c then _ else tk j) = _
        rw [if_neg e3]
        exact h3 j (by omega)
theorem pRef_I {Q : Int32 → (Nat → Int64) → Prop} {tk : Nat → Int64} {shf : Nat → Option Nat} {hd k rn m : Nat} {rf : Nat → Int32} {y w : Int32} (hk : k < 4) (hs : shf k = some hd) (hr : rn ≤ 36) (hm : m ≤ 36) (hy : 0 ≤ y ∧ y ≤ 3) (h12 : y ≠ nI 2 → Q (-12) tk) (h13 : y = nI 2 → ¬ (0 ≤ w ∧ w ≤ nI rn - nI m) → Q (-13) tk) (h0 : y = nI 2 → ∀ i, i + m ≤ rn → w = nI i → ∀ tk' : Nat → Int64, (∀ j, j < m → tk' j = (rf (i + j)).toInt64) → Q 0 tk') : wX0_refusal_I Q tk shf hd rn rf (nI k) y w (nI m) := by
  unfold wX0_refusal_I
  refine ⟨in_nI hk (by decide), by rw [clam_nI (by omega)]; exact hs, ?_⟩
  by_cases e : y = nI 2
  · subst e
    by_cases hw : ∃ i, i + m ≤ rn ∧ w = nI i
    · obtain ⟨i, hi, rfl⟩ := hw
      refine Or.inl ?_
      unfold wX0_looksAt_I wX0_sizeOf_I
      refine sw0 (by decide) (sw0 (by decide) (sw1 rfl (?_)))
      refine pX0_inI (lo := 0) (hi := nI rn) ⟨fun q => absurd ⟨(nI_leN (a := 0) (by decide) (by omega)).mpr (by omega), (nI_leN (by omega) (by omega)).mpr (by omega)⟩ (b2_0 q), fun _ => sw1 ?_ ⟨m + 1, ?_⟩⟩
      · show nI m ≤ nI rn - nI i
        rw [nI_subN (by omega)]
        exact (nI_leN (by omega) (by omega)).mpr (by omega)
      · have := looks_I (Q := fun tk' => Q 0 tk') (rf := rf) (rn := rn) (m := m) (i := i) hr hi (m + 1) 0 tk (by omega) (by omega) (fun j hj => absurd hj (Nat.not_lt_zero j)) (h0 rfl i hi rfl)
        rw [nI_0] at this
        exact this
    · refine Or.inr (Or.inr ?_)
      have q13 := h13 rfl (fun z => hw ((row_n hr hm).mp z))
      unfold wX0_looksAt_I_ix wX0_sizeOf_I
      refine sw0 (by decide) (sw0 (by decide) (sw1 rfl (?_)))
      refine pX0_inI (lo := 0) (hi := nI rn) ⟨fun _ => ?_, fun q => ?_⟩
      · unfold wX0_looksAt_I_ix_28
        exact ⟨by decide, by decide, q13⟩
      · obtain ⟨i, h1, h2⟩ := nI_ofN (n := rn) (b2_1 q).1 (b2_1 q).2 (by omega)
        subst h2
        refine sw0 (fun z => hw ⟨i, ?_, rfl⟩) ?_
        · have z : nI m ≤ nI rn - nI i := z
          rw [nI_subN h1] at z
          have := (nI_leN (by omega) (by omega)).mp z
          omega
        · unfold wX0_looksAt_I_ix_28
          exact ⟨by decide, by decide, q13⟩
  · refine Or.inr (Or.inl ?_)
    have m := h12 e
    unfold wX0_looksAt_I_cc wX0_sizeOf_I_cc
    obtain ⟨c, hc, rfl⟩ := s_ex hy
    exact ⟨fun _ => m, fun _ => ⟨fun _ => m, fun _ => sw0 e m⟩⟩
theorem looks_J {Q : (Nat → Int64) → Prop} {rf : Nat → Int64} {rn m i : Nat} (hr : rn ≤ 36) (him : i + m ≤ rn) : ∀ (n c : Nat) (tk : Nat → Int64), c + n = m + 1 → c ≤ m → (∀ j, j < c → tk j = rf (i + j)) → (∀ tk' : Nat → Int64, (∀ j, j < m → tk' j = rf (i + j)) → Q tk') → wX0_looksAt_J_39 Q (nI 3) (nI i) (nI m) rf rn n (nI c) tk := by
  intro n
  induction n with
  | zero => intro c tk h1 h2; omega
  | succ n ih =>
    intro c tk h1 h2 h3 h
    unfold wX0_looksAt_J_39
    by_cases e : c = m
    · subst e
      exact sw1 (Int32.le_refl _) (h tk h3)
    · refine sw0 (fun q => by have := (nI_leN (by omega) (by omega)).mp q; omega) ?_
      unfold wX0_itemOf_J
      refine sw0 (by decide) (sw0 (by decide) (sw0 (by decide) (?_)))
      rw [nI_add]
      refine ⟨in_nI (by omega) (by omega), ?_⟩
      rw [clam_nI (by omega), clam_nI (by omega)]
      refine ⟨in_nI (by omega) (by decide), ?_⟩
      intro tk2 e2 x ex
      rw [ex, nI_1]
      refine ih (c + 1) tk2 (by omega) (by omega) (fun j hj => ?_) h
      rw [e2]
      by_cases e3 : j = c
      · subst e3
        exact if_pos rfl
      · show (if j = c then _ else tk j) = _
        rw [if_neg e3]
        exact h3 j (by omega)
theorem pRef_J {Q : Int32 → (Nat → Int64) → Prop} {tk : Nat → Int64} {shf : Nat → Option Nat} {hd k rn m : Nat} {rf : Nat → Int64} {y w : Int32} (hk : k < 4) (hs : shf k = some hd) (hr : rn ≤ 36) (hm : m ≤ 36) (hy : 0 ≤ y ∧ y ≤ 3) (h12 : y ≠ nI 3 → Q (-12) tk) (h13 : y = nI 3 → ¬ (0 ≤ w ∧ w ≤ nI rn - nI m) → Q (-13) tk) (h0 : y = nI 3 → ∀ i, i + m ≤ rn → w = nI i → ∀ tk' : Nat → Int64, (∀ j, j < m → tk' j = rf (i + j)) → Q 0 tk') : wX0_refusal_J Q tk shf hd rn rf (nI k) y w (nI m) := by
  unfold wX0_refusal_J
  refine ⟨in_nI hk (by decide), by rw [clam_nI (by omega)]; exact hs, ?_⟩
  by_cases e : y = nI 3
  · subst e
    by_cases hw : ∃ i, i + m ≤ rn ∧ w = nI i
    · obtain ⟨i, hi, rfl⟩ := hw
      refine Or.inl ?_
      unfold wX0_looksAt_J wX0_sizeOf_J
      refine sw0 (by decide) (sw0 (by decide) (sw0 (by decide) (?_)))
      refine pX0_inI (lo := 0) (hi := nI rn) ⟨fun q => absurd ⟨(nI_leN (a := 0) (by decide) (by omega)).mpr (by omega), (nI_leN (by omega) (by omega)).mpr (by omega)⟩ (b2_0 q), fun _ => sw1 ?_ ⟨m + 1, ?_⟩⟩
      · show nI m ≤ nI rn - nI i
        rw [nI_subN (by omega)]
        exact (nI_leN (by omega) (by omega)).mpr (by omega)
      · have := looks_J (Q := fun tk' => Q 0 tk') (rf := rf) (rn := rn) (m := m) (i := i) hr hi (m + 1) 0 tk (by omega) (by omega) (fun j hj => absurd hj (Nat.not_lt_zero j)) (h0 rfl i hi rfl)
        rw [nI_0] at this
        exact this
    · refine Or.inr (Or.inr ?_)
      have q13 := h13 rfl (fun z => hw ((row_n hr hm).mp z))
      unfold wX0_looksAt_J_ix wX0_sizeOf_J
      refine sw0 (by decide) (sw0 (by decide) (sw0 (by decide) (?_)))
      refine pX0_inI (lo := 0) (hi := nI rn) ⟨fun _ => ?_, fun q => ?_⟩
      · unfold wX0_looksAt_J_ix_28
        exact ⟨by decide, by decide, q13⟩
      · obtain ⟨i, h1, h2⟩ := nI_ofN (n := rn) (b2_1 q).1 (b2_1 q).2 (by omega)
        subst h2
        refine sw0 (fun z => hw ⟨i, ?_, rfl⟩) ?_
        · have z : nI m ≤ nI rn - nI i := z
          rw [nI_subN h1] at z
          have := (nI_leN (by omega) (by omega)).mp z
          omega
        · unfold wX0_looksAt_J_ix_28
          exact ⟨by decide, by decide, q13⟩
  · refine Or.inr (Or.inl ?_)
    have m := h12 e
    unfold wX0_looksAt_J_cc wX0_sizeOf_J_cc
    obtain ⟨c, hc, rfl⟩ := s_ex hy
    exact ⟨fun _ => m, fun a => ⟨fun _ => m, fun b => sw1 (nJ hc a b e) m⟩⟩
