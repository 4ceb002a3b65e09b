/-! LAY: the plain law -/
def layG (g : Nat → Int32) (c : Nat) (v : Nat → Int64) : Nat → (Nat → Int32)
  | 0 => g
  | j + 1 => upd (layG g c v j) (c + j) (v j).toInt32
def layR (ro : Int64) (c : Nat) (v : Nat → Int64) : Nat → Int64
  | 0 => ro
  | j + 1 => if (v j).toInt32 = 0 then layR ro c v j &&& (bit (c + j) ^^^ (-1)) else layR ro c v j
abbrev okV (x : Int64) : Prop := 0 ≤ x ∧ x ≤ 9
theorem okV_32 {x : Int64} (h : okV x) : 0 ≤ x.toInt32 ∧ x.toInt32 ≤ 9 := by
  have h1 := Int64.le_iff_toInt_le.mp h.1
  have h2 := Int64.le_iff_toInt_le.mp h.2
  have e : x = Int64.ofInt x.toInt := (Int64.ofInt_toInt x).symm
  have h1 : 0 ≤ x.toInt := h1
  have h2 : x.toInt ≤ 9 := h2
  rcases (show x.toInt = 0 ∨ x.toInt = 1 ∨ x.toInt = 2 ∨ x.toInt = 3 ∨ x.toInt = 4 ∨ x.toInt = 5 ∨ x.toInt = 6 ∨ x.toInt = 7 ∨ x.toInt = 8 ∨ x.toInt = 9 by omega) with z | z | z | z | z | z | z | z | z | z <;> (rw [z] at e; subst e; decide +kernel)
theorem layG_ok {g g' : Nat → Int32} {c : Nat} {v v' : Nat → Int64} (gD : okD g) (gA : agree 36 g g') : ∀ m, c + m ≤ 36 → (∀ j, j < m → okV (v j)) → (∀ j, j < m → v' j = v j) → okD (layG g c v m) ∧ agree 36 (layG g c v m) (layG g' c v' m) := by
  intro m
  induction m with
  | zero => intro _ _ _; exact ⟨gD, gA⟩
  | succ m ih =>
    intro h1 h2 h3
    obtain ⟨a, b⟩ := ih (by omega) (fun j hj => h2 j (by omega)) (fun j hj => h3 j (by omega))
    have q := okV_32 (h2 m (by omega))
    refine ⟨okD_upd a q.1 q.2, ?_⟩
    show agree 36 (upd _ _ _) (upd _ _ _)
    rw [h3 m (by omega)]
    exact agree_upd b
theorem layR_small {ro : Int64} {c : Nat} {v : Nat → Int64} (h : small ro) : ∀ m, small (layR ro c v m) := by
  intro m
  induction m with
  | zero => exact h
  | succ m ih =>
    show small (if (v m).toInt32 = 0 then _ else _)
    split
    · exact small_minus ih
    · exact ih
theorem layR_eq {ro : Int64} {c : Nat} {v v' : Nat → Int64} : ∀ m, (∀ j, j < m → v' j = v j) → layR ro c v' m = layR ro c v m := by
  intro m
  induction m with
  | zero => intro _; rfl
  | succ m ih =>
    intro h
    show (if (v' m).toInt32 = 0 then layR ro c v' m &&& _ else layR ro c v' m) = (if (v m).toInt32 = 0 then layR ro c v m &&& _ else layR ro c v m)
    rw [ih (fun j hj => h j (by omega)), h m (by omega)]
theorem roof_on {ro : Int64} {k : Nat} (hk : k < 36) (h : mem ro k = true) : ro ||| bit k = ro := mem_ext (fun i _ => by
  rw [mem_or, mem_bit (by omega)]
  by_cases e : i = k
  · subst e; simp [h]
  · simp [e])
theorem roof_off {ro : Int64} {k : Nat} (hk : k < 36) (h : ¬ mem ro k = true) : ro &&& (bit k ^^^ (-1)) = ro := mem_ext (fun i hi => by
  rw [mem_and, mem_xor, mem_bit (by omega)]
  have e1 : mem (-1) i = true := by
    have : ∀ i : Fin 64, mem (-1) i.val = true := by decide +kernel
    exact this ⟨i, hi⟩
  rw [e1]
  by_cases e : i = k
  · subst e
    have : mem ro i = false := by simpa using h
    simp [this]
  · simp [e])
/-- the model puts them down -/
theorem mLay113 {Q : Int32 → (Nat → Int32) → Int64 → Int32 → Prop} {g : Nat → Int32} {ro : Int64} {um : Int32} {t z : Nat → Int32} {it : Nat → Int64} {c m a : Nat} (hc : c + m ≤ 36) (ha : a + m ≤ 144) (hv : ∀ j, j < m → okV (it (a + j))) (h : Q (nI m) (layG g c (fun j => it (a + j)) m) (layR ro c (fun j => it (a + j)) m) 0) : ∀ (n j : Nat), j + n = m + 1 → j ≤ m → wX3_lay_113 Q (nI c) (nI m) (nI a) um t z it n (nI j) (layG g c (fun j => it (a + j)) j) (layR ro c (fun j => it (a + j)) j) := by
  intro n
  induction n with
  | zero => intro j h1 h2; omega
  | succ n ih =>
    intro j h1 h2
    unfold wX3_lay_113
    by_cases e : j = m
    · subst e
      exact sw1 (Int32.le_refl _) h
    · refine sw0 (fun q => by have := (nI_leN (by omega) (by omega)).mp q; omega) ?_
      rw [nI_add]
      refine ⟨in_nI (by omega) (by decide), ?_⟩
      intro x9 e9
      rw [clam_nI (by omega)] at e9
      have q := okV_32 (hv j (by omega))
      rw [← e9] at q
      rw [nI_add]
      have fin : ∀ R' : Int64, R' = layR ro c (fun j => it (a + j)) (j + 1) → ∀ x8 : Int32, x8 = nI j + 1 → wX3_lay_113 Q (nI c) (nI m) (nI a) um t z it n x8 (upd (layG g c (fun j => it (a + j)) j) (c + j) x9) R' := by
        intro R' eR x8 e8
        rw [e8, nI_1, eR, e9]
        exact ih (j + 1) (by omega) (by omega)
      refine ⟨fun h0 => ?_, fun h0 => ?_⟩
      · unfold wX3_lay_164
        refine pX3_put (by omega) (fin _ ?_)
        have e0 : x9 = 0 := Int32.le_antisymm h0 q.1
        show _ = (if (it (a + j)).toInt32 = 0 then _ else _)
        rw [← e9, if_pos e0, if_pos rfl]
      · have e0 : ¬ x9 = 0 := fun z => h0 (by rw [z]; decide)
        refine pX3_has (by omega) ⟨fun r => ?_, fun r => ?_⟩
        · unfold wX3_lay_164
          refine pX3_put (by omega) (fin _ ?_)
          show _ = (if (it (a + j)).toInt32 = 0 then _ else _)
          rw [← e9, if_neg e0, if_pos rfl]
          exact roof_off (by omega) (b2_0 r)
        · unfold wX3_lay_164
          refine pX3_put (by omega) (fin _ ?_)
          show _ = (if (it (a + j)).toInt32 = 0 then _ else _)
          rw [← e9, if_neg e0, if_neg (by decide)]
          exact roof_on (by omega) (b2_1 r)
theorem mLay56 {Q : Int32 → (Nat → Int32) → Int64 → Int32 → Prop} {g : Nat → Int32} {ro : Int64} {um : Int32} {t z : Nat → Int32} {it : Nat → Int64} {c m a : Nat} (hc : c + m ≤ 36) (ha : a + m ≤ 144) (hb : (∃ j, j < m ∧ ¬ okV (it (a + j))) → Q (-2) g ro um) (h : (∀ j, j < m → okV (it (a + j))) → Q (nI m) (layG g c (fun j => it (a + j)) m) (layR ro c (fun j => it (a + j)) m) 0) : ∀ (n j : Nat), j + n = m + 2 → j ≤ m → (∀ i, i < j → okV (it (a + i))) → wX3_lay_56 Q (nI c) (nI m) (nI a) g ro um t z it n 0 (nI j) := by
  intro n
  induction n with
  | zero => intro j h1 h2; omega
  | succ n ih =>
    intro j h1 h2 h3
    unfold wX3_lay_56
    by_cases e : j = m
    · subst e
      refine sw1 (Int32.le_refl _) ?_
      unfold wX3_lay_102
      refine sw1 (by decide) ⟨j + 1, ?_⟩
      have := mLay113 (Q := Q) (g := g) (ro := ro) (um := um) (t := t) (z := z) hc ha h3 (h h3) (j + 1) 0 (by omega) (by omega)
      rw [nI_0] at this
      exact this
    · refine sw0 (fun q => by have := (nI_leN (by omega) (by omega)).mp q; omega) (sw1 rfl ?_)
      rw [nI_add]
      refine ⟨in_nI (by omega) (by decide), ?_⟩
      rw [clam_nI (by omega)]
      refine pX3_in ⟨fun r x ex => ?_, fun r x ex => ?_⟩
      · have q := hb ⟨j, by omega, b2_0 r⟩
        rw [ex, nI_1]
        cases n with
        | zero => omega
        | succ n =>
          unfold wX3_lay_56
          have f : wX3_lay_102 Q (nI c) (nI m) (-2) (nI a) g ro um t z it := by
            unfold wX3_lay_102
            exact sw0 (by decide) q
          exact ⟨fun _ => f, fun _ => sw0 (by decide) f⟩
      · rw [ex, nI_1]
        exact ih (j + 1) (by omega) (by omega) (fun i hi => by
          by_cases e2 : i = j
          · subst e2; exact b2_1 r
          · exact h3 i (by omega))
theorem c97_Be {Q : Int32 → (Nat → Int32) → Int64 → (Nat → Int64) → Int32 → Int32 → Prop} {g : Nat → Int32} {ro : Int64} {umc : Int32} {shf : Nat → Option Nat} {hd rn c m kc ks : Nat} {rf : Nat → Int32} {tk : Nat → Int64} (hc : c + m ≤ 36) (hv : ∀ j, j < m → okV (tk j)) (h : ∀ mc1, Q (nI m) (layG g c tk m) (layR ro c tk m) tk mc1 0) : ∀ (n j : Nat), j + n = m + 1 → j ≤ m → wX0_lay_Be_97 Q (nI c) (nI m) hd tk umc (nI 0) shf rf rn n (nI j) (layR ro c tk j) (layG g c tk j) kc ks := by
  intro n
  induction n with
  | zero => intro j h1 h2; omega
  | succ n ih =>
    intro j h1 h2
    unfold wX0_lay_Be_97
    by_cases e : j = m
    · subst e
      refine sw1 (Int32.le_refl _) ?_
      refine pJ2_clear_e (fun mc1 => ?_)
      exact h mc1
    · refine sw0 (fun q => by have := (nI_leN (by omega) (by omega)).mp q; omega) ⟨in_nI (by omega) (by decide), ?_⟩
      rw [nI_add, bit_nI (by omega), clam_nI (by omega)]
      have q := okV_32 (hv j (by omega))
      refine pX1_becomes (small_bit (by omega)) q.1 (Int32.le_trans q.2 (by decide)) ?_
      intro x ex
      rw [ex, nI_1, bec_bit _ (by omega)]
      exact ih (j + 1) (by omega) (by omega)
theorem c61_Be {Q : Int32 → (Nat → Int32) → Int64 → (Nat → Int64) → Int32 → Int32 → Prop} {g : Nat → Int32} {ro : Int64} {umc : Int32} {shf : Nat → Option Nat} {hd rn c m kc ks : Nat} {rf : Nat → Int32} {tk : Nat → Int64} (hc : c + m ≤ 36) (hb : (∃ j, j < m ∧ ¬ okV (tk j)) → Q (-2) g ro tk umc (nI 0)) (h : (∀ j, j < m → okV (tk j)) → ∀ mc1, Q (nI m) (layG g c tk m) (layR ro c tk m) tk mc1 0) : ∀ (n j : Nat), j + n = m + 1 → j ≤ m → (∀ i, i < j → okV (tk i)) → wX0_lay_Be_61 Q (nI c) (nI m) hd ro g tk umc (nI 0) shf rf rn n (nI j) kc ks := by
  intro n
  induction n with
  | zero => intro j h1 h2; omega
  | succ n ih =>
    intro j h1 h2 h3
    unfold wX0_lay_Be_61
    by_cases e : j = m
    · subst e
      refine sw1 (Int32.le_refl _) ⟨j + 1, ?_⟩
      have := c97_Be (Q := Q) (g := g) (ro := ro) (umc := umc) (shf := shf) (hd := hd) (rn := rn) (kc := kc) (ks := ks) (rf := rf) hc h3 (h h3) (j + 1) 0 (by omega) (by omega)
      rw [nI_0] at this
      exact this
    · refine sw0 (fun q => by have := (nI_leN (by omega) (by omega)).mp q; omega) ⟨in_nI (by omega) (by decide), ?_⟩
      rw [clam_nI (by omega)]
      refine pX0_in ⟨fun r => hb ⟨j, by omega, b2_0 r⟩, fun r x ex => ?_⟩
      rw [ex, nI_1]
      exact ih (j + 1) (by omega) (by omega) (fun i hi => by
        by_cases e2 : i = j
        · subst e2; exact b2_1 r
        · exact h3 i (by omega))
theorem c97_Br {Q : Int32 → (Nat → Int32) → Int64 → (Nat → Int64) → Int32 → Int32 → (Nat → Option Nat) → Prop} {g : Nat → Int32} {ro : Int64} {umc : Int32} {uf : Nat → Option Nat} {shf : Nat → Option Nat} {hd rn c m kc ks : Nat} {rf : Nat → Int32} {tk : Nat → Int64} {nz : Nat} (hnz : nz ≤ 10) (hc : c + m ≤ 36) (hv : ∀ j, j < m → okV (tk j)) (h : ∀ mc1 (f1 : Nat → Option Nat), (∀ j, f1 j = none ∨ f1 j = uf j) → Q (nI m) (layG g c tk m) (layR ro c tk m) tk mc1 0 f1) : ∀ (n j : Nat), j + n = m + 1 → j ≤ m → wX0_lay_Br_97 Q (nI c) (nI m) hd tk umc (nI nz) uf shf rf rn n (nI j) (layR ro c tk j) (layG g c tk j) kc ks := by
  intro n
  induction n with
  | zero => intro j h1 h2; omega
  | succ n ih =>
    intro j h1 h2
    unfold wX0_lay_Br_97
    by_cases e : j = m
    · subst e
      refine sw1 (Int32.le_refl _) ?_
      refine pJ2_clear hnz (fun mc1 f1 hf1 => ?_)
      exact h mc1 f1 hf1
    · refine sw0 (fun q => by have := (nI_leN (by omega) (by omega)).mp q; omega) ⟨in_nI (by omega) (by decide), ?_⟩
      rw [nI_add, bit_nI (by omega), clam_nI (by omega)]
      have q := okV_32 (hv j (by omega))
      refine pX1_becomes (small_bit (by omega)) q.1 (Int32.le_trans q.2 (by decide)) ?_
      intro x ex
      rw [ex, nI_1, bec_bit _ (by omega)]
      exact ih (j + 1) (by omega) (by omega)
theorem c61_Br {Q : Int32 → (Nat → Int32) → Int64 → (Nat → Int64) → Int32 → Int32 → (Nat → Option Nat) → Prop} {g : Nat → Int32} {ro : Int64} {umc : Int32} {uf : Nat → Option Nat} {shf : Nat → Option Nat} {hd rn c m kc ks : Nat} {rf : Nat → Int32} {tk : Nat → Int64} {nz : Nat} (hnz : nz ≤ 10) (hc : c + m ≤ 36) (hb : (∃ j, j < m ∧ ¬ okV (tk j)) → Q (-2) g ro tk umc (nI nz) uf) (h : (∀ j, j < m → okV (tk j)) → ∀ mc1 (f1 : Nat → Option Nat), (∀ j, f1 j = none ∨ f1 j = uf j) → Q (nI m) (layG g c tk m) (layR ro c tk m) tk mc1 0 f1) : ∀ (n j : Nat), j + n = m + 1 → j ≤ m → (∀ i, i < j → okV (tk i)) → wX0_lay_Br_61 Q (nI c) (nI m) hd ro g tk umc (nI nz) uf shf rf rn n (nI j) kc ks := by
  intro n
  induction n with
  | zero => intro j h1 h2; omega
  | succ n ih =>
    intro j h1 h2 h3
    unfold wX0_lay_Br_61
    by_cases e : j = m
    · subst e
      refine sw1 (Int32.le_refl _) ⟨j + 1, ?_⟩
      have := c97_Br (Q := Q) (g := g) (ro := ro) (umc := umc) (shf := shf) (hd := hd) (rn := rn) (kc := kc) (ks := ks) (rf := rf) hnz hc h3 (h h3) (j + 1) 0 (by omega) (by omega)
      rw [nI_0] at this
      exact this
    · refine sw0 (fun q => by have := (nI_leN (by omega) (by omega)).mp q; omega) ⟨in_nI (by omega) (by decide), ?_⟩
      rw [clam_nI (by omega)]
      refine pX0_in ⟨fun r => hb ⟨j, by omega, b2_0 r⟩, fun r x ex => ?_⟩
      rw [ex, nI_1]
      exact ih (j + 1) (by omega) (by omega) (fun i hi => by
        by_cases e2 : i = j
        · subst e2; exact b2_1 r
        · exact h3 i (by omega))
theorem c97_Se {Q : Int32 → (Nat → Int32) → Int64 → (Nat → Int64) → Int32 → Int32 → Prop} {g : Nat → Int32} {ro : Int64} {umc : Int32} {shf : Nat → Option Nat} {hd rn c m kc ks : Nat} {rf : Nat → Int32} {tk : Nat → Int64} (hc : c + m ≤ 36) (hv : ∀ j, j < m → okV (tk j)) (h : ∀ mc1, Q (nI m) (layG g c tk m) (layR ro c tk m) tk mc1 0) : ∀ (n j : Nat), j + n = m + 1 → j ≤ m → wX0_lay_Se_97 Q (nI c) (nI m) hd tk umc (nI 0) shf rf rn n (nI j) (layR ro c tk j) (layG g c tk j) kc ks := by
  intro n
  induction n with
  | zero => intro j h1 h2; omega
  | succ n ih =>
    intro j h1 h2
    unfold wX0_lay_Se_97
    by_cases e : j = m
    · subst e
      refine sw1 (Int32.le_refl _) ?_
      refine pJ2_clear_e (fun mc1 => ?_)
      exact h mc1
    · refine sw0 (fun q => by have := (nI_leN (by omega) (by omega)).mp q; omega) ⟨in_nI (by omega) (by decide), ?_⟩
      rw [nI_add, bit_nI (by omega), clam_nI (by omega)]
      have q := okV_32 (hv j (by omega))
      refine pX1_becomes (small_bit (by omega)) q.1 (Int32.le_trans q.2 (by decide)) ?_
      intro x ex
      rw [ex, nI_1, bec_bit _ (by omega)]
      exact ih (j + 1) (by omega) (by omega)
theorem c61_Se {Q : Int32 → (Nat → Int32) → Int64 → (Nat → Int64) → Int32 → Int32 → Prop} {g : Nat → Int32} {ro : Int64} {umc : Int32} {shf : Nat → Option Nat} {hd rn c m kc ks : Nat} {rf : Nat → Int32} {tk : Nat → Int64} (hc : c + m ≤ 36) (hb : (∃ j, j < m ∧ ¬ okV (tk j)) → Q (-2) g ro tk umc (nI 0)) (h : (∀ j, j < m → okV (tk j)) → ∀ mc1, Q (nI m) (layG g c tk m) (layR ro c tk m) tk mc1 0) : ∀ (n j : Nat), j + n = m + 1 → j ≤ m → (∀ i, i < j → okV (tk i)) → wX0_lay_Se_61 Q (nI c) (nI m) hd ro g tk umc (nI 0) shf rf rn n (nI j) kc ks := by
  intro n
  induction n with
  | zero => intro j h1 h2; omega
  | succ n ih =>
    intro j h1 h2 h3
    unfold wX0_lay_Se_61
    by_cases e : j = m
    · subst e
      refine sw1 (Int32.le_refl _) ⟨j + 1, ?_⟩
      have := c97_Se (Q := Q) (g := g) (ro := ro) (umc := umc) (shf := shf) (hd := hd) (rn := rn) (kc := kc) (ks := ks) (rf := rf) hc h3 (h h3) (j + 1) 0 (by omega) (by omega)
      rw [nI_0] at this
      exact this
    · refine sw0 (fun q => by have := (nI_leN (by omega) (by omega)).mp q; omega) ⟨in_nI (by omega) (by decide), ?_⟩
      rw [clam_nI (by omega)]
      refine pX0_in ⟨fun r => hb ⟨j, by omega, b2_0 r⟩, fun r x ex => ?_⟩
      rw [ex, nI_1]
      exact ih (j + 1) (by omega) (by omega) (fun i hi => by
        by_cases e2 : i = j
        · subst e2; exact b2_1 r
        · exact h3 i (by omega))
theorem c97_Sr {Q : Int32 → (Nat → Int32) → Int64 → (Nat → Int64) → Int32 → Int32 → (Nat → Option Nat) → Prop} {g : Nat → Int32} {ro : Int64} {umc : Int32} {uf : Nat → Option Nat} {shf : Nat → Option Nat} {hd rn c m kc ks : Nat} {rf : Nat → Int32} {tk : Nat → Int64} {nz : Nat} (hnz : nz ≤ 10) (hc : c + m ≤ 36) (hv : ∀ j, j < m → okV (tk j)) (h : ∀ mc1 (f1 : Nat → Option Nat), (∀ j, f1 j = none ∨ f1 j = uf j) → Q (nI m) (layG g c tk m) (layR ro c tk m) tk mc1 0 f1) : ∀ (n j : Nat), j + n = m + 1 → j ≤ m → wX0_lay_Sr_97 Q (nI c) (nI m) hd tk umc (nI nz) uf shf rf rn n (nI j) (layR ro c tk j) (layG g c tk j) kc ks := by
  intro n
  induction n with
  | zero => intro j h1 h2; omega
  | succ n ih =>
    intro j h1 h2
    unfold wX0_lay_Sr_97
    by_cases e : j = m
    · subst e
      refine sw1 (Int32.le_refl _) ?_
      refine pJ2_clear hnz (fun mc1 f1 hf1 => ?_)
      exact h mc1 f1 hf1
    · refine sw0 (fun q => by have := (nI_leN (by omega) (by omega)).mp q; omega) ⟨in_nI (by omega) (by decide), ?_⟩
      rw [nI_add, bit_nI (by omega), clam_nI (by omega)]
      have q := okV_32 (hv j (by omega))
      refine pX1_becomes (small_bit (by omega)) q.1 (Int32.le_trans q.2 (by decide)) ?_
      intro x ex
      rw [ex, nI_1, bec_bit _ (by omega)]
      exact ih (j + 1) (by omega) (by omega)
theorem c61_Sr {Q : Int32 → (Nat → Int32) → Int64 → (Nat → Int64) → Int32 → Int32 → (Nat → Option Nat) → Prop} {g : Nat → Int32} {ro : Int64} {umc : Int32} {uf : Nat → Option Nat} {shf : Nat → Option Nat} {hd rn c m kc ks : Nat} {rf : Nat → Int32} {tk : Nat → Int64} {nz : Nat} (hnz : nz ≤ 10) (hc : c + m ≤ 36) (hb : (∃ j, j < m ∧ ¬ okV (tk j)) → Q (-2) g ro tk umc (nI nz) uf) (h : (∀ j, j < m → okV (tk j)) → ∀ mc1 (f1 : Nat → Option Nat), (∀ j, f1 j = none ∨ f1 j = uf j) → Q (nI m) (layG g c tk m) (layR ro c tk m) tk mc1 0 f1) : ∀ (n j : Nat), j + n = m + 1 → j ≤ m → (∀ i, i < j → okV (tk i)) → wX0_lay_Sr_61 Q (nI c) (nI m) hd ro g tk umc (nI nz) uf shf rf rn n (nI j) kc ks := by
  intro n
  induction n with
  | zero => intro j h1 h2; omega
  | succ n ih =>
    intro j h1 h2 h3
    unfold wX0_lay_Sr_61
    by_cases e : j = m
    · subst e
      refine sw1 (Int32.le_refl _) ⟨j + 1, ?_⟩
      have := c97_Sr (Q := Q) (g := g) (ro := ro) (umc := umc) (shf := shf) (hd := hd) (rn := rn) (kc := kc) (ks := ks) (rf := rf) hnz hc h3 (h h3) (j + 1) 0 (by omega) (by omega)
      rw [nI_0] at this
      exact this
    · refine sw0 (fun q => by have := (nI_leN (by omega) (by omega)).mp q; omega) ⟨in_nI (by omega) (by decide), ?_⟩
      rw [clam_nI (by omega)]
      refine pX0_in ⟨fun r => hb ⟨j, by omega, b2_0 r⟩, fun r x ex => ?_⟩
      rw [ex, nI_1]
      exact ih (j + 1) (by omega) (by omega) (fun i hi => by
        by_cases e2 : i = j
        · subst e2; exact b2_1 r
        · exact h3 i (by omega))
theorem c97_Ie {Q : Int32 → (Nat → Int32) → Int64 → (Nat → Int64) → Int32 → Int32 → Prop} {g : Nat → Int32} {ro : Int64} {umc : Int32} {shf : Nat → Option Nat} {hd rn c m kc ks : Nat} {rf : Nat → Int32} {tk : Nat → Int64} (hc : c + m ≤ 36) (hv : ∀ j, j < m → okV (tk j)) (h : ∀ mc1, Q (nI m) (layG g c tk m) (layR ro c tk m) tk mc1 0) : ∀ (n j : Nat), j + n = m + 1 → j ≤ m → wX0_lay_Ie_97 Q (nI c) (nI m) hd tk umc (nI 0) shf rf rn n (nI j) (layR ro c tk j) (layG g c tk j) kc ks := by
  intro n
  induction n with
  | zero => intro j h1 h2; omega
  | succ n ih =>
    intro j h1 h2
    unfold wX0_lay_Ie_97
    by_cases e : j = m
    · subst e
      refine sw1 (Int32.le_refl _) ?_
      refine pJ2_clear_e (fun mc1 => ?_)
      exact h mc1
    · refine sw0 (fun q => by have := (nI_leN (by omega) (by omega)).mp q; omega) ⟨in_nI (by omega) (by decide), ?_⟩
      rw [nI_add, bit_nI (by omega), clam_nI (by omega)]
      have q := okV_32 (hv j (by omega))
      refine pX1_becomes (small_bit (by omega)) q.1 (Int32.le_trans q.2 (by decide)) ?_
      intro x ex
      rw [ex, nI_1, bec_bit _ (by omega)]
      exact ih (j + 1) (by omega) (by omega)
theorem c61_Ie {Q : Int32 → (Nat → Int32) → Int64 → (Nat → Int64) → Int32 → Int32 → Prop} {g : Nat → Int32} {ro : Int64} {umc : Int32} {shf : Nat → Option Nat} {hd rn c m kc ks : Nat} {rf : Nat → Int32} {tk : Nat → Int64} (hc : c + m ≤ 36) (hb : (∃ j, j < m ∧ ¬ okV (tk j)) → Q (-2) g ro tk umc (nI 0)) (h : (∀ j, j < m → okV (tk j)) → ∀ mc1, Q (nI m) (layG g c tk m) (layR ro c tk m) tk mc1 0) : ∀ (n j : Nat), j + n = m + 1 → j ≤ m → (∀ i, i < j → okV (tk i)) → wX0_lay_Ie_61 Q (nI c) (nI m) hd ro g tk umc (nI 0) shf rf rn n (nI j) kc ks := by
  intro n
  induction n with
  | zero => intro j h1 h2; omega
  | succ n ih =>
    intro j h1 h2 h3
    unfold wX0_lay_Ie_61
    by_cases e : j = m
    · subst e
      refine sw1 (Int32.le_refl _) ⟨j + 1, ?_⟩
      have := c97_Ie (Q := Q) (g := g) (ro := ro) (umc := umc) (shf := shf) (hd := hd) (rn := rn) (kc := kc) (ks := ks) (rf := rf) hc h3 (h h3) (j + 1) 0 (by omega) (by omega)
      rw [nI_0] at this
      exact this
    · refine sw0 (fun q => by have := (nI_leN (by omega) (by omega)).mp q; omega) ⟨in_nI (by omega) (by decide), ?_⟩
      rw [clam_nI (by omega)]
      refine pX0_in ⟨fun r => hb ⟨j, by omega, b2_0 r⟩, fun r x ex => ?_⟩
      rw [ex, nI_1]
      exact ih (j + 1) (by omega) (by omega) (fun i hi => by
        by_cases e2 : i = j
        · subst e2; exact b2_1 r
        · exact h3 i (by omega))
theorem c97_Ir {Q : Int32 → (Nat → Int32) → Int64 → (Nat → Int64) → Int32 → Int32 → (Nat → Option Nat) → Prop} {g : Nat → Int32} {ro : Int64} {umc : Int32} {uf : Nat → Option Nat} {shf : Nat → Option Nat} {hd rn c m kc ks : Nat} {rf : Nat → Int32} {tk : Nat → Int64} {nz : Nat} (hnz : nz ≤ 10) (hc : c + m ≤ 36) (hv : ∀ j, j < m → okV (tk j)) (h : ∀ mc1 (f1 : Nat → Option Nat), (∀ j, f1 j = none ∨ f1 j = uf j) → Q (nI m) (layG g c tk m) (layR ro c tk m) tk mc1 0 f1) : ∀ (n j : Nat), j + n = m + 1 → j ≤ m → wX0_lay_Ir_97 Q (nI c) (nI m) hd tk umc (nI nz) uf shf rf rn n (nI j) (layR ro c tk j) (layG g c tk j) kc ks := by
  intro n
  induction n with
  | zero => intro j h1 h2; omega
  | succ n ih =>
    intro j h1 h2
    unfold wX0_lay_Ir_97
    by_cases e : j = m
    · subst e
      refine sw1 (Int32.le_refl _) ?_
      refine pJ2_clear hnz (fun mc1 f1 hf1 => ?_)
      exact h mc1 f1 hf1
    · refine sw0 (fun q => by have := (nI_leN (by omega) (by omega)).mp q; omega) ⟨in_nI (by omega) (by decide), ?_⟩
      rw [nI_add, bit_nI (by omega), clam_nI (by omega)]
      have q := okV_32 (hv j (by omega))
      refine pX1_becomes (small_bit (by omega)) q.1 (Int32.le_trans q.2 (by decide)) ?_
      intro x ex
      rw [ex, nI_1, bec_bit _ (by omega)]
      exact ih (j + 1) (by omega) (by omega)
theorem c61_Ir {Q : Int32 → (Nat → Int32) → Int64 → (Nat → Int64) → Int32 → Int32 → (Nat → Option Nat) → Prop} {g : Nat → Int32} {ro : Int64} {umc : Int32} {uf : Nat → Option Nat} {shf : Nat → Option Nat} {hd rn c m kc ks : Nat} {rf : Nat → Int32} {tk : Nat → Int64} {nz : Nat} (hnz : nz ≤ 10) (hc : c + m ≤ 36) (hb : (∃ j, j < m ∧ ¬ okV (tk j)) → Q (-2) g ro tk umc (nI nz) uf) (h : (∀ j, j < m → okV (tk j)) → ∀ mc1 (f1 : Nat → Option Nat), (∀ j, f1 j = none ∨ f1 j = uf j) → Q (nI m) (layG g c tk m) (layR ro c tk m) tk mc1 0 f1) : ∀ (n j : Nat), j + n = m + 1 → j ≤ m → (∀ i, i < j → okV (tk i)) → wX0_lay_Ir_61 Q (nI c) (nI m) hd ro g tk umc (nI nz) uf shf rf rn n (nI j) kc ks := by
  intro n
  induction n with
  | zero => intro j h1 h2; omega
  | succ n ih =>
    intro j h1 h2 h3
    unfold wX0_lay_Ir_61
    by_cases e : j = m
    · subst e
      refine sw1 (Int32.le_refl _) ⟨j + 1, ?_⟩
      have := c97_Ir (Q := Q) (g := g) (ro := ro) (umc := umc) (shf := shf) (hd := hd) (rn := rn) (kc := kc) (ks := ks) (rf := rf) hnz hc h3 (h h3) (j + 1) 0 (by omega) (by omega)
      rw [nI_0] at this
      exact this
    · refine sw0 (fun q => by have := (nI_leN (by omega) (by omega)).mp q; omega) ⟨in_nI (by omega) (by decide), ?_⟩
      rw [clam_nI (by omega)]
      refine pX0_in ⟨fun r => hb ⟨j, by omega, b2_0 r⟩, fun r x ex => ?_⟩
      rw [ex, nI_1]
      exact ih (j + 1) (by omega) (by omega) (fun i hi => by
        by_cases e2 : i = j
        · subst e2; exact b2_1 r
        · exact h3 i (by omega))
theorem c97_Je {Q : Int32 → (Nat → Int32) → Int64 → (Nat → Int64) → Int32 → Int32 → Prop} {g : Nat → Int32} {ro : Int64} {umc : Int32} {shf : Nat → Option Nat} {hd rn c m kc ks : Nat} {rf : Nat → Int64} {tk : Nat → Int64} (hc : c + m ≤ 36) (hv : ∀ j, j < m → okV (tk j)) (h : ∀ mc1, Q (nI m) (layG g c tk m) (layR ro c tk m) tk mc1 0) : ∀ (n j : Nat), j + n = m + 1 → j ≤ m → wX0_lay_Je_97 Q (nI c) (nI m) hd tk umc (nI 0) shf rf rn n (nI j) (layR ro c tk j) (layG g c tk j) kc ks := by
  intro n
  induction n with
  | zero => intro j h1 h2; omega
  | succ n ih =>
    intro j h1 h2
    unfold wX0_lay_Je_97
    by_cases e : j = m
    · subst e
      refine sw1 (Int32.le_refl _) ?_
      refine pJ2_clear_e (fun mc1 => ?_)
      exact h mc1
    · refine sw0 (fun q => by have := (nI_leN (by omega) (by omega)).mp q; omega) ⟨in_nI (by omega) (by decide), ?_⟩
      rw [nI_add, bit_nI (by omega), clam_nI (by omega)]
      have q := okV_32 (hv j (by omega))
      refine pX1_becomes (small_bit (by omega)) q.1 (Int32.le_trans q.2 (by decide)) ?_
      intro x ex
      rw [ex, nI_1, bec_bit _ (by omega)]
      exact ih (j + 1) (by omega) (by omega)
theorem c61_Je {Q : Int32 → (Nat → Int32) → Int64 → (Nat → Int64) → Int32 → Int32 → Prop} {g : Nat → Int32} {ro : Int64} {umc : Int32} {shf : Nat → Option Nat} {hd rn c m kc ks : Nat} {rf : Nat → Int64} {tk : Nat → Int64} (hc : c + m ≤ 36) (hb : (∃ j, j < m ∧ ¬ okV (tk j)) → Q (-2) g ro tk umc (nI 0)) (h : (∀ j, j < m → okV (tk j)) → ∀ mc1, Q (nI m) (layG g c tk m) (layR ro c tk m) tk mc1 0) : ∀ (n j : Nat), j + n = m + 1 → j ≤ m → (∀ i, i < j → okV (tk i)) → wX0_lay_Je_61 Q (nI c) (nI m) hd ro g tk umc (nI 0) shf rf rn n (nI j) kc ks := by
  intro n
  induction n with
  | zero => intro j h1 h2; omega
  | succ n ih =>
    intro j h1 h2 h3
    unfold wX0_lay_Je_61
    by_cases e : j = m
    · subst e
      refine sw1 (Int32.le_refl _) ⟨j + 1, ?_⟩
      have := c97_Je (Q := Q) (g := g) (ro := ro) (umc := umc) (shf := shf) (hd := hd) (rn := rn) (kc := kc) (ks := ks) (rf := rf) hc h3 (h h3) (j + 1) 0 (by omega) (by omega)
      rw [nI_0] at this
      exact this
    · refine sw0 (fun q => by have := (nI_leN (by omega) (by omega)).mp q; omega) ⟨in_nI (by omega) (by decide), ?_⟩
      rw [clam_nI (by omega)]
      refine pX0_in ⟨fun r => hb ⟨j, by omega, b2_0 r⟩, fun r x ex => ?_⟩
      rw [ex, nI_1]
      exact ih (j + 1) (by omega) (by omega) (fun i hi => by
        by_cases e2 : i = j
        · subst e2; exact b2_1 r
        · exact h3 i (by omega))
theorem c97_Jr {Q : Int32 → (Nat → Int32) → Int64 → (Nat → Int64) → Int32 → Int32 → (Nat → Option Nat) → Prop} {g : Nat → Int32} {ro : Int64} {umc : Int32} {uf : Nat → Option Nat} {shf : Nat → Option Nat} {hd rn c m kc ks : Nat} {rf : Nat → Int64} {tk : Nat → Int64} {nz : Nat} (hnz : nz ≤ 10) (hc : c + m ≤ 36) (hv : ∀ j, j < m → okV (tk j)) (h : ∀ mc1 (f1 : Nat → Option Nat), (∀ j, f1 j = none ∨ f1 j = uf j) → Q (nI m) (layG g c tk m) (layR ro c tk m) tk mc1 0 f1) : ∀ (n j : Nat), j + n = m + 1 → j ≤ m → wX0_lay_Jr_97 Q (nI c) (nI m) hd tk umc (nI nz) uf shf rf rn n (nI j) (layR ro c tk j) (layG g c tk j) kc ks := by
  intro n
  induction n with
  | zero => intro j h1 h2; omega
  | succ n ih =>
    intro j h1 h2
    unfold wX0_lay_Jr_97
    by_cases e : j = m
    · subst e
      refine sw1 (Int32.le_refl _) ?_
      refine pJ2_clear hnz (fun mc1 f1 hf1 => ?_)
      exact h mc1 f1 hf1
    · refine sw0 (fun q => by have := (nI_leN (by omega) (by omega)).mp q; omega) ⟨in_nI (by omega) (by decide), ?_⟩
      rw [nI_add, bit_nI (by omega), clam_nI (by omega)]
      have q := okV_32 (hv j (by omega))
      refine pX1_becomes (small_bit (by omega)) q.1 (Int32.le_trans q.2 (by decide)) ?_
      intro x ex
      rw [ex, nI_1, bec_bit _ (by omega)]
      exact ih (j + 1) (by omega) (by omega)
theorem c61_Jr {Q : Int32 → (Nat → Int32) → Int64 → (Nat → Int64) → Int32 → Int32 → (Nat → Option Nat) → Prop} {g : Nat → Int32} {ro : Int64} {umc : Int32} {uf : Nat → Option Nat} {shf : Nat → Option Nat} {hd rn c m kc ks : Nat} {rf : Nat → Int64} {tk : Nat → Int64} {nz : Nat} (hnz : nz ≤ 10) (hc : c + m ≤ 36) (hb : (∃ j, j < m ∧ ¬ okV (tk j)) → Q (-2) g ro tk umc (nI nz) uf) (h : (∀ j, j < m → okV (tk j)) → ∀ mc1 (f1 : Nat → Option Nat), (∀ j, f1 j = none ∨ f1 j = uf j) → Q (nI m) (layG g c tk m) (layR ro c tk m) tk mc1 0 f1) : ∀ (n j : Nat), j + n = m + 1 → j ≤ m → (∀ i, i < j → okV (tk i)) → wX0_lay_Jr_61 Q (nI c) (nI m) hd ro g tk umc (nI nz) uf shf rf rn n (nI j) kc ks := by
  intro n
  induction n with
  | zero => intro j h1 h2; omega
  | succ n ih =>
    intro j h1 h2 h3
    unfold wX0_lay_Jr_61
    by_cases e : j = m
    · subst e
      refine sw1 (Int32.le_refl _) ⟨j + 1, ?_⟩
      have := c97_Jr (Q := Q) (g := g) (ro := ro) (umc := umc) (shf := shf) (hd := hd) (rn := rn) (kc := kc) (ks := ks) (rf := rf) hnz hc h3 (h h3) (j + 1) 0 (by omega) (by omega)
      rw [nI_0] at this
      exact this
    · refine sw0 (fun q => by have := (nI_leN (by omega) (by omega)).mp q; omega) ⟨in_nI (by omega) (by decide), ?_⟩
      rw [clam_nI (by omega)]
      refine pX0_in ⟨fun r => hb ⟨j, by omega, b2_0 r⟩, fun r x ex => ?_⟩
      rw [ex, nI_1]
      exact ih (j + 1) (by omega) (by omega) (fun i hi => by
        by_cases e2 : i = j
        · subst e2; exact b2_1 r
        · exact h3 i (by omega))
