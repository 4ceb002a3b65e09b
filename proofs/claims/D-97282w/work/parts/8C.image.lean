/-! IMAGE AND RESTORE: the plain law -/
theorem upd_same (f : Nat → Int32) (k : Nat) : upd f k (f k) = f := by
  funext j
  unfold upd
  split
  · rename_i e; rw [e]
  · rfl
/-- what the model carries at k -/
def carV (dep own und : Nat → Int32) (rate um dr : Int32) (k : Nat) : Int32 := if k < 36 then dep k else if k < 72 then own (k - 36) else if k < 102 then und (k - 72) else if k = 102 then rate else if k = 103 then um else dr
theorem car_mod {k : Nat} (h : k < 72) : (nI k - nI k / 36 * 36 : Int32) = nI (k % 36) := by
  rw [show (36 : Int32) = nI 36 from rfl, nI_div (by omega) (by decide), nI_mulN, nI_subN (Nat.div_mul_le_self k 36)]
  congr 1
  omega
theorem mCar0 {Q : Int32 → (Nat → Int32) → (Nat → Int32) → Int32 → (Nat → Int32) → Int32 → Int32 → Prop} {dep own und : Nat → Int32} {rate um dr : Int32} {k : Nat} (hk : k < 105) (h : Q (carV dep own und rate um dr k) dep own rate und um dr) : wX3_carried Q dep own rate und um dr (nI k) 0 0 := by
  unfold wX3_carried
  by_cases h72 : k < 72
  · refine sw0 (fun q => by have := (nI_leN (a := 72) (by decide) (by omega)).mp q; omega) ?_
    intro x ex
    rw [car_mod h72] at ex
    subst ex
    have hm : k % 36 < 36 := Nat.mod_lt _ (by decide)
    refine sw1 rfl ⟨in_nI hm (by decide), ?_⟩
    unfold wX3_carried_39
    refine ⟨in_nI hm (by decide), ?_⟩
    intro d ed
    rw [clam_nI (by omega), upd_same] at ed
    subst ed
    refine sw1 rfl ⟨in_nI hm (by decide), ?_⟩
    unfold wX3_carried_67
    refine ⟨in_nI hm (by decide), ?_⟩
    intro o eo
    rw [clam_nI (by omega), upd_same] at eo
    subst eo
    unfold carV at h
    by_cases h36 : k < 36
    · rw [if_pos h36] at h
      refine sw0 (fun q => by have := (nI_leN (a := 36) (by decide) (by omega)).mp q; omega) ⟨in_nI hm (by decide), ?_⟩
      rw [clam_nI (by omega), Nat.mod_eq_of_lt h36]
      exact h
    · rw [if_neg h36, if_pos h72] at h
      refine sw1 ((nI_leN (a := 36) (by decide) (by omega)).mpr (by omega)) ⟨in_nI hm (by decide), ?_⟩
      rw [clam_nI (by omega), show k % 36 = k - 36 by omega]
      exact h
  · refine sw1 ((nI_leN (a := 72) (by decide) (by omega)).mpr (by omega)) ?_
    unfold carV at h
    rw [if_neg (by omega), if_neg h72] at h
    by_cases h102 : k < 102
    · rw [if_pos h102] at h
      have e72 : (nI k - 72 : Int32) = nI (k - 72) := by rw [show (72 : Int32) = nI 72 from rfl, nI_subN (by omega)]
      refine sw0 (fun q => by have := (nI_leN (a := 102) (by decide) (by omega)).mp q; omega) (sw1 rfl ?_)
      rw [e72]
      refine ⟨in_nI (by omega) (by decide), ?_⟩
      unfold wX3_carried_123
      refine ⟨in_nI (by omega) (by decide), ?_⟩
      intro u eu
      rw [clam_nI (by omega), upd_same] at eu
      subst eu
      rw [e72]
      refine ⟨in_nI (by omega) (by decide), ?_⟩
      rw [clam_nI (by omega)]
      exact h
    · rw [if_neg h102] at h
      refine sw1 ((nI_leN (a := 102) (by decide) (by omega)).mpr (by omega)) (sw1 rfl ?_)
      unfold wX3_carried_153
      refine sw1 rfl ?_
      unfold wX3_carried_175
      refine sw1 rfl ?_
      unfold wX3_carried_197
      rcases (show k = 102 ∨ k = 103 ∨ k = 104 by omega) with e | e | e <;> subst e
      · exact sw1 rfl h
      · exact sw0 (by decide) (sw1 rfl h)
      · exact sw0 (by decide) (sw0 (by decide) h)
theorem mImage {Q : Int32 → (Nat → Int32) → (Nat → Int32) → Int32 → (Nat → Int32) → Int32 → Int32 → Int32 → Int64 → (Nat → Int32) → Prop} {dep own und kept : Nat → Int32} {rate um dr ik : Int32} {roofs kr : Int64} (h : ∀ kept' : Nat → Int32, (∀ i, i < 105 → kept' i = carV dep own und rate um dr i) → Q 1 dep own rate und um dr 1 roofs kept') : wX3_image Q dep own roofs rate und um dr ik kr kept := by
  unfold wX3_image
  have key : ∀ (n j : Nat) (kp : Nat → Int32), j + n = 106 → j ≤ 105 → (∀ i, i < j → kp i = carV dep own und rate um dr i) → wX3_image_2 Q roofs ik kr n (nI j) dep own rate und um dr kp := by
    intro n
    induction n with
    | zero => intro j kp h1 h2; omega
    | succ n ih =>
      intro j kp h1 h2 h3
      unfold wX3_image_2
      by_cases e : j = 105
      · subst e
        exact sw1 (by decide) (h kp h3)
      · refine sw0 (fun q => by have := (nI_leN (a := 105) (by decide) (by omega)).mp q; omega) ?_
        refine mCar0 (by omega) ⟨in_nI (by omega) (by decide), ?_⟩
        intro kp2 e2 x ex
        rw [clam_nI (by omega)] at e2
        rw [ex, nI_1]
        refine ih (j + 1) kp2 (by omega) (by omega) (fun i hi => ?_)
        rw [e2]
        by_cases e3 : i = j
        · subst e3
          exact if_pos rfl
        · rw [upd_ne e3]
          exact h3 i (by omega)
  refine ⟨106, ?_⟩
  have := key 106 0 kept rfl (by decide) (fun i hi => absurd hi (Nat.not_lt_zero i))
  rw [nI_0] at this
  exact this
theorem mCar1 {Q : Int32 → (Nat → Int32) → (Nat → Int32) → Int32 → (Nat → Int32) → Int32 → Int32 → Prop} {dep own und : Nat → Int32} {rate um dr v : Int32} {k : Nat} (hk : k < 105) (h : ∀ r, Q r (if k < 36 then upd dep k v else dep) (if k < 36 then own else if k < 72 then upd own (k - 36) v else own) (if k = 102 then v else rate) (if k < 72 then und else if k < 102 then upd und (k - 72) v else und) (if k = 103 then v else um) (if k = 104 then v else dr)) : wX3_carried Q dep own rate und um dr (nI k) v 1 := by
  unfold wX3_carried
  by_cases h72 : k < 72
  · refine sw0 (fun q => by have := (nI_leN (a := 72) (by decide) (by omega)).mp q; omega) ?_
    intro x ex
    rw [car_mod h72] at ex
    subst ex
    have hm : k % 36 < 36 := Nat.mod_lt _ (by decide)
    refine sw0 (by decide) ?_
    by_cases h36 : k < 36
    · simp only [h36, h72, if_true, ↓reduceIte, show ¬ k = 102 by omega, show ¬ k = 103 by omega, show ¬ k = 104 by omega] at h
      refine sw0 (fun q => by have := (nI_leN (a := 36) (by decide) (by omega)).mp q; omega) ?_
      unfold wX3_carried_39
      refine ⟨in_nI hm (by decide), ?_⟩
      intro d ed
      rw [clam_nI (by omega), Nat.mod_eq_of_lt h36] at ed
      subst ed
      refine sw0 (by decide) (sw1 ((nI_ltN (b := 36) (by omega) (by decide)).mpr h36) ⟨in_nI hm (by decide), ?_⟩)
      unfold wX3_carried_67
      refine ⟨in_nI hm (by decide), ?_⟩
      intro o eo
      rw [clam_nI (by omega), upd_same] at eo
      subst eo
      exact sw0 (fun q => by have := (nI_leN (a := 36) (by decide) (by omega)).mp q; omega) ⟨in_nI hm (by decide), h _⟩
    · simp only [h36, h72, if_true, ↓reduceIte, show ¬ k = 102 by omega, show ¬ k = 103 by omega, show ¬ k = 104 by omega] at h
      refine sw1 ((nI_leN (a := 36) (by decide) (by omega)).mpr (by omega)) ⟨in_nI hm (by decide), ?_⟩
      unfold wX3_carried_39
      refine ⟨in_nI hm (by decide), ?_⟩
      intro d ed
      rw [clam_nI (by omega), upd_same] at ed
      subst ed
      refine sw0 (by decide) (sw0 (fun q => h36 ((nI_ltN (b := 36) (by omega) (by decide)).mp q)) ?_)
      unfold wX3_carried_67
      refine ⟨in_nI hm (by decide), ?_⟩
      intro o eo
      rw [clam_nI (by omega), show k % 36 = k - 36 by omega] at eo
      subst eo
      exact sw1 ((nI_leN (a := 36) (by decide) (by omega)).mpr (by omega)) ⟨in_nI hm (by decide), h _⟩
  · refine sw1 ((nI_leN (a := 72) (by decide) (by omega)).mpr (by omega)) ?_
    by_cases h102 : k < 102
    · simp only [show ¬ k < 36 by omega, h72, h102, if_true, ↓reduceIte, show ¬ k = 102 by omega, show ¬ k = 103 by omega, show ¬ k = 104 by omega] at h
      have e72 : (nI k - 72 : Int32) = nI (k - 72) := by rw [show (72 : Int32) = nI 72 from rfl, nI_subN (by omega)]
      refine sw0 (fun q => by have := (nI_leN (a := 102) (by decide) (by omega)).mp q; omega) (sw0 (by decide) ?_)
      rw [e72]
      unfold wX3_carried_123
      refine ⟨in_nI (by omega) (by decide), ?_⟩
      intro u eu
      rw [clam_nI (by omega)] at eu
      subst eu
      rw [e72]
      exact ⟨in_nI (by omega) (by decide), h _⟩
    · refine sw1 ((nI_leN (a := 102) (by decide) (by omega)).mpr (by omega)) (sw0 (by decide) ?_)
      rcases (show k = 102 ∨ k = 103 ∨ k = 104 by omega) with e | e | e <;> subst e
      · refine sw1 rfl ?_
        unfold wX3_carried_153
        refine sw0 (by decide) (sw0 (by decide) ?_)
        unfold wX3_carried_175
        refine sw0 (by decide) (sw0 (by decide) ?_)
        unfold wX3_carried_197
        exact sw1 rfl (h _)
      · refine sw0 (by decide) ?_
        unfold wX3_carried_153
        refine sw0 (by decide) (sw1 rfl ?_)
        unfold wX3_carried_175
        refine sw0 (by decide) (sw0 (by decide) ?_)
        unfold wX3_carried_197
        exact sw0 (by decide) (sw1 rfl (h _))
      · refine sw0 (by decide) ?_
        unfold wX3_carried_153
        refine sw0 (by decide) (sw0 (by decide) ?_)
        unfold wX3_carried_175
        refine sw0 (by decide) (sw1 rfl ?_)
        unfold wX3_carried_197
        exact sw0 (by decide) (sw0 (by decide) (h _))
/-- what was carried has come back, as far as j -/
def backV (kept dep own und : Nat → Int32) (rate um dr : Int32) (j : Nat) : Prop := (∀ i, i < 36 → i < j → dep i = kept i) ∧ (∀ i, i < 36 → 36 + i < j → own i = kept (36 + i)) ∧ (∀ i, i < 30 → 72 + i < j → und i = kept (72 + i)) ∧ (102 < j → rate = kept 102) ∧ (103 < j → um = kept 103) ∧ (104 < j → dr = kept 104)
theorem backV_step {kept dep own und : Nat → Int32} {rate um dr : Int32} {k : Nat} (h : backV kept dep own und rate um dr k) : backV kept (if k < 36 then upd dep k (kept k) else dep) (if k < 36 then own else if k < 72 then upd own (k - 36) (kept k) else own) (if k < 72 then und else if k < 102 then upd und (k - 72) (kept k) else und) (if k = 102 then kept k else rate) (if k = 103 then kept k else um) (if k = 104 then kept k else dr) (k + 1) := by
  obtain ⟨h1, h2, h3, h4, h5, h6⟩ := h
  refine ⟨fun i a c => ?_, fun i a c => ?_, fun i a c => ?_, fun c => ?_, fun c => ?_, fun c => ?_⟩
  · split
    · by_cases e : i = k
      · subst e; exact upd_at
      · rw [upd_ne e]; exact h1 i a (by omega)
    · exact h1 i a (by omega)
  · split
    · exact h2 i a (by omega)
    · split
      · by_cases e : i = k - 36
        · subst e; rw [upd_at, show 36 + (k - 36) = k by omega]
        · rw [upd_ne e]; exact h2 i a (by omega)
      · exact h2 i a (by omega)
  · split
    · exact h3 i a (by omega)
    · split
      · by_cases e : i = k - 72
        · subst e; rw [upd_at, show 72 + (k - 72) = k by omega]
        · rw [upd_ne e]; exact h3 i a (by omega)
      · exact h3 i a (by omega)
  · split
    · rename_i e; rw [e]
    · exact h4 (by omega)
  · split
    · rename_i e; rw [e]
    · exact h5 (by omega)
  · split
    · rename_i e; rw [e]
    · exact h6 (by omega)
theorem mRestore {Q : Int32 → (Nat → Int32) → (Nat → Int32) → Int64 → Int32 → (Nat → Int32) → Int32 → Int32 → Prop} {dep own und kept : Nat → Int32} {rate um dr ik : Int32} {roofs kr : Int64} (hik : ¬ ik = 0) (h : ∀ (dep' own' und' : Nat → Int32) (rate' um' dr' : Int32), backV kept dep' own' und' rate' um' dr' 105 → Q 1 dep' own' kr rate' und' um' dr') : wX3_restore Q dep own roofs rate und um dr ik kr kept := by
  unfold wX3_restore
  refine sw0 hik ?_
  have key : ∀ (n j : Nat) (dep own und : Nat → Int32) (rate um dr : Int32), j + n = 106 → j ≤ 105 → backV kept dep own und rate um dr j → wX3_restore_12 Q roofs ik kr kept n (nI j) dep own rate und um dr := by
    intro n
    induction n with
    | zero => intro j _ _ _ _ _ _ h1 h2; omega
    | succ n ih =>
      intro j dep own und rate um dr h1 h2 h3
      unfold wX3_restore_12
      by_cases e : j = 105
      · subst e
        exact sw1 (by decide) (h _ _ _ _ _ _ h3)
      · refine sw0 (fun q => by have := (nI_leN (a := 105) (by decide) (by omega)).mp q; omega) ⟨in_nI (by omega) (by decide), ?_⟩
        rw [clam_nI (by omega)]
        refine mCar1 (by omega) (fun r => ?_)
        intro x ex
        rw [ex, nI_1]
        exact ih (j + 1) _ _ _ _ _ _ (by omega) (by omega) (backV_step h3)
  refine ⟨106, ?_⟩
  have := key 106 0 dep own und rate um dr rfl (by decide) ⟨fun i _ a => absurd a (Nat.not_lt_zero i), fun i _ a => absurd a (Nat.not_lt_zero _), fun i _ a => absurd a (Nat.not_lt_zero _), fun a => absurd a (Nat.not_lt_zero _), fun a => absurd a (Nat.not_lt_zero _), fun a => absurd a (Nat.not_lt_zero _)⟩
  rw [nI_0] at this
  exact this
theorem cTake {R : (Nat → Int32) → Int64 → Int32 → (Nat → Int32) → Prop} {imd gd owners iown : Nat → Int32} {imro gro : Int64} {imrt grt : Int32} (hd : okD gd) (ho : okO owners) (h : ∀ d' io' : Nat → Int32, agree 36 d' gd → agree 36 io' owners → R d' gro grt io') : wX1_takes (fun d ro rt => ((∀ i, i < (36 : Int32).toNatClampNeg → fits .byte (.int (owners ((0 : Int32).toNatClampNeg + i))) = true) ∧ (∀ io : Nat → Int32, io = (va_cpy owners iown (0 : Int32).toNatClampNeg (0 : Int32).toNatClampNeg (36 : Int32).toNatClampNeg) → R d ro rt io))) imd imro imrt gd gro grt := by
  refine pX1_takes hd (fun d' h1 => ⟨fun i hi => ?_, fun io e => h d' io h1 (fun i hi => ?_)⟩)
  · have hi : i < 36 := hi
    show fits .byte (.int (owners (0 + i))) = true
    rw [Nat.zero_add]
    exact (byteRoom (ho i hi).1 (Int32.le_trans (ho i hi).2 (by decide))).2
  · rw [e]
    show (if 0 ≤ i ∧ i < 0 + 36 then owners (0 + (i - 0)) else iown i) = owners i
    rw [if_pos ⟨Nat.zero_le i, by omega⟩, Nat.zero_add, Nat.sub_zero]
theorem pAll_zz {Q : Int32 → Int32 → Prop} {mc : Int32} (h : ∀ r mc1, Q r mc1) : wJ2_addAll_zz Q mc (nI 0) := by
  rw [nI_0]
  unfold wJ2_addAll_zz wJ2_toArray_z wJ7_copyOf_z wJ7_copyOf_2_z
  exact ⟨rfl, by decide, by decide, by decide, fun m _ => sw1 rfl (h _ m)⟩
theorem pAll_nz {Q : Int32 → Int32 → Prop} {mc : Int32} {f : Nat → Option Nat} (h : ∀ r mc1, Q r mc1) : wJ2_addAll_nz Q mc (nI 0) f := by
  rw [nI_0]
  unfold wJ2_addAll_nz wJ2_toArray_n wJ7_copyOf_n wJ7_copyOf_2_n
  exact ⟨by decide, by decide, by decide, by decide, by decide, fun m _ x ex => sw1 (by rw [ex]; decide) (h _ m)⟩
theorem min10 {n : Nat} (hn : n ≤ 10) : (if nI n < 10 then nI n else (10 : Int32)) = nI n := by
  by_cases h : n < 10
  · exact if_pos ((nI_ltN (b := 10) (by omega) (by decide)).mpr h)
  · have e : n = 10 := by omega
    subst e
    rw [if_neg (by decide)]
    rfl
/-- the list after addAll -/
def allF (f G : Nat → Option Nat) (n : Nat) : Nat → Option Nat := va_cpy (va_cpy f (fun _ => none) 0 0 n) G 0 0 n
theorem allF_lt {f G : Nat → Option Nat} {n k : Nat} (h : k < n) : allF f G n k = f k := by
  show (if 0 ≤ k ∧ k < 0 + n then (if 0 ≤ 0 + (k - 0) ∧ 0 + (k - 0) < 0 + n then f (0 + (0 + (k - 0) - 0)) else none) else G k) = f k
  rw [if_pos ⟨Nat.zero_le k, by omega⟩, if_pos ⟨by omega, by omega⟩]
  congr 1
  omega
theorem allF_ge {f G : Nat → Option Nat} {n k : Nat} (h : ¬ k < n) : allF f G n k = G k := by
  show (if 0 ≤ k ∧ k < 0 + n then _ else G k) = G k
  rw [if_neg (by omega)]
theorem pArr {Q : Nat → Prop} {f : Nat → Option Nat} {n : Nat} (hn : n ≤ 10) (h : Q n) : wJ2_toArray_n Q (nI n) f := by
  unfold wJ2_toArray_n wJ7_copyOf_n wJ7_copyOf_2_n
  rw [min10 hn, clam_nI (by omega)]
  have h0 : ¬ nI n < 0 := fun q => absurd ((nI_ltN (b := 0) (by omega) (by decide)).mp q) (Nat.not_lt_zero n)
  exact ⟨h0, hn, h0, by show 0 + n ≤ 10; omega, by show 0 + n ≤ n; omega, h⟩
theorem pAll_ne {Q : Int32 → Int32 → (Nat → Option Nat) → Prop} {mc : Int32} {f : Nat → Option Nat} {n : Nat} (h1 : 1 ≤ n) (hn : n ≤ 10) (h : Q 1 (nI n) (allF f (fun _ => none) n)) : wJ2_addAll_ne Q mc 0 (nI n) f := by
  unfold wJ2_addAll_ne
  refine pArr hn (fun m _ x ex => ?_)
  have ex : x = nI n := ex
  subst ex
  have h0 : ¬ nI n < 0 := fun q => absurd ((nI_ltN (b := 0) (by omega) (by decide)).mp q) (Nat.not_lt_zero n)
  refine sw0 (fun q => by have := (nI_inj (b := 0) (by omega) (by decide)).mp q; omega) (sw0 (fun q => by have := (nI_leN (b := 0) (by omega) (by decide)).mp (show nI n ≤ nI 0 from q); omega) ?_)
  unfold wJ2_grow_2_e
  rw [Int32.zero_add]
  refine sw0 (by decide) ⟨if_neg (fun q => by have := (nI_ltN (a := 10) (by decide) (by omega)).mp q; omega), by decide, h0, ?_⟩
  rw [min10 hn, clam_nI (by omega)]
  refine ⟨by show 0 + n ≤ n; omega, by show 0 + n ≤ 10; omega, fun s es => ?_⟩
  subst es
  exact h
theorem pAll_nr {Q : Int32 → Int32 → Int32 → (Nat → Option Nat) → Prop} {mc : Int32} {f G : Nat → Option Nat} {n : Nat} (h1 : 1 ≤ n) (hn : n ≤ 10) (h : ∀ mc1, Q 1 mc1 (nI n) (allF f G n)) : wJ2_addAll_nr Q mc 0 G (nI n) f := by
  unfold wJ2_addAll_nr
  refine pArr hn (fun m _ x ex => ?_)
  have ex : x = nI n := ex
  subst ex
  have h0 : ¬ nI n < 0 := fun q => absurd ((nI_ltN (b := 0) (by omega) (by decide)).mp q) (Nat.not_lt_zero n)
  refine sw0 (fun q => by have := (nI_inj (b := 0) (by omega) (by decide)).mp q; omega) (sw1 ((nI_leN (b := 10) (by omega) (by decide)).mpr hn) ⟨by decide, h0, ?_⟩)
  rw [min10 hn, clam_nI (by omega)]
  refine ⟨by show 0 + n ≤ n; omega, by show 0 + n ≤ 10; omega, fun s es => ?_⟩
  rw [Int32.zero_add] at es
  subst es
  exact h m
theorem RL.copy {pool : List Rp} {sz : Int32} {qu : Nat × (Nat → Option Nat)} {n a : Nat} {und und' : Nat → Int32} {G : Nat → Option Nat} (h : RL pool sz (some qu) n und) (hG : ∀ j y, G j = some y → ∃ r, r ∈ pool ∧ r.1 = y) (hu : ∀ j, j < 30 → und' j = und j) : RL pool (nI n) (some (a, allF qu.2 G n)) n und' := by
  obtain ⟨h1, h2, h3, h4, h5⟩ := h
  refine ⟨h1, rfl, fun q' hq j y hy => ?_, (fun z => by cases z), fun q' hq k hk => ?_⟩
  · cases hq
    have hy : allF qu.2 G n j = some y := hy
    by_cases e : j < n
    · rw [allF_lt e] at hy; exact h3 qu rfl j y hy
    · rw [allF_ge e] at hy; exact hG j y hy
  · cases hq
    obtain ⟨r, b1, b2, b3, b4, b5, b6⟩ := h5 qu rfl k hk
    exact ⟨r, b1, by show allF qu.2 G n k = some r.1; rw [allF_lt hk]; exact b2, b3, by rw [hu _ (by omega)]; exact b4, by rw [hu _ (by omega)]; exact b5, by rw [hu _ (by omega)]; exact b6⟩
theorem carV_dep {dep own und : Nat → Int32} {rate um dr : Int32} {i : Nat} (h : i < 36) : carV dep own und rate um dr i = dep i := if_pos h
theorem carV_own {dep own und : Nat → Int32} {rate um dr : Int32} {i : Nat} (h : i < 36) : carV dep own und rate um dr (36 + i) = own i := by
  unfold carV
  rw [if_neg (by omega), if_pos (by omega), Nat.add_sub_cancel_left]
theorem carV_und {dep own und : Nat → Int32} {rate um dr : Int32} {i : Nat} (h : i < 30) : carV dep own und rate um dr (72 + i) = und i := by
  unfold carV
  rw [if_neg (by omega), if_neg (by omega), if_pos (by omega), Nat.add_sub_cancel_left]
/-- the image is the model's -/
theorem RI_made {pool : List Rp} {gd d' owners io' dep own und kept : Nat → Int32} {gro : Int64} {grt rate um dr draw : Int32} {sz : Int32} {st : Ls} {n : Nat} (gD : okD gd) (gA : agree 36 gd dep) (gO : okO owners) (gB : agree 36 owners own) (e2 : grt = rate) (e3 : draw = dr) (hsm : small gro) (h1 : agree 36 d' gd) (h2 : agree 36 io' owners) (hk : ∀ i, i < 105 → kept i = carV dep own und rate um dr i) (hum : um = nI n) (hL : RL pool sz st n (fun j => kept (72 + j))) : RI pool 1 draw d' gro grt io' sz st 1 gro kept := by
  refine ⟨rfl, Or.inr rfl, n, hL, fun _ => ⟨?_, ?_, ?_, rfl, fun i hi => by rw [h1 i hi]; exact gD i hi, fun i hi => ?_, fun i hi => by rw [h2 i hi]; exact gO i hi, fun i hi => ?_, hsm⟩⟩
  · rw [hk 103 (by decide)]; exact hum
  · rw [hk 102 (by decide)]; exact e2.symm
  · rw [hk 104 (by decide)]; exact e3.symm
  · rw [h1 i hi, gA i hi, hk i (by omega), carV_dep hi]
  · show io' i = kept (36 + i)
    rw [h2 i hi, gB i hi, hk _ (by omega), carV_own hi]
