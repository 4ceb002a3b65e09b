/-! PURE 13: how many must be dug -/
/-- what is reached by so many cells more -/
def layP (a : Nat) (D M : Int64) : Nat → Int64
  | 0 => comp (bit a) D
  | k + 1 => comp (layP a D M k ||| (bes (layP a D M k) &&& M)) (D ||| (layP a D M k ||| (bes (layP a D M k) &&& M)))
theorem small_lay {a : Nat} {D M : Int64} (hD : small D) : ∀ k, small (layP a D M k) := by
  intro k
  induction k with
  | zero => exact comp_small hD
  | succ k ih => exact comp_small (small_or hD (small_or ih (small_and_l (small_bes _))))
theorem lay_more {a : Nat} {D M : Int64} (k : Nat) {i : Nat} (h : mem (layP a D M k ||| (bes (layP a D M k) &&& M)) i = true) : mem (layP a D M (k + 1)) i = true :=
  comp_base h (by rw [mem_or, h, Bool.or_true])
theorem lay_sub {a : Nat} {D M : Int64} (k : Nat) : sub (layP a D M k) (layP a D M (k + 1)) := fun i h => lay_more k (by rw [mem_or, h]; rfl)
theorem lay_le {a : Nat} {D M : Int64} {j k : Nat} (h : j ≤ k) : sub (layP a D M j) (layP a D M k) := by
  induction h with
  | refl => exact fun _ h => h
  | step _ ih => exact fun i hi => lay_sub _ i (ih i hi)
theorem lay_closed {a : Nat} {D M : Int64} (hD : small D) (k : Nat) {i j : Nat} (h : mem (layP a D M k) i = true) (ha : adj i j) (hj : mem D j = true) : mem (layP a D M k) j = true := by
  cases k with
  | zero => exact comp_step hD h ha hj
  | succ k => exact comp_step (small_or hD (small_or (small_lay hD k) (small_and_l (small_bes _)))) h ha (by rw [mem_or, hj]; rfl)
/-- so many cells more will do -/
def con (a b : Nat) (D M : Int64) (k : Nat) : Prop := ∃ L, sub L M ∧ small L ∧ card L ≤ k ∧ mem (comp (bit a) (D ||| L)) b = true
theorem card_or_bit (L : Int64) {x : Nat} (h : x < 64) : card (L ||| bit x) ≤ card L + 1 := by
  have : ∀ n, pop (L ||| bit x) n ≤ pop L n + if x < n then 1 else 0 := by
    intro n
    induction n with
    | zero => simp [pop]
    | succ n ih =>
      unfold pop
      rw [mem_or, mem_bit h]
      by_cases q : n = x
      · subst q
        simp only [Nat.lt_irrefl, if_false] at ih
        cases mem L n <;> simp <;> omega
      · have : (x < n + 1) ↔ (x < n) := by omega
        simp only [this, q, decide_false, Bool.or_false]
        omega
  have := this 64
  simp only [h, if_true] at this
  exact this
theorem comp_mono {s d d' : Int64} (hd : small d) (hd' : small d') (h : sub d d') : sub (comp s d) (comp s d') := by
  intro i hi
  refine comp_ind hd (fun i => mem (comp s d') i = true) ?_ ?_ hi
  · intro i hi hdi; exact comp_base hi (h i hdi)
  · intro i j h' _ ha hj; exact comp_step hd' h' ha (h j hj)
theorem sub_or_l (x y : Int64) : sub x (x ||| y) := fun i h => by rw [mem_or, h]; rfl
theorem sub_or_r (x y : Int64) : sub y (x ||| y) := fun i h => by rw [mem_or, h]; simp
theorem lay_con {a b : Nat} {D M : Int64} (hD : small D) : ∀ k b, mem (layP a D M k) b = true → con a b D M k := by
  intro k
  induction k with
  | zero =>
    intro b h
    refine ⟨0, fun i h => ?_, small_zero, by rw [card_zero]; exact Nat.le_refl _, ?_⟩
    · rw [mem_zero] at h; exact Bool.noConfusion h
    · rw [or_zero]; exact h
  | succ k ih =>
    intro b h
    have hm : small (layP a D M k ||| (bes (layP a D M k) &&& M)) := small_or (small_lay hD k) (small_and_l (small_bes _))
    have base : ∀ i, mem (layP a D M k ||| (bes (layP a D M k) &&& M)) i = true → con a i D M (k + 1) := by
      intro i hi
      rw [mem_or, Bool.or_eq_true] at hi
      rcases hi with hi | hi
      · obtain ⟨L, h1, h2, h3, h4⟩ := ih i hi
        exact ⟨L, h1, h2, by omega, h4⟩
      · rw [mem_and, Bool.and_eq_true] at hi
        obtain ⟨h36, j, ha, hj⟩ := (mem_bes (small_lay hD k) i).mp hi.1
        obtain ⟨L, h1, h2, h3, h4⟩ := ih j hj
        refine ⟨L ||| bit i, ?_, small_or h2 (small_bit h36), ?_, ?_⟩
        · intro y hy
          rw [mem_or, Bool.or_eq_true] at hy
          rcases hy with hy | hy
          · exact h1 y hy
          · rw [bit_one (by omega) hy]; exact hi.2
        · have := card_or_bit L (x := i) (by omega); omega
        · refine comp_step (small_or hD (small_or h2 (small_bit h36))) (comp_mono (small_or hD h2) (small_or hD (small_or h2 (small_bit h36))) ?_ j h4) ha ?_
          · intro y hy
            rw [mem_or, Bool.or_eq_true] at hy
            rw [mem_or, mem_or, Bool.or_eq_true, Bool.or_eq_true]
            rcases hy with hy | hy
            · exact Or.inl hy
            · exact Or.inr (Or.inl hy)
          · rw [mem_or, mem_or, bit_self (by omega)]; simp
    refine comp_ind (small_or hD hm) (fun i => con a i D M (k + 1)) ?_ ?_ h
    · intro i hi _; exact base i hi
    · intro i j ⟨L, h1, h2, h3, h4⟩ _ ha hj
      rw [mem_or, Bool.or_eq_true] at hj
      rcases hj with hj | hj
      · exact ⟨L, h1, h2, h3, comp_step (small_or hD h2) h4 ha (by rw [mem_or, hj]; rfl)⟩
      · exact base j hj
theorem eq_of_card {x y : Int64} (h : sub x y) (hc : card y ≤ card x) : x = y := Classical.byContradiction (fun q => by have := card_lt h q; omega)
theorem con_lay {a b : Nat} {D M : Int64} (hD : small D) (ha : mem D a = true) {k : Nat} (h : con a b D M k) : mem (layP a D M k) b = true := by
  obtain ⟨L, h1, h2, h3, h4⟩ := h
  have a64 := mem64 ha
  -- closed: it holds all
  have done : ∀ j, j ≤ k → (∀ i y, mem (layP a D M j) i = true → adj i y → mem L y = true → mem (layP a D M j) y = true) → mem (layP a D M k) b = true := by
    intro j hj hc
    refine lay_le hj b ?_
    refine comp_ind (small_or hD h2) (fun i => mem (layP a D M j) i = true) ?_ ?_ h4
    · intro i hi _
      rw [bit_one a64 hi]
      exact lay_le (Nat.zero_le j) a (comp_self ha)
    · intro i y hi _ hadj hy
      rw [mem_or, Bool.or_eq_true] at hy
      rcases hy with hy | hy
      · exact lay_closed hD j hi hadj hy
      · exact hc i y hi hadj hy
  have grow : ∀ j, j ≤ k → mem (layP a D M k) b = true ∨ j ≤ card (L &&& layP a D M j) := by
    intro j
    induction j with
    | zero => intro _; exact Or.inr (Nat.zero_le _)
    | succ j ih =>
      intro hj
      rcases ih (by omega) with q | q
      · exact Or.inl q
      · by_cases hc : ∀ i y, mem (layP a D M j) i = true → adj i y → mem L y = true → mem (layP a D M j) y = true
        · exact Or.inl (done j (by omega) hc)
        · right
          have ⟨i, y, hi, hadj, hy, hny⟩ : ∃ i y, mem (layP a D M j) i = true ∧ adj i y ∧ mem L y = true ∧ mem (layP a D M j) y = false := by
            apply Classical.byContradiction
            intro z
            apply hc
            intro i y h1 h2 h3
            cases w : mem (layP a D M j) y with
            | true => rfl
            | false => exact absurd ⟨i, y, h1, h2, h3, w⟩ z
          have hy' : mem (layP a D M (j + 1)) y = true := lay_more j (by
            rw [mem_or, mem_and, h1 y hy, (mem_bes (small_lay hD j) y).mpr ⟨mem36 h2 hy, i, hadj, hi⟩]; simp)
          have : card (L &&& layP a D M j) < card (L &&& layP a D M (j + 1)) := by
            refine card_lt ?_ (fun e => ?_)
            · intro x hx
              rw [mem_and, Bool.and_eq_true] at hx ⊢
              exact ⟨hx.1, lay_sub j x hx.2⟩
            · have := congrArg (fun z => mem z y) e
              simp only [mem_and, hy, hny, hy'] at this
              exact Bool.noConfusion this
          omega
  rcases grow k (Nat.le_refl _) with q | q
  · exact q
  · have e : L &&& layP a D M k = L := eq_of_card (sub_and_l _ _) (by omega)
    refine done k (Nat.le_refl _) (fun i y _ _ hy => ?_)
    rw [← e, mem_and, Bool.and_eq_true] at hy
    exact hy.2
/-- how many -/
def ds (a b : Nat) (D M : Int64) : Nat := ((List.range 40).find? (fun k => mem (layP a D M k) b)).getD 40
theorem ds_is {a b : Nat} {D M : Int64} {k : Nat} (hk : k < 40) (h : mem (layP a D M k) b = true) (hl : ∀ j, j < k → mem (layP a D M j) b = false) : ds a b D M = k := by
  unfold ds
  have : (List.range 40).find? (fun k => mem (layP a D M k) b) = some k := by
    rw [List.find?_range_eq_some]
    exact ⟨by simpa using h, by simpa using hk, fun j hj => by simp [hl j hj]⟩
  rw [this]; rfl
theorem ds_spec (a b : Nat) (D M : Int64) : (ds a b D M < 40 ∧ mem (layP a D M (ds a b D M)) b = true ∧ ∀ j, j < ds a b D M → mem (layP a D M j) b = false) ∨ (ds a b D M = 40 ∧ ∀ j, j < 40 → mem (layP a D M j) b = false) := by
  unfold ds
  cases h : (List.range 40).find? (fun k => mem (layP a D M k) b) with
  | none =>
    right
    refine ⟨rfl, fun j hj => ?_⟩
    rw [List.find?_range_eq_none] at h
    have := h j hj
    simpa using this
  | some k =>
    left
    rw [List.find?_range_eq_some] at h
    exact ⟨by simpa using h.2.1, by simpa using h.1, fun j hj => by simpa using h.2.2 j hj⟩
theorem ds_con {a b : Nat} {D M : Int64} (hD : small D) (ha : mem D a = true) {n : Nat} (hn : n < 40) : ds a b D M = n ↔ con a b D M n ∧ ∀ j, j < n → ¬ con a b D M j := by
  constructor
  · intro h
    rcases ds_spec a b D M with ⟨_, h2, h3⟩ | ⟨h1, _⟩
    · rw [h] at h2 h3
      refine ⟨lay_con (b := b) hD n b h2, fun j hj hc => ?_⟩
      have := con_lay hD ha hc
      rw [h3 j hj] at this; exact Bool.noConfusion this
    · omega
  · rintro ⟨h1, h2⟩
    refine ds_is hn (con_lay hD ha h1) (fun j hj => ?_)
    cases z : mem (layP a D M j) b with
    | false => rfl
    | true => exact absurd (lay_con (b := b) hD j b z) (h2 j hj)
/-- all cells are reached within ten -/
theorem far_all : ∀ a : Fin 36, iter 68719476735 10 (bit a.val) = 68719476735 := by decide +kernel
theorem lay_far {a : Nat} {D : Int64} (hD : small D) (ha : mem D a = true) : ∀ k, sub (iter 68719476735 k (bit a)) (layP a D 68719476735 k) := by
  intro k
  induction k with
  | zero =>
    intro i hi
    have e : i = a := bit_one (mem64 ha) hi
    rw [e]
    exact comp_self ha
  | succ k ih =>
    intro i hi
    rw [iter_succ] at hi
    unfold stp at hi
    have hsm : small (iter 68719476735 k (bit a)) := small_sub ih (small_lay hD k)
    rw [mem_or, Bool.or_eq_true] at hi
    rcases hi with hi | hi
    · exact lay_sub k i (ih i hi)
    · rw [mem_and, Bool.and_eq_true] at hi
      obtain ⟨h36, j, hadj, hj⟩ := (mem_bes hsm i).mp hi.1
      exact lay_more k (by rw [mem_or, mem_and, (mem_bes (small_lay hD k) i).mpr ⟨h36, j, hadj, ih j hj⟩, hi.2]; simp)
theorem ds_10 {a b : Nat} {D : Int64} (hD : small D) (ha : mem D a = true) (hb : b < 36) : ds a b D 68719476735 ≤ 10 := by
  have h10 : mem (layP a D 68719476735 10) b = true := by
    refine lay_far hD ha 10 b ?_
    rw [far_all ⟨a, mem36 hD ha⟩, mem_all]
    simpa using hb
  rcases ds_spec a b D 68719476735 with ⟨_, _, h3⟩ | ⟨_, h2⟩
  · apply Classical.byContradiction
    intro q
    have := h3 10 (by omega)
    rw [h10] at this; exact Bool.noConfusion this
  · have := h2 10 (by decide)
    rw [h10] at this; exact Bool.noConfusion this
/-- between -/
theorem lay_county {a : Nat} {D : Int64} (hD : small D) (k : Nat) : (layP a D 68719476735 k ||| bes (layP a D 68719476735 k)) ||| comp (bes (layP a D 68719476735 k ||| bes (layP a D 68719476735 k)) &&& D) D = layP a D 68719476735 (k + 1) := by
  have es : bes (layP a D 68719476735 k) &&& 68719476735 = bes (layP a D 68719476735 k) := mem_ext (fun i _ => by
    rw [mem_and, mem_all]
    cases z : mem (bes (layP a D 68719476735 k)) i with
    | false => rfl
    | true => have := mem36 (small_bes _) z; simp [this])
  rw [layP, es]
  have hs : small (layP a D 68719476735 k ||| bes (layP a D 68719476735 k)) := small_or (small_lay hD k) (small_bes _)
  generalize layP a D 68719476735 k ||| bes (layP a D 68719476735 k) = s at hs
  apply eq_of_sub
  · intro i hi
    rw [mem_or, Bool.or_eq_true] at hi
    rcases hi with hi | hi
    · exact comp_base hi (sub_or_r _ _ i hi)
    · refine comp_ind hD (fun i => mem (comp s (D ||| s)) i = true) ?_ ?_ hi
      · intro i hi hdi
        rw [mem_and, Bool.and_eq_true] at hi
        obtain ⟨_, j, ha, hj⟩ := (mem_bes hs i).mp hi.1
        exact comp_step (small_or hD hs) (comp_base hj (sub_or_r _ _ j hj)) ha (sub_or_l _ _ i hdi)
      · intro i j h _ ha hj
        exact comp_step (small_or hD hs) h ha (sub_or_l _ _ j hj)
  · intro i hi
    refine comp_ind (small_or hD hs) (fun i => mem (s ||| comp (bes s &&& D) D) i = true) ?_ ?_ hi
    · intro i hi _; exact sub_or_l _ _ i hi
    · intro i j h _ ha hj
      rw [mem_or, Bool.or_eq_true] at hj
      rcases hj with hj | hj
      · rw [mem_or, Bool.or_eq_true] at h
        rcases h with h | h
        · exact sub_or_r _ _ j (comp_base (by rw [mem_and, hj, (mem_bes hs j).mpr ⟨mem36 hD hj, i, ha, h⟩]; rfl) hj)
        · exact sub_or_r _ _ j (comp_step hD h ha hj)
      · exact sub_or_l _ _ j hj
theorem between_12 {Q : Int32 → Prop} {a b : Nat} {D : Int64} (hD : small D) (hb : b < 36) (h : Q (nI (ds a b D 68719476735))) (hd : ds a b D 68719476735 < 40) : ∀ n k, k + n = ds a b D 68719476735 → wX0_between_12 Q (nI b) D (n + 1) (layP a D 68719476735 k) (nI k) := by
  have hsp : mem (layP a D 68719476735 (ds a b D 68719476735)) b = true ∧ ∀ j, j < ds a b D 68719476735 → mem (layP a D 68719476735 j) b = false := by
    rcases ds_spec a b D 68719476735 with ⟨_, h2, h3⟩ | ⟨h1, _⟩
    · exact ⟨h2, h3⟩
    · omega
  intro n
  induction n with
  | zero =>
    intro k hk
    have e : k = ds a b D 68719476735 := by omega
    subst e
    unfold wX0_between_12
    refine pX0_has (by omega) ⟨fun q => absurd hsp.1 (b2_0 q), fun _ => h⟩
  | succ n ih =>
    intro k hk
    have hf := ih (k + 1) (by omega)
    unfold wX0_between_12
    refine pX0_has (by omega) ⟨fun q => ?_, fun q => ?_⟩
    · refine pX0_beside ?_
      intro s hs
      refine pX0_beside ?_
      refine pX0_spread ?_
      intro t ht u hu
      subst hs hu
      rw [lay_county hD k] at ht
      rw [ht, nI_add1]
      exact hf
    · have := b2_1 q
      rw [hsp.2 k (by omega)] at this; exact absurd this (by decide)
theorem pX0_between {Q : Int32 → Prop} {a b : Nat} {D : Int64} (hD : small D) (ha : mem D a = true) (hb : b < 36) (h : Q (nI (ds a b D 68719476735))) : wX0_between Q (nI a) (nI b) D := by
  unfold wX0_between
  rw [bit_nI (mem64 ha)]
  refine pX0_spread ?_
  have := ds_10 hD ha hb
  exact ⟨_, between_12 hD hb h (by omega) (ds a b D 68719476735) 0 (Nat.zero_add _)⟩
theorem and_bit_zero {x : Int64} {b : Nat} (hb : b < 64) : x &&& bit b = 0 ↔ mem x b = false := by
  constructor
  · intro h
    have := congrArg (fun z => mem z b) h
    simp only [mem_and, bit_self hb, mem_zero, Bool.and_true] at this
    exact this
  · intro h
    apply mem_ext
    intro i _
    rw [mem_and, mem_zero]
    cases z : mem (bit b) i with
    | false => simp
    | true => rw [bit_one hb z, h]; rfl
theorem fewestDug_13 {Q : Int32 → Prop} {a b : Nat} {D M : Int64} (hb : b < 36) (h : Q (nI (ds a b D M))) : ∀ n k, k + n = ds a b D M → wX3_fewestDug_13 Q (bit b) M D (n + 1) (layP a D M k) (nI k) := by
  have le40 : ds a b D M ≤ 40 := by rcases ds_spec a b D M with ⟨h, _⟩ | ⟨h, _⟩ <;> omega
  intro n
  induction n with
  | zero =>
    intro k hk
    have e : k = ds a b D M := by omega
    unfold wX3_fewestDug_13
    rw [and_bit_zero (by omega)]
    refine ⟨fun z => ⟨fun _ => by rw [e]; exact h, fun q => ?_⟩, fun _ => by rw [e]; exact h⟩
    rcases ds_spec a b D M with ⟨_, h2, _⟩ | ⟨h1, _⟩
    · rw [e, h2] at z; exact Bool.noConfusion z
    · rw [e, h1] at q; exact absurd (by decide) q
  | succ n ih =>
    intro k hk
    have hf := ih (k + 1) (by omega)
    unfold wX3_fewestDug_13
    rw [and_bit_zero (by omega)]
    have hno : mem (layP a D M k) b = false := by
      rcases ds_spec a b D M with ⟨_, _, h3⟩ | ⟨h1, h2⟩
      · exact h3 k (by omega)
      · exact h2 k (by omega)
    refine ⟨fun _ => ⟨fun q => absurd ((nI_leN (a := 40) (by decide) (by omega)).mp q) (by omega), fun _ => ?_⟩, fun z => absurd hno z⟩
    refine pX3_beside ?_
    intro s hs
    subst hs
    refine pX3_grown ?_
    intro u hu
    subst hu
    rw [nI_add1]
    exact hf
theorem pX3_fewestDug {Q : Int32 → Prop} {a b : Nat} {D M : Int64} (hb : b < 36) (h : Q (nI (ds a b D M))) : wX3_fewestDug Q D (bit a) (bit b) M := by
  unfold wX3_fewestDug
  refine pX3_grown ?_
  exact ⟨_, fewestDug_13 hb h (ds a b D M) 0 (Nat.zero_add _)⟩
/-- a cell more -/
theorem con_all {a b : Nat} {D M : Int64} {k : Nat} (h : con a b D M k) : con a b D 68719476735 k := by
  obtain ⟨L, _, h2, h3, h4⟩ := h
  exact ⟨L, fun i hi => by rw [mem_all]; simpa using mem36 h2 hi, h2, h3, h4⟩
theorem con_le {a b : Nat} {D M : Int64} {j k : Nat} (h : con a b D M j) (hj : j ≤ k) : con a b D M k := by
  obtain ⟨L, h1, h2, h3, h4⟩ := h
  exact ⟨L, h1, h2, by omega, h4⟩
theorem or_assoc' (x y z : Int64) : (x ||| y) ||| z = x ||| (y ||| z) := mem_ext (fun i _ => by simp only [mem_or, Bool.or_assoc])
theorem con_add {a b c : Nat} {D : Int64} {k : Nat} (hc : c < 36) (h : con a b (D ||| bit c) 68719476735 k) : con a b D 68719476735 (k + 1) := by
  obtain ⟨L, _, h2, h3, h4⟩ := h
  have hs : small (L ||| bit c) := small_or h2 (small_bit hc)
  refine ⟨L ||| bit c, fun i hi => by rw [mem_all]; simpa using mem36 hs hi, hs, ?_, ?_⟩
  · have := card_or_bit L (x := c) (by omega); omega
  · have e : D ||| (L ||| bit c) = (D ||| bit c) ||| L := mem_ext (fun i _ => by
      simp only [mem_or]; cases mem D i <;> cases mem L i <;> cases mem (bit c) i <;> rfl)
    rw [e]; exact h4
theorem card_minus_bit {L : Int64} {y : Nat} (h : mem L y = true) : card (L &&& (bit y ^^^ (-1))) + 1 = card L := by
  have hy := mem64 h
  have := card_minus L (bit y)
  have e : L &&& bit y = bit y := mem_ext (fun i _ => by
    rw [mem_and]
    cases z : mem (bit y) i with
    | false => simp
    | true => rw [bit_one hy z, h]; rfl)
  have c1 : card (bit y) = 1 := by
    have hne : bit y ≠ 0 := ne_zero_iff.mpr ⟨y, hy, bit_self hy⟩
    have := card_drop hne
    have hl : ∀ j, j < y → mem (bit y) j = false := fun j hj => by rw [mem_bit hy]; simp; omega
    have z : bit y &&& (bit y - 1) = 0 := mem_ext (fun i _ => by
      rw [mem_drop (bit_self hy) hl, mem_bit hy, mem_zero]
      by_cases q : i = y <;> simp [q])
    rw [z, card_zero] at this
    exact this
  rw [e, c1] at this
  exact this
/-- one of the cells that do -/
theorem con_one {a b : Nat} {D L : Int64} {k y : Nat} (h2 : small L) (h3 : card L ≤ k) (h4 : mem (comp (bit a) (D ||| L)) b = true) (hy : mem L y = true) : con a b (D ||| bit y) 68719476735 (k - 1) := by
  have hs : small (L &&& (bit y ^^^ (-1))) := small_and_l h2
  refine ⟨L &&& (bit y ^^^ (-1)), fun i hi => by rw [mem_all]; simpa using mem36 hs hi, hs, ?_, ?_⟩
  · have := card_minus_bit hy; omega
  · have e : (D ||| bit y) ||| (L &&& (bit y ^^^ (-1))) = D ||| L := mem_ext (fun i _ => by
      simp only [mem_or, mem_minus]
      cases z : mem (bit y) i with
      | false => simp
      | true => rw [bit_one (mem64 hy) z, hy]; simp)
    rw [e]; exact h4
/-! PURE 14: dug -/
abbrev ALL' : Int64 := 68719476735
abbrev dInv (a b n : Nat) (D0 D : Int64) (k c : Nat) : Prop := small D ∧ mem D a = true ∧ (∀ i, c ≤ i → mem D i = mem D0 i) ∧ con a b D ALL' (n - k) ∧ (∀ j, j < n - k → ¬ con a b D ALL' j) ∧ (k < n → ∀ y, y < c → mem D y = false → ¬ con a b (D ||| bit y) ALL' (n - k - 1))
section
variable {a b n : Nat} {D0 D : Int64} {k c : Nat}
theorem dInv.hs (I : dInv a b n D0 D k c) : small D := I.1
theorem dInv.ha (I : dInv a b n D0 D k c) : mem D a = true := I.2.1
theorem dInv.h0 (I : dInv a b n D0 D k c) : ∀ i, c ≤ i → mem D i = mem D0 i := I.2.2.1
theorem dInv.j1 (I : dInv a b n D0 D k c) : con a b D ALL' (n - k) := I.2.2.2.1
theorem dInv.j2 (I : dInv a b n D0 D k c) : ∀ j, j < n - k → ¬ con a b D ALL' j := I.2.2.2.2.1
theorem dInv.j3 (I : dInv a b n D0 D k c) : k < n → ∀ y, y < c → mem D y = false → ¬ con a b (D ||| bit y) ALL' (n - k - 1) := I.2.2.2.2.2
end
section
variable {a b n : Nat} {D0 D : Int64} {k c : Nat}
theorem dI_more (I : dInv a b n D0 D k c) (hk : k < n) {y : Nat} (hy : y < 36) {j : Nat} (hj : j < n - k - 1) : ¬ con a b (D ||| bit y) ALL' j := fun h => I.j2 (j + 1) (by omega) (con_add hy h)
theorem dI_ds (I : dInv a b n D0 D k c) (hn : n ≤ 10) (hk : k < n) {y : Nat} (hy : y < 36) : ds a b (D ||| bit y) ALL' = n - k - 1 ↔ con a b (D ||| bit y) ALL' (n - k - 1) := by
  rw [ds_con (small_or I.hs (small_bit hy)) (sub_or_l _ _ a I.ha) (by omega)]
  exact ⟨fun h => h.1, fun h => ⟨h, fun j hj => dI_more I hk hy hj⟩⟩
theorem dI_ex (I : dInv a b n D0 D k c) (hk : k < n) : ∃ y, c ≤ y ∧ y < 36 ∧ mem D y = false ∧ con a b (D ||| bit y) ALL' (n - k - 1) := by
  obtain ⟨L, _, h2, h3, h4⟩ := I.j1
  have ⟨y, hy, hn⟩ : ∃ y, mem L y = true ∧ mem D y = false := by
    apply Classical.byContradiction
    intro q
    have : sub L D := fun i hi => by
      cases z : mem D i with
      | true => rfl
      | false => exact absurd ⟨i, hi, z⟩ q
    have e : D ||| L = D ||| 0 := mem_ext (fun i _ => by
      simp only [mem_or, mem_zero, Bool.or_false]
      cases z : mem L i with
      | false => simp
      | true => rw [this i z]; rfl)
    rw [e] at h4
    exact I.j2 0 (by omega) ⟨0, fun i hi => by rw [mem_zero] at hi; exact Bool.noConfusion hi, small_zero, by rw [card_zero]; exact Nat.le_refl _, h4⟩
  have hc := con_one h2 h3 h4 hy
  refine ⟨y, ?_, mem36 h2 hy, hn, hc⟩
  exact Nat.le_of_not_lt (fun q => I.j3 hk y q hn hc)
theorem dI_skip (I : dInv a b n D0 D k c) (h : mem D c = false → ¬ con a b (D ||| bit c) ALL' (n - k - 1)) : dInv a b n D0 D k (c + 1) :=
  ⟨I.hs, I.ha, fun i hi => I.h0 i (by omega), I.j1, I.j2, fun hk y hy hd => by
    by_cases q : y = c
    · subst q; exact h hd
    · exact I.j3 hk y (by omega) hd⟩
theorem dI_take (I : dInv a b n D0 D k c) (hk : k < n) (hc : c < 36) (h : con a b (D ||| bit c) ALL' (n - k - 1)) : dInv a b n D0 (D ||| bit c) (k + 1) (c + 1) := by
  have e : n - (k + 1) = n - k - 1 := by omega
  refine ⟨small_or I.hs (small_bit hc), sub_or_l _ _ a I.ha, fun i hi => ?_, by rw [e]; exact h, fun j hj => dI_more I hk hc (by omega), fun hk1 y hy hd => ?_⟩
  · rw [mem_or, I.h0 i (by omega), mem_bit (by omega)]
    have : ¬ i = c := by omega
    simp [this]
  · rw [mem_or, Bool.or_eq_false_iff] at hd
    have hyc : y < c := by
      apply Nat.lt_of_le_of_ne (by omega)
      intro q
      rw [q, bit_self (by omega)] at hd
      exact absurd hd.2 (by decide)
    intro hcon
    have e2 : (D ||| bit c) ||| bit y = (D ||| bit y) ||| bit c := mem_ext (fun i _ => by
      simp only [mem_or]; cases mem D i <;> cases mem (bit c) i <;> cases mem (bit y) i <;> rfl)
    rw [e2] at hcon
    have := con_add hc hcon
    exact I.j3 hk y hyc hd.1 (con_le this (by omega))
/-- none below it: so few will do over those above it -/
theorem dI_model (I : dInv a b n D0 D k c) (hn : n ≤ 10) (hk : k < n) (hc : c < 36) (hnc : mem D c = false) {T : Int64} (hT : ∀ i, mem T i = true ↔ i < 36 ∧ mem D0 i = false ∧ c < i) : ds a b (D ||| bit c) T = n - k - 1 ↔ con a b (D ||| bit c) ALL' (n - k - 1) := by
  have hsm := small_or I.hs (small_bit hc)
  have hma := sub_or_l D (bit c) a I.ha
  rw [ds_con hsm hma (by omega)]
  constructor
  · intro h; exact con_all h.1
  · intro h
    refine ⟨?_, fun j hj h' => dI_more I hk hc hj (con_all h')⟩
    obtain ⟨L, h1, h2, h3, h4⟩ := h
    refine ⟨L &&& ((D ||| bit c) ^^^ (-1)), ?_, small_and_l h2, ?_, ?_⟩
    · intro y hy
      rw [mem_minus, Bool.and_eq_true, Bool.not_eq_true', mem_or, Bool.or_eq_false_iff] at hy
      have hyc : ¬ y = c := fun q => by rw [q, bit_self (by omega)] at hy; exact absurd hy.2.2 (by decide)
      have hlt : c < y := by
        apply Nat.lt_of_le_of_ne _ (fun q => hyc q.symm)
        apply Nat.le_of_not_lt
        intro q
        have hw := con_one h2 h3 h4 hy.1
        have e2 : (D ||| bit c) ||| bit y = (D ||| bit y) ||| bit c := mem_ext (fun i _ => by
          simp only [mem_or]; cases mem D i <;> cases mem (bit c) i <;> cases mem (bit y) i <;> rfl)
        rw [e2] at hw
        have h5 := con_add hc hw
        have := card_minus_bit hy.1
        exact I.j3 hk y q hy.2.1 (con_le h5 (by omega))
      exact (hT y).mpr ⟨mem36 h2 hy.1, by rw [← I.h0 y (by omega)]; exact hy.2.1, hlt⟩
    · have := pop_mono (sub_and_l L ((D ||| bit c) ^^^ (-1))) 64
      unfold card at h3 ⊢
      omega
    · have e : (D ||| bit c) ||| (L &&& ((D ||| bit c) ^^^ (-1))) = (D ||| bit c) ||| L := mem_ext (fun i _ => by
        simp only [mem_or, mem_minus]
        cases mem D i <;> cases mem (bit c) i <;> cases mem L i <;> rfl)
      rw [e]; exact h4
end
/-- the cells one by one -/
def good (a b n : Nat) (D : Int64) (k c : Nat) : Bool := !mem D c && decide (ds a b (D ||| bit c) ALL' = n - k - 1)
def grd (a b n : Nat) : Nat → Int64 → Nat → Nat → Nat → Nat
  | 0, _, _, _, _ => 0
  | m + 1, D, k, c, i => if good a b n D k c = true then (if k = i then c else grd a b n m (D ||| bit c) (k + 1) (c + 1) i) else grd a b n m D k (c + 1) i
theorem good_iff {a b n : Nat} {D0 D : Int64} {k c : Nat} (I : dInv a b n D0 D k c) (hn : n ≤ 10) (hk : k < n) (hc : c < 36) : good a b n D k c = true ↔ mem D c = false ∧ con a b (D ||| bit c) ALL' (n - k - 1) := by
  unfold good
  rw [Bool.and_eq_true, Bool.not_eq_true', decide_eq_true_eq, dI_ds I hn hk hc]
theorem dug_sub {n k : Nat} (h : k < n) : (nI n - nI k) - 1 = nI (n - k - 1) := by
  rw [nI_subN (by omega), show (1 : Int32) = nI 1 from rfl, nI_subN (by omega)]
theorem cd_116 {Q : Int32 → Prop} {g : Nat → Int32} {a b n : Nat} {D0 : Int64} (hb : b < 36) (hn : n ≤ 10) {i : Nat} (hi : i < n) : ∀ m D k c f, c + m = 36 → k ≤ i → dInv a b n D0 D k c → Q (nI (grd a b n m D k c i)) → wX0_dug_116 Q (nI a) (nI b) (nI i) (nI n) g (m + 2) D f (nI k) (nI c) := by
  intro m
  induction m with
  | zero =>
    intro D k c f hc hk I hq
    obtain ⟨y, h1, h2, _⟩ := dI_ex I (by omega)
    omega
  | succ m ih =>
    intro D k c f hc hk I hq
    rw [show m + 1 + 2 = (m + 2) + 1 by omega]
    unfold wX0_dug_116
    refine ⟨fun q => absurd ((nI_ltN (by omega) (by omega)).mp q) (by omega), fun _ => ?_⟩
    unfold grd at hq
    have gi := good_iff I hn (by omega) (c := c) (by omega)
    rw [dug_sub (by omega)]
    refine pX0_has (by omega) ⟨fun q => ?_, fun q => ?_⟩
    · have hnc : mem D c = false := by
        cases z : mem D c with
        | false => rfl
        | true => exact absurd z (b2_0 q)
      rw [bit_nI (by omega)]
      refine pX0_between (small_or I.hs (small_bit (by omega))) (sub_or_l _ _ a I.ha) hb ?_
      have d10 := ds_10 (small_or I.hs (small_bit (k := c) (by omega))) (sub_or_l D (bit c) a I.ha) hb
      rw [nI_inj (by omega) (by omega)]
      refine ⟨fun e => ?_, fun e => ?_⟩
      · have hgood : good a b n D k c = true := by unfold good; rw [hnc, decide_eq_true e]; rfl
        rw [if_pos hgood] at hq
        intro x hx y hy z hz
        subst hx hy hz
        rw [nI_add1, nI_add1]
        by_cases ki : k = i
        · rw [if_pos ki] at hq
          unfold wX0_dug_116
          exact ⟨fun _ => hq, fun q => absurd ((nI_ltN (by omega) (by omega)).mpr (by omega)) q⟩
        · rw [if_neg ki] at hq
          exact ih _ _ _ _ (by omega) (by omega) (dI_take I (by omega) (by omega) (gi.mp hgood).2) hq
      · have hbad : ¬ good a b n D k c = true := by unfold good; rw [hnc, decide_eq_false e]; decide
        rw [if_neg hbad] at hq
        intro x hx
        subst hx
        rw [nI_add1]
        exact ih _ _ _ _ (by omega) hk (dI_skip I (fun h h' => hbad (gi.mpr ⟨h, h'⟩))) hq
    · have hmc := b2_1 q
      have hbad : ¬ good a b n D k c = true := by unfold good; rw [hmc]; exact fun h => Bool.noConfusion h
      rw [if_neg hbad] at hq
      intro x hx
      subst hx
      rw [nI_add1]
      exact ih _ _ _ _ (by omega) hk (dI_skip I (fun h h' => hbad (gi.mpr ⟨h, h'⟩))) hq
def dugA (D : Int64) (a b : Nat) (i : Int32) : Int32 :=
  if mem D a = true ∧ mem D b = true ∧ mem (comp (bit a) D) b = false then
    (if i < 0 then nI (ds a b D ALL') else if i < nI (ds a b D ALL') then nI (grd a b (ds a b D ALL') 36 D 0 0 i.toNatClampNeg) else -4) else -2
theorem dI_start {a b : Nat} {D : Int64} (hD : small D) (ha : mem D a = true) (hb : b < 36) : dInv a b (ds a b D ALL') D D 0 0 := by
  have h10 : ds a b D ALL' ≤ 10 := ds_10 hD ha hb
  have := (ds_con (b := b) (M := ALL') hD ha (n := ds a b D ALL') (by omega)).mp rfl
  exact ⟨hD, ha, fun _ _ => rfl, this.1, this.2, fun _ y hy => absurd hy (by omega)⟩
theorem i9 {y : Int32} (h : -1 ≤ y ∧ y ≤ 9) : y = -1 ∨ ∃ i, i ≤ 9 ∧ y = nI i := by
  by_cases q : 0 ≤ y
  · exact Or.inr (nI_ofN (n := 9) q h.2 (by decide))
  · left
    have h1 := h.1
    rw [Int32.le_iff_toInt_le] at h1 q
    have e1 : (-1 : Int32).toInt = -1 := rfl
    have e0 : (0 : Int32).toInt = 0 := rfl
    apply Int32.toInt_inj.mp
    omega
theorem neg_nI (i : Nat) (h : i < 2 ^ 31) : ¬ nI i < 0 := fun q => absurd ((nI_ltN (b := 0) h (by decide)).mp q) (by omega)
theorem pos_nI (i : Nat) (h : i < 2 ^ 31) : 0 ≤ nI i := (nI_leN (a := 0) (by decide) h).mpr (Nat.zero_le _)
theorem cDug {Q : Int32 → Prop} {g : Nat → Int32} {x y i : Int32} (h : Q (if isC x ∧ isC y ∧ -1 ≤ i ∧ i ≤ 9 then dugA (dugP g) x.toNatClampNeg y.toNatClampNeg i else -1)) : wX0_dug Q g x y i := by
  unfold wX0_dug
  refine pX0_isCell ⟨fun q => ?_, fun qx => pX0_isCell ⟨fun q => ?_, fun qy => pX0_inI (lo := -1) (hi := 9) ⟨fun q => ?_, fun qi => ?_⟩⟩⟩
  · rw [if_neg (fun z => b2_0 q z.1)] at h; exact h
  · rw [if_neg (fun z => b2_0 q z.2.1)] at h; exact h
  · rw [if_neg (fun z => b2_0 q z.2.2)] at h; exact h
  · rw [if_pos ⟨b2_1 qx, b2_1 qy, b2_1 qi⟩] at h
    obtain ⟨a, ha, e⟩ := isC_ex (b2_1 qx)
    subst e
    obtain ⟨b, hb, e⟩ := isC_ex (b2_1 qy)
    subst e
    rw [clam_nI (by omega), clam_nI (by omega)] at h
    have hD := small_dugP g
    unfold dugA at h
    refine pX1_dug ?_
    refine pX0_has (by omega) ⟨fun q => ?_, fun q1 => pX0_has (by omega) ⟨fun q => ?_, fun q2 => ?_⟩⟩
    · rw [if_neg (fun z => b2_0 q z.1)] at h; exact h
    · rw [if_neg (fun z => b2_0 q z.2.1)] at h; exact h
    · rw [bit_nI (by omega)]
      refine pX0_spread ?_
      refine pX0_has (by omega) ⟨fun q => ?_, fun q => ?_⟩
      · have q3 : mem (comp (bit a) (dugP g)) b = false := by
          cases z : mem (comp (bit a) (dugP g)) b with
          | false => rfl
          | true => exact absurd z (b2_0 q)
        rw [if_pos ⟨b2_1 q1, b2_1 q2, q3⟩] at h
        refine pX0_between hD (b2_1 q1) hb ?_
        have h10 := ds_10 hD (b2_1 q1) hb
        unfold wX0_dug_94
        refine ⟨fun z => ?_, fun z => ⟨fun w => ?_, fun w => ?_⟩⟩
        · rw [if_pos z] at h
          exact ⟨fun w => absurd z (Int32.not_lt.mpr w), fun _ => h⟩
        · rw [if_neg z, if_pos w] at h
          rcases i9 (b2_1 qi) with e | ⟨j, hj, e⟩
          · rw [e] at z; exact absurd (by decide) z
          · subst e
            rw [clam_nI (by omega)] at h
            have hlt := (nI_ltN (by omega) (by omega)).mp w
            exact ⟨38, cd_116 hb h10 hlt 36 _ 0 0 _ rfl (Nat.zero_le _) (dI_start hD (b2_1 q1) hb) h⟩
        · rw [if_neg z, if_neg w] at h
          exact ⟨fun _ => h, fun v => absurd (Int32.not_lt.mp z) v⟩
      · rw [if_neg (fun z => by rw [b2_1 q] at z; exact absurd z.2.2 (by decide))] at h; exact h
theorem md_130 {Q : Int32 → Int64 → Int64 → (Nat → Int32) → Prop} {k114 : Int32 → Int32 → Int64 → (Nat → Int32) → Prop} {g : Nat → Int32} {deep : Int64} {x3 : Int32} {a b n : Nat} {D0 may : Int64} (hb : b < 36) (hn : n ≤ 10) (hmay : ∀ i, mem may i = true ↔ i < 36 ∧ mem D0 i = false) {D : Int64} {k : Nat} (hk : k < n) : ∀ m c row, c + m = 36 → dInv a b n D0 D k c →
    (∀ c' row', c ≤ c' → c' < 36 → (∀ y, c ≤ y → y < c' → good a b n D k y = false) → good a b n D k c' = true → dInv a b n D0 (D ||| bit c') (k + 1) (c' + 1) → row' k = nI c' → k114 (nI (c' + 1)) (nI (k + 1)) (D ||| bit c') row') →
    wX3_dug_130 Q k114 x3 (bit a) (bit b) (nI n) may (nI k) g deep (m + 2) (nI c) 0 D row := by
  intro m
  induction m with
  | zero =>
    intro c row hc I _
    obtain ⟨y, h1, h2, _⟩ := dI_ex I hk
    omega
  | succ m ih =>
    intro c row hc I hq
    rw [show m + 1 + 2 = (m + 2) + 1 by omega]
    unfold wX3_dug_130 wX3_dug_210 wX3_dug_227
    refine ⟨fun _ => ?_, fun q => absurd rfl q⟩
    have gi := good_iff I hn hk (c := c) (by omega)
    intro T hT
    have hT' : ∀ i, mem T i = true ↔ i < 36 ∧ mem D0 i = false ∧ c < i := by
      intro i
      rw [hT, nI_add1, bit_nI (by omega), mem_minus, Bool.and_eq_true, hmay, Bool.not_eq_true']
      have hl : ∀ j, j < c + 1 → mem (bit (c + 1)) j = false := fun j hj => by rw [mem_bit (by omega)]; simp; omega
      rw [mem_dec (bit_self (by omega)) hl]
      by_cases z : i < c + 1
      · simp [z]; omega
      · by_cases w : i = c + 1
        · simp [w]
        · simp [z, w, mem_bit (show c + 1 < 64 by omega)]; omega
    rw [bit_nI (by omega), clam_nI (by omega), nI_add1, dug_sub hk]
    have bad : good a b n D k c = false → ∀ row, wX3_dug_130 Q k114 x3 (bit a) (bit b) (nI n) may (nI k) g deep (m + 2) (nI (c + 1)) 0 D row := by
      intro hbad row
      refine ih (c + 1) row (by omega) (dI_skip I (fun h h' => by rw [gi.mpr ⟨h, h'⟩] at hbad; exact Bool.noConfusion hbad)) ?_
      intro c' row' h1 h2 h3
      refine hq c' row' (by omega) h2 (fun y hy1 hy2 => ?_)
      by_cases e : y = c
      · rw [e]; exact hbad
      · exact h3 y (by omega) hy2
    refine pX3_has (by omega) ?_
    intro D' hD'
    subst hD'
    refine ⟨fun q => ⟨fun _ => ⟨in_nI (by omega) (by decide), ?_⟩, fun z => absurd rfl z⟩, fun q => ?_⟩
    · intro r hr cc hcc
      subst hcc
      refine bad ?_ r
      have hno : ¬ (c < 36 ∧ mem D0 c = false) := fun z => b2_0 q ((hmay c).mpr z)
      unfold good
      rw [I.h0 c (Nat.le_refl _)]
      cases z : mem D0 c with
      | true => rfl
      | false => exact absurd ⟨by omega, z⟩ hno
    · have hm := (hmay c).mp (b2_1 q)
      have hnc : mem D c = false := by rw [I.h0 c (Nat.le_refl _)]; exact hm.2
      have dm := dI_model I hn hk (by omega) hnc hT'
      refine pX3_fewestDug hb ?_
      have d40 : ds a b (D ||| bit c) T ≤ 40 := by rcases ds_spec a b (D ||| bit c) T with ⟨h, _⟩ | ⟨h, _⟩ <;> omega
      rw [nI_inj (by omega) (by omega)]
      refine ⟨fun e => ⟨fun z => absurd z (by decide), fun _ => ⟨in_nI (by omega) (by decide), ?_⟩⟩, fun e => ⟨fun _ => ⟨in_nI (by omega) (by decide), ?_⟩, fun z => absurd rfl z⟩⟩
      · intro r hr cc hcc
        subst hcc
        have hgood := gi.mpr ⟨hnc, dm.mp e⟩
        unfold wX3_dug_130
        refine ⟨fun z => absurd z (by decide), fun _ => ?_⟩
        intro kk hkk
        subst hkk
        rw [nI_add1]
        refine hq c r (Nat.le_refl _) (by omega) (fun y h1 h2 => by omega) hgood (dI_take I hk (by omega) (dm.mp e)) ?_
        rw [hr]; unfold upd; rw [if_pos rfl]
      · intro r hr cc hcc
        subst hcc
        refine bad ?_ r
        cases z : good a b n D k c with
        | false => rfl
        | true => exact absurd (dm.mpr (gi.mp z).2) e
theorem grd_skip {a b n : Nat} {D : Int64} {k i : Nat} : ∀ m c c', c + m = 36 → c ≤ c' → c' < 36 → (∀ y, c ≤ y → y < c' → good a b n D k y = false) → good a b n D k c' = true → grd a b n m D k c i = if k = i then c' else grd a b n (36 - (c' + 1)) (D ||| bit c') (k + 1) (c' + 1) i := by
  intro m
  induction m with
  | zero => intro c c' h1 h2 h3; omega
  | succ m ih =>
    intro c c' h1 h2 h3 h4 h5
    rw [grd]
    by_cases e : c = c'
    · subst e
      rw [if_pos h5, show m = 36 - (c + 1) by omega]
    · rw [h4 c (Nat.le_refl _) (by omega)]
      rw [if_neg (by decide)]
      exact ih (c + 1) c' (by omega) (by omega) h3 (fun y a b => h4 y (by omega) b) h5
theorem md_114 {Q : Int32 → Int64 → Int64 → (Nat → Int32) → Prop} {g : Nat → Int32} {deep : Int64} {a b n : Nat} {D0 may : Int64} (hb : b < 36) (hn : n ≤ 10) (hmay : ∀ i, mem may i = true ↔ i < 36 ∧ mem D0 i = false) {i : Nat} (hi : i ≤ 9) {A : Int32} (hA : ∀ d e r, (if nI i < nI n then A else -4) = (if nI i < nI n then A else -4) → Q (if nI i < nI n then A else -4) d e r) : ∀ t k c D row, k + t = n → k ≤ i + 1 → c ≤ 36 → dInv a b n D0 D k c → (i < n → k ≤ i → A = nI (grd a b n (36 - c) D k c i)) → (i < n → k = i + 1 → row i = A) → wX3_dug_114 Q (nI i) (bit a) (bit b) (nI n) may g deep (t + 1) (nI c) (nI k) D row := by
  have fin : ∀ D row, (i < n → row i = A) → wX3_dug_251 Q (nI i) (nI n) g D deep row := by
    intro D row hr
    unfold wX3_dug_251
    refine ⟨fun _ => ⟨fun q => ?_, fun q => ⟨in_nI (by omega) (by decide), ?_⟩⟩, fun q => absurd (pos_nI i (by omega)) q⟩
    · have := hA D deep row rfl
      rw [if_neg (Int32.not_lt.mpr q)] at this; exact this
    · have h := hA D deep row rfl
      rw [if_pos (Int32.not_le.mp q)] at h
      rw [clam_nI (by omega), hr ((nI_ltN (by omega) (by omega)).mp (Int32.not_le.mp q))]
      exact h
  intro t
  induction t with
  | zero =>
    intro k c D row hk hki hc I h1 h2
    have e : k = n := by omega
    subst e
    unfold wX3_dug_114
    refine ⟨fun _ => fin D row (fun q => h2 q (by omega)), fun q => absurd (Int32.le_refl _) q⟩
  | succ t ih =>
    intro k c D row hk hki hc I h1 h2
    unfold wX3_dug_114
    refine ⟨fun q => absurd ((nI_leN (by omega) (by omega)).mp q) (by omega), fun _ => ⟨fun q => ?_, fun q => ?_⟩⟩
    · have : i < k := (nI_ltN (by omega) (by omega)).mp q
      exact fin D row (fun z => h2 z (by omega))
    · have hki' : k ≤ i := by
        apply Nat.le_of_not_lt
        intro z
        exact q ((nI_ltN (by omega) (by omega)).mpr z)
      refine ⟨36 - c + 2, md_130 hb hn hmay (by omega) (36 - c) c row (by omega) I ?_⟩
      intro c' row' c1 c2 c3 c4 I' hr
      refine ih (k + 1) (c' + 1) (D ||| bit c') row' (by omega) (by omega) (by omega) I' (fun z w => ?_) (fun z w => ?_)
      · have := h1 z (by omega)
        rw [grd_skip (36 - c) c c' (by omega) c1 c2 c3 c4, if_neg (by omega)] at this
        exact this
      · have e : k = i := by omega
        have := h1 z (by omega)
        rw [grd_skip (36 - c) c c' (by omega) c1 c2 c3 c4, if_pos e] at this
        rw [this, ← e]; exact hr
theorem mDug {Q : Int32 → Int64 → Int64 → (Nat → Int32) → Prop} {g row : Nat → Int32} {dug deep : Int64} {x y i : Int32} (h : ∀ d e r, Q (if isC x ∧ isC y ∧ -1 ≤ i ∧ i ≤ 9 then dugA (dugP g) x.toNatClampNeg y.toNatClampNeg i else -1) d e r) : wX3_dug Q g dug deep row x y i := by
  unfold wX3_dug
  refine pX3_isCell ⟨fun q => ?_, fun qx => pX3_isCell ⟨fun q => ?_, fun qy => pX3_inI (lo := -1) (hi := 9) ⟨fun q => ?_, fun qi => ?_⟩⟩⟩
  · rw [if_neg (fun z => b2_0 q z.1)] at h; exact h _ _ _
  · rw [if_neg (fun z => b2_0 q z.2.1)] at h; exact h _ _ _
  · rw [if_neg (fun z => b2_0 q z.2.2)] at h; exact h _ _ _
  · rw [if_pos ⟨b2_1 qx, b2_1 qy, b2_1 qi⟩] at h
    obtain ⟨a, ha, e⟩ := isC_ex (b2_1 qx)
    subst e
    obtain ⟨b, hb, e⟩ := isC_ex (b2_1 qy)
    subst e
    rw [clam_nI (by omega), clam_nI (by omega)] at h
    have hD := small_dugP g
    unfold dugA at h
    refine pX3_look ?_
    refine pX3_has (by omega) ⟨fun q => ?_, fun q1 => pX3_has (by omega) ⟨fun q => ?_, fun q2 => ?_⟩⟩
    · rw [if_neg (fun z => b2_0 q z.1)] at h; exact h _ _ _
    · rw [if_neg (fun z => b2_0 q z.2.1)] at h; exact h _ _ _
    · refine pX3_holeAt (by omega) ?_
      refine pX3_has (by omega) ⟨fun q => ?_, fun q => ?_⟩
      · have q3 : mem (comp (bit a) (dugP g)) b = false := by
          cases z : mem (comp (bit a) (dugP g)) b with
          | false => rfl
          | true => exact absurd z (b2_0 q)
        rw [if_pos ⟨b2_1 q1, b2_1 q2, q3⟩] at h
        intro fr hfr to' hto
        rw [bit_nI (by omega)] at hfr hto
        subst hfr hto
        refine pX3_fewestDug hb ?_
        intro may hmay
        have h10 := ds_10 hD (b2_1 q1) hb
        have hmay' : ∀ i, mem may i = true ↔ i < 36 ∧ mem (dugP g) i = false := by
          intro i
          rw [hmay, mem_minus, Bool.and_eq_true, mem_all, decide_eq_true_eq, Bool.not_eq_true']
        rcases i9 (b2_1 qi) with e | ⟨j, hj, e⟩
        · subst e
          rw [if_pos (by decide)] at h
          refine ⟨1, ?_⟩
          unfold wX3_dug_114 wX3_dug_251
          exact ⟨fun _ => ⟨fun z => absurd z (by decide), fun _ => h _ _ _⟩, fun _ => ⟨fun _ => ⟨fun z => absurd z (by decide), fun _ => h _ _ _⟩, fun z => absurd (by decide) z⟩⟩
        · subst e
          rw [if_neg (neg_nI j (by omega)), clam_nI (by omega)] at h
          refine ⟨_, md_114 (A := nI (grd a b (ds a b (dugP g) ALL') 36 (dugP g) 0 0 j)) hb h10 hmay' hj (fun d e r _ => h d e r) (ds a b (dugP g) ALL') 0 0 _ _ (Nat.zero_add _) (Nat.zero_le _) (Nat.zero_le _) (dI_start hD (b2_1 q1) hb) (fun _ _ => rfl) (fun _ z => by omega)⟩
      · rw [if_neg (fun z => by rw [b2_1 q] at z; exact absurd z.2.2 (by decide))] at h; exact h _ _ _
theorem oDug {P : Int32 → Int32 → Int64 → Int64 → (Nat → Int32) → Prop} {g g' row : Nat → Int32} {dug deep : Int64} {x y i : Int32} (hg : agree 36 g g') (hp : ∀ v a b c, P v v a b c) : wX0_dug (fun r => wX3_dug (fun r' a b c => P r r' a b c) g' dug deep row x y i) g x y i :=
  cDug (mDug (fun a b c => by rw [dugP_of hg]; exact hp _ _ _ _))
/-! PURE 15: books -/
theorem small_of_le {x : Int64} (h0 : 0 ≤ x) (h : x ≤ 68719476735) : small x := by
  rw [Int64.le_iff_toInt_le] at h0 h
  have e0 : (0 : Int64).toInt = 0 := rfl
  have e1 : (68719476735 : Int64).toInt = 68719476735 := by decide
  rw [e0] at h0
  rw [e1] at h
  have hn : x.toBitVec.toNat < 2 ^ 36 := by
    have := BitVec.toInt_eq_toNat_cond x.toBitVec
    have e2 : x.toInt = x.toBitVec.toInt := rfl
    rw [e2] at h0 h
    rw [this] at h0 h
    have := x.toBitVec.isLt
    split at h0 <;> split at h <;> omega
  intro i hi
  rw [mem_nat]
  exact Nat.testBit_lt_two_pow (Nat.lt_of_lt_of_le hn (Nat.pow_le_pow_right (by decide) hi))
def dn (set x : Int64) : Int64 := (x - 1) &&& set
def up (set x : Int64) : Int64 := (x - set) &&& set
theorem dn_sub (set x : Int64) : sub (dn set x) set := sub_and_r _ _
theorem mem_dn {set x : Int64} {k : Nat} (hk : mem x k = true) (hl : ∀ j, j < k → mem x j = false) (i : Nat) : mem (dn set x) i = ((if i < k then true else if i = k then false else mem x i) && mem set i) := by
  unfold dn; rw [mem_and, mem_dec hk hl]
theorem add_or {x y : Int64} (h : x &&& y = 0) : x + y = x ||| y := by
  apply Int64.toBitVec_inj.mp
  rw [Int64.toBitVec_add, Int64.toBitVec_or]
  apply BitVec.add_eq_or_of_and_eq_zero
  rw [← Int64.toBitVec_and, h]; rfl
theorem up_neg {set y : Int64} (h : sub y set) : y - set = -(set &&& (y ^^^ (-1))) := by
  have e : set = y + (set &&& (y ^^^ (-1))) := by
    rw [add_or]
    · apply mem_ext
      intro i _
      rw [mem_or, mem_minus]
      cases z : mem y i with
      | false => simp
      | true => rw [h i z]; rfl
    · apply mem_ext
      intro i _
      rw [mem_and, mem_minus, mem_zero]
      cases mem y i <;> simp
  generalize set &&& (y ^^^ (-1)) = w at e
  rw [e]
  apply Int64.toBitVec_inj.mp
  rw [Int64.toBitVec_sub, Int64.toBitVec_add, Int64.toBitVec_neg]
  generalize y.toBitVec = a
  generalize w.toBitVec = b
  bv_omega
theorem up_dn {set x : Int64} (h : sub x set) (h0 : x ≠ 0) : up set (dn set x) = x := by
  obtain ⟨h64, hk, hl⟩ := lsb_spec h0
  unfold up
  rw [up_neg (dn_sub set x)]
  have hw : ∀ i, mem (set &&& (dn set x ^^^ (-1))) i = (mem set i && !((if i < lsb x then true else if i = lsb x then false else mem x i) && mem set i)) := fun i => by rw [mem_minus, mem_dn hk hl]
  have wk : mem (set &&& (dn set x ^^^ (-1))) (lsb x) = true := by rw [hw, h _ hk]; simp
  have wl : ∀ j, j < lsb x → mem (set &&& (dn set x ^^^ (-1))) j = false := fun j hj => by rw [hw]; simp [hj]
  apply mem_ext
  intro i hi
  rw [mem_and, mem_neg wk wl hi, hw]
  by_cases q : i < lsb x
  · simp [q, hl i q]
  · by_cases z : i = lsb x
    · subst z; simp [hk, h _ hk]
    · simp only [q, z, if_false]
      cases a : mem x i with
      | false => cases mem set i <;> rfl
      | true => rw [h i a]; rfl
theorem up_self (set : Int64) : up set set = 0 := by
  unfold up
  rw [Int64.sub_self]
  exact mem_ext (fun i _ => by rw [mem_and, mem_zero]; rfl)
/-- which one it is -/
def ix (set x : Int64) : Nat → Nat
  | 0 => 0
  | n + 1 => ix set x n + if mem x n = true then 2 ^ pop set n else 0
theorem ix_set (set : Int64) (n : Nat) : ix set set n + 1 = 2 ^ pop set n := by
  induction n with
  | zero => rfl
  | succ n ih =>
    rw [ix, pop]
    cases mem set n with
    | false => simp; exact ih
    | true => simp [Nat.pow_succ]; omega
theorem ix_dn {set x : Int64} (h : sub x set) {k : Nat} (hk : mem x k = true) (hl : ∀ j, j < k → mem x j = false) : ∀ n, (n ≤ k → ix set x n = 0 ∧ ix set (dn set x) n = ix set set n) ∧ (k < n → ix set x n = ix set (dn set x) n + 1) := by
  intro n
  induction n with
  | zero => exact ⟨fun _ => ⟨rfl, rfl⟩, fun q => by omega⟩
  | succ n ih =>
    refine ⟨fun q => ?_, fun q => ?_⟩
    · have := ih.1 (by omega)
      unfold ix
      rw [this.1, this.2, hl n (by omega), mem_dn hk hl]
      simp [show n < k by omega]
    · unfold ix
      by_cases e : n = k
      · subst e
        have := ih.1 (Nat.le_refl _)
        rw [this.1, this.2, hk, mem_dn hk hl]
        have hs := ix_set set n
        simp
        omega
      · have := ih.2 (by omega)
        rw [this, mem_dn hk hl]
        simp only [show ¬ n < k by omega, e, if_false]
        cases a : mem x n with
        | false => simp
        | true => rw [h n a]; simp; omega
/-- all parts of a set, from the whole one down -/
def chain (set : Int64) : Nat → Int64 → List Int64
  | 0, x => [x]
  | n + 1, x => if x = 0 then [0] else x :: chain set n (dn set x)
theorem chain_len {set : Int64} : ∀ n x, (chain set n x).length ≤ n + 1 := by
  intro n
  induction n with
  | zero => intro x; simp [chain]
  | succ n ih =>
    intro x
    unfold chain
    split
    · simp
    · rw [List.length_cons]; have := ih (dn set x); omega
theorem ix_zero {set x : Int64} (h : ix set x 64 = 0) : x = 0 := by
  apply Classical.byContradiction
  intro q
  obtain ⟨i, hi, hm⟩ := ne_zero_iff.mp q
  have : ∀ n, i < n → 0 < ix set x n := by
    intro n
    induction n with
    | zero => intro z; omega
    | succ n ih =>
      intro z
      unfold ix
      by_cases e : i = n
      · subst e; rw [hm]; have := Nat.pow_pos (n := pop set i) (a := 2) (by decide); simp; omega
      · have := ih (by omega); omega
  have := this 64 hi
  omega
section
variable (set : Int64) (tst : Int64 → Bool)
def hits (V : List Int64) : List Int64 := V.filter tst
def sureL (H : List Int64) : Int64 := H.foldl (fun s x => s &&& x) set
def freeL (H : List Int64) : Int64 := H.foldl (fun s x => s &&& (x ^^^ (-1))) set
end
theorem mem_sureL (i : Nat) : ∀ (H : List Int64) (s : Int64), mem (sureL s H) i = (mem s i && H.all (fun x => mem x i)) := by
  intro H
  induction H with
  | nil => intro s; simp [sureL]
  | cons x H ih =>
    intro s
    have : sureL s (x :: H) = sureL (s &&& x) H := rfl
    rw [this, ih, mem_and, List.all_cons, Bool.and_assoc]
theorem mem_freeL (i : Nat) : ∀ (H : List Int64) (s : Int64), mem (freeL s H) i = (mem s i && H.all (fun x => !mem x i)) := by
  intro H
  induction H with
  | nil => intro s; simp [freeL]
  | cons x H ih =>
    intro s
    have : freeL s (x :: H) = freeL (s &&& (x ^^^ (-1))) H := rfl
    rw [this, ih, mem_minus, List.all_cons, Bool.and_assoc]
theorem sureL_rev (s : Int64) (H : List Int64) : sureL s H.reverse = sureL s H := mem_ext (fun i _ => by rw [mem_sureL, mem_sureL, List.all_reverse])
theorem freeL_rev (s : Int64) (H : List Int64) : freeL s H.reverse = freeL s H := mem_ext (fun i _ => by rw [mem_freeL, mem_freeL, List.all_reverse])
theorem sureL_app (s x : Int64) (H : List Int64) : sureL s (H ++ [x]) = sureL s H &&& x := by unfold sureL; rw [List.foldl_append]; rfl
theorem freeL_app (s x : Int64) (H : List Int64) : freeL s (H ++ [x]) = freeL s H &&& (x ^^^ (-1)) := by unfold freeL; rw [List.foldl_append]; rfl
/-- what is told in the end: H from the whole one down -/
def bokA (set : Int64) (H : List Int64) (what : Int32) : Int64 := if what = 0 then Int64.ofNat H.length else if H.length = 0 then -4 else if what = 1 then H.getLastD 0 else if what = 2 then sureL set H else freeL set H
def tstP (base deep roofs : Int64) (rate holes tax : Int32) (some' : Int64) : Bool := (decide (holes < 0) || decide (nI (hl (base ||| some')).length = holes)) && (decide (tax < 0) || decide (taxAll (base ||| some') deep roofs rate = tax))
theorem of64_zero {n : Nat} (h : n ≤ 64) : Int64.ofNat n = 0 ↔ n = 0 := by
  have : ∀ k : Fin 65, Int64.ofNat k.val = 0 ↔ k.val = 0 := by decide +kernel
  exact this ⟨n, by omega⟩
theorem of64_nI {n : Nat} (h : n ≤ 64) : (nI n).toInt64 = Int64.ofNat n := by
  have : ∀ k : Fin 65, (nI k.val).toInt64 = Int64.ofNat k.val := by decide +kernel
  exact this ⟨n, by omega⟩
theorem of64_add (n : Nat) : Int64.ofNat n + 1 = Int64.ofNat (n + 1) := by simp [Int64.ofNat_add]
theorem bec2_dug {d : Nat → Int32} {set s : Int64} (hset : small set) (h : sub s set) : dugP (bec (bec d (set &&& (s ^^^ (-1))) 0) s 1) = (dugP d &&& (set ^^^ (-1))) ||| s := by
  rw [dug_bec1 _ (small_sub h hset) (by decide), dug_bec0]
  apply mem_ext
  intro i _
  simp only [mem_or, mem_minus]
  cases a : mem s i with
  | false => simp
  | true => simp
theorem bec2_tax {d : Nat → Int32} {set s gro : Int64} {grt : Int32} (hset : small set) (h : sub s set) : taxAll (dugP (bec (bec d (set &&& (s ^^^ (-1))) 0) s 1)) (deepP (bec (bec d (set &&& (s ^^^ (-1))) 0) s 1)) (gro &&& ((set &&& (s ^^^ (-1))) ^^^ (-1))) grt = taxAll ((dugP d &&& (set ^^^ (-1))) ||| s) (deepP d &&& (set ^^^ (-1))) gro grt := by
  rw [bec2_dug hset h]
  refine taxAll_of (small_or (small_and_l (small_dugP d)) (small_sub h hset)) ?_ ?_
  · intro i _
    rw [deep_bec _ (by decide), deep_bec _ (by decide)]
    simp only [mem_minus]
    have := h i
    cases a : mem s i with
    | false => simp
    | true => rw [this a]; simp
  · intro i hi
    simp only [mem_or, mem_minus, Bool.or_eq_true, Bool.and_eq_true] at hi ⊢
    rcases hi with hi | hi
    · rw [Bool.not_eq_true'] at hi; rw [hi.2]; simp
    · rw [hi]; simp
section
variable {Q : Int64 → (Nat → Int32) → Int64 → Int32 → Prop} {g : Nat → Int32} {gro set : Int64} {grt holes tax what : Int32}
/-- what stands when V was seen, from none on -/
def cSt (set : Int64) (tst : Int64 → Bool) (V : List Int64) (x6 x8 x10 x12 : Int64) : Prop := x6 = Int64.ofNat (hits tst V).length ∧ x8 = (hits tst V).headD (-4) ∧ x10 = sureL set (hits tst V) ∧ x12 = freeL set (hits tst V)
theorem cSt_no {tst : Int64 → Bool} {V : List Int64} {x6 x8 x10 x12 s : Int64} (h : cSt set tst V x6 x8 x10 x12) (ht : tst s = false) : cSt set tst (V ++ [s]) x6 x8 x10 x12 := by
  have e : hits tst (V ++ [s]) = hits tst V := by unfold hits; rw [List.filter_append]; simp [ht]
  unfold cSt; rw [e]; exact h
theorem cSt_yes {tst : Int64 → Bool} {V : List Int64} {x6 x8 x10 x12 s : Int64} (hV : V.length ≤ 63) (h : cSt set tst V x6 x8 x10 x12) (ht : tst s = true) : cSt set tst (V ++ [s]) (x6 + 1) (if x6 = 0 then s else x8) (x10 &&& s) (x12 &&& (s ^^^ (-1))) := by
  have e : hits tst (V ++ [s]) = hits tst V ++ [s] := by unfold hits; rw [List.filter_append]; simp [ht]
  have hl : (hits tst V).length ≤ 63 := Nat.le_trans (List.length_filter_le _ _) hV
  unfold cSt; rw [e]
  obtain ⟨h1, h2, h3, h4⟩ := h
  subst h1 h2 h3 h4
  refine ⟨by rw [of64_add, List.length_append]; rfl, ?_, by rw [sureL_app], by rw [freeL_app]⟩
  have := of64_zero (n := (hits tst V).length) (by omega)
  cases hh : hits tst V with
  | nil => rw [hh] at this; rw [if_pos (this.mpr rfl)]; rfl
  | cons a t => rw [hh] at this; rw [if_neg (fun z => by have := this.mp z; simp at this)]; rfl
theorem headD_rev (H : List Int64) (h : H.length ≠ 0) : H.reverse.headD (-4) = H.getLastD 0 := by
  have hne : H ≠ [] := fun q => h (by rw [q]; rfl)
  rw [List.headD_eq_head?_getD, List.head?_reverse, List.getLastD_eq_getLast?, List.getLast?_eq_some_getLast hne]
  rfl
/-- all below one -/
def chn (set x : Int64) : List Int64 := chain set (ix set x 64) x
def chT (set x : Int64) : List Int64 := if x = 0 then [] else chn set (dn set x)
theorem ix_dn' {set x : Int64} (h : sub x set) (h0 : x ≠ 0) : ix set x 64 = ix set (dn set x) 64 + 1 := by
  obtain ⟨h64, hk, hl⟩ := lsb_spec h0
  exact (ix_dn h hk hl 64).2 h64
theorem chn_eq {set x : Int64} (h : sub x set) : chn set x = x :: chT set x := by
  unfold chT
  by_cases h0 : x = 0
  · rw [if_pos h0]
    unfold chn
    subst h0
    cases ix set 0 64 <;> simp [chain]
  · rw [if_neg h0]
    unfold chn
    rw [ix_dn' h h0, chain, if_neg h0]
theorem chn_len {set : Int64} (hc : card set ≤ 6) : (chn set set).length ≤ 64 := by
  have := chain_len (set := set) (ix set set 64) set
  have h2 := ix_set set 64
  have h3 : 2 ^ pop set 64 ≤ 2 ^ 6 := Nat.pow_le_pow_right (by decide) hc
  unfold chn
  omega
abbrev tC (g : Nat → Int32) (gro set : Int64) (grt holes tax : Int32) : Int64 → Bool := tstP (dugP g &&& (set ^^^ (-1))) (deepP g &&& (set ^^^ (-1))) gro grt holes tax
/-- seen V, now s: the rest follows -/
theorem bk_step (hg : okD g) (hset : small set) {s : Int64} (hs : sub s set) {V : List Int64} (hV : V.length ≤ 63) {fu : Nat}
    (hk : ∀ x6 x8 x10 x12 tro trt td kc ks, cSt set (tC g gro set grt holes tax) (V ++ [s]) x6 x8 x10 x12 → kc ≤ 22 * (V.length + 1) → ks ≤ 86 * (V.length + 1) → wX0_books_195 Q (wX0_books_83 Q set holes tax what gro grt g fu) set holes tax what x6 x8 x10 x12 s gro grt g tro trt td kc ks) :
    ∀ x6 x8 x10 x12 tro trt td kc ks, cSt set (tC g gro set grt holes tax) V x6 x8 x10 x12 → kc ≤ 22 * V.length → ks ≤ 86 * V.length → wX0_books_83 Q set holes tax what gro grt g (fu + 1) x6 x8 x10 x12 s tro trt td kc ks := by
  intro x6 x8 x10 x12 tro trt td kc ks hst hkc hks
  unfold wX0_books_83
  refine pX1_takes hg ?_
  intro d' hd'
  have hs' : small s := small_sub hs hset
  refine pX1_becomes (small_and_l hset) (by decide) (by decide) ?_
  refine pX1_becomes hs' (by decide) (by decide) ?_
  rw [if_pos rfl, if_neg (by decide)]
  have eb : agree 36 (bec (bec d' (set &&& (s ^^^ (-1))) 0) s 1) (bec (bec g (set &&& (s ^^^ (-1))) 0) s 1) := bec_agree (bec_agree hd' _ _) _ _
  have ed : dugP (bec (bec d' (set &&& (s ^^^ (-1))) 0) s 1) = (dugP g &&& (set ^^^ (-1))) ||| s := by rw [dugP_of eb, bec2_dug hset hs]
  have et : taxAll (dugP (bec (bec d' (set &&& (s ^^^ (-1))) 0) s 1)) (deepP (bec (bec d' (set &&& (s ^^^ (-1))) 0) s 1)) (gro &&& ((set &&& (s ^^^ (-1))) ^^^ (-1))) grt = taxAll ((dugP g &&& (set ^^^ (-1))) ||| s) (deepP g &&& (set ^^^ (-1))) gro grt := by
    rw [dugP_of eb, deepP_of eb, bec2_tax hset hs]
  generalize bec (bec d' (set &&& (s ^^^ (-1))) 0) s 1 = t at ed et
  generalize gro &&& ((set &&& (s ^^^ (-1))) ^^^ (-1)) = tr at et
  have yes : ∀ kc ks, kc ≤ 22 * (V.length + 1) → ks ≤ 86 * (V.length + 1) → tC g gro set grt holes tax s = true → wX0_books_155 Q (wX0_books_83 Q set holes tax what gro grt g fu) set holes tax what x6 x8 x10 x12 s gro grt g tr grt t kc ks := by
    intro kc ks h1 h2 ht
    have hst' := cSt_yes hV hst ht
    unfold wX0_books_155 wX0_books_169
    refine ⟨fun z => ?_, fun z => ?_⟩
    · intro a ha b hb c hc
      subst ha hb hc
      rw [if_pos z] at hst'
      exact hk _ _ _ _ _ _ _ _ _ hst' h1 h2
    · intro a ha b hb c hc
      subst ha hb hc
      rw [if_neg z] at hst'
      exact hk _ _ _ _ _ _ _ _ _ hst' h1 h2
  have no : ∀ kc ks, kc ≤ 22 * (V.length + 1) → ks ≤ 86 * (V.length + 1) → tC g gro set grt holes tax s = false → wX0_books_195 Q (wX0_books_83 Q set holes tax what gro grt g fu) set holes tax what x6 x8 x10 x12 s gro grt g tr grt t kc ks := fun kc ks h1 h2 ht => hk _ _ _ _ _ _ _ _ _ (cSt_no hst ht) h1 h2
  have t138 : (holes < 0 ∨ nI (hl ((dugP g &&& (set ^^^ (-1))) ||| s)).length = holes) → wX0_books_138 Q (wX0_books_83 Q set holes tax what gro grt g fu) set holes tax what x6 x8 x10 x12 s gro grt g tr grt t kc ks := by
    intro hh
    have e1 : (decide (holes < 0) || decide (nI (hl ((dugP g &&& (set ^^^ (-1))) ||| s)).length = holes)) = true := by
      rcases hh with z | z
      · rw [decide_eq_true z]; rfl
      · rw [decide_eq_true z]; simp
    unfold wX0_books_138
    refine ⟨fun z => ?_, fun z => ⟨by omega, by omega, ?_⟩⟩
    · exact yes _ _ (by omega) (by omega) (by unfold tC tstP; rw [e1, decide_eq_true z]; rfl)
    · refine pX1_tax ?_
      rw [et]
      refine ⟨fun w => ?_, fun w => ?_⟩
      · exact yes _ _ (by omega) (by omega) (by unfold tC tstP; rw [e1, decide_eq_true w]; simp)
      · exact no _ _ (by omega) (by omega) (by unfold tC tstP; rw [e1, decide_eq_false w, decide_eq_false z]; rfl)
  refine ⟨fun z => t138 (Or.inl z), fun z => ?_⟩
  refine pX1_dug ?_
  rw [ed]
  refine pX0_pieces ⟨fun w => t138 (Or.inr w), fun w => ?_⟩
  exact no _ _ (by omega) (by omega) (by unfold tC tstP; rw [decide_eq_false w, decide_eq_false z]; rfl)
theorem bk_up (hg : okD g) (hset : small set) (hc : card set ≤ 6) : ∀ m x, sub x set → ix set x 64 = m → (chT set x).length ≤ 63 →
    (∃ fu, ∀ x6 x8 x10 x12 tro trt td kc ks, cSt set (tC g gro set grt holes tax) (chT set x).reverse x6 x8 x10 x12 → kc ≤ 22 * (chT set x).length → ks ≤ 86 * (chT set x).length → wX0_books_83 Q set holes tax what gro grt g fu x6 x8 x10 x12 x tro trt td kc ks) →
    ∃ fu, ∀ tro trt td, wX0_books_83 Q set holes tax what gro grt g fu 0 (-4) set set 0 tro trt td 0 0 := by
  intro m
  induction m with
  | zero =>
    intro x hx hm _ ⟨fu, h⟩
    have e := ix_zero hm
    subst e
    refine ⟨fu, fun tro trt td => ?_⟩
    have e0 : chT set 0 = [] := by unfold chT; simp
    rw [e0] at h
    exact h _ _ _ _ _ _ _ _ _ ⟨rfl, rfl, rfl, rfl⟩ (by simp) (by simp)
  | succ m ih =>
    intro x hx hm hl ⟨fu, h⟩
    have h0 : x ≠ 0 := fun q => by
      rw [q] at hm
      have : ∀ n, ix set 0 n = 0 := by
        intro n
        induction n with
        | zero => rfl
        | succ n ih => unfold ix; rw [ih, mem_zero]; rfl
      rw [this 64] at hm; omega
    have e : chT set x = dn set x :: chT set (dn set x) := by
      rw [show chT set x = chn set (dn set x) by unfold chT; rw [if_neg h0], chn_eq (dn_sub set x)]
    have hlen : (chT set (dn set x)).length + 1 = (chT set x).length := by rw [e, List.length_cons]
    refine ih (dn set x) (dn_sub set x) (by have := ix_dn' hx h0; omega) (by omega) ⟨fu + 1, ?_⟩
    have := bk_step (Q := Q) (what := what) (holes := holes) (tax := tax) (gro := gro) (grt := grt) hg hset (dn_sub set x) (V := (chT set (dn set x)).reverse) (by rw [List.length_reverse]; omega) (fu := fu) (by
      intro x6 x8 x10 x12 tro trt td kc ks hst hkc hks
      unfold wX0_books_195
      intro a ha
      have ea : a = x := by rw [ha]; exact up_dn hx h0
      subst ea
      refine ⟨fun z => absurd z h0, fun _ => ?_⟩
      refine h _ _ _ _ _ _ _ _ _ ?_ ?_ ?_
      · rw [e, List.reverse_cons]; exact hst
      · rw [List.length_reverse] at hkc; omega
      · rw [List.length_reverse] at hks; omega)
    intro x6 x8 x10 x12 tro trt td kc ks hst hkc hks
    exact this _ _ _ _ _ _ _ _ _ hst (by rw [List.length_reverse]; exact hkc) (by rw [List.length_reverse]; exact hks)
theorem cBooks_main (hg : okD g) (hset : small set) (hc : card set ≤ 6) {td : Nat → Int32} {tro : Int64} {trt : Int32} (h : ∀ a b c, Q (bokA set ((chn set set).filter (tC g gro set grt holes tax)) what) a b c) : ∃ fu, wX0_books_83 Q set holes tax what gro grt g fu 0 (-4) set set 0 tro trt td 0 0 := by
  have hself : sub set set := fun _ h => h
  have hl := chn_len hc
  have ec := chn_eq hself
  have hl' : (chT set set).length ≤ 63 := by rw [ec, List.length_cons] at hl; omega
  have := bk_up (Q := Q) (what := what) (holes := holes) (tax := tax) (gro := gro) (grt := grt) hg hset hc _ set hself rfl hl' ⟨1, by
    have := bk_step (Q := Q) (what := what) (holes := holes) (tax := tax) (gro := gro) (grt := grt) hg hset hself (V := (chT set set).reverse) (by rw [List.length_reverse]; exact hl') (fu := 0) (by
      intro x6 x8 x10 x12 tro trt td kc ks hst _ _
      unfold wX0_books_195
      intro a ha
      have ea : a = 0 := by rw [ha]; exact up_self set
      subst ea
      refine ⟨fun _ => ?_, fun z => absurd rfl z⟩
      have er : (chT set set).reverse ++ [set] = (chn set set).reverse := by rw [ec, List.reverse_cons]
      rw [er] at hst
      have eh : hits (tC g gro set grt holes tax) (chn set set).reverse = ((chn set set).filter (tC g gro set grt holes tax)).reverse := by unfold hits; rw [List.filter_reverse]
      unfold cSt at hst
      rw [eh] at hst
      have hHl : ((chn set set).filter (tC g gro set grt holes tax)).length ≤ 64 := Nat.le_trans (List.length_filter_le _ _) hl
      generalize (chn set set).filter (tC g gro set grt holes tax) = H at hst h hHl
      obtain ⟨h6, h8, h10, h12⟩ := hst
      rw [sureL_rev] at h10
      rw [freeL_rev] at h12
      rw [List.length_reverse] at h6
      unfold bokA at h
      have hz := of64_zero hHl
      refine ⟨fun z => ?_, fun z => ⟨fun w => ?_, fun w => ?_⟩⟩
      · rw [if_pos z] at h; rw [h6]; exact h _ _ _
      · rw [h6] at w
        rw [if_neg z, if_pos (hz.mp w)] at h; exact h _ _ _
      · rw [h6] at w
        have hn : ¬ H.length = 0 := fun q => w (hz.mpr q)
        rw [if_neg z, if_neg hn] at h
        refine ⟨fun u => ?_, fun u => ⟨fun v => ?_, fun v => ?_⟩⟩
        · rw [if_pos u] at h; rw [h8, headD_rev H hn]; exact h _ _ _
        · rw [if_neg u, if_pos v] at h; rw [h10]; exact h _ _ _
        · rw [if_neg u, if_neg v] at h; rw [h12]; exact h _ _ _)
    intro x6 x8 x10 x12 tro trt td kc ks hst hkc hks
    exact this _ _ _ _ _ _ _ _ _ hst (by rw [List.length_reverse]; exact hkc) (by rw [List.length_reverse]; exact hks)⟩
  obtain ⟨fu, hf⟩ := this
  exact ⟨fu, hf _ _ _⟩
end
abbrev bokOk (set : Int64) (holes tax what : Int32) : Prop := (0 ≤ set ∧ set ≤ 68719476735) ∧ card set ≤ 6 ∧ (-1 ≤ holes ∧ holes ≤ 36) ∧ (-1 ≤ tax ∧ tax ≤ 9999) ∧ 0 ≤ what ∧ what ≤ 3
def bokP (g : Nat → Int32) (gro : Int64) (grt : Int32) (set : Int64) (holes tax what : Int32) : Int64 := if bokOk set holes tax what then bokA set ((chn set set).filter (tC g gro set grt holes tax)) what else -1
theorem six_lt (x : Int64) : 6 < nI (card x) ↔ ¬ card x ≤ 6 := by
  have := card_le x
  rw [show (6 : Int32) = nI 6 from rfl, nI_ltN (by decide) (by omega)]
  omega
theorem cBooks {Q : Int64 → (Nat → Int32) → Int64 → Int32 → Prop} {g td : Nat → Int32} {gro tro set : Int64} {grt trt holes tax what : Int32} (hg : okD g) (h : ∀ a b c, Q (bokP g gro grt set holes tax what) a b c) : wX0_books Q g gro grt td tro trt set holes tax what := by
  unfold bokP at h
  unfold wX0_books
  refine pX0_in ⟨fun q => ?_, fun q1 => pX0_size ⟨fun q => ?_, fun q2 => pX0_inI (lo := -1) (hi := 36) ⟨fun q => ?_, fun q3 => pX0_inI (lo := -1) (hi := 9999) ⟨fun q => ?_, fun q4 => pX0_inI (lo := 0) (hi := 3) ⟨fun q => ?_, fun q5 => ?_⟩⟩⟩⟩⟩
  · rw [if_neg (fun z => b2_0 q z.1)] at h; exact h _ _ _
  · rw [if_neg (fun z => (six_lt set).mp q z.2.1)] at h; exact h _ _ _
  · rw [if_neg (fun z => b2_0 q z.2.2.1)] at h; exact h _ _ _
  · rw [if_neg (fun z => b2_0 q z.2.2.2.1)] at h; exact h _ _ _
  · rw [if_neg (fun z => b2_0 q z.2.2.2.2)] at h; exact h _ _ _
  · have hc : card set ≤ 6 := Classical.not_not.mp (fun z => q2 ((six_lt set).mpr z))
    rw [if_pos ⟨b2_1 q1, hc, b2_1 q3, b2_1 q4, b2_1 q5⟩] at h
    exact cBooks_main hg (small_of_le (b2_1 q1).1 (b2_1 q1).2) hc h
section
variable {Q : Int64 → Int64 → Int64 → (Nat → Int64) → Int32 → Prop} {g : Nat → Int32} {gro set : Int64} {grt holes tax what : Int32}
def mSt (set : Int64) (tst : Int64 → Bool) (V : List Int64) (x8 : Int32) (x9 x11 x13 : Int64) : Prop := x8 = nI (hits tst V).length ∧ x9 = (hits tst V).getLastD 0 ∧ x11 = sureL set (hits tst V) ∧ x13 = freeL set (hits tst V)
theorem mSt_no {tst : Int64 → Bool} {V : List Int64} {x8 : Int32} {x9 x11 x13 s : Int64} (h : mSt set tst V x8 x9 x11 x13) (ht : tst s = false) : mSt set tst (V ++ [s]) x8 x9 x11 x13 := by
  have e : hits tst (V ++ [s]) = hits tst V := by unfold hits; rw [List.filter_append]; simp [ht]
  unfold mSt; rw [e]; exact h
theorem mSt_yes {tst : Int64 → Bool} {V : List Int64} {x8 : Int32} {x9 x11 x13 s : Int64} (h : mSt set tst V x8 x9 x11 x13) (ht : tst s = true) : mSt set tst (V ++ [s]) (x8 + 1) s (x11 &&& s) (x13 &&& (s ^^^ (-1))) := by
  have e : hits tst (V ++ [s]) = hits tst V ++ [s] := by unfold hits; rw [List.filter_append]; simp [ht]
  unfold mSt; rw [e]
  obtain ⟨h1, h2, h3, h4⟩ := h
  subst h1 h2 h3 h4
  exact ⟨by rw [nI_add1, List.length_append]; rfl, by simp, by rw [sureL_app], by rw [freeL_app]⟩
theorem mb_114 (hset : small set) (hlen : (chn set set).length ≤ 64) (h : ∀ a b c d, Q (bokA set ((chn set set).filter (tC g gro set grt holes tax)) what) a b c d) : ∀ m x V, sub x set → ix set x 64 = m → V ++ chn set x = chn set set → ∃ fu, ∀ x8 x9 x11 x13 dug hs hm, mSt set (tC g gro set grt holes tax) V x8 x9 x11 x13 → wX3_books_114 Q set holes tax what (dugP g &&& (set ^^^ (-1))) g gro grt (deepP g &&& (set ^^^ (-1))) fu x8 x9 x11 x13 1 x dug hs hm := by
  -- the end
  have fin : ∀ fu x x8 x9 x11 x13 dug hs hm, mSt set (tC g gro set grt holes tax) (chn set set) x8 x9 x11 x13 → wX3_books_114 Q set holes tax what (dugP g &&& (set ^^^ (-1))) g gro grt (deepP g &&& (set ^^^ (-1))) (fu + 1) x8 x9 x11 x13 0 x dug hs hm := by
    intro fu x x8 x9 x11 x13 dug hs hm hst
    unfold mSt hits at hst
    have hHl : ((chn set set).filter (tC g gro set grt holes tax)).length ≤ 64 := Nat.le_trans (List.length_filter_le _ _) hlen
    generalize (chn set set).filter (tC g gro set grt holes tax) = H at hst h hHl
    obtain ⟨h8, h9, h11, h13⟩ := hst
    unfold bokA at h
    have hz : nI H.length = 0 ↔ H.length = 0 := nI_inj (b := 0) (by omega) (by decide)
    unfold wX3_books_114
    refine ⟨fun _ => ⟨fun z => ?_, fun z => ⟨fun w => ?_, fun w => ?_⟩⟩, fun z => absurd rfl z⟩
    · rw [if_pos z] at h; rw [h8, of64_nI hHl]; exact h _ _ _ _
    · rw [h8] at w
      rw [if_neg z, if_pos (hz.mp w)] at h; exact h _ _ _ _
    · rw [h8] at w
      have hn : ¬ H.length = 0 := fun q => w (hz.mpr q)
      rw [if_neg z, if_neg hn] at h
      refine ⟨fun u => ?_, fun u => ⟨fun v => ?_, fun v => ?_⟩⟩
      · rw [if_pos u] at h; rw [h9]; exact h _ _ _ _
      · rw [if_neg u, if_pos v] at h; rw [h11]; exact h _ _ _ _
      · rw [if_neg u, if_neg v] at h; rw [h13]; exact h _ _ _ _
  -- one of them: then the next
  have step : ∀ x V fu, sub x set → (∀ x8 x9 x11 x13 dug hs hm, mSt set (tC g gro set grt holes tax) (V ++ [x]) x8 x9 x11 x13 → wX3_books_183 Q (wX3_books_114 Q set holes tax what (dugP g &&& (set ^^^ (-1))) g gro grt (deepP g &&& (set ^^^ (-1))) fu) set holes tax what (dugP g &&& (set ^^^ (-1))) x8 x9 x11 x13 x g gro grt dug (deepP g &&& (set ^^^ (-1))) hs hm) → ∀ x8 x9 x11 x13 dug hs hm, mSt set (tC g gro set grt holes tax) V x8 x9 x11 x13 → wX3_books_114 Q set holes tax what (dugP g &&& (set ^^^ (-1))) g gro grt (deepP g &&& (set ^^^ (-1))) (fu + 1) x8 x9 x11 x13 1 x dug hs hm := by
    intro x V fu hx hk x8 x9 x11 x13 dug hs hm hst
    unfold wX3_books_114
    refine ⟨fun z => absurd z (by decide), fun _ => ?_⟩
    intro d hd
    subst hd
    refine pX3_taxOfAll (small_or (small_and_l (small_dugP g)) (small_sub hx hset)) ?_
    have yes : ∀ dug hs hm, tC g gro set grt holes tax x = true → wX3_books_158 Q (wX3_books_114 Q set holes tax what (dugP g &&& (set ^^^ (-1))) g gro grt (deepP g &&& (set ^^^ (-1))) fu) set holes tax what (dugP g &&& (set ^^^ (-1))) x8 x11 x13 x g gro grt dug (deepP g &&& (set ^^^ (-1))) hs hm := by
      intro dug hs hm ht
      unfold wX3_books_158
      intro a ha b hb c hc
      subst ha hb hc
      exact hk _ _ _ _ _ _ _ (mSt_yes hst ht)
    have no : ∀ dug hs hm, tC g gro set grt holes tax x = false → wX3_books_183 Q (wX3_books_114 Q set holes tax what (dugP g &&& (set ^^^ (-1))) g gro grt (deepP g &&& (set ^^^ (-1))) fu) set holes tax what (dugP g &&& (set ^^^ (-1))) x8 x9 x11 x13 x g gro grt dug (deepP g &&& (set ^^^ (-1))) hs hm := fun dug hs hm ht => hk _ _ _ _ _ _ _ (mSt_no hst ht)
    have t146 : (holes < 0 ∨ nI (hl ((dugP g &&& (set ^^^ (-1))) ||| x)).length = holes) → ∀ dug hs hm, wX3_books_146 Q (wX3_books_114 Q set holes tax what (dugP g &&& (set ^^^ (-1))) g gro grt (deepP g &&& (set ^^^ (-1))) fu) set holes tax what (dugP g &&& (set ^^^ (-1))) x8 x9 x11 x13 x (taxAll ((dugP g &&& (set ^^^ (-1))) ||| x) (deepP g &&& (set ^^^ (-1))) gro grt) g gro grt dug (deepP g &&& (set ^^^ (-1))) hs hm := by
      intro hh dug hs hm
      have e1 : (decide (holes < 0) || decide (nI (hl ((dugP g &&& (set ^^^ (-1))) ||| x)).length = holes)) = true := by
        rcases hh with z | z
        · rw [decide_eq_true z]; rfl
        · rw [decide_eq_true z]; simp
      unfold wX3_books_146
      refine ⟨fun z => ?_, fun z => ⟨fun w => ?_, fun w => ?_⟩⟩
      · exact yes _ _ _ (by unfold tC tstP; rw [e1, decide_eq_true z]; rfl)
      · exact yes _ _ _ (by unfold tC tstP; rw [e1, decide_eq_true w]; simp)
      · exact no _ _ _ (by unfold tC tstP; rw [e1, decide_eq_false w, decide_eq_false z]; rfl)
    refine ⟨fun z => t146 (Or.inl z) _ _ _, fun z => ⟨fun w => t146 (Or.inr w) _ _ _, fun w => ?_⟩⟩
    exact no _ _ _ (by unfold tC tstP; rw [decide_eq_false w, decide_eq_false z]; rfl)
  intro m
  induction m with
  | zero =>
    intro x V hx hm hV
    have e := ix_zero hm
    subst e
    refine ⟨2, step 0 V 1 hx ?_⟩
    intro x8 x9 x11 x13 dug hs hm hst
    have e0 : chT set 0 = [] := by unfold chT; simp
    rw [chn_eq hx, e0] at hV
    rw [hV] at hst
    unfold wX3_books_183 wX3_books_195
    refine ⟨fun _ => ?_, fun z => absurd rfl z⟩
    intro a ha
    exact fin 0 _ _ _ _ _ _ _ _ hst
  | succ m ih =>
    intro x V hx hm hV
    have h0 : x ≠ 0 := fun q => by
      rw [q] at hm
      have : ∀ n, ix set 0 n = 0 := by
        intro n
        induction n with
        | zero => rfl
        | succ n ih => unfold ix; rw [ih, mem_zero]; rfl
      rw [this 64] at hm; omega
    have e : chT set x = chn set (dn set x) := by unfold chT; rw [if_neg h0]
    obtain ⟨fu, hf⟩ := ih (dn set x) (V ++ [x]) (dn_sub set x) (by have := ix_dn' hx h0; omega) (by rw [← hV, chn_eq hx, e]; simp)
    refine ⟨fu + 1, step x V fu hx ?_⟩
    intro x8 x9 x11 x13 dug hs hm hst
    unfold wX3_books_183 wX3_books_195
    refine ⟨fun z => absurd z h0, fun _ => ?_⟩
    intro a ha
    have ea : a = dn set x := ha
    subst ea
    exact hf _ _ _ _ _ _ _ hst
end
theorem mBooks {Q : Int64 → Int64 → Int64 → (Nat → Int64) → Int32 → Prop} {g : Nat → Int32} {gro set dug deep : Int64} {grt holes tax what hm : Int32} {hs : Nat → Int64} (h : ∀ a b c d, Q (bokP g gro grt set holes tax what) a b c d) : wX3_books Q g gro grt dug deep hs hm set holes tax what := by
  unfold bokP at h
  unfold wX3_books
  refine pX3_in ⟨fun q => ?_, fun q1 => pX3_ones ⟨fun q => ?_, fun q2 => pX3_inI (lo := -1) (hi := 36) ⟨fun q => ?_, fun q3 => pX3_inI (lo := -1) (hi := 9999) ⟨fun q => ?_, fun q4 => pX3_inI (lo := 0) (hi := 3) ⟨fun q => ?_, fun q5 => ?_⟩⟩⟩⟩⟩
  · rw [if_neg (fun z => b2_0 q z.1)] at h; exact h _ _ _ _
  · rw [if_neg (fun z => (six_lt set).mp q z.2.1)] at h; exact h _ _ _ _
  · rw [if_neg (fun z => b2_0 q z.2.2.1)] at h; exact h _ _ _ _
  · rw [if_neg (fun z => b2_0 q z.2.2.2.1)] at h; exact h _ _ _ _
  · rw [if_neg (fun z => b2_0 q z.2.2.2.2)] at h; exact h _ _ _ _
  · have hc : card set ≤ 6 := Classical.not_not.mp (fun z => q2 ((six_lt set).mpr z))
    rw [if_pos ⟨b2_1 q1, hc, b2_1 q3, b2_1 q4, b2_1 q5⟩] at h
    refine pX3_look ?_
    intro a ha b hb
    subst ha hb
    obtain ⟨fu, hf⟩ := mb_114 (small_of_le (b2_1 q1).1 (b2_1 q1).2) (chn_len hc) h _ set [] (fun _ h => h) rfl rfl
    exact ⟨fu, hf _ _ _ _ _ _ _ ⟨rfl, rfl, rfl, rfl⟩⟩
theorem oBooks {P : Int64 → (Nat → Int32) → Int64 → Int32 → Int64 → Int64 → Int64 → (Nat → Int64) → Int32 → Prop} {g g' td : Nat → Int32} {roofs tro dug deep set : Int64} {rt trt hm holes tax what : Int32} {hs : Nat → Int64} (hd : okD g) (hg : agree 36 g g') (hp : ∀ v t1 t2 t3 a b c d, P v t1 t2 t3 v a b c d) : wX0_books (fun r t1 t2 t3 => wX3_books (fun r' a b c d => P r t1 t2 t3 r' a b c d) g' roofs rt dug deep hs hm set holes tax what) g roofs rt td tro trt set holes tax what :=
  cBooks hd (fun _ _ _ => mBooks (fun a b c d => by
    have e : bokP g' roofs rt set holes tax what = bokP g roofs rt set holes tax what := by unfold bokP tC; rw [dugP_of hg, deepP_of hg]
    rw [e]; exact hp _ _ _ _ _ _ _ _))
