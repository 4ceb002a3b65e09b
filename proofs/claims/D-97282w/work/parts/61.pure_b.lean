/-! PURE 8: cells, roofs, split -/
/-- what is told of the hole of a cell -/
theorem cCells {Q : Int64 → Prop} {g : Nat → Int32} {roofs : Int64} {rt x y : Int32} (h : Q (if isC x ∧ 0 ≤ y ∧ y ≤ 2 then (if mem (dugP g) x.toNatClampNeg = true then (if y = 0 then comp (bit x.toNatClampNeg) (dugP g) else if y = 1 then rimP (comp (bit x.toNatClampNeg) (dugP g)) else innP (comp (bit x.toNatClampNeg) (dugP g))) else -2) else -1)) : wX0_cells Q g roofs rt x y := by
  unfold wX0_cells
  refine pX0_isCell ⟨fun q => ?_, fun q => pX0_inI (lo := 0) (hi := 2) ⟨fun z => ?_, fun z => ?_⟩⟩
  · rw [if_neg (fun z => b2_0 q z.1)] at h; exact h
  · rw [if_neg (fun w => b2_0 z w.2)] at h; exact h
  · rw [if_pos ⟨b2_1 q, b2_1 z⟩] at h
    obtain ⟨k, hk, e⟩ := isC_ex (b2_1 q)
    subst e
    rw [clam_nI (by omega)] at h
    refine pX1_hole (by omega) (fun m => ?_) (fun m => ?_)
    · rw [if_neg (by rw [m]; decide)] at h; exact h
    · rw [if_pos m] at h
      refine ⟨fun a => ?_, fun a => ⟨fun b => ?_, fun b => ?_⟩⟩
      · rw [if_pos a] at h; exact h
      · rw [if_neg a, if_pos b] at h; exact pP_rim h
      · rw [if_neg a, if_neg b] at h; exact pP_within h
theorem mCells {Q : Int64 → Int64 → Int64 → Prop} {g : Nat → Int32} {dug deep : Int64} {x y : Int32} (h : ∀ a b, Q (if isC x ∧ 0 ≤ y ∧ y ≤ 2 then (if mem (dugP g) x.toNatClampNeg = true then (if y = 0 then comp (bit x.toNatClampNeg) (dugP g) else if y = 1 then rimP (comp (bit x.toNatClampNeg) (dugP g)) else innP (comp (bit x.toNatClampNeg) (dugP g))) else -2) else -1) a b) : wX3_cells Q g dug deep x y := by
  unfold wX3_cells
  refine pX3_isCell ⟨fun q => ?_, fun q => pX3_inI (lo := 0) (hi := 2) ⟨fun z => ?_, fun z => ?_⟩⟩
  · rw [if_neg (fun z => b2_0 q z.1)] at h; exact h _ _
  · rw [if_neg (fun w => b2_0 z w.2)] at h; exact h _ _
  · rw [if_pos ⟨b2_1 q, b2_1 z⟩] at h
    obtain ⟨k, hk, e⟩ := isC_ex (b2_1 q)
    subst e
    rw [clam_nI (by omega)] at h
    refine pX3_look ?_
    refine pX3_has (by omega) ⟨fun m => ?_, fun m => ?_⟩
    · rw [if_neg (b2_0 m)] at h; exact h _ _
    · have m := b2_1 m
      rw [if_pos m] at h
      refine pX3_holeAt (by omega) ?_
      refine ⟨fun a => ?_, fun a => ⟨fun b => ?_, fun b => ?_⟩⟩
      · rw [if_pos a] at h; exact h _ _
      · rw [if_neg a, if_pos b] at h; exact pX3_rimOf (small_dugP g) (comp_hole m) (h _ _)
      · rw [if_neg a, if_neg b] at h; exact pX3_withinOf (h _ _)
theorem oCells {P : Int64 → Int64 → Int64 → Int64 → Prop} {g g' : Nat → Int32} {roofs dug deep : Int64} {rt x y : Int32} (hg : agree 36 g g') (hp : ∀ v a b, P v v a b) : wX0_cells (fun r => wX3_cells (fun r' a b => P r r' a b) g' dug deep x y) g roofs rt x y :=
  cCells (mCells (fun a b => by rw [dugP_of hg]; exact hp _ _ _))
theorem cRoofs {Q : Int32 → Prop} {g : Nat → Int32} {roofs : Int64} {rt x : Int32} (h : Q (if isC x then (if mem (dugP g) x.toNatClampNeg = true then nI (card (comp (bit x.toNatClampNeg) (dugP g) &&& (roofs ^^^ (-1)))) else -2) else -1)) : wX0_roofs Q g roofs rt x := by
  unfold wX0_roofs
  refine pX0_isCell ⟨fun q => ?_, fun q => ?_⟩
  · rw [if_neg (b2_0 q)] at h; exact h
  · rw [if_pos (b2_1 q)] at h
    obtain ⟨k, hk, e⟩ := isC_ex (b2_1 q)
    subst e
    rw [clam_nI (by omega)] at h
    refine pX1_hole (by omega) (fun m => ?_) (fun m => ?_)
    · rw [if_neg (by rw [m]; decide)] at h; exact h
    · rw [if_pos m] at h; exact pX0_size h
theorem mRoofs {Q : Int32 → Int64 → Int64 → Prop} {g : Nat → Int32} {roofs dug deep : Int64} {x : Int32} (h : ∀ a b, Q (if isC x then (if mem (dugP g) x.toNatClampNeg = true then nI (card (comp (bit x.toNatClampNeg) (dugP g) &&& (roofs ^^^ (-1)))) else -2) else -1) a b) : wX3_roofs Q g roofs dug deep x := by
  unfold wX3_roofs
  refine pX3_isCell ⟨fun q => ?_, fun q => ?_⟩
  · rw [if_neg (b2_0 q)] at h; exact h _ _
  · rw [if_pos (b2_1 q)] at h
    obtain ⟨k, hk, e⟩ := isC_ex (b2_1 q)
    subst e
    rw [clam_nI (by omega)] at h
    refine pX3_look ?_
    refine pX3_has (by omega) ⟨fun m => ?_, fun m => ?_⟩
    · rw [if_neg (b2_0 m)] at h; exact h _ _
    · rw [if_pos (b2_1 m)] at h
      exact pX3_holeAt (by omega) (pX3_ones (h _ _))
theorem oRoofs {P : Int32 → Int32 → Int64 → Int64 → Prop} {g g' : Nat → Int32} {roofs dug deep : Int64} {rt x : Int32} (hg : agree 36 g g') (hp : ∀ v a b, P v v a b) : wX0_roofs (fun r => wX3_roofs (fun r' a b => P r r' a b) g' roofs dug deep x) g roofs rt x :=
  cRoofs (mRoofs (fun a b => by rw [dugP_of hg]; exact hp _ _ _))
/-- the first that does -/
def fnd (p : Nat → Bool) : Nat → Nat → Option Nat
  | 0, _ => none
  | n + 1, k => if p k then some k else fnd p n (k + 1)
def fnd2 (p : Nat → Nat → Bool) : Nat → Nat → Option (Nat × Nat)
  | 0, _ => none
  | n + 1, a => match fnd (p a) (35 - a) (a + 1) with
    | some b => some (a, b)
    | none => fnd2 p n (a + 1)
theorem fnd_some {p : Nat → Bool} : ∀ {n k j}, fnd p n k = some j → k ≤ j ∧ j < k + n ∧ p j = true := by
  intro n
  induction n with
  | zero => intro k j h; exact absurd h (by simp [fnd])
  | succ n ih =>
    intro k j h
    unfold fnd at h
    split at h
    · rename_i q; injection h with h; subst h; exact ⟨Nat.le_refl _, by omega, q⟩
    · have := ih h; exact ⟨by omega, by omega, this.2.2⟩
theorem fnd2_some {p : Nat → Nat → Bool} : ∀ {n k a b}, k + n = 36 → fnd2 p n k = some (a, b) → a < 36 ∧ b < 36 := by
  intro n
  induction n with
  | zero => intro k a b _ h; exact absurd h (by simp [fnd2])
  | succ n ih =>
    intro k a b e h
    unfold fnd2 at h
    split at h
    · rename_i c q
      have := fnd_some q
      injection h with h
      injection h with h1 h2
      subst h1 h2
      exact ⟨by omega, by omega⟩
    · exact ih (by omega) h
/-- what is found: none, no cell, one, two -/
abbrev Few := Option (List Nat)
def few (p1 : Nat → Bool) (p2 : Nat → Nat → Bool) : Few := match fnd p1 36 0 with
  | some a => some [a]
  | none => match fnd2 p2 36 0 with
    | some (a, b) => some [a, b]
    | none => none
def Few.ok : Few → Prop
  | none => True
  | some [] => True
  | some [a] => a < 36
  | some [a, b] => a < 36 ∧ b < 36
  | some (_ :: _ :: _ :: _) => False
theorem few_ok (p1 : Nat → Bool) (p2 : Nat → Nat → Bool) : (few p1 p2).ok := by
  unfold few
  split
  · rename_i a h; have := fnd_some h; show _ < 36; omega
  · split
    · rename_i a b h; exact fnd2_some rfl h
    · trivial
def Few.row : Few → Int32
  | none => -4
  | some [] => 9999
  | some [a] => 100 * nI a + 99
  | some [a, b] => 100 * nI a + nI b
  | some (_ :: _ :: _ :: _) => 0
def Few.many : Few → Int32
  | none => -4
  | some [] => 0
  | some [_] => 1
  | some [_, _] => 2
  | some (_ :: _ :: _ :: _) => 0
def Few.ans (f : Few) (i : Int32) : Int32 := if i < 0 then f.many else match f with
  | none => -4
  | some [] => -4
  | some [a] => if i = 0 then nI a else -4
  | some [a, b] => if i = 0 then nI a else nI b
  | some (_ :: _ :: _ :: _) => 0
theorem row_no {a b : Nat} (ha : a < 36) (hb : b < 100) : ¬ (100 * nI a + nI b = -4) ∧ (100 * nI a + nI b) / 100 = nI a ∧ (100 * nI a + nI b) - (100 * nI a + nI b) / 100 * 100 = nI b ∧ ¬ nI a = 99 := by
  have : ∀ a : Fin 36, ∀ b : Fin 100, ¬ (100 * nI a.val + nI b.val = -4) ∧ (100 * nI a.val + nI b.val) / 100 = nI a.val ∧ (100 * nI a.val + nI b.val) - (100 * nI a.val + nI b.val) / 100 * 100 = nI b.val ∧ ¬ nI a.val = 99 := by decide +kernel
  exact this ⟨a, ha⟩ ⟨b, hb⟩
theorem pX0_found {Q : Int32 → Prop} {f : Few} (hf : f.ok) {i : Int32} (h : Q (f.ans i)) : wX0_found Q f.row i := by
  unfold wX0_found wX0_found_56 wX0_found_34
  rcases f with _ | _ | ⟨a, _ | ⟨b, _ | ⟨c, t⟩⟩⟩
  · refine ⟨fun _ => ?_, fun q => absurd rfl q⟩
    unfold Few.ans Few.many at h
    simpa using h
  · refine ⟨fun q => absurd q (by decide), fun _ => ?_⟩
    intro a ha b hb
    have e1 : a = 99 := by rw [ha]; decide
    have e2 : b = 99 := by rw [hb]; decide
    subst e1 e2
    unfold Few.ans Few.many at h
    by_cases q : i < 0
    · rw [if_pos q] at h
      exact ⟨fun z => absurd q (Int32.not_lt.mpr z), fun _ => ⟨fun _ => ⟨fun _ => h, fun z => absurd rfl z⟩, fun z => absurd rfl z⟩⟩
    · rw [if_neg q] at h
      exact ⟨fun _ => ⟨fun _ => ⟨fun _ => h, fun z => absurd rfl z⟩, fun _ => ⟨fun _ => h, fun z => absurd rfl z⟩⟩, fun z => absurd (Int32.not_lt.mp q) z⟩
  · have e := row_no (a := a) (b := 99) hf (by decide)
    have hr : Few.row (some [a]) = 100 * nI a + nI 99 := rfl
    rw [hr]
    refine ⟨fun q => absurd q e.1, fun _ => ?_⟩
    intro x hx y hy
    rw [e.2.1] at hx
    rw [e.2.2.1] at hy
    subst hx hy
    unfold Few.ans Few.many at h
    by_cases q : i < 0
    · rw [if_pos q] at h
      exact ⟨fun z => absurd q (Int32.not_lt.mpr z), fun _ => ⟨fun z => absurd z e.2.2.2, fun _ => ⟨fun _ => h, fun z => absurd rfl z⟩⟩⟩
    · rw [if_neg q] at h
      refine ⟨fun _ => ⟨fun z => ⟨fun w => absurd w e.2.2.2, fun _ => ?_⟩, fun z => ⟨fun _ => ?_, fun w => absurd rfl w⟩⟩, fun z => absurd (Int32.not_lt.mp q) z⟩
      · simpa [z] using h
      · simpa [z] using h
  · have e := row_no (a := a) (b := b) hf.1 (by have := hf.2; omega)
    have e' := row_no (a := b) (b := b) hf.2 (by have := hf.2; omega)
    have hr : Few.row (some [a, b]) = 100 * nI a + nI b := rfl
    rw [hr]
    refine ⟨fun q => absurd q e.1, fun _ => ?_⟩
    intro x hx y hy
    rw [e.2.1] at hx
    rw [e.2.2.1] at hy
    subst hx hy
    unfold Few.ans Few.many at h
    by_cases q : i < 0
    · rw [if_pos q] at h
      exact ⟨fun z => absurd q (Int32.not_lt.mpr z), fun _ => ⟨fun z => absurd z e.2.2.2, fun _ => ⟨fun z => absurd z e'.2.2.2, fun _ => h⟩⟩⟩
    · rw [if_neg q] at h
      refine ⟨fun _ => ⟨fun z => ⟨fun w => absurd w e.2.2.2, fun _ => ?_⟩, fun z => ⟨fun w => absurd w e'.2.2.2, fun _ => ?_⟩⟩, fun z => absurd (Int32.not_lt.mp q) z⟩
      · simpa [z] using h
      · simpa [z] using h
  · exact hf.elim
/-! PURE 9: fewest cells of the model; split -/
/-- does it -/
def dz (dug deep roofs : Int64) (rate tax : Int32) (hole set : Int64) : Bool := if hole = 0 then decide (taxAll (dug &&& (set ^^^ (-1))) deep roofs rate ≤ tax) else decide (1 < (hl (hole &&& (set ^^^ (-1)))).length)
theorem two_iff {x : Int64} : 1 < (hl x).length ↔ x ≠ 0 ∧ comp (bit (lsb x)) x ≠ x := by
  constructor
  · intro h
    have h0 : x ≠ 0 := fun q => by rw [q, hl_zero] at h; exact absurd h (by simp)
    refine ⟨h0, fun q => ?_⟩
    rw [hl_cons h0, List.length_cons] at h
    have : x &&& (comp (bit (lsb x)) x ^^^ (-1)) = 0 := by
      rw [q]; exact mem_ext (fun i _ => by rw [mem_minus, mem_zero]; cases mem x i <;> rfl)
    rw [this, hl_zero] at h
    exact absurd h (by simp)
  · rintro ⟨h0, hn⟩
    rw [hl_cons h0, List.length_cons]
    have : x &&& (comp (bit (lsb x)) x ^^^ (-1)) ≠ 0 := by
      intro q
      apply hn
      apply eq_of_sub comp_sub
      intro i hi
      have := congrArg (fun z => mem z i) q
      simp only [mem_minus, mem_zero, hi, Bool.true_and, Bool.not_eq_false'] at this
      exact this
    rw [hl_cons this, List.length_cons]
    omega
theorem mDoes {Q : Int32 → Int64 → (Nat → Int64) → Int32 → Prop} {dug deep roofs set hole : Int64} {rate tax hm : Int32} {hs : Nat → Int64} (hd : small dug) (h : ∀ a b, Q (b2 (dz dug deep roofs rate tax hole set = true)) dug a b) : wX3_does Q roofs rate dug deep hs hm set tax hole := by
  unfold wX3_does
  refine ⟨fun e => ?_, fun e => ?_⟩
  · intro a ha
    subst ha
    refine pX3_taxOfAll (small_and_l hd) ?_
    unfold wX3_does_81
    unfold dz at h
    rw [if_pos e] at h
    refine ⟨fun q => ⟨bz0, ?_⟩, fun q => ⟨bz1, ?_⟩⟩
    · rw [b2_f (by simpa using q)] at h; exact h _ _
    · rw [b2_t (by simpa using Int32.not_lt.mp q)] at h; exact h _ _
  · intro a ha
    subst ha
    unfold dz at h
    rw [if_neg e] at h
    refine ⟨fun q => ?_, fun q => ?_⟩
    · rw [b2_f (by rw [q, hl_zero]; simp)] at h; exact h _ _
    · refine pX3_least q ?_
      rw [bit_nI (lsb_spec q).1]
      refine pX3_grown ⟨fun z => ?_, fun z => ?_⟩
      · rw [b2_f (by rw [decide_eq_true_eq, two_iff]; exact fun w => w.2 z)] at h; exact h _ _
      · rw [b2_t (by rw [decide_eq_true_eq, two_iff]; exact ⟨q, z⟩)] at h; exact h _ _
def Few.rowOK (f : Few) (r : Nat → Int32) : Prop := match f with
  | none => True
  | some [] => True
  | some [a] => r 0 = nI a
  | some [a, b] => r 0 = nI a ∧ r 1 = nI b
  | some (_ :: _ :: _ :: _) => False
section
variable {Q : Int32 → Int64 → (Nat → Int64) → Int32 → (Nat → Int32) → Prop} {dug deep roofs hole may : Int64} {rate tax : Int32}
theorem n36 {b : Nat} (h : b < 36) : ¬ 36 ≤ nI b := fun q => absurd ((nI_leN (a := 36) (by decide) (by omega)).mp q) (by omega)
theorem ff_93 (hd : small dug) {k80 : Int32 → Int64 → (Nat → Int64) → Int32 → (Nat → Int32) → Prop} {a : Nat} (ha : a < 36) : ∀ n b, b + n = 36 →
    (∀ c, fnd (fun b => mem may a && mem may b && dz dug deep roofs rate tax hole (bit a ||| bit b)) n b = some c → ∀ hs hm row', row' 0 = nI a → row' 1 = nI c → Q 2 dug hs hm row') →
    (fnd (fun b => mem may a && mem may b && dz dug deep roofs rate tax hole (bit a ||| bit b)) n b = none → ∀ hs hm row, k80 (nI (a + 1)) dug hs hm row) →
    ∀ hs hm row, wX3_fewestFilled_93 Q k80 tax hole may (nI a) roofs rate deep (n + 1) (nI b) dug hs hm row := by
  intro n
  induction n with
  | zero =>
    intro b hb h1 h2 hs hm row
    unfold wX3_fewestFilled_93
    have e : b = 36 := by omega
    subst e
    refine ⟨fun _ => ?_, fun q => absurd (by decide) q⟩
    intro x hx
    subst hx
    rw [nI_add1]
    exact h2 rfl _ _ _
  | succ n ih =>
    intro b hb h1 h2 hs hm row
    have go : ∀ hs hm row, (mem may a && mem may b && dz dug deep roofs rate tax hole (bit a ||| bit b)) = false → wX3_fewestFilled_93 Q k80 tax hole may (nI a) roofs rate deep (n + 1) (nI (b + 1)) dug hs hm row := by
      intro hs hm row hf
      refine ih (b + 1) (by omega) ?_ ?_ hs hm row
      · intro c hc; exact h1 c (by unfold fnd; rw [hf]; exact hc)
      · intro hc; exact h2 (by unfold fnd; rw [hf]; exact hc)
    unfold wX3_fewestFilled_93
    refine ⟨fun h => absurd h (n36 (by omega)), fun _ => ?_⟩
    refine pX3_has (by omega) ⟨fun q => ?_, fun qa => ?_⟩
    · intro x hx; subst hx; rw [nI_add1]
      refine go _ _ _ ?_
      have := b2_0 q
      cases ma : mem may a with
      | false => rfl
      | true => exact absurd ma this
    refine pX3_has (by omega) ⟨fun q => ?_, fun qb => ?_⟩
    · intro x hx; subst hx; rw [nI_add1]
      refine go _ _ _ ?_
      have := b2_0 q
      cases mb : mem may b with
      | false => simp
      | true => exact absurd mb this
    rw [bit_nI (by omega), bit_nI (by omega)]
    refine mDoes hd ?_
    intro hs hm
    refine ⟨fun q => ?_, fun qd => ⟨in_nI (k := 0) (by decide) (by decide), ?_⟩⟩
    · intro x hx; subst hx; rw [nI_add1]
      refine go _ _ _ ?_
      have := b2_0 q
      cases md : dz dug deep roofs rate tax hole (bit a ||| bit b) with
      | false => simp
      | true => exact absurd md this
    · intro x hx
      refine ⟨in_nI (k := 1) (by decide) (by decide), ?_⟩
      intro y hy
      subst hx hy
      refine h1 b (by unfold fnd; rw [b2_1 qa, b2_1 qb, b2_1 qd]; rfl) _ _ _ ?_ ?_
      · rfl
      · rfl
theorem ff_80 (hd : small dug) : ∀ n a, a + n = 36 →
    (∀ c b, fnd2 (fun a b => mem may a && mem may b && dz dug deep roofs rate tax hole (bit a ||| bit b)) n a = some (c, b) → ∀ hs hm row', row' 0 = nI c → row' 1 = nI b → Q 2 dug hs hm row') →
    (fnd2 (fun a b => mem may a && mem may b && dz dug deep roofs rate tax hole (bit a ||| bit b)) n a = none → ∀ hs hm row, Q (-4) dug hs hm row) →
    ∀ hs hm row, wX3_fewestFilled_80 Q tax hole may roofs rate deep (n + 1) (nI a) dug hs hm row := by
  intro n
  induction n with
  | zero =>
    intro b hb h1 h2 hs hm row
    unfold wX3_fewestFilled_80
    have e : b = 36 := by omega
    subst e
    exact ⟨fun _ => h2 rfl _ _ _, fun q => absurd (by decide) q⟩
  | succ n ih =>
    intro a hb h1 h2 hs hm row
    unfold wX3_fewestFilled_80
    refine ⟨fun h => absurd h (n36 (by omega)), fun _ => ?_⟩
    intro x hx
    subst hx
    rw [nI_add1]
    refine ⟨35 - a + 1, ff_93 hd (by omega) (35 - a) (a + 1) (by omega) ?_ ?_ _ _ _⟩
    · intro c hc
      exact h1 a c (by unfold fnd2; rw [hc])
    · intro hc
      exact ih (a + 1) (by omega) (fun c b h => h1 c b (by unfold fnd2; rw [hc]; exact h)) (fun h => h2 (by unfold fnd2; rw [hc]; exact h))
theorem ff_31 (hd : small dug) : ∀ n a, a + n = 36 →
    (∀ c, fnd (fun a => mem may a && dz dug deep roofs rate tax hole (bit a)) n a = some c → ∀ hs hm row', row' 0 = nI c → Q 1 dug hs hm row') →
    (fnd (fun a => mem may a && dz dug deep roofs rate tax hole (bit a)) n a = none → ∀ hs hm row, wX3_fewestFilled_80 Q tax hole may roofs rate deep 37 0 dug hs hm row) →
    ∀ hs hm row, wX3_fewestFilled_31 Q tax hole may roofs rate deep (n + 1) (nI a) dug hs hm row := by
  intro n
  induction n with
  | zero =>
    intro b hb h1 h2 hs hm row
    unfold wX3_fewestFilled_31
    have e : b = 36 := by omega
    subst e
    exact ⟨fun _ => ⟨37, h2 rfl _ _ _⟩, fun q => absurd (by decide) q⟩
  | succ n ih =>
    intro a hb h1 h2 hs hm row
    have go : ∀ hs hm row, (mem may a && dz dug deep roofs rate tax hole (bit a)) = false → wX3_fewestFilled_31 Q tax hole may roofs rate deep (n + 1) (nI (a + 1)) dug hs hm row := by
      intro hs hm row hf
      refine ih (a + 1) (by omega) ?_ ?_ hs hm row
      · intro c hc; exact h1 c (by unfold fnd; rw [hf]; exact hc)
      · intro hc; exact h2 (by unfold fnd; rw [hf]; exact hc)
    unfold wX3_fewestFilled_31
    refine ⟨fun h => absurd h (n36 (by omega)), fun _ => ?_⟩
    refine pX3_has (by omega) ⟨fun q => ?_, fun qa => ?_⟩
    · intro x hx; subst hx; rw [nI_add1]
      refine go _ _ _ ?_
      have := b2_0 q
      cases ma : mem may a with
      | false => rfl
      | true => exact absurd ma this
    rw [bit_nI (by omega)]
    refine mDoes hd ?_
    intro hs hm
    refine ⟨fun q => ?_, fun qd => ⟨in_nI (k := 0) (by decide) (by decide), ?_⟩⟩
    · intro x hx; subst hx; rw [nI_add1]
      refine go _ _ _ ?_
      have := b2_0 q
      cases md : dz dug deep roofs rate tax hole (bit a) with
      | false => simp
      | true => exact absurd md this
    · intro x hx
      subst hx
      refine h1 a (by unfold fnd; rw [b2_1 qa, b2_1 qd]; rfl) _ _ _ ?_
      rfl
theorem mFew (hd : small dug) {f : Few} {hs : Nat → Int64} {hm : Int32} {row : Nat → Int32}
    (hf : f = if dz dug deep roofs rate tax hole 0 = true then some [] else few (fun a => mem (if hole = 0 then dug else hole) a && dz dug deep roofs rate tax hole (bit a)) (fun a b => mem (if hole = 0 then dug else hole) a && mem (if hole = 0 then dug else hole) b && dz dug deep roofs rate tax hole (bit a ||| bit b)))
    (h : ∀ hs hm row, f.rowOK row → Q f.many dug hs hm row) : wX3_fewestFilled Q roofs rate dug deep hs hm row tax hole := by
  unfold wX3_fewestFilled
  refine mDoes hd ?_
  intro hs hm
  have main : ¬ dz dug deep roofs rate tax hole 0 = true → ∀ may, may = (if hole = 0 then dug else hole) → ∃ fu, wX3_fewestFilled_31 Q tax hole may roofs rate deep fu 0 dug hs hm row := by
    intro q may hmay
    rw [if_neg q, ← hmay] at hf
    unfold few at hf
    refine ⟨37, ff_31 hd 36 0 rfl ?_ ?_ _ _ _⟩
    · intro c hc hs hm row' e
      rw [hc] at hf
      subst hf
      exact h _ _ _ e
    · intro hc
      rw [hc] at hf
      refine ff_80 hd 36 0 rfl ?_ ?_
      · intro a b h2 hs hm row' e1 e2
        rw [h2] at hf
        subst hf
        exact h _ _ _ ⟨e1, e2⟩
      · intro h2 hs hm row'
        rw [h2] at hf
        subst hf
        exact h _ _ _ trivial
  refine ⟨fun q => ⟨fun e => main (b2_0 q) dug (by rw [if_pos e]), fun e => main (b2_0 q) hole (by rw [if_neg e])⟩, fun q => ?_⟩
  rw [if_pos (b2_1 q)] at hf
  subst hf
  exact h _ _ _ trivial
end
/-- the model's answer of a row -/
theorem row_ans {Q : Int32 → Prop} {f : Few} {i : Int32} {row : Nat → Int32} (hi : -1 ≤ i ∧ i ≤ 1) (hr : f.rowOK row) (h : Q (f.ans i)) : (f.many < 0 → Q f.many) ∧ (¬ f.many < 0 → ((0 ≤ i → ((f.many ≤ i → Q (-4)) ∧ (¬ f.many ≤ i → (vp_in i 10 ∧ Q (row i.toNatClampNeg))))) ∧ (¬ 0 ≤ i → Q f.many))) := by
  have i3 : i = -1 ∨ i = 0 ∨ i = 1 := by
    have := hi.1; have := hi.2
    rw [Int32.le_iff_toInt_le] at *
    have e1 : (-1 : Int32).toInt = -1 := rfl
    have e2 : (1 : Int32).toInt = 1 := rfl
    have : i.toInt = -1 ∨ i.toInt = 0 ∨ i.toInt = 1 := by omega
    rcases this with z | z | z
    · exact Or.inl (Int32.toInt_inj.mp z)
    · exact Or.inr (Or.inl (Int32.toInt_inj.mp z))
    · exact Or.inr (Or.inr (Int32.toInt_inj.mp z))
  unfold Few.ans at h
  rcases i3 with e | e | e <;> subst e
  · rw [if_pos (by decide)] at h
    exact ⟨fun _ => h, fun _ => ⟨fun z => absurd z (by decide), fun _ => h⟩⟩
  · rw [if_neg (by decide)] at h
    rcases f with _ | _ | ⟨a, _ | ⟨b, _ | ⟨c, t⟩⟩⟩
    · exact ⟨fun _ => h, fun z => absurd (by decide) z⟩
    · exact ⟨fun z => absurd z (by decide), fun _ => ⟨fun _ => ⟨fun _ => h, fun z => absurd (by decide) z⟩, fun z => absurd (by decide) z⟩⟩
    · refine ⟨fun z => absurd z (by show ¬ (1 : Int32) < 0; decide), fun _ => ⟨fun _ => ⟨fun z => absurd z (by show ¬ (1 : Int32) ≤ 0; decide), fun _ => ⟨by unfold vp_in; decide, ?_⟩⟩, fun z => absurd (by decide) z⟩⟩
      have : row 0 = nI a := hr
      show Q (row 0)
      rw [this]; exact h
    · refine ⟨fun z => absurd z (by show ¬ (2 : Int32) < 0; decide), fun _ => ⟨fun _ => ⟨fun z => absurd z (by show ¬ (2 : Int32) ≤ 0; decide), fun _ => ⟨by unfold vp_in; decide, ?_⟩⟩, fun z => absurd (by decide) z⟩⟩
      have : row 0 = nI a := hr.1
      show Q (row 0)
      rw [this]; exact h
    · exact hr.elim
  · rw [if_neg (by decide)] at h
    rcases f with _ | _ | ⟨a, _ | ⟨b, _ | ⟨c, t⟩⟩⟩
    · exact ⟨fun _ => h, fun z => absurd (by decide) z⟩
    · exact ⟨fun z => absurd z (by decide), fun _ => ⟨fun _ => ⟨fun _ => h, fun z => absurd (by decide) z⟩, fun z => absurd (by decide) z⟩⟩
    · exact ⟨fun z => absurd z (by show ¬ (1 : Int32) < 0; decide), fun _ => ⟨fun _ => ⟨fun _ => h, fun z => absurd (by show (1 : Int32) ≤ 1; decide) z⟩, fun z => absurd (by decide) z⟩⟩
    · refine ⟨fun z => absurd z (by show ¬ (2 : Int32) < 0; decide), fun _ => ⟨fun _ => ⟨fun z => absurd z (by show ¬ (2 : Int32) ≤ 1; decide), fun _ => ⟨by unfold vp_in; decide, ?_⟩⟩, fun z => absurd (by decide) z⟩⟩
      have : row 1 = nI b := hr.2
      show Q (row 1)
      rw [this]; exact h
    · exact hr.elim
/-- fewest cells that split -/
def spl (h : Int64) : Few := few (fun a => mem h a && decide (1 < (hl (h &&& (bit a ^^^ (-1)))).length)) (fun a b => mem h a && mem h b && decide (1 < (hl (h &&& ((bit a ||| bit b) ^^^ (-1)))).length))
theorem many_le {x : Int64} (hs : small x) : (nI (hl x).length ≤ 1) ↔ ¬ 1 < (hl x).length := by
  have := hl_18 hs
  rw [show (1 : Int32) = nI 1 from rfl, nI_leN (by omega) (by decide)]
  omega
section
variable {Q : Int32 → Prop} {h : Int64}
theorem fs_58 (hs : small h) {k48 : Int32 → Prop} {a : Nat} (ha : a < 36) : ∀ n b, b + n = 36 →
    (∀ c, fnd (fun b => mem h a && mem h b && decide (1 < (hl (h &&& ((bit a ||| bit b) ^^^ (-1)))).length)) n b = some c → Q (100 * nI a + nI c)) →
    (fnd (fun b => mem h a && mem h b && decide (1 < (hl (h &&& ((bit a ||| bit b) ^^^ (-1)))).length)) n b = none → k48 (nI (a + 1))) →
    wX0_fewestSplit_58 Q k48 h (nI a) (n + 1) (nI b) := by
  intro n
  induction n with
  | zero =>
    intro b hb h1 h2
    unfold wX0_fewestSplit_58
    have e : b = 36 := by omega
    subst e
    refine ⟨fun _ => ?_, fun q => absurd (by decide) q⟩
    intro x hx
    subst hx
    rw [nI_add1]
    exact h2 rfl
  | succ n ih =>
    intro b hb h1 h2
    have go : (mem h a && mem h b && decide (1 < (hl (h &&& ((bit a ||| bit b) ^^^ (-1)))).length)) = false → wX0_fewestSplit_58 Q k48 h (nI a) (n + 1) (nI (b + 1)) := by
      intro hf
      refine ih (b + 1) (by omega) ?_ ?_
      · intro c hc; exact h1 c (by unfold fnd; rw [hf]; exact hc)
      · intro hc; exact h2 (by unfold fnd; rw [hf]; exact hc)
    unfold wX0_fewestSplit_58
    refine ⟨fun h => absurd h (n36 (by omega)), fun _ => ?_⟩
    refine pX0_has (by omega) ⟨fun q => ?_, fun qa => ?_⟩
    · intro x hx; subst hx; rw [nI_add1]
      refine go ?_
      have := b2_0 q
      cases ma : mem h a with
      | false => rfl
      | true => exact absurd ma this
    refine pX0_has (by omega) ⟨fun q => ?_, fun qb => ?_⟩
    · intro x hx; subst hx; rw [nI_add1]
      refine go ?_
      have := b2_0 q
      cases mb : mem h b with
      | false => simp
      | true => exact absurd mb this
    rw [bit_nI (by omega), bit_nI (by omega)]
    refine pX0_pieces ⟨fun q => ?_, fun q => ?_⟩
    · intro x hx; subst hx; rw [nI_add1]
      refine go ?_
      rw [many_le (small_and_l hs)] at q
      rw [decide_eq_false q]; simp
    · rw [many_le (small_and_l hs)] at q
      refine h1 b ?_
      unfold fnd
      rw [b2_1 qa, b2_1 qb, decide_eq_true (Classical.not_not.mp q)]; rfl
theorem fs_48 (hs : small h) : ∀ n a, a + n = 36 →
    (∀ c b, fnd2 (fun a b => mem h a && mem h b && decide (1 < (hl (h &&& ((bit a ||| bit b) ^^^ (-1)))).length)) n a = some (c, b) → Q (100 * nI c + nI b)) →
    (fnd2 (fun a b => mem h a && mem h b && decide (1 < (hl (h &&& ((bit a ||| bit b) ^^^ (-1)))).length)) n a = none → Q (-4)) →
    wX0_fewestSplit_48 Q h (n + 1) (nI a) := by
  intro n
  induction n with
  | zero =>
    intro b hb h1 h2
    unfold wX0_fewestSplit_48
    have e : b = 36 := by omega
    subst e
    exact ⟨fun _ => h2 rfl, fun q => absurd (by decide) q⟩
  | succ n ih =>
    intro a hb h1 h2
    unfold wX0_fewestSplit_48
    refine ⟨fun h => absurd h (n36 (by omega)), fun _ => ?_⟩
    intro x hx
    subst hx
    rw [nI_add1]
    refine ⟨35 - a + 1, fs_58 hs (by omega) (35 - a) (a + 1) (by omega) ?_ ?_⟩
    · intro c hc
      exact h1 a c (by unfold fnd2; rw [hc])
    · intro hc
      exact ih (a + 1) (by omega) (fun c b h => h1 c b (by unfold fnd2; rw [hc]; exact h)) (fun h => h2 (by unfold fnd2; rw [hc]; exact h))
theorem fs_2 (hs : small h) : ∀ n a, a + n = 36 →
    (∀ c, fnd (fun a => mem h a && decide (1 < (hl (h &&& (bit a ^^^ (-1)))).length)) n a = some c → Q (100 * nI c + 99)) →
    (fnd (fun a => mem h a && decide (1 < (hl (h &&& (bit a ^^^ (-1)))).length)) n a = none → wX0_fewestSplit_48 Q h 37 0) →
    wX0_fewestSplit_2 Q h (n + 1) (nI a) := by
  intro n
  induction n with
  | zero =>
    intro b hb h1 h2
    unfold wX0_fewestSplit_2
    have e : b = 36 := by omega
    subst e
    exact ⟨fun _ => ⟨37, h2 rfl⟩, fun q => absurd (by decide) q⟩
  | succ n ih =>
    intro a hb h1 h2
    have go : (mem h a && decide (1 < (hl (h &&& (bit a ^^^ (-1)))).length)) = false → wX0_fewestSplit_2 Q h (n + 1) (nI (a + 1)) := by
      intro hf
      refine ih (a + 1) (by omega) ?_ ?_
      · intro c hc; exact h1 c (by unfold fnd; rw [hf]; exact hc)
      · intro hc; exact h2 (by unfold fnd; rw [hf]; exact hc)
    unfold wX0_fewestSplit_2
    refine ⟨fun h => absurd h (n36 (by omega)), fun _ => ?_⟩
    refine pX0_has (by omega) ⟨fun q => ?_, fun qa => ?_⟩
    · intro x hx; subst hx; rw [nI_add1]
      refine go ?_
      have := b2_0 q
      cases ma : mem h a with
      | false => rfl
      | true => exact absurd ma this
    rw [bit_nI (by omega)]
    refine pX0_pieces ⟨fun q => ?_, fun q => ?_⟩
    · intro x hx; subst hx; rw [nI_add1]
      refine go ?_
      rw [many_le (small_and_l hs)] at q
      rw [decide_eq_false q]; simp
    · rw [many_le (small_and_l hs)] at q
      refine h1 a ?_
      unfold fnd
      rw [b2_1 qa, decide_eq_true (Classical.not_not.mp q)]; rfl
theorem cFewSplit (hs : small h) (hq : Q (spl h).row) : wX0_fewestSplit Q h := by
  unfold spl few at hq
  refine ⟨37, fs_2 hs 36 0 rfl ?_ ?_⟩
  · intro c hc
    rw [hc] at hq; exact hq
  · intro hc
    rw [hc] at hq
    refine fs_48 hs 36 0 rfl ?_ ?_
    · intro a b h2; rw [h2] at hq; exact hq
    · intro h2; rw [h2] at hq; exact hq
end
theorem cSplit {Q : Int32 → Prop} {g : Nat → Int32} {roofs : Int64} {rt x y : Int32} (h : Q (if isC x ∧ -1 ≤ y ∧ y ≤ 1 then (if mem (dugP g) x.toNatClampNeg = true then (spl (comp (bit x.toNatClampNeg) (dugP g))).ans y else -2) else -1)) : wX0_split Q g roofs rt x y := by
  unfold wX0_split
  refine pX0_isCell ⟨fun q => ?_, fun q => pX0_inI (lo := -1) (hi := 1) ⟨fun z => ?_, fun z => ?_⟩⟩
  · rw [if_neg (fun z => b2_0 q z.1)] at h; exact h
  · rw [if_neg (fun w => b2_0 z w.2)] at h; exact h
  · rw [if_pos ⟨b2_1 q, b2_1 z⟩] at h
    obtain ⟨k, hk, e⟩ := isC_ex (b2_1 q)
    subst e
    rw [clam_nI (by omega)] at h
    refine pX1_hole (by omega) (fun m => ?_) (fun m => ?_)
    · rw [if_neg (by rw [m]; decide)] at h; exact h
    · rw [if_pos m] at h
      refine cFewSplit (comp_small (small_dugP g)) ?_
      refine pX0_found ?_ h
      exact few_ok _ _
theorem comp_whole {h d : Int64} (hd : small d) (H : isHole h d) : ¬ 1 < (hl h).length := by
  rw [two_iff]
  rintro ⟨h0, hn⟩
  apply hn
  have := (lsb_spec h0).2.1
  rw [comp_in hd (isHole_sep hd H) this]
  exact (isHole_at hd H this).symm
theorem mSplit {Q : Int32 → Int64 → Int64 → (Nat → Int64) → Int32 → (Nat → Int32) → Prop} {g : Nat → Int32} {roofs dug deep : Int64} {rt x y hm : Int32} {hs : Nat → Int64} {row : Nat → Int32} (h : ∀ a b c d e, Q (if isC x ∧ -1 ≤ y ∧ y ≤ 1 then (if mem (dugP g) x.toNatClampNeg = true then (spl (comp (bit x.toNatClampNeg) (dugP g))).ans y else -2) else -1) a b c d e) : wX3_split Q g roofs rt dug deep hs hm row x y := by
  unfold wX3_split
  refine pX3_isCell ⟨fun q => ?_, fun q => pX3_inI (lo := -1) (hi := 1) ⟨fun z => ?_, fun z => ?_⟩⟩
  · rw [if_neg (fun z => b2_0 q z.1)] at h; exact h _ _ _ _ _
  · rw [if_neg (fun w => b2_0 z w.2)] at h; exact h _ _ _ _ _
  · rw [if_pos ⟨b2_1 q, b2_1 z⟩] at h
    obtain ⟨k, hk, e⟩ := isC_ex (b2_1 q)
    subst e
    rw [clam_nI (by omega)] at h
    refine pX3_look ?_
    refine pX3_has (by omega) ⟨fun m => ?_, fun m => ?_⟩
    · rw [if_neg (b2_0 m)] at h; exact h _ _ _ _ _
    · have m := b2_1 m
      rw [if_pos m] at h
      refine pX3_holeAt (by omega) ?_
      have hne := isHole_ne (comp_hole m)
      refine mFew (f := spl (comp (bit k) (dugP g))) (small_dugP g) ?_ ?_
      · rw [if_neg]
        · unfold spl
          simp only [dz, if_neg hne]
        · unfold dz
          rw [if_neg hne, decide_eq_true_eq]
          have e0 : comp (bit k) (dugP g) &&& (0 ^^^ (-1)) = comp (bit k) (dugP g) := mem_ext (fun i _ => by rw [mem_minus, mem_zero]; simp)
          rw [e0]
          exact comp_whole (small_dugP g) (comp_hole m)
      · intro hs hm row hr
        exact row_ans (Q := fun v => Q v _ _ _ _ _) (b2_1 z) hr (h _ _ _ _ _)
theorem oSplit {P : Int32 → Int32 → Int64 → Int64 → (Nat → Int64) → Int32 → (Nat → Int32) → Prop} {g g' : Nat → Int32} {roofs roofs' dug deep : Int64} {rt rt' x y hm : Int32} {hs : Nat → Int64} {row : Nat → Int32} (hg : agree 36 g g') (hp : ∀ v a b c d e, P v v a b c d e) : wX0_split (fun r => wX3_split (fun r' a b c d e => P r r' a b c d e) g' roofs' rt' dug deep hs hm row x y) g roofs rt x y :=
  cSplit (mSplit (fun a b c d e => by rw [dugP_of hg]; exact hp _ _ _ _ _ _))
/-! PURE 10: becomes, takes, filled, worth, loophole -/
def bec (d : Nat → Int32) (set : Int64) (v : Int32) : Nat → Int32 := fun j => if mem set j = true then v else d j
theorem becomes_3 {Q : (Nat → Int32) → Int64 → Prop} {set : Int64} {v : Int32} {roofs : Int64} (hv0 : 0 ≤ v) (hv : v ≤ 127) : ∀ n x d, small x → card x = n → Q (bec d x v) (if v = 0 then roofs &&& (set ^^^ (-1)) else roofs) → ∃ fu, wX1_becomes_3 Q set v roofs fu x d := by
  intro n
  induction n with
  | zero =>
    intro x d hs hx hq
    refine ⟨1, ?_⟩
    have : x = 0 := Classical.byContradiction (fun h => by have := card_drop h; omega)
    subst this
    unfold wX1_becomes_3
    have e : bec d 0 v = d := by funext j; unfold bec; rw [mem_zero]; rfl
    rw [e] at hq
    refine ⟨fun _ => ⟨fun z => ?_, fun z => ?_⟩, fun h => absurd rfl h⟩
    · intro a ha; subst ha; rw [if_pos z] at hq; exact hq
    · rw [if_neg z] at hq; exact hq
  | succ n ih =>
    intro x d hs hx hq
    have h0 : x ≠ 0 := fun q => by rw [q, card_zero] at hx; omega
    have hd := card_drop h0
    obtain ⟨h64, hk, hl⟩ := lsb_spec h0
    have h36 := lsb_small hs h0
    have e : bec (upd d (lsb x) v) (x &&& (x - 1)) v = bec d x v := by
      funext j
      unfold bec upd
      rw [mem_drop hk hl]
      by_cases z : j = lsb x
      · subst z; simp [hk]
      · simp [z]
    obtain ⟨fu, hf⟩ := ih (x &&& (x - 1)) (upd d (lsb x) v) (small_and_l hs) (by omega) (by rw [e]; exact hq)
    refine ⟨fu + 1, ?_⟩
    unfold wX1_becomes_3
    refine ⟨fun h => absurd h h0, fun _ => ?_⟩
    refine pX0_least h0 ⟨in_nI h36 (by decide), ?_⟩
    rw [clam_nI (by omega), (byteRoom hv0 hv).1]
    intro a ha b hb
    subst ha hb
    exact hf
theorem pX1_becomes {Q : (Nat → Int32) → Int64 → Prop} {d : Nat → Int32} {set : Int64} {v : Int32} {roofs : Int64} (hs : small set) (hv0 : 0 ≤ v) (hv : v ≤ 127) (h : Q (bec d set v) (if v = 0 then roofs &&& (set ^^^ (-1)) else roofs)) : wX1_becomes Q d roofs set v := becomes_3 hv0 hv _ set d hs rfl h
/-- depths -/
def okD (d : Nat → Int32) : Prop := ∀ i, i < 36 → 0 ≤ d i ∧ d i ≤ 9
theorem pX1_takes {Q : (Nat → Int32) → Int64 → Int32 → Prop} {d od : Nat → Int32} {ro oro : Int64} {rt ort : Int32} (hd : okD od) (h : ∀ d', agree 36 d' od → Q d' oro ort) : wX1_takes Q d ro rt od oro ort := by
  unfold wX1_takes
  have e36 : (36 : Int32).toNatClampNeg = 36 := rfl
  have e0 : (0 : Int32).toNatClampNeg = 0 := rfl
  rw [e36, e0]
  refine ⟨fun i hi => ?_, ?_⟩
  · rw [Nat.zero_add]
    exact (byteRoom (hd i hi).1 (Int32.le_trans (hd i hi).2 (by decide))).2
  · intro a ha
    subst ha
    refine h _ ?_
    intro i hi
    unfold va_cpy
    simp [hi]
theorem dug_bec0 (d : Nat → Int32) {set : Int64} : dugP (bec d set 0) = dugP d &&& (set ^^^ (-1)) := mem_ext (fun i hi => by
  rw [mem_minus]
  unfold dugP bec
  rw [mem_setOf _ 36 (by decide), mem_setOf _ 36 (by decide)]
  cases mem set i <;> simp)
theorem deep_bec (d : Nat → Int32) {set : Int64} {v : Int32} (hv : v ≠ 9) : deepP (bec d set v) = deepP d &&& (set ^^^ (-1)) := mem_ext (fun i hi => by
  rw [mem_minus]
  unfold deepP bec
  rw [mem_setOf _ 36 (by decide), mem_setOf _ 36 (by decide)]
  cases mem set i <;> simp [hv])
theorem dug_bec1 (d : Nat → Int32) {set : Int64} (hs : small set) {v : Int32} (hv : ¬ v ≤ 0) : dugP (bec d set v) = dugP d ||| set := mem_ext (fun i hi => by
  rw [mem_or]
  unfold dugP bec
  rw [mem_setOf _ 36 (by decide), mem_setOf _ 36 (by decide)]
  cases h : mem set i
  · simp
  · have := mem36 hs h
    simp [hv, this])
theorem tax_minus {d deep roofs set : Int64} {rate : Int32} (hd : small d) : taxAll (d &&& (set ^^^ (-1))) (deep &&& (set ^^^ (-1))) (roofs &&& (set ^^^ (-1))) rate = taxAll (d &&& (set ^^^ (-1))) deep roofs rate := by
  refine taxAll_of (small_and_l hd) ?_ ?_
  · intro i hi
    rw [mem_minus, Bool.and_eq_true] at hi
    rw [mem_minus, hi.2, Bool.and_true]
  · intro i hi
    rw [mem_minus, Bool.and_eq_true] at hi
    rw [mem_minus, hi.2, Bool.and_true]
theorem bec_agree {d d' : Nat → Int32} {n : Nat} (h : agree n d d') (set : Int64) (v : Int32) : agree n (bec d set v) (bec d' set v) := fun i hi => by unfold bec; rw [h i hi]
section
variable {Q : Int32 → (Nat → Int32) → Int64 → Int32 → Prop} {g : Nat → Int32} {gro : Int64} {grt tax : Int32}
theorem pX0_isTaxed {td : Nat → Int32} {tro : Int64} {trt : Int32} {set : Int64} (hg : okD g) (hs : small set) (h : ∀ a b c, Q (b2 (dz (dugP g) (deepP g) gro grt tax 0 set = true)) a b c) : wX0_isTaxed Q g gro grt td tro trt set tax := by
  unfold wX0_isTaxed
  refine pX1_takes hg ?_
  intro d' hd'
  refine pX1_becomes hs (by decide) (by decide) ?_
  refine pX1_tax ?_
  rw [if_pos rfl, dug_bec0, deep_bec _ (by decide), dugP_of hd', deepP_of hd', tax_minus (small_dugP g)]
  unfold dz at h
  rw [if_pos rfl] at h
  refine ⟨fun q => ?_, fun q => ?_⟩
  · rw [b2_f (by simpa using q)] at h; exact h _ _ _
  · rw [b2_t (by simpa using Int32.not_lt.mp q)] at h; exact h _ _ _
/-- pairs before a -/
def pr : Nat → Nat
  | 0 => 0
  | a + 1 => pr a + (35 - a)
theorem pr_le {a : Nat} (h : a ≤ 36) : pr a ≤ 630 := by
  have : ∀ a : Fin 37, pr a.val ≤ 630 := by decide +kernel
  exact this ⟨a, by omega⟩
theorem cf_83 (hg : okD g) {k70 : Int32 → Int64 → Int32 → (Nat → Int32) → Nat → Nat → Prop} {a : Nat} (ha : a < 36) : ∀ n b, b + n = 36 → a < b →
    (∀ c, fnd (fun b => mem (dugP g) a && mem (dugP g) b && dz (dugP g) (deepP g) gro grt tax 0 (bit a ||| bit b)) n b = some c → ∀ x y z, Q (100 * nI a + nI c) x y z) →
    (fnd (fun b => mem (dugP g) a && mem (dugP g) b && dz (dugP g) (deepP g) gro grt tax 0 (bit a ||| bit b)) n b = none → ∀ x y z kc ks, kc ≤ 22 * (37 + pr (a + 1)) → ks ≤ 86 * (37 + pr (a + 1)) → k70 (nI (a + 1)) x y z kc ks) →
    ∀ x y z kc ks, kc ≤ 22 * (37 + pr a + (b - a - 1)) → ks ≤ 86 * (37 + pr a + (b - a - 1)) → wX0_fewestFilled_83 Q k70 tax (dugP g) (nI a) gro grt g (n + 1) (nI b) x y z kc ks := by
  intro n
  have hp : pr (a + 1) = pr a + (35 - a) := rfl
  have hp' := pr_le (a := a + 1) (by omega)
  induction n with
  | zero =>
    intro b hb hab h1 h2 x y z kc ks hkc hks
    unfold wX0_fewestFilled_83
    have e : b = 36 := by omega
    subst e
    refine ⟨fun _ => ?_, fun q => absurd (by decide) q⟩
    intro w hw
    subst hw
    rw [nI_add1]
    exact h2 rfl _ _ _ _ _ (by omega) (by omega)
  | succ n ih =>
    intro b hb hab h1 h2 x y z kc ks hkc hks
    have go : ∀ x y z kc ks, kc ≤ 22 * (37 + pr a + (b + 1 - a - 1)) → ks ≤ 86 * (37 + pr a + (b + 1 - a - 1)) → (mem (dugP g) a && mem (dugP g) b && dz (dugP g) (deepP g) gro grt tax 0 (bit a ||| bit b)) = false → wX0_fewestFilled_83 Q k70 tax (dugP g) (nI a) gro grt g (n + 1) (nI (b + 1)) x y z kc ks := by
      intro x y z kc ks hkc hks hf
      refine ih (b + 1) (by omega) (by omega) ?_ ?_ x y z kc ks hkc hks
      · intro c hc; exact h1 c (by unfold fnd; rw [hf]; exact hc)
      · intro hc; exact h2 (by unfold fnd; rw [hf]; exact hc)
    unfold wX0_fewestFilled_83
    refine ⟨fun h => absurd h (n36 (by omega)), fun _ => ?_⟩
    refine pX0_has (by omega) ⟨fun q => ?_, fun qa => ?_⟩
    · intro w hw; subst hw; rw [nI_add1]
      refine go _ _ _ _ _ (by omega) (by omega) ?_
      have := b2_0 q
      cases ma : mem (dugP g) a with
      | false => rfl
      | true => exact absurd ma this
    refine pX0_has (by omega) ⟨fun q => ?_, fun qb => ?_⟩
    · intro w hw; subst hw; rw [nI_add1]
      refine go _ _ _ _ _ (by omega) (by omega) ?_
      have := b2_0 q
      cases mb : mem (dugP g) b with
      | false => simp
      | true => exact absurd mb this
    rw [bit_nI (by omega), bit_nI (by omega)]
    refine ⟨by omega, by omega, ?_⟩
    refine pX0_isTaxed hg (small_or (small_bit (by omega)) (small_bit (by omega))) ?_
    intro a' b' c'
    refine ⟨fun q => ?_, fun qd => ?_⟩
    · intro w hw; subst hw; rw [nI_add1]
      refine go _ _ _ _ _ (by omega) (by omega) ?_
      have := b2_0 q
      cases md : dz (dugP g) (deepP g) gro grt tax 0 (bit a ||| bit b) with
      | false => simp
      | true => exact absurd md this
    · exact h1 b (by unfold fnd; rw [b2_1 qa, b2_1 qb, b2_1 qd]; rfl) _ _ _
theorem cf_70 (hg : okD g) : ∀ n a, a + n = 36 →
    (∀ c b, fnd2 (fun a b => mem (dugP g) a && mem (dugP g) b && dz (dugP g) (deepP g) gro grt tax 0 (bit a ||| bit b)) n a = some (c, b) → ∀ x y z, Q (100 * nI c + nI b) x y z) →
    (fnd2 (fun a b => mem (dugP g) a && mem (dugP g) b && dz (dugP g) (deepP g) gro grt tax 0 (bit a ||| bit b)) n a = none → ∀ x y z, Q (-4) x y z) →
    ∀ x y z kc ks, kc ≤ 22 * (37 + pr a) → ks ≤ 86 * (37 + pr a) → wX0_fewestFilled_70 Q tax (dugP g) gro grt g (n + 1) (nI a) x y z kc ks := by
  intro n
  induction n with
  | zero =>
    intro b hb h1 h2 x y z kc ks hkc hks
    unfold wX0_fewestFilled_70
    have e : b = 36 := by omega
    subst e
    exact ⟨fun _ => h2 rfl _ _ _, fun q => absurd (by decide) q⟩
  | succ n ih =>
    intro a hb h1 h2 x y z kc ks hkc hks
    unfold wX0_fewestFilled_70
    refine ⟨fun h => absurd h (n36 (by omega)), fun _ => ?_⟩
    intro w hw
    subst hw
    rw [nI_add1]
    refine ⟨35 - a + 1, cf_83 hg (by omega) (35 - a) (a + 1) (by omega) (by omega) ?_ ?_ _ _ _ _ _ (by omega) (by omega)⟩
    · intro c hc
      exact h1 a c (by unfold fnd2; rw [hc])
    · intro hc
      exact ih (a + 1) (by omega) (fun c b h => h1 c b (by unfold fnd2; rw [hc]; exact h)) (fun h => h2 (by unfold fnd2; rw [hc]; exact h))
theorem cf_24 (hg : okD g) : ∀ n a, a + n = 36 →
    (∀ c, fnd (fun a => mem (dugP g) a && dz (dugP g) (deepP g) gro grt tax 0 (bit a)) n a = some c → ∀ x y z, Q (100 * nI c + 99) x y z) →
    (fnd (fun a => mem (dugP g) a && dz (dugP g) (deepP g) gro grt tax 0 (bit a)) n a = none → ∀ x y z kc ks, kc ≤ 22 * 37 → ks ≤ 86 * 37 → wX0_fewestFilled_70 Q tax (dugP g) gro grt g 37 0 x y z kc ks) →
    ∀ x y z kc ks, kc ≤ 22 * (1 + a) → ks ≤ 86 * (1 + a) → wX0_fewestFilled_24 Q tax (dugP g) gro grt g (n + 1) (nI a) x y z kc ks := by
  intro n
  induction n with
  | zero =>
    intro b hb h1 h2 x y z kc ks hkc hks
    unfold wX0_fewestFilled_24
    have e : b = 36 := by omega
    subst e
    exact ⟨fun _ => ⟨37, h2 rfl _ _ _ _ _ (by omega) (by omega)⟩, fun q => absurd (by decide) q⟩
  | succ n ih =>
    intro a hb h1 h2 x y z kc ks hkc hks
    have go : ∀ x y z kc ks, kc ≤ 22 * (1 + (a + 1)) → ks ≤ 86 * (1 + (a + 1)) → (mem (dugP g) a && dz (dugP g) (deepP g) gro grt tax 0 (bit a)) = false → wX0_fewestFilled_24 Q tax (dugP g) gro grt g (n + 1) (nI (a + 1)) x y z kc ks := by
      intro x y z kc ks hkc hks hf
      refine ih (a + 1) (by omega) ?_ ?_ x y z kc ks hkc hks
      · intro c hc; exact h1 c (by unfold fnd; rw [hf]; exact hc)
      · intro hc; exact h2 (by unfold fnd; rw [hf]; exact hc)
    unfold wX0_fewestFilled_24
    refine ⟨fun h => absurd h (n36 (by omega)), fun _ => ?_⟩
    refine pX0_has (by omega) ⟨fun q => ?_, fun qa => ?_⟩
    · intro w hw; subst hw; rw [nI_add1]
      refine go _ _ _ _ _ (by omega) (by omega) ?_
      have := b2_0 q
      cases ma : mem (dugP g) a with
      | false => rfl
      | true => exact absurd ma this
    rw [bit_nI (by omega)]
    refine ⟨by omega, by omega, ?_⟩
    refine pX0_isTaxed hg (small_bit (by omega)) ?_
    intro a' b' c'
    refine ⟨fun q => ?_, fun qd => ?_⟩
    · intro w hw; subst hw; rw [nI_add1]
      refine go _ _ _ _ _ (by omega) (by omega) ?_
      have := b2_0 q
      cases md : dz (dugP g) (deepP g) gro grt tax 0 (bit a) with
      | false => simp
      | true => exact absurd md this
    · exact h1 a (by unfold fnd; rw [b2_1 qa, b2_1 qd]; rfl) _ _ _
/-- fewest filled -/
def fil (d deep roofs : Int64) (rate tax : Int32) : Few := if dz d deep roofs rate tax 0 0 = true then some [] else few (fun a => mem d a && dz d deep roofs rate tax 0 (bit a)) (fun a b => mem d a && mem d b && dz d deep roofs rate tax 0 (bit a ||| bit b))
theorem fil_ok (d deep roofs : Int64) (rate tax : Int32) : (fil d deep roofs rate tax).ok := by
  unfold fil
  split
  · trivial
  · exact few_ok _ _
theorem cFewFilled (hg : okD g) {td : Nat → Int32} {tro : Int64} {trt : Int32} (h : ∀ x y z, Q (fil (dugP g) (deepP g) gro grt tax).row x y z) : wX0_fewestFilled Q g gro grt td tro trt tax := by
  unfold wX0_fewestFilled
  unfold fil at h
  refine pX0_isTaxed hg small_zero ?_
  intro a b c
  refine ⟨fun q => ?_, fun q => ?_⟩
  · rw [if_neg (b2_0 q)] at h
    refine pX1_dug ?_
    unfold few at h
    refine ⟨37, cf_24 hg 36 0 rfl ?_ ?_ _ _ _ _ _ (by omega) (by omega)⟩
    · intro c hc
      rw [hc] at h; exact h
    · intro hc
      rw [hc] at h
      intro x y z kc ks hkc hks
      refine cf_70 hg 36 0 rfl ?_ ?_ _ _ _ _ _ (by simpa [pr] using hkc) (by simpa [pr] using hks)
      · intro a b h2; rw [h2] at h; exact h
      · intro h2; rw [h2] at h; exact h
  · rw [if_pos (b2_1 q)] at h; exact h _ _ _
theorem cFilled (hg : okD g) {td : Nat → Int32} {tro : Int64} {trt i : Int32} (h : ∀ x y z, Q (if (0 ≤ tax ∧ tax ≤ 9999) ∧ -1 ≤ i ∧ i ≤ 1 then (fil (dugP g) (deepP g) gro grt tax).ans i else -1) x y z) : wX0_filled Q g gro grt td tro trt tax i := by
  unfold wX0_filled
  refine pX0_inI (lo := 0) (hi := 9999) ⟨fun q => ?_, fun q => pX0_inI (lo := -1) (hi := 1) ⟨fun z => ?_, fun z => ?_⟩⟩
  · rw [if_neg (fun z => b2_0 q z.1)] at h; exact h _ _ _
  · rw [if_neg (fun w => b2_0 z w.2)] at h; exact h _ _ _
  · rw [if_pos ⟨b2_1 q, b2_1 z⟩] at h
    refine cFewFilled hg ?_
    intro x y z
    exact pX0_found (fil_ok _ _ _ _ _) (h _ _ _)
end
theorem mFilled {Q : Int32 → Int64 → Int64 → (Nat → Int64) → Int32 → (Nat → Int32) → Prop} {g : Nat → Int32} {roofs dug deep : Int64} {rt tax i hm : Int32} {hs : Nat → Int64} {row : Nat → Int32} (h : ∀ a b c d e, Q (if (0 ≤ tax ∧ tax ≤ 9999) ∧ -1 ≤ i ∧ i ≤ 1 then (fil (dugP g) (deepP g) roofs rt tax).ans i else -1) a b c d e) : wX3_filled Q g roofs rt dug deep hs hm row tax i := by
  unfold wX3_filled
  refine pX3_inI (lo := 0) (hi := 9999) ⟨fun q => ?_, fun q => pX3_inI (lo := -1) (hi := 1) ⟨fun z => ?_, fun z => ?_⟩⟩
  · rw [if_neg (fun z => b2_0 q z.1)] at h; exact h _ _ _ _ _
  · rw [if_neg (fun w => b2_0 z w.2)] at h; exact h _ _ _ _ _
  · rw [if_pos ⟨b2_1 q, b2_1 z⟩] at h
    refine pX3_look ?_
    refine mFew (f := fil (dugP g) (deepP g) roofs rt tax) (small_dugP g) ?_ ?_
    · unfold fil; simp only [if_pos]
    · intro hs hm row hr
      exact row_ans (Q := fun v => Q v _ _ _ _ _) (b2_1 z) hr (h _ _ _ _ _)
theorem oFilled {P : Int32 → (Nat → Int32) → Int64 → Int32 → Int32 → Int64 → Int64 → (Nat → Int64) → Int32 → (Nat → Int32) → Prop} {g g' td : Nat → Int32} {roofs tro dug deep : Int64} {rt trt x y hm : Int32} {hs : Nat → Int64} {row : Nat → Int32} (hd : okD g) (hg : agree 36 g g') (hp : ∀ v t1 t2 t3 a b c d e, P v t1 t2 t3 v a b c d e) : wX0_filled (fun r t1 t2 t3 => wX3_filled (fun r' a b c d e => P r t1 t2 t3 r' a b c d e) g' roofs rt dug deep hs hm row x y) g roofs rt td tro trt x y :=
  cFilled hd (fun _ _ _ => mFilled (fun a b c d e => by rw [dugP_of hg, deepP_of hg]; exact hp _ _ _ _ _ _ _ _ _))
/-- what an owner has -/
def ownP (o : Nat → Int32) (x : Int32) : Int64 := setOf (fun c => decide (o c = x)) 36
theorem ownP_of {f g : Nat → Int32} (h : agree 36 f g) (x : Int32) : ownP f x = ownP g x := mem_ext (fun i _ => by
  unfold ownP
  rw [mem_setOf _ 36 (by decide), mem_setOf _ 36 (by decide)]
  by_cases q : i < 36
  · rw [h i q]
  · simp [q])
theorem owned_5 {Q : Int64 → Prop} {o : Nat → Int32} {x : Int32} (hq : Q (ownP o x)) : ∀ n k, k + n = 36 → wX3_owned_5 Q x o (n + 1) (setOf (fun c => decide (o c = x)) k) (nI k) := by
  intro n
  induction n with
  | zero =>
    intro k hk
    unfold wX3_owned_5
    have e : k = 36 := by omega
    subst e
    exact ⟨fun _ => hq, fun h => absurd (by decide) h⟩
  | succ n ih =>
    intro k hk
    have hf := ih (k + 1) (by omega)
    unfold wX3_owned_5
    refine ⟨fun h => absurd h (n36 (by omega)), fun _ => ⟨in_nI (by omega) (by decide), ?_⟩⟩
    rw [clam_nI (by omega), bit_nI (by omega), nI_add1]
    rw [setOf] at hf
    refine ⟨fun h => ?_, fun h => ?_⟩ <;> intro a ha b hb <;> subst ha hb <;> simpa [h] using hf
theorem pX3_owned {Q : Int64 → Prop} {o : Nat → Int32} {x : Int32} (hq : Q (ownP o x)) : wX3_owned Q o x := ⟨37, owned_5 hq 36 0 rfl⟩
def worP (d deep roofs : Int64) (rate : Int32) (own : Int64) : Int32 := taxAll d deep roofs rate - taxAll (d &&& (own ^^^ (-1))) deep roofs rate
section
variable {Q : Int32 → (Nat → Int32) → Int64 → Int32 → Prop} {g o : Nat → Int32} {gro : Int64} {grt x : Int32}
/-- worth: what is filled of an owner's cells below k -/
theorem wo_23 (h : ∀ a b c, Q (worP (dugP g) (deepP g) gro grt (ownP o x)) a b c) : ∀ n k tro td, k + n = 36 → tro = gro &&& (setOf (fun c => decide (o c = x)) k ^^^ (-1)) → agree 36 td (bec g (setOf (fun c => decide (o c = x)) k) 0) → wX0_worth_23 Q x gro grt g grt o (n + 1) (nI k) tro td 0 0 := by
  intro n
  induction n with
  | zero =>
    intro k tro td hk ht hd
    unfold wX0_worth_23
    have e : k = 36 := by omega
    subst e
    refine ⟨fun _ => ⟨by decide, by decide, ?_⟩, fun h => absurd (by decide) h⟩
    refine pX1_tax ⟨by decide, by decide, ?_⟩
    refine pX1_tax ?_
    rw [dugP_of hd, deepP_of hd, dug_bec0, deep_bec _ (by decide), ht, tax_minus (small_dugP g)]
    exact h _ _ _
  | succ n ih =>
    intro k tro td hk ht hd
    unfold wX0_worth_23
    refine ⟨fun h => absurd h (n36 (by omega)), fun _ => ⟨in_nI (by omega) (by decide), ?_⟩⟩
    rw [clam_nI (by omega), bit_nI (by omega)]
    refine ⟨fun e => ?_, fun e => ?_⟩
    · refine pX1_becomes (small_bit (by omega)) (by decide) (by decide) ?_
      intro a ha
      subst ha
      rw [nI_add1, if_pos rfl]
      refine ih (k + 1) _ _ (by omega) ?_ ?_
      · rw [ht]
        apply mem_ext
        intro i _
        rw [setOf]
        simp only [e, decide_true, if_true]
        rw [mem_minus, mem_minus, mem_minus, mem_or]
        cases mem gro i <;> cases mem (bit k) i <;> cases mem (setOf (fun c => decide (o c = x)) k) i <;> rfl
      · intro i hi
        have := hd i hi
        unfold bec at this ⊢
        rw [setOf]
        simp only [e, decide_true, if_true, mem_or]
        rw [this]
        cases mem (bit k) i <;> cases mem (setOf (fun c => decide (o c = x)) k) i <;> simp
    · intro a ha
      subst ha
      rw [nI_add1]
      have es : setOf (fun c => decide (o c = x)) (k + 1) = setOf (fun c => decide (o c = x)) k := by
        rw [setOf]; simp only [e, decide_false]
        exact or_zero _
      exact ih (k + 1) tro td (by omega) (by rw [es]; exact ht) (by rw [es]; exact hd)
theorem pX0_isOwner {Q : Int32 → Prop} {x : Int32} (h : Q (b2 (0 ≤ x ∧ x ≤ 3))) : wX0_isOwner Q x := by
  unfold wX0_isOwner
  exact pX0_inI (lo := 0) (hi := 3) ⟨b2_bz _, h⟩
theorem cWorth (hg : okD g) {td : Nat → Int32} {tro : Int64} {trt : Int32} (h : ∀ a b c, Q (if 0 ≤ x ∧ x ≤ 3 then worP (dugP g) (deepP g) gro grt (ownP o x) else -100001) a b c) : wX0_worth Q g gro grt td tro trt o x := by
  unfold wX0_worth
  refine pX0_isOwner ⟨fun q => ?_, fun q => ?_⟩
  · rw [if_neg (b2_0 q)] at h; exact h _ _ _
  · rw [if_pos (b2_1 q)] at h
    refine pX1_takes hg ?_
    intro d' hd'
    refine ⟨37, wo_23 h 36 0 _ _ rfl ?_ ?_⟩
    · exact mem_ext (fun i _ => by rw [mem_minus, setOf, mem_zero]; simp)
    · intro i hi
      rw [hd' i hi]
      unfold bec
      rw [setOf, mem_zero]; rfl
end
theorem mWorth {Q : Int32 → Int64 → Int64 → (Nat → Int64) → Int32 → Prop} {g o : Nat → Int32} {roofs dug deep : Int64} {rt x hm : Int32} {hs : Nat → Int64} (h : ∀ a b c d, Q (if 0 ≤ x ∧ x ≤ 3 then worP (dugP g) (deepP g) roofs rt (ownP o x) else -100001) a b c d) : wX3_worth Q g o roofs rt dug deep hs hm x := by
  unfold wX3_worth
  refine pX3_inI (lo := 0) (hi := 3) ⟨fun q => ?_, fun q => ?_⟩
  · rw [if_neg (b2_0 q)] at h; exact h _ _ _ _
  · rw [if_pos (b2_1 q)] at h
    refine pX3_look ?_
    refine pX3_taxOfAll (small_dugP g) ?_
    refine pX3_owned ?_
    intro a ha
    subst ha
    exact pX3_taxOfAll (small_and_l (small_dugP g)) (h _ _ _ _)
theorem oWorth {P : Int32 → (Nat → Int32) → Int64 → Int32 → Int32 → Int64 → Int64 → (Nat → Int64) → Int32 → Prop} {g g' o o' td : Nat → Int32} {roofs tro dug deep : Int64} {rt trt x hm : Int32} {hs : Nat → Int64} (hd : okD g) (hg : agree 36 g g') (ho : agree 36 o o') (hp : ∀ v t1 t2 t3 a b c d, P v t1 t2 t3 v a b c d) : wX0_worth (fun r t1 t2 t3 => wX3_worth (fun r' a b c d => P r t1 t2 t3 r' a b c d) g' o' roofs rt dug deep hs hm x) g roofs rt td tro trt o x :=
  cWorth hd (fun _ _ _ => mWorth (fun a b c d => by rw [dugP_of hg, deepP_of hg, ownP_of ho]; exact hp _ _ _ _ _ _ _ _))
/-- the loophole -/
def lopF (d deep roofs : Int64) (rate : Int32) : Nat → Nat → Int32 → Int32 → Int32
  | 0, _, _, best => best
  | n + 1, k, least, best => if mem d k = true then lopF d deep roofs rate n (k + 1) least best else
      if taxAll (d ||| bit k) deep roofs rate < least then lopF d deep roofs rate n (k + 1) (taxAll (d ||| bit k) deep roofs rate) (nI k) else lopF d deep roofs rate n (k + 1) least best
theorem lo_13 {Q : Int32 → (Nat → Int32) → Int64 → Int32 → Prop} {g : Nat → Int32} {gro : Int64} {grt : Int32} (hg : okD g) : ∀ n k least best tro trt td kc ks, k + n = 36 → kc ≤ 22 * (1 + k) → ks ≤ 86 * (1 + k) → (∀ a b c, Q (lopF (dugP g) (deepP g) gro grt n k least best) a b c) → wX0_loophole_13 Q gro grt g (n + 1) least best (nI k) tro trt td kc ks := by
  intro n
  induction n with
  | zero =>
    intro k least best tro trt td kc ks hk hkc hks hq
    unfold wX0_loophole_13
    have e : k = 36 := by omega
    subst e
    exact ⟨fun _ => hq _ _ _, fun h => absurd (by decide) h⟩
  | succ n ih =>
    intro k least best tro trt td kc ks hk hkc hks hq
    unfold wX0_loophole_13
    unfold lopF at hq
    refine ⟨fun h => absurd h (n36 (by omega)), fun _ => ⟨in_nI (by omega) (by decide), ?_⟩⟩
    rw [clam_nI (by omega), bit_nI (by omega)]
    refine ⟨fun e => ?_, fun e => ?_⟩
    · have hm : ¬ mem (dugP g) k = true := fun q => ((mem_dugP g k).mp q).2 e
      rw [if_neg hm] at hq
      refine pX1_takes hg ?_
      intro d' hd'
      refine pX1_becomes (small_bit (by omega)) (by decide) (by decide) ?_
      refine ⟨by omega, by omega, ?_⟩
      refine pX1_tax ?_
      have et : taxAll (dugP (bec d' (bit k) 1)) (deepP (bec d' (bit k) 1)) (if (1 : Int32) = 0 then gro &&& (bit k ^^^ (-1)) else gro) grt = taxAll (dugP g ||| bit k) (deepP g) gro grt := by
        rw [if_neg (by decide), dug_bec1 _ (small_bit (by omega)) (by decide), deep_bec _ (by decide), dugP_of hd', deepP_of hd']
        refine taxAll_of (small_or (small_dugP g) (small_bit (by omega))) ?_ (fun _ _ => rfl)
        intro i hi
        rw [mem_minus]
        cases hb : mem (bit k) i with
        | false => simp
        | true =>
          have := bit_one (by omega) hb
          subst this
          have : mem (deepP g) i = false := by
            cases hm' : mem (deepP g) i with
            | false => rfl
            | true =>
              have := ((mem_deepP g i).mp hm').2
              rw [this] at e; exact absurd e (by decide)
          rw [this]; rfl
      rw [et]
      refine ⟨fun q => ?_, fun q => ?_⟩
      · intro a ha; subst ha; rw [nI_add1]
        rw [if_pos q] at hq
        exact ih (k + 1) _ _ _ _ _ _ _ (by omega) (by omega) (by omega) hq
      · intro a ha; subst ha; rw [nI_add1]
        rw [if_neg q] at hq
        exact ih (k + 1) _ _ _ _ _ _ _ (by omega) (by omega) (by omega) hq
    · intro a ha; subst ha; rw [nI_add1]
      rw [if_pos ((mem_dugP g k).mpr ⟨by omega, e⟩)] at hq
      exact ih (k + 1) _ _ _ _ _ _ _ (by omega) (by omega) (by omega) hq
theorem ml_14 {Q : Int32 → Int64 → Int64 → (Nat → Int64) → Int32 → Prop} {g : Nat → Int32} {roofs : Int64} {rt : Int32} (hg : okD g) : ∀ n k least best hs hm, k + n = 36 → (∀ a b c d, Q (lopF (dugP g) (deepP g) roofs rt n k least best) a b c d) → wX3_loophole_14 Q g roofs rt (deepP g) (n + 1) least best (nI k) (dugP g) hs hm := by
  intro n
  induction n with
  | zero =>
    intro k least best hs hm hk hq
    unfold wX3_loophole_14
    have e : k = 36 := by omega
    subst e
    exact ⟨fun _ => hq _ _ _ _, fun h => absurd (by decide) h⟩
  | succ n ih =>
    intro k least best hs hm hk hq
    unfold wX3_loophole_14 wX3_loophole_74
    unfold lopF at hq
    refine ⟨fun h => absurd h (n36 (by omega)), fun _ => ⟨in_nI (by omega) (by decide), ?_⟩⟩
    rw [clam_nI (by omega), bit_nI (by omega)]
    refine ⟨fun e => ?_, fun e => ?_⟩
    · have hm : ¬ mem (dugP g) k = true := fun q => ((mem_dugP g k).mp q).2 (by rw [e]; decide)
      rw [if_neg hm] at hq
      intro a ha
      subst ha
      refine pX3_taxOfAll (small_or (small_dugP g) (small_bit (by omega))) ?_
      intro b hb
      have eb : b = dugP g := by
        rw [hb]
        apply mem_ext
        intro i _
        rw [mem_minus, mem_or]
        cases hbi : mem (bit k) i with
        | false => simp
        | true =>
          have := bit_one (by omega) hbi
          subst this
          cases h : mem (dugP g) i with
          | false => rfl
          | true => exact absurd h hm
      rw [eb]
      refine ⟨fun q => ⟨fun _ => ?_, fun w => absurd q w⟩, fun q => ⟨fun w => absurd w q, fun _ => ?_⟩⟩
      · intro a ha; subst ha; rw [nI_add1]
        rw [if_neg (Int32.not_lt.mpr q)] at hq
        exact ih (k + 1) _ _ _ _ (by omega) hq
      · intro a ha; subst ha; rw [nI_add1]
        rw [if_pos (Int32.not_le.mp q)] at hq
        exact ih (k + 1) _ _ _ _ (by omega) hq
    · intro a ha; subst ha; rw [nI_add1]
      have hm : mem (dugP g) k = true := (mem_dugP g k).mpr ⟨by omega, fun q => e (Int32.le_antisymm q (hg k (by omega)).1)⟩
      rw [if_pos hm] at hq
      exact ih (k + 1) _ _ _ _ (by omega) hq
theorem okD_of {f g : Nat → Int32} (h : agree 36 f g) (hf : okD f) : okD g := fun i hi => by rw [← h i hi]; exact hf i hi
theorem oLoophole {P : Int32 → (Nat → Int32) → Int64 → Int32 → Int32 → Int64 → Int64 → (Nat → Int64) → Int32 → Prop} {g g' td : Nat → Int32} {roofs tro dug deep : Int64} {rt trt hm : Int32} {hs : Nat → Int64} (hd : okD g) (hg : agree 36 g g') (hp : ∀ v t1 t2 t3 a b c d, P v t1 t2 t3 v a b c d) : wX0_loophole (fun r t1 t2 t3 => wX3_loophole (fun r' a b c d => P r t1 t2 t3 r' a b c d) g' roofs rt dug deep hs hm) g roofs rt td tro trt := by
  unfold wX0_loophole
  refine pX1_tax ⟨37, lo_13 hd 36 0 _ _ _ _ _ _ _ rfl (by omega) (by omega) ?_⟩
  intro a b c
  unfold wX3_loophole
  refine pX3_look ?_
  refine pX3_taxOfAll (small_dugP g') ?_
  refine ⟨37, ml_14 (okD_of hg hd) 36 0 _ _ _ _ rfl ?_⟩
  intro a b c d
  rw [dugP_of hg, deepP_of hg]
  exact hp _ _ _ _ _ _ _ _
/-! PURE 11: largest, rims, owners, nested, hole, border, cut -/
def nxt (x : Int64) : Int64 := (x &&& ((x >>> ((1 : Int32).toInt64 &&& 63)) &&& (34905131040 ^^^ (-1)))) &&& ((x &&& ((x >>> ((1 : Int32).toInt64 &&& 63)) &&& (34905131040 ^^^ (-1)))) >>> ((6 : Int32).toInt64 &&& 63))
theorem nxt_sub (x : Int64) : sub (nxt x) x := fun i h => by
  unfold nxt at h
  rw [mem_and, mem_and, Bool.and_eq_true, Bool.and_eq_true] at h
  exact h.1.1
theorem small_nxt {x : Int64} (h : small x) : small (nxt x) := small_sub (nxt_sub x) h
theorem nxt_card {x : Int64} (hs : small x) (h : x ≠ 0) : card (nxt x) < card x := by
  refine card_lt (nxt_sub x) (fun q => ?_)
  -- each cell of it has one to its right
  have step : ∀ i, mem x i = true → mem x (i + 1) = true := by
    intro i hi
    have h36 := mem36 hs hi
    have := hi
    rw [← q] at this
    unfold nxt at this
    rw [mem_and, mem_and, Bool.and_eq_true, Bool.and_eq_true, mem_and, Bool.and_eq_true, sh1, mem_shr _ _ (by decide) _ (by omega), if_pos (by omega)] at this
    exact this.1.2.1
  obtain ⟨i, hi, hm⟩ := ne_zero_iff.mp h
  have : ∀ n, mem x (i + n) = true := by
    intro n
    induction n with
    | zero => exact hm
    | succ n ih => exact step _ ih
  have := this 64
  rw [mem_hi _ (by omega)] at this
  exact Bool.noConfusion this
def lgF : Nat → Int64 → Nat
  | 0, _ => 0
  | n + 1, x => if x = 0 then 0 else 1 + lgF n (nxt x)
theorem lgF_eq : ∀ n m x, small x → card x ≤ n → card x ≤ m → lgF n x = lgF m x := by
  intro n
  induction n with
  | zero =>
    intro m x hs hn hm
    have : x = 0 := Classical.byContradiction (fun h => by have := card_drop h; omega)
    subst this
    cases m <;> simp [lgF]
  | succ n ih =>
    intro m x hs hn hm
    by_cases h0 : x = 0
    · subst h0; cases m <;> simp [lgF]
    · have := nxt_card hs h0
      cases m with
      | zero => omega
      | succ m =>
        unfold lgF
        rw [if_neg h0, if_neg h0, ih m _ (small_nxt hs) (by omega) (by omega)]
def lg (x : Int64) : Nat := lgF 64 x
theorem lg_zero : lg 0 = 0 := by unfold lg lgF; simp
theorem lg_next {x : Int64} (hs : small x) (h : x ≠ 0) : lg x = 1 + lg (nxt x) := by
  have := nxt_card hs h
  have := card_le x
  unfold lg
  rw [show lgF 64 x = 1 + lgF 63 (nxt x) by rw [lgF, if_neg h]]
  rw [lgF_eq 63 64 _ (small_nxt hs) (by omega) (by omega)]
theorem lg_le {x : Int64} (hs : small x) : lg x ≤ 36 := by
  have : ∀ n x, small x → card x ≤ n → lg x ≤ n := by
    intro n
    induction n with
    | zero =>
      intro x hs hn
      have : x = 0 := Classical.byContradiction (fun h => by have := card_drop h; omega)
      subst this; rw [lg_zero]; exact Nat.le_refl _
    | succ n ih =>
      intro x hs hn
      by_cases h0 : x = 0
      · subst h0; rw [lg_zero]; exact Nat.zero_le _
      · have := nxt_card hs h0
        rw [lg_next hs h0]
        have := ih (nxt x) (small_nxt hs) (by omega)
        omega
  exact this 36 x hs (card_small hs)
theorem largest_7 {Q : Int32 → Prop} {c : Int64} : ∀ n x k, small x → card x ≤ n → Q (nI (k + lg x)) → ∃ fu, wX5_largest_7 Q c fu (nI k) x := by
  intro n
  induction n with
  | zero =>
    intro x k hs hn hq
    have : x = 0 := Classical.byContradiction (fun h => by have := card_drop h; omega)
    subst this
    rw [lg_zero] at hq
    refine ⟨1, ?_⟩
    unfold wX5_largest_7
    exact ⟨fun _ => hq, fun h => absurd rfl h⟩
  | succ n ih =>
    intro x k hs hn hq
    by_cases h0 : x = 0
    · subst h0
      rw [lg_zero] at hq
      refine ⟨1, ?_⟩
      unfold wX5_largest_7
      exact ⟨fun _ => hq, fun h => absurd rfl h⟩
    · have := nxt_card hs h0
      rw [lg_next hs h0] at hq
      obtain ⟨fu, hf⟩ := ih (nxt x) (k + 1) (small_nxt hs) (by omega) (by rw [show ∀ n, k + 1 + n = k + (1 + n) from fun n => by omega]; exact hq)
      refine ⟨fu + 1, ?_⟩
      unfold wX5_largest_7
      refine ⟨fun h => absurd h h0, fun _ => ?_⟩
      intro a ha b hb c hc
      subst ha hb hc
      rw [nI_add1]
      exact hf
theorem pP_largest {Q : Int32 → Prop} {x : Int64} (hs : small x) (h : Q (nI (lg x))) : wP_largest Q x := largest_7 _ x 0 hs (Nat.le_refl _) (by rw [Nat.zero_add]; exact h)
theorem nxt_model {x : Int64} (hs : small x) : (((x &&& ((x &&& (-1090785346)) >>> ((1 : Int32).toInt64 &&& 63))) &&& (x >>> ((6 : Int32).toInt64 &&& 63))) &&& (((x &&& (-1090785346)) >>> ((1 : Int32).toInt64 &&& 63)) >>> ((6 : Int32).toInt64 &&& 63))) = nxt x := by
  have e1 : (-1090785346 : Int64) = 1090785345 ^^^ (-1) := by decide
  have er : (x &&& (1090785345 ^^^ (-1))) >>> Int64.ofNat 1 = (x >>> Int64.ofNat 1) &&& (34905131040 ^^^ (-1)) := by
    apply mem_ext
    intro i hi
    rw [mem_minus, mem_shr (x &&& (1090785345 ^^^ (-1))) 1 (by decide) i hi, mem_shr x 1 (by decide) i hi, mem_last]
    by_cases q : i + 1 < 64
    · rw [if_pos q, if_pos q, mem_minus, mem_first]
      by_cases z : i + 1 < 36
      · have : decide (i + 1 < 36 ∧ (i + 1) % 6 = 0) = decide (i < 36 ∧ i % 6 = 5) := decide_eq_decide.mpr (by omega)
        rw [this]
      · rw [hs _ (by omega)]; rfl
    · rw [if_neg q, if_neg q, hs 63 (by decide), mem_minus, hs 63 (by decide)]; rfl
  unfold nxt
  rw [e1, sh1, sh6, er]
  apply mem_ext
  intro i hi
  simp only [mem_and]
  rw [mem_shr _ 6 (by decide) _ hi, mem_shr _ 6 (by decide) _ hi, mem_shr _ 6 (by decide) _ hi]
  simp only [mem_and]
  generalize mem x i = a
  generalize mem (x >>> Int64.ofNat 1) i = b
  generalize mem (34905131040 ^^^ -1) i = c
  by_cases q : i + 6 < 64
  · simp only [if_pos q]
    generalize mem x (i + 6) = d
    generalize mem (x >>> Int64.ofNat 1) (i + 6) = e
    generalize mem (34905131040 ^^^ -1) (i + 6) = f
    cases a <;> cases b <;> cases c <;> cases d <;> cases e <;> cases f <;> rfl
  · simp only [if_neg q]
    generalize mem x 63 = d
    generalize mem (x >>> Int64.ofNat 1) 63 = e
    generalize mem (34905131040 ^^^ -1) 63 = f
    cases a <;> cases b <;> cases c <;> cases d <;> cases e <;> cases f <;> rfl
theorem largestOf_7 {Q : Int32 → Prop} : ∀ n x k, small x → card x ≤ n → Q (nI (k + lg x)) → ∃ fu, wX3_largestOf_7 Q fu (nI k) x (nI (k + 1)) := by
  intro n
  induction n with
  | zero =>
    intro x k hs hn hq
    have : x = 0 := Classical.byContradiction (fun h => by have := card_drop h; omega)
    subst this
    rw [lg_zero] at hq
    refine ⟨1, ?_⟩
    unfold wX3_largestOf_7
    exact ⟨fun _ => hq, fun h => absurd rfl h⟩
  | succ n ih =>
    intro x k hs hn hq
    by_cases h0 : x = 0
    · subst h0
      rw [lg_zero] at hq
      refine ⟨1, ?_⟩
      unfold wX3_largestOf_7
      exact ⟨fun _ => hq, fun h => absurd rfl h⟩
    · have := nxt_card hs h0
      rw [lg_next hs h0] at hq
      obtain ⟨fu, hf⟩ := ih (nxt x) (k + 1) (small_nxt hs) (by omega) (by rw [show ∀ n, k + 1 + n = k + (1 + n) from fun n => by omega]; exact hq)
      refine ⟨fu + 1, ?_⟩
      unfold wX3_largestOf_7
      refine ⟨fun h => absurd h h0, fun _ => ?_⟩
      intro a ha b hb c hc
      subst ha hb hc
      rw [nI_add1, nxt_model hs]
      exact hf
theorem pX3_largestOf {Q : Int32 → Prop} {x : Int64} (hs : small x) (h : Q (nI (lg x))) : wX3_largestOf Q x := largestOf_7 _ x 0 hs (Nat.le_refl _) (by rw [Nat.zero_add]; exact h)
/-- owners of a rim -/
def okO (o : Nat → Int32) : Prop := ∀ i, i < 36 → 0 ≤ o i ∧ o i ≤ 4
theorem okO_of {f g : Nat → Int32} (h : agree 36 f g) (hf : okO f) : okO g := fun i hi => by rw [← h i hi]; exact hf i hi
theorem pop_and_drop {x y : Int64} {k : Nat} (hk : mem x k = true) (hl : ∀ j, j < k → mem x j = false) (n : Nat) : pop (x &&& y) n = pop ((x &&& (x - 1)) &&& y) n + if k < n ∧ mem y k = true then 1 else 0 := by
  induction n with
  | zero => simp [pop]
  | succ n ih =>
    unfold pop
    rw [ih, mem_and _ y, mem_and _ y, mem_drop hk hl]
    by_cases q : n = k
    · subst q
      rw [hk]
      cases mem y n <;> simp
    · have : (k < n + 1 ∧ mem y k = true) ↔ (k < n ∧ mem y k = true) := by constructor <;> (rintro ⟨a, b⟩; exact ⟨by omega, b⟩)
      simp only [this, q, ne_eq, not_false_eq_true, decide_true, Bool.and_true]; omega
def rimN (o : Nat → Int32) (x : Int64) (k : Nat) : Int32 := nI (card (x &&& ownP o (nI k)))
theorem rims_9 {Q : (Nat → Int32) → Prop} {o : Nat → Int32} {c : Int64} (ho : okO o) : ∀ n x ar kc ks, small x → card x ≤ n → (∀ ar', (∀ k, k < 5 → ar' k = ar k + rimN o x k) → Q ar') → ∃ fu, wX0_rims_9 Q o c fu x ar kc ks := by
  intro n
  induction n with
  | zero =>
    intro x ar kc ks hs hn hq
    have : x = 0 := Classical.byContradiction (fun h => by have := card_drop h; omega)
    subst this
    refine ⟨1, ?_⟩
    unfold wX0_rims_9
    refine ⟨fun _ => hq _ (fun k _ => ?_), fun h => absurd rfl h⟩
    unfold rimN
    rw [show (0 : Int64) &&& ownP o (nI k) = 0 from mem_ext (fun i _ => by rw [mem_and, mem_zero]; rfl), card_zero]
    exact (Int32.add_zero _).symm
  | succ n ih =>
    intro x ar kc ks hs hn hq
    by_cases h0 : x = 0
    · subst h0
      refine ⟨1, ?_⟩
      unfold wX0_rims_9
      refine ⟨fun _ => hq _ (fun k _ => ?_), fun h => absurd rfl h⟩
      unfold rimN
      rw [show (0 : Int64) &&& ownP o (nI k) = 0 from mem_ext (fun i _ => by rw [mem_and, mem_zero]; rfl), card_zero]
      exact (Int32.add_zero _).symm
    · obtain ⟨h64, hk, hl⟩ := lsb_spec h0
      have h36 := lsb_small hs h0
      have hd := card_drop h0
      obtain ⟨j, hj, ej⟩ := nI_ofN (n := 4) (ho _ h36).1 (ho _ h36).2 (by decide)
      obtain ⟨fu, hf⟩ := ih (x &&& (x - 1)) (upd ar j (ar j + 1)) kc ks (small_and_l hs) (by omega) (by
        intro ar' har
        refine hq ar' (fun k hk5 => ?_)
        rw [har k hk5]
        unfold rimN card
        rw [pop_and_drop (x := x) (y := ownP o (nI k)) hk hl 64]
        have hm : mem (ownP o (nI k)) (lsb x) = true ↔ j = k := by
          unfold ownP
          rw [mem_setOf _ 36 (by decide)]
          simp only [h36, decide_true, Bool.true_and, decide_eq_true_eq]
          rw [ej, nI_inj (by omega) (by omega)]
        unfold upd
        by_cases q : k = j
        · subst q
          rw [if_pos rfl, if_pos ⟨h64, hm.mpr rfl⟩, ← nI_add1, Int32.add_assoc, Int32.add_comm 1]
        · rw [if_neg q, if_neg (fun z => q (hm.mp z.2).symm), Nat.add_zero])
      refine ⟨fu + 1, ?_⟩
      unfold wX0_rims_9
      refine ⟨fun h => absurd h h0, fun _ => ?_⟩
      refine pX0_least h0 ⟨in_nI h36 (by decide), ?_⟩
      rw [clam_nI (by omega), ej, clam_nI (by omega)]
      refine ⟨in_nI (by omega) (by decide), in_nI (by omega) (by decide), ?_⟩
      intro a ha b hb
      subst ha hb
      exact hf
theorem pX0_rims {Q : (Nat → Int32) → Prop} {o : Nat → Int32} {h : Int64} (ho : okO o) (hq : ∀ ar, (∀ k, k < 5 → ar k = rimN o (rimP h) k) → Q ar) : wX0_rims Q o h := by
  unfold wX0_rims
  refine pP_rim ?_
  refine rims_9 ho _ (rimP h) _ _ _ (small_rim h) (Nat.le_refl _) ?_
  intro ar har
  refine hq ar (fun k hk => ?_)
  rw [har k hk, Int32.zero_add]
def owL (m : Nat → Int32) : Nat → Nat → Int32 → Int32 → Int32
  | 0, _, best, _ => best
  | n + 1, k, best, most => if most < m k then owL m n (k + 1) (nI k) (m k) else owL m n (k + 1) best most
theorem n4 {b : Nat} (h : b < 4) : ¬ 4 ≤ nI b := fun q => absurd ((nI_leN (a := 4) (by decide) (by omega)).mp q) (by omega)
theorem ow_14 {Q : Int32 → Prop} {o : Nat → Int32} {h : Int64} {ar : Nat → Int32} (har : ∀ k, k < 5 → ar k = rimN o (rimP h) k) : ∀ n k best most kc ks, k + n = 4 → Q (owL (rimN o (rimP h)) n k best most) → wX0_ownerOf_14 Q o h ar (n + 1) best most (nI k) kc ks := by
  intro n
  induction n with
  | zero =>
    intro k best most kc ks hk hq
    unfold wX0_ownerOf_14
    have e : k = 4 := by omega
    subst e
    exact ⟨fun _ => hq, fun h => absurd (by decide) h⟩
  | succ n ih =>
    intro k best most kc ks hk hq
    unfold wX0_ownerOf_14
    unfold owL at hq
    refine ⟨fun h => absurd h (n4 (by omega)), fun _ => ⟨in_nI (by omega) (by decide), ?_⟩⟩
    rw [clam_nI (by omega), har k (by omega)]
    refine ⟨fun q => ⟨in_nI (by omega) (by decide), ?_⟩, fun q => ?_⟩
    · intro a ha b hb; subst ha hb; rw [nI_add1]; rw [if_pos q] at hq; exact ih _ _ _ _ _ (by omega) hq
    · intro b hb; subst hb; rw [nI_add1]; rw [if_neg q] at hq; exact ih _ _ _ _ _ (by omega) hq
theorem mow_8 {Q : Int32 → Prop} {o : Nat → Int32} {h d : Int64} (hd : small d) (H : isHole h d) : ∀ n k best most, k + n = 4 → Q (owL (rimN o (rimP h)) n k best most) → wX3_ownerOf_8 Q h o d (n + 1) best most (nI k) := by
  intro n
  induction n with
  | zero =>
    intro k best most hk hq
    unfold wX3_ownerOf_8
    have e : k = 4 := by omega
    subst e
    exact ⟨fun _ => hq, fun h => absurd (by decide) h⟩
  | succ n ih =>
    intro k best most hk hq
    unfold wX3_ownerOf_8 wX3_ownerOf_44
    unfold owL at hq
    refine ⟨fun h => absurd h (n4 (by omega)), fun _ => ?_⟩
    refine pX3_rimOf hd H ?_
    refine pX3_owned ?_
    refine pX3_ones ?_
    have er : nI (card (rimP h &&& ownP o (nI k))) = rimN o (rimP h) k := rfl
    rw [er]
    refine ⟨fun q => ⟨fun _ => ?_, fun w => absurd q w⟩, fun q => ⟨fun w => absurd w q, fun _ => ?_⟩⟩
    · intro b hb; subst hb; rw [nI_add1]; rw [if_neg (Int32.not_lt.mpr q)] at hq; exact ih _ _ _ (by omega) hq
    · intro b hb; subst hb; rw [nI_add1]; rw [if_pos (Int32.not_le.mp q)] at hq; exact ih _ _ _ (by omega) hq
def owP (o : Nat → Int32) (h : Int64) : Int32 := owL (rimN o (rimP h)) 4 0 4 0
theorem pX0_ownerOf {Q : Int32 → Prop} {o : Nat → Int32} {h : Int64} (ho : okO o) (hq : Q (owP o h)) : wX0_ownerOf Q o h := by
  unfold wX0_ownerOf
  refine pX0_rims ho ?_
  intro ar har
  exact ⟨5, ow_14 har 4 0 _ _ _ _ rfl hq⟩
theorem pX3_ownerOf {Q : Int32 → Prop} {o : Nat → Int32} {h d : Int64} (hd : small d) (H : isHole h d) (hq : Q (owP o h)) : wX3_ownerOf Q o d h := ⟨5, mow_8 hd H 4 0 _ _ rfl hq⟩
theorem owP_of {f g : Nat → Int32} (h : agree 36 f g) (x : Int64) : owP f x = owP g x := by
  have : rimN f (rimP x) = rimN g (rimP x) := by funext k; unfold rimN; rw [ownP_of h]
  unfold owP; rw [this]
/-- nested -/
theorem nest_iff {d h c : Int64} (hd : small d) (Hh : isHole h d) (Hc : isHole c d) : innP h &&& c ≠ 0 ↔ h ≠ c ∧ c &&& (innP h ^^^ (-1)) = 0 := by
  have in_iff : ∀ i, mem (innP h) i = true ↔ mem (othP h) i = true ∧ mem (comp 68208171135 (othP h)) i = false := by
    intro i; unfold innP; rw [mem_minus, Bool.and_eq_true, Bool.not_eq_true']
  have oth_iff : ∀ i, mem (othP h) i = true ↔ i < 36 ∧ mem h i = false := by
    intro i; unfold othP; rw [mem_minus, Bool.and_eq_true, Bool.not_eq_true', mem_all, decide_eq_true_eq]
  constructor
  · intro q
    obtain ⟨i, hi, hm⟩ := ne_zero_iff.mp q
    rw [mem_and, Bool.and_eq_true] at hm
    have hin := (in_iff i).mp hm.1
    have hni := ((oth_iff i).mp hin.1).2
    have hne : h ≠ c := fun e => by rw [e, hm.2] at hni; exact Bool.noConfusion hni
    refine ⟨hne, ?_⟩
    have hci := isHole_at hd Hc hm.2
    have all : ∀ j, mem c j = true → mem (innP h) j = true ∧ mem c j = true := by
      intro j hj
      rw [hci] at hj
      refine comp_ind hd (fun j => mem (innP h) j = true ∧ mem c j = true) ?_ ?_ hj
      · intro j hj _
        rw [bit_one (by omega) hj]; exact hm
      · intro a b ⟨pa, ca⟩ ha hab hb
        have hcb := (isHole_sep hd Hc).2 a b ca hab hb
        refine ⟨?_, hcb⟩
        rw [in_iff] at pa ⊢
        have hnb : mem h b = false := by
          cases z : mem h b with
          | false => rfl
          | true => exact absurd ((isHole_at hd Hh z).trans (isHole_at hd Hc hcb).symm) hne
        have hob := (oth_iff b).mpr ⟨mem36 hd hb, hnb⟩
        refine ⟨hob, ?_⟩
        cases z : mem (comp 68208171135 (othP h)) b with
        | false => rfl
        | true =>
          have := comp_step (small_oth h) z (adj_symm hab) pa.1
          rw [pa.2] at this; exact Bool.noConfusion this
    apply mem_ext
    intro j _
    rw [mem_minus, mem_zero]
    cases z : mem c j with
    | false => rfl
    | true => rw [(all j z).1]; rfl
  · rintro ⟨_, q⟩
    obtain ⟨i, hi, hm⟩ := ne_zero_iff.mp (isHole_ne Hc)
    refine ne_zero_iff.mpr ⟨i, hi, ?_⟩
    have := congrArg (fun z => mem z i) q
    simp only [mem_minus, hm, mem_zero, Bool.true_and, Bool.not_eq_false'] at this
    rw [mem_and, hm, this]; rfl
def nesL (c : Int64) (L : List Int64) : Nat := L.countP (fun h => decide (innP h &&& c ≠ 0))
theorem nesL_le (c : Int64) (L : List Int64) : nesL c L ≤ L.length := List.countP_le_length
theorem drop_at {α : Type} {L : List α} {k : Nat} {x : α} {M : List α} (h : L.drop k = x :: M) : ∃ hlt : k < L.length, L[k] = x ∧ L.drop (k + 1) = M := by
  have hlt : k < L.length := by
    apply Nat.lt_of_not_le
    intro q
    rw [List.drop_eq_nil_of_le q] at h
    exact absurd h (by simp)
  refine ⟨hlt, ?_⟩
  rw [List.drop_eq_getElem_cons hlt] at h
  injection h with h1 h2
  exact ⟨h1, h2⟩
theorem nes_13 {Q : Int32 → Prop} {g : Nat → Int32} {gro : Int64} {grt : Int32} {c : Int64} {L : List Int64} {pm : Nat → Int64} (hL : L.length ≤ 18) (hpm : ∀ (k : Nat) (h : k < L.length), pm k = L[k]) : ∀ M k s kc ks, L.drop k = M → k ≤ L.length → Q (nI (s + nesL c M)) → wX0_nested_13 Q gro grt g c L.length pm (M.length + 1) (nI s) (nI k) kc ks := by
  intro M
  induction M with
  | nil =>
    intro k s kc ks hM hk hq
    have : L.length ≤ k := by simpa using hM
    have e : k = L.length := by omega
    subst e
    unfold wX0_nested_13
    exact ⟨fun _ => hq, fun h => absurd (Int32.le_refl _) h⟩
  | cons x M ih =>
    intro k s kc ks hM hk hq
    obtain ⟨hlt, hx, hM'⟩ := drop_at hM
    rw [List.length_cons]
    unfold wX0_nested_13
    refine ⟨fun h => absurd ((nI_leN (by omega) (by omega)).mp h) (by omega), fun _ => ⟨in_nI hlt (by omega), ?_⟩⟩
    rw [clam_nI (by omega), hpm k hlt, hx]
    refine pP_within ⟨fun q => ?_, fun q => ?_⟩
    · intro a ha b hb
      subst ha hb
      rw [Int32.add_zero, nI_add1]
      refine ih (k + 1) s kc ks hM' (by omega) ?_
      unfold nesL at hq ⊢
      rw [List.countP_cons_of_neg (by simpa using q)] at hq
      exact hq
    · intro a ha b hb
      subst ha hb
      rw [nI_add1, nI_add1]
      refine ih (k + 1) (s + 1) kc ks hM' (by omega) ?_
      unfold nesL at hq ⊢
      rw [List.countP_cons_of_pos (by simpa using q)] at hq
      rw [show ∀ n, s + 1 + n = s + (n + 1) from fun n => by omega]
      exact hq
theorem pX0_nested {Q : Int32 → Prop} {g : Nat → Int32} {gro : Int64} {grt : Int32} {c : Int64} (h : Q (nI (nesL c (hl (dugP g))))) : wX0_nested Q g gro grt c := by
  unfold wX0_nested
  refine pX1_holes ?_
  refine ⟨_, nes_13 (hl_18 (small_dugP g)) (fun k h => over_at h) _ 0 0 _ _ rfl (Nat.zero_le _) ?_⟩
  rw [Nat.zero_add, List.drop_zero]; exact h
theorem mnes_9 {Q : Int32 → (Nat → Int64) → Int32 → Prop} {d c : Int64} (hd : small d) (Hc : isHole c d) {L : List Int64} {f : Nat → Int64} (hL : L.length ≤ 18) (hH : ∀ x ∈ L, isHole x d) (hf : ∀ (k : Nat) (h : k < L.length), f k = L[k]) : ∀ M k s, L.drop k = M → k ≤ L.length → Q (nI (s + nesL c M)) f (nI L.length) → wX3_nestedOf_9 Q c d f (nI L.length) (M.length + 1) (nI s) (nI k) := by
  intro M
  induction M with
  | nil =>
    intro k s hM hk hq
    have : L.length ≤ k := by simpa using hM
    have e : k = L.length := by omega
    subst e
    unfold wX3_nestedOf_9
    exact ⟨fun _ => hq, fun h => absurd (Int32.le_refl _) h⟩
  | cons x M ih =>
    intro k s hM hk hq
    obtain ⟨hlt, hx, hM'⟩ := drop_at hM
    have Hx := hH x (by rw [← hx]; exact List.getElem_mem _)
    have hiff := nest_iff hd Hx Hc
    rw [List.length_cons]
    unfold wX3_nestedOf_9
    refine ⟨fun h => absurd ((nI_leN (by omega) (by omega)).mp h) (by omega), fun _ => ⟨in_nI (by omega) (by decide), ?_⟩⟩
    rw [clam_nI (by omega), hf k hlt, hx]
    have no : ¬ (innP x &&& c ≠ 0) → wX3_nestedOf_9 Q c d f (nI L.length) (M.length + 1) (nI s + 0) (nI k + 1) := by
      intro q
      rw [Int32.add_zero, nI_add1]
      refine ih (k + 1) s hM' (by omega) ?_
      unfold nesL at hq ⊢
      rw [List.countP_cons_of_neg (by simpa using q)] at hq
      exact hq
    refine ⟨fun e => ?_, fun e => ⟨in_nI (by omega) (by decide), ?_⟩⟩
    · intro a ha b hb
      subst ha hb
      exact no (fun q => (hiff.mp q).1 e)
    · refine pX3_withinOf ⟨fun q => ?_, fun q => ?_⟩
      · intro a ha b hb
        subst ha hb
        rw [nI_add1, nI_add1]
        refine ih (k + 1) (s + 1) hM' (by omega) ?_
        unfold nesL at hq ⊢
        rw [List.countP_cons_of_pos (by simpa using hiff.mpr ⟨e, q⟩)] at hq
        rw [show ∀ n, s + 1 + n = s + (n + 1) from fun n => by omega]
        exact hq
      · intro a ha b hb
        subst ha hb
        exact no (fun z => q (hiff.mp z).2)
theorem pX3_nestedOf {Q : Int32 → (Nat → Int64) → Int32 → Prop} {d c : Int64} {f : Nat → Int64} {k : Int32} (hd : small d) (Hc : isHole c d) (h : Q (nI (nesL c (hl d))) (over (hl d) f) (nI (hl d).length)) : wX3_nestedOf Q d f k c := by
  unfold wX3_nestedOf
  refine pX3_findHoles hd ?_
  refine ⟨_, mnes_9 hd Hc (hl_18 hd) (fun x hx => hl_isHole hd hx) (fun k h => over_at h) _ 0 0 rfl (Nat.zero_le _) ?_⟩
  rw [Nat.zero_add, List.drop_zero]; exact h
/-- what is told of a hole -/
def holP (d deep roofs : Int64) (rate : Int32) (o : Nat → Int32) (h : Int64) (y : Int32) : Int32 :=
  if y = 0 then nI (card h) else if y = 1 then kinI (kin deep roofs h) else if y = 2 then taxK (kin deep roofs h) h rate else if y = 3 then nI (fenN h) else if y = 4 then nI (card (rimP h)) else if y = 5 then owP o h else if y = 6 then nI (nesL h (hl d)) else nI (lg h)
theorem pP_fence {Q : Int32 → Prop} {x : Int64} (h : Q (nI (fenN x))) : wP_fence Q x := pX5_fence h
theorem cHole {Q : Int32 → Prop} {g o : Nat → Int32} {roofs : Int64} {rt x y : Int32} (ho : okO o) (h : Q (if isC x ∧ 0 ≤ y ∧ y ≤ 7 then (if mem (dugP g) x.toNatClampNeg = true then holP (dugP g) (deepP g) roofs rt o (comp (bit x.toNatClampNeg) (dugP g)) y else -2) else -1)) : wX0_hole Q g roofs rt o x y := by
  unfold wX0_hole
  refine pX0_isCell ⟨fun q => ?_, fun q => pX0_inI (lo := 0) (hi := 7) ⟨fun z => ?_, fun z => ?_⟩⟩
  · rw [if_neg (fun z => b2_0 q z.1)] at h; exact h
  · rw [if_neg (fun w => b2_0 z w.2)] at h; exact h
  · rw [if_pos ⟨b2_1 q, b2_1 z⟩] at h
    obtain ⟨k, hk, e⟩ := isC_ex (b2_1 q)
    subst e
    rw [clam_nI (by omega)] at h
    refine pX1_hole (by omega) (fun m => ?_) (fun m => ?_)
    · rw [if_neg (by rw [m]; decide)] at h; exact h
    · rw [if_pos m] at h
      unfold holP at h
      have hs : small (comp (bit k) (dugP g)) := comp_small (small_dugP g)
      refine ⟨fun a => ?_, fun a => ⟨fun b => ?_, fun b => ⟨fun c => ?_, fun c => ⟨fun d => ?_, fun d => ⟨fun e => ?_, fun e => ⟨fun f => ?_, fun f => ⟨fun i => ?_, fun i => ?_⟩⟩⟩⟩⟩⟩⟩
      · rw [if_pos a] at h; exact pX0_size h
      · rw [if_neg a, if_pos b] at h; exact pP_kind h
      · rw [if_neg a, if_neg b, if_pos c] at h; exact pP_tax h
      · rw [if_neg a, if_neg b, if_neg c, if_pos d] at h; exact pP_fence h
      · rw [if_neg a, if_neg b, if_neg c, if_neg d, if_pos e] at h; exact pP_rim (pX0_size h)
      · rw [if_neg a, if_neg b, if_neg c, if_neg d, if_neg e, if_pos f] at h; exact pX0_ownerOf ho h
      · rw [if_neg a, if_neg b, if_neg c, if_neg d, if_neg e, if_neg f, if_pos i] at h; exact pX0_nested h
      · rw [if_neg a, if_neg b, if_neg c, if_neg d, if_neg e, if_neg f, if_neg i] at h; exact pP_largest hs h
theorem mHole {Q : Int32 → Int64 → Int64 → (Nat → Int64) → Int32 → Prop} {g o : Nat → Int32} {roofs dug deep : Int64} {rt x y hm : Int32} {hs : Nat → Int64} (h : ∀ a b c d, Q (if isC x ∧ 0 ≤ y ∧ y ≤ 7 then (if mem (dugP g) x.toNatClampNeg = true then holP (dugP g) (deepP g) roofs rt o (comp (bit x.toNatClampNeg) (dugP g)) y else -2) else -1) a b c d) : wX3_hole Q g o roofs rt dug deep hs hm x y := by
  unfold wX3_hole
  refine pX3_isCell ⟨fun q => ?_, fun q => pX3_inI (lo := 0) (hi := 7) ⟨fun z => ?_, fun z => ?_⟩⟩
  · rw [if_neg (fun z => b2_0 q z.1)] at h; exact h _ _ _ _
  · rw [if_neg (fun w => b2_0 z w.2)] at h; exact h _ _ _ _
  · rw [if_pos ⟨b2_1 q, b2_1 z⟩] at h
    obtain ⟨k, hk, e⟩ := isC_ex (b2_1 q)
    subst e
    rw [clam_nI (by omega)] at h
    refine pX3_look ?_
    refine pX3_has (by omega) ⟨fun m => ?_, fun m => ?_⟩
    · rw [if_neg (b2_0 m)] at h; exact h _ _ _ _
    · have m := b2_1 m
      rw [if_pos m] at h
      unfold holP at h
      have hs : small (comp (bit k) (dugP g)) := comp_small (small_dugP g)
      have hd := small_dugP g
      have H := comp_hole m
      refine pX3_holeAt (by omega) ?_
      refine ⟨fun a => ?_, fun a => ⟨fun b => ?_, fun b => ⟨fun c => ?_, fun c => ⟨fun d => ?_, fun d => ⟨fun e => ?_, fun e => ⟨fun f => ?_, fun f => ⟨fun i => ?_, fun i => ?_⟩⟩⟩⟩⟩⟩⟩
      · rw [if_pos a] at h; exact pX3_ones (h _ _ _ _)
      · rw [if_neg a, if_pos b] at h; exact pX3_kindOf (h _ _ _ _)
      · rw [if_neg a, if_neg b, if_pos c] at h; exact pX3_taxOf hs (h _ _ _ _)
      · rw [if_neg a, if_neg b, if_neg c, if_pos d] at h; exact pX3_fenceOf hs (h _ _ _ _)
      · rw [if_neg a, if_neg b, if_neg c, if_neg d, if_pos e] at h; exact pX3_rimOf hd H (pX3_ones (h _ _ _ _))
      · rw [if_neg a, if_neg b, if_neg c, if_neg d, if_neg e, if_pos f] at h; exact pX3_ownerOf hd H (h _ _ _ _)
      · rw [if_neg a, if_neg b, if_neg c, if_neg d, if_neg e, if_neg f, if_pos i] at h; exact pX3_nestedOf hd H (h _ _ _ _)
      · rw [if_neg a, if_neg b, if_neg c, if_neg d, if_neg e, if_neg f, if_neg i] at h; exact pX3_largestOf hs (h _ _ _ _)
theorem oHole {P : Int32 → Int32 → Int64 → Int64 → (Nat → Int64) → Int32 → Prop} {g g' o o' : Nat → Int32} {roofs dug deep : Int64} {rt x y hm : Int32} {hs : Nat → Int64} (hoo : okO o) (hg : agree 36 g g') (ho : agree 36 o o') (hp : ∀ v a b c d, P v v a b c d) : wX0_hole (fun r => wX3_hole (fun r' a b c d => P r r' a b c d) g' o' roofs rt dug deep hs hm x y) g roofs rt o x y :=
  cHole hoo (mHole (fun a b c d => by
    have : ∀ h, holP (dugP g') (deepP g') roofs rt o' h y = holP (dugP g) (deepP g) roofs rt o h y := fun h => by
      unfold holP; rw [dugP_of hg, deepP_of hg, owP_of ho]
    rw [this, dugP_of hg]
    exact hp _ _ _ _ _))
/-! PURE 12: border, cut -/
/-- which of a list is the largest, the first of them -/
def bdF (L : List Int64) : Nat → Nat → Nat → Nat
  | 0, _, best => best
  | n + 1, k, best => if card (L.getD k 0) ≤ card (L.getD best 0) then bdF L n (k + 1) best else bdF L n (k + 1) k
theorem getD_at {L : List Int64} {k : Nat} (h : k < L.length) : L.getD k 0 = L[k] := by rw [List.getD_eq_getElem?_getD, List.getElem?_eq_getElem h]; rfl
def bdP (L : List Int64) (y : Int32) : Int32 := if L.length = 0 then -4 else if y = 0 then nI (lsb (L.getD (bdF L (L.length - 1) 1 0) 0)) else nI (fenN (L.getD (bdF L (L.length - 1) 1 0) 0))
theorem card_nI_le (x y : Int64) : nI (card x) ≤ nI (card y) ↔ card x ≤ card y := by
  have := card_le x; have := card_le y
  exact nI_leN (by omega) (by omega)
theorem bd_42 {Q : Int32 → Prop} {g : Nat → Int32} {gro : Int64} {grt y : Int32} {L : List Int64} {pm : Nat → Int64} (hL : L.length ≤ 18) (hne : ∀ x ∈ L, x ≠ 0) (hpm : ∀ (k : Nat), k < L.length → pm k = L.getD k 0) : ∀ n k best kc ks, k + n = L.length → best < L.length → Q (if y = 0 then nI (lsb (L.getD (bdF L n k best) 0)) else nI (fenN (L.getD (bdF L n k best) 0))) → wX0_border_42 Q y gro grt g L.length pm (n + 1) best (nI k) kc ks := by
  intro n
  induction n with
  | zero =>
    intro k best kc ks hk hb hq
    unfold wX0_border_42
    unfold bdF at hq
    have e : k = L.length := by omega
    subst e
    refine ⟨hb, fun _ => ?_, fun h => absurd (Int32.le_refl _) h⟩
    rw [hpm best hb]
    refine ⟨fun a => ?_, fun a => ?_⟩
    · rw [if_pos a] at hq
      exact pX0_least (hne _ (by rw [getD_at hb]; exact List.getElem_mem _)) hq
    · rw [if_neg a] at hq
      exact pP_fence hq
  | succ n ih =>
    intro k best kc ks hk hb hq
    unfold wX0_border_42
    unfold bdF at hq
    refine ⟨hb, fun h => absurd ((nI_leN (by omega) (by omega)).mp h) (by omega), fun _ => ⟨in_nI (by omega) (by omega), ?_⟩⟩
    rw [clam_nI (by omega), hpm best hb, hpm k (by omega)]
    refine pX0_size ?_
    refine pX0_size ?_
    refine ⟨fun q => ?_, fun q => ⟨in_nI (by omega) (by omega), ?_⟩⟩
    · intro a ha; subst ha; rw [nI_add1]
      rw [if_pos ((card_nI_le _ _).mp q)] at hq
      exact ih (k + 1) best kc ks (by omega) hb hq
    · intro a ha; subst ha; rw [nI_add1]
      rw [if_neg (fun z => q ((card_nI_le _ _).mpr z))] at hq
      exact ih (k + 1) k kc ks (by omega) (by omega) hq
theorem cBorder {Q : Int32 → Prop} {g : Nat → Int32} {gro : Int64} {grt y : Int32} (h : Q (if 0 ≤ y ∧ y ≤ 1 then bdP (hl (dugP g)) y else -1)) : wX0_border Q g gro grt y := by
  unfold wX0_border
  refine pX0_inI (lo := 0) (hi := 1) ⟨fun q => ?_, fun q => ?_⟩
  · rw [if_neg (b2_0 q)] at h; exact h
  · rw [if_pos (b2_1 q)] at h
    unfold bdP at h
    have hd := small_dugP g
    refine pX1_holes ?_
    have e0 : (0 : Int32).toNatClampNeg = 0 := rfl
    rw [e0]
    by_cases z : (hl (dugP g)).length = 0
    · rw [if_pos z] at h ⊢
      exact ⟨fun w => absurd w (by decide), fun _ => h⟩
    · rw [if_neg z] at h ⊢
      refine ⟨fun _ => ⟨in_nI (k := 0) (by omega) (by have := hl_18 hd; omega), ?_⟩, fun w => absurd rfl w⟩
      exact ⟨_, bd_42 (hl_18 hd) (fun x hx => isHole_ne (hl_isHole hd hx)) (fun k hk => by rw [over_at hk, getD_at hk]) ((hl (dugP g)).length - 1) 1 0 _ _ (by omega) (by omega) h⟩
theorem mb_24 {Q : Int32 → Int64 → Int64 → (Nat → Int64) → Int32 → Prop} {g : Nat → Int32} {d deep : Int64} {y : Int32} {L : List Int64} {f : Nat → Int64} (hL : L.length ≤ 18) (hne : ∀ x ∈ L, x ≠ 0) (hsm : ∀ x ∈ L, small x) (hpm : ∀ (k : Nat), k < L.length → f k = L.getD k 0) : ∀ n k best, k + n = L.length → best < L.length → Q (if y = 0 then nI (lsb (L.getD (bdF L n k best) 0)) else nI (fenN (L.getD (bdF L n k best) 0))) d deep f (nI L.length) → wX3_border_24 Q y g d deep f (nI L.length) (n + 1) (nI best) (nI k) := by
  intro n
  induction n with
  | zero =>
    intro k best hk hb hq
    unfold wX3_border_24
    unfold bdF at hq
    have e : k = L.length := by omega
    subst e
    refine ⟨fun _ => ⟨fun _ => ?_, fun h => absurd ((nI_leN (a := 0) (by decide) (by omega)).mpr (Nat.zero_le _)) h⟩, fun h => absurd (Int32.le_refl _) h⟩
    rw [clam_nI (by omega), hpm best hb]
    refine ⟨fun a => ⟨in_nI (by omega) (by decide), ?_⟩, fun a => ⟨in_nI (by omega) (by decide), ?_⟩⟩
    · rw [if_pos a] at hq
      exact pX3_least (hne _ (by rw [getD_at hb]; exact List.getElem_mem _)) hq
    · rw [if_neg a] at hq
      exact pX3_fenceOf (hsm _ (by rw [getD_at hb]; exact List.getElem_mem _)) hq
  | succ n ih =>
    intro k best hk hb hq
    unfold wX3_border_24
    unfold bdF at hq
    refine ⟨fun h => absurd ((nI_leN (by omega) (by omega)).mp h) (by omega), fun _ => ⟨fun h => absurd ((nI_ltN (b := 0) (by omega) (by decide)).mp h) (by omega), fun _ => ⟨in_nI (by omega) (by decide), ?_⟩⟩⟩
    rw [clam_nI (by omega), clam_nI (by omega), hpm best hb, hpm k (by omega)]
    refine pX3_ones ⟨in_nI (by omega) (by decide), ?_⟩
    refine pX3_ones ⟨fun q => ?_, fun q => ?_⟩
    · intro a ha; subst ha; rw [nI_add1]
      rw [if_pos ((card_nI_le _ _).mp q)] at hq
      exact ih (k + 1) best (by omega) hb hq
    · intro a ha; subst ha; rw [nI_add1]
      rw [if_neg (fun z => q ((card_nI_le _ _).mpr z))] at hq
      exact ih (k + 1) k (by omega) (by omega) hq
theorem mBorder {Q : Int32 → Int64 → Int64 → (Nat → Int64) → Int32 → Prop} {g : Nat → Int32} {dug deep : Int64} {y hm : Int32} {hs : Nat → Int64} (h : ∀ a b c d, Q (if 0 ≤ y ∧ y ≤ 1 then bdP (hl (dugP g)) y else -1) a b c d) : wX3_border Q g dug deep hs hm y := by
  unfold wX3_border
  refine pX3_inI (lo := 0) (hi := 1) ⟨fun q => ?_, fun q => ?_⟩
  · rw [if_neg (b2_0 q)] at h; exact h _ _ _ _
  · rw [if_pos (b2_1 q)] at h
    unfold bdP at h
    have hd := small_dugP g
    refine pX3_look ?_
    refine pX3_findHoles hd ?_
    have h18 := hl_18 hd
    by_cases z : (hl (dugP g)).length = 0
    · rw [if_pos z] at h
      refine ⟨1, ?_⟩
      unfold wX3_border_24
      refine ⟨fun _ => ⟨fun w => absurd w (by decide), fun _ => h _ _ _ _⟩, fun w => ?_⟩
      rw [z] at w; exact absurd (by decide) w
    · rw [if_neg z] at h
      have := mb_24 (Q := Q) (g := g) (d := dugP g) (deep := deepP g) h18 (fun x hx => isHole_ne (hl_isHole hd hx)) (fun x hx => isHole_small hd (hl_isHole hd hx)) (f := over (hl (dugP g)) hs) (fun k hk => by rw [over_at hk, getD_at hk]) ((hl (dugP g)).length - 1) 1 0 (by omega) (by omega) (h _ _ _ _)
      refine ⟨(hl (dugP g)).length - 1 + 1 + 1, ?_⟩
      unfold wX3_border_24
      refine ⟨fun w => ?_, fun _ => ⟨fun _ => ?_, fun w => absurd (by decide) w⟩⟩
      · exact absurd ((nI_leN (b := 0) (by omega) (by decide)).mp w) (by omega)
      · intro a ha; subst ha; exact this
theorem oBorder {P : Int32 → Int32 → Int64 → Int64 → (Nat → Int64) → Int32 → Prop} {g g' : Nat → Int32} {roofs dug deep : Int64} {rt y hm : Int32} {hs : Nat → Int64} (hg : agree 36 g g') (hp : ∀ v a b c d, P v v a b c d) : wX0_border (fun r => wX3_border (fun r' a b c d => P r r' a b c d) g' dug deep hs hm y) g roofs rt y :=
  cBorder (mBorder (fun a b c d => by rw [dugP_of hg]; exact hp _ _ _ _ _))
/-- cut -/
theorem fnd_skip {p : Nat → Bool} : ∀ m n k, (∀ j, k ≤ j → j < k + m → p j = false) → fnd p (m + n) k = fnd p n (k + m) := by
  intro m
  induction m with
  | zero => intro n k _; rw [Nat.zero_add, Nat.add_zero]
  | succ m ih =>
    intro n k h
    rw [show m + 1 + n = (m + n) + 1 by omega, fnd, h k (Nat.le_refl _) (by omega)]
    rw [if_neg (by decide), ih n (k + 1) (fun j h1 h2 => h j (by omega) (by omega))]
    rw [show k + 1 + m = k + (m + 1) by omega]
theorem fnd_none {p : Nat → Bool} : ∀ n k, (∀ j, k ≤ j → j < k + n → p j = false) → fnd p n k = none := by
  intro n
  induction n with
  | zero => intro k _; rfl
  | succ n ih =>
    intro k h
    rw [fnd, h k (Nat.le_refl _) (by omega), if_neg (by decide)]
    exact ih (k + 1) (fun j h1 h2 => h j (by omega) (by omega))
def cutQ (d h : Int64) (k c : Nat) : Bool := mem (rimP h) c && decide (lg h < lg (comp (bit k) (d ||| bit c)))
def cutA (o : Option Nat) : Int32 := match o with
  | some c => nI c
  | none => -4
theorem lg_nI {x y : Int64} (hx : small x) (hy : small y) : nI (lg x) ≤ nI (lg y) ↔ ¬ lg y < lg x := by
  have := lg_le hx; have := lg_le hy
  rw [nI_leN (by omega) (by omega)]; omega
theorem cut_30 {Q : Int32 → (Nat → Int32) → Int64 → Int32 → Prop} {g : Nat → Int32} {gro : Int64} {grt : Int32} (hg : okD g) {cell : Nat} (hc : cell < 36) (hm : mem (dugP g) cell = true) : ∀ n x k kc ks, card x ≤ n → small x → k ≤ 36 → (∀ i, mem x i = true ↔ mem (rimP (comp (bit cell) (dugP g))) i = true ∧ k ≤ i) → kc + card x ≤ 37 → ks + 2 * card x ≤ 74 →
    (∀ a b c, Q (cutA (fnd (cutQ (dugP g) (comp (bit cell) (dugP g)) cell) (36 - k) k)) a b c) → ∃ fu, ∀ tro trt td, wX0_cut_30 Q (nI cell) gro grt g (comp (bit cell) (dugP g)) fu x tro trt td kc ks := by
  have hd := small_dugP g
  intro n
  induction n with
  | zero =>
    intro x k kc ks hn hs hk hx hkc hks hq
    have : x = 0 := Classical.byContradiction (fun h => by have := card_drop h; omega)
    subst this
    refine ⟨1, fun tro trt td => ?_⟩
    unfold wX0_cut_30
    refine ⟨fun _ => ?_, fun h => absurd rfl h⟩
    rw [fnd_none] at hq
    · exact hq _ _ _
    · intro j h1 h2
      unfold cutQ
      cases z : mem (rimP (comp (bit cell) (dugP g))) j with
      | false => rfl
      | true => have := (hx j).mpr ⟨z, h1⟩; rw [mem_zero] at this; exact Bool.noConfusion this
  | succ n ih =>
    intro x k kc ks hn hs hk hx hkc hks hq
    by_cases h0 : x = 0
    · subst h0
      refine ⟨1, fun tro trt td => ?_⟩
      unfold wX0_cut_30
      refine ⟨fun _ => ?_, fun h => absurd rfl h⟩
      rw [fnd_none] at hq
      · exact hq _ _ _
      · intro j h1 h2
        unfold cutQ
        cases z : mem (rimP (comp (bit cell) (dugP g))) j with
        | false => rfl
        | true => have := (hx j).mpr ⟨z, h1⟩; rw [mem_zero] at this; exact Bool.noConfusion this
    · obtain ⟨h64, hk', hl⟩ := lsb_spec h0
      have h36 := lsb_small hs h0
      have hcd := card_drop h0
      have hr := (hx _).mp hk'
      have hskip : fnd (cutQ (dugP g) (comp (bit cell) (dugP g)) cell) (36 - k) k = fnd (cutQ (dugP g) (comp (bit cell) (dugP g)) cell) (36 - lsb x) (lsb x) := by
        have := fnd_skip (p := cutQ (dugP g) (comp (bit cell) (dugP g)) cell) (lsb x - k) (36 - lsb x) k (fun j h1 h2 => by
          unfold cutQ
          cases z : mem (rimP (comp (bit cell) (dugP g))) j with
          | false => rfl
          | true => have := (hx j).mpr ⟨z, h1⟩; rw [hl j (by omega)] at this; exact Bool.noConfusion this)
        rw [show lsb x - k + (36 - lsb x) = 36 - k by omega, show k + (lsb x - k) = lsb x by omega] at this
        exact this
      rw [hskip, show 36 - lsb x = (36 - (lsb x + 1)) + 1 by omega, fnd] at hq
      have hsm : small (dugP g ||| bit (lsb x)) := small_or hd (small_bit h36)
      have hcell : mem (dugP g ||| bit (lsb x)) cell = true := by rw [mem_or, hm]; rfl
      have next : (∀ a b c, Q (cutA (fnd (cutQ (dugP g) (comp (bit cell) (dugP g)) cell) (36 - (lsb x + 1)) (lsb x + 1))) a b c) → ∃ fu, ∀ tro trt td, wX0_cut_30 Q (nI cell) gro grt g (comp (bit cell) (dugP g)) fu (x &&& (x - 1)) tro trt td (kc + 1) (ks + 2) := by
        intro hq'
        refine ih (x &&& (x - 1)) (lsb x + 1) (kc + 1) (ks + 2) (by omega) (small_and_l hs) (by omega) ?_ (by omega) (by omega) hq'
        intro i
        rw [mem_drop hk' hl, Bool.and_eq_true, hx i, decide_eq_true_eq]
        constructor
        · rintro ⟨⟨a, b⟩, c⟩
          refine ⟨a, ?_⟩
          have : ¬ i < lsb x := fun z => by have := (hx i).mpr ⟨a, b⟩; rw [hl i z] at this; exact Bool.noConfusion this
          omega
        · rintro ⟨a, b⟩
          have := hr.2
          exact ⟨⟨a, by omega⟩, by omega⟩
      cases hp : cutQ (dugP g) (comp (bit cell) (dugP g)) cell (lsb x) with
      | true =>
        rw [hp] at hq
        refine ⟨1, fun tro trt td => ?_⟩
        unfold wX0_cut_30
        refine ⟨fun h => absurd h h0, fun _ => ?_⟩
        refine pX0_least h0 ?_
        rw [bit_nI h64]
        refine pX1_takes hg ?_
        intro d' hd'
        refine pX1_becomes (small_bit h36) (by decide) (by decide) ⟨by omega, by omega, ?_⟩
        have ed : dugP (bec d' (bit (lsb x)) 1) = dugP g ||| bit (lsb x) := by rw [dug_bec1 _ (small_bit h36) (by decide), dugP_of hd']
        refine pX1_hole (by omega) (fun z => ?_) (fun z => ?_)
        · rw [ed, hcell] at z; exact Bool.noConfusion z
        · rw [ed]
          refine pP_largest (comp_small hsm) ?_
          refine pP_largest (comp_small hd) ⟨fun q => ?_, fun q => hq _ _ _⟩
          rw [lg_nI (comp_small hsm) (comp_small hd)] at q
          unfold cutQ at hp
          rw [Bool.and_eq_true, decide_eq_true_eq] at hp
          exact absurd hp.2 q
      | false =>
        rw [hp] at hq
        obtain ⟨fu, hf⟩ := next (by simpa using hq)
        refine ⟨fu + 1, fun tro trt td => ?_⟩
        unfold wX0_cut_30
        refine ⟨fun h => absurd h h0, fun _ => ?_⟩
        refine pX0_least h0 ?_
        rw [bit_nI h64]
        refine pX1_takes hg ?_
        intro d' hd'
        refine pX1_becomes (small_bit h36) (by decide) (by decide) ⟨by omega, by omega, ?_⟩
        have ed : dugP (bec d' (bit (lsb x)) 1) = dugP g ||| bit (lsb x) := by rw [dug_bec1 _ (small_bit h36) (by decide), dugP_of hd']
        refine pX1_hole (by omega) (fun z => ?_) (fun z => ?_)
        · rw [ed, hcell] at z; exact Bool.noConfusion z
        · rw [ed]
          refine pP_largest (comp_small hsm) ?_
          refine pP_largest (comp_small hd) ⟨fun q => ?_, fun q => ?_⟩
          · intro a ha; subst ha; exact hf _ _ _
          · rw [lg_nI (comp_small hsm) (comp_small hd)] at q
            unfold cutQ at hp
            rw [hr.1, Bool.true_and, decide_eq_false_iff_not] at hp
            exact absurd hp q
def cutP (d : Int64) (k : Nat) : Int32 := cutA (fnd (cutQ d (comp (bit k) d) k) 36 0)
theorem cCut {Q : Int32 → (Nat → Int32) → Int64 → Int32 → Prop} {g : Nat → Int32} {gro : Int64} {grt x : Int32} (hg : okD g) {td : Nat → Int32} {tro : Int64} {trt : Int32} (h : ∀ a b c, Q (if isC x then (if mem (dugP g) x.toNatClampNeg = true then cutP (dugP g) x.toNatClampNeg else -2) else -1) a b c) : wX0_cut Q g gro grt td tro trt x := by
  unfold wX0_cut
  refine pX0_isCell ⟨fun q => ?_, fun q => ?_⟩
  · rw [if_neg (b2_0 q)] at h; exact h _ _ _
  · rw [if_pos (b2_1 q)] at h
    obtain ⟨k, hk, e⟩ := isC_ex (b2_1 q)
    subst e
    rw [clam_nI (by omega)] at h
    refine pX1_hole (by omega) (fun m => ?_) (fun m => ?_)
    · rw [if_neg (by rw [m]; decide)] at h; exact h _ _ _
    · rw [if_pos m] at h
      refine pP_rim ?_
      have hc := card_small (small_rim (comp (bit k) (dugP g)))
      obtain ⟨fu, hf⟩ := cut_30 (gro := gro) (grt := grt) hg hk m _ (rimP (comp (bit k) (dugP g))) 0 1 2 (Nat.le_refl _) (small_rim _) (by decide) (fun i => ⟨fun a => ⟨a, Nat.zero_le _⟩, fun a => a.1⟩) (by omega) (by omega) h
      exact ⟨fu, hf _ _ _⟩
theorem cut_same {d : Int64} (hd : small d) {k c : Nat} (hk : k < 36) (hm : mem d k = true) (hr : mem (rimP (comp (bit k) d)) c = true) : comp (bit c) (d ||| bit c) = comp (bit k) (d ||| bit c) := by
  unfold rimP at hr
  rw [mem_minus, Bool.and_eq_true] at hr
  obtain ⟨hc, j, ha, hj⟩ := (mem_bes (comp_small hd) c).mp hr.1
  have hsm : small (d ||| bit c) := small_or hd (small_bit hc)
  have mono : ∀ i, mem (comp (bit k) d) i = true → mem (comp (bit k) (d ||| bit c)) i = true := by
    intro i hi
    refine comp_ind hd (fun i => mem (comp (bit k) (d ||| bit c)) i = true) ?_ ?_ hi
    · intro i hi hdi; exact comp_base hi (by rw [mem_or, hdi]; rfl)
    · intro i j h _ ha hj; exact comp_step hsm h ha (by rw [mem_or, hj]; rfl)
  have := comp_step hsm (mono j hj) ha (by rw [mem_or, bit_self (by omega)]; simp)
  exact comp_same hsm (by omega) this
theorem mcut_49 {Q : Int32 → Int64 → Int64 → Prop} {g : Nat → Int32} {d deep : Int64} (hd : small d) {cell : Nat} (hc : cell < 36) (hm : mem d cell = true) : ∀ n k, k + n = 36 → Q (cutA (fnd (cutQ d (comp (bit cell) d) cell) n k)) d deep → wX3_cut_49 Q (rimP (comp (bit cell) d)) (nI (lg (comp (bit cell) d))) g d deep (n + 1) (nI k) := by
  intro n
  induction n with
  | zero =>
    intro k hk hq
    unfold wX3_cut_49
    have e : k = 36 := by omega
    subst e
    exact ⟨fun _ => hq, fun h => absurd (by decide) h⟩
  | succ n ih =>
    intro k hk hq
    unfold wX3_cut_49
    unfold fnd at hq
    refine ⟨fun h => absurd h (n36 (by omega)), fun _ => ?_⟩
    have hsm : small (d ||| bit k) := small_or hd (small_bit (by omega))
    refine pX3_has (by omega) ⟨fun q => ?_, fun q => ?_⟩
    · intro a ha; subst ha; rw [nI_add1]
      have : cutQ d (comp (bit cell) d) cell k = false := by
        unfold cutQ
        cases z : mem (rimP (comp (bit cell) d)) k with
        | false => rfl
        | true => exact absurd z (b2_0 q)
      rw [this] at hq
      exact ih (k + 1) (by omega) (by simpa using hq)
    · have q := b2_1 q
      rw [bit_nI (by omega)]
      refine pX3_grown ?_
      rw [cut_same hd hc hm q]
      refine pX3_largestOf (comp_small hsm) ⟨fun z => ?_, fun z => ?_⟩
      · intro a ha; subst ha; rw [nI_add1]
        rw [lg_nI (comp_small hsm) (comp_small hd)] at z
        have : cutQ d (comp (bit cell) d) cell k = false := by unfold cutQ; rw [q, decide_eq_false z]; rfl
        rw [this] at hq
        exact ih (k + 1) (by omega) (by simpa using hq)
      · rw [lg_nI (comp_small hsm) (comp_small hd)] at z
        have : cutQ d (comp (bit cell) d) cell k = true := by unfold cutQ; rw [q, decide_eq_true (Classical.not_not.mp z)]; rfl
        rw [this] at hq
        exact hq
theorem mCut {Q : Int32 → Int64 → Int64 → Prop} {g : Nat → Int32} {dug deep : Int64} {x : Int32} (h : ∀ a b, Q (if isC x then (if mem (dugP g) x.toNatClampNeg = true then cutP (dugP g) x.toNatClampNeg else -2) else -1) a b) : wX3_cut Q g dug deep x := by
  unfold wX3_cut
  refine pX3_isCell ⟨fun q => ?_, fun q => ?_⟩
  · rw [if_neg (b2_0 q)] at h; exact h _ _
  · rw [if_pos (b2_1 q)] at h
    obtain ⟨k, hk, e⟩ := isC_ex (b2_1 q)
    subst e
    rw [clam_nI (by omega)] at h
    have hd := small_dugP g
    refine pX3_look ?_
    refine pX3_has (by omega) ⟨fun m => ?_, fun m => ?_⟩
    · rw [if_neg (b2_0 m)] at h; exact h _ _
    · have m := b2_1 m
      rw [if_pos m] at h
      refine pX3_holeAt (by omega) ?_
      refine pX3_rimOf hd (comp_hole m) ?_
      refine pX3_largestOf (comp_small hd) ?_
      exact ⟨37, mcut_49 hd hk m 36 0 rfl (h _ _)⟩
theorem oCut {P : Int32 → (Nat → Int32) → Int64 → Int32 → Int32 → Int64 → Int64 → Prop} {g g' td : Nat → Int32} {roofs tro dug deep : Int64} {rt trt x : Int32} (hd : okD g) (hg : agree 36 g g') (hp : ∀ v t1 t2 t3 a b, P v t1 t2 t3 v a b) : wX0_cut (fun r t1 t2 t3 => wX3_cut (fun r' a b => P r t1 t2 t3 r' a b) g' dug deep x) g roofs rt td tro trt x :=
  cCut hd (fun _ _ _ => mCut (fun a b => by rw [dugP_of hg]; exact hp _ _ _ _ _ _))
