/-! PURE 0: bits of longs -/
theorem nI_add1 (k : Nat) : nI k + 1 = nI (k + 1) := by simp [nI, Int32.ofNat_add]
def mem (x : Int64) (i : Nat) : Bool := x.toBitVec.getLsbD i
theorem mem_ext {x y : Int64} (h : ∀ i, i < 64 → mem x i = mem y i) : x = y := by
  apply Int64.toBitVec_inj.mp
  exact BitVec.eq_of_getLsbD_eq (fun i hi => h i hi)
theorem mem_hi (x : Int64) {i : Nat} (h : 64 ≤ i) : mem x i = false := BitVec.getLsbD_of_ge _ _ h
theorem mem_zero (i : Nat) : mem 0 i = false := by simp [mem]
theorem mem_and (x y : Int64) (i : Nat) : mem (x &&& y) i = (mem x i && mem y i) := by simp [mem]
theorem mem_or (x y : Int64) (i : Nat) : mem (x ||| y) i = (mem x i || mem y i) := by simp [mem]
theorem mem_xor (x y : Int64) (i : Nat) : mem (x ^^^ y) i = (mem x i ^^ mem y i) := by simp [mem]
theorem mem_neg1 {i : Nat} (h : i < 64) : mem (-1) i = true := by
  have : (-1 : Int64).toBitVec = BitVec.allOnes 64 := by decide
  unfold mem; rw [this, BitVec.getLsbD_allOnes]; simpa using h
theorem mem_not (x : Int64) {i : Nat} (h : i < 64) : mem (x ^^^ (-1)) i = !(mem x i) := by rw [mem_xor, mem_neg1 h]; simp
theorem sh_lit (k : Nat) (h : k < 64) : ((Int64.ofNat k) : Int64).toBitVec.smod 64 = BitVec.ofNat 64 k := by
  have : ∀ k : Fin 64, ((Int64.ofNat k.val) : Int64).toBitVec.smod 64 = BitVec.ofNat 64 k.val := by decide +kernel
  exact this ⟨k, h⟩
theorem sh_nI (k : Nat) (h : k < 64) : ((nI k).toInt64 &&& 63) = Int64.ofNat k := by
  have : ∀ k : Fin 64, ((nI k.val).toInt64 &&& 63) = Int64.ofNat k.val := by decide +kernel
  exact this ⟨k, h⟩
theorem mem_shl (x : Int64) (k : Nat) (h : k < 64) (i : Nat) (hi : i < 64) : mem (x <<< Int64.ofNat k) i = (decide (k ≤ i) && mem x (i - k)) := by
  unfold mem
  rw [Int64.toBitVec_shiftLeft, sh_lit k h]
  rw [BitVec.shiftLeft_eq', BitVec.toNat_ofNat, Nat.mod_eq_of_lt (Nat.lt_trans h (by decide)), BitVec.getLsbD_shiftLeft]
  by_cases q : i < k
  · simp [q, Nat.not_le.mpr q]
  · simp [q, hi, Nat.not_lt.mp q]
theorem mem_shr (x : Int64) (k : Nat) (h : k < 64) (i : Nat) (hi : i < 64) : mem (x >>> Int64.ofNat k) i = if i + k < 64 then mem x (i + k) else mem x 63 := by
  unfold mem
  rw [Int64.toBitVec_shiftRight, sh_lit k h]
  rw [BitVec.sshiftRight_eq', BitVec.toNat_ofNat, Nat.mod_eq_of_lt (Nat.lt_trans h (by decide)), BitVec.getLsbD_sshiftRight]
  have : ¬ 64 ≤ i := Nat.not_le.mpr hi
  simp only [this, decide_false, Bool.not_false, Bool.true_and, Nat.add_comm k i]
  split
  · rfl
  · rfl

/-- one cell -/
def bit (k : Nat) : Int64 := 1 <<< Int64.ofNat k
theorem mem_one {i : Nat} : mem 1 i = decide (i = 0) := by
  unfold mem
  show (1#64).getLsbD i = _
  rw [BitVec.getLsbD_one]; simp
theorem mem_bit {k : Nat} (h : k < 64) (i : Nat) : mem (bit k) i = decide (i = k) := by
  by_cases hi : i < 64
  · unfold bit
    rw [mem_shl 1 k h i hi, mem_one]
    by_cases q : k ≤ i
    · simp [q]; omega
    · simp [q]; omega
  · rw [mem_hi _ (Nat.le_of_not_lt hi)]; simp; omega
theorem bit_nI {k : Nat} (h : k < 64) : (1 <<< ((nI k).toInt64 &&& 63) : Int64) = bit k := by rw [sh_nI k h]; rfl
/-- has -/
theorem has_iff {x : Int64} {k : Nat} (h : k < 64) : ((x >>> ((nI k).toInt64 &&& 63)) &&& 1) = 1 ↔ mem x k = true := by
  rw [sh_nI k h]
  constructor
  · intro q
    have := congrArg (fun z => mem z 0) q
    simp only [mem_and, mem_one] at this
    rw [mem_shr x k h 0 (by omega)] at this
    simpa [h] using this
  · intro q
    apply mem_ext
    intro i hi
    rw [mem_and, mem_one]
    by_cases z : i = 0
    · subst z; rw [mem_shr x k h 0 (by omega)]; simp [h, q]
    · simp [z]
theorem ne_zero_iff {x : Int64} : x ≠ 0 ↔ ∃ i, i < 64 ∧ mem x i = true := by
  constructor
  · intro h
    apply Classical.byContradiction
    intro q
    apply h
    apply mem_ext
    intro i hi
    rw [mem_zero]
    cases hm : mem x i with
    | false => rfl
    | true => exact absurd ⟨i, hi, hm⟩ q
  · rintro ⟨i, _, h⟩ q
    subst q; rw [mem_zero] at h; exact Bool.noConfusion h
/-- the least bit -/
theorem low_ex {x : Int64} (h : x ≠ 0) : ∃ k, k < 64 ∧ mem x k = true ∧ ∀ j, j < k → mem x j = false := by
  obtain ⟨i, hi, hm⟩ := ne_zero_iff.mp h
  have : ∀ n, ∀ i, i < n → i < 64 → mem x i = true → ∃ k, k < 64 ∧ mem x k = true ∧ ∀ j, j < k → mem x j = false := by
    intro n
    induction n with
    | zero => intro i hi; omega
    | succ n ih =>
      intro i hi h64 hm
      by_cases q : ∃ j, j < i ∧ mem x j = true
      · obtain ⟨j, hj, hmj⟩ := q
        exact ih j (by omega) (by omega) hmj
      · refine ⟨i, h64, hm, fun j hj => ?_⟩
        cases hmj : mem x j with
        | false => rfl
        | true => exact absurd ⟨j, hj, hmj⟩ q
  exact this (i + 1) i (by omega) hi hm
theorem mem_nat (x : Int64) (i : Nat) : mem x i = x.toBitVec.toNat.testBit i := rfl
/-- a number with its least bit -/
theorem low_split {n k : Nat} (h : n.testBit k = true) (hl : ∀ j, j < k → n.testBit j = false) : n = 2 ^ k * (2 * (n / 2 ^ (k + 1)) + 1) := by
  have h1 : n % 2 ^ k = 0 := by
    apply Nat.eq_of_testBit_eq
    intro j
    rw [Nat.testBit_mod_two_pow, Nat.zero_testBit]
    by_cases q : j < k
    · simp [hl j q]
    · simp [q]
  have h2 : (n / 2 ^ k) % 2 = 1 := by
    rw [Nat.testBit_eq_decide_div_mod_eq] at h
    simpa using h
  have h3 : n / 2 ^ (k + 1) = n / 2 ^ k / 2 := by rw [Nat.pow_succ, Nat.div_div_eq_div_mul]
  rw [h3]
  have h4 : 2 * (n / 2 ^ k / 2) + 1 = n / 2 ^ k := by omega
  rw [h4]
  have := Nat.div_add_mod n (2 ^ k)
  omega
theorem toNat_dec {x : Int64} (h : x ≠ 0) : (x - 1).toBitVec.toNat = x.toBitVec.toNat - 1 := by
  rw [Int64.toBitVec_sub]
  have hx : x.toBitVec.toNat ≠ 0 := fun q => h (Int64.toBitVec_inj.mp (BitVec.eq_of_toNat_eq q))
  rw [BitVec.toNat_sub]
  have := x.toBitVec.isLt
  show (2 ^ 64 - 1 + x.toBitVec.toNat) % 2 ^ 64 = _
  omega
theorem toNat_neg {x : Int64} (h : x ≠ 0) : (-x).toBitVec.toNat = 2 ^ 64 - x.toBitVec.toNat := by
  rw [Int64.toBitVec_neg]
  have hx : x.toBitVec.toNat ≠ 0 := fun q => h (Int64.toBitVec_inj.mp (BitVec.eq_of_toNat_eq q))
  rw [BitVec.toNat_neg]
  have := x.toBitVec.isLt
  omega
theorem mem_dec {x : Int64} {k : Nat} (hk : mem x k = true) (hl : ∀ j, j < k → mem x j = false) (i : Nat) : mem (x - 1) i = if i < k then true else if i = k then false else mem x i := by
  have h0 : x ≠ 0 := fun q => by subst q; rw [mem_zero] at hk; exact Bool.noConfusion hk
  rw [mem_nat, toNat_dec h0, mem_nat]
  have hs := low_split hk hl
  generalize hn : x.toBitVec.toNat = n at hs ⊢
  generalize n / 2 ^ (k + 1) = a at hs
  have hp : 0 < 2 ^ k := Nat.pow_pos (by decide)
  have e1 : n - 1 = 2 ^ k * (2 * a) + (2 ^ k - 1) := by
    rw [hs, Nat.mul_add]; omega
  have e2 : n = 2 ^ k * (2 * a + 1) + 0 := by rw [hs]; rfl
  rw [e1, Nat.testBit_two_pow_mul_add _ (by omega)]
  split
  · rename_i q; rw [Nat.testBit_two_pow_sub_one]; simpa using q
  · rename_i q
    split
    · rename_i z; subst z
      simp [Nat.testBit_zero]
    · rename_i z
      rw [e2, Nat.testBit_two_pow_mul_add _ hp, if_neg q]
      obtain ⟨j, rfl⟩ : ∃ j, i = k + 1 + j := ⟨i - k - 1, by omega⟩
      have : k + 1 + j - k = j + 1 := by omega
      rw [this, Nat.testBit_succ, Nat.testBit_succ]
      congr 1; omega
theorem mem_neg {x : Int64} {k : Nat} (hk : mem x k = true) (hl : ∀ j, j < k → mem x j = false) {i : Nat} (hi : i < 64) : mem (-x) i = if i < k then false else if i = k then true else !(mem x i) := by
  have h0 : x ≠ 0 := fun q => by subst q; rw [mem_zero] at hk; exact Bool.noConfusion hk
  have : -x = (x - 1) ^^^ (-1) := by
    apply Int64.toBitVec_inj.mp
    rw [Int64.toBitVec_neg, Int64.toBitVec_xor, Int64.toBitVec_sub]
    show -x.toBitVec = (x.toBitVec - 1#64) ^^^ BitVec.allOnes 64
    rw [BitVec.xor_allOnes, BitVec.not_eq_neg_add]
    generalize x.toBitVec = v
    bv_omega
  rw [this, mem_not _ hi, mem_dec hk hl]
  split
  · rfl
  · split
    · rfl
    · rfl

/-- the least cell alone, and a set without it -/
theorem mem_lowOf {x : Int64} {k : Nat} (hk : mem x k = true) (hl : ∀ j, j < k → mem x j = false) (i : Nat) : mem (x &&& -x) i = decide (i = k) := by
  by_cases hi : i < 64
  · rw [mem_and, mem_neg hk hl hi]
    by_cases q : i < k
    · simp [q]; omega
    · by_cases z : i = k
      · subst z; simp [hk]
      · simp [q, z]
  · rw [mem_hi _ (Nat.le_of_not_lt hi)]
    have : k < 64 := Nat.lt_of_not_le (fun q => by rw [mem_hi _ q] at hk; exact Bool.noConfusion hk)
    simp; omega
theorem mem_drop {x : Int64} {k : Nat} (hk : mem x k = true) (hl : ∀ j, j < k → mem x j = false) (i : Nat) : mem (x &&& (x - 1)) i = (mem x i && decide (i ≠ k)) := by
  rw [mem_and, mem_dec hk hl]
  by_cases q : i < k
  · simp [q, hl i q]
  · by_cases z : i = k
    · subst z; simp
    · simp [q, z]
theorem lowOf_bit {x : Int64} {k : Nat} (h : k < 64) (hk : mem x k = true) (hl : ∀ j, j < k → mem x j = false) : x &&& -x = bit k := mem_ext (fun i _ => by rw [mem_lowOf hk hl, mem_bit h])
/-- how many of the first n -/
def pop (x : Int64) : Nat → Nat
  | 0 => 0
  | n + 1 => pop x n + (mem x n).toNat
theorem pop_drop {x : Int64} {k : Nat} (hk : mem x k = true) (hl : ∀ j, j < k → mem x j = false) (n : Nat) : pop x n = pop (x &&& (x - 1)) n + if k < n then 1 else 0 := by
  induction n with
  | zero => simp [pop]
  | succ n ih =>
    unfold pop
    rw [ih, mem_drop hk hl]
    by_cases q : n = k
    · subst q; simp [hk]
    · have : (k < n + 1) = (k < n) := by simp; omega
      simp only [this, q, ne_eq, not_false_eq_true, decide_true, Bool.and_true]; omega
theorem pop_le (x : Int64) (n : Nat) : pop x n ≤ n := by
  induction n with
  | zero => simp [pop]
  | succ n ih => unfold pop; have : (mem x n).toNat ≤ 1 := Bool.toNat_le _; omega
theorem pop_zero (n : Nat) : pop 0 n = 0 := by
  induction n with
  | zero => rfl
  | succ n ih => unfold pop; rw [ih, mem_zero]; rfl
/-- no cell beyond the ground -/
def small (x : Int64) : Prop := ∀ i, 36 ≤ i → mem x i = false
theorem pop_small {x : Int64} (h : small x) : pop x 64 = pop x 36 := by
  have : ∀ n, 36 ≤ n → pop x n = pop x 36 := by
    intro n hn
    induction n with
    | zero => omega
    | succ n ih =>
      by_cases q : n + 1 = 36
      · rw [q]
      · unfold pop; rw [ih (by omega), h n (by omega)]; rfl
  exact this 64 (by decide)
/-- size, ones -/
def card (x : Int64) : Nat := pop x 64
theorem card_le (x : Int64) : card x ≤ 64 := pop_le x 64
theorem card_small {x : Int64} (h : small x) : card x ≤ 36 := by unfold card; rw [pop_small h]; exact pop_le x 36
theorem card_drop {x : Int64} (h : x ≠ 0) : card x = card (x &&& (x - 1)) + 1 := by
  obtain ⟨k, h64, hk, hl⟩ := low_ex h
  have := pop_drop hk hl 64
  simpa [card, h64] using this
theorem card_zero : card 0 = 0 := pop_zero 64
theorem pX0_size_4 {Q : Int32 → Prop} : ∀ (n : Nat) (x : Int64) (k : Nat), card x = n → Q (nI (k + card x)) → ∃ fu, wX0_size_4 Q fu (nI k) x := by
  intro n
  induction n with
  | zero =>
    intro x k hx hq
    refine ⟨1, ?_⟩
    have : x = 0 := Classical.byContradiction (fun h => by have := card_drop h; omega)
    subst this
    unfold wX0_size_4
    rw [card_zero] at hq
    exact ⟨fun _ => hq, fun h => absurd rfl h⟩
  | succ n ih =>
    intro x k hx hq
    have h0 : x ≠ 0 := fun q => by rw [q, card_zero] at hx; omega
    have hd := card_drop h0
    obtain ⟨fu, hfu⟩ := ih (x &&& (x - 1)) (k + 1) (by omega) (by rw [show k + 1 + card (x &&& (x - 1)) = k + card x by omega]; exact hq)
    refine ⟨fu + 1, ?_⟩
    unfold wX0_size_4
    refine ⟨fun h => absurd h h0, fun _ => ?_⟩
    intro a ha b hb
    subst ha hb
    rw [nI_add1]
    exact hfu
theorem pX0_size {Q : Int32 → Prop} {x : Int64} (h : Q (nI (card x))) : wX0_size Q x := by
  have := pX0_size_4 (Q := Q) _ x 0 rfl (by rw [Nat.zero_add]; exact h)
  exact this
theorem pX3_ones {Q : Int32 → Prop} {x : Int64} (h : Q (nI (card x))) : wX3_ones Q x := by
  have e : ∀ fu y k, wX0_size_4 Q fu k y → wX3_ones_4 Q fu k y := by
    intro fu
    induction fu with
    | zero => intro y k h; exact h
    | succ n ih =>
      intro y k h
      unfold wX0_size_4 at h
      unfold wX3_ones_4
      exact ⟨h.1, fun q a ha b hb => ih _ _ (h.2 q a ha b hb)⟩
  obtain ⟨fu, hfu⟩ := pX0_size_4 (Q := Q) _ x 0 rfl (by rw [Nat.zero_add]; exact h)
  exact ⟨fu, e _ _ _ hfu⟩
/-! PURE 1: has, in, isCell, least, beside, spread -/
def b2 (p : Prop) [Decidable p] : Int32 := if p then 1 else 0
theorem b2_t {p : Prop} [Decidable p] (h : p) : b2 p = 1 := if_pos h
theorem b2_f {p : Prop} [Decidable p] (h : ¬ p) : b2 p = 0 := if_neg h
theorem b2_bz (p : Prop) [Decidable p] : bz (b2 p) := by unfold b2; split; exact bz1; exact bz0
theorem b2_0 {p : Prop} [Decidable p] (h : b2 p = 0) : ¬ p := fun q => by rw [b2_t q] at h; exact absurd h (by decide)
theorem b2_1 {p : Prop} [Decidable p] (h : ¬ b2 p = 0) : p := Classical.byContradiction (fun q => h (b2_f q))
theorem pX0_in {Q : Int32 → Prop} {a b c : Int64} (h : Q (b2 (b ≤ a ∧ a ≤ c))) : wX0_in Q a b c := by
  unfold wX0_in
  refine ⟨fun q => ?_, fun q => ⟨fun r => ?_, fun r => ?_⟩⟩
  · rwa [b2_f (fun z => by have := z.1; exact absurd q (Int64.not_lt.mpr this))] at h
  · rwa [b2_f (fun z => by have := z.2; exact absurd r (Int64.not_lt.mpr this))] at h
  · rwa [b2_t ⟨Int64.not_lt.mp q, Int64.not_lt.mp r⟩] at h
theorem e_in : @wX3_in = @wX0_in := rfl
theorem pX3_in {Q : Int32 → Prop} {a b c : Int64} (h : Q (b2 (b ≤ a ∧ a ≤ c))) : wX3_in Q a b c := pX0_in h
/-- an int between two small ones -/
theorem in_int {x : Int32} {lo hi : Int32} : (lo.toInt64 ≤ x.toInt64 ∧ x.toInt64 ≤ hi.toInt64) ↔ (lo ≤ x ∧ x ≤ hi) := by
  simp only [Int64.le_iff_toInt_le, Int32.le_iff_toInt_le, Int32.toInt_toInt64]
theorem toInt_nI {k : Nat} (h : k < 2 ^ 31) : (nI k).toInt = k := by
  unfold nI
  rw [Int32.toInt_ofNat_of_lt h]
theorem clam_nI {k : Nat} (h : k < 2 ^ 31) : (nI k).toNatClampNeg = k := by
  unfold Int32.toNatClampNeg; rw [toInt_nI h]; rfl
theorem nI_inj {a b : Nat} (ha : a < 2 ^ 31) (hb : b < 2 ^ 31) : nI a = nI b ↔ a = b := by
  constructor
  · intro h
    have := congrArg Int32.toInt h
    rw [toInt_nI ha, toInt_nI hb] at this; omega
  · intro h; rw [h]
theorem nI_ltN {a b : Nat} (ha : a < 2 ^ 31) (hb : b < 2 ^ 31) : nI a < nI b ↔ a < b := by
  rw [Int32.lt_iff_toInt_lt, toInt_nI ha, toInt_nI hb]; omega
theorem nI_leN {a b : Nat} (ha : a < 2 ^ 31) (hb : b < 2 ^ 31) : nI a ≤ nI b ↔ a ≤ b := by
  rw [Int32.le_iff_toInt_le, toInt_nI ha, toInt_nI hb]; omega
theorem in_nI {k n : Nat} (hk : k < n) (hn : n ≤ 2 ^ 31) : vp_in (nI k) n := by
  unfold vp_in
  rw [clam_nI (by omega)]
  intro h
  rcases h with h | h
  · rw [Int32.lt_iff_toInt_lt, toInt_nI (by omega)] at h
    have : (0 : Int32).toInt = 0 := rfl
    omega
  · omega
/-- a cell -/
abbrev isC (x : Int32) : Prop := 0 ≤ x ∧ x ≤ 35
theorem nI_ofN {x : Int32} {n : Nat} (h0 : 0 ≤ x) (h : x ≤ nI n) (hn : n < 2 ^ 31) : ∃ k, k ≤ n ∧ x = nI k := by
  refine ⟨x.toInt.toNat, ?_, ?_⟩
  · rw [Int32.le_iff_toInt_le, toInt_nI hn] at h
    omega
  · rw [Int32.le_iff_toInt_le] at h0
    have z : (0 : Int32).toInt = 0 := rfl
    rw [z] at h0
    rw [Int32.le_iff_toInt_le, toInt_nI hn] at h
    apply Int32.toInt_inj.mp
    rw [toInt_nI (by omega)]
    omega
theorem isC_ex {x : Int32} (h : isC x) : ∃ k, k < 36 ∧ x = nI k := by
  obtain ⟨k, hk, e⟩ := nI_ofN (n := 35) h.1 h.2 (by decide)
  exact ⟨k, by omega, e⟩
theorem isC_nI {k : Nat} (h : k < 36) : isC (nI k) := ⟨(nI_leN (a := 0) (by decide) (by omega)).mpr (by omega), (nI_leN (b := 35) (by omega) (by decide)).mpr (by omega)⟩
theorem pX0_isCell {Q : Int32 → Prop} {x : Int32} (h : Q (b2 (isC x))) : wX0_isCell Q x := by
  unfold wX0_isCell
  refine pX0_in ⟨b2_bz _, ?_⟩
  have e : b2 ((0 : Int64) ≤ x.toInt64 ∧ x.toInt64 ≤ 35) = b2 (isC x) := by
    unfold b2
    have : ((0 : Int64) ≤ x.toInt64 ∧ x.toInt64 ≤ 35) ↔ isC x := in_int (lo := 0) (hi := 35)
    simp only [this]
  rw [e]; exact h
theorem pX3_isCell {Q : Int32 → Prop} {x : Int32} (h : Q (b2 (isC x))) : wX3_isCell Q x := pX0_isCell h
theorem pX0_has {Q : Int32 → Prop} {x : Int64} {k : Nat} (hk : k < 64) (h : Q (b2 (mem x k = true))) : wX0_has Q x (nI k) := by
  unfold wX0_has
  refine ⟨fun q => ?_, fun q => ?_⟩
  · rwa [b2_t ((has_iff hk).mp q)] at h
  · rwa [b2_f (fun z => q ((has_iff hk).mpr z))] at h
theorem pX3_has {Q : Int32 → Prop} {x : Int64} {k : Nat} (hk : k < 64) (h : Q (b2 (mem x k = true))) : wX3_has Q x (nI k) := pX0_has hk h
/-- the least cell -/
def lsb (x : Int64) : Nat := ((List.range 64).find? (fun i => mem x i)).getD 64
theorem lsb_is {x : Int64} {k : Nat} (h : k < 64) (hk : mem x k = true) (hl : ∀ j, j < k → mem x j = false) : lsb x = k := by
  unfold lsb
  have : (List.range 64).find? (fun i => mem x i) = some k := by
    rw [List.find?_range_eq_some]
    exact ⟨by simpa using hk, by simpa using h, fun j hj => by simp [hl j hj]⟩
  rw [this]; rfl
theorem lsb_spec {x : Int64} (h : x ≠ 0) : lsb x < 64 ∧ mem x (lsb x) = true ∧ ∀ j, j < lsb x → mem x j = false := by
  obtain ⟨k, h64, hk, hl⟩ := low_ex h
  rw [lsb_is h64 hk hl]; exact ⟨h64, hk, hl⟩
theorem lsb_small {x : Int64} (hs : small x) (h : x ≠ 0) : lsb x < 36 := by
  obtain ⟨_, hk, _⟩ := lsb_spec h
  exact Nat.lt_of_not_le (fun q => by rw [hs _ q] at hk; exact Bool.noConfusion hk)
theorem pX0_least_2 {Q : Int32 → Prop} {x : Int64} (h : x ≠ 0) (hq : Q (nI (lsb x))) : ∀ n k, k + n = lsb x → ∃ fu, wX0_least_2 Q x fu (nI k) := by
  obtain ⟨h64, hk, hl⟩ := lsb_spec h
  intro n
  induction n with
  | zero =>
    intro k e
    refine ⟨1, ?_⟩
    unfold wX0_least_2
    refine pX0_has (by omega) ⟨fun z => ?_, fun _ => ?_⟩
    · exact absurd (by rw [show k = lsb x by omega]; exact hk) (b2_0 z)
    · rw [show k = lsb x by omega]; exact hq
  | succ n ih =>
    intro k e
    obtain ⟨fu, hf⟩ := ih (k + 1) (by omega)
    refine ⟨fu + 1, ?_⟩
    unfold wX0_least_2
    refine pX0_has (by omega) ⟨fun z => ?_, fun z => ?_⟩
    · intro a ha; subst ha; rw [nI_add1]; exact hf
    · have := b2_1 z; rw [hl k (by omega)] at this; exact absurd this (by decide)
theorem pX0_least {Q : Int32 → Prop} {x : Int64} (h : x ≠ 0) (hq : Q (nI (lsb x))) : wX0_least Q x := pX0_least_2 h hq _ 0 (Nat.zero_add _)
theorem e_least_2 (Q : Int32 → Prop) (x : Int64) : ∀ fu k, wX3_least_2 Q x fu k = wX0_least_2 Q x fu k := by
  intro fu
  induction fu with
  | zero => intro k; rfl
  | succ n ih => intro k; unfold wX3_least_2 wX0_least_2; simp only [ih]; rfl
theorem pX3_least {Q : Int32 → Prop} {x : Int64} (h : x ≠ 0) (hq : Q (nI (lsb x))) : wX3_least Q x := by
  obtain ⟨fu, hf⟩ := pX0_least_2 h hq _ 0 (Nat.zero_add _)
  exact ⟨fu, by rw [e_least_2]; exact hf⟩
/-! PURE 2: beside, spread, grown -/
theorem sh1 : ((1 : Int32).toInt64 &&& 63) = Int64.ofNat 1 := by decide
theorem sh6 : ((6 : Int32).toInt64 &&& 63) = Int64.ofNat 6 := by decide
theorem mem_all (i : Nat) : mem 68719476735 i = decide (i < 36) := by
  by_cases h : i < 64
  · have : ∀ k : Fin 64, mem 68719476735 k.val = decide (k.val < 36) := by decide +kernel
    exact this ⟨i, h⟩
  · rw [mem_hi _ (by omega)]; simp; omega
theorem mem_last (i : Nat) : mem 34905131040 i = decide (i < 36 ∧ i % 6 = 5) := by
  by_cases h : i < 64
  · have : ∀ k : Fin 64, mem 34905131040 k.val = decide (k.val < 36 ∧ k.val % 6 = 5) := by decide +kernel
    exact this ⟨i, h⟩
  · rw [mem_hi _ (by omega)]; simp; omega
theorem mem_first (i : Nat) : mem 1090785345 i = decide (i < 36 ∧ i % 6 = 0) := by
  by_cases h : i < 64
  · have : ∀ k : Fin 64, mem 1090785345 k.val = decide (k.val < 36 ∧ k.val % 6 = 0) := by decide +kernel
    exact this ⟨i, h⟩
  · rw [mem_hi _ (by omega)]; simp; omega
/-- cells beside -/
def bes (x : Int64) : Int64 := ((((x <<< ((6 : Int32).toInt64 &&& 63)) ||| (x >>> ((6 : Int32).toInt64 &&& 63))) ||| ((x &&& (34905131040 ^^^ (-1))) <<< ((1 : Int32).toInt64 &&& 63))) ||| ((x &&& (1090785345 ^^^ (-1))) >>> ((1 : Int32).toInt64 &&& 63))) &&& 68719476735
def adj (i j : Nat) : Prop := j = i + 6 ∨ i = j + 6 ∨ (j = i + 1 ∧ j % 6 ≠ 0) ∨ (i = j + 1 ∧ i % 6 ≠ 0)
theorem adj_symm {i j : Nat} (h : adj i j) : adj j i := by unfold adj at *; omega
theorem mem_bes {x : Int64} (hs : small x) (j : Nat) : mem (bes x) j = true ↔ j < 36 ∧ ∃ i, adj i j ∧ mem x i = true := by
  unfold bes
  rw [mem_and, mem_all]
  by_cases hj : j < 36
  · simp only [hj, decide_true, Bool.and_true, true_and]
    rw [sh1, sh6, mem_or, mem_or, mem_or, mem_shl _ _ (by decide) _ (by omega), mem_shl _ _ (by decide) _ (by omega), mem_shr _ _ (by decide) _ (by omega), mem_shr _ _ (by decide) _ (by omega)]
    rw [if_pos (by omega), if_pos (by omega), mem_and, mem_and, mem_not _ (by omega), mem_not _ (by omega), mem_last, mem_first]
    simp only [Bool.or_eq_true, Bool.and_eq_true, decide_eq_true_eq, Bool.not_eq_true', decide_eq_false_iff_not]
    constructor
    · rintro (((⟨h1, h2⟩ | h) | ⟨h1, h2, h3⟩) | ⟨h1, h2⟩)
      · exact ⟨j - 6, Or.inl (by omega), h2⟩
      · exact ⟨j + 6, Or.inr (Or.inl rfl), h⟩
      · exact ⟨j - 1, Or.inr (Or.inr (Or.inl (by omega))), h2⟩
      · refine ⟨j + 1, Or.inr (Or.inr (Or.inr ⟨rfl, ?_⟩)), h1⟩
        intro q
        by_cases z : j + 1 < 36
        · exact h2 ⟨z, q⟩
        · rw [hs _ (by omega)] at h1; exact Bool.noConfusion h1
    · rintro ⟨i, h, hm⟩
      rcases h with h | h | ⟨h, h'⟩ | ⟨h, h'⟩
      · subst h; exact Or.inl (Or.inl (Or.inl ⟨by omega, by rw [show i + 6 - 6 = i by omega]; exact hm⟩))
      · subst h; exact Or.inl (Or.inl (Or.inr hm))
      · subst h; exact Or.inl (Or.inr ⟨by omega, by rw [show i + 1 - 1 = i by omega]; exact hm, by rw [show i + 1 - 1 = i by omega]; omega⟩)
      · subst h; exact Or.inr ⟨hm, fun q => h' q.2⟩
  · simp [hj]
theorem pX0_beside {Q : Int64 → Prop} {x : Int64} (h : Q (bes x)) : wX0_beside Q x := h
theorem pX3_beside {Q : Int64 → Prop} {x : Int64} (h : Q (bes x)) : wX3_beside Q x := by
  unfold wX3_beside
  intro a ha
  subst ha
  have e1 : (-1090785346 : Int64) = 1090785345 ^^^ (-1) := by decide
  have e2 : (-34905131041 : Int64) = 34905131040 ^^^ (-1) := by decide
  have : (((x &&& (-1090785346)) >>> ((1 : Int32).toInt64 &&& 63) ||| ((x &&& (-34905131041)) <<< ((1 : Int32).toInt64 &&& 63))) ||| (x >>> ((6 : Int32).toInt64 &&& 63)) ||| (x <<< ((6 : Int32).toInt64 &&& 63))) &&& 68719476735 = bes x := by
    rw [e1, e2]
    unfold bes
    apply mem_ext
    intro i hi
    simp only [mem_and, mem_or]
    congr 1
    generalize mem (x <<< ((6 : Int32).toInt64 &&& 63)) i = a
    generalize mem (x >>> ((6 : Int32).toInt64 &&& 63)) i = b
    generalize mem ((x &&& (34905131040 ^^^ (-1))) <<< ((1 : Int32).toInt64 &&& 63)) i = c
    generalize mem ((x &&& (1090785345 ^^^ (-1))) >>> ((1 : Int32).toInt64 &&& 63)) i = d
    cases a <;> cases b <;> cases c <;> cases d <;> rfl
  rw [this]
  exact h
theorem small_and_r {x y : Int64} (h : small y) : small (x &&& y) := fun i hi => by rw [mem_and, h i hi, Bool.and_false]
theorem small_and_l {x y : Int64} (h : small x) : small (x &&& y) := fun i hi => by rw [mem_and, h i hi, Bool.false_and]
theorem small_or {x y : Int64} (h : small x) (h' : small y) : small (x ||| y) := fun i hi => by rw [mem_or, h i hi, h' i hi]; rfl
theorem small_bes (x : Int64) : small (bes x) := fun i hi => by unfold bes; rw [mem_and, mem_all]; simp; omega
theorem small_zero : small 0 := fun i _ => mem_zero i
theorem small_bit {k : Nat} (h : k < 36) : small (bit k) := fun i hi => by rw [mem_bit (by omega)]; simp; omega
theorem small_all : small 68719476735 := fun i hi => by rw [mem_all]; simp; omega
/-- part of -/
def sub (x y : Int64) : Prop := ∀ i, mem x i = true → mem y i = true
theorem pop_mono {x y : Int64} (h : sub x y) (n : Nat) : pop x n ≤ pop y n := by
  induction n with
  | zero => exact Nat.le_refl _
  | succ n ih =>
    unfold pop
    have := h n
    cases hx : mem x n <;> cases hy : mem y n <;> simp_all <;> omega
theorem pop_lt {x y : Int64} (h : sub x y) {i : Nat} (hx : mem x i = false) (hy : mem y i = true) : ∀ n, i < n → pop x n < pop y n := by
  intro n
  induction n with
  | zero => intro q; omega
  | succ n ih =>
    intro q
    unfold pop
    by_cases z : i = n
    · subst z; rw [hx, hy]; have := pop_mono h i; simp; omega
    · have := ih (by omega)
      have := h n
      cases hx : mem x n <;> cases hy : mem y n <;> simp_all <;> omega
theorem card_lt {x y : Int64} (h : sub x y) (hne : x ≠ y) : card x < card y := by
  obtain ⟨i, hi, hx, hy⟩ : ∃ i, i < 64 ∧ mem x i = false ∧ mem y i = true := by
    apply Classical.byContradiction
    intro q
    apply hne
    apply mem_ext
    intro i hi
    cases hx : mem x i with
    | true => rw [h i hx]
    | false => cases hy : mem y i with
      | false => rfl
      | true => exact absurd ⟨i, hi, hx, hy⟩ q
  exact pop_lt h hx hy 64 hi
/-- one step -/
def stp (g x : Int64) : Int64 := x ||| (bes x &&& g)
def iter (g : Int64) : Nat → Int64 → Int64
  | 0, x => x
  | n + 1, x => iter g n (stp g x)
theorem iter_succ (g : Int64) (n : Nat) (x : Int64) : iter g (n + 1) x = stp g (iter g n x) := by
  induction n generalizing x with
  | zero => rfl
  | succ n ih => rw [iter, ih]; rfl
theorem sub_stp (g x : Int64) : sub x (stp g x) := fun i h => by unfold stp; rw [mem_or, h]; rfl
theorem iter_card (g x : Int64) (n : Nat) (h : stp g (iter g n x) ≠ iter g n x) : n < card (stp g (iter g n x)) := by
  induction n with
  | zero => have := card_lt (sub_stp g _) (fun q => h q.symm); omega
  | succ n ih =>
    have h' : stp g (iter g n x) ≠ iter g n x := fun q => h (by rw [iter_succ, q, q])
    have := ih h'
    rw [iter_succ] at h ⊢
    have := card_lt (sub_stp g _) (fun q => h q.symm)
    omega
def fix (g x : Int64) : Int64 := iter g 64 x
theorem stp_fix (g x : Int64) : stp g (fix g x) = fix g x := Classical.byContradiction (fun h => by
  have := iter_card g x 64 h
  have := card_le (stp g (iter g 64 x))
  omega)
theorem fix_stp (g x : Int64) : fix g (stp g x) = fix g x := by
  have : fix g (stp g x) = iter g 65 x := rfl
  rw [this, iter_succ]; exact stp_fix g x
theorem fix_of {g x : Int64} (h : stp g x = x) : fix g x = x := by
  have : ∀ n, iter g n x = x := by
    intro n
    induction n with
    | zero => rfl
    | succ n ih => rw [iter, h, ih]
  exact this 64
/-- what hangs together with some cells -/
def comp (s g : Int64) : Int64 := fix g (s &&& g)
theorem spread_8 {Q : Int64 → Prop} {g : Int64} : ∀ (n : Nat) (x y : Int64), 64 ≤ card x + n → (x = y → stp g x = x) → Q (fix g x) → ∃ fu, wX0_spread_8 Q g fu x y := by
  intro n
  induction n with
  | zero =>
    intro x y hc he hq
    have hf : stp g x = x := Classical.byContradiction (fun h => by
      have := card_lt (sub_stp g x) (fun q => h q.symm)
      have := card_le (stp g x)
      omega)
    refine ⟨2, ?_⟩
    unfold wX0_spread_8
    refine ⟨fun e => by rw [fix_of hf] at hq; exact hq, fun _ => ?_⟩
    refine pX0_beside ?_
    intro a ha
    have : a = x := by rw [ha]; exact hf
    rw [this]
    unfold wX0_spread_8
    exact ⟨fun _ => by rw [fix_of hf] at hq; exact hq, fun q => absurd rfl q⟩
  | succ n ih =>
    intro x y hc he hq
    by_cases e : x = y
    · refine ⟨1, ?_⟩
      unfold wX0_spread_8
      exact ⟨fun _ => by rw [fix_of (he e)] at hq; exact hq, fun q => absurd e q⟩
    · by_cases hf : stp g x = x
      · refine ⟨2, ?_⟩
        unfold wX0_spread_8
        refine ⟨fun z => absurd z e, fun _ => ?_⟩
        refine pX0_beside ?_
        intro a ha
        have : a = x := by rw [ha]; exact hf
        rw [this]
        unfold wX0_spread_8
        exact ⟨fun _ => by rw [fix_of hf] at hq; exact hq, fun q => absurd rfl q⟩
      · have := card_lt (sub_stp g x) (fun q => hf q.symm)
        obtain ⟨fu, h⟩ := ih (stp g x) x (by omega) (fun q => absurd q hf) (by rw [fix_stp]; exact hq)
        refine ⟨fu + 1, ?_⟩
        unfold wX0_spread_8
        refine ⟨fun z => absurd z e, fun _ => ?_⟩
        refine pX0_beside ?_
        intro a ha
        have : a = stp g x := ha
        rw [this]; exact h
theorem bes_zero : bes 0 = 0 := by decide
theorem pX0_spread {Q : Int64 → Prop} {s g : Int64} (h : Q (comp s g)) : wX0_spread Q s g := by
  unfold wX0_spread
  intro a ha
  subst ha
  refine spread_8 64 _ _ (by omega) (fun e => ?_) h
  rw [e]; unfold stp; rw [bes_zero]
  exact mem_ext (fun i _ => by simp [mem_or, mem_and, mem_zero])
theorem stp_in {g x : Int64} (h : sub x g) : (x ||| bes x) &&& g = stp g x := by
  apply mem_ext
  intro i _
  unfold stp
  simp only [mem_and, mem_or]
  have := h i
  cases hx : mem x i <;> cases hg : mem g i <;> cases hb : mem (bes x) i <;> simp_all
theorem sub_stp_g {g x : Int64} (h : sub x g) : sub (stp g x) g := by
  intro i hi
  unfold stp at hi
  simp only [mem_or, mem_and, Bool.or_eq_true, Bool.and_eq_true] at hi
  rcases hi with hi | hi
  · exact h i hi
  · exact hi.2
theorem grown_17 {Q : Int64 → Prop} {g : Int64} : ∀ (n : Nat) (x : Int64), sub x g → 64 ≤ card x + n → Q (fix g x) → ∃ fu, wX3_grown_17 Q g fu x (stp g x) := by
  intro n
  induction n with
  | zero =>
    intro x hs hc hq
    have hf : stp g x = x := Classical.byContradiction (fun h => by
      have := card_lt (sub_stp g x) (fun q => h q.symm)
      have := card_le (stp g x)
      omega)
    refine ⟨1, ?_⟩
    unfold wX3_grown_17
    exact ⟨fun _ => by rw [fix_of hf] at hq; exact hq, fun q => absurd hf q⟩
  | succ n ih =>
    intro x hs hc hq
    by_cases hf : stp g x = x
    · refine ⟨1, ?_⟩
      unfold wX3_grown_17
      exact ⟨fun _ => by rw [fix_of hf] at hq; exact hq, fun q => absurd hf q⟩
    · have := card_lt (sub_stp g x) (fun q => hf q.symm)
      obtain ⟨fu, h⟩ := ih (stp g x) (sub_stp_g hs) (by omega) (by rw [fix_stp]; exact hq)
      refine ⟨fu + 1, ?_⟩
      unfold wX3_grown_17
      refine ⟨fun z => absurd z hf, fun _ => ?_⟩
      refine pX3_beside ?_
      intro a ha
      rw [stp_in (sub_stp_g hs)] at ha
      rw [ha]; exact h
theorem sub_and_r (x y : Int64) : sub (x &&& y) y := fun i h => by rw [mem_and, Bool.and_eq_true] at h; exact h.2
theorem sub_and_l (x y : Int64) : sub (x &&& y) x := fun i h => by rw [mem_and, Bool.and_eq_true] at h; exact h.1
theorem pX3_grown {Q : Int64 → Prop} {s g : Int64} (h : Q (comp s g)) : wX3_grown Q s g := by
  unfold wX3_grown
  intro a ha
  subst ha
  refine pX3_beside ?_
  intro b hb
  rw [stp_in (sub_and_r s g)] at hb
  rw [hb]
  exact grown_17 64 _ (sub_and_r s g) (by omega) h
theorem pX3_holeAt {Q : Int64 → Prop} {d : Int64} {k : Nat} (hk : k < 64) (h : Q (comp (bit k) d)) : wX3_holeAt Q d (nI k) := by
  unfold wX3_holeAt
  rw [bit_nI hk]
  exact pX3_grown h
/-- the laws of what hangs together -/
theorem iter_ind {g : Int64} (hg : small g) (P : Nat → Prop) (hs : ∀ i j, P i → mem g i = true → adj i j → mem g j = true → P j) : ∀ n x, sub x g → (∀ i, mem x i = true → P i) → (∀ i, mem (iter g n x) i = true → P i ∧ mem g i = true) := by
  intro n
  induction n with
  | zero => intro x hx h i hi; exact ⟨h i hi, hx i hi⟩
  | succ n ih =>
    intro x hx h
    refine ih (stp g x) (sub_stp_g hx) ?_
    intro i hi
    unfold stp at hi
    simp only [mem_or, mem_and, Bool.or_eq_true, Bool.and_eq_true] at hi
    rcases hi with hi | ⟨hi, hgi⟩
    · exact h i hi
    · have hsx : small x := fun k hk => by
        cases hm : mem x k with
        | false => rfl
        | true => have := hx k hm; rw [hg k hk] at this; exact Bool.noConfusion this
      obtain ⟨_, k, ha, hk⟩ := (mem_bes hsx i).mp hi
      exact hs k i (h k hk) (hx k hk) ha hgi
theorem comp_ind {s g : Int64} (hg : small g) (P : Nat → Prop) (h0 : ∀ i, mem s i = true → mem g i = true → P i) (hs : ∀ i j, P i → mem g i = true → adj i j → mem g j = true → P j) {i : Nat} (h : mem (comp s g) i = true) : P i :=
  (iter_ind hg P hs 64 (s &&& g) (sub_and_r s g) (fun i hi => by rw [mem_and, Bool.and_eq_true] at hi; exact h0 i hi.1 hi.2) i h).1
theorem comp_sub {s g : Int64} : sub (comp s g) g := by
  have : ∀ n x, sub x g → sub (iter g n x) g := by
    intro n
    induction n with
    | zero => intro x h; exact h
    | succ n ih => intro x h; exact ih _ (sub_stp_g h)
  exact this 64 _ (sub_and_r s g)
theorem comp_base {s g : Int64} {i : Nat} (h : mem s i = true) (hg : mem g i = true) : mem (comp s g) i = true := by
  have : ∀ n x, sub x (iter g n x) := by
    intro n
    induction n with
    | zero => intro x i h; exact h
    | succ n ih => intro x i h; exact ih _ i (sub_stp g x i h)
  exact this 64 _ i (by rw [mem_and, h, hg]; rfl)
theorem small_sub {x y : Int64} (h : sub x y) (hy : small y) : small x := fun k hk => by
  cases hm : mem x k with
  | false => rfl
  | true => have := h k hm; rw [hy k hk] at this; exact Bool.noConfusion this
theorem comp_small {s g : Int64} (hg : small g) : small (comp s g) := small_sub comp_sub hg
theorem comp_step {s g : Int64} (hg : small g) {i j : Nat} (h : mem (comp s g) i = true) (ha : adj i j) (hj : mem g j = true) : mem (comp s g) j = true := by
  have e := stp_fix g (s &&& g)
  have : mem (stp g (comp s g)) j = true := by
    unfold stp
    have hb : mem (bes (comp s g)) j = true := (mem_bes (comp_small hg) j).mpr ⟨Nat.lt_of_not_le (fun q => by rw [hg _ q] at hj; exact Bool.noConfusion hj), i, ha, h⟩
    rw [mem_or, mem_and, hb, hj]; simp
  unfold comp at this ⊢
  rw [e] at this
  exact this
/-! PURE 3: what is dug, what is deep; holes one by one -/
def setOf (p : Nat → Bool) : Nat → Int64
  | 0 => 0
  | n + 1 => setOf p n ||| (if p n then bit n else 0)
theorem mem_setOf (p : Nat → Bool) : ∀ n, n ≤ 64 → ∀ i, mem (setOf p n) i = (decide (i < n) && p i) := by
  intro n
  induction n with
  | zero => intro _ i; simp [setOf, mem_zero]
  | succ n ih =>
    intro hn i
    unfold setOf
    rw [mem_or, ih (by omega)]
    by_cases q : i = n
    · subst q
      cases hp : p i
      · simp [mem_zero]
      · simp [mem_bit (show i < 64 by omega)]
    · have e : decide (i < n + 1) = decide (i < n) := by simp; omega
      rw [e]
      cases hp : p n
      · simp [mem_zero]
      · simp [mem_bit (show n < 64 by omega), q]
theorem small_setOf (p : Nat → Bool) : small (setOf p 36) := fun i hi => by rw [mem_setOf p 36 (by decide)]; simp; omega
def dugP (d : Nat → Int32) : Int64 := setOf (fun c => decide (¬ d c ≤ 0)) 36
def deepP (d : Nat → Int32) : Int64 := setOf (fun c => decide (d c = 9)) 36
theorem mem_dugP (d : Nat → Int32) (i : Nat) : mem (dugP d) i = true ↔ i < 36 ∧ ¬ d i ≤ 0 := by
  unfold dugP; rw [mem_setOf _ 36 (by decide)]; simp
theorem mem_deepP (d : Nat → Int32) (i : Nat) : mem (deepP d) i = true ↔ i < 36 ∧ d i = 9 := by
  unfold deepP; rw [mem_setOf _ 36 (by decide)]; simp
theorem small_dugP (d : Nat → Int32) : small (dugP d) := small_setOf _
theorem small_deepP (d : Nat → Int32) : small (deepP d) := small_setOf _
theorem or_zero (x : Int64) : x ||| 0 = x := mem_ext (fun i _ => by rw [mem_or, mem_zero, Bool.or_false])
theorem zero_or (x : Int64) : 0 ||| x = x := mem_ext (fun i _ => by rw [mem_or, mem_zero, Bool.false_or])
theorem le_nI {k : Nat} (h : k < 2 ^ 31) (n : Nat) (hn : n < 2 ^ 31) : nI n ≤ nI k ↔ n ≤ k := nI_leN hn h
theorem dug_4 {Q : Int64 → Prop} {d : Nat → Int32} (hq : Q (dugP d)) : ∀ n k, k + n = 36 → ∃ fu, wX1_dug_4 Q d fu (setOf (fun c => decide (¬ d c ≤ 0)) k) (nI k) := by
  intro n
  induction n with
  | zero =>
    intro k hk
    refine ⟨1, ?_⟩
    unfold wX1_dug_4
    have e : k = 36 := by omega
    subst e
    refine ⟨fun _ => hq, fun h => absurd (by decide) h⟩
  | succ n ih =>
    intro k hk
    obtain ⟨fu, hf⟩ := ih (k + 1) (by omega)
    refine ⟨fu + 1, ?_⟩
    unfold wX1_dug_4
    refine ⟨fun h => absurd ((nI_leN (a := 36) (by decide) (by omega)).mp h) (by omega), fun _ => ⟨in_nI (by omega) (by decide), ?_⟩⟩
    rw [clam_nI (by omega), bit_nI (by omega), nI_add1]
    unfold setOf at hf
    refine ⟨fun h => ?_, fun h => ?_⟩ <;> intro a ha b hb <;> subst ha hb <;> simpa [h] using hf
theorem pX1_dug {Q : Int64 → Prop} {d : Nat → Int32} (hq : Q (dugP d)) : wX1_dug Q d := dug_4 hq 36 0 rfl
theorem look_12 {Q : Int64 → Int64 → Prop} {d : Nat → Int32} (hq : Q (dugP d) (deepP d)) : ∀ n k, k + n = 36 → ∃ fu, wX3_look_12 Q d fu (nI k) (setOf (fun c => decide (¬ d c ≤ 0)) k) (setOf (fun c => decide (d c = 9)) k) := by
  intro n
  induction n with
  | zero =>
    intro k hk
    refine ⟨1, ?_⟩
    unfold wX3_look_12
    have e : k = 36 := by omega
    subst e
    refine ⟨fun _ => hq, fun h => absurd (by decide) h⟩
  | succ n ih =>
    intro k hk
    obtain ⟨fu, hf⟩ := ih (k + 1) (by omega)
    refine ⟨fu + 1, ?_⟩
    unfold wX3_look_12 wX3_look_39
    refine ⟨fun h => absurd ((nI_leN (a := 36) (by decide) (by omega)).mp h) (by omega), fun _ => ⟨in_nI (by omega) (by decide), ?_⟩⟩
    rw [clam_nI (by omega), bit_nI (by omega), nI_add1]
    unfold setOf at hf
    refine ⟨fun h => ?_, fun h => ?_⟩ <;> intro a ha <;> refine ⟨in_nI (by omega) (by decide), fun h' => ?_, fun h' => ?_⟩ <;> intro b hb c hc <;> subst ha hb hc
    · rw [h'] at h; exact absurd h (by decide)
    · simpa [h, h'] using hf
    · simpa [h, h'] using hf
    · simpa [h, h'] using hf
theorem pX3_look {Q : Int64 → Int64 → Prop} {d : Nat → Int32} {x y : Int64} (hq : Q (dugP d) (deepP d)) : wX3_look Q d x y := look_12 hq 36 0 rfl
/-- isDeep -/
theorem drop_small {x : Int64} (h : small x) : small (x &&& (x - 1)) := small_and_l h
theorem isDeep_5 {Q : Int32 → Prop} {d : Nat → Int32} : ∀ n x, small x → card x = n → Q (b2 (x &&& deepP d ≠ 0)) → ∃ fu, wX1_isDeep_5 Q d fu 0 x := by
  intro n
  induction n with
  | zero =>
    intro x hs hx hq
    refine ⟨1, ?_⟩
    have : x = 0 := Classical.byContradiction (fun h => by have := card_drop h; omega)
    subst this
    unfold wX1_isDeep_5
    rw [b2_f (by intro h; apply h; exact mem_ext (fun i _ => by simp [mem_and, mem_zero]))] at hq
    exact ⟨fun _ => ⟨bz0, hq⟩, fun h => absurd rfl h⟩
  | succ n ih =>
    intro x hs hx hq
    have h0 : x ≠ 0 := fun q => by rw [q, card_zero] at hx; omega
    have hd := card_drop h0
    obtain ⟨h64, hk, hl⟩ := lsb_spec h0
    have h36 := lsb_small hs h0
    by_cases h9 : d (lsb x) = 9
    · refine ⟨2, ?_⟩
      unfold wX1_isDeep_5
      refine ⟨fun h => absurd h h0, fun _ => ⟨fun _ => ?_, fun h => absurd rfl h⟩⟩
      refine pX0_least h0 ⟨in_nI h36 (by decide), ?_⟩
      rw [clam_nI (by omega)]
      refine ⟨fun _ => ?_, fun h => absurd h9 h⟩
      unfold wX1_isDeep_36
      intro a ha
      unfold wX1_isDeep_5
      have hq : Q 1 := by
        rw [b2_t] at hq
        · exact hq
        · exact ne_zero_iff.mpr ⟨lsb x, h64, by rw [mem_and, hk, (mem_deepP d _).mpr ⟨h36, h9⟩]; rfl⟩
      exact ⟨fun _ => ⟨bz1, hq⟩, fun _ => ⟨fun h => absurd h (by decide), fun _ => ⟨bz1, hq⟩⟩⟩
    · have e : (x &&& (x - 1)) &&& deepP d = x &&& deepP d := by
        apply mem_ext
        intro i hi
        rw [mem_and _ (deepP d), mem_and _ (deepP d), mem_drop hk hl]
        by_cases z : i = lsb x
        · subst z
          have : mem (deepP d) (lsb x) = false := by
            cases hm : mem (deepP d) (lsb x) with
            | false => rfl
            | true => exact absurd ((mem_deepP d _).mp hm).2 h9
          simp [this]
        · simp [z]
      obtain ⟨fu, hf⟩ := ih (x &&& (x - 1)) (drop_small hs) (by omega) (by rw [e]; exact hq)
      refine ⟨fu + 1, ?_⟩
      unfold wX1_isDeep_5
      refine ⟨fun h => absurd h h0, fun _ => ⟨fun _ => ?_, fun h => absurd rfl h⟩⟩
      refine pX0_least h0 ⟨in_nI h36 (by decide), ?_⟩
      rw [clam_nI (by omega)]
      refine ⟨fun h => absurd h h9, fun _ => ?_⟩
      unfold wX1_isDeep_36
      intro a ha
      subst ha
      exact hf
theorem pX1_isDeep {Q : Int32 → Prop} {d : Nat → Int32} {x : Int64} (hs : small x) (h : Q (b2 (x &&& deepP d ≠ 0))) : wX1_isDeep Q d x := isDeep_5 _ x hs rfl h
/-- the kind of a hole -/
abbrev passes' (x : Int64) : Prop := (x &&& 63 ≠ 0 ∧ x &&& 67645734912 ≠ 0) ∨ (x &&& 1090785345 ≠ 0 ∧ x &&& 34905131040 ≠ 0)
def kin (deep roofs x : Int64) : Nat := if x &&& (roofs ^^^ (-1)) = 0 then 7 else if passes' x then 9 else if x &&& 68208171135 ≠ 0 then 8 else if x &&& deep ≠ 0 then 6 else 5
theorem pX1_made {Q : Nat → Int64 → Int32 → Prop} {d : Nat → Int32} {roofs : Int64} {rate : Int32} {x : Int64} (hs : small x) (h : Q (kin (deepP d) roofs x) x rate) : wX1_made Q d roofs rate x := by
  unfold wX1_made wX1_made_48 wX1_made_81 wX1_made_68 wX7_init wX9_init wX8_init wX6_init wX5_init
  unfold kin at h
  refine ⟨fun q => ?_, fun q => ?_⟩
  · rw [if_pos q] at h; exact h
  · rw [if_neg q] at h
    have k81 : (x &&& 68208171135 = 0 → wX1_isDeep (fun r_106 => (r_106 = 0 → 0 + 1 ≤ 1 ∧ 0 + 2 ≤ 2 ∧ Q 5 x rate) ∧ (¬r_106 = 0 → 0 + 1 ≤ 1 ∧ 0 + 2 ≤ 2 ∧ Q 6 x rate)) d x) ∧ (¬x &&& 68208171135 = 0 → 0 + 1 ≤ 1 ∧ 0 + 2 ≤ 2 ∧ Q 8 x rate) ∨ passes' x := by
      by_cases p : passes' x
      · exact Or.inr p
      · left
        rw [if_neg p] at h
        refine ⟨fun e => ?_, fun e => ?_⟩
        · rw [if_neg (fun z => z e)] at h
          refine pX1_isDeep hs ⟨fun z => ?_, fun z => ?_⟩
          · rw [if_neg (b2_0 z)] at h; exact ⟨Nat.le_refl _, Nat.le_refl _, h⟩
          · rw [if_pos (b2_1 z)] at h; exact ⟨Nat.le_refl _, Nat.le_refl _, h⟩
        · rw [if_pos e] at h; exact ⟨Nat.le_refl _, Nat.le_refl _, h⟩
    have k68 : passes' x → 0 + 1 ≤ 1 ∧ 0 + 2 ≤ 2 ∧ Q 9 x rate := fun p => by
      rw [if_pos p] at h; exact ⟨Nat.le_refl _, Nat.le_refl _, h⟩
    have k48 : ¬ (x &&& 63 ≠ 0 ∧ x &&& 67645734912 ≠ 0) → (x &&& 1090785345 = 0 → _) ∧ (¬ x &&& 1090785345 = 0 → (x &&& 34905131040 = 0 → _) ∧ (¬ x &&& 34905131040 = 0 → 0 + 1 ≤ 1 ∧ 0 + 2 ≤ 2 ∧ Q 9 x rate)) := fun n =>
      ⟨fun a => k81.resolve_right (fun p => p.elim n (fun z => z.1 a)), fun a => ⟨fun b => k81.resolve_right (fun p => p.elim n (fun z => z.2 b)), fun b => k68 (Or.inr ⟨a, b⟩)⟩⟩
    exact ⟨fun a => k48 (fun z => z.1 a), fun a => ⟨fun b => k48 (fun z => z.2 b), fun b => k68 (Or.inl ⟨a, b⟩)⟩⟩
/-! PURE 4: the list of holes -/
theorem mem_minus (x h : Int64) (i : Nat) : mem (x &&& (h ^^^ (-1))) i = (mem x i && !(mem h i)) := by
  by_cases hi : i < 64
  · rw [mem_and, mem_not _ hi]
  · rw [mem_hi _ (by omega), mem_hi x (by omega)]; rfl
theorem small_minus {x h : Int64} (hx : small x) : small (x &&& (h ^^^ (-1))) := small_and_l hx
theorem comp_low {x : Int64} (h : x ≠ 0) : mem (comp (bit (lsb x)) x) (lsb x) = true := by
  obtain ⟨h64, hk, _⟩ := lsb_spec h
  exact comp_base (by rw [mem_bit h64]; simp) hk
theorem minus_card {x h : Int64} {k : Nat} (hx : mem x k = true) (hh : mem h k = true) : card (x &&& (h ^^^ (-1))) < card x := by
  refine card_lt (sub_and_l _ _) (fun q => ?_)
  have := congrArg (fun z => mem z k) q
  simp only [mem_minus, hx, hh] at this
  exact Bool.noConfusion this
theorem rest_card {x : Int64} (h : x ≠ 0) : card (x &&& (comp (bit (lsb x)) x ^^^ (-1))) < card x := minus_card (lsb_spec h).2.1 (comp_low h)
def hlF : Nat → Int64 → List Int64
  | 0, _ => []
  | n + 1, x => if x = 0 then [] else comp (bit (lsb x)) x :: hlF n (x &&& (comp (bit (lsb x)) x ^^^ (-1)))
theorem hlF_eq : ∀ n m x, card x ≤ n → card x ≤ m → hlF n x = hlF m x := by
  intro n
  induction n with
  | zero =>
    intro m x hn hm
    have : x = 0 := Classical.byContradiction (fun h => by have := card_drop h; omega)
    subst this
    cases m <;> simp [hlF]
  | succ n ih =>
    intro m x hn hm
    by_cases h0 : x = 0
    · subst h0; cases m <;> simp [hlF]
    · have := rest_card h0
      cases m with
      | zero => omega
      | succ m =>
        unfold hlF
        rw [if_neg h0, if_neg h0, ih m _ (by omega) (by omega)]
/-- all holes, by their least cells -/
def hl (x : Int64) : List Int64 := hlF 64 x
theorem hl_zero : hl 0 = [] := by unfold hl hlF; simp
theorem hl_cons {x : Int64} (h : x ≠ 0) : hl x = comp (bit (lsb x)) x :: hl (x &&& (comp (bit (lsb x)) x ^^^ (-1))) := by
  have := rest_card h
  have := card_le x
  unfold hl
  rw [show hlF 64 x = comp (bit (lsb x)) x :: hlF 63 (x &&& (comp (bit (lsb x)) x ^^^ (-1))) by rw [hlF, if_neg h]]
  rw [hlF_eq 63 64 _ (by omega) (by omega)]
/-- a part of the ground that nothing of the rest is beside -/
def sep (x d : Int64) : Prop := sub x d ∧ ∀ i j, mem x i = true → adj i j → mem d j = true → mem x j = true
theorem sep_refl (d : Int64) : sep d d := ⟨fun _ h => h, fun _ _ _ _ h => h⟩
theorem comp_sep {s d : Int64} (hd : small d) : sep (comp s d) d := ⟨comp_sub, fun _ _ h ha hj => comp_step hd h ha hj⟩
theorem sep_trans {x y d : Int64} (h : sep x y) (h' : sep y d) : sep x d := ⟨fun i hi => h'.1 i (h.1 i hi), fun i j hi ha hj => h.2 i j hi ha (h'.2 i j (h.1 i hi) ha hj)⟩
theorem sep_minus {x h d : Int64} (hx : sep x d) (hh : sep h d) : sep (x &&& (h ^^^ (-1))) d := by
  refine ⟨fun i hi => hx.1 i (sub_and_l _ _ i hi), fun i j hi ha hj => ?_⟩
  rw [mem_minus, Bool.and_eq_true, Bool.not_eq_true'] at hi ⊢
  refine ⟨hx.2 i j hi.1 ha hj, ?_⟩
  cases q : mem h j with
  | false => rfl
  | true =>
    have := hh.2 j i q (adj_symm ha) (hx.1 i hi.1)
    rw [this] at hi; exact absurd hi.2 (by decide)
theorem eq_of_sub {x y : Int64} (h : sub x y) (h' : sub y x) : x = y := mem_ext (fun i _ => by
  cases a : mem x i <;> cases b : mem y i
  · rfl
  · have := h' i b; rw [a] at this; exact this
  · have := h i a; rw [b] at this; exact this.symm
  · rfl)
/-- the hole of a cell is the same in a part that is closed -/
theorem comp_in {x d : Int64} (hd : small d) (hx : sep x d) {k : Nat} (hk : mem x k = true) : comp (bit k) x = comp (bit k) d := by
  have hk64 : k < 64 := Nat.lt_of_not_le (fun q => by rw [mem_hi _ q] at hk; exact Bool.noConfusion hk)
  have hsx : small x := small_sub hx.1 hd
  apply eq_of_sub
  · intro i hi
    refine comp_ind hsx (fun i => mem (comp (bit k) d) i = true) ?_ ?_ hi
    · intro i hi hxi; exact comp_base hi (hx.1 i hxi)
    · intro i j h hgi ha hj; exact comp_step hd h ha (hx.1 j hj)
  · intro i hi
    have := comp_ind hd (fun i => mem (comp (bit k) x) i = true ∧ mem x i = true) ?_ ?_ hi
    · exact this.1
    · intro i hi hdi
      rw [mem_bit hk64] at hi
      have e : i = k := by simpa using hi
      subst e
      exact ⟨comp_base (by rw [mem_bit hk64]; simp) hk, hk⟩
    · intro i j h hgi ha hj
      have := hx.2 i j h.2 ha hj
      exact ⟨comp_step hsx h.1 ha this, this⟩
theorem mem64 {x : Int64} {i : Nat} (h : mem x i = true) : i < 64 := Nat.lt_of_not_le (fun q => by rw [mem_hi _ q] at h; exact Bool.noConfusion h)
theorem mem36 {x : Int64} (hs : small x) {i : Nat} (h : mem x i = true) : i < 36 := Nat.lt_of_not_le (fun q => by rw [hs _ q] at h; exact Bool.noConfusion h)
theorem bit_one {k i : Nat} (hk : k < 64) (h : mem (bit k) i = true) : i = k := by rw [mem_bit hk] at h; simpa using h
theorem bit_self {k : Nat} (hk : k < 64) : mem (bit k) k = true := by rw [mem_bit hk]; simp
theorem comp_le {d : Int64} (hd : small d) {s : Int64} {j : Nat} (h : mem (comp s d) j = true) : sub (comp (bit j) d) (comp s d) := by
  intro i hi
  refine comp_ind hd (fun i => mem (comp s d) i = true) ?_ ?_ hi
  · intro i hi _; rw [bit_one (mem64 h) hi]; exact h
  · intro i j h _ ha hj; exact comp_step hd h ha hj
theorem comp_self {d : Int64} {k : Nat} (hk : mem d k = true) : mem (comp (bit k) d) k = true := comp_base (bit_self (mem64 hk)) hk
theorem comp_symm {d : Int64} (hd : small d) {k j : Nat} (hk : k < 64) (h : mem (comp (bit k) d) j = true) : mem (comp (bit j) d) k = true := by
  refine comp_ind hd (fun j => mem (comp (bit j) d) k = true) ?_ ?_ h
  · intro i hi hdi
    have := bit_one hk hi
    subst this
    exact comp_self hdi
  · intro i j h hi ha hj
    exact comp_le hd (comp_step hd (comp_self hj) (adj_symm ha) hi) k h
/-- the hole of any cell of a hole -/
theorem comp_same {d : Int64} (hd : small d) {k j : Nat} (hk : k < 64) (h : mem (comp (bit k) d) j = true) : comp (bit j) d = comp (bit k) d :=
  eq_of_sub (comp_le hd h) (comp_le hd (comp_symm hd hk h))
/-- a hole of a ground -/
def isHole (h d : Int64) : Prop := ∃ k, mem d k = true ∧ h = comp (bit k) d
theorem isHole_at {h d : Int64} (hd : small d) (H : isHole h d) {j : Nat} (hj : mem h j = true) : h = comp (bit j) d := by
  obtain ⟨k, hk, e⟩ := H
  subst e
  exact (comp_same hd (mem64 hk) hj).symm
theorem isHole_ne {h d : Int64} (H : isHole h d) : h ≠ 0 := by
  obtain ⟨k, hk, e⟩ := H
  subst e
  exact ne_zero_iff.mpr ⟨k, mem64 hk, comp_self hk⟩
theorem isHole_sep {h d : Int64} (hd : small d) (H : isHole h d) : sep h d := by
  obtain ⟨k, hk, e⟩ := H
  subst e
  exact comp_sep hd
theorem isHole_small {h d : Int64} (hd : small d) (H : isHole h d) : small h := small_sub (isHole_sep hd H).1 hd
/-- each of the list is a hole; each hole is of the list -/
theorem hl_holes {d : Int64} (hd : small d) : ∀ n x, card x ≤ n → sep x d → ∀ h ∈ hl x, isHole h d ∧ sub h x := by
  intro n
  induction n with
  | zero =>
    intro x hn _ h hh
    have : x = 0 := Classical.byContradiction (fun h => by have := card_drop h; omega)
    subst this; rw [hl_zero] at hh; exact absurd hh (by simp)
  | succ n ih =>
    intro x hn hx h hh
    by_cases h0 : x = 0
    · subst h0; rw [hl_zero] at hh; exact absurd hh (by simp)
    · rw [hl_cons h0] at hh
      have hk := (lsb_spec h0).2.1
      have e := comp_in hd hx hk
      rcases List.mem_cons.mp hh with q | q
      · subst q; exact ⟨⟨lsb x, hx.1 _ hk, e⟩, comp_sub⟩
      · have := rest_card h0
        have z := ih _ (by omega) (sep_minus hx (by rw [e]; exact comp_sep hd)) h q
        exact ⟨z.1, fun i hi => sub_and_l _ _ i (z.2 i hi)⟩
theorem hl_all {d : Int64} (hd : small d) : ∀ n x, card x ≤ n → sep x d → ∀ k, mem x k = true → comp (bit k) d ∈ hl x := by
  intro n
  induction n with
  | zero =>
    intro x hn _ k hk
    have : x = 0 := Classical.byContradiction (fun h => by have := card_drop h; omega)
    subst this; rw [mem_zero] at hk; exact Bool.noConfusion hk
  | succ n ih =>
    intro x hn hx k hk
    have h0 : x ≠ 0 := ne_zero_iff.mpr ⟨k, mem64 hk, hk⟩
    rw [hl_cons h0]
    have hl := (lsb_spec h0).2.1
    have e := comp_in hd hx hl
    have := rest_card h0
    cases q : mem (comp (bit (lsb x)) x) k with
    | true =>
      rw [e] at q
      rw [e, comp_same hd (mem64 hl) q]
      exact List.mem_cons_self
    | false =>
      refine List.mem_cons_of_mem _ (ih _ (by omega) (sep_minus hx (by rw [e]; exact comp_sep hd)) k ?_)
      rw [mem_minus, hk, q]; rfl
theorem hl_isHole {d : Int64} (hd : small d) {h : Int64} (hh : h ∈ hl d) : isHole h d := (hl_holes hd _ d (Nat.le_refl _) (sep_refl d) h hh).1
theorem hl_mem {d : Int64} (hd : small d) {h : Int64} (hh : isHole h d) : h ∈ hl d := by
  obtain ⟨k, hk, e⟩ := hh
  subst e
  exact hl_all hd _ d (Nat.le_refl _) (sep_refl d) k hk
/-- least cells go up, by dominoes -/
theorem hl_len {d : Int64} (hd : small d) : ∀ n x m, card x ≤ n → sep x d → m ≤ 18 → (∀ i, mem x i = true → m ≤ i / 2) → m + (hl x).length ≤ 18 := by
  intro n
  induction n with
  | zero =>
    intro x m hn _ hm _
    have : x = 0 := Classical.byContradiction (fun h => by have := card_drop h; omega)
    subst this; rw [hl_zero]; exact hm
  | succ n ih =>
    intro x m hn hx hm hlo
    by_cases h0 : x = 0
    · subst h0; rw [hl_zero]; exact hm
    · obtain ⟨h64, hk, hl'⟩ := lsb_spec h0
      have e := comp_in hd hx hk
      have := rest_card h0
      have h36 := lsb_small (small_sub hx.1 hd) h0
      rw [hl_cons h0]
      have hm' := hlo _ hk
      have := ih (x &&& (comp (bit (lsb x)) x ^^^ (-1))) (lsb x / 2 + 1) (by omega) (sep_minus hx (by rw [e]; exact comp_sep hd)) (by omega) (by
        intro i hi
        rw [mem_minus, Bool.and_eq_true, Bool.not_eq_true'] at hi
        have hge : lsb x ≤ i := Nat.le_of_not_lt (fun q => by have := hl' i q; rw [hi.1] at this; exact Bool.noConfusion this)
        apply Classical.byContradiction
        intro q
        have hc := comp_low h0
        have : i = lsb x ∨ i = lsb x + 1 ∧ i % 2 = 1 := by omega
        rcases this with z | z
        · subst z; rw [hc] at hi; exact absurd hi.2 (by decide)
        · have := comp_step (s := bit (lsb x)) (small_sub hx.1 hd) hc (j := i) (Or.inr (Or.inr (Or.inl ⟨z.1, by omega⟩))) hi.1
          rw [this] at hi; exact absurd hi.2 (by decide))
      rw [List.length_cons]
      omega
theorem hl_18 {d : Int64} (hd : small d) : (hl d).length ≤ 18 := by
  have := hl_len hd _ d 0 (Nat.le_refl _) (sep_refl d) (by decide) (fun _ _ => Nat.zero_le _)
  omega
/-! PURE 5: pieces, lists of holes on both sides, fences, taxes -/
theorem lowOf_lsb {x : Int64} (h : x ≠ 0) : x &&& -x = bit (lsb x) := by
  obtain ⟨h64, hk, hl⟩ := lsb_spec h
  exact lowOf_bit h64 hk hl
theorem pieces_4 {Q : Int32 → Prop} : ∀ n x k, card x ≤ n → Q (nI (k + (hl x).length)) → ∃ fu, wX0_pieces_4 Q fu (nI k) x := by
  intro n
  induction n with
  | zero =>
    intro x k hn hq
    refine ⟨1, ?_⟩
    have : x = 0 := Classical.byContradiction (fun h => by have := card_drop h; omega)
    subst this
    unfold wX0_pieces_4
    rw [hl_zero] at hq
    exact ⟨fun _ => hq, fun h => absurd rfl h⟩
  | succ n ih =>
    intro x k hn hq
    by_cases h0 : x = 0
    · refine ⟨1, ?_⟩
      subst h0
      unfold wX0_pieces_4
      rw [hl_zero] at hq
      exact ⟨fun _ => hq, fun h => absurd rfl h⟩
    · have := rest_card h0
      rw [hl_cons h0, List.length_cons] at hq
      obtain ⟨fu, hf⟩ := ih (x &&& (comp (bit (lsb x)) x ^^^ (-1))) (k + 1) (by omega) (by rw [show ∀ n, k + 1 + n = k + (n + 1) from fun n => by omega]; exact hq)
      refine ⟨fu + 1, ?_⟩
      unfold wX0_pieces_4
      refine ⟨fun h => absurd h h0, fun _ => ?_⟩
      rw [lowOf_lsb h0]
      refine pX0_spread ?_
      intro a ha b hb
      subst ha hb
      rw [nI_add1]
      exact hf
theorem pX0_pieces {Q : Int32 → Prop} {x : Int64} (h : Q (nI (hl x).length)) : wX0_pieces Q x := by
  obtain ⟨fu, hf⟩ := pieces_4 (Q := Q) _ x 0 (Nat.le_refl _) (by rw [Nat.zero_add]; exact h)
  exact ⟨fu, hf⟩
/-- a row with a list laid over its head -/
def over {α : Type} (L : List α) (f : Nat → α) : Nat → α := fun k => L.getD k (f k)
theorem over_nil {α : Type} (f : Nat → α) : over [] f = f := by funext k; simp [over]
theorem over_up {α : Type} (L : List α) (f : Nat → α) (x : α) : (fun j => if j = L.length then x else over L f j) = over (L ++ [x]) f := by
  funext j
  unfold over
  by_cases h : j < L.length
  · rw [if_neg (by omega)]; simp [List.getD_eq_getElem?_getD, List.getElem?_append_left h]
  · by_cases e : j = L.length
    · subst e; simp
    · rw [if_neg e]
      simp only [List.getD_eq_getElem?_getD]
      rw [List.getElem?_eq_none (by omega), List.getElem?_eq_none (by simp; omega)]
theorem over_at {α : Type} {L : List α} {f : Nat → α} {k : Nat} (h : k < L.length) : over L f k = L[k] := by
  unfold over; rw [List.getD_eq_getElem?_getD, List.getElem?_eq_getElem h]; rfl
theorem over_mid {α : Type} (L : List α) (x : α) (M : List α) (f : Nat → α) : over (L ++ x :: M) f L.length = x := by
  rw [over_at (by simp)]; simp
theorem findHoles_10 {Q : (Nat → Int64) → Int32 → Prop} {d : Int64} (hd : small d) {f : Nat → Int64} : ∀ n x L, card x ≤ n → sep x d → L ++ hl x = hl d → Q (over (hl d) f) (nI (hl d).length) → ∃ fu, wX3_findHoles_10 Q d fu x (over L f) (nI L.length) := by
  intro n
  induction n with
  | zero =>
    intro x L hn hx hL hq
    refine ⟨1, ?_⟩
    have : x = 0 := Classical.byContradiction (fun h => by have := card_drop h; omega)
    subst this
    unfold wX3_findHoles_10
    rw [hl_zero, List.append_nil] at hL
    rw [hL]
    exact ⟨fun _ => hq, fun h => absurd rfl h⟩
  | succ n ih =>
    intro x L hn hx hL hq
    by_cases h0 : x = 0
    · refine ⟨1, ?_⟩
      subst h0
      unfold wX3_findHoles_10
      rw [hl_zero, List.append_nil] at hL
      rw [hL]
      exact ⟨fun _ => hq, fun h => absurd rfl h⟩
    · have hc := rest_card h0
      have hlen := hl_18 hd
      have hk := (lsb_spec h0).2.1
      have e := comp_in hd hx hk
      rw [hl_cons h0] at hL
      have hl' : L.length < 18 := by rw [← hL] at hlen; simp at hlen; omega
      obtain ⟨fu, hf⟩ := ih (x &&& (comp (bit (lsb x)) x ^^^ (-1))) (L ++ [comp (bit (lsb x)) x]) (by omega) (sep_minus hx (by rw [e]; exact comp_sep hd)) (by rw [← hL]; simp) hq
      refine ⟨fu + 1, ?_⟩
      unfold wX3_findHoles_10
      refine ⟨fun h => absurd h h0, fun _ => ?_⟩
      refine pX3_least h0 ?_
      refine pX3_holeAt (lsb_spec h0).1 ?_
      refine ⟨in_nI (by omega) (by decide), ?_⟩
      rw [clam_nI (by omega)]
      intro a ha b hb
      subst hb
      have e1 : nI L.length + 1 - 1 = nI L.length := by rw [Int32.add_sub_cancel]
      rw [e1, clam_nI (by omega)]
      refine ⟨in_nI (by omega) (by decide), ?_⟩
      intro c hc'
      have ea : a = over (L ++ [comp (bit (lsb x)) x]) f := by
        rw [ha, ← over_up, e]; rfl
      subst ea
      rw [over_mid] at hc'
      subst hc'
      rw [nI_add1]
      simpa using hf
theorem pX3_findHoles {Q : (Nat → Int64) → Int32 → Prop} {d : Int64} (hd : small d) {f : Nat → Int64} {k : Int32} (h : Q (over (hl d) f) (nI (hl d).length)) : wX3_findHoles Q d f k := by
  unfold wX3_findHoles
  have := findHoles_10 hd (f := f) _ d [] (Nat.le_refl _) (sep_refl d) rfl h
  rw [over_nil] at this
  exact this
theorem holes_13 {Q : Nat → (Nat → Nat) → (Nat → Int64) → Prop} {d : Nat → Int32} {roofs : Int64} {rate : Int32} : ∀ n x L, card x ≤ n → sep x (dugP d) → L ++ hl x = hl (dugP d) → Q (hl (dugP d)).length (over ((hl (dugP d)).map (kin (deepP d) roofs)) (fun _ => 0)) (over (hl (dugP d)) (fun _ => 0)) → ∃ fu, wX1_holes_13 Q d roofs rate fu x L.length (over (L.map (kin (deepP d) roofs)) (fun _ => 0)) (over L (fun _ => 0)) := by
  have hd := small_dugP d
  intro n
  induction n with
  | zero =>
    intro x L hn hx hL hq
    refine ⟨1, ?_⟩
    have : x = 0 := Classical.byContradiction (fun h => by have := card_drop h; omega)
    subst this
    unfold wX1_holes_13
    rw [hl_zero, List.append_nil] at hL
    rw [hL]
    exact ⟨fun _ => hq, fun h => absurd rfl h⟩
  | succ n ih =>
    intro x L hn hx hL hq
    by_cases h0 : x = 0
    · refine ⟨1, ?_⟩
      subst h0
      unfold wX1_holes_13
      rw [hl_zero, List.append_nil] at hL
      rw [hL]
      exact ⟨fun _ => hq, fun h => absurd rfl h⟩
    · have hc := rest_card h0
      have hlen := hl_18 hd
      have hk := (lsb_spec h0).2.1
      have e := comp_in hd hx hk
      rw [hl_cons h0] at hL
      have hl' : L.length < 18 := by rw [← hL] at hlen; simp at hlen; omega
      obtain ⟨fu, hf⟩ := ih (x &&& (comp (bit (lsb x)) x ^^^ (-1))) (L ++ [comp (bit (lsb x)) x]) (by omega) (sep_minus hx (by rw [e]; exact comp_sep hd)) (by rw [← hL]; simp) hq
      refine ⟨fu + 1, ?_⟩
      unfold wX1_holes_13
      refine ⟨fun h => absurd h h0, fun _ => ⟨hl', ?_⟩⟩
      rw [lowOf_lsb h0]
      refine pX0_spread ?_
      refine pX1_made (comp_small (small_sub hx.1 hd)) ⟨rfl, ?_⟩
      have e1 : va_up (over L (fun _ => 0)) L.length (comp (bit (lsb x)) x) = over (L ++ [comp (bit (lsb x)) x]) (fun _ => 0) := by
        rw [← over_up]; rfl
      have e2 : va_up (over (L.map (kin (deepP d) roofs)) (fun _ => 0)) L.length (kin (deepP d) roofs (comp (bit (lsb x)) x)) = over ((L ++ [comp (bit (lsb x)) x]).map (kin (deepP d) roofs)) (fun _ => 0) := by
        rw [List.map_append]
        rw [show List.map (kin (deepP d) roofs) [comp (bit (lsb x)) x] = [kin (deepP d) roofs (comp (bit (lsb x)) x)] from rfl]
        rw [← over_up, List.length_map]; rfl
      rw [e1, e2]
      simpa using hf
theorem pX1_holes {Q : Nat → (Nat → Nat) → (Nat → Int64) → Prop} {d : Nat → Int32} {roofs : Int64} {rate : Int32} (h : Q (hl (dugP d)).length (over ((hl (dugP d)).map (kin (deepP d) roofs)) (fun _ => 0)) (over (hl (dugP d)) (fun _ => 0))) : wX1_holes Q d roofs rate := by
  unfold wX1_holes
  refine pX1_dug ?_
  have := holes_13 (rate := rate) _ (dugP d) [] (Nat.le_refl _) (sep_refl _) rfl h
  simpa [over_nil] using this
/-- kinds -/
def kinI (k : Nat) : Int32 := if k = 7 then 4 else if k = 9 then 3 else if k = 8 then 1 else if k = 6 then 2 else 0
theorem edge_of {x : Int64} (p : passes' x) : x &&& 68208171135 ≠ 0 := by
  have sub1 : ∀ (c : Int64), (∀ i : Fin 64, mem c i.val = true → mem 68208171135 i.val = true) → x &&& c ≠ 0 → x &&& 68208171135 ≠ 0 := by
    intro c hc h
    obtain ⟨i, hi, hm⟩ := ne_zero_iff.mp h
    rw [mem_and, Bool.and_eq_true] at hm
    exact ne_zero_iff.mpr ⟨i, hi, by rw [mem_and, hm.1, hc ⟨i, hi⟩ hm.2]; rfl⟩
  rcases p with p | p
  · exact sub1 63 (by decide +kernel) p.1
  · exact sub1 1090785345 (by decide +kernel) p.1
theorem pX3_kindOf {Q : Int32 → Prop} {deep roofs x : Int64} (h : Q (kinI (kin deep roofs x))) : wX3_kindOf Q roofs deep x := by
  unfold kin at h
  have k61 : ∀ z, (passes' x ↔ ¬ z = 0) → wX3_kindOf_45 Q x z roofs deep := by
    intro z hz
    unfold wX3_kindOf_45 wX3_edge wX3_kindOf_61 wX3_kindOf_110
    by_cases r : x &&& (roofs ^^^ (-1)) = 0
    · rw [if_pos r] at h
      exact ⟨fun _ => ⟨fun _ => h, fun q => absurd r q⟩, fun _ => ⟨fun _ => h, fun q => absurd r q⟩⟩
    · rw [if_neg r] at h
      by_cases p : passes' x
      · rw [if_pos p] at h
        exact ⟨fun _ => ⟨fun q => absurd q r, fun _ => ⟨fun q => absurd q (hz.mp p), fun _ => h⟩⟩, fun _ => ⟨fun q => absurd q r, fun _ => ⟨fun q => absurd q (hz.mp p), fun _ => h⟩⟩⟩
      · rw [if_neg p] at h
        have hz0 : z = 0 := Classical.byContradiction (fun q => p (hz.mpr q))
        refine ⟨fun e => ⟨fun q => absurd q r, fun _ => ⟨fun _ => ?_, fun q => absurd hz0 q⟩⟩, fun e => ⟨fun q => absurd q r, fun _ => ⟨fun _ => ?_, fun q => absurd hz0 q⟩⟩⟩
        · rw [if_neg (fun q => q e)] at h
          refine ⟨fun _ => ⟨fun q => ?_, fun q => ?_⟩, fun q => absurd rfl q⟩
          · rw [if_neg (fun z => z q)] at h; exact ⟨fun _ => h, fun q => absurd rfl q⟩
          · rw [if_pos q] at h; exact h
        · rw [if_pos e] at h
          exact ⟨fun q => absurd q (by decide), fun _ => ⟨fun q => absurd q (by decide), fun _ => h⟩⟩
  unfold wX3_kindOf wX3_kindOf_20
  have n0 : ¬ passes' x → (passes' x ↔ ¬ (0 : Int32) = 0) := fun n => ⟨fun p => absurd p n, fun q => absurd rfl q⟩
  have n1 : passes' x → (passes' x ↔ ¬ (1 : Int32) = 0) := fun p => ⟨fun _ => by decide, fun _ => p⟩
  have k20 : ¬ (x &&& 1090785345 ≠ 0 ∧ x &&& 34905131040 ≠ 0) → ((x &&& 63 = 0 → wX3_kindOf_45 Q x 0 roofs deep) ∧ (¬ x &&& 63 = 0 → (x &&& 67645734912 = 0 → wX3_kindOf_45 Q x 0 roofs deep) ∧ (¬ x &&& 67645734912 = 0 → wX3_kindOf_45 Q x 1 roofs deep))) := fun n =>
    ⟨fun a => k61 0 (n0 (fun p => p.elim (fun z => z.1 a) n)), fun a => ⟨fun b => k61 0 (n0 (fun p => p.elim (fun z => z.2 b) n)), fun b => k61 1 (n1 (Or.inl ⟨a, b⟩))⟩⟩
  exact ⟨fun a => k20 (fun z => z.1 a), fun a => ⟨fun b => k20 (fun z => z.2 b), fun b => k61 1 (n1 (Or.inr ⟨a, b⟩))⟩⟩
/-! PURE 6: fences, taxes -/
theorem pop_and_minus (x y : Int64) (n : Nat) : pop (x &&& (y ^^^ (-1))) n + pop (x &&& y) n = pop x n := by
  induction n with
  | zero => rfl
  | succ n ih =>
    unfold pop
    rw [mem_minus, mem_and]
    cases mem x n <;> cases mem y n <;> simp only [Bool.and_true, Bool.and_false, Bool.not_true, Bool.not_false, Bool.toNat_true, Bool.toNat_false] <;> omega
theorem card_minus (x y : Int64) : card (x &&& (y ^^^ (-1))) + card (x &&& y) = card x := pop_and_minus x y 64
theorem pop_shl {x : Int64} {k : Nat} (h : k < 64) : ∀ n, n + k ≤ 64 → pop (x <<< Int64.ofNat k) (n + k) = pop x n := by
  have h0 : ∀ n, n ≤ k → pop (x <<< Int64.ofNat k) n = 0 := by
    intro n
    induction n with
    | zero => intro _; rfl
    | succ n ih =>
      intro q
      unfold pop
      rw [ih (by omega), mem_shl _ _ h _ (by omega)]
      simp; omega
  intro n
  induction n with
  | zero => intro _; rw [Nat.zero_add, h0 k (Nat.le_refl _)]; rfl
  | succ n ih =>
    intro q
    rw [show n + 1 + k = n + k + 1 by omega]
    unfold pop
    rw [ih (by omega), mem_shl _ _ h _ (by omega)]
    simp
theorem card_shl {x : Int64} (hs : small x) {k : Nat} (h : k ≤ 28) : card (x <<< Int64.ofNat k) = card x := by
  have : pop x 64 = pop x (64 - k) := by
    have : ∀ n, 36 ≤ n → pop x n = pop x 36 := by
      intro n hn
      induction n with
      | zero => omega
      | succ n ih =>
        by_cases q : n + 1 = 36
        · rw [q]
        · unfold pop; rw [ih (by omega), hs n (by omega)]; rfl
    rw [this 64 (by decide), this (64 - k) (by omega)]
  unfold card
  rw [this, ← pop_shl (x := x) (k := k) (by omega) (64 - k) (by omega)]
  rw [show 64 - k + k = 64 by omega]
/-- the fence of a hole -/
def fenN (x : Int64) : Nat := card (x &&& ((x <<< ((6 : Int32).toInt64 &&& 63)) ^^^ (-1))) + card (x &&& ((x >>> ((6 : Int32).toInt64 &&& 63)) ^^^ (-1))) + card (x &&& (((x &&& (34905131040 ^^^ (-1))) <<< ((1 : Int32).toInt64 &&& 63)) ^^^ (-1))) + card (x &&& (((x &&& (1090785345 ^^^ (-1))) >>> ((1 : Int32).toInt64 &&& 63)) ^^^ (-1)))
theorem nI_addN (a b : Nat) : nI a + nI b = nI (a + b) := by simp [nI, Int32.ofNat_add]
theorem nI_mulN (a b : Nat) : nI a * nI b = nI (a * b) := by simp [nI, Int32.ofNat_mul]
theorem nI_subN {a b : Nat} (h : b ≤ a) : nI a - nI b = nI (a - b) := by
  obtain ⟨c, rfl⟩ : ∃ c, a = b + c := ⟨a - b, by omega⟩
  rw [← nI_addN, Nat.add_sub_cancel_left, Int32.add_comm, Int32.add_sub_cancel]
theorem pX5_fence {Q : Int32 → Prop} {x : Int64} (h : Q (nI (fenN x))) : wX5_fence Q x := by
  unfold wX5_fence
  refine pX0_size ?_
  intro a ha
  refine pX0_size ?_
  intro b hb
  refine pX0_size ?_
  intro c hc
  refine pX0_size ?_
  intro e he
  subst ha hb hc he
  have : (0 : Int32) = nI 0 := rfl
  rw [this, nI_addN, nI_addN, nI_addN, nI_addN, Nat.zero_add]
  exact h
theorem shv {x : Int64} (hs : small x) : (x &&& (x >>> Int64.ofNat 6)) <<< Int64.ofNat 6 = x &&& (x <<< Int64.ofNat 6) := by
  apply mem_ext
  intro i hi
  rw [mem_shl _ _ (by decide) _ hi, mem_and, mem_and, mem_shl _ _ (by decide) _ hi]
  by_cases q : 6 ≤ i
  · rw [mem_shr _ _ (by decide) _ (by omega), if_pos (by omega), show i - 6 + 6 = i by omega]
    simp [q, Bool.and_comm]
  · simp [q]
theorem shh {x : Int64} (hs : small x) : (x &&& ((x &&& (1090785345 ^^^ (-1))) >>> Int64.ofNat 1)) <<< Int64.ofNat 1 = x &&& ((x &&& (34905131040 ^^^ (-1))) <<< Int64.ofNat 1) := by
  apply mem_ext
  intro i hi
  rw [mem_shl _ _ (by decide) _ hi, mem_and, mem_and, mem_shl _ _ (by decide) _ hi]
  by_cases q : 1 ≤ i
  · rw [mem_shr _ _ (by decide) _ (by omega), if_pos (by omega), show i - 1 + 1 = i by omega, mem_minus, mem_minus, mem_first, mem_last]
    by_cases z : i < 36
    · have : decide (i < 36 ∧ i % 6 = 0) = decide (i - 1 < 36 ∧ (i - 1) % 6 = 5) := decide_eq_decide.mpr (by omega)
      rw [this]
      simp only [q, decide_true, Bool.true_and]
      cases mem x i <;> cases mem x (i - 1) <;> rfl
    · rw [hs i (by omega)]; simp
  · simp [q]
theorem fen_eq {x : Int64} (hs : small x) : fenN x + 2 * (card (x &&& ((x &&& (1090785345 ^^^ (-1))) >>> Int64.ofNat 1)) + card (x &&& (x >>> Int64.ofNat 6))) = 4 * card x := by
  unfold fenN
  rw [sh1, sh6]
  have e1 := card_minus x (x <<< Int64.ofNat 6)
  have e2 := card_minus x (x >>> Int64.ofNat 6)
  have e3 := card_minus x ((x &&& (34905131040 ^^^ (-1))) <<< Int64.ofNat 1)
  have e4 := card_minus x ((x &&& (1090785345 ^^^ (-1))) >>> Int64.ofNat 1)
  have f1 : card (x &&& (x <<< Int64.ofNat 6)) = card (x &&& (x >>> Int64.ofNat 6)) := by rw [← shv hs, card_shl (small_and_l hs) (by decide)]
  have f2 : card (x &&& ((x &&& (34905131040 ^^^ (-1))) <<< Int64.ofNat 1)) = card (x &&& ((x &&& (1090785345 ^^^ (-1))) >>> Int64.ofNat 1)) := by rw [← shh hs, card_shl (small_and_l hs) (by decide)]
  omega
theorem pX3_fenceOf {Q : Int32 → Prop} {x : Int64} (hs : small x) (h : Q (nI (fenN x))) : wX3_fenceOf Q x := by
  unfold wX3_fenceOf
  have e1 : (-1090785346 : Int64) = 1090785345 ^^^ (-1) := by decide
  rw [e1, sh1, sh6]
  refine pX3_ones ?_
  refine pX3_ones ?_
  intro a ha
  refine pX3_ones ?_
  subst ha
  have e := fen_eq hs
  rw [nI_addN, show (4 : Int32) = nI 4 from rfl, show (2 : Int32) = nI 2 from rfl, nI_mulN, nI_mulN, nI_subN (by omega)]
  rw [show 4 * card x - 2 * (card (x &&& (x &&& (1090785345 ^^^ -1)) >>> Int64.ofNat 1) + card (x &&& x >>> Int64.ofNat 6)) = fenN x by omega]
  exact h
/-- taxes -/
def pit (n : Nat) (rate : Int32) : Int32 := rate * (if n < 3 then nI n else nI (2 * n - 3))
def taxK (k : Nat) (x : Int64) (rate : Int32) : Int32 :=
  if k = 7 then (if 0 < pit (card x) rate + 10 - 3 * nI (card x) then pit (card x) rate + 10 - 3 * nI (card x) else 0)
  else if k = 9 then pit (card x) rate / 2 + nI (fenN x) else if k = 8 then pit (card x) rate / 2 else if k = 6 then pit (card x) rate + 10 else pit (card x) rate
theorem pit_eq {n : Nat} (h : n ≤ 64) (rate : Int32) : rate * ((if 3 < nI n then 3 else nI n) + (2 * (if 0 < (nI n - 3) then (nI n - 3) else 0))) = pit n rate := by
  have : ∀ k : Fin 65, ((if 3 < nI k.val then 3 else nI k.val) + (2 * (if 0 < (nI k.val - 3) then (nI k.val - 3) else 0)) : Int32) = (if k.val < 3 then nI k.val else nI (2 * k.val - 3)) := by decide +kernel
  unfold pit
  rw [← this ⟨n, by omega⟩]
theorem pX5_tax {Q : Int32 → Prop} {x : Int64} {rate : Int32} (h : Q (pit (card x) rate)) : wX5_tax Q x rate := by
  unfold wX5_tax
  refine pX0_size ?_
  rw [pit_eq (card_le x)]
  exact h
theorem kin_or (deep roofs x : Int64) : kin deep roofs x = 7 ∨ kin deep roofs x = 9 ∨ kin deep roofs x = 8 ∨ kin deep roofs x = 6 ∨ kin deep roofs x = 5 := by
  unfold kin; repeat' split
  all_goals simp
theorem pP_tax {Q : Int32 → Prop} {k : Nat} {x : Int64} {rate : Int32} (h : Q (taxK k x rate)) : wP_tax Q k x rate := by
  unfold wP_tax
  unfold taxK at h
  refine ⟨fun e => ?_, fun e => ?_, fun e => ?_, fun e => ?_, fun e => ?_⟩ <;> subst e
  · rw [if_neg (by decide), if_neg (by decide), if_neg (by decide), if_neg (by decide)] at h
    exact pX5_tax h
  · rw [if_neg (by decide), if_neg (by decide), if_neg (by decide), if_pos rfl] at h
    unfold wX6_tax
    exact pX5_tax h
  · rw [if_pos rfl] at h
    unfold wX7_tax wX6_tax
    refine pX5_tax ?_
    exact pX0_size h
  · rw [if_neg (by decide), if_neg (by decide), if_pos rfl] at h
    unfold wX8_tax
    exact pX5_tax h
  · rw [if_neg (by decide), if_pos rfl] at h
    unfold wX9_tax wX8_tax
    refine pX5_tax ?_
    exact pX5_fence h
theorem pP_kind {Q : Int32 → Prop} {k : Nat} {x : Int64} {rate : Int32} (h : Q (kinI k)) : wP_kind Q k x rate := by
  unfold wP_kind
  refine ⟨fun e => ?_, fun e => ?_, fun e => ?_, fun e => ?_, fun e => ?_⟩ <;> subst e <;> exact h
theorem mod_eq {n : Nat} (h : n ≤ 64) (rate : Int32) : (3 ≤ nI n → rate * ((2 * nI n) - 3) = pit n rate) ∧ (¬ 3 ≤ nI n → rate * nI n = pit n rate) := by
  have : ∀ k : Fin 65, (3 ≤ nI k.val → (2 * nI k.val) - 3 = (if k.val < 3 then nI k.val else nI (2 * k.val - 3))) ∧ (¬ 3 ≤ nI k.val → nI k.val = (if k.val < 3 then nI k.val else nI (2 * k.val - 3))) := by decide +kernel
  have := this ⟨n, by omega⟩
  unfold pit
  exact ⟨fun q => by rw [this.1 q], fun q => by rw [← this.2 q]⟩
theorem pX3_taxOf {Q : Int32 → Prop} {roofs deep x : Int64} {rate : Int32} (hs : small x) (h : Q (taxK (kin deep roofs x) x rate)) : wX3_taxOf Q roofs rate deep x := by
  unfold wX3_taxOf
  refine pX3_ones ?_
  have k23 : ∀ z0, rate * z0 = pit (card x) rate → wX3_taxOf_23 Q x (nI (card x)) z0 rate roofs rate deep := by
    intro z0 e
    unfold wX3_taxOf_23
    intro a ha
    rw [e] at ha
    subst ha
    refine pX3_kindOf ?_
    intro b hb
    subst hb
    rcases kin_or deep roofs x with k | k | k | k | k <;> rw [k] at h ⊢
    · refine ⟨fun q => absurd q (by decide), fun _ => ⟨fun q => absurd q (by decide), fun _ => ⟨fun q => absurd q (by decide), fun _ => ⟨fun q => absurd q (by decide), fun _ => ⟨fun q => ?_, fun q => ?_⟩⟩⟩⟩⟩
      · unfold taxK at h
        rw [if_pos rfl] at h
        by_cases z : 0 < pit (card x) rate + 10 - 3 * nI (card x)
        · rw [if_pos z] at h; exact h
        · rw [if_neg z] at h
          have : pit (card x) rate + 10 - 3 * nI (card x) = 0 := Int32.le_antisymm (Int32.not_lt.mp z) q
          rw [this]; exact h
      · unfold taxK at h
        rw [if_pos rfl, if_neg (fun z => q (Int32.le_of_lt z))] at h
        exact h
    · exact ⟨fun q => absurd q (by decide), fun _ => ⟨fun q => absurd q (by decide), fun _ => ⟨fun q => absurd q (by decide), fun _ => ⟨fun _ => pX3_fenceOf hs h, fun q => absurd rfl q⟩⟩⟩⟩
    · exact ⟨fun q => absurd q (by decide), fun _ => ⟨fun _ => h, fun q => absurd rfl q⟩⟩
    · exact ⟨fun q => absurd q (by decide), fun _ => ⟨fun q => absurd q (by decide), fun _ => ⟨fun _ => h, fun q => absurd rfl q⟩⟩⟩
    · exact ⟨fun _ => h, fun q => absurd rfl q⟩
  have e := mod_eq (card_le x) rate
  exact ⟨fun q => k23 _ (e.1 q), fun q => k23 _ (e.2 q)⟩
/-- the tax of all -/
def taxL (deep roofs : Int64) (rate : Int32) (L : List Int64) : Int32 := L.foldl (fun s x => s + taxK (kin deep roofs x) x rate) 0
def taxAll (dug deep roofs : Int64) (rate : Int32) : Int32 := taxL deep roofs rate (hl dug)
theorem tax_9 {Q : Int32 → Prop} {deep roofs : Int64} {rate : Int32} {L : List Int64} {pk : Nat → Nat} {pm : Nat → Int64} (hL : L.length ≤ 18) (hpk : ∀ (k : Nat) (h : k < L.length), pk k = kin deep roofs L[k]) (hpm : ∀ (k : Nat) (h : k < L.length), pm k = L[k]) : ∀ M k s, L.drop k = M → k ≤ L.length → Q (M.foldl (fun s x => s + taxK (kin deep roofs x) x rate) s) → ∃ fu, wX1_tax_9 Q rate L.length pk pm fu s (nI k) := by
  intro M
  induction M with
  | nil =>
    intro k s hM hk hq
    refine ⟨1, ?_⟩
    have : L.length ≤ k := by simpa using hM
    have e : k = L.length := by omega
    subst e
    unfold wX1_tax_9
    exact ⟨fun _ => hq, fun h => absurd (Int32.le_refl _) h⟩
  | cons x M ih =>
    intro k s hM hk hq
    have hlt : k < L.length := by
      apply Nat.lt_of_not_le
      intro q
      rw [List.drop_eq_nil_of_le q] at hM
      exact absurd hM (by simp)
    have hx : L[k] = x ∧ L.drop (k + 1) = M := by
      rw [List.drop_eq_getElem_cons hlt] at hM
      injection hM with h1 h2
      exact ⟨h1, h2⟩
    obtain ⟨fu, hf⟩ := ih (k + 1) (s + taxK (kin deep roofs x) x rate) hx.2 (by omega) hq
    refine ⟨fu + 1, ?_⟩
    unfold wX1_tax_9
    refine ⟨fun h => absurd ((nI_leN (by omega) (by omega)).mp h) (by omega), fun _ => ⟨in_nI hlt (by omega), ?_⟩⟩
    rw [clam_nI (by omega), hpk k hlt, hpm k hlt, hx.1, nI_add1]
    exact pP_tax hf
theorem pX1_tax {Q : Int32 → Prop} {d : Nat → Int32} {roofs : Int64} {rate : Int32} (h : Q (taxAll (dugP d) (deepP d) roofs rate)) : wX1_tax Q d roofs rate := by
  unfold wX1_tax
  refine pX1_holes ?_
  exact tax_9 (hl_18 (small_dugP d)) (fun k h => by rw [over_at (by simpa using h)]; simp) (fun k h => over_at h) _ 0 0 rfl (Nat.zero_le _) h
theorem taxOfAll_8 {Q : Int32 → (Nat → Int64) → Int32 → Prop} {dug deep roofs : Int64} {rate : Int32} {L : List Int64} {f : Nat → Int64} (hL : L.length ≤ 18) (hs : ∀ x ∈ L, small x) (hf : ∀ (k : Nat) (h : k < L.length), f k = L[k]) : ∀ M k s, L.drop k = M → k ≤ L.length → Q (M.foldl (fun s x => s + taxK (kin deep roofs x) x rate) s) f (nI L.length) → ∃ fu, wX3_taxOfAll_8 Q roofs rate dug deep f (nI L.length) fu s (nI k) := by
  intro M
  induction M with
  | nil =>
    intro k s hM hk hq
    refine ⟨1, ?_⟩
    have : L.length ≤ k := by simpa using hM
    have e : k = L.length := by omega
    subst e
    unfold wX3_taxOfAll_8
    exact ⟨fun _ => hq, fun h => absurd (Int32.le_refl _) h⟩
  | cons x M ih =>
    intro k s hM hk hq
    have hlt : k < L.length := by
      apply Nat.lt_of_not_le
      intro q
      rw [List.drop_eq_nil_of_le q] at hM
      exact absurd hM (by simp)
    have hx : L[k] = x ∧ L.drop (k + 1) = M := by
      rw [List.drop_eq_getElem_cons hlt] at hM
      injection hM with h1 h2
      exact ⟨h1, h2⟩
    obtain ⟨fu, hfu⟩ := ih (k + 1) (s + taxK (kin deep roofs x) x rate) hx.2 (by omega) hq
    refine ⟨fu + 1, ?_⟩
    unfold wX3_taxOfAll_8
    refine ⟨fun h => absurd ((nI_leN (by omega) (by omega)).mp h) (by omega), fun _ => ⟨in_nI (by omega) (by omega), ?_⟩⟩
    rw [clam_nI (by omega), hf k hlt, hx.1, nI_add1]
    refine pX3_taxOf (hs _ (by rw [← hx.1]; exact List.getElem_mem _)) ?_
    intro a ha b hb
    subst ha hb
    exact hfu
theorem pX3_taxOfAll {Q : Int32 → (Nat → Int64) → Int32 → Prop} {dug deep roofs : Int64} {rate : Int32} {f : Nat → Int64} {k : Int32} (hd : small dug) (h : Q (taxAll dug deep roofs rate) (over (hl dug) f) (nI (hl dug).length)) : wX3_taxOfAll Q roofs rate dug deep f k := by
  unfold wX3_taxOfAll
  refine pX3_findHoles hd ?_
  exact taxOfAll_8 (hl_18 hd) (fun x hx => isHole_small hd (hl_isHole hd hx)) (fun k h => over_at h) _ 0 0 rfl (Nat.zero_le _) h
/-- only what is dug counts -/
theorem kin_of {deep deep' roofs roofs' x : Int64} (hd : ∀ i, mem x i = true → mem deep i = mem deep' i) (hr : ∀ i, mem x i = true → mem roofs i = mem roofs' i) : kin deep roofs x = kin deep' roofs' x := by
  have e1 : x &&& (roofs ^^^ (-1)) = x &&& (roofs' ^^^ (-1)) := mem_ext (fun i _ => by
    rw [mem_minus, mem_minus]
    cases h : mem x i
    · rfl
    · rw [hr i h])
  have e2 : x &&& deep = x &&& deep' := mem_ext (fun i _ => by
    rw [mem_and, mem_and]
    cases h : mem x i
    · rfl
    · rw [hd i h])
  unfold kin
  rw [e1, e2]
theorem taxAll_of {dug deep deep' roofs roofs' : Int64} {rate : Int32} (hs : small dug) (hd : ∀ i, mem dug i = true → mem deep i = mem deep' i) (hr : ∀ i, mem dug i = true → mem roofs i = mem roofs' i) : taxAll dug deep roofs rate = taxAll dug deep' roofs' rate := by
  unfold taxAll taxL
  have : ∀ L : List Int64, (∀ x ∈ L, sub x dug) → ∀ s, L.foldl (fun s x => s + taxK (kin deep roofs x) x rate) s = L.foldl (fun s x => s + taxK (kin deep' roofs' x) x rate) s := by
    intro L
    induction L with
    | nil => intro _ s; rfl
    | cons x L ih =>
      intro h s
      rw [List.foldl_cons, List.foldl_cons, kin_of (deep' := deep') (roofs' := roofs') (fun i hi => hd i (h x List.mem_cons_self i hi)) (fun i hi => hr i (h x List.mem_cons_self i hi))]
      exact ih (fun y hy => h y (List.mem_cons_of_mem _ hy)) _
  exact this _ (fun x hx => (isHole_sep hs (hl_isHole hs hx)).1) 0
/-! PURE 7: told, cells, roofs, own, rate, seed, type -/
/-- the same in the first n -/
def agree (n : Nat) (f g : Nat → Int32) : Prop := ∀ i, i < n → f i = g i
theorem dugP_of {f g : Nat → Int32} (h : agree 36 f g) : dugP f = dugP g := mem_ext (fun i _ => by
  unfold dugP
  rw [mem_setOf _ 36 (by decide), mem_setOf _ 36 (by decide)]
  by_cases q : i < 36
  · rw [h i q]
  · simp [q])
theorem deepP_of {f g : Nat → Int32} (h : agree 36 f g) : deepP f = deepP g := mem_ext (fun i _ => by
  unfold deepP
  rw [mem_setOf _ 36 (by decide), mem_setOf _ 36 (by decide)]
  by_cases q : i < 36
  · rw [h i q]
  · simp [q])
theorem comp_none {d : Int64} (hd : small d) {k : Nat} (hk : k < 64) (h : mem d k = false) : comp (bit k) d = 0 := by
  apply Classical.byContradiction
  intro q
  obtain ⟨i, _, hm⟩ := ne_zero_iff.mp q
  refine comp_ind hd (fun _ => False) ?_ (fun _ _ h _ _ _ => h) hm
  intro i hi hdi
  rw [bit_one hk hi, h] at hdi
  exact Bool.noConfusion hdi
theorem comp_hole {d : Int64} {k : Nat} (h : mem d k = true) : isHole (comp (bit k) d) d := ⟨k, h, rfl⟩
theorem pX1_hole {Qn : Prop} {Q : Nat → Int64 → Int32 → Prop} {d : Nat → Int32} {roofs : Int64} {rate : Int32} {k : Nat} (hk : k < 64) (hn : mem (dugP d) k = false → Qn) (hq : mem (dugP d) k = true → Q (kin (deepP d) roofs (comp (bit k) (dugP d))) (comp (bit k) (dugP d)) rate) : wX1_hole Qn Q d roofs rate (nI k) := by
  unfold wX1_hole
  refine pX1_dug ?_
  rw [bit_nI hk]
  refine pX0_spread ?_
  have hd := small_dugP d
  cases hm : mem (dugP d) k with
  | false => rw [comp_none hd hk hm]; exact ⟨fun _ => hn hm, fun h => absurd rfl h⟩
  | true => exact ⟨fun h => absurd h (isHole_ne (comp_hole hm)), fun _ => pX1_made (comp_small hd) (hq hm)⟩
/-- the rim -/
def rimP (h : Int64) : Int64 := bes h &&& (h ^^^ (-1))
theorem rim_hole {h d : Int64} (hd : small d) (H : isHole h d) : bes h &&& (d ^^^ (-1)) = rimP h := by
  have hs := isHole_sep hd H
  apply mem_ext
  intro i _
  unfold rimP
  rw [mem_minus, mem_minus]
  cases hb : mem (bes h) i with
  | false => rfl
  | true =>
    obtain ⟨_, j, ha, hj⟩ := (mem_bes (isHole_small hd H) i).mp hb
    cases hi : mem h i with
    | true => rw [hs.1 i hi]
    | false =>
      cases hdi : mem d i with
      | false => rfl
      | true => rw [hs.2 j i hj ha hdi] at hi; exact Bool.noConfusion hi
theorem small_rim (h : Int64) : small (rimP h) := small_and_l (small_bes h)
theorem pX5_rim {Q : Int64 → Prop} {h : Int64} (hq : Q (rimP h)) : wX5_rim Q h := hq
theorem pP_rim {Q : Int64 → Prop} {h : Int64} (hq : Q (rimP h)) : wP_rim Q h := hq
theorem pX3_rimOf {Q : Int64 → Prop} {h d : Int64} (hd : small d) (H : isHole h d) (hq : Q (rimP h)) : wX3_rimOf Q d h := by
  unfold wX3_rimOf
  refine pX3_beside ?_
  rw [rim_hole hd H]; exact hq
/-- what lies within -/
def othP (h : Int64) : Int64 := 68719476735 &&& (h ^^^ (-1))
def innP (h : Int64) : Int64 := othP h &&& (comp 68208171135 (othP h) ^^^ (-1))
theorem comp_and (s g : Int64) : comp (s &&& g) g = comp s g := by
  unfold comp
  congr 1
  exact mem_ext (fun i _ => by rw [mem_and, mem_and]; cases mem s i <;> cases mem g i <;> rfl)
theorem pP_within {Q : Int64 → Prop} {h : Int64} (hq : Q (innP h)) : wP_within Q h := by
  show wX5_within Q h
  unfold wX5_within
  intro a ha
  refine pX0_spread ?_
  rw [comp_and, ha]
  exact hq
theorem pX3_withinOf {Q : Int64 → Prop} {h : Int64} (hq : Q (innP h)) : wX3_withinOf Q h := by
  unfold wX3_withinOf
  intro a ha
  unfold wX3_edge
  refine pX3_grown ?_
  rw [ha]
  exact hq
theorem small_oth (h : Int64) : small (othP h) := small_and_l small_all
/-- an int that no narrowing changes -/
theorem byteRoom {x : Int32} (h0 : 0 ≤ x) (h1 : x ≤ 127) : vp_nar .byte ((x : Int32).toInt8.toInt32) = x ∧ fits .byte (.int x) = true := by
  obtain ⟨k, hk, e⟩ := nI_ofN (n := 127) h0 h1 (by decide)
  subst e
  have : ∀ k : Fin 128, vp_nar .byte ((nI k.val).toInt8.toInt32) = nI k.val ∧ fits .byte (.int (nI k.val)) = true := by decide +kernel
  exact this ⟨k, by omega⟩
theorem b2_in {x lo hi : Int32} : b2 (lo.toInt64 ≤ x.toInt64 ∧ x.toInt64 ≤ hi.toInt64) = b2 (lo ≤ x ∧ x ≤ hi) := by
  unfold b2; simp only [in_int]
theorem pX0_inI {Q : Int32 → Prop} {x lo hi : Int32} (h : Q (b2 (lo ≤ x ∧ x ≤ hi))) : wX0_in Q x.toInt64 lo.toInt64 hi.toInt64 := pX0_in (by rw [b2_in]; exact h)
theorem pX3_inI {Q : Int32 → Prop} {x lo hi : Int32} (h : Q (b2 (lo ≤ x ∧ x ≤ hi))) : wX3_in Q x.toInt64 lo.toInt64 hi.toInt64 := pX0_inI h
/-- owners -/
theorem oOwn {P : Int32 → (Nat → Int32) → Int32 → (Nat → Int32) → Prop} {o o' : Nat → Int32} {x y : Int32}
    (hb : P (-1) o (-1) o') (hg : ∀ k, k < 36 → x = nI k → 0 ≤ y → y ≤ 4 → P (o k) (upd o k y) (o' k) (upd o' k y)) : wX0_own (fun r a => wX3_own (fun r' a' => P r a r' a') o' x y) o x y := by
  have bad : (isC x → ¬ (0 ≤ y ∧ y ≤ 4)) → wX3_own (fun r' a' => P (-1) o r' a') o' x y := by
    intro h
    unfold wX3_own
    refine pX3_isCell ⟨fun _ => hb, fun q => ?_⟩
    refine pX3_inI (lo := 0) (hi := 4) ⟨fun _ => hb, fun z => absurd (b2_1 z) (h (b2_1 q))⟩
  unfold wX0_own
  refine pX0_isCell ⟨fun q => bad (fun z => absurd z (b2_0 q)), fun q => ?_⟩
  have hx := b2_1 q
  refine pX0_inI (lo := 0) (hi := 4) ⟨fun z => bad (fun _ => b2_0 z), fun z => ?_⟩
  have hy := b2_1 z
  obtain ⟨k, hk, e⟩ := isC_ex hx
  subst e
  rw [clam_nI (by omega)]
  refine ⟨in_nI hk (by decide), ?_⟩
  intro a ha
  refine ⟨in_nI hk (by decide), ?_⟩
  intro b hb'
  rw [(byteRoom hy.1 (Int32.le_trans hy.2 (by decide))).1] at hb'
  subst ha hb'
  unfold wX3_own
  refine pX3_isCell ⟨fun q => absurd hx (b2_0 q), fun _ => ?_⟩
  refine pX3_inI (lo := 0) (hi := 4) ⟨fun z => absurd hy (b2_0 z), fun _ => ?_⟩
  rw [clam_nI (by omega)]
  refine ⟨in_nI hk (by decide), ?_⟩
  intro a ha
  refine ⟨in_nI hk (by decide), ?_⟩
  intro b hb'
  subst ha hb'
  exact hg k hk rfl hy.1 hy.2
theorem oRate {P : Int32 → Int32 → Int32 → Int32 → Prop} {r r' x : Int32} (hb : P (-1) r (-1) r') (hg : P r x r' x) : wX0_rate (fun a b => wX3_rate (fun a' b' => P a b a' b') r' x) r x := by
  unfold wX0_rate
  refine pX0_inI (lo := 0) (hi := 99) ⟨fun z => ?_, fun z => ?_⟩
  · unfold wX3_rate
    exact pX3_inI (lo := 0) (hi := 99) ⟨fun _ => hb, fun q => absurd (b2_1 q) (b2_0 z)⟩
  · unfold wX3_rate
    exact pX3_inI (lo := 0) (hi := 99) ⟨fun q => absurd (b2_1 z) (b2_0 q), fun _ => hg⟩
theorem oSeed {P : Int32 → Int32 → Int32 → Int32 → Prop} {r r' x : Int32} (hb : P (-1) r (-1) r') (hg : P r x r' x) : wX0_seed (fun a b => wX3_seed (fun a' b' => P a b a' b') r' x) r x :=
  ⟨fun h => ⟨fun _ => hg, fun q => absurd h q⟩, fun h => ⟨fun q => absurd q h, fun _ => hb⟩⟩
theorem oType {P : Int32 → Int32 → (Nat → Int32) → Int32 → (Nat → Int32) → Int32 → Prop} {n : Nat} {t t' : Nat → Int32} {x : Int32} (hn : n ≤ 160)
    (hb : ∀ v, P v (nI n) t v t' (nI n)) (hg : n < 160 → 32 ≤ x → x ≤ 126 → P (nI (n + 1)) (nI (n + 1)) (upd t n x) (nI (n + 1)) (upd t' n x) (nI (n + 1))) : wX0_type (fun r a b => wX3_type (fun r' b' a' => P r a b r' b' a') t' (nI n) x) (nI n) t x := by
  unfold wX0_type
  refine pX0_inI (lo := 32) (hi := 126) ⟨fun z => ?_, fun z => ?_⟩
  · unfold wX3_type
    exact pX3_inI (lo := 32) (hi := 126) ⟨fun _ => hb _, fun q => absurd (b2_1 q) (b2_0 z)⟩
  · have hx := b2_1 z
    refine ⟨fun e => ?_, fun e => ?_⟩
    · unfold wX3_type
      exact pX3_inI (lo := 32) (hi := 126) ⟨fun q => absurd hx (b2_0 q), fun _ => ⟨fun _ => hb _, fun q => absurd e q⟩⟩
    · have hn' : n < 160 := Nat.lt_of_le_of_ne hn (fun q => e (by rw [q]; rfl))
      refine ⟨in_nI hn' (by decide), ?_⟩
      rw [clam_nI (by omega)]
      intro a ha b hb'
      rw [(byteRoom (Int32.le_trans (by decide) hx.1) (Int32.le_trans hx.2 (by decide))).1] at ha
      subst ha hb'
      rw [nI_add1]
      unfold wX3_type
      refine pX3_inI (lo := 32) (hi := 126) ⟨fun q => absurd hx (b2_0 q), fun _ => ⟨fun q => absurd q e, fun _ => ⟨in_nI hn' (by decide), ?_⟩⟩⟩
      rw [clam_nI (by omega)]
      intro a ha b hb'
      subst ha hb'
      rw [nI_add1]
      exact hg hn' hx.1 hx.2
/-- told, cells, roofs -/
theorem oTold {P : Int32 → Int32 → Int64 → Int64 → Prop} {g g' o o' : Nat → Int32} {roofs dug deep : Int64} {rt x y : Int32} (hg : agree 36 g g') (ho : agree 36 o o')
    (hp : ∀ v a b, P v v a b) : wX0_told (fun r => wX3_told (fun r' a b => P r r' a b) g' o' roofs dug deep x y) g roofs rt o x y := by
  have ed := dugP_of hg
  unfold wX0_told
  refine pX0_isCell ⟨fun q => ?_, fun q => ?_⟩
  · unfold wX3_told
    exact pX3_isCell ⟨fun _ => hp _ _ _, fun z => absurd (b2_1 z) (b2_0 q)⟩
  have hx := b2_1 q
  obtain ⟨k, hk, e⟩ := isC_ex hx
  subst e
  have hc : ∀ (Q : Int32 → Prop), Q (b2 (isC (nI k))) → Q 1 := fun Q h => by rwa [b2_t hx] at h
  have m : ∀ {r : Int32}, ((y = 0 → P r (g' k) (dugP g') (deepP g')) ∧ (¬ y = 0 → ((y = 1 → P r (b2 (mem roofs k = true)) (dugP g') (deepP g')) ∧ (¬ y = 1 → ((y = 2 → P r (o' k) (dugP g') (deepP g')) ∧ (¬ y = 2 → ((y = 3 → P r (if mem (dugP g') k = true then nI (lsb (comp (bit k) (dugP g'))) else -4) (dugP g') (deepP g')) ∧ (¬ y = 3 → P r (-1) (dugP g') (deepP g'))))))))) → wX3_told (fun r' a b => P r r' a b) g' o' roofs dug deep (nI k) y := by
    intro r h
    unfold wX3_told
    refine pX3_isCell ⟨fun z => absurd hx (b2_0 z), fun _ => ?_⟩
    refine pX3_look ?_
    rw [clam_nI (by omega)]
    refine ⟨fun a => ⟨in_nI hk (by decide), h.1 a⟩, fun a => ⟨fun b => ?_, fun b => ⟨fun c => ⟨in_nI hk (by decide), ((h.2 a).2 b).1 c⟩, fun c => ⟨fun d => ?_, fun d => (((h.2 a).2 b).2 c).2 d⟩⟩⟩⟩
    · refine pX3_has (by omega) ?_
      have := (h.2 a).1 b
      refine ⟨fun z => ?_, fun z => ?_⟩
      · rw [b2_f (b2_0 z)] at this; exact this
      · rw [b2_t (b2_1 z)] at this; exact this
    · have := (((h.2 a).2 b).2 c).1 d
      refine pX3_has (by omega) ⟨fun z => ?_, fun z => ?_⟩
      · rw [if_neg (b2_0 z)] at this; exact this
      · rw [if_pos (b2_1 z)] at this
        refine pX3_holeAt (by omega) ?_
        exact pX3_least (isHole_ne (comp_hole (b2_1 z))) this
  have ne : ∀ {a b : Int32}, y = a → a ≠ b → ¬ y = b := fun h h' q => h' (h.symm.trans q)
  refine pX0_inI (lo := 0) (hi := 3) ⟨fun z => ?_, fun z => ?_⟩
  · have hz := b2_0 z
    refine m ⟨fun a => absurd (by subst a; decide) hz, fun _ => ⟨fun a => absurd (by subst a; decide) hz, fun _ => ⟨fun a => absurd (by subst a; decide) hz, fun _ => ⟨fun a => absurd (by subst a; decide) hz, fun _ => hp _ _ _⟩⟩⟩⟩
  · have hz := b2_1 z
    refine ⟨fun h3 => ?_, fun h3 => ⟨fun h0 => ⟨in_nI hk (by decide), ?_⟩, fun h0 => ⟨fun h1 => ?_, fun h1 => ⟨in_nI hk (by decide), ?_⟩⟩⟩⟩
    · have y3 : y = 3 := Int32.le_antisymm hz.2 h3
      have mm : ∀ v, v = (if mem (dugP g') k = true then nI (lsb (comp (bit k) (dugP g'))) else -4) → wX3_told (fun r' a b => P v r' a b) g' o' roofs dug deep (nI k) y := fun v hv => m ⟨fun a => absurd (a.symm.trans y3) (by decide), fun _ => ⟨fun a => absurd (a.symm.trans y3) (by decide), fun _ => ⟨fun a => absurd (a.symm.trans y3) (by decide), fun _ => ⟨fun _ => by rw [← hv]; exact hp _ _ _, fun a => absurd y3 a⟩⟩⟩⟩
      refine pX1_hole (by omega) (fun h => mm _ ?_) (fun h => ?_)
      · rw [← ed, if_neg (by rw [h]; decide)]
      · refine pX0_least (isHole_ne (comp_hole h)) (mm _ ?_)
        rw [← ed, if_pos h]
    · rw [clam_nI (by omega)]
      exact m ⟨fun _ => by rw [hg k hk]; exact hp _ _ _, fun a => absurd h0 a⟩
    · refine pX0_has (by omega) ⟨fun z => ?_, fun z => ?_⟩
      · exact m ⟨fun a => absurd a h0, fun _ => ⟨fun _ => by rw [b2_f (b2_0 z)]; exact hp _ _ _, fun a => absurd h1 a⟩⟩
      · exact m ⟨fun a => absurd a h0, fun _ => ⟨fun _ => by rw [b2_t (b2_1 z)]; exact hp _ _ _, fun a => absurd h1 a⟩⟩
    · rw [clam_nI (by omega)]
      have y2 : y = 2 := by
        obtain ⟨j, hj, e⟩ := nI_ofN (n := 3) hz.1 hz.2 (by decide)
        have : j = 0 ∨ j = 1 ∨ j = 2 ∨ j = 3 := by omega
        rcases this with z | z | z | z <;> subst z <;> subst e
        · exact absurd rfl h0
        · exact absurd rfl h1
        · rfl
        · exact absurd (by decide) h3
      exact m ⟨fun a => absurd a h0, fun _ => ⟨fun a => absurd a h1, fun _ => ⟨fun _ => by rw [ho k hk]; exact hp _ _ _, fun a => absurd y2 a⟩⟩⟩
