/-! SHEETS: the plain law -/
theorem sw1 {p A B : Prop} (h : p) (a : A) : (p → A) ∧ (¬ p → B) := ⟨fun _ => a, fun q => absurd h q⟩
theorem sw0 {p A B : Prop} (h : ¬ p) (b : B) : (p → A) ∧ (¬ p → B) := ⟨fun q => absurd q h, fun _ => b⟩
theorem pSh {Q : Int32 → Prop} {x : Int32} (h : Q (b2 (0 ≤ x ∧ x ≤ 3))) : wX0_isSheet Q x := by
  unfold wX0_isSheet
  exact pX0_inI (lo := 0) (hi := 3) ⟨b2_bz _, h⟩
theorem pLn {Q : Int32 → Prop} {x : Int32} (h : Q (b2 (0 ≤ x ∧ x ≤ 3))) : wX0_isLane Q x := by
  unfold wX0_isLane
  exact pX0_inI (lo := 0) (hi := 3) ⟨b2_bz _, h⟩
theorem p3Sh {Q : Int32 → Prop} {x y : Int32} (h : Q (b2 ((0 ≤ x ∧ x ≤ 3) ∧ (0 ≤ y ∧ y ≤ 3)))) : wX3_isSheet Q x y := by
  unfold wX3_isSheet
  refine pX3_inI (lo := 0) (hi := 3) ⟨fun q => ?_, fun q => ?_⟩
  · rw [b2_f (fun z => b2_0 q z.1)] at h
    exact h
  · refine pX3_inI (lo := 0) (hi := 3) ⟨fun q2 => ?_, fun q2 => ?_⟩
    · rw [b2_f (fun z => b2_0 q2 z.2)] at h
      exact h
    · rw [b2_t ⟨b2_1 q, b2_1 q2⟩] at h
      exact h
theorem s_ex {x : Int32} (h : 0 ≤ x ∧ x ≤ 3) : ∃ k, k < 4 ∧ x = nI k := by
  obtain ⟨k, h1, h2⟩ := nI_ofN (n := 3) h.1 h.2 (by decide)
  exact ⟨k, by omega, h2⟩
theorem s_nI {k : Nat} (hk : k < 4) : (0 : Int32) ≤ nI k ∧ nI k ≤ 3 := ⟨(nI_leN (a := 0) (by decide) (by omega)).mpr (by omega), (nI_leN (b := 3) (by omega) (by decide)).mpr (by omega)⟩
theorem oDrop_n {P : Int32 → Int32 → (Nat → Int32) → Prop} {t z : Nat → Int32} {x : Int32} (hx : ¬ (0 ≤ x ∧ x ≤ 3)) (hp : P (-1) (-1) t) : wX0_drop_n (fun r => wX3_drop (fun r' t' => P r r' t') t z x) x := by
  unfold wX0_drop_n
  refine pSh ⟨fun _ => ?_, fun q => absurd (b2_1 q) hx⟩
  unfold wX3_drop
  exact pX3_inI (lo := 0) (hi := 3) ⟨fun _ => hp, fun q => absurd (b2_1 q) hx⟩
theorem oDrop_N {P : Int32 → Int32 → (Nat → Int32) → Prop} {t z : Nat → Int32} {shf : Nat → Option Nat} {hd k : Nat} (hk : k < 4) (hs : shf k = some hd) (hl : t k = -1) (hp : P (-11) (-11) t) : wX0_drop_N (fun r => wX3_drop (fun r' t' => P r r' t') t z (nI k)) shf hd (nI k) := by
  unfold wX0_drop_N
  refine pSh ⟨fun q => absurd (s_nI hk) (b2_0 q), fun _ => ⟨in_nI hk (by decide), by rw [clam_nI (by omega)]; exact hs, ?_⟩⟩
  unfold wX3_drop
  refine pX3_inI (lo := 0) (hi := 3) ⟨fun q => absurd (s_nI hk) (b2_0 q), fun _ => ⟨in_nI hk (by decide), ?_⟩⟩
  rw [clam_nI (by omega), hl]
  exact sw0 (by decide) hp
theorem mDrop {Q : Int32 → (Nat → Int32) → Prop} {t z : Nat → Int32} {k : Nat} (hk : k < 4) (hl : 0 ≤ t k) (h : Q (z k) (upd t k (-1))) : wX3_drop Q t z (nI k) := by
  unfold wX3_drop
  refine pX3_inI (lo := 0) (hi := 3) ⟨fun q => absurd (s_nI hk) (b2_0 q), fun _ => ⟨in_nI hk (by decide), ?_⟩⟩
  rw [clam_nI (by omega)]
  refine sw1 hl ⟨in_nI hk (by decide), ?_⟩
  intro t' e
  subst e
  exact ⟨in_nI hk (by decide), h⟩
theorem oDrop_B {P : Int32 → Int32 → (Nat → Int32) → Prop} {t z : Nat → Int32} {shf : Nat → Option Nat} {hd k rn : Nat} (hk : k < 4) (hs : shf k = some hd) (hl : t k = nI 0) (hz : z k = nI rn) (hp : P (nI rn) (nI rn) (upd t k (-1))) : wX0_drop_B (fun r => wX3_drop (fun r' t' => P r r' t') t z (nI k)) shf hd rn (nI k) := by
  unfold wX0_drop_B
  refine pSh ⟨fun q => absurd (s_nI hk) (b2_0 q), fun _ => ⟨in_nI hk (by decide), by rw [clam_nI (by omega)]; exact hs, in_nI hk (by decide), by rw [clam_nI (by omega)]; exact hs, ?_⟩⟩
  have m : wX3_drop (fun r' t' => P (nI rn) r' t') t z (nI k) := mDrop hk (by rw [hl]; decide) (by rw [hz]; exact hp)
  unfold wX0_laneOf_B wX0_sizeOf_B
  exact sw0 (by decide) (sw1 rfl (m))
theorem oDrop_S {P : Int32 → Int32 → (Nat → Int32) → Prop} {t z : Nat → Int32} {shf : Nat → Option Nat} {hd k rn : Nat} (hk : k < 4) (hs : shf k = some hd) (hl : t k = nI 1) (hz : z k = nI rn) (hp : P (nI rn) (nI rn) (upd t k (-1))) : wX0_drop_S (fun r => wX3_drop (fun r' t' => P r r' t') t z (nI k)) shf hd rn (nI k) := by
  unfold wX0_drop_S
  refine pSh ⟨fun q => absurd (s_nI hk) (b2_0 q), fun _ => ⟨in_nI hk (by decide), by rw [clam_nI (by omega)]; exact hs, in_nI hk (by decide), by rw [clam_nI (by omega)]; exact hs, ?_⟩⟩
  have m : wX3_drop (fun r' t' => P (nI rn) r' t') t z (nI k) := mDrop hk (by rw [hl]; decide) (by rw [hz]; exact hp)
  unfold wX0_laneOf_S wX0_sizeOf_S
  exact sw1 rfl (sw0 (by decide) (sw0 (by decide) (sw1 rfl (m))))
theorem oDrop_I {P : Int32 → Int32 → (Nat → Int32) → Prop} {t z : Nat → Int32} {shf : Nat → Option Nat} {hd k rn : Nat} (hk : k < 4) (hs : shf k = some hd) (hl : t k = nI 2) (hz : z k = nI rn) (hp : P (nI rn) (nI rn) (upd t k (-1))) : wX0_drop_I (fun r => wX3_drop (fun r' t' => P r r' t') t z (nI k)) shf hd rn (nI k) := by
  unfold wX0_drop_I
  refine pSh ⟨fun q => absurd (s_nI hk) (b2_0 q), fun _ => ⟨in_nI hk (by decide), by rw [clam_nI (by omega)]; exact hs, in_nI hk (by decide), by rw [clam_nI (by omega)]; exact hs, ?_⟩⟩
  have m : wX3_drop (fun r' t' => P (nI rn) r' t') t z (nI k) := mDrop hk (by rw [hl]; decide) (by rw [hz]; exact hp)
  unfold wX0_laneOf_I wX0_sizeOf_I
  exact sw1 rfl (sw1 rfl (sw0 (by decide) (sw0 (by decide) (sw0 (by decide) (sw1 rfl (m))))))
theorem oDrop_J {P : Int32 → Int32 → (Nat → Int32) → Prop} {t z : Nat → Int32} {shf : Nat → Option Nat} {hd k rn : Nat} (hk : k < 4) (hs : shf k = some hd) (hl : t k = nI 3) (hz : z k = nI rn) (hp : P (nI rn) (nI rn) (upd t k (-1))) : wX0_drop_J (fun r => wX3_drop (fun r' t' => P r r' t') t z (nI k)) shf hd rn (nI k) := by
  unfold wX0_drop_J
  refine pSh ⟨fun q => absurd (s_nI hk) (b2_0 q), fun _ => ⟨in_nI hk (by decide), by rw [clam_nI (by omega)]; exact hs, in_nI hk (by decide), by rw [clam_nI (by omega)]; exact hs, ?_⟩⟩
  have m : wX3_drop (fun r' t' => P (nI rn) r' t') t z (nI k) := mDrop hk (by rw [hl]; decide) (by rw [hz]; exact hp)
  unfold wX0_laneOf_J wX0_sizeOf_J
  exact sw1 rfl (sw1 rfl (sw1 rfl (sw0 (by decide) (sw0 (by decide) (sw0 (by decide) (m))))))
theorem byte_eq (x : Int32) : vp_nar .byte (x.toInt8.toInt32) = x.toInt8.toInt32 := by
  show (x.toInt8.toInt32).toInt8.toInt32 = x.toInt8.toInt32
  rw [Int8.toInt8_toInt32]
theorem short_eq (x : Int32) : vp_nar .short (x.toInt16.toInt32) = x.toInt16.toInt32 := by
  show (x.toInt16.toInt32).toInt16.toInt32 = x.toInt16.toInt32
  rw [Int16.toInt16_toInt32]
theorem bv_lane (b : BitVec 64) (n : Nat) (h0 : 0 < n) (hn : n < 64) : (b <<< n).sshiftRight n = (b.setWidth (64 - n)).signExtend 64 := by
  apply BitVec.eq_of_getLsbD_eq
  intro i hi
  rw [BitVec.getLsbD_sshiftRight, BitVec.getLsbD_signExtend]
  have hm : (b <<< n).msb = b.getLsbD (63 - n) := by
    rw [BitVec.msb_eq_getLsbD_last, BitVec.getLsbD_shiftLeft]
    simp only [Nat.reduceSub, show (63 : Nat) < 64 by decide, decide_true, Bool.true_and]
    rw [decide_eq_false (by omega : ¬ (63 : Nat) < n)]
    simp
  have hm2 : (b.setWidth (64 - n)).msb = b.getLsbD (63 - n) := by
    rw [BitVec.msb_eq_getLsbD_last, BitVec.getLsbD_setWidth, show 64 - n - 1 = 63 - n by omega, decide_eq_true (by omega : 63 - n < 64 - n)]
    simp
  rw [hm, hm2, BitVec.getLsbD_setWidth, BitVec.getLsbD_shiftLeft]
  by_cases h : n + i < 64
  · rw [if_pos h, if_pos (by omega : i < 64 - n), decide_eq_true h, decide_eq_true hi, decide_eq_true (by omega : i < 64 - n), decide_eq_false (by omega : ¬ n + i < n)]
    simp
    exact fun _ => hi
  · rw [if_neg h, if_neg (by omega : ¬ i < 64 - n), decide_eq_true hi]
    simp [hi]
theorem sh64 (v : Int64) (n : Nat) (hn : n < 64) (m : Int64) (hm : (m.toBitVec.smod 64) = BitVec.ofNat 64 n) : ((v <<< m) >>> m).toBitVec = (v.toBitVec <<< n).sshiftRight n := by
  show (v.toBitVec <<< (m.toBitVec.smod 64)).sshiftRight' (m.toBitVec.smod 64) = _
  rw [hm, BitVec.sshiftRight_eq', BitVec.toNat_ofNat, Nat.mod_eq_of_lt (Nat.lt_trans hn (by decide))]
  show (v.toBitVec <<< (BitVec.ofNat 64 n).toNat).sshiftRight n = _
  rw [BitVec.toNat_ofNat, Nat.mod_eq_of_lt (Nat.lt_trans hn (by decide))]
theorem bv_8 (b : BitVec 64) : (b.setWidth 8).signExtend 64 = (((b.signExtend 32).signExtend 8).signExtend 32).signExtend 64 := by
  apply BitVec.eq_of_getLsbD_eq
  intro i hi
  have h64 : i < 64 := hi
  by_cases h1 : i < 8
  · have h2 : i < 32 := by omega
    simp only [BitVec.getLsbD_signExtend, BitVec.msb_eq_getLsbD_last, BitVec.getLsbD_setWidth, hi, h1, h2, ↓reduceIte, if_true, if_false, decide_true, Bool.true_and, Nat.reduceSub, Nat.reduceLT]
  · by_cases h2 : i < 32
    · simp only [BitVec.getLsbD_signExtend, BitVec.msb_eq_getLsbD_last, BitVec.getLsbD_setWidth, hi, h1, h2, ↓reduceIte, if_true, if_false, decide_true, Bool.true_and, Nat.reduceSub, Nat.reduceLT]
    · simp only [BitVec.getLsbD_signExtend, BitVec.msb_eq_getLsbD_last, BitVec.getLsbD_setWidth, hi, h1, h2, ↓reduceIte, if_true, if_false, decide_true, Bool.true_and, Nat.reduceSub, Nat.reduceLT]
theorem bv_16 (b : BitVec 64) : (b.setWidth 16).signExtend 64 = (((b.signExtend 32).signExtend 16).signExtend 32).signExtend 64 := by
  apply BitVec.eq_of_getLsbD_eq
  intro i hi
  by_cases h1 : i < 16
  · have h2 : i < 32 := by omega
    simp only [BitVec.getLsbD_signExtend, BitVec.msb_eq_getLsbD_last, BitVec.getLsbD_setWidth, hi, h1, h2, ↓reduceIte, if_true, if_false, decide_true, Bool.true_and, Nat.reduceSub, Nat.reduceLT]
  · by_cases h2 : i < 32
    · simp only [BitVec.getLsbD_signExtend, BitVec.msb_eq_getLsbD_last, BitVec.getLsbD_setWidth, hi, h1, h2, ↓reduceIte, if_true, if_false, decide_true, Bool.true_and, Nat.reduceSub, Nat.reduceLT]
    · simp only [BitVec.getLsbD_signExtend, BitVec.msb_eq_getLsbD_last, BitVec.getLsbD_setWidth, hi, h1, h2, ↓reduceIte, if_true, if_false, decide_true, Bool.true_and, Nat.reduceSub, Nat.reduceLT]
theorem bv_32 (b : BitVec 64) : (b.setWidth 32).signExtend 64 = (b.signExtend 32).signExtend 64 := by
  apply BitVec.eq_of_getLsbD_eq
  intro i hi
  by_cases h2 : i < 32
  · simp only [BitVec.getLsbD_signExtend, BitVec.msb_eq_getLsbD_last, BitVec.getLsbD_setWidth, hi, h2, ↓reduceIte, if_true, if_false, decide_true, Bool.true_and, Nat.reduceSub, Nat.reduceLT]
  · simp only [BitVec.getLsbD_signExtend, BitVec.msb_eq_getLsbD_last, BitVec.getLsbD_setWidth, hi, h2, ↓reduceIte, if_true, if_false, decide_true, Bool.true_and, Nat.reduceSub, Nat.reduceLT]
theorem lane0 (v : Int64) : (v <<< ((56 : Int32).toInt64 &&& 63)) >>> ((56 : Int32).toInt64 &&& 63) = (vp_nar .byte ((v.toInt32).toInt8.toInt32)).toInt64 := by
  rw [byte_eq]
  apply Int64.toBitVec_inj.mp
  rw [sh64 v 56 (by decide) _ (by decide), bv_lane _ 56 (by decide) (by decide)]
  show _ = (((v.toBitVec.signExtend 32).signExtend 8).signExtend 32).signExtend 64
  exact bv_8 _
theorem lane1 (v : Int64) : (v <<< ((48 : Int32).toInt64 &&& 63)) >>> ((48 : Int32).toInt64 &&& 63) = (vp_nar .short ((v.toInt32).toInt16.toInt32)).toInt64 := by
  rw [short_eq]
  apply Int64.toBitVec_inj.mp
  rw [sh64 v 48 (by decide) _ (by decide), bv_lane _ 48 (by decide) (by decide)]
  show _ = (((v.toBitVec.signExtend 32).signExtend 16).signExtend 32).signExtend 64
  exact bv_16 _
theorem lane2 (v : Int64) : (v <<< ((32 : Int32).toInt64 &&& 63)) >>> ((32 : Int32).toInt64 &&& 63) = (v.toInt32).toInt64 := by
  apply Int64.toBitVec_inj.mp
  rw [sh64 v 32 (by decide) _ (by decide), bv_lane _ 32 (by decide) (by decide)]
  show _ = (v.toBitVec.signExtend 32).signExtend 64
  exact bv_32 _
theorem in_ex {x : Int32} {n : Nat} (hn : n ≤ 36) (h : vp_in x n) : ∃ k, k < n ∧ x = nI k := by
  have h0 : ¬ x < 0 := fun q => h (Or.inl q)
  have h1 : x.toNatClampNeg < n := Nat.not_le.mp fun q => h (Or.inr q)
  refine ⟨x.toNatClampNeg, h1, ?_⟩
  have e : x.toInt = (x.toNatClampNeg : Int) := by
    have h2 : 0 ≤ x.toInt := by
      have := Int32.le_iff_toInt_le.mp (Int32.not_lt.mp h0)
      simpa using this
    show x.toInt = ((x.toInt.toNat : Nat) : Int)
    omega
  apply Int32.toInt_inj.mp
  rw [e]
  have h3 : (nI x.toNatClampNeg).toInt = (x.toNatClampNeg : Int) := Int32.toInt_ofNat_of_lt (by omega)
  rw [h3]
/-- a place in a row of n -/
theorem row_in {w : Int32} {n : Nat} (hn : n ≤ 36) : (0 ≤ w ∧ w ≤ nI n - 1) ↔ ∃ i, i < n ∧ w = nI i := by
  rcases Nat.eq_zero_or_pos n with z | z
  · subst z
    refine ⟨fun h => ?_, fun ⟨i, h, _⟩ => absurd h (Nat.not_lt_zero i)⟩
    have h1 : (nI 0 - 1 : Int32) < 0 := by decide +kernel
    exact absurd (Int32.lt_of_le_of_lt h.2 h1) (Int32.not_lt.mpr h.1)
  · rw [show (1 : Int32) = nI 1 from rfl, nI_subN z]
    constructor
    · intro h
      obtain ⟨k, h1, h2⟩ := nI_ofN (n := n - 1) h.1 h.2 (by omega)
      exact ⟨k, by omega, h2⟩
    · rintro ⟨i, h1, rfl⟩
      exact ⟨(nI_leN (a := 0) (by decide) (by omega)).mpr (by omega), (nI_leN (by omega) (by omega)).mpr (by omega)⟩
theorem mLacks {Q : Int32 → Prop} {t z : Nat → Int32} {k : Nat} {y w x4 : Int32} (hk : k < 4) (h11 : t k ≠ y → t k < 0 → Q (-11)) (h12 : t k ≠ y → 0 ≤ t k → Q (-12)) (h13 : t k = y → ¬ (0 ≤ w ∧ w ≤ z k - x4) → Q (-13)) (h0 : t k = y → (0 ≤ w ∧ w ≤ z k - x4) → Q 0) : wX3_lacksRow Q t z (nI k) y w x4 := by
  unfold wX3_lacksRow
  refine ⟨in_nI hk (by decide), ?_⟩
  rw [clam_nI (by omega)]
  refine ⟨fun e => ⟨in_nI hk (by decide), ?_⟩, fun e => ⟨in_nI hk (by decide), fun q => h12 e q, fun q => h11 e (Int32.not_le.mp q)⟩⟩
  exact pX3_inI (lo := 0) (hi := z k - x4) ⟨fun q => h13 e (b2_0 q), fun q => h0 e (b2_1 q)⟩
theorem sheet40 {Q : Int32 → (Nat → Int32) → (Nat → Int32) → (Nat → Int64) → Prop} {t z : Nat → Int32} {k : Nat} {x3 : Int32} (hk : k < 4) : ∀ (n j : Nat) (it : Nat → Int64), j + n = 37 → j ≤ 36 → (∀ it' : Nat → Int64, (∀ i, i < 36 → j ≤ i → it' (36 * k + i) = 0) → (∀ a, (∀ i, j ≤ i → i < 36 → a ≠ 36 * k + i) → it' a = it a) → Q x3 t z it') → wX3_sheet_40 Q (nI k) x3 t z n (nI j) it := by
  intro n
  induction n with
  | zero => intro j it h h2; omega
  | succ n ih =>
    intro j it hj hj36 h
    unfold wX3_sheet_40
    by_cases e : j = 36
    · subst e
      exact sw1 (by decide) (h it (fun i h1 h2 => by omega) (fun _ _ => rfl))
    · refine sw0 (fun q => by have := (nI_leN (a := 36) (by decide) (by omega)).mp q; omega) ⟨?_, ?_⟩
      · rw [show (36 : Int32) = nI 36 from rfl, nI_mulN, nI_add]
        exact in_nI (by omega) (by decide)
      · intro it2 e2 x e3
        rw [show (36 : Int32) = nI 36 from rfl, nI_mulN, nI_add, clam_nI (by omega)] at e2
        rw [e3, nI_1]
        refine ih (j + 1) it2 (by omega) (by omega) (fun it' h1 h2 => h it' (fun i h3 h4 => ?_) (fun a h3 => ?_))
        · by_cases e4 : i = j
          · subst e4
            rw [h2 _ (fun i' h5 _ => by omega), e2]
            exact if_pos rfl
          · exact h1 i h3 (by omega)
        · rw [h2 a (fun i h5 h6 => h3 i (by omega) h6), e2]
          exact if_neg (h3 j (Nat.le_refl j) (by omega))
theorem oSheet_n {P : Int32 → Int32 → (Nat → Int32) → (Nat → Int32) → (Nat → Int64) → Prop} {t z : Nat → Int32} {it : Nat → Int64} {shf : Nat → Option Nat} {hd : Nat} {x y n : Int32} (hx : ¬ ((0 ≤ x ∧ x ≤ 3) ∧ (0 ≤ y ∧ y ≤ 3) ∧ 0 ≤ n ∧ n ≤ 36)) (hs : (0 ≤ x ∧ x ≤ 3) → vp_in x 4 ∧ shf x.toNatClampNeg = some hd) (h1 : P (-1) (-1) t z it) (h14 : P (-14) (-14) t z it) : wX0_sheet_n (fun r => wX3_sheet (fun r' a b c => P r r' a b c) t z it x y n) shf hd x y n := by
  have mb : (¬ ((0 ≤ x ∧ x ≤ 3) ∧ (0 ≤ y ∧ y ≤ 3)) ∨ ¬ n ≤ 36) → wX3_sheet (fun r' a b c => P (-1) r' a b c) t z it x y n := by
    intro h
    unfold wX3_sheet
    refine p3Sh ⟨fun _ => h1, fun q => ?_⟩
    rcases h with h | h
    · exact absurd (b2_1 q) h
    · exact sw0 h h1
  unfold wX0_sheet_n
  refine pSh ⟨fun q => mb (Or.inl (fun z => b2_0 q z.1)), fun q => pLn ⟨fun q2 => mb (Or.inl (fun z => b2_0 q2 z.2)), fun q2 => ?_⟩⟩
  by_cases h36 : n ≤ 36
  · have hneg : n < 0 := Int32.not_le.mp (fun z => hx ⟨b2_1 q, b2_1 q2, z, h36⟩)
    refine sw1 h36 ⟨(hs (b2_1 q)).1, (hs (b2_1 q)).2, ?_⟩
    have m : wX3_sheet (fun r' a b c => P (-14) r' a b c) t z it x y n := by
      unfold wX3_sheet
      exact p3Sh ⟨fun q3 => absurd ⟨b2_1 q, b2_1 q2⟩ (b2_0 q3), fun _ => sw1 h36 (sw0 (Int32.not_le.mpr hneg) h14)⟩
    unfold wX0_laid_ns
    exact ⟨fun _ => ⟨hneg, m⟩, fun _ => ⟨fun _ => ⟨hneg, m⟩, fun _ => ⟨fun _ => ⟨hneg, m⟩, fun _ => ⟨hneg, m⟩⟩⟩⟩
  · exact sw0 h36 (mb (Or.inr h36))
theorem mSheet {Q : Int32 → (Nat → Int32) → (Nat → Int32) → (Nat → Int64) → Prop} {t z : Nat → Int32} {it : Nat → Int64} {k c n : Nat} (hk : k < 4) (hc : c < 4) (hn : n ≤ 36) (h : ∀ it' : Nat → Int64, (∀ i, i < 36 → it' (36 * k + i) = 0) → (∀ j, j < 4 → j ≠ k → ∀ i, i < 36 → it' (36 * j + i) = it (36 * j + i)) → Q (nI n) (upd t k (nI c)) (upd z k (nI n)) it') : wX3_sheet Q t z it (nI k) (nI c) (nI n) := by
  unfold wX3_sheet
  refine p3Sh ⟨fun q => absurd ⟨s_nI hk, s_nI hc⟩ (b2_0 q), fun _ => sw1 ((nI_leN (b := 36) (by omega) (by decide)).mpr hn) (sw1 ((nI_leN (a := 0) (by decide) (by omega)).mpr (by omega)) ⟨in_nI hk (by decide), ?_⟩)⟩
  intro t' e1
  refine ⟨in_nI hk (by decide), ?_⟩
  intro z' e2
  rw [clam_nI (by omega)] at e1 e2
  subst e1 e2
  refine ⟨37, ?_⟩
  have := sheet40 (Q := Q) (t := upd t k (nI c)) (z := upd z k (nI n)) (k := k) (x3 := nI n) hk 37 0 it rfl (by decide) (fun it' a1 a2 => h it' (fun i hi => a1 i hi (Nat.zero_le i)) (fun j hj hjk i hi => a2 _ (fun i' _ hi' e => by omega)))
  rw [nI_0] at this
  exact this
theorem oSheet_B {P : Int32 → Nat → Int32 → (Nat → Int32) → (Nat → Int32) → (Nat → Int64) → Prop} {t z : Nat → Int32} {it : Nat → Int64} {shf : Nat → Option Nat} {hd k n : Nat} (hk : k < 4) (hn : n ≤ 36) (hs : shf k = some hd) (h : ∀ it' : Nat → Int64, (∀ i, i < 36 → it' (36 * k + i) = 0) → (∀ j, j < 4 → j ≠ k → ∀ i, i < 36 → it' (36 * j + i) = it (36 * j + i)) → P (nI n) n (nI n) (upd t k (nI 0)) (upd z k (nI n)) it') : wX0_sheet_B (fun r m => wX3_sheet (fun r' a b c => P r m r' a b c) t z it (nI k) (nI 0) (nI n)) shf hd (nI k) (nI 0) (nI n) := by
  unfold wX0_sheet_B
  refine pSh ⟨fun q => absurd (s_nI hk) (b2_0 q), fun _ => pLn ⟨fun q => absurd (s_nI (k := 0) (by decide)) (b2_0 q), fun _ => sw1 ((nI_leN (b := 36) (by omega) (by decide)).mpr hn) ⟨in_nI hk (by decide), by rw [clam_nI (by omega)]; exact hs, ?_⟩⟩⟩
  have m : ¬ nI n < 0 ∧ (nI n).toNatClampNeg ≤ 36 ∧ wX3_sheet (fun r' a b c => P (nI n) (nI n).toNatClampNeg r' a b c) t z it (nI k) (nI 0) (nI n) := ⟨fun q => absurd ((nI_ltN (b := 0) (by omega) (by decide)).mp q) (Nat.not_lt_zero n), by rw [clam_nI (by omega)]; exact hn, by rw [clam_nI (by omega)]; exact mSheet hk (by decide) hn h⟩
  unfold wX0_laid_B
  exact sw1 rfl (m)
theorem oSheet_S {P : Int32 → Nat → Int32 → (Nat → Int32) → (Nat → Int32) → (Nat → Int64) → Prop} {t z : Nat → Int32} {it : Nat → Int64} {shf : Nat → Option Nat} {hd k n : Nat} (hk : k < 4) (hn : n ≤ 36) (hs : shf k = some hd) (h : ∀ it' : Nat → Int64, (∀ i, i < 36 → it' (36 * k + i) = 0) → (∀ j, j < 4 → j ≠ k → ∀ i, i < 36 → it' (36 * j + i) = it (36 * j + i)) → P (nI n) n (nI n) (upd t k (nI 1)) (upd z k (nI n)) it') : wX0_sheet_S (fun r m => wX3_sheet (fun r' a b c => P r m r' a b c) t z it (nI k) (nI 1) (nI n)) shf hd (nI k) (nI 1) (nI n) := by
  unfold wX0_sheet_S
  refine pSh ⟨fun q => absurd (s_nI hk) (b2_0 q), fun _ => pLn ⟨fun q => absurd (s_nI (k := 1) (by decide)) (b2_0 q), fun _ => sw1 ((nI_leN (b := 36) (by omega) (by decide)).mpr hn) ⟨in_nI hk (by decide), by rw [clam_nI (by omega)]; exact hs, ?_⟩⟩⟩
  have m : ¬ nI n < 0 ∧ (nI n).toNatClampNeg ≤ 36 ∧ wX3_sheet (fun r' a b c => P (nI n) (nI n).toNatClampNeg r' a b c) t z it (nI k) (nI 1) (nI n) := ⟨fun q => absurd ((nI_ltN (b := 0) (by omega) (by decide)).mp q) (Nat.not_lt_zero n), by rw [clam_nI (by omega)]; exact hn, by rw [clam_nI (by omega)]; exact mSheet hk (by decide) hn h⟩
  unfold wX0_laid_S
  exact sw0 (by decide) (sw1 rfl (m))
theorem oSheet_I {P : Int32 → Nat → Int32 → (Nat → Int32) → (Nat → Int32) → (Nat → Int64) → Prop} {t z : Nat → Int32} {it : Nat → Int64} {shf : Nat → Option Nat} {hd k n : Nat} (hk : k < 4) (hn : n ≤ 36) (hs : shf k = some hd) (h : ∀ it' : Nat → Int64, (∀ i, i < 36 → it' (36 * k + i) = 0) → (∀ j, j < 4 → j ≠ k → ∀ i, i < 36 → it' (36 * j + i) = it (36 * j + i)) → P (nI n) n (nI n) (upd t k (nI 2)) (upd z k (nI n)) it') : wX0_sheet_I (fun r m => wX3_sheet (fun r' a b c => P r m r' a b c) t z it (nI k) (nI 2) (nI n)) shf hd (nI k) (nI 2) (nI n) := by
  unfold wX0_sheet_I
  refine pSh ⟨fun q => absurd (s_nI hk) (b2_0 q), fun _ => pLn ⟨fun q => absurd (s_nI (k := 2) (by decide)) (b2_0 q), fun _ => sw1 ((nI_leN (b := 36) (by omega) (by decide)).mpr hn) ⟨in_nI hk (by decide), by rw [clam_nI (by omega)]; exact hs, ?_⟩⟩⟩
  have m : ¬ nI n < 0 ∧ (nI n).toNatClampNeg ≤ 36 ∧ wX3_sheet (fun r' a b c => P (nI n) (nI n).toNatClampNeg r' a b c) t z it (nI k) (nI 2) (nI n) := ⟨fun q => absurd ((nI_ltN (b := 0) (by omega) (by decide)).mp q) (Nat.not_lt_zero n), by rw [clam_nI (by omega)]; exact hn, by rw [clam_nI (by omega)]; exact mSheet hk (by decide) hn h⟩
  unfold wX0_laid_I
  exact sw0 (by decide) (sw0 (by decide) (sw1 rfl (m)))
theorem oSheet_J {P : Int32 → Nat → Int32 → (Nat → Int32) → (Nat → Int32) → (Nat → Int64) → Prop} {t z : Nat → Int32} {it : Nat → Int64} {shf : Nat → Option Nat} {hd k n : Nat} (hk : k < 4) (hn : n ≤ 36) (hs : shf k = some hd) (h : ∀ it' : Nat → Int64, (∀ i, i < 36 → it' (36 * k + i) = 0) → (∀ j, j < 4 → j ≠ k → ∀ i, i < 36 → it' (36 * j + i) = it (36 * j + i)) → P (nI n) n (nI n) (upd t k (nI 3)) (upd z k (nI n)) it') : wX0_sheet_J (fun r m => wX3_sheet (fun r' a b c => P r m r' a b c) t z it (nI k) (nI 3) (nI n)) shf hd (nI k) (nI 3) (nI n) := by
  unfold wX0_sheet_J
  refine pSh ⟨fun q => absurd (s_nI hk) (b2_0 q), fun _ => pLn ⟨fun q => absurd (s_nI (k := 3) (by decide)) (b2_0 q), fun _ => sw1 ((nI_leN (b := 36) (by omega) (by decide)).mpr hn) ⟨in_nI hk (by decide), by rw [clam_nI (by omega)]; exact hs, ?_⟩⟩⟩
  have m : ¬ nI n < 0 ∧ (nI n).toNatClampNeg ≤ 36 ∧ wX3_sheet (fun r' a b c => P (nI n) (nI n).toNatClampNeg r' a b c) t z it (nI k) (nI 3) (nI n) := ⟨fun q => absurd ((nI_ltN (b := 0) (by omega) (by decide)).mp q) (Nat.not_lt_zero n), by rw [clam_nI (by omega)]; exact hn, by rw [clam_nI (by omega)]; exact mSheet hk (by decide) hn h⟩
  unfold wX0_laid_J
  exact sw0 (by decide) (sw0 (by decide) (sw0 (by decide) (m)))
theorem nJ {c : Nat} (hc : c < 4) (a : ¬ nI c = 0) (b : ¬ nI c = 1) (e : ¬ nI c = nI 3) : nI c = 2 := by
  rcases (show c = 0 ∨ c = 1 ∨ c = 2 ∨ c = 3 by omega) with z | z | z | z <;> subst z
  · exact absurd rfl a
  · exact absurd rfl b
  · rfl
  · exact absurd rfl e
theorem oItem_N {P : Int32 → Int32 → (Nat → Int64) → Prop} {t z : Nat → Int32} {it : Nat → Int64} {shf : Nat → Option Nat} {hd k : Nat} {x y w : Int32} {v : Int64} (hk : k < 4) (hx : (0 ≤ x ∧ x ≤ 3) → x = nI k) (hs : shf k = some hd) (hl : t k = -1) (h1 : P (-1) (-1) it) (h11 : P (-11) (-11) it) : wX0_item_N (fun r => wX3_item (fun r' i' => P r r' i') t z it x y w v) shf hd x y w v := by
  have mb : ¬ ((0 ≤ x ∧ x ≤ 3) ∧ (0 ≤ y ∧ y ≤ 3)) → wX3_item (fun r' i' => P (-1) r' i') t z it x y w v := by
    intro hb
    unfold wX3_item
    exact p3Sh ⟨fun _ => h1, fun q => absurd (b2_1 q) hb⟩
  unfold wX0_item_N
  refine pSh ⟨fun q => mb (fun z => b2_0 q z.1), fun q => pLn ⟨fun q2 => mb (fun z => b2_0 q2 z.2), fun q2 => ?_⟩⟩
  have e := hx (b2_1 q)
  have hy := b2_1 q2
  subst e
  refine ⟨in_nI hk (by decide), by rw [clam_nI (by omega)]; exact hs, ?_⟩
  have m : wX3_item (fun r' i' => P (-11) r' i') t z it (nI k) y w v := by
    unfold wX3_item
    refine p3Sh ⟨fun q3 => absurd ⟨s_nI hk, hy⟩ (b2_0 q3), fun _ => ?_⟩
    have hne : t k ≠ y := fun a => absurd hy.1 (by rw [← a, hl]; decide)
    exact mLacks hk (fun _ _ => sw0 (by decide) h11) (fun _ a => absurd a (by rw [hl]; decide)) (fun a _ => absurd a hne) (fun a _ => absurd a hne)
  unfold wX0_puts_N_np
  exact ⟨fun _ => m, fun _ => ⟨fun _ => m, fun _ => ⟨fun _ => m, fun _ => m⟩⟩⟩
theorem oItem_B {P : Int32 → (Nat → Int32) → Int32 → (Nat → Int64) → Prop} {t z : Nat → Int32} {it : Nat → Int64} {shf : Nat → Option Nat} {hd k rn : Nat} {rf : Nat → Int32} {x y w : Int32} {v : Int64} (hk : k < 4) (hx : (0 ≤ x ∧ x ≤ 3) → x = nI k) (hs : shf k = some hd) (hl : t k = nI 0) (hz : z k = nI rn) (hr : rn ≤ 36) (h1 : P (-1) rf (-1) it) (h12 : P (-12) rf (-12) it) (h13 : P (-13) rf (-13) it) (h : ∀ i, i < rn → P 1 (upd rf i (vp_nar .byte ((v.toInt32).toInt8.toInt32))) 1 (vp_updL it (36 * k + i) ((vp_nar .byte ((v.toInt32).toInt8.toInt32)).toInt64))) : wX0_item_B (fun r g => wX3_item (fun r' i' => P r g r' i') t z it x y w v) shf hd rn rf x y w v := by
  have mb : ¬ ((0 ≤ x ∧ x ≤ 3) ∧ (0 ≤ y ∧ y ≤ 3)) → wX3_item (fun r' i' => P (-1) rf r' i') t z it x y w v := by
    intro hb
    unfold wX3_item
    exact p3Sh ⟨fun _ => h1, fun q => absurd (b2_1 q) hb⟩
  unfold wX0_item_B
  refine pSh ⟨fun q => mb (fun z => b2_0 q z.1), fun q => pLn ⟨fun q2 => mb (fun z => b2_0 q2 z.2), fun q2 => ?_⟩⟩
  have e := hx (b2_1 q)
  have hy := b2_1 q2
  subst e
  refine ⟨in_nI hk (by decide), by rw [clam_nI (by omega)]; exact hs, ?_⟩
  by_cases e : y = nI 0
  · subst e
    by_cases hw : ∃ i, i < rn ∧ w = nI i
    · obtain ⟨i, hi, rfl⟩ := hw
      refine Or.inl ?_
      unfold wX0_puts_B
      refine sw1 rfl (⟨in_nI hi (by omega), ?_⟩)
      intro g eg
      rw [clam_nI (by omega)] at eg
      subst eg
      unfold wX3_item
      refine p3Sh ⟨fun q3 => absurd ⟨s_nI hk, hy⟩ (b2_0 q3), fun _ => ?_⟩
      refine mLacks hk (fun a _ => absurd hl a) (fun a _ => absurd hl a) (fun _ a => absurd (by rw [hz]; exact (row_in hr).mpr ⟨i, hi, rfl⟩) a) (fun _ _ => sw1 (by decide) ?_)
      unfold wX3_asLane
      refine sw1 rfl ?_
      rw [lane0]
      refine ⟨?_, fun i2 e2 => ?_⟩
      · rw [show (36 : Int32) = nI 36 from rfl, nI_mulN, nI_add]
        exact in_nI (by omega) (by decide)
      · rw [show (36 : Int32) = nI 36 from rfl, nI_mulN, nI_add, clam_nI (by omega)] at e2
        subst e2
        exact h i hi
    · refine Or.inr (Or.inr ?_)
      have m : (¬ vp_in w rn ∧ rn ≤ 36) ∧ wX3_item (fun r' i' => P (-13) rf r' i') t z it (nI k) (nI 0) w v := by
        refine ⟨⟨fun q3 => hw (in_ex hr q3), hr⟩, ?_⟩
        unfold wX3_item
        refine p3Sh ⟨fun q3 => absurd ⟨s_nI hk, hy⟩ (b2_0 q3), fun _ => ?_⟩
        exact mLacks hk (fun a _ => absurd hl a) (fun a _ => absurd hl a) (fun _ _ => sw0 (by decide) h13) (fun _ a => absurd ((row_in hr).mp (by rw [← hz]; exact a)) hw)
      unfold wX0_puts_B_ix
      exact sw1 rfl (m)
  · refine Or.inr (Or.inl ?_)
    have m : wX3_item (fun r' i' => P (-12) rf r' i') t z it (nI k) y w v := by
      unfold wX3_item
      refine p3Sh ⟨fun q3 => absurd ⟨s_nI hk, hy⟩ (b2_0 q3), fun _ => ?_⟩
      exact mLacks hk (fun _ a => absurd (by rw [hl]; decide) (Int32.not_le.mpr a)) (fun _ _ => sw0 (by decide) h12) (fun a _ => absurd (by rw [← a, hl]) e) (fun a _ => absurd (by rw [← a, hl]) e)
    unfold wX0_puts_B_cc
    obtain ⟨c, hc, rfl⟩ := s_ex hy
    exact sw0 e ⟨fun _ => m, fun _ => ⟨fun _ => m, fun _ => m⟩⟩
theorem oItem_S {P : Int32 → (Nat → Int32) → Int32 → (Nat → Int64) → Prop} {t z : Nat → Int32} {it : Nat → Int64} {shf : Nat → Option Nat} {hd k rn : Nat} {rf : Nat → Int32} {x y w : Int32} {v : Int64} (hk : k < 4) (hx : (0 ≤ x ∧ x ≤ 3) → x = nI k) (hs : shf k = some hd) (hl : t k = nI 1) (hz : z k = nI rn) (hr : rn ≤ 36) (h1 : P (-1) rf (-1) it) (h12 : P (-12) rf (-12) it) (h13 : P (-13) rf (-13) it) (h : ∀ i, i < rn → P 1 (upd rf i (vp_nar .short ((v.toInt32).toInt16.toInt32))) 1 (vp_updL it (36 * k + i) ((vp_nar .short ((v.toInt32).toInt16.toInt32)).toInt64))) : wX0_item_S (fun r g => wX3_item (fun r' i' => P r g r' i') t z it x y w v) shf hd rn rf x y w v := by
  have mb : ¬ ((0 ≤ x ∧ x ≤ 3) ∧ (0 ≤ y ∧ y ≤ 3)) → wX3_item (fun r' i' => P (-1) rf r' i') t z it x y w v := by
    intro hb
    unfold wX3_item
    exact p3Sh ⟨fun _ => h1, fun q => absurd (b2_1 q) hb⟩
  unfold wX0_item_S
  refine pSh ⟨fun q => mb (fun z => b2_0 q z.1), fun q => pLn ⟨fun q2 => mb (fun z => b2_0 q2 z.2), fun q2 => ?_⟩⟩
  have e := hx (b2_1 q)
  have hy := b2_1 q2
  subst e
  refine ⟨in_nI hk (by decide), by rw [clam_nI (by omega)]; exact hs, ?_⟩
  by_cases e : y = nI 1
  · subst e
    by_cases hw : ∃ i, i < rn ∧ w = nI i
    · obtain ⟨i, hi, rfl⟩ := hw
      refine Or.inl ?_
      unfold wX0_puts_S
      refine sw0 (by decide) (sw1 rfl (⟨in_nI hi (by omega), ?_⟩))
      intro g eg
      rw [clam_nI (by omega)] at eg
      subst eg
      unfold wX3_item
      refine p3Sh ⟨fun q3 => absurd ⟨s_nI hk, hy⟩ (b2_0 q3), fun _ => ?_⟩
      refine mLacks hk (fun a _ => absurd hl a) (fun a _ => absurd hl a) (fun _ a => absurd (by rw [hz]; exact (row_in hr).mpr ⟨i, hi, rfl⟩) a) (fun _ _ => sw1 (by decide) ?_)
      unfold wX3_asLane
      refine sw0 (by decide) (sw1 rfl ?_)
      rw [lane1]
      refine ⟨?_, fun i2 e2 => ?_⟩
      · rw [show (36 : Int32) = nI 36 from rfl, nI_mulN, nI_add]
        exact in_nI (by omega) (by decide)
      · rw [show (36 : Int32) = nI 36 from rfl, nI_mulN, nI_add, clam_nI (by omega)] at e2
        subst e2
        exact h i hi
    · refine Or.inr (Or.inr ?_)
      have m : (¬ vp_in w rn ∧ rn ≤ 36) ∧ wX3_item (fun r' i' => P (-13) rf r' i') t z it (nI k) (nI 1) w v := by
        refine ⟨⟨fun q3 => hw (in_ex hr q3), hr⟩, ?_⟩
        unfold wX3_item
        refine p3Sh ⟨fun q3 => absurd ⟨s_nI hk, hy⟩ (b2_0 q3), fun _ => ?_⟩
        exact mLacks hk (fun a _ => absurd hl a) (fun a _ => absurd hl a) (fun _ _ => sw0 (by decide) h13) (fun _ a => absurd ((row_in hr).mp (by rw [← hz]; exact a)) hw)
      unfold wX0_puts_S_ix
      exact sw0 (by decide) (sw1 rfl (m))
  · refine Or.inr (Or.inl ?_)
    have m : wX3_item (fun r' i' => P (-12) rf r' i') t z it (nI k) y w v := by
      unfold wX3_item
      refine p3Sh ⟨fun q3 => absurd ⟨s_nI hk, hy⟩ (b2_0 q3), fun _ => ?_⟩
      exact mLacks hk (fun _ a => absurd (by rw [hl]; decide) (Int32.not_le.mpr a)) (fun _ _ => sw0 (by decide) h12) (fun a _ => absurd (by rw [← a, hl]) e) (fun a _ => absurd (by rw [← a, hl]) e)
    unfold wX0_puts_S_cc
    obtain ⟨c, hc, rfl⟩ := s_ex hy
    exact ⟨fun _ => m, fun _ => sw0 e ⟨fun _ => m, fun _ => m⟩⟩
theorem oItem_I {P : Int32 → (Nat → Int32) → Int32 → (Nat → Int64) → Prop} {t z : Nat → Int32} {it : Nat → Int64} {shf : Nat → Option Nat} {hd k rn : Nat} {rf : Nat → Int32} {x y w : Int32} {v : Int64} (hk : k < 4) (hx : (0 ≤ x ∧ x ≤ 3) → x = nI k) (hs : shf k = some hd) (hl : t k = nI 2) (hz : z k = nI rn) (hr : rn ≤ 36) (h1 : P (-1) rf (-1) it) (h12 : P (-12) rf (-12) it) (h13 : P (-13) rf (-13) it) (h : ∀ i, i < rn → P 1 (upd rf i v.toInt32) 1 (vp_updL it (36 * k + i) (v.toInt32.toInt64))) : wX0_item_I (fun r g => wX3_item (fun r' i' => P r g r' i') t z it x y w v) shf hd rn rf x y w v := by
  have mb : ¬ ((0 ≤ x ∧ x ≤ 3) ∧ (0 ≤ y ∧ y ≤ 3)) → wX3_item (fun r' i' => P (-1) rf r' i') t z it x y w v := by
    intro hb
    unfold wX3_item
    exact p3Sh ⟨fun _ => h1, fun q => absurd (b2_1 q) hb⟩
  unfold wX0_item_I
  refine pSh ⟨fun q => mb (fun z => b2_0 q z.1), fun q => pLn ⟨fun q2 => mb (fun z => b2_0 q2 z.2), fun q2 => ?_⟩⟩
  have e := hx (b2_1 q)
  have hy := b2_1 q2
  subst e
  refine ⟨in_nI hk (by decide), by rw [clam_nI (by omega)]; exact hs, ?_⟩
  by_cases e : y = nI 2
  · subst e
    by_cases hw : ∃ i, i < rn ∧ w = nI i
    · obtain ⟨i, hi, rfl⟩ := hw
      refine Or.inl ?_
      unfold wX0_puts_I
      refine sw0 (by decide) (sw0 (by decide) (sw1 rfl (⟨in_nI hi (by omega), ?_⟩)))
      intro g eg
      rw [clam_nI (by omega)] at eg
      subst eg
      unfold wX3_item
      refine p3Sh ⟨fun q3 => absurd ⟨s_nI hk, hy⟩ (b2_0 q3), fun _ => ?_⟩
      refine mLacks hk (fun a _ => absurd hl a) (fun a _ => absurd hl a) (fun _ a => absurd (by rw [hz]; exact (row_in hr).mpr ⟨i, hi, rfl⟩) a) (fun _ _ => sw1 (by decide) ?_)
      unfold wX3_asLane
      refine sw0 (by decide) (sw0 (by decide) (sw1 rfl ?_))
      rw [lane2]
      refine ⟨?_, fun i2 e2 => ?_⟩
      · rw [show (36 : Int32) = nI 36 from rfl, nI_mulN, nI_add]
        exact in_nI (by omega) (by decide)
      · rw [show (36 : Int32) = nI 36 from rfl, nI_mulN, nI_add, clam_nI (by omega)] at e2
        subst e2
        exact h i hi
    · refine Or.inr (Or.inr ?_)
      have m : (¬ vp_in w rn ∧ rn ≤ 36) ∧ wX3_item (fun r' i' => P (-13) rf r' i') t z it (nI k) (nI 2) w v := by
        refine ⟨⟨fun q3 => hw (in_ex hr q3), hr⟩, ?_⟩
        unfold wX3_item
        refine p3Sh ⟨fun q3 => absurd ⟨s_nI hk, hy⟩ (b2_0 q3), fun _ => ?_⟩
        exact mLacks hk (fun a _ => absurd hl a) (fun a _ => absurd hl a) (fun _ _ => sw0 (by decide) h13) (fun _ a => absurd ((row_in hr).mp (by rw [← hz]; exact a)) hw)
      unfold wX0_puts_I_ix
      exact sw0 (by decide) (sw0 (by decide) (sw1 rfl (m)))
  · refine Or.inr (Or.inl ?_)
    have m : wX3_item (fun r' i' => P (-12) rf r' i') t z it (nI k) y w v := by
      unfold wX3_item
      refine p3Sh ⟨fun q3 => absurd ⟨s_nI hk, hy⟩ (b2_0 q3), fun _ => ?_⟩
      exact mLacks hk (fun _ a => absurd (by rw [hl]; decide) (Int32.not_le.mpr a)) (fun _ _ => sw0 (by decide) h12) (fun a _ => absurd (by rw [← a, hl]) e) (fun a _ => absurd (by rw [← a, hl]) e)
    unfold wX0_puts_I_cc
    obtain ⟨c, hc, rfl⟩ := s_ex hy
    exact ⟨fun _ => m, fun _ => ⟨fun _ => m, fun _ => sw0 e m⟩⟩
theorem oItem_J {P : Int32 → (Nat → Int64) → Int32 → (Nat → Int64) → Prop} {t z : Nat → Int32} {it : Nat → Int64} {shf : Nat → Option Nat} {hd k rn : Nat} {rf : Nat → Int64} {x y w : Int32} {v : Int64} (hk : k < 4) (hx : (0 ≤ x ∧ x ≤ 3) → x = nI k) (hs : shf k = some hd) (hl : t k = nI 3) (hz : z k = nI rn) (hr : rn ≤ 36) (h1 : P (-1) rf (-1) it) (h12 : P (-12) rf (-12) it) (h13 : P (-13) rf (-13) it) (h : ∀ i, i < rn → P 1 (vp_updL rf i v) 1 (vp_updL it (36 * k + i) (v))) : wX0_item_J (fun r g => wX3_item (fun r' i' => P r g r' i') t z it x y w v) shf hd rn rf x y w v := by
  have mb : ¬ ((0 ≤ x ∧ x ≤ 3) ∧ (0 ≤ y ∧ y ≤ 3)) → wX3_item (fun r' i' => P (-1) rf r' i') t z it x y w v := by
    intro hb
    unfold wX3_item
    exact p3Sh ⟨fun _ => h1, fun q => absurd (b2_1 q) hb⟩
  unfold wX0_item_J
  refine pSh ⟨fun q => mb (fun z => b2_0 q z.1), fun q => pLn ⟨fun q2 => mb (fun z => b2_0 q2 z.2), fun q2 => ?_⟩⟩
  have e := hx (b2_1 q)
  have hy := b2_1 q2
  subst e
  refine ⟨in_nI hk (by decide), by rw [clam_nI (by omega)]; exact hs, ?_⟩
  by_cases e : y = nI 3
  · subst e
    by_cases hw : ∃ i, i < rn ∧ w = nI i
    · obtain ⟨i, hi, rfl⟩ := hw
      refine Or.inl ?_
      unfold wX0_puts_J
      refine sw0 (by decide) (sw0 (by decide) (sw0 (by decide) (⟨in_nI hi (by omega), ?_⟩)))
      intro g eg
      rw [clam_nI (by omega)] at eg
      subst eg
      unfold wX3_item
      refine p3Sh ⟨fun q3 => absurd ⟨s_nI hk, hy⟩ (b2_0 q3), fun _ => ?_⟩
      refine mLacks hk (fun a _ => absurd hl a) (fun a _ => absurd hl a) (fun _ a => absurd (by rw [hz]; exact (row_in hr).mpr ⟨i, hi, rfl⟩) a) (fun _ _ => sw1 (by decide) ?_)
      unfold wX3_asLane
      refine sw0 (by decide) (sw0 (by decide) (sw0 (by decide) ?_))
      skip
      refine ⟨?_, fun i2 e2 => ?_⟩
      · rw [show (36 : Int32) = nI 36 from rfl, nI_mulN, nI_add]
        exact in_nI (by omega) (by decide)
      · rw [show (36 : Int32) = nI 36 from rfl, nI_mulN, nI_add, clam_nI (by omega)] at e2
        subst e2
        exact h i hi
    · refine Or.inr (Or.inr ?_)
      have m : (¬ vp_in w rn ∧ rn ≤ 36) ∧ wX3_item (fun r' i' => P (-13) rf r' i') t z it (nI k) (nI 3) w v := by
        refine ⟨⟨fun q3 => hw (in_ex hr q3), hr⟩, ?_⟩
        unfold wX3_item
        refine p3Sh ⟨fun q3 => absurd ⟨s_nI hk, hy⟩ (b2_0 q3), fun _ => ?_⟩
        exact mLacks hk (fun a _ => absurd hl a) (fun a _ => absurd hl a) (fun _ _ => sw0 (by decide) h13) (fun _ a => absurd ((row_in hr).mp (by rw [← hz]; exact a)) hw)
      unfold wX0_puts_J_ix
      exact sw0 (by decide) (sw0 (by decide) (sw0 (by decide) (m)))
  · refine Or.inr (Or.inl ?_)
    have m : wX3_item (fun r' i' => P (-12) rf r' i') t z it (nI k) y w v := by
      unfold wX3_item
      refine p3Sh ⟨fun q3 => absurd ⟨s_nI hk, hy⟩ (b2_0 q3), fun _ => ?_⟩
      exact mLacks hk (fun _ a => absurd (by rw [hl]; decide) (Int32.not_le.mpr a)) (fun _ _ => sw0 (by decide) h12) (fun a _ => absurd (by rw [← a, hl]) e) (fun a _ => absurd (by rw [← a, hl]) e)
    unfold wX0_puts_J_cc
    obtain ⟨c, hc, rfl⟩ := s_ex hy
    exact ⟨fun _ => m, fun a => ⟨fun _ => m, fun b => sw1 (nJ hc a b e) m⟩⟩
