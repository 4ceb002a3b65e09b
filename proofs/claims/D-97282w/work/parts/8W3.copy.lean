/-! COPY: two sheets -/
def sO2 (dA : Nat → ClassId) (hd : Nat → Nat) (sh : Nat → Sh) (k j : Nat) : va_W := match k, j with
  | 0, 1 => sB dA (hd 2) (sh 2) ++ sB dA (hd 3) (sh 3)
  | 0, 2 => sB dA (hd 1) (sh 1) ++ sB dA (hd 3) (sh 3)
  | 0, 3 => sB dA (hd 1) (sh 1) ++ sB dA (hd 2) (sh 2)
  | 1, 0 => sB dA (hd 2) (sh 2) ++ sB dA (hd 3) (sh 3)
  | 1, 2 => sB dA (hd 0) (sh 0) ++ sB dA (hd 3) (sh 3)
  | 1, 3 => sB dA (hd 0) (sh 0) ++ sB dA (hd 2) (sh 2)
  | 2, 0 => sB dA (hd 1) (sh 1) ++ sB dA (hd 3) (sh 3)
  | 2, 1 => sB dA (hd 0) (sh 0) ++ sB dA (hd 3) (sh 3)
  | 2, 3 => sB dA (hd 0) (sh 0) ++ sB dA (hd 1) (sh 1)
  | 3, 0 => sB dA (hd 1) (sh 1) ++ sB dA (hd 2) (sh 2)
  | 3, 1 => sB dA (hd 0) (sh 0) ++ sB dA (hd 2) (sh 2)
  | 3, 2 => sB dA (hd 0) (sh 0) ++ sB dA (hd 1) (sh 1)
  | _, _ => []
theorem sW_cut2 {dA : Nat → ClassId} {hd : Nat → Nat} {sh : Nat → Sh} {k j : Nat} (hk : k < 4) (hj : j < 4) (hne : k ≠ j) : (sW dA hd sh).Perm ((sB dA (hd k) (sh k) ++ sB dA (hd j) (sh j)) ++ sO2 dA hd sh k j) := by
  rcases (show k = 0 ∨ k = 1 ∨ k = 2 ∨ k = 3 by omega) with z | z | z | z <;> subst z <;> rcases (show j = 0 ∨ j = 1 ∨ j = 2 ∨ j = 3 by omega) with z | z | z | z <;> subst z
  · exact absurd rfl hne
  · have q := pmF [sB dA (hd 0) (sh 0), sB dA (hd 1) (sh 1), sB dA (hd 2) (sh 2), sB dA (hd 3) (sh 3)] [sB dA (hd 0) (sh 0), sB dA (hd 1) (sh 1), sB dA (hd 2) (sh 2), sB dA (hd 3) (sh 3)] [0, 1, 2, 3] 4 rfl (by decide) rfl
    simpa [sW, sO2, List.append_assoc] using q
  · have q := pmF [sB dA (hd 0) (sh 0), sB dA (hd 1) (sh 1), sB dA (hd 2) (sh 2), sB dA (hd 3) (sh 3)] [sB dA (hd 0) (sh 0), sB dA (hd 2) (sh 2), sB dA (hd 1) (sh 1), sB dA (hd 3) (sh 3)] [0, 2, 1, 3] 4 rfl (by decide) rfl
    simpa [sW, sO2, List.append_assoc] using q
  · have q := pmF [sB dA (hd 0) (sh 0), sB dA (hd 1) (sh 1), sB dA (hd 2) (sh 2), sB dA (hd 3) (sh 3)] [sB dA (hd 0) (sh 0), sB dA (hd 3) (sh 3), sB dA (hd 1) (sh 1), sB dA (hd 2) (sh 2)] [0, 3, 1, 2] 4 rfl (by decide) rfl
    simpa [sW, sO2, List.append_assoc] using q
  · have q := pmF [sB dA (hd 0) (sh 0), sB dA (hd 1) (sh 1), sB dA (hd 2) (sh 2), sB dA (hd 3) (sh 3)] [sB dA (hd 1) (sh 1), sB dA (hd 0) (sh 0), sB dA (hd 2) (sh 2), sB dA (hd 3) (sh 3)] [1, 0, 2, 3] 4 rfl (by decide) rfl
    simpa [sW, sO2, List.append_assoc] using q
  · exact absurd rfl hne
  · have q := pmF [sB dA (hd 0) (sh 0), sB dA (hd 1) (sh 1), sB dA (hd 2) (sh 2), sB dA (hd 3) (sh 3)] [sB dA (hd 1) (sh 1), sB dA (hd 2) (sh 2), sB dA (hd 0) (sh 0), sB dA (hd 3) (sh 3)] [1, 2, 0, 3] 4 rfl (by decide) rfl
    simpa [sW, sO2, List.append_assoc] using q
  · have q := pmF [sB dA (hd 0) (sh 0), sB dA (hd 1) (sh 1), sB dA (hd 2) (sh 2), sB dA (hd 3) (sh 3)] [sB dA (hd 1) (sh 1), sB dA (hd 3) (sh 3), sB dA (hd 0) (sh 0), sB dA (hd 2) (sh 2)] [1, 3, 0, 2] 4 rfl (by decide) rfl
    simpa [sW, sO2, List.append_assoc] using q
  · have q := pmF [sB dA (hd 0) (sh 0), sB dA (hd 1) (sh 1), sB dA (hd 2) (sh 2), sB dA (hd 3) (sh 3)] [sB dA (hd 2) (sh 2), sB dA (hd 0) (sh 0), sB dA (hd 1) (sh 1), sB dA (hd 3) (sh 3)] [2, 0, 1, 3] 4 rfl (by decide) rfl
    simpa [sW, sO2, List.append_assoc] using q
  · have q := pmF [sB dA (hd 0) (sh 0), sB dA (hd 1) (sh 1), sB dA (hd 2) (sh 2), sB dA (hd 3) (sh 3)] [sB dA (hd 2) (sh 2), sB dA (hd 1) (sh 1), sB dA (hd 0) (sh 0), sB dA (hd 3) (sh 3)] [2, 1, 0, 3] 4 rfl (by decide) rfl
    simpa [sW, sO2, List.append_assoc] using q
  · exact absurd rfl hne
  · have q := pmF [sB dA (hd 0) (sh 0), sB dA (hd 1) (sh 1), sB dA (hd 2) (sh 2), sB dA (hd 3) (sh 3)] [sB dA (hd 2) (sh 2), sB dA (hd 3) (sh 3), sB dA (hd 0) (sh 0), sB dA (hd 1) (sh 1)] [2, 3, 0, 1] 4 rfl (by decide) rfl
    simpa [sW, sO2, List.append_assoc] using q
  · have q := pmF [sB dA (hd 0) (sh 0), sB dA (hd 1) (sh 1), sB dA (hd 2) (sh 2), sB dA (hd 3) (sh 3)] [sB dA (hd 3) (sh 3), sB dA (hd 0) (sh 0), sB dA (hd 1) (sh 1), sB dA (hd 2) (sh 2)] [3, 0, 1, 2] 4 rfl (by decide) rfl
    simpa [sW, sO2, List.append_assoc] using q
  · have q := pmF [sB dA (hd 0) (sh 0), sB dA (hd 1) (sh 1), sB dA (hd 2) (sh 2), sB dA (hd 3) (sh 3)] [sB dA (hd 3) (sh 3), sB dA (hd 1) (sh 1), sB dA (hd 0) (sh 0), sB dA (hd 2) (sh 2)] [3, 1, 0, 2] 4 rfl (by decide) rfl
    simpa [sW, sO2, List.append_assoc] using q
  · have q := pmF [sB dA (hd 0) (sh 0), sB dA (hd 1) (sh 1), sB dA (hd 2) (sh 2), sB dA (hd 3) (sh 3)] [sB dA (hd 3) (sh 3), sB dA (hd 2) (sh 2), sB dA (hd 0) (sh 0), sB dA (hd 1) (sh 1)] [3, 2, 0, 1] 4 rfl (by decide) rfl
    simpa [sW, sO2, List.append_assoc] using q
  · exact absurd rfl hne
theorem sO2_U {dA : Nat → ClassId} {hd : Nat → Nat} {sh : Nat → Sh} {k j : Nat} (hk : k < 4) (hj : j < 4) (hne : k ≠ j) (q : Sh) : sO2 dA hd (shU sh j q) k j = sO2 dA hd sh k j := by
  rcases (show k = 0 ∨ k = 1 ∨ k = 2 ∨ k = 3 by omega) with z | z | z | z <;> subst z <;> rcases (show j = 0 ∨ j = 1 ∨ j = 2 ∨ j = 3 by omega) with z | z | z | z <;> subst z
  · exact absurd rfl hne
  · rfl
  · rfl
  · rfl
  · rfl
  · exact absurd rfl hne
  · rfl
  · rfl
  · rfl
  · rfl
  · exact absurd rfl hne
  · rfl
  · rfl
  · rfl
  · rfl
  · exact absurd rfl hne
theorem sW_put2 {dA : Nat → ClassId} {hd : Nat → Nat} {sh : Nat → Sh} {k j : Nat} (hk : k < 4) (hj : j < 4) (hne : k ≠ j) (p q : Sh) (ep : sh k = p) : ((sB dA (hd k) p ++ sB dA (hd j) q) ++ sO2 dA hd sh k j).Perm (sW dA hd (shU sh j q)) := by
  have h := (sW_cut2 (dA := dA) (hd := hd) (sh := shU sh j q) hk hj hne).symm
  rw [sO2_U hk hj hne q, shU_at, show shU sh j q k = sh k from if_neg hne, ep] at h
  exact h
theorem rowL_at {f : Nat → Int64} {a : Nat} {v : Nat → Int64} : ∀ m x, rowL f a v m x = if a ≤ x ∧ x < a + m then v (x - a) else f x := by
  intro m
  induction m with
  | zero =>
    intro x
    rw [if_neg (by omega)]
    rfl
  | succ m ih =>
    intro x
    show (if x = a + m then v m else rowL f a v m x) = _
    by_cases e : x = a + m
    · rw [if_pos e, if_pos (by omega)]
      congr 1
      omega
    · rw [if_neg e, ih x]
      by_cases q : a ≤ x ∧ x < a + m
      · rw [if_pos q, if_pos (by omega)]
      · rw [if_neg q, if_neg (by omega)]
theorem rowL_congr {f : Nat → Int64} {a : Nat} {v v' : Nat → Int64} : ∀ m, (∀ x, x < m → v x = v' x) → rowL f a v m = rowL f a v' m := by
  intro m
  induction m with
  | zero => intro _; rfl
  | succ m ih =>
    intro h
    show vp_updL (rowL f a v m) (a + m) (v m) = vp_updL (rowL f a v' m) (a + m) (v' m)
    rw [ih (fun x hx => h x (by omega)), h m (by omega)]
theorem RS.cpy {shf : Nat → Option Nat} {hd : Nat → Nat} {sh : Nat → Sh} {t z : Nat → Int32} {it : Nat → Int64} {k j i b m : Nat} (h : RS shf hd sh t z it) (hk : k < 4) (hj : j < 4) (p q q' : Sh) (ep : sh k = p) (eq : sh j = q) (h0 : p.1 ≠ 0) (h1 : q.1 ≠ 0) (hc : q.1 = q'.1) (hn : q.2.2.1 = q'.2.2.1) (ho : okS q') (him : i + m ≤ p.2.2.1) (hbm : b + m ≤ q.2.2.1) (hv : ∀ x, sv q' x = if b ≤ x ∧ x < b + m then sv p (i + (x - b)) else sv q x) : RS shf hd (shU sh j q') t z (rowL it (36 * j + b) (fun a => it (36 * k + i + a)) m) := by
  obtain ⟨-, -, -, a4⟩ := h k hk
  obtain ⟨-, -, -, b4⟩ := h j hj
  rw [ep] at a4
  rw [eq] at b4
  obtain ⟨-, a5, -, a7⟩ := a4 h0
  obtain ⟨b5, b6, b7, b8⟩ := b4 h1
  refine h.put q' ho (fun e => absurd (hc.trans e) h1) (fun _ => ⟨by rw [← hc]; exact b5, by rw [← hn]; exact b6, by rw [← hn]; exact b7, fun x hx => ?_⟩) (fun _ _ _ => ⟨rfl, rfl⟩) (fun j' hj' e x hx => ?_)
  · rw [rowL_at, hv x]
    by_cases q2 : b ≤ x ∧ x < b + m
    · rw [if_pos q2, if_pos (by omega), show 36 * k + i + (36 * j + x - (36 * j + b)) = 36 * k + (i + (x - b)) by omega]
      exact a7 _ (by omega)
    · rw [if_neg q2, if_neg (by omega)]
      exact b8 x (by omega)
  · rw [rowL_at, if_neg]
    omega
def cpOK (x2 x4 x5 : Int32) (rn rn2 : Nat) : Prop := ∃ i b m, x2 = nI i ∧ x4 = nI b ∧ x5 = nI m ∧ i + m ≤ rn ∧ b + m ≤ rn2
theorem nn {x : Int32} (h : ¬ x < 0) : 0 ≤ x.toInt ∧ x = nI x.toInt.toNat := by
  have h0 := Int32.le_iff_toInt_le.mp (Int32.not_lt.mp h)
  have z : (0 : Int32).toInt = 0 := rfl
  rw [z] at h0
  have hlt := Int32.toInt_lt x
  refine ⟨h0, ?_⟩
  apply Int32.toInt_inj.mp
  rw [toInt_nI (by omega)]
  omega
theorem cpNo {x2 x4 x5 : Int32} {rn rn2 : Nat} (h : ¬ cpOK x2 x4 x5 rn rn2) : x2 < 0 ∨ x4 < 0 ∨ x5 < 0 ∨ (x2 : Int32).toInt + (x5 : Int32).toInt > (rn : Nat) ∨ (x4 : Int32).toInt + (x5 : Int32).toInt > (rn2 : Nat) := by
  refine Classical.byContradiction (fun no => h ?_)
  have a2 := nn (x := x2) (fun q => no (Or.inl q))
  have a4 := nn (x := x4) (fun q => no (Or.inr (Or.inl q)))
  have a5 := nn (x := x5) (fun q => no (Or.inr (Or.inr (Or.inl q))))
  have b2 : ¬ (x2.toInt + x5.toInt > (rn : Nat)) := fun q => no (Or.inr (Or.inr (Or.inr (Or.inl q))))
  have b4 : ¬ (x4.toInt + x5.toInt > (rn2 : Nat)) := fun q => no (Or.inr (Or.inr (Or.inr (Or.inr q))))
  have c2 := a2.1
  have c4 := a4.1
  have c5 := a5.1
  exact ⟨x2.toInt.toNat, x4.toInt.toNat, x5.toInt.toNat, a2.2, a4.2, a5.2, by omega, by omega⟩
theorem nIneg {m : Nat} (h : m ≤ 36) : ¬ (nI m : Int32) < 0 := Int32.not_lt.mpr ((nI_leN (a := 0) (by decide) (by omega)).mpr (by omega))
theorem rng64 {x w : Int32} {n : Nat} (hn : n ≤ 36) (h5 : ¬ w < 0) : ((0 : Int64) ≤ x.toInt64 ∧ x.toInt64 ≤ (nI n).toInt64 - w.toInt64) ↔ (0 ≤ x.toInt ∧ x.toInt + w.toInt ≤ n) := by
  have w0 := (nn h5).1
  have w1 := Int32.toInt_lt w
  have e : ((nI n).toInt64 - w.toInt64).toInt = n - w.toInt := by
    rw [Int64.toInt_sub, Int32.toInt_toInt64, Int32.toInt_toInt64, toInt_nI (by omega), Int.bmod_def]
    omega
  have z0 : (0 : Int64).toInt = 0 := rfl
  rw [Int64.le_iff_toInt_le, Int64.le_iff_toInt_le, e, Int32.toInt_toInt64, z0]
  omega
theorem cp154 {Q : Int32 → (Nat → Int64) → (Nat → Int64) → Prop} {t z : Nat → Int32} {it mv : Nat → Int64} {j b m : Nat} (hj : j < 4) (hb : b + m ≤ 36) (h : Q (nI m) (rowL it (36 * j + b) mv m) mv) : ∀ n a, a + n = m + 1 → a ≤ m → wX3_copy_154 Q (nI j) (nI b) (nI m) t z mv n (nI a) (rowL it (36 * j + b) mv a) := by
  intro n
  induction n with
  | zero => intro a h1 h2; omega
  | succ n ih =>
    intro a h1 h2
    unfold wX3_copy_154
    by_cases e : a = m
    · rw [e]
      exact sw1 (Int32.le_refl _) h
    · refine sw0 (fun q => by have := (nI_leN (by omega) (by omega)).mp q; omega) ?_
      rw [show (36 : Int32) = nI 36 from rfl, nI_mulN, nI_add, nI_add]
      refine ⟨in_nI (by omega) (by decide), in_nI (by omega) (by decide), ?_⟩
      rw [clam_nI (by omega), clam_nI (by omega)]
      intro i2 e2 x ex
      rw [ex, nI_add1, e2]
      exact ih (a + 1) (by omega) (by omega)
theorem cp117 {Q : Int32 → (Nat → Int64) → (Nat → Int64) → Prop} {t z : Nat → Int32} {it : Nat → Int64} {k j i b m : Nat} (hk : k < 4) (hj : j < 4) (hi : i + m ≤ 36) (hb : b + m ≤ 36) (h : ∀ mv : Nat → Int64, Q (nI m) (rowL it (36 * j + b) (fun a => it (36 * k + i + a)) m) mv) : ∀ n a (mv : Nat → Int64), a + n = m + 1 → a ≤ m → (∀ x, x < a → mv x = it (36 * k + i + x)) → wX3_copy_117 Q (nI k) (nI i) (nI j) (nI b) (nI m) t z it n (nI a) mv := by
  intro n
  induction n with
  | zero => intro a mv h1 h2; omega
  | succ n ih =>
    intro a mv h1 h2 h3
    unfold wX3_copy_117
    by_cases e : a = m
    · rw [e]
      refine sw1 (Int32.le_refl _) ⟨m + 1, ?_⟩
      have w := cp154 (Q := Q) (t := t) (z := z) (it := it) (mv := mv) hj hb (by
        rw [rowL_congr m (fun x hx => h3 x (by omega))]
        exact h mv) (m + 1) 0 (by omega) (by omega)
      rw [nI_0] at w
      exact w
    · refine sw0 (fun q => by have := (nI_leN (by omega) (by omega)).mp q; omega) ?_
      rw [show (36 : Int32) = nI 36 from rfl, nI_mulN, nI_add, nI_add]
      refine ⟨in_nI (by omega) (by decide), in_nI (by omega) (by decide), ?_⟩
      rw [clam_nI (by omega), clam_nI (by omega)]
      intro m2 e2 x ex
      rw [ex, nI_add1]
      refine ih (a + 1) m2 (by omega) (by omega) (fun y hy => ?_)
      rw [e2]
      by_cases e3 : y = a
      · rw [e3]
        exact updL_at
      · rw [updL_ne e3]
        exact h3 y (by omega)
theorem mCopyBad {Q : Int32 → (Nat → Int64) → (Nat → Int64) → Prop} {t z : Nat → Int32} {it mv : Nat → Int64} {x1 x2 x3 x4 x5 : Int32} (hb : ¬ ((0 ≤ x1 ∧ x1 ≤ 3) ∧ (0 ≤ x3 ∧ x3 ≤ 3))) (h : Q (-1) it mv) : wX3_copy Q t z it mv x1 x2 x3 x4 x5 := by
  unfold wX3_copy
  exact pX3_inI (lo := 0) (hi := 3) ⟨fun _ => h, fun q => pX3_inI (lo := 0) (hi := 3) ⟨fun _ => h, fun q2 => absurd ⟨b2_1 q, b2_1 q2⟩ hb⟩⟩
theorem mCopy11 {Q : Int32 → (Nat → Int64) → (Nat → Int64) → Prop} {t z : Nat → Int32} {it mv : Nat → Int64} {x2 x4 x5 : Int32} {k j : Nat} (hk : k < 4) (hj : j < 4) (hl_ : t k = -1 ∨ t j = -1) (h : Q (-11) it mv) : wX3_copy Q t z it mv (nI k) x2 (nI j) x4 x5 := by
  unfold wX3_copy
  refine pX3_inI (lo := 0) (hi := 3) ⟨fun q => absurd (s_nI hk) (b2_0 q), fun _ => pX3_inI (lo := 0) (hi := 3) ⟨fun q => absurd (s_nI hj) (b2_0 q), fun _ => ⟨in_nI hk (by decide), ?_⟩⟩⟩
  rw [clam_nI (k := k) (by omega), clam_nI (k := j) (by omega)]
  by_cases a : t k < 0
  · exact sw1 a h
  · refine sw0 a ⟨in_nI hj (by decide), sw0 ?_ h⟩
    rcases hl_ with e | e
    · exact absurd (by rw [e]; decide) a
    · rw [e]; decide
theorem mCopy12 {Q : Int32 → (Nat → Int64) → (Nat → Int64) → Prop} {t z : Nat → Int32} {it mv : Nat → Int64} {x2 x4 x5 : Int32} {k j : Nat} (hk : k < 4) (hj : j < 4) (a1 : 0 ≤ t k) (a2 : 0 ≤ t j) (a3 : t k ≠ t j) (h : Q (-12) it mv) : wX3_copy Q t z it mv (nI k) x2 (nI j) x4 x5 := by
  unfold wX3_copy
  refine pX3_inI (lo := 0) (hi := 3) ⟨fun q => absurd (s_nI hk) (b2_0 q), fun _ => pX3_inI (lo := 0) (hi := 3) ⟨fun q => absurd (s_nI hj) (b2_0 q), fun _ => ⟨in_nI hk (by decide), ?_⟩⟩⟩
  rw [clam_nI (k := k) (by omega), clam_nI (k := j) (by omega)]
  exact sw0 (Int32.not_lt.mpr a1) ⟨in_nI hj (by decide), sw1 a2 ⟨in_nI hk (by decide), in_nI hj (by decide), sw0 a3 h⟩⟩
theorem mCopy {Q : Int32 → (Nat → Int64) → (Nat → Int64) → Prop} {t z : Nat → Int32} {it mv : Nat → Int64} {x2 x4 x5 : Int32} {k j c rn rn2 : Nat} (hk : k < 4) (hj : j < 4) (hc : c < 4) (ht : t k = nI c) (ht2 : t j = nI c) (hz : z k = nI rn) (hz2 : z j = nI rn2) (hr : rn ≤ 36) (hr2 : rn2 ≤ 36) (h13 : ¬ cpOK x2 x4 x5 rn rn2 → Q (-13) it mv) (h0 : ∀ i b m, x2 = nI i → x4 = nI b → x5 = nI m → i + m ≤ rn → b + m ≤ rn2 → ∀ mv' : Nat → Int64, Q (nI m) (rowL it (36 * j + b) (fun a => it (36 * k + i + a)) m) mv') : wX3_copy Q t z it mv (nI k) x2 (nI j) x4 x5 := by
  unfold wX3_copy
  refine pX3_inI (lo := 0) (hi := 3) ⟨fun q => absurd (s_nI hk) (b2_0 q), fun _ => pX3_inI (lo := 0) (hi := 3) ⟨fun q => absurd (s_nI hj) (b2_0 q), fun _ => ⟨in_nI hk (by decide), ?_⟩⟩⟩
  rw [clam_nI (k := k) (by omega), clam_nI (k := j) (by omega), ht, ht2, hz, hz2]
  have n0 : (0 : Int32) ≤ nI c := (s_nI hc).1
  refine sw0 (Int32.not_lt.mpr n0) ⟨in_nI hj (by decide), sw1 n0 ⟨in_nI hk (by decide), in_nI hj (by decide), sw1 rfl ?_⟩⟩
  by_cases h5 : x5 < 0
  · refine sw1 h5 (h13 ?_)
    rintro ⟨i, b, m, -, -, e5, a1, -⟩
    rw [e5] at h5
    exact nIneg (by omega) h5
  · have w5 := nn h5
    refine sw0 h5 ⟨in_nI hk (by decide), pX3_in ⟨fun q => h13 (fun ok => b2_0 q ?_), fun q => ⟨in_nI hj (by decide), pX3_in ⟨fun q2 => h13 (fun ok => b2_0 q2 ?_), fun q2 => ?_⟩⟩⟩⟩
    · obtain ⟨i, b, m, e2, e4, e5, a1, a2⟩ := ok
      refine (rng64 hr h5).mpr ?_
      rw [e2, e5, toInt_nI (by omega), toInt_nI (by omega)]
      omega
    · obtain ⟨i, b, m, e2, e4, e5, a1, a2⟩ := ok
      refine (rng64 hr2 h5).mpr ?_
      rw [e4, e5, toInt_nI (by omega), toInt_nI (by omega)]
      omega
    · have r1 := (rng64 hr h5).mp (b2_1 q)
      have r2 := (rng64 hr2 h5).mp (b2_1 q2)
      have r3 := w5.1
      have n2 := nn (x := x2) (Int32.not_lt.mpr (Int32.le_iff_toInt_le.mpr (show (0 : Int32).toInt ≤ x2.toInt from r1.1)))
      have n4 := nn (x := x4) (Int32.not_lt.mpr (Int32.le_iff_toInt_le.mpr (show (0 : Int32).toInt ≤ x4.toInt from r2.1)))
      obtain ⟨i, ei⟩ : ∃ i : Nat, x2.toInt = i := ⟨x2.toInt.toNat, by omega⟩
      obtain ⟨b, eb⟩ : ∃ i : Nat, x4.toInt = i := ⟨x4.toInt.toNat, by omega⟩
      obtain ⟨m, em⟩ : ∃ i : Nat, x5.toInt = i := ⟨x5.toInt.toNat, by omega⟩
      have e2 : x2 = nI i := n2.2.trans (congrArg nI (by omega))
      have e4 : x4 = nI b := n4.2.trans (congrArg nI (by omega))
      have e5 : x5 = nI m := w5.2.trans (congrArg nI (by omega))
      have q0 := h0 i b m e2 e4 e5 (by omega) (by omega)
      have l1 : i + m ≤ 36 := by omega
      have l2 : b + m ≤ 36 := by omega
      refine ⟨m + 1, ?_⟩
      rw [e2, e4, e5]
      have w := cp117 (Q := Q) (t := t) (z := z) hk hj l1 l2 q0 (m + 1) 0 mv (by omega) (by omega) (fun x hx => absurd hx (Nat.not_lt_zero x))
      rw [nI_0] at w
      exact w
theorem cCp {A R : Prop} {shf : Nat → Option Nat} {hd hd2 k j : Nat} (hk : k < 4) (hj : j < 4) (hs : shf k = some hd) (hs2 : shf j = some hd2) (h : R) : wX0_isSheet (fun r_1 => ((r_1 = 0 → A) ∧ (¬ r_1 = 0 → (wX0_isSheet (fun r_8 => ((r_8 = 0 → A) ∧ (¬ r_8 = 0 → (vp_in (nI k) 4 ∧ (shf (nI k : Int32).toNatClampNeg) = some hd ∧ (vp_in (nI j) 4 ∧ (shf (nI j : Int32).toNatClampNeg) = some hd2 ∧ R))))) (nI j))))) (nI k) :=
  pSh ⟨fun q => absurd (s_nI hk) (b2_0 q), fun _ => pSh ⟨fun q => absurd (s_nI hj) (b2_0 q), fun _ => ⟨in_nI hk (by decide), by rw [clam_nI (by omega)]; exact hs, in_nI hj (by decide), by rw [clam_nI (by omega)]; exact hs2, h⟩⟩⟩
theorem oCopy_m {P : Int32 → Int32 → (Nat → Int64) → (Nat → Int64) → Prop} {t z : Nat → Int32} {it mv : Nat → Int64} {x1 x2 x3 x4 x5 : Int32} (hb : ¬ ((0 ≤ x1 ∧ x1 ≤ 3) ∧ (0 ≤ x3 ∧ x3 ≤ 3))) (h : P (-1) (-1) it mv) : wX0_copy_m (fun r => wX3_copy (fun r' i m => P r r' i m) t z it mv x1 x2 x3 x4 x5) x1 x2 x3 x4 x5 := by
  unfold wX0_copy_m
  exact pSh ⟨fun _ => mCopyBad hb h, fun q => pSh ⟨fun _ => mCopyBad hb h, fun q2 => absurd ⟨b2_1 q, b2_1 q2⟩ hb⟩⟩
theorem fits8 {v : Int32} (h : -128 ≤ v ∧ v ≤ 127) : fits .byte (.int v) = true := by
  simp [fits, h.1, h.2]
theorem fits16 {v : Int32} (h : -32768 ≤ v ∧ v ≤ 32767) : fits .short (.int v) = true := by
  simp [fits, h.1, h.2]
theorem oCopy_B {P : Int32 → (Nat → Int32) → Int32 → (Nat → Int64) → (Nat → Int64) → Prop} {t z : Nat → Int32} {it mv : Nat → Int64} {shf : Nat → Option Nat} {hd k rn : Nat} {rf : Nat → Int32} {x2 x4 x5 : Int32} (hk : k < 4) (hs : shf k = some hd) (ht : t k = nI 0) (hz : z k = nI rn) (hr : rn ≤ 36) (hF : ∀ i, -128 ≤ rf i ∧ rf i ≤ 127) (h13 : P (-13) rf (-13) it mv) (h0 : ∀ i b m (mv' : Nat → Int64), i + m ≤ rn → b + m ≤ rn → P (nI m) (va_cpy rf rf i b m) (nI m) (rowL it (36 * k + b) (fun a => it (36 * k + i + a)) m) mv') : wX0_copy_B (fun r f1 => wX3_copy (fun r' i m => P r f1 r' i m) t z it mv (nI k) x2 (nI k) x4 x5) shf hd rn rf (nI k) x2 (nI k) x4 x5 := by
  unfold wX0_copy_B
  refine cCp hk hk hs hs ?_
  by_cases ok : cpOK x2 x4 x5 rn rn
  · obtain ⟨i, b, m, e2, e4, e5, a1, a2⟩ := ok
    subst e2 e4 e5
    refine Or.inl ⟨nIneg (by omega), nIneg (by omega), nIneg (by omega), ?_⟩
    rw [clam_nI (k := i) (by omega), clam_nI (k := b) (by omega), clam_nI (k := m) (by omega)]
    refine ⟨a1, a2, fun i _ => fits8 (hF _), fun f1 e1 => ?_⟩
    subst e1
    refine mCopy hk hk (c := 0) (by decide) ht ht hz hz hr hr (fun no => absurd ⟨i, b, m, rfl, rfl, rfl, a1, a2⟩ no) (fun i2 b2 m2 e2 e4 e5 a3 a4 mv' => ?_)
    have e2 := (nI_inj (by omega) (by omega)).mp e2
    have e4 := (nI_inj (by omega) (by omega)).mp e4
    have e5 := (nI_inj (by omega) (by omega)).mp e5
    subst e2 e4 e5
    exact h0 _ _ _ _ a1 a2
  · refine Or.inr ⟨⟨cpNo ok, hr, hr⟩, ?_⟩
    exact mCopy hk hk (c := 0) (by decide) ht ht hz hz hr hr (fun _ => h13) (fun i b m e2 e4 e5 a1 a2 => absurd ⟨i, b, m, e2, e4, e5, a1, a2⟩ ok)
theorem oCopy_BB {P : Int32 → (Nat → Int32) → Int32 → (Nat → Int64) → (Nat → Int64) → Prop} {t z : Nat → Int32} {it mv : Nat → Int64} {shf : Nat → Option Nat} {hd k rn : Nat} {rf : Nat → Int32} {hd2 j rn2 : Nat} {rf2 : Nat → Int32} {x2 x4 x5 : Int32} (hk : k < 4) (hs : shf k = some hd) (ht : t k = nI 0) (hz : z k = nI rn) (hr : rn ≤ 36) (hj : j < 4) (hs2 : shf j = some hd2) (ht2 : t j = nI 0) (hz2 : z j = nI rn2) (hr2 : rn2 ≤ 36) (hF : ∀ i, -128 ≤ rf i ∧ rf i ≤ 127) (h13 : P (-13) rf2 (-13) it mv) (h0 : ∀ i b m (mv' : Nat → Int64), i + m ≤ rn → b + m ≤ rn2 → P (nI m) (va_cpy rf rf2 i b m) (nI m) (rowL it (36 * j + b) (fun a => it (36 * k + i + a)) m) mv') : wX0_copy_BB (fun r f1 => wX3_copy (fun r' i m => P r f1 r' i m) t z it mv (nI k) x2 (nI j) x4 x5) shf hd rn rf hd2 rn2 rf2 (nI k) x2 (nI j) x4 x5 := by
  unfold wX0_copy_BB
  refine cCp hk hj hs hs2 ?_
  by_cases ok : cpOK x2 x4 x5 rn rn2
  · obtain ⟨i, b, m, e2, e4, e5, a1, a2⟩ := ok
    subst e2 e4 e5
    refine Or.inl ⟨nIneg (by omega), nIneg (by omega), nIneg (by omega), ?_⟩
    rw [clam_nI (k := i) (by omega), clam_nI (k := b) (by omega), clam_nI (k := m) (by omega)]
    refine ⟨a1, a2, fun i _ => fits8 (hF _), fun f1 e1 => ?_⟩
    subst e1
    refine mCopy hk hj (c := 0) (by decide) ht ht2 hz hz2 hr hr2 (fun no => absurd ⟨i, b, m, rfl, rfl, rfl, a1, a2⟩ no) (fun i2 b2 m2 e2 e4 e5 a3 a4 mv' => ?_)
    have e2 := (nI_inj (by omega) (by omega)).mp e2
    have e4 := (nI_inj (by omega) (by omega)).mp e4
    have e5 := (nI_inj (by omega) (by omega)).mp e5
    subst e2 e4 e5
    exact h0 _ _ _ _ a1 a2
  · refine Or.inr ⟨⟨cpNo ok, hr, hr2⟩, ?_⟩
    exact mCopy hk hj (c := 0) (by decide) ht ht2 hz hz2 hr hr2 (fun _ => h13) (fun i b m e2 e4 e5 a1 a2 => absurd ⟨i, b, m, e2, e4, e5, a1, a2⟩ ok)
theorem oCopy_S {P : Int32 → (Nat → Int32) → Int32 → (Nat → Int64) → (Nat → Int64) → Prop} {t z : Nat → Int32} {it mv : Nat → Int64} {shf : Nat → Option Nat} {hd k rn : Nat} {rf : Nat → Int32} {x2 x4 x5 : Int32} (hk : k < 4) (hs : shf k = some hd) (ht : t k = nI 1) (hz : z k = nI rn) (hr : rn ≤ 36) (hF : ∀ i, -32768 ≤ rf i ∧ rf i ≤ 32767) (h13 : P (-13) rf (-13) it mv) (h0 : ∀ i b m (mv' : Nat → Int64), i + m ≤ rn → b + m ≤ rn → P (nI m) (va_cpy rf rf i b m) (nI m) (rowL it (36 * k + b) (fun a => it (36 * k + i + a)) m) mv') : wX0_copy_S (fun r f1 => wX3_copy (fun r' i m => P r f1 r' i m) t z it mv (nI k) x2 (nI k) x4 x5) shf hd rn rf (nI k) x2 (nI k) x4 x5 := by
  unfold wX0_copy_S
  refine cCp hk hk hs hs ?_
  by_cases ok : cpOK x2 x4 x5 rn rn
  · obtain ⟨i, b, m, e2, e4, e5, a1, a2⟩ := ok
    subst e2 e4 e5
    refine Or.inl ⟨nIneg (by omega), nIneg (by omega), nIneg (by omega), ?_⟩
    rw [clam_nI (k := i) (by omega), clam_nI (k := b) (by omega), clam_nI (k := m) (by omega)]
    refine ⟨a1, a2, fun i _ => fits16 (hF _), fun f1 e1 => ?_⟩
    subst e1
    refine mCopy hk hk (c := 1) (by decide) ht ht hz hz hr hr (fun no => absurd ⟨i, b, m, rfl, rfl, rfl, a1, a2⟩ no) (fun i2 b2 m2 e2 e4 e5 a3 a4 mv' => ?_)
    have e2 := (nI_inj (by omega) (by omega)).mp e2
    have e4 := (nI_inj (by omega) (by omega)).mp e4
    have e5 := (nI_inj (by omega) (by omega)).mp e5
    subst e2 e4 e5
    exact h0 _ _ _ _ a1 a2
  · refine Or.inr ⟨⟨cpNo ok, hr, hr⟩, ?_⟩
    exact mCopy hk hk (c := 1) (by decide) ht ht hz hz hr hr (fun _ => h13) (fun i b m e2 e4 e5 a1 a2 => absurd ⟨i, b, m, e2, e4, e5, a1, a2⟩ ok)
theorem oCopy_SS {P : Int32 → (Nat → Int32) → Int32 → (Nat → Int64) → (Nat → Int64) → Prop} {t z : Nat → Int32} {it mv : Nat → Int64} {shf : Nat → Option Nat} {hd k rn : Nat} {rf : Nat → Int32} {hd2 j rn2 : Nat} {rf2 : Nat → Int32} {x2 x4 x5 : Int32} (hk : k < 4) (hs : shf k = some hd) (ht : t k = nI 1) (hz : z k = nI rn) (hr : rn ≤ 36) (hj : j < 4) (hs2 : shf j = some hd2) (ht2 : t j = nI 1) (hz2 : z j = nI rn2) (hr2 : rn2 ≤ 36) (hF : ∀ i, -32768 ≤ rf i ∧ rf i ≤ 32767) (h13 : P (-13) rf2 (-13) it mv) (h0 : ∀ i b m (mv' : Nat → Int64), i + m ≤ rn → b + m ≤ rn2 → P (nI m) (va_cpy rf rf2 i b m) (nI m) (rowL it (36 * j + b) (fun a => it (36 * k + i + a)) m) mv') : wX0_copy_SS (fun r f1 => wX3_copy (fun r' i m => P r f1 r' i m) t z it mv (nI k) x2 (nI j) x4 x5) shf hd rn rf hd2 rn2 rf2 (nI k) x2 (nI j) x4 x5 := by
  unfold wX0_copy_SS
  refine cCp hk hj hs hs2 ?_
  by_cases ok : cpOK x2 x4 x5 rn rn2
  · obtain ⟨i, b, m, e2, e4, e5, a1, a2⟩ := ok
    subst e2 e4 e5
    refine Or.inl ⟨nIneg (by omega), nIneg (by omega), nIneg (by omega), ?_⟩
    rw [clam_nI (k := i) (by omega), clam_nI (k := b) (by omega), clam_nI (k := m) (by omega)]
    refine ⟨a1, a2, fun i _ => fits16 (hF _), fun f1 e1 => ?_⟩
    subst e1
    refine mCopy hk hj (c := 1) (by decide) ht ht2 hz hz2 hr hr2 (fun no => absurd ⟨i, b, m, rfl, rfl, rfl, a1, a2⟩ no) (fun i2 b2 m2 e2 e4 e5 a3 a4 mv' => ?_)
    have e2 := (nI_inj (by omega) (by omega)).mp e2
    have e4 := (nI_inj (by omega) (by omega)).mp e4
    have e5 := (nI_inj (by omega) (by omega)).mp e5
    subst e2 e4 e5
    exact h0 _ _ _ _ a1 a2
  · refine Or.inr ⟨⟨cpNo ok, hr, hr2⟩, ?_⟩
    exact mCopy hk hj (c := 1) (by decide) ht ht2 hz hz2 hr hr2 (fun _ => h13) (fun i b m e2 e4 e5 a1 a2 => absurd ⟨i, b, m, e2, e4, e5, a1, a2⟩ ok)
theorem oCopy_I {P : Int32 → (Nat → Int32) → Int32 → (Nat → Int64) → (Nat → Int64) → Prop} {t z : Nat → Int32} {it mv : Nat → Int64} {shf : Nat → Option Nat} {hd k rn : Nat} {rf : Nat → Int32} {x2 x4 x5 : Int32} (hk : k < 4) (hs : shf k = some hd) (ht : t k = nI 2) (hz : z k = nI rn) (hr : rn ≤ 36) (h13 : P (-13) rf (-13) it mv) (h0 : ∀ i b m (mv' : Nat → Int64), i + m ≤ rn → b + m ≤ rn → P (nI m) (va_cpy rf rf i b m) (nI m) (rowL it (36 * k + b) (fun a => it (36 * k + i + a)) m) mv') : wX0_copy_I (fun r f1 => wX3_copy (fun r' i m => P r f1 r' i m) t z it mv (nI k) x2 (nI k) x4 x5) shf hd rn rf (nI k) x2 (nI k) x4 x5 := by
  unfold wX0_copy_I
  refine cCp hk hk hs hs ?_
  by_cases ok : cpOK x2 x4 x5 rn rn
  · obtain ⟨i, b, m, e2, e4, e5, a1, a2⟩ := ok
    subst e2 e4 e5
    refine Or.inl ⟨nIneg (by omega), nIneg (by omega), nIneg (by omega), ?_⟩
    rw [clam_nI (k := i) (by omega), clam_nI (k := b) (by omega), clam_nI (k := m) (by omega)]
    refine ⟨a1, a2, fun f1 e1 => ?_⟩
    subst e1
    refine mCopy hk hk (c := 2) (by decide) ht ht hz hz hr hr (fun no => absurd ⟨i, b, m, rfl, rfl, rfl, a1, a2⟩ no) (fun i2 b2 m2 e2 e4 e5 a3 a4 mv' => ?_)
    have e2 := (nI_inj (by omega) (by omega)).mp e2
    have e4 := (nI_inj (by omega) (by omega)).mp e4
    have e5 := (nI_inj (by omega) (by omega)).mp e5
    subst e2 e4 e5
    exact h0 _ _ _ _ a1 a2
  · refine Or.inr ⟨⟨cpNo ok, hr, hr⟩, ?_⟩
    exact mCopy hk hk (c := 2) (by decide) ht ht hz hz hr hr (fun _ => h13) (fun i b m e2 e4 e5 a1 a2 => absurd ⟨i, b, m, e2, e4, e5, a1, a2⟩ ok)
theorem oCopy_II {P : Int32 → (Nat → Int32) → Int32 → (Nat → Int64) → (Nat → Int64) → Prop} {t z : Nat → Int32} {it mv : Nat → Int64} {shf : Nat → Option Nat} {hd k rn : Nat} {rf : Nat → Int32} {hd2 j rn2 : Nat} {rf2 : Nat → Int32} {x2 x4 x5 : Int32} (hk : k < 4) (hs : shf k = some hd) (ht : t k = nI 2) (hz : z k = nI rn) (hr : rn ≤ 36) (hj : j < 4) (hs2 : shf j = some hd2) (ht2 : t j = nI 2) (hz2 : z j = nI rn2) (hr2 : rn2 ≤ 36) (h13 : P (-13) rf2 (-13) it mv) (h0 : ∀ i b m (mv' : Nat → Int64), i + m ≤ rn → b + m ≤ rn2 → P (nI m) (va_cpy rf rf2 i b m) (nI m) (rowL it (36 * j + b) (fun a => it (36 * k + i + a)) m) mv') : wX0_copy_II (fun r f1 => wX3_copy (fun r' i m => P r f1 r' i m) t z it mv (nI k) x2 (nI j) x4 x5) shf hd rn rf hd2 rn2 rf2 (nI k) x2 (nI j) x4 x5 := by
  unfold wX0_copy_II
  refine cCp hk hj hs hs2 ?_
  by_cases ok : cpOK x2 x4 x5 rn rn2
  · obtain ⟨i, b, m, e2, e4, e5, a1, a2⟩ := ok
    subst e2 e4 e5
    refine Or.inl ⟨nIneg (by omega), nIneg (by omega), nIneg (by omega), ?_⟩
    rw [clam_nI (k := i) (by omega), clam_nI (k := b) (by omega), clam_nI (k := m) (by omega)]
    refine ⟨a1, a2, fun f1 e1 => ?_⟩
    subst e1
    refine mCopy hk hj (c := 2) (by decide) ht ht2 hz hz2 hr hr2 (fun no => absurd ⟨i, b, m, rfl, rfl, rfl, a1, a2⟩ no) (fun i2 b2 m2 e2 e4 e5 a3 a4 mv' => ?_)
    have e2 := (nI_inj (by omega) (by omega)).mp e2
    have e4 := (nI_inj (by omega) (by omega)).mp e4
    have e5 := (nI_inj (by omega) (by omega)).mp e5
    subst e2 e4 e5
    exact h0 _ _ _ _ a1 a2
  · refine Or.inr ⟨⟨cpNo ok, hr, hr2⟩, ?_⟩
    exact mCopy hk hj (c := 2) (by decide) ht ht2 hz hz2 hr hr2 (fun _ => h13) (fun i b m e2 e4 e5 a1 a2 => absurd ⟨i, b, m, e2, e4, e5, a1, a2⟩ ok)
theorem oCopy_J {P : Int32 → (Nat → Int64) → Int32 → (Nat → Int64) → (Nat → Int64) → Prop} {t z : Nat → Int32} {it mv : Nat → Int64} {shf : Nat → Option Nat} {hd k rn : Nat} {rf : Nat → Int64} {x2 x4 x5 : Int32} (hk : k < 4) (hs : shf k = some hd) (ht : t k = nI 3) (hz : z k = nI rn) (hr : rn ≤ 36) (h13 : P (-13) rf (-13) it mv) (h0 : ∀ i b m (mv' : Nat → Int64), i + m ≤ rn → b + m ≤ rn → P (nI m) (va_cpy rf rf i b m) (nI m) (rowL it (36 * k + b) (fun a => it (36 * k + i + a)) m) mv') : wX0_copy_J (fun r f1 => wX3_copy (fun r' i m => P r f1 r' i m) t z it mv (nI k) x2 (nI k) x4 x5) shf hd rn rf (nI k) x2 (nI k) x4 x5 := by
  unfold wX0_copy_J
  refine cCp hk hk hs hs ?_
  by_cases ok : cpOK x2 x4 x5 rn rn
  · obtain ⟨i, b, m, e2, e4, e5, a1, a2⟩ := ok
    subst e2 e4 e5
    refine Or.inl ⟨nIneg (by omega), nIneg (by omega), nIneg (by omega), ?_⟩
    rw [clam_nI (k := i) (by omega), clam_nI (k := b) (by omega), clam_nI (k := m) (by omega)]
    refine ⟨a1, a2, fun f1 e1 => ?_⟩
    subst e1
    refine mCopy hk hk (c := 3) (by decide) ht ht hz hz hr hr (fun no => absurd ⟨i, b, m, rfl, rfl, rfl, a1, a2⟩ no) (fun i2 b2 m2 e2 e4 e5 a3 a4 mv' => ?_)
    have e2 := (nI_inj (by omega) (by omega)).mp e2
    have e4 := (nI_inj (by omega) (by omega)).mp e4
    have e5 := (nI_inj (by omega) (by omega)).mp e5
    subst e2 e4 e5
    exact h0 _ _ _ _ a1 a2
  · refine Or.inr ⟨⟨cpNo ok, hr, hr⟩, ?_⟩
    exact mCopy hk hk (c := 3) (by decide) ht ht hz hz hr hr (fun _ => h13) (fun i b m e2 e4 e5 a1 a2 => absurd ⟨i, b, m, e2, e4, e5, a1, a2⟩ ok)
theorem oCopy_JJ {P : Int32 → (Nat → Int64) → Int32 → (Nat → Int64) → (Nat → Int64) → Prop} {t z : Nat → Int32} {it mv : Nat → Int64} {shf : Nat → Option Nat} {hd k rn : Nat} {rf : Nat → Int64} {hd2 j rn2 : Nat} {rf2 : Nat → Int64} {x2 x4 x5 : Int32} (hk : k < 4) (hs : shf k = some hd) (ht : t k = nI 3) (hz : z k = nI rn) (hr : rn ≤ 36) (hj : j < 4) (hs2 : shf j = some hd2) (ht2 : t j = nI 3) (hz2 : z j = nI rn2) (hr2 : rn2 ≤ 36) (h13 : P (-13) rf2 (-13) it mv) (h0 : ∀ i b m (mv' : Nat → Int64), i + m ≤ rn → b + m ≤ rn2 → P (nI m) (va_cpy rf rf2 i b m) (nI m) (rowL it (36 * j + b) (fun a => it (36 * k + i + a)) m) mv') : wX0_copy_JJ (fun r f1 => wX3_copy (fun r' i m => P r f1 r' i m) t z it mv (nI k) x2 (nI j) x4 x5) shf hd rn rf hd2 rn2 rf2 (nI k) x2 (nI j) x4 x5 := by
  unfold wX0_copy_JJ
  refine cCp hk hj hs hs2 ?_
  by_cases ok : cpOK x2 x4 x5 rn rn2
  · obtain ⟨i, b, m, e2, e4, e5, a1, a2⟩ := ok
    subst e2 e4 e5
    refine Or.inl ⟨nIneg (by omega), nIneg (by omega), nIneg (by omega), ?_⟩
    rw [clam_nI (k := i) (by omega), clam_nI (k := b) (by omega), clam_nI (k := m) (by omega)]
    refine ⟨a1, a2, fun f1 e1 => ?_⟩
    subst e1
    refine mCopy hk hj (c := 3) (by decide) ht ht2 hz hz2 hr hr2 (fun no => absurd ⟨i, b, m, rfl, rfl, rfl, a1, a2⟩ no) (fun i2 b2 m2 e2 e4 e5 a3 a4 mv' => ?_)
    have e2 := (nI_inj (by omega) (by omega)).mp e2
    have e4 := (nI_inj (by omega) (by omega)).mp e4
    have e5 := (nI_inj (by omega) (by omega)).mp e5
    subst e2 e4 e5
    exact h0 _ _ _ _ a1 a2
  · refine Or.inr ⟨⟨cpNo ok, hr, hr2⟩, ?_⟩
    exact mCopy hk hj (c := 3) (by decide) ht ht2 hz hz2 hr hr2 (fun _ => h13) (fun i b m e2 e4 e5 a1 a2 => absurd ⟨i, b, m, e2, e4, e5, a1, a2⟩ ok)
