theorem mLayBad {Q : Int32 → (Nat → Int32) → Int64 → Int32 → Prop} {g : Nat → Int32} {ro : Int64} {um : Int32} {t z : Nat → Int32} {it : Nat → Int64} {x1 x2 x3 x4 x5 : Int32} (hb : ¬ (isC x1 ∧ ((0 ≤ x2 ∧ x2 ≤ 3) ∧ (0 ≤ x3 ∧ x3 ≤ 3)) ∧ (1 ≤ x5 ∧ x5 ≤ 36 - x1))) (h : Q (-1) g ro um) : wX3_lay Q g ro um t z it x1 x2 x3 x4 x5 := by
  unfold wX3_lay
  refine pX3_isCell ⟨fun _ => h, fun q => p3Sh ⟨fun _ => h, fun q2 => pX3_inI (lo := 1) (hi := 36 - x1) ⟨fun _ => h, fun q3 => absurd ⟨b2_1 q, b2_1 q2, b2_1 q3⟩ hb⟩⟩⟩
theorem mLayNo {Q : Int32 → (Nat → Int32) → Int64 → Int32 → Prop} {g : Nat → Int32} {ro : Int64} {um r x1 x5 x7 : Int32} {t z : Nat → Int32} {it : Nat → Int64} (hr : ¬ 0 ≤ r) (h : Q r g ro um) : ∃ fu, wX3_lay_56 Q x1 x5 x7 g ro um t z it fu r 0 := by
  refine ⟨1, ?_⟩
  unfold wX3_lay_56
  have f : wX3_lay_102 Q x1 x5 r x7 g ro um t z it := by
    unfold wX3_lay_102
    exact sw0 hr h
  exact ⟨fun _ => f, fun _ => sw0 (fun e => hr (by rw [e]; decide)) f⟩
theorem mLayGo {Q : Int32 → (Nat → Int32) → Int64 → Int32 → Prop} {g : Nat → Int32} {ro : Int64} {um : Int32} {t z : Nat → Int32} {it : Nat → Int64} {c k m : Nat} {y w : Int32} (hc : c < 36) (hk : k < 4) (hy : 0 ≤ y ∧ y ≤ 3) (h1 : 1 ≤ m) (hm : c + m ≤ 36) (h : wX3_lacksRow (fun r => ∀ x7 : Int32, x7 = ((36 * nI k) + w) → (∃ fu : Nat, wX3_lay_56 Q (nI c) (nI m) x7 g ro um t z it fu r 0)) t z (nI k) y w (nI m)) : wX3_lay Q g ro um t z it (nI c) (nI k) y w (nI m) := by
  unfold wX3_lay
  refine pX3_isCell ⟨fun q => absurd (isC_nI hc) (b2_0 q), fun _ => p3Sh ⟨fun q => absurd ⟨s_nI hk, hy⟩ (b2_0 q), fun _ => ?_⟩⟩
  refine pX3_inI (lo := 1) (hi := 36 - nI c) ⟨fun q => absurd ⟨(nI_leN (a := 1) (by decide) (by omega)).mpr h1, ?_⟩ (b2_0 q), fun _ => h⟩
  rw [show (36 : Int32) = nI 36 from rfl, nI_subN (by omega)]
  exact (nI_leN (by omega) (by omega)).mpr (by omega)
theorem oLay_Be {P : Int32 → (Nat → Int32) → Int64 → (Nat → Int64) → Int32 → Int32 → Int32 → (Nat → Int32) → Int64 → Int32 → Prop} {g g' : Nat → Int32} {ro : Int64} {umc um : Int32} {t z : Nat → Int32} {it tk : Nat → Int64} {shf : Nat → Option Nat} {hd k rn : Nat} {rf : Nat → Int32} {x1 x2 x3 x4 x5 : Int32} (gD : okD g) (gA : agree 36 g g') (hsm : small ro) (hk : k < 4) (hx : (0 ≤ x2 ∧ x2 ≤ 3) → x2 = nI k) (hs : shf k = some hd) (hl : t k = nI 0) (hz : z k = nI rn) (hr : rn ≤ 36) (hit : ∀ i, i < rn → it (36 * k + i) = (rf i).toInt64) (hb : ∀ r tk1, P r g ro tk1 umc (nI 0) r g' ro um) (h : ∀ (r mc1 : Int32) (tk1 : Nat → Int64) (g1 g1' : Nat → Int32) (r1 : Int64), okD g1 → agree 36 g1 g1' → small r1 → P r g1 r1 tk1 mc1 0 r g1' r1 0) : wX0_lay_Be (fun r a b e mc sz => wX3_lay (fun r' a' b' um' => P r a b e mc sz r' a' b' um') g' ro um t z it x1 x2 x3 x4 x5) g ro tk umc (nI 0) shf hd rn rf x1 x2 x3 x4 x5 := by
  unfold wX0_lay_Be
  refine pX0_isCell ⟨fun q => mLayBad (fun a => b2_0 q a.1) (hb _ _), fun q => pSh ⟨fun q2 => mLayBad (fun a => b2_0 q2 a.2.1.1) (hb _ _), fun q2 => pLn ⟨fun q3 => mLayBad (fun a => b2_0 q3 a.2.1.2) (hb _ _), fun q3 => pX0_inI (lo := 1) (hi := 36 - x1) ⟨fun q4 => mLayBad (fun a => b2_0 q4 a.2.2) (hb _ _), fun q4 => ?_⟩⟩⟩⟩
  obtain ⟨c, hc, e1⟩ := isC_ex (b2_1 q)
  have e2 := hx (b2_1 q2)
  have hy := b2_1 q3
  have h5 := b2_1 q4
  subst e1 e2
  rw [show (36 : Int32) = nI 36 from rfl, nI_subN (by omega)] at h5
  obtain ⟨m, hm, e5⟩ := nI_ofN (n := 36 - c) (Int32.le_trans (by decide) h5.1) h5.2 (by omega)
  subst e5
  have h1 : 1 ≤ m := (nI_leN (a := 1) (by decide) (by omega)).mp h5.1
  refine pRef_B hk hs hr (by omega) hy (fun e => sw0 (by decide) ?_) (fun e ew => sw0 (by decide) ?_) (fun e i hi ew tk' htk => sw1 (by decide) ⟨m + 1, ?_⟩)
  · exact mLayGo hc hk hy h1 (by omega) (mLacks hk (fun _ a => absurd (by rw [hl]; decide) (Int32.not_le.mpr a)) (fun _ _ x7 _ => mLayNo (by decide) (hb _ _)) (fun a _ => absurd (by rw [← a, hl]) e) (fun a _ => absurd (by rw [← a, hl]) e))
  · exact mLayGo hc hk hy h1 (by omega) (mLacks hk (fun a _ => absurd (hl.trans e.symm) a) (fun a _ => absurd (hl.trans e.symm) a) (fun _ _ x7 _ => mLayNo (by decide) (hb _ _)) (fun _ a => absurd (by rw [← hz]; exact a) ew))
  · subst e ew
    have eq : ∀ j, j < m → it (36 * k + i + j) = tk' j := fun j hj => by rw [Nat.add_assoc, hit (i + j) (by omega), htk j hj]
    have go : ∀ Q' : Int32 → (Nat → Int32) → Int64 → Int32 → Prop, ((∃ j, j < m ∧ ¬ okV (tk' j)) → Q' (-2) g' ro um) → ((∀ j, j < m → okV (tk' j)) → Q' (nI m) (layG g' c (fun j => it (36 * k + i + j)) m) (layR ro c (fun j => it (36 * k + i + j)) m) 0) → wX3_lay Q' g' ro um t z it (nI c) (nI k) (nI 0) (nI i) (nI m) := by
      intro Q' b1 b2
      refine mLayGo hc hk hy h1 (by omega) (mLacks hk (fun a _ => absurd hl a) (fun a _ => absurd hl a) (fun _ a => absurd (by rw [hz]; exact (row_n hr (by omega)).mpr ⟨i, hi, rfl⟩) a) (fun _ _ x7 e7 => ⟨m + 2, ?_⟩))
      rw [show (36 : Int32) = nI 36 from rfl, nI_mulN, nI_add] at e7
      subst e7
      have := mLay56 (Q := Q') (g := g') (ro := ro) (um := um) (t := t) (z := z) (it := it) (c := c) (m := m) (a := 36 * k + i) (by omega) (by omega) (fun ⟨j, a1, a2⟩ => b1 ⟨j, a1, by rw [← eq j a1]; exact a2⟩) (fun a => b2 (fun j hj => by rw [← eq j hj]; exact a j hj)) (m + 2) 0 (by omega) (by omega) (fun i hi => absurd hi (Nat.not_lt_zero i))
      rw [nI_0] at this
      exact this
    have := c61_Be (Q := fun r a b e mc sz => wX3_lay (fun r' a' b' um' => P r a b e mc sz r' a' b' um') g' ro um t z it (nI c) (nI k) (nI 0) (nI i) (nI m)) (g := g) (ro := ro) (umc := umc) (shf := shf) (hd := hd) (rn := rn) (kc := 3) (ks := 500) (rf := rf) (tk := tk') (c := c) (m := m) (by omega) (fun a => go _ (fun _ => hb _ _) (fun a2 => by obtain ⟨j, b1, b2⟩ := a; exact absurd (a2 j b1) b2)) (fun a => fun mc1 => go _ (fun ⟨j, b1, b2⟩ => absurd (a j b1) b2) (fun _ => by
        obtain ⟨w1, w2⟩ := layG_ok (c := c) (v := tk') (v' := fun j => it (36 * k + i + j)) gD gA m (by omega) a eq
        rw [layR_eq (v := tk') m eq]
        exact h _ _ _ _ _ _ w1 w2 (layR_small hsm m))) (m + 1) 0 (by omega) (by omega) (fun i hi => absurd hi (Nat.not_lt_zero i))
    rw [nI_0] at this
    exact this
theorem oLay_Br {P : Int32 → (Nat → Int32) → Int64 → (Nat → Int64) → Int32 → Int32 → (Nat → Option Nat) → Int32 → (Nat → Int32) → Int64 → Int32 → Prop} {g g' : Nat → Int32} {ro : Int64} {umc um : Int32} {uf : Nat → Option Nat} {t z : Nat → Int32} {it tk : Nat → Int64} {shf : Nat → Option Nat} {hd k rn : Nat} {rf : Nat → Int32} {x1 x2 x3 x4 x5 : Int32} {nz : Nat} (hnz : nz ≤ 10) (gD : okD g) (gA : agree 36 g g') (hsm : small ro) (hk : k < 4) (hx : (0 ≤ x2 ∧ x2 ≤ 3) → x2 = nI k) (hs : shf k = some hd) (hl : t k = nI 0) (hz : z k = nI rn) (hr : rn ≤ 36) (hit : ∀ i, i < rn → it (36 * k + i) = (rf i).toInt64) (hb : ∀ r tk1, P r g ro tk1 umc (nI nz) uf r g' ro um) (h : ∀ (r mc1 : Int32) (tk1 : Nat → Int64) (g1 g1' : Nat → Int32) (r1 : Int64) (f1 : Nat → Option Nat), okD g1 → agree 36 g1 g1' → small r1 → (∀ j, f1 j = none ∨ f1 j = uf j) → P r g1 r1 tk1 mc1 0 f1 r g1' r1 0) : wX0_lay_Br (fun r a b e mc sz f => wX3_lay (fun r' a' b' um' => P r a b e mc sz f r' a' b' um') g' ro um t z it x1 x2 x3 x4 x5) g ro tk umc (nI nz) uf shf hd rn rf x1 x2 x3 x4 x5 := by
  unfold wX0_lay_Br
  refine pX0_isCell ⟨fun q => mLayBad (fun a => b2_0 q a.1) (hb _ _), fun q => pSh ⟨fun q2 => mLayBad (fun a => b2_0 q2 a.2.1.1) (hb _ _), fun q2 => pLn ⟨fun q3 => mLayBad (fun a => b2_0 q3 a.2.1.2) (hb _ _), fun q3 => pX0_inI (lo := 1) (hi := 36 - x1) ⟨fun q4 => mLayBad (fun a => b2_0 q4 a.2.2) (hb _ _), fun q4 => ?_⟩⟩⟩⟩
  obtain ⟨c, hc, e1⟩ := isC_ex (b2_1 q)
  have e2 := hx (b2_1 q2)
  have hy := b2_1 q3
  have h5 := b2_1 q4
  subst e1 e2
  rw [show (36 : Int32) = nI 36 from rfl, nI_subN (by omega)] at h5
  obtain ⟨m, hm, e5⟩ := nI_ofN (n := 36 - c) (Int32.le_trans (by decide) h5.1) h5.2 (by omega)
  subst e5
  have h1 : 1 ≤ m := (nI_leN (a := 1) (by decide) (by omega)).mp h5.1
  refine pRef_B hk hs hr (by omega) hy (fun e => sw0 (by decide) ?_) (fun e ew => sw0 (by decide) ?_) (fun e i hi ew tk' htk => sw1 (by decide) ⟨m + 1, ?_⟩)
  · exact mLayGo hc hk hy h1 (by omega) (mLacks hk (fun _ a => absurd (by rw [hl]; decide) (Int32.not_le.mpr a)) (fun _ _ x7 _ => mLayNo (by decide) (hb _ _)) (fun a _ => absurd (by rw [← a, hl]) e) (fun a _ => absurd (by rw [← a, hl]) e))
  · exact mLayGo hc hk hy h1 (by omega) (mLacks hk (fun a _ => absurd (hl.trans e.symm) a) (fun a _ => absurd (hl.trans e.symm) a) (fun _ _ x7 _ => mLayNo (by decide) (hb _ _)) (fun _ a => absurd (by rw [← hz]; exact a) ew))
  · subst e ew
    have eq : ∀ j, j < m → it (36 * k + i + j) = tk' j := fun j hj => by rw [Nat.add_assoc, hit (i + j) (by omega), htk j hj]
    have go : ∀ Q' : Int32 → (Nat → Int32) → Int64 → Int32 → Prop, ((∃ j, j < m ∧ ¬ okV (tk' j)) → Q' (-2) g' ro um) → ((∀ j, j < m → okV (tk' j)) → Q' (nI m) (layG g' c (fun j => it (36 * k + i + j)) m) (layR ro c (fun j => it (36 * k + i + j)) m) 0) → wX3_lay Q' g' ro um t z it (nI c) (nI k) (nI 0) (nI i) (nI m) := by
      intro Q' b1 b2
      refine mLayGo hc hk hy h1 (by omega) (mLacks hk (fun a _ => absurd hl a) (fun a _ => absurd hl a) (fun _ a => absurd (by rw [hz]; exact (row_n hr (by omega)).mpr ⟨i, hi, rfl⟩) a) (fun _ _ x7 e7 => ⟨m + 2, ?_⟩))
      rw [show (36 : Int32) = nI 36 from rfl, nI_mulN, nI_add] at e7
      subst e7
      have := mLay56 (Q := Q') (g := g') (ro := ro) (um := um) (t := t) (z := z) (it := it) (c := c) (m := m) (a := 36 * k + i) (by omega) (by omega) (fun ⟨j, a1, a2⟩ => b1 ⟨j, a1, by rw [← eq j a1]; exact a2⟩) (fun a => b2 (fun j hj => by rw [← eq j hj]; exact a j hj)) (m + 2) 0 (by omega) (by omega) (fun i hi => absurd hi (Nat.not_lt_zero i))
      rw [nI_0] at this
      exact this
    have := c61_Br (Q := fun r a b e mc sz f => wX3_lay (fun r' a' b' um' => P r a b e mc sz f r' a' b' um') g' ro um t z it (nI c) (nI k) (nI 0) (nI i) (nI m)) (g := g) (ro := ro) (umc := umc) (shf := shf) (hd := hd) (rn := rn) (kc := 3) (ks := 500) (rf := rf) (tk := tk') (uf := uf) hnz (c := c) (m := m) (by omega) (fun a => go _ (fun _ => hb _ _) (fun a2 => by obtain ⟨j, b1, b2⟩ := a; exact absurd (a2 j b1) b2)) (fun a => fun mc1 f1 hf1 => go _ (fun ⟨j, b1, b2⟩ => absurd (a j b1) b2) (fun _ => by
        obtain ⟨w1, w2⟩ := layG_ok (c := c) (v := tk') (v' := fun j => it (36 * k + i + j)) gD gA m (by omega) a eq
        rw [layR_eq (v := tk') m eq]
        exact h _ _ _ _ _ _ _ w1 w2 (layR_small hsm m) hf1)) (m + 1) 0 (by omega) (by omega) (fun i hi => absurd hi (Nat.not_lt_zero i))
    rw [nI_0] at this
    exact this
theorem oLay_Se {P : Int32 → (Nat → Int32) → Int64 → (Nat → Int64) → Int32 → Int32 → Int32 → (Nat → Int32) → Int64 → Int32 → Prop} {g g' : Nat → Int32} {ro : Int64} {umc um : Int32} {t z : Nat → Int32} {it tk : Nat → Int64} {shf : Nat → Option Nat} {hd k rn : Nat} {rf : Nat → Int32} {x1 x2 x3 x4 x5 : Int32} (gD : okD g) (gA : agree 36 g g') (hsm : small ro) (hk : k < 4) (hx : (0 ≤ x2 ∧ x2 ≤ 3) → x2 = nI k) (hs : shf k = some hd) (hl : t k = nI 1) (hz : z k = nI rn) (hr : rn ≤ 36) (hit : ∀ i, i < rn → it (36 * k + i) = (rf i).toInt64) (hb : ∀ r tk1, P r g ro tk1 umc (nI 0) r g' ro um) (h : ∀ (r mc1 : Int32) (tk1 : Nat → Int64) (g1 g1' : Nat → Int32) (r1 : Int64), okD g1 → agree 36 g1 g1' → small r1 → P r g1 r1 tk1 mc1 0 r g1' r1 0) : wX0_lay_Se (fun r a b e mc sz => wX3_lay (fun r' a' b' um' => P r a b e mc sz r' a' b' um') g' ro um t z it x1 x2 x3 x4 x5) g ro tk umc (nI 0) shf hd rn rf x1 x2 x3 x4 x5 := by
  unfold wX0_lay_Se
  refine pX0_isCell ⟨fun q => mLayBad (fun a => b2_0 q a.1) (hb _ _), fun q => pSh ⟨fun q2 => mLayBad (fun a => b2_0 q2 a.2.1.1) (hb _ _), fun q2 => pLn ⟨fun q3 => mLayBad (fun a => b2_0 q3 a.2.1.2) (hb _ _), fun q3 => pX0_inI (lo := 1) (hi := 36 - x1) ⟨fun q4 => mLayBad (fun a => b2_0 q4 a.2.2) (hb _ _), fun q4 => ?_⟩⟩⟩⟩
  obtain ⟨c, hc, e1⟩ := isC_ex (b2_1 q)
  have e2 := hx (b2_1 q2)
  have hy := b2_1 q3
  have h5 := b2_1 q4
  subst e1 e2
  rw [show (36 : Int32) = nI 36 from rfl, nI_subN (by omega)] at h5
  obtain ⟨m, hm, e5⟩ := nI_ofN (n := 36 - c) (Int32.le_trans (by decide) h5.1) h5.2 (by omega)
  subst e5
  have h1 : 1 ≤ m := (nI_leN (a := 1) (by decide) (by omega)).mp h5.1
  refine pRef_S hk hs hr (by omega) hy (fun e => sw0 (by decide) ?_) (fun e ew => sw0 (by decide) ?_) (fun e i hi ew tk' htk => sw1 (by decide) ⟨m + 1, ?_⟩)
  · exact mLayGo hc hk hy h1 (by omega) (mLacks hk (fun _ a => absurd (by rw [hl]; decide) (Int32.not_le.mpr a)) (fun _ _ x7 _ => mLayNo (by decide) (hb _ _)) (fun a _ => absurd (by rw [← a, hl]) e) (fun a _ => absurd (by rw [← a, hl]) e))
  · exact mLayGo hc hk hy h1 (by omega) (mLacks hk (fun a _ => absurd (hl.trans e.symm) a) (fun a _ => absurd (hl.trans e.symm) a) (fun _ _ x7 _ => mLayNo (by decide) (hb _ _)) (fun _ a => absurd (by rw [← hz]; exact a) ew))
  · subst e ew
    have eq : ∀ j, j < m → it (36 * k + i + j) = tk' j := fun j hj => by rw [Nat.add_assoc, hit (i + j) (by omega), htk j hj]
    have go : ∀ Q' : Int32 → (Nat → Int32) → Int64 → Int32 → Prop, ((∃ j, j < m ∧ ¬ okV (tk' j)) → Q' (-2) g' ro um) → ((∀ j, j < m → okV (tk' j)) → Q' (nI m) (layG g' c (fun j => it (36 * k + i + j)) m) (layR ro c (fun j => it (36 * k + i + j)) m) 0) → wX3_lay Q' g' ro um t z it (nI c) (nI k) (nI 1) (nI i) (nI m) := by
      intro Q' b1 b2
      refine mLayGo hc hk hy h1 (by omega) (mLacks hk (fun a _ => absurd hl a) (fun a _ => absurd hl a) (fun _ a => absurd (by rw [hz]; exact (row_n hr (by omega)).mpr ⟨i, hi, rfl⟩) a) (fun _ _ x7 e7 => ⟨m + 2, ?_⟩))
      rw [show (36 : Int32) = nI 36 from rfl, nI_mulN, nI_add] at e7
      subst e7
      have := mLay56 (Q := Q') (g := g') (ro := ro) (um := um) (t := t) (z := z) (it := it) (c := c) (m := m) (a := 36 * k + i) (by omega) (by omega) (fun ⟨j, a1, a2⟩ => b1 ⟨j, a1, by rw [← eq j a1]; exact a2⟩) (fun a => b2 (fun j hj => by rw [← eq j hj]; exact a j hj)) (m + 2) 0 (by omega) (by omega) (fun i hi => absurd hi (Nat.not_lt_zero i))
      rw [nI_0] at this
      exact this
    have := c61_Se (Q := fun r a b e mc sz => wX3_lay (fun r' a' b' um' => P r a b e mc sz r' a' b' um') g' ro um t z it (nI c) (nI k) (nI 1) (nI i) (nI m)) (g := g) (ro := ro) (umc := umc) (shf := shf) (hd := hd) (rn := rn) (kc := 3) (ks := 500) (rf := rf) (tk := tk') (c := c) (m := m) (by omega) (fun a => go _ (fun _ => hb _ _) (fun a2 => by obtain ⟨j, b1, b2⟩ := a; exact absurd (a2 j b1) b2)) (fun a => fun mc1 => go _ (fun ⟨j, b1, b2⟩ => absurd (a j b1) b2) (fun _ => by
        obtain ⟨w1, w2⟩ := layG_ok (c := c) (v := tk') (v' := fun j => it (36 * k + i + j)) gD gA m (by omega) a eq
        rw [layR_eq (v := tk') m eq]
        exact h _ _ _ _ _ _ w1 w2 (layR_small hsm m))) (m + 1) 0 (by omega) (by omega) (fun i hi => absurd hi (Nat.not_lt_zero i))
    rw [nI_0] at this
    exact this
theorem oLay_Sr {P : Int32 → (Nat → Int32) → Int64 → (Nat → Int64) → Int32 → Int32 → (Nat → Option Nat) → Int32 → (Nat → Int32) → Int64 → Int32 → Prop} {g g' : Nat → Int32} {ro : Int64} {umc um : Int32} {uf : Nat → Option Nat} {t z : Nat → Int32} {it tk : Nat → Int64} {shf : Nat → Option Nat} {hd k rn : Nat} {rf : Nat → Int32} {x1 x2 x3 x4 x5 : Int32} {nz : Nat} (hnz : nz ≤ 10) (gD : okD g) (gA : agree 36 g g') (hsm : small ro) (hk : k < 4) (hx : (0 ≤ x2 ∧ x2 ≤ 3) → x2 = nI k) (hs : shf k = some hd) (hl : t k = nI 1) (hz : z k = nI rn) (hr : rn ≤ 36) (hit : ∀ i, i < rn → it (36 * k + i) = (rf i).toInt64) (hb : ∀ r tk1, P r g ro tk1 umc (nI nz) uf r g' ro um) (h : ∀ (r mc1 : Int32) (tk1 : Nat → Int64) (g1 g1' : Nat → Int32) (r1 : Int64) (f1 : Nat → Option Nat), okD g1 → agree 36 g1 g1' → small r1 → (∀ j, f1 j = none ∨ f1 j = uf j) → P r g1 r1 tk1 mc1 0 f1 r g1' r1 0) : wX0_lay_Sr (fun r a b e mc sz f => wX3_lay (fun r' a' b' um' => P r a b e mc sz f r' a' b' um') g' ro um t z it x1 x2 x3 x4 x5) g ro tk umc (nI nz) uf shf hd rn rf x1 x2 x3 x4 x5 := by
  unfold wX0_lay_Sr
  refine pX0_isCell ⟨fun q => mLayBad (fun a => b2_0 q a.1) (hb _ _), fun q => pSh ⟨fun q2 => mLayBad (fun a => b2_0 q2 a.2.1.1) (hb _ _), fun q2 => pLn ⟨fun q3 => mLayBad (fun a => b2_0 q3 a.2.1.2) (hb _ _), fun q3 => pX0_inI (lo := 1) (hi := 36 - x1) ⟨fun q4 => mLayBad (fun a => b2_0 q4 a.2.2) (hb _ _), fun q4 => ?_⟩⟩⟩⟩
  obtain ⟨c, hc, e1⟩ := isC_ex (b2_1 q)
  have e2 := hx (b2_1 q2)
  have hy := b2_1 q3
  have h5 := b2_1 q4
  subst e1 e2
  rw [show (36 : Int32) = nI 36 from rfl, nI_subN (by omega)] at h5
  obtain ⟨m, hm, e5⟩ := nI_ofN (n := 36 - c) (Int32.le_trans (by decide) h5.1) h5.2 (by omega)
  subst e5
  have h1 : 1 ≤ m := (nI_leN (a := 1) (by decide) (by omega)).mp h5.1
  refine pRef_S hk hs hr (by omega) hy (fun e => sw0 (by decide) ?_) (fun e ew => sw0 (by decide) ?_) (fun e i hi ew tk' htk => sw1 (by decide) ⟨m + 1, ?_⟩)
  · exact mLayGo hc hk hy h1 (by omega) (mLacks hk (fun _ a => absurd (by rw [hl]; decide) (Int32.not_le.mpr a)) (fun _ _ x7 _ => mLayNo (by decide) (hb _ _)) (fun a _ => absurd (by rw [← a, hl]) e) (fun a _ => absurd (by rw [← a, hl]) e))
  · exact mLayGo hc hk hy h1 (by omega) (mLacks hk (fun a _ => absurd (hl.trans e.symm) a) (fun a _ => absurd (hl.trans e.symm) a) (fun _ _ x7 _ => mLayNo (by decide) (hb _ _)) (fun _ a => absurd (by rw [← hz]; exact a) ew))
  · subst e ew
    have eq : ∀ j, j < m → it (36 * k + i + j) = tk' j := fun j hj => by rw [Nat.add_assoc, hit (i + j) (by omega), htk j hj]
    have go : ∀ Q' : Int32 → (Nat → Int32) → Int64 → Int32 → Prop, ((∃ j, j < m ∧ ¬ okV (tk' j)) → Q' (-2) g' ro um) → ((∀ j, j < m → okV (tk' j)) → Q' (nI m) (layG g' c (fun j => it (36 * k + i + j)) m) (layR ro c (fun j => it (36 * k + i + j)) m) 0) → wX3_lay Q' g' ro um t z it (nI c) (nI k) (nI 1) (nI i) (nI m) := by
      intro Q' b1 b2
      refine mLayGo hc hk hy h1 (by omega) (mLacks hk (fun a _ => absurd hl a) (fun a _ => absurd hl a) (fun _ a => absurd (by rw [hz]; exact (row_n hr (by omega)).mpr ⟨i, hi, rfl⟩) a) (fun _ _ x7 e7 => ⟨m + 2, ?_⟩))
      rw [show (36 : Int32) = nI 36 from rfl, nI_mulN, nI_add] at e7
      subst e7
      have := mLay56 (Q := Q') (g := g') (ro := ro) (um := um) (t := t) (z := z) (it := it) (c := c) (m := m) (a := 36 * k + i) (by omega) (by omega) (fun ⟨j, a1, a2⟩ => b1 ⟨j, a1, by rw [← eq j a1]; exact a2⟩) (fun a => b2 (fun j hj => by rw [← eq j hj]; exact a j hj)) (m + 2) 0 (by omega) (by omega) (fun i hi => absurd hi (Nat.not_lt_zero i))
      rw [nI_0] at this
      exact this
    have := c61_Sr (Q := fun r a b e mc sz f => wX3_lay (fun r' a' b' um' => P r a b e mc sz f r' a' b' um') g' ro um t z it (nI c) (nI k) (nI 1) (nI i) (nI m)) (g := g) (ro := ro) (umc := umc) (shf := shf) (hd := hd) (rn := rn) (kc := 3) (ks := 500) (rf := rf) (tk := tk') (uf := uf) hnz (c := c) (m := m) (by omega) (fun a => go _ (fun _ => hb _ _) (fun a2 => by obtain ⟨j, b1, b2⟩ := a; exact absurd (a2 j b1) b2)) (fun a => fun mc1 f1 hf1 => go _ (fun ⟨j, b1, b2⟩ => absurd (a j b1) b2) (fun _ => by
        obtain ⟨w1, w2⟩ := layG_ok (c := c) (v := tk') (v' := fun j => it (36 * k + i + j)) gD gA m (by omega) a eq
        rw [layR_eq (v := tk') m eq]
        exact h _ _ _ _ _ _ _ w1 w2 (layR_small hsm m) hf1)) (m + 1) 0 (by omega) (by omega) (fun i hi => absurd hi (Nat.not_lt_zero i))
    rw [nI_0] at this
    exact this
theorem oLay_Ie {P : Int32 → (Nat → Int32) → Int64 → (Nat → Int64) → Int32 → Int32 → Int32 → (Nat → Int32) → Int64 → Int32 → Prop} {g g' : Nat → Int32} {ro : Int64} {umc um : Int32} {t z : Nat → Int32} {it tk : Nat → Int64} {shf : Nat → Option Nat} {hd k rn : Nat} {rf : Nat → Int32} {x1 x2 x3 x4 x5 : Int32} (gD : okD g) (gA : agree 36 g g') (hsm : small ro) (hk : k < 4) (hx : (0 ≤ x2 ∧ x2 ≤ 3) → x2 = nI k) (hs : shf k = some hd) (hl : t k = nI 2) (hz : z k = nI rn) (hr : rn ≤ 36) (hit : ∀ i, i < rn → it (36 * k + i) = (rf i).toInt64) (hb : ∀ r tk1, P r g ro tk1 umc (nI 0) r g' ro um) (h : ∀ (r mc1 : Int32) (tk1 : Nat → Int64) (g1 g1' : Nat → Int32) (r1 : Int64), okD g1 → agree 36 g1 g1' → small r1 → P r g1 r1 tk1 mc1 0 r g1' r1 0) : wX0_lay_Ie (fun r a b e mc sz => wX3_lay (fun r' a' b' um' => P r a b e mc sz r' a' b' um') g' ro um t z it x1 x2 x3 x4 x5) g ro tk umc (nI 0) shf hd rn rf x1 x2 x3 x4 x5 := by
  unfold wX0_lay_Ie
  refine pX0_isCell ⟨fun q => mLayBad (fun a => b2_0 q a.1) (hb _ _), fun q => pSh ⟨fun q2 => mLayBad (fun a => b2_0 q2 a.2.1.1) (hb _ _), fun q2 => pLn ⟨fun q3 => mLayBad (fun a => b2_0 q3 a.2.1.2) (hb _ _), fun q3 => pX0_inI (lo := 1) (hi := 36 - x1) ⟨fun q4 => mLayBad (fun a => b2_0 q4 a.2.2) (hb _ _), fun q4 => ?_⟩⟩⟩⟩
  obtain ⟨c, hc, e1⟩ := isC_ex (b2_1 q)
  have e2 := hx (b2_1 q2)
  have hy := b2_1 q3
  have h5 := b2_1 q4
  subst e1 e2
  rw [show (36 : Int32) = nI 36 from rfl, nI_subN (by omega)] at h5
  obtain ⟨m, hm, e5⟩ := nI_ofN (n := 36 - c) (Int32.le_trans (by decide) h5.1) h5.2 (by omega)
  subst e5
  have h1 : 1 ≤ m := (nI_leN (a := 1) (by decide) (by omega)).mp h5.1
  refine pRef_I hk hs hr (by omega) hy (fun e => sw0 (by decide) ?_) (fun e ew => sw0 (by decide) ?_) (fun e i hi ew tk' htk => sw1 (by decide) ⟨m + 1, ?_⟩)
  · exact mLayGo hc hk hy h1 (by omega) (mLacks hk (fun _ a => absurd (by rw [hl]; decide) (Int32.not_le.mpr a)) (fun _ _ x7 _ => mLayNo (by decide) (hb _ _)) (fun a _ => absurd (by rw [← a, hl]) e) (fun a _ => absurd (by rw [← a, hl]) e))
  · exact mLayGo hc hk hy h1 (by omega) (mLacks hk (fun a _ => absurd (hl.trans e.symm) a) (fun a _ => absurd (hl.trans e.symm) a) (fun _ _ x7 _ => mLayNo (by decide) (hb _ _)) (fun _ a => absurd (by rw [← hz]; exact a) ew))
  · subst e ew
    have eq : ∀ j, j < m → it (36 * k + i + j) = tk' j := fun j hj => by rw [Nat.add_assoc, hit (i + j) (by omega), htk j hj]
    have go : ∀ Q' : Int32 → (Nat → Int32) → Int64 → Int32 → Prop, ((∃ j, j < m ∧ ¬ okV (tk' j)) → Q' (-2) g' ro um) → ((∀ j, j < m → okV (tk' j)) → Q' (nI m) (layG g' c (fun j => it (36 * k + i + j)) m) (layR ro c (fun j => it (36 * k + i + j)) m) 0) → wX3_lay Q' g' ro um t z it (nI c) (nI k) (nI 2) (nI i) (nI m) := by
      intro Q' b1 b2
      refine mLayGo hc hk hy h1 (by omega) (mLacks hk (fun a _ => absurd hl a) (fun a _ => absurd hl a) (fun _ a => absurd (by rw [hz]; exact (row_n hr (by omega)).mpr ⟨i, hi, rfl⟩) a) (fun _ _ x7 e7 => ⟨m + 2, ?_⟩))
      rw [show (36 : Int32) = nI 36 from rfl, nI_mulN, nI_add] at e7
      subst e7
      have := mLay56 (Q := Q') (g := g') (ro := ro) (um := um) (t := t) (z := z) (it := it) (c := c) (m := m) (a := 36 * k + i) (by omega) (by omega) (fun ⟨j, a1, a2⟩ => b1 ⟨j, a1, by rw [← eq j a1]; exact a2⟩) (fun a => b2 (fun j hj => by rw [← eq j hj]; exact a j hj)) (m + 2) 0 (by omega) (by omega) (fun i hi => absurd hi (Nat.not_lt_zero i))
      rw [nI_0] at this
      exact this
    have := c61_Ie (Q := fun r a b e mc sz => wX3_lay (fun r' a' b' um' => P r a b e mc sz r' a' b' um') g' ro um t z it (nI c) (nI k) (nI 2) (nI i) (nI m)) (g := g) (ro := ro) (umc := umc) (shf := shf) (hd := hd) (rn := rn) (kc := 3) (ks := 500) (rf := rf) (tk := tk') (c := c) (m := m) (by omega) (fun a => go _ (fun _ => hb _ _) (fun a2 => by obtain ⟨j, b1, b2⟩ := a; exact absurd (a2 j b1) b2)) (fun a => fun mc1 => go _ (fun ⟨j, b1, b2⟩ => absurd (a j b1) b2) (fun _ => by
        obtain ⟨w1, w2⟩ := layG_ok (c := c) (v := tk') (v' := fun j => it (36 * k + i + j)) gD gA m (by omega) a eq
        rw [layR_eq (v := tk') m eq]
        exact h _ _ _ _ _ _ w1 w2 (layR_small hsm m))) (m + 1) 0 (by omega) (by omega) (fun i hi => absurd hi (Nat.not_lt_zero i))
    rw [nI_0] at this
    exact this
theorem oLay_Ir {P : Int32 → (Nat → Int32) → Int64 → (Nat → Int64) → Int32 → Int32 → (Nat → Option Nat) → Int32 → (Nat → Int32) → Int64 → Int32 → Prop} {g g' : Nat → Int32} {ro : Int64} {umc um : Int32} {uf : Nat → Option Nat} {t z : Nat → Int32} {it tk : Nat → Int64} {shf : Nat → Option Nat} {hd k rn : Nat} {rf : Nat → Int32} {x1 x2 x3 x4 x5 : Int32} {nz : Nat} (hnz : nz ≤ 10) (gD : okD g) (gA : agree 36 g g') (hsm : small ro) (hk : k < 4) (hx : (0 ≤ x2 ∧ x2 ≤ 3) → x2 = nI k) (hs : shf k = some hd) (hl : t k = nI 2) (hz : z k = nI rn) (hr : rn ≤ 36) (hit : ∀ i, i < rn → it (36 * k + i) = (rf i).toInt64) (hb : ∀ r tk1, P r g ro tk1 umc (nI nz) uf r g' ro um) (h : ∀ (r mc1 : Int32) (tk1 : Nat → Int64) (g1 g1' : Nat → Int32) (r1 : Int64) (f1 : Nat → Option Nat), okD g1 → agree 36 g1 g1' → small r1 → (∀ j, f1 j = none ∨ f1 j = uf j) → P r g1 r1 tk1 mc1 0 f1 r g1' r1 0) : wX0_lay_Ir (fun r a b e mc sz f => wX3_lay (fun r' a' b' um' => P r a b e mc sz f r' a' b' um') g' ro um t z it x1 x2 x3 x4 x5) g ro tk umc (nI nz) uf shf hd rn rf x1 x2 x3 x4 x5 := by
  unfold wX0_lay_Ir
  refine pX0_isCell ⟨fun q => mLayBad (fun a => b2_0 q a.1) (hb _ _), fun q => pSh ⟨fun q2 => mLayBad (fun a => b2_0 q2 a.2.1.1) (hb _ _), fun q2 => pLn ⟨fun q3 => mLayBad (fun a => b2_0 q3 a.2.1.2) (hb _ _), fun q3 => pX0_inI (lo := 1) (hi := 36 - x1) ⟨fun q4 => mLayBad (fun a => b2_0 q4 a.2.2) (hb _ _), fun q4 => ?_⟩⟩⟩⟩
  obtain ⟨c, hc, e1⟩ := isC_ex (b2_1 q)
  have e2 := hx (b2_1 q2)
  have hy := b2_1 q3
  have h5 := b2_1 q4
  subst e1 e2
  rw [show (36 : Int32) = nI 36 from rfl, nI_subN (by omega)] at h5
  obtain ⟨m, hm, e5⟩ := nI_ofN (n := 36 - c) (Int32.le_trans (by decide) h5.1) h5.2 (by omega)
  subst e5
  have h1 : 1 ≤ m := (nI_leN (a := 1) (by decide) (by omega)).mp h5.1
  refine pRef_I hk hs hr (by omega) hy (fun e => sw0 (by decide) ?_) (fun e ew => sw0 (by decide) ?_) (fun e i hi ew tk' htk => sw1 (by decide) ⟨m + 1, ?_⟩)
  · exact mLayGo hc hk hy h1 (by omega) (mLacks hk (fun _ a => absurd (by rw [hl]; decide) (Int32.not_le.mpr a)) (fun _ _ x7 _ => mLayNo (by decide) (hb _ _)) (fun a _ => absurd (by rw [← a, hl]) e) (fun a _ => absurd (by rw [← a, hl]) e))
  · exact mLayGo hc hk hy h1 (by omega) (mLacks hk (fun a _ => absurd (hl.trans e.symm) a) (fun a _ => absurd (hl.trans e.symm) a) (fun _ _ x7 _ => mLayNo (by decide) (hb _ _)) (fun _ a => absurd (by rw [← hz]; exact a) ew))
  · subst e ew
    have eq : ∀ j, j < m → it (36 * k + i + j) = tk' j := fun j hj => by rw [Nat.add_assoc, hit (i + j) (by omega), htk j hj]
    have go : ∀ Q' : Int32 → (Nat → Int32) → Int64 → Int32 → Prop, ((∃ j, j < m ∧ ¬ okV (tk' j)) → Q' (-2) g' ro um) → ((∀ j, j < m → okV (tk' j)) → Q' (nI m) (layG g' c (fun j => it (36 * k + i + j)) m) (layR ro c (fun j => it (36 * k + i + j)) m) 0) → wX3_lay Q' g' ro um t z it (nI c) (nI k) (nI 2) (nI i) (nI m) := by
      intro Q' b1 b2
      refine mLayGo hc hk hy h1 (by omega) (mLacks hk (fun a _ => absurd hl a) (fun a _ => absurd hl a) (fun _ a => absurd (by rw [hz]; exact (row_n hr (by omega)).mpr ⟨i, hi, rfl⟩) a) (fun _ _ x7 e7 => ⟨m + 2, ?_⟩))
      rw [show (36 : Int32) = nI 36 from rfl, nI_mulN, nI_add] at e7
      subst e7
      have := mLay56 (Q := Q') (g := g') (ro := ro) (um := um) (t := t) (z := z) (it := it) (c := c) (m := m) (a := 36 * k + i) (by omega) (by omega) (fun ⟨j, a1, a2⟩ => b1 ⟨j, a1, by rw [← eq j a1]; exact a2⟩) (fun a => b2 (fun j hj => by rw [← eq j hj]; exact a j hj)) (m + 2) 0 (by omega) (by omega) (fun i hi => absurd hi (Nat.not_lt_zero i))
      rw [nI_0] at this
      exact this
    have := c61_Ir (Q := fun r a b e mc sz f => wX3_lay (fun r' a' b' um' => P r a b e mc sz f r' a' b' um') g' ro um t z it (nI c) (nI k) (nI 2) (nI i) (nI m)) (g := g) (ro := ro) (umc := umc) (shf := shf) (hd := hd) (rn := rn) (kc := 3) (ks := 500) (rf := rf) (tk := tk') (uf := uf) hnz (c := c) (m := m) (by omega) (fun a => go _ (fun _ => hb _ _) (fun a2 => by obtain ⟨j, b1, b2⟩ := a; exact absurd (a2 j b1) b2)) (fun a => fun mc1 f1 hf1 => go _ (fun ⟨j, b1, b2⟩ => absurd (a j b1) b2) (fun _ => by
        obtain ⟨w1, w2⟩ := layG_ok (c := c) (v := tk') (v' := fun j => it (36 * k + i + j)) gD gA m (by omega) a eq
        rw [layR_eq (v := tk') m eq]
        exact h _ _ _ _ _ _ _ w1 w2 (layR_small hsm m) hf1)) (m + 1) 0 (by omega) (by omega) (fun i hi => absurd hi (Nat.not_lt_zero i))
    rw [nI_0] at this
    exact this
theorem oLay_Je {P : Int32 → (Nat → Int32) → Int64 → (Nat → Int64) → Int32 → Int32 → Int32 → (Nat → Int32) → Int64 → Int32 → Prop} {g g' : Nat → Int32} {ro : Int64} {umc um : Int32} {t z : Nat → Int32} {it tk : Nat → Int64} {shf : Nat → Option Nat} {hd k rn : Nat} {rf : Nat → Int64} {x1 x2 x3 x4 x5 : Int32} (gD : okD g) (gA : agree 36 g g') (hsm : small ro) (hk : k < 4) (hx : (0 ≤ x2 ∧ x2 ≤ 3) → x2 = nI k) (hs : shf k = some hd) (hl : t k = nI 3) (hz : z k = nI rn) (hr : rn ≤ 36) (hit : ∀ i, i < rn → it (36 * k + i) = rf i) (hb : ∀ r tk1, P r g ro tk1 umc (nI 0) r g' ro um) (h : ∀ (r mc1 : Int32) (tk1 : Nat → Int64) (g1 g1' : Nat → Int32) (r1 : Int64), okD g1 → agree 36 g1 g1' → small r1 → P r g1 r1 tk1 mc1 0 r g1' r1 0) : wX0_lay_Je (fun r a b e mc sz => wX3_lay (fun r' a' b' um' => P r a b e mc sz r' a' b' um') g' ro um t z it x1 x2 x3 x4 x5) g ro tk umc (nI 0) shf hd rn rf x1 x2 x3 x4 x5 := by
  unfold wX0_lay_Je
  refine pX0_isCell ⟨fun q => mLayBad (fun a => b2_0 q a.1) (hb _ _), fun q => pSh ⟨fun q2 => mLayBad (fun a => b2_0 q2 a.2.1.1) (hb _ _), fun q2 => pLn ⟨fun q3 => mLayBad (fun a => b2_0 q3 a.2.1.2) (hb _ _), fun q3 => pX0_inI (lo := 1) (hi := 36 - x1) ⟨fun q4 => mLayBad (fun a => b2_0 q4 a.2.2) (hb _ _), fun q4 => ?_⟩⟩⟩⟩
  obtain ⟨c, hc, e1⟩ := isC_ex (b2_1 q)
  have e2 := hx (b2_1 q2)
  have hy := b2_1 q3
  have h5 := b2_1 q4
  subst e1 e2
  rw [show (36 : Int32) = nI 36 from rfl, nI_subN (by omega)] at h5
  obtain ⟨m, hm, e5⟩ := nI_ofN (n := 36 - c) (Int32.le_trans (by decide) h5.1) h5.2 (by omega)
  subst e5
  have h1 : 1 ≤ m := (nI_leN (a := 1) (by decide) (by omega)).mp h5.1
  refine pRef_J hk hs hr (by omega) hy (fun e => sw0 (by decide) ?_) (fun e ew => sw0 (by decide) ?_) (fun e i hi ew tk' htk => sw1 (by decide) ⟨m + 1, ?_⟩)
  · exact mLayGo hc hk hy h1 (by omega) (mLacks hk (fun _ a => absurd (by rw [hl]; decide) (Int32.not_le.mpr a)) (fun _ _ x7 _ => mLayNo (by decide) (hb _ _)) (fun a _ => absurd (by rw [← a, hl]) e) (fun a _ => absurd (by rw [← a, hl]) e))
  · exact mLayGo hc hk hy h1 (by omega) (mLacks hk (fun a _ => absurd (hl.trans e.symm) a) (fun a _ => absurd (hl.trans e.symm) a) (fun _ _ x7 _ => mLayNo (by decide) (hb _ _)) (fun _ a => absurd (by rw [← hz]; exact a) ew))
  · subst e ew
    have eq : ∀ j, j < m → it (36 * k + i + j) = tk' j := fun j hj => by rw [Nat.add_assoc, hit (i + j) (by omega), htk j hj]
    have go : ∀ Q' : Int32 → (Nat → Int32) → Int64 → Int32 → Prop, ((∃ j, j < m ∧ ¬ okV (tk' j)) → Q' (-2) g' ro um) → ((∀ j, j < m → okV (tk' j)) → Q' (nI m) (layG g' c (fun j => it (36 * k + i + j)) m) (layR ro c (fun j => it (36 * k + i + j)) m) 0) → wX3_lay Q' g' ro um t z it (nI c) (nI k) (nI 3) (nI i) (nI m) := by
      intro Q' b1 b2
      refine mLayGo hc hk hy h1 (by omega) (mLacks hk (fun a _ => absurd hl a) (fun a _ => absurd hl a) (fun _ a => absurd (by rw [hz]; exact (row_n hr (by omega)).mpr ⟨i, hi, rfl⟩) a) (fun _ _ x7 e7 => ⟨m + 2, ?_⟩))
      rw [show (36 : Int32) = nI 36 from rfl, nI_mulN, nI_add] at e7
      subst e7
      have := mLay56 (Q := Q') (g := g') (ro := ro) (um := um) (t := t) (z := z) (it := it) (c := c) (m := m) (a := 36 * k + i) (by omega) (by omega) (fun ⟨j, a1, a2⟩ => b1 ⟨j, a1, by rw [← eq j a1]; exact a2⟩) (fun a => b2 (fun j hj => by rw [← eq j hj]; exact a j hj)) (m + 2) 0 (by omega) (by omega) (fun i hi => absurd hi (Nat.not_lt_zero i))
      rw [nI_0] at this
      exact this
    have := c61_Je (Q := fun r a b e mc sz => wX3_lay (fun r' a' b' um' => P r a b e mc sz r' a' b' um') g' ro um t z it (nI c) (nI k) (nI 3) (nI i) (nI m)) (g := g) (ro := ro) (umc := umc) (shf := shf) (hd := hd) (rn := rn) (kc := 3) (ks := 500) (rf := rf) (tk := tk') (c := c) (m := m) (by omega) (fun a => go _ (fun _ => hb _ _) (fun a2 => by obtain ⟨j, b1, b2⟩ := a; exact absurd (a2 j b1) b2)) (fun a => fun mc1 => go _ (fun ⟨j, b1, b2⟩ => absurd (a j b1) b2) (fun _ => by
        obtain ⟨w1, w2⟩ := layG_ok (c := c) (v := tk') (v' := fun j => it (36 * k + i + j)) gD gA m (by omega) a eq
        rw [layR_eq (v := tk') m eq]
        exact h _ _ _ _ _ _ w1 w2 (layR_small hsm m))) (m + 1) 0 (by omega) (by omega) (fun i hi => absurd hi (Nat.not_lt_zero i))
    rw [nI_0] at this
    exact this
theorem oLay_Jr {P : Int32 → (Nat → Int32) → Int64 → (Nat → Int64) → Int32 → Int32 → (Nat → Option Nat) → Int32 → (Nat → Int32) → Int64 → Int32 → Prop} {g g' : Nat → Int32} {ro : Int64} {umc um : Int32} {uf : Nat → Option Nat} {t z : Nat → Int32} {it tk : Nat → Int64} {shf : Nat → Option Nat} {hd k rn : Nat} {rf : Nat → Int64} {x1 x2 x3 x4 x5 : Int32} {nz : Nat} (hnz : nz ≤ 10) (gD : okD g) (gA : agree 36 g g') (hsm : small ro) (hk : k < 4) (hx : (0 ≤ x2 ∧ x2 ≤ 3) → x2 = nI k) (hs : shf k = some hd) (hl : t k = nI 3) (hz : z k = nI rn) (hr : rn ≤ 36) (hit : ∀ i, i < rn → it (36 * k + i) = rf i) (hb : ∀ r tk1, P r g ro tk1 umc (nI nz) uf r g' ro um) (h : ∀ (r mc1 : Int32) (tk1 : Nat → Int64) (g1 g1' : Nat → Int32) (r1 : Int64) (f1 : Nat → Option Nat), okD g1 → agree 36 g1 g1' → small r1 → (∀ j, f1 j = none ∨ f1 j = uf j) → P r g1 r1 tk1 mc1 0 f1 r g1' r1 0) : wX0_lay_Jr (fun r a b e mc sz f => wX3_lay (fun r' a' b' um' => P r a b e mc sz f r' a' b' um') g' ro um t z it x1 x2 x3 x4 x5) g ro tk umc (nI nz) uf shf hd rn rf x1 x2 x3 x4 x5 := by
  unfold wX0_lay_Jr
  refine pX0_isCell ⟨fun q => mLayBad (fun a => b2_0 q a.1) (hb _ _), fun q => pSh ⟨fun q2 => mLayBad (fun a => b2_0 q2 a.2.1.1) (hb _ _), fun q2 => pLn ⟨fun q3 => mLayBad (fun a => b2_0 q3 a.2.1.2) (hb _ _), fun q3 => pX0_inI (lo := 1) (hi := 36 - x1) ⟨fun q4 => mLayBad (fun a => b2_0 q4 a.2.2) (hb _ _), fun q4 => ?_⟩⟩⟩⟩
  obtain ⟨c, hc, e1⟩ := isC_ex (b2_1 q)
  have e2 := hx (b2_1 q2)
  have hy := b2_1 q3
  have h5 := b2_1 q4
  subst e1 e2
  rw [show (36 : Int32) = nI 36 from rfl, nI_subN (by omega)] at h5
  obtain ⟨m, hm, e5⟩ := nI_ofN (n := 36 - c) (Int32.le_trans (by decide) h5.1) h5.2 (by omega)
  subst e5
  have h1 : 1 ≤ m := (nI_leN (a := 1) (by decide) (by omega)).mp h5.1
  refine pRef_J hk hs hr (by omega) hy (fun e => sw0 (by decide) ?_) (fun e ew => sw0 (by decide) ?_) (fun e i hi ew tk' htk => sw1 (by decide) ⟨m + 1, ?_⟩)
  · exact mLayGo hc hk hy h1 (by omega) (mLacks hk (fun _ a => absurd (by rw [hl]; decide) (Int32.not_le.mpr a)) (fun _ _ x7 _ => mLayNo (by decide) (hb _ _)) (fun a _ => absurd (by rw [← a, hl]) e) (fun a _ => absurd (by rw [← a, hl]) e))
  · exact mLayGo hc hk hy h1 (by omega) (mLacks hk (fun a _ => absurd (hl.trans e.symm) a) (fun a _ => absurd (hl.trans e.symm) a) (fun _ _ x7 _ => mLayNo (by decide) (hb _ _)) (fun _ a => absurd (by rw [← hz]; exact a) ew))
  · subst e ew
    have eq : ∀ j, j < m → it (36 * k + i + j) = tk' j := fun j hj => by rw [Nat.add_assoc, hit (i + j) (by omega), htk j hj]
    have go : ∀ Q' : Int32 → (Nat → Int32) → Int64 → Int32 → Prop, ((∃ j, j < m ∧ ¬ okV (tk' j)) → Q' (-2) g' ro um) → ((∀ j, j < m → okV (tk' j)) → Q' (nI m) (layG g' c (fun j => it (36 * k + i + j)) m) (layR ro c (fun j => it (36 * k + i + j)) m) 0) → wX3_lay Q' g' ro um t z it (nI c) (nI k) (nI 3) (nI i) (nI m) := by
      intro Q' b1 b2
      refine mLayGo hc hk hy h1 (by omega) (mLacks hk (fun a _ => absurd hl a) (fun a _ => absurd hl a) (fun _ a => absurd (by rw [hz]; exact (row_n hr (by omega)).mpr ⟨i, hi, rfl⟩) a) (fun _ _ x7 e7 => ⟨m + 2, ?_⟩))
      rw [show (36 : Int32) = nI 36 from rfl, nI_mulN, nI_add] at e7
      subst e7
      have := mLay56 (Q := Q') (g := g') (ro := ro) (um := um) (t := t) (z := z) (it := it) (c := c) (m := m) (a := 36 * k + i) (by omega) (by omega) (fun ⟨j, a1, a2⟩ => b1 ⟨j, a1, by rw [← eq j a1]; exact a2⟩) (fun a => b2 (fun j hj => by rw [← eq j hj]; exact a j hj)) (m + 2) 0 (by omega) (by omega) (fun i hi => absurd hi (Nat.not_lt_zero i))
      rw [nI_0] at this
      exact this
    have := c61_Jr (Q := fun r a b e mc sz f => wX3_lay (fun r' a' b' um' => P r a b e mc sz f r' a' b' um') g' ro um t z it (nI c) (nI k) (nI 3) (nI i) (nI m)) (g := g) (ro := ro) (umc := umc) (shf := shf) (hd := hd) (rn := rn) (kc := 3) (ks := 500) (rf := rf) (tk := tk') (uf := uf) hnz (c := c) (m := m) (by omega) (fun a => go _ (fun _ => hb _ _) (fun a2 => by obtain ⟨j, b1, b2⟩ := a; exact absurd (a2 j b1) b2)) (fun a => fun mc1 f1 hf1 => go _ (fun ⟨j, b1, b2⟩ => absurd (a j b1) b2) (fun _ => by
        obtain ⟨w1, w2⟩ := layG_ok (c := c) (v := tk') (v' := fun j => it (36 * k + i + j)) gD gA m (by omega) a eq
        rw [layR_eq (v := tk') m eq]
        exact h _ _ _ _ _ _ _ w1 w2 (layR_small hsm m) hf1)) (m + 1) 0 (by omega) (by omega) (fun i hi => absurd hi (Nat.not_lt_zero i))
    rw [nI_0] at this
    exact this
