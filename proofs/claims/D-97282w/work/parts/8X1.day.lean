/-! DAY: the plain law -/
def dX (f : Nat → Int32) (n a : Nat) : Nat := nx f n (nx f n a + 1)
def dY (f : Nat → Int32) (n a : Nat) : Nat := nx f n (dX f n a + 1)
def dZ (f : Nat → Int32) (n a : Nat) : Nat := nx f n (dY f n a + 1)
def dP (f : Nat → Int32) (n : Nat) : Nat → Nat
  | 0 => 0
  | j + 1 => dZ f n (dP f n j) + 1
def dk1 (f : Nat → Int32) (n a : Nat) : Prop := nx f n a < n ∧ okA (f (nx f n a))
def dk2 (f : Nat → Int32) (n a : Nat) : Prop := dX f n a < n ∧ 48 ≤ f (dX f n a) ∧ f (dX f n a) ≤ 53
def dk3 (f : Nat → Int32) (n a : Nat) : Prop := dY f n a < n ∧ 48 ≤ f (dY f n a) ∧ f (dY f n a) ≤ 53
def dk4 (f : Nat → Int32) (n a : Nat) : Prop := dZ f n a < n ∧ f (dZ f n a) = 59
def dkF (f : Nat → Int32) (n j : Nat) : Prop := dk1 f n (dP f n j) ∧ dk2 f n (dP f n j) ∧ dk3 f n (dP f n j) ∧ dk4 f n (dP f n j)
def dKn (f : Nat → Int32) (n j : Nat) : Int32 := vlA (f (nx f n (dP f n j)))
def dCi (f : Nat → Int32) (n a : Nat) : Int32 := (6 * (f (dX f n a) - 48)) + (f (dY f n a) - 48)
def dCn (f : Nat → Int32) (n j : Nat) : Nat := (dCi f n (dP f n j)).toNatClampNeg % 36
theorem dCn_lt (f : Nat → Int32) (n j : Nat) : dCn f n j < 36 := Nat.mod_lt _ (by decide)
theorem dig6 {x : Int32} (h : 48 ≤ x ∧ x ≤ 53) : ∃ k, k ≤ 5 ∧ x - 48 = nI k := by
  obtain ⟨k, hk, e⟩ := nI_ofN (n := 53) (Int32.le_trans (by decide) h.1) h.2 (by decide)
  have h0 := h.1
  rw [e] at h0
  have h0 := (nI_leN (a := 48) (by decide) (by omega)).mp h0
  refine ⟨k - 48, by omega, ?_⟩
  rw [e, show (48 : Int32) = nI 48 from rfl, nI_subN h0]
theorem dCi_nat {f : Nat → Int32} {n j : Nat} (h2 : dk2 f n (dP f n j)) (h3 : dk3 f n (dP f n j)) : dCi f n (dP f n j) = nI (dCn f n j) := by
  obtain ⟨a, ha, ea⟩ := dig6 h2.2
  obtain ⟨b, hb, eb⟩ := dig6 h3.2
  have e : dCi f n (dP f n j) = nI (6 * a + b) := by
    unfold dCi
    rw [ea, eb, show (6 : Int32) = nI 6 from rfl, nI_mulN, nI_add]
  unfold dCn
  rw [e, clam_nI (by omega)]
  congr 1
  omega
theorem dP_ge {f : Nat → Int32} {n : Nat} : ∀ j, (∀ i, i < j → dkF f n i) → 4 * j ≤ dP f n j ∧ dP f n j ≤ n := by
  intro j
  induction j with
  | zero => intro _; exact ⟨Nat.le_refl 0, Nat.zero_le n⟩
  | succ j ih =>
    intro h
    obtain ⟨a, b⟩ := ih (fun i hi => h i (by omega))
    have q : dZ f n (dP f n j) < n := (h j (by omega)).2.2.2.1
    have w1 := nx_ge f n (dP f n j)
    have w2 : nx f n (dP f n j) + 1 ≤ dX f n (dP f n j) := nx_ge f n _
    have w3 : dX f n (dP f n j) + 1 ≤ dY f n (dP f n j) := nx_ge f n _
    have w4 : dY f n (dP f n j) + 1 ≤ dZ f n (dP f n j) := nx_ge f n _
    have e : dP f n (j + 1) = dZ f n (dP f n j) + 1 := rfl
    rw [e]
    omega
theorem vlA_rng (x : Int32) : 0 ≤ vlA x ∧ vlA x ≤ 127 := by
  unfold vlA
  split
  · decide
  · split <;> decide
theorem first_dk {f : Nat → Int32} {n c d : Nat} (h1 : ∀ i, i < c → dkF f n i) (h2 : ¬ dkF f n c) (h3 : ∀ i, i < d → dkF f n i) (h4 : ¬ dkF f n d) : d = c := first_one (p := dkF f n) h1 h2 h3 h4
theorem cDay7_e {K2 : Int32 → Int32 → (Nat → Int32) → Int32 → Nat → Nat → Prop} {Q : Int32 → Int32 → Int32 → (Nat → Int32) → Prop} {f : Nat → Int32} {n : Nat} (hn : n ≤ 160) (hT : okT f n) (h1 : ∀ m v, (∀ i, i < m → dkF f n i) → ¬ dk1 f n (dP f n m) → Q ((-20) - nI (nx f n (dP f n m))) 0 (nI (nx f n (dP f n m))) v) (h2 : ∀ m v, (∀ i, i < m → dkF f n i) → dk1 f n (dP f n m) → ¬ dk2 f n (dP f n m) → Q ((-20) - nI (dX f n (dP f n m))) 0 (nI (dX f n (dP f n m))) v) (h3 : ∀ m v, (∀ i, i < m → dkF f n i) → dk1 f n (dP f n m) → dk2 f n (dP f n m) → ¬ dk3 f n (dP f n m) → Q ((-20) - nI (dY f n (dP f n m))) 0 (nI (dY f n (dP f n m))) v) (h4 : ∀ m v, (∀ i, i < m → dkF f n i) → dk1 f n (dP f n m) → dk2 f n (dP f n m) → dk3 f n (dP f n m) → ¬ dk4 f n (dP f n m) → dZ f n (dP f n m) < n → Q ((-20) - nI (dZ f n (dP f n m))) 0 (nI (dZ f n (dP f n m))) v) (h5 : ∀ (m : Nat) (v : Nat → Int32), (∀ i, i < m → dkF f n i) → dk1 f n (dP f n m) → dk2 f n (dP f n m) → dk3 f n (dP f n m) → ¬ dk4 f n (dP f n m) → ¬ dZ f n (dP f n m) < n → (∀ j, j ≤ m → v (2 * j) = dKn f n j ∧ v (2 * j + 1) = nI (dCn f n j)) → K2 (nI (m + 1)) 0 v (nI (dZ f n (dP f n m))) 0 0) : ∀ k m v, n < 4 * (m + k) → (∀ i, i < m → dkF f n i) → (∀ j, j < m → v (2 * j) = dKn f n j ∧ v (2 * j + 1) = nI (dCn f n j)) → wX0_day_e_7 K2 Q (nI n) f k (nI m) (nI (dP f n m)) v 0 0 := by
  intro k
  induction k with
  | zero =>
    intro m v hk hF hv
    have := dP_ge m hF
    omega
  | succ k ih =>
    intro m v hk hF hv
    obtain ⟨p0, p1⟩ := dP_ge m hF
    unfold wX0_day_e_7
    by_cases k1 : dk1 f n (dP f n m)
    case neg =>
      refine Or.inr ⟨by decide, by decide, pLet_Dt hn p1 hT k1 ?_⟩
      intro x ex
      rw [ex]
      exact h1 m v hF k1
    refine Or.inl (pLet_D hn p1 hT k1 ?_)
    rw [show (2 : Int32) = nI 2 from rfl, nI_mulN, nI_add1 (2 * m), clam_nI (k := 2 * m) (by omega), clam_nI (k := 2 * m + 1) (by omega), (byteRoom (vlA_rng _).1 (vlA_rng _).2).1]
    refine ⟨in_nI (by omega) (by decide), ?_⟩
    intro v1 e1
    by_cases k2 : dk2 f n (dP f n m)
    case neg =>
      refine Or.inr ⟨by decide, by decide, pFig_t hn k1.1 k2 ?_⟩
      intro x ex
      rw [ex]
      exact h2 m v1 hF k1 k2
    refine Or.inl (pFig hn k1.1 k2 ?_)
    by_cases k3 : dk3 f n (dP f n m)
    case neg =>
      refine Or.inr ⟨by decide, by decide, pFig_t hn k2.1 k3 ?_⟩
      intro x ex
      rw [ex]
      exact h3 m v1 hF k1 k2 k3
    refine Or.inl (pFig hn k2.1 k3 ⟨in_nI (by omega) (by decide), ?_⟩)
    have hC := dCn_lt f n m
    have eC : (6 * (f (nx f n (nx f n (dP f n m) + 1)) - 48)) + (f (nx f n (nx f n (nx f n (dP f n m) + 1) + 1)) - 48) = nI (dCn f n m) := dCi_nat k2 k3
    rw [eC, (byteRoom (x := nI (dCn f n m)) ((nI_leN (a := 0) (by decide) (by omega)).mpr (by omega)) ((nI_leN (b := 127) (by omega) (by decide)).mpr (by omega))).1]
    intro v2 e2 x ex
    rw [ex, nI_add1]
    have hv2 : ∀ j, j ≤ m → v2 (2 * j) = dKn f n j ∧ v2 (2 * j + 1) = nI (dCn f n j) := by
      intro j hj
      rw [e2, e1]
      by_cases e : j = m
      · subst e
        refine ⟨?_, upd_at⟩
        rw [upd_ne (by omega), upd_at]
        rfl
      · rw [upd_ne (by omega), upd_ne (by omega), upd_ne (by omega), upd_ne (by omega)]
        exact hv j (by omega)
    have ez : nx f n (dZ f n (dP f n m)) = dZ f n (dP f n m) := nx_nx f n _
    have hz : dZ f n (dP f n m) ≤ n := nx_le k3.1
    refine pPass hn k3.1 (by decide) (fun k4 => sw0 (by decide) ?_) (fun k4 => sw1 rfl ?_)
    · refine ih (m + 1) v2 (by omega) (fun i hi => ?_) (fun j hj => hv2 j (by omega))
      by_cases e : i = m
      · rw [e]; exact ⟨k1, k2, k3, k4⟩
      · exact hF i (by omega)
    · by_cases q : dZ f n (dP f n m) < n
      · refine Or.inr ⟨by decide, by decide, pEnds_t (a := dZ f n (dP f n m)) hn hz hT (by rw [ez]; exact q) ?_⟩
        rw [ez]
        intro x2 ex2
        rw [ex2]
        exact h4 m v2 hF k1 k2 k3 k4 q
      · refine Or.inl (pEnds (a := dZ f n (dP f n m)) hn hz (by rw [ez]; exact q) ?_)
        rw [ez]
        exact h5 m v2 hF k1 k2 k3 k4 q hv2
theorem cDay7_r {K2 : Int32 → Int32 → (Nat → Int32) → Int32 → Nat → Nat → Prop} {Q : Int32 → Int32 → Int32 → (Nat → Int32) → Prop} {f : Nat → Int32} {n : Nat} (hn : n ≤ 160) (hT : okT f n) (h1 : ∀ m v, (∀ i, i < m → dkF f n i) → ¬ dk1 f n (dP f n m) → Q ((-20) - nI (nx f n (dP f n m))) 0 (nI (nx f n (dP f n m))) v) (h2 : ∀ m v, (∀ i, i < m → dkF f n i) → dk1 f n (dP f n m) → ¬ dk2 f n (dP f n m) → Q ((-20) - nI (dX f n (dP f n m))) 0 (nI (dX f n (dP f n m))) v) (h3 : ∀ m v, (∀ i, i < m → dkF f n i) → dk1 f n (dP f n m) → dk2 f n (dP f n m) → ¬ dk3 f n (dP f n m) → Q ((-20) - nI (dY f n (dP f n m))) 0 (nI (dY f n (dP f n m))) v) (h4 : ∀ m v, (∀ i, i < m → dkF f n i) → dk1 f n (dP f n m) → dk2 f n (dP f n m) → dk3 f n (dP f n m) → ¬ dk4 f n (dP f n m) → dZ f n (dP f n m) < n → Q ((-20) - nI (dZ f n (dP f n m))) 0 (nI (dZ f n (dP f n m))) v) (h5 : ∀ (m : Nat) (v : Nat → Int32), (∀ i, i < m → dkF f n i) → dk1 f n (dP f n m) → dk2 f n (dP f n m) → dk3 f n (dP f n m) → ¬ dk4 f n (dP f n m) → ¬ dZ f n (dP f n m) < n → (∀ j, j ≤ m → v (2 * j) = dKn f n j ∧ v (2 * j + 1) = nI (dCn f n j)) → K2 (nI (m + 1)) 0 v (nI (dZ f n (dP f n m))) 0 0) : ∀ k m v, n < 4 * (m + k) → (∀ i, i < m → dkF f n i) → (∀ j, j < m → v (2 * j) = dKn f n j ∧ v (2 * j + 1) = nI (dCn f n j)) → wX0_day_r_7 K2 Q (nI n) f k (nI m) (nI (dP f n m)) v 0 0 := by
  intro k
  induction k with
  | zero =>
    intro m v hk hF hv
    have := dP_ge m hF
    omega
  | succ k ih =>
    intro m v hk hF hv
    obtain ⟨p0, p1⟩ := dP_ge m hF
    unfold wX0_day_r_7
    by_cases k1 : dk1 f n (dP f n m)
    case neg =>
      refine Or.inr ⟨by decide, by decide, pLet_Dt hn p1 hT k1 ?_⟩
      intro x ex
      rw [ex]
      exact h1 m v hF k1
    refine Or.inl (pLet_D hn p1 hT k1 ?_)
    rw [show (2 : Int32) = nI 2 from rfl, nI_mulN, nI_add1 (2 * m), clam_nI (k := 2 * m) (by omega), clam_nI (k := 2 * m + 1) (by omega), (byteRoom (vlA_rng _).1 (vlA_rng _).2).1]
    refine ⟨in_nI (by omega) (by decide), ?_⟩
    intro v1 e1
    by_cases k2 : dk2 f n (dP f n m)
    case neg =>
      refine Or.inr ⟨by decide, by decide, pFig_t hn k1.1 k2 ?_⟩
      intro x ex
      rw [ex]
      exact h2 m v1 hF k1 k2
    refine Or.inl (pFig hn k1.1 k2 ?_)
    by_cases k3 : dk3 f n (dP f n m)
    case neg =>
      refine Or.inr ⟨by decide, by decide, pFig_t hn k2.1 k3 ?_⟩
      intro x ex
      rw [ex]
      exact h3 m v1 hF k1 k2 k3
    refine Or.inl (pFig hn k2.1 k3 ⟨in_nI (by omega) (by decide), ?_⟩)
    have hC := dCn_lt f n m
    have eC : (6 * (f (nx f n (nx f n (dP f n m) + 1)) - 48)) + (f (nx f n (nx f n (nx f n (dP f n m) + 1) + 1)) - 48) = nI (dCn f n m) := dCi_nat k2 k3
    rw [eC, (byteRoom (x := nI (dCn f n m)) ((nI_leN (a := 0) (by decide) (by omega)).mpr (by omega)) ((nI_leN (b := 127) (by omega) (by decide)).mpr (by omega))).1]
    intro v2 e2 x ex
    rw [ex, nI_add1]
    have hv2 : ∀ j, j ≤ m → v2 (2 * j) = dKn f n j ∧ v2 (2 * j + 1) = nI (dCn f n j) := by
      intro j hj
      rw [e2, e1]
      by_cases e : j = m
      · subst e
        refine ⟨?_, upd_at⟩
        rw [upd_ne (by omega), upd_at]
        rfl
      · rw [upd_ne (by omega), upd_ne (by omega), upd_ne (by omega), upd_ne (by omega)]
        exact hv j (by omega)
    have ez : nx f n (dZ f n (dP f n m)) = dZ f n (dP f n m) := nx_nx f n _
    have hz : dZ f n (dP f n m) ≤ n := nx_le k3.1
    refine pPass hn k3.1 (by decide) (fun k4 => sw0 (by decide) ?_) (fun k4 => sw1 rfl ?_)
    · refine ih (m + 1) v2 (by omega) (fun i hi => ?_) (fun j hj => hv2 j (by omega))
      by_cases e : i = m
      · rw [e]; exact ⟨k1, k2, k3, k4⟩
      · exact hF i (by omega)
    · by_cases q : dZ f n (dP f n m) < n
      · refine Or.inr ⟨by decide, by decide, pEnds_t (a := dZ f n (dP f n m)) hn hz hT (by rw [ez]; exact q) ?_⟩
        rw [ez]
        intro x2 ex2
        rw [ex2]
        exact h4 m v2 hF k1 k2 k3 k4 q
      · refine Or.inl (pEnds (a := dZ f n (dP f n m)) hn hz (by rw [ez]; exact q) ?_)
        rw [ez]
        exact h5 m v2 hF k1 k2 k3 k4 q hv2
theorem mFig5 {A B : Prop} {f : Nat → Int32} {n s : Nat} (h1 : s < n ∧ 48 ≤ f s ∧ f s ≤ 53 → B) (h0 : ¬ (s < n ∧ 48 ≤ f s ∧ f s ≤ 53) → A) : wX3_in (fun b => ((b = 0 → A) ∧ (¬ b = 0 → B))) (((if s < n then f s else -1) - 48 : Int32).toInt64) 0 5 := by
  refine pX3_inI (lo := 0) (hi := 5) ⟨fun z => h0 (fun q => b2_0 z ?_), fun z => h1 ?_⟩
  · rw [if_pos q.1]
    obtain ⟨k, hk, e⟩ := dig6 q.2
    rw [e]
    exact ⟨(nI_leN (a := 0) (by decide) (by omega)).mpr (by omega), (nI_leN (b := 5) (by omega) (by decide)).mpr hk⟩
  · have z := b2_1 z
    by_cases l : s < n
    · rw [if_pos l] at z
      have e1 : f s = (f s - 48) + 48 := (Int32.sub_add_cancel _ _).symm
      obtain ⟨k, hk, ek⟩ := nI_ofN (n := 5) z.1 z.2 (by decide)
      rw [ek, show (48 : Int32) = nI 48 from rfl, nI_add] at e1
      refine ⟨l, ?_, ?_⟩
      · rw [e1]; exact (nI_leN (a := 48) (by decide) (by omega)).mpr (by omega)
      · rw [e1]; exact (nI_leN (b := 53) (by omega) (by decide)).mpr (by omega)
    · rw [if_neg l] at z
      exact absurd z.1 (by decide)
def dRd (f : Nat → Int32) (n a : Nat) : Int32 := ((100 * f (nx f n a)) + (6 * (f (dX f n a) - 48))) + (f (dY f n a) - 48)
theorem mAct {Q : Int32 → Int32 → (Nat → Int32) → Prop} {f f' v : Nat → Int32} {n a m : Nat} (hn : n ≤ 160) (hA : agree n f f') (ha : a ≤ n) (hm : m < 80) (h1 : ¬ dk1 f n a → Q 0 (nI (nx f n a)) v) (h2 : dk1 f n a → ¬ dk2 f n a → Q 0 (nI (dX f n a)) v) (h3 : dk1 f n a → dk2 f n a → ¬ dk3 f n a → Q 0 (nI (dY f n a)) v) (h : dk1 f n a → dk2 f n a → dk3 f n a → Q 1 (nI (dY f n a + 1)) (upd v m (dRd f n a))) : wX3_readAct Q f' (nI n) (nI a) (nI m) v := by
  unfold wX3_readAct
  refine pNext hn hA ha ?_
  have go : dk1 f n a → wX3_readAct_25 Q (f (nx f n a)) f' (nI n) (nI (nx f n a)) (nI m) v := by
    intro k1
    unfold wX3_readAct_25
    intro p ep
    rw [ep, nI_add1]
    refine pNext hn hA k1.1 ?_
    intro x2 e2
    subst e2
    refine mFig5 (s := nx f n (nx f n a + 1)) (fun k2 => ?_) (fun k2 => h2 k1 k2)
    have k2 : dk2 f n a := k2
    intro p2 ep2
    rw [ep2, nI_add1]
    refine pNext hn hA k2.1 ?_
    intro x3 e3
    subst e3
    refine mFig5 (s := nx f n (nx f n (nx f n a + 1) + 1)) (fun k3 => ?_) (fun k3 => h3 k1 k2 k3)
    have k3 : dk3 f n a := k3
    intro p3 ep3
    rw [ep3, nI_add1]
    refine ⟨in_nI hm (by decide), ?_⟩
    intro v2 e4
    have i2 : nx f n (nx f n a + 1) < n := k2.1
    have i3 : nx f n (nx f n (nx f n a + 1) + 1) < n := k3.1
    rw [if_pos i2, if_pos i3, clam_nI (by omega)] at e4
    rw [e4]
    exact h k1 k2 k3
  by_cases w : nx f n a < n
  · rw [if_pos w]
    refine ⟨fun e => go ⟨w, Or.inl e⟩, fun e1 => ⟨fun e => go ⟨w, Or.inr (Or.inl e)⟩, fun e2 => ⟨fun e => go ⟨w, Or.inr (Or.inr e)⟩, fun e3 => h1 ?_⟩⟩⟩
    rintro ⟨-, e | e | e⟩
    · exact e1 e
    · exact e2 e
    · exact e3 e
  · rw [if_neg w]
    exact sw0 (by decide) (sw0 (by decide) (sw0 (by decide) (h1 (fun q => w q.1))))
theorem mDay12 {Q : Int32 → Int32 → Int32 → (Nat → Int32) → Prop} {f f' : Nat → Int32} {n : Nat} (hn : n ≤ 160) (hT : okT f n) (hA : agree n f f') (h1 : ∀ m v, (∀ i, i < m → dkF f n i) → ¬ dk1 f n (dP f n m) → Q 0 (nI (nx f n (dP f n m))) (nI (m)) v) (h2 : ∀ m v, (∀ i, i < m → dkF f n i) → dk1 f n (dP f n m) → ¬ dk2 f n (dP f n m) → Q 0 (nI (dX f n (dP f n m))) (nI (m)) v) (h3 : ∀ m v, (∀ i, i < m → dkF f n i) → dk1 f n (dP f n m) → dk2 f n (dP f n m) → ¬ dk3 f n (dP f n m) → Q 0 (nI (dY f n (dP f n m))) (nI (m)) v) (h4 : ∀ m v, (∀ i, i < m → dkF f n i) → dk1 f n (dP f n m) → dk2 f n (dP f n m) → dk3 f n (dP f n m) → ¬ dk4 f n (dP f n m) → dZ f n (dP f n m) < n → Q 0 (nI (dZ f n (dP f n m))) (nI (m + 1)) v) (h5 : ∀ (m : Nat) (v : Nat → Int32), (∀ i, i < m → dkF f n i) → dk1 f n (dP f n m) → dk2 f n (dP f n m) → dk3 f n (dP f n m) → ¬ dk4 f n (dP f n m) → ¬ dZ f n (dP f n m) < n → (∀ j, j ≤ m → v j = dRd f n (dP f n j)) → Q 1 (nI (dZ f n (dP f n m))) (nI (m + 1)) v) : ∀ k m v, n < 4 * (m + k) → (∀ i, i < m → dkF f n i) → (∀ j, j < m → v j = dRd f n (dP f n j)) → wX3_readDay_12 Q f' (nI n) (k + 1) 1 (nI (dP f n m)) (nI m) v := by
  intro k
  induction k with
  | zero =>
    intro m v hk hF hv
    have := dP_ge m hF
    omega
  | succ k ih =>
    intro m v hk hF hv
    obtain ⟨p0, p1⟩ := dP_ge m hF
    unfold wX3_readDay_12
    refine sw0 (by decide) (mAct hn hA p1 (by omega) (fun k1 => sw1 rfl (h1 m v hF k1)) (fun k1 k2 => sw1 rfl (h2 m v hF k1 k2)) (fun k1 k2 k3 => sw1 rfl (h3 m v hF k1 k2 k3)) (fun k1 k2 k3 => sw0 (by decide) ?_))
    intro r er
    rw [er, nI_add1]
    have hv2 : ∀ j, j ≤ m → upd v m (dRd f n (dP f n m)) j = dRd f n (dP f n j) := by
      intro j hj
      by_cases e : j = m
      · subst e
        exact upd_at
      · rw [upd_ne e]
        exact hv j (by omega)
    have ez : nx f n (dZ f n (dP f n m)) = dZ f n (dP f n m) := nx_nx f n _
    have hz : dZ f n (dP f n m) ≤ n := nx_le k3.1
    refine pTake hn hA k3.1 (by decide) (fun k4 => ?_) (fun k4 => ?_)
    · refine ih (m + 1) _ (by omega) (fun i hi => ?_) (fun j hj => hv2 j (by omega))
      by_cases e : i = m
      · rw [e]; exact ⟨k1, k2, k3, k4⟩
      · exact hF i (by omega)
    · unfold wX3_readDay_12
      refine sw1 rfl (pNext (a := dZ f n (dP f n m)) hn hA hz ?_)
      rw [ez]
      by_cases q : dZ f n (dP f n m) < n
      · rw [if_pos q]
        exact sw1 (Int32.le_trans (by decide) (hT _ q).1) (h4 m _ hF k1 k2 k3 k4 q)
      · rw [if_neg q]
        exact sw0 (by decide) (h5 m _ hF k1 k2 k3 k4 q hv2)
/-! the acts are done, one by one -/
def stG (k : Int32) (c : Nat) (g : Nat → Int32) : Nat → Int32 := if k = 0 then upd g c (g c + 1) else if k = 1 then upd g c 0 else g
def stR (k : Int32) (c : Nat) (ro : Int64) : Int64 := if k = 0 then ro else if k = 1 then ro &&& (bit c ^^^ (-1)) else ro ^^^ bit c
def stB (k : Int32) (c : Nat) (g : Nat → Int32) : Prop := if k = 0 then g c = 9 else g c = 0
section DAYRUN
variable (K : Nat → Int32) (C : Nat → Nat)
def dyG (g : Nat → Int32) : Nat → (Nat → Int32)
  | 0 => g
  | j + 1 => stG (K j) (C j) (dyG g j)
def dyR (ro : Int64) : Nat → Int64
  | 0 => ro
  | j + 1 => stR (K j) (C j) (dyR ro j)
def dyU (g : Nat → Int32) (ro : Int64) (n0 : Nat → Nat) (u0 : Nat → Int32) : Nat → (Nat → Int32) → Prop
  | 0, u => u = u0
  | j + 1, u' => ∃ u, dyU g ro n0 u0 j u ∧ noteR (dyG K C g j (C j)) (b2 (mem (dyR K C ro j) (C j) = true)) u u' (n0 j) (C j)
end DAYRUN
def dyN (n0 : Nat) : Nat → Nat
  | 0 => n0
  | j + 1 => if dyN n0 j = 10 then 10 else dyN n0 j + 1
theorem dyN_le {n0 : Nat} (h : n0 ≤ 10) : ∀ j, dyN n0 j ≤ 10 := by
  intro j
  induction j with
  | zero => exact h
  | succ j ih =>
    show (if dyN n0 j = 10 then 10 else dyN n0 j + 1) ≤ 10
    split
    · exact Nat.le_refl _
    · omega
theorem stG_agree {k : Int32} {c : Nat} {g g' : Nat → Int32} (hc : c < 36) (h : agree 36 g g') : agree 36 (stG k c g) (stG k c g') := by
  unfold stG
  split
  · rw [h c hc]; exact agree_upd h
  · split
    · exact agree_upd h
    · exact h
theorem dyG_agree {K : Nat → Int32} {C : Nat → Nat} {g g' : Nat → Int32} (hC : ∀ j, C j < 36) (h : agree 36 g g') : ∀ j, agree 36 (dyG K C g j) (dyG K C g' j) := by
  intro j
  induction j with
  | zero => exact h
  | succ j ih => exact stG_agree (hC j) ih
theorem stG_ok {k : Int32} {c : Nat} {g : Nat → Int32} (hc : c < 36) (h : okD g) (hb : ¬ stB k c g) : okD (stG k c g) := by
  unfold stB at hb
  unfold stG
  by_cases e : k = 0
  · rw [if_pos e] at hb ⊢
    exact okD_inc h hc hb
  · rw [if_neg e]
    split
    · exact okD_upd h (by decide) (by decide)
    · exact h
theorem dyG_ok {K : Nat → Int32} {C : Nat → Nat} {g : Nat → Int32} (hC : ∀ j, C j < 36) (h : okD g) : ∀ j, (∀ i, i < j → ¬ stB (K i) (C i) (dyG K C g i)) → okD (dyG K C g j) := by
  intro j
  induction j with
  | zero => intro _; exact h
  | succ j ih => intro hb; exact stG_ok (hC j) (ih (fun i hi => hb i (by omega))) (hb j (by omega))
theorem dyR_small {K : Nat → Int32} {C : Nat → Nat} {ro : Int64} (hC : ∀ j, C j < 36) (h : small ro) : ∀ j, small (dyR K C ro j) := by
  intro j
  induction j with
  | zero => exact h
  | succ j ih =>
    show small (stR (K j) (C j) (dyR K C ro j))
    unfold stR
    split
    · exact ih
    · split
      · exact small_minus ih
      · exact small_flip ih (hC j)
theorem note_ex (d z : Int32) (u : Nat → Int32) (n c : Nat) : ∃ u', noteR d z u u' n c := by
  unfold noteR
  generalize (if n = 10 then 9 else n) = m
  refine ⟨fun j => if j < 3 * m then (if n = 10 then u (j + 3) else u j) else if j = 3 * m then nI c else if j = 3 * m + 1 then d else z, ?_, ?_, ?_, fun j hj => if_pos hj⟩
  · show (if 3 * m < 3 * m then _ else if 3 * m = 3 * m then nI c else _) = nI c
    rw [if_neg (by omega), if_pos rfl]
  · show (if 3 * m + 1 < 3 * m then _ else if 3 * m + 1 = 3 * m then nI c else if 3 * m + 1 = 3 * m + 1 then d else z) = d
    rw [if_neg (by omega), if_neg (by omega), if_pos rfl]
  · show (if 3 * m + 2 < 3 * m then _ else if 3 * m + 2 = 3 * m then nI c else if 3 * m + 2 = 3 * m + 1 then d else z) = z
    rw [if_neg (by omega), if_neg (by omega), if_neg (by omega)]
theorem dyU_ex {K : Nat → Int32} {C : Nat → Nat} {g : Nat → Int32} {ro : Int64} {n0 : Nat → Nat} {u0 : Nat → Int32} : ∀ j, ∃ u, dyU K C g ro n0 u0 j u := by
  intro j
  induction j with
  | zero => exact ⟨u0, rfl⟩
  | succ j ih =>
    obtain ⟨u, hu⟩ := ih
    obtain ⟨u', hu'⟩ := note_ex (dyG K C g j (C j)) (b2 (mem (dyR K C ro j) (C j) = true)) u (n0 j) (C j)
    exact ⟨u', u, hu, hu'⟩
/-- the county's list after j acts, whatever the model noted -/
def dyI (K : Nat → Int32) (C : Nat → Nat) (g : Nat → Int32) (ro : Int64) (n0 : Nat) (u0 : Nat → Int32) (pool : List Rp) (ue j : Nat) (uf : Nat → Option Nat) (nl : List Rp) : Prop := ∀ u, dyU K C g ro (dyN n0) u0 j u → RL (nl ++ pool) (nI (dyN n0 j)) (some (ue, uf)) (dyN n0 j) u
theorem mem_mid {α : Type} {r x : α} {nl pool : List α} (hx : x ∈ r :: (nl ++ pool)) : x ∈ (nl ++ [r]) ++ pool := by
  rcases List.mem_cons.mp hx with e | e
  · subst e
    exact List.mem_append_left _ (List.mem_append_right _ (List.mem_singleton.mpr rfl))
  · rcases List.mem_append.mp e with e | e
    · exact List.mem_append_left _ (List.mem_append_left _ e)
    · exact List.mem_append_right _ e
theorem dyI_r {K : Nat → Int32} {C : Nat → Nat} {g : Nat → Int32} {ro : Int64} {n0 : Nat} {u0 : Nat → Int32} {pool nl : List Rp} {ue j : Nat} {uf : Nat → Option Nat} (hI : dyI K C g ro n0 u0 pool ue j uf nl) (hl_ : dyN n0 j < 10) (hD : okD (dyG K C g j)) (hc : C j < 36) (ad : Nat) : dyI K C g ro n0 u0 pool ue (j + 1) (va_up uf (nI (dyN n0 j) : Int32).toNatClampNeg (some ad)) (nl ++ [(ad, nI (C j), dyG K C g j (C j), b2 (mem (dyR K C ro j) (C j) = true))]) := by
  have eN : dyN n0 (j + 1) = dyN n0 j + 1 := if_neg (by omega)
  rintro u' ⟨u, hu, hnr⟩
  rw [eN]
  exact (RL.note_r (q := (ue, uf)) (hI u hu) hl_ (ad, nI (C j), dyG K C g j (C j), b2 (mem (dyR K C ro j) (C j) = true)) (okR_of hD hc) rfl hnr).more (fun x hx => mem_mid hx)
theorem dyI_t {K : Nat → Int32} {C : Nat → Nat} {g : Nat → Int32} {ro : Int64} {n0 : Nat} {u0 : Nat → Int32} {pool nl : List Rp} {ue j : Nat} {uf : Nat → Option Nat} (hI : dyI K C g ro n0 u0 pool ue j uf nl) (hl_ : dyN n0 j = 10) (hD : okD (dyG K C g j)) (hc : C j < 36) (ad : Nat) : dyI K C g ro n0 u0 pool ue (j + 1) (va_up (rmv0 uf) (9 : Int32).toNatClampNeg (some ad)) (nl ++ [(ad, nI (C j), dyG K C g j (C j), b2 (mem (dyR K C ro j) (C j) = true))]) := by
  have eN : dyN n0 (j + 1) = 10 := if_pos hl_
  rintro u' ⟨u, hu, hnr⟩
  have h := hI u hu
  rw [hl_] at h hnr
  rw [eN]
  exact (RL.note_t (q := (ue, uf)) h (ad, nI (C j), dyG K C g j (C j), b2 (mem (dyR K C ro j) (C j) = true)) (okR_of hD hc) rfl hnr).more (fun x hx => mem_mid hx)
theorem fillG_ok {K : KQ} {n1 : Int32} (hK : ∀ Q' : Int32 → Prop, Q' n1 → K Q') {Q : Int32 → (Nat → Int32) → Int64 → Int32 → Int32 → Int32 → Int32 → Prop} {g : Nat → Int32} {gro : Int64} {c : Nat} (hc : c < 36) (h0 : ¬ g c = 0) (h : Q (g c) (upd g c 0) (gro &&& (bit c ^^^ (-1))) n1 (nI c) (g c) (b2 (mem gro c = true))) : fillG K Q g gro (nI c) := by
  unfold fillG
  refine pX0_isCell ⟨fun q => absurd (isC_nI hc) (b2_0 q), fun _ => ⟨in_nI hc (by decide), ?_⟩⟩
  rw [clam_nI (by omega), bit_nI (by omega)]
  intro v hv
  subst hv
  refine ⟨fun q => absurd q h0, fun _ => ?_⟩
  refine pX4_init hc (hK _ ?_)
  refine pX1_becomes (small_bit hc) (by decide) (by decide) ?_
  rw [if_pos rfl, bec_bit g hc]
  exact h
theorem roofG_ok {K : KQ} {n1 : Int32} (hK : ∀ Q' : Int32 → Prop, Q' n1 → K Q') {Q : Int32 → Int64 → Int32 → Int32 → Int32 → Int32 → Prop} {g : Nat → Int32} {gro : Int64} {c : Nat} (hc : c < 36) (h0 : ¬ g c = 0) (h : ∀ r : Int32, ¬ r < 0 → Q r (gro ^^^ bit c) n1 (nI c) (g c) (b2 (mem gro c = true))) : roofG K Q g gro (nI c) := by
  unfold roofG
  refine pX0_isCell ⟨fun q => absurd (isC_nI hc) (b2_0 q), fun _ => ⟨in_nI hc (by decide), ?_⟩⟩
  rw [clam_nI (by omega), bit_nI (by omega)]
  refine ⟨fun q => absurd q h0, fun _ => ?_⟩
  refine pX4_init hc (hK _ ?_)
  intro z hz
  subst hz
  exact pX0_has (by omega) ⟨fun q => h 0 (by decide), fun q => h 1 (by decide)⟩
theorem mFill {Q : Int32 → (Nat → Int32) → Int64 → (Nat → Int32) → Int32 → Prop} {g u : Nat → Int32} {roofs : Int64} {n c : Nat} (hn : n ≤ 10) (hc : c < 36) (h0 : ¬ g c = 0) (h : ∀ u', noteR (g c) (b2 (mem roofs c = true)) u u' n c → Q (g c) (upd g c 0) (roofs &&& (bit c ^^^ (-1))) u' (nI (if n = 10 then 10 else n + 1))) : wX3_fill Q g roofs u (nI n) (nI c) := by
  unfold wX3_fill
  refine pX3_isCell ⟨fun q => absurd (isC_nI hc) (b2_0 q), fun _ => ⟨in_nI hc (by decide), ?_⟩⟩
  rw [clam_nI (by omega)]
  intro v hv
  subst hv
  refine ⟨fun q => absurd q h0, fun _ => ?_⟩
  refine pX3_note hn hc ?_
  intro u' hu
  refine pX3_put hc ?_
  rw [if_pos rfl]
  exact h u' hu
theorem mRoof {Q : Int32 → Int64 → (Nat → Int32) → Int32 → Prop} {g u : Nat → Int32} {roofs : Int64} {n c : Nat} (hn : n ≤ 10) (hc : c < 36) (h0 : ¬ g c = 0) (h : ∀ (r : Int32) u', ¬ r < 0 → noteR (g c) (b2 (mem roofs c = true)) u u' n c → Q r (roofs ^^^ bit c) u' (nI (if n = 10 then 10 else n + 1))) : wX3_roof Q g roofs u (nI n) (nI c) := by
  unfold wX3_roof
  refine pX3_isCell ⟨fun q => absurd (isC_nI hc) (b2_0 q), fun _ => ⟨in_nI hc (by decide), ?_⟩⟩
  rw [clam_nI (by omega), bit_nI (by omega)]
  refine ⟨fun q => absurd q h0, fun _ => ?_⟩
  refine pX3_note hn hc ?_
  intro u' hu z hz
  subst hz
  exact pX3_has (by omega) ⟨fun q => h 0 u' (by decide) hu, fun q => h 1 u' (by decide) hu⟩
theorem cDig_n {Q : Int32 → Prop} {g : Nat → Int32} {c : Nat} (hc : c < 36) (h9 : g c = 9) (h : Q (-3)) : wX0_dig_n Q g (nI c) := by
  unfold wX0_dig_n
  refine pX0_isCell ⟨fun q => absurd (isC_nI hc) (b2_0 q), fun _ => ⟨in_nI hc (by decide), ?_⟩⟩
  rw [clam_nI (by omega)]
  exact sw1 h9 h
theorem cFill_n {Q : Int32 → Prop} {g : Nat → Int32} {c : Nat} (hc : c < 36) (h0 : g c = 0) (h : Q (-2)) : wX0_fill_n Q g (nI c) := by
  unfold wX0_fill_n
  refine pX0_isCell ⟨fun q => absurd (isC_nI hc) (b2_0 q), fun _ => ⟨in_nI hc (by decide), ?_⟩⟩
  rw [clam_nI (by omega)]
  intro x ex
  exact sw1 (ex.trans h0) h
theorem cRoof_n {Q : Int32 → Prop} {g : Nat → Int32} {c : Nat} (hc : c < 36) (h0 : g c = 0) (h : Q (-2)) : wX0_roof_n Q g (nI c) := by
  unfold wX0_roof_n
  refine pX0_isCell ⟨fun q => absurd (isC_nI hc) (b2_0 q), fun _ => ⟨in_nI hc (by decide), ?_⟩⟩
  rw [clam_nI (by omega)]
  exact sw1 h0 h
theorem mDig_n {Q : Int32 → (Nat → Int32) → (Nat → Int32) → Int32 → Prop} {g u : Nat → Int32} {roofs : Int64} {um : Int32} {c : Nat} (hc : c < 36) (h9 : g c = 9) (h : Q (-3) g u um) : wX3_dig Q g roofs u um (nI c) := by
  unfold wX3_dig
  refine pX3_isCell ⟨fun q => absurd (isC_nI hc) (b2_0 q), fun _ => ⟨in_nI hc (by decide), ?_⟩⟩
  rw [clam_nI (by omega)]
  exact sw1 h9 h
theorem mFill_n {Q : Int32 → (Nat → Int32) → Int64 → (Nat → Int32) → Int32 → Prop} {g u : Nat → Int32} {roofs : Int64} {um : Int32} {c : Nat} (hc : c < 36) (h0 : g c = 0) (h : Q (-2) g roofs u um) : wX3_fill Q g roofs u um (nI c) := by
  unfold wX3_fill
  refine pX3_isCell ⟨fun q => absurd (isC_nI hc) (b2_0 q), fun _ => ⟨in_nI hc (by decide), ?_⟩⟩
  rw [clam_nI (by omega)]
  intro x ex
  exact sw1 (ex.trans h0) h
theorem mRoof_n {Q : Int32 → Int64 → (Nat → Int32) → Int32 → Prop} {g u : Nat → Int32} {roofs : Int64} {um : Int32} {c : Nat} (hc : c < 36) (h0 : g c = 0) (h : Q (-2) roofs u um) : wX3_roof Q g roofs u um (nI c) := by
  unfold wX3_roof
  refine pX3_isCell ⟨fun q => absurd (isC_nI hc) (b2_0 q), fun _ => ⟨in_nI hc (by decide), ?_⟩⟩
  rw [clam_nI (by omega)]
  exact sw1 h0 h
theorem cDoes_n {Q : Int32 → Prop} {g ac : Nat → Int32} {j c : Nat} {k : Int32} (hj : j ≤ 80) (e1 : ac (2 * j) = k) (e2 : ac (2 * j + 1) = nI c) (hc : c < 36) (hk : k = 0 ∨ k = 1 ∨ k = 2) (hb : stB k c g) (h : ∀ r : Int32, r < 0 → Q r) : wX0_does_n Q g ac (nI j) := by
  unfold wX0_does_n
  rw [show (2 : Int32) = nI 2 from rfl, nI_mulN, nI_add1 (2 * j), clam_nI (k := 2 * j) (by omega), clam_nI (k := 2 * j + 1) (by omega), e1, e2]
  refine ⟨in_nI (by omega) (by decide), ?_⟩
  intro x ex
  refine ⟨in_nI (by omega) (by decide), ?_⟩
  intro w ew
  subst ex ew
  unfold stB at hb
  rcases hk with z | z | z <;> subst z
  · rw [if_pos rfl] at hb
    exact sw1 rfl (cDig_n hc hb (h _ (by decide)))
  · rw [if_neg (by decide)] at hb
    exact sw0 (by decide) (sw1 rfl (cFill_n hc hb (h _ (by decide))))
  · rw [if_neg (by decide)] at hb
    exact sw0 (by decide) (sw0 (by decide) (cRoof_n hc hb (h _ (by decide))))
theorem dig_pos {g : Nat → Int32} {c : Nat} (hg : okD g) (hc : c < 36) : ¬ g c + 1 < 0 ∧ ¬ g c < 0 := by
  obtain ⟨k, hk, e⟩ := nI_ofN (n := 9) (hg c hc).1 (hg c hc).2 (by decide)
  rw [e, nI_add1]
  exact ⟨Int32.not_lt.mpr ((nI_leN (a := 0) (by decide) (by omega)).mpr (by omega)), Int32.not_lt.mpr ((nI_leN (a := 0) (by decide) (by omega)).mpr (by omega))⟩
theorem cDoes_e {Q : Int32 → (Nat → Int32) → Int64 → Int32 → Int32 → Int32 → Int32 → Prop} {g ac : Nat → Int32} {ro : Int64} {umc sz n1 : Int32} {j c : Nat} {k : Int32} (hK : ∀ Q' : Int32 → Prop, Q' n1 → wX4_kept_e Q' umc sz) (hg : okD g) (hj : j ≤ 80) (e1 : ac (2 * j) = k) (e2 : ac (2 * j + 1) = nI c) (hc : c < 36) (hk : k = 0 ∨ k = 1 ∨ k = 2) (hb : ¬ stB k c g) (h : ∀ r : Int32, ¬ r < 0 → Q r (stG k c g) (stR k c ro) n1 (nI c) (g c) (b2 (mem ro c = true))) : wX0_does_e Q g ro ac umc sz (nI j) := by
  unfold wX0_does_e
  rw [show (2 : Int32) = nI 2 from rfl, nI_mulN, nI_add1 (2 * j), clam_nI (k := 2 * j) (by omega), clam_nI (k := 2 * j + 1) (by omega), e1, e2]
  refine ⟨in_nI (by omega) (by decide), ?_⟩
  intro x ex
  refine ⟨in_nI (by omega) (by decide), ?_⟩
  intro w ew
  subst ex ew
  unfold stB at hb
  unfold stG stR at h
  rcases hk with z | z | z <;> subst z
  · rw [if_pos rfl] at hb
    rw [if_pos rfl, if_pos rfl] at h
    refine sw1 rfl ?_
    rw [dig_e_is]
    exact digG_ok hK hg hc hb (h _ (dig_pos hg hc).1)
  · rw [if_neg (by decide)] at hb
    rw [if_neg (by decide), if_pos rfl, if_neg (by decide), if_pos rfl] at h
    refine sw0 (by decide) (sw1 rfl ?_)
    rw [fill_e_is]
    exact fillG_ok hK hc hb (h _ (dig_pos hg hc).2)
  · rw [if_neg (by decide)] at hb
    rw [if_neg (by decide), if_neg (by decide), if_neg (by decide), if_neg (by decide)] at h
    refine sw0 (by decide) (sw0 (by decide) ?_)
    rw [roof_e_is]
    exact roofG_ok hK hc hb (fun r hr => h r hr)
theorem cDoes_r {Q : Int32 → (Nat → Int32) → Int64 → Int32 → Int32 → Int32 → Int32 → Prop} {g ac : Nat → Int32} {ro : Int64} {umc sz n1 : Int32} {uf : Nat → Option Nat} {j c : Nat} {k : Int32} (hK : ∀ Q' : Int32 → Prop, Q' n1 → wX4_kept_r Q' umc sz uf) (hg : okD g) (hj : j ≤ 80) (e1 : ac (2 * j) = k) (e2 : ac (2 * j + 1) = nI c) (hc : c < 36) (hk : k = 0 ∨ k = 1 ∨ k = 2) (hb : ¬ stB k c g) (h : ∀ r : Int32, ¬ r < 0 → Q r (stG k c g) (stR k c ro) n1 (nI c) (g c) (b2 (mem ro c = true))) : wX0_does_r Q g ro ac umc sz uf (nI j) := by
  unfold wX0_does_r
  rw [show (2 : Int32) = nI 2 from rfl, nI_mulN, nI_add1 (2 * j), clam_nI (k := 2 * j) (by omega), clam_nI (k := 2 * j + 1) (by omega), e1, e2]
  refine ⟨in_nI (by omega) (by decide), ?_⟩
  intro x ex
  refine ⟨in_nI (by omega) (by decide), ?_⟩
  intro w ew
  subst ex ew
  unfold stB at hb
  unfold stG stR at h
  rcases hk with z | z | z <;> subst z
  · rw [if_pos rfl] at hb
    rw [if_pos rfl, if_pos rfl] at h
    refine sw1 rfl ?_
    rw [dig_r_is]
    exact digG_ok hK hg hc hb (h _ (dig_pos hg hc).1)
  · rw [if_neg (by decide)] at hb
    rw [if_neg (by decide), if_pos rfl, if_neg (by decide), if_pos rfl] at h
    refine sw0 (by decide) (sw1 rfl ?_)
    rw [fill_r_is]
    exact fillG_ok hK hc hb (h _ (dig_pos hg hc).2)
  · rw [if_neg (by decide)] at hb
    rw [if_neg (by decide), if_neg (by decide), if_neg (by decide), if_neg (by decide)] at h
    refine sw0 (by decide) (sw0 (by decide) ?_)
    rw [roof_r_is]
    exact roofG_ok hK hc hb (fun r hr => h r hr)
theorem cDoes_t {Q : Int32 → (Nat → Int32) → Int64 → Int32 → Int32 → Int32 → Int32 → Prop} {g ac : Nat → Int32} {ro : Int64} {umc sz n1 : Int32} {uf : Nat → Option Nat} {j c : Nat} {k : Int32} (hK : ∀ Q' : Int32 → Prop, Q' n1 → wX4_kept_t Q' umc sz uf) (hg : okD g) (hj : j ≤ 80) (e1 : ac (2 * j) = k) (e2 : ac (2 * j + 1) = nI c) (hc : c < 36) (hk : k = 0 ∨ k = 1 ∨ k = 2) (hb : ¬ stB k c g) (h : ∀ r : Int32, ¬ r < 0 → Q r (stG k c g) (stR k c ro) n1 (nI c) (g c) (b2 (mem ro c = true))) : wX0_does_t Q g ro ac umc sz uf (nI j) := by
  unfold wX0_does_t
  rw [show (2 : Int32) = nI 2 from rfl, nI_mulN, nI_add1 (2 * j), clam_nI (k := 2 * j) (by omega), clam_nI (k := 2 * j + 1) (by omega), e1, e2]
  refine ⟨in_nI (by omega) (by decide), ?_⟩
  intro x ex
  refine ⟨in_nI (by omega) (by decide), ?_⟩
  intro w ew
  subst ex ew
  unfold stB at hb
  unfold stG stR at h
  rcases hk with z | z | z <;> subst z
  · rw [if_pos rfl] at hb
    rw [if_pos rfl, if_pos rfl] at h
    refine sw1 rfl ?_
    rw [dig_t_is]
    exact digG_ok hK hg hc hb (h _ (dig_pos hg hc).1)
  · rw [if_neg (by decide)] at hb
    rw [if_neg (by decide), if_pos rfl, if_neg (by decide), if_pos rfl] at h
    refine sw0 (by decide) (sw1 rfl ?_)
    rw [fill_t_is]
    exact fillG_ok hK hc hb (h _ (dig_pos hg hc).2)
  · rw [if_neg (by decide)] at hb
    rw [if_neg (by decide), if_neg (by decide), if_neg (by decide), if_neg (by decide)] at h
    refine sw0 (by decide) (sw0 (by decide) ?_)
    rw [roof_t_is]
    exact roofG_ok hK hc hb (fun r hr => h r hr)
section DAYLOOP
variable {K : Nat → Int32} {C : Nat → Nat} {g : Nat → Int32} {ro : Int64} {n0 : Nat} {u0 : Nat → Int32} {pool : List Rp} {m : Nat} {ac : Nat → Int32}
theorem cDay2r {ue : Nat} {Q : Int32 → (Nat → Int32) → Int64 → Int32 → Int32 → Nat → (Nat → Option Nat) → List Rp → Prop} (hm : m ≤ 41) (hn0 : n0 ≤ 10) (hC : ∀ j, C j < 36) (hK : ∀ j, K j = 0 ∨ K j = 1 ∨ K j = 2) (hg : okD g) (hac : ∀ j, j < m → ac (2 * j) = K j ∧ ac (2 * j + 1) = nI (C j)) (hB : ∀ j mc uf nl, j < m → (∀ i, i < j → ¬ stB (K i) (C i) (dyG K C g i)) → stB (K j) (C j) (dyG K C g j) → dyI K C g ro n0 u0 pool ue j uf nl → Q (nI j) (dyG K C g j) (dyR K C ro j) mc (nI (dyN n0 j)) ue uf nl) (hS : ∀ mc uf nl, (∀ i, i < m → ¬ stB (K i) (C i) (dyG K C g i)) → dyI K C g ro n0 u0 pool ue m uf nl → Q (nI m) (dyG K C g m) (dyR K C ro m) mc (nI (dyN n0 m)) ue uf nl) : ∀ k j umc uf nl kc ks, j + k = m → (∀ i, i < j → ¬ stB (K i) (C i) (dyG K C g i)) → dyI K C g ro n0 u0 pool ue j uf nl → kc + k ≤ 60 → ks + 4 * k ≤ 300 → wDay2r Q ac (nI m) ue (k + 1) (nI j) (dyG K C g j) (dyR K C ro j) umc (nI (dyN n0 j)) uf nl kc ks := by
  intro k
  induction k with
  | zero =>
    intro j umc uf nl kc ks hj hb hI _ _
    have e : j = m := by omega
    subst e
    unfold wDay2r
    exact sw1 (Int32.le_refl _) (hS umc uf nl hb hI)
  | succ k ih =>
    intro j umc uf nl kc ks hj hb hI hkc hks
    have hD := dyG_ok hC hg j hb
    have hN := dyN_le hn0 j
    obtain ⟨a1, a2⟩ := hac j (by omega)
    unfold wDay2r
    refine sw0 (fun q => by have := (nI_leN (by omega) (by omega)).mp q; omega) ⟨by omega, by omega, ?_⟩
    by_cases b : stB (K j) (C j) (dyG K C g j)
    · exact Or.inl (cDoes_n (by omega) a1 a2 (hC j) (hK j) b (fun r hr => sw1 hr (hB j umc uf nl (by omega) hb b hI)))
    · have hb1 : ∀ i, i < j + 1 → ¬ stB (K i) (C i) (dyG K C g i) := fun i hi => by
        by_cases e : i = j
        · rw [e]; exact b
        · exact hb i (by omega)
      by_cases l : dyN n0 j < 10
      · have eN : dyN n0 (j + 1) = dyN n0 j + 1 := if_neg (by omega)
        refine Or.inr (Or.inl (cDoes_r (n1 := nI (dyN n0 j + 1)) (fun Q' hq => kept_r l hq) hD (by omega) a1 a2 (hC j) (hK j) b (fun r hr ad umc1 => sw0 hr ?_)))
        intro x ex
        rw [ex, nI_add1]
        have w := ih (j + 1) umc1 _ _ (kc + 1) (ks + 4) (by omega) hb1 (dyI_r hI l hD (hC j) ad) (by omega) (by omega)
        rw [eN] at w
        exact w
      · have e10 : dyN n0 j = 10 := by omega
        have eN : dyN n0 (j + 1) = 10 := if_pos e10
        have h0 : (uf 0).isSome = true := by
          obtain ⟨u, hu⟩ := dyU_ex (K := K) (C := C) (g := g) (ro := ro) (n0 := dyN n0) (u0 := u0) j
          obtain ⟨r, -, q2, -⟩ := (hI u hu).2.2.2.2 (ue, uf) rfl 0 (by omega)
          have q2 : uf 0 = some r.1 := q2
          rw [q2]; rfl
        refine Or.inr (Or.inr (cDoes_t (n1 := nI 10) (fun Q' hq => by rw [e10]; exact kept_t h0 hq) hD (by omega) a1 a2 (hC j) (hK j) b (fun r hr ad umc1 => sw0 hr ?_)))
        intro x ex
        rw [ex, nI_add1]
        have w := ih (j + 1) umc1 _ _ (kc + 1) (ks + 4) (by omega) hb1 (dyI_t hI e10 hD (hC j) ad) (by omega) (by omega)
        rw [eN] at w
        exact w
theorem mDay17 {Q : Int32 → (Nat → Int32) → Int64 → (Nat → Int32) → Int32 → Int32 → Int32 → Int32 → (Nat → Int32) → Prop} {g' f' rd : Nat → Int32} {ty pl : Int32} {lt : Nat → Nat} (hm : m ≤ 41) (hn0 : n0 ≤ 10) (hC : ∀ j, C j < 36) (hg_ : okD g) (hgA : agree 36 g g') (hrd : ∀ j, j < m → rd j = nI (100 * lt j + C j) ∧ ((lt j = 100 ∧ K j = 0) ∨ (lt j = 102 ∧ K j = 1) ∨ (lt j = 114 ∧ K j = 2))) (hB : ∀ j u, j < m → (∀ i, i < j → ¬ stB (K i) (C i) (dyG K C g i)) → stB (K j) (C j) (dyG K C g j) → dyU K C g ro (dyN n0) u0 j u → Q (nI j) (dyG K C g' j) (dyR K C ro j) u (nI (dyN n0 j)) ty pl (nI m) rd) (hS : ∀ u, (∀ i, i < m → ¬ stB (K i) (C i) (dyG K C g i)) → dyU K C g ro (dyN n0) u0 m u → Q (nI m) (dyG K C g' m) (dyR K C ro m) u (nI (dyN n0 m)) ty pl (nI m) rd) : ∀ k j u, j + k = m → (∀ i, i < j → ¬ stB (K i) (C i) (dyG K C g i)) → dyU K C g ro (dyN n0) u0 j u → wX3_day_17 Q f' ty pl (nI m) rd (k + 1) (nI j) (dyG K C g' j) (dyR K C ro j) u (nI (dyN n0 j)) := by
  intro k
  induction k with
  | zero =>
    intro j u hj hb hu
    have e : j = m := by omega
    subst e
    unfold wX3_day_17
    exact sw1 (Int32.le_refl _) (hS u hb hu)
  | succ k ih =>
    intro j u hj hb hu
    have ag := dyG_agree (K := K) hC hgA j
    have hN := dyN_le hn0 j
    have hc := hC j
    obtain ⟨er, hl_⟩ := hrd j (by omega)
    have ac := ag (C j) hc
    unfold wX3_day_17
    refine sw0 (fun q => by have := (nI_leN (by omega) (by omega)).mp q; omega) ⟨in_nI (by omega) (by decide), ?_⟩
    have hlt : lt j ≤ 114 := by omega
    have e100 : (100 : Int32) = nI 100 := rfl
    have d1 : (nI (100 * lt j + C j) : Int32) / 100 = nI (lt j) := by
      rw [e100, nI_div (by omega) (by decide)]
      congr 1
      omega
    have d2 : (nI (100 * lt j + C j) : Int32) - nI (100 * lt j + C j) / 100 * 100 = nI (C j) := by
      rw [e100, nI_mod (by omega) (by decide) (by decide)]
      congr 1
      omega
    rw [clam_nI (by omega), er, d2, d1]
    intro x3 e3
    refine ⟨in_nI (by omega) (by decide), ?_⟩
    intro x4 e4
    subst e3 e4
    have go : ¬ stB (K j) (C j) (dyG K C g j) → ∀ (z : Int32) (d' : Nat → Int32) (r' : Int64) u', ¬ z < 0 → noteR (dyG K C g' j (C j)) (b2 (mem (dyR K C ro j) (C j) = true)) u u' (dyN n0 j) (C j) → d' = stG (K j) (C j) (dyG K C g' j) → r' = stR (K j) (C j) (dyR K C ro j) → wX3_day_82 Q (wX3_day_17 Q f' ty pl (nI m) rd (k + 1)) (nI j) z d' r' u' (nI (if dyN n0 j = 10 then 10 else dyN n0 j + 1)) f' ty pl (nI m) rd := by
      intro b z d' r' u' hz hnr ed er2
      subst ed er2
      unfold wX3_day_82
      refine sw1 (Int32.not_lt.mp hz) ?_
      intro y ey
      rw [ey, nI_add1]
      refine ih (j + 1) u' (by omega) (fun i hi => ?_) ⟨u, hu, ?_⟩
      · by_cases e : i = j
        · rw [e]; exact b
        · exact hb i (by omega)
      · rw [ac]
        exact hnr
    have bad : ∀ z : Int32, z < 0 → stB (K j) (C j) (dyG K C g j) → wX3_day_82 Q (wX3_day_17 Q f' ty pl (nI m) rd (k + 1)) (nI j) z (dyG K C g' j) (dyR K C ro j) u (nI (dyN n0 j)) f' ty pl (nI m) rd := by
      intro z hz b
      unfold wX3_day_82
      exact sw0 (fun q => absurd hz (Int32.not_lt.mpr q)) (hB j u (by omega) hb b hu)
    rcases hl_ with ⟨z1, z2⟩ | ⟨z1, z2⟩ | ⟨z1, z2⟩
    · rw [z1]
      rw [z2] at go bad
      refine sw1 rfl ?_
      by_cases b : dyG K C g j (C j) = 9
      · exact mDig_n hc (by rw [← ac]; exact b) (bad _ (by decide) (by unfold stB; rw [if_pos rfl]; exact b))
      · refine mDig hN hc (by rw [← ac]; exact b) (fun u' hnr => ?_)
        exact go (by unfold stB; rw [if_pos rfl]; exact b) _ _ _ u' (by rw [← ac]; exact (dig_pos (dyG_ok hC hg_ j hb) hc).1) hnr (by unfold stG; rw [if_pos rfl]) (by unfold stR; rw [if_pos rfl])
    · rw [z1]
      rw [z2] at go bad
      refine sw0 (by decide) (sw1 rfl ?_)
      by_cases b : dyG K C g j (C j) = 0
      · exact mFill_n hc (by rw [← ac]; exact b) (bad _ (by decide) (by unfold stB; rw [if_neg (by decide)]; exact b))
      · refine mFill hN hc (by rw [← ac]; exact b) (fun u' hnr => ?_)
        exact go (by unfold stB; rw [if_neg (by decide)]; exact b) _ _ _ u' (by rw [← ac]; exact (dig_pos (dyG_ok hC hg_ j hb) hc).2) hnr (by unfold stG; rw [if_neg (by decide), if_pos rfl]) (by unfold stR; rw [if_neg (by decide), if_pos rfl])
    · rw [z1]
      rw [z2] at go bad
      refine sw0 (by decide) (sw0 (by decide) ?_)
      by_cases b : dyG K C g j (C j) = 0
      · exact mRoof_n hc (by rw [← ac]; exact b) (bad _ (by decide) (by unfold stB; rw [if_neg (by decide)]; exact b))
      · refine mRoof hN hc (by rw [← ac]; exact b) (fun r u' hr hnr => ?_)
        exact go (by unfold stB; rw [if_neg (by decide)]; exact b) _ _ _ u' hr hnr (by unfold stG; rw [if_neg (by decide), if_neg (by decide)]) (by unfold stR; rw [if_neg (by decide), if_neg (by decide)])
end DAYLOOP
theorem okA_lt {ch : Int32} (h : okA ch) : ∃ l, ch = nI l ∧ ((l = 100 ∧ vlA ch = 0) ∨ (l = 102 ∧ vlA ch = 1) ∨ (l = 114 ∧ vlA ch = 2)) := by
  rcases h with e | e | e <;> subst e
  · exact ⟨100, rfl, Or.inl ⟨rfl, by decide⟩⟩
  · exact ⟨102, rfl, Or.inr (Or.inl ⟨rfl, by decide⟩)⟩
  · exact ⟨114, rfl, Or.inr (Or.inr ⟨rfl, by decide⟩)⟩
theorem dK3 (f : Nat → Int32) (n j : Nat) : dKn f n j = 0 ∨ dKn f n j = 1 ∨ dKn f n j = 2 := by
  unfold dKn vlA
  split
  · exact Or.inl rfl
  · split
    · exact Or.inr (Or.inl rfl)
    · exact Or.inr (Or.inr rfl)
theorem dRd_nat {f : Nat → Int32} {n j : Nat} (k1 : dk1 f n (dP f n j)) (k2 : dk2 f n (dP f n j)) (k3 : dk3 f n (dP f n j)) : dRd f n (dP f n j) = nI (100 * (f (nx f n (dP f n j))).toNatClampNeg + dCn f n j) ∧ (((f (nx f n (dP f n j))).toNatClampNeg = 100 ∧ dKn f n j = 0) ∨ ((f (nx f n (dP f n j))).toNatClampNeg = 102 ∧ dKn f n j = 1) ∨ ((f (nx f n (dP f n j))).toNatClampNeg = 114 ∧ dKn f n j = 2)) := by
  obtain ⟨l, el, h⟩ := okA_lt k1.2
  have hl_ : l ≤ 114 := by omega
  have ec : (f (nx f n (dP f n j))).toNatClampNeg = l := by rw [el]; exact clam_nI (by omega)
  have e := dCi_nat k2 k3
  unfold dCi at e
  refine ⟨?_, ?_⟩
  · unfold dRd
    rw [ec, Int32.add_assoc, e, el, show (100 : Int32) = nI 100 from rfl, nI_mulN, nI_add]
  · rw [ec]
    exact h
theorem mDay {Q : Int32 → (Nat → Int32) → Int64 → (Nat → Int32) → Int32 → Int32 → Int32 → Int32 → (Nat → Int32) → Prop} {f f' g d2 u0 rd : Nat → Int32} {ro : Int64} {pl rs : Int32} {n n0 : Nat} (hn : n ≤ 160) (hT : okT f n) (hA : agree n f f') (hn0 : n0 ≤ 10) (hg : okD g) (hgA : agree 36 g d2) (h1 : ∀ m v, (∀ i, i < m → dkF f n i) → ¬ dk1 f n (dP f n m) → Q ((-20) - nI (nx f n (dP f n m))) d2 ro u0 (nI n0) 0 (nI (nx f n (dP f n m))) (nI (m)) v) (h2 : ∀ m v, (∀ i, i < m → dkF f n i) → dk1 f n (dP f n m) → ¬ dk2 f n (dP f n m) → Q ((-20) - nI (dX f n (dP f n m))) d2 ro u0 (nI n0) 0 (nI (dX f n (dP f n m))) (nI (m)) v) (h3 : ∀ m v, (∀ i, i < m → dkF f n i) → dk1 f n (dP f n m) → dk2 f n (dP f n m) → ¬ dk3 f n (dP f n m) → Q ((-20) - nI (dY f n (dP f n m))) d2 ro u0 (nI n0) 0 (nI (dY f n (dP f n m))) (nI (m)) v) (h4 : ∀ m v, (∀ i, i < m → dkF f n i) → dk1 f n (dP f n m) → dk2 f n (dP f n m) → dk3 f n (dP f n m) → ¬ dk4 f n (dP f n m) → dZ f n (dP f n m) < n → Q ((-20) - nI (dZ f n (dP f n m))) d2 ro u0 (nI n0) 0 (nI (dZ f n (dP f n m))) (nI (m + 1)) v) (h5 : ∀ (m : Nat) (v : Nat → Int32), (∀ i, i < m → dkF f n i) → dk1 f n (dP f n m) → dk2 f n (dP f n m) → dk3 f n (dP f n m) → ¬ dk4 f n (dP f n m) → ¬ dZ f n (dP f n m) < n → (∀ j u, j < m + 1 → (∀ i, i < j → ¬ stB (dKn f n i) (dCn f n i) (dyG (dKn f n) (dCn f n) g i)) → stB (dKn f n j) (dCn f n j) (dyG (dKn f n) (dCn f n) g j) → dyU (dKn f n) (dCn f n) g ro (dyN n0) u0 j u → Q (nI j) (dyG (dKn f n) (dCn f n) d2 j) (dyR (dKn f n) (dCn f n) ro j) u (nI (dyN n0 j)) 0 (nI (dZ f n (dP f n m))) (nI (m + 1)) v) ∧ (∀ u, (∀ i, i < m + 1 → ¬ stB (dKn f n i) (dCn f n i) (dyG (dKn f n) (dCn f n) g i)) → dyU (dKn f n) (dCn f n) g ro (dyN n0) u0 (m + 1) u → Q (nI (m + 1)) (dyG (dKn f n) (dCn f n) d2 (m + 1)) (dyR (dKn f n) (dCn f n) ro (m + 1)) u (nI (dyN n0 (m + 1))) 0 (nI (dZ f n (dP f n m))) (nI (m + 1)) v)) : wX3_day Q d2 ro u0 (nI n0) f' (nI n) pl rs rd := by
  unfold wX3_day wX3_readDay
  have le : ∀ m, (∀ i, i < m → dkF f n i) → dP f n m ≤ n := fun m h => (dP_ge m h).2
  have w := mDay12 (Q := fun r_2 place_2 reads_2 read__2 => (wX3_end (fun r_5 taped_5 place_5 => ((0 ≤ r_5 → (∃ fu : Nat, wX3_day_17 Q f' taped_5 place_5 reads_2 read__2 fu 0 d2 ro u0 (nI n0))) ∧ (¬ 0 ≤ r_5 → (Q r_5 d2 ro u0 (nI n0) taped_5 place_5 reads_2 read__2)))) f' (nI n) place_2 r_2)) hn hT hA
    (fun m v hF a1 => mEnd0 hn hA (nx_le (le m hF)) (nx_nx f n _) (sw0 (neg20 (Nat.le_trans (nx_le (le m hF)) hn)) (h1 m v hF a1)))
    (fun m v hF a1 a2 => mEnd0 hn hA (nx_le a1.1) (nx_nx f n _) (sw0 (neg20 (Nat.le_trans (nx_le a1.1) hn)) (h2 m v hF a1 a2)))
    (fun m v hF a1 a2 a3 => mEnd0 hn hA (nx_le a2.1) (nx_nx f n _) (sw0 (neg20 (Nat.le_trans (nx_le a2.1) hn)) (h3 m v hF a1 a2 a3)))
    (fun m v hF a1 a2 a3 a4 a5 => mEnd0 hn hA (nx_le a3.1) (nx_nx f n _) (sw0 (neg20 (Nat.le_trans (nx_le a3.1) hn)) (h4 m v hF a1 a2 a3 a4 a5)))
    (fun m v hF a1 a2 a3 a4 a5 hv => mEnd1 (sw1 (by decide) ⟨m + 1 + 1, by
      have hm : m + 1 ≤ 41 := by have := dP_ge m hF; omega
      obtain ⟨b1, b2⟩ := h5 m v hF a1 a2 a3 a4 a5
      have w := mDay17 (K := dKn f n) (C := dCn f n) (g := g) (ro := ro) (n0 := n0) (u0 := u0) (m := m + 1) (Q := Q) (g' := d2) (f' := f') (rd := v) (ty := 0) (pl := nI (dZ f n (dP f n m))) (lt := fun j => (f (nx f n (dP f n j))).toNatClampNeg) hm hn0 (dCn_lt f n) hg hgA (fun j hj => by
        by_cases e : j = m
        · subst e
          rw [hv j (Nat.le_refl _)]
          exact dRd_nat a1 a2 a3
        · have q := hF j (by omega)
          rw [hv j (by omega)]
          exact dRd_nat q.1 q.2.1 q.2.2.1) b1 b2 (m + 1) 0 u0 (by omega) (fun i hi => absurd hi (Nat.not_lt_zero i)) rfl
      exact w⟩)) 41 0 rd (by omega) (fun i hi => absurd hi (Nat.not_lt_zero i)) (fun i hi => absurd hi (Nat.not_lt_zero i))
  exact ⟨42, w⟩
theorem oDay_e {P : Int32 → Int32 → Int32 → (Nat → Int32) → Option ((Nat → Int32) × Int64 × Int32 × Int32 × Nat × (Nat → Option Nat) × List Rp) → Int32 → (Nat → Int32) → Int64 → (Nat → Int32) → Int32 → Int32 → Int32 → Int32 → (Nat → Int32) → Prop} {f f' g d2 u0 rd acts : Nat → Int32} {ro : Int64} {umc at_ pl rs : Int32} {pool : List Rp} {n : Nat} (hn : n ≤ 160) (hT : okT f n) (hA : agree n f f') (hg : okD g) (hgA : agree 36 g d2) (hsm : small ro) (hU : RL pool (nI 0) none 0 u0) (hb : ∀ r x1 x2 y1 y2 y3, P r 0 x1 x2 none r d2 ro u0 (nI 0) 0 y1 y2 y3) (hs : ∀ r x1 x2 g1 r1 mc1 n1 ue uf1 nl g2 u1 y1 y2 y3, okD g1 → agree 36 g1 g2 → small r1 → RL (nl ++ pool) (nI n1) (some (ue, uf1)) n1 u1 → P r 0 x1 x2 (some (g1, r1, mc1, nI n1, ue, uf1, nl)) r g2 r1 u1 (nI n1) 0 y1 y2 y3) : wX0_day_e (fun r a b c d => wX3_day (fun r' a' b' c' d' e' f1 g1 h1 => P r a b c d r' a' b' c' d' e' f1 g1 h1) d2 ro u0 (nI 0) f' (nI n) pl rs rd) (nI n) at_ g ro f acts umc (nI 0) := by
  unfold wX0_day_e wX0_day_e_0
  refine ⟨41, ?_⟩
  have hC := dCn_lt f n
  have hK := dK3 f n
  have w := cDay7_e (K2 := fun x1 x2 acts at_ kc ks => ∃ fu, wDay2e (fun r => (fun r a b c d => wX3_day (fun r' a' b' c' d' e' f1 g1 h1 => P r a b c d r' a' b' c' d' e' f1 g1 h1) d2 ro u0 (nI 0) f' (nI n) pl rs rd) r 0 at_ acts none) (fun r gd gro umc usz ue uf nl => (fun r a b c d => wX3_day (fun r' a' b' c' d' e' f1 g1 h1 => P r a b c d r' a' b' c' d' e' f1 g1 h1) d2 ro u0 (nI 0) f' (nI n) pl rs rd) r 0 at_ acts (some (gd, gro, umc, usz, ue, uf, nl))) acts x1 g ro umc (nI 0) kc ks fu x2) (Q := fun r typed at_ acts => (fun r a b c d => wX3_day (fun r' a' b' c' d' e' f1 g1 h1 => P r a b c d r' a' b' c' d' e' f1 g1 h1) d2 ro u0 (nI 0) f' (nI n) pl rs rd) r typed at_ acts none) (f := f) hn hT
    (fun m v hF a1 => mDay hn hT hA (Nat.zero_le _) hg hgA (fun d v2 hF2 b1 => by have e := first_dk hF (fun z => a1 z.1) hF2 (fun z => b1 z.1); subst e; exact hb _ _ _ _ _ _) (fun d v2 hF2 b1 b2 => by have e := first_dk hF (fun z => a1 z.1) hF2 (fun z => b2 z.2.1); subst e; exact absurd b1 a1) (fun d v2 hF2 b1 b2 b3 => by have e := first_dk hF (fun z => a1 z.1) hF2 (fun z => b3 z.2.2.1); subst e; exact absurd b1 a1) (fun d v2 hF2 b1 b2 b3 b4 b5 => by have e := first_dk hF (fun z => a1 z.1) hF2 (fun z => b4 z.2.2.2); subst e; exact absurd b1 a1) (fun d v2 hF2 b1 b2 b3 b4 b5 => by have e := first_dk hF (fun z => a1 z.1) hF2 (fun z => b4 z.2.2.2); subst e; exact absurd b1 a1))
    (fun m v hF a1 a2 => mDay hn hT hA (Nat.zero_le _) hg hgA (fun d v2 hF2 b1 => by have e := first_dk hF (fun z => a2 z.2.1) hF2 (fun z => b1 z.1); subst e; exact absurd a1 b1) (fun d v2 hF2 b1 b2 => by have e := first_dk hF (fun z => a2 z.2.1) hF2 (fun z => b2 z.2.1); subst e; exact hb _ _ _ _ _ _) (fun d v2 hF2 b1 b2 b3 => by have e := first_dk hF (fun z => a2 z.2.1) hF2 (fun z => b3 z.2.2.1); subst e; exact absurd b2 a2) (fun d v2 hF2 b1 b2 b3 b4 b5 => by have e := first_dk hF (fun z => a2 z.2.1) hF2 (fun z => b4 z.2.2.2); subst e; exact absurd b2 a2) (fun d v2 hF2 b1 b2 b3 b4 b5 => by have e := first_dk hF (fun z => a2 z.2.1) hF2 (fun z => b4 z.2.2.2); subst e; exact absurd b2 a2))
    (fun m v hF a1 a2 a3 => mDay hn hT hA (Nat.zero_le _) hg hgA (fun d v2 hF2 b1 => by have e := first_dk hF (fun z => a3 z.2.2.1) hF2 (fun z => b1 z.1); subst e; exact absurd a1 b1) (fun d v2 hF2 b1 b2 => by have e := first_dk hF (fun z => a3 z.2.2.1) hF2 (fun z => b2 z.2.1); subst e; exact absurd a2 b2) (fun d v2 hF2 b1 b2 b3 => by have e := first_dk hF (fun z => a3 z.2.2.1) hF2 (fun z => b3 z.2.2.1); subst e; exact hb _ _ _ _ _ _) (fun d v2 hF2 b1 b2 b3 b4 b5 => by have e := first_dk hF (fun z => a3 z.2.2.1) hF2 (fun z => b4 z.2.2.2); subst e; exact absurd b3 a3) (fun d v2 hF2 b1 b2 b3 b4 b5 => by have e := first_dk hF (fun z => a3 z.2.2.1) hF2 (fun z => b4 z.2.2.2); subst e; exact absurd b3 a3))
    (fun m v hF a1 a2 a3 a4 a5 => mDay hn hT hA (Nat.zero_le _) hg hgA (fun d v2 hF2 b1 => by have e := first_dk hF (fun z => a4 z.2.2.2) hF2 (fun z => b1 z.1); subst e; exact absurd a1 b1) (fun d v2 hF2 b1 b2 => by have e := first_dk hF (fun z => a4 z.2.2.2) hF2 (fun z => b2 z.2.1); subst e; exact absurd a2 b2) (fun d v2 hF2 b1 b2 b3 => by have e := first_dk hF (fun z => a4 z.2.2.2) hF2 (fun z => b3 z.2.2.1); subst e; exact absurd a3 b3) (fun d v2 hF2 b1 b2 b3 b4 b5 => by have e := first_dk hF (fun z => a4 z.2.2.2) hF2 (fun z => b4 z.2.2.2); subst e; exact hb _ _ _ _ _ _) (fun d v2 hF2 b1 b2 b3 b4 b5 => by have e := first_dk hF (fun z => a4 z.2.2.2) hF2 (fun z => b4 z.2.2.2); subst e; exact absurd a5 b5))
    (fun m v hF a1 a2 a3 a4 a5 hv => ⟨1, by
      have hm : m + 1 ≤ 41 := by have := dP_ge m hF; omega
      unfold wDay2e
      refine sw0 (fun q => by have := (nI_leN (b := 0) (by omega) (by decide)).mp q; omega) ⟨by decide, by decide, ?_⟩
      obtain ⟨v0, v1⟩ := hv 0 (Nat.zero_le m)
      by_cases b : stB (dKn f n 0) (dCn f n 0) g
      · refine Or.inl (cDoes_n (j := 0) (by decide) v0 v1 (hC 0) (hK 0) b (fun r hr => sw1 hr ?_))
        exact mDay hn hT hA (Nat.zero_le _) hg hgA (fun d v2 hF2 b1 => by have e := first_dk hF (fun z => a4 z.2.2.2) hF2 (fun z => b1 z.1); subst e; exact absurd a1 b1) (fun d v2 hF2 b1 b2 => by have e := first_dk hF (fun z => a4 z.2.2.2) hF2 (fun z => b2 z.2.1); subst e; exact absurd a2 b2) (fun d v2 hF2 b1 b2 b3 => by have e := first_dk hF (fun z => a4 z.2.2.2) hF2 (fun z => b3 z.2.2.1); subst e; exact absurd a3 b3) (fun d v2 hF2 b1 b2 b3 b4 b5 => by have e := first_dk hF (fun z => a4 z.2.2.2) hF2 (fun z => b4 z.2.2.2); subst e; exact absurd b5 a5) (fun d v2 hF2 b1 b2 b3 b4 b5 => by have e := first_dk hF (fun z => a4 z.2.2.2) hF2 (fun z => b4 z.2.2.2); subst e; exact ⟨fun j u1 hj hb1 hb2 hu => by have e := first_one (p := fun i => ¬ stB (dKn f n i) (dCn f n i) (dyG (dKn f n) (dCn f n) g i)) (c := 0) (fun i hi => absurd hi (Nat.not_lt_zero i)) (fun z => z b) hb1 (fun z => z hb2); subst e; have hu : u1 = u0 := hu; subst hu; exact hb _ _ _ _ _ _, fun u1 hall _ => absurd b (hall 0 (Nat.succ_pos _))⟩)
      · refine Or.inr (cDoes_e (j := 0) (n1 := nI 1) (fun Q' hq => kept_e hq) hg (by decide) v0 v1 (hC 0) (hK 0) b (fun r hr ra ad umc1 => sw0 hr ?_))
        intro x ex
        refine ⟨m + 1, ?_⟩
        have w := cDay2r (K := dKn f n) (C := dCn f n) (g := g) (ro := ro) (n0 := 0) (u0 := u0) (pool := pool) (m := m + 1) (ac := v) (ue := ra) (Q := (fun r gd gro umc usz ue uf nl => (fun r a b c d => wX3_day (fun r' a' b' c' d' e' f1 g1 h1 => P r a b c d r' a' b' c' d' e' f1 g1 h1) d2 ro u0 (nI 0) f' (nI n) pl rs rd) r 0 (nI (dZ f n (dP f n m))) v (some (gd, gro, umc, usz, ue, uf, nl)))) hm (Nat.zero_le _) hC hK hg (fun j hj => hv j (by omega))
          (fun j0 mc uf1 nl hj0 hb0 hbb hI => mDay hn hT hA (Nat.zero_le _) hg hgA (fun d v2 hF2 b1 => by have e := first_dk hF (fun z => a4 z.2.2.2) hF2 (fun z => b1 z.1); subst e; exact absurd a1 b1) (fun d v2 hF2 b1 b2 => by have e := first_dk hF (fun z => a4 z.2.2.2) hF2 (fun z => b2 z.2.1); subst e; exact absurd a2 b2) (fun d v2 hF2 b1 b2 b3 => by have e := first_dk hF (fun z => a4 z.2.2.2) hF2 (fun z => b3 z.2.2.1); subst e; exact absurd a3 b3) (fun d v2 hF2 b1 b2 b3 b4 b5 => by have e := first_dk hF (fun z => a4 z.2.2.2) hF2 (fun z => b4 z.2.2.2); subst e; exact absurd b5 a5) (fun d v2 hF2 b1 b2 b3 b4 b5 => by have e := first_dk hF (fun z => a4 z.2.2.2) hF2 (fun z => b4 z.2.2.2); subst e; exact ⟨fun j u1 hj hb1 hb2 hu => by have e := first_one (p := fun i => ¬ stB (dKn f n i) (dCn f n i) (dyG (dKn f n) (dCn f n) g i)) hb0 (fun z => z hbb) hb1 (fun z => z hb2); subst e; exact hs _ _ _ _ _ _ _ _ _ _ _ _ _ _ _ (dyG_ok hC hg _ hb0) (dyG_agree hC hgA _) (dyR_small hC hsm _) (hI _ hu), fun u1 hall _ => absurd hbb (hall j0 hj0)⟩))
          (fun mc uf1 nl hb0 hI => mDay hn hT hA (Nat.zero_le _) hg hgA (fun d v2 hF2 b1 => by have e := first_dk hF (fun z => a4 z.2.2.2) hF2 (fun z => b1 z.1); subst e; exact absurd a1 b1) (fun d v2 hF2 b1 b2 => by have e := first_dk hF (fun z => a4 z.2.2.2) hF2 (fun z => b2 z.2.1); subst e; exact absurd a2 b2) (fun d v2 hF2 b1 b2 b3 => by have e := first_dk hF (fun z => a4 z.2.2.2) hF2 (fun z => b3 z.2.2.1); subst e; exact absurd a3 b3) (fun d v2 hF2 b1 b2 b3 b4 b5 => by have e := first_dk hF (fun z => a4 z.2.2.2) hF2 (fun z => b4 z.2.2.2); subst e; exact absurd b5 a5) (fun d v2 hF2 b1 b2 b3 b4 b5 => by have e := first_dk hF (fun z => a4 z.2.2.2) hF2 (fun z => b4 z.2.2.2); subst e; exact ⟨fun j u1 hj hb1 hb2 hu => absurd hb2 (hb0 j hj), fun u1 hall hu => hs _ _ _ _ _ _ _ _ _ _ _ _ _ _ _ (dyG_ok hC hg _ hb0) (dyG_agree hC hgA _) (dyR_small hC hsm _) (hI _ hu)⟩))
          m 1 umc1 (va_up (fun _ => none) (nI 0 : Int32).toNatClampNeg (some ad)) [(ad, nI (dCn f n 0), g (dCn f n 0), b2 (mem ro (dCn f n 0) = true))] 2 14 (by omega) (fun i hi => by
            have e : i = 0 := by omega
            subst e
            exact b) (fun u hu => by
            obtain ⟨u2, hu2, hnr⟩ := hu
            have hu2 : u2 = u0 := hu2
            subst hu2
            exact RL.note_e hU (ad, nI (dCn f n 0), g (dCn f n 0), b2 (mem ro (dCn f n 0) = true)) (okR_of hg (hC 0)) rfl hnr ra) (by omega) (by omega)
        rw [ex]
        exact w⟩) 41 0 acts (by omega) (fun i hi => absurd hi (Nat.not_lt_zero i)) (fun i hi => absurd hi (Nat.not_lt_zero i))
  exact w
theorem oDay_r {P : Int32 → Int32 → Int32 → (Nat → Int32) → (Nat → Int32) → Int64 → Int32 → Int32 → (Nat → Option Nat) → List Rp → Int32 → (Nat → Int32) → Int64 → (Nat → Int32) → Int32 → Int32 → Int32 → Int32 → (Nat → Int32) → Prop} {f f' g d2 u0 rd acts : Nat → Int32} {ro : Int64} {umc at_ pl rs : Int32} {uf : Nat → Option Nat} {ue : Nat} {pool : List Rp} {n n0 : Nat} (hn : n ≤ 160) (hT : okT f n) (hA : agree n f f') (hn0 : n0 ≤ 10) (hg : okD g) (hgA : agree 36 g d2) (hsm : small ro) (hU : RL pool (nI n0) (some (ue, uf)) n0 u0) (hb : ∀ r x1 x2 y1 y2 y3, P r 0 x1 x2 g ro umc (nI n0) uf [] r d2 ro u0 (nI n0) 0 y1 y2 y3) (hs : ∀ r x1 x2 g1 r1 mc1 n1 uf1 nl g2 u1 y1 y2 y3, okD g1 → agree 36 g1 g2 → small r1 → RL (nl ++ pool) (nI n1) (some (ue, uf1)) n1 u1 → P r 0 x1 x2 g1 r1 mc1 (nI n1) uf1 nl r g2 r1 u1 (nI n1) 0 y1 y2 y3) : wX0_day_r (fun r a b c d e p q x y => wX3_day (fun r' a' b' c' d' e' f1 g1 h1 => P r a b c d e p q x y r' a' b' c' d' e' f1 g1 h1) d2 ro u0 (nI n0) f' (nI n) pl rs rd) (nI n) at_ g ro f acts umc (nI n0) uf ue := by
  unfold wX0_day_r wX0_day_r_0
  refine ⟨41, ?_⟩
  have hC := dCn_lt f n
  have hK := dK3 f n
  have w := cDay7_r (K2 := fun x1 x2 acts at_ kc ks => ∃ fu, wDay2r (fun r gd gro umc usz ue' uf nl => ue' = ue ∧ (fun r a b c d e p q x y => wX3_day (fun r' a' b' c' d' e' f1 g1 h1 => P r a b c d e p q x y r' a' b' c' d' e' f1 g1 h1) d2 ro u0 (nI n0) f' (nI n) pl rs rd) r 0 at_ acts gd gro umc usz uf nl) acts x1 ue fu x2 g ro umc (nI n0) uf [] kc ks) (Q := fun r typed at_ acts => (fun r a b c d e p q x y => wX3_day (fun r' a' b' c' d' e' f1 g1 h1 => P r a b c d e p q x y r' a' b' c' d' e' f1 g1 h1) d2 ro u0 (nI n0) f' (nI n) pl rs rd) r typed at_ acts g ro umc (nI n0) uf []) (f := f) hn hT
    (fun m v hF a1 => mDay hn hT hA hn0 hg hgA (fun d v2 hF2 b1 => by have e := first_dk hF (fun z => a1 z.1) hF2 (fun z => b1 z.1); subst e; exact hb _ _ _ _ _ _) (fun d v2 hF2 b1 b2 => by have e := first_dk hF (fun z => a1 z.1) hF2 (fun z => b2 z.2.1); subst e; exact absurd b1 a1) (fun d v2 hF2 b1 b2 b3 => by have e := first_dk hF (fun z => a1 z.1) hF2 (fun z => b3 z.2.2.1); subst e; exact absurd b1 a1) (fun d v2 hF2 b1 b2 b3 b4 b5 => by have e := first_dk hF (fun z => a1 z.1) hF2 (fun z => b4 z.2.2.2); subst e; exact absurd b1 a1) (fun d v2 hF2 b1 b2 b3 b4 b5 => by have e := first_dk hF (fun z => a1 z.1) hF2 (fun z => b4 z.2.2.2); subst e; exact absurd b1 a1))
    (fun m v hF a1 a2 => mDay hn hT hA hn0 hg hgA (fun d v2 hF2 b1 => by have e := first_dk hF (fun z => a2 z.2.1) hF2 (fun z => b1 z.1); subst e; exact absurd a1 b1) (fun d v2 hF2 b1 b2 => by have e := first_dk hF (fun z => a2 z.2.1) hF2 (fun z => b2 z.2.1); subst e; exact hb _ _ _ _ _ _) (fun d v2 hF2 b1 b2 b3 => by have e := first_dk hF (fun z => a2 z.2.1) hF2 (fun z => b3 z.2.2.1); subst e; exact absurd b2 a2) (fun d v2 hF2 b1 b2 b3 b4 b5 => by have e := first_dk hF (fun z => a2 z.2.1) hF2 (fun z => b4 z.2.2.2); subst e; exact absurd b2 a2) (fun d v2 hF2 b1 b2 b3 b4 b5 => by have e := first_dk hF (fun z => a2 z.2.1) hF2 (fun z => b4 z.2.2.2); subst e; exact absurd b2 a2))
    (fun m v hF a1 a2 a3 => mDay hn hT hA hn0 hg hgA (fun d v2 hF2 b1 => by have e := first_dk hF (fun z => a3 z.2.2.1) hF2 (fun z => b1 z.1); subst e; exact absurd a1 b1) (fun d v2 hF2 b1 b2 => by have e := first_dk hF (fun z => a3 z.2.2.1) hF2 (fun z => b2 z.2.1); subst e; exact absurd a2 b2) (fun d v2 hF2 b1 b2 b3 => by have e := first_dk hF (fun z => a3 z.2.2.1) hF2 (fun z => b3 z.2.2.1); subst e; exact hb _ _ _ _ _ _) (fun d v2 hF2 b1 b2 b3 b4 b5 => by have e := first_dk hF (fun z => a3 z.2.2.1) hF2 (fun z => b4 z.2.2.2); subst e; exact absurd b3 a3) (fun d v2 hF2 b1 b2 b3 b4 b5 => by have e := first_dk hF (fun z => a3 z.2.2.1) hF2 (fun z => b4 z.2.2.2); subst e; exact absurd b3 a3))
    (fun m v hF a1 a2 a3 a4 a5 => mDay hn hT hA hn0 hg hgA (fun d v2 hF2 b1 => by have e := first_dk hF (fun z => a4 z.2.2.2) hF2 (fun z => b1 z.1); subst e; exact absurd a1 b1) (fun d v2 hF2 b1 b2 => by have e := first_dk hF (fun z => a4 z.2.2.2) hF2 (fun z => b2 z.2.1); subst e; exact absurd a2 b2) (fun d v2 hF2 b1 b2 b3 => by have e := first_dk hF (fun z => a4 z.2.2.2) hF2 (fun z => b3 z.2.2.1); subst e; exact absurd a3 b3) (fun d v2 hF2 b1 b2 b3 b4 b5 => by have e := first_dk hF (fun z => a4 z.2.2.2) hF2 (fun z => b4 z.2.2.2); subst e; exact hb _ _ _ _ _ _) (fun d v2 hF2 b1 b2 b3 b4 b5 => by have e := first_dk hF (fun z => a4 z.2.2.2) hF2 (fun z => b4 z.2.2.2); subst e; exact absurd a5 b5))
    (fun m v hF a1 a2 a3 a4 a5 hv => ⟨m + 1 + 1, by
      have hm : m + 1 ≤ 41 := by have := dP_ge m hF; omega
      have w := cDay2r (K := dKn f n) (C := dCn f n) (g := g) (ro := ro) (n0 := n0) (u0 := u0) (pool := pool) (m := m + 1) (ac := v) (ue := ue) (Q := (fun r gd gro umc usz ue' uf nl => ue' = ue ∧ (fun r a b c d e p q x y => wX3_day (fun r' a' b' c' d' e' f1 g1 h1 => P r a b c d e p q x y r' a' b' c' d' e' f1 g1 h1) d2 ro u0 (nI n0) f' (nI n) pl rs rd) r 0 (nI (dZ f n (dP f n m))) v gd gro umc usz uf nl)) hm hn0 hC hK hg (fun j hj => hv j (by omega))
        (fun j0 mc uf1 nl hj0 hb0 hbb hI => ⟨rfl, mDay hn hT hA hn0 hg hgA (fun d v2 hF2 b1 => by have e := first_dk hF (fun z => a4 z.2.2.2) hF2 (fun z => b1 z.1); subst e; exact absurd a1 b1) (fun d v2 hF2 b1 b2 => by have e := first_dk hF (fun z => a4 z.2.2.2) hF2 (fun z => b2 z.2.1); subst e; exact absurd a2 b2) (fun d v2 hF2 b1 b2 b3 => by have e := first_dk hF (fun z => a4 z.2.2.2) hF2 (fun z => b3 z.2.2.1); subst e; exact absurd a3 b3) (fun d v2 hF2 b1 b2 b3 b4 b5 => by have e := first_dk hF (fun z => a4 z.2.2.2) hF2 (fun z => b4 z.2.2.2); subst e; exact absurd b5 a5) (fun d v2 hF2 b1 b2 b3 b4 b5 => by have e := first_dk hF (fun z => a4 z.2.2.2) hF2 (fun z => b4 z.2.2.2); subst e; exact ⟨fun j u1 hj hb1 hb2 hu => by have e := first_one (p := fun i => ¬ stB (dKn f n i) (dCn f n i) (dyG (dKn f n) (dCn f n) g i)) hb0 (fun z => z hbb) hb1 (fun z => z hb2); subst e; exact hs _ _ _ _ _ _ _ _ _ _ _ _ _ _ (dyG_ok hC hg _ hb0) (dyG_agree hC hgA _) (dyR_small hC hsm _) (hI _ hu), fun u1 hall _ => absurd hbb (hall j0 hj0)⟩)⟩)
        (fun mc uf1 nl hb0 hI => ⟨rfl, mDay hn hT hA hn0 hg hgA (fun d v2 hF2 b1 => by have e := first_dk hF (fun z => a4 z.2.2.2) hF2 (fun z => b1 z.1); subst e; exact absurd a1 b1) (fun d v2 hF2 b1 b2 => by have e := first_dk hF (fun z => a4 z.2.2.2) hF2 (fun z => b2 z.2.1); subst e; exact absurd a2 b2) (fun d v2 hF2 b1 b2 b3 => by have e := first_dk hF (fun z => a4 z.2.2.2) hF2 (fun z => b3 z.2.2.1); subst e; exact absurd a3 b3) (fun d v2 hF2 b1 b2 b3 b4 b5 => by have e := first_dk hF (fun z => a4 z.2.2.2) hF2 (fun z => b4 z.2.2.2); subst e; exact absurd b5 a5) (fun d v2 hF2 b1 b2 b3 b4 b5 => by have e := first_dk hF (fun z => a4 z.2.2.2) hF2 (fun z => b4 z.2.2.2); subst e; exact ⟨fun j u1 hj hb1 hb2 hu => absurd hb2 (hb0 j hj), fun u1 hall hu => hs _ _ _ _ _ _ _ _ _ _ _ _ _ _ (dyG_ok hC hg _ hb0) (dyG_agree hC hgA _) (dyR_small hC hsm _) (hI _ hu)⟩)⟩)
        (m + 1) 0 umc uf [] 0 0 (by omega) (fun i hi => absurd hi (Nat.not_lt_zero i)) (fun u hu => by
          have hu : u = u0 := hu
          subst hu
          exact hU) (by omega) (by omega)
      exact w⟩) 41 0 acts (by omega) (fun i hi => absurd hi (Nat.not_lt_zero i)) (fun i hi => absurd hi (Nat.not_lt_zero i))
  exact w
