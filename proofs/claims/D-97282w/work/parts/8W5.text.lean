/-! TEXTS -/
def nxF (f : Nat → Int32) (n : Nat) : Nat → Nat → Nat
  | 0, a => a
  | k + 1, a => if a < n ∧ f a = 32 then nxF f n k (a + 1) else a
def nx (f : Nat → Int32) (n a : Nat) : Nat := nxF f n (n - a) a
theorem nx_step {f : Nat → Int32} {n a : Nat} (h : a < n ∧ f a = 32) : nx f n a = nx f n (a + 1) := by
  unfold nx
  rw [show n - a = (n - (a + 1)) + 1 by omega]
  show (if a < n ∧ f a = 32 then nxF f n (n - (a + 1)) (a + 1) else a) = _
  rw [if_pos h]
theorem nx_stop {f : Nat → Int32} {n a : Nat} (h : ¬ (a < n ∧ f a = 32)) : nx f n a = a := by
  unfold nx
  cases n - a with
  | zero => rfl
  | succ k =>
    show (if a < n ∧ f a = 32 then nxF f n k (a + 1) else a) = _
    rw [if_neg h]
theorem nx_spec {f : Nat → Int32} {n : Nat} : ∀ k a, n - a ≤ k → a ≤ nx f n a ∧ (a ≤ n → nx f n a ≤ n) ∧ ¬ (nx f n a < n ∧ f (nx f n a) = 32) := by
  intro k
  induction k with
  | zero =>
    intro a h
    have q : ¬ (a < n ∧ f a = 32) := fun z => by omega
    rw [nx_stop q]
    exact ⟨Nat.le_refl _, fun z => z, q⟩
  | succ k ih =>
    intro a h
    by_cases q : a < n ∧ f a = 32
    · rw [nx_step q]
      obtain ⟨h1, h2, h3⟩ := ih (a + 1) (by omega)
      exact ⟨by omega, fun _ => h2 (by omega), h3⟩
    · rw [nx_stop q]
      exact ⟨Nat.le_refl _, fun z => z, q⟩
theorem nx_ge (f : Nat → Int32) (n a : Nat) : a ≤ nx f n a := (nx_spec _ a (Nat.le_refl _)).1
theorem nx_le {f : Nat → Int32} {n a : Nat} (h : a ≤ n) : nx f n a ≤ n := (nx_spec _ a (Nat.le_refl _)).2.1 h
theorem nx_not (f : Nat → Int32) (n a : Nat) : ¬ (nx f n a < n ∧ f (nx f n a) = 32) := (nx_spec _ a (Nat.le_refl _)).2.2
theorem nx_nx (f : Nat → Int32) (n a : Nat) : nx f n (nx f n a) = nx f n a := nx_stop (nx_not f n a)
theorem nx_agree {f f' : Nat → Int32} {n : Nat} (hA : agree n f f') : ∀ k a, n - a ≤ k → nx f' n a = nx f n a := by
  intro k
  induction k with
  | zero =>
    intro a h
    rw [nx_stop (fun z => by omega), nx_stop (fun z => by omega)]
  | succ k ih =>
    intro a h
    by_cases q : a < n ∧ f a = 32
    · rw [nx_step q, nx_step (f := f') ⟨q.1, by rw [← hA a q.1]; exact q.2⟩]
      exact ih (a + 1) (by omega)
    · rw [nx_stop q, nx_stop (fun z => q ⟨z.1, by rw [hA a z.1]; exact z.2⟩)]
theorem here_stop {Q : Int32 → Int32 → Prop} {f : Nat → Int32} {n a k : Nat} (hn : n ≤ 160) (ha : a ≤ 160) (hs : ¬ (a < n ∧ f a = 32)) (h : Q (if a < n then f a else 0) (nI a)) : wX0_here_0 Q (nI n) f (k + 1) (nI a) := by
  have h38 : wX0_here_38 Q (nI n) (nI a) f := by
    unfold wX0_here_38
    by_cases q : a < n
    · rw [if_pos q] at h
      refine sw0 (fun z => by have := (nI_leN (by omega) (by omega)).mp z; omega) ⟨in_nI (by omega) (by decide), ?_⟩
      rw [clam_nI (by omega)]
      exact h
    · rw [if_neg q] at h
      exact sw1 ((nI_leN (by omega) (by omega)).mpr (by omega)) h
  unfold wX0_here_0
  refine ⟨fun _ => h38, fun z => ?_⟩
  have q : a < n := Nat.lt_of_not_le (fun w => z ((nI_leN (by omega) (by omega)).mpr w))
  refine ⟨in_nI (by omega) (by decide), ?_⟩
  rw [clam_nI (by omega)]
  exact sw0 (fun e => hs ⟨q, e⟩) h38
theorem pHere {Q : Int32 → Int32 → Prop} {f : Nat → Int32} {n a : Nat} (hn : n ≤ 160) (ha : a ≤ n) (h : Q (if nx f n a < n then f (nx f n a) else 0) (nI (nx f n a))) : wX0_here Q (nI n) (nI a) f := by
  have key : ∀ k a, n - a ≤ k → a ≤ n → Q (if nx f n a < n then f (nx f n a) else 0) (nI (nx f n a)) → wX0_here_0 Q (nI n) f (k + 1) (nI a) := by
    intro k
    induction k with
    | zero =>
      intro a h1 h2 h
      have q : ¬ (a < n ∧ f a = 32) := fun z => by omega
      rw [nx_stop q] at h
      exact here_stop hn (by omega) q h
    | succ k ih =>
      intro a h1 h2 h
      by_cases q : a < n ∧ f a = 32
      · rw [nx_step q] at h
        unfold wX0_here_0
        refine sw0 (fun z => by have := (nI_leN (by omega) (by omega)).mp z; omega) ⟨in_nI (by omega) (by decide), ?_⟩
        rw [clam_nI (by omega)]
        refine sw1 q.2 ?_
        intro y ey
        rw [ey, nI_add1]
        exact ih (a + 1) (by omega) (by omega) h
      · rw [nx_stop q] at h
        exact here_stop hn (by omega) q h
  exact ⟨_, key (n - a) a (Nat.le_refl _) ha h⟩
theorem next_stop {Q : Int32 → Int32 → Prop} {f : Nat → Int32} {n a k : Nat} (hn : n ≤ 160) (ha : a ≤ 160) (hs : ¬ (a < n ∧ f a = 32)) (h : Q (if a < n then f a else -1) (nI a)) : wX3_nextLetter_0 Q f (nI n) (k + 1) (nI a) := by
  have h38 : wX3_nextLetter_38 Q f (nI n) (nI a) := by
    unfold wX3_nextLetter_38
    by_cases q : a < n
    · rw [if_pos q] at h
      refine sw0 (fun z => by have := (nI_leN (by omega) (by omega)).mp z; omega) ⟨in_nI (by omega) (by decide), ?_⟩
      rw [clam_nI (by omega)]
      exact h
    · rw [if_neg q] at h
      exact sw1 ((nI_leN (by omega) (by omega)).mpr (by omega)) h
  unfold wX3_nextLetter_0
  refine ⟨fun _ => h38, fun z => ?_⟩
  have q : a < n := Nat.lt_of_not_le (fun w => z ((nI_leN (by omega) (by omega)).mpr w))
  refine ⟨in_nI (by omega) (by decide), ?_⟩
  rw [clam_nI (by omega)]
  exact sw0 (fun e => hs ⟨q, e⟩) h38
theorem pNext {Q : Int32 → Int32 → Prop} {f f' : Nat → Int32} {n a : Nat} (hn : n ≤ 160) (hA : agree n f f') (ha : a ≤ n) (h : Q (if nx f n a < n then f (nx f n a) else -1) (nI (nx f n a))) : wX3_nextLetter Q f' (nI n) (nI a) := by
  have key : ∀ k a, n - a ≤ k → a ≤ n → Q (if nx f' n a < n then f' (nx f' n a) else -1) (nI (nx f' n a)) → wX3_nextLetter_0 Q f' (nI n) (k + 1) (nI a) := by
    intro k
    induction k with
    | zero =>
      intro a h1 h2 h
      have q : ¬ (a < n ∧ f' a = 32) := fun z => by omega
      rw [nx_stop q] at h
      exact next_stop hn (by omega) q h
    | succ k ih =>
      intro a h1 h2 h
      by_cases q : a < n ∧ f' a = 32
      · rw [nx_step q] at h
        unfold wX3_nextLetter_0
        refine sw0 (fun z => by have := (nI_leN (by omega) (by omega)).mp z; omega) ⟨in_nI (by omega) (by decide), ?_⟩
        rw [clam_nI (by omega)]
        refine sw1 q.2 ?_
        intro y ey
        rw [ey, nI_add1]
        exact ih (a + 1) (by omega) (by omega) h
      · rw [nx_stop q] at h
        exact next_stop hn (by omega) q h
  refine ⟨_, key (n - a) a (Nat.le_refl _) ha ?_⟩
  rw [nx_agree hA _ a (Nat.le_refl _)]
  by_cases q : nx f n a < n
  · rw [if_pos q] at h ⊢
    rw [← hA _ q]
    exact h
  · rw [if_neg q] at h ⊢
    exact h
theorem bz1 : bz 1 := ⟨rfl, rfl⟩
theorem bz0 : bz 0 := ⟨rfl, rfl⟩
theorem pPass {Q : Int32 → Int32 → Prop} {f : Nat → Int32} {n a : Nat} {c : Int32} (hn : n ≤ 160) (ha : a ≤ n) (hc : c ≠ 0) (h1 : nx f n a < n ∧ f (nx f n a) = c → Q 1 (nI (nx f n a + 1))) (h0 : ¬ (nx f n a < n ∧ f (nx f n a) = c) → Q 0 (nI (nx f n a))) : wX0_passes Q (nI n) (nI a) f c := by
  unfold wX0_passes
  refine pHere hn ha ?_
  by_cases m : nx f n a < n ∧ f (nx f n a) = c
  · rw [if_pos m.1]
    refine sw1 m.2 ?_
    unfold wX0_passes_13
    refine sw0 (by decide) ?_
    intro y ey
    rw [ey, nI_add1]
    exact ⟨bz1, h1 m⟩
  · refine sw0 ?_ ?_
    · split
      · rename_i q; exact fun e => m ⟨q, e⟩
      · exact fun e => hc e.symm
    · unfold wX0_passes_13
      refine sw1 rfl ?_
      intro y ey
      rw [ey, Int32.add_zero]
      exact ⟨bz0, h0 m⟩
theorem pTake {Q : Int32 → Int32 → Prop} {f f' : Nat → Int32} {n a : Nat} {c : Int32} (hn : n ≤ 160) (hA : agree n f f') (ha : a ≤ n) (hc : c ≠ -1) (h1 : nx f n a < n ∧ f (nx f n a) = c → Q 1 (nI (nx f n a + 1))) (h0 : ¬ (nx f n a < n ∧ f (nx f n a) = c) → Q 0 (nI (nx f n a))) : wX3_takes Q f' (nI n) (nI a) c := by
  unfold wX3_takes
  refine pNext hn hA ha ?_
  by_cases m : nx f n a < n ∧ f (nx f n a) = c
  · rw [if_pos m.1]
    refine sw1 m.2 ?_
    unfold wX3_takes_13
    refine sw0 (by decide) ?_
    intro y ey
    rw [ey, nI_add1]
    exact ⟨bz1, h1 m⟩
  · refine sw0 ?_ ?_
    · split
      · rename_i q; exact fun e => m ⟨q, e⟩
      · exact fun e => hc e.symm
    · unfold wX3_takes_13
      refine sw1 rfl ?_
      intro y ey
      rw [ey, Int32.add_zero]
      exact ⟨bz0, h0 m⟩
theorem pInit10 {Q : Int32 → Prop} {x : Int32} (h : Q x) : wX10_init Q 0 x := by
  unfold wX10_init wJ9_init_2 wJ8_init_3
  exact sw1 rfl (sw1 rfl h)
/-- letters that may stand on the tape -/
def okT (f : Nat → Int32) (n : Nat) : Prop := ∀ i, i < n → 32 ≤ f i ∧ f i ≤ 126
theorem okT_0 {f : Nat → Int32} {n i : Nat} (h : okT f n) (hi : i < n) : f i ≠ 0 := fun e => by
  have q := (h i hi).1
  rw [e] at q
  exact absurd q (by decide)
theorem pEnds {Q : Int32 → Prop} {f : Nat → Int32} {n a : Nat} (hn : n ≤ 160) (ha : a ≤ n) (q : ¬ nx f n a < n) (h : Q (nI (nx f n a))) : wX0_ends Q (nI n) (nI a) f := by
  unfold wX0_ends
  refine pHere hn ha ?_
  rw [if_neg q]
  exact sw1 rfl h
theorem pEnds_t {Q : Int32 → Int32 → Prop} {f : Nat → Int32} {n a : Nat} (hn : n ≤ 160) (ha : a ≤ n) (hT : okT f n) (q : nx f n a < n) (h : Q (nI (nx f n a)) (nI (nx f n a))) : wX0_ends_t Q (nI n) (nI a) f := by
  unfold wX0_ends_t
  refine pHere hn ha ?_
  rw [if_pos q]
  exact sw0 (okT_0 hT q) (pInit10 h)
theorem pMust {Q : Int32 → Prop} {f : Nat → Int32} {n a : Nat} {c : Int32} (hn : n ≤ 160) (ha : a ≤ n) (hc : c ≠ 0) (q : nx f n a < n ∧ f (nx f n a) = c) (h : Q (nI (nx f n a + 1))) : wX0_must Q (nI n) (nI a) f c := by
  unfold wX0_must
  exact pPass hn ha hc (fun _ => sw0 (by decide) h) (fun z => absurd q z)
theorem pMust_t {Q : Int32 → Int32 → Prop} {f : Nat → Int32} {n a : Nat} {c : Int32} (hn : n ≤ 160) (ha : a ≤ n) (hc : c ≠ 0) (q : ¬ (nx f n a < n ∧ f (nx f n a) = c)) (h : Q (nI (nx f n a)) (nI (nx f n a))) : wX0_must_t Q (nI n) (nI a) f c := by
  unfold wX0_must_t
  exact pPass hn ha hc (fun z => absurd z q) (fun _ => sw1 rfl (pInit10 h))
theorem pFig {Q : Int32 → Int32 → Prop} {f : Nat → Int32} {n a : Nat} {x : Int32} (hn : n ≤ 160) (ha : a ≤ n) (q : nx f n a < n ∧ 48 ≤ f (nx f n a) ∧ f (nx f n a) ≤ 48 + x) (h : Q (f (nx f n a) - 48) (nI (nx f n a + 1))) : wX0_figure Q (nI n) (nI a) f x := by
  unfold wX0_figure
  refine pHere hn ha ?_
  rw [if_pos q.1]
  refine pX0_inI (lo := 48) (hi := 48 + x) ⟨fun z => absurd q.2 (b2_0 z), fun _ => ?_⟩
  intro y ey
  rw [ey, nI_add1]
  exact h
theorem pFig_t {Q : Int32 → Int32 → Prop} {f : Nat → Int32} {n a : Nat} {x : Int32} (hn : n ≤ 160) (ha : a ≤ n) (q : ¬ (nx f n a < n ∧ 48 ≤ f (nx f n a) ∧ f (nx f n a) ≤ 48 + x)) (h : Q (nI (nx f n a)) (nI (nx f n a))) : wX0_figure_t Q (nI n) (nI a) f x := by
  unfold wX0_figure_t
  refine pHere hn ha ?_
  refine pX0_inI (lo := 48) (hi := 48 + x) ⟨fun _ => pInit10 h, fun z => ?_⟩
  have z := b2_1 z
  by_cases w : nx f n a < n
  · rw [if_pos w] at z
    exact absurd ⟨w, z⟩ q
  · rw [if_neg w] at z
    exact absurd z.1 (by decide)
theorem idx7 {Q : Int32 → Prop} {sf : Nat → Int32} {ch : Int32} {nn : Nat} (hnn : nn ≤ 10) (hj : ∀ j, j < nn → sf j = ch → Q (nI j)) (hno : (∀ j, j < nn → sf j ≠ ch) → Q (-1)) : ∀ k j, j + k = nn → (∀ i, i < j → sf i ≠ ch) → wJ11_indexOfChar_7 Q (nI nn) ch nn sf (k + 1) (nI j) := by
  intro k
  induction k with
  | zero =>
    intro j h1 h2
    unfold wJ11_indexOfChar_7
    have e : j = nn := by omega
    subst e
    exact sw1 (Int32.le_refl _) (hno h2)
  | succ k ih =>
    intro j h1 h2
    unfold wJ11_indexOfChar_7
    refine sw0 (fun q => by have := (nI_leN (by omega) (by omega)).mp q; omega) ⟨in_nI (by omega) (by omega), ?_⟩
    rw [clam_nI (by omega)]
    refine ⟨fun e => hj j (by omega) e, fun e => ?_⟩
    intro y ey
    rw [ey, nI_add1]
    refine ih (j + 1) (by omega) (fun i hi => ?_)
    by_cases z : i = j
    · rw [z]; exact e
    · exact h2 i (by omega)
theorem ch8 {x : Int32} (h : 0 ≤ x ∧ x ≤ 126) : x.toInt8.toInt32 = x := by
  obtain ⟨k, hk, e⟩ := nI_ofN (n := 126) h.1 h.2 (by decide)
  have a : ∀ k : Fin 127, (nI k.val).toInt8.toInt32 = nI k.val := by decide +kernel
  rw [e]
  exact a ⟨k, by omega⟩
theorem pIdx_O {Q : Int32 → Prop} {ch : Int32} (hc : 0 ≤ ch ∧ ch ≤ 126) (hj : ∀ j, j < 5 → ltO j = ch → Q (nI j)) (hno : (∀ j, j < 5 → ltO j ≠ ch) → Q (-1)) : wJ10_indexOf Q 5 ltO ch := by
  unfold wJ10_indexOf wJ10_indexOf_2 wJ10_isLatin1
  refine sw0 (by decide) (sw1 rfl (sw0 (by decide) ?_))
  unfold wJ10_length wJ10_coder
  refine sw0 (by decide) ?_
  unfold wJ11_indexOf wJ11_canEncode
  refine sw0 (Int32.not_lt.mpr hc.1) (sw0 (fun z => absurd (Int32.lt_of_lt_of_le z hc.2) (by decide)) (sw0 (by decide) ?_))
  intro x2 e2 x3 e3
  have e2 : x2 = 0 := e2.trans (by decide)
  have e3 : x3 = 5 := e3.trans (by decide)
  subst e2 e3
  refine sw1 (by decide) ?_
  unfold wJ11_indexOfChar
  intro x4 e4
  rw [ch8 hc] at e4
  subst e4
  have w := idx7 (Q := Q) (sf := ltO) (ch := x4) (nn := 5) (by decide) hj hno 5 0 rfl (fun i hi => absurd hi (Nat.not_lt_zero i))
  exact ⟨6, w⟩
theorem pIdx_D {Q : Int32 → Prop} {ch : Int32} (hc : 0 ≤ ch ∧ ch ≤ 126) (hj : ∀ j, j < 3 → ltD j = ch → Q (nI j)) (hno : (∀ j, j < 3 → ltD j ≠ ch) → Q (-1)) : wJ10_indexOf Q 3 ltD ch := by
  unfold wJ10_indexOf wJ10_indexOf_2 wJ10_isLatin1
  refine sw0 (by decide) (sw1 rfl (sw0 (by decide) ?_))
  unfold wJ10_length wJ10_coder
  refine sw0 (by decide) ?_
  unfold wJ11_indexOf wJ11_canEncode
  refine sw0 (Int32.not_lt.mpr hc.1) (sw0 (fun z => absurd (Int32.lt_of_lt_of_le z hc.2) (by decide)) (sw0 (by decide) ?_))
  intro x2 e2 x3 e3
  have e2 : x2 = 0 := e2.trans (by decide)
  have e3 : x3 = 3 := e3.trans (by decide)
  subst e2 e3
  refine sw1 (by decide) ?_
  unfold wJ11_indexOfChar
  intro x4 e4
  rw [ch8 hc] at e4
  subst e4
  have w := idx7 (Q := Q) (sf := ltD) (ch := x4) (nn := 3) (by decide) hj hno 3 0 rfl (fun i hi => absurd hi (Nat.not_lt_zero i))
  exact ⟨4, w⟩
def okL (ch : Int32) : Prop := ch = 45 ∨ (48 ≤ ch ∧ ch ≤ 51)
def vlL (ch : Int32) : Int32 := if ch = 45 then 4 else ch - 48
theorem vlL_O {ch : Int32} (h : okL ch) : ∃ j, j < 5 ∧ ltO j = ch ∧ nI j = vlL ch := by
  rcases h with e | ⟨h0, h1⟩
  · subst e; exact ⟨4, by decide, by decide, by decide⟩
  · obtain ⟨k, hk, e⟩ := nI_ofN (n := 51) (Int32.le_trans (by decide) h0) h1 (by decide)
    subst e
    have h0 := (nI_leN (a := 48) (by decide) (by omega)).mp h0
    rcases (show k = 48 ∨ k = 49 ∨ k = 50 ∨ k = 51 by omega) with z | z | z | z <;> subst z
    · exact ⟨0, by decide, by decide, by decide⟩
    · exact ⟨1, by decide, by decide, by decide⟩
    · exact ⟨2, by decide, by decide, by decide⟩
    · exact ⟨3, by decide, by decide, by decide⟩
theorem okL_O {j : Nat} (hj : j < 5) : okL (ltO j) ∧ nI j = vlL (ltO j) := by
  rcases (show j = 0 ∨ j = 1 ∨ j = 2 ∨ j = 3 ∨ j = 4 by omega) with z | z | z | z | z <;> subst z
  · exact ⟨Or.inr ⟨by decide, by decide⟩, by decide⟩
  · exact ⟨Or.inr ⟨by decide, by decide⟩, by decide⟩
  · exact ⟨Or.inr ⟨by decide, by decide⟩, by decide⟩
  · exact ⟨Or.inr ⟨by decide, by decide⟩, by decide⟩
  · exact ⟨Or.inl (by decide), by decide⟩
theorem vlL_rng {ch : Int32} (h : okL ch) : 0 ≤ vlL ch ∧ vlL ch ≤ 4 := by
  obtain ⟨j, h1, -, e⟩ := vlL_O h
  rw [← e]
  exact ⟨(nI_leN (a := 0) (by decide) (by omega)).mpr (by omega), (nI_leN (b := 4) (by omega) (by decide)).mpr (by omega)⟩
def okA (ch : Int32) : Prop := ch = 100 ∨ ch = 102 ∨ ch = 114
def vlA (ch : Int32) : Int32 := if ch = 100 then 0 else if ch = 102 then 1 else 2
theorem okA_D {j : Nat} (hj : j < 3) : okA (ltD j) ∧ nI j = vlA (ltD j) := by
  rcases (show j = 0 ∨ j = 1 ∨ j = 2 by omega) with z | z | z <;> subst z
  · exact ⟨Or.inl (by decide), by decide⟩
  · exact ⟨Or.inr (Or.inl (by decide)), by decide⟩
  · exact ⟨Or.inr (Or.inr (by decide)), by decide⟩
theorem vlA_D {ch : Int32} (h : okA ch) : ∃ j, j < 3 ∧ ltD j = ch ∧ nI j = vlA ch := by
  rcases h with e | e | e <;> subst e
  · exact ⟨0, by decide, by decide, by decide⟩
  · exact ⟨1, by decide, by decide, by decide⟩
  · exact ⟨2, by decide, by decide, by decide⟩
theorem pLet_O {Q : Int32 → Int32 → Prop} {f : Nat → Int32} {n a : Nat} (hn : n ≤ 160) (ha : a ≤ n) (hT : okT f n) (q : nx f n a < n ∧ okL (f (nx f n a))) (h : Q (vlL (f (nx f n a))) (nI (nx f n a + 1))) : wX0_letter Q (nI n) (nI a) f 5 ltO := by
  unfold wX0_letter
  refine pHere hn ha ?_
  rw [if_pos q.1]
  refine sw0 (okT_0 hT q.1) (pHere hn (nx_le ha) ?_)
  rw [nx_nx, if_pos q.1]
  refine pIdx_O ⟨Int32.le_trans (by decide) (hT _ q.1).1, (hT _ q.1).2⟩ (fun j hj e => ?_) (fun no => ?_)
  · unfold wX0_letter_20
    refine sw1 ((nI_leN (a := 0) (by decide) (by omega)).mpr (by omega)) ?_
    intro y ey
    rw [ey, nI_add1, (okL_O hj).2, e]
    exact h
  · obtain ⟨j, h1, h2, -⟩ := vlL_O q.2
    exact absurd h2 (no j h1)
theorem pLet_Ot {Q : Int32 → Int32 → Prop} {f : Nat → Int32} {n a : Nat} (hn : n ≤ 160) (ha : a ≤ n) (hT : okT f n) (q : ¬ (nx f n a < n ∧ okL (f (nx f n a)))) (h : Q (nI (nx f n a)) (nI (nx f n a))) : wX0_letter_t Q (nI n) (nI a) f 5 ltO := by
  unfold wX0_letter_t
  have fin : ∀ z : Int32, ¬ 0 ≤ z → wX0_letter_t_20 Q z 5 (nI n) (nI (nx f n a)) f 0 0 := fun z hz => by
    unfold wX0_letter_t_20
    exact sw0 hz ⟨by decide, by decide, pInit10 h⟩
  refine pHere hn ha ?_
  by_cases w : nx f n a < n
  · rw [if_pos w]
    refine sw0 (okT_0 hT w) (pHere hn (nx_le ha) ?_)
    rw [nx_nx, if_pos w]
    refine pIdx_O ⟨Int32.le_trans (by decide) (hT _ w).1, (hT _ w).2⟩ (fun j hj e => ?_) (fun no => fin _ (by decide))
    exact absurd ⟨w, by rw [← e]; exact (okL_O hj).1⟩ q
  · rw [if_neg w]
    exact sw1 rfl (fin _ (by decide))
theorem pLet_D {Q : Int32 → Int32 → Prop} {f : Nat → Int32} {n a : Nat} (hn : n ≤ 160) (ha : a ≤ n) (hT : okT f n) (q : nx f n a < n ∧ okA (f (nx f n a))) (h : Q (vlA (f (nx f n a))) (nI (nx f n a + 1))) : wX0_letter Q (nI n) (nI a) f 3 ltD := by
  unfold wX0_letter
  refine pHere hn ha ?_
  rw [if_pos q.1]
  refine sw0 (okT_0 hT q.1) (pHere hn (nx_le ha) ?_)
  rw [nx_nx, if_pos q.1]
  refine pIdx_D ⟨Int32.le_trans (by decide) (hT _ q.1).1, (hT _ q.1).2⟩ (fun j hj e => ?_) (fun no => ?_)
  · unfold wX0_letter_20
    refine sw1 ((nI_leN (a := 0) (by decide) (by omega)).mpr (by omega)) ?_
    intro y ey
    rw [ey, nI_add1, (okA_D hj).2, e]
    exact h
  · obtain ⟨j, h1, h2, -⟩ := vlA_D q.2
    exact absurd h2 (no j h1)
theorem pLet_Dt {Q : Int32 → Int32 → Prop} {f : Nat → Int32} {n a : Nat} (hn : n ≤ 160) (ha : a ≤ n) (hT : okT f n) (q : ¬ (nx f n a < n ∧ okA (f (nx f n a)))) (h : Q (nI (nx f n a)) (nI (nx f n a))) : wX0_letter_t Q (nI n) (nI a) f 3 ltD := by
  unfold wX0_letter_t
  have fin : ∀ z : Int32, ¬ 0 ≤ z → wX0_letter_t_20 Q z 3 (nI n) (nI (nx f n a)) f 0 0 := fun z hz => by
    unfold wX0_letter_t_20
    exact sw0 hz ⟨by decide, by decide, pInit10 h⟩
  refine pHere hn ha ?_
  by_cases w : nx f n a < n
  · rw [if_pos w]
    refine sw0 (okT_0 hT w) (pHere hn (nx_le ha) ?_)
    rw [nx_nx, if_pos w]
    refine pIdx_D ⟨Int32.le_trans (by decide) (hT _ w).1, (hT _ w).2⟩ (fun j hj e => ?_) (fun no => fin _ (by decide))
    exact absurd ⟨w, by rw [← e]; exact (okA_D hj).1⟩ q
  · rw [if_neg w]
    exact sw1 rfl (fin _ (by decide))
/-- the model's end of a reading that failed, and of one that went well -/
theorem mEnd0 {Q : Int32 → Int32 → Int32 → Prop} {f f' : Nat → Int32} {n a : Nat} (hn : n ≤ 160) (hA : agree n f f') (ha : a ≤ n) (hs : nx f n a = a) (h : Q ((-20) - nI a) 0 (nI a)) : wX3_end Q f' (nI n) (nI a) 0 := by
  unfold wX3_end
  refine sw1 rfl (pNext hn hA ha ?_)
  rw [hs]
  unfold wX3_end_9
  exact sw1 rfl h
theorem mEnd1 {Q : Int32 → Int32 → Int32 → Prop} {f' : Nat → Int32} {n a : Nat} (h : Q 0 0 (nI a)) : wX3_end Q f' (nI n) (nI a) 1 := by
  unfold wX3_end
  refine sw0 (by decide) ?_
  unfold wX3_end_9
  exact sw0 (by decide) h
theorem neg20 {a : Nat} (ha : a ≤ 160) : ¬ (0 : Int32) ≤ (-20) - nI a := by
  have h : ∀ k : Fin 161, ¬ (0 : Int32) ≤ (-20) - nI k.val := by decide +kernel
  exact h ⟨a, by omega⟩
