/-! OWNERS: the plain law -/
def oA (f : Nat → Int32) (n c a : Nat) : Nat := if 0 < c ∧ c % 6 = 0 then (if nx f n a < n ∧ f (nx f n a) = 47 then nx f n a + 1 else nx f n a) else a
def oP (f : Nat → Int32) (n : Nat) : Nat → Nat
  | 0 => 0
  | c + 1 => nx f n (oA f n c (oP f n c)) + 1
def oS (f : Nat → Int32) (n c : Nat) : Nat := nx f n (oA f n c (oP f n c))
def oK (f : Nat → Int32) (n c : Nat) : Prop := oS f n c < n ∧ okL (f (oS f n c))
def oV (f : Nat → Int32) (n c : Nat) : Int32 := vlL (f (oS f n c))
theorem oA_le {f : Nat → Int32} {n c a : Nat} (h : a ≤ n) : oA f n c a ≤ n := by
  have q := nx_le (f := f) h
  unfold oA
  split
  · split
    · omega
    · exact q
  · exact h
theorem oP_le {f : Nat → Int32} {n : Nat} : ∀ c, (∀ i, i < c → oK f n i) → oP f n c ≤ n := by
  intro c h
  cases c with
  | zero => exact Nat.zero_le n
  | succ c => exact (h c (Nat.lt_succ_self c)).1
theorem oS_le {f : Nat → Int32} {n c : Nat} (h : ∀ i, i < c → oK f n i) : oS f n c ≤ n := nx_le (oA_le (oP_le c h))
def cnO (v : Nat → Int32) : Nat → Nat
  | 0 => 0
  | c + 1 => cnO v c + (if v c = 4 then 0 else 1)
theorem cnO_congr {v w : Nat → Int32} : ∀ c, (∀ i, i < c → v i = w i) → cnO v c = cnO w c := by
  intro c
  induction c with
  | zero => intro _; rfl
  | succ c ih =>
    intro h
    show cnO v c + (if v c = 4 then 0 else 1) = cnO w c + (if w c = 4 then 0 else 1)
    rw [ih (fun i hi => h i (by omega)), h c (by omega)]
theorem c74 {Q : Int32 → Int32 → Int32 → (Nat → Int32) → (Nat → Int32) → Prop} {ty at_ : Int32} {o f s : Nat → Int32} (h : Q (nI (cnO o 36)) 0 at_ o s) : ∀ k c, c + k = 36 → wX0_owners_74 Q ty at_ o f s (k + 1) (nI (cnO o c)) (nI c) 0 0 := by
  intro k
  induction k with
  | zero =>
    intro c hc
    have e : c = 36 := by omega
    subst e
    unfold wX0_owners_74
    exact sw1 (by decide) h
  | succ k ih =>
    intro c hc
    unfold wX0_owners_74
    refine sw0 (fun q => absurd ((nI_leN (a := 36) (by decide) (by omega)).mp q) (by omega)) ⟨in_nI (by omega) (by decide), ?_⟩
    rw [clam_nI (by omega)]
    have w := ih (c + 1) (by omega)
    refine ⟨fun e => ?_, fun e => ?_⟩
    · intro x ex y ey
      rw [ex, ey, nI_add1, Int32.add_zero]
      rw [show cnO o (c + 1) = cnO o c from by show cnO o c + (if o c = 4 then 0 else 1) = _; rw [if_pos e]] at w
      exact w
    · intro x ex y ey
      rw [ex, ey, nI_add1, nI_add1]
      rw [show cnO o (c + 1) = cnO o c + 1 from by show cnO o c + (if o c = 4 then 0 else 1) = _; rw [if_neg e]] at w
      exact w
def ovr (v o : Nat → Int32) (c : Nat) : Nat → Int32 := fun i => if i < c then v i else o i
theorem ovr_upd (v o : Nat → Int32) (c : Nat) : upd (ovr v o c) c (v c) = ovr v o (c + 1) := by
  funext i
  unfold ovr
  by_cases e : i = c
  · subst e
    rw [upd_at, if_pos (by omega)]
  · rw [upd_ne e]
    by_cases q : i < c
    · rw [if_pos q, if_pos (by omega)]
    · rw [if_neg q, if_neg (by omega)]
theorem ovr_0 (v o : Nat → Int32) : ovr v o 0 = o := by
  funext i
  exact if_neg (Nat.not_lt_zero i)
theorem m19 {Q : Int32 → (Nat → Int32) → Int32 → Int32 → (Nat → Int32) → Prop} {f v o : Nat → Int32} {ty pl : Int32} (hv : ∀ i, i < 36 → 0 ≤ v i ∧ v i ≤ 4) (h : Q (nI (cnO v 36)) (ovr v o 36) ty pl v) : ∀ k c, c + k = 36 → wX3_owners_19 Q f ty pl v (k + 1) (nI (cnO v c)) (nI c) (ovr v o c) := by
  intro k
  induction k with
  | zero =>
    intro c hc
    have e : c = 36 := by omega
    subst e
    unfold wX3_owners_19
    exact sw1 (by decide) h
  | succ k ih =>
    intro c hc
    unfold wX3_owners_19
    refine sw0 (fun q => absurd ((nI_leN (a := 36) (by decide) (by omega)).mp q) (by omega)) ⟨in_nI (by omega) (by decide), in_nI (by omega) (by decide), ?_⟩
    rw [clam_nI (by omega)]
    intro o2 e2
    rw [ovr_upd] at e2
    subst e2
    have w := ih (c + 1) (by omega)
    refine ⟨in_nI (by omega) (by decide), fun e => ?_, fun e => ?_⟩
    · intro x ex y ey
      rw [ex, ey, nI_add1, Int32.add_zero]
      have e4 : v c = 4 := Int32.le_antisymm (hv c (by omega)).2 e
      rw [show cnO v (c + 1) = cnO v c from by show cnO v c + (if v c = 4 then 0 else 1) = _; rw [if_pos e4]] at w
      exact w
    · intro x ex y ey
      rw [ex, ey, nI_add1, nI_add1]
      rw [show cnO v (c + 1) = cnO v c + 1 from by show cnO v c + (if v c = 4 then 0 else 1) = _; rw [if_neg (fun z => e (by rw [z]; decide))]] at w
      exact w
theorem cOwn31 {Q : Int32 → Int32 → Int32 → (Nat → Int32) → (Nat → Int32) → Prop} {k7 : Int32 → Int32 → (Nat → Int32) → Nat → Nat → Prop} {f o s : Nat → Int32} {n a c : Nat} (hn : n ≤ 160) (ha : a ≤ n) (hT : okT f n) (hc : c < 36) (h1 : nx f n a < n ∧ okL (f (nx f n a)) → k7 (nI (c + 1)) (nI (nx f n a + 1)) (upd s c (vlL (f (nx f n a)))) 0 0) (h0 : ¬ (nx f n a < n ∧ okL (f (nx f n a))) → Q ((-20) - nI (nx f n a)) 0 (nI (nx f n a)) o s) : wX0_owners_31 Q k7 (nI c) (nI n) (nI a) o f s 0 0 := by
  unfold wX0_owners_31
  by_cases q : nx f n a < n ∧ okL (f (nx f n a))
  · refine Or.inl (pLet_O hn ha hT q ⟨in_nI hc (by decide), ?_⟩)
    rw [clam_nI (by omega), (byteRoom (vlL_rng q.2).1 (Int32.le_trans (vlL_rng q.2).2 (by decide))).1]
    intro s2 e2 x ex
    rw [ex, nI_add1, e2]
    exact h1 q
  · refine Or.inr ⟨by decide, by decide, pLet_Ot hn ha hT q ?_⟩
    intro x ex
    rw [ex]
    exact h0 q
theorem cOwn7 {Q : Int32 → Int32 → Int32 → (Nat → Int32) → (Nat → Int32) → Prop} {f o : Nat → Int32} {n : Nat} (hn : n ≤ 160) (hT : okT f n) (hE : ∀ c v, c < 36 → (∀ i, i < c → oK f n i) → ¬ oK f n c → Q ((-20) - nI (oS f n c)) 0 (nI (oS f n c)) o v) (hX : ∀ v, (∀ i, i < 36 → oK f n i) → nx f n (oP f n 36) < n → Q ((-20) - nI (nx f n (oP f n 36))) 0 (nI (nx f n (oP f n 36))) o v) (hS : ∀ v : Nat → Int32, (∀ i, i < 36 → oK f n i) → ¬ nx f n (oP f n 36) < n → (∀ i, i < 36 → v i = oV f n i) → ∃ fu, wX0_owners_74 Q (nI n) (nI (nx f n (oP f n 36))) (va_cpy v o 0 0 36) f v fu 0 0 0 0) : ∀ k c s, c + k = 36 → (∀ i, i < c → oK f n i) → (∀ i, i < c → s i = oV f n i) → wX0_owners_7 Q (nI n) o f (k + 1) (nI c) (nI (oP f n c)) s 0 0 := by
  intro k
  induction k with
  | zero =>
    intro c s hc h1 h2
    have e : c = 36 := by omega
    subst e
    unfold wX0_owners_7
    refine sw1 (by decide) ?_
    have hp := oP_le 36 h1
    by_cases q : nx f n (oP f n 36) < n
    · refine Or.inr ⟨by decide, by decide, pEnds_t hn hp hT q ?_⟩
      intro x ex
      rw [ex]
      exact hX s h1 q
    · refine Or.inl (pEnds hn hp q ⟨fun i hi => ?_, ?_⟩)
      · have hi : i < 36 := hi
        show fits .byte (.int (s (0 + i))) = true
        have r := vlL_rng (h1 i hi).2
        rw [Nat.zero_add, h2 i hi]
        exact (byteRoom r.1 (Int32.le_trans r.2 (by decide))).2
      · intro o2 e2
        subst e2
        exact hS s h1 q h2
  | succ k ih =>
    intro c s hc h1 h2
    unfold wX0_owners_7
    have hp := oP_le c h1
    have go : ∀ a, a = oA f n c (oP f n c) → wX0_owners_31 Q (wX0_owners_7 Q (nI n) o f (k + 1)) (nI c) (nI n) (nI a) o f s 0 0 := by
      intro a ea
      subst ea
      refine cOwn31 hn (oA_le hp) hT (by omega) (fun q => ?_) (fun q => hE c s (by omega) h1 q)
      refine ih (c + 1) _ (by omega) (fun i hi => ?_) (fun i hi => ?_)
      · by_cases e : i = c
        · rw [e]; exact q
        · exact h1 i (by omega)
      · by_cases e : i = c
        · rw [e, upd_at]; rfl
        · rw [upd_ne e]; exact h2 i (by omega)
    refine sw0 (fun q => absurd ((nI_leN (a := 36) (by decide) (by omega)).mp q) (by omega)) ?_
    by_cases z : c = 0
    · subst z
      exact sw1 (by decide) (go _ rfl)
    · refine sw0 (fun q => absurd ((nI_leN (b := 0) (by omega) (by decide)).mp q) (by omega)) ?_
      rw [show nI c - nI c / 6 * 6 = nI (c % 6) from (cell_div ⟨c, by omega⟩).2]
      by_cases z6 : c % 6 = 0
      · refine sw1 (by rw [z6]; decide) (pPass hn hp (by decide) (fun m => go _ ?_) (fun m => go _ ?_))
        · unfold oA
          rw [if_pos ⟨by omega, z6⟩, if_pos m]
        · unfold oA
          rw [if_pos ⟨by omega, z6⟩, if_neg m]
      · refine sw0 (fun q => z6 ((nI_inj (b := 0) (by omega) (by decide)).mp q)) (go _ ?_)
        unfold oA
        rw [if_neg (fun w => z6 w.2)]
theorem mOwn31 {Q : Int32 → Int32 → (Nat → Int32) → Prop} {k7 : Int32 → Int32 → (Nat → Int32) → Prop} {f f' s : Nat → Int32} {n a c : Nat} (hn : n ≤ 160) (hA : agree n f f') (ha : a ≤ n) (hc : c < 36) (h1 : nx f n a < n ∧ okL (f (nx f n a)) → k7 (nI (c + 1)) (nI (nx f n a + 1)) (upd s c (vlL (f (nx f n a))))) (h0 : ¬ (nx f n a < n ∧ okL (f (nx f n a))) → Q 0 (nI (nx f n a)) s) : wX3_readOwners_31 Q k7 (nI c) f' (nI n) (nI a) s := by
  unfold wX3_readOwners_31
  refine pNext hn hA ha ?_
  by_cases w : nx f n a < n
  · rw [if_pos w]
    have go : okL (f (nx f n a)) → wX3_readOwners_58 Q k7 (nI c) (f (nx f n a)) f' (nI n) (nI (nx f n a)) s := by
      intro q
      have h := h1 ⟨w, q⟩
      unfold vlL at h
      unfold wX3_readOwners_58
      intro p ep
      rw [ep, nI_add1]
      refine ⟨fun e => ⟨in_nI (by omega) (by decide), ?_⟩, fun e => ⟨in_nI (by omega) (by decide), ?_⟩⟩
      · intro s2 e2 x ex
        rw [ex, nI_add1, e2, clam_nI (by omega)]
        rw [if_pos e] at h
        exact h
      · intro s2 e2 x ex
        rw [ex, nI_add1, e2, clam_nI (by omega)]
        rw [if_neg e] at h
        exact h
    refine ⟨fun e => go (Or.inl e), fun e => pX3_inI (lo := 48) (hi := 51) ⟨fun z => h0 ?_, fun z => go (Or.inr (b2_1 z))⟩⟩
    rintro ⟨-, q | q⟩
    · exact e q
    · exact b2_0 z q
  · rw [if_neg w]
    refine sw0 (by decide) (pX3_inI (lo := 48) (hi := 51) ⟨fun z => h0 (fun q => w q.1), fun z => absurd (b2_1 z).1 (by decide)⟩)
theorem mOwn7 {Q : Int32 → Int32 → (Nat → Int32) → Prop} {f f' : Nat → Int32} {n : Nat} (hn : n ≤ 160) (hT : okT f n) (hA : agree n f f') (hE : ∀ c v, c < 36 → (∀ i, i < c → oK f n i) → ¬ oK f n c → Q 0 (nI (oS f n c)) v) (hX : ∀ v, (∀ i, i < 36 → oK f n i) → nx f n (oP f n 36) < n → Q 0 (nI (nx f n (oP f n 36))) v) (hS : ∀ v : Nat → Int32, (∀ i, i < 36 → oK f n i) → ¬ nx f n (oP f n 36) < n → (∀ i, i < 36 → v i = oV f n i) → Q 1 (nI (nx f n (oP f n 36))) v) : ∀ k c s, c + k = 36 → (∀ i, i < c → oK f n i) → (∀ i, i < c → s i = oV f n i) → wX3_readOwners_7 Q f' (nI n) (k + 1) (nI c) (nI (oP f n c)) s := by
  intro k
  induction k with
  | zero =>
    intro c s hc h1 h2
    have e : c = 36 := by omega
    subst e
    unfold wX3_readOwners_7
    refine sw1 (by decide) ?_
    have hp := oP_le 36 h1
    refine pNext hn hA hp ?_
    by_cases q : nx f n (oP f n 36) < n
    · rw [if_pos q]
      exact sw1 (Int32.le_trans (by decide) (hT _ q).1) (hX s h1 q)
    · rw [if_neg q]
      exact sw0 (by decide) (hS s h1 q h2)
  | succ k ih =>
    intro c s hc h1 h2
    unfold wX3_readOwners_7
    have hp := oP_le c h1
    have go : ∀ a, a = oA f n c (oP f n c) → wX3_readOwners_31 Q (wX3_readOwners_7 Q f' (nI n) (k + 1)) (nI c) f' (nI n) (nI a) s := by
      intro a ea
      subst ea
      refine mOwn31 hn hA (oA_le hp) (by omega) (fun q => ?_) (fun q => hE c s (by omega) h1 q)
      refine ih (c + 1) _ (by omega) (fun i hi => ?_) (fun i hi => ?_)
      · by_cases e : i = c
        · rw [e]; exact q
        · exact h1 i (by omega)
      · by_cases e : i = c
        · rw [e, upd_at]; rfl
        · rw [upd_ne e]; exact h2 i (by omega)
    refine sw0 (fun q => absurd ((nI_leN (a := 36) (by decide) (by omega)).mp q) (by omega)) ?_
    by_cases z : c = 0
    · subst z
      exact sw1 (by decide) (go _ rfl)
    · refine sw0 (fun q => absurd ((nI_leN (b := 0) (by omega) (by decide)).mp q) (by omega)) ?_
      rw [show nI c - nI c / 6 * 6 = nI (c % 6) from (cell_div ⟨c, by omega⟩).2]
      by_cases z6 : c % 6 = 0
      · refine sw1 (by rw [z6]; decide) (pTake hn hA hp (by decide) (fun m => go _ ?_) (fun m => go _ ?_))
        · unfold oA
          rw [if_pos ⟨by omega, z6⟩, if_pos m]
        · unfold oA
          rw [if_pos ⟨by omega, z6⟩, if_neg m]
      · refine sw0 (fun q => z6 ((nI_inj (b := 0) (by omega) (by decide)).mp q)) (go _ ?_)
        unfold oA
        rw [if_neg (fun w => z6 w.2)]
theorem mOwners {Q : Int32 → (Nat → Int32) → Int32 → Int32 → (Nat → Int32) → Prop} {f f' mo rd : Nat → Int32} {pl : Int32} {n : Nat} (hn : n ≤ 160) (hT : okT f n) (hA : agree n f f') (hE : ∀ c v, c < 36 → (∀ i, i < c → oK f n i) → ¬ oK f n c → Q ((-20) - nI (oS f n c)) mo 0 (nI (oS f n c)) v) (hX : ∀ v, (∀ i, i < 36 → oK f n i) → nx f n (oP f n 36) < n → Q ((-20) - nI (nx f n (oP f n 36))) mo 0 (nI (nx f n (oP f n 36))) v) (hS : ∀ v : Nat → Int32, (∀ i, i < 36 → oK f n i) → ¬ nx f n (oP f n 36) < n → (∀ i, i < 36 → v i = oV f n i) → Q (nI (cnO v 36)) (ovr v mo 36) 0 (nI (nx f n (oP f n 36))) v) : wX3_owners Q mo f' (nI n) pl rd := by
  unfold wX3_owners wX3_readOwners
  have w := mOwn7 (Q := fun r_2 place_2 read__2 => (wX3_end (fun r_5 taped_5 place_5 => ((0 ≤ r_5 → (∃ fu : Nat, wX3_owners_19 Q f' taped_5 place_5 read__2 fu 0 0 mo)) ∧ (¬ 0 ≤ r_5 → (Q r_5 mo taped_5 place_5 read__2)))) f' (nI n) place_2 r_2)) hn hT hA
    (fun c v hc h1 h2 => mEnd0 hn hA (oS_le h1) (nx_nx f n _) (sw0 (neg20 (Nat.le_trans (oS_le h1) hn)) (hE c v hc h1 h2)))
    (fun v h1 h2 => mEnd0 hn hA (nx_le (oP_le 36 h1)) (nx_nx f n _) (sw0 (neg20 (Nat.le_trans (nx_le (oP_le 36 h1)) hn)) (hX v h1 h2)))
    (fun v h1 h2 h3 => mEnd1 (sw1 (by decide) ⟨37, by
      have w := m19 (Q := Q) (f := f') (o := mo) (ty := 0) (pl := nI (nx f n (oP f n 36))) (v := v) (fun i hi => by rw [h3 i hi]; exact vlL_rng (h1 i hi).2) (hS v h1 h2 h3) 36 0 rfl
      rw [ovr_0] at w
      exact w⟩)) 36 0 rd rfl (fun i hi => absurd hi (Nat.not_lt_zero i)) (fun i hi => absurd hi (Nat.not_lt_zero i))
  exact ⟨37, w⟩
theorem first_one {p : Nat → Prop} {c d : Nat} (h1 : ∀ i, i < c → p i) (h2 : ¬ p c) (h3 : ∀ i, i < d → p i) (h4 : ¬ p d) : d = c := by
  rcases Nat.lt_trichotomy d c with z | z | z
  · exact absurd (h1 d z) h4
  · exact z
  · exact absurd (h3 c z) h2
theorem oOwners {P : Int32 → Int32 → Int32 → (Nat → Int32) → (Nat → Int32) → Int32 → (Nat → Int32) → Int32 → Int32 → (Nat → Int32) → Prop} {f f' o mo rd s : Nat → Int32} {pl at_ : Int32} {n : Nat} (hn : n ≤ 160) (hT : okT f n) (hA : agree n f f') (hb : ∀ r a v b w, P r 0 a o v r mo 0 b w) (hs : ∀ r a v b w o1 o2, okO o1 → agree 36 o1 o2 → P r 0 a o1 v r o2 0 b w) : wX0_owners (fun r a b c d => wX3_owners (fun r' a' b' c' d' => P r a b c d r' a' b' c' d') mo f' (nI n) pl rd) (nI n) at_ o f s := by
  unfold wX0_owners
  have w := cOwn7 (Q := fun r a b c d => wX3_owners (fun r' a' b' c' d' => P r a b c d r' a' b' c' d') mo f' (nI n) pl rd) (f := f) (o := o) hn hT
    (fun c v hc h1 h2 => mOwners hn hT hA (fun d v2 hd h3 h4 => by rw [first_one h1 h2 h3 h4]; exact hb _ _ _ _ _) (fun v2 h3 _ => absurd (h3 c hc) h2) (fun v2 h3 _ _ => absurd (h3 c hc) h2))
    (fun v h1 h2 => mOwners hn hT hA (fun d v2 hd h3 h4 => absurd (h1 d hd) h4) (fun v2 h3 _ => hb _ _ _ _ _) (fun v2 h3 h4 _ => absurd h2 h4))
    (fun v h1 h2 h3 => by
      have ev : ∀ i, i < 36 → va_cpy v o 0 0 36 i = oV f n i := fun i hi => by
        unfold va_cpy
        rw [if_pos ⟨Nat.zero_le i, by omega⟩, Nat.zero_add, Nat.sub_zero]
        exact h3 i hi
      have w := c74 (Q := fun r a b c d => wX3_owners (fun r' a' b' c' d' => P r a b c d r' a' b' c' d') mo f' (nI n) pl rd) (ty := nI n) (at_ := nI (nx f n (oP f n 36))) (o := va_cpy v o 0 0 36) (f := f) (s := v) (mOwners hn hT hA (fun d v2 hd h4 h5 => absurd (h1 d hd) h5) (fun v2 _ h4 => absurd h4 h2) (fun v2 _ _ h4 => by
        rw [cnO_congr 36 ev, cnO_congr 36 h4]
        refine hs _ _ _ _ _ _ _ (fun i hi => ?_) (fun i hi => ?_)
        · rw [ev i hi]; exact vlL_rng (h1 i hi).2
        · rw [ev i hi]
          unfold ovr
          rw [if_pos hi, h4 i hi])) 36 0 rfl
      exact ⟨37, w⟩) 36 0 s rfl (fun i hi => absurd hi (Nat.not_lt_zero i)) (fun i hi => absurd hi (Nat.not_lt_zero i))
  exact ⟨37, w⟩
