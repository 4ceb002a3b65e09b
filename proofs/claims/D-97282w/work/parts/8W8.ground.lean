/-! GROUND: the plain law -/
def gB (f : Nat → Int32) (n c a : Nat) : Nat := if 0 < c ∧ c % 6 = 0 then nx f n a + 1 else a
def gHs (f : Nat → Int32) (n s : Nat) : Prop := nx f n (s + 1) < n ∧ f (nx f n (s + 1)) = 94
def gN (f : Nat → Int32) (n s : Nat) : Nat := if f s - 48 ≤ 0 then s + 1 else if nx f n (s + 1) < n ∧ f (nx f n (s + 1)) = 94 then nx f n (s + 1) + 1 else nx f n (s + 1)
def gP (f : Nat → Int32) (n : Nat) : Nat → Nat
  | 0 => 0
  | c + 1 => gN f n (nx f n (gB f n c (gP f n c)))
def gS (f : Nat → Int32) (n c : Nat) : Nat := nx f n (gB f n c (gP f n c))
def gK1 (f : Nat → Int32) (n c : Nat) : Prop := 0 < c ∧ c % 6 = 0 → nx f n (gP f n c) < n ∧ f (nx f n (gP f n c)) = 47
def gK2 (f : Nat → Int32) (n c : Nat) : Prop := gS f n c < n ∧ 48 ≤ f (gS f n c) ∧ f (gS f n c) ≤ 57
def gK (f : Nat → Int32) (n c : Nat) : Prop := gK1 f n c ∧ gK2 f n c
def gD_ (f : Nat → Int32) (n c : Nat) : Int32 := f (gS f n c) - 48
def gHb (f : Nat → Int32) (n c : Nat) : Bool := decide (¬ f (gS f n c) - 48 ≤ 0 ∧ nx f n (gS f n c + 1) < n ∧ f (nx f n (gS f n c + 1)) = 94)
theorem gP_le {f : Nat → Int32} {n : Nat} : ∀ c, (∀ i, i < c → gK f n i) → gP f n c ≤ n := by
  intro c h
  cases c with
  | zero => exact Nat.zero_le n
  | succ c =>
    have q : gS f n c < n := (h c (Nat.lt_succ_self c)).2.1
    have w := nx_le (f := f) (n := n) (a := gS f n c + 1) q
    show gN f n (gS f n c) ≤ n
    unfold gN
    split
    · exact q
    · split
      · omega
      · exact w
theorem gB_le {f : Nat → Int32} {n c : Nat} (hp : gP f n c ≤ n) (h : gK1 f n c) : gB f n c (gP f n c) ≤ n := by
  unfold gB
  split
  · rename_i q
    exact (h q).1
  · exact hp
theorem gD_rng {f : Nat → Int32} {n c : Nat} (h : gK2 f n c) : ∃ k, k ≤ 9 ∧ gD_ f n c = nI k := by
  obtain ⟨k, hk, e⟩ := nI_ofN (n := 57) (Int32.le_trans (by decide) h.2.1) h.2.2 (by decide)
  have h0 := h.2.1
  rw [e] at h0
  have h0 := (nI_leN (a := 48) (by decide) (by omega)).mp h0
  refine ⟨k - 48, by omega, ?_⟩
  unfold gD_
  rw [e, show (48 : Int32) = nI 48 from rfl, nI_subN h0]
theorem gD_ok {f : Nat → Int32} {n c : Nat} (h : gK2 f n c) : 0 ≤ gD_ f n c ∧ gD_ f n c ≤ 9 := by
  obtain ⟨k, hk, e⟩ := gD_rng h
  rw [e]
  exact ⟨(nI_leN (a := 0) (by decide) (by omega)).mpr (by omega), (nI_leN (b := 9) (by omega) (by decide)).mpr hk⟩
def gR (f : Nat → Int32) (n : Nat) : Nat → Int64
  | 0 => 0
  | c + 1 => if gHb f n c = true then gR f n c ||| bit c else gR f n c
def mR (f : Nat → Int32) (n : Nat) (ro : Int64) : Nat → Int64
  | 0 => ro
  | c + 1 => if gHb f n c = true then mR f n ro c ||| bit c else mR f n ro c &&& (bit c ^^^ (-1))
theorem gR_mem {f : Nat → Int32} {n : Nat} : ∀ c, c ≤ 36 → ∀ i, mem (gR f n c) i = (decide (i < c) && gHb f n i) := by
  intro c
  induction c with
  | zero =>
    intro _ i
    show mem 0 i = _
    rw [mem_zero]
    simp
  | succ c ih =>
    intro hc i
    show mem (if gHb f n c = true then gR f n c ||| bit c else gR f n c) i = _
    by_cases e : i = c
    · subst e
      split
      · rename_i q
        rw [mem_or, mem_bit (by omega), q]
        simp
      · rename_i q
        rw [ih (by omega)]
        simp at q
        simp [q]
    · have w : decide (i < c + 1) = decide (i < c) := decide_eq_decide.mpr (by omega)
      rw [w]
      split
      · rw [mem_or, mem_bit (by omega), ih (by omega)]
        simp [e]
      · exact ih (by omega) i
theorem mR_mem {f : Nat → Int32} {n : Nat} {ro : Int64} : ∀ c, c ≤ 36 → ∀ i, mem (mR f n ro c) i = if i < c then gHb f n i else mem ro i := by
  intro c
  induction c with
  | zero =>
    intro _ i
    rw [if_neg (Nat.not_lt_zero i)]
    rfl
  | succ c ih =>
    intro hc i
    show mem (if gHb f n c = true then mR f n ro c ||| bit c else mR f n ro c &&& (bit c ^^^ (-1))) i = _
    by_cases e : i = c
    · subst e
      rw [if_pos (show i < i + 1 by omega)]
      split
      · rename_i q
        rw [mem_or, mem_bit (by omega), q]
        simp
      · rename_i q
        rw [mem_minus, mem_bit (by omega)]
        simp at q
        simp [q]
    · have w := ih (by omega) i
      split
      · rw [mem_or, mem_bit (by omega), w]
        simp only [e, decide_false, Bool.or_false]
        by_cases z : i < c
        · rw [if_pos z, if_pos (by omega)]
        · rw [if_neg z, if_neg (by omega)]
      · rw [mem_minus, mem_bit (by omega), w]
        simp only [e, decide_false, Bool.not_false, Bool.and_true]
        by_cases z : i < c
        · rw [if_pos z, if_pos (by omega)]
        · rw [if_neg z, if_neg (by omega)]
theorem mR_gR {f : Nat → Int32} {n : Nat} {ro : Int64} (h : small ro) : mR f n ro 36 = gR f n 36 := mem_ext (fun i _ => by
  rw [mR_mem 36 (Nat.le_refl _), gR_mem 36 (Nat.le_refl _)]
  by_cases q : i < 36
  · rw [if_pos q]
    simp [q]
  · rw [if_neg q, h i (by omega)]
    simp [q])
theorem gR_small {f : Nat → Int32} {n : Nat} : small (gR f n 36) := fun i hi => by
  rw [gR_mem 36 (Nat.le_refl _)]
  have w : decide (i < 36) = false := decide_eq_false (by omega)
  rw [w]
  rfl
theorem cG49_e {Q : Int32 → Int32 → Int32 → (Nat → Int32) → Int64 → Int32 → (Nat → Int32) → Int64 → Int32 → Int32 → Int32 → Prop} {k26 : Int32 → Int32 → Int64 → (Nat → Int32) → Nat → Nat → Prop} {f gd rd : Nat → Int32} {gro rro : Int64} {grt rrt umc usz : Int32} {n a c s : Nat} (hn : n ≤ 160) (ha : a ≤ n) (hc : c < 36) (es : nx f n a = s) (h1 : s < n ∧ 48 ≤ f s ∧ f s ≤ 57 → k26 (nI (c + 1)) (nI (gN f n s)) (if ¬ f s - 48 ≤ 0 ∧ nx f n (s + 1) < n ∧ f (nx f n (s + 1)) = 94 then rro ||| bit c else rro) (upd rd c (f s - 48)) 0 0) (h0 : ¬ (s < n ∧ 48 ≤ f s ∧ f s ≤ 57) → Q ((-20) - nI s) 0 (nI s) gd gro grt rd rro rrt umc usz) : wX0_ground_e_49 Q k26 (nI c) (nI n) (nI a) gro grt gd rro rrt rd f umc usz 0 0 := by
  subst es
  unfold wX0_ground_e_49
  by_cases q : nx f n a < n ∧ 48 ≤ f (nx f n a) ∧ f (nx f n a) ≤ 57
  · refine Or.inl (pFig hn ha q ⟨in_nI hc (by decide), ?_⟩)
    obtain ⟨k, hk, ek⟩ := nI_ofN (n := 57) (Int32.le_trans (by decide) q.2.1) q.2.2 (by decide)
    have k0 := q.2.1
    rw [ek] at k0
    have k0 := (nI_leN (a := 48) (by decide) (by omega)).mp k0
    have ed : f (nx f n a) - 48 = nI (k - 48) := by rw [ek, show (48 : Int32) = nI 48 from rfl, nI_subN k0]
    have r0 : 0 ≤ f (nx f n a) - 48 ∧ f (nx f n a) - 48 ≤ 127 := by
      rw [ed]
      exact ⟨(nI_leN (a := 0) (by decide) (by omega)).mpr (by omega), (nI_leN (b := 127) (by omega) (by decide)).mpr (by omega)⟩
    rw [clam_nI (by omega), (byteRoom r0.1 r0.2).1, bit_nI (by omega)]
    intro r2 e2
    subst e2
    rw [upd_at]
    have w := h1 q
    refine ⟨in_nI hc (by decide), fun e => ?_, fun e => ?_⟩
    · intro x ex
      rw [ex, nI_add1]
      rw [if_neg (fun z => z.1 e)] at w
      unfold gN at w
      rw [if_pos e] at w
      exact w
    · unfold gN at w
      rw [if_neg e] at w
      refine pPass hn q.1 (by decide) (fun m => sw0 (by decide) ?_) (fun m => sw1 rfl ?_)
      · intro r3 e3 x ex
        rw [ex, nI_add1, e3]
        rw [if_pos m, if_pos ⟨e, m⟩] at w
        exact w
      · intro x ex
        rw [ex, nI_add1]
        rw [if_neg m, if_neg (fun z => m z.2)] at w
        exact w
  · refine Or.inr ⟨by decide, by decide, pFig_t hn ha q ?_⟩
    intro x ex
    rw [ex]
    exact h0 q
theorem cG26_e {Q : Int32 → Int32 → Int32 → (Nat → Int32) → Int64 → Int32 → (Nat → Int32) → Int64 → Int32 → Int32 → Int32 → Prop} {f gd : Nat → Int32} {gro : Int64} {grt rrt umc : Int32} {n : Nat} (hn : n ≤ 160) (hT : okT f n) (hE : ∀ c rd rro, c < 36 → (∀ i, i < c → gK f n i) → ¬ gK1 f n c → Q ((-20) - nI (nx f n (gP f n c))) 0 (nI (nx f n (gP f n c))) gd gro grt rd rro rrt umc (nI 0)) (hF : ∀ c rd rro, c < 36 → (∀ i, i < c → gK f n i) → gK1 f n c → ¬ gK2 f n c → Q ((-20) - nI (gS f n c)) 0 (nI (gS f n c)) gd gro grt rd rro rrt umc (nI 0)) (hX : ∀ rd rro, (∀ i, i < 36 → gK f n i) → nx f n (gP f n 36) < n → Q ((-20) - nI (nx f n (gP f n 36))) 0 (nI (nx f n (gP f n 36))) gd gro grt rd rro rrt umc (nI 0)) (hS : ∀ (d' rd : Nat → Int32) (mc1 : Int32), (∀ i, i < 36 → gK f n i) → ¬ nx f n (gP f n 36) < n → (∀ i, i < 36 → d' i = gD_ f n i) → Q (nI (hl (dugP d')).length) 0 (nI (nx f n (gP f n 36))) d' (gR f n 36) rrt rd (gR f n 36) rrt mc1 0) : ∀ k c rd, c + k = 36 → (∀ i, i < c → gK f n i) → (∀ i, i < c → rd i = gD_ f n i) → wX0_ground_e_26 Q (nI n) gro grt gd rrt f umc (nI 0) (k + 1) (nI c) (nI (gP f n c)) (gR f n c) rd 0 0 := by
  intro k
  induction k with
  | zero =>
    intro c rd hc h1 h2
    have e : c = 36 := by omega
    subst e
    unfold wX0_ground_e_26
    refine sw1 (by decide) ?_
    have hp := gP_le 36 h1
    by_cases q : nx f n (gP f n 36) < n
    · refine Or.inr ⟨by decide, by decide, pEnds_t hn hp hT q ?_⟩
      intro x ex
      rw [ex]
      exact hX rd _ h1 q
    · refine Or.inl (pEnds hn hp q (pX1_takes (fun i hi => by rw [h2 i hi]; exact gD_ok (h1 i hi).2) (fun d' hd => ?_)))
      refine pJ2_clear_e (fun mc1 => pX1_dug (pX0_pieces ?_))
      exact hS d' rd mc1 h1 q (fun i hi => by rw [hd i hi, h2 i hi])
  | succ k ih =>
    intro c rd hc h1 h2
    unfold wX0_ground_e_26
    have hp := gP_le c h1
    have go : ∀ a, a = gB f n c (gP f n c) → gK1 f n c → wX0_ground_e_49 Q (wX0_ground_e_26 Q (nI n) gro grt gd rrt f umc (nI 0) (k + 1)) (nI c) (nI n) (nI a) gro grt gd (gR f n c) rrt rd f umc (nI 0) 0 0 := by
      intro a ea hk1
      subst ea
      refine cG49_e (s := gS f n c) hn (gB_le hp hk1) (by omega) rfl (fun q => ?_) (fun q => hF c rd _ (by omega) h1 hk1 q)
      have w := ih (c + 1) (upd rd c (f (gS f n c) - 48)) (by omega) (fun i hi => by
        by_cases e : i = c
        · rw [e]; exact ⟨hk1, q⟩
        · exact h1 i (by omega)) (fun i hi => by
        by_cases e : i = c
        · rw [e, upd_at]; rfl
        · rw [upd_ne e]; exact h2 i (by omega))
      have e3 : gR f n (c + 1) = (if ¬ f (gS f n c) - 48 ≤ 0 ∧ nx f n (gS f n c + 1) < n ∧ f (nx f n (gS f n c + 1)) = 94 then gR f n c ||| bit c else gR f n c) := by
        show (if gHb f n c = true then gR f n c ||| bit c else gR f n c) = _
        unfold gHb
        by_cases z : ¬ f (gS f n c) - 48 ≤ 0 ∧ nx f n (gS f n c + 1) < n ∧ f (nx f n (gS f n c + 1)) = 94
        · rw [if_pos (decide_eq_true z), if_pos z]
        · rw [if_neg (by rw [decide_eq_false z]; decide), if_neg z]
      rw [e3] at w
      exact w
    refine sw0 (fun q => absurd ((nI_leN (a := 36) (by decide) (by omega)).mp q) (by omega)) ?_
    by_cases z : c = 0
    · subst z
      exact sw1 (by decide) (go _ rfl (fun q => absurd q.1 (Nat.lt_irrefl 0)))
    · refine sw0 (fun q => absurd ((nI_leN (b := 0) (by omega) (by decide)).mp q) (by omega)) ?_
      rw [show nI c - nI c / 6 * 6 = nI (c % 6) from (cell_div ⟨c, by omega⟩).2]
      by_cases z6 : c % 6 = 0
      · refine sw1 (by rw [z6]; decide) ?_
        by_cases m : nx f n (gP f n c) < n ∧ f (nx f n (gP f n c)) = 47
        · refine Or.inl (pMust hn hp (by decide) m (go _ ?_ (fun _ => m)))
          unfold gB
          rw [if_pos ⟨by omega, z6⟩]
        · refine Or.inr ⟨by decide, by decide, pMust_t hn hp (by decide) m ?_⟩
          intro x ex
          rw [ex]
          exact hE c rd _ (by omega) h1 (fun w => m (w ⟨by omega, z6⟩))
      · refine sw0 (fun q => z6 ((nI_inj (b := 0) (by omega) (by decide)).mp q)) (go _ ?_ (fun q => absurd q.2 z6))
        unfold gB
        rw [if_neg (fun w => z6 w.2)]
theorem cG49_r {Q : Int32 → Int32 → Int32 → (Nat → Int32) → Int64 → Int32 → (Nat → Int32) → Int64 → Int32 → Int32 → Int32 → (Nat → Option Nat) → Prop} {k26 : Int32 → Int32 → Int64 → (Nat → Int32) → Nat → Nat → Prop} {f gd rd : Nat → Int32} {gro rro : Int64} {grt rrt umc usz : Int32} {uf : Nat → Option Nat} {n a c s : Nat} (hn : n ≤ 160) (ha : a ≤ n) (hc : c < 36) (es : nx f n a = s) (h1 : s < n ∧ 48 ≤ f s ∧ f s ≤ 57 → k26 (nI (c + 1)) (nI (gN f n s)) (if ¬ f s - 48 ≤ 0 ∧ nx f n (s + 1) < n ∧ f (nx f n (s + 1)) = 94 then rro ||| bit c else rro) (upd rd c (f s - 48)) 0 0) (h0 : ¬ (s < n ∧ 48 ≤ f s ∧ f s ≤ 57) → Q ((-20) - nI s) 0 (nI s) gd gro grt rd rro rrt umc usz uf) : wX0_ground_r_49 Q k26 (nI c) (nI n) (nI a) gro grt gd rro rrt rd f umc usz uf 0 0 := by
  subst es
  unfold wX0_ground_r_49
  by_cases q : nx f n a < n ∧ 48 ≤ f (nx f n a) ∧ f (nx f n a) ≤ 57
  · refine Or.inl (pFig hn ha q ⟨in_nI hc (by decide), ?_⟩)
    obtain ⟨k, hk, ek⟩ := nI_ofN (n := 57) (Int32.le_trans (by decide) q.2.1) q.2.2 (by decide)
    have k0 := q.2.1
    rw [ek] at k0
    have k0 := (nI_leN (a := 48) (by decide) (by omega)).mp k0
    have ed : f (nx f n a) - 48 = nI (k - 48) := by rw [ek, show (48 : Int32) = nI 48 from rfl, nI_subN k0]
    have r0 : 0 ≤ f (nx f n a) - 48 ∧ f (nx f n a) - 48 ≤ 127 := by
      rw [ed]
      exact ⟨(nI_leN (a := 0) (by decide) (by omega)).mpr (by omega), (nI_leN (b := 127) (by omega) (by decide)).mpr (by omega)⟩
    rw [clam_nI (by omega), (byteRoom r0.1 r0.2).1, bit_nI (by omega)]
    intro r2 e2
    subst e2
    rw [upd_at]
    have w := h1 q
    refine ⟨in_nI hc (by decide), fun e => ?_, fun e => ?_⟩
    · intro x ex
      rw [ex, nI_add1]
      rw [if_neg (fun z => z.1 e)] at w
      unfold gN at w
      rw [if_pos e] at w
      exact w
    · unfold gN at w
      rw [if_neg e] at w
      refine pPass hn q.1 (by decide) (fun m => sw0 (by decide) ?_) (fun m => sw1 rfl ?_)
      · intro r3 e3 x ex
        rw [ex, nI_add1, e3]
        rw [if_pos m, if_pos ⟨e, m⟩] at w
        exact w
      · intro x ex
        rw [ex, nI_add1]
        rw [if_neg m, if_neg (fun z => m z.2)] at w
        exact w
  · refine Or.inr ⟨by decide, by decide, pFig_t hn ha q ?_⟩
    intro x ex
    rw [ex]
    exact h0 q
theorem cG26_r {Q : Int32 → Int32 → Int32 → (Nat → Int32) → Int64 → Int32 → (Nat → Int32) → Int64 → Int32 → Int32 → Int32 → (Nat → Option Nat) → Prop} {f gd : Nat → Int32} {gro : Int64} {grt rrt umc : Int32} {uf : Nat → Option Nat} {n nz : Nat} (hnz : nz ≤ 10) (hn : n ≤ 160) (hT : okT f n) (hE : ∀ c rd rro, c < 36 → (∀ i, i < c → gK f n i) → ¬ gK1 f n c → Q ((-20) - nI (nx f n (gP f n c))) 0 (nI (nx f n (gP f n c))) gd gro grt rd rro rrt umc (nI nz) uf) (hF : ∀ c rd rro, c < 36 → (∀ i, i < c → gK f n i) → gK1 f n c → ¬ gK2 f n c → Q ((-20) - nI (gS f n c)) 0 (nI (gS f n c)) gd gro grt rd rro rrt umc (nI nz) uf) (hX : ∀ rd rro, (∀ i, i < 36 → gK f n i) → nx f n (gP f n 36) < n → Q ((-20) - nI (nx f n (gP f n 36))) 0 (nI (nx f n (gP f n 36))) gd gro grt rd rro rrt umc (nI nz) uf) (hS : ∀ (d' rd : Nat → Int32) (mc1 : Int32) (f1 : Nat → Option Nat), (∀ i, i < 36 → gK f n i) → ¬ nx f n (gP f n 36) < n → (∀ i, i < 36 → d' i = gD_ f n i) → (∀ j, f1 j = none ∨ f1 j = uf j) → Q (nI (hl (dugP d')).length) 0 (nI (nx f n (gP f n 36))) d' (gR f n 36) rrt rd (gR f n 36) rrt mc1 0 f1) : ∀ k c rd, c + k = 36 → (∀ i, i < c → gK f n i) → (∀ i, i < c → rd i = gD_ f n i) → wX0_ground_r_26 Q (nI n) gro grt gd rrt f umc (nI nz) uf (k + 1) (nI c) (nI (gP f n c)) (gR f n c) rd 0 0 := by
  intro k
  induction k with
  | zero =>
    intro c rd hc h1 h2
    have e : c = 36 := by omega
    subst e
    unfold wX0_ground_r_26
    refine sw1 (by decide) ?_
    have hp := gP_le 36 h1
    by_cases q : nx f n (gP f n 36) < n
    · refine Or.inr ⟨by decide, by decide, pEnds_t hn hp hT q ?_⟩
      intro x ex
      rw [ex]
      exact hX rd _ h1 q
    · refine Or.inl (pEnds hn hp q (pX1_takes (fun i hi => by rw [h2 i hi]; exact gD_ok (h1 i hi).2) (fun d' hd => ?_)))
      refine pJ2_clear hnz (fun mc1 f1 hf1 => pX1_dug (pX0_pieces ?_))
      exact hS d' rd mc1 f1 h1 q (fun i hi => by rw [hd i hi, h2 i hi]) hf1
  | succ k ih =>
    intro c rd hc h1 h2
    unfold wX0_ground_r_26
    have hp := gP_le c h1
    have go : ∀ a, a = gB f n c (gP f n c) → gK1 f n c → wX0_ground_r_49 Q (wX0_ground_r_26 Q (nI n) gro grt gd rrt f umc (nI nz) uf (k + 1)) (nI c) (nI n) (nI a) gro grt gd (gR f n c) rrt rd f umc (nI nz) uf 0 0 := by
      intro a ea hk1
      subst ea
      refine cG49_r (s := gS f n c) hn (gB_le hp hk1) (by omega) rfl (fun q => ?_) (fun q => hF c rd _ (by omega) h1 hk1 q)
      have w := ih (c + 1) (upd rd c (f (gS f n c) - 48)) (by omega) (fun i hi => by
        by_cases e : i = c
        · rw [e]; exact ⟨hk1, q⟩
        · exact h1 i (by omega)) (fun i hi => by
        by_cases e : i = c
        · rw [e, upd_at]; rfl
        · rw [upd_ne e]; exact h2 i (by omega))
      have e3 : gR f n (c + 1) = (if ¬ f (gS f n c) - 48 ≤ 0 ∧ nx f n (gS f n c + 1) < n ∧ f (nx f n (gS f n c + 1)) = 94 then gR f n c ||| bit c else gR f n c) := by
        show (if gHb f n c = true then gR f n c ||| bit c else gR f n c) = _
        unfold gHb
        by_cases z : ¬ f (gS f n c) - 48 ≤ 0 ∧ nx f n (gS f n c + 1) < n ∧ f (nx f n (gS f n c + 1)) = 94
        · rw [if_pos (decide_eq_true z), if_pos z]
        · rw [if_neg (by rw [decide_eq_false z]; decide), if_neg z]
      rw [e3] at w
      exact w
    refine sw0 (fun q => absurd ((nI_leN (a := 36) (by decide) (by omega)).mp q) (by omega)) ?_
    by_cases z : c = 0
    · subst z
      exact sw1 (by decide) (go _ rfl (fun q => absurd q.1 (Nat.lt_irrefl 0)))
    · refine sw0 (fun q => absurd ((nI_leN (b := 0) (by omega) (by decide)).mp q) (by omega)) ?_
      rw [show nI c - nI c / 6 * 6 = nI (c % 6) from (cell_div ⟨c, by omega⟩).2]
      by_cases z6 : c % 6 = 0
      · refine sw1 (by rw [z6]; decide) ?_
        by_cases m : nx f n (gP f n c) < n ∧ f (nx f n (gP f n c)) = 47
        · refine Or.inl (pMust hn hp (by decide) m (go _ ?_ (fun _ => m)))
          unfold gB
          rw [if_pos ⟨by omega, z6⟩]
        · refine Or.inr ⟨by decide, by decide, pMust_t hn hp (by decide) m ?_⟩
          intro x ex
          rw [ex]
          exact hE c rd _ (by omega) h1 (fun w => m (w ⟨by omega, z6⟩))
      · refine sw0 (fun q => z6 ((nI_inj (b := 0) (by omega) (by decide)).mp q)) (go _ ?_ (fun q => absurd q.2 z6))
        unfold gB
        rw [if_neg (fun w => z6 w.2)]
def gV (f : Nat → Int32) (n c : Nat) : Int32 := if gHb f n c = true then 100 + gD_ f n c else gD_ f n c
theorem mG35 {Q : Int32 → Int32 → (Nat → Int32) → Prop} {k7 : Int32 → Int32 → (Nat → Int32) → Prop} {f f' s_ : Nat → Int32} {n a c s : Nat} (hn : n ≤ 160) (hA : agree n f f') (ha : a ≤ n) (hc : c < 36) (es : nx f n a = s) (h1 : s < n ∧ 48 ≤ f s ∧ f s ≤ 57 → k7 (nI (c + 1)) (nI (gN f n s)) (upd s_ c (if ¬ f s - 48 ≤ 0 ∧ nx f n (s + 1) < n ∧ f (nx f n (s + 1)) = 94 then 100 + (f s - 48) else f s - 48))) (h0 : ¬ (s < n ∧ 48 ≤ f s ∧ f s ≤ 57) → Q 0 (nI s) s_) : wX3_readGround_35 Q k7 (nI c) f' (nI n) (nI a) s_ := by
  subst es
  unfold wX3_readGround_35
  refine pNext hn hA ha ?_
  by_cases q : nx f n a < n ∧ 48 ≤ f (nx f n a) ∧ f (nx f n a) ≤ 57
  · rw [if_pos q.1]
    obtain ⟨k, hk, ek⟩ := nI_ofN (n := 57) (Int32.le_trans (by decide) q.2.1) q.2.2 (by decide)
    have k0 := q.2.1
    rw [ek] at k0
    have k0 := (nI_leN (a := 48) (by decide) (by omega)).mp k0
    have ed : f (nx f n a) - 48 = nI (k - 48) := by rw [ek, show (48 : Int32) = nI 48 from rfl, nI_subN k0]
    have r0 : 0 ≤ f (nx f n a) - 48 ∧ f (nx f n a) - 48 ≤ 9 := by
      rw [ed]
      exact ⟨(nI_leN (a := 0) (by decide) (by omega)).mpr (by omega), (nI_leN (b := 9) (by omega) (by decide)).mpr (by omega)⟩
    have w := h1 q
    intro y ey
    subst ey
    refine pX3_inI (lo := 0) (hi := 9) ⟨fun z => absurd r0 (b2_0 z), fun _ => ?_⟩
    intro p ep
    rw [ep, nI_add1]
    unfold gN at w
    refine ⟨fun e => ⟨in_nI (by omega) (by decide), ?_⟩, fun e => ?_⟩
    · intro s2 e2 x ex
      rw [ex, nI_add1, e2, clam_nI (by omega)]
      rw [if_neg (fun z => z.1 e), if_pos e] at w
      exact w
    · rw [if_neg e] at w
      refine pTake hn hA q.1 (by decide) (fun m => sw0 (by decide) ⟨in_nI (by omega) (by decide), ?_⟩) (fun m => sw1 rfl ⟨in_nI (by omega) (by decide), ?_⟩)
      · intro s2 e2 x ex
        rw [ex, nI_add1, e2, clam_nI (by omega)]
        rw [if_pos ⟨e, m⟩, if_pos m] at w
        exact w
      · intro s2 e2 x ex
        rw [ex, nI_add1, e2, clam_nI (by omega)]
        rw [if_neg (fun z => m z.2), if_neg m] at w
        exact w
  · have w := h0 q
    intro y ey
    refine pX3_inI (lo := 0) (hi := 9) ⟨fun _ => w, fun z => absurd ?_ q⟩
    have z := b2_1 z
    rw [ey] at z
    by_cases l : nx f n a < n
    · rw [if_pos l] at z
      have e1 : f (nx f n a) = (f (nx f n a) - 48) + 48 := (Int32.sub_add_cancel _ _).symm
      obtain ⟨k, hk, ek⟩ := nI_ofN (n := 9) z.1 z.2 (by decide)
      rw [ek, show (48 : Int32) = nI 48 from rfl, nI_add] at e1
      refine ⟨l, ?_, ?_⟩
      · rw [e1]; exact (nI_leN (a := 48) (by decide) (by omega)).mpr (by omega)
      · rw [e1]; exact (nI_leN (b := 57) (by omega) (by decide)).mpr (by omega)
    · rw [if_neg l] at z
      exact absurd z.1 (by decide)
theorem mG7 {Q : Int32 → Int32 → (Nat → Int32) → Prop} {f f' : Nat → Int32} {n : Nat} (hn : n ≤ 160) (hT : okT f n) (hA : agree n f f') (hE : ∀ c v, c < 36 → (∀ i, i < c → gK f n i) → ¬ gK1 f n c → Q 0 (nI (nx f n (gP f n c))) v) (hF : ∀ c v, c < 36 → (∀ i, i < c → gK f n i) → gK1 f n c → ¬ gK2 f n c → Q 0 (nI (gS f n c)) v) (hX : ∀ v, (∀ i, i < 36 → gK f n i) → nx f n (gP f n 36) < n → Q 0 (nI (nx f n (gP f n 36))) v) (hS : ∀ v : Nat → Int32, (∀ i, i < 36 → gK f n i) → ¬ nx f n (gP f n 36) < n → (∀ i, i < 36 → v i = gV f n i) → Q 1 (nI (nx f n (gP f n 36))) v) : ∀ k c s, c + k = 36 → (∀ i, i < c → gK f n i) → (∀ i, i < c → s i = gV f n i) → wX3_readGround_7 Q f' (nI n) (k + 1) (nI c) (nI (gP f n c)) s := by
  intro k
  induction k with
  | zero =>
    intro c s hc h1 h2
    have e : c = 36 := by omega
    subst e
    unfold wX3_readGround_7
    refine sw1 (by decide) ?_
    have hp := gP_le 36 h1
    refine pNext hn hA hp ?_
    by_cases q : nx f n (gP f n 36) < n
    · rw [if_pos q]
      exact sw1 (Int32.le_trans (by decide) (hT _ q).1) (hX s h1 q)
    · rw [if_neg q]
      exact sw0 (by decide) (hS s h1 q h2)
  | succ k ih =>
    intro c s hc h1 h2
    unfold wX3_readGround_7
    have hp := gP_le c h1
    have go : ∀ a, a = gB f n c (gP f n c) → gK1 f n c → wX3_readGround_35 Q (wX3_readGround_7 Q f' (nI n) (k + 1)) (nI c) f' (nI n) (nI a) s := by
      intro a ea hk1
      subst ea
      refine mG35 (s := gS f n c) hn hA (gB_le hp hk1) (by omega) rfl (fun q => ?_) (fun q => hF c s (by omega) h1 hk1 q)
      refine ih (c + 1) _ (by omega) (fun i hi => ?_) (fun i hi => ?_)
      · by_cases e : i = c
        · rw [e]; exact ⟨hk1, q⟩
        · exact h1 i (by omega)
      · by_cases e : i = c
        · rw [e, upd_at]
          unfold gV gHb gD_
          by_cases z : ¬ f (gS f n c) - 48 ≤ 0 ∧ nx f n (gS f n c + 1) < n ∧ f (nx f n (gS f n c + 1)) = 94
          · rw [if_pos z, if_pos (decide_eq_true z)]
          · rw [if_neg z, if_neg (by rw [decide_eq_false z]; decide)]
        · rw [upd_ne e]; exact h2 i (by omega)
    refine sw0 (fun q => absurd ((nI_leN (a := 36) (by decide) (by omega)).mp q) (by omega)) ?_
    by_cases z : c = 0
    · subst z
      exact sw1 (by decide) (go _ rfl (fun q => absurd q.1 (Nat.lt_irrefl 0)))
    · refine sw0 (fun q => absurd ((nI_leN (b := 0) (by omega) (by decide)).mp q) (by omega)) ?_
      rw [show nI c - nI c / 6 * 6 = nI (c % 6) from (cell_div ⟨c, by omega⟩).2]
      by_cases z6 : c % 6 = 0
      · refine sw1 (by rw [z6]; decide) (pTake hn hA hp (by decide) (fun m => sw0 (by decide) (go _ ?_ (fun _ => m))) (fun m => sw1 rfl (hE c s (by omega) h1 (fun w => m (w ⟨by omega, z6⟩)))))
        unfold gB
        rw [if_pos ⟨by omega, z6⟩]
      · refine sw0 (fun q => z6 ((nI_inj (b := 0) (by omega) (by decide)).mp q)) (go _ ?_ (fun q => absurd q.2 z6))
        unfold gB
        rw [if_neg (fun w => z6 w.2)]
theorem mG17 {Q : Int32 → (Nat → Int32) → Int64 → Int32 → Int64 → Int64 → (Nat → Int64) → Int32 → Int32 → Int32 → (Nat → Int32) → Prop} {f f' v d : Nat → Int32} {um hm ty pl : Int32} {dug deep ro : Int64} {hs : Nat → Int64} {n : Nat} (h1 : ∀ i, i < 36 → gK f n i) (hv : ∀ i, i < 36 → v i = gV f n i) (h : ∀ a b c e, Q (nI (hl (dugP (ovr (gD_ f n) d 36))).length) (ovr (gD_ f n) d 36) (mR f n ro 36) 0 a b c e ty pl v) : ∀ k c, c + k = 36 → wX3_ground_17 Q um dug deep hs hm f' ty pl v (k + 1) (nI c) (ovr (gD_ f n) d c) (mR f n ro c) := by
  intro k
  induction k with
  | zero =>
    intro c hc
    have e : c = 36 := by omega
    subst e
    unfold wX3_ground_17
    exact sw1 (by decide) (pX3_look (pX3_findHoles (small_dugP _) (h _ _ _ _)))
  | succ k ih =>
    intro c hc
    unfold wX3_ground_17
    refine sw0 (fun q => absurd ((nI_leN (a := 36) (by decide) (by omega)).mp q) (by omega)) ⟨in_nI (by omega) (by decide), in_nI (by omega) (by decide), ?_⟩
    rw [clam_nI (by omega), hv c (by omega)]
    obtain ⟨x, hx, ex⟩ := gD_rng (h1 c (by omega)).2
    have w := ih (c + 1) (by omega)
    rw [← ovr_upd] at w
    have em : mR f n ro (c + 1) = (if gHb f n c = true then mR f n ro c ||| bit c else mR f n ro c &&& (bit c ^^^ (-1))) := rfl
    rw [em] at w
    have e100 : (100 : Int32) = nI 100 := rfl
    unfold gV
    by_cases q : gHb f n c = true
    · rw [if_pos q] at w ⊢
      have m : (100 + gD_ f n c : Int32) - (100 + gD_ f n c) / 100 * 100 = gD_ f n c := by
        rw [ex, e100, nI_add, nI_mod (by omega) (by decide) (by decide)]
        congr 1
        omega
      rw [m]
      refine sw0 ?_ ?_
      · rw [ex, e100, nI_add]
        intro z
        have := (nI_leN (b := 99) (by omega) (by decide)).mp z
        omega
      · unfold wX3_ground_50
        refine pX3_put (by omega) ?_
        rw [if_neg (by decide)]
        intro y ey
        rw [ey, nI_add1]
        exact w
    · rw [if_neg q] at w ⊢
      have m : (gD_ f n c : Int32) - (gD_ f n c) / 100 * 100 = gD_ f n c := by
        rw [ex, e100, nI_mod (by omega) (by decide) (by decide)]
        congr 1
        omega
      rw [m]
      refine sw1 ?_ ?_
      · rw [ex]
        exact (nI_leN (b := 99) (by omega) (by decide)).mpr (by omega)
      · unfold wX3_ground_50
        refine pX3_put (by omega) ?_
        rw [if_pos rfl]
        intro y ey
        rw [ey, nI_add1]
        exact w
theorem gS_le {f : Nat → Int32} {n c : Nat} (h1 : ∀ i, i < c → gK f n i) (h2 : gK1 f n c) : gS f n c ≤ n := nx_le (gB_le (gP_le c h1) h2)
theorem mGround {Q : Int32 → (Nat → Int32) → Int64 → Int32 → Int64 → Int64 → (Nat → Int64) → Int32 → Int32 → Int32 → (Nat → Int32) → Prop} {f f' d rd : Nat → Int32} {um hm pl : Int32} {dug deep ro : Int64} {hs : Nat → Int64} {n : Nat} (hn : n ≤ 160) (hT : okT f n) (hA : agree n f f') (hsm : small ro) (hE : ∀ c v a b e g, c < 36 → (∀ i, i < c → gK f n i) → ¬ gK1 f n c → Q ((-20) - nI (nx f n (gP f n c))) d ro um a b e g 0 (nI (nx f n (gP f n c))) v) (hF : ∀ c v a b e g, c < 36 → (∀ i, i < c → gK f n i) → gK1 f n c → ¬ gK2 f n c → Q ((-20) - nI (gS f n c)) d ro um a b e g 0 (nI (gS f n c)) v) (hX : ∀ v a b e g, (∀ i, i < 36 → gK f n i) → nx f n (gP f n 36) < n → Q ((-20) - nI (nx f n (gP f n 36))) d ro um a b e g 0 (nI (nx f n (gP f n 36))) v) (hS : ∀ v a b e g, (∀ i, i < 36 → gK f n i) → ¬ nx f n (gP f n 36) < n → Q (nI (hl (dugP (ovr (gD_ f n) d 36))).length) (ovr (gD_ f n) d 36) (gR f n 36) 0 a b e g 0 (nI (nx f n (gP f n 36))) v) : wX3_ground Q d ro um dug deep hs hm f' (nI n) pl rd := by
  unfold wX3_ground wX3_readGround
  have w := mG7 (Q := fun r_2 place_2 read__2 => (wX3_end (fun r_5 taped_5 place_5 => ((0 ≤ r_5 → (∃ fu : Nat, wX3_ground_17 Q um dug deep hs hm f' taped_5 place_5 read__2 fu 0 d ro)) ∧ (¬ 0 ≤ r_5 → (Q r_5 d ro um dug deep hs hm taped_5 place_5 read__2)))) f' (nI n) place_2 r_2)) hn hT hA
    (fun c v hc h1 h2 => mEnd0 hn hA (nx_le (gP_le c h1)) (nx_nx f n _) (sw0 (neg20 (Nat.le_trans (nx_le (gP_le c h1)) hn)) (hE c v _ _ _ _ hc h1 h2)))
    (fun c v hc h1 h2 h3 => mEnd0 hn hA (gS_le h1 h2) (nx_nx f n _) (sw0 (neg20 (Nat.le_trans (gS_le h1 h2) hn)) (hF c v _ _ _ _ hc h1 h2 h3)))
    (fun v h1 h2 => mEnd0 hn hA (nx_le (gP_le 36 h1)) (nx_nx f n _) (sw0 (neg20 (Nat.le_trans (nx_le (gP_le 36 h1)) hn)) (hX v _ _ _ _ h1 h2)))
    (fun v h1 h2 h3 => mEnd1 (sw1 (by decide) ⟨37, by
      have w := mG17 (Q := Q) (f := f) (f' := f') (v := v) (d := d) (um := um) (hm := hm) (ty := 0) (pl := nI (nx f n (gP f n 36))) (dug := dug) (deep := deep) (ro := ro) (hs := hs) h1 h3 (fun a b c e => by rw [mR_gR hsm]; exact hS v a b c e h1 h2) 36 0 rfl
      rw [ovr_0] at w
      exact w⟩)) 36 0 rd rfl (fun i hi => absurd hi (Nat.not_lt_zero i)) (fun i hi => absurd hi (Nat.not_lt_zero i))
  exact ⟨37, w⟩
theorem oGround_e {P : Int32 → Int32 → Int32 → (Nat → Int32) → Int64 → Int32 → (Nat → Int32) → Int64 → Int32 → Int32 → Int32 → Int32 → (Nat → Int32) → Int64 → Int32 → Int64 → Int64 → (Nat → Int64) → Int32 → Int32 → Int32 → (Nat → Int32) → Prop} {f f' gd d2 rd rd2 : Nat → Int32} {ro rro dug deep : Int64} {grt rrt umc um hm pl at_ : Int32} {hs : Nat → Int64} {n : Nat} (hn : n ≤ 160) (hT : okT f n) (hA : agree n f f') (hsm : small ro) (gD : okD gd) (hb : ∀ r x1 x2 x3 x4 y1 y2 y3 y4 y5 y6, P r 0 x1 gd ro grt x2 x3 x4 umc (nI 0) r d2 ro um y1 y2 y3 y4 0 y5 y6) (hs_ : ∀ r x1 x2 x3 x4 mc1 y1 y2 y3 y4 y5 y6 g1 g2 r1, okD g1 → agree 36 g1 g2 → small r1 → P r 0 x1 g1 r1 grt x2 x3 x4 mc1 0 r g2 r1 0 y1 y2 y3 y4 0 y5 y6) : wX0_ground_e (fun r a b c d e g1 h1 i1 j1 k1 => wX3_ground (fun r' a' b' c' d' e' f1 g' h' i' j' => P r a b c d e g1 h1 i1 j1 k1 r' a' b' c' d' e' f1 g' h' i' j') d2 ro um dug deep hs hm f' (nI n) pl rd2) (nI n) at_ gd ro grt rd rro rrt f umc (nI 0) := by
  unfold wX0_ground_e
  refine pX1_takes gD (fun rd1 hrd => ⟨37, ?_⟩)
  have w := cG26_e (Q := fun r a b c d e g1 h1 i1 j1 k1 => wX3_ground (fun r' a' b' c' d' e' f1 g' h' i' j' => P r a b c d e g1 h1 i1 j1 k1 r' a' b' c' d' e' f1 g' h' i' j') d2 ro um dug deep hs hm f' (nI n) pl rd2) (f := f) (gd := gd) (gro := ro) (grt := grt) (rrt := grt) (umc := umc) hn hT
    (fun c v1 v2 hc h1 h2 => mGround hn hT hA hsm (fun d v2 a b e g hd h3 h4 => by rw [first_one (p := gK f n) h1 (fun z => h2 z.1) h3 (fun z => h4 z.1)]; exact hb _ _ _ _ _ _ _ _ _ _ _) (fun d v2 a b e g hd h3 h4 h5 => absurd (show gK1 f n c by rw [← first_one (p := gK f n) h1 (fun z => h2 z.1) h3 (fun z => h5 z.2)]; exact h4) h2) (fun v2 a b e g h3 _ => absurd (h3 c hc).1 h2) (fun v2 a b e g h3 _ => absurd (h3 c hc).1 h2))
    (fun c v1 v2 hc h1 h2 h2b => mGround hn hT hA hsm (fun d v2 a b e g hd h3 h4 => absurd (show gK1 f n d by rw [first_one (p := gK f n) h1 (fun z => h2b z.2) h3 (fun z => h4 z.1)]; exact h2) h4) (fun d v2 a b e g hd h3 h4 h5 => by rw [first_one (p := gK f n) h1 (fun z => h2b z.2) h3 (fun z => h5 z.2)]; exact hb _ _ _ _ _ _ _ _ _ _ _) (fun v2 a b e g h3 _ => absurd (h3 c hc).2 h2b) (fun v2 a b e g h3 _ => absurd (h3 c hc).2 h2b))
    (fun v1 v2 h1 h2 => mGround hn hT hA hsm (fun d v2 a b e g hd h3 h4 => absurd (h1 d hd).1 h4) (fun d v2 a b e g hd h3 h4 h5 => absurd (h1 d hd).2 h5) (fun v2 a b e g h3 _ => hb _ _ _ _ _ _ _ _ _ _ _) (fun v2 a b e g h3 h4 => absurd h2 h4))
    (fun d' v1 mc1 h1 h2 h3 => mGround hn hT hA hsm (fun d v2 a b e g hd h4 h5 => absurd (h1 d hd).1 h5) (fun d v2 a b e g hd h4 h5 h6 => absurd (h1 d hd).2 h6) (fun v2 a b e g _ h4 => absurd h4 h2) (fun v2 a b e g _ _ => by
      have ag : agree 36 d' (ovr (gD_ f n) d2 36) := fun i hi => by
        unfold ovr
        rw [if_pos hi]
        exact h3 i hi
      rw [dugP_of ag]
      exact hs_ _ _ _ _ _ _ _ _ _ _ _ _ _ _ _ (fun i hi => by rw [h3 i hi]; exact gD_ok (h1 i hi).2) ag gR_small)) 36 0 rd1 rfl (fun i hi => absurd hi (Nat.not_lt_zero i)) (fun i hi => absurd hi (Nat.not_lt_zero i))
  exact w
theorem oGround_r {P : Int32 → Int32 → Int32 → (Nat → Int32) → Int64 → Int32 → (Nat → Int32) → Int64 → Int32 → Int32 → Int32 → (Nat → Option Nat) → Int32 → (Nat → Int32) → Int64 → Int32 → Int64 → Int64 → (Nat → Int64) → Int32 → Int32 → Int32 → (Nat → Int32) → Prop} {f f' gd d2 rd rd2 : Nat → Int32} {ro rro dug deep : Int64} {grt rrt umc um hm pl at_ : Int32} {hs : Nat → Int64} {uf : Nat → Option Nat} {n nz : Nat} (hnz : nz ≤ 10) (hn : n ≤ 160) (hT : okT f n) (hA : agree n f f') (hsm : small ro) (gD : okD gd) (hb : ∀ r x1 x2 x3 x4 y1 y2 y3 y4 y5 y6, P r 0 x1 gd ro grt x2 x3 x4 umc (nI nz) uf r d2 ro um y1 y2 y3 y4 0 y5 y6) (hs_ : ∀ r x1 x2 x3 x4 mc1 f1 y1 y2 y3 y4 y5 y6 g1 g2 r1, okD g1 → agree 36 g1 g2 → small r1 → (∀ j, f1 j = none ∨ f1 j = uf j) → P r 0 x1 g1 r1 grt x2 x3 x4 mc1 0 f1 r g2 r1 0 y1 y2 y3 y4 0 y5 y6) : wX0_ground_r (fun r a b c d e g1 h1 i1 j1 k1 l1 => wX3_ground (fun r' a' b' c' d' e' f1 g' h' i' j' => P r a b c d e g1 h1 i1 j1 k1 l1 r' a' b' c' d' e' f1 g' h' i' j') d2 ro um dug deep hs hm f' (nI n) pl rd2) (nI n) at_ gd ro grt rd rro rrt f umc (nI nz) uf := by
  unfold wX0_ground_r
  refine pX1_takes gD (fun rd1 hrd => ⟨37, ?_⟩)
  have w := cG26_r (Q := fun r a b c d e g1 h1 i1 j1 k1 l1 => wX3_ground (fun r' a' b' c' d' e' f1 g' h' i' j' => P r a b c d e g1 h1 i1 j1 k1 l1 r' a' b' c' d' e' f1 g' h' i' j') d2 ro um dug deep hs hm f' (nI n) pl rd2) (f := f) (gd := gd) (gro := ro) (grt := grt) (rrt := grt) (umc := umc) (uf := uf) hnz hn hT
    (fun c v1 v2 hc h1 h2 => mGround hn hT hA hsm (fun d v2 a b e g hd h3 h4 => by rw [first_one (p := gK f n) h1 (fun z => h2 z.1) h3 (fun z => h4 z.1)]; exact hb _ _ _ _ _ _ _ _ _ _ _) (fun d v2 a b e g hd h3 h4 h5 => absurd (show gK1 f n c by rw [← first_one (p := gK f n) h1 (fun z => h2 z.1) h3 (fun z => h5 z.2)]; exact h4) h2) (fun v2 a b e g h3 _ => absurd (h3 c hc).1 h2) (fun v2 a b e g h3 _ => absurd (h3 c hc).1 h2))
    (fun c v1 v2 hc h1 h2 h2b => mGround hn hT hA hsm (fun d v2 a b e g hd h3 h4 => absurd (show gK1 f n d by rw [first_one (p := gK f n) h1 (fun z => h2b z.2) h3 (fun z => h4 z.1)]; exact h2) h4) (fun d v2 a b e g hd h3 h4 h5 => by rw [first_one (p := gK f n) h1 (fun z => h2b z.2) h3 (fun z => h5 z.2)]; exact hb _ _ _ _ _ _ _ _ _ _ _) (fun v2 a b e g h3 _ => absurd (h3 c hc).2 h2b) (fun v2 a b e g h3 _ => absurd (h3 c hc).2 h2b))
    (fun v1 v2 h1 h2 => mGround hn hT hA hsm (fun d v2 a b e g hd h3 h4 => absurd (h1 d hd).1 h4) (fun d v2 a b e g hd h3 h4 h5 => absurd (h1 d hd).2 h5) (fun v2 a b e g h3 _ => hb _ _ _ _ _ _ _ _ _ _ _) (fun v2 a b e g h3 h4 => absurd h2 h4))
    (fun d' v1 mc1 f1 h1 h2 h3 hf1 => mGround hn hT hA hsm (fun d v2 a b e g hd h4 h5 => absurd (h1 d hd).1 h5) (fun d v2 a b e g hd h4 h5 h6 => absurd (h1 d hd).2 h6) (fun v2 a b e g _ h4 => absurd h4 h2) (fun v2 a b e g _ _ => by
      have ag : agree 36 d' (ovr (gD_ f n) d2 36) := fun i hi => by
        unfold ovr
        rw [if_pos hi]
        exact h3 i hi
      rw [dugP_of ag]
      exact hs_ _ _ _ _ _ _ _ _ _ _ _ _ _ _ _ _ (fun i hi => by rw [h3 i hi]; exact gD_ok (h1 i hi).2) ag gR_small hf1)) 36 0 rd1 rfl (fun i hi => absurd hi (Nat.not_lt_zero i)) (fun i hi => absurd hi (Nat.not_lt_zero i))
  exact w
