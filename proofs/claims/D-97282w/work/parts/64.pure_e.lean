/-! PURE 21: parts of owners, counts -/
theorem own_one {o : Nat → Int32} (ho : okO o) {i : Nat} (hi : i < 36) : (mem (ownP o (nI 0)) i).toNat + (mem (ownP o (nI 1)) i).toNat + (mem (ownP o (nI 2)) i).toNat + (mem (ownP o (nI 3)) i).toNat + (mem (ownP o (nI 4)) i).toNat = 1 := by
  obtain ⟨j, hj, e⟩ := nI_ofN (n := 4) (ho i hi).1 (ho i hi).2 (by decide)
  have hm : ∀ k, k ≤ 4 → mem (ownP o (nI k)) i = decide (j = k) := by
    intro k hk
    unfold ownP
    rw [mem_setOf _ 36 (by decide)]
    simp only [hi, decide_true, Bool.true_and]
    rw [e]
    have := nI_inj (a := j) (b := k) (by omega) (by omega)
    simp only [this]
  rw [hm 0 (by omega), hm 1 (by omega), hm 2 (by omega), hm 3 (by omega), hm 4 (by omega)]
  have : j = 0 ∨ j = 1 ∨ j = 2 ∨ j = 3 ∨ j = 4 := by omega
  rcases this with z | z | z | z | z <;> subst z <;> rfl
theorem pop_own {o : Nat → Int32} (ho : okO o) {x : Int64} (hs : small x) (n : Nat) : pop (x &&& ownP o (nI 0)) n + pop (x &&& ownP o (nI 1)) n + pop (x &&& ownP o (nI 2)) n + pop (x &&& ownP o (nI 3)) n + pop (x &&& ownP o (nI 4)) n = pop x n := by
  induction n with
  | zero => rfl
  | succ n ih =>
    rw [pop, pop, pop, pop, pop, pop, mem_and, mem_and, mem_and, mem_and, mem_and]
    cases hx : mem x n with
    | false => simp; omega
    | true =>
      have := own_one ho (mem36 hs hx)
      simp only [Bool.true_and, Bool.toNat_true]
      omega
def rimA (o : Nat → Int32) (x : Int64) : Nat := card (x &&& (ownP o 4 ^^^ (-1)))
theorem rimA_eq {o : Nat → Int32} (ho : okO o) {x : Int64} (hs : small x) : nI 0 + rimN o x 0 + rimN o x 1 + rimN o x 2 + rimN o x 3 = nI (rimA o x) := by
  unfold rimN rimA
  rw [nI_addN, nI_addN, nI_addN, nI_addN]
  congr 1
  have h1 := pop_own ho hs 64
  have h2 := card_minus x (ownP o (nI 4))
  unfold card at *
  have e4 : (4 : Int32) = nI 4 := rfl
  rw [e4]
  omega
/-- the part of an owner -/
def prtP (tax : Int32) (o : Nat → Int32) (h : Int64) (k : Nat) : Int32 := if rimA o (rimP h) = 0 then 0 else (tax * rimN o (rimP h) k) / nI (rimA o (rimP h))
theorem rimA_le (o : Nat → Int32) (x : Int64) : rimA o x ≤ 64 := card_le _
theorem pX0_partOf {Q : Int32 → Prop} {o : Nat → Int32} {ci : Nat} {h : Int64} {rate : Int32} {k : Nat} (ho : okO o) (hk : k < 4) (hq : Q (prtP (taxK ci h rate) o h k)) : wX0_partOf Q o ci h rate (nI k) := by
  unfold wX0_partOf
  refine pX0_rims ho ?_
  intro ar har
  have hn := rimA_eq ho (small_rim h)
  have hle := rimA_le o (rimP h)
  have z0 : ∀ n : Nat, n ≤ 64 → (nI n = 0 ↔ n = 0) := fun n hn => nI_inj (b := 0) (by omega) (by decide)
  refine ⟨5, ?_⟩
  -- four owners
  have step : ∀ n j x, j < 4 → wX0_partOf_12 Q (nI k) ci o h rate ar n (x + rimN o (rimP h) j) (nI (j + 1)) 1 5 → wX0_partOf_12 Q (nI k) ci o h rate ar (n + 1) x (nI j) 1 5 := by
    intro n j x hj hh
    unfold wX0_partOf_12
    refine ⟨fun q => absurd q (n4 hj), fun _ => ⟨in_nI (by omega) (by decide), ?_⟩⟩
    rw [clam_nI (by omega), har j (by omega)]
    intro a ha b hb
    subst ha hb
    rw [nI_add1]
    exact hh
  refine step 4 0 (nI 0) (by decide) (step 3 1 _ (by decide) (step 2 2 _ (by decide) (step 1 3 _ (by decide) ?_)))
  rw [hn]
  unfold wX0_partOf_12
  refine ⟨fun _ => ?_, fun q => absurd (by decide) q⟩
  refine pP_tax ⟨in_nI (by omega) (by decide), ?_⟩
  rw [clam_nI (by omega), har k (by omega)]
  unfold prtP at hq
  refine ⟨fun z => ⟨by decide, by decide, ?_⟩, fun z => ⟨z, ?_⟩⟩
  · rw [if_pos ((z0 _ hle).mp z)] at hq; exact hq
  · rw [if_neg (fun w => z ((z0 _ hle).mpr w))] at hq; exact hq
theorem pX3_partOf {Q : Int32 → Prop} {o : Nat → Int32} {h d deep roofs : Int64} {rate : Int32} {k : Nat} (hd : small d) (H : isHole h d) (hq : Q (prtP (taxK (kin deep roofs h) h rate) o h k)) : wX3_partOf Q o roofs rate d deep h (nI k) := by
  unfold wX3_partOf
  refine pX3_rimOf hd H ?_
  refine pX3_owned ?_
  refine pX3_ones ?_
  have hle := rimA_le o (rimP h)
  have z0 : nI (rimA o (rimP h)) = 0 ↔ rimA o (rimP h) = 0 := nI_inj (b := 0) (by omega) (by decide)
  have e : card (rimP h &&& (ownP o 4 ^^^ -1)) = rimA o (rimP h) := rfl
  rw [e]
  unfold prtP at hq
  refine ⟨fun z => ?_, fun z => ?_⟩
  · rw [if_pos (z0.mp z)] at hq; exact hq
  · rw [if_neg (fun w => z (z0.mpr w))] at hq
    refine pX3_taxOf (isHole_small hd H) ?_
    refine pX3_owned ?_
    exact pX3_ones ⟨z, hq⟩
theorem prtP_of {f g : Nat → Int32} (h : agree 36 f g) (tax : Int32) (x : Int64) (k : Nat) : prtP tax f x k = prtP tax g x k := by
  unfold prtP rimA rimN
  rw [ownP_of h, ownP_of h]
theorem oPart {P : Int32 → Int32 → Int64 → Int64 → Prop} {g g' o o' : Nat → Int32} {roofs dug deep : Int64} {rt x y : Int32} (hoo : okO o) (hg : agree 36 g g') (ho : agree 36 o o') (hp : ∀ v a b, P v v a b) : wX0_part (fun r => wX3_part (fun r' a b => P r r' a b) g' o' roofs rt dug deep x y) g roofs rt o x y := by
  have m : ∀ v, v = (if isC x ∧ 0 ≤ y ∧ y ≤ 3 then (if mem (dugP g') x.toNatClampNeg = true then prtP (taxK (kin (deepP g') roofs (comp (bit x.toNatClampNeg) (dugP g'))) (comp (bit x.toNatClampNeg) (dugP g')) rt) o' (comp (bit x.toNatClampNeg) (dugP g')) y.toNatClampNeg else -2) else -1) → wX3_part (fun r' a b => P v r' a b) g' o' roofs rt dug deep x y := by
    intro v hv
    unfold wX3_part
    refine pX3_isCell ⟨fun q => ?_, fun q => pX3_inI (lo := 0) (hi := 3) ⟨fun z => ?_, fun z => ?_⟩⟩
    · rw [if_neg (fun z => b2_0 q z.1)] at hv; rw [hv]; exact hp _ _ _
    · rw [if_neg (fun w => b2_0 z w.2)] at hv; rw [hv]; exact hp _ _ _
    · rw [if_pos ⟨b2_1 q, b2_1 z⟩] at hv
      obtain ⟨k, hk, e⟩ := isC_ex (b2_1 q)
      subst e
      obtain ⟨j, hj, e⟩ := nI_ofN (n := 3) (b2_1 z).1 (b2_1 z).2 (by decide)
      subst e
      rw [clam_nI (by omega), clam_nI (by omega)] at hv
      refine pX3_look ?_
      refine pX3_has (by omega) ⟨fun w => ?_, fun w => ?_⟩
      · rw [if_neg (b2_0 w)] at hv; rw [hv]; exact hp _ _ _
      · rw [if_pos (b2_1 w)] at hv
        refine pX3_holeAt (by omega) ?_
        refine pX3_partOf (small_dugP g') (comp_hole (b2_1 w)) ?_
        rw [hv]; exact hp _ _ _
  unfold wX0_part
  refine pX0_isCell ⟨fun q => m _ ?_, fun q => pX0_isOwner ⟨fun z => m _ ?_, fun z => ?_⟩⟩
  · rw [if_neg (fun z => b2_0 q z.1)]
  · rw [if_neg (fun w => b2_0 z w.2)]
  · obtain ⟨k, hk, e⟩ := isC_ex (b2_1 q)
    obtain ⟨j, hj, e'⟩ := nI_ofN (n := 3) (b2_1 z).1 (b2_1 z).2 (by decide)
    have hxy : isC x ∧ 0 ≤ y ∧ y ≤ 3 := ⟨b2_1 q, b2_1 z⟩
    subst e e'
    refine pX1_hole (by omega) (fun w => m _ ?_) (fun w => ?_)
    · rw [if_pos hxy, clam_nI (by omega), ← dugP_of hg, if_neg (by rw [w]; decide)]
    · refine pX0_partOf hoo (by omega) (m _ ?_)
      rw [if_pos hxy, clam_nI (by omega), clam_nI (by omega), ← dugP_of hg, ← deepP_of hg, if_pos w, prtP_of ho]
def payL (deep roofs : Int64) (rate : Int32) (o : Nat → Int32) (k : Nat) (L : List Int64) : Int32 := L.foldl (fun s x => s + prtP (taxK (kin deep roofs x) x rate) o x k) 0
theorem pays_22 {Q : Int32 → Prop} {g o : Nat → Int32} {roofs deep : Int64} {rate : Int32} {L : List Int64} {pk : Nat → Nat} {pm : Nat → Int64} {ow : Nat} (ho : okO o) (how : ow < 4) (hL : L.length ≤ 18) (hpk : ∀ (k : Nat) (h : k < L.length), pk k = kin deep roofs L[k]) (hpm : ∀ (k : Nat) (h : k < L.length), pm k = L[k]) : ∀ M k s kc ks, L.drop k = M → k ≤ L.length → kc ≤ 22 + 4 * k → ks ≤ 86 + 45 * k → Q (M.foldl (fun s x => s + prtP (taxK (kin deep roofs x) x rate) o x ow) s) → wX0_pays_22 Q (nI ow) roofs rate g o L.length pk pm rate (M.length + 1) s (nI k) kc ks := by
  intro M
  induction M with
  | nil =>
    intro k s kc ks hM hk _ _ hq
    have : L.length ≤ k := by simpa using hM
    have e : k = L.length := by omega
    subst e
    unfold wX0_pays_22
    exact ⟨fun _ => hq, fun h => absurd (Int32.le_refl _) h⟩
  | cons x M ih =>
    intro k s kc ks hM hk h1 h2 hq
    obtain ⟨hlt, hx, hM'⟩ := drop_at hM
    rw [List.length_cons]
    unfold wX0_pays_22
    refine ⟨fun h => absurd ((nI_leN (by omega) (by omega)).mp h) (by omega), fun _ => ⟨in_nI hlt (by omega), by omega, by omega, ?_⟩⟩
    rw [clam_nI (by omega), hpk k hlt, hpm k hlt, hx]
    refine pX0_partOf ho how ?_
    intro a ha b hb
    subst ha hb
    rw [nI_add1]
    exact ih (k + 1) _ _ _ hM' (by omega) (by omega) (by omega) hq
theorem mpays_26 {Q : Int32 → Int64 → Int64 → (Nat → Int64) → Int32 → Prop} {g o : Nat → Int32} {roofs d deep : Int64} {rate : Int32} {L : List Int64} {f : Nat → Int64} {ow : Nat} (hd : small d) (hL : L.length ≤ 18) (hH : ∀ x ∈ L, isHole x d) (hf : ∀ (k : Nat) (h : k < L.length), f k = L[k]) : ∀ M k s, L.drop k = M → k ≤ L.length → Q (M.foldl (fun s x => s + prtP (taxK (kin deep roofs x) x rate) o x ow) s) d deep f (nI L.length) → wX3_pays_26 Q (nI ow) g o roofs rate d deep f (nI L.length) (M.length + 1) s (nI k) := by
  intro M
  induction M with
  | nil =>
    intro k s hM hk hq
    have : L.length ≤ k := by simpa using hM
    have e : k = L.length := by omega
    subst e
    unfold wX3_pays_26
    exact ⟨fun _ => hq, fun h => absurd (Int32.le_refl _) h⟩
  | cons x M ih =>
    intro k s hM hk hq
    obtain ⟨hlt, hx, hM'⟩ := drop_at hM
    rw [List.length_cons]
    unfold wX3_pays_26
    refine ⟨fun h => absurd ((nI_leN (by omega) (by omega)).mp h) (by omega), fun _ => ⟨in_nI (by omega) (by decide), ?_⟩⟩
    rw [clam_nI (by omega), hf k hlt, hx]
    refine pX3_partOf hd (hH x (by rw [← hx]; exact List.getElem_mem _)) ?_
    intro a ha b hb
    subst ha hb
    rw [nI_add1]
    exact ih (k + 1) _ hM' (by omega) hq
theorem payL_of {f g : Nat → Int32} (h : agree 36 f g) (deep roofs : Int64) (rate : Int32) (k : Nat) (L : List Int64) : payL deep roofs rate f k L = payL deep roofs rate g k L := by
  unfold payL
  have : (fun (s : Int32) (x : Int64) => s + prtP (taxK (kin deep roofs x) x rate) f x k) = (fun s x => s + prtP (taxK (kin deep roofs x) x rate) g x k) := by
    funext s x; rw [prtP_of h]
  rw [this]
theorem oPays {P : Int32 → Int32 → Int64 → Int64 → (Nat → Int64) → Int32 → Prop} {g g' o o' : Nat → Int32} {roofs dug deep : Int64} {rt y hm : Int32} {hs : Nat → Int64} (hoo : okO o) (hg : agree 36 g g') (ho : agree 36 o o') (hp : ∀ v a b c d, P v v a b c d) : wX0_pays (fun r => wX3_pays (fun r' a b c d => P r r' a b c d) g' o' roofs rt dug deep hs hm y) g roofs rt o y := by
  have m : ∀ v, v = (if 0 ≤ y ∧ y ≤ 3 then payL (deepP g') roofs rt o' y.toNatClampNeg (hl (dugP g')) else -1) → wX3_pays (fun r' a b c d => P v r' a b c d) g' o' roofs rt dug deep hs hm y := by
    intro v hv
    unfold wX3_pays
    refine pX3_inI (lo := 0) (hi := 3) ⟨fun z => ?_, fun z => ?_⟩
    · rw [if_neg (b2_0 z)] at hv; rw [hv]; exact hp _ _ _ _ _
    · rw [if_pos (b2_1 z)] at hv
      obtain ⟨j, hj, e⟩ := nI_ofN (n := 3) (b2_1 z).1 (b2_1 z).2 (by decide)
      subst e
      rw [clam_nI (by omega)] at hv
      have hd := small_dugP g'
      refine pX3_look ?_
      refine pX3_findHoles hd ?_
      refine ⟨_, mpays_26 hd (hl_18 hd) (fun x hx => hl_isHole hd hx) (fun k h => over_at h) _ 0 0 rfl (Nat.zero_le _) ?_⟩
      rw [hv]; exact hp _ _ _ _ _
  unfold wX0_pays
  refine pX0_isOwner ⟨fun z => m _ ?_, fun z => ?_⟩
  · rw [if_neg (b2_0 z)]
  · have hy := b2_1 z
    obtain ⟨j, hj, e⟩ := nI_ofN (n := 3) hy.1 hy.2 (by decide)
    subst e
    have hd := small_dugP g
    refine pX1_holes ?_
    refine ⟨_, pays_22 (deep := deepP g) hoo (by omega) (hl_18 hd) (fun k h => by rw [over_at (by simpa using h)]; simp) (fun k h => over_at h) _ 0 0 _ _ rfl (Nat.zero_le _) (by omega) (by omega) (m _ ?_)⟩
    rw [if_pos hy, clam_nI (by omega), ← dugP_of hg, ← deepP_of hg, ← payL_of ho]
    rfl
/-- counts -/
def sumF (g : Nat → Int32) : Nat → Nat → Int32 → Int32
  | 0, _, s => s
  | n + 1, k, s => sumF g n (k + 1) (s + g k)
theorem sumF_of {f g : Nat → Int32} (h : agree 36 f g) : ∀ n k s, k + n ≤ 36 → sumF f n k s = sumF g n k s := by
  intro n
  induction n with
  | zero => intro k s _; rfl
  | succ n ih => intro k s hk; rw [sumF, sumF, h k (by omega), ih _ _ (by omega)]
def cntP (g : Nat → Int32) (roofs : Int64) (rate u x : Int32) : Int32 := if x = 0 then nI (hl (dugP g)).length else if x = 1 then nI (card (dugP g)) else if x = 2 then taxAll (dugP g) (deepP g) roofs rate else if x = 3 then u else if x = 4 then rate else if x = 5 then nI (card roofs) else if x = 6 then sumF g 36 0 0 else -1
theorem count_105 {Q : Int32 → Prop} {g : Nat → Int32} {roofs : Int64} {rate u : Int32} : ∀ n k s kc ks, k + n = 36 → Q (sumF g n k s) → wX0_count_105 Q roofs rate g u (n + 1) s (nI k) kc ks := by
  intro n
  induction n with
  | zero =>
    intro k s kc ks hk hq
    unfold wX0_count_105
    have e : k = 36 := by omega
    subst e
    exact ⟨fun _ => hq, fun h => absurd (by decide) h⟩
  | succ n ih =>
    intro k s kc ks hk hq
    unfold wX0_count_105
    refine ⟨fun h => absurd h (n36 (by omega)), fun _ => ⟨in_nI (by omega) (by decide), ?_⟩⟩
    rw [clam_nI (by omega)]
    intro a ha b hb
    subst ha hb
    rw [nI_add1]
    exact ih (k + 1) _ _ _ (by omega) hq
theorem cCount {Q : Int32 → Prop} {g : Nat → Int32} {roofs : Int64} {rate u x : Int32} (h : Q (cntP g roofs rate u x)) : wX0_count Q g roofs rate u x := by
  unfold cntP at h
  unfold wX0_count
  refine ⟨fun a => ?_, fun a => ⟨fun b => ?_, fun b => ⟨fun c => ?_, fun c => ⟨fun d => ?_, fun d => ⟨fun e => ?_, fun e => ⟨fun f => ?_, fun f => ⟨fun i => ?_, fun i => ?_⟩⟩⟩⟩⟩⟩⟩
  · rw [if_pos a] at h; exact pX1_dug (pX0_pieces h)
  · rw [if_neg a, if_pos b] at h; exact pX1_dug (pX0_size h)
  · rw [if_neg a, if_neg b, if_pos c] at h; exact pX1_tax h
  · rw [if_neg a, if_neg b, if_neg c, if_pos d] at h; exact h
  · rw [if_neg a, if_neg b, if_neg c, if_neg d, if_pos e] at h; exact h
  · rw [if_neg a, if_neg b, if_neg c, if_neg d, if_neg e, if_pos f] at h; exact pX0_size h
  · rw [if_neg a, if_neg b, if_neg c, if_neg d, if_neg e, if_neg f, if_pos i] at h; exact ⟨37, count_105 36 0 0 _ _ rfl h⟩
  · rw [if_neg a, if_neg b, if_neg c, if_neg d, if_neg e, if_neg f, if_neg i] at h; exact h
theorem mcount_8 {Q : Int32 → Int64 → Int64 → (Nat → Int64) → Int32 → Prop} {g : Nat → Int32} {roofs : Int64} {rate u x hm : Int32} {hs : Nat → Int64} : ∀ n k s, k + n = 36 → (∀ c d, Q (if x = 6 then sumF g n k s else cntP g roofs rate u x) (dugP g) (deepP g) c d) → wX3_count_8 Q x g roofs rate u (dugP g) (deepP g) hs hm (n + 1) s (nI k) := by
  have hd := small_dugP g
  intro n
  induction n with
  | zero =>
    intro k s hk h
    unfold wX3_count_8
    have e : k = 36 := by omega
    subst e
    refine ⟨fun _ => ?_, fun h => absurd (by decide) h⟩
    refine pX3_findHoles hd ?_
    unfold cntP at h
    refine ⟨fun a => ?_, fun a => ⟨fun b => ?_, fun b => ⟨fun c => ?_, fun c => ⟨fun d => ?_, fun d => ⟨fun e => ?_, fun e => ⟨fun f => ?_, fun f => ⟨fun i => ?_, fun i => ?_⟩⟩⟩⟩⟩⟩⟩
    · rw [if_neg (by rw [a]; decide), if_pos a] at h; exact h _ _
    · rw [if_neg (by rw [b]; decide), if_neg a, if_pos b] at h; exact pX3_ones (h _ _)
    · rw [if_neg (by rw [c]; decide), if_neg a, if_neg b, if_pos c] at h; exact pX3_taxOfAll hd (h _ _)
    · rw [if_neg (by rw [d]; decide), if_neg a, if_neg b, if_neg c, if_pos d] at h; exact h _ _
    · rw [if_neg (by rw [e]; decide), if_neg a, if_neg b, if_neg c, if_neg d, if_pos e] at h; exact h _ _
    · rw [if_neg (by rw [f]; decide), if_neg a, if_neg b, if_neg c, if_neg d, if_neg e, if_pos f] at h; exact pX3_ones (h _ _)
    · rw [if_pos i] at h; exact h _ _
    · rw [if_neg i, if_neg a, if_neg b, if_neg c, if_neg d, if_neg e, if_neg f, if_neg i] at h; exact h _ _
  | succ n ih =>
    intro k s hk h
    unfold wX3_count_8
    refine ⟨fun h => absurd h (n36 (by omega)), fun _ => ⟨in_nI (by omega) (by decide), ?_⟩⟩
    rw [clam_nI (by omega)]
    intro a ha b hb
    subst ha hb
    rw [nI_add1]
    exact ih (k + 1) _ (by omega) h
theorem oCount {P : Int32 → Int32 → Int64 → Int64 → (Nat → Int64) → Int32 → Prop} {g g' : Nat → Int32} {roofs dug deep : Int64} {rt u x hm : Int32} {hs : Nat → Int64} (hg : agree 36 g g') (hp : ∀ v a b c d, P v v a b c d) : wX0_count (fun r => wX3_count (fun r' a b c d => P r r' a b c d) g' roofs rt u dug deep hs hm x) g roofs rt u x := by
  refine cCount ?_
  unfold wX3_count
  refine pX3_look ⟨37, mcount_8 36 0 0 rfl ?_⟩
  intro c d
  have e : (if x = 6 then sumF g' 36 0 0 else cntP g' roofs rt u x) = cntP g roofs rt u x := by
    unfold cntP
    rw [dugP_of hg, deepP_of hg, sumF_of hg 36 0 0 (by omega)]
    by_cases z : x = 6
    · subst z; simp
    · rw [if_neg z]
  rw [e]; exact hp _ _ _ _ _
/-! PURE 22: repairs: dig, fill, roof, undo -/
def noteR (d z : Int32) (u u' : Nat → Int32) (n c : Nat) : Prop := u' (3 * (if n = 10 then 9 else n)) = nI c ∧ u' (3 * (if n = 10 then 9 else n) + 1) = d ∧ u' (3 * (if n = 10 then 9 else n) + 2) = z ∧ ∀ j, j < 3 * (if n = 10 then 9 else n) → u' j = if n = 10 then u (j + 3) else u j
theorem note_47 {Q : (Nat → Int32) → Int32 → Prop} {g v : Nat → Int32} {roofs : Int64} {b c : Nat} (hb : b ≤ 9) (hc : c < 36) (h : Q (upd (upd (upd v (3 * b) (nI c)) (3 * b + 1) (g c)) (3 * b + 2) (b2 (mem roofs c = true))) (nI (b + 1))) : wX3_note_47 Q (nI c) g roofs v (nI b) := by
  unfold wX3_note_47 wX3_note_106
  have e3 : (3 : Int32) * nI b = nI (3 * b) := by rw [show (3 : Int32) = nI 3 from rfl, nI_mulN]
  have e2 : nI (3 * b) + 2 = nI (3 * b + 2) := by rw [show (2 : Int32) = nI 2 from rfl, nI_addN]
  rw [e3, e2, nI_add1, clam_nI (by omega), clam_nI (by omega), clam_nI (by omega), clam_nI (by omega)]
  refine ⟨in_nI (by omega) (by decide), ?_⟩
  intro a ha
  refine ⟨in_nI hc (by decide), in_nI (by omega) (by decide), ?_⟩
  intro a' ha'
  subst ha ha'
  refine pX3_has (by omega) ⟨fun q => ⟨in_nI (by omega) (by decide), ?_⟩, fun q => ⟨in_nI (by omega) (by decide), ?_⟩⟩
  · intro a ha b' hb'
    subst ha hb'
    rw [nI_add1]
    rw [b2_f (b2_0 q)] at h; exact h
  · intro a ha b' hb'
    subst ha hb'
    rw [nI_add1]
    rw [b2_t (b2_1 q)] at h; exact h
theorem noteR_of {d z : Int32} {u v : Nat → Int32} {n c : Nat} (hv : ∀ j, j < 3 * (if n = 10 then 9 else n) → v j = if n = 10 then u (j + 3) else u j) : noteR d z u (upd (upd (upd v (3 * (if n = 10 then 9 else n)) (nI c)) (3 * (if n = 10 then 9 else n) + 1) d) (3 * (if n = 10 then 9 else n) + 2) z) n c := by
  unfold noteR
  generalize (if n = 10 then 9 else n) = b at hv ⊢
  refine ⟨?_, ?_, ?_, fun j hj => ?_⟩
  · unfold upd; rw [if_neg (by omega), if_neg (by omega), if_pos rfl]
  · unfold upd; rw [if_neg (by omega), if_pos rfl]
  · unfold upd; rw [if_pos rfl]
  · unfold upd; rw [if_neg (by omega), if_neg (by omega), if_neg (by omega)]; exact hv j hj
theorem note_11 {Q : (Nat → Int32) → Int32 → Prop} {g u : Nat → Int32} {roofs : Int64} {c : Nat} (hc : c < 36) (h : ∀ u', noteR (g c) (b2 (mem roofs c = true)) u u' 10 c → Q u' (nI 10)) : ∀ t k v, k + t = 27 → (∀ j, j < k → v j = u (j + 3)) → (∀ j, k ≤ j → v j = u j) → wX3_note_11 Q (nI c) g roofs (nI 10) (t + 1) (nI k) v := by
  intro t
  induction t with
  | zero =>
    intro k v hk h1 h2
    have e : k = 27 := by omega
    subst e
    unfold wX3_note_11
    refine ⟨fun _ => ?_, fun q => absurd (by decide) q⟩
    intro a ha
    have ea : a = nI 9 := by rw [ha]; decide
    subst ea
    refine note_47 (by omega) hc ?_
    exact h _ (noteR_of (n := 10) (fun j hj => by rw [if_pos rfl]; exact h1 j (by simpa using hj)))
  | succ t ih =>
    intro k v hk h1 h2
    unfold wX3_note_11
    have e3 : nI k + 3 = nI (k + 3) := by rw [show (3 : Int32) = nI 3 from rfl, nI_addN]
    rw [e3, clam_nI (by omega), clam_nI (by omega)]
    refine ⟨fun q => absurd ((nI_leN (a := 27) (by decide) (by omega)).mp q) (by omega), fun _ => ⟨in_nI (by omega) (by decide), in_nI (by omega) (by decide), ?_⟩⟩
    intro a ha b hb
    subst ha hb
    rw [nI_add1]
    refine ih (k + 1) _ (by omega) (fun j hj => ?_) (fun j hj => ?_)
    · unfold upd
      by_cases e : j = k
      · rw [if_pos e, h2 (k + 3) (by omega), e]
      · rw [if_neg e]; exact h1 j (by omega)
    · unfold upd; rw [if_neg (by omega)]; exact h2 j (by omega)
theorem pX3_note {Q : (Nat → Int32) → Int32 → Prop} {g u : Nat → Int32} {roofs : Int64} {n c : Nat} (hn : n ≤ 10) (hc : c < 36) (h : ∀ u', noteR (g c) (b2 (mem roofs c = true)) u u' n c → Q u' (nI (if n = 10 then 10 else n + 1))) : wX3_note Q g roofs u (nI n) (nI c) := by
  unfold wX3_note
  refine ⟨fun q => ?_, fun q => ?_⟩
  · have e : n = 10 := (nI_inj (b := 10) (by omega) (by decide)).mp q
    subst e
    exact ⟨28, note_11 hc h 27 0 u rfl (fun j hj => by omega) (fun _ _ => rfl)⟩
  · have e : n ≠ 10 := fun z => q (by rw [z]; rfl)
    rw [if_neg e] at h
    have := note_47 (Q := Q) (g := g) (v := u) (roofs := roofs) (b := n) (c := c) (by omega) hc ?_
    · exact this
    · refine h _ ?_
      have := noteR_of (d := g c) (z := b2 (mem roofs c = true)) (u := u) (v := u) (n := n) (c := c) (fun j _ => by rw [if_neg e])
      rw [if_neg e] at this
      exact this
theorem pX4_init {Q : Int32 → Int32 → Int32 → Prop} {g : Nat → Int32} {roofs : Int64} {a b d : Int32} {c : Nat} (hc : c < 36) (h : Q (nI c) (g c) (b2 (mem roofs c = true))) : wX4_init Q g roofs a b d (nI c) := by
  unfold wX4_init
  refine ⟨in_nI hc (by decide), ?_⟩
  rw [clam_nI (by omega)]
  intro z hz
  subst hz
  exact pX0_has (by omega) ⟨b2_bz _, h⟩
theorem kept_e {Q : Int32 → Prop} {mc : Int32} (h : Q (nI 1)) : wX4_kept_e Q mc (nI 0) := by
  unfold wX4_kept_e wJ2_size wJ2_add_e wJ2_add_2_e wJ2_grow_e wJ2_grow_2_e
  refine ⟨fun q => absurd q (by decide), fun _ => ?_⟩
  intro a ha
  refine ⟨fun _ => ?_, fun q => absurd rfl q⟩
  exact ⟨fun q => absurd q (by decide), fun _ => ⟨by decide, in_nI (k := 0) (by decide) (by decide), fun z hz => by subst hz; exact h⟩⟩
theorem kept_add {Q : Int32 → Prop} {mc : Int32} {f : Nat → Option Nat} {n : Nat} (hn : n < 10) (h : Q (nI (n + 1))) : wJ2_add_r (fun _ s => Q s) mc (nI n) 10 f := by
  unfold wJ2_add_r wJ2_add_2_r
  intro a ha
  refine ⟨fun q => absurd ((nI_inj (a := n) (b := 10) (by omega) (by decide)).mp q) (by omega), fun _ => ⟨in_nI hn (by decide), ?_⟩⟩
  intro z hz
  subst hz
  rw [nI_add1]; exact h
theorem kept_r {Q : Int32 → Prop} {mc : Int32} {f : Nat → Option Nat} {n : Nat} (hn : n < 10) (h : Q (nI (n + 1))) : wX4_kept_r Q mc (nI n) f := by
  unfold wX4_kept_r wJ2_size
  exact ⟨fun q => absurd ((nI_inj (b := 10) (by omega) (by decide)).mp q) (by omega), fun _ => kept_add hn h⟩
theorem kept_t {Q : Int32 → Prop} {mc : Int32} {f : Nat → Option Nat} (hf : (f 0).isSome = true) (h : Q (nI 10)) : wX4_kept_t Q mc (nI 10) f := by
  unfold wX4_kept_t wJ2_size wJ2_remove_t
  exact ⟨fun _ => ⟨rfl, rfl, rfl, hf, fun mc1 => kept_add (n := 9) (by decide) h⟩, fun q => absurd rfl q⟩
/-- what is told of a cell: it may be dug, filled, roofed -/
theorem bec_bit (d : Nat → Int32) {k : Nat} (hk : k < 36) (v : Int32) : bec d (bit k) v = upd d k v := by
  funext j
  unfold bec upd
  rw [mem_bit (by omega)]
  simp
theorem pX3_put {Q : (Nat → Int32) → Int64 → Prop} {d : Nat → Int32} {roofs : Int64} {k : Nat} {v z : Int32} (hk : k < 36) (h : Q (upd d k v) (if z = 0 then roofs &&& (bit k ^^^ (-1)) else roofs ||| bit k)) : wX3_put Q d roofs (nI k) v z := by
  unfold wX3_put
  refine ⟨in_nI hk (by decide), ?_⟩
  rw [clam_nI (by omega), bit_nI (by omega)]
  intro a ha
  subst ha
  refine ⟨fun q => ?_, fun q => ?_⟩
  · intro b hb; subst hb; rw [if_pos q] at h; exact h
  · intro b hb; subst hb; rw [if_neg q] at h; exact h
abbrev KQ := (Int32 → Prop) → Prop
/-- dig, whatever the list does -/
def digG (K : KQ) (Q : Int32 → (Nat → Int32) → Int32 → Int32 → Int32 → Int32 → Prop) (gd : Nat → Int32) (gro : Int64) (x1 : Int32) : Prop := (wX0_isCell (fun r_1 => ((r_1 = 0 → False) ∧ (¬ r_1 = 0 → (vp_in x1 36 ∧ (((gd (x1 : Int32).toNatClampNeg) = 9 → False) ∧ (¬ (gd (x1 : Int32).toNatClampNeg) = 9 → (wX4_init (fun rcell1_32 rdep1_32 rrf1_32 => (K (fun usz1_35 => (vp_in x1 36 ∧ (vp_in x1 36 ∧ (∀ gd_51 : Nat → Int32, gd_51 = upd gd (x1 : Int32).toNatClampNeg (vp_nar .byte ((((gd (x1 : Int32).toNatClampNeg) + 1) : Int32).toInt8.toInt32)) → (vp_in x1 36 ∧ (Q (gd_51 (x1 : Int32).toNatClampNeg) gd_51 usz1_35 rcell1_32 rdep1_32 rrf1_32)))))))) gd gro 0 0 0 x1))))))) x1)
theorem digG_ok {K : KQ} {n1 : Int32} (hK : ∀ Q' : Int32 → Prop, Q' n1 → K Q') {Q : Int32 → (Nat → Int32) → Int32 → Int32 → Int32 → Int32 → Prop} {g : Nat → Int32} {gro : Int64} {c : Nat} (hg : okD g) (hc : c < 36) (h9 : ¬ g c = 9) (h : Q (g c + 1) (upd g c (g c + 1)) n1 (nI c) (g c) (b2 (mem gro c = true))) : digG K Q g gro (nI c) := by
  unfold digG
  refine pX0_isCell ⟨fun q => absurd (isC_nI hc) (b2_0 q), fun _ => ⟨in_nI hc (by decide), ?_⟩⟩
  rw [clam_nI (by omega)]
  refine ⟨fun q => absurd q h9, fun _ => ?_⟩
  refine pX4_init hc (hK _ ⟨in_nI hc (by decide), in_nI hc (by decide), ?_⟩)
  intro a ha
  refine ⟨in_nI hc (by decide), ?_⟩
  obtain ⟨j, hj, e⟩ := nI_ofN (n := 9) (hg c hc).1 (hg c hc).2 (by decide)
  have hb := byteRoom (x := g c + 1) (by rw [e, nI_add1]; exact pos_nI _ (by omega)) (by rw [e, nI_add1]; exact (nI_leN (b := 127) (by omega) (by decide)).mpr (by omega))
  rw [hb.1] at ha
  subst ha
  have eu : upd g c (g c + 1) c = g c + 1 := by unfold upd; rw [if_pos rfl]
  rw [eu]
  exact h
theorem mDig {Q : Int32 → (Nat → Int32) → (Nat → Int32) → Int32 → Prop} {g u : Nat → Int32} {roofs : Int64} {n c : Nat} (hn : n ≤ 10) (hc : c < 36) (h9 : ¬ g c = 9) (h : ∀ u', noteR (g c) (b2 (mem roofs c = true)) u u' n c → Q (g c + 1) (upd g c (g c + 1)) u' (nI (if n = 10 then 10 else n + 1))) : wX3_dig Q g roofs u (nI n) (nI c) := by
  unfold wX3_dig
  refine pX3_isCell ⟨fun q => absurd (isC_nI hc) (b2_0 q), fun _ => ⟨in_nI hc (by decide), ?_⟩⟩
  rw [clam_nI (by omega)]
  refine ⟨fun q => absurd q h9, fun _ => ?_⟩
  refine pX3_note hn hc ?_
  intro u' hu
  refine ⟨in_nI hc (by decide), in_nI hc (by decide), ?_⟩
  intro a ha
  subst ha
  refine ⟨in_nI hc (by decide), ?_⟩
  have eu : upd g c (g c + 1) c = g c + 1 := by unfold upd; rw [if_pos rfl]
  rw [eu]
  exact h u' hu
/-- it isn't dug -/
theorem oDig_n {P : Int32 → Int32 → (Nat → Int32) → (Nat → Int32) → Int32 → Prop} {g g' u : Nat → Int32} {roofs : Int64} {um x : Int32} (hg : agree 36 g g') (hx : isC x → g x.toNatClampNeg = 9) (hp : ∀ v, P v v g' u um) : wX0_dig_n (fun r => wX3_dig (fun r' a b c => P r r' a b c) g' roofs u um x) g x := by
  have m : ∀ v, v = (if isC x then -3 else -1) → wX3_dig (fun r' a b c => P v r' a b c) g' roofs u um x := by
    intro v hv
    unfold wX3_dig
    refine pX3_isCell ⟨fun q => ?_, fun q => ?_⟩
    · rw [if_neg (b2_0 q)] at hv; rw [hv]; exact hp _
    · rw [if_pos (b2_1 q)] at hv
      have h9 := hx (b2_1 q)
      obtain ⟨k, hk, e⟩ := isC_ex (b2_1 q)
      subst e
      rw [clam_nI (by omega)] at h9 ⊢
      refine ⟨in_nI hk (by decide), fun _ => by rw [hv]; exact hp _, fun z => absurd (by rw [← hg k hk]; exact h9) z⟩
  unfold wX0_dig_n
  refine pX0_isCell ⟨fun q => m _ (by rw [if_neg (b2_0 q)]), fun q => ?_⟩
  have h9 := hx (b2_1 q)
  have hC := b2_1 q
  obtain ⟨k, hk, e⟩ := isC_ex hC
  subst e
  exact ⟨in_nI hk (by decide), fun _ => m _ (by rw [if_pos hC]), fun z => absurd h9 z⟩
/-- it is: any list -/
theorem oDig {K : KQ} {n1 : Int32} (hK : ∀ Q' : Int32 → Prop, Q' n1 → K Q') {P : Int32 → (Nat → Int32) → Int32 → Int32 → Int32 → Int32 → Int32 → (Nat → Int32) → (Nat → Int32) → Int32 → Prop} {g g' u : Nat → Int32} {roofs : Int64} {n c : Nat} (hd : okD g) (hg : agree 36 g g') (hn : n ≤ 10) (hc : c < 36) (h9 : ¬ g c = 9)
    (hp : ∀ u', noteR (g c) (b2 (mem roofs c = true)) u u' n c → P (g c + 1) (upd g c (g c + 1)) n1 (nI c) (g c) (b2 (mem roofs c = true)) (g c + 1) (upd g' c (g c + 1)) u' (nI (if n = 10 then 10 else n + 1))) :
    digG K (fun r a b d e f => wX3_dig (fun r' a' b' c' => P r a b d e f r' a' b' c') g' roofs u (nI n) (nI c)) g roofs (nI c) := by
  refine digG_ok hK hd hc h9 ?_
  refine mDig hn hc (by rw [← hg c hc]; exact h9) ?_
  rw [← hg c hc]
  exact hp
theorem dig_e_is (Q : Int32 → (Nat → Int32) → Int32 → Int32 → Int32 → Int32 → Prop) (g : Nat → Int32) (gro : Int64) (mc sz x : Int32) : wX0_dig_e Q g gro mc sz x = digG (fun Q' => wX4_kept_e Q' mc sz) Q g gro x := rfl
theorem dig_r_is (Q : Int32 → (Nat → Int32) → Int32 → Int32 → Int32 → Int32 → Prop) (g : Nat → Int32) (gro : Int64) (mc sz : Int32) (f : Nat → Option Nat) (x : Int32) : wX0_dig_r Q g gro mc sz f x = digG (fun Q' => wX4_kept_r Q' mc sz f) Q g gro x := rfl
theorem dig_t_is (Q : Int32 → (Nat → Int32) → Int32 → Int32 → Int32 → Int32 → Prop) (g : Nat → Int32) (gro : Int64) (mc sz : Int32) (f : Nat → Option Nat) (x : Int32) : wX0_dig_t Q g gro mc sz f x = digG (fun Q' => wX4_kept_t Q' mc sz f) Q g gro x := rfl
/-- fill -/
def fillG (K : KQ) (Q : Int32 → (Nat → Int32) → Int64 → Int32 → Int32 → Int32 → Int32 → Prop) (gd : Nat → Int32) (gro : Int64) (x1 : Int32) : Prop := (wX0_isCell (fun r_1 => ((r_1 = 0 → False) ∧ (¬ r_1 = 0 → (vp_in x1 36 ∧ (∀ x2_18 : Int32, x2_18 = (gd (x1 : Int32).toNatClampNeg) → ((x2_18 = 0 → False) ∧ (¬ x2_18 = 0 → (wX4_init (fun rcell1_32 rdep1_32 rrf1_32 => (K (fun usz1_35 => (wX1_becomes (fun gd_46 gro_46 => (Q x2_18 gd_46 gro_46 usz1_35 rcell1_32 rdep1_32 rrf1_32)) gd gro (1 <<< ((x1 : Int32).toInt64 &&& 63)) 0)))) gd gro 0 0 0 x1)))))))) x1)
theorem fill_e_is (Q : Int32 → (Nat → Int32) → Int64 → Int32 → Int32 → Int32 → Int32 → Prop) (g : Nat → Int32) (gro : Int64) (mc sz x : Int32) : wX0_fill_e Q g gro mc sz x = fillG (fun Q' => wX4_kept_e Q' mc sz) Q g gro x := rfl
theorem fill_r_is (Q : Int32 → (Nat → Int32) → Int64 → Int32 → Int32 → Int32 → Int32 → Prop) (g : Nat → Int32) (gro : Int64) (mc sz : Int32) (f : Nat → Option Nat) (x : Int32) : wX0_fill_r Q g gro mc sz f x = fillG (fun Q' => wX4_kept_r Q' mc sz f) Q g gro x := rfl
theorem fill_t_is (Q : Int32 → (Nat → Int32) → Int64 → Int32 → Int32 → Int32 → Int32 → Prop) (g : Nat → Int32) (gro : Int64) (mc sz : Int32) (f : Nat → Option Nat) (x : Int32) : wX0_fill_t Q g gro mc sz f x = fillG (fun Q' => wX4_kept_t Q' mc sz f) Q g gro x := rfl
theorem oFill {K : KQ} {n1 : Int32} (hK : ∀ Q' : Int32 → Prop, Q' n1 → K Q') {P : Int32 → (Nat → Int32) → Int64 → Int32 → Int32 → Int32 → Int32 → Int32 → (Nat → Int32) → Int64 → (Nat → Int32) → Int32 → Prop} {g g' u : Nat → Int32} {roofs : Int64} {n c : Nat} (hg : agree 36 g g') (hn : n ≤ 10) (hc : c < 36) (h0 : ¬ g c = 0)
    (hp : ∀ u', noteR (g c) (b2 (mem roofs c = true)) u u' n c → P (g c) (upd g c 0) (roofs &&& (bit c ^^^ (-1))) n1 (nI c) (g c) (b2 (mem roofs c = true)) (g c) (upd g' c 0) (roofs &&& (bit c ^^^ (-1))) u' (nI (if n = 10 then 10 else n + 1))) :
    fillG K (fun r a z b d e f => wX3_fill (fun r' a' z' b' c' => P r a z b d e f r' a' z' b' c') g' roofs u (nI n) (nI c)) g roofs (nI c) := by
  unfold fillG
  refine pX0_isCell ⟨fun q => absurd (isC_nI hc) (b2_0 q), fun _ => ⟨in_nI hc (by decide), ?_⟩⟩
  rw [clam_nI (by omega), bit_nI (by omega)]
  intro v hv
  subst hv
  refine ⟨fun q => absurd q h0, fun _ => ?_⟩
  refine pX4_init hc (hK _ ?_)
  refine pX1_becomes (small_bit hc) (by decide) (by decide) ?_
  rw [if_pos rfl, bec_bit g hc]
  unfold wX3_fill
  refine pX3_isCell ⟨fun q => absurd (isC_nI hc) (b2_0 q), fun _ => ⟨in_nI hc (by decide), ?_⟩⟩
  rw [clam_nI (by omega), ← hg c hc]
  intro v hv
  subst hv
  refine ⟨fun q => absurd q h0, fun _ => ?_⟩
  refine pX3_note hn hc ?_
  rw [← hg c hc]
  intro u' hu
  refine pX3_put hc ?_
  rw [if_pos rfl]
  exact hp u' hu
/-- roof -/
def roofG (K : KQ) (Q : Int32 → Int64 → Int32 → Int32 → Int32 → Int32 → Prop) (gd : Nat → Int32) (gro : Int64) (x1 : Int32) : Prop := (wX0_isCell (fun r_1 => ((r_1 = 0 → False) ∧ (¬ r_1 = 0 → (vp_in x1 36 ∧ (((gd (x1 : Int32).toNatClampNeg) = 0 → False) ∧ (¬ (gd (x1 : Int32).toNatClampNeg) = 0 → (wX4_init (fun rcell1_30 rdep1_30 rrf1_30 => (K (fun usz1_33 => (∀ roofs_48 : Int64, roofs_48 = (gro ^^^ (1 <<< ((x1 : Int32).toInt64 &&& 63))) → (wX0_has (fun r_59 => ((r_59 = 0 → (Q 0 roofs_48 usz1_33 rcell1_30 rdep1_30 rrf1_30)) ∧ (¬ r_59 = 0 → (Q 1 roofs_48 usz1_33 rcell1_30 rdep1_30 rrf1_30)))) roofs_48 x1))))) gd gro 0 0 0 x1))))))) x1)
theorem roof_e_is (Q : Int32 → Int64 → Int32 → Int32 → Int32 → Int32 → Prop) (g : Nat → Int32) (gro : Int64) (mc sz x : Int32) : wX0_roof_e Q g gro mc sz x = roofG (fun Q' => wX4_kept_e Q' mc sz) Q g gro x := rfl
theorem roof_r_is (Q : Int32 → Int64 → Int32 → Int32 → Int32 → Int32 → Prop) (g : Nat → Int32) (gro : Int64) (mc sz : Int32) (f : Nat → Option Nat) (x : Int32) : wX0_roof_r Q g gro mc sz f x = roofG (fun Q' => wX4_kept_r Q' mc sz f) Q g gro x := rfl
theorem roof_t_is (Q : Int32 → Int64 → Int32 → Int32 → Int32 → Int32 → Prop) (g : Nat → Int32) (gro : Int64) (mc sz : Int32) (f : Nat → Option Nat) (x : Int32) : wX0_roof_t Q g gro mc sz f x = roofG (fun Q' => wX4_kept_t Q' mc sz f) Q g gro x := rfl
theorem oRoof {K : KQ} {n1 : Int32} (hK : ∀ Q' : Int32 → Prop, Q' n1 → K Q') {P : Int32 → Int64 → Int32 → Int32 → Int32 → Int32 → Int32 → Int64 → (Nat → Int32) → Int32 → Prop} {g g' u : Nat → Int32} {roofs : Int64} {n c : Nat} (hg : agree 36 g g') (hn : n ≤ 10) (hc : c < 36) (h0 : ¬ g c = 0)
    (hp : ∀ u' r, noteR (g c) (b2 (mem roofs c = true)) u u' n c → P r (roofs ^^^ bit c) n1 (nI c) (g c) (b2 (mem roofs c = true)) r (roofs ^^^ bit c) u' (nI (if n = 10 then 10 else n + 1))) :
    roofG K (fun r z b d e f => wX3_roof (fun r' z' b' c' => P r z b d e f r' z' b' c') g' roofs u (nI n) (nI c)) g roofs (nI c) := by
  have m : ∀ r, r = b2 (mem (roofs ^^^ bit c) c = true) → wX3_roof (fun r' z' b' c' => P r (roofs ^^^ bit c) n1 (nI c) (g c) (b2 (mem roofs c = true)) r' z' b' c') g' roofs u (nI n) (nI c) := by
    intro r hr
    unfold wX3_roof
    refine pX3_isCell ⟨fun q => absurd (isC_nI hc) (b2_0 q), fun _ => ⟨in_nI hc (by decide), ?_⟩⟩
    rw [clam_nI (by omega), ← hg c hc, bit_nI (by omega)]
    refine ⟨fun q => absurd q h0, fun _ => ?_⟩
    refine pX3_note hn hc ?_
    rw [← hg c hc]
    intro u' hu z hz
    subst hz
    refine pX3_has (by omega) ⟨fun q => ?_, fun q => ?_⟩
    · rw [b2_f (b2_0 q)] at hr; rw [hr]; exact hp u' _ hu
    · rw [b2_t (b2_1 q)] at hr; rw [hr]; exact hp u' _ hu
  unfold roofG
  refine pX0_isCell ⟨fun q => absurd (isC_nI hc) (b2_0 q), fun _ => ⟨in_nI hc (by decide), ?_⟩⟩
  rw [clam_nI (by omega), bit_nI (by omega)]
  refine ⟨fun q => absurd q h0, fun _ => ?_⟩
  refine pX4_init hc (hK _ ?_)
  intro z hz
  subst hz
  refine pX0_has (by omega) ⟨fun q => ?_, fun q => ?_⟩
  · exact m 0 (by rw [b2_f (b2_0 q)])
  · exact m 1 (by rw [b2_t (b2_1 q)])
/-! PURE 23: what isn't filled or roofed; undo; lots -/
theorem oFill_n {P : Int32 → Int32 → (Nat → Int32) → Int64 → (Nat → Int32) → Int32 → Prop} {g g' u : Nat → Int32} {roofs : Int64} {um x : Int32} (hg : agree 36 g g') (hx : isC x → g x.toNatClampNeg = 0) (hp : ∀ v, P v v g' roofs u um) : wX0_fill_n (fun r => wX3_fill (fun r' a z b c => P r r' a z b c) g' roofs u um x) g x := by
  have m : ∀ v, v = (if isC x then -2 else -1) → wX3_fill (fun r' a z b c => P v r' a z b c) g' roofs u um x := by
    intro v hv
    unfold wX3_fill
    refine pX3_isCell ⟨fun q => ?_, fun q => ?_⟩
    · rw [if_neg (b2_0 q)] at hv; rw [hv]; exact hp _
    · rw [if_pos (b2_1 q)] at hv
      have h9 := hx (b2_1 q)
      obtain ⟨k, hk, e⟩ := isC_ex (b2_1 q)
      subst e
      rw [clam_nI (by omega)] at h9 ⊢
      refine ⟨in_nI hk (by decide), ?_⟩
      intro w hw
      rw [← hg k hk, h9] at hw
      exact ⟨fun _ => by rw [hv]; exact hp _, fun z => absurd hw z⟩
  unfold wX0_fill_n
  refine pX0_isCell ⟨fun q => m _ (by rw [if_neg (b2_0 q)]), fun q => ?_⟩
  have h9 := hx (b2_1 q)
  have hC := b2_1 q
  obtain ⟨k, hk, e⟩ := isC_ex hC
  subst e
  refine ⟨in_nI hk (by decide), ?_⟩
  intro w hw
  rw [h9] at hw
  exact ⟨fun _ => m _ (by rw [if_pos hC]), fun z => absurd hw z⟩
theorem oRoof_n {P : Int32 → Int32 → Int64 → (Nat → Int32) → Int32 → Prop} {g g' u : Nat → Int32} {roofs : Int64} {um x : Int32} (hg : agree 36 g g') (hx : isC x → g x.toNatClampNeg = 0) (hp : ∀ v, P v v roofs u um) : wX0_roof_n (fun r => wX3_roof (fun r' z b c => P r r' z b c) g' roofs u um x) g x := by
  have m : ∀ v, v = (if isC x then -2 else -1) → wX3_roof (fun r' z b c => P v r' z b c) g' roofs u um x := by
    intro v hv
    unfold wX3_roof
    refine pX3_isCell ⟨fun q => ?_, fun q => ?_⟩
    · rw [if_neg (b2_0 q)] at hv; rw [hv]; exact hp _
    · rw [if_pos (b2_1 q)] at hv
      have h9 := hx (b2_1 q)
      obtain ⟨k, hk, e⟩ := isC_ex (b2_1 q)
      subst e
      rw [clam_nI (by omega)] at h9 ⊢
      exact ⟨in_nI hk (by decide), fun _ => by rw [hv]; exact hp _, fun z => absurd (by rw [← hg k hk]; exact h9) z⟩
  unfold wX0_roof_n
  refine pX0_isCell ⟨fun q => m _ (by rw [if_neg (b2_0 q)]), fun q => ?_⟩
  have h9 := hx (b2_1 q)
  have hC := b2_1 q
  obtain ⟨k, hk, e⟩ := isC_ex hC
  subst e
  exact ⟨in_nI hk (by decide), fun _ => m _ (by rw [if_pos hC]), fun z => absurd h9 z⟩
theorem oUndo_n {P : Int32 → Int32 → (Nat → Int32) → Int64 → Int32 → Prop} {g' u : Nat → Int32} {roofs : Int64} (hp : P (-4) (-4) g' roofs 0) : wX0_undo_n (fun r => wX3_undo (fun r' a z c => P r r' a z c) g' roofs u 0) 0 := by
  unfold wX0_undo_n wJ2_isEmpty wX3_undo
  exact ⟨fun _ => ⟨fun q => absurd q (by decide), fun _ => ⟨fun _ => hp, fun q => absurd rfl q⟩⟩, fun q => absurd rfl q⟩
theorem remove_last {Q : Option Nat → Int32 → Int32 → (Nat → Option Nat) → Prop} {mc : Int32} {f : Nat → Option Nat} {n : Nat} (h1 : 1 ≤ n) (hn : n ≤ 10) (hs : (f (n - 1)).isSome = true) (h : ∀ mc1, Q (f (n - 1)) mc1 (nI (n - 1)) (va_up f (n - 1) none)) : wJ2_remove Q mc (nI n) f (nI (n - 1)) := by
  unfold wJ2_remove wJ3_checkIndex wJ4_checkIndex wJ2_fastRemove wJ2_fastRemove_34
  have e1 : nI n - 1 = nI (n - 1) := by rw [show (1 : Int32) = nI 1 from rfl, nI_subN h1]
  rw [e1, clam_nI (by omega)]
  refine ⟨fun q => absurd q (neg_nI _ (by omega)), fun _ => ⟨fun _ => ⟨in_nI (by omega) (by decide), hs, ?_⟩, fun q => absurd ((nI_ltN (by omega) (by omega)).mpr (by omega)) q⟩⟩
  intro a ha b hb
  subst hb
  refine ⟨fun _ => ⟨in_nI (by omega) (by decide), ?_⟩, fun q => absurd (Int32.le_refl _) q⟩
  rw [clam_nI (by omega)]
  exact h a
theorem oUndo {P : Int32 → (Nat → Int32) → Int64 → Int32 → (Nat → Option Nat) → Int32 → (Nat → Int32) → Int64 → Int32 → Prop} {g g' u : Nat → Int32} {roofs : Int64} {mc d z : Int32} {f : Nat → Option Nat} {rp n c : Nat} (h1 : 1 ≤ n) (hn : n ≤ 10) (hc : c < 36) (hd0 : 0 ≤ d) (hd : d ≤ 9) (hz : z = 0 ∨ z = 1) (hf : f (n - 1) = some rp)
    (hu : u (3 * (n - 1)) = nI c ∧ u (3 * (n - 1) + 1) = d ∧ u (3 * (n - 1) + 2) = z) (hp : ∀ mc1 : Int32, P (nI (n - 1)) (upd g c d) (if z = 0 then roofs &&& (bit c ^^^ (-1)) else roofs ||| bit c) (nI (n - 1)) (va_up f (n - 1) none) (nI (n - 1)) (upd g' c d) (if z = 0 then roofs &&& (bit c ^^^ (-1)) else roofs ||| bit c) (nI (n - 1))) :
    wX0_undo_r (fun r a y _ s f' => wX3_undo (fun r' a' y' s' => P r a y s f' r' a' y' s') g' roofs u (nI n)) g roofs mc (nI n) f (nI c) d z rp := by
  have e1 : nI n - 1 = nI (n - 1) := by rw [show (1 : Int32) = nI 1 from rfl, nI_subN h1]
  have m : ∀ (mc1 : Int32), wX3_undo (fun r' a' y' s' => P (nI (n - 1)) (upd g c d) (if z = 0 then roofs &&& (bit c ^^^ (-1)) else roofs ||| bit c) (nI (n - 1)) (va_up f (n - 1) none) r' a' y' s') g' roofs u (nI n) := by
    intro mc1
    unfold wX3_undo wX3_undo_67
    refine ⟨fun q => absurd ((nI_inj (b := 0) (by omega) (by decide)).mp q) (by omega), fun _ => ?_⟩
    intro k hk
    rw [e1] at hk
    subst hk
    have e3 : (3 : Int32) * nI (n - 1) = nI (3 * (n - 1)) := by rw [show (3 : Int32) = nI 3 from rfl, nI_mulN]
    have e2 : nI (3 * (n - 1)) + 2 = nI (3 * (n - 1) + 2) := by rw [show (2 : Int32) = nI 2 from rfl, nI_addN]
    rw [e3, e2, nI_add1, clam_nI (by omega), clam_nI (by omega), clam_nI (by omega), hu.1, hu.2.1, hu.2.2]
    refine ⟨in_nI (by omega) (by decide), in_nI (by omega) (by decide), in_nI (by omega) (by decide), fun q => ?_, fun q => ?_⟩
    · refine pX3_put hc ?_
      rw [show (if (1 : Int32) = 0 then roofs &&& (bit c ^^^ (-1)) else roofs ||| bit c) = (if z = 0 then roofs &&& (bit c ^^^ (-1)) else roofs ||| bit c) by rw [q]]
      exact hp mc1
    · refine pX3_put hc ?_
      have z0 : z = 0 := hz.resolve_right q
      rw [show (if (0 : Int32) = 0 then roofs &&& (bit c ^^^ (-1)) else roofs ||| bit c) = (if z = 0 then roofs &&& (bit c ^^^ (-1)) else roofs ||| bit c) by rw [z0]]
      exact hp mc1
  unfold wX0_undo_r wJ2_isEmpty wJ2_size
  refine ⟨fun q => absurd ((nI_inj (b := 0) (by omega) (by decide)).mp q) (by omega), fun _ => ⟨fun _ => ?_, fun q => absurd rfl q⟩⟩
  show wJ2_remove _ mc (nI n) f (nI n - 1)
  rw [e1]
  refine remove_last h1 hn (by rw [hf]; rfl) ?_
  intro mc1
  refine ⟨hf, ?_⟩
  unfold wX4_undoes
  rw [bit_nI (by omega)]
  refine pX1_becomes (small_bit hc) hd0 (Int32.le_trans hd (by decide)) ?_
  rw [bec_bit g hc]
  refine ⟨fun q => ?_, fun q => ?_⟩
  · intro y hy
    have ey : y = (if z = 0 then roofs &&& (bit c ^^^ (-1)) else roofs ||| bit c) := by
      rw [if_pos q, hy]
      by_cases w : d = 0
      · rw [if_pos w]
        exact mem_ext (fun i _ => by rw [mem_minus, mem_minus]; cases mem roofs i <;> cases mem (bit c) i <;> rfl)
      · rw [if_neg w]
    rw [ey]
    exact m mc1
  · intro y hy
    have ey : y = (if z = 0 then roofs &&& (bit c ^^^ (-1)) else roofs ||| bit c) := by
      rw [if_neg q, hy]
      by_cases w : d = 0
      · rw [if_pos w]
        exact mem_ext (fun i _ => by rw [mem_or, mem_minus, mem_or]; cases mem roofs i <;> cases mem (bit c) i <;> rfl)
      · rw [if_neg w]
    rw [ey]
    exact m mc1
/-! PURE 24: lots -/
theorem nI_div {a b : Nat} (ha : a < 2 ^ 31) (hb : b < 2 ^ 31) : nI a / nI b = nI (a / b) := by
  apply Int32.toInt_inj.mp
  have hab : a / b < 2 ^ 31 := Nat.lt_of_le_of_lt (Nat.div_le_self a b) ha
  rw [Int32.toInt_div, toInt_nI ha, toInt_nI hb, toInt_nI hab]
  have e : (a : Int).tdiv (b : Int) = ((a / b : Nat) : Int) := rfl
  rw [e]
  generalize a / b = c at hab
  rw [Int.bmod_def]
  omega
theorem draw_eq (d : Int32) : (((((d : Int32).toInt64 * 1103515245) + 12345) &&& 2147483647) : Int64).toInt32 = ((d * 1103515245) + 12345) &&& 2147483647 := by
  rw [Int64.toInt32_and, Int64.toInt32_add, Int64.toInt32_mul, Int32.toInt32_toInt64]
  rfl
/-- the next draw -/
def drw (d : Int32) : Int32 := ((d * 1103515245) + 12345) &&& 2147483647
theorem drw_nat (d : Int32) : ∃ m, m < 2 ^ 31 ∧ drw d = nI m := by
  refine ⟨(drw d).toBitVec.toNat, ?_, ?_⟩
  · unfold drw
    rw [Int32.toBitVec_and, BitVec.toNat_and]
    have : (2147483647 : Int32).toBitVec.toNat = 2147483647 := rfl
    rw [this]
    exact Nat.lt_of_le_of_lt Nat.and_le_right (by decide)
  · apply Int32.toBitVec_inj.mp
    unfold nI
    rw [Int32.toBitVec_ofNat']
    simp
theorem nI_mod {m k : Nat} (hm : m < 2 ^ 31) (hk : k < 2 ^ 31) (h0 : k ≠ 0) : nI m - nI m / nI k * nI k = nI (m % k) := by
  rw [nI_div hm hk, nI_mulN, nI_subN (Nat.div_mul_le_self m k)]
  congr 1
  have := Nat.div_add_mod m k
  rw [Nat.mul_comm] at this
  omega
def drv (d : Int32) (k : Nat) : Nat := ((drw d).toBitVec.toNat / 65536) % k
theorem drw_is {d : Int32} {k : Nat} (hk : k < 2 ^ 31) (h0 : k ≠ 0) : (drw d / 65536) - (drw d / 65536) / nI k * nI k = nI (drv d k) := by
  obtain ⟨m, hm, e⟩ := drw_nat d
  have em : (drw d).toBitVec.toNat = m := by
    rw [e]
    unfold nI
    rw [Int32.toBitVec_ofNat', BitVec.toNat_ofNat]
    exact Nat.mod_eq_of_lt (Nat.lt_trans hm (by decide))
  unfold drv
  rw [em, e, show (65536 : Int32) = nI 65536 from rfl, nI_div hm (by decide)]
  exact nI_mod (Nat.lt_of_le_of_lt (Nat.div_le_self _ _) hm) hk h0
theorem pX0_drawn {Q : Int32 → Int32 → Prop} {d : Int32} {k : Nat} (hk : k < 2 ^ 31) (h0 : k ≠ 0) (h : Q (nI (drv d k)) (drw d)) : wX0_drawn Q d (nI k) := by
  unfold wX0_drawn
  intro a ha
  have ea : a = drw d := ha
  subst ea
  refine ⟨fun q => h0 ((nI_inj (b := 0) hk (by decide)).mp q), ?_⟩
  rw [drw_is hk h0]; exact h
theorem pX3_nextDraw {Q : Int32 → Int32 → Prop} {d : Int32} {k : Nat} (hk : k < 2 ^ 31) (h0 : k ≠ 0) (h : Q (nI (drv d k)) (drw d)) : wX3_nextDraw Q d (nI k) := by
  unfold wX3_nextDraw
  intro a ha
  rw [draw_eq] at ha
  have ea : a = drw d := ha
  subst ea
  refine ⟨fun q => h0 ((nI_inj (b := 0) hk (by decide)).mp q), ?_⟩
  rw [drw_is hk h0]; exact h
theorem drv_lt (d : Int32) {k : Nat} (h0 : 0 < k) : drv d k < k := Nat.mod_lt _ h0
/-- one lot: the ground afterwards, and what it counts -/
def lotG (g : Nat → Int32) (c : Nat) (fills : Prop) [Decidable fills] : Nat → Int32 := if g c = (if fills then 0 else 9) then g else upd g c (if fills then 0 else g c + 1)
def lotR (g : Nat → Int32) (ro : Int64) (c : Nat) (fills : Prop) [Decidable fills] : Int64 := if g c = (if fills then 0 else 9) then ro else if fills then ro &&& (bit c ^^^ (-1)) else ro
def lotS (g : Nat → Int32) (c : Nat) (fills : Prop) [Decidable fills] (s : Int32) : Int32 := if g c = (if fills then 0 else 9) then s else if fills then s + 100 else s + 1
