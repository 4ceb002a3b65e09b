/-! PURE 16: how far, the nearest cell -/
def offN (a b : Nat) : Nat := (a - b) + (b - a)
def apN (a b : Nat) : Nat := offN (a / 6) (b / 6) + offN (a % 6) (b % 6)
theorem apN_le {a b : Nat} (ha : a < 36) (hb : b < 36) : apN a b ≤ 10 := by unfold apN offN; omega
theorem apN_symm (a b : Nat) : apN a b = apN b a := by unfold apN offN; omega
theorem ap_county : ∀ a b : Fin 36, ((if 0 ≤ ((nI a.val / 6) - (nI b.val / 6)) then ((nI a.val / 6) - (nI b.val / 6)) else 0 - ((nI a.val / 6) - (nI b.val / 6))) + (if 0 ≤ ((nI a.val - nI a.val / 6 * 6) - (nI b.val - nI b.val / 6 * 6)) then ((nI a.val - nI a.val / 6 * 6) - (nI b.val - nI b.val / 6 * 6)) else 0 - ((nI a.val - nI a.val / 6 * 6) - (nI b.val - nI b.val / 6 * 6)))) = nI (apN a.val b.val) := by decide +kernel
theorem pX0_apart {Q : Int32 → Prop} {a b : Nat} (ha : a < 36) (hb : b < 36) (h : Q (nI (apN a b))) : wX0_apart Q (nI a) (nI b) := by
  unfold wX0_apart
  rw [ap_county ⟨a, ha⟩ ⟨b, hb⟩]; exact h
theorem cell_div : ∀ a : Fin 36, nI a.val / 6 = nI (a.val / 6) ∧ nI a.val - nI a.val / 6 * 6 = nI (a.val % 6) := by decide +kernel
theorem pX3_off {Q : Int32 → Prop} {a b : Nat} (ha : a < 2 ^ 31) (hb : b < 2 ^ 31) (h : Q (nI (offN a b))) : wX3_off Q (nI a) (nI b) := by
  unfold wX3_off offN at *
  refine ⟨fun q => ?_, fun q => ?_⟩
  · have := (nI_leN ha hb).mp q
    rw [nI_subN this]
    rw [show a - b + (b - a) = b - a by omega] at h; exact h
  · have : ¬ a ≤ b := fun z => q ((nI_leN ha hb).mpr z)
    rw [nI_subN (by omega)]
    rw [show a - b + (b - a) = a - b by omega] at h; exact h
theorem pX3_apart {Q : Int32 → Prop} {a b : Nat} (ha : a < 36) (hb : b < 36) (h : Q (nI (apN a b))) : wX3_apart Q (nI a) (nI b) := by
  unfold wX3_apart
  have ca := cell_div ⟨a, ha⟩
  have cb := cell_div ⟨b, hb⟩
  simp only at ca cb
  rw [ca.2, cb.2, ca.1, cb.1]
  refine pX3_off (by omega) (by omega) ?_
  refine pX3_off (by omega) (by omega) ?_
  rw [nI_addN]
  exact h
/-- the nearest from cell k on -/
def nrI (at' : Nat) (h : Int64) : Nat → Nat → Nat → Nat
  | 0, _, b => b
  | n + 1, k, b => nrI at' h n (k + 1) (if mem h k = true ∧ apN at' k < apN at' b then k else b)
theorem nrI_skip {at' : Nat} {h : Int64} : ∀ m n k b, (∀ j, k ≤ j → j < k + m → mem h j = false) → nrI at' h (m + n) k b = nrI at' h n (k + m) b := by
  intro m
  induction m with
  | zero => intro n k b _; rw [Nat.zero_add, Nat.add_zero]
  | succ m ih =>
    intro n k b hj
    rw [show m + 1 + n = (m + n) + 1 by omega, nrI, if_neg (fun z => by rw [hj k (Nat.le_refl _) (by omega)] at z; exact Bool.noConfusion z.1)]
    rw [ih n (k + 1) b (fun j h1 h2 => hj j (by omega) (by omega)), show k + 1 + m = k + (m + 1) by omega]
def nr (at' : Nat) (h : Int64) : Nat := nrI at' h 36 0 (lsb h)
theorem nrI_mem {at' : Nat} {h : Int64} : ∀ n k b, mem h b = true → mem h (nrI at' h n k b) = true := by
  intro n
  induction n with
  | zero => intro k b hb; exact hb
  | succ n ih =>
    intro k b hb
    unfold nrI
    apply ih
    split
    · rename_i q; exact q.1
    · exact hb
theorem nr_mem {at' : Nat} {h : Int64} (h0 : h ≠ 0) : mem h (nr at' h) = true := nrI_mem 36 0 _ (lsb_spec h0).2.1
theorem nr_lt {at' : Nat} {h : Int64} (hs : small h) (h0 : h ≠ 0) : nr at' h < 36 := mem36 hs (nr_mem h0)
theorem nr_from {at' : Nat} {h : Int64} (hs : small h) (h0 : h ≠ 0) : nr at' h = nrI at' h (36 - (lsb h + 1)) (lsb h + 1) (lsb h) := by
  have h36 := lsb_small hs h0
  have hl := (lsb_spec h0).2.2
  unfold nr
  have := nrI_skip (at' := at') (h := h) (lsb h) (36 - lsb h) 0 (lsb h) (fun j _ hj => hl j (by omega))
  rw [show lsb h + (36 - lsb h) = 36 by omega, Nat.zero_add] at this
  rw [this, show 36 - lsb h = (36 - (lsb h + 1)) + 1 by omega, nrI, if_neg (fun z => by have := z.2; omega)]
theorem nI_ne4 {b : Nat} (h : b < 2 ^ 31) : ¬ nI b = -4 := fun q => by
  have := congrArg Int32.toInt q
  rw [toInt_nI h] at this
  have e : (-4 : Int32).toInt = -4 := rfl
  omega
theorem ap_nI_le {a b c d : Nat} (ha : a < 36) (hb : b < 36) (hc : c < 36) (hd : d < 36) : nI (apN a b) ≤ nI (apN c d) ↔ ¬ apN c d < apN a b := by
  have := apN_le ha hb; have := apN_le hc hd
  rw [nI_leN (by omega) (by omega)]; omega
theorem nearest_6 {Q : Int32 → Prop} {at' : Nat} {h : Int64} (ha : at' < 36) : ∀ n x k b, card x ≤ n → small x → k ≤ 36 → b < 36 → (∀ i, mem x i = true ↔ mem h i = true ∧ k ≤ i) → Q (nI (nrI at' h (36 - k) k b)) → ∃ fu, wX0_nearest_6 Q (nI at') fu (nI b) x := by
  intro n
  induction n with
  | zero =>
    intro x k b hn hs hk hb hx hq
    have : x = 0 := Classical.byContradiction (fun h => by have := card_drop h; omega)
    subst this
    refine ⟨1, ?_⟩
    unfold wX0_nearest_6
    refine ⟨fun _ => ?_, fun z => absurd rfl z⟩
    have := nrI_skip (at' := at') (h := h) (36 - k) 0 k b (fun j h1 _ => by
      cases z : mem h j with
      | false => rfl
      | true => have := (hx j).mpr ⟨z, h1⟩; rw [mem_zero] at this; exact Bool.noConfusion this)
    rw [Nat.add_zero] at this
    rw [this] at hq; exact hq
  | succ n ih =>
    intro x k b hn hs hk hb hx hq
    by_cases h0 : x = 0
    · subst h0
      refine ⟨1, ?_⟩
      unfold wX0_nearest_6
      refine ⟨fun _ => ?_, fun z => absurd rfl z⟩
      have := nrI_skip (at' := at') (h := h) (36 - k) 0 k b (fun j h1 _ => by
        cases z : mem h j with
        | false => rfl
        | true => have := (hx j).mpr ⟨z, h1⟩; rw [mem_zero] at this; exact Bool.noConfusion this)
      rw [Nat.add_zero] at this
      rw [this] at hq; exact hq
    · obtain ⟨h64, hk', hl⟩ := lsb_spec h0
      have h36 := lsb_small hs h0
      have hcd := card_drop h0
      have hr := (hx _).mp hk'
      have hskip := nrI_skip (at' := at') (h := h) (lsb x - k) (36 - lsb x) k b (fun j h1 h2 => by
        cases z : mem h j with
        | false => rfl
        | true => have := (hx j).mpr ⟨z, h1⟩; rw [hl j (by omega)] at this; exact Bool.noConfusion this)
      rw [show lsb x - k + (36 - lsb x) = 36 - k by omega, show k + (lsb x - k) = lsb x by omega] at hskip
      rw [hskip, show 36 - lsb x = (36 - (lsb x + 1)) + 1 by omega, nrI] at hq
      have hx' : ∀ i, mem (x &&& (x - 1)) i = true ↔ mem h i = true ∧ lsb x + 1 ≤ i := by
        intro i
        rw [mem_drop hk' hl, Bool.and_eq_true, hx i, decide_eq_true_eq]
        constructor
        · rintro ⟨⟨a, b⟩, c⟩
          refine ⟨a, ?_⟩
          have : ¬ i < lsb x := fun z => by have := (hx i).mpr ⟨a, b⟩; rw [hl i z] at this; exact Bool.noConfusion this
          omega
        · rintro ⟨a, b⟩
          have := hr.2
          exact ⟨⟨a, by omega⟩, by omega⟩
      by_cases q : apN at' (lsb x) < apN at' b
      · rw [if_pos ⟨hr.1, q⟩] at hq
        obtain ⟨fu, hf⟩ := ih (x &&& (x - 1)) (lsb x + 1) (lsb x) (by omega) (small_and_l hs) (by omega) h36 hx' hq
        refine ⟨fu + 1, ?_⟩
        unfold wX0_nearest_6 wX0_nearest_43
        refine ⟨fun z => absurd z h0, fun _ => pX0_least h0 ⟨fun z => absurd z (nI_ne4 (by omega)), fun _ => ?_⟩⟩
        refine pX0_apart ha h36 (pX0_apart ha hb ⟨fun z => absurd q ((ap_nI_le ha hb ha h36).mp z), fun _ => ?_⟩)
        intro a ha'; subst ha'; exact hf
      · rw [if_neg (fun z => q z.2)] at hq
        obtain ⟨fu, hf⟩ := ih (x &&& (x - 1)) (lsb x + 1) b (by omega) (small_and_l hs) (by omega) hb hx' hq
        refine ⟨fu + 1, ?_⟩
        unfold wX0_nearest_6 wX0_nearest_43
        refine ⟨fun z => absurd z h0, fun _ => pX0_least h0 ⟨fun z => absurd z (nI_ne4 (by omega)), fun _ => ?_⟩⟩
        refine pX0_apart ha h36 (pX0_apart ha hb ⟨fun _ => ?_, fun z => absurd ((ap_nI_le ha hb ha h36).mpr q) z⟩)
        intro a ha'; subst ha'; exact hf
theorem pX0_nearest {Q : Int32 → Prop} {at' : Nat} {h : Int64} (ha : at' < 36) (hs : small h) (h0 : h ≠ 0) (hq : Q (nI (nr at' h))) : wX0_nearest Q (nI at') h := by
  obtain ⟨h64, hk', hl⟩ := lsb_spec h0
  have h36 := lsb_small hs h0
  rw [nr_from hs h0] at hq
  obtain ⟨fu, hf⟩ := nearest_6 (Q := Q) (h := h) ha _ (h &&& (h - 1)) (lsb h + 1) (lsb h) (Nat.le_refl _) (small_and_l hs) (by omega) h36 (by
    intro i
    rw [mem_drop hk' hl, Bool.and_eq_true, decide_eq_true_eq]
    constructor
    · rintro ⟨a, b⟩
      refine ⟨a, ?_⟩
      have : ¬ i < lsb h := fun z => by rw [hl i z] at a; exact Bool.noConfusion a
      omega
    · rintro ⟨a, b⟩; exact ⟨a, by omega⟩) hq
  refine ⟨fu + 1, ?_⟩
  unfold wX0_nearest_6 wX0_nearest_43
  refine ⟨fun z => absurd z h0, fun _ => pX0_least h0 ⟨fun _ => ?_, fun z => absurd rfl z⟩⟩
  intro a ha'; subst ha'; exact hf
theorem mnear_8 {Q : Int32 → Prop} {at' : Nat} {h : Int64} (ha : at' < 36) : ∀ n k b, k + n = 36 → b < 36 → Q (nI (nrI at' h n k b)) → wX3_nearest_8 Q h (nI at') (n + 1) (nI b) (nI k) := by
  intro n
  induction n with
  | zero =>
    intro k b hk hb hq
    unfold wX3_nearest_8
    have e : k = 36 := by omega
    subst e
    exact ⟨fun _ => hq, fun z => absurd (by decide) z⟩
  | succ n ih =>
    intro k b hk hb hq
    unfold wX3_nearest_8
    unfold nrI at hq
    refine ⟨fun h => absurd h (n36 (by omega)), fun _ => ?_⟩
    refine pX3_has (by omega) ⟨fun q => ?_, fun q => ?_⟩
    · intro a ha'; subst ha'; rw [nI_add1]
      rw [if_neg (fun z => b2_0 q z.1)] at hq
      exact ih (k + 1) b (by omega) hb hq
    · refine pX3_apart (by omega) ha (pX3_apart hb ha ⟨fun z => ?_, fun z => ?_⟩)
      · intro a ha'; subst ha'; rw [nI_add1]
        rw [ap_nI_le hb ha (by omega) ha, apN_symm k, apN_symm b] at z
        rw [if_neg (fun w => z w.2)] at hq
        exact ih (k + 1) b (by omega) hb hq
      · intro a ha'; subst ha'; rw [nI_add1]
        rw [ap_nI_le hb ha (by omega) ha, apN_symm k, apN_symm b] at z
        rw [if_pos ⟨b2_1 q, Classical.not_not.mp z⟩] at hq
        exact ih (k + 1) k (by omega) (by omega) hq
theorem pX3_nearest {Q : Int32 → Prop} {at' : Nat} {h : Int64} (ha : at' < 36) (hs : small h) (h0 : h ≠ 0) (hq : Q (nI (nr at' h))) : wX3_nearest Q h (nI at') := by
  unfold wX3_nearest
  refine pX3_least h0 ?_
  exact ⟨37, mnear_8 ha 36 0 (lsb h) rfl (lsb_small hs h0) hq⟩
/-! PURE 17: orders -/
def perF : Nat → List Nat → List (List Nat)
  | 0, _ => [[]]
  | k + 1, rem => rem.flatMap (fun h => (perF k (rem.filter (fun j => decide (j ≠ h)))).map (fun p => h :: p))
def pick (x : Nat) (t : List Nat) : Option (List Nat) := match t.reverse.dropWhile (fun j => decide (j < x)) with
  | [] => none
  | y :: B => some (y :: (t.reverse.takeWhile (fun j => decide (j < x)) ++ x :: B))
def nextL : List Nat → Option (List Nat)
  | [] => none
  | x :: t => match nextL t with
    | some t' => some (x :: t')
    | none => pick x t
/-- one after the other; what comes after the last -/
def chO : List (List Nat) → Option (List Nat) → Prop
  | [], _ => True
  | [p], e => nextL p = e
  | p :: q :: t, e => nextL p = some q ∧ chO (q :: t) e
theorem chO_app : ∀ A b B e, A ≠ [] → chO A (some b) → chO (b :: B) e → chO (A ++ b :: B) e := by
  intro A
  induction A with
  | nil => intro b B e h; exact absurd rfl h
  | cons p A ih =>
    intro b B e _ h1 h2
    cases A with
    | nil => exact ⟨h1, h2⟩
    | cons q A => exact ⟨h1.1, ih b B e (by simp) h1.2 h2⟩
theorem chO_map (h : Nat) : ∀ P r, P.getLast? = some r → chO P none → chO (P.map (fun p => h :: p)) (pick h r) := by
  intro P
  induction P with
  | nil => intro r hr _; exact absurd hr (by simp)
  | cons p P ih =>
    intro r hr hc
    cases P with
    | nil =>
      have e : p = r := by simpa using hr
      subst e
      show nextL (h :: p) = pick h p
      have hc' : nextL p = none := hc
      rw [nextL, hc']
    | cons q P =>
      refine ⟨?_, ih r (by simpa using hr) hc.2⟩
      have hc' : nextL p = some q := hc.1
      show nextL (h :: p) = some (h :: q)
      rw [nextL, hc']
def asc (l : List Nat) : Prop := l.Pairwise (fun a b => a < b)
theorem filter_mid {A B : List Nat} {h : Nat} (ha : ∀ a ∈ A, a < h) (hb : ∀ b ∈ B, h < b) : (A ++ h :: B).filter (fun j => decide (j ≠ h)) = A ++ B := by
  rw [List.filter_append, List.filter_cons_of_neg (by simp)]
  rw [List.filter_eq_self.mpr (fun a q => by have := ha a q; simp; omega), List.filter_eq_self.mpr (fun b q => by have := hb b q; simp; omega)]
theorem asc_mid {A B : List Nat} {h : Nat} (H : asc (A ++ h :: B)) : (∀ a ∈ A, a < h) ∧ (∀ b ∈ B, h < b) ∧ asc (A ++ B) := by
  unfold asc at H ⊢
  rw [List.pairwise_append, List.pairwise_cons] at H
  refine ⟨fun a q => H.2.2 a q h List.mem_cons_self, H.2.1.1, ?_⟩
  rw [List.pairwise_append]
  exact ⟨H.1, H.2.1.2, fun a q b q' => H.2.2 a q b (List.mem_cons_of_mem _ q')⟩
theorem take_drop {A B : List Nat} {h : Nat} (ha : ∀ a ∈ A, a < h) (hb : ∀ b ∈ B, ¬ b < h) : (A ++ B).takeWhile (fun j => decide (j < h)) = A ∧ (A ++ B).dropWhile (fun j => decide (j < h)) = B := by
  induction A with
  | nil =>
    cases B with
    | nil => exact ⟨rfl, rfl⟩
    | cons b B =>
      have := hb b List.mem_cons_self
      simp [this]
  | cons a A ih =>
    have h1 := ha a List.mem_cons_self
    have h2 := ih (fun x q => ha x (List.mem_cons_of_mem _ q))
    simp only [List.cons_append, List.takeWhile_cons, List.dropWhile_cons, h1, decide_true, if_true]
    exact ⟨by rw [h2.1], h2.2⟩
theorem per_facts : ∀ k rem, rem.length = k → asc rem → (perF k rem).head? = some rem ∧ (perF k rem).getLast? = some rem.reverse ∧ chO (perF k rem) none := by
  intro k
  induction k with
  | zero =>
    intro rem hl _
    have : rem = [] := List.length_eq_zero_iff.mp hl
    subst this
    exact ⟨rfl, rfl, rfl⟩
  | succ k ih =>
    intro rem hl ha
    -- over all that begin with one of S, rem = A ++ S
    have go : ∀ S A, rem = A ++ S → S ≠ [] →
        (S.flatMap (fun h => (perF k (rem.filter (fun j => decide (j ≠ h)))).map (fun p => h :: p))).head? = S.head?.map (fun h => h :: rem.filter (fun j => decide (j ≠ h))) ∧
        (S.flatMap (fun h => (perF k (rem.filter (fun j => decide (j ≠ h)))).map (fun p => h :: p))).getLast? = S.getLast?.map (fun h => h :: (rem.filter (fun j => decide (j ≠ h))).reverse) ∧
        chO (S.flatMap (fun h => (perF k (rem.filter (fun j => decide (j ≠ h)))).map (fun p => h :: p))) none := by
      intro S
      induction S with
      | nil => intro A _ h; exact absurd rfl h
      | cons h S ihS =>
        intro A hA _
        have hm := asc_mid (A := A) (B := S) (h := h) (by rw [← hA]; exact ha)
        have hf : rem.filter (fun j => decide (j ≠ h)) = A ++ S := by rw [hA]; exact filter_mid hm.1 hm.2.1
        have hlen : (A ++ S).length = k := by rw [hA] at hl; simp at hl ⊢; omega
        obtain ⟨f1, f2, f3⟩ := ih (A ++ S) hlen hm.2.2
        have hblock := chO_map h (perF k (A ++ S)) _ f2 f3
        have hpick : pick h (A ++ S).reverse = match S with | [] => none | y :: B => some (y :: (A ++ h :: B)) := by
          unfold pick
          have td := take_drop (A := A) (B := S) (h := h) hm.1 (fun b q => by have := hm.2.1 b q; omega)
          rw [List.reverse_reverse, td.1, td.2]
          cases S <;> rfl
        rw [hpick] at hblock
        rw [List.flatMap_cons, hf]
        have hne : (perF k (A ++ S)).map (fun p => h :: p) ≠ [] := by
          intro q
          rw [List.map_eq_nil_iff] at q
          rw [q] at f1; exact absurd f1 (by simp)
        have hhead : ((perF k (A ++ S)).map (fun p => h :: p)).head? = some (h :: (A ++ S)) := by rw [List.head?_map, f1]; rfl
        have hlast : ((perF k (A ++ S)).map (fun p => h :: p)).getLast? = some (h :: (A ++ S).reverse) := by rw [List.getLast?_map, f2]; rfl
        cases S with
        | nil =>
          rw [List.flatMap_nil, List.append_nil]
          refine ⟨?_, ?_, hblock⟩
          · rw [hhead, show [h].head? = some h from rfl, Option.map_some, hf]
          · rw [hlast, show [h].getLast? = some h from rfl, Option.map_some, hf]
        | cons y B =>
          obtain ⟨g1, g2, g3⟩ := ihS (A ++ [h]) (by rw [hA]; simp) (by simp)
          have hm' := asc_mid (A := A ++ [h]) (B := B) (h := y) (by rw [hA] at ha; simpa using ha)
          have hf' : rem.filter (fun j => decide (j ≠ y)) = A ++ h :: B := by
            have := filter_mid (A := A ++ [h]) (B := B) (h := y) hm'.1 hm'.2.1
            rw [hA]; simpa using this
          generalize hG : (y :: B).flatMap (fun h => (perF k (rem.filter (fun j => decide (j ≠ h)))).map (fun p => h :: p)) = G at g1 g2 g3
          have hG1 : G.head? = some (y :: (A ++ h :: B)) := by rw [g1, show (y :: B).head? = some y from rfl, Option.map_some, hf']
          cases G with
          | nil => exact absurd hG1 (by simp)
          | cons g0 G =>
            have e0 : g0 = y :: (A ++ h :: B) := by simpa using hG1
            refine ⟨?_, ?_, ?_⟩
            · rw [List.head?_append, hhead, show (h :: y :: B).head? = some h from rfl, Option.map_some, hf]; rfl
            · rw [List.getLast?_append, g2, show (h :: y :: B).getLast? = (y :: B).getLast? from rfl, List.getLast?_eq_some_getLast (show y :: B ≠ [] by simp)]; rfl
            · refine chO_app _ g0 G none hne ?_ g3
              rw [e0]; exact hblock
    cases hrem : rem with
    | nil => rw [hrem] at hl; exact absurd hl (by simp)
    | cons r R =>
      have G := go rem [] rfl (by rw [hrem]; simp)
      have hu : perF (k + 1) rem = rem.flatMap (fun h => (perF k (rem.filter (fun j => decide (j ≠ h)))).map (fun p => h :: p)) := rfl
      rw [← hu] at G
      rw [← hrem]
      refine ⟨?_, ?_, G.2.2⟩
      · rw [G.1, hrem]
        have hm := asc_mid (A := []) (B := R) (h := r) (by rw [hrem] at ha; exact ha)
        have := filter_mid (A := []) (B := R) (h := r) hm.1 hm.2.1
        simp only [List.nil_append] at this
        rw [show (r :: R).head? = some r from rfl, Option.map_some, this]
      · rw [G.2.1]
        have hne : rem ≠ [] := by rw [hrem]; simp
        rw [List.getLast?_eq_some_getLast hne, Option.map_some]
        have hsp : rem = rem.dropLast ++ [rem.getLast hne] := (List.dropLast_concat_getLast hne).symm
        have hm := asc_mid (A := rem.dropLast) (B := []) (h := rem.getLast hne) (by rw [← hsp]; exact ha)
        have := filter_mid (A := rem.dropLast) (B := []) (h := rem.getLast hne) hm.1 hm.2.1
        rw [← hsp, List.append_nil] at this
        rw [this]
        congr 1
        conv => rhs; rw [hsp]
        rw [List.reverse_append]; rfl
theorem per_mem : ∀ k rem p, rem.length = k → asc rem → p ∈ perF k rem → p.length = k ∧ ∀ x ∈ p, x ∈ rem := by
  intro k
  induction k with
  | zero =>
    intro rem p _ _ hp
    have : p = [] := by simpa [perF] using hp
    subst this
    exact ⟨rfl, fun x hx => absurd hx (by simp)⟩
  | succ k ih =>
    intro rem p hl ha hp
    unfold perF at hp
    rw [List.mem_flatMap] at hp
    obtain ⟨h, hh, hp⟩ := hp
    rw [List.mem_map] at hp
    obtain ⟨t, ht, rfl⟩ := hp
    obtain ⟨A, B, e⟩ := List.append_of_mem hh
    have hm := asc_mid (A := A) (B := B) (h := h) (by rw [← e]; exact ha)
    have hf : rem.filter (fun j => decide (j ≠ h)) = A ++ B := by rw [e]; exact filter_mid hm.1 hm.2.1
    rw [hf] at ht
    have hlen : (A ++ B).length = k := by rw [e] at hl; simp at hl ⊢; omega
    have := ih (A ++ B) t hlen hm.2.2 ht
    refine ⟨by rw [List.length_cons, this.1], fun x hx => ?_⟩
    rcases List.mem_cons.mp hx with q | q
    · subst q; exact hh
    · have := this.2 x q
      rw [e]; simp at this ⊢
      rcases this with z | z
      · exact Or.inl z
      · exact Or.inr (Or.inr z)
/-- a row holds a list -/
def arr (f : Nat → Int32) (p : List Nat) : Prop := ∀ i, i < p.length → f i = nI (p.getD i 0)
theorem arrP_set {f : Nat → Int32} {p : List Nat} (h : arr f p) (k v : Nat) : arr (upd f k (nI v)) (p.set k v) := by
  intro i hi
  rw [List.length_set] at hi
  unfold upd
  rw [List.getD_eq_getElem?_getD, List.getElem?_set]
  by_cases q : i = k
  · subst q; rw [if_pos rfl, if_pos rfl, if_pos hi]; rfl
  · rw [if_neg q, if_neg (fun z => q z.symm), h i hi, List.getD_eq_getElem?_getD]
/-- no next: it goes down -/
theorem nextL_none : ∀ p : List Nat, p.Pairwise (fun a b => b < a) → nextL p = none := by
  intro p
  induction p with
  | nil => intro _; rfl
  | cons x t ih =>
    intro h
    rw [List.pairwise_cons] at h
    rw [nextL, ih h.2]
    unfold pick
    have : t.reverse.dropWhile (fun j => decide (j < x)) = [] := by
      have := (take_drop (A := t.reverse) (B := []) (h := x) (fun a q => h.1 a (List.mem_reverse.mp q)) (fun b q => absurd q (by simp))).2
      rw [List.append_nil] at this; exact this
    simp [this]
/-- a row turned round from a to b -/
def rvF (f : Nat → Int32) (a b : Nat) : Nat → Int32 := fun i => if a ≤ i ∧ i ≤ b then f (a + b - i) else f i
theorem no_100 {Q : Int32 → (Nat → Int32) → Prop} : ∀ n a b f, b ≤ a + 2 * n → b ≤ 7 → a ≤ b + 1 → Q 1 (rvF f a b) → wX3_nextOrder_100 Q (n + 1) (nI b) (nI a) f := by
  intro n
  induction n with
  | zero =>
    intro a b f h1 h2 h3 hq
    unfold wX3_nextOrder_100
    refine ⟨fun _ => ?_, fun q => absurd ((nI_leN (by omega) (by omega)).mpr (by omega)) q⟩
    have e : rvF f a b = f := by
      funext i
      unfold rvF
      split
      · rename_i q; rw [show a + b - i = i by omega]
      · rfl
    rw [e] at hq; exact hq
  | succ n ih =>
    intro a b f h1 h2 h3 hq
    unfold wX3_nextOrder_100
    refine ⟨fun q => ?_, fun q => ?_⟩
    · have hab := (nI_leN (by omega) (by omega)).mp q
      have e : rvF f a b = f := by
        funext i
        unfold rvF
        split
        · rename_i q; rw [show a + b - i = i by omega]
        · rfl
      rw [e] at hq; exact hq
    · have hab : a < b := Nat.lt_of_not_le (fun z => q ((nI_leN (by omega) (by omega)).mpr z))
      rw [clam_nI (by omega), clam_nI (by omega)]
      refine ⟨in_nI (by omega) (by decide), ?_⟩
      intro x hx
      refine ⟨in_nI (by omega) (by decide), in_nI (by omega) (by decide), ?_⟩
      intro f1 hf1
      refine ⟨in_nI (by omega) (by decide), ?_⟩
      intro f2 hf2 b' hb' a' ha'
      subst hx hf1 hf2 hb' ha'
      have eb : nI b + -1 = nI (b - 1) := by
        rw [← nI_subN (by omega : 1 ≤ b)]
        rw [Int32.sub_eq_add_neg]; rfl
      rw [eb, nI_add1]
      refine ih (a + 1) (b - 1) _ (by omega) (by omega) (by omega) ?_
      have e : rvF (upd (upd f a (f b)) b (f a)) (a + 1) (b - 1) = rvF f a b := by
        funext i
        unfold rvF upd
        by_cases c1 : a + 1 ≤ i ∧ i ≤ b - 1
        · rw [if_pos c1, if_neg (show ¬ a + 1 + (b - 1) - i = b by omega), if_neg (show ¬ a + 1 + (b - 1) - i = a by omega), if_pos (show a ≤ i ∧ i ≤ b by omega), show a + 1 + (b - 1) - i = a + b - i by omega]
        · rw [if_neg c1]
          by_cases c2 : i = b
          · rw [if_pos c2, if_pos (show a ≤ i ∧ i ≤ b by omega), show a + b - i = a by omega]
          · rw [if_neg c2]
            by_cases c3 : i = a
            · rw [if_pos c3, if_pos (show a ≤ i ∧ i ≤ b by omega), show a + b - i = b by omega]
            · rw [if_neg c3, if_neg (show ¬ (a ≤ i ∧ i ≤ b) by omega)]
      rw [e]; exact hq
theorem arr_rv {f : Nat → Int32} {F S : List Nat} (h : arr f (F ++ S)) : arr (rvF f F.length (F.length + S.length - 1)) (F ++ S.reverse) := by
  intro i hi
  rw [List.length_append, List.length_reverse] at hi
  unfold rvF
  by_cases q : F.length ≤ i
  · rw [if_pos ⟨q, by omega⟩, h _ (by rw [List.length_append]; omega)]
    congr 1
    rw [List.getD_eq_getElem?_getD, List.getD_eq_getElem?_getD, List.getElem?_append_right (by omega), List.getElem?_append_right q]
    rw [List.getElem?_reverse (by omega)]
    congr 2
    omega
  · rw [if_neg (fun z => q z.1), h i (by rw [List.length_append]; omega)]
    rw [List.getD_eq_getElem?_getD, List.getD_eq_getElem?_getD, List.getElem?_append_left (by omega), List.getElem?_append_left (by omega)]
theorem arr_le {f : Nat → Int32} {p : List Nat} (h : arr f p) (hp : ∀ x ∈ p, x < 8) {i j : Nat} (hi : i < p.length) (hj : j < p.length) : f i ≤ f j ↔ p.getD i 0 ≤ p.getD j 0 := by
  have gi : p.getD i 0 < 8 := hp _ (by rw [List.getD_eq_getElem?_getD, List.getElem?_eq_getElem hi]; exact List.getElem_mem _)
  have gj : p.getD j 0 < 8 := hp _ (by rw [List.getD_eq_getElem?_getD, List.getElem?_eq_getElem hj]; exact List.getElem_mem _)
  rw [h i hi, h j hj, nI_leN (by omega) (by omega)]
/-! PURE 18: the model's next order -/
theorem getD_mid {F T : List Nat} {x : Nat} : (F ++ x :: T).getD F.length 0 = x := by
  rw [List.getD_eq_getElem?_getD, List.getElem?_append_right (Nat.le_refl _), Nat.sub_self]; rfl
theorem getD_after {F T : List Nat} {x : Nat} (j : Nat) : (F ++ x :: T).getD (F.length + 1 + j) 0 = T.getD j 0 := by
  rw [List.getD_eq_getElem?_getD, List.getElem?_append_right (by omega), show F.length + 1 + j - F.length = j + 1 by omega, List.getElem?_cons_succ, List.getD_eq_getElem?_getD]
theorem nI_predN {b : Nat} (h : 1 ≤ b) : nI b + -1 = nI (b - 1) := by
  rw [← nI_subN h, Int32.sub_eq_add_neg]; rfl
theorem getD_mem {p : List Nat} {i : Nat} (h : i < p.length) : p.getD i 0 ∈ p := by
  rw [List.getD_eq_getElem?_getD, List.getElem?_eq_getElem h]; exact List.getElem_mem _
/-- from a split row: swap, turn round -/
theorem no_41 {Q : Int32 → (Nat → Int32) → Prop} {n : Nat} {f : Nat → Int32} {F A B : List Nat} {x y : Nat} (hn : n ≤ 8) (hlen : (F ++ x :: (B.reverse ++ y :: A.reverse)).length = n) (h : arr f (F ++ x :: (B.reverse ++ y :: A.reverse))) (h8 : ∀ z ∈ F ++ x :: (B.reverse ++ y :: A.reverse), z < 8) (hA : ∀ a ∈ A, a < x) (hy : x < y)
    (hq : ∀ f', arr f' (F ++ y :: (A ++ x :: B)) → Q 1 f') : ∀ t, t ≤ A.length → wX3_nextOrder_41 Q (nI n) (nI F.length) f (t + 1) (nI (F.length + 1 + B.length + t)) := by
  have hl : F.length + 1 + B.length + 1 + A.length = n := by simp at hlen; omega
  have fk : f F.length = nI x := by rw [h F.length (by rw [hlen]; omega), getD_mid]
  have fj : ∀ t, t ≤ A.length → f (F.length + 1 + B.length + t) = nI ((y :: A.reverse).getD t 0) := by
    intro t ht
    rw [h _ (by rw [hlen]; omega)]
    congr 1
    rw [show F.length + 1 + B.length + t = F.length + 1 + (B.length + t) by omega, getD_after]
    rw [List.getD_eq_getElem?_getD, List.getElem?_append_right (by rw [List.length_reverse]; omega), List.length_reverse, Nat.add_sub_cancel_left, List.getD_eq_getElem?_getD]
  have x8 : x < 8 := h8 x (by simp)
  have y8 : y < 8 := h8 y (by simp)
  intro t
  induction t with
  | zero =>
    intro _
    unfold wX3_nextOrder_41
    rw [Nat.add_zero, clam_nI (by omega), clam_nI (by omega)]
    have e0 := fj 0 (Nat.zero_le _)
    rw [Nat.add_zero] at e0
    have e0' : f (F.length + 1 + B.length) = nI y := e0
    refine ⟨in_nI (by omega) (by decide), in_nI (by omega) (by decide), fun _ => ⟨in_nI (by omega) (by decide), ?_⟩, fun q => absurd (by rw [fk, e0', nI_leN (by omega) (by omega)]; omega) q⟩
    intro x' hx'
    refine ⟨in_nI (by omega) (by decide), in_nI (by omega) (by decide), ?_⟩
    intro f1 hf1
    refine ⟨in_nI (by omega) (by decide), ?_⟩
    intro f2 hf2 b hb a ha
    rw [fk] at hx'
    rw [e0'] at hf1
    subst hx' hf1 hf2 hb ha
    rw [show nI n - 1 = nI (n - 1) by rw [← nI_subN (by omega : 1 ≤ n)]; rfl, nI_add1]
    refine ⟨4 + 1, no_100 4 (F.length + 1) (n - 1) _ (by omega) (by omega) (by omega) ?_⟩
    have a1 := arrP_set (arrP_set h F.length y) (F.length + 1 + B.length) x
    have es : ((F ++ x :: (B.reverse ++ y :: A.reverse)).set F.length y).set (F.length + 1 + B.length) x = (F ++ [y]) ++ (B.reverse ++ x :: A.reverse) := by
      rw [List.set_append_right _ _ (Nat.le_refl _), Nat.sub_self, List.set_cons_zero, List.set_append_right _ _ (by omega), show F.length + 1 + B.length - F.length = B.length + 1 by omega, List.set_cons_succ, List.set_append_right _ _ (by rw [List.length_reverse]; omega), List.length_reverse, Nat.sub_self, List.set_cons_zero]
      simp
    rw [es] at a1
    have a2 := arr_rv a1
    have er : (B.reverse ++ x :: A.reverse).reverse = A ++ x :: B := by simp
    rw [er] at a2
    have el : (F ++ [y]).length = F.length + 1 := by simp
    have el2 : (F ++ [y]).length + (B.reverse ++ x :: A.reverse).length - 1 = n - 1 := by simp; omega
    rw [el2, el] at a2
    refine hq _ ?_
    have : F ++ y :: (A ++ x :: B) = (F ++ [y]) ++ (A ++ x :: B) := by simp
    rw [this]; exact a2
  | succ t ih =>
    intro ht
    have hf := ih (by omega)
    unfold wX3_nextOrder_41
    rw [clam_nI (by omega), clam_nI (by omega)]
    have e1 := fj (t + 1) ht
    have ea : (y :: A.reverse).getD (t + 1) 0 = A.reverse.getD t 0 := by
      rw [List.getD_eq_getElem?_getD, List.getElem?_cons_succ, List.getD_eq_getElem?_getD]
    rw [ea] at e1
    have hlt : A.reverse.getD t 0 < x := hA _ (List.mem_reverse.mp (getD_mem (by rw [List.length_reverse]; omega)))
    refine ⟨in_nI (by omega) (by decide), in_nI (by omega) (by decide), fun q => ?_, fun _ => ?_⟩
    · rw [fk, e1, nI_leN (by omega) (by omega)] at q; omega
    · intro j hj
      subst hj
      rw [nI_predN (by omega), show F.length + 1 + B.length + (t + 1) - 1 = F.length + 1 + B.length + t by omega]
      exact hf
theorem desc_rev {t : List Nat} (h : t.Pairwise (fun a b => b < a)) : asc t.reverse := by
  unfold asc
  rw [List.pairwise_reverse]; exact h
theorem nextL_app : ∀ F s s', nextL s = some s' → nextL (F ++ s) = some (F ++ s') := by
  intro F
  induction F with
  | nil => intro s s' h; exact h
  | cons x F ih =>
    intro s s' h
    rw [List.cons_append, nextL, ih s s' h]; rfl
theorem takeW {p : Nat → Bool} : ∀ {l : List Nat} {a : Nat}, a ∈ l.takeWhile p → p a = true := by
  intro l
  induction l with
  | nil => intro a h; exact absurd h (by simp)
  | cons x l ih =>
    intro a h
    rw [List.takeWhile_cons] at h
    split at h
    · rename_i q
      rcases List.mem_cons.mp h with z | z
      · rw [z]; exact q
      · exact ih z
    · exact absurd h (by simp)
/-- the loop that looks for the place: all behind it goes down -/
theorem no_4 {Q : Int32 → (Nat → Int32) → Prop} {n : Nat} {f : Nat → Int32} {p : List Nat} (hn : n ≤ 8) (hlen : p.length = n) (h : arr f p) (h8 : ∀ z ∈ p, z < 8) (hd : p.Pairwise (fun a b => a ≠ b))
    (hq : ∀ q f', nextL p = some q → arr f' q → Q 1 f') (hno : nextL p = none → Q 0 f) : ∀ m F t, p = F ++ t → t ≠ [] → F.length = m → t.Pairwise (fun a b => b < a) → wX3_nextOrder_4 Q (nI n) f (m + 1) (nI m - 1) := by
  intro m
  induction m with
  | zero =>
    intro F t e _ hF ht
    have : F = [] := List.length_eq_zero_iff.mp hF
    subst this
    rw [List.nil_append] at e
    subst e
    unfold wX3_nextOrder_4 wX3_nextOrder_31
    refine ⟨fun _ => ⟨fun q => absurd q (by decide), fun _ => hno (nextL_none p ht)⟩, fun q => absurd (by decide) q⟩
  | succ m ih =>
    intro F t e hne hF ht
    have hFne : F ≠ [] := fun q => by rw [q] at hF; exact absurd hF (by simp)
    obtain ⟨F', x, eF⟩ : ∃ F' x, F = F' ++ [x] := ⟨F.dropLast, F.getLast hFne, (List.dropLast_concat_getLast hFne).symm⟩
    subst eF
    have hF' : F'.length = m := by simpa using hF
    obtain ⟨t0, T, et⟩ : ∃ t0 T, t = t0 :: T := by
      cases t with
      | nil => exact absurd rfl hne
      | cons a b => exact ⟨a, b, rfl⟩
    have ep : p = F' ++ x :: t := by rw [e]; simp
    have hl : m + 1 + t.length = n := by rw [← hlen, ep]; simp; omega
    have htl : 1 ≤ t.length := by rw [et]; simp
    have em : nI (m + 1) - 1 = nI m := by rw [show (1 : Int32) = nI 1 from rfl, nI_subN (by omega)]; rfl
    rw [em]
    have fm : f m = nI x := by rw [h m (by omega), ep, ← hF', getD_mid]
    have fm1 : f (m + 1) = nI t0 := by
      rw [h (m + 1) (by omega), ep, ← hF']
      have := getD_after (F := F') (T := t) (x := x) 0
      rw [Nat.add_zero] at this
      rw [this, et]; rfl
    have x8 : x < 8 := h8 x (by rw [ep]; simp)
    have t8 : t0 < 8 := h8 t0 (by rw [ep, et]; simp)
    unfold wX3_nextOrder_4
    refine ⟨fun q => absurd q (neg_nI m (by omega)), fun _ => ?_⟩
    rw [nI_add1, clam_nI (by omega), clam_nI (by omega)]
    refine ⟨in_nI (by omega) (by decide), in_nI (by omega) (by decide), fun q => ?_, fun q => ?_⟩
    · rw [fm, fm1, nI_leN (by omega) (by omega)] at q
      -- here it is
      have hd' : ∀ z ∈ t, x ≠ z := by
        rw [ep, List.pairwise_append, List.pairwise_cons] at hd
        exact hd.2.1.1
      have hxt : x < t0 := Nat.lt_of_le_of_ne q (hd' t0 (by rw [et]; simp))
      have hr := desc_rev ht
      -- the split of what goes down
      have hspl : t.reverse.takeWhile (fun j => decide (j < x)) ++ t.reverse.dropWhile (fun j => decide (j < x)) = t.reverse := List.takeWhile_append_dropWhile
      have hAll : ∀ a ∈ t.reverse.takeWhile (fun j => decide (j < x)), a < x := fun a ha => by
        have := takeW ha
        simpa using this
      cases hdw : t.reverse.dropWhile (fun j => decide (j < x)) with
      | nil =>
        rw [hdw, List.append_nil] at hspl
        have := hAll t0 (by rw [hspl, et]; simp)
        omega
      | cons y B =>
        have hyx : ¬ y < x := by
          have := List.head?_dropWhile_not (fun j => decide (j < x)) t.reverse
          rw [hdw] at this
          simpa using this
        have hA := hAll
        generalize t.reverse.takeWhile (fun j => decide (j < x)) = A at hspl hA
        rw [hdw] at hspl
        have etr : t = B.reverse ++ y :: A.reverse := by
          have := congrArg List.reverse hspl
          rw [List.reverse_reverse] at this
          rw [← this]; simp
        have hy : x < y := Nat.lt_of_le_of_ne (Nat.le_of_not_lt hyx) (hd' y (by rw [etr]; simp))
        have hpick : nextL (x :: t) = some (y :: (A ++ x :: B)) := by
          rw [nextL, nextL_none t ht]
          unfold pick
          have td := take_drop (A := A) (B := y :: B) (h := x) hA (by
            intro b hb
            rcases List.mem_cons.mp hb with z | z
            · omega
            · have : asc (A ++ y :: B) := by rw [hspl]; exact hr
              have := (asc_mid this).2.1 b z
              omega)
          rw [hspl] at td
          rw [td.1, td.2]
        have hnext : nextL p = some (F' ++ y :: (A ++ x :: B)) := by rw [ep]; exact nextL_app F' _ _ hpick
        unfold wX3_nextOrder_31
        refine ⟨fun _ => ?_, fun z => absurd (pos_nI m (by omega)) z⟩
        intro j hj
        rw [show nI n - 1 = nI (n - 1) by rw [← nI_subN (by omega : 1 ≤ n)]; rfl] at hj
        subst hj
        have hlt : t.length = B.length + 1 + A.length := by rw [etr]; simp; omega
        have := no_41 (Q := Q) (n := n) (f := f) (F := F') (A := A) (B := B) (x := x) (y := y) hn (by rw [← etr, ← ep]; exact hlen) (by rw [← etr, ← ep]; exact h) (by rw [← etr, ← ep]; exact h8) hA hy (fun f' hf' => hq _ f' hnext hf') A.length (Nat.le_refl _)
        rw [hF'] at this
        rw [show m + 1 + B.length + A.length = n - 1 by omega] at this
        exact ⟨_, this⟩
    · intro k hk
      have hgt : t0 < x := by
        apply Nat.lt_of_not_le
        intro z
        exact q (by rw [fm, fm1, nI_leN (by omega) (by omega)]; exact z)
      have : wX3_nextOrder_4 Q (nI n) f (m + 1) (nI m - 1) := ih F' (x :: t) ep (by simp) hF' (by
        rw [List.pairwise_cons]
        refine ⟨fun a ha => ?_, ht⟩
        rw [et] at ha ht
        rcases List.mem_cons.mp ha with z | z
        · omega
        · have := (List.pairwise_cons.mp ht).1 a z; omega)
      have e2 : nI m + -1 = nI m - 1 := by rw [Int32.sub_eq_add_neg]
      rw [hk, e2]; exact this
theorem pX3_nextOrder {Q : Int32 → (Nat → Int32) → Prop} {n : Nat} {f : Nat → Int32} {p : List Nat} (hn : n ≤ 8) (hlen : p.length = n) (h : arr f p) (h8 : ∀ z ∈ p, z < 8) (hd : p.Pairwise (fun a b => a ≠ b))
    (hq : ∀ q f', nextL p = some q → arr f' q → Q 1 f') (hno : nextL p = none → Q 0 f) : wX3_nextOrder Q f (nI n) := by
  unfold wX3_nextOrder
  intro k hk
  subst hk
  by_cases h0 : n = 0
  · subst h0
    have : p = [] := List.length_eq_zero_iff.mp hlen
    subst this
    refine ⟨1, ?_⟩
    unfold wX3_nextOrder_4 wX3_nextOrder_31
    exact ⟨fun _ => ⟨fun q => absurd q (by decide), fun _ => hno rfl⟩, fun q => absurd (by decide) q⟩
  · have hpne : p ≠ [] := fun q => by rw [q] at hlen; exact h0 hlen.symm
    have := no_4 hn hlen h h8 hd hq hno (n - 1) p.dropLast [p.getLast hpne] (List.dropLast_concat_getLast hpne).symm (by simp) (by simp [hlen]) (by simp)
    refine ⟨n - 1 + 1, ?_⟩
    have e : nI n - 2 = nI (n - 1) - 1 := by
      obtain ⟨m, rfl⟩ : ∃ m, n = m + 1 := ⟨n - 1, by omega⟩
      rw [Nat.add_sub_cancel, ← nI_add1]
      apply Int32.toBitVec_inj.mp
      rw [Int32.toBitVec_sub, Int32.toBitVec_add, Int32.toBitVec_sub]
      generalize (nI m).toBitVec = v
      show v + 1#32 - 2#32 = v - 1#32
      bv_omega
    rw [e]; exact this
/-! PURE 19: round -/
theorem per_nodup : ∀ k rem p, rem.length = k → asc rem → p ∈ perF k rem → p.Pairwise (fun a b => a ≠ b) := by
  intro k
  induction k with
  | zero =>
    intro rem p _ _ hp
    have : p = [] := by simpa [perF] using hp
    subst this
    exact List.Pairwise.nil
  | succ k ih =>
    intro rem p hl ha hp
    unfold perF at hp
    rw [List.mem_flatMap] at hp
    obtain ⟨h, hh, hp⟩ := hp
    rw [List.mem_map] at hp
    obtain ⟨t, ht, rfl⟩ := hp
    obtain ⟨A, B, e⟩ := List.append_of_mem hh
    have hm := asc_mid (A := A) (B := B) (h := h) (by rw [← e]; exact ha)
    have hf : rem.filter (fun j => decide (j ≠ h)) = A ++ B := by rw [e]; exact filter_mid hm.1 hm.2.1
    rw [hf] at ht
    have hlen : (A ++ B).length = k := by rw [e] at hl; simp at hl ⊢; omega
    rw [List.pairwise_cons]
    refine ⟨fun a q => ?_, ih (A ++ B) t hlen hm.2.2 ht⟩
    have := (per_mem k (A ++ B) t hlen hm.2.2 ht).2 a q
    rcases List.mem_append.mp this with z | z
    · have := hm.1 a z; omega
    · have := hm.2.1 a z; omega
section
variable (L : List Int64)
def hb (h : Nat) : Int64 := L.getD h 0
def cst : Nat → List Nat → Nat
  | _, [] => 0
  | at', h :: t => apN at' (nr at' (hb L h)) + cst (nr at' (hb L h)) t
def stU (st : Nat × List Nat) (c : Nat) (p : List Nat) : Nat × List Nat := if c < st.1 then (c, p) else st
def fo (at' gone : Nat) (pre : List Nat) (st : Nat × List Nat) (P : List (List Nat)) : Nat × List Nat := P.foldl (fun st p => stU st (gone + cst L at' p) (pre ++ p)) st
end
section
variable {L : List Int64}
theorem fo_prune {at' gone : Nat} {pre : List Nat} {st : Nat × List Nat} (h : st.1 ≤ gone) : ∀ P, fo L at' gone pre st P = st := by
  intro P
  induction P with
  | nil => rfl
  | cons p P ih =>
    have : fo L at' gone pre st (p :: P) = fo L at' gone pre (stU st (gone + cst L at' p) (pre ++ p)) P := rfl
    rw [this]
    have e : stU st (gone + cst L at' p) (pre ++ p) = st := by unfold stU; rw [if_neg (by omega)]
    rw [e]; exact ih
theorem fo_app {at' gone : Nat} {pre : List Nat} (P R : List (List Nat)) (st : Nat × List Nat) : fo L at' gone pre st (P ++ R) = fo L at' gone pre (fo L at' gone pre st P) R := by unfold fo; rw [List.foldl_append]
theorem fo_map {at' gone h : Nat} {pre : List Nat} : ∀ P st, fo L at' gone pre st (P.map (fun p => h :: p)) = fo L (nr at' (hb L h)) (gone + apN at' (nr at' (hb L h))) (pre ++ [h]) st P := by
  intro P
  induction P with
  | nil => intro st; rfl
  | cons p P ih =>
    intro st
    have e1 : fo L at' gone pre st ((p :: P).map (fun p => h :: p)) = fo L at' gone pre (stU st (gone + cst L at' (h :: p)) (pre ++ h :: p)) (P.map (fun p => h :: p)) := rfl
    have e2 : fo L (nr at' (hb L h)) (gone + apN at' (nr at' (hb L h))) (pre ++ [h]) st (p :: P) = fo L (nr at' (hb L h)) (gone + apN at' (nr at' (hb L h))) (pre ++ [h]) (stU st (gone + apN at' (nr at' (hb L h)) + cst L (nr at' (hb L h)) p) (pre ++ [h] ++ p)) P := rfl
    rw [e1, e2, ih]
    have e3 : gone + cst L at' (h :: p) = gone + apN at' (nr at' (hb L h)) + cst L (nr at' (hb L h)) p := by
      rw [cst]; omega
    rw [e3]
    simp
theorem fo_le {at' gone : Nat} {pre : List Nat} : ∀ P st, (fo L at' gone pre st P).1 ≤ st.1 := by
  intro P
  induction P with
  | nil => intro st; exact Nat.le_refl _
  | cons p P ih =>
    intro st
    have : fo L at' gone pre st (p :: P) = fo L at' gone pre (stU st (gone + cst L at' p) (pre ++ p)) P := rfl
    rw [this]
    refine Nat.le_trans (ih _) ?_
    unfold stU; split
    · rename_i q; exact Nat.le_of_lt q
    · exact Nat.le_refl _
end
/-- bits of what is left -/
theorem bF1 : ∀ m : Fin 256, ∀ h : Fin 8, ((nI m.val >>> (nI h.val &&& 31)) &&& 1 = 0) ↔ m.val.testBit h.val = false := by decide +kernel
theorem bF2 : ∀ m : Fin 256, ∀ h : Fin 8, m.val.testBit h.val = true → nI m.val &&& (((1 : Int32) <<< (nI h.val &&& 31)) ^^^ (-1)) = nI (m.val - 2 ^ h.val) := by decide +kernel
theorem bF3 : ∀ m : Fin 256, ∀ h j : Fin 8, m.val.testBit h.val = true → (m.val - 2 ^ h.val).testBit j.val = (m.val.testBit j.val && decide (j.val ≠ h.val)) := by decide +kernel
theorem bF5 : ∀ n : Fin 9, ((1 : Int32) <<< (nI n.val &&& 31)) - 1 = nI (2 ^ n.val - 1) := by decide +kernel
def remL (n m : Nat) : List Nat := (List.range n).filter (fun j => m.testBit j)
theorem asc_rem (n m : Nat) : asc (remL n m) := List.Pairwise.filter _ List.pairwise_lt_range
theorem rem_clr {n m h : Nat} (hn : n ≤ 8) (hm : m < 2 ^ n) (hh : h < n) (hb : m.testBit h = true) : remL n (m - 2 ^ h) = (remL n m).filter (fun j => decide (j ≠ h)) := by
  have h256 : m < 256 := Nat.lt_of_lt_of_le hm (by have : 2 ^ n ≤ 2 ^ 8 := Nat.pow_le_pow_right (by decide) hn; exact this)
  unfold remL
  rw [List.filter_filter]
  apply List.filter_congr
  intro j hj
  have hj' := List.mem_range.mp hj
  have := bF3 ⟨m, h256⟩ ⟨h, by omega⟩ ⟨j, by omega⟩ hb
  rw [Bool.and_comm]
  exact this
theorem rem_nil {n m : Nat} (hm : m < 2 ^ n) : remL n m = [] ↔ m = 0 := by
  constructor
  · intro h
    apply Nat.eq_of_testBit_eq
    intro i
    rw [Nat.zero_testBit]
    by_cases q : i < n
    · unfold remL at h
      rw [List.filter_eq_nil_iff] at h
      have := h i (List.mem_range.mpr q)
      simpa using this
    · exact Nat.testBit_lt_two_pow (Nat.lt_of_lt_of_le hm (Nat.pow_le_pow_right (by decide) (by omega)))
  · intro h
    subst h
    unfold remL
    rw [List.filter_eq_nil_iff]
    intro a _
    simp
theorem rem_full (n : Nat) : remL n (2 ^ n - 1) = List.range n := by
  unfold remL
  rw [List.filter_eq_self]
  intro a ha
  rw [Nat.testBit_two_pow_sub_one]
  simpa using ha
section
variable {L : List Int64} {n : Nat} {pm : Nat → Int64}
/-- what stands of the best -/
def relB (L : List Int64) (n : Nat) (st : Nat × List Nat) (best : Nat → Int32) : Prop := st.1 ≤ 100000 ∧ (st.1 < 100000 → ∀ i, i < n → best i = nI (lsb (hb L (st.2.getD i 0))))
theorem agree_trans {n : Nat} {f g h : Nat → Int32} (a : agree n f g) (b : agree n g h) : agree n f h := fun i hi => (a i hi).trans (b i hi)
theorem goes_ok (hn : n ≤ 8) (hsm : ∀ h, h < n → small (hb L h) ∧ hb L h ≠ 0) (hpm : ∀ h, h < n → pm h = hb L h) : ∀ r dp (Q : Int32 → (Nat → Int32) → (Nat → Int32) → Prop) at' k m gone st tour best pre, r ≤ dp → at' < 36 → m < 2 ^ n → (remL n m).length = r → pre.length = k → k + r = n → gone ≤ 10 * k → relB L n st best → (∀ i, i < k → tour i = nI (lsb (hb L (pre.getD i 0)))) →
    (∀ tour' best', agree k tour' tour → relB L n (fo L at' gone pre st (perF r (remL n m))) best' → Q (nI (fo L at' gone pre st (perF r (remL n m))).1) tour' best') → wX0_goes (dp + 1) Q (nI st.1) tour best n pm (nI at') (nI k) (nI m) (nI gone) := by
  intro r
  induction r with
  | zero =>
    intro dp Q at' k m gone st tour best pre hdp hat hm hr hpre hk hgone hst htour hq
    have hm0 : m = 0 := (rem_nil hm).mp (List.length_eq_zero_iff.mp hr)
    subst hm0
    have hfo : fo L at' gone pre st (perF 0 (remL n 0)) = stU st (gone + 0) (pre ++ []) := rfl
    rw [Nat.add_zero, List.append_nil] at hfo
    rw [hfo] at hq
    have hs1 := hst.1
    unfold wX0_goes
    refine ⟨fun q => ⟨fun _ => ⟨neg_nI k (by omega), ?_⟩, fun z => absurd rfl z⟩, fun q => ?_⟩
    · have hlt := (nI_ltN (by omega) (by omega)).mp q
      have e0 : (0 : Int32).toNatClampNeg = 0 := rfl
      rw [e0, clam_nI (by omega)]
      refine ⟨by omega, by omega, ?_⟩
      intro b hb'
      subst hb'
      have e : stU st gone pre = (gone, pre) := by unfold stU; rw [if_pos hlt]
      rw [e] at hq
      refine hq _ _ (fun _ _ => rfl) ⟨by show gone ≤ 100000; omega, fun _ i hi => ?_⟩
      unfold va_cpy
      rw [if_pos (by omega), show 0 + (i - 0) = i by omega]
      exact htour i (by omega)
    · have hge : ¬ gone < st.1 := fun z => q ((nI_ltN (by omega) (by omega)).mpr z)
      have e : stU st gone pre = st := by unfold stU; rw [if_neg hge]
      rw [e] at hq
      exact hq _ _ (fun _ _ => rfl) hst
  | succ r ih =>
    intro dp Q at' k m gone st tour best pre hdp hat hm hr hpre hk hgone hst htour hq
    obtain ⟨dp, rfl⟩ : ∃ d, dp = d + 1 := ⟨dp - 1, by omega⟩
    have h256 : m < 256 := Nat.lt_of_lt_of_le hm (by have : 2 ^ n ≤ 2 ^ 8 := Nat.pow_le_pow_right (by decide) hn; exact this)
    have hm0 : ¬ m = 0 := fun z => by rw [(rem_nil hm).mpr z] at hr; exact absurd hr (by simp)
    have hs1 := hst.1
    unfold wX0_goes
    refine ⟨fun q => ⟨fun z => absurd ((nI_inj (b := 0) (by omega) (by decide)).mp z) hm0, fun _ => ?_⟩, fun q => ?_⟩
    · -- the loop over all that are left
      have loop : ∀ t h st tour best, h + t = n → relB L n st best → (∀ i, i < k → tour i = nI (lsb (hb L (pre.getD i 0)))) →
          (∀ tour' best', agree k tour' tour → relB L n (fo L at' gone pre st ((((List.range n).drop h).filter (fun j => m.testBit j)).flatMap (fun h => (perF r ((remL n m).filter (fun j => decide (j ≠ h)))).map (fun p => h :: p)))) best' → Q (nI (fo L at' gone pre st ((((List.range n).drop h).filter (fun j => m.testBit j)).flatMap (fun h => (perF r ((remL n m).filter (fun j => decide (j ≠ h)))).map (fun p => h :: p)))).1) tour' best') →
          wX0_goes_39 (wX0_goes (dp + 1)) Q (nI at') (nI k) (nI m) (nI gone) n pm (t + 1) (nI h) (nI st.1) tour best := by
        intro t
        induction t with
        | zero =>
          intro h st tour best ht hst htour hq
          have e : h = n := by omega
          subst e
          unfold wX0_goes_39
          refine ⟨fun _ => ?_, fun z => absurd (Int32.le_refl _) z⟩
          have ed : (List.range h).drop h = [] := List.drop_eq_nil_of_le (by simp)
          rw [ed] at hq
          exact hq _ _ (fun _ _ => rfl) hst
        | succ t iht =>
          intro h st tour best ht hst htour hq
          have hh : h < n := by omega
          have ed : (List.range n).drop h = h :: (List.range n).drop (h + 1) := by
            rw [List.drop_eq_getElem_cons (by simpa using hh)]
            simp
          rw [ed] at hq
          unfold wX0_goes_39
          refine ⟨fun z => absurd ((nI_leN (by omega) (by omega)).mp z) (by omega), fun _ => ⟨fun z => ?_, fun z => ?_⟩⟩
          · rw [bF1 ⟨m, h256⟩ ⟨h, by omega⟩] at z
            simp only at z
            intro a ha
            subst ha
            rw [nI_add1]
            refine iht (h + 1) st tour best (by omega) hst htour ?_
            rw [List.filter_cons_of_neg (by simp [z])] at hq
            exact hq
          · have hbit : m.testBit h = true := by
              cases w : m.testBit h with
              | true => rfl
              | false => exact absurd ((bF1 ⟨m, h256⟩ ⟨h, by omega⟩).mpr w) z
            obtain ⟨hs, h0⟩ := hsm h hh
            rw [List.filter_cons_of_pos (by simpa using hbit), List.flatMap_cons] at hq
            simp only [fo_app, fo_map] at hq
            refine ⟨in_nI hh (by omega), ?_⟩
            rw [clam_nI (k := h) (by omega), clam_nI (k := k) (by omega), hpm h hh]
            refine pX0_nearest hat hs h0 ⟨in_nI hh (by omega), ?_⟩
            refine pX0_least h0 ⟨in_nI (by omega) (by decide), ?_⟩
            intro tour1 htour1
            have hnr : nr at' (hb L h) < 36 := nr_lt hs h0
            have hap := apN_le hat hnr
            refine pX0_apart hat hnr ?_
            rw [nI_add1 k, show nI m &&& (((1 : Int32) <<< (nI h &&& 31)) ^^^ (-1)) = nI (m - 2 ^ h) from bF2 ⟨m, h256⟩ ⟨h, by omega⟩ hbit, nI_addN]
            have hrem := rem_clr hn hm hh hbit
            have hin : h ∈ remL n m := by unfold remL; rw [List.mem_filter]; exact ⟨List.mem_range.mpr hh, hbit⟩
            have hlen : (remL n (m - 2 ^ h)).length = r := by
              obtain ⟨A, B, e⟩ := List.append_of_mem hin
              have hm' := asc_mid (A := A) (B := B) (h := h) (by rw [← e]; exact asc_rem n m)
              rw [hrem, e, filter_mid hm'.1 hm'.2.1]
              rw [e] at hr; simp at hr ⊢; omega
            refine ih dp _ (nr at' (hb L h)) (k + 1) (m - 2 ^ h) (gone + apN at' (nr at' (hb L h))) st tour1 best (pre ++ [h]) (by omega) hnr (Nat.lt_of_le_of_lt (Nat.sub_le _ _) hm) hlen (by simp [hpre]) (by omega) (by omega) hst ?_ ?_
            · intro i hi
              rw [htour1]
              unfold upd
              by_cases e : i = k
              · subst e
                rw [if_pos rfl, ← hpre]
                have : (pre ++ [h]).getD pre.length 0 = h := by
                  rw [List.getD_eq_getElem?_getD, List.getElem?_append_right (Nat.le_refl _), Nat.sub_self]; rfl
                rw [this]
              · rw [if_neg e, htour i (by omega)]
                have : (pre ++ [h]).getD i 0 = pre.getD i 0 := by
                  rw [List.getD_eq_getElem?_getD, List.getElem?_append_left (by omega), List.getD_eq_getElem?_getD]
                rw [this]
            · intro tour' best' hag hrel a ha
              subst ha
              rw [nI_add1]
              have hag' : agree k tour' tour := fun i hi => by
                rw [hag i (by omega), htour1]
                unfold upd
                rw [if_neg (by omega)]
              rw [hrem] at hrel ⊢
              refine iht (h + 1) _ tour' best' (by omega) hrel (fun i hi => by rw [hag' i hi]; exact htour i hi) ?_
              intro tour'' best'' hag'' hrel''
              exact hq tour'' best'' (agree_trans hag'' hag') hrel''
      refine ⟨n + 1, loop n 0 st tour best (Nat.zero_add _) hst htour ?_⟩
      exact hq
    · have hge : st.1 ≤ gone := Nat.le_of_not_lt (fun z => q ((nI_ltN (by omega) (by omega)).mpr z))
      rw [fo_prune hge] at hq
      exact hq _ _ (fun _ _ => rfl) hst
end
/-- the best round -/
def rndP (L : List Int64) (c : Nat) : Nat × List Nat := fo L c 0 [] (100000, []) (perF L.length (List.range L.length))
def rndA (L : List Int64) (c : Nat) (i : Int32) : Int32 := if 8 < L.length then -3 else if i < 0 then nI (rndP L c).1 else if nI L.length ≤ i then -4 else nI (lsb (hb L ((rndP L c).2.getD i.toNatClampNeg 0)))
theorem cst_le {L : List Int64} (hsm : ∀ h, h < L.length → small (hb L h) ∧ hb L h ≠ 0) : ∀ p at', at' < 36 → (∀ x ∈ p, x < L.length) → cst L at' p ≤ 10 * p.length := by
  intro p
  induction p with
  | nil => intro _ _ _; exact Nat.zero_le _
  | cons h t ih =>
    intro at' hat hp
    obtain ⟨hs, h0⟩ := hsm h (hp h List.mem_cons_self)
    have hnr : nr at' (hb L h) < 36 := nr_lt hs h0
    have := apN_le hat hnr
    have := ih _ hnr (fun x hx => hp x (List.mem_cons_of_mem _ hx))
    rw [cst, List.length_cons]; omega
theorem asc_range (n : Nat) : asc (List.range n) := List.pairwise_lt_range
theorem rnd_lt {L : List Int64} (hL : L.length ≤ 8) (hsm : ∀ h, h < L.length → small (hb L h) ∧ hb L h ≠ 0) {c : Nat} (hc : c < 36) : (rndP L c).1 < 100000 := by
  unfold rndP
  have f := per_facts L.length (List.range L.length) (by simp) (asc_range _)
  cases hP : perF L.length (List.range L.length) with
  | nil => rw [hP] at f; exact absurd f.1 (by simp)
  | cons p P =>
    have hp := per_mem L.length (List.range L.length) p (by simp) (asc_range _) (by rw [hP]; exact List.mem_cons_self)
    have hle := cst_le hsm p c hc (fun x hx => List.mem_range.mp (hp.2 x hx))
    have : fo L c 0 [] (100000, []) (p :: P) = fo L c 0 [] (stU (100000, []) (0 + cst L c p) ([] ++ p)) P := rfl
    rw [this]
    refine Nat.lt_of_le_of_lt (fo_le _ _) ?_
    unfold stU
    rw [if_pos (by show 0 + cst L c p < 100000; omega)]
    show 0 + cst L c p < 100000
    omega
theorem hl_hb {d : Int64} (hd : small d) : ∀ h, h < (hl d).length → small (hb (hl d) h) ∧ hb (hl d) h ≠ 0 := by
  intro h hh
  unfold hb
  rw [getD_at hh]
  have := hl_isHole hd (List.getElem_mem hh)
  exact ⟨isHole_small hd this, isHole_ne this⟩
theorem cRound {Q : Int32 → Int32 → (Nat → Int32) → (Nat → Int32) → Prop} {g tour best : Nat → Int32} {gro : Int64} {grt steps x i : Int32} (h : ∀ a b c, Q (if isC x ∧ -1 ≤ i ∧ i ≤ 7 then rndA (hl (dugP g)) x.toNatClampNeg i else -1) a b c) : wX0_round Q steps g gro grt tour best x i := by
  unfold wX0_round
  refine pX0_isCell ⟨fun q => ?_, fun q => pX0_inI (lo := -1) (hi := 7) ⟨fun z => ?_, fun z => ?_⟩⟩
  · rw [if_neg (fun z => b2_0 q z.1)] at h; exact h _ _ _
  · rw [if_neg (fun w => b2_0 z w.2)] at h; exact h _ _ _
  · rw [if_pos ⟨b2_1 q, b2_1 z⟩] at h
    obtain ⟨c, hc, e⟩ := isC_ex (b2_1 q)
    subst e
    rw [clam_nI (by omega)] at h
    have hd := small_dugP g
    have h18 := hl_18 hd
    have hz := b2_1 z
    refine pX1_holes ?_
    have hhb := hl_hb hd
    generalize hl (dugP g) = L at h h18 hhb
    unfold rndA at h
    refine ⟨fun w => ?_, fun w => ?_⟩
    · have h8 : L.length ≤ 8 := (nI_leN (b := 8) (by omega) (by decide)).mp w
      rw [if_neg (by omega)] at h
      rw [bF5 ⟨L.length, by omega⟩]
      have hrl := rnd_lt h8 hhb hc
      have efull : fo L c 0 [] (100000, []) (perF L.length (remL L.length (2 ^ L.length - 1))) = rndP L c := by rw [rem_full]; rfl
      have hp2 : 0 < 2 ^ L.length := Nat.pow_pos (by decide)
      refine goes_ok (n := L.length) h8 hhb (fun k hk => over_at hk |>.trans (by unfold hb; rw [getD_at hk])) L.length 8 _ c 0 (2 ^ L.length - 1) 0 (100000, []) tour best [] h8 hc (by omega) (by rw [rem_full]; simp) rfl (Nat.zero_add _) (Nat.zero_le _) ⟨Nat.le_refl _, fun q => absurd q (by decide)⟩ (fun i hi => by omega) ?_
      intro tour' best' _ hrel
      rw [efull] at hrel ⊢
      refine ⟨fun v => ⟨fun u => ?_, fun u => ?_⟩, fun v => ?_⟩
      · rw [if_neg (Int32.not_lt.mpr v), if_pos u] at h; exact h _ _ _
      · rw [if_neg (Int32.not_lt.mpr v), if_neg u] at h
        obtain ⟨j, hj, e⟩ := nI_ofN (n := 7) v hz.2 (by decide)
        subst e
        rw [clam_nI (by omega)] at h ⊢
        refine ⟨in_nI (by omega) (by decide), ?_⟩
        have hjn : j < L.length := Nat.lt_of_not_le (fun q => u ((nI_leN (by omega) (by omega)).mpr q))
        rw [hrel.2 hrl j hjn]
        exact h _ _ _
      · rw [if_pos (Int32.not_le.mp v)] at h; exact h _ _ _
    · rw [if_pos (Nat.lt_of_not_le (fun q => w ((nI_leN (b := 8) (by omega) (by decide)).mpr q)))] at h
      exact h _ _ _
/-! PURE 20: the model's round -/
section
variable {L : List Int64} {n : Nat}
/-- the nearest cells as a table -/
def ner (L : List Int64) (n : Nat) (f : Nat → Int32) : Prop := ∀ c h, c < 36 → h < n → f (8 * c + h) = nI (nr c (hb L h))
theorem steps_8 {Q : Int32 → Prop} {order nears : Nat → Int32} {p : List Nat} (hn : n ≤ 8) (hlen : p.length = n) (hp : ∀ x ∈ p, x < n) (ha : arr order p) (hner : ner L n nears) (hsm : ∀ h, h < n → small (hb L h) ∧ hb L h ≠ 0) : ∀ t k at' s, k + t = n → at' < 36 → s ≤ 10 * k → Q (nI (s + cst L at' (p.drop k))) → wX3_stepsOf_8 Q (nI n) order nears (t + 1) (nI at') (nI s) (nI k) := by
  intro t
  induction t with
  | zero =>
    intro k at' s hk hat hs hq
    have e : k = n := by omega
    subst e
    unfold wX3_stepsOf_8
    rw [List.drop_eq_nil_of_le (by omega)] at hq
    exact ⟨fun _ => hq, fun z => absurd (Int32.le_refl _) z⟩
  | succ t ih =>
    intro k at' s hk hat hs hq
    have hkl : k < p.length := by omega
    have hh : p.getD k 0 < n := hp _ (getD_mem hkl)
    have hd : p.drop k = p.getD k 0 :: p.drop (k + 1) := by
      rw [List.drop_eq_getElem_cons hkl, List.getD_eq_getElem?_getD, List.getElem?_eq_getElem hkl]; rfl
    rw [hd, cst] at hq
    obtain ⟨hsx, h0⟩ := hsm _ hh
    have hnr : nr at' (hb L (p.getD k 0)) < 36 := nr_lt hsx h0
    have hap := apN_le hat hnr
    unfold wX3_stepsOf_8
    refine ⟨fun z => absurd ((nI_leN (by omega) (by omega)).mp z) (by omega), fun _ => ⟨in_nI (by omega) (by decide), ?_⟩⟩
    rw [clam_nI (k := k) (by omega), ha k hkl, show (8 : Int32) = nI 8 from rfl, nI_mulN, nI_addN, clam_nI (by omega), hner at' _ hat hh]
    refine ⟨in_nI (by omega) (by decide), ?_⟩
    intro x hx
    subst hx
    refine pX3_apart hat hnr ?_
    intro y hy z hz
    subst hy hz
    rw [nI_addN, nI_add1]
    refine ih (k + 1) _ _ (by omega) hnr (by omega) ?_
    rw [Nat.add_assoc]; exact hq
theorem pX3_stepsOf {Q : Int32 → Prop} {order nears : Nat → Int32} {p : List Nat} (hn : n ≤ 8) (hlen : p.length = n) (hp : ∀ x ∈ p, x < n) (ha : arr order p) (hner : ner L n nears) (hsm : ∀ h, h < n → small (hb L h) ∧ hb L h ≠ 0) {at' : Nat} (hat : at' < 36) (hq : Q (nI (cst L at' p))) : wX3_stepsOf Q order nears (nI at') (nI n) := by
  refine ⟨n + 1, steps_8 hn hlen hp ha hner hsm n 0 at' 0 (Nat.zero_add _) hat (Nat.zero_le _) ?_⟩
  rw [Nat.zero_add, List.drop_zero]; exact hq
abbrev RQ := Int32 → Int64 → Int64 → (Nat → Int64) → Int32 → (Nat → Int32) → (Nat → Int32) → (Nat → Int32) → Prop
/-- an order is kept -/
theorem mr_161 {Q : RQ} {k129 : Int32 → Int32 → (Nat → Int32) → (Nat → Int32) → Prop} {x1 x2 x4 hm : Int32} {g order nears : Nat → Int32} {d deep : Int64} {hs : Nat → Int64} (hn : n ≤ 8) (hk : ∀ bo, agree n bo order → wX3_round_187 Q k129 x1 x2 (nI n) x4 g d deep hs hm order bo nears) : ∀ t k bo, k + t = n → agree k bo order → wX3_round_161 Q k129 x1 x2 (nI n) x4 g d deep hs hm order nears (t + 1) (nI k) bo := by
  intro t
  induction t with
  | zero =>
    intro k bo hkt hag
    have e : k = n := by omega
    subst e
    unfold wX3_round_161
    exact ⟨fun _ => hk bo hag, fun z => absurd (Int32.le_refl _) z⟩
  | succ t ih =>
    intro k bo hkt hag
    unfold wX3_round_161
    refine ⟨fun z => absurd ((nI_leN (by omega) (by omega)).mp z) (by omega), fun _ => ⟨in_nI (by omega) (by decide), in_nI (by omega) (by decide), ?_⟩⟩
    rw [clam_nI (by omega)]
    intro bo' hbo k' hk'
    subst hbo hk'
    rw [nI_add1]
    refine ih (k + 1) _ (by omega) ?_
    intro i hi
    unfold upd
    by_cases e : i = k
    · rw [if_pos e, e]
    · rw [if_neg e]; exact hag i (by omega)
/-- what stands when some orders were seen -/
def mrI (n : Nat) (st : Nat × List Nat) (x4 : Int32) (bo : Nat → Int32) : Prop := (x4 = -1 ∧ st = (100000, [])) ∨ (st.1 ≤ 100 ∧ x4 = nI st.1 ∧ arr bo st.2 ∧ st.2.length = n ∧ ∀ x ∈ st.2, x < n)
theorem arr_of_agree {f g : Nat → Int32} {p : List Nat} (h : agree p.length f g) (hg : arr g p) : arr f p := fun i hi => (h i hi).trans (hg i hi)
theorem mr_129 {Q : RQ} {x2 hm : Int32} {g nears : Nat → Int32} {d deep : Int64} {hs : Nat → Int64} {c : Nat} (hn : n ≤ 8) (hL : L.length = n) (hc : c < 36) (hner : ner L n nears) (hsm : ∀ h, h < n → small (hb L h) ∧ hb L h ≠ 0) (hhs : ∀ h, h < n → hs h = hb L h) {fin : Nat × List Nat}
    (hx2 : -1 ≤ x2 ∧ x2 ≤ 7) (hq : ∀ a b e, Q (if x2 < 0 then nI fin.1 else if nI n ≤ x2 then -4 else nI (lsb (hb L (fin.2.getD x2.toNatClampNeg 0)))) d deep hs hm a b e) :
    ∀ R p st x4 order bo, (∀ r ∈ p :: R, r ∈ perF n (List.range n)) → chO (p :: R) none → fo L c 0 [] st (p :: R) = fin → mrI n st x4 bo → arr order p → wX3_round_129 Q (nI c) x2 (nI n) g d deep hs hm nears (R.length + 2) x4 1 order bo := by
  -- the end
  have ende : ∀ st x4 order bo fu, st = fin → mrI n st x4 bo → ¬ x4 = -1 → wX3_round_129 Q (nI c) x2 (nI n) g d deep hs hm nears (fu + 1) x4 0 order bo := by
    intro st x4 order bo fu e hI hne
    subst e
    rcases hI with hI | ⟨h1, h2, h3, h4, h5⟩
    · exact absurd hI.1 hne
    · unfold wX3_round_129
      refine ⟨fun _ => ⟨fun v => ⟨fun u => ?_, fun u => ?_⟩, fun v => ?_⟩, fun z => absurd rfl z⟩
      · rw [if_neg (Int32.not_lt.mpr v), if_pos u] at hq; exact hq _ _ _
      · rw [if_neg (Int32.not_lt.mpr v), if_neg u] at hq
        obtain ⟨j, hj, e⟩ := nI_ofN (n := 7) v hx2.2 (by decide)
        subst e
        have hjn : j < n := Nat.lt_of_not_le (fun q => u ((nI_leN (by omega) (by omega)).mpr q))
        have hlt := h5 _ (getD_mem (p := st.2) (i := j) (by omega))
        rw [clam_nI (k := j) (by omega)] at hq ⊢
        rw [h3 j (by omega), clam_nI (by omega), hhs _ hlt]
        refine ⟨in_nI (by omega) (by decide), in_nI (by omega) (by decide), ?_⟩
        exact pX3_least (hsm _ hlt).2 (hq _ _ _)
      · rw [if_pos (Int32.not_le.mp v)] at hq
        rw [h2]; exact hq _ _ _
  intro R
  induction R with
  | nil =>
    intro p st x4 order bo hmem hch hfin hI harr
    have hpm := hmem p List.mem_cons_self
    have hp := per_mem n (List.range n) p (by simp) (asc_range n) hpm
    have hpl : ∀ x ∈ p, x < n := fun x hx => List.mem_range.mp (hp.2 x hx)
    have hnd := per_nodup n (List.range n) p (by simp) (asc_range n) hpm
    have hcst := cst_le (L := L) (fun h hh => hsm h (by omega)) p c hc (fun x hx => by rw [hL]; exact hpl x hx)
    have hnext : nextL p = none := hch
    have hfin' : stU st (cst L c p) p = fin := by
      have : fo L c 0 [] st [p] = stU st (0 + cst L c p) ([] ++ p) := rfl
      rw [this, Nat.zero_add, List.nil_append] at hfin; exact hfin
    have take : cst L c p < st.1 → ∃ fu, wX3_round_161 Q (wX3_round_129 Q (nI c) x2 (nI n) g d deep hs hm nears 1) (nI c) x2 (nI n) (nI (cst L c p)) g d deep hs hm order nears fu 0 bo := by
      intro hlt
      refine ⟨n + 1, mr_161 hn ?_ n 0 bo (Nat.zero_add _) (fun i hi => by omega)⟩
      intro bo' hag
      unfold wX3_round_187
      refine pX3_nextOrder hn hp.1 harr (fun z hz => by have := hpl z hz; omega) hnd (fun q f' e _ => by rw [hnext] at e; exact absurd e (by simp)) (fun _ => ?_)
      refine ende (cst L c p, p) _ _ _ 0 ?_ (Or.inr ⟨by show cst L c p ≤ 100; rw [hp.1] at hcst; omega, rfl, arr_of_agree (by show agree p.length _ _; rw [hp.1]; exact hag) harr, hp.1, hpl⟩) (fun z => by
        have := congrArg Int32.toInt z
        rw [toInt_nI (by rw [hp.1] at hcst; omega)] at this
        have e1 : (-1 : Int32).toInt = -1 := rfl
        omega)
      rw [← hfin']; unfold stU; rw [if_pos hlt]
    unfold wX3_round_129
    refine ⟨fun z => absurd z (by decide), fun _ => ?_⟩
    refine pX3_stepsOf hn hp.1 hpl harr hner hsm hc ?_
    rw [hp.1] at hcst
    rcases hI with ⟨e4, est⟩ | ⟨h1, h2, h3, h4, h5⟩
    · subst e4
      refine ⟨fun _ => take (by rw [est]; show cst L c p < 100000; omega), fun z => absurd (by decide) z⟩
    · subst h2
      refine ⟨fun z => absurd z (neg_nI _ (by omega)), fun _ => ⟨fun z => ?_, fun z => take (by apply Nat.lt_of_not_le; intro w; exact z ((nI_leN (by omega) (by omega)).mpr w))⟩⟩
      have hge := (nI_leN (by omega) (by omega)).mp z
      unfold wX3_round_187
      refine pX3_nextOrder hn hp.1 harr (fun z hz => by have := hpl z hz; omega) hnd (fun q f' e _ => by rw [hnext] at e; exact absurd e (by simp)) (fun _ => ?_)
      refine ende st _ _ _ 0 ?_ (Or.inr ⟨h1, rfl, h3, h4, h5⟩) (fun z => by
        have := congrArg Int32.toInt z
        rw [toInt_nI (by omega)] at this
        have e1 : (-1 : Int32).toInt = -1 := rfl
        omega)
      rw [← hfin']; unfold stU; rw [if_neg (by omega)]
  | cons r R ih =>
    intro p st x4 order bo hmem hch hfin hI harr
    have hpm := hmem p List.mem_cons_self
    have hp := per_mem n (List.range n) p (by simp) (asc_range n) hpm
    have hpl : ∀ x ∈ p, x < n := fun x hx => List.mem_range.mp (hp.2 x hx)
    have hnd := per_nodup n (List.range n) p (by simp) (asc_range n) hpm
    have hcst := cst_le (L := L) (fun h hh => hsm h (by omega)) p c hc (fun x hx => by rw [hL]; exact hpl x hx)
    have hnext : nextL p = some r := hch.1
    have hfin' : fo L c 0 [] (stU st (cst L c p) p) (r :: R) = fin := by
      have : fo L c 0 [] st (p :: r :: R) = fo L c 0 [] (stU st (0 + cst L c p) ([] ++ p)) (r :: R) := rfl
      rw [this, Nat.zero_add, List.nil_append] at hfin; exact hfin
    have hmem' : ∀ q ∈ r :: R, q ∈ perF n (List.range n) := fun q hq => hmem q (List.mem_cons_of_mem _ hq)
    have take : cst L c p < st.1 → ∃ fu, wX3_round_161 Q (wX3_round_129 Q (nI c) x2 (nI n) g d deep hs hm nears (R.length + 2)) (nI c) x2 (nI n) (nI (cst L c p)) g d deep hs hm order nears fu 0 bo := by
      intro hlt
      refine ⟨n + 1, mr_161 hn ?_ n 0 bo (Nat.zero_add _) (fun i hi => by omega)⟩
      intro bo' hag
      unfold wX3_round_187
      refine pX3_nextOrder hn hp.1 harr (fun z hz => by have := hpl z hz; omega) hnd (fun q f' e ha => ?_) (fun e => by rw [hnext] at e; exact absurd e (by simp))
      have eq : r = q := by rw [hnext] at e; injection e
      subst eq
      refine ih r (cst L c p, p) _ _ _ hmem' hch.2 ?_ (Or.inr ⟨by show cst L c p ≤ 100; rw [hp.1] at hcst; omega, rfl, arr_of_agree (by show agree p.length _ _; rw [hp.1]; exact hag) harr, hp.1, hpl⟩) ha
      rw [← hfin']; unfold stU; rw [if_pos hlt]
    rw [List.length_cons, show R.length + 1 + 2 = (R.length + 2) + 1 by omega]
    unfold wX3_round_129
    refine ⟨fun z => absurd z (by decide), fun _ => ?_⟩
    refine pX3_stepsOf hn hp.1 hpl harr hner hsm hc ?_
    rw [hp.1] at hcst
    rcases hI with ⟨e4, est⟩ | ⟨h1, h2, h3, h4, h5⟩
    · subst e4
      refine ⟨fun _ => take (by rw [est]; show cst L c p < 100000; omega), fun z => absurd (by decide) z⟩
    · subst h2
      refine ⟨fun z => absurd z (neg_nI _ (by omega)), fun _ => ⟨fun z => ?_, fun z => take (by apply Nat.lt_of_not_le; intro w; exact z ((nI_leN (by omega) (by omega)).mpr w))⟩⟩
      have hge := (nI_leN (by omega) (by omega)).mp z
      unfold wX3_round_187
      refine pX3_nextOrder hn hp.1 harr (fun z hz => by have := hpl z hz; omega) hnd (fun q f' e ha => ?_) (fun e => by rw [hnext] at e; exact absurd e (by simp))
      have eq : r = q := by rw [hnext] at e; injection e
      subst eq
      refine ih r st _ _ _ hmem' hch.2 ?_ (Or.inr ⟨h1, rfl, h3, h4, h5⟩) ha
      rw [← hfin']; unfold stU; rw [if_neg (by omega)]
theorem div_nI : ∀ n : Fin 9, ∀ k : Fin 288, n.val ≠ 0 → nI k.val / nI n.val = nI (k.val / n.val) ∧ nI k.val - nI k.val / nI n.val * nI n.val = nI (k.val % n.val) := by decide +kernel
theorem mr_102 {Q : RQ} {x1 x2 hm : Int32} {g nears bo : Nat → Int32} {d deep : Int64} {hs : Nat → Int64} (hn : n ≤ 8) (hq : ∀ order, arr order (List.range n) → ∃ fu, wX3_round_129 Q x1 x2 (nI n) g d deep hs hm nears fu (-1) 1 order bo) : ∀ t k order, k + t = n → (∀ i, i < k → order i = nI i) → wX3_round_102 Q x1 x2 (nI n) g d deep hs hm bo nears (t + 1) (nI k) order := by
  intro t
  induction t with
  | zero =>
    intro k order hk ho
    have e : k = n := by omega
    subst e
    unfold wX3_round_102
    refine ⟨fun _ => hq order (fun i hi => ?_), fun z => absurd (Int32.le_refl _) z⟩
    rw [List.length_range] at hi
    rw [ho i hi, List.getD_eq_getElem?_getD, List.getElem?_range hi]; rfl
  | succ t ih =>
    intro k order hk ho
    unfold wX3_round_102
    refine ⟨fun z => absurd ((nI_leN (by omega) (by omega)).mp z) (by omega), fun _ => ⟨in_nI (by omega) (by decide), ?_⟩⟩
    rw [clam_nI (by omega)]
    intro o ho' k' hk'
    subst ho' hk'
    rw [nI_add1]
    refine ih (k + 1) _ (by omega) ?_
    intro i hi
    unfold upd
    by_cases e : i = k
    · rw [if_pos e, e]
    · rw [if_neg e]; exact ho i (by omega)
theorem mr_51 {Q : RQ} {x1 x2 hm : Int32} {g order bo : Nat → Int32} {d deep : Int64} {hs : Nat → Int64} (hn : n ≤ 8) (hsm : ∀ h, h < n → small (hb L h) ∧ hb L h ≠ 0) (hhs : ∀ h, h < n → hs h = hb L h) (hq : ∀ nears, ner L n nears → ∃ fu, wX3_round_102 Q x1 x2 (nI n) g d deep hs hm bo nears fu 0 order) : ∀ t k nears, k + t = 36 * n → (∀ j, j < k → nears (8 * (j / n) + j % n) = nI (nr (j / n) (hb L (j % n)))) → wX3_round_51 Q x1 x2 (nI n) g d deep hs hm order bo (t + 1) (nI k) nears := by
  intro t
  induction t with
  | zero =>
    intro k nears hk ho
    have e : k = 36 * n := by omega
    subst e
    unfold wX3_round_51
    rw [show (36 : Int32) = nI 36 from rfl, nI_mulN]
    refine ⟨fun _ => hq nears (fun c h hc hh => ?_), fun z => absurd (Int32.le_refl _) z⟩
    have := ho (n * c + h) (by
      have : n * c + n ≤ n * 36 := by rw [← Nat.mul_succ]; exact Nat.mul_le_mul_left n (by omega)
      omega)
    have e1 : (n * c + h) / n = c := by
      rw [Nat.mul_add_div (by omega), Nat.div_eq_of_lt hh, Nat.add_zero]
    have e2 : (n * c + h) % n = h := by
      rw [Nat.mul_add_mod, Nat.mod_eq_of_lt hh]
    rw [e1, e2] at this
    exact this
  | succ t ih =>
    intro k nears hk ho
    have hn0 : n ≠ 0 := fun z => by rw [z] at hk; omega
    have hk288 : k < 288 := by omega
    have hdiv := div_nI ⟨n, by omega⟩ ⟨k, hk288⟩ hn0
    simp only at hdiv
    have hr : k % n < n := Nat.mod_lt _ (by omega)
    have hqn : k / n < 36 := by rw [Nat.div_lt_iff_lt_mul (by omega)]; omega
    have nz : ¬ nI n = 0 := fun z => hn0 ((nI_inj (b := 0) (by omega) (by decide)).mp z)
    unfold wX3_round_51
    rw [show (36 : Int32) = nI 36 from rfl, nI_mulN]
    refine ⟨fun z => absurd ((nI_leN (by omega) (by omega)).mp z) (by omega), fun _ => ⟨nz, nz, nz, ?_⟩⟩
    rw [hdiv.2, hdiv.1, clam_nI (k := k % n) (by omega), hhs _ hr]
    refine ⟨in_nI (by omega) (by decide), nz, ?_⟩
    obtain ⟨hs', h0⟩ := hsm _ hr
    refine pX3_nearest hqn hs' h0 ?_
    rw [show (8 : Int32) = nI 8 from rfl, nI_mulN, nI_addN, clam_nI (by omega)]
    refine ⟨in_nI (by omega) (by decide), ?_⟩
    intro nears' hne k' hk'
    subst hne hk'
    rw [nI_add1]
    refine ih (k + 1) _ (by omega) ?_
    intro j hj
    unfold upd
    by_cases e : j = k
    · subst e; rw [if_pos rfl]
    · rw [if_neg]
      · exact ho j (by omega)
      · intro z
        have hjr : j % n < n := Nat.mod_lt _ (by omega)
        have h1 : j / n = k / n ∧ j % n = k % n := by omega
        apply e
        rw [← Nat.div_add_mod j n, ← Nat.div_add_mod k n, h1.1, h1.2]
end
theorem mRound {Q : RQ} {g order bo nears : Nat → Int32} {dug deep : Int64} {hs : Nat → Int64} {x i hm : Int32} (h : ∀ a b c d e f k, Q (if isC x ∧ -1 ≤ i ∧ i ≤ 7 then rndA (hl (dugP g)) x.toNatClampNeg i else -1) a b c d e f k) : wX3_round Q g dug deep hs hm order bo nears x i := by
  unfold wX3_round
  refine pX3_isCell ⟨fun q => ?_, fun q => pX3_inI (lo := -1) (hi := 7) ⟨fun z => ?_, fun z => ?_⟩⟩
  · rw [if_neg (fun z => b2_0 q z.1)] at h; exact h _ _ _ _ _ _ _
  · rw [if_neg (fun w => b2_0 z w.2)] at h; exact h _ _ _ _ _ _ _
  · rw [if_pos ⟨b2_1 q, b2_1 z⟩] at h
    obtain ⟨c, hc, e⟩ := isC_ex (b2_1 q)
    subst e
    rw [clam_nI (by omega)] at h
    have hd := small_dugP g
    have h18 := hl_18 hd
    have hz := b2_1 z
    refine pX3_look ?_
    refine pX3_findHoles hd ?_
    have hhb := hl_hb hd
    generalize hl (dugP g) = L at h h18 hhb
    unfold rndA at h
    refine ⟨fun w => ?_, fun w => ?_⟩
    · have h8 : L.length ≤ 8 := (nI_leN (b := 8) (by omega) (by decide)).mp w
      rw [if_neg (by omega)] at h
      have hhs : ∀ k, k < L.length → over L hs k = hb L k := fun k hk => by rw [over_at hk]; unfold hb; rw [getD_at hk]
      refine ⟨36 * L.length + 1, mr_51 h8 hhb hhs ?_ (36 * L.length) 0 nears (Nat.zero_add _) (fun j hj => by omega)⟩
      intro nears' hner
      refine ⟨L.length + 1, mr_102 h8 ?_ L.length 0 order (Nat.zero_add _) (fun j hj => by omega)⟩
      intro order' ho
      have f := per_facts L.length (List.range L.length) (by simp) (asc_range _)
      cases hP : perF L.length (List.range L.length) with
      | nil => rw [hP] at f; exact absurd f.1 (by simp)
      | cons p R =>
        rw [hP] at f
        have ep : p = List.range L.length := by simpa using f.1
        have hfin : fo L c 0 [] (100000, []) (p :: R) = rndP L c := by unfold rndP; rw [hP]
        exact ⟨_, mr_129 h8 rfl hc hner hhb hhs hz (fun a b e => h _ _ _ _ _ _ _) R p (100000, []) (-1) order' bo (fun r hr => by rw [hP]; exact hr) f.2.2 hfin (Or.inl ⟨rfl, rfl⟩) (by rw [ep]; exact ho)⟩
    · rw [if_pos (Nat.lt_of_not_le (fun q => w ((nI_leN (b := 8) (by omega) (by decide)).mpr q)))] at h
      exact h _ _ _ _ _ _ _
theorem oRound {P : Int32 → Int32 → (Nat → Int32) → (Nat → Int32) → Int32 → Int64 → Int64 → (Nat → Int64) → Int32 → (Nat → Int32) → (Nat → Int32) → (Nat → Int32) → Prop} {g g' tour best order bo nears : Nat → Int32} {roofs dug deep : Int64} {hs : Nat → Int64} {rt steps x i hm : Int32} (hg : agree 36 g g') (hp : ∀ v s t u a b c d e f k, P v s t u v a b c d e f k) : wX0_round (fun r s t u => wX3_round (fun r' a b c d e f k => P r s t u r' a b c d e f k) g' dug deep hs hm order bo nears x i) steps g roofs rt tour best x i :=
  cRound (fun _ _ _ => mRound (fun a b c d e f k => by rw [dugP_of hg]; exact hp _ _ _ _ _ _ _ _ _ _ _))
