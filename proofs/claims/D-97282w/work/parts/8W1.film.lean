/-! FILM, MISCOUNTED: the plain law -/
def rowU (f : Nat → Int32) (i : Nat) (v : Nat → Int32) : Nat → (Nat → Int32)
  | 0 => f
  | j + 1 => upd (rowU f i v j) (i + j) (v j)
def rowL (f : Nat → Int64) (i : Nat) (v : Nat → Int64) : Nat → (Nat → Int64)
  | 0 => f
  | j + 1 => vp_updL (rowL f i v j) (i + j) (v j)
theorem shU_at {sh : Nat → Sh} {k : Nat} {q : Sh} : shU sh k q k = q := if_pos rfl
theorem shU_shU {sh : Nat → Sh} {k : Nat} {q q' : Sh} : shU (shU sh k q) k q' = shU sh k q' := by
  funext j
  unfold shU
  split <;> rfl
theorem shU_same {sh : Nat → Sh} {k : Nat} {q : Sh} (e : sh k = q) : shU sh k q = sh := by
  funext j
  unfold shU
  split
  · rename_i h; rw [h, e]
  · rfl
theorem RS.rowI {shf : Nat → Option Nat} {hd : Nat → Nat} {sh : Nat → Sh} {t z : Nat → Int32} {it : Nat → Int64} {k i c ra n : Nat} {f : Nat → Int32} {g : Nat → Int64} (h : RS shf hd sh t z it) (hk : k < 4) (eq : sh k = (c, ra, n, f, g)) (h0 : c ≠ 0) (h4 : c ≠ 4) (v : Nat → Int32) (ho : ∀ F : Nat → Int32, okS (c, ra, n, F, g) → ∀ a j, okS (c, ra, n, upd F a (v j), g)) : ∀ m, i + m ≤ n → RS shf hd (shU sh k (c, ra, n, rowU f i v m, g)) t z (rowL it (36 * k + i) (fun j => (v j).toInt64) m) := by
  intro m
  induction m with
  | zero =>
    intro _
    show RS shf hd (shU sh k (c, ra, n, f, g)) t z it
    rw [shU_same eq]
    exact h
  | succ m ih =>
    intro hm
    have q := ih (by omega)
    have o : okS (c, ra, n, rowU f i v m, g) := by
      have := (q k hk).2.1
      rw [shU_at] at this
      exact this
    have r := RS.oneI (i := i + m) (v := v m) q hk shU_at h0 h4 (ho _ o _ _) (by omega)
    rw [shU_shU, ← Nat.add_assoc] at r
    exact r
theorem RS.rowJ {shf : Nat → Option Nat} {hd : Nat → Nat} {sh : Nat → Sh} {t z : Nat → Int32} {it : Nat → Int64} {k i ra n : Nat} {f : Nat → Int32} {g : Nat → Int64} (h : RS shf hd sh t z it) (hk : k < 4) (eq : sh k = (4, ra, n, f, g)) (v : Nat → Int64) : ∀ m, i + m ≤ n → RS shf hd (shU sh k (4, ra, n, f, rowL g i v m)) t z (rowL it (36 * k + i) v m) := by
  intro m
  induction m with
  | zero =>
    intro _
    show RS shf hd (shU sh k (4, ra, n, f, g)) t z it
    rw [shU_same eq]
    exact h
  | succ m ih =>
    intro hm
    have q := ih (by omega)
    have r := RS.oneJ (i := i + m) (v := v m) q hk shU_at ⟨Nat.le_refl 4, fun z => absurd (show (4 : Nat) = 1 from z) (by decide), fun z => absurd (show (4 : Nat) = 2 from z) (by decide)⟩ (by omega)
    rw [shU_shU, ← Nat.add_assoc] at r
    exact r
theorem cell64 {x : Int64} (h : 0 ≤ x ∧ x ≤ 35) : ∃ k, k < 36 ∧ x.toInt32 = nI k := by
  have h1 : 0 ≤ x.toInt := Int64.le_iff_toInt_le.mp h.1
  have h2 : x.toInt ≤ 35 := Int64.le_iff_toInt_le.mp h.2
  have e : x = Int64.ofInt x.toInt := (Int64.ofInt_toInt x).symm
  have a : ∀ k : Fin 36, (Int64.ofInt (k.val : Int)).toInt32 = nI k.val := by decide +kernel
  have q : (Int64.ofInt ((x.toInt.toNat : Nat) : Int)).toInt32 = nI x.toInt.toNat := a ⟨x.toInt.toNat, by omega⟩
  have e2 : ((x.toInt.toNat : Nat) : Int) = x.toInt := by omega
  rw [e2, ← e] at q
  exact ⟨x.toInt.toNat, by omega, q⟩
theorem mAs_B {Q : Int64 → Prop} {x : Int64} (h : Q ((vp_nar .byte ((x).toInt32.toInt8.toInt32)).toInt64)) : wX3_asLane Q (nI 0) x := by
  unfold wX3_asLane
  exact sw1 rfl (by rw [lane0]; exact h)
theorem mAs_S {Q : Int64 → Prop} {x : Int64} (h : Q ((vp_nar .short ((x).toInt32.toInt16.toInt32)).toInt64)) : wX3_asLane Q (nI 1) x := by
  unfold wX3_asLane
  exact sw0 (by decide) (sw1 rfl (by rw [lane1]; exact h))
theorem mAs_I {Q : Int64 → Prop} {x : Int64} (h : Q (((x).toInt32).toInt64)) : wX3_asLane Q (nI 2) x := by
  unfold wX3_asLane
  exact sw0 (by decide) (sw0 (by decide) (sw1 rfl (by rw [lane2]; exact h)))
theorem mAs_J {Q : Int64 → Prop} {x : Int64} (h : Q (x)) : wX3_asLane Q (nI 3) x := by
  unfold wX3_asLane
  exact sw0 (by decide) (sw0 (by decide) (sw0 (by decide) h))
theorem mFilm42 {Q : Int32 → Int64 → Int64 → (Nat → Int64) → Int32 → (Nat → Int64) → Prop} {y rate : Int32} {g t z : Nat → Int32} {roofs dug deep : Int64} {hs it0 : Nat → Int64} {k i : Nat} {W : Int64 → Int64} (hV : ∀ (Q : Int64 → Prop) (x : Int64), Q (W x) → wX3_asLane Q y x) (hk : k < 4) {L : List Int64} (hL : L.length ≤ 18) (him : i + L.length ≤ 36) (hH : ∀ x, x ∈ L → small x) (hf : ∀ (j : Nat) (h : j < L.length), hs j = L[j]) (v : Nat → Int64) (hv : ∀ (j : Nat) (h : j < L.length), v j = W (taxK (kin deep roofs L[j]) L[j] rate).toInt64) (h : Q (nI L.length) dug deep hs (nI L.length) (rowL it0 (36 * k + i) v L.length)) : ∀ n j, j + n = L.length + 1 → j ≤ L.length → wX3_film_42 Q (nI k) y (nI i) g roofs rate dug deep hs (nI L.length) t z n (nI j) (rowL it0 (36 * k + i) v j) := by
  intro n
  induction n with
  | zero => intro j h1 h2; omega
  | succ n ih =>
    intro j h1 h2
    unfold wX3_film_42
    by_cases e : j = L.length
    · rw [e]
      exact sw1 (Int32.le_refl _) h
    · refine sw0 (fun q => by have := (nI_leN (by omega) (by omega)).mp q; omega) ?_
      have hlt : j < L.length := by omega
      refine ⟨in_nI (by omega) (by decide), ?_⟩
      rw [clam_nI (by omega), hf j hlt]
      refine pX3_taxOf (hH _ (List.getElem_mem hlt)) ?_
      refine hV _ _ ?_
      rw [← hv j hlt, show (36 : Int32) = nI 36 from rfl, nI_mulN, nI_add, nI_add]
      refine ⟨in_nI (by omega) (by decide), ?_⟩
      rw [clam_nI (by omega)]
      intro i2 e2 x ex
      rw [ex, nI_add1, e2]
      exact ih (j + 1) (by omega) (by omega)
theorem mFilmBad {Q : Int32 → Int64 → Int64 → (Nat → Int64) → Int32 → (Nat → Int64) → Prop} {rate hm x1 x2 x3 : Int32} {g t z : Nat → Int32} {roofs dug deep : Int64} {hs it : Nat → Int64} (hb : ¬ ((0 ≤ x1 ∧ x1 ≤ 3) ∧ (0 ≤ x2 ∧ x2 ≤ 3))) (h : ∀ a b c d, Q (-1) a b c d it) : wX3_film Q g roofs rate dug deep hs hm t z it x1 x2 x3 := by
  unfold wX3_film
  exact p3Sh ⟨fun _ => h _ _ _ _, fun q => absurd (b2_1 q) hb⟩
theorem mFilmGo {Q : Int32 → Int64 → Int64 → (Nat → Int64) → Int32 → (Nat → Int64) → Prop} {rate hm y w : Int32} {g t z : Nat → Int32} {roofs dug deep d e : Int64} {hs it : Nat → Int64} {k : Nat} (hD : dugP g = d) (hE : deepP g = e) (hk : k < 4) (hy : 0 ≤ y ∧ y ≤ 3) (h : wX3_lacksRow (fun r => (0 ≤ r → ∃ fu : Nat, wX3_film_42 Q (nI k) y w g roofs rate d e (over (hl d) hs) (nI (hl d).length) t z fu 0 it) ∧ (¬ 0 ≤ r → Q r d e (over (hl d) hs) (nI (hl d).length) it)) t z (nI k) y w (nI (hl d).length)) : wX3_film Q g roofs rate dug deep hs hm t z it (nI k) y w := by
  subst hD hE
  unfold wX3_film
  exact p3Sh ⟨fun q => absurd ⟨s_nI hk, hy⟩ (b2_0 q), fun _ => pX3_look (pX3_findHoles (small_dugP g) h)⟩
theorem oFilm_N {P : Int32 → Int32 → Int64 → Int64 → (Nat → Int64) → Int32 → (Nat → Int64) → Prop} {g g' : Nat → Int32} {roofs dug deep : Int64} {rt hm : Int32} {hs it : Nat → Int64} {t z : Nat → Int32} {shf : Nat → Option Nat} {hd k : Nat} {x1 x2 x3 : Int32} (hk : k < 4) (hx : (0 ≤ x1 ∧ x1 ≤ 3) → x1 = nI k) (hsh : shf k = some hd) (hl_ : t k = -1) (hb : ∀ r a b c d, P r r a b c d it) : wX0_film_N (fun r => wX3_film (fun r' a b c d i => P r r' a b c d i) g' roofs rt dug deep hs hm t z it x1 x2 x3) g roofs rt shf hd x1 x2 x3 := by
  unfold wX0_film_N
  refine pSh ⟨fun q => mFilmBad (fun a => b2_0 q a.1) (hb _), fun q => pLn ⟨fun q2 => mFilmBad (fun a => b2_0 q2 a.2) (hb _), fun q2 => pX1_holes ?_⟩⟩
  have e1 := hx (b2_1 q)
  have hy := b2_1 q2
  subst e1
  have hne : t k ≠ x2 := fun a => absurd hy.1 (by rw [← a, hl_]; decide)
  exact pRef_N hk hsh (sw0 (by decide) (mFilmGo rfl rfl hk hy (mLacks hk (fun _ _ => sw0 (by decide) (hb _ _ _ _ _)) (fun _ a => absurd a (by rw [hl_]; decide)) (fun a _ => absurd a hne) (fun a _ => absurd a hne))))
theorem film50_B {Q : Int32 → (Nat → Int64) → (Nat → Int32) → Prop} {gro : Int64} {grt lrt : Int32} {gd : Nat → Int32} {tk lpm : Nat → Int64} {shf : Nat → Option Nat} {lpk : Nat → Nat} {hd k i rn ln kc ks : Nat} {rf0 : Nat → Int32} (hk : k < 4) (hs : shf k = some hd) (hl_ : ln ≤ 18) (him : i + ln ≤ rn) (hr : rn ≤ 36) (h : Q (nI ln) tk (rowU rf0 i (fun j => (vp_nar .byte (((taxK (lpk j) (lpm j) lrt).toInt64).toInt32.toInt8.toInt32))) ln)) : ∀ n j, j + n = ln + 1 → j ≤ ln → wX0_film_B_50 Q (nI k) (nI 0) (nI i) hd gro grt gd tk shf rn ln lpk lpm lrt n (nI j) (rowU rf0 i (fun j => (vp_nar .byte (((taxK (lpk j) (lpm j) lrt).toInt64).toInt32.toInt8.toInt32))) j) kc ks := by
  intro n
  induction n with
  | zero => intro j h1 h2; omega
  | succ n ih =>
    intro j h1 h2
    unfold wX0_film_B_50
    by_cases e : j = ln
    · rw [e]
      exact sw1 (Int32.le_refl _) h
    · refine sw0 (fun q => by have := (nI_leN (by omega) (by omega)).mp q; omega) ?_
      refine ⟨in_nI hk (by decide), by rw [clam_nI (by omega)]; exact hs, in_nI (by omega) (by omega), ?_⟩
      rw [clam_nI (by omega)]
      refine pP_tax ?_
      unfold wX0_puts_B
      refine sw1 rfl (?_)
      rw [nI_add]
      refine ⟨in_nI (by omega) (by omega), ?_⟩
      rw [clam_nI (by omega)]
      intro r2 e2 x ex
      rw [ex, nI_add1, e2]
      exact ih (j + 1) (by omega) (by omega)
theorem oFilm_B {P : Int32 → (Nat → Int64) → (Nat → Int32) → Int32 → Int64 → Int64 → (Nat → Int64) → Int32 → (Nat → Int64) → Prop} {g g' : Nat → Int32} {roofs dug deep : Int64} {rt hm : Int32} {hs it tk : Nat → Int64} {t z : Nat → Int32} {shf : Nat → Option Nat} {hd k rn : Nat} {rf : Nat → Int32} {x1 x2 x3 : Int32} (gA : agree 36 g g') (hk : k < 4) (hx : (0 ≤ x1 ∧ x1 ≤ 3) → x1 = nI k) (hsh : shf k = some hd) (hl_ : t k = nI 0) (hz : z k = nI rn) (hr : rn ≤ 36) (hb : ∀ r tk1 a b c d, P r tk1 rf r a b c d it) (h : ∀ (tk1 : Nat → Int64) a b c d (i m : Nat) (u : Nat → Int64), i + m ≤ rn → P (nI m) tk1 (rowU rf i (fun j => (vp_nar .byte ((u j).toInt32.toInt8.toInt32))) m) (nI m) a b c d (rowL it (36 * k + i) (fun j => (vp_nar .byte ((u j).toInt32.toInt8.toInt32)).toInt64) m)) : wX0_film_B (fun r tk1 f1 => wX3_film (fun r' a b c d i => P r tk1 f1 r' a b c d i) g' roofs rt dug deep hs hm t z it x1 x2 x3) g roofs rt tk shf hd rn rf x1 x2 x3 := by
  unfold wX0_film_B
  refine pSh ⟨fun q => mFilmBad (fun a => b2_0 q a.1) (hb _ _), fun q => pLn ⟨fun q2 => mFilmBad (fun a => b2_0 q2 a.2) (hb _ _), fun q2 => pX1_holes ?_⟩⟩
  have e1 := hx (b2_1 q)
  have hy := b2_1 q2
  subst e1
  have hsm := small_dugP g
  have h18 := hl_18 hsm
  have hD : dugP g' = dugP g := (dugP_of gA).symm
  have hE : deepP g' = deepP g := (deepP_of gA).symm
  refine pRef_B hk hsh hr (by omega) hy (fun e => sw0 (by decide) ?_) (fun e ew => sw0 (by decide) ?_) (fun e i hi ew tk' htk => sw1 (by decide) ⟨(hl (dugP g)).length + 1, ?_⟩)
  · exact mFilmGo hD hE hk hy (mLacks hk (fun _ a => absurd (by rw [hl_]; decide) (Int32.not_le.mpr a)) (fun _ _ => sw0 (by decide) (hb _ _ _ _ _ _)) (fun a _ => absurd (by rw [← a, hl_]) e) (fun a _ => absurd (by rw [← a, hl_]) e))
  · exact mFilmGo hD hE hk hy (mLacks hk (fun a _ => absurd (hl_.trans e.symm) a) (fun a _ => absurd (hl_.trans e.symm) a) (fun _ _ => sw0 (by decide) (hb _ _ _ _ _ _)) (fun _ a => absurd (by rw [← hz]; exact a) ew))
  · subst e ew
    have w1 := film50_B (Q := fun r tk1 f1 => wX3_film (fun r' a b c d i => P r tk1 f1 r' a b c d i) g' roofs rt dug deep hs hm t z it (nI k) (nI 0) (nI i)) (gro := roofs) (grt := rt) (lrt := rt) (gd := g) (tk := tk') (lpm := over (hl (dugP g)) (fun _ => 0)) (lpk := over ((hl (dugP g)).map (kin (deepP g) roofs)) (fun _ => 0)) (kc := 25) (ks := 586) (rf0 := rf) hk hsh h18 hi hr (by
      refine mFilmGo hD hE hk hy (mLacks hk (fun a _ => absurd hl_ a) (fun a _ => absurd hl_ a) (fun _ a => absurd (by rw [hz]; exact (row_n hr (by omega)).mpr ⟨i, hi, rfl⟩) a) (fun _ _ => sw1 (by decide) ⟨(hl (dugP g)).length + 1, ?_⟩))
      have w2 := mFilm42 (Q := fun r' a b c d i2 => P (nI (hl (dugP g)).length) tk' (rowU rf i (fun j => (vp_nar .byte (((taxK (over ((hl (dugP g)).map (kin (deepP g) roofs)) (fun _ => 0) j) (over (hl (dugP g)) (fun _ => 0) j) rt).toInt64).toInt32.toInt8.toInt32))) (hl (dugP g)).length) r' a b c d i2) (y := nI 0) (rate := rt) (g := g') (t := t) (z := z) (roofs := roofs) (dug := dugP g) (deep := deepP g) (hs := over (hl (dugP g)) hs) (it0 := it) (W := fun x => (vp_nar .byte ((x).toInt32.toInt8.toInt32)).toInt64) (fun Q x hq => mAs_B hq) hk (L := hl (dugP g)) h18 (i := i) (by omega) (fun x hx => isHole_small hsm (hl_isHole hsm hx)) (fun j hj => over_at hj) (fun j => (vp_nar .byte (((taxK (over ((hl (dugP g)).map (kin (deepP g) roofs)) (fun _ => 0) j) (over (hl (dugP g)) (fun _ => 0) j) rt).toInt64).toInt32.toInt8.toInt32)).toInt64) (fun j hj => by
        show (vp_nar .byte (((taxK (over ((hl (dugP g)).map (kin (deepP g) roofs)) (fun _ => 0) j) (over (hl (dugP g)) (fun _ => 0) j) rt).toInt64).toInt32.toInt8.toInt32)).toInt64 = _
        rw [over_at (L := hl (dugP g)) hj, over_at (L := (hl (dugP g)).map (kin (deepP g) roofs)) (by rw [List.length_map]; exact hj), List.getElem_map]) (h _ _ _ _ _ _ _ (fun j => (taxK (over ((hl (dugP g)).map (kin (deepP g) roofs)) (fun _ => 0) j) (over (hl (dugP g)) (fun _ => 0) j) rt).toInt64) hi) ((hl (dugP g)).length + 1) 0 (by omega) (by omega)
      rw [nI_0] at w2
      exact w2) ((hl (dugP g)).length + 1) 0 (by omega) (by omega)
    rw [nI_0] at w1
    exact w1
theorem film50_S {Q : Int32 → (Nat → Int64) → (Nat → Int32) → Prop} {gro : Int64} {grt lrt : Int32} {gd : Nat → Int32} {tk lpm : Nat → Int64} {shf : Nat → Option Nat} {lpk : Nat → Nat} {hd k i rn ln kc ks : Nat} {rf0 : Nat → Int32} (hk : k < 4) (hs : shf k = some hd) (hl_ : ln ≤ 18) (him : i + ln ≤ rn) (hr : rn ≤ 36) (h : Q (nI ln) tk (rowU rf0 i (fun j => (vp_nar .short (((taxK (lpk j) (lpm j) lrt).toInt64).toInt32.toInt16.toInt32))) ln)) : ∀ n j, j + n = ln + 1 → j ≤ ln → wX0_film_S_50 Q (nI k) (nI 1) (nI i) hd gro grt gd tk shf rn ln lpk lpm lrt n (nI j) (rowU rf0 i (fun j => (vp_nar .short (((taxK (lpk j) (lpm j) lrt).toInt64).toInt32.toInt16.toInt32))) j) kc ks := by
  intro n
  induction n with
  | zero => intro j h1 h2; omega
  | succ n ih =>
    intro j h1 h2
    unfold wX0_film_S_50
    by_cases e : j = ln
    · rw [e]
      exact sw1 (Int32.le_refl _) h
    · refine sw0 (fun q => by have := (nI_leN (by omega) (by omega)).mp q; omega) ?_
      refine ⟨in_nI hk (by decide), by rw [clam_nI (by omega)]; exact hs, in_nI (by omega) (by omega), ?_⟩
      rw [clam_nI (by omega)]
      refine pP_tax ?_
      unfold wX0_puts_S
      refine sw0 (by decide) (sw1 rfl (?_))
      rw [nI_add]
      refine ⟨in_nI (by omega) (by omega), ?_⟩
      rw [clam_nI (by omega)]
      intro r2 e2 x ex
      rw [ex, nI_add1, e2]
      exact ih (j + 1) (by omega) (by omega)
theorem oFilm_S {P : Int32 → (Nat → Int64) → (Nat → Int32) → Int32 → Int64 → Int64 → (Nat → Int64) → Int32 → (Nat → Int64) → Prop} {g g' : Nat → Int32} {roofs dug deep : Int64} {rt hm : Int32} {hs it tk : Nat → Int64} {t z : Nat → Int32} {shf : Nat → Option Nat} {hd k rn : Nat} {rf : Nat → Int32} {x1 x2 x3 : Int32} (gA : agree 36 g g') (hk : k < 4) (hx : (0 ≤ x1 ∧ x1 ≤ 3) → x1 = nI k) (hsh : shf k = some hd) (hl_ : t k = nI 1) (hz : z k = nI rn) (hr : rn ≤ 36) (hb : ∀ r tk1 a b c d, P r tk1 rf r a b c d it) (h : ∀ (tk1 : Nat → Int64) a b c d (i m : Nat) (u : Nat → Int64), i + m ≤ rn → P (nI m) tk1 (rowU rf i (fun j => (vp_nar .short ((u j).toInt32.toInt16.toInt32))) m) (nI m) a b c d (rowL it (36 * k + i) (fun j => (vp_nar .short ((u j).toInt32.toInt16.toInt32)).toInt64) m)) : wX0_film_S (fun r tk1 f1 => wX3_film (fun r' a b c d i => P r tk1 f1 r' a b c d i) g' roofs rt dug deep hs hm t z it x1 x2 x3) g roofs rt tk shf hd rn rf x1 x2 x3 := by
  unfold wX0_film_S
  refine pSh ⟨fun q => mFilmBad (fun a => b2_0 q a.1) (hb _ _), fun q => pLn ⟨fun q2 => mFilmBad (fun a => b2_0 q2 a.2) (hb _ _), fun q2 => pX1_holes ?_⟩⟩
  have e1 := hx (b2_1 q)
  have hy := b2_1 q2
  subst e1
  have hsm := small_dugP g
  have h18 := hl_18 hsm
  have hD : dugP g' = dugP g := (dugP_of gA).symm
  have hE : deepP g' = deepP g := (deepP_of gA).symm
  refine pRef_S hk hsh hr (by omega) hy (fun e => sw0 (by decide) ?_) (fun e ew => sw0 (by decide) ?_) (fun e i hi ew tk' htk => sw1 (by decide) ⟨(hl (dugP g)).length + 1, ?_⟩)
  · exact mFilmGo hD hE hk hy (mLacks hk (fun _ a => absurd (by rw [hl_]; decide) (Int32.not_le.mpr a)) (fun _ _ => sw0 (by decide) (hb _ _ _ _ _ _)) (fun a _ => absurd (by rw [← a, hl_]) e) (fun a _ => absurd (by rw [← a, hl_]) e))
  · exact mFilmGo hD hE hk hy (mLacks hk (fun a _ => absurd (hl_.trans e.symm) a) (fun a _ => absurd (hl_.trans e.symm) a) (fun _ _ => sw0 (by decide) (hb _ _ _ _ _ _)) (fun _ a => absurd (by rw [← hz]; exact a) ew))
  · subst e ew
    have w1 := film50_S (Q := fun r tk1 f1 => wX3_film (fun r' a b c d i => P r tk1 f1 r' a b c d i) g' roofs rt dug deep hs hm t z it (nI k) (nI 1) (nI i)) (gro := roofs) (grt := rt) (lrt := rt) (gd := g) (tk := tk') (lpm := over (hl (dugP g)) (fun _ => 0)) (lpk := over ((hl (dugP g)).map (kin (deepP g) roofs)) (fun _ => 0)) (kc := 25) (ks := 586) (rf0 := rf) hk hsh h18 hi hr (by
      refine mFilmGo hD hE hk hy (mLacks hk (fun a _ => absurd hl_ a) (fun a _ => absurd hl_ a) (fun _ a => absurd (by rw [hz]; exact (row_n hr (by omega)).mpr ⟨i, hi, rfl⟩) a) (fun _ _ => sw1 (by decide) ⟨(hl (dugP g)).length + 1, ?_⟩))
      have w2 := mFilm42 (Q := fun r' a b c d i2 => P (nI (hl (dugP g)).length) tk' (rowU rf i (fun j => (vp_nar .short (((taxK (over ((hl (dugP g)).map (kin (deepP g) roofs)) (fun _ => 0) j) (over (hl (dugP g)) (fun _ => 0) j) rt).toInt64).toInt32.toInt16.toInt32))) (hl (dugP g)).length) r' a b c d i2) (y := nI 1) (rate := rt) (g := g') (t := t) (z := z) (roofs := roofs) (dug := dugP g) (deep := deepP g) (hs := over (hl (dugP g)) hs) (it0 := it) (W := fun x => (vp_nar .short ((x).toInt32.toInt16.toInt32)).toInt64) (fun Q x hq => mAs_S hq) hk (L := hl (dugP g)) h18 (i := i) (by omega) (fun x hx => isHole_small hsm (hl_isHole hsm hx)) (fun j hj => over_at hj) (fun j => (vp_nar .short (((taxK (over ((hl (dugP g)).map (kin (deepP g) roofs)) (fun _ => 0) j) (over (hl (dugP g)) (fun _ => 0) j) rt).toInt64).toInt32.toInt16.toInt32)).toInt64) (fun j hj => by
        show (vp_nar .short (((taxK (over ((hl (dugP g)).map (kin (deepP g) roofs)) (fun _ => 0) j) (over (hl (dugP g)) (fun _ => 0) j) rt).toInt64).toInt32.toInt16.toInt32)).toInt64 = _
        rw [over_at (L := hl (dugP g)) hj, over_at (L := (hl (dugP g)).map (kin (deepP g) roofs)) (by rw [List.length_map]; exact hj), List.getElem_map]) (h _ _ _ _ _ _ _ (fun j => (taxK (over ((hl (dugP g)).map (kin (deepP g) roofs)) (fun _ => 0) j) (over (hl (dugP g)) (fun _ => 0) j) rt).toInt64) hi) ((hl (dugP g)).length + 1) 0 (by omega) (by omega)
      rw [nI_0] at w2
      exact w2) ((hl (dugP g)).length + 1) 0 (by omega) (by omega)
    rw [nI_0] at w1
    exact w1
theorem film50_I {Q : Int32 → (Nat → Int64) → (Nat → Int32) → Prop} {gro : Int64} {grt lrt : Int32} {gd : Nat → Int32} {tk lpm : Nat → Int64} {shf : Nat → Option Nat} {lpk : Nat → Nat} {hd k i rn ln kc ks : Nat} {rf0 : Nat → Int32} (hk : k < 4) (hs : shf k = some hd) (hl_ : ln ≤ 18) (him : i + ln ≤ rn) (hr : rn ≤ 36) (h : Q (nI ln) tk (rowU rf0 i (fun j => (((taxK (lpk j) (lpm j) lrt).toInt64).toInt32)) ln)) : ∀ n j, j + n = ln + 1 → j ≤ ln → wX0_film_I_50 Q (nI k) (nI 2) (nI i) hd gro grt gd tk shf rn ln lpk lpm lrt n (nI j) (rowU rf0 i (fun j => (((taxK (lpk j) (lpm j) lrt).toInt64).toInt32)) j) kc ks := by
  intro n
  induction n with
  | zero => intro j h1 h2; omega
  | succ n ih =>
    intro j h1 h2
    unfold wX0_film_I_50
    by_cases e : j = ln
    · rw [e]
      exact sw1 (Int32.le_refl _) h
    · refine sw0 (fun q => by have := (nI_leN (by omega) (by omega)).mp q; omega) ?_
      refine ⟨in_nI hk (by decide), by rw [clam_nI (by omega)]; exact hs, in_nI (by omega) (by omega), ?_⟩
      rw [clam_nI (by omega)]
      refine pP_tax ?_
      unfold wX0_puts_I
      refine sw0 (by decide) (sw0 (by decide) (sw1 rfl (?_)))
      rw [nI_add]
      refine ⟨in_nI (by omega) (by omega), ?_⟩
      rw [clam_nI (by omega)]
      intro r2 e2 x ex
      rw [ex, nI_add1, e2]
      exact ih (j + 1) (by omega) (by omega)
theorem oFilm_I {P : Int32 → (Nat → Int64) → (Nat → Int32) → Int32 → Int64 → Int64 → (Nat → Int64) → Int32 → (Nat → Int64) → Prop} {g g' : Nat → Int32} {roofs dug deep : Int64} {rt hm : Int32} {hs it tk : Nat → Int64} {t z : Nat → Int32} {shf : Nat → Option Nat} {hd k rn : Nat} {rf : Nat → Int32} {x1 x2 x3 : Int32} (gA : agree 36 g g') (hk : k < 4) (hx : (0 ≤ x1 ∧ x1 ≤ 3) → x1 = nI k) (hsh : shf k = some hd) (hl_ : t k = nI 2) (hz : z k = nI rn) (hr : rn ≤ 36) (hb : ∀ r tk1 a b c d, P r tk1 rf r a b c d it) (h : ∀ (tk1 : Nat → Int64) a b c d (i m : Nat) (u : Nat → Int64), i + m ≤ rn → P (nI m) tk1 (rowU rf i (fun j => ((u j).toInt32)) m) (nI m) a b c d (rowL it (36 * k + i) (fun j => ((u j).toInt32).toInt64) m)) : wX0_film_I (fun r tk1 f1 => wX3_film (fun r' a b c d i => P r tk1 f1 r' a b c d i) g' roofs rt dug deep hs hm t z it x1 x2 x3) g roofs rt tk shf hd rn rf x1 x2 x3 := by
  unfold wX0_film_I
  refine pSh ⟨fun q => mFilmBad (fun a => b2_0 q a.1) (hb _ _), fun q => pLn ⟨fun q2 => mFilmBad (fun a => b2_0 q2 a.2) (hb _ _), fun q2 => pX1_holes ?_⟩⟩
  have e1 := hx (b2_1 q)
  have hy := b2_1 q2
  subst e1
  have hsm := small_dugP g
  have h18 := hl_18 hsm
  have hD : dugP g' = dugP g := (dugP_of gA).symm
  have hE : deepP g' = deepP g := (deepP_of gA).symm
  refine pRef_I hk hsh hr (by omega) hy (fun e => sw0 (by decide) ?_) (fun e ew => sw0 (by decide) ?_) (fun e i hi ew tk' htk => sw1 (by decide) ⟨(hl (dugP g)).length + 1, ?_⟩)
  · exact mFilmGo hD hE hk hy (mLacks hk (fun _ a => absurd (by rw [hl_]; decide) (Int32.not_le.mpr a)) (fun _ _ => sw0 (by decide) (hb _ _ _ _ _ _)) (fun a _ => absurd (by rw [← a, hl_]) e) (fun a _ => absurd (by rw [← a, hl_]) e))
  · exact mFilmGo hD hE hk hy (mLacks hk (fun a _ => absurd (hl_.trans e.symm) a) (fun a _ => absurd (hl_.trans e.symm) a) (fun _ _ => sw0 (by decide) (hb _ _ _ _ _ _)) (fun _ a => absurd (by rw [← hz]; exact a) ew))
  · subst e ew
    have w1 := film50_I (Q := fun r tk1 f1 => wX3_film (fun r' a b c d i => P r tk1 f1 r' a b c d i) g' roofs rt dug deep hs hm t z it (nI k) (nI 2) (nI i)) (gro := roofs) (grt := rt) (lrt := rt) (gd := g) (tk := tk') (lpm := over (hl (dugP g)) (fun _ => 0)) (lpk := over ((hl (dugP g)).map (kin (deepP g) roofs)) (fun _ => 0)) (kc := 25) (ks := 586) (rf0 := rf) hk hsh h18 hi hr (by
      refine mFilmGo hD hE hk hy (mLacks hk (fun a _ => absurd hl_ a) (fun a _ => absurd hl_ a) (fun _ a => absurd (by rw [hz]; exact (row_n hr (by omega)).mpr ⟨i, hi, rfl⟩) a) (fun _ _ => sw1 (by decide) ⟨(hl (dugP g)).length + 1, ?_⟩))
      have w2 := mFilm42 (Q := fun r' a b c d i2 => P (nI (hl (dugP g)).length) tk' (rowU rf i (fun j => (((taxK (over ((hl (dugP g)).map (kin (deepP g) roofs)) (fun _ => 0) j) (over (hl (dugP g)) (fun _ => 0) j) rt).toInt64).toInt32)) (hl (dugP g)).length) r' a b c d i2) (y := nI 2) (rate := rt) (g := g') (t := t) (z := z) (roofs := roofs) (dug := dugP g) (deep := deepP g) (hs := over (hl (dugP g)) hs) (it0 := it) (W := fun x => ((x).toInt32).toInt64) (fun Q x hq => mAs_I hq) hk (L := hl (dugP g)) h18 (i := i) (by omega) (fun x hx => isHole_small hsm (hl_isHole hsm hx)) (fun j hj => over_at hj) (fun j => (((taxK (over ((hl (dugP g)).map (kin (deepP g) roofs)) (fun _ => 0) j) (over (hl (dugP g)) (fun _ => 0) j) rt).toInt64).toInt32).toInt64) (fun j hj => by
        show (((taxK (over ((hl (dugP g)).map (kin (deepP g) roofs)) (fun _ => 0) j) (over (hl (dugP g)) (fun _ => 0) j) rt).toInt64).toInt32).toInt64 = _
        rw [over_at (L := hl (dugP g)) hj, over_at (L := (hl (dugP g)).map (kin (deepP g) roofs)) (by rw [List.length_map]; exact hj), List.getElem_map]) (h _ _ _ _ _ _ _ (fun j => (taxK (over ((hl (dugP g)).map (kin (deepP g) roofs)) (fun _ => 0) j) (over (hl (dugP g)) (fun _ => 0) j) rt).toInt64) hi) ((hl (dugP g)).length + 1) 0 (by omega) (by omega)
      rw [nI_0] at w2
      exact w2) ((hl (dugP g)).length + 1) 0 (by omega) (by omega)
    rw [nI_0] at w1
    exact w1
theorem film50_J {Q : Int32 → (Nat → Int64) → (Nat → Int64) → Prop} {gro : Int64} {grt lrt : Int32} {gd : Nat → Int32} {tk lpm : Nat → Int64} {shf : Nat → Option Nat} {lpk : Nat → Nat} {hd k i rn ln kc ks : Nat} {rf0 : Nat → Int64} (hk : k < 4) (hs : shf k = some hd) (hl_ : ln ≤ 18) (him : i + ln ≤ rn) (hr : rn ≤ 36) (h : Q (nI ln) tk (rowL rf0 i (fun j => (taxK (lpk j) (lpm j) lrt).toInt64) ln)) : ∀ n j, j + n = ln + 1 → j ≤ ln → wX0_film_J_50 Q (nI k) (nI 3) (nI i) hd gro grt gd tk shf rn ln lpk lpm lrt n (nI j) (rowL rf0 i (fun j => (taxK (lpk j) (lpm j) lrt).toInt64) j) kc ks := by
  intro n
  induction n with
  | zero => intro j h1 h2; omega
  | succ n ih =>
    intro j h1 h2
    unfold wX0_film_J_50
    by_cases e : j = ln
    · rw [e]
      exact sw1 (Int32.le_refl _) h
    · refine sw0 (fun q => by have := (nI_leN (by omega) (by omega)).mp q; omega) ?_
      refine ⟨in_nI hk (by decide), by rw [clam_nI (by omega)]; exact hs, in_nI (by omega) (by omega), ?_⟩
      rw [clam_nI (by omega)]
      refine pP_tax ?_
      unfold wX0_puts_J
      refine sw0 (by decide) (sw0 (by decide) (sw0 (by decide) (?_)))
      rw [nI_add]
      refine ⟨in_nI (by omega) (by omega), ?_⟩
      rw [clam_nI (by omega)]
      intro r2 e2 x ex
      rw [ex, nI_add1, e2]
      exact ih (j + 1) (by omega) (by omega)
theorem oFilm_J {P : Int32 → (Nat → Int64) → (Nat → Int64) → Int32 → Int64 → Int64 → (Nat → Int64) → Int32 → (Nat → Int64) → Prop} {g g' : Nat → Int32} {roofs dug deep : Int64} {rt hm : Int32} {hs it tk : Nat → Int64} {t z : Nat → Int32} {shf : Nat → Option Nat} {hd k rn : Nat} {rf : Nat → Int64} {x1 x2 x3 : Int32} (gA : agree 36 g g') (hk : k < 4) (hx : (0 ≤ x1 ∧ x1 ≤ 3) → x1 = nI k) (hsh : shf k = some hd) (hl_ : t k = nI 3) (hz : z k = nI rn) (hr : rn ≤ 36) (hb : ∀ r tk1 a b c d, P r tk1 rf r a b c d it) (h : ∀ (tk1 : Nat → Int64) a b c d (i m : Nat) (u : Nat → Int64), i + m ≤ rn → P (nI m) tk1 (rowL rf i (fun j => u j) m) (nI m) a b c d (rowL it (36 * k + i) (fun j => u j) m)) : wX0_film_J (fun r tk1 f1 => wX3_film (fun r' a b c d i => P r tk1 f1 r' a b c d i) g' roofs rt dug deep hs hm t z it x1 x2 x3) g roofs rt tk shf hd rn rf x1 x2 x3 := by
  unfold wX0_film_J
  refine pSh ⟨fun q => mFilmBad (fun a => b2_0 q a.1) (hb _ _), fun q => pLn ⟨fun q2 => mFilmBad (fun a => b2_0 q2 a.2) (hb _ _), fun q2 => pX1_holes ?_⟩⟩
  have e1 := hx (b2_1 q)
  have hy := b2_1 q2
  subst e1
  have hsm := small_dugP g
  have h18 := hl_18 hsm
  have hD : dugP g' = dugP g := (dugP_of gA).symm
  have hE : deepP g' = deepP g := (deepP_of gA).symm
  refine pRef_J hk hsh hr (by omega) hy (fun e => sw0 (by decide) ?_) (fun e ew => sw0 (by decide) ?_) (fun e i hi ew tk' htk => sw1 (by decide) ⟨(hl (dugP g)).length + 1, ?_⟩)
  · exact mFilmGo hD hE hk hy (mLacks hk (fun _ a => absurd (by rw [hl_]; decide) (Int32.not_le.mpr a)) (fun _ _ => sw0 (by decide) (hb _ _ _ _ _ _)) (fun a _ => absurd (by rw [← a, hl_]) e) (fun a _ => absurd (by rw [← a, hl_]) e))
  · exact mFilmGo hD hE hk hy (mLacks hk (fun a _ => absurd (hl_.trans e.symm) a) (fun a _ => absurd (hl_.trans e.symm) a) (fun _ _ => sw0 (by decide) (hb _ _ _ _ _ _)) (fun _ a => absurd (by rw [← hz]; exact a) ew))
  · subst e ew
    have w1 := film50_J (Q := fun r tk1 f1 => wX3_film (fun r' a b c d i => P r tk1 f1 r' a b c d i) g' roofs rt dug deep hs hm t z it (nI k) (nI 3) (nI i)) (gro := roofs) (grt := rt) (lrt := rt) (gd := g) (tk := tk') (lpm := over (hl (dugP g)) (fun _ => 0)) (lpk := over ((hl (dugP g)).map (kin (deepP g) roofs)) (fun _ => 0)) (kc := 25) (ks := 586) (rf0 := rf) hk hsh h18 hi hr (by
      refine mFilmGo hD hE hk hy (mLacks hk (fun a _ => absurd hl_ a) (fun a _ => absurd hl_ a) (fun _ a => absurd (by rw [hz]; exact (row_n hr (by omega)).mpr ⟨i, hi, rfl⟩) a) (fun _ _ => sw1 (by decide) ⟨(hl (dugP g)).length + 1, ?_⟩))
      have w2 := mFilm42 (Q := fun r' a b c d i2 => P (nI (hl (dugP g)).length) tk' (rowL rf i (fun j => (taxK (over ((hl (dugP g)).map (kin (deepP g) roofs)) (fun _ => 0) j) (over (hl (dugP g)) (fun _ => 0) j) rt).toInt64) (hl (dugP g)).length) r' a b c d i2) (y := nI 3) (rate := rt) (g := g') (t := t) (z := z) (roofs := roofs) (dug := dugP g) (deep := deepP g) (hs := over (hl (dugP g)) hs) (it0 := it) (W := fun x => x) (fun Q x hq => mAs_J hq) hk (L := hl (dugP g)) h18 (i := i) (by omega) (fun x hx => isHole_small hsm (hl_isHole hsm hx)) (fun j hj => over_at hj) (fun j => (taxK (over ((hl (dugP g)).map (kin (deepP g) roofs)) (fun _ => 0) j) (over (hl (dugP g)) (fun _ => 0) j) rt).toInt64) (fun j hj => by
        show (taxK (over ((hl (dugP g)).map (kin (deepP g) roofs)) (fun _ => 0) j) (over (hl (dugP g)) (fun _ => 0) j) rt).toInt64 = _
        rw [over_at (L := hl (dugP g)) hj, over_at (L := (hl (dugP g)).map (kin (deepP g) roofs)) (by rw [List.length_map]; exact hj), List.getElem_map]) (h _ _ _ _ _ _ _ (fun j => (taxK (over ((hl (dugP g)).map (kin (deepP g) roofs)) (fun _ => 0) j) (over (hl (dugP g)) (fun _ => 0) j) rt).toInt64) hi) ((hl (dugP g)).length + 1) 0 (by omega) (by omega)
      rw [nI_0] at w2
      exact w2) ((hl (dugP g)).length + 1) 0 (by omega) (by omega)
    rw [nI_0] at w1
    exact w1
def cntP (d a b : Int64) : Prop := (0 ≤ a ∧ a ≤ 35) ∧ mem d a.toInt32.toNatClampNeg = true ∧ (nI (card (comp (bit a.toInt32.toNatClampNeg) d))).toInt64 = b
theorem pCnt {Q : Int32 → Prop} {g : Nat → Int32} {ro : Int64} {rt : Int32} {a b : Int64} (h1 : cntP (dugP g) a b → Q 1) (h0 : ¬ cntP (dugP g) a b → Q 0) : wX0_isCounted Q g ro rt a b := by
  unfold wX0_isCounted
  refine pX0_in ⟨fun q => h0 (fun c => b2_0 q c.1), fun q => ?_⟩
  have h := b2_1 q
  obtain ⟨k, hk, e⟩ := cell64 h
  have ek : a.toInt32.toNatClampNeg = k := by rw [e]; exact clam_nI (by omega)
  rw [e]
  refine pX1_hole (by omega) (fun m => h0 (fun c => by
    have c2 := c.2.1
    rw [ek, m] at c2
    exact Bool.noConfusion c2)) (fun m => pX0_size ⟨fun z => h1 ⟨h, by rw [ek]; exact m, by rw [ek]; exact z⟩, fun z => h0 (fun c => z (by
      have c2 := c.2.2
      rw [ek] at c2
      exact c2))⟩)
theorem mMis51 {Q : Int32 → Int64 → Int64 → Prop} {g t z : Nat → Int32} {d dp : Int64} {it tk : Nat → Int64} {k i m : Nat} (hk : k < 4) (him : i + 2 * m ≤ 36) (ev : ∀ j, j < 2 * m → it (36 * k + i + j) = tk j) (ha : (∀ j, j < m → cntP d (tk (2 * j)) (tk (2 * j + 1))) → Q (-4) d dp) (hn : ∀ j, j < m → (∀ i, i < j → cntP d (tk (2 * i)) (tk (2 * i + 1))) → ¬ cntP d (tk (2 * j)) (tk (2 * j + 1)) → Q (nI j) d dp) : ∀ n j, j + n = m + 1 → j ≤ m → (∀ i, i < j → cntP d (tk (2 * i)) (tk (2 * i + 1))) → wX3_miscounted_51 Q (nI k) (nI i) (nI m) g d dp t z it n (nI j) := by
  intro n
  induction n with
  | zero => intro j h1 h2; omega
  | succ n ih =>
    intro j h1 h2 hc
    unfold wX3_miscounted_51
    by_cases e : j = m
    · subst e
      exact sw1 (Int32.le_refl _) (ha hc)
    · refine sw0 (fun q => by have := (nI_leN (by omega) (by omega)).mp q; omega) ?_
      rw [show (36 : Int32) = nI 36 from rfl, show (2 : Int32) = nI 2 from rfl, nI_mulN, nI_mulN, nI_add, nI_add, nI_add1 (36 * k + i + 2 * j)]
      refine ⟨in_nI (by omega) (by decide), ?_⟩
      intro a ea
      refine ⟨in_nI (by omega) (by decide), ?_⟩
      intro b eb
      rw [clam_nI (by omega), ev (2 * j) (by omega)] at ea
      rw [clam_nI (by omega), Nat.add_assoc, ev (2 * j + 1) (by omega)] at eb
      subst ea eb
      have no : ¬ cntP d (tk (2 * j)) (tk (2 * j + 1)) → wX3_miscounted_143 Q (wX3_miscounted_51 Q (nI k) (nI i) (nI m) g d dp t z it n) (nI k) (nI i) (nI m) (nI j) 0 g d dp t z it := fun c => by
        unfold wX3_miscounted_143
        exact sw1 rfl (hn j (by omega) hc c)
      refine pX3_in ⟨fun q => no (fun c => b2_0 q c.1), fun q => ?_⟩
      have h := b2_1 q
      obtain ⟨x, hx, ex⟩ := cell64 h
      have ek : (tk (2 * j)).toInt32.toNatClampNeg = x := by rw [ex]; exact clam_nI (by omega)
      rw [ex]
      refine pX3_has (by omega) ⟨fun q2 => no (fun c => b2_0 q2 (by have c2 := c.2.1; rw [ek] at c2; exact c2)), fun q2 => pX3_holeAt (by omega) (pX3_ones ⟨fun z2 => ?_, fun z2 => no (fun c => z2 (by have c2 := c.2.2; rw [ek] at c2; exact c2))⟩)⟩
      have c : cntP d (tk (2 * j)) (tk (2 * j + 1)) := ⟨h, by rw [ek]; exact b2_1 q2, by rw [ek]; exact z2⟩
      unfold wX3_miscounted_143
      refine sw0 (by decide) ?_
      intro y ey
      rw [ey, nI_add1]
      refine ih (j + 1) (by omega) (by omega) (fun i2 hi2 => ?_)
      by_cases e2 : i2 = j
      · rw [e2]; exact c
      · exact hc i2 (by omega)
theorem mMisBad {Q : Int32 → Int64 → Int64 → Prop} {g t z : Nat → Int32} {dug deep : Int64} {it : Nat → Int64} {x1 x2 x3 x4 : Int32} (hb : ¬ (((0 ≤ x1 ∧ x1 ≤ 3) ∧ (0 ≤ x2 ∧ x2 ≤ 3)) ∧ 1 ≤ x4 ∧ x4 ≤ 12)) (h : ∀ a b, Q (-1) a b) : wX3_miscounted Q g dug deep t z it x1 x2 x3 x4 := by
  unfold wX3_miscounted
  exact p3Sh ⟨fun _ => h _ _, fun q => pX3_inI (lo := 1) (hi := 12) ⟨fun _ => h _ _, fun q2 => absurd ⟨b2_1 q, b2_1 q2⟩ hb⟩⟩
theorem mMisGo {Q : Int32 → Int64 → Int64 → Prop} {g t z : Nat → Int32} {dug deep : Int64} {it : Nat → Int64} {k m : Nat} {y w : Int32} (hk : k < 4) (hy : 0 ≤ y ∧ y ≤ 3) (h1 : 1 ≤ m) (hm : m ≤ 12) (h : wX3_lacksRow (fun r => (0 ≤ r → wX3_look (fun d e => ∃ fu : Nat, wX3_miscounted_51 Q (nI k) w (nI m) g d e t z it fu 0) g dug deep) ∧ (¬ 0 ≤ r → Q r dug deep)) t z (nI k) y w (nI (2 * m))) : wX3_miscounted Q g dug deep t z it (nI k) y w (nI m) := by
  unfold wX3_miscounted
  refine p3Sh ⟨fun q => absurd ⟨s_nI hk, hy⟩ (b2_0 q), fun _ => pX3_inI (lo := 1) (hi := 12) ⟨fun q => absurd ⟨(nI_leN (a := 1) (by decide) (by omega)).mpr h1, (nI_leN (b := 12) (by omega) (by decide)).mpr hm⟩ (b2_0 q), fun _ => ?_⟩⟩
  rw [show (2 : Int32) = nI 2 from rfl, nI_mulN]
  exact h
theorem oMis_N {P : Int32 → Int32 → Int64 → Int64 → Prop} {g g' : Nat → Int32} {roofs dug deep : Int64} {rt : Int32} {it tk : Nat → Int64} {t z : Nat → Int32} {shf : Nat → Option Nat} {hd k : Nat} {x1 x2 x3 x4 : Int32} (gA : agree 36 g g') (hk : k < 4) (hx : (0 ≤ x1 ∧ x1 ≤ 3) → x1 = nI k) (hsh : shf k = some hd) (hl_ : t k = -1) (hb : ∀ r a b, P r r a b) : wX0_miscounted_N (fun r => wX3_miscounted (fun r' a b => P r r' a b) g' dug deep t z it x1 x2 x3 x4) g roofs rt tk shf hd x1 x2 x3 x4 := by
  unfold wX0_miscounted_N
  refine pSh ⟨fun q => mMisBad (fun a => b2_0 q a.1.1) (hb _), fun q => pLn ⟨fun q2 => mMisBad (fun a => b2_0 q2 a.1.2) (hb _), fun q2 => pX0_inI (lo := 1) (hi := 12) ⟨fun q3 => mMisBad (fun a => b2_0 q3 a.2) (hb _), fun q3 => ?_⟩⟩⟩
  have e1 := hx (b2_1 q)
  have hy := b2_1 q2
  have h5 := b2_1 q3
  subst e1
  obtain ⟨m, hm, e5⟩ := nI_ofN (n := 12) (Int32.le_trans (by decide) h5.1) h5.2 (by decide)
  subst e5
  have h1 : 1 ≤ m := (nI_leN (a := 1) (by decide) (by omega)).mp h5.1
  have hD : dugP g' = dugP g := (dugP_of gA).symm
  rw [show (2 : Int32) = nI 2 from rfl, nI_mulN]
  have hne : t k ≠ x2 := fun a => absurd hy.1 (by rw [← a, hl_]; decide)
  exact pRef_N hk hsh (sw0 (by decide) (mMisGo hk hy h1 hm (mLacks hk (fun _ _ => sw0 (by decide) (hb _ _ _)) (fun _ a => absurd a (by rw [hl_]; decide)) (fun a _ => absurd a hne) (fun a _ => absurd a hne))))
theorem mis53_B {Q : Int32 → (Nat → Int64) → Prop} {gro : Int64} {grt : Int32} {gd : Nat → Int32} {tk : Nat → Int64} {shf : Nat → Option Nat} {hd rn m : Nat} {rf : Nat → Int32} (hm : m ≤ 12) (ha : (∀ j, j < m → cntP (dugP gd) (tk (2 * j)) (tk (2 * j + 1))) → Q (-4) tk) (hn : ∀ j, j < m → (∀ i, i < j → cntP (dugP gd) (tk (2 * i)) (tk (2 * i + 1))) → ¬ cntP (dugP gd) (tk (2 * j)) (tk (2 * j + 1)) → Q (nI j) tk) : ∀ n j, j + n = m + 1 → j ≤ m → (∀ i, i < j → cntP (dugP gd) (tk (2 * i)) (tk (2 * i + 1))) → wX0_miscounted_B_53 Q (nI m) hd gro grt gd tk shf rf rn n (nI j) (3 + j) (500 + 2 * j) := by
  intro n
  induction n with
  | zero => intro j h1 h2; omega
  | succ n ih =>
    intro j h1 h2 hc
    unfold wX0_miscounted_B_53
    by_cases e : j = m
    · subst e
      exact sw1 (Int32.le_refl _) (ha hc)
    · refine sw0 (fun q => by have := (nI_leN (by omega) (by omega)).mp q; omega) ?_
      rw [show (2 : Int32) = nI 2 from rfl, nI_mulN, nI_add1 (2 * j)]
      refine ⟨in_nI (by omega) (by decide), in_nI (by omega) (by decide), by omega, by omega, ?_⟩
      rw [clam_nI (by omega), clam_nI (by omega)]
      refine pCnt (fun c => sw0 (by decide) ?_) (fun c => sw1 rfl (hn j (by omega) hc c))
      intro x ex
      rw [ex, nI_add1]
      have w := ih (j + 1) (by omega) (by omega) (fun i hi => by
        by_cases e2 : i = j
        · rw [e2]; exact c
        · exact hc i (by omega))
      exact w
theorem oMis_B {P : Int32 → (Nat → Int64) → Int32 → Int64 → Int64 → Prop} {g g' : Nat → Int32} {roofs dug deep : Int64} {rt : Int32} {it tk : Nat → Int64} {t z : Nat → Int32} {shf : Nat → Option Nat} {hd k : Nat} {rn : Nat} {rf : Nat → Int32} {x1 x2 x3 x4 : Int32} (gA : agree 36 g g') (hk : k < 4) (hx : (0 ≤ x1 ∧ x1 ≤ 3) → x1 = nI k) (hsh : shf k = some hd) (hl_ : t k = nI 0) (hz : z k = nI rn) (hr : rn ≤ 36) (hit : ∀ i, i < rn → it (36 * k + i) = (rf i).toInt64) (hb : ∀ r tk1 a b, P r tk1 r a b) : wX0_miscounted_B (fun r tk1 => wX3_miscounted (fun r' a b => P r tk1 r' a b) g' dug deep t z it x1 x2 x3 x4) g roofs rt tk shf hd rn rf x1 x2 x3 x4 := by
  unfold wX0_miscounted_B
  refine pSh ⟨fun q => mMisBad (fun a => b2_0 q a.1.1) (hb _ _), fun q => pLn ⟨fun q2 => mMisBad (fun a => b2_0 q2 a.1.2) (hb _ _), fun q2 => pX0_inI (lo := 1) (hi := 12) ⟨fun q3 => mMisBad (fun a => b2_0 q3 a.2) (hb _ _), fun q3 => ?_⟩⟩⟩
  have e1 := hx (b2_1 q)
  have hy := b2_1 q2
  have h5 := b2_1 q3
  subst e1
  obtain ⟨m, hm, e5⟩ := nI_ofN (n := 12) (Int32.le_trans (by decide) h5.1) h5.2 (by decide)
  subst e5
  have h1 : 1 ≤ m := (nI_leN (a := 1) (by decide) (by omega)).mp h5.1
  have hD : dugP g' = dugP g := (dugP_of gA).symm
  rw [show (2 : Int32) = nI 2 from rfl, nI_mulN]
  refine pRef_B hk hsh hr (by omega) hy (fun e => sw0 (by decide) ?_) (fun e ew => sw0 (by decide) ?_) (fun e i hi ew tk' htk => sw1 (by decide) ⟨m + 1, ?_⟩)
  · exact mMisGo hk hy h1 hm (mLacks hk (fun _ a => absurd (by rw [hl_]; decide) (Int32.not_le.mpr a)) (fun _ _ => sw0 (by decide) (hb _ _ _ _)) (fun a _ => absurd (by rw [← a, hl_]) e) (fun a _ => absurd (by rw [← a, hl_]) e))
  · exact mMisGo hk hy h1 hm (mLacks hk (fun a _ => absurd (hl_.trans e.symm) a) (fun a _ => absurd (hl_.trans e.symm) a) (fun _ _ => sw0 (by decide) (hb _ _ _ _)) (fun _ a => absurd (by rw [← hz]; exact a) ew))
  · subst e ew
    have eq : ∀ j, j < 2 * m → it (36 * k + i + j) = tk' j := fun j hj => by rw [Nat.add_assoc, hit (i + j) (by omega), htk j hj]
    have go : ∀ Q' : Int32 → Int64 → Int64 → Prop, ((∀ j, j < m → cntP (dugP g) (tk' (2 * j)) (tk' (2 * j + 1))) → Q' (-4) (dugP g) (deepP g')) → (∀ j, j < m → (∀ i, i < j → cntP (dugP g) (tk' (2 * i)) (tk' (2 * i + 1))) → ¬ cntP (dugP g) (tk' (2 * j)) (tk' (2 * j + 1)) → Q' (nI j) (dugP g) (deepP g')) → wX3_miscounted Q' g' dug deep t z it (nI k) (nI 0) (nI i) (nI m) := by
      intro Q' b1 b2
      refine mMisGo hk hy h1 hm (mLacks hk (fun a _ => absurd hl_ a) (fun a _ => absurd hl_ a) (fun _ a => absurd (by rw [hz]; exact (row_n hr (by omega)).mpr ⟨i, hi, rfl⟩) a) (fun _ _ => sw1 (by decide) (pX3_look ⟨m + 1, ?_⟩)))
      rw [hD]
      have w := mMis51 (Q := Q') (g := g') (t := t) (z := z) (d := dugP g) (dp := deepP g') (it := it) (tk := tk') (k := k) (i := i) (m := m) hk (by omega) eq b1 b2 (m + 1) 0 (by omega) (by omega) (fun i hi => absurd hi (Nat.not_lt_zero i))
      rw [nI_0] at w
      exact w
    have w := mis53_B (Q := fun r tk1 => wX3_miscounted (fun r' a b => P r tk1 r' a b) g' dug deep t z it (nI k) (nI 0) (nI i) (nI m)) (gro := roofs) (grt := rt) (gd := g) (tk := tk') (shf := shf) (hd := hd) (rn := rn) (rf := rf) (m := m) hm (fun a => go _ (fun _ => hb _ _ _ _) (fun j hj _ n => absurd (a j hj) n)) (fun j hj a n => go _ (fun a2 => absurd (a2 j hj) n) (fun j2 hj2 a2 n2 => by
      have ej : j2 = j := by
        rcases Nat.lt_trichotomy j2 j with z | z | z
        · exact absurd (a j2 z) n2
        · exact z
        · exact absurd (a2 j z) n
      rw [ej]
      exact hb _ _ _ _)) (m + 1) 0 (by omega) (by omega) (fun i hi => absurd hi (Nat.not_lt_zero i))
    rw [nI_0] at w
    exact w
theorem mis53_S {Q : Int32 → (Nat → Int64) → Prop} {gro : Int64} {grt : Int32} {gd : Nat → Int32} {tk : Nat → Int64} {shf : Nat → Option Nat} {hd rn m : Nat} {rf : Nat → Int32} (hm : m ≤ 12) (ha : (∀ j, j < m → cntP (dugP gd) (tk (2 * j)) (tk (2 * j + 1))) → Q (-4) tk) (hn : ∀ j, j < m → (∀ i, i < j → cntP (dugP gd) (tk (2 * i)) (tk (2 * i + 1))) → ¬ cntP (dugP gd) (tk (2 * j)) (tk (2 * j + 1)) → Q (nI j) tk) : ∀ n j, j + n = m + 1 → j ≤ m → (∀ i, i < j → cntP (dugP gd) (tk (2 * i)) (tk (2 * i + 1))) → wX0_miscounted_S_53 Q (nI m) hd gro grt gd tk shf rf rn n (nI j) (3 + j) (500 + 2 * j) := by
  intro n
  induction n with
  | zero => intro j h1 h2; omega
  | succ n ih =>
    intro j h1 h2 hc
    unfold wX0_miscounted_S_53
    by_cases e : j = m
    · subst e
      exact sw1 (Int32.le_refl _) (ha hc)
    · refine sw0 (fun q => by have := (nI_leN (by omega) (by omega)).mp q; omega) ?_
      rw [show (2 : Int32) = nI 2 from rfl, nI_mulN, nI_add1 (2 * j)]
      refine ⟨in_nI (by omega) (by decide), in_nI (by omega) (by decide), by omega, by omega, ?_⟩
      rw [clam_nI (by omega), clam_nI (by omega)]
      refine pCnt (fun c => sw0 (by decide) ?_) (fun c => sw1 rfl (hn j (by omega) hc c))
      intro x ex
      rw [ex, nI_add1]
      have w := ih (j + 1) (by omega) (by omega) (fun i hi => by
        by_cases e2 : i = j
        · rw [e2]; exact c
        · exact hc i (by omega))
      exact w
theorem oMis_S {P : Int32 → (Nat → Int64) → Int32 → Int64 → Int64 → Prop} {g g' : Nat → Int32} {roofs dug deep : Int64} {rt : Int32} {it tk : Nat → Int64} {t z : Nat → Int32} {shf : Nat → Option Nat} {hd k : Nat} {rn : Nat} {rf : Nat → Int32} {x1 x2 x3 x4 : Int32} (gA : agree 36 g g') (hk : k < 4) (hx : (0 ≤ x1 ∧ x1 ≤ 3) → x1 = nI k) (hsh : shf k = some hd) (hl_ : t k = nI 1) (hz : z k = nI rn) (hr : rn ≤ 36) (hit : ∀ i, i < rn → it (36 * k + i) = (rf i).toInt64) (hb : ∀ r tk1 a b, P r tk1 r a b) : wX0_miscounted_S (fun r tk1 => wX3_miscounted (fun r' a b => P r tk1 r' a b) g' dug deep t z it x1 x2 x3 x4) g roofs rt tk shf hd rn rf x1 x2 x3 x4 := by
  unfold wX0_miscounted_S
  refine pSh ⟨fun q => mMisBad (fun a => b2_0 q a.1.1) (hb _ _), fun q => pLn ⟨fun q2 => mMisBad (fun a => b2_0 q2 a.1.2) (hb _ _), fun q2 => pX0_inI (lo := 1) (hi := 12) ⟨fun q3 => mMisBad (fun a => b2_0 q3 a.2) (hb _ _), fun q3 => ?_⟩⟩⟩
  have e1 := hx (b2_1 q)
  have hy := b2_1 q2
  have h5 := b2_1 q3
  subst e1
  obtain ⟨m, hm, e5⟩ := nI_ofN (n := 12) (Int32.le_trans (by decide) h5.1) h5.2 (by decide)
  subst e5
  have h1 : 1 ≤ m := (nI_leN (a := 1) (by decide) (by omega)).mp h5.1
  have hD : dugP g' = dugP g := (dugP_of gA).symm
  rw [show (2 : Int32) = nI 2 from rfl, nI_mulN]
  refine pRef_S hk hsh hr (by omega) hy (fun e => sw0 (by decide) ?_) (fun e ew => sw0 (by decide) ?_) (fun e i hi ew tk' htk => sw1 (by decide) ⟨m + 1, ?_⟩)
  · exact mMisGo hk hy h1 hm (mLacks hk (fun _ a => absurd (by rw [hl_]; decide) (Int32.not_le.mpr a)) (fun _ _ => sw0 (by decide) (hb _ _ _ _)) (fun a _ => absurd (by rw [← a, hl_]) e) (fun a _ => absurd (by rw [← a, hl_]) e))
  · exact mMisGo hk hy h1 hm (mLacks hk (fun a _ => absurd (hl_.trans e.symm) a) (fun a _ => absurd (hl_.trans e.symm) a) (fun _ _ => sw0 (by decide) (hb _ _ _ _)) (fun _ a => absurd (by rw [← hz]; exact a) ew))
  · subst e ew
    have eq : ∀ j, j < 2 * m → it (36 * k + i + j) = tk' j := fun j hj => by rw [Nat.add_assoc, hit (i + j) (by omega), htk j hj]
    have go : ∀ Q' : Int32 → Int64 → Int64 → Prop, ((∀ j, j < m → cntP (dugP g) (tk' (2 * j)) (tk' (2 * j + 1))) → Q' (-4) (dugP g) (deepP g')) → (∀ j, j < m → (∀ i, i < j → cntP (dugP g) (tk' (2 * i)) (tk' (2 * i + 1))) → ¬ cntP (dugP g) (tk' (2 * j)) (tk' (2 * j + 1)) → Q' (nI j) (dugP g) (deepP g')) → wX3_miscounted Q' g' dug deep t z it (nI k) (nI 1) (nI i) (nI m) := by
      intro Q' b1 b2
      refine mMisGo hk hy h1 hm (mLacks hk (fun a _ => absurd hl_ a) (fun a _ => absurd hl_ a) (fun _ a => absurd (by rw [hz]; exact (row_n hr (by omega)).mpr ⟨i, hi, rfl⟩) a) (fun _ _ => sw1 (by decide) (pX3_look ⟨m + 1, ?_⟩)))
      rw [hD]
      have w := mMis51 (Q := Q') (g := g') (t := t) (z := z) (d := dugP g) (dp := deepP g') (it := it) (tk := tk') (k := k) (i := i) (m := m) hk (by omega) eq b1 b2 (m + 1) 0 (by omega) (by omega) (fun i hi => absurd hi (Nat.not_lt_zero i))
      rw [nI_0] at w
      exact w
    have w := mis53_S (Q := fun r tk1 => wX3_miscounted (fun r' a b => P r tk1 r' a b) g' dug deep t z it (nI k) (nI 1) (nI i) (nI m)) (gro := roofs) (grt := rt) (gd := g) (tk := tk') (shf := shf) (hd := hd) (rn := rn) (rf := rf) (m := m) hm (fun a => go _ (fun _ => hb _ _ _ _) (fun j hj _ n => absurd (a j hj) n)) (fun j hj a n => go _ (fun a2 => absurd (a2 j hj) n) (fun j2 hj2 a2 n2 => by
      have ej : j2 = j := by
        rcases Nat.lt_trichotomy j2 j with z | z | z
        · exact absurd (a j2 z) n2
        · exact z
        · exact absurd (a2 j z) n
      rw [ej]
      exact hb _ _ _ _)) (m + 1) 0 (by omega) (by omega) (fun i hi => absurd hi (Nat.not_lt_zero i))
    rw [nI_0] at w
    exact w
theorem mis53_I {Q : Int32 → (Nat → Int64) → Prop} {gro : Int64} {grt : Int32} {gd : Nat → Int32} {tk : Nat → Int64} {shf : Nat → Option Nat} {hd rn m : Nat} {rf : Nat → Int32} (hm : m ≤ 12) (ha : (∀ j, j < m → cntP (dugP gd) (tk (2 * j)) (tk (2 * j + 1))) → Q (-4) tk) (hn : ∀ j, j < m → (∀ i, i < j → cntP (dugP gd) (tk (2 * i)) (tk (2 * i + 1))) → ¬ cntP (dugP gd) (tk (2 * j)) (tk (2 * j + 1)) → Q (nI j) tk) : ∀ n j, j + n = m + 1 → j ≤ m → (∀ i, i < j → cntP (dugP gd) (tk (2 * i)) (tk (2 * i + 1))) → wX0_miscounted_I_53 Q (nI m) hd gro grt gd tk shf rf rn n (nI j) (3 + j) (500 + 2 * j) := by
  intro n
  induction n with
  | zero => intro j h1 h2; omega
  | succ n ih =>
    intro j h1 h2 hc
    unfold wX0_miscounted_I_53
    by_cases e : j = m
    · subst e
      exact sw1 (Int32.le_refl _) (ha hc)
    · refine sw0 (fun q => by have := (nI_leN (by omega) (by omega)).mp q; omega) ?_
      rw [show (2 : Int32) = nI 2 from rfl, nI_mulN, nI_add1 (2 * j)]
      refine ⟨in_nI (by omega) (by decide), in_nI (by omega) (by decide), by omega, by omega, ?_⟩
      rw [clam_nI (by omega), clam_nI (by omega)]
      refine pCnt (fun c => sw0 (by decide) ?_) (fun c => sw1 rfl (hn j (by omega) hc c))
      intro x ex
      rw [ex, nI_add1]
      have w := ih (j + 1) (by omega) (by omega) (fun i hi => by
        by_cases e2 : i = j
        · rw [e2]; exact c
        · exact hc i (by omega))
      exact w
theorem oMis_I {P : Int32 → (Nat → Int64) → Int32 → Int64 → Int64 → Prop} {g g' : Nat → Int32} {roofs dug deep : Int64} {rt : Int32} {it tk : Nat → Int64} {t z : Nat → Int32} {shf : Nat → Option Nat} {hd k : Nat} {rn : Nat} {rf : Nat → Int32} {x1 x2 x3 x4 : Int32} (gA : agree 36 g g') (hk : k < 4) (hx : (0 ≤ x1 ∧ x1 ≤ 3) → x1 = nI k) (hsh : shf k = some hd) (hl_ : t k = nI 2) (hz : z k = nI rn) (hr : rn ≤ 36) (hit : ∀ i, i < rn → it (36 * k + i) = (rf i).toInt64) (hb : ∀ r tk1 a b, P r tk1 r a b) : wX0_miscounted_I (fun r tk1 => wX3_miscounted (fun r' a b => P r tk1 r' a b) g' dug deep t z it x1 x2 x3 x4) g roofs rt tk shf hd rn rf x1 x2 x3 x4 := by
  unfold wX0_miscounted_I
  refine pSh ⟨fun q => mMisBad (fun a => b2_0 q a.1.1) (hb _ _), fun q => pLn ⟨fun q2 => mMisBad (fun a => b2_0 q2 a.1.2) (hb _ _), fun q2 => pX0_inI (lo := 1) (hi := 12) ⟨fun q3 => mMisBad (fun a => b2_0 q3 a.2) (hb _ _), fun q3 => ?_⟩⟩⟩
  have e1 := hx (b2_1 q)
  have hy := b2_1 q2
  have h5 := b2_1 q3
  subst e1
  obtain ⟨m, hm, e5⟩ := nI_ofN (n := 12) (Int32.le_trans (by decide) h5.1) h5.2 (by decide)
  subst e5
  have h1 : 1 ≤ m := (nI_leN (a := 1) (by decide) (by omega)).mp h5.1
  have hD : dugP g' = dugP g := (dugP_of gA).symm
  rw [show (2 : Int32) = nI 2 from rfl, nI_mulN]
  refine pRef_I hk hsh hr (by omega) hy (fun e => sw0 (by decide) ?_) (fun e ew => sw0 (by decide) ?_) (fun e i hi ew tk' htk => sw1 (by decide) ⟨m + 1, ?_⟩)
  · exact mMisGo hk hy h1 hm (mLacks hk (fun _ a => absurd (by rw [hl_]; decide) (Int32.not_le.mpr a)) (fun _ _ => sw0 (by decide) (hb _ _ _ _)) (fun a _ => absurd (by rw [← a, hl_]) e) (fun a _ => absurd (by rw [← a, hl_]) e))
  · exact mMisGo hk hy h1 hm (mLacks hk (fun a _ => absurd (hl_.trans e.symm) a) (fun a _ => absurd (hl_.trans e.symm) a) (fun _ _ => sw0 (by decide) (hb _ _ _ _)) (fun _ a => absurd (by rw [← hz]; exact a) ew))
  · subst e ew
    have eq : ∀ j, j < 2 * m → it (36 * k + i + j) = tk' j := fun j hj => by rw [Nat.add_assoc, hit (i + j) (by omega), htk j hj]
    have go : ∀ Q' : Int32 → Int64 → Int64 → Prop, ((∀ j, j < m → cntP (dugP g) (tk' (2 * j)) (tk' (2 * j + 1))) → Q' (-4) (dugP g) (deepP g')) → (∀ j, j < m → (∀ i, i < j → cntP (dugP g) (tk' (2 * i)) (tk' (2 * i + 1))) → ¬ cntP (dugP g) (tk' (2 * j)) (tk' (2 * j + 1)) → Q' (nI j) (dugP g) (deepP g')) → wX3_miscounted Q' g' dug deep t z it (nI k) (nI 2) (nI i) (nI m) := by
      intro Q' b1 b2
      refine mMisGo hk hy h1 hm (mLacks hk (fun a _ => absurd hl_ a) (fun a _ => absurd hl_ a) (fun _ a => absurd (by rw [hz]; exact (row_n hr (by omega)).mpr ⟨i, hi, rfl⟩) a) (fun _ _ => sw1 (by decide) (pX3_look ⟨m + 1, ?_⟩)))
      rw [hD]
      have w := mMis51 (Q := Q') (g := g') (t := t) (z := z) (d := dugP g) (dp := deepP g') (it := it) (tk := tk') (k := k) (i := i) (m := m) hk (by omega) eq b1 b2 (m + 1) 0 (by omega) (by omega) (fun i hi => absurd hi (Nat.not_lt_zero i))
      rw [nI_0] at w
      exact w
    have w := mis53_I (Q := fun r tk1 => wX3_miscounted (fun r' a b => P r tk1 r' a b) g' dug deep t z it (nI k) (nI 2) (nI i) (nI m)) (gro := roofs) (grt := rt) (gd := g) (tk := tk') (shf := shf) (hd := hd) (rn := rn) (rf := rf) (m := m) hm (fun a => go _ (fun _ => hb _ _ _ _) (fun j hj _ n => absurd (a j hj) n)) (fun j hj a n => go _ (fun a2 => absurd (a2 j hj) n) (fun j2 hj2 a2 n2 => by
      have ej : j2 = j := by
        rcases Nat.lt_trichotomy j2 j with z | z | z
        · exact absurd (a j2 z) n2
        · exact z
        · exact absurd (a2 j z) n
      rw [ej]
      exact hb _ _ _ _)) (m + 1) 0 (by omega) (by omega) (fun i hi => absurd hi (Nat.not_lt_zero i))
    rw [nI_0] at w
    exact w
theorem mis53_J {Q : Int32 → (Nat → Int64) → Prop} {gro : Int64} {grt : Int32} {gd : Nat → Int32} {tk : Nat → Int64} {shf : Nat → Option Nat} {hd rn m : Nat} {rf : Nat → Int64} (hm : m ≤ 12) (ha : (∀ j, j < m → cntP (dugP gd) (tk (2 * j)) (tk (2 * j + 1))) → Q (-4) tk) (hn : ∀ j, j < m → (∀ i, i < j → cntP (dugP gd) (tk (2 * i)) (tk (2 * i + 1))) → ¬ cntP (dugP gd) (tk (2 * j)) (tk (2 * j + 1)) → Q (nI j) tk) : ∀ n j, j + n = m + 1 → j ≤ m → (∀ i, i < j → cntP (dugP gd) (tk (2 * i)) (tk (2 * i + 1))) → wX0_miscounted_J_53 Q (nI m) hd gro grt gd tk shf rf rn n (nI j) (3 + j) (500 + 2 * j) := by
  intro n
  induction n with
  | zero => intro j h1 h2; omega
  | succ n ih =>
    intro j h1 h2 hc
    unfold wX0_miscounted_J_53
    by_cases e : j = m
    · subst e
      exact sw1 (Int32.le_refl _) (ha hc)
    · refine sw0 (fun q => by have := (nI_leN (by omega) (by omega)).mp q; omega) ?_
      rw [show (2 : Int32) = nI 2 from rfl, nI_mulN, nI_add1 (2 * j)]
      refine ⟨in_nI (by omega) (by decide), in_nI (by omega) (by decide), by omega, by omega, ?_⟩
      rw [clam_nI (by omega), clam_nI (by omega)]
      refine pCnt (fun c => sw0 (by decide) ?_) (fun c => sw1 rfl (hn j (by omega) hc c))
      intro x ex
      rw [ex, nI_add1]
      have w := ih (j + 1) (by omega) (by omega) (fun i hi => by
        by_cases e2 : i = j
        · rw [e2]; exact c
        · exact hc i (by omega))
      exact w
theorem oMis_J {P : Int32 → (Nat → Int64) → Int32 → Int64 → Int64 → Prop} {g g' : Nat → Int32} {roofs dug deep : Int64} {rt : Int32} {it tk : Nat → Int64} {t z : Nat → Int32} {shf : Nat → Option Nat} {hd k : Nat} {rn : Nat} {rf : Nat → Int64} {x1 x2 x3 x4 : Int32} (gA : agree 36 g g') (hk : k < 4) (hx : (0 ≤ x1 ∧ x1 ≤ 3) → x1 = nI k) (hsh : shf k = some hd) (hl_ : t k = nI 3) (hz : z k = nI rn) (hr : rn ≤ 36) (hit : ∀ i, i < rn → it (36 * k + i) = rf i) (hb : ∀ r tk1 a b, P r tk1 r a b) : wX0_miscounted_J (fun r tk1 => wX3_miscounted (fun r' a b => P r tk1 r' a b) g' dug deep t z it x1 x2 x3 x4) g roofs rt tk shf hd rn rf x1 x2 x3 x4 := by
  unfold wX0_miscounted_J
  refine pSh ⟨fun q => mMisBad (fun a => b2_0 q a.1.1) (hb _ _), fun q => pLn ⟨fun q2 => mMisBad (fun a => b2_0 q2 a.1.2) (hb _ _), fun q2 => pX0_inI (lo := 1) (hi := 12) ⟨fun q3 => mMisBad (fun a => b2_0 q3 a.2) (hb _ _), fun q3 => ?_⟩⟩⟩
  have e1 := hx (b2_1 q)
  have hy := b2_1 q2
  have h5 := b2_1 q3
  subst e1
  obtain ⟨m, hm, e5⟩ := nI_ofN (n := 12) (Int32.le_trans (by decide) h5.1) h5.2 (by decide)
  subst e5
  have h1 : 1 ≤ m := (nI_leN (a := 1) (by decide) (by omega)).mp h5.1
  have hD : dugP g' = dugP g := (dugP_of gA).symm
  rw [show (2 : Int32) = nI 2 from rfl, nI_mulN]
  refine pRef_J hk hsh hr (by omega) hy (fun e => sw0 (by decide) ?_) (fun e ew => sw0 (by decide) ?_) (fun e i hi ew tk' htk => sw1 (by decide) ⟨m + 1, ?_⟩)
  · exact mMisGo hk hy h1 hm (mLacks hk (fun _ a => absurd (by rw [hl_]; decide) (Int32.not_le.mpr a)) (fun _ _ => sw0 (by decide) (hb _ _ _ _)) (fun a _ => absurd (by rw [← a, hl_]) e) (fun a _ => absurd (by rw [← a, hl_]) e))
  · exact mMisGo hk hy h1 hm (mLacks hk (fun a _ => absurd (hl_.trans e.symm) a) (fun a _ => absurd (hl_.trans e.symm) a) (fun _ _ => sw0 (by decide) (hb _ _ _ _)) (fun _ a => absurd (by rw [← hz]; exact a) ew))
  · subst e ew
    have eq : ∀ j, j < 2 * m → it (36 * k + i + j) = tk' j := fun j hj => by rw [Nat.add_assoc, hit (i + j) (by omega), htk j hj]
    have go : ∀ Q' : Int32 → Int64 → Int64 → Prop, ((∀ j, j < m → cntP (dugP g) (tk' (2 * j)) (tk' (2 * j + 1))) → Q' (-4) (dugP g) (deepP g')) → (∀ j, j < m → (∀ i, i < j → cntP (dugP g) (tk' (2 * i)) (tk' (2 * i + 1))) → ¬ cntP (dugP g) (tk' (2 * j)) (tk' (2 * j + 1)) → Q' (nI j) (dugP g) (deepP g')) → wX3_miscounted Q' g' dug deep t z it (nI k) (nI 3) (nI i) (nI m) := by
      intro Q' b1 b2
      refine mMisGo hk hy h1 hm (mLacks hk (fun a _ => absurd hl_ a) (fun a _ => absurd hl_ a) (fun _ a => absurd (by rw [hz]; exact (row_n hr (by omega)).mpr ⟨i, hi, rfl⟩) a) (fun _ _ => sw1 (by decide) (pX3_look ⟨m + 1, ?_⟩)))
      rw [hD]
      have w := mMis51 (Q := Q') (g := g') (t := t) (z := z) (d := dugP g) (dp := deepP g') (it := it) (tk := tk') (k := k) (i := i) (m := m) hk (by omega) eq b1 b2 (m + 1) 0 (by omega) (by omega) (fun i hi => absurd hi (Nat.not_lt_zero i))
      rw [nI_0] at w
      exact w
    have w := mis53_J (Q := fun r tk1 => wX3_miscounted (fun r' a b => P r tk1 r' a b) g' dug deep t z it (nI k) (nI 3) (nI i) (nI m)) (gro := roofs) (grt := rt) (gd := g) (tk := tk') (shf := shf) (hd := hd) (rn := rn) (rf := rf) (m := m) hm (fun a => go _ (fun _ => hb _ _ _ _) (fun j hj _ n => absurd (a j hj) n)) (fun j hj a n => go _ (fun a2 => absurd (a2 j hj) n) (fun j2 hj2 a2 n2 => by
      have ej : j2 = j := by
        rcases Nat.lt_trichotomy j2 j with z | z | z
        · exact absurd (a j2 z) n2
        · exact z
        · exact absurd (a2 j z) n
      rw [ej]
      exact hb _ _ _ _)) (m + 1) 0 (by omega) (by omega) (fun i hi => absurd hi (Nat.not_lt_zero i))
    rw [nI_0] at w
    exact w
