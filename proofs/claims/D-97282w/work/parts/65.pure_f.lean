/-! PURE 25: lots -/
theorem pJ2_clear {Q : Int32 → Int32 → (Nat → Option Nat) → Prop} {mc : Int32} {f : Nat → Option Nat} {n : Nat} (hn : n ≤ 10) (h : ∀ mc1 f1, (∀ j, f1 j = none ∨ f1 j = f j) → Q mc1 0 f1) : wJ2_clear Q mc (nI n) f := by
  unfold wJ2_clear
  intro mc1 hmc
  refine ⟨n + 1, ?_⟩
  have key : ∀ t k f1, k + t = n → (∀ j, f1 j = none ∨ f1 j = f j) → wJ2_clear_27 Q (nI n) mc1 0 (t + 1) (nI k) f1 := by
    intro t
    induction t with
    | zero =>
      intro k f1 hk hf
      have e : k = n := by omega
      subst e
      unfold wJ2_clear_27
      exact ⟨fun _ => h mc1 f1 hf, fun q => absurd (Int32.le_refl _) q⟩
    | succ t ih =>
      intro k f1 hk hf
      unfold wJ2_clear_27
      refine ⟨fun q => absurd ((nI_leN (by omega) (by omega)).mp q) (by omega), fun _ => ⟨in_nI (by omega) (by decide), ?_⟩⟩
      intro a ha
      subst ha
      rw [nI_add1, clam_nI (by omega)]
      refine ih (k + 1) _ (by omega) (fun j => ?_)
      unfold va_up
      by_cases e : j = k
      · rw [if_pos e]; exact Or.inl rfl
      · rw [if_neg e]; exact hf j
  exact key n 0 f (by omega) (fun j => Or.inr rfl)
theorem pJ2_clear_e {Q : Int32 → Int32 → Prop} {mc : Int32} (h : ∀ mc1, Q mc1 0) : wJ2_clear_e Q mc (nI 0) := by
  unfold wJ2_clear_e
  intro a ha
  exact ⟨fun _ => h a, fun q => absurd (by decide) q⟩
theorem okD_lot {g : Nat → Int32} (hg : okD g) {c : Nat} (hc : c < 36) (fl : Prop) [Decidable fl] : okD (lotG g c fl) := by
  unfold lotG
  by_cases q : g c = (if fl then 0 else 9)
  · rw [if_pos q]; exact hg
  · rw [if_neg q]
    intro i hi
    unfold upd
    by_cases e : i = c
    · rw [if_pos e]
      by_cases f : fl
      · rw [if_pos f]; exact ⟨by decide, by decide⟩
      · rw [if_neg f]
        rw [if_neg f] at q
        obtain ⟨j, hj, ej⟩ := nI_ofN (n := 9) (hg c hc).1 (hg c hc).2 (by decide)
        rw [ej, nI_add1]
        have : j ≠ 9 := fun z => q (by rw [ej, z]; rfl)
        exact ⟨pos_nI _ (by omega), (nI_leN (b := 9) (by omega) (by decide)).mpr (by omega)⟩
    · rw [if_neg e]; exact hg i hi
section LOTS
variable (D : Int32 → Int32) (V : Int32 → Nat → Nat)
def lotsF : Nat → Int32 → Int32 → Int64 → (Nat → Int32) → Int32 × Int32 × Int64 × (Nat → Int32)
  | 0, s, dr, ro, g => (s, dr, ro, g)
  | t + 1, s, dr, ro, g => lotsF t (lotS g (V dr 36) (V (D dr) 4 = 0) s) (D (D dr)) (lotR g ro (V dr 36) (V (D dr) 4 = 0)) (lotG g (V dr 36) (V (D dr) 4 = 0))
theorem lot_agree {g g' : Nat → Int32} (h : agree 36 g g') {c : Nat} (hc : c < 36) (fl : Prop) [Decidable fl] : agree 36 (lotG g c fl) (lotG g' c fl) ∧ (∀ ro, lotR g ro c fl = lotR g' ro c fl) ∧ ∀ s, lotS g c fl s = lotS g' c fl s := by
  refine ⟨?_, fun ro => by unfold lotR; rw [h c hc], fun s => by unfold lotS; rw [h c hc]⟩
  unfold lotG
  rw [h c hc]
  by_cases q : g' c = (if fl then 0 else 9)
  · rw [if_pos q, if_pos q]; exact h
  · rw [if_neg q, if_neg q]
    intro i hi
    unfold upd
    by_cases e : i = c
    · rw [if_pos e, if_pos e]
    · rw [if_neg e, if_neg e]; exact h i hi
variable {D} {V}
theorem lotsF_agree (hV : ∀ d k, 0 < k → V d k < k) : ∀ t s dr ro g g', agree 36 g g' → (lotsF D V t s dr ro g).1 = (lotsF D V t s dr ro g').1 ∧ (lotsF D V t s dr ro g).2.1 = (lotsF D V t s dr ro g').2.1 ∧ (lotsF D V t s dr ro g).2.2.1 = (lotsF D V t s dr ro g').2.2.1 ∧ agree 36 (lotsF D V t s dr ro g).2.2.2 (lotsF D V t s dr ro g').2.2.2 := by
  intro t
  induction t with
  | zero => intro s dr ro g g' h; exact ⟨rfl, rfl, rfl, h⟩
  | succ t ih =>
    intro s dr ro g g' h
    have hl := lot_agree h (hV dr 36 (by decide)) (V (D dr) 4 = 0)
    unfold lotsF
    rw [hl.2.1 ro, hl.2.2 s]
    exact ih _ _ _ _ _ hl.1
theorem lotsF_ok (hV : ∀ d k, 0 < k → V d k < k) : ∀ t s dr ro g, okD g → okD (lotsF D V t s dr ro g).2.2.2 := by
  intro t
  induction t with
  | zero => intro s dr ro g h; exact h
  | succ t ih => intro s dr ro g h; unfold lotsF; exact ih _ _ _ _ (okD_lot h (hV dr 36 (by decide)) _)
theorem clots_step_e {Q : Int32 → Int32 → (Nat → Int32) → Int64 → Int32 → Int32 → Prop} {k18 : Int32 → Int32 → Int32 → Int64 → (Nat → Int32) → Prop} {x1 s umc usz d2 : Int32} {ro : Int64} {g : Nat → Int32} {k c : Nat} (hg : okD g) (hc : c < 36) (z : Int32) (fl : Prop) [Decidable fl] (hz : fl ↔ ¬ z = 0) (h : k18 (lotS g c fl s) (nI (k + 1)) d2 (lotR g ro c fl) (lotG g c fl)) : wX0_lots_e_44 Q k18 x1 s (nI k) (nI c) z d2 ro g umc usz := by
  unfold wX0_lots_e_44 wX0_lots_e_71 wX0_lots_e_98
  refine ⟨in_nI hc (by decide), ?_⟩
  rw [clam_nI (by omega), bit_nI (by omega)]
  intro d hd
  subst hd
  unfold lotS lotR lotG at h
  refine ⟨fun q => ?_, fun q => ?_⟩
  · have nf : ¬ fl := fun f => (hz.mp f) q
    simp only [if_neg nf] at h
    refine ⟨fun e => ?_, fun e => ⟨fun _ => ?_, fun w => absurd q w⟩⟩
    · intro a ha; subst ha; rw [nI_add1]; rw [if_pos e, if_pos e, if_pos e] at h; exact h
    · rw [if_neg e, if_neg e, if_neg e] at h
      obtain ⟨j, hj, ej⟩ := nI_ofN (n := 9) (hg c hc).1 (hg c hc).2 (by decide)
      refine pX1_becomes (small_bit hc) (by rw [ej, nI_add1]; exact pos_nI _ (by omega)) (by rw [ej, nI_add1]; exact (nI_leN (b := 127) (by omega) (by decide)).mpr (by omega)) ?_
      rw [bec_bit g hc, if_neg (by rw [ej, nI_add1]; intro w; exact absurd ((nI_inj (b := 0) (by omega) (by decide)).mp w) (by omega))]
      refine ⟨fun _ => ?_, fun w => absurd q w⟩
      intro a ha b hb; subst ha hb; rw [nI_add1]; exact h
  · have f : fl := hz.mpr q
    simp only [if_pos f] at h
    refine ⟨fun e => ?_, fun e => ⟨fun w => absurd w q, fun _ => ?_⟩⟩
    · intro a ha; subst ha; rw [nI_add1]; rw [if_pos e, if_pos e, if_pos e] at h; exact h
    · rw [if_neg e, if_neg e, if_neg e] at h
      refine pX1_becomes (small_bit hc) (by decide) (by decide) ?_
      rw [bec_bit g hc, if_pos rfl]
      refine ⟨fun w => absurd w q, fun _ => ?_⟩
      intro a ha b hb; subst ha hb; rw [nI_add1]; exact h
theorem clots_18_e (hV : ∀ d k, 0 < k → V d k < k) (hW : ∀ (Q : Int32 → Int32 → Prop) (d : Int32) (k : Nat), k < 100 → 0 < k → Q (nI (V d k)) (D d) → wX0_drawn Q d (nI k)) {Q : Int32 → Int32 → (Nat → Int32) → Int64 → Int32 → Int32 → Prop} {umc : Int32} {n : Nat} (hn : n < 2 ^ 31) : ∀ t k s dr ro g, k + t = n → okD g → (∀ mc, Q (lotsF D V t s dr ro g).1 (lotsF D V t s dr ro g).2.1 (lotsF D V t s dr ro g).2.2.2 (lotsF D V t s dr ro g).2.2.1 mc 0) → wX0_lots_e_18 Q (nI n) umc (nI 0) (t + 1) s (nI k) dr ro g := by
  intro t
  induction t with
  | zero =>
    intro k s dr ro g hk hg h
    have e : k = n := by omega
    subst e
    unfold wX0_lots_e_18
    exact ⟨fun _ => pJ2_clear_e h, fun q => absurd (Int32.le_refl _) q⟩
  | succ t ih =>
    intro k s dr ro g hk hg h
    unfold lotsF at h
    have hf := ih (k + 1) _ _ _ _ (by omega) (okD_lot hg (hV dr 36 (by decide)) _) h
    unfold wX0_lots_e_18
    refine ⟨fun q => absurd ((nI_leN (by omega) (by omega)).mp q) (by omega), fun _ => ?_⟩
    refine hW _ _ 36 (by decide) (by decide) ?_
    refine hW _ _ 4 (by decide) (by decide) ?_
    have hlt := hV (D dr) 4 (by decide)
    have z0 : nI (V (D dr) 4) = 0 ↔ V (D dr) 4 = 0 := nI_inj (b := 0) (by omega) (by decide)
    refine ⟨fun q => ?_, fun q => ?_⟩
    · exact clots_step_e hg (hV dr 36 (by decide)) 1 (V (D dr) 4 = 0) ⟨fun _ => by decide, fun _ => z0.mp q⟩ hf
    · exact clots_step_e hg (hV dr 36 (by decide)) 0 (V (D dr) 4 = 0) ⟨fun w => absurd (z0.mpr w) q, fun w => absurd rfl w⟩ hf
theorem clots_step_r {Q : Int32 → Int32 → (Nat → Int32) → Int64 → Int32 → Int32 → (Nat → Option Nat) → Prop} {k18 : Int32 → Int32 → Int32 → Int64 → (Nat → Int32) → Prop} {x1 s umc usz d2 : Int32} {uf : Nat → Option Nat} {ro : Int64} {g : Nat → Int32} {k c : Nat} (hg : okD g) (hc : c < 36) (z : Int32) (fl : Prop) [Decidable fl] (hz : fl ↔ ¬ z = 0) (h : k18 (lotS g c fl s) (nI (k + 1)) d2 (lotR g ro c fl) (lotG g c fl)) : wX0_lots_r_44 Q k18 x1 s (nI k) (nI c) z d2 ro g umc usz uf := by
  unfold wX0_lots_r_44 wX0_lots_r_71 wX0_lots_r_98
  refine ⟨in_nI hc (by decide), ?_⟩
  rw [clam_nI (by omega), bit_nI (by omega)]
  intro d hd
  subst hd
  unfold lotS lotR lotG at h
  refine ⟨fun q => ?_, fun q => ?_⟩
  · have nf : ¬ fl := fun f => (hz.mp f) q
    simp only [if_neg nf] at h
    refine ⟨fun e => ?_, fun e => ⟨fun _ => ?_, fun w => absurd q w⟩⟩
    · intro a ha; subst ha; rw [nI_add1]; rw [if_pos e, if_pos e, if_pos e] at h; exact h
    · rw [if_neg e, if_neg e, if_neg e] at h
      obtain ⟨j, hj, ej⟩ := nI_ofN (n := 9) (hg c hc).1 (hg c hc).2 (by decide)
      refine pX1_becomes (small_bit hc) (by rw [ej, nI_add1]; exact pos_nI _ (by omega)) (by rw [ej, nI_add1]; exact (nI_leN (b := 127) (by omega) (by decide)).mpr (by omega)) ?_
      rw [bec_bit g hc, if_neg (by rw [ej, nI_add1]; intro w; exact absurd ((nI_inj (b := 0) (by omega) (by decide)).mp w) (by omega))]
      refine ⟨fun _ => ?_, fun w => absurd q w⟩
      intro a ha b hb; subst ha hb; rw [nI_add1]; exact h
  · have f : fl := hz.mpr q
    simp only [if_pos f] at h
    refine ⟨fun e => ?_, fun e => ⟨fun w => absurd w q, fun _ => ?_⟩⟩
    · intro a ha; subst ha; rw [nI_add1]; rw [if_pos e, if_pos e, if_pos e] at h; exact h
    · rw [if_neg e, if_neg e, if_neg e] at h
      refine pX1_becomes (small_bit hc) (by decide) (by decide) ?_
      rw [bec_bit g hc, if_pos rfl]
      refine ⟨fun w => absurd w q, fun _ => ?_⟩
      intro a ha b hb; subst ha hb; rw [nI_add1]; exact h
theorem clots_18_r (hV : ∀ d k, 0 < k → V d k < k) (hW : ∀ (Q : Int32 → Int32 → Prop) (d : Int32) (k : Nat), k < 100 → 0 < k → Q (nI (V d k)) (D d) → wX0_drawn Q d (nI k)) {Q : Int32 → Int32 → (Nat → Int32) → Int64 → Int32 → Int32 → (Nat → Option Nat) → Prop} {umc : Int32} {uf : Nat → Option Nat} {n : Nat} (hn : n < 2 ^ 31) {nz : Nat} (hnz : nz ≤ 10) : ∀ t k s dr ro g, k + t = n → okD g → (∀ mc f1, (∀ j, f1 j = none ∨ f1 j = uf j) → Q (lotsF D V t s dr ro g).1 (lotsF D V t s dr ro g).2.1 (lotsF D V t s dr ro g).2.2.2 (lotsF D V t s dr ro g).2.2.1 mc 0 f1) → wX0_lots_r_18 Q (nI n) umc (nI nz) uf (t + 1) s (nI k) dr ro g := by
  intro t
  induction t with
  | zero =>
    intro k s dr ro g hk hg h
    have e : k = n := by omega
    subst e
    unfold wX0_lots_r_18
    exact ⟨fun _ => pJ2_clear hnz h, fun q => absurd (Int32.le_refl _) q⟩
  | succ t ih =>
    intro k s dr ro g hk hg h
    unfold lotsF at h
    have hf := ih (k + 1) _ _ _ _ (by omega) (okD_lot hg (hV dr 36 (by decide)) _) h
    unfold wX0_lots_r_18
    refine ⟨fun q => absurd ((nI_leN (by omega) (by omega)).mp q) (by omega), fun _ => ?_⟩
    refine hW _ _ 36 (by decide) (by decide) ?_
    refine hW _ _ 4 (by decide) (by decide) ?_
    have hlt := hV (D dr) 4 (by decide)
    have z0 : nI (V (D dr) 4) = 0 ↔ V (D dr) 4 = 0 := nI_inj (b := 0) (by omega) (by decide)
    refine ⟨fun q => ?_, fun q => ?_⟩
    · exact clots_step_r hg (hV dr 36 (by decide)) 1 (V (D dr) 4 = 0) ⟨fun _ => by decide, fun _ => z0.mp q⟩ hf
    · exact clots_step_r hg (hV dr 36 (by decide)) 0 (V (D dr) 4 = 0) ⟨fun w => absurd (z0.mpr w) q, fun w => absurd rfl w⟩ hf
theorem mlots_step {Q : Int32 → (Nat → Int32) → Int64 → Int32 → Int32 → Prop} {k18 : Int32 → Int32 → (Nat → Int32) → Int64 → Int32 → Prop} {x1 s um d2 : Int32} {ro : Int64} {g : Nat → Int32} {k c : Nat} (hg : okD g) (hc : c < 36) (z : Int32) (fl : Prop) [Decidable fl] (hz : fl ↔ ¬ z = 0) (h : k18 (lotS g c fl s) (nI (k + 1)) (lotG g c fl) (lotR g ro c fl) d2) : wX3_lots_44 Q k18 x1 s (nI k) (nI c) z g ro um d2 := by
  unfold wX3_lots_44 wX3_lots_72
  rw [clam_nI (by omega)]
  unfold lotS lotR lotG at h
  have le0 : g c ≤ 0 ↔ g c = 0 := ⟨fun q => Int32.le_antisymm q (hg c hc).1, fun q => by rw [q]; decide⟩
  have ge9 : 9 ≤ g c ↔ g c = 9 := ⟨fun q => Int32.le_antisymm (hg c hc).2 q, fun q => by rw [q]; decide⟩
  refine ⟨fun q => ⟨fun _ => ⟨in_nI hc (by decide), fun e => ?_, fun e => ⟨in_nI hc (by decide), in_nI hc (by decide), ?_⟩⟩, fun w => absurd q w⟩, fun q => ⟨in_nI hc (by decide), fun e => ⟨fun w => absurd w q, fun _ => ?_⟩, fun e => ?_⟩⟩
  · have nf : ¬ fl := fun f => (hz.mp f) q
    simp only [if_neg nf] at h
    intro a ha; subst ha; rw [nI_add1]
    have e := ge9.mp e
    rw [if_pos e, if_pos e, if_pos e] at h; exact h
  · have nf : ¬ fl := fun f => (hz.mp f) q
    simp only [if_neg nf] at h
    have e : ¬ g c = 9 := fun w => e (ge9.mpr w)
    rw [if_neg e, if_neg e, if_neg e] at h
    intro a ha b hb d hd; subst ha hb hd; rw [nI_add1]; exact h
  · have f : fl := hz.mpr q
    simp only [if_pos f] at h
    have e := le0.mp e
    intro a ha; subst ha; rw [nI_add1]
    rw [if_pos e, if_pos e, if_pos e] at h; exact h
  · have f : fl := hz.mpr q
    simp only [if_pos f] at h
    have e : ¬ g c = 0 := fun w => e (le0.mpr w)
    rw [if_neg e, if_neg e, if_neg e] at h
    refine pX3_put hc ?_
    rw [if_pos rfl]
    intro a ha
    refine ⟨fun w => absurd w q, fun _ => ?_⟩
    intro b hb; subst ha hb; rw [nI_add1]; exact h
theorem mlots_18 (hV : ∀ d k, 0 < k → V d k < k) (hW : ∀ (Q : Int32 → Int32 → Prop) (d : Int32) (k : Nat), k < 100 → 0 < k → Q (nI (V d k)) (D d) → wX3_nextDraw Q d (nI k)) {Q : Int32 → (Nat → Int32) → Int64 → Int32 → Int32 → Prop} {um : Int32} {n : Nat} (hn : n < 2 ^ 31) : ∀ t k s dr ro g, k + t = n → okD g → Q (lotsF D V t s dr ro g).1 (lotsF D V t s dr ro g).2.2.2 (lotsF D V t s dr ro g).2.2.1 0 (lotsF D V t s dr ro g).2.1 → wX3_lots_18 Q (nI n) um (t + 1) s (nI k) g ro dr := by
  intro t
  induction t with
  | zero =>
    intro k s dr ro g hk hg h
    have e : k = n := by omega
    subst e
    unfold wX3_lots_18
    exact ⟨fun _ => h, fun q => absurd (Int32.le_refl _) q⟩
  | succ t ih =>
    intro k s dr ro g hk hg h
    unfold lotsF at h
    have hf := ih (k + 1) _ _ _ _ (by omega) (okD_lot hg (hV dr 36 (by decide)) _) h
    unfold wX3_lots_18
    refine ⟨fun q => absurd ((nI_leN (by omega) (by omega)).mp q) (by omega), fun _ => ?_⟩
    refine hW _ _ 36 (by decide) (by decide) ?_
    refine hW _ _ 4 (by decide) (by decide) ?_
    have hlt := hV (D dr) 4 (by decide)
    have z0 : nI (V (D dr) 4) = 0 ↔ V (D dr) 4 = 0 := nI_inj (b := 0) (by omega) (by decide)
    refine ⟨fun q => ?_, fun q => ?_⟩
    · exact mlots_step hg (hV dr 36 (by decide)) 1 (V (D dr) 4 = 0) ⟨fun _ => by decide, fun _ => z0.mp q⟩ hf
    · exact mlots_step hg (hV dr 36 (by decide)) 0 (V (D dr) 4 = 0) ⟨fun w => absurd (z0.mpr w) q, fun w => absurd rfl w⟩ hf
end LOTS
theorem drwV : ∀ d k, 0 < k → drv d k < k := fun d _ h => drv_lt d h
theorem drw0 : ∀ (Q : Int32 → Int32 → Prop) (d : Int32) (k : Nat), k < 100 → 0 < k → Q (nI (drv d k)) (drw d) → wX0_drawn Q d (nI k) := fun _ _ k h1 h2 h => pX0_drawn (Nat.lt_trans h1 (by decide)) (by omega) h
theorem drw3 : ∀ (Q : Int32 → Int32 → Prop) (d : Int32) (k : Nat), k < 100 → 0 < k → Q (nI (drv d k)) (drw d) → wX3_nextDraw Q d (nI k) := fun _ _ k h1 h2 h => pX3_nextDraw (Nat.lt_trans h1 (by decide)) (by omega) h
theorem mLots {D : Int32 → Int32} {V : Int32 → Nat → Nat} (hV : ∀ d k, 0 < k → V d k < k) (hW : ∀ (Q : Int32 → Int32 → Prop) (d : Int32) (k : Nat), k < 100 → 0 < k → Q (nI (V d k)) (D d) → wX3_nextDraw Q d (nI k)) {Q : Int32 → (Nat → Int32) → Int64 → Int32 → Int32 → Prop} {g : Nat → Int32} {ro : Int64} {um dr : Int32} {n : Nat} (hg : okD g) (h1 : 1 ≤ n) (hn : n ≤ 99) (h : Q (lotsF D V n 0 dr ro g).1 (lotsF D V n 0 dr ro g).2.2.2 (lotsF D V n 0 dr ro g).2.2.1 0 (lotsF D V n 0 dr ro g).2.1) : wX3_lots Q g ro um dr (nI n) := by
  unfold wX3_lots
  refine pX3_inI (lo := 1) (hi := 99) ⟨fun z => absurd ⟨(nI_leN (a := 1) (by decide) (by omega)).mpr h1, (nI_leN (b := 99) (by omega) (by decide)).mpr hn⟩ (b2_0 z), fun _ => ⟨n + 1, ?_⟩⟩
  exact mlots_18 hV hW (by omega) n 0 0 dr ro g (by omega) hg h
theorem mLots_bad {Q : Int32 → (Nat → Int32) → Int64 → Int32 → Int32 → Prop} {g : Nat → Int32} {ro : Int64} {um dr x : Int32} (hx : ¬ (1 ≤ x ∧ x ≤ 99)) (h : Q (-1) g ro um dr) : wX3_lots Q g ro um dr x := by
  unfold wX3_lots
  exact pX3_inI (lo := 1) (hi := 99) ⟨fun _ => h, fun z => absurd (b2_1 z) hx⟩
theorem oLots_e {D : Int32 → Int32} {V : Int32 → Nat → Nat} (hV : ∀ d k, 0 < k → V d k < k) (hW0 : ∀ (Q : Int32 → Int32 → Prop) (d : Int32) (k : Nat), k < 100 → 0 < k → Q (nI (V d k)) (D d) → wX0_drawn Q d (nI k)) (hW3 : ∀ (Q : Int32 → Int32 → Prop) (d : Int32) (k : Nat), k < 100 → 0 < k → Q (nI (V d k)) (D d) → wX3_nextDraw Q d (nI k)) {P : Int32 → Int32 → (Nat → Int32) → Int64 → Int32 → Int32 → Int32 → (Nat → Int32) → Int64 → Int32 → Int32 → Prop} {g g' : Nat → Int32} {ro : Int64} {umc um dr x : Int32} (hg : okD g) (ha : agree 36 g g')
    (hb : P (-1) dr g ro umc (nI 0) (-1) g' ro um dr) (hp : ∀ v d1 g1 g1' r1 mc1, okD g1 → agree 36 g1 g1' → P v d1 g1 r1 mc1 0 v g1' r1 0 d1) : wX0_lots_e (fun r a b c d e => wX3_lots (fun r' b' c' u' a' => P r a b c d e r' b' c' u' a') g' ro um dr x) dr g ro umc (nI 0) x := by
  unfold wX0_lots_e
  refine pX0_inI (lo := 1) (hi := 99) ⟨fun z => mLots_bad (b2_0 z) hb, fun z => ?_⟩
  obtain ⟨n, hn, e⟩ := nI_ofN (n := 99) (Int32.le_trans (by decide) (b2_1 z).1) (b2_1 z).2 (by decide)
  subst e
  have h1 : 1 ≤ n := (nI_leN (a := 1) (by decide) (by omega)).mp (b2_1 z).1
  have hg' : okD g' := fun i hi => by rw [← ha i hi]; exact hg i hi
  refine ⟨n + 1, clots_18_e hV hW0 (by omega) n 0 0 dr ro g (by omega) hg ?_⟩
  intro mc1
  have hag := lotsF_agree (D := D) hV n 0 dr ro g g' ha
  refine mLots hV hW3 hg' h1 (by omega) ?_
  rw [← hag.1, ← hag.2.1, ← hag.2.2.1]
  exact hp _ _ _ _ _ _ (lotsF_ok hV n 0 dr ro g hg) hag.2.2.2
theorem oLots_r {D : Int32 → Int32} {V : Int32 → Nat → Nat} (hV : ∀ d k, 0 < k → V d k < k) (hW0 : ∀ (Q : Int32 → Int32 → Prop) (d : Int32) (k : Nat), k < 100 → 0 < k → Q (nI (V d k)) (D d) → wX0_drawn Q d (nI k)) (hW3 : ∀ (Q : Int32 → Int32 → Prop) (d : Int32) (k : Nat), k < 100 → 0 < k → Q (nI (V d k)) (D d) → wX3_nextDraw Q d (nI k)) {P : Int32 → Int32 → (Nat → Int32) → Int64 → Int32 → Int32 → (Nat → Option Nat) → Int32 → (Nat → Int32) → Int64 → Int32 → Int32 → Prop} {g g' : Nat → Int32} {ro : Int64} {umc um dr x : Int32} {uf : Nat → Option Nat} {nz : Nat} (hnz : nz ≤ 10) (hg : okD g) (ha : agree 36 g g')
    (hb : P (-1) dr g ro umc (nI nz) uf (-1) g' ro um dr) (hp : ∀ v d1 g1 g1' r1 mc1 (f1 : Nat → Option Nat), okD g1 → agree 36 g1 g1' → (∀ j, f1 j = none ∨ f1 j = uf j) → P v d1 g1 r1 mc1 0 f1 v g1' r1 0 d1) : wX0_lots_r (fun r a b c d e f => wX3_lots (fun r' b' c' u' a' => P r a b c d e f r' b' c' u' a') g' ro um dr x) dr g ro umc (nI nz) uf x := by
  unfold wX0_lots_r
  refine pX0_inI (lo := 1) (hi := 99) ⟨fun z => mLots_bad (b2_0 z) hb, fun z => ?_⟩
  obtain ⟨n, hn, e⟩ := nI_ofN (n := 99) (Int32.le_trans (by decide) (b2_1 z).1) (b2_1 z).2 (by decide)
  subst e
  have h1 : 1 ≤ n := (nI_leN (a := 1) (by decide) (by omega)).mp (b2_1 z).1
  have hg' : okD g' := fun i hi => by rw [← ha i hi]; exact hg i hi
  refine ⟨n + 1, clots_18_r hV hW0 (by omega) hnz n 0 0 dr ro g (by omega) hg ?_⟩
  intro mc1 f1 hf1
  have hag := lotsF_agree (D := D) hV n 0 dr ro g g' ha
  refine mLots hV hW3 hg' h1 (by omega) ?_
  rw [← hag.1, ← hag.2.1, ← hag.2.2.1]
  exact hp _ _ _ _ _ _ _ (lotsF_ok hV n 0 dr ro g hg) hag.2.2.2 hf1
