/-! Ground.holes(): all holes by their least cells, in a list; at most 18 -/
def hC (n cap : Nat) : Nat := 1 + n + (if cap = 0 then 0 else if cap = 10 then 1 else if cap = 15 then 2 else 3)
def hSl (n cap : Nat) : Nat := 3 + 2 * n + (if cap = 0 then 0 else if cap = 10 then 10 else if cap = 15 then 25 else 47)
theorem hC_step {eA ea n cap : Nat} {pk : Nat → Nat} (h : lOk eA ea cap n pk) (hn : n < 18) : (hC n cap + 1 + lMC n cap = hC (n + 1) (lCap n cap) ∧ hSl n cap + 2 + lMS n cap = hSl (n + 1) (lCap n cap)) ∧ hC (n + 1) (lCap n cap) ≤ 22 ∧ hSl (n + 1) (lCap n cap) ≤ 86 := by
  obtain ⟨hc, hnc, -⟩ := h
  rcases hc with ⟨rfl, -⟩ | rfl | rfl | rfl
  · have : n = 0 := by omega
    subst this
    decide
  · by_cases h : n < 10
    · simp [hC, hSl, lMC, lMS, lCap, h]; omega
    · have : n = 10 := by omega
      subst this
      decide
  · by_cases h : n < 15
    · simp [hC, hSl, lMC, lMS, lCap, h]; omega
    · have : n = 15 := by omega
      subst this
      decide
  · have h : n < 22 := by omega
    simp [hC, hSl, lMC, lMS, lCap, h]; omega
theorem hC_le {eA ea n cap : Nat} {pk : Nat → Nat} (h : lOk eA ea cap n pk) (hn : n ≤ 18) : hC n cap ≤ 22 ∧ hSl n cap ≤ 86 := by
  obtain ⟨hc, hnc, -⟩ := h
  rcases hc with ⟨rfl, -⟩ | rfl | rfl | rfl <;> simp [hC, hSl] <;> omega
def wX1_holes_13 (Q : Nat → (Nat → Nat) → (Nat → Int64) → Prop) (depths : Nat → Int32) (roofs : Int64) (rate : Int32) : Nat → Int64 → Nat → (Nat → Nat) → (Nat → Int64) → Prop
  | 0, _, _, _, _ => False
  | fu + 1, x2, n, pk, pm => (x2 = 0 → Q n pk pm) ∧ (¬ x2 = 0 → n < 18 ∧ wX0_spread (fun r => wX1_made (fun ci cells rt => rt = rate ∧ wX1_holes_13 Q depths roofs rate fu (x2 &&& (r ^^^ (-1))) (n + 1) (va_up pk n ci) (va_up pm n cells)) depths roofs rate r) (x2 &&& (-x2)) x2)
def wX1_holes (Q : Nat → (Nat → Nat) → (Nat → Int64) → Prop) (depths : Nat → Int32) (roofs : Int64) (rate : Int32) : Prop := wX1_dug (fun r => ∃ fu, wX1_holes_13 Q depths roofs rate fu r 0 (fun _ => 0) (fun _ => 0)) depths
theorem pdX1_holes : DscOk yX1_holes 0 := by decide +kernel
abbrev rmX1_holes : Room := { frames := 7, cells := 22, slots := 86, locals := 171 }
abbrev RX1_holes_ : Room := (headSpec (ws_ yX1_holes cX1_holes 6 (some (.object "java/util/ArrayList"))) rmX1_holes).room
theorem perm_last {α : Type} (L : List α) (a b c : α) : (L ++ [a, b, c]).Perm (c :: (L ++ [a, b])) := by
  classical
  rw [List.perm_iff_count]
  intro q
  simp only [List.count_append, List.count_cons, List.count_nil]
  omega
/-- Ground's cells -/
abbrev gW (dA : Nat → ClassId) (g d : Nat) (depths : Nat → Int32) (roofs : Int64) (rate : Int32) : va_W := [(g, .inr (1, [.ref d, .long roofs, .int rate])), (d, .inl (dA 0, 36, .inl depths))]
section HO
variable {p : Program} {l : Launch} {e : Env} {s : State} {m : MethodId} {args : Array Value} {below : List Frame} {meth : Method} {c : Code} {Qw : State → Prop} {dC : Nat → ClassId} {dI : Nat → Nat → Nat} {dA : Nat → ClassId} {eA mi : Nat} {A : Nat → Prop} {g d : Nat}
abbrev hrX1_holes (p : Program) (l : Launch) (e : Env) (s : State) (m : MethodId) (args : Array Value) (below : List Frame) (meth : Method) (c : Code) (dC : Nat → ClassId) (dI : Nat → Nat → Nat) (dA : Nat → ClassId) (eA : Nat) (A : Nat → Prop) (g d : Nat) (Qw : State → Prop) (Q : Nat → (Nat → Nat) → (Nat → Int64) → Prop) (depths : Nat → Int32) (roofs : Int64) (rate : Int32) : Prop :=
  ∀ (la ea cap : Nat) (mc : Int32) (n : Nat) (pa pk : Nat → Nat) (pm : Nat → Int64) (H : Heap) (locs : List Loc) (kc ks pc : Nat) (ls : Array Slot), kc ≤ 22 → ks ≤ 86 → lOk eA ea cap n pk → n ≤ 18 → Q n pk pm → va_P (dC, dI) vwCl (lP dA la ea cap mc n pa pk pm rate ++ gW dA g d depths roofs rate) H → va_D A (lP dA la ea cap mc n pa pk pm rate ++ gW dA g d depths roofs rate) → va_S A s.heap H locs → decode cX1_holes pc = .ok (.areturn, 1) → W p l e RX1_holes_ s m args below meth c H locs kc ks Qw (F0 m pc ls [.ref la])
set_option maxHeartbeats 4000000 in
set_option maxRecDepth 100000 in
theorem tX1_holes_13 {Q : Nat → (Nat → Nat) → (Nat → Int64) → Prop} {depths : Nat → Int32} {roofs : Int64} {rate : Int32} {la : Nat} (S : CallFix p m c cX1_holes 6 s args lw_all RX1) (hK : va_K (dC, dI) vwCl (tysG dA) s) (hE : EG A eA mi s s.heap) (hA : ∀ q, s.heap.size ≤ q → A q) (hret : hrX1_holes p l e s m args below meth c dC dI dA eA A g d Qw Q depths roofs rate) :
    ∀ (fu : Nat) (x2 : Int64) (n cap ea : Nat) (mc : Int32) (pa pk : Nat → Nat) (pm : Nat → Int64) (H : Heap) (locs : List Loc) (ls : Array Slot), wX1_holes_13 Q depths roofs rate fu x2 n pk pm → lOk eA ea cap n pk → n ≤ 18 → va_P (dC, dI) vwCl (lP dA la ea cap mc n pa pk pm rate ++ gW dA g d depths roofs rate) H → va_D A (lP dA la ea cap mc n pa pk pm rate ++ gW dA g d depths roofs rate) → va_S A s.heap H locs → lv_has ls 6 [(0, .ref g), (1, .ref la), (2, .long x2)] → W p l e RX1_holes_ s m args below meth c H locs (hC n cap) (hSl n cap) Qw (F0 m 13 ls []) := by
  obtain ⟨hx, hb, hml, hown, hts⟩ := id S
  intro fu
  induction fu with
  | zero => intro _ _ _ _ _ _ _ _ _ _ _ hf; exact hf.elim
  | succ fu ih =>
    intro x2 n cap ea mc pa pk pm H locs ls hf hok hn hP hD hS hl
    rw [wX1_holes_13] at hf
    have hle := hC_le hok hn
    refine lv_lload_n hx hb dX1_holes_13 rfl (lv_at hl 2 rfl) ?_
    refine lv_lconst (v := 0) hx hb dX1_holes_14 (by decide) ?_
    refine lc_eq (tgt := 52) hx hb dX1_holes_15 dX1_holes_16 (by decide) (fun c_15 => ?_) (fun c_15 => ?_)
    · replace hf := hf.1 c_15
      refine lv_aload_n hx hb dX1_holes_52 rfl (lv_at hl 1 rfl) ?_
      exact hret la ea cap mc n pa pk pm _ _ _ _ _ _ hle.1 hle.2 hok hn hf hP hD hS dX1_holes_53
    · obtain ⟨h18, hf⟩ := hf.2 c_15
      have hst := hC_step hok h18
      refine lv_lload_n hx hb dX1_holes_19 rfl (lv_at hl 2 rfl) ?_
      refine lv_lload_n hx hb dX1_holes_20 rfl (lv_at hl 2 rfl) ?_
      refine lv_lneg hx hb dX1_holes_21 ?_
      refine lv_land hx hb dX1_holes_22 ?_
      refine lv_lload_n hx hb dX1_holes_23 rfl (lv_at hl 2 rfl) ?_
      refine crn_l (w0 := []) (As := [.long (x2 &&& (-x2)), .long x2]) (rest := []) S va_nil hK (EG.now hE hS) (metX0_spread l hf) q270 ⟨q271, q54, q272⟩ pdX0_spread ⟨rfl, rfl⟩ ⟨Nat.le_of_ble_eq_true rfl, Nat.le_of_ble_eq_true rfl⟩ rfl hl.1 rfl (Nat.le_of_ble_eq_true rfl) dX1_holes_24 hle (fun r hf => ?_)
      refine lv_lstore (lv' := [(4, .long r), (0, .ref g), (1, .ref la), (2, .long x2)]) hx hb dX1_holes_27 hl (by decide) rfl (fun ls hl => ?_)
      refine lv_aload_n hx hb dX1_holes_29 rfl (lv_at hl 2 rfl) ?_
      refine lv_aload_n hx hb dX1_holes_30 rfl (lv_at hl 1 rfl) ?_
      refine lv_lload hx hb dX1_holes_31 (lv_at hl 0 rfl) ?_
      have hP2 := hP.perm List.perm_append_comm
      have hD2 := hD.perm List.perm_append_comm
      refine sC_r hP2 hD2 hS hA (va_runV (As := [.long r]) (rest := [.ref la]) S (metX1_made l hf) (cwV 1 hts (lw_V q282 q283 q284 q55 q285) rfl rfl rfl ⟨rfl, pdX1_made⟩ ⟨Nat.le_of_ble_eq_true rfl, Nat.le_of_ble_eq_true rfl⟩) ⟨ablind, va_recv hK hP2 (ci := 1) (q0 := 0) rfl rfl, (spre hK hE hP2 hD2 hS hA).2⟩ rfl rfl hl.1 rfl (lv_room (Nat.le_of_ble_eq_true rfl)) dX1_holes_33 ⟨by show hC n cap + 1 ≤ 22; omega, by show hSl n cap + 2 ≤ 86; omega⟩) (fun u x H locs hf hP hD hS => ?_)
      obtain ⟨ci, cells, rt⟩ := u
      obtain ⟨hci, hrt, hf⟩ := hf
      have hrt : rt = rate := hrt
      subst hrt
      have hpm := perm_last (lP dA la ea cap mc n pa pk pm rt) (g, Sum.inr (1, [Value.ref d, .long roofs, .int rt])) (d, .inl (dA 0, 36, .inl depths)) (x, .inr (ci, [.long cells, .int rt]))
      refine lst_add S hK hE hA hok (by omega) hci (hP.perm hpm) (hD.perm hpm) hS q395 ⟨Nat.le_of_ble_eq_true rfl, Nat.le_of_ble_eq_true rfl⟩ hl.1 rfl (Nat.le_of_ble_eq_true rfl) dX1_holes_36 ⟨by rw [hst.1.1]; exact hst.2.1, by rw [hst.1.2]; exact hst.2.2⟩ (fun ea' mc' H locs hok hP hD hS => ?_)
      rw [hst.1.1, hst.1.2]
      refine lv_pop hx hb dX1_holes_39 rfl ?_
      refine lv_lload_n hx hb dX1_holes_40 rfl (lv_at hl 3 rfl) ?_
      refine lv_lload hx hb dX1_holes_41 (lv_at hl 0 rfl) ?_
      refine lv_ldc2 (v := (-1)) hx hb hown (hts _ q226) dX1_holes_43 ?_
      refine lv_lxor hx hb dX1_holes_46 ?_
      refine lv_land hx hb dX1_holes_47 ?_
      refine lv_lstore_n (lv' := [(2, .long (x2 &&& (r ^^^ (-1)))), (4, .long r), (0, .ref g), (1, .ref la)]) hx hb dX1_holes_48 rfl hl (by decide) rfl (fun ls hl => ?_)
      refine lv_goto (tgt := 13) hx hb dX1_holes_49 (by decide) ?_
      exact ih _ _ _ _ _ _ _ _ _ _ _ hf hok (by omega) hP hD hS (lv_sub hl [2, 3, 0] rfl)
end HO
/-- what holes() leaves: the list's array, its length, its count of changes, how many, where, of which class, which cells -/
abbrev hY : Type := Nat × Nat × Int32 × Nat × (Nat → Nat) × (Nat → Nat) × (Nat → Int64)
abbrev hLW (dA : Nat → ClassId) (rate : Int32) (u : hY) (la : Nat) : va_W := lP dA la u.1 u.2.1 u.2.2.1 u.2.2.2.1 u.2.2.2.2.1 u.2.2.2.2.2.1 u.2.2.2.2.2.2 rate
set_option maxHeartbeats 4000000 in
set_option maxRecDepth 100000 in
theorem metX1_holes (l : Launch) {Q : Nat → (Nat → Nat) → (Nat → Int64) → Prop} {depths : Nat → Int32} {roofs : Int64} {rate : Int32} {dC : Nat → ClassId} {dI : Nat → Nat → Nat} {dA : Nat → ClassId} {eA mi sz : Nat} {g d : Nat} (hf : wX1_holes Q depths roofs rate) : Met l yX1_holes (ws_ yX1_holes cX1_holes 6 (some (.object "java/util/ArrayList"))) rmX1_holes (aPc dC dI dA eA mi sz [.ref g] (gW dA g d depths roofs rate)) (va_Qr (fun (u : hY) => lOk eA u.1 u.2.1 u.2.2.2.1 u.2.2.2.2.2.1 ∧ u.2.2.2.1 ≤ 18 ∧ Q u.2.2.2.1 u.2.2.2.2.2.1 u.2.2.2.2.2.2) (aBr dC dI (gW dA g d depths roofs rate) sz (fun u ra => hLW dA rate u ra ++ gW dA g d depths roofs rate)) (va_A (gW dA g d depths roofs rate) sz)) 22 86 (va_A (gW dA g d depths roofs rate) sz) := by
  refine Met.ofW (cc := cX1_holes) (maxL := 6) (ret := (some (.object "java/util/ArrayList"))) (by decide) rfl ?_
  intro p e s m args below meth c s₁ B hml hv
  obtain ⟨rfl, hsz, hP, hK, hD0, hE⟩ := hv
  subst hsz
  have hx := B.exec
  have hb := B.bytes
  have hr := B.returns
  have hts := atoms_spec (ws := (ws_ yX1_holes cX1_holes 6 (some (.object "java/util/ArrayList")))) B.pre
  have hts : ∀ w ∈ lw_all, w.before _ s = true := fun w h => hts w (List.mem_cons_of_mem _ h)
  have hown : s.vm.findClass RX1 = some m.cls := findClass_of_methodNamed B.named
  have hlocks := B.notSynchronized
  have S : CallFix p m c cX1_holes 6 s _ lw_all RX1 := ⟨hx, hb, hml, hown, hts⟩
  have hD := hD0.self (sz := s.heap.size)
  have hA : ∀ q : Nat, s.heap.size ≤ q → va_A (gW dA g d depths roofs rate) s.heap.size q := fun q h => Or.inr h
  have hS : va_S (va_A (gW dA g d depths roofs rate) s.heap.size) s.heap s.heap [] := va_S.rf
  have hl := lv_entry ([.ref g]) (n := 6) (Nat.le_of_ble_eq_true rfl)
  rw [lg_entry_eq]
  generalize (lg_sl ([.ref g]) ++ List.replicate (6 - (lg_sl ([.ref g])).length) Slot.unset).toArray = ls at hl ⊢
  replace hl : lv_has ls 6 [(0, .ref g)] := hl
  have hret : hrX1_holes p l e s m ([.ref g] : List Value).toArray below meth c dC dI dA eA (va_A (gW dA g d depths roofs rate) s.heap.size) g d (MQ below (va_Qr (fun (u : hY) => lOk eA u.1 u.2.1 u.2.2.2.1 u.2.2.2.2.2.1 ∧ u.2.2.2.1 ≤ 18 ∧ Q u.2.2.2.1 u.2.2.2.2.2.1 u.2.2.2.2.2.2) (aBr dC dI (gW dA g d depths roofs rate) s.heap.size (fun u ra => hLW dA rate u ra ++ gW dA g d depths roofs rate)) (va_A (gW dA g d depths roofs rate) s.heap.size)) ([.ref g] : List Value).toArray s 22 86 (va_A (gW dA g d depths roofs rate) s.heap.size)) Q depths roofs rate := fun la ea cap mc n pa pk pm H locs kc ks pc ls h1 h2 hok hn hq hP hD hS hd => W.widen (k := 22) (n := 86) h1 h2 (W.aret hx hb hr (Or.inl ⟨_, rfl⟩) (Or.inr ⟨_, rfl⟩) (fun t ht hW => ⟨⟨(ea, cap, mc, n, pa, pk, pm), la, rfl, ⟨hok, hn, hq⟩, by subst ht; exact ⟨hP, hD⟩⟩, hS.F ht⟩) hS.2.2 hd)
  generalize hAe : va_A (gW dA g d depths roofs rate) s.heap.size = A at hD hA hS hE hret ⊢
  clear hAe
  unfold wX1_holes at hf
  refine va_new (ci := 11) (fs := [.int 0, .null, .int 0]) (C := RJ2) (T := TJ2) (N := 3) hx hb hts in_J2 tyJ2 tyJ2_ok hown (hts _ q372) (hts _ q144) (hts _ q58) hK hP hD hS hA rfl (fun j hj => match j, hj with | 0, _ => rfl | 1, _ => rfl | 2, _ => rfl) (by show 0 + 1 ≤ 22; omega) (by show 0 + 3 ≤ 86; omega) dX1_holes_0 (fun la H hP hD hS => ?_)
  replace hP : va_P (dC, dI) vwCl [(g, .inr (1, [.ref d, .long roofs, .int rate])), (d, .inl (dA 0, 36, .inl depths)), (la, .inr (11, [.int 0, .null, .int 0]))] H := hP
  replace hD : va_D A [(g, .inr (1, [.ref d, .long roofs, .int rate])), (d, .inl (dA 0, 36, .inl depths)), (la, .inr (11, [.int 0, .null, .int 0]))] := hD
  refine lv_dup hx hb dX1_holes_3 rfl ?_
  refine aC_v (wr := gW dA g d depths roofs rate) hP hD hS hA [2] [0, 1] rfl rfl (by decide) (by decide) (va_runI (As := []) (rest := [.ref la]) S (metJ2_init l (Q := True) (by unfold wJ2_init wJ1_init wJ0_init; exact trivial)) (cwI 0 hts (lw_meth q375) rfl rfl rfl (hts _ q58) (hts _ q373) (hts _ q374) rfl pdJ2_init ⟨Nat.le_of_ble_eq_true rfl, Nat.le_of_ble_eq_true rfl⟩) (apreS hK hE hP hD hS hA [2] rfl rfl (by decide)) rfl rfl hl.1 rfl (lv_room (Nat.le_of_ble_eq_true rfl)) dX1_holes_4 ⟨by show 1 ≤ 22; omega, by show 3 ≤ 86; omega⟩) (fun mc H locs _ hP hD hS => ?_)
  have hpm : (gW dA g d depths roofs rate ++ ([(la, .inr (11, [.int mc, .ref eA, .int 0]))] : va_W)).Perm (lP dA la eA 0 mc 0 (fun _ => 0) (fun _ => 0) (fun _ => 0) rate ++ gW dA g d depths roofs rate) := List.perm_append_comm
  replace hP := hP.perm hpm
  replace hD := hD.perm hpm
  refine lv_astore_n (lv' := [(1, .ref la), (0, .ref g)]) hx hb dX1_holes_7 rfl hl (by decide) rfl (fun ls hl => ?_)
  refine lv_aload_n hx hb dX1_holes_8 rfl (lv_at hl 1 rfl) ?_
  refine crv_l (As := []) (rest := []) S (va_recv hK hP (ci := 1) (q0 := 1) rfl rfl) (hP.sub (ws' := gW dA g d depths roofs rate) [1, 2] rfl) hK (EG.now hE hS) (metX1_dug l hf) (lw_V q266 q267 q268 q55 q269) rfl pdX1_dug ⟨rfl, rfl⟩ ⟨Nat.le_of_ble_eq_true rfl, Nat.le_of_ble_eq_true rfl⟩ rfl hl.1 rfl (Nat.le_of_ble_eq_true rfl) dX1_holes_9 ⟨by show 1 ≤ 22; omega, by show 3 ≤ 86; omega⟩ (fun r hf => ?_)
  obtain ⟨fu, hf⟩ := hf
  refine lv_lstore_n (lv' := [(2, .long r), (1, .ref la), (0, .ref g)]) hx hb dX1_holes_12 rfl hl (by decide) rfl (fun ls hl => ?_)
  exact tX1_holes_13 S hK hE hA hret fu r 0 0 eA mc _ _ _ _ _ _ hf ⟨Or.inl ⟨rfl, rfl⟩, Nat.le_refl _, fun k hk => absurd hk (by omega)⟩ (by omega) hP hD hS (lv_sub hl [2, 1, 0] rfl)
