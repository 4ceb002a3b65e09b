/-! a hole is put at a list's end -/
theorem add_e_ok {Q : Int32 → Int32 → Prop} {mc : Int32} (h : Q 1 1) : wJ2_add_e Q mc 0 := by
  unfold wJ2_add_e wJ2_add_2_e wJ2_grow_e wJ2_grow_2_e
  intro m' _
  exact ⟨fun _ => ⟨fun h => absurd h (by decide), fun _ => ⟨by decide, by unfold vp_in; decide, fun s' hs => by subst hs; exact h⟩⟩, fun h => absurd rfl h⟩
theorem add_r_ok {Q : Int32 → Int32 → Prop} {mc : Int32} {n cap : Nat} {f : Nat → Option Nat} (hn : n < cap) (hc : cap < 2 ^ 31) (h : Q 1 (nI (n + 1))) : wJ2_add_r Q mc (nI n) cap f := by
  unfold wJ2_add_r wJ2_add_2_r
  intro m' _
  refine ⟨fun e => ?_, fun _ => ⟨vp_in_nI hn hc, fun s' hs => by rw [hs, nI_1]; exact h⟩⟩
  exact absurd ((nI_eq (by omega) hc).mp e) (by omega)
theorem add_10_ok {Q : Int32 → Int32 → Prop} {mc : Int32} {f : Nat → Option Nat} (h : Q 1 11) : wJ2_add_10 Q mc 10 f := by
  unfold wJ2_add_10 wJ2_add_2_10 wJ2_grow_10 wJ2_grow_2_10 wJ5_newLength wJ7_copyOf_10 wJ7_copyOf_2_10
  intro m' _
  refine ⟨fun _ => ⟨fun _ x3 hx3 => ?_, fun h => absurd (by decide) h⟩, fun h => absurd rfl h⟩
  have e : x3 = 15 := by rw [hx3]; decide
  subst e
  exact ⟨fun h => absurd h (by decide), fun _ => ⟨fun h => absurd h (by decide), fun _ => ⟨rfl, rfl, by decide, by decide, by decide, by unfold vp_in; decide, fun s' hs => by subst hs; exact h⟩⟩⟩
theorem add_15_ok {Q : Int32 → Int32 → Prop} {mc : Int32} {f : Nat → Option Nat} (h : Q 1 16) : wJ2_add_15 Q mc 15 f := by
  unfold wJ2_add_15 wJ2_add_2_15 wJ2_grow_15 wJ2_grow_2_15 wJ5_newLength wJ7_copyOf_15 wJ7_copyOf_2_15
  intro m' _
  refine ⟨fun _ => ⟨fun _ x3 hx3 => ?_, fun h => absurd (by decide) h⟩, fun h => absurd rfl h⟩
  have e : x3 = 22 := by rw [hx3]; decide
  subst e
  exact ⟨fun h => absurd h (by decide), fun _ => ⟨fun h => absurd h (by decide), fun _ => ⟨rfl, rfl, by decide, by decide, by decide, by unfold vp_in; decide, fun s' hs => by subst hs; exact h⟩⟩⟩
theorem perm3 {α : Type} (P w : List α) (a b c : α) : (P ++ w ++ [a, b, c]).Perm (a :: ([b] ++ (P ++ [c])) ++ w) := by
  classical
  rw [List.perm_iff_count]
  intro q
  simp only [List.count_append, List.count_cons, List.count_nil, List.cons_append, List.nil_append]
  omega
/-- what an add may make -/
def lMC (n cap : Nat) : Nat := if n < cap then 0 else 1
def lMS (n cap : Nat) : Nat := if n < cap then 0 else lN1 cap
def lCap (n cap : Nat) : Nat := if n < cap then cap else lN1 cap
section LADD
variable {p : Program} {l : Launch} {e : Env} {R : Room} {s : State} {m : MethodId} {args : Array Value} {below : List Frame} {meth : Method} {c : Code} {H : Heap} {locs : List Loc} {kc ks : Nat} {Q : State → Prop}
variable {cc : ByteArray} {pc nL : Nat} {ls : Array Slot} {rest st0 : List Value} {dC : Nat → ClassId} {dI : Nat → Nat → Nat} {dA : Nat → ClassId} {eA mi : Nat} {A : Nat → Prop}
variable {own : String} {index : Nat} {wr : va_W} {la ea cap n x ci : Nat} {mc : Int32} {pa pk : Nat → Nat} {pm : Nat → Int64} {rate : Int32} {cl : Int64}
theorem ve_pits {wc : va_W} (hK : va_K (dC, dI) vwCl (tysG dA) s) (hN : NG s) (hok : ∀ k, k < n → pK (pk k)) (hP : va_P (dC, dI) vwCl (wc ++ (lPits n pa pk pm rate ++ wr)) H) (hD : va_D A (wc ++ (lPits n pa pk pm rate ++ wr))) : VE (va_A wc H.size) (lf n pa) s H := by
  intro j y hy
  have hj : j < n := by
    by_cases h : j < n
    · exact h
    · simp [lf, h] at hy
  have ey : y = pa j := by simp [lf, hj] at hy; exact hy.symm
  subst ey
  have hm : (pa j, Sum.inr (pk j, [.long (pm j), .int rate])) ∈ wc ++ (lPits n pa pk pm rate ++ wr) := List.mem_append_right _ (List.mem_append_left _ (lPits_mem hj))
  refine ⟨?_, ?_⟩
  · rintro (⟨k2, e, h⟩ | h)
    · exact hD.out (List.mem_of_getElem? h) (List.mem_append_left wr (lPits_mem (pa := pa) (pk := pk) (pm := pm) (rate := rate) hj)) rfl
    · exact absurd (hP.mem hm).lt (by show ¬ pa j < H.size; omega)
  · obtain ⟨q0, he⟩ := List.getElem?_of_mem hm
    exact anyO hK hP q0 he (pO_p (hok j hj)) hN
set_option maxHeartbeats 4000000 in
theorem lst_add (S : CallFix p m c cc nL s args lw_all own) (hK : va_K (dC, dI) vwCl (tysG dA) s) (hE : EG A eA mi s s.heap) (hA : ∀ q, s.heap.size ≤ q → A q) (hok : lOk eA ea cap n pk) (hn : n < 22) (hci : pK ci)
    (hP : va_P (dC, dI) vwCl ((x, .inr (ci, [.long cl, .int rate])) :: (lP dA la ea cap mc n pa pk pm rate ++ wr)) H) (hD : va_D A ((x, .inr (ci, [.long cl, .int rate])) :: (lP dA la ea cap mc n pa pk pm rate ++ wr))) (hS : va_S A s.heap H locs)
    (hlk : Cond.methodLink own index yJ2_add ∈ lw_all) (hR : 7 ≤ R.frames ∧ 171 ≤ R.locals) (hsize : ls.size = nL) (hstack : st0 = .ref x :: .ref la :: rest) (hW : (rest.map fun v => v.category).sum ≤ 8) (hdg : decode cc pc = .ok (.invokevirtual index, 3)) (hf : kc + lMC n cap ≤ R.cells ∧ ks + lMS n cap ≤ R.slots)
    (kk : ∀ (ea' : Nat) (mc' : Int32) (H1 : Heap) (locs1 : List Loc), lOk eA ea' (lCap n cap) (n + 1) (va_up pk n ci) → va_P (dC, dI) vwCl (lP dA la ea' (lCap n cap) mc' (n + 1) (va_up pa n x) (va_up pk n ci) (va_up pm n cl) rate ++ wr) H1 → va_D A (lP dA la ea' (lCap n cap) mc' (n + 1) (va_up pa n x) (va_up pk n ci) (va_up pm n cl) rate ++ wr) → va_S A s.heap H1 locs1 → W p l e R s m args below meth c H1 locs1 (kc + lMC n cap) (ks + lMS n cap) Q (F0 m (pc + 3) ls (.int 1 :: rest))) : W p l e R s m args below meth c H locs kc ks Q (F0 m pc ls st0) := by
  obtain ⟨hcap, hnc, hpk⟩ := hok
  have hpk' : ∀ k, k < n + 1 → pK (va_up pk n ci k) := by
    intro k hk
    unfold va_up
    by_cases h : k = n
    · simp [h, hci]
    · simp only [h, if_false]; exact hpk k (by omega)
  have hrec : ∃ cell : Cell, H[la]? = some cell ∧ cell.vm.isStatics = false ∧ s.vm.findClass RJ2 = some cell.cls := by
    obtain ⟨q0, he⟩ := List.getElem?_of_mem (show (la, Sum.inr (11, [.int mc, .ref ea, .int (nI n)])) ∈ (x, .inr (ci, [.long cl, .int rate])) :: (lP dA la ea cap mc n pa pk pm rate ++ wr) by simp [lP])
    exact va_recv hK hP (ci := 11) (q0 := q0) rfl he
  rcases hcap with ⟨rfl, rfl⟩ | hcap
  · -- the first one
    have hn0 : n = 0 := by omega
    subst hn0
    have hPm : ((x, Sum.inr (ci, [Value.long cl, .int rate])) :: (lP dA la ea 0 mc 0 pa pk pm rate ++ wr)).Perm ([(la, Sum.inr (11, [.int mc, .ref ea, .int 0])), (x, .inr (ci, [.long cl, .int rate]))] ++ wr) := by
      show List.Perm (_ :: (_ :: ([] ++ []) ++ wr)) _
      exact List.Perm.swap _ _ _
    refine sC_i (hP.perm hPm) (hD.perm hPm) hS hA (va_runV (As := [.ref x]) (rest := rest) S (metJ2_add_e l (Q := fun r z => r = 1 ∧ z = 1) (pO_p hci) (add_e_ok ⟨rfl, rfl⟩)) (cwV 1 S.2.2.2.2 (lw_V hlk q150 q151 q58 q152) rfl rfl rfl ⟨rfl, pdJ2_add⟩ ⟨by have := hR.1; show 4 + 1 ≤ _; omega, by have := hR.2; show 8 + (2 + 11) + 87 ≤ _; omega⟩) ⟨ablind, hrec, (spre hK hE (hP.perm hPm) (hD.perm hPm) hS hA).2⟩ rfl rfl hsize hstack (lv_room hW) hdg hf) (fun r u H1 locs1 hq hP1 hD1 hS1 => ?_)
    obtain ⟨ra, mc1, size1⟩ := u
    obtain ⟨rfl, hz⟩ := hq
    have hz : size1 = 1 := hz
    subst hz
    have hPm2 : (wr ++ ([(la, Sum.inr (11, [.int mc1, .ref ra, .int 1])), (ra, .inl (dA 4, 10, .inr (.inr (.inr (.inr (va_up (fun _ => none) (0 : Int32).toNatClampNeg (some x))))))), (x, .inr (ci, [.long cl, .int rate]))] : va_W)).Perm (lP dA la ra (lCap 0 0) mc1 (0 + 1) (va_up pa 0 x) (va_up pk 0 ci) (va_up pm 0 cl) rate ++ wr) := by
      have e1 : lP dA la ra (lCap 0 0) mc1 (0 + 1) (va_up pa 0 x) (va_up pk 0 ci) (va_up pm 0 cl) rate = [(la, Sum.inr (11, [.int mc1, .ref ra, .int 1])), (ra, .inl (dA 4, 10, .inr (.inr (.inr (.inr (va_up (fun _ => none) (0 : Int32).toNatClampNeg (some x))))))), (x, .inr (ci, [.long cl, .int rate]))] := by
        unfold lP
        rw [lPits_succ, ← lf_up, lf_0]
        rfl
      rw [e1]
      exact List.perm_append_comm
    exact kk ra mc1 H1 locs1 ⟨Or.inr (Or.inl rfl), by decide, hpk'⟩ (hP1.perm hPm2) (hD1.perm hPm2) hS1
  · have hc0 : cap ≠ 0 := by omega
    have eA1 : ∀ f, lA dA ea cap f = [(ea, .inl (dA 4, cap, .inr (.inr (.inr (.inr f)))))] := fun f => by simp [lA, hc0]
    have hPm : ((x, Sum.inr (ci, [Value.long cl, .int rate])) :: (lP dA la ea cap mc n pa pk pm rate ++ wr)).Perm ([(la, Sum.inr (11, [.int mc, .ref ea, .int (nI n)])), (ea, .inl (dA 4, cap, .inr (.inr (.inr (.inr (lf n pa)))))), (x, .inr (ci, [.long cl, .int rate]))] ++ (lPits n pa pk pm rate ++ wr)) := by
      unfold lP
      rw [eA1]
      refine (List.Perm.swap _ _ _).trans (List.Perm.cons _ ?_)
      simp only [List.cons_append, List.nil_append, List.append_assoc]
      exact List.Perm.swap _ _ _
    have hP2 := hP.perm hPm
    have hD2 := hD.perm hPm
    have hV := ve_pits hK hE.1 hpk hP2 hD2
    by_cases hlt : n < cap
    · -- room is left
      have e0 : lMC n cap = 0 ∧ lMS n cap = 0 ∧ lCap n cap = cap := by simp [lMC, lMS, lCap, hlt]
      rw [e0.1, e0.2.1] at hf kk
      rw [e0.2.2] at kk
      refine sC_i hP2 hD2 hS hA (va_runV (As := [.ref x]) (rest := rest) S (metJ2_add_r l (Q := fun r z => r = 1 ∧ z = nI (n + 1)) (pO_p hci) (add_r_ok hlt (by omega) ⟨rfl, rfl⟩)) (cwV 1 S.2.2.2.2 (lw_V hlk q150 q151 q58 q152) rfl rfl rfl ⟨rfl, pdJ2_add⟩ ⟨by have := hR.1; show 1 + 1 ≤ _; omega, by have := hR.2; show 8 + (2 + 11) + 23 ≤ _; omega⟩) ⟨ablind, hrec, (spre hK hE hP2 hD2 hS hA).2⟩ rfl rfl hsize hstack (lv_room hW) hdg hf) (fun r u H1 locs1 hq hP1 hD1 hS1 => ?_)
      obtain ⟨mc1, size1⟩ := u
      obtain ⟨rfl, hz⟩ := hq
      have hz : size1 = nI (n + 1) := hz
      subst hz
      have hPm2 : (lPits n pa pk pm rate ++ wr ++ ([(la, Sum.inr (11, [.int mc1, .ref ea, .int (nI (n + 1))])), (ea, .inl (dA 4, cap, .inr (.inr (.inr (.inr (va_up (lf n pa) (nI n : Int32).toNatClampNeg (some x))))))), (x, .inr (ci, [.long cl, .int rate]))] : va_W)).Perm (lP dA la ea cap mc1 (n + 1) (va_up pa n x) (va_up pk n ci) (va_up pm n cl) rate ++ wr) := by
        unfold lP
        rw [eA1, lPits_succ, ← lf_up, nI_clamp (by omega)]
        exact perm3 _ _ _ _ _
      exact kk ea mc1 H1 locs1 ⟨Or.inr hcap, by omega, hpk'⟩ (hP1.perm hPm2) (hD1.perm hPm2) hS1
    · have hnc' : n = cap := by omega
      subst hnc'
      rcases hcap with rfl | rfl | rfl
      · refine sC_i hP2 hD2 hS hA (va_runV (As := [.ref x]) (rest := rest) S (metJ2_add_10 l (Q := fun r z => r = 1 ∧ z = 11) (pO_p hci) (add_10_ok ⟨rfl, rfl⟩)) (cwV 1 S.2.2.2.2 (lw_V hlk q150 q151 q58 q152) rfl rfl rfl ⟨rfl, pdJ2_add⟩ ⟨by have := hR.1; show 6 + 1 ≤ _; omega, by have := hR.2; show 8 + (2 + 11) + 150 ≤ _; omega⟩) ⟨ablindV, hrec, (spreV hK hE hV hP2 hD2 hS hA).2⟩ rfl rfl hsize hstack (lv_room hW) hdg hf) (fun r u H1 locs1 hq hP1 hD1 hS1 => ?_)
        obtain ⟨ra, mc1, size1⟩ := u
        obtain ⟨rfl, hz⟩ := hq
        have hz : size1 = 11 := hz
        subst hz
        have hPm2 : (lPits 10 pa pk pm rate ++ wr ++ ([(la, Sum.inr (11, [.int mc1, .ref ra, .int 11])), (ra, .inl (dA 4, 15, .inr (.inr (.inr (.inr (va_up (va_cpy (lf 10 pa) (fun _ => none) 0 0 10) (10 : Int32).toNatClampNeg (some x))))))), (x, .inr (ci, [.long cl, .int rate]))] : va_W)).Perm (lP dA la ra (lCap 10 10) mc1 (10 + 1) (va_up pa 10 x) (va_up pk 10 ci) (va_up pm 10 cl) rate ++ wr) := by
          have ec : lCap 10 10 = 15 := by decide
          have eA2 : ∀ f, lA dA ra 15 f = [(ra, .inl (dA 4, 15, .inr (.inr (.inr (.inr f)))))] := fun f => by simp [lA]
          unfold lP
          rw [ec, eA2, lPits_succ, ← lf_up, lf_cpy, show (10 : Int32).toNatClampNeg = 10 by decide]
          have e9 : nI (10 + 1) = 11 := by decide
          rw [e9]
          exact perm3 _ _ _ _ _
        exact kk ra mc1 H1 locs1 ⟨Or.inr (Or.inr (Or.inl rfl)), by decide, hpk'⟩ (hP1.perm hPm2) (hD1.perm hPm2) hS1
      · refine sC_i hP2 hD2 hS hA (va_runV (As := [.ref x]) (rest := rest) S (metJ2_add_15 l (Q := fun r z => r = 1 ∧ z = 16) (pO_p hci) (add_15_ok ⟨rfl, rfl⟩)) (cwV 1 S.2.2.2.2 (lw_V hlk q150 q151 q58 q152) rfl rfl rfl ⟨rfl, pdJ2_add⟩ ⟨by have := hR.1; show 6 + 1 ≤ _; omega, by have := hR.2; show 8 + (2 + 11) + 150 ≤ _; omega⟩) ⟨ablindV, hrec, (spreV hK hE hV hP2 hD2 hS hA).2⟩ rfl rfl hsize hstack (lv_room hW) hdg hf) (fun r u H1 locs1 hq hP1 hD1 hS1 => ?_)
        obtain ⟨ra, mc1, size1⟩ := u
        obtain ⟨rfl, hz⟩ := hq
        have hz : size1 = 16 := hz
        subst hz
        have hPm2 : (lPits 15 pa pk pm rate ++ wr ++ ([(la, Sum.inr (11, [.int mc1, .ref ra, .int 16])), (ra, .inl (dA 4, 22, .inr (.inr (.inr (.inr (va_up (va_cpy (lf 15 pa) (fun _ => none) 0 0 15) (15 : Int32).toNatClampNeg (some x))))))), (x, .inr (ci, [.long cl, .int rate]))] : va_W)).Perm (lP dA la ra (lCap 15 15) mc1 (15 + 1) (va_up pa 15 x) (va_up pk 15 ci) (va_up pm 15 cl) rate ++ wr) := by
          have ec : lCap 15 15 = 22 := by decide
          have eA2 : ∀ f, lA dA ra 22 f = [(ra, .inl (dA 4, 22, .inr (.inr (.inr (.inr f)))))] := fun f => by simp [lA]
          unfold lP
          rw [ec, eA2, lPits_succ, ← lf_up, lf_cpy, show (15 : Int32).toNatClampNeg = 15 by decide]
          have e9 : nI (15 + 1) = 16 := by decide
          rw [e9]
          exact perm3 _ _ _ _ _
        exact kk ra mc1 H1 locs1 ⟨Or.inr (Or.inr (Or.inr rfl)), by decide, hpk'⟩ (hP1.perm hPm2) (hD1.perm hPm2) hS1
      · omega
end LADD
