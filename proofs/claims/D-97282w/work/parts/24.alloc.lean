/-! CONTRACTS THAT WRITE OR MAKE CELLS -/
abbrev aPc (dC : Nat → ClassId) (dI : Nat → Nat → Nat) (dA : Nat → ClassId) (eA mi sz : Nat) (As : List Value) (w0 : va_W) : Array Value → State → Prop := va_Pc As (fun U => U.heap.size = sz ∧ va_P (dC, dI) vwCl w0 U.heap ∧ va_K (dC, dI) vwCl (tysG dA) U ∧ va_D (fun _ => True) w0 ∧ EG (va_A w0 sz) eA mi U U.heap)
abbrev aB {Y : Type} (dC : Nat → ClassId) (dI : Nat → Nat → Nat) (w0 : va_W) (sz : Nat) (w1 : Y → va_W) : Y → State → Prop := fun u t => va_P (dC, dI) vwCl (w1 u) t.heap ∧ va_D (va_A w0 sz) (w1 u)
abbrev aBr {Y : Type} (dC : Nat → ClassId) (dI : Nat → Nat → Nat) (w0 : va_W) (sz : Nat) (w1 : Y → Nat → va_W) : Y → Nat → State → Prop := fun u a t => va_P (dC, dI) vwCl (w1 u a) t.heap ∧ va_D (va_A w0 sz) (w1 u a)
section AC
variable {p : Program} {l : Launch} {e : Env} {R : Room} {s : State} {m : MethodId} {args : Array Value} {below : List Frame} {meth : Method} {c : Code} {H : Heap} {locs : List Loc} {kc ks : Nat} {Q : State → Prop}
variable {cc : ByteArray} {pc nL : Nat} {ls : Array Slot} {rest st0 : List Value} {dC : Nat → ClassId} {dI : Nat → Nat → Nat} {dA : Nat → ClassId} {eA mi : Nat} {A : Nat → Prop}
variable {mc ms : Nat} {As : List Value} {w0 ws wc wr : va_W} {sz : Nat} {a : Array Value}
theorem ablind : FrameBlind (aPc dC dI dA eA mi sz As w0) := fun a U g mk q => ⟨q.1, q.2.1, q.2.2.1, va_K.moved (u := U) (U := U.calling g mk a) (Vm.Alike.refl U.vm) q.2.2.2.1, q.2.2.2.2.1, EG.same (u := U) (U := U.calling g mk a) rfl q.2.2.2.2.2⟩
theorem EG.now (hE : EG A eA mi s s.heap) (hS : va_S A s.heap H locs) : EG noA eA mi s H := (hE.kept hS.2.1).narrow (fun _ h => h.elim)
theorem apreS (hK : va_K (dC, dI) vwCl (tysG dA) s) (hE : EG A eA mi s s.heap) (hP : va_P (dC, dI) vwCl ws H) (hD : va_D A ws) (hS : va_S A s.heap H locs) (hA : ∀ q, s.heap.size ≤ q → A q) (isC : List Nat) (hCf : isC.filterMap (fun i => ws[i]?) = wc) (hCm : isC.map (fun i => ws[i]?) = wc.map some) (hn : va_nd isC = true) : PreS s H (aPc dC dI dA eA mi H.size As wc) As :=
  ⟨ablind, fun U hU hW => ⟨rfl, by rw [hU], by rw [hU]; exact hP.sub isC hCf, va_K.moved hW.alike hK, (hD.sub isC hn hCm).weaken (fun _ _ _ _ => trivial), by rw [hU]; exact ((hE.kept hS.2.1).narrow (va_free hD hS hA isC hCm)).warm hW⟩⟩
theorem aC_i {Y : Type} {post : Int32 → Y → Prop} {w1 : Y → va_W} (hP : va_P (dC, dI) vwCl ws H) (hD : va_D A ws) (hS : va_S A s.heap H locs) (hA : ∀ q, s.heap.size ≤ q → A q) (isC isR : List Nat) (hC : isC.map (fun i => ws[i]?) = wc.map some) (hR : isR.map (fun i => ws[i]?) = wr.map some) (hn : va_nd isR = true) (hdis : ∀ i ∈ isR, i ∉ isC)
    (hr : va_Run p l e R s m args below meth c H locs kc ks mc ms (F0 m pc ls st0) rest (va_Qi post (aB dC dI wc H.size w1) (va_A wc H.size) a) (va_A wc H.size))
    (kk : ∀ (r : Int32) (u : Y) (H1 : Heap) (locs1 : List Loc), post r u → va_P (dC, dI) vwCl (wr ++ w1 u) H1 → va_D A (wr ++ w1 u) → va_S A s.heap H1 locs1 → W p l e R s m args below meth c H1 locs1 (kc + mc) (ks + ms) Q (F0 m (pc + 3) ls (.int r :: rest))) : W p l e R s m args below meth c H locs kc ks Q (F0 m pc ls st0) :=
  va_calli hr hS (fun q _ h => va_free hD hS hA isC hC q h) (va_free hD hS hA isC hC) (fun r u t H1 locs1 ht hvm hp hB hz hk hS1 => by
    obtain ⟨hP2, hD2⟩ := va_join hP hD isC isR hC hR hn hdis hk (va_free hD hS hA isC hC) (by rw [← ht]; exact hB.1) hB.2
    exact kk r u H1 locs1 hp hP2 hD2 hS1)
theorem aC_l {Y : Type} {post : Int64 → Y → Prop} {w1 : Y → va_W} (hP : va_P (dC, dI) vwCl ws H) (hD : va_D A ws) (hS : va_S A s.heap H locs) (hA : ∀ q, s.heap.size ≤ q → A q) (isC isR : List Nat) (hC : isC.map (fun i => ws[i]?) = wc.map some) (hR : isR.map (fun i => ws[i]?) = wr.map some) (hn : va_nd isR = true) (hdis : ∀ i ∈ isR, i ∉ isC)
    (hr : va_Run p l e R s m args below meth c H locs kc ks mc ms (F0 m pc ls st0) rest (va_Ql post (aB dC dI wc H.size w1) (va_A wc H.size) a) (va_A wc H.size))
    (kk : ∀ (r : Int64) (u : Y) (H1 : Heap) (locs1 : List Loc), post r u → va_P (dC, dI) vwCl (wr ++ w1 u) H1 → va_D A (wr ++ w1 u) → va_S A s.heap H1 locs1 → W p l e R s m args below meth c H1 locs1 (kc + mc) (ks + ms) Q (F0 m (pc + 3) ls (.long r :: rest))) : W p l e R s m args below meth c H locs kc ks Q (F0 m pc ls st0) :=
  va_calll hr hS (fun q _ h => va_free hD hS hA isC hC q h) (va_free hD hS hA isC hC) (fun r u t H1 locs1 ht hvm hp hB hz hk hS1 => by
    obtain ⟨hP2, hD2⟩ := va_join hP hD isC isR hC hR hn hdis hk (va_free hD hS hA isC hC) (by rw [← ht]; exact hB.1) hB.2
    exact kk r u H1 locs1 hp hP2 hD2 hS1)
theorem aC_v {Y : Type} {post : Y → Prop} {w1 : Y → va_W} (hP : va_P (dC, dI) vwCl ws H) (hD : va_D A ws) (hS : va_S A s.heap H locs) (hA : ∀ q, s.heap.size ≤ q → A q) (isC isR : List Nat) (hC : isC.map (fun i => ws[i]?) = wc.map some) (hR : isR.map (fun i => ws[i]?) = wr.map some) (hn : va_nd isR = true) (hdis : ∀ i ∈ isR, i ∉ isC)
    (hr : va_Run p l e R s m args below meth c H locs kc ks mc ms (F0 m pc ls st0) rest (va_Qv post (aB dC dI wc H.size w1) (va_A wc H.size) a) (va_A wc H.size))
    (kk : ∀ (u : Y) (H1 : Heap) (locs1 : List Loc), post u → va_P (dC, dI) vwCl (wr ++ w1 u) H1 → va_D A (wr ++ w1 u) → va_S A s.heap H1 locs1 → W p l e R s m args below meth c H1 locs1 (kc + mc) (ks + ms) Q (F0 m (pc + 3) ls rest)) : W p l e R s m args below meth c H locs kc ks Q (F0 m pc ls st0) :=
  va_callv hr hS (fun q _ h => va_free hD hS hA isC hC q h) (va_free hD hS hA isC hC) (fun u t H1 locs1 ht hvm hp hB hz hk hS1 => by
    obtain ⟨hP2, hD2⟩ := va_join hP hD isC isR hC hR hn hdis hk (va_free hD hS hA isC hC) (by rw [← ht]; exact hB.1) hB.2
    exact kk u H1 locs1 hp hP2 hD2 hS1)
theorem aC_r {Y : Type} {post : Y → Prop} {w1 : Y → Nat → va_W} (hP : va_P (dC, dI) vwCl ws H) (hD : va_D A ws) (hS : va_S A s.heap H locs) (hA : ∀ q, s.heap.size ≤ q → A q) (isC isR : List Nat) (hC : isC.map (fun i => ws[i]?) = wc.map some) (hR : isR.map (fun i => ws[i]?) = wr.map some) (hn : va_nd isR = true) (hdis : ∀ i ∈ isR, i ∉ isC)
    (hr : va_Run p l e R s m args below meth c H locs kc ks mc ms (F0 m pc ls st0) rest (va_Qr post (aBr dC dI wc H.size w1) (va_A wc H.size) a) (va_A wc H.size))
    (kk : ∀ (u : Y) (ra : Nat) (H1 : Heap) (locs1 : List Loc), post u → va_P (dC, dI) vwCl (wr ++ w1 u ra) H1 → va_D A (wr ++ w1 u ra) → va_S A s.heap H1 locs1 → W p l e R s m args below meth c H1 locs1 (kc + mc) (ks + ms) Q (F0 m (pc + 3) ls (.ref ra :: rest))) : W p l e R s m args below meth c H locs kc ks Q (F0 m pc ls st0) :=
  va_callr hr hS (fun q _ h => va_free hD hS hA isC hC q h) (va_free hD hS hA isC hC) (fun u ra t H1 locs1 ht hvm hp hB hz hk hS1 => by
    obtain ⟨hP2, hD2⟩ := va_join hP hD isC isR hC hR hn hdis hk (va_free hD hS hA isC hC) (by rw [← ht]; exact hB.1) hB.2
    exact kk u ra H1 locs1 hp hP2 hD2 hS1)
theorem aC_q {Y : Type} {post : Option Nat → Y → Prop} {w1 : Y → va_W} (hP : va_P (dC, dI) vwCl ws H) (hD : va_D A ws) (hS : va_S A s.heap H locs) (hA : ∀ q, s.heap.size ≤ q → A q) (isC isR : List Nat) (hC : isC.map (fun i => ws[i]?) = wc.map some) (hR : isR.map (fun i => ws[i]?) = wr.map some) (hn : va_nd isR = true) (hdis : ∀ i ∈ isR, i ∉ isC)
    (hr : va_Run p l e R s m args below meth c H locs kc ks mc ms (F0 m pc ls st0) rest (va_Qq post (aB dC dI wc H.size w1) (va_A wc H.size) a) (va_A wc H.size))
    (kk : ∀ (r : Option Nat) (u : Y) (H1 : Heap) (locs1 : List Loc), post r u → va_P (dC, dI) vwCl (wr ++ w1 u) H1 → va_D A (wr ++ w1 u) → va_S A s.heap H1 locs1 → W p l e R s m args below meth c H1 locs1 (kc + mc) (ks + ms) Q (F0 m (pc + 3) ls (va_rf r :: rest))) : W p l e R s m args below meth c H locs kc ks Q (F0 m pc ls st0) :=
  va_callq hr hS (fun q _ h => va_free hD hS hA isC hC q h) (va_free hD hS hA isC hC) (fun r u t H1 locs1 ht hvm hp hB hz hk hS1 => by
    obtain ⟨hP2, hD2⟩ := va_join hP hD isC isR hC hR hn hdis hk (va_free hD hS hA isC hC) (by rw [← ht]; exact hB.1) hB.2
    exact kk r u H1 locs1 hp hP2 hD2 hS1)
/-- two arrays of one kind have one class -/
theorem ty_one {t1 t2 : List (ClassId × FieldType)} {c1 c2 : ClassId} {ty : FieldType} (h1 : va_RA s c1 ty) (h2 : va_RA s c2 ty) : c1 = c2 := by
  cases ty with
  | object C =>
    obtain ⟨-, -, -, -, -, e1⟩ := h1
    obtain ⟨-, -, -, -, -, e2⟩ := h2
    exact Option.some.inj (e1.symm.trans e2)
  | _ => exact Option.some.inj (h1.symm.trans h2)
variable {own : String} {ci k0 : Nat} {v1 v2 : Value} {cells : Int64} {rate : Int32} {ad : Nat} {index : Nat}
/-- a hole's final fields, in its constructor -/
theorem fP_cells (S : CallFix p m c cc nL s args lw_all RX5) (hin : meth.name = "<init>") (hK : va_K (dC, dI) vwCl (tysG dA) s) (hP : va_P (dC, dI) vwCl [(ad, .inr (ci, [v1, v2]))] H) (hD : va_D A [(ad, .inr (ci, [v1, v2]))]) (hS : va_S A s.heap H locs) (hci : pK ci) (hdg : decode cc pc = .ok (.putfield 9, 3))
    (kk : ∀ (H1 : Heap) (locs1 : List Loc), va_P (dC, dI) vwCl [(ad, .inr (ci, [.long cells, v2]))] H1 → va_D A [(ad, .inr (ci, [.long cells, v2]))] → va_S A s.heap H1 locs1 → W p l e R s m args below meth c H1 locs1 kc ks Q (F0 m (pc + 3) ls rest)) : W p l e R s m args below meth c H locs kc ks Q (F0 m pc ls (.long cells :: .ref ad :: rest)) := by
  rcases hci with rfl | rfl | rfl | rfl | rfl
  · exact va_putF (D := (dC, dI)) (ci := 5) (v := .long cells) (ty := .long) (C := RX5) (T := TX5) (N := 2) S.1 S.2.1 S.2.2.2.2 in_X5 tyX5 tyX5_ok nmX5 S.2.2.2.1 hK hP hD hS 0 rfl rfl 0 (by decide) (S.2.2.2.2 _ q298) (fun _ h9 => h9) rfl hin rfl (by decide +kernel) rfl rfl (Nat.le_of_ble_eq_true rfl) hdg kk
  · exact va_putF (D := (dC, dI)) (ci := 6) (v := .long cells) (ty := .long) (C := RX6) (T := TX6) (N := 2) S.1 S.2.1 S.2.2.2.2 in_X6 tyX6 tyX6_ok nmX6 S.2.2.2.1 hK hP hD hS 0 rfl rfl 0 (by decide) (S.2.2.2.2 _ q298) (fun _ h9 => h9) rfl hin rfl (by decide +kernel) rfl rfl (Nat.le_of_ble_eq_true rfl) hdg kk
  · exact va_putF (D := (dC, dI)) (ci := 7) (v := .long cells) (ty := .long) (C := RX7) (T := TX7) (N := 2) S.1 S.2.1 S.2.2.2.2 in_X7 tyX7 tyX7_ok nmX7 S.2.2.2.1 hK hP hD hS 0 rfl rfl 0 (by decide) (S.2.2.2.2 _ q298) (fun _ h9 => h9) rfl hin rfl (by decide +kernel) rfl rfl (Nat.le_of_ble_eq_true rfl) hdg kk
  · exact va_putF (D := (dC, dI)) (ci := 8) (v := .long cells) (ty := .long) (C := RX8) (T := TX8) (N := 2) S.1 S.2.1 S.2.2.2.2 in_X8 tyX8 tyX8_ok nmX8 S.2.2.2.1 hK hP hD hS 0 rfl rfl 0 (by decide) (S.2.2.2.2 _ q298) (fun _ h9 => h9) rfl hin rfl (by decide +kernel) rfl rfl (Nat.le_of_ble_eq_true rfl) hdg kk
  · exact va_putF (D := (dC, dI)) (ci := 9) (v := .long cells) (ty := .long) (C := RX9) (T := TX9) (N := 2) S.1 S.2.1 S.2.2.2.2 in_X9 tyX9 tyX9_ok nmX9 S.2.2.2.1 hK hP hD hS 0 rfl rfl 0 (by decide) (S.2.2.2.2 _ q298) (fun _ h9 => h9) rfl hin rfl (by decide +kernel) rfl rfl (Nat.le_of_ble_eq_true rfl) hdg kk
theorem fP_rate (S : CallFix p m c cc nL s args lw_all RX5) (hin : meth.name = "<init>") (hK : va_K (dC, dI) vwCl (tysG dA) s) (hP : va_P (dC, dI) vwCl [(ad, .inr (ci, [v1, v2]))] H) (hD : va_D A [(ad, .inr (ci, [v1, v2]))]) (hS : va_S A s.heap H locs) (hci : pK ci) (hdg : decode cc pc = .ok (.putfield 15, 3))
    (kk : ∀ (H1 : Heap) (locs1 : List Loc), va_P (dC, dI) vwCl [(ad, .inr (ci, [v1, .int rate]))] H1 → va_D A [(ad, .inr (ci, [v1, .int rate]))] → va_S A s.heap H1 locs1 → W p l e R s m args below meth c H1 locs1 kc ks Q (F0 m (pc + 3) ls rest)) : W p l e R s m args below meth c H locs kc ks Q (F0 m pc ls (.int rate :: .ref ad :: rest)) := by
  rcases hci with rfl | rfl | rfl | rfl | rfl
  · exact va_putF (D := (dC, dI)) (ci := 5) (v := .int rate) (ty := .int) (C := RX5) (T := TX5) (N := 2) S.1 S.2.1 S.2.2.2.2 in_X5 tyX5 tyX5_ok nmX5 S.2.2.2.1 hK hP hD hS 0 rfl rfl 1 (by decide) (S.2.2.2.2 _ q302) (fun _ h9 => h9) rfl hin rfl (by decide +kernel) rfl rfl (Nat.le_of_ble_eq_true rfl) hdg kk
  · exact va_putF (D := (dC, dI)) (ci := 6) (v := .int rate) (ty := .int) (C := RX6) (T := TX6) (N := 2) S.1 S.2.1 S.2.2.2.2 in_X6 tyX6 tyX6_ok nmX6 S.2.2.2.1 hK hP hD hS 0 rfl rfl 1 (by decide) (S.2.2.2.2 _ q302) (fun _ h9 => h9) rfl hin rfl (by decide +kernel) rfl rfl (Nat.le_of_ble_eq_true rfl) hdg kk
  · exact va_putF (D := (dC, dI)) (ci := 7) (v := .int rate) (ty := .int) (C := RX7) (T := TX7) (N := 2) S.1 S.2.1 S.2.2.2.2 in_X7 tyX7 tyX7_ok nmX7 S.2.2.2.1 hK hP hD hS 0 rfl rfl 1 (by decide) (S.2.2.2.2 _ q302) (fun _ h9 => h9) rfl hin rfl (by decide +kernel) rfl rfl (Nat.le_of_ble_eq_true rfl) hdg kk
  · exact va_putF (D := (dC, dI)) (ci := 8) (v := .int rate) (ty := .int) (C := RX8) (T := TX8) (N := 2) S.1 S.2.1 S.2.2.2.2 in_X8 tyX8 tyX8_ok nmX8 S.2.2.2.1 hK hP hD hS 0 rfl rfl 1 (by decide) (S.2.2.2.2 _ q302) (fun _ h9 => h9) rfl hin rfl (by decide +kernel) rfl rfl (Nat.le_of_ble_eq_true rfl) hdg kk
  · exact va_putF (D := (dC, dI)) (ci := 9) (v := .int rate) (ty := .int) (C := RX9) (T := TX9) (N := 2) S.1 S.2.1 S.2.2.2.2 in_X9 tyX9 tyX9_ok nmX9 S.2.2.2.1 hK hP hD hS 0 rfl rfl 1 (by decide) (S.2.2.2.2 _ q302) (fun _ h9 => h9) rfl hin rfl (by decide +kernel) rfl rfl (Nat.le_of_ble_eq_true rfl) hdg kk
end AC
