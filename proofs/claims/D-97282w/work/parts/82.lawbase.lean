/-! THE LAW'S BODY: rows for its two kinds of call -/
section LAWB
variable {p : Program} {l : Launch} {e : Env} {R : Room} {s : State} {m : MethodId} {args : Array Value} {below : List Frame} {meth : Method} {c : Code} {H : Heap} {locs : List Loc} {kc ks : Nat} {Q : State → Prop}
variable {cc : ByteArray} {pc nL : Nat} {ls : Array Slot} {rest st0 : List Value} {dC : Nat → ClassId} {dI : Nat → Nat → Nat} {dA : Nat → ClassId} {eA mi : Nat} {A : Nat → Prop}
variable {mc ms : Nat} {As : List Value} {w0 ws wc wr : va_W} {sz : Nat} {a : Array Value} {f : Nat → Option Nat}
theorem sC_l {Y : Type} {post : Int64 → Y → Prop} {w1 : Y → va_W} (hP : va_P (dC, dI) vwCl (wc ++ wr) H) (hD : va_D A (wc ++ wr)) (hS : va_S A s.heap H locs) (hA : ∀ q, s.heap.size ≤ q → A q)
    (hr : va_Run p l e R s m args below meth c H locs kc ks mc ms (F0 m pc ls st0) rest (va_Ql post (aB dC dI wc H.size w1) (va_A wc H.size) a) (va_A wc H.size))
    (kk : ∀ (r : Int64) (u : Y) (H1 : Heap) (locs1 : List Loc), post r u → va_P (dC, dI) vwCl (wr ++ w1 u) H1 → va_D A (wr ++ w1 u) → va_S A s.heap H1 locs1 → W p l e R s m args below meth c H1 locs1 (kc + mc) (ks + ms) Q (F0 m (pc + 3) ls (.long r :: rest))) : W p l e R s m args below meth c H locs kc ks Q (F0 m pc ls st0) :=
  va_calll hr hS (fun q _ h => va_freeS hD hS hA q h) (va_freeS hD hS hA) (fun r u t H1 locs1 ht hvm hp hB hz hk hS1 => by
    obtain ⟨hP2, hD2⟩ := va_joinS hP hD hk (va_freeS hD hS hA) (by rw [← ht]; exact hB.1) hB.2
    exact kk r u H1 locs1 hp hP2 hD2 hS1)
theorem at_addr {w w' : va_W} (he : w.map Prod.fst = w'.map Prod.fst) {k : Nat} {q : Nat × va_E} (h : w'[k]? = some q) : ∃ q0 : Nat × va_E, w[k]? = some q0 ∧ q0.1 = q.1 := by
  have h1 : (w.map Prod.fst)[k]? = some q.1 := by rw [he, List.getElem?_map, h]; rfl
  rw [List.getElem?_map] at h1
  cases hw : w[k]? with
  | none => rw [hw] at h1; cases h1
  | some q0 => rw [hw] at h1; exact ⟨q0, rfl, Option.some.inj h1⟩
theorem va_D.addr {w w' : va_W} (h : va_D A w) (he : w.map Prod.fst = w'.map Prod.fst) : va_D A w' := by
  refine ⟨fun i j x y hx hy e => ?_, fun k x hx => ?_⟩
  · obtain ⟨x0, a1, a2⟩ := at_addr he hx
    obtain ⟨y0, b1, b2⟩ := at_addr he hy
    exact h.1 i j x0 y0 a1 b1 (by rw [a2, b2]; exact e)
  · obtain ⟨x0, a1, a2⟩ := at_addr he hx
    rw [← a2]
    exact h.2 k x0 a1
theorem mA_at {w : va_W} {hm : Nat → Nat} (ha : w.map Prod.fst = (List.range 16).map hm) {q : Nat} (h : mA hm q) : ∃ (k : Nat) (x : Nat × va_E), k < w.length ∧ w[k]? = some x ∧ x.1 = q := by
  obtain ⟨k, hk, rfl⟩ := h
  have h1 : (w.map Prod.fst)[k]? = some (hm k) := by rw [ha, List.getElem?_map, List.getElem?_range hk]; rfl
  rw [List.getElem?_map] at h1
  cases hw : w[k]? with
  | none => rw [hw] at h1; cases h1
  | some x => rw [hw] at h1; exact ⟨k, x, (List.getElem?_eq_some_iff.mp hw).1, hw, Option.some.inj h1⟩
theorem mA_sub {hm : Nat → Nat} (ha : w0.map Prod.fst = (List.range 16).map hm) (hD : va_D A (w0 ++ wr)) : ∀ q, mA hm q → A q := by
  intro q hq
  obtain ⟨k, x, h1, h2, rfl⟩ := mA_at ha hq
  exact hD.2 k x (by rw [List.getElem?_append_left h1]; exact h2)
theorem mA_off {hm : Nat → Nat} (ha : w0.map Prod.fst = (List.range 16).map hm) (hD : va_D A (w0 ++ wr)) {j : Nat} {x : Nat × va_E} (hx : wr[j]? = some x) : ¬ mA hm x.1 := by
  intro hq
  obtain ⟨k, y, h1, h2, e⟩ := mA_at ha hq
  have := hD.1 k (w0.length + j) y x (by rw [List.getElem?_append_left h1]; exact h2) (by rw [List.getElem?_append_right (by omega), Nat.add_sub_cancel_left]; exact hx) e
  omega
theorem mjoin {hm : Nat → Nat} {w1 : va_W} {H1 : Heap} (ha : w0.map Prod.fst = (List.range 16).map hm) (hb : w1.map Prod.fst = (List.range 16).map hm) (hP : va_P (dC, dI) vwCl (w0 ++ wr) H) (hD : va_D A (w0 ++ wr)) (hk : ∀ q : Nat, q < H.size → ¬ mA hm q → H1[q]? = H[q]?) (h1 : va_P (dC, dI) vwCl w1 H1) : va_P (dC, dI) vwCl (w1 ++ wr) H1 ∧ va_D A (w1 ++ wr) := by
  have hr : va_P (dC, dI) vwCl wr H := hP.of_mem (fun _ h => List.mem_append_right _ h)
  refine ⟨h1.app (hr.kept (fun k x hx => hk x.1 ((hr k x hx).lt) (mA_off ha hD hx))), hD.addr ?_⟩
  rw [List.map_append, List.map_append, ha, hb]
variable {y : MethodName} {bytes : ByteArray} {maxL n index : Nat} {ret : Option FieldType} {rm : Room} {fs : List Value} {own : String} {hm : Nat → Nat}
theorem sM_i {Y : Type} {post : Int32 → Y → Prop} {w1 : Y → va_W} (S : CallFix p m c cc nL s args lw_all own) (hK : va_K (dC, dI) vwCl (tysG dA) s) (he : w0[0]? = some (hm 0, .inr (3, fs))) (ha : w0.map Prod.fst = (List.range 16).map hm) (hb : ∀ u, (w1 u).map Prod.fst = (List.range 16).map hm) (hP : va_P (dC, dI) vwCl (w0 ++ wr) H) (hD : va_D A (w0 ++ wr)) (hS : va_S A s.heap H locs) (hM : Met l y (ws_ y bytes maxL ret) rm (mPc dC dI dA hm As w0) (va_Qi post (fun u t => va_P (dC, dI) vwCl (w1 u) t.heap) (mA hm)) 0 0 (mA hm)) (hG : GoodIn lw_all (wsV own index RX3 y (ws_ y bytes maxL ret))) (hC : y.cls = RX3) (hd : DscOk y n) (h0 : rm.cells = 0 ∧ rm.slots = 0) (hR : RmOk rm R maxL) (hn : As.length = n) (hsize : ls.size = nL) (hstack : st0 = As.reverse ++ .ref (hm 0) :: rest) (hW : (rest.map fun v => v.category).sum ≤ 8) (hdg : decode cc pc = .ok (.invokevirtual index, 3)) (hf : kc ≤ R.cells ∧ ks ≤ R.slots)
    (kk : ∀ (r : Int32) (u : Y) (H1 : Heap) (locs1 : List Loc), post r u → va_P (dC, dI) vwCl (w1 u ++ wr) H1 → va_D A (w1 u ++ wr) → va_S A s.heap H1 locs1 → W p l e R s m args below meth c H1 locs1 kc ks Q (F0 m (pc + 3) ls (.int r :: rest))) : W p l e R s m args below meth c H locs kc ks Q (F0 m pc ls st0) := by
  have hP0 : va_P (dC, dI) vwCl w0 H := hP.of_mem (fun _ h => List.mem_append_left _ h)
  exact va_calli (va_runV S hM (cwV n S.2.2.2.2 hG rfl h0.1 h0.2 ⟨hC, hd⟩ hR) ⟨fun a U g mk q => ⟨q.1, q.2.1, va_K.moved (u := U) (U := U.calling g mk a) (Vm.Alike.refl U.vm) q.2.2⟩, va_recv hK hP0 (ci := 3) (q0 := 0) rfl he, fun U hU hW => ⟨rfl, by rw [hU]; exact hP0, va_K.moved hW.alike hK⟩⟩ rfl hn hsize hstack (lv_room hW) hdg hf) hS (fun q _ z => mA_sub ha hD q z) (fun q z => mA_sub ha hD q z) (fun r u t H1 locs1 ht hvm hp hB hz hk hS => by
    obtain ⟨a1, a2⟩ := mjoin ha (hb u) hP hD hk (by rw [← ht]; exact hB)
    exact kk r u H1 locs1 hp a1 a2 hS)
theorem sM_l {Y : Type} {post : Int64 → Y → Prop} {w1 : Y → va_W} (S : CallFix p m c cc nL s args lw_all own) (hK : va_K (dC, dI) vwCl (tysG dA) s) (he : w0[0]? = some (hm 0, .inr (3, fs))) (ha : w0.map Prod.fst = (List.range 16).map hm) (hb : ∀ u, (w1 u).map Prod.fst = (List.range 16).map hm) (hP : va_P (dC, dI) vwCl (w0 ++ wr) H) (hD : va_D A (w0 ++ wr)) (hS : va_S A s.heap H locs) (hM : Met l y (ws_ y bytes maxL ret) rm (mPc dC dI dA hm As w0) (va_Ql post (fun u t => va_P (dC, dI) vwCl (w1 u) t.heap) (mA hm)) 0 0 (mA hm)) (hG : GoodIn lw_all (wsV own index RX3 y (ws_ y bytes maxL ret))) (hC : y.cls = RX3) (hd : DscOk y n) (h0 : rm.cells = 0 ∧ rm.slots = 0) (hR : RmOk rm R maxL) (hn : As.length = n) (hsize : ls.size = nL) (hstack : st0 = As.reverse ++ .ref (hm 0) :: rest) (hW : (rest.map fun v => v.category).sum ≤ 8) (hdg : decode cc pc = .ok (.invokevirtual index, 3)) (hf : kc ≤ R.cells ∧ ks ≤ R.slots)
    (kk : ∀ (r : Int64) (u : Y) (H1 : Heap) (locs1 : List Loc), post r u → va_P (dC, dI) vwCl (w1 u ++ wr) H1 → va_D A (w1 u ++ wr) → va_S A s.heap H1 locs1 → W p l e R s m args below meth c H1 locs1 kc ks Q (F0 m (pc + 3) ls (.long r :: rest))) : W p l e R s m args below meth c H locs kc ks Q (F0 m pc ls st0) := by
  have hP0 : va_P (dC, dI) vwCl w0 H := hP.of_mem (fun _ h => List.mem_append_left _ h)
  exact va_calll (va_runV S hM (cwV n S.2.2.2.2 hG rfl h0.1 h0.2 ⟨hC, hd⟩ hR) ⟨fun a U g mk q => ⟨q.1, q.2.1, va_K.moved (u := U) (U := U.calling g mk a) (Vm.Alike.refl U.vm) q.2.2⟩, va_recv hK hP0 (ci := 3) (q0 := 0) rfl he, fun U hU hW => ⟨rfl, by rw [hU]; exact hP0, va_K.moved hW.alike hK⟩⟩ rfl hn hsize hstack (lv_room hW) hdg hf) hS (fun q _ z => mA_sub ha hD q z) (fun q z => mA_sub ha hD q z) (fun r u t H1 locs1 ht hvm hp hB hz hk hS => by
    obtain ⟨a1, a2⟩ := mjoin ha (hb u) hP hD hk (by rw [← ht]; exact hB)
    exact kk r u H1 locs1 hp a1 a2 hS)
/-- a number of the script -/
theorem sldE (hexec : p.tables.exec = Jvm.exec) (hb : c.code = cc) {b L : Nat} {xs : Nat → Int32} (hX : va_X b L xs s s.heap) (hbl : b < s.heap.size) (hbA : ¬ A b) (hS : va_S A s.heap H locs) {i v : Int32} (hi : vp_in i L ∧ xs i.toNatClampNeg = v) (hdg : decode cc pc = .ok (.iaload, 1))
    (kk : W p l e R s m args below meth c H locs kc ks Q (F0 m (pc + 1) ls (.int v :: rest))) : W p l e R s m args below meth c H locs kc ks Q (F0 m pc ls (.int i :: .ref b :: rest)) :=
  va_sld hexec hb hX hbl hbA hS hi.1 hdg (by rw [hi.2]; exact kk)
theorem permM {x y z : va_W} : ((x ++ y) ++ z).Perm (x ++ (y ++ z)) := by rw [List.append_assoc]
theorem permN {x y z : va_W} : (x ++ (y ++ z)).Perm (z ++ (x ++ y)) := by
  rw [← List.append_assoc]
  exact List.perm_append_comm
end LAWB
