/-! WORLDS BY THEIR MEMBERS: order doesn't matter; calls with a world cut in two; lists of holes -/
theorem va_P.mem {D : va_G} {cl : List vw_C} {ws : va_W} {H : Heap} (h : va_P D cl ws H) {q : Nat × va_E} (hq : q ∈ ws) : va_at D cl q H := by
  obtain ⟨k, hk⟩ := List.getElem?_of_mem hq
  exact h k q hk
theorem va_P.of_mem {D : va_G} {cl : List vw_C} {ws ws' : va_W} {H : Heap} (h : va_P D cl ws H) (hs : ∀ q ∈ ws', q ∈ ws) : va_P D cl ws' H := fun k q hk => h.mem (hs q (List.mem_of_getElem? hk))
theorem va_P.perm {D : va_G} {cl : List vw_C} {ws ws' : va_W} {H : Heap} (h : va_P D cl ws H) (hp : ws.Perm ws') : va_P D cl ws' H := h.of_mem (fun _ hq => hp.symm.subset hq)
theorem va_D_iff {A : Nat → Prop} {ws : va_W} : va_D A ws ↔ (ws.map Prod.fst).Nodup ∧ ∀ q ∈ ws, A q.1 := by
  constructor
  · intro h
    refine ⟨?_, fun q hq => ?_⟩
    · rw [List.Nodup, List.pairwise_iff_getElem]
      intro i j hi hj hij e
      simp only [List.length_map] at hi hj
      simp only [List.getElem_map] at e
      exact absurd (h.1 i j _ _ (List.getElem?_eq_getElem hi) (List.getElem?_eq_getElem hj) e) (by omega)
    · obtain ⟨k, hk⟩ := List.getElem?_of_mem hq
      exact h.2 k q hk
  · intro ⟨h1, h2⟩
    refine ⟨fun i j p q hp hq e => ?_, fun k q hk => h2 q (List.mem_of_getElem? hk)⟩
    obtain ⟨hi, e1⟩ := List.getElem?_eq_some_iff.mp hp
    obtain ⟨hj, e2⟩ := List.getElem?_eq_some_iff.mp hq
    rw [List.Nodup, List.pairwise_iff_getElem] at h1
    rcases Nat.lt_trichotomy i j with z | z | z
    · refine absurd ?_ (h1 i j (by simpa using hi) (by simpa using hj) z)
      simp only [List.getElem_map]
      rw [e1, e2]
      exact e
    · exact z
    · refine absurd ?_ (h1 j i (by simpa using hj) (by simpa using hi) z)
      simp only [List.getElem_map]
      rw [e1, e2]
      exact e.symm
theorem va_D.perm {A : Nat → Prop} {ws ws' : va_W} (h : va_D A ws) (hp : ws.Perm ws') : va_D A ws' := by
  rw [va_D_iff] at h ⊢
  exact ⟨(hp.map Prod.fst).nodup_iff.mp h.1, fun q hq => h.2 q (hp.symm.subset hq)⟩
theorem va_D.left {A : Nat → Prop} {w1 w2 : va_W} (h : va_D A (w1 ++ w2)) : va_D A w1 := by
  rw [va_D_iff] at h ⊢
  rw [List.map_append] at h
  exact ⟨(List.nodup_append.mp h.1).1, fun q hq => h.2 q (List.mem_append_left _ hq)⟩
theorem va_D.out {A : Nat → Prop} {w1 w2 : va_W} (h : va_D A (w1 ++ w2)) {p q : Nat × va_E} (hp : p ∈ w1) (hq : q ∈ w2) : p.1 ≠ q.1 := by
  rw [va_D_iff, List.map_append] at h
  exact (List.nodup_append.mp h.1).2.2 _ (List.mem_map_of_mem hp) _ (List.mem_map_of_mem hq)
theorem range_at {α : Type} (a b : List α) : (List.range a.length).map (fun i => (a ++ b)[i]?) = a.map some := by
  apply List.ext_getElem?
  intro i
  by_cases h : i < a.length
  · simp [h, List.getElem?_append_left h]
  · simp [h]
theorem range'_at {α : Type} (a b : List α) : (List.range' a.length b.length).map (fun i => (a ++ b)[i]?) = b.map some := by
  apply List.ext_getElem?
  intro i
  by_cases h : i < b.length
  · simp [h]
  · simp [h]
theorem va_joinS {A0 : Nat → Prop} {D : va_G} {cl : List vw_C} {wc wr w1 : va_W} {H H1 : Heap} (hP : va_P D cl (wc ++ wr) H) (hD : va_D A0 (wc ++ wr))
    (hk : ∀ q : Nat, q < H.size → ¬ va_A wc H.size q → H1[q]? = H[q]?) (hF : ∀ q, va_A wc H.size q → A0 q) (hP1 : va_P D cl w1 H1) (hD1 : va_D (va_A wc H.size) w1) : va_P D cl (wr ++ w1) H1 ∧ va_D A0 (wr ++ w1) := by
  refine ⟨va_P.app (fun k q hq => ?_) hP1, ?_⟩
  · have hm : q ∈ wr := List.mem_of_getElem? hq
    have ha := hP.mem (List.mem_append_right wc hm)
    refine ha.kept (hk q.1 ha.lt ?_)
    rintro (⟨k2, e, h⟩ | h)
    · exact hD.out (List.mem_of_getElem? h) hm rfl
    · exact absurd ha.lt (by omega)
  · rw [va_D_iff] at hD hD1 ⊢
    rw [List.map_append] at hD ⊢
    refine ⟨List.nodup_append.mpr ⟨(List.nodup_append.mp hD.1).2.1, hD1.1, ?_⟩, fun q hq => ?_⟩
    · intro x hx y hy e
      obtain ⟨p, hp, rfl⟩ := List.mem_map.mp hx
      obtain ⟨q, hq, rfl⟩ := List.mem_map.mp hy
      have hl := (hP.mem (List.mem_append_right wc hp)).lt
      rcases hD1.2 q hq with ⟨k2, e2, h⟩ | h
      · exact (List.nodup_append.mp hD.1).2.2 _ (List.mem_map_of_mem (f := Prod.fst) (List.mem_of_getElem? h)) _ hx e.symm
      · omega
    · rcases List.mem_append.mp hq with h | h
      · exact hD.2 q (List.mem_append_right _ h)
      · exact hF _ (hD1.2 q h)
theorem va_freeS {A0 : Nat → Prop} {wc wr : va_W} {H0 H : Heap} {locs : List Loc} (hD : va_D A0 (wc ++ wr)) (hS : va_S A0 H0 H locs) (hA : ∀ q, H0.size ≤ q → A0 q) : ∀ q, va_A wc H.size q → A0 q := by
  rintro q (⟨k, e, h⟩ | h)
  · exact (va_D_iff.mp hD).2 (q, e) (List.mem_append_left _ (List.mem_of_getElem? h))
  · exact hA q (Nat.le_trans hS.1 h)
section SP
variable {p : Program} {l : Launch} {e : Env} {R : Room} {s : State} {m : MethodId} {args : Array Value} {below : List Frame} {meth : Method} {c : Code} {H : Heap} {locs : List Loc} {kc ks : Nat} {Q : State → Prop}
variable {cc : ByteArray} {pc nL : Nat} {ls : Array Slot} {rest st0 : List Value} {dC : Nat → ClassId} {dI : Nat → Nat → Nat} {dA : Nat → ClassId} {eA mi : Nat} {A : Nat → Prop}
variable {mc ms : Nat} {As : List Value} {w0 ws wc wr : va_W} {sz : Nat} {a : Array Value} {f : Nat → Option Nat}
theorem spre (hK : va_K (dC, dI) vwCl (tysG dA) s) (hE : EG A eA mi s s.heap) (hP : va_P (dC, dI) vwCl (wc ++ wr) H) (hD : va_D A (wc ++ wr)) (hS : va_S A s.heap H locs) (hA : ∀ q, s.heap.size ≤ q → A q) : PreS s H (aPc dC dI dA eA mi H.size As wc) As :=
  ⟨ablind, fun U hU hW => ⟨rfl, by rw [hU], by rw [hU]; exact hP.of_mem (fun _ h => List.mem_append_left _ h), va_K.moved hW.alike hK, hD.left.weaken (fun _ _ _ _ => trivial), by rw [hU]; exact ((hE.kept hS.2.1).narrow (va_freeS hD hS hA)).warm hW⟩⟩
theorem spreV (hK : va_K (dC, dI) vwCl (tysG dA) s) (hE : EG A eA mi s s.heap) (hV : VE (va_A wc H.size) f s H) (hP : va_P (dC, dI) vwCl (wc ++ wr) H) (hD : va_D A (wc ++ wr)) (hS : va_S A s.heap H locs) (hA : ∀ q, s.heap.size ≤ q → A q) : PreS s H (aPv dC dI dA eA mi H.size As wc f) As :=
  ⟨ablindV, fun U hU hW => ⟨rfl, by rw [hU], by rw [hU]; exact hP.of_mem (fun _ h => List.mem_append_left _ h), va_K.moved hW.alike hK, hD.left.weaken (fun _ _ _ _ => trivial), by rw [hU]; exact ((hE.kept hS.2.1).narrow (va_freeS hD hS hA)).warm hW, by rw [hU]; exact hV.moved hW.alike⟩⟩
theorem sC_i {Y : Type} {post : Int32 → Y → Prop} {w1 : Y → va_W} (hP : va_P (dC, dI) vwCl (wc ++ wr) H) (hD : va_D A (wc ++ wr)) (hS : va_S A s.heap H locs) (hA : ∀ q, s.heap.size ≤ q → A q)
    (hr : va_Run p l e R s m args below meth c H locs kc ks mc ms (F0 m pc ls st0) rest (va_Qi post (aB dC dI wc H.size w1) (va_A wc H.size) a) (va_A wc H.size))
    (kk : ∀ (r : Int32) (u : Y) (H1 : Heap) (locs1 : List Loc), post r u → va_P (dC, dI) vwCl (wr ++ w1 u) H1 → va_D A (wr ++ w1 u) → va_S A s.heap H1 locs1 → W p l e R s m args below meth c H1 locs1 (kc + mc) (ks + ms) Q (F0 m (pc + 3) ls (.int r :: rest))) : W p l e R s m args below meth c H locs kc ks Q (F0 m pc ls st0) :=
  va_calli hr hS (fun q _ h => va_freeS hD hS hA q h) (va_freeS hD hS hA) (fun r u t H1 locs1 ht hvm hp hB hz hk hS1 => by
    obtain ⟨hP2, hD2⟩ := va_joinS hP hD hk (va_freeS hD hS hA) (by rw [← ht]; exact hB.1) hB.2
    exact kk r u H1 locs1 hp hP2 hD2 hS1)
theorem sC_v {Y : Type} {post : Y → Prop} {w1 : Y → va_W} (hP : va_P (dC, dI) vwCl (wc ++ wr) H) (hD : va_D A (wc ++ wr)) (hS : va_S A s.heap H locs) (hA : ∀ q, s.heap.size ≤ q → A q)
    (hr : va_Run p l e R s m args below meth c H locs kc ks mc ms (F0 m pc ls st0) rest (va_Qv post (aB dC dI wc H.size w1) (va_A wc H.size) a) (va_A wc H.size))
    (kk : ∀ (u : Y) (H1 : Heap) (locs1 : List Loc), post u → va_P (dC, dI) vwCl (wr ++ w1 u) H1 → va_D A (wr ++ w1 u) → va_S A s.heap H1 locs1 → W p l e R s m args below meth c H1 locs1 (kc + mc) (ks + ms) Q (F0 m (pc + 3) ls rest)) : W p l e R s m args below meth c H locs kc ks Q (F0 m pc ls st0) :=
  va_callv hr hS (fun q _ h => va_freeS hD hS hA q h) (va_freeS hD hS hA) (fun u t H1 locs1 ht hvm hp hB hz hk hS1 => by
    obtain ⟨hP2, hD2⟩ := va_joinS hP hD hk (va_freeS hD hS hA) (by rw [← ht]; exact hB.1) hB.2
    exact kk u H1 locs1 hp hP2 hD2 hS1)
theorem sC_r {Y : Type} {post : Y → Prop} {w1 : Y → Nat → va_W} (hP : va_P (dC, dI) vwCl (wc ++ wr) H) (hD : va_D A (wc ++ wr)) (hS : va_S A s.heap H locs) (hA : ∀ q, s.heap.size ≤ q → A q)
    (hr : va_Run p l e R s m args below meth c H locs kc ks mc ms (F0 m pc ls st0) rest (va_Qr post (aBr dC dI wc H.size w1) (va_A wc H.size) a) (va_A wc H.size))
    (kk : ∀ (u : Y) (ra : Nat) (H1 : Heap) (locs1 : List Loc), post u → va_P (dC, dI) vwCl (wr ++ w1 u ra) H1 → va_D A (wr ++ w1 u ra) → va_S A s.heap H1 locs1 → W p l e R s m args below meth c H1 locs1 (kc + mc) (ks + ms) Q (F0 m (pc + 3) ls (.ref ra :: rest))) : W p l e R s m args below meth c H locs kc ks Q (F0 m pc ls st0) :=
  va_callr hr hS (fun q _ h => va_freeS hD hS hA q h) (va_freeS hD hS hA) (fun u ra t H1 locs1 ht hvm hp hB hz hk hS1 => by
    obtain ⟨hP2, hD2⟩ := va_joinS hP hD hk (va_freeS hD hS hA) (by rw [← ht]; exact hB.1) hB.2
    exact kk u ra H1 locs1 hp hP2 hD2 hS1)
theorem sC_q {Y : Type} {post : Option Nat → Y → Prop} {w1 : Y → va_W} (hP : va_P (dC, dI) vwCl (wc ++ wr) H) (hD : va_D A (wc ++ wr)) (hS : va_S A s.heap H locs) (hA : ∀ q, s.heap.size ≤ q → A q)
    (hr : va_Run p l e R s m args below meth c H locs kc ks mc ms (F0 m pc ls st0) rest (va_Qq post (aB dC dI wc H.size w1) (va_A wc H.size) a) (va_A wc H.size))
    (kk : ∀ (r : Option Nat) (u : Y) (H1 : Heap) (locs1 : List Loc), post r u → va_P (dC, dI) vwCl (wr ++ w1 u) H1 → va_D A (wr ++ w1 u) → va_S A s.heap H1 locs1 → W p l e R s m args below meth c H1 locs1 (kc + mc) (ks + ms) Q (F0 m (pc + 3) ls (va_rf r :: rest))) : W p l e R s m args below meth c H locs kc ks Q (F0 m pc ls st0) :=
  va_callq hr hS (fun q _ h => va_freeS hD hS hA q h) (va_freeS hD hS hA) (fun r u t H1 locs1 ht hvm hp hB hz hk hS1 => by
    obtain ⟨hP2, hD2⟩ := va_joinS hP hD hk (va_freeS hD hS hA) (by rw [← ht]; exact hB.1) hB.2
    exact kk r u H1 locs1 hp hP2 hD2 hS1)
end SP
/-! a list of holes -/
/-- the list's array: the first n places hold addresses, the others nothing -/
def lf (n : Nat) (pa : Nat → Nat) : Nat → Option Nat := fun k => if k < n then some (pa k) else none
/-- its cell, if there is one yet -/
def lA (dA : Nat → ClassId) (ea cap : Nat) (f : Nat → Option Nat) : va_W := if cap = 0 then [] else [(ea, .inl (dA 4, cap, .inr (.inr (.inr (.inr f)))))]
def lPits (n : Nat) (pa pk : Nat → Nat) (pm : Nat → Int64) (rate : Int32) : va_W := (List.range n).map (fun k => (pa k, .inr (pk k, [.long (pm k), .int rate])))
/-- the list: its object, its array, its holes -/
def lP (dA : Nat → ClassId) (la ea cap : Nat) (mc : Int32) (n : Nat) (pa pk : Nat → Nat) (pm : Nat → Int64) (rate : Int32) : va_W := (la, .inr (11, [.int mc, .ref ea, .int (nI n)])) :: (lA dA ea cap (lf n pa) ++ lPits n pa pk pm rate)
/-- how large its array is, and which it is -/
def lOk (eA ea cap n : Nat) (pk : Nat → Nat) : Prop := ((cap = 0 ∧ ea = eA) ∨ cap = 10 ∨ cap = 15 ∨ cap = 22) ∧ n ≤ cap ∧ ∀ k, k < n → pK (pk k)
def lN1 (cap : Nat) : Nat := if cap = 0 then 10 else if cap = 10 then 15 else 22
theorem lf_up (n : Nat) (pa : Nat → Nat) (x : Nat) : va_up (lf n pa) n (some x) = lf (n + 1) (va_up pa n x) := by
  funext k
  unfold va_up lf
  by_cases h : k = n
  · simp [h]
  · by_cases h2 : k < n
    · simp [h, h2, Nat.lt_succ_of_lt h2]
    · simp [h, h2, show ¬ k < n + 1 by omega]
theorem lf_0 (pa : Nat → Nat) : lf 0 pa = fun _ => none := by
  funext k
  simp [lf]
theorem lf_cpy (n : Nat) (pa : Nat → Nat) : va_cpy (lf n pa) (fun _ => none) 0 0 n = lf n pa := by
  funext k
  unfold va_cpy lf
  by_cases h : k < n
  · simp [h]
  · simp [h]
theorem lPits_succ (n : Nat) (pa pk : Nat → Nat) (pm : Nat → Int64) (rate : Int32) (x ci : Nat) (cl : Int64) : lPits (n + 1) (va_up pa n x) (va_up pk n ci) (va_up pm n cl) rate = lPits n pa pk pm rate ++ [(x, .inr (ci, [.long cl, .int rate]))] := by
  unfold lPits
  rw [List.range_succ, List.map_append]
  congr 1
  · apply List.map_congr_left
    intro k hk
    have h : ¬ k = n := by have := List.mem_range.mp hk; omega
    simp [va_up, h]
  · simp [va_up]
theorem lPits_mem {n : Nat} {pa pk : Nat → Nat} {pm : Nat → Int64} {rate : Int32} {k : Nat} (h : k < n) : (pa k, Sum.inr (pk k, [.long (pm k), .int rate])) ∈ lPits n pa pk pm rate := List.mem_map.mpr ⟨k, List.mem_range.mpr h, rfl⟩
