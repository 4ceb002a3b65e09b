/-! CALLS THAT THROW, WITH WORLDS -/
def va_Qt {S : Type} (post : S → Prop) (B : S → Nat → State → Prop) (A : Nat → Prop) : Array Value → State → Outcome → State → Prop := fun _ st oc t => (∃ (u : S) (a : Nat), oc = .threw a ∧ post u ∧ B u a t) ∧ va_F A st t
section T4
variable {p : Program} {l : Launch} {e : Env} {R : Room} {s : State} {m : MethodId} {args : Array Value} {below : List Frame} {meth : Method} {c : Code} {H : Heap} {locs : List Loc} {cells slots : Nat} {Q : State → Prop}
variable {pc : Nat} {ls : Array Slot} {rest st0 : List Value} {a : Array Value} {A0 A1 : Nat → Prop} {H0 : Heap} {mc ms : Nat} {free : Addr → Prop}
theorem va_callT {S : Type} {post : S → Prop} {B : S → Nat → State → Prop} (hr : tRun p l e R s m args below meth c H locs cells slots mc ms (F0 m pc ls st0) rest (va_Qt post B A1 a) free) (hS : va_S A0 H0 H locs) (hA : ∀ q, q < H.size → A1 q → A0 q) (hf : ∀ q, free q → A0 q)
    (kk : ∀ (u : S) (x : Nat) (t : State) (H1 : Heap) (locs1 : List Loc), t.heap = H1 → s.vm.Alike t.vm → post u → B u x t → H.size ≤ H1.size → (∀ q : Nat, q < H.size → ¬ A1 q → H1[q]? = H[q]?) → va_S A0 H0 H1 locs1 → WT p l e R s m args below meth c H1 locs1 (cells + mc) (slots + ms) Q (F0 m pc ls rest) x) : W p l e R s m args below meth c H locs cells slots Q (F0 m pc ls st0) := by
  intro T hT X
  obtain ⟨x, st₀, t, T', L, h0, X', hL, e1, e2, ⟨⟨u, ra, hv, hp, hb⟩, hz, hk⟩, st⟩ := hr T hT X
  cases hv
  rw [h0] at hz hk
  obtain ⟨t2, a1, b1⟩ := kk u x t T'.heap (locs ++ L) e1.symm (by rw [← e2]; exact X'.warmed.alike) hp hb (by rw [e1]; exact hz) (fun q h1 h2 => by rw [e1]; exact hk q h1 h2)
    ⟨Nat.le_trans hS.1 (by rw [e1]; exact hz), fun q g1 g2 => by
      have hlt : q < H.size := Nat.lt_of_lt_of_le g1 hS.1
      rw [e1, hk q hlt (fun z => g2 (hA q hlt z))]
      exact hS.2.1 q g1 g2, fun q hq => by
      rcases List.mem_append.mp hq with h | h
      · exact hS.2.2 q h
      · exact hf _ (hL q h)⟩ T' rfl X'
  exact ⟨t2, st t2 a1, b1⟩
variable {cc : ByteArray} {nL kc ks : Nat} {dC : Nat → ClassId} {dI : Nat → Nat → Nat} {dA : Nat → ClassId} {eA mi : Nat} {A : Nat → Prop} {As : List Value} {w0 ws wc wr : va_W} {sz : Nat}
/-- what a throw leaves: a world, and the object that is thrown -/
abbrev aBt {Y : Type} (dC : Nat → ClassId) (dI : Nat → Nat → Nat) (w0 : va_W) (sz : Nat) (w1 : Y → Nat → va_W) (nm : Y → String) : Y → Nat → State → Prop := fun u x t => (va_P (dC, dI) vwCl (w1 u x) t.heap ∧ va_D (va_A w0 sz) (w1 u x)) ∧ exc (nm u) x t t.heap
theorem aT {Y : Type} {post : Y → Prop} {w1 : Y → Nat → va_W} {nm : Y → String} (hP : va_P (dC, dI) vwCl ws H) (hD : va_D A ws) (hS : va_S A s.heap H locs) (hA : ∀ q, s.heap.size ≤ q → A q) (isC isR : List Nat) (hC : isC.map (fun i => ws[i]?) = wc.map some) (hR : isR.map (fun i => ws[i]?) = wr.map some) (hn : va_nd isR = true) (hdis : ∀ i ∈ isR, i ∉ isC)
    (hr : tRun p l e R s m args below meth c H locs kc ks mc ms (F0 m pc ls st0) rest (va_Qt post (aBt dC dI wc H.size w1 nm) (va_A wc H.size) a) (va_A wc H.size))
    (kk : ∀ (u : Y) (x : Nat) (H1 : Heap) (locs1 : List Loc), post u → va_P (dC, dI) vwCl (wr ++ w1 u x) H1 → va_D A (wr ++ w1 u x) → va_S A s.heap H1 locs1 → exc (nm u) x s H1 → WT p l e R s m args below meth c H1 locs1 (kc + mc) (ks + ms) Q (F0 m pc ls rest) x) : W p l e R s m args below meth c H locs kc ks Q (F0 m pc ls st0) :=
  va_callT hr hS (fun q _ h => va_free hD hS hA isC hC q h) (va_free hD hS hA isC hC) (fun u x t H1 locs1 ht hvm hp hB hz hk hS1 => by
    obtain ⟨hP2, hD2⟩ := va_join hP hD isC isR hC hR hn hdis hk (va_free hD hS hA isC hC) (by rw [← ht]; exact hB.1.1) hB.1.2
    refine kk u x H1 locs1 hp hP2 hD2 hS1 ?_
    obtain ⟨cell, g1, g2, g3⟩ := hB.2
    exact ⟨cell, by rw [← ht]; exact g1, g2, by rw [← hvm.findClass]; exact g3⟩)
/-- the same with the world cut in two -/
theorem sT {Y : Type} {post : Y → Prop} {w1 : Y → Nat → va_W} {nm : Y → String} (hP : va_P (dC, dI) vwCl (wc ++ wr) H) (hD : va_D A (wc ++ wr)) (hS : va_S A s.heap H locs) (hA : ∀ q, s.heap.size ≤ q → A q)
    (hr : tRun p l e R s m args below meth c H locs kc ks mc ms (F0 m pc ls st0) rest (va_Qt post (aBt dC dI wc H.size w1 nm) (va_A wc H.size) a) (va_A wc H.size))
    (kk : ∀ (u : Y) (x : Nat) (H1 : Heap) (locs1 : List Loc), post u → va_P (dC, dI) vwCl (wr ++ w1 u x) H1 → va_D A (wr ++ w1 u x) → va_S A s.heap H1 locs1 → exc (nm u) x s H1 → WT p l e R s m args below meth c H1 locs1 (kc + mc) (ks + ms) Q (F0 m pc ls rest) x) : W p l e R s m args below meth c H locs kc ks Q (F0 m pc ls st0) :=
  va_callT hr hS (fun q _ h => va_freeS hD hS hA q h) (va_freeS hD hS hA) (fun u x t H1 locs1 ht hvm hp hB hz hk hS1 => by
    obtain ⟨hP2, hD2⟩ := va_joinS hP hD hk (va_freeS hD hS hA) (by rw [← ht]; exact hB.1.1) hB.1.2
    refine kk u x H1 locs1 hp hP2 hD2 hS1 ?_
    obtain ⟨cell, g1, g2, g3⟩ := hB.2
    exact ⟨cell, by rw [← ht]; exact g1, g2, by rw [← hvm.findClass]; exact g3⟩)
end T4
