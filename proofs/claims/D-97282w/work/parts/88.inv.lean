/-! THE LAW'S INVARIANT -/
abbrev Ls : Type := Option (Nat × (Nat → Option Nat))
abbrev Sh : Type := Nat × Nat × Nat × (Nat → Int32) × (Nat → Int64)
abbrev cB (h : Nat → Nat) (dA : Nat → ClassId) (steps : Int32) (draw : Int32) (typed : Int32) (at_ : Int32) (isImage : Int32) (idraw : Int32) (gd : Nat → Int32) (gro : Int64) (grt : Int32) (td : Nat → Int32) (tro : Int64) (trt : Int32) (rd : Nat → Int32) (rro : Int64) (rrt : Int32) (imd : Nat → Int32) (imro : Int64) (imrt : Int32) (owners : Nat → Int32) (tour : Nat → Int32) (best : Nat → Int32) (tape : Nat → Int32) (signs : Nat → Int32) (acts : Nat → Int32) (iown : Nat → Int32) (taken : Nat → Int64) : va_W := [((h 0), .inr (0, [.ref (h 1), .ref (h 3), .ref (h 9), .ref (h 17), .ref (h 10), .ref (h 11), .int steps, .int draw, .ref (h 12), .int typed, .int at_, .ref (h 5), .ref (h 13), .ref (h 14), .int isImage, .ref (h 7), .ref (h 15), .ref (h 18), .int idraw, .ref (h 19), .ref (h 16)])), ((h 1), .inr (1, [.ref (h 2), .long gro, .int grt])), ((h 2), .inl (dA 0, 36, .inl gd)), ((h 3), .inr (1, [.ref (h 4), .long tro, .int trt])), ((h 4), .inl (dA 0, 36, .inl td)), ((h 5), .inr (1, [.ref (h 6), .long rro, .int rrt])), ((h 6), .inl (dA 0, 36, .inl rd)), ((h 7), .inr (1, [.ref (h 8), .long imro, .int imrt])), ((h 8), .inl (dA 0, 36, .inl imd)), ((h 9), .inl (dA 0, 36, .inl owners)), ((h 10), .inl (dA 1, 8, .inl tour)), ((h 11), .inl (dA 1, 8, .inl best)), ((h 12), .inl (dA 0, 160, .inl tape)), ((h 13), .inl (dA 0, 36, .inl signs)), ((h 14), .inl (dA 0, 320, .inl acts)), ((h 15), .inl (dA 0, 36, .inl iown)), ((h 16), .inl (dA 2, 36, .inr (.inl taken)))]
/-- a list of repairs: its object, and its array of ten if it has one -/
def uL (dA : Nat → ClassId) (eA o : Nat) (mc sz : Int32) (st : Ls) : va_W := match st with
  | none => [(o, .inr (11, [.int mc, .ref eA, .int sz]))]
  | some q => [(o, .inr (11, [.int mc, .ref q.1, .int sz])), (q.1, .inl (dA 4, 10, .inr (.inr (.inr (.inr q.2)))))]
/-- a sheet: nothing, or a row of bytes, shorts, ints, longs -/
def sB (dA : Nat → ClassId) (hd : Nat) (q : Sh) : va_W := match q with
  | (0, _) => [(hd, .inr (2, [.null]))]
  | (1, ra, n, f, _) => [(hd, .inr (2, [.ref ra])), (ra, .inl (dA 0, n, .inl f))]
  | (2, ra, n, f, _) => [(hd, .inr (2, [.ref ra])), (ra, .inl (dA 3, n, .inl f))]
  | (3, ra, n, f, _) => [(hd, .inr (2, [.ref ra])), (ra, .inl (dA 1, n, .inl f))]
  | (_ + 4, ra, n, _, g) => [(hd, .inr (2, [.ref ra])), (ra, .inl (dA 2, n, .inr (.inl g)))]
def sW (dA : Nat → ClassId) (hd : Nat → Nat) (sh : Nat → Sh) : va_W := sB dA (hd 0) (sh 0) ++ (sB dA (hd 1) (sh 1) ++ (sB dA (hd 2) (sh 2) ++ sB dA (hd 3) (sh 3)))
abbrev shc (h : Nat → Nat) (dA : Nat → ClassId) (shf : Nat → Option Nat) : va_W := [((h 19), .inl (dA 5, 4, .inr (.inr (.inr (.inr shf)))))]
abbrev rW (dA : Nat → ClassId) (eA : Nat) (h : Nat → Nat) (umc : Int32) (usz : Int32) (ust : Ls) (vmc : Int32) (vsz : Int32) (vst : Ls) (shf : Nat → Option Nat) (hd : Nat → Nat) (sh : Nat → Sh) (pool : List Rp) : va_W := uL dA eA (h 17) umc usz ust ++ (uL dA eA (h 18) vmc vsz vst ++ (shc h dA shf ++ (sW dA hd sh ++ pool.map (rpc (h 0)))))
/-! the relation -/
def RG (gd owners : Nat → Int32) (gro : Int64) (grt draw : Int32) (depths mowners : Nat → Int32) (roofs : Int64) (rate drawn : Int32) : Prop := okD gd ∧ agree 36 gd depths ∧ okO owners ∧ agree 36 owners mowners ∧ gro = roofs ∧ grt = rate ∧ draw = drawn ∧ small gro
def RT (typed : Int32) (tape : Nat → Int32) (mtape : Nat → Int32) (taped : Int32) : Prop := ∃ n, n ≤ 160 ∧ typed = nI n ∧ taped = nI n ∧ agree n tape mtape ∧ ∀ i, i < n → 32 ≤ tape i ∧ tape i ≤ 126
def okR (r : Rp) : Prop := (∃ c, c < 36 ∧ r.2.1 = nI c) ∧ 0 ≤ r.2.2.1 ∧ r.2.2.1 ≤ 9 ∧ (r.2.2.2 = 0 ∨ r.2.2.2 = 1)
/-- a list of n repairs of the pool, and the model's numbers of them -/
def RL (pool : List Rp) (sz : Int32) (st : Ls) (n : Nat) (und : Nat → Int32) : Prop := n ≤ 10 ∧ sz = nI n ∧ (∀ q, st = some q → ∀ j y, q.2 j = some y → ∃ r, r ∈ pool ∧ r.1 = y) ∧ (st = none → n = 0) ∧ ∀ q, st = some q → ∀ k, k < n → ∃ r, r ∈ pool ∧ q.2 k = some r.1 ∧ okR r ∧ und (3 * k) = r.2.1 ∧ und (3 * k + 1) = r.2.2.1 ∧ und (3 * k + 2) = r.2.2.2
def RU (pool : List Rp) (sz : Int32) (st : Ls) (und : Nat → Int32) (um : Int32) : Prop := ∃ n, um = nI n ∧ RL pool sz st n und
def RI (pool : List Rp) (isImage idraw : Int32) (imd : Nat → Int32) (imro : Int64) (imrt : Int32) (iown : Nat → Int32) (sz : Int32) (st : Ls) (isKept : Int32) (keptRoofs : Int64) (kept : Nat → Int32) : Prop := isImage = isKept ∧ (isImage = 0 ∨ isImage = 1) ∧ ∃ n, RL pool sz st n (fun j => kept (72 + j)) ∧ (isImage = 1 → kept 103 = nI n ∧ kept 102 = imrt ∧ kept 104 = idraw ∧ imro = keptRoofs ∧ okD imd ∧ agree 36 imd kept ∧ okO iown ∧ agree 36 iown (fun i => kept (36 + i)) ∧ small imro)
/-- what a sheet's row holds at i -/
def sv (q : Sh) (i : Nat) : Int64 := if q.1 = 4 then q.2.2.2.2 i else (q.2.2.2.1 i).toInt64
def okS (q : Sh) : Prop := q.1 ≤ 4 ∧ (q.1 = 1 → ∀ i, -128 ≤ q.2.2.2.1 i ∧ q.2.2.2.1 i ≤ 127) ∧ (q.1 = 2 → ∀ i, -32768 ≤ q.2.2.2.1 i ∧ q.2.2.2.1 i ≤ 32767)
def RS (shf : Nat → Option Nat) (hd : Nat → Nat) (sh : Nat → Sh) (lanes sizes : Nat → Int32) (items : Nat → Int64) : Prop := ∀ k, k < 4 → shf k = some (hd k) ∧ okS (sh k) ∧ ((sh k).1 = 0 → lanes k = -1) ∧ ((sh k).1 ≠ 0 → lanes k = nI ((sh k).1 - 1) ∧ (sh k).2.2.1 ≤ 36 ∧ sizes k = nI (sh k).2.2.1 ∧ ∀ i, i < (sh k).2.2.1 → items (36 * k + i) = sv (sh k) i)
def InvB (A : Nat → Prop) (dC : Nat → ClassId) (dI : Nat → Nat → Nat) (dA : Nat → ClassId) (eA : Nat) (h hm : Nat → Nat) (H : Heap) (steps : Int32) (draw : Int32) (typed : Int32) (at_ : Int32) (isImage : Int32) (idraw : Int32) (gd : Nat → Int32) (gro : Int64) (grt : Int32) (td : Nat → Int32) (tro : Int64) (trt : Int32) (rd : Nat → Int32) (rro : Int64) (rrt : Int32) (imd : Nat → Int32) (imro : Int64) (imrt : Int32) (owners : Nat → Int32) (tour : Nat → Int32) (best : Nat → Int32) (tape : Nat → Int32) (signs : Nat → Int32) (acts : Nat → Int32) (iown : Nat → Int32) (taken : Nat → Int64) (umc : Int32) (usz : Int32) (ust : Ls) (vmc : Int32) (vsz : Int32) (vst : Ls) (shf : Nat → Option Nat) (hd : Nat → Nat) (sh : Nat → Sh) (pool : List Rp) (m_depths : (Nat → Int32)) (m_owners : (Nat → Int32)) (m_roofs : Int64) (m_rate : Int32) (m_undos : (Nat → Int32)) (m_undoMany : Int32) (m_drawn : Int32) (m_dug : Int64) (m_deep : Int64) (m_holes : (Nat → Int64)) (m_holeMany : Int32) (m_tape : (Nat → Int32)) (m_taped : Int32) (m_place : Int32) (m_reads : Int32) (m_read_ : (Nat → Int32)) (m_row : (Nat → Int32)) (m_order : (Nat → Int32)) (m_bestOrder : (Nat → Int32)) (m_nears : (Nat → Int32)) (m_isKept : Int32) (m_keptRoofs : Int64) (m_kept : (Nat → Int32)) (m_lanes : (Nat → Int32)) (m_rowSizes : (Nat → Int32)) (m_items : (Nat → Int64)) (m_moved : (Nat → Int64)) : Prop := PD A dC dI ((cB h dA steps draw typed at_ isImage idraw gd gro grt td tro trt rd rro rrt imd imro imrt owners tour best tape signs acts iown taken) ++ ((wM hm dA m_depths m_owners m_roofs m_rate m_undos m_undoMany m_drawn m_dug m_deep m_holes m_holeMany m_tape m_taped m_place m_reads m_read_ m_row m_order m_bestOrder m_nears m_isKept m_keptRoofs m_kept m_lanes m_rowSizes m_items m_moved) ++ (rW dA eA h umc usz ust vmc vsz vst shf hd sh pool))) H ∧ RG gd owners gro grt draw m_depths m_owners m_roofs m_rate m_drawn ∧ RT typed tape m_tape m_taped ∧ RU pool usz ust m_undos m_undoMany ∧ RI pool isImage idraw imd imro imrt iown vsz vst m_isKept m_keptRoofs m_kept ∧ RS shf hd sh m_lanes m_rowSizes m_items
def Inv (A : Nat → Prop) (dC : Nat → ClassId) (dI : Nat → Nat → Nat) (dA : Nat → ClassId) (eA : Nat) (h hm : Nat → Nat) (H : Heap) : Prop := ∃ (steps : Int32) (draw : Int32) (typed : Int32) (at_ : Int32) (isImage : Int32) (idraw : Int32) (gd : Nat → Int32) (gro : Int64) (grt : Int32) (td : Nat → Int32) (tro : Int64) (trt : Int32) (rd : Nat → Int32) (rro : Int64) (rrt : Int32) (imd : Nat → Int32) (imro : Int64) (imrt : Int32) (owners : Nat → Int32) (tour : Nat → Int32) (best : Nat → Int32) (tape : Nat → Int32) (signs : Nat → Int32) (acts : Nat → Int32) (iown : Nat → Int32) (taken : Nat → Int64) (umc : Int32) (usz : Int32) (ust : Ls) (vmc : Int32) (vsz : Int32) (vst : Ls) (shf : Nat → Option Nat) (hd : Nat → Nat) (sh : Nat → Sh) (pool : List Rp) (m_depths : (Nat → Int32)) (m_owners : (Nat → Int32)) (m_roofs : Int64) (m_rate : Int32) (m_undos : (Nat → Int32)) (m_undoMany : Int32) (m_drawn : Int32) (m_dug : Int64) (m_deep : Int64) (m_holes : (Nat → Int64)) (m_holeMany : Int32) (m_tape : (Nat → Int32)) (m_taped : Int32) (m_place : Int32) (m_reads : Int32) (m_read_ : (Nat → Int32)) (m_row : (Nat → Int32)) (m_order : (Nat → Int32)) (m_bestOrder : (Nat → Int32)) (m_nears : (Nat → Int32)) (m_isKept : Int32) (m_keptRoofs : Int64) (m_kept : (Nat → Int32)) (m_lanes : (Nat → Int32)) (m_rowSizes : (Nat → Int32)) (m_items : (Nat → Int64)) (m_moved : (Nat → Int64)), InvB A dC dI dA eA h hm H steps draw typed at_ isImage idraw gd gro grt td tro trt rd rro rrt imd imro imrt owners tour best tape signs acts iown taken umc usz ust vmc vsz vst shf hd sh pool m_depths m_owners m_roofs m_rate m_undos m_undoMany m_drawn m_dug m_deep m_holes m_holeMany m_tape m_taped m_place m_reads m_read_ m_row m_order m_bestOrder m_nears m_isKept m_keptRoofs m_kept m_lanes m_rowSizes m_items m_moved
theorem Inv_mk {A : Nat → Prop} {dC : Nat → ClassId} {dI : Nat → Nat → Nat} {dA : Nat → ClassId} {eA : Nat} {h hm : Nat → Nat} {H : Heap} (steps : Int32) (draw : Int32) (typed : Int32) (at_ : Int32) (isImage : Int32) (idraw : Int32) (gd : Nat → Int32) (gro : Int64) (grt : Int32) (td : Nat → Int32) (tro : Int64) (trt : Int32) (rd : Nat → Int32) (rro : Int64) (rrt : Int32) (imd : Nat → Int32) (imro : Int64) (imrt : Int32) (owners : Nat → Int32) (tour : Nat → Int32) (best : Nat → Int32) (tape : Nat → Int32) (signs : Nat → Int32) (acts : Nat → Int32) (iown : Nat → Int32) (taken : Nat → Int64) (umc : Int32) (usz : Int32) (ust : Ls) (vmc : Int32) (vsz : Int32) (vst : Ls) (shf : Nat → Option Nat) (hd : Nat → Nat) (sh : Nat → Sh) (pool : List Rp) (m_depths : (Nat → Int32)) (m_owners : (Nat → Int32)) (m_roofs : Int64) (m_rate : Int32) (m_undos : (Nat → Int32)) (m_undoMany : Int32) (m_drawn : Int32) (m_dug : Int64) (m_deep : Int64) (m_holes : (Nat → Int64)) (m_holeMany : Int32) (m_tape : (Nat → Int32)) (m_taped : Int32) (m_place : Int32) (m_reads : Int32) (m_read_ : (Nat → Int32)) (m_row : (Nat → Int32)) (m_order : (Nat → Int32)) (m_bestOrder : (Nat → Int32)) (m_nears : (Nat → Int32)) (m_isKept : Int32) (m_keptRoofs : Int64) (m_kept : (Nat → Int32)) (m_lanes : (Nat → Int32)) (m_rowSizes : (Nat → Int32)) (m_items : (Nat → Int64)) (m_moved : (Nat → Int64)) (hi : InvB A dC dI dA eA h hm H steps draw typed at_ isImage idraw gd gro grt td tro trt rd rro rrt imd imro imrt owners tour best tape signs acts iown taken umc usz ust vmc vsz vst shf hd sh pool m_depths m_owners m_roofs m_rate m_undos m_undoMany m_drawn m_dug m_deep m_holes m_holeMany m_tape m_taped m_place m_reads m_read_ m_row m_order m_bestOrder m_nears m_isKept m_keptRoofs m_kept m_lanes m_rowSizes m_items m_moved) : Inv A dC dI dA eA h hm H := ⟨steps, draw, typed, at_, isImage, idraw, gd, gro, grt, td, tro, trt, rd, rro, rrt, imd, imro, imrt, owners, tour, best, tape, signs, acts, iown, taken, umc, usz, ust, vmc, vsz, vst, shf, hd, sh, pool, m_depths, m_owners, m_roofs, m_rate, m_undos, m_undoMany, m_drawn, m_dug, m_deep, m_holes, m_holeMany, m_tape, m_taped, m_place, m_reads, m_read_, m_row, m_order, m_bestOrder, m_nears, m_isKept, m_keptRoofs, m_kept, m_lanes, m_rowSizes, m_items, m_moved, hi⟩
theorem PD.perm {A : Nat → Prop} {dC : Nat → ClassId} {dI : Nat → Nat → Nat} {w w' : va_W} {H : Heap} (h : PD A dC dI w H) (hp : w.Perm w') : PD A dC dI w' H := ⟨h.1.perm hp, h.2.perm hp⟩
/-- blocks are put in another order -/
theorem pmF (l l' : List va_W) (is : List Nat) (n : Nat) (hn : l.length = n) (h : is.Perm (List.range n)) (hs : is.filterMap (fun i => l[i]?) = l') : l.flatten.Perm l'.flatten := (perm_idx l l' is (by rw [hn]; exact h) hs).flatten
theorem tk1 {x y z t : va_W} : (x ++ (y ++ (z ++ t))).Perm ((x ++ z) ++ (y ++ t)) := by
  have q := pmF [x, y, z, t] [x, z, y, t] [0, 2, 1, 3] 4 rfl (by decide) rfl
  simpa [List.append_assoc] using q
theorem tk2 {x y z v t : va_W} : (x ++ (y ++ (z ++ (v ++ t)))).Perm ((x ++ (z ++ v)) ++ (y ++ t)) := by
  have q := pmF [x, y, z, v, t] [x, z, v, y, t] [0, 2, 3, 1, 4] 5 rfl (by decide) rfl
  simpa [List.append_assoc] using q
theorem tk2s {x y z v t : va_W} : (x ++ (y ++ (z ++ (v ++ t)))).Perm ((x ++ (v ++ z)) ++ (y ++ t)) := by
  have q := pmF [x, y, z, v, t] [x, v, z, y, t] [0, 3, 2, 1, 4] 5 rfl (by decide) rfl
  simpa [List.append_assoc] using q
/-- the list of repairs, with a cell of the pool -/
theorem tkP {x y z v a b P r : va_W} : (x ++ (y ++ (z ++ (v ++ (a ++ (b ++ (r ++ P))))))).Perm ((x ++ (z ++ r)) ++ (y ++ (v ++ (a ++ (b ++ P))))) := by
  have q := pmF [x, y, z, v, a, b, r, P] [x, z, r, y, v, a, b, P] [0, 2, 6, 1, 3, 4, 5, 7] 8 rfl (by decide) rfl
  simpa [List.append_assoc] using q
/-- the pool beside what is taken -/
theorem tkV {x y z v a b P : va_W} : (x ++ (y ++ (z ++ (v ++ (a ++ (b ++ P)))))).Perm (((x ++ z) ++ P) ++ (y ++ (v ++ (a ++ b)))) := by
  have q := pmF [x, y, z, v, a, b, P] [x, z, P, y, v, a, b] [0, 2, 6, 1, 3, 4, 5] 7 rfl (by decide) rfl
  simpa [List.append_assoc] using q
theorem tkV2 {x y z v a b P : va_W} : (x ++ (y ++ (z ++ (v ++ (a ++ (b ++ P)))))).Perm (((x ++ (z ++ v)) ++ P) ++ (y ++ (a ++ b))) := by
  have q := pmF [x, y, z, v, a, b, P] [x, z, v, P, y, a, b] [0, 2, 3, 6, 1, 4, 5] 7 rfl (by decide) rfl
  simpa [List.append_assoc] using q
theorem tkV2s {x y z v a b P : va_W} : (x ++ (y ++ (z ++ (v ++ (a ++ (b ++ P)))))).Perm (((x ++ (v ++ z)) ++ P) ++ (y ++ (a ++ b))) := by
  have q := pmF [x, y, z, v, a, b, P] [x, v, z, P, y, a, b] [0, 3, 2, 6, 1, 4, 5] 7 rfl (by decide) rfl
  simpa [List.append_assoc] using q
theorem RL.ve {s : State} {H : Heap} {locs : List Loc} {dC : Nat → ClassId} {dI : Nat → Nat → Nat} {dA : Nat → ClassId} {A : Nat → Prop} {pool : List Rp} {sz : Int32} {q : Nat × (Nat → Option Nat)} {n h0 : Nat} {und : Nat → Int32} {wc t : va_W} (h : RL pool sz (some q) n und) (hK : va_K (dC, dI) vwCl (tysG dA) s) (hN : NG s) (hPD : PD A dC dI ((wc ++ pool.map (rpc h0)) ++ t) H) (hS : va_S A s.heap H locs) (hA : ∀ q, s.heap.size ≤ q → A q) : VE (va_A wc H.size) q.2 s H :=
  EL.ve (nl := pool) (h0 := h0) (A := A) (fun j y hy => Or.inr (by
    obtain ⟨r, h1, h2⟩ := h.2.2.1 q rfl j y hy
    exact ⟨r, h1, h2⟩)) hK hN (hPD.1.of_mem (fun _ h => List.mem_append_left _ h)) hPD.2.left hS hA
theorem RL.more {pool : List Rp} {sz : Int32} {st : Ls} {n : Nat} {und : Nat → Int32} (h : RL pool sz st n und) {pool' : List Rp} (hs : ∀ r, r ∈ pool → r ∈ pool') : RL pool' sz st n und := by
  obtain ⟨h1, h2, h3, h4, h5⟩ := h
  refine ⟨h1, h2, fun q hq j y hy => ?_, h4, fun q hq k hk => ?_⟩
  · obtain ⟨r, a, b⟩ := h3 q hq j y hy
    exact ⟨r, hs r a, b⟩
  · obtain ⟨r, a, b⟩ := h5 q hq k hk
    exact ⟨r, hs r a, b⟩
theorem RU.more {pool : List Rp} {sz um : Int32} {st : Ls} {und : Nat → Int32} (h : RU pool sz st und um) {pool' : List Rp} (hs : ∀ r, r ∈ pool → r ∈ pool') : RU pool' sz st und um := by
  obtain ⟨n, h1, h2⟩ := h
  exact ⟨n, h1, h2.more hs⟩
theorem RI.more {pool : List Rp} {isImage idraw : Int32} {imd : Nat → Int32} {imro : Int64} {imrt : Int32} {iown : Nat → Int32} {sz : Int32} {st : Ls} {isKept : Int32} {keptRoofs : Int64} {kept : Nat → Int32} (h : RI pool isImage idraw imd imro imrt iown sz st isKept keptRoofs kept) {pool' : List Rp} (hs : ∀ r, r ∈ pool → r ∈ pool') : RI pool' isImage idraw imd imro imrt iown sz st isKept keptRoofs kept := by
  obtain ⟨h1, h2, n, h3, h4⟩ := h
  exact ⟨h1, h2, n, h3.more hs, h4⟩
theorem rmv0_lt (f : Nat → Option Nat) {k : Nat} (h : k < 9) : rmv0 f k = f (k + 1) := by
  unfold rmv0
  rw [va_up_ne _ _ (by omega)]
  unfold va_cpy
  rw [if_pos ⟨by omega, by omega⟩]
  congr 1
  omega
theorem rmv0_some {f : Nat → Option Nat} {j y : Nat} (hy : rmv0 f j = some y) : ∃ i, f i = some y := by
  unfold rmv0 va_up at hy
  by_cases e : j = 9
  · rw [if_pos e] at hy; cases hy
  · rw [if_neg e] at hy
    unfold va_cpy at hy
    split at hy
    · exact ⟨_, hy⟩
    · exact ⟨_, hy⟩
/-- a repair is noted: the list has no array yet -/
theorem RL.note_e {pool : List Rp} {sz : Int32} {n c : Nat} {und und' : Nat → Int32} (h : RL pool sz none n und) (r : Rp) (ho : okR r) (hc : r.2.1 = nI c) (hn : noteR r.2.2.1 r.2.2.2 und und' n c) (q : Nat) : RL (r :: pool) (nI (n + 1)) (some (q, va_up (fun _ => none) (sz : Int32).toNatClampNeg (some r.1))) (n + 1) und' := by
  obtain ⟨h1, h2, h3, h4, h5⟩ := h
  have e : n = 0 := h4 rfl
  subst e
  have ez : (sz : Int32).toNatClampNeg = 0 := by rw [h2]; exact clam_nI (by decide)
  rw [ez]
  refine ⟨by omega, rfl, fun q' hq j y hy => ?_, (fun z => by cases z), fun q' hq k hk => ?_⟩
  · cases hq
    have hy : va_up (fun _ => none) 0 (some r.1) j = some y := hy
    unfold va_up at hy
    split at hy
    · exact ⟨r, List.mem_cons_self, Option.some.inj hy⟩
    · cases hy
  · cases hq
    have e : k = 0 := by omega
    subst e
    obtain ⟨a1, a2, a3, -⟩ := hn
    exact ⟨r, List.mem_cons_self, by simp [va_up], ho, by rw [hc]; exact a1, a2, a3⟩
/-- there is room -/
theorem RL.note_r {pool : List Rp} {sz : Int32} {n c : Nat} {und und' : Nat → Int32} {q : Nat × (Nat → Option Nat)} (h : RL pool sz (some q) n und) (h10 : n < 10) (r : Rp) (ho : okR r) (hc : r.2.1 = nI c) (hn : noteR r.2.2.1 r.2.2.2 und und' n c) : RL (r :: pool) (nI (n + 1)) (some (q.1, va_up q.2 (sz : Int32).toNatClampNeg (some r.1))) (n + 1) und' := by
  obtain ⟨h1, h2, h3, h4, h5⟩ := h
  have ez : (sz : Int32).toNatClampNeg = n := by rw [h2]; exact clam_nI (by omega)
  rw [ez]
  unfold noteR at hn
  rw [if_neg (by omega)] at hn
  obtain ⟨a1, a2, a3, a4⟩ := hn
  refine ⟨by omega, rfl, fun q' hq j y hy => ?_, (fun z => by cases z), fun q' hq k hk => ?_⟩
  · cases hq
    have hy : va_up q.2 n (some r.1) j = some y := hy
    unfold va_up at hy
    split at hy
    · exact ⟨r, List.mem_cons_self, Option.some.inj hy⟩
    · obtain ⟨x, b1, b2⟩ := h3 q rfl j y hy
      exact ⟨x, List.mem_cons_of_mem _ b1, b2⟩
  · cases hq
    by_cases e : k = n
    · subst e
      exact ⟨r, List.mem_cons_self, by simp [va_up], ho, by rw [hc]; exact a1, a2, a3⟩
    · obtain ⟨x, b1, b2, b3, b4, b5, b6⟩ := h5 q rfl k (by omega)
      refine ⟨x, List.mem_cons_of_mem _ b1, ?_, b3, ?_, ?_, ?_⟩
      · show va_up q.2 n (some r.1) k = some x.1
        rw [va_up_ne _ _ e]
        exact b2
      · rw [a4 _ (by omega), if_neg (by omega)]; exact b4
      · rw [a4 _ (by omega), if_neg (by omega)]; exact b5
      · rw [a4 _ (by omega), if_neg (by omega)]; exact b6
/-- it is full -/
theorem RL.note_t {pool : List Rp} {sz : Int32} {c : Nat} {und und' : Nat → Int32} {q : Nat × (Nat → Option Nat)} (h : RL pool sz (some q) 10 und) (r : Rp) (ho : okR r) (hc : r.2.1 = nI c) (hn : noteR r.2.2.1 r.2.2.2 und und' 10 c) : RL (r :: pool) (nI 10) (some (q.1, va_up (rmv0 q.2) (9 : Int32).toNatClampNeg (some r.1))) 10 und' := by
  obtain ⟨h1, h2, h3, h4, h5⟩ := h
  have ez : (9 : Int32).toNatClampNeg = 9 := rfl
  rw [ez]
  unfold noteR at hn
  rw [if_pos rfl] at hn
  obtain ⟨a1, a2, a3, a4⟩ := hn
  refine ⟨by omega, rfl, fun q' hq j y hy => ?_, (fun z => by cases z), fun q' hq k hk => ?_⟩
  · cases hq
    have hy : va_up (rmv0 q.2) 9 (some r.1) j = some y := hy
    unfold va_up at hy
    split at hy
    · exact ⟨r, List.mem_cons_self, Option.some.inj hy⟩
    · obtain ⟨i, hi⟩ := rmv0_some hy
      obtain ⟨x, b1, b2⟩ := h3 q rfl i y hi
      exact ⟨x, List.mem_cons_of_mem _ b1, b2⟩
  · cases hq
    by_cases e : k = 9
    · subst e
      exact ⟨r, List.mem_cons_self, by simp [va_up], ho, by rw [hc]; exact a1, a2, a3⟩
    · obtain ⟨x, b1, b2, b3, b4, b5, b6⟩ := h5 q rfl (k + 1) (by omega)
      refine ⟨x, List.mem_cons_of_mem _ b1, ?_, b3, ?_, ?_, ?_⟩
      · show va_up (rmv0 q.2) 9 (some r.1) k = some x.1
        rw [va_up_ne _ _ e, rmv0_lt _ (by omega)]
        exact b2
      · rw [a4 _ (by omega), if_pos rfl, show 3 * k + 3 = 3 * (k + 1) by omega]; exact b4
      · rw [a4 _ (by omega), if_pos rfl, show 3 * k + 1 + 3 = 3 * (k + 1) + 1 by omega]; exact b5
      · rw [a4 _ (by omega), if_pos rfl, show 3 * k + 2 + 3 = 3 * (k + 1) + 2 by omega]; exact b6
/-- nothing is left -/
theorem RL.clear {pool : List Rp} {st : Ls} {und und' : Nat → Int32} {sz : Int32} {n : Nat} (h : RL pool sz st n und) {st' : Ls} (hs : ∀ q', st' = some q' → ∃ q, st = some q ∧ ∀ j, q'.2 j = none ∨ q'.2 j = q.2 j) : RL pool 0 st' 0 und' := by
  obtain ⟨h1, h2, h3, h4, h5⟩ := h
  refine ⟨by omega, nI_0.symm, fun q' hq j y hy => ?_, fun _ => rfl, fun q' hq k hk => absurd hk (Nat.not_lt_zero k)⟩
  obtain ⟨q, e, hj⟩ := hs q' hq
  rcases hj j with z | z
  · rw [z] at hy; cases hy
  · exact h3 q e j y (by rw [← z]; exact hy)
theorem small_flip {x : Int64} {c : Nat} (h : small x) (hc : c < 36) : small (x ^^^ bit c) := fun i hi => by rw [mem_xor, h i hi, small_bit hc i hi]; rfl
theorem small_setb {x : Int64} {c : Nat} (h : small x) (hc : c < 36) (z : Int32) : small (if z = 0 then x &&& (bit c ^^^ (-1)) else x ||| bit c) := by
  split
  · exact small_minus h
  · exact small_or h (small_bit hc)
theorem lotsF_small {D : Int32 → Int32} {V : Int32 → Nat → Nat} : ∀ t s dr ro g, small ro → small (lotsF D V t s dr ro g).2.2.1 := by
  intro t
  induction t with
  | zero => intro s dr ro g h; exact h
  | succ t ih =>
    intro s dr ro g h
    show small (lotsF D V t _ _ _ _).2.2.1
    refine ih _ _ _ _ ?_
    unfold lotR
    split
    · exact h
    · split
      · exact small_minus h
      · exact h
theorem oLotsS_e {D : Int32 → Int32} {V : Int32 → Nat → Nat} (hV : ∀ d k, 0 < k → V d k < k) (hW0 : ∀ (Q : Int32 → Int32 → Prop) (d : Int32) (k : Nat), k < 100 → 0 < k → Q (nI (V d k)) (D d) → wX0_drawn Q d (nI k)) (hW3 : ∀ (Q : Int32 → Int32 → Prop) (d : Int32) (k : Nat), k < 100 → 0 < k → Q (nI (V d k)) (D d) → wX3_nextDraw Q d (nI k)) {P : Int32 → Int32 → (Nat → Int32) → Int64 → Int32 → Int32 → Int32 → (Nat → Int32) → Int64 → Int32 → Int32 → Prop} {g g' : Nat → Int32} {ro : Int64} {umc um dr x : Int32} (hsm : small ro) (hg : okD g) (ha : agree 36 g g')
    (hb : P (-1) dr g ro umc (nI 0) (-1) g' ro um dr) (hp : ∀ v d1 g1 g1' r1 mc1, okD g1 → agree 36 g1 g1' → small r1 → P v d1 g1 r1 mc1 0 v g1' r1 0 d1) : wX0_lots_e (fun r a b c d e => wX3_lots (fun r' b' c' u' a' => P r a b c d e r' b' c' u' a') g' ro um dr x) dr g ro umc (nI 0) x := by
  unfold wX0_lots_e
  refine pX0_inI (lo := 1) (hi := 99) ⟨fun z => mLots_bad (b2_0 z) hb, fun z => ?_⟩
  obtain ⟨n, hn, e⟩ := nI_ofN (n := 99) (Int32.le_trans (by decide) (b2_1 z).1) (b2_1 z).2 (by decide)
  subst e
  have h1 : 1 ≤ n := (nI_leN (a := 1) (by decide) (by omega)).mp (b2_1 z).1
  have hg' : okD g' := fun i hi => by rw [← ha i hi]; exact hg i hi
  refine ⟨n + 1, clots_18_e hV hW0 (by omega) n 0 0 dr ro g (by omega) hg ?_⟩
  intro mc1
  have hag := lotsF_agree (D := D) hV n 0 dr ro g g' ha
  refine mLots hV hW3 hg' h1 (by omega) ?_
  rw [← hag.1, ← hag.2.1, ← hag.2.2.1]
  exact hp _ _ _ _ _ _ (lotsF_ok hV n 0 dr ro g hg) hag.2.2.2 (lotsF_small n 0 dr ro g hsm)
theorem oLotsS_r {D : Int32 → Int32} {V : Int32 → Nat → Nat} (hV : ∀ d k, 0 < k → V d k < k) (hW0 : ∀ (Q : Int32 → Int32 → Prop) (d : Int32) (k : Nat), k < 100 → 0 < k → Q (nI (V d k)) (D d) → wX0_drawn Q d (nI k)) (hW3 : ∀ (Q : Int32 → Int32 → Prop) (d : Int32) (k : Nat), k < 100 → 0 < k → Q (nI (V d k)) (D d) → wX3_nextDraw Q d (nI k)) {P : Int32 → Int32 → (Nat → Int32) → Int64 → Int32 → Int32 → (Nat → Option Nat) → Int32 → (Nat → Int32) → Int64 → Int32 → Int32 → Prop} {g g' : Nat → Int32} {ro : Int64} {umc um dr x : Int32} {uf : Nat → Option Nat} {nz : Nat} (hnz : nz ≤ 10) (hsm : small ro) (hg : okD g) (ha : agree 36 g g')
    (hb : P (-1) dr g ro umc (nI nz) uf (-1) g' ro um dr) (hp : ∀ v d1 g1 g1' r1 mc1 (f1 : Nat → Option Nat), okD g1 → agree 36 g1 g1' → small r1 → (∀ j, f1 j = none ∨ f1 j = uf j) → P v d1 g1 r1 mc1 0 f1 v g1' r1 0 d1) : wX0_lots_r (fun r a b c d e f => wX3_lots (fun r' b' c' u' a' => P r a b c d e f r' b' c' u' a') g' ro um dr x) dr g ro umc (nI nz) uf x := by
  unfold wX0_lots_r
  refine pX0_inI (lo := 1) (hi := 99) ⟨fun z => mLots_bad (b2_0 z) hb, fun z => ?_⟩
  obtain ⟨n, hn, e⟩ := nI_ofN (n := 99) (Int32.le_trans (by decide) (b2_1 z).1) (b2_1 z).2 (by decide)
  subst e
  have h1 : 1 ≤ n := (nI_leN (a := 1) (by decide) (by omega)).mp (b2_1 z).1
  have hg' : okD g' := fun i hi => by rw [← ha i hi]; exact hg i hi
  refine ⟨n + 1, clots_18_r hV hW0 (by omega) hnz n 0 0 dr ro g (by omega) hg ?_⟩
  intro mc1 f1 hf1
  have hag := lotsF_agree (D := D) hV n 0 dr ro g g' ha
  refine mLots hV hW3 hg' h1 (by omega) ?_
  rw [← hag.1, ← hag.2.1, ← hag.2.2.1]
  exact hp _ _ _ _ _ _ _ (lotsF_ok hV n 0 dr ro g hg) hag.2.2.2 (lotsF_small n 0 dr ro g hsm) hf1
