/-! A LIST OF HOLES BESIDE EXPLICIT CELLS: the world is [cells] ++ lP .. -/
theorem va_P.subL {D : va_G} {cl : List vw_C} {ws L w' : va_W} {H : Heap} (h : va_P D cl (ws ++ L) H) (is : List Nat) (hs : is.filterMap (fun i => ws[i]?) = w') : va_P D cl (w' ++ L) H :=
  h.of_mem (fun q hq => by
    rcases List.mem_append.mp hq with z | z
    · subst hs
      obtain ⟨i, -, hi⟩ := List.mem_filterMap.mp z
      exact List.mem_append_left _ (List.mem_of_getElem? hi)
    · exact List.mem_append_right _ z)
theorem va_D.subL {A : Nat → Prop} {ws L w' : va_W} (h : va_D A (ws ++ L)) (is : List Nat) (hn : va_nd is = true) (hs : is.map (fun i => ws[i]?) = w'.map some) : va_D A (w' ++ L) := by
  have h1 := h.left.sub is hn hs
  have hm : ∀ q ∈ w', q ∈ ws := fun q hq => by
    have : some q ∈ is.map (fun i => ws[i]?) := by rw [hs]; exact List.mem_map_of_mem hq
    obtain ⟨i, -, hi⟩ := List.mem_map.mp this
    exact List.mem_of_getElem? hi
  rw [va_D_iff] at h h1 ⊢
  rw [List.map_append] at h ⊢
  refine ⟨List.nodup_append.mpr ⟨h1.1, (List.nodup_append.mp h.1).2.1, ?_⟩, fun q hq => ?_⟩
  · intro x hx y hy
    obtain ⟨p, hp, rfl⟩ := List.mem_map.mp hx
    exact (List.nodup_append.mp h.1).2.2 _ (List.mem_map_of_mem (hm p hp)) y hy
  · rcases List.mem_append.mp hq with z | z
    · exact h1.2 q z
    · exact h.2 q (List.mem_append_right _ z)
theorem lP_obj {a : va_W} {dA : Nat → ClassId} {la ea cap : Nat} {mc : Int32} {n : Nat} {pa pk : Nat → Nat} {pm : Nat → Int64} {rate : Int32} : (la, Sum.inr (11, [.int mc, .ref ea, .int (nI n)])) ∈ a ++ lP dA la ea cap mc n pa pk pm rate := List.mem_append_right _ (by unfold lP; exact List.mem_cons_self)
theorem lP_pit {a : va_W} {dA : Nat → ClassId} {la ea cap : Nat} {mc : Int32} {n : Nat} {pa pk : Nat → Nat} {pm : Nat → Int64} {rate : Int32} {j : Nat} (h : j < n) : (pa j, Sum.inr (pk j, [.long (pm j), .int rate])) ∈ a ++ lP dA la ea cap mc n pa pk pm rate := List.mem_append_right _ (by unfold lP; exact List.mem_cons_of_mem _ (List.mem_append_right _ (lPits_mem h)))
theorem perm_hl {a L G : va_W} : (a ++ (L ++ G)).Perm ((a ++ G) ++ L) := by
  rw [List.append_assoc]
  exact List.Perm.append_left a List.perm_append_comm
theorem vp_in_lt {x : Int32} {n : Nat} (h : vp_in x n) : x.toNatClampNeg < n := Nat.not_le.mp fun q => h (Or.inr q)
/-- a row of places takes a world apart -/
theorem perm_idx {α : Type} (l l' : List α) (is : List Nat) (h : is.Perm (List.range l.length)) (hs : is.filterMap (fun i => l[i]?) = l') : l.Perm l' := by
  subst hs
  have e : (List.range l.length).filterMap (fun i => l[i]?) = l := by
    have h1 : (List.range l.length).map (fun i => l[i]?) = l.map some := by
      have := range_at l []
      simpa using this
    have h2 : ((List.range l.length).map (fun i => l[i]?)).filterMap id = (l.map some).filterMap id := by rw [h1]
    rw [List.filterMap_map, List.filterMap_map] at h2
    simpa using h2
  have := (h.filterMap (fun i => l[i]?)).symm
  rw [e] at this
  exact this
/-- cells beside a list: some of them, and the rest with the list -/
theorem perm_cut {l wc wr L : va_W} (isC isR : List Nat) (h : (isC ++ isR).Perm (List.range l.length)) (hC : isC.filterMap (fun i => l[i]?) = wc) (hR : isR.filterMap (fun i => l[i]?) = wr) : (l ++ L).Perm (wc ++ (wr ++ L)) := by
  rw [← List.append_assoc]
  refine List.Perm.append_right L (perm_idx l _ (isC ++ isR) h ?_)
  rw [List.filterMap_append, hC, hR]
theorem perm_cutA {l wc wr L : va_W} (isC isR : List Nat) (h : (isC ++ isR).Perm (List.range l.length)) (hC : isC.filterMap (fun i => l[i]?) = wc) (hR : isR.filterMap (fun i => l[i]?) = wr) : (l ++ L).Perm ((wc ++ L) ++ wr) := by
  refine (perm_cut isC isR h hC hR).trans ?_
  rw [List.append_assoc]
  exact List.Perm.append_left wc List.perm_append_comm
theorem perm_cutP {l wc wr L L' : va_W} {x : Nat × va_E} (hL : L.Perm (x :: L')) (isC isR : List Nat) (h : (isC ++ isR).Perm (List.range l.length)) (hC : isC.filterMap (fun i => l[i]?) = wc) (hR : isR.filterMap (fun i => l[i]?) = wr) : (l ++ L).Perm ((wc ++ [x]) ++ (wr ++ L')) := by
  refine (perm_cut isC isR h hC hR).trans ?_
  rw [List.append_assoc]
  refine List.Perm.append_left wc ?_
  refine (List.Perm.append_left wr hL).trans ?_
  exact List.perm_middle
theorem perm_back {a L c : va_W} : ((a ++ L) ++ c).Perm ((a ++ c) ++ L) := by
  rw [List.append_assoc, List.append_assoc]
  exact List.Perm.append_left a List.perm_append_comm
theorem perm_backP {a L L' c : va_W} {x : Nat × va_E} (hL : L.Perm (x :: L')) : ((a ++ L') ++ (c ++ [x])).Perm ((a ++ c) ++ L) := by
  rw [List.append_assoc, List.append_assoc]
  refine List.Perm.append_left a ?_
  refine List.perm_append_comm.trans ?_
  rw [List.append_assoc]
  exact List.Perm.append_left c hL.symm
theorem lP_cut {dA : Nat → ClassId} {la ea cap : Nat} {mc : Int32} {n : Nat} {pa pk : Nat → Nat} {pm : Nat → Int64} {rate : Int32} {j : Nat} (h : j < n) : ∃ L' : va_W, (lP dA la ea cap mc n pa pk pm rate).Perm ((pa j, Sum.inr (pk j, [.long (pm j), .int rate])) :: L') := by
  have hm : (pa j, Sum.inr (pk j, [.long (pm j), .int rate])) ∈ lP dA la ea cap mc n pa pk pm rate := by
    have := lP_pit (a := []) (dA := dA) (la := la) (ea := ea) (cap := cap) (mc := mc) (pa := pa) (pk := pk) (pm := pm) (rate := rate) h
    simpa using this
  obtain ⟨s, t, e⟩ := List.append_of_mem hm
  exact ⟨s ++ t, by rw [e]; exact List.perm_middle⟩
