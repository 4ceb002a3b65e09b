section LAWO
variable {p : Program} {l : Launch} {e : Env} {s : State} {m : MethodId} {below : List Frame} {meth : Method} {c : Code} {H : Heap} {locs : List Loc} {kc ks : Nat} {Q : State → Prop} {b L : Nat} {xs : Nat → Int32}
variable {ls : Array Slot} {dC : Nat → ClassId} {dI : Nat → Nat → Nat} {dA : Nat → ClassId} {eA mi : Nat} {A : Nat → Prop} {h hm : Nat → Nat} {wr : va_W} {ix a1 a2 a3 a4 a5 : Int32}
set_option maxHeartbeats 4000000 in
set_option maxRecDepth 100000 in
theorem lo_film_N (hC : LC p l s m c b L xs A dC dI dA eA mi) (hj : mJ hm) {steps : Int32} {draw : Int32} {typed : Int32} {at_ : Int32} {isImage : Int32} {idraw : Int32} {gd : (Nat → Int32)} {gro : Int64} {grt : Int32} {td : (Nat → Int32)} {tro : Int64} {trt : Int32} {rd : (Nat → Int32)} {rro : Int64} {rrt : Int32} {imd : (Nat → Int32)} {imro : Int64} {imrt : Int32} {owners : (Nat → Int32)} {tour : (Nat → Int32)} {best : (Nat → Int32)} {tape : (Nat → Int32)} {signs : (Nat → Int32)} {acts : (Nat → Int32)} {iown : (Nat → Int32)} {taken : (Nat → Int64)} {shf : (Nat → Option Nat)} {hd : Nat} {m_depths : (Nat → Int32)} {m_owners : (Nat → Int32)} {m_roofs : Int64} {m_rate : Int32} {m_undos : (Nat → Int32)} {m_undoMany : Int32} {m_drawn : Int32} {m_dug : Int64} {m_deep : Int64} {m_holes : (Nat → Int64)} {m_holeMany : Int32} {m_tape : (Nat → Int32)} {m_taped : Int32} {m_place : Int32} {m_reads : Int32} {m_read_ : (Nat → Int32)} {m_row : (Nat → Int32)} {m_order : (Nat → Int32)} {m_bestOrder : (Nat → Int32)} {m_nears : (Nat → Int32)} {m_isKept : Int32} {m_keptRoofs : Int64} {m_kept : (Nat → Int32)} {m_lanes : (Nat → Int32)} {m_rowSizes : (Nat → Int32)} {m_items : (Nat → Int64)} {m_moved : (Nat → Int64)} {PP : (Int64) → (Int64) → (Nat → Int64) → (Int32) → (Nat → Int64) → Prop} (hf : wX0_film_N (fun r => wX3_film (fun r' q0 q1 q2 q3 q4 => r = r' ∧ PP q0 q1 q2 q3 q4) m_depths m_roofs m_rate m_dug m_deep m_holes m_holeMany m_lanes m_rowSizes m_items a1 a2 a3) gd gro grt shf hd a1 a2 a3) (hPD : PD A dC dI ([((h 0), .inr (0, [.ref (h 1), .ref (h 3), .ref (h 9), .ref (h 17), .ref (h 10), .ref (h 11), .int steps, .int draw, .ref (h 12), .int typed, .int at_, .ref (h 5), .ref (h 13), .ref (h 14), .int isImage, .ref (h 7), .ref (h 15), .ref (h 18), .int idraw, .ref (h 19), .ref (h 16)])), ((h 1), .inr (1, [.ref (h 2), .long gro, .int grt])), ((h 2), .inl (dA 0, 36, .inl gd)), ((h 3), .inr (1, [.ref (h 4), .long tro, .int trt])), ((h 4), .inl (dA 0, 36, .inl td)), ((h 5), .inr (1, [.ref (h 6), .long rro, .int rrt])), ((h 6), .inl (dA 0, 36, .inl rd)), ((h 7), .inr (1, [.ref (h 8), .long imro, .int imrt])), ((h 8), .inl (dA 0, 36, .inl imd)), ((h 9), .inl (dA 0, 36, .inl owners)), ((h 10), .inl (dA 1, 8, .inl tour)), ((h 11), .inl (dA 1, 8, .inl best)), ((h 12), .inl (dA 0, 160, .inl tape)), ((h 13), .inl (dA 0, 36, .inl signs)), ((h 14), .inl (dA 0, 320, .inl acts)), ((h 15), .inl (dA 0, 36, .inl iown)), ((h 16), .inl (dA 2, 36, .inr (.inl taken))), ((h 19), .inl (dA 5, 4, .inr (.inr (.inr (.inr shf))))), (hd, .inr (2, [.null]))] ++ ((wM hm dA m_depths m_owners m_roofs m_rate m_undos m_undoMany m_drawn m_dug m_deep m_holes m_holeMany m_tape m_taped m_place m_reads m_read_ m_row m_order m_bestOrder m_nears m_isKept m_keptRoofs m_kept m_lanes m_rowSizes m_items m_moved) ++ wr)) H) (hS : va_S A s.heap H locs) (hl : lv_has ls 4 [(0, .ref b), (1, .ref (h 0)), (2, .ref (hm 0)), (3, .int ix)]) (hi1 : vp_in (ix + 1) L ∧ xs (ix + 1).toNatClampNeg = a1) (hi2 : vp_in (ix + 2) L ∧ xs (ix + 2).toNatClampNeg = a2) (hi3 : vp_in (ix + 3) L ∧ xs (ix + 3).toNatClampNeg = a3) (hroom : kc + 25 ≤ room_1.cells ∧ ks + 586 ≤ room_1.slots)
    (kk : ∀ (u : Unit) (u' : Int64 × Int64 × (Nat → Int64) × Int32 × (Nat → Int64)) (H1 : Heap) (locs1 : List Loc), PP u'.1 u'.2.1 u'.2.2.1 u'.2.2.2.1 u'.2.2.2.2 → PD A dC dI ([((h 0), .inr (0, [.ref (h 1), .ref (h 3), .ref (h 9), .ref (h 17), .ref (h 10), .ref (h 11), .int steps, .int draw, .ref (h 12), .int typed, .int at_, .ref (h 5), .ref (h 13), .ref (h 14), .int isImage, .ref (h 7), .ref (h 15), .ref (h 18), .int idraw, .ref (h 19), .ref (h 16)])), ((h 1), .inr (1, [.ref (h 2), .long gro, .int grt])), ((h 2), .inl (dA 0, 36, .inl gd)), ((h 3), .inr (1, [.ref (h 4), .long tro, .int trt])), ((h 4), .inl (dA 0, 36, .inl td)), ((h 5), .inr (1, [.ref (h 6), .long rro, .int rrt])), ((h 6), .inl (dA 0, 36, .inl rd)), ((h 7), .inr (1, [.ref (h 8), .long imro, .int imrt])), ((h 8), .inl (dA 0, 36, .inl imd)), ((h 9), .inl (dA 0, 36, .inl owners)), ((h 10), .inl (dA 1, 8, .inl tour)), ((h 11), .inl (dA 1, 8, .inl best)), ((h 12), .inl (dA 0, 160, .inl tape)), ((h 13), .inl (dA 0, 36, .inl signs)), ((h 14), .inl (dA 0, 320, .inl acts)), ((h 15), .inl (dA 0, 36, .inl iown)), ((h 16), .inl (dA 2, 36, .inr (.inl taken))), ((h 19), .inl (dA 5, 4, .inr (.inr (.inr (.inr shf))))), (hd, .inr (2, [.null]))] ++ ((wM hm dA m_depths m_owners m_roofs m_rate m_undos m_undoMany m_drawn u'.1 u'.2.1 u'.2.2.1 u'.2.2.2.1 m_tape m_taped m_place m_reads m_read_ m_row m_order m_bestOrder m_nears m_isKept m_keptRoofs m_kept m_lanes m_rowSizes u'.2.2.2.2 m_moved) ++ wr)) H1 → va_S A s.heap H1 locs1 → W p l e room_1 s m #[Value.ref b] below meth c H1 locs1 (kc + 25) (ks + 586) Q (F0 m 1349 ls [])) : W p l e room_1 s m #[Value.ref b] below meth c H locs kc ks Q (F0 m 1041 ls []) := by
  obtain ⟨S, hX, hbl, hbA, hK, hE, hA, hfl⟩ := hC
  obtain ⟨hP, hD⟩ := hPD
  refine lv_aload_n S.1 S.2.1 dL_law_1041 rfl (lv_at hl 1 rfl) ?_
  refine lv_aload_n S.1 S.2.1 dL_law_1042 rfl (lv_at hl 0 rfl) ?_
  refine lv_iload_n S.1 S.2.1 dL_law_1043 rfl (lv_at hl 3 rfl) ?_
  refine lv_iconst (v := 1) S.1 S.2.1 dL_law_1044 (by decide) ?_
  refine lv_iadd S.1 S.2.1 dL_law_1045 ?_
  refine sldE S.1 S.2.1 hX hbl hbA hS hi1 dL_law_1046 ?_
  refine lv_aload_n S.1 S.2.1 dL_law_1047 rfl (lv_at hl 0 rfl) ?_
  refine lv_iload_n S.1 S.2.1 dL_law_1048 rfl (lv_at hl 3 rfl) ?_
  refine lv_iconst (v := 2) S.1 S.2.1 dL_law_1049 (by decide) ?_
  refine lv_iadd S.1 S.2.1 dL_law_1050 ?_
  refine sldE S.1 S.2.1 hX hbl hbA hS hi2 dL_law_1051 ?_
  refine lv_aload_n S.1 S.2.1 dL_law_1052 rfl (lv_at hl 0 rfl) ?_
  refine lv_iload_n S.1 S.2.1 dL_law_1053 rfl (lv_at hl 3 rfl) ?_
  refine lv_iconst (v := 3) S.1 S.2.1 dL_law_1054 (by decide) ?_
  refine lv_iadd S.1 S.2.1 dL_law_1055 ?_
  refine sldE S.1 S.2.1 hX hbl hbA hS hi3 dL_law_1056 ?_
  refine sC_i hP hD hS hA (va_runV (As := [.int a1, .int a2, .int a3]) (rest := []) S (metX0_film_N l hfl hf) (cwV 3 S.2.2.2.2 (lw_V q1036 q1037 q1038 q54 q1039) rfl rfl rfl ⟨rfl, pdX0_film⟩ ⟨Nat.le_of_ble_eq_true rfl, Nat.le_of_ble_eq_true rfl⟩) ⟨ablind, va_recv hK hP (ci := 0) (q0 := 0) rfl rfl, (spre hK hE hP hD hS hA).2⟩ rfl rfl hl.1 rfl (lv_room (Nat.le_of_ble_eq_true rfl)) dL_law_1057 hroom) (fun r u H locs hf hP hD hS => ?_)
  have hP := hP.perm permM
  have hD := hD.perm permM
  refine lv_aload_n S.1 S.2.1 dL_law_1060 rfl (lv_at hl 2 rfl) ?_
  refine lv_aload_n S.1 S.2.1 dL_law_1061 rfl (lv_at hl 0 rfl) ?_
  refine lv_iload_n S.1 S.2.1 dL_law_1062 rfl (lv_at hl 3 rfl) ?_
  refine lv_iconst (v := 1) S.1 S.2.1 dL_law_1063 (by decide) ?_
  refine lv_iadd S.1 S.2.1 dL_law_1064 ?_
  refine sldE S.1 S.2.1 hX hbl hbA hS hi1 dL_law_1065 ?_
  refine lv_aload_n S.1 S.2.1 dL_law_1066 rfl (lv_at hl 0 rfl) ?_
  refine lv_iload_n S.1 S.2.1 dL_law_1067 rfl (lv_at hl 3 rfl) ?_
  refine lv_iconst (v := 2) S.1 S.2.1 dL_law_1068 (by decide) ?_
  refine lv_iadd S.1 S.2.1 dL_law_1069 ?_
  refine sldE S.1 S.2.1 hX hbl hbA hS hi2 dL_law_1070 ?_
  refine lv_aload_n S.1 S.2.1 dL_law_1071 rfl (lv_at hl 0 rfl) ?_
  refine lv_iload_n S.1 S.2.1 dL_law_1072 rfl (lv_at hl 3 rfl) ?_
  refine lv_iconst (v := 3) S.1 S.2.1 dL_law_1073 (by decide) ?_
  refine lv_iadd S.1 S.2.1 dL_law_1074 ?_
  refine sldE S.1 S.2.1 hX hbl hbA hS hi3 dL_law_1075 ?_
  refine sM_i (As := [.int a1, .int a2, .int a3]) (rest := [.int r]) S hK rfl rfl (fun _ => rfl) hP hD hS (metX3_film l hj hf) (lw_V q1589 q1590 q1591 q60 q1592) rfl pdX3_film ⟨rfl, rfl⟩ ⟨Nat.le_of_ble_eq_true rfl, Nat.le_of_ble_eq_true rfl⟩ rfl hl.1 rfl (Nat.le_of_ble_eq_true rfl) dL_law_1076 hroom (fun r' u' H locs hf hP hD hS => ?_)
  obtain ⟨e1, hf⟩ := hf
  refine lv_icmp_eq (tgt := 1349) S.1 S.2.1 dL_law_1079 (by decide) (fun c_1 => ?_) (fun c_1 => ?_)
  · exact kk u u' H locs hf ⟨hP.perm permN, hD.perm permN⟩ hS
  · exact absurd e1 c_1
set_option maxHeartbeats 4000000 in
set_option maxRecDepth 100000 in
theorem lo_film_B (hC : LC p l s m c b L xs A dC dI dA eA mi) (hj : mJ hm) {steps : Int32} {draw : Int32} {typed : Int32} {at_ : Int32} {isImage : Int32} {idraw : Int32} {gd : (Nat → Int32)} {gro : Int64} {grt : Int32} {td : (Nat → Int32)} {tro : Int64} {trt : Int32} {rd : (Nat → Int32)} {rro : Int64} {rrt : Int32} {imd : (Nat → Int32)} {imro : Int64} {imrt : Int32} {owners : (Nat → Int32)} {tour : (Nat → Int32)} {best : (Nat → Int32)} {tape : (Nat → Int32)} {signs : (Nat → Int32)} {acts : (Nat → Int32)} {iown : (Nat → Int32)} {taken : (Nat → Int64)} {shf : (Nat → Option Nat)} {hd : Nat} {rn : Nat} {rf : (Nat → Int32)} {ra : Nat} {m_depths : (Nat → Int32)} {m_owners : (Nat → Int32)} {m_roofs : Int64} {m_rate : Int32} {m_undos : (Nat → Int32)} {m_undoMany : Int32} {m_drawn : Int32} {m_dug : Int64} {m_deep : Int64} {m_holes : (Nat → Int64)} {m_holeMany : Int32} {m_tape : (Nat → Int32)} {m_taped : Int32} {m_place : Int32} {m_reads : Int32} {m_read_ : (Nat → Int32)} {m_row : (Nat → Int32)} {m_order : (Nat → Int32)} {m_bestOrder : (Nat → Int32)} {m_nears : (Nat → Int32)} {m_isKept : Int32} {m_keptRoofs : Int64} {m_kept : (Nat → Int32)} {m_lanes : (Nat → Int32)} {m_rowSizes : (Nat → Int32)} {m_items : (Nat → Int64)} {m_moved : (Nat → Int64)} {PP : (Nat → Int64) → (Nat → Int32) → (Int64) → (Int64) → (Nat → Int64) → (Int32) → (Nat → Int64) → Prop} (hf : wX0_film_B (fun r p0 p1 => wX3_film (fun r' q0 q1 q2 q3 q4 => r = r' ∧ PP p0 p1 q0 q1 q2 q3 q4) m_depths m_roofs m_rate m_dug m_deep m_holes m_holeMany m_lanes m_rowSizes m_items a1 a2 a3) gd gro grt taken shf hd rn rf a1 a2 a3) (hPD : PD A dC dI ([((h 0), .inr (0, [.ref (h 1), .ref (h 3), .ref (h 9), .ref (h 17), .ref (h 10), .ref (h 11), .int steps, .int draw, .ref (h 12), .int typed, .int at_, .ref (h 5), .ref (h 13), .ref (h 14), .int isImage, .ref (h 7), .ref (h 15), .ref (h 18), .int idraw, .ref (h 19), .ref (h 16)])), ((h 1), .inr (1, [.ref (h 2), .long gro, .int grt])), ((h 2), .inl (dA 0, 36, .inl gd)), ((h 3), .inr (1, [.ref (h 4), .long tro, .int trt])), ((h 4), .inl (dA 0, 36, .inl td)), ((h 5), .inr (1, [.ref (h 6), .long rro, .int rrt])), ((h 6), .inl (dA 0, 36, .inl rd)), ((h 7), .inr (1, [.ref (h 8), .long imro, .int imrt])), ((h 8), .inl (dA 0, 36, .inl imd)), ((h 9), .inl (dA 0, 36, .inl owners)), ((h 10), .inl (dA 1, 8, .inl tour)), ((h 11), .inl (dA 1, 8, .inl best)), ((h 12), .inl (dA 0, 160, .inl tape)), ((h 13), .inl (dA 0, 36, .inl signs)), ((h 14), .inl (dA 0, 320, .inl acts)), ((h 15), .inl (dA 0, 36, .inl iown)), ((h 16), .inl (dA 2, 36, .inr (.inl taken))), ((h 19), .inl (dA 5, 4, .inr (.inr (.inr (.inr shf))))), (hd, .inr (2, [.ref ra])), (ra, .inl (dA 0, rn, .inl rf))] ++ ((wM hm dA m_depths m_owners m_roofs m_rate m_undos m_undoMany m_drawn m_dug m_deep m_holes m_holeMany m_tape m_taped m_place m_reads m_read_ m_row m_order m_bestOrder m_nears m_isKept m_keptRoofs m_kept m_lanes m_rowSizes m_items m_moved) ++ wr)) H) (hS : va_S A s.heap H locs) (hl : lv_has ls 4 [(0, .ref b), (1, .ref (h 0)), (2, .ref (hm 0)), (3, .int ix)]) (hi1 : vp_in (ix + 1) L ∧ xs (ix + 1).toNatClampNeg = a1) (hi2 : vp_in (ix + 2) L ∧ xs (ix + 2).toNatClampNeg = a2) (hi3 : vp_in (ix + 3) L ∧ xs (ix + 3).toNatClampNeg = a3) (hroom : kc + 25 ≤ room_1.cells ∧ ks + 586 ≤ room_1.slots)
    (kk : ∀ (u : (Nat → Int64) × (Nat → Int32)) (u' : Int64 × Int64 × (Nat → Int64) × Int32 × (Nat → Int64)) (H1 : Heap) (locs1 : List Loc), PP u.1 u.2 u'.1 u'.2.1 u'.2.2.1 u'.2.2.2.1 u'.2.2.2.2 → PD A dC dI ([((h 0), .inr (0, [.ref (h 1), .ref (h 3), .ref (h 9), .ref (h 17), .ref (h 10), .ref (h 11), .int steps, .int draw, .ref (h 12), .int typed, .int at_, .ref (h 5), .ref (h 13), .ref (h 14), .int isImage, .ref (h 7), .ref (h 15), .ref (h 18), .int idraw, .ref (h 19), .ref (h 16)])), ((h 1), .inr (1, [.ref (h 2), .long gro, .int grt])), ((h 2), .inl (dA 0, 36, .inl gd)), ((h 3), .inr (1, [.ref (h 4), .long tro, .int trt])), ((h 4), .inl (dA 0, 36, .inl td)), ((h 5), .inr (1, [.ref (h 6), .long rro, .int rrt])), ((h 6), .inl (dA 0, 36, .inl rd)), ((h 7), .inr (1, [.ref (h 8), .long imro, .int imrt])), ((h 8), .inl (dA 0, 36, .inl imd)), ((h 9), .inl (dA 0, 36, .inl owners)), ((h 10), .inl (dA 1, 8, .inl tour)), ((h 11), .inl (dA 1, 8, .inl best)), ((h 12), .inl (dA 0, 160, .inl tape)), ((h 13), .inl (dA 0, 36, .inl signs)), ((h 14), .inl (dA 0, 320, .inl acts)), ((h 15), .inl (dA 0, 36, .inl iown)), ((h 16), .inl (dA 2, 36, .inr (.inl u.1))), ((h 19), .inl (dA 5, 4, .inr (.inr (.inr (.inr shf))))), (hd, .inr (2, [.ref ra])), (ra, .inl (dA 0, rn, .inl u.2))] ++ ((wM hm dA m_depths m_owners m_roofs m_rate m_undos m_undoMany m_drawn u'.1 u'.2.1 u'.2.2.1 u'.2.2.2.1 m_tape m_taped m_place m_reads m_read_ m_row m_order m_bestOrder m_nears m_isKept m_keptRoofs m_kept m_lanes m_rowSizes u'.2.2.2.2 m_moved) ++ wr)) H1 → va_S A s.heap H1 locs1 → W p l e room_1 s m #[Value.ref b] below meth c H1 locs1 (kc + 25) (ks + 586) Q (F0 m 1349 ls [])) : W p l e room_1 s m #[Value.ref b] below meth c H locs kc ks Q (F0 m 1041 ls []) := by
  obtain ⟨S, hX, hbl, hbA, hK, hE, hA, hfl⟩ := hC
  obtain ⟨hP, hD⟩ := hPD
  refine lv_aload_n S.1 S.2.1 dL_law_1041 rfl (lv_at hl 1 rfl) ?_
  refine lv_aload_n S.1 S.2.1 dL_law_1042 rfl (lv_at hl 0 rfl) ?_
  refine lv_iload_n S.1 S.2.1 dL_law_1043 rfl (lv_at hl 3 rfl) ?_
  refine lv_iconst (v := 1) S.1 S.2.1 dL_law_1044 (by decide) ?_
  refine lv_iadd S.1 S.2.1 dL_law_1045 ?_
  refine sldE S.1 S.2.1 hX hbl hbA hS hi1 dL_law_1046 ?_
  refine lv_aload_n S.1 S.2.1 dL_law_1047 rfl (lv_at hl 0 rfl) ?_
  refine lv_iload_n S.1 S.2.1 dL_law_1048 rfl (lv_at hl 3 rfl) ?_
  refine lv_iconst (v := 2) S.1 S.2.1 dL_law_1049 (by decide) ?_
  refine lv_iadd S.1 S.2.1 dL_law_1050 ?_
  refine sldE S.1 S.2.1 hX hbl hbA hS hi2 dL_law_1051 ?_
  refine lv_aload_n S.1 S.2.1 dL_law_1052 rfl (lv_at hl 0 rfl) ?_
  refine lv_iload_n S.1 S.2.1 dL_law_1053 rfl (lv_at hl 3 rfl) ?_
  refine lv_iconst (v := 3) S.1 S.2.1 dL_law_1054 (by decide) ?_
  refine lv_iadd S.1 S.2.1 dL_law_1055 ?_
  refine sldE S.1 S.2.1 hX hbl hbA hS hi3 dL_law_1056 ?_
  refine sC_i hP hD hS hA (va_runV (As := [.int a1, .int a2, .int a3]) (rest := []) S (metX0_film_B l hfl hf) (cwV 3 S.2.2.2.2 (lw_V q1036 q1037 q1038 q54 q1039) rfl rfl rfl ⟨rfl, pdX0_film⟩ ⟨Nat.le_of_ble_eq_true rfl, Nat.le_of_ble_eq_true rfl⟩) ⟨ablind, va_recv hK hP (ci := 0) (q0 := 0) rfl rfl, (spre hK hE hP hD hS hA).2⟩ rfl rfl hl.1 rfl (lv_room (Nat.le_of_ble_eq_true rfl)) dL_law_1057 hroom) (fun r u H locs hf hP hD hS => ?_)
  have hP := hP.perm permM
  have hD := hD.perm permM
  refine lv_aload_n S.1 S.2.1 dL_law_1060 rfl (lv_at hl 2 rfl) ?_
  refine lv_aload_n S.1 S.2.1 dL_law_1061 rfl (lv_at hl 0 rfl) ?_
  refine lv_iload_n S.1 S.2.1 dL_law_1062 rfl (lv_at hl 3 rfl) ?_
  refine lv_iconst (v := 1) S.1 S.2.1 dL_law_1063 (by decide) ?_
  refine lv_iadd S.1 S.2.1 dL_law_1064 ?_
  refine sldE S.1 S.2.1 hX hbl hbA hS hi1 dL_law_1065 ?_
  refine lv_aload_n S.1 S.2.1 dL_law_1066 rfl (lv_at hl 0 rfl) ?_
  refine lv_iload_n S.1 S.2.1 dL_law_1067 rfl (lv_at hl 3 rfl) ?_
  refine lv_iconst (v := 2) S.1 S.2.1 dL_law_1068 (by decide) ?_
  refine lv_iadd S.1 S.2.1 dL_law_1069 ?_
  refine sldE S.1 S.2.1 hX hbl hbA hS hi2 dL_law_1070 ?_
  refine lv_aload_n S.1 S.2.1 dL_law_1071 rfl (lv_at hl 0 rfl) ?_
  refine lv_iload_n S.1 S.2.1 dL_law_1072 rfl (lv_at hl 3 rfl) ?_
  refine lv_iconst (v := 3) S.1 S.2.1 dL_law_1073 (by decide) ?_
  refine lv_iadd S.1 S.2.1 dL_law_1074 ?_
  refine sldE S.1 S.2.1 hX hbl hbA hS hi3 dL_law_1075 ?_
  refine sM_i (As := [.int a1, .int a2, .int a3]) (rest := [.int r]) S hK rfl rfl (fun _ => rfl) hP hD hS (metX3_film l hj hf) (lw_V q1589 q1590 q1591 q60 q1592) rfl pdX3_film ⟨rfl, rfl⟩ ⟨Nat.le_of_ble_eq_true rfl, Nat.le_of_ble_eq_true rfl⟩ rfl hl.1 rfl (Nat.le_of_ble_eq_true rfl) dL_law_1076 hroom (fun r' u' H locs hf hP hD hS => ?_)
  obtain ⟨e1, hf⟩ := hf
  refine lv_icmp_eq (tgt := 1349) S.1 S.2.1 dL_law_1079 (by decide) (fun c_1 => ?_) (fun c_1 => ?_)
  · exact kk u u' H locs hf ⟨hP.perm permN, hD.perm permN⟩ hS
  · exact absurd e1 c_1
set_option maxHeartbeats 4000000 in
set_option maxRecDepth 100000 in
theorem lo_film_S (hC : LC p l s m c b L xs A dC dI dA eA mi) (hj : mJ hm) {steps : Int32} {draw : Int32} {typed : Int32} {at_ : Int32} {isImage : Int32} {idraw : Int32} {gd : (Nat → Int32)} {gro : Int64} {grt : Int32} {td : (Nat → Int32)} {tro : Int64} {trt : Int32} {rd : (Nat → Int32)} {rro : Int64} {rrt : Int32} {imd : (Nat → Int32)} {imro : Int64} {imrt : Int32} {owners : (Nat → Int32)} {tour : (Nat → Int32)} {best : (Nat → Int32)} {tape : (Nat → Int32)} {signs : (Nat → Int32)} {acts : (Nat → Int32)} {iown : (Nat → Int32)} {taken : (Nat → Int64)} {shf : (Nat → Option Nat)} {hd : Nat} {rn : Nat} {rf : (Nat → Int32)} {ra : Nat} {m_depths : (Nat → Int32)} {m_owners : (Nat → Int32)} {m_roofs : Int64} {m_rate : Int32} {m_undos : (Nat → Int32)} {m_undoMany : Int32} {m_drawn : Int32} {m_dug : Int64} {m_deep : Int64} {m_holes : (Nat → Int64)} {m_holeMany : Int32} {m_tape : (Nat → Int32)} {m_taped : Int32} {m_place : Int32} {m_reads : Int32} {m_read_ : (Nat → Int32)} {m_row : (Nat → Int32)} {m_order : (Nat → Int32)} {m_bestOrder : (Nat → Int32)} {m_nears : (Nat → Int32)} {m_isKept : Int32} {m_keptRoofs : Int64} {m_kept : (Nat → Int32)} {m_lanes : (Nat → Int32)} {m_rowSizes : (Nat → Int32)} {m_items : (Nat → Int64)} {m_moved : (Nat → Int64)} {PP : (Nat → Int64) → (Nat → Int32) → (Int64) → (Int64) → (Nat → Int64) → (Int32) → (Nat → Int64) → Prop} (hf : wX0_film_S (fun r p0 p1 => wX3_film (fun r' q0 q1 q2 q3 q4 => r = r' ∧ PP p0 p1 q0 q1 q2 q3 q4) m_depths m_roofs m_rate m_dug m_deep m_holes m_holeMany m_lanes m_rowSizes m_items a1 a2 a3) gd gro grt taken shf hd rn rf a1 a2 a3) (hPD : PD A dC dI ([((h 0), .inr (0, [.ref (h 1), .ref (h 3), .ref (h 9), .ref (h 17), .ref (h 10), .ref (h 11), .int steps, .int draw, .ref (h 12), .int typed, .int at_, .ref (h 5), .ref (h 13), .ref (h 14), .int isImage, .ref (h 7), .ref (h 15), .ref (h 18), .int idraw, .ref (h 19), .ref (h 16)])), ((h 1), .inr (1, [.ref (h 2), .long gro, .int grt])), ((h 2), .inl (dA 0, 36, .inl gd)), ((h 3), .inr (1, [.ref (h 4), .long tro, .int trt])), ((h 4), .inl (dA 0, 36, .inl td)), ((h 5), .inr (1, [.ref (h 6), .long rro, .int rrt])), ((h 6), .inl (dA 0, 36, .inl rd)), ((h 7), .inr (1, [.ref (h 8), .long imro, .int imrt])), ((h 8), .inl (dA 0, 36, .inl imd)), ((h 9), .inl (dA 0, 36, .inl owners)), ((h 10), .inl (dA 1, 8, .inl tour)), ((h 11), .inl (dA 1, 8, .inl best)), ((h 12), .inl (dA 0, 160, .inl tape)), ((h 13), .inl (dA 0, 36, .inl signs)), ((h 14), .inl (dA 0, 320, .inl acts)), ((h 15), .inl (dA 0, 36, .inl iown)), ((h 16), .inl (dA 2, 36, .inr (.inl taken))), ((h 19), .inl (dA 5, 4, .inr (.inr (.inr (.inr shf))))), (hd, .inr (2, [.ref ra])), (ra, .inl (dA 3, rn, .inl rf))] ++ ((wM hm dA m_depths m_owners m_roofs m_rate m_undos m_undoMany m_drawn m_dug m_deep m_holes m_holeMany m_tape m_taped m_place m_reads m_read_ m_row m_order m_bestOrder m_nears m_isKept m_keptRoofs m_kept m_lanes m_rowSizes m_items m_moved) ++ wr)) H) (hS : va_S A s.heap H locs) (hl : lv_has ls 4 [(0, .ref b), (1, .ref (h 0)), (2, .ref (hm 0)), (3, .int ix)]) (hi1 : vp_in (ix + 1) L ∧ xs (ix + 1).toNatClampNeg = a1) (hi2 : vp_in (ix + 2) L ∧ xs (ix + 2).toNatClampNeg = a2) (hi3 : vp_in (ix + 3) L ∧ xs (ix + 3).toNatClampNeg = a3) (hroom : kc + 25 ≤ room_1.cells ∧ ks + 586 ≤ room_1.slots)
    (kk : ∀ (u : (Nat → Int64) × (Nat → Int32)) (u' : Int64 × Int64 × (Nat → Int64) × Int32 × (Nat → Int64)) (H1 : Heap) (locs1 : List Loc), PP u.1 u.2 u'.1 u'.2.1 u'.2.2.1 u'.2.2.2.1 u'.2.2.2.2 → PD A dC dI ([((h 0), .inr (0, [.ref (h 1), .ref (h 3), .ref (h 9), .ref (h 17), .ref (h 10), .ref (h 11), .int steps, .int draw, .ref (h 12), .int typed, .int at_, .ref (h 5), .ref (h 13), .ref (h 14), .int isImage, .ref (h 7), .ref (h 15), .ref (h 18), .int idraw, .ref (h 19), .ref (h 16)])), ((h 1), .inr (1, [.ref (h 2), .long gro, .int grt])), ((h 2), .inl (dA 0, 36, .inl gd)), ((h 3), .inr (1, [.ref (h 4), .long tro, .int trt])), ((h 4), .inl (dA 0, 36, .inl td)), ((h 5), .inr (1, [.ref (h 6), .long rro, .int rrt])), ((h 6), .inl (dA 0, 36, .inl rd)), ((h 7), .inr (1, [.ref (h 8), .long imro, .int imrt])), ((h 8), .inl (dA 0, 36, .inl imd)), ((h 9), .inl (dA 0, 36, .inl owners)), ((h 10), .inl (dA 1, 8, .inl tour)), ((h 11), .inl (dA 1, 8, .inl best)), ((h 12), .inl (dA 0, 160, .inl tape)), ((h 13), .inl (dA 0, 36, .inl signs)), ((h 14), .inl (dA 0, 320, .inl acts)), ((h 15), .inl (dA 0, 36, .inl iown)), ((h 16), .inl (dA 2, 36, .inr (.inl u.1))), ((h 19), .inl (dA 5, 4, .inr (.inr (.inr (.inr shf))))), (hd, .inr (2, [.ref ra])), (ra, .inl (dA 3, rn, .inl u.2))] ++ ((wM hm dA m_depths m_owners m_roofs m_rate m_undos m_undoMany m_drawn u'.1 u'.2.1 u'.2.2.1 u'.2.2.2.1 m_tape m_taped m_place m_reads m_read_ m_row m_order m_bestOrder m_nears m_isKept m_keptRoofs m_kept m_lanes m_rowSizes u'.2.2.2.2 m_moved) ++ wr)) H1 → va_S A s.heap H1 locs1 → W p l e room_1 s m #[Value.ref b] below meth c H1 locs1 (kc + 25) (ks + 586) Q (F0 m 1349 ls [])) : W p l e room_1 s m #[Value.ref b] below meth c H locs kc ks Q (F0 m 1041 ls []) := by
  obtain ⟨S, hX, hbl, hbA, hK, hE, hA, hfl⟩ := hC
  obtain ⟨hP, hD⟩ := hPD
  refine lv_aload_n S.1 S.2.1 dL_law_1041 rfl (lv_at hl 1 rfl) ?_
  refine lv_aload_n S.1 S.2.1 dL_law_1042 rfl (lv_at hl 0 rfl) ?_
  refine lv_iload_n S.1 S.2.1 dL_law_1043 rfl (lv_at hl 3 rfl) ?_
  refine lv_iconst (v := 1) S.1 S.2.1 dL_law_1044 (by decide) ?_
  refine lv_iadd S.1 S.2.1 dL_law_1045 ?_
  refine sldE S.1 S.2.1 hX hbl hbA hS hi1 dL_law_1046 ?_
  refine lv_aload_n S.1 S.2.1 dL_law_1047 rfl (lv_at hl 0 rfl) ?_
  refine lv_iload_n S.1 S.2.1 dL_law_1048 rfl (lv_at hl 3 rfl) ?_
  refine lv_iconst (v := 2) S.1 S.2.1 dL_law_1049 (by decide) ?_
  refine lv_iadd S.1 S.2.1 dL_law_1050 ?_
  refine sldE S.1 S.2.1 hX hbl hbA hS hi2 dL_law_1051 ?_
  refine lv_aload_n S.1 S.2.1 dL_law_1052 rfl (lv_at hl 0 rfl) ?_
  refine lv_iload_n S.1 S.2.1 dL_law_1053 rfl (lv_at hl 3 rfl) ?_
  refine lv_iconst (v := 3) S.1 S.2.1 dL_law_1054 (by decide) ?_
  refine lv_iadd S.1 S.2.1 dL_law_1055 ?_
  refine sldE S.1 S.2.1 hX hbl hbA hS hi3 dL_law_1056 ?_
  refine sC_i hP hD hS hA (va_runV (As := [.int a1, .int a2, .int a3]) (rest := []) S (metX0_film_S l hfl hf) (cwV 3 S.2.2.2.2 (lw_V q1036 q1037 q1038 q54 q1039) rfl rfl rfl ⟨rfl, pdX0_film⟩ ⟨Nat.le_of_ble_eq_true rfl, Nat.le_of_ble_eq_true rfl⟩) ⟨ablind, va_recv hK hP (ci := 0) (q0 := 0) rfl rfl, (spre hK hE hP hD hS hA).2⟩ rfl rfl hl.1 rfl (lv_room (Nat.le_of_ble_eq_true rfl)) dL_law_1057 hroom) (fun r u H locs hf hP hD hS => ?_)
  have hP := hP.perm permM
  have hD := hD.perm permM
  refine lv_aload_n S.1 S.2.1 dL_law_1060 rfl (lv_at hl 2 rfl) ?_
  refine lv_aload_n S.1 S.2.1 dL_law_1061 rfl (lv_at hl 0 rfl) ?_
  refine lv_iload_n S.1 S.2.1 dL_law_1062 rfl (lv_at hl 3 rfl) ?_
  refine lv_iconst (v := 1) S.1 S.2.1 dL_law_1063 (by decide) ?_
  refine lv_iadd S.1 S.2.1 dL_law_1064 ?_
  refine sldE S.1 S.2.1 hX hbl hbA hS hi1 dL_law_1065 ?_
  refine lv_aload_n S.1 S.2.1 dL_law_1066 rfl (lv_at hl 0 rfl) ?_
  refine lv_iload_n S.1 S.2.1 dL_law_1067 rfl (lv_at hl 3 rfl) ?_
  refine lv_iconst (v := 2) S.1 S.2.1 dL_law_1068 (by decide) ?_
  refine lv_iadd S.1 S.2.1 dL_law_1069 ?_
  refine sldE S.1 S.2.1 hX hbl hbA hS hi2 dL_law_1070 ?_
  refine lv_aload_n S.1 S.2.1 dL_law_1071 rfl (lv_at hl 0 rfl) ?_
  refine lv_iload_n S.1 S.2.1 dL_law_1072 rfl (lv_at hl 3 rfl) ?_
  refine lv_iconst (v := 3) S.1 S.2.1 dL_law_1073 (by decide) ?_
  refine lv_iadd S.1 S.2.1 dL_law_1074 ?_
  refine sldE S.1 S.2.1 hX hbl hbA hS hi3 dL_law_1075 ?_
  refine sM_i (As := [.int a1, .int a2, .int a3]) (rest := [.int r]) S hK rfl rfl (fun _ => rfl) hP hD hS (metX3_film l hj hf) (lw_V q1589 q1590 q1591 q60 q1592) rfl pdX3_film ⟨rfl, rfl⟩ ⟨Nat.le_of_ble_eq_true rfl, Nat.le_of_ble_eq_true rfl⟩ rfl hl.1 rfl (Nat.le_of_ble_eq_true rfl) dL_law_1076 hroom (fun r' u' H locs hf hP hD hS => ?_)
  obtain ⟨e1, hf⟩ := hf
  refine lv_icmp_eq (tgt := 1349) S.1 S.2.1 dL_law_1079 (by decide) (fun c_1 => ?_) (fun c_1 => ?_)
  · exact kk u u' H locs hf ⟨hP.perm permN, hD.perm permN⟩ hS
  · exact absurd e1 c_1
set_option maxHeartbeats 4000000 in
set_option maxRecDepth 100000 in
theorem lo_film_I (hC : LC p l s m c b L xs A dC dI dA eA mi) (hj : mJ hm) {steps : Int32} {draw : Int32} {typed : Int32} {at_ : Int32} {isImage : Int32} {idraw : Int32} {gd : (Nat → Int32)} {gro : Int64} {grt : Int32} {td : (Nat → Int32)} {tro : Int64} {trt : Int32} {rd : (Nat → Int32)} {rro : Int64} {rrt : Int32} {imd : (Nat → Int32)} {imro : Int64} {imrt : Int32} {owners : (Nat → Int32)} {tour : (Nat → Int32)} {best : (Nat → Int32)} {tape : (Nat → Int32)} {signs : (Nat → Int32)} {acts : (Nat → Int32)} {iown : (Nat → Int32)} {taken : (Nat → Int64)} {shf : (Nat → Option Nat)} {hd : Nat} {rn : Nat} {rf : (Nat → Int32)} {ra : Nat} {m_depths : (Nat → Int32)} {m_owners : (Nat → Int32)} {m_roofs : Int64} {m_rate : Int32} {m_undos : (Nat → Int32)} {m_undoMany : Int32} {m_drawn : Int32} {m_dug : Int64} {m_deep : Int64} {m_holes : (Nat → Int64)} {m_holeMany : Int32} {m_tape : (Nat → Int32)} {m_taped : Int32} {m_place : Int32} {m_reads : Int32} {m_read_ : (Nat → Int32)} {m_row : (Nat → Int32)} {m_order : (Nat → Int32)} {m_bestOrder : (Nat → Int32)} {m_nears : (Nat → Int32)} {m_isKept : Int32} {m_keptRoofs : Int64} {m_kept : (Nat → Int32)} {m_lanes : (Nat → Int32)} {m_rowSizes : (Nat → Int32)} {m_items : (Nat → Int64)} {m_moved : (Nat → Int64)} {PP : (Nat → Int64) → (Nat → Int32) → (Int64) → (Int64) → (Nat → Int64) → (Int32) → (Nat → Int64) → Prop} (hf : wX0_film_I (fun r p0 p1 => wX3_film (fun r' q0 q1 q2 q3 q4 => r = r' ∧ PP p0 p1 q0 q1 q2 q3 q4) m_depths m_roofs m_rate m_dug m_deep m_holes m_holeMany m_lanes m_rowSizes m_items a1 a2 a3) gd gro grt taken shf hd rn rf a1 a2 a3) (hPD : PD A dC dI ([((h 0), .inr (0, [.ref (h 1), .ref (h 3), .ref (h 9), .ref (h 17), .ref (h 10), .ref (h 11), .int steps, .int draw, .ref (h 12), .int typed, .int at_, .ref (h 5), .ref (h 13), .ref (h 14), .int isImage, .ref (h 7), .ref (h 15), .ref (h 18), .int idraw, .ref (h 19), .ref (h 16)])), ((h 1), .inr (1, [.ref (h 2), .long gro, .int grt])), ((h 2), .inl (dA 0, 36, .inl gd)), ((h 3), .inr (1, [.ref (h 4), .long tro, .int trt])), ((h 4), .inl (dA 0, 36, .inl td)), ((h 5), .inr (1, [.ref (h 6), .long rro, .int rrt])), ((h 6), .inl (dA 0, 36, .inl rd)), ((h 7), .inr (1, [.ref (h 8), .long imro, .int imrt])), ((h 8), .inl (dA 0, 36, .inl imd)), ((h 9), .inl (dA 0, 36, .inl owners)), ((h 10), .inl (dA 1, 8, .inl tour)), ((h 11), .inl (dA 1, 8, .inl best)), ((h 12), .inl (dA 0, 160, .inl tape)), ((h 13), .inl (dA 0, 36, .inl signs)), ((h 14), .inl (dA 0, 320, .inl acts)), ((h 15), .inl (dA 0, 36, .inl iown)), ((h 16), .inl (dA 2, 36, .inr (.inl taken))), ((h 19), .inl (dA 5, 4, .inr (.inr (.inr (.inr shf))))), (hd, .inr (2, [.ref ra])), (ra, .inl (dA 1, rn, .inl rf))] ++ ((wM hm dA m_depths m_owners m_roofs m_rate m_undos m_undoMany m_drawn m_dug m_deep m_holes m_holeMany m_tape m_taped m_place m_reads m_read_ m_row m_order m_bestOrder m_nears m_isKept m_keptRoofs m_kept m_lanes m_rowSizes m_items m_moved) ++ wr)) H) (hS : va_S A s.heap H locs) (hl : lv_has ls 4 [(0, .ref b), (1, .ref (h 0)), (2, .ref (hm 0)), (3, .int ix)]) (hi1 : vp_in (ix + 1) L ∧ xs (ix + 1).toNatClampNeg = a1) (hi2 : vp_in (ix + 2) L ∧ xs (ix + 2).toNatClampNeg = a2) (hi3 : vp_in (ix + 3) L ∧ xs (ix + 3).toNatClampNeg = a3) (hroom : kc + 25 ≤ room_1.cells ∧ ks + 586 ≤ room_1.slots)
    (kk : ∀ (u : (Nat → Int64) × (Nat → Int32)) (u' : Int64 × Int64 × (Nat → Int64) × Int32 × (Nat → Int64)) (H1 : Heap) (locs1 : List Loc), PP u.1 u.2 u'.1 u'.2.1 u'.2.2.1 u'.2.2.2.1 u'.2.2.2.2 → PD A dC dI ([((h 0), .inr (0, [.ref (h 1), .ref (h 3), .ref (h 9), .ref (h 17), .ref (h 10), .ref (h 11), .int steps, .int draw, .ref (h 12), .int typed, .int at_, .ref (h 5), .ref (h 13), .ref (h 14), .int isImage, .ref (h 7), .ref (h 15), .ref (h 18), .int idraw, .ref (h 19), .ref (h 16)])), ((h 1), .inr (1, [.ref (h 2), .long gro, .int grt])), ((h 2), .inl (dA 0, 36, .inl gd)), ((h 3), .inr (1, [.ref (h 4), .long tro, .int trt])), ((h 4), .inl (dA 0, 36, .inl td)), ((h 5), .inr (1, [.ref (h 6), .long rro, .int rrt])), ((h 6), .inl (dA 0, 36, .inl rd)), ((h 7), .inr (1, [.ref (h 8), .long imro, .int imrt])), ((h 8), .inl (dA 0, 36, .inl imd)), ((h 9), .inl (dA 0, 36, .inl owners)), ((h 10), .inl (dA 1, 8, .inl tour)), ((h 11), .inl (dA 1, 8, .inl best)), ((h 12), .inl (dA 0, 160, .inl tape)), ((h 13), .inl (dA 0, 36, .inl signs)), ((h 14), .inl (dA 0, 320, .inl acts)), ((h 15), .inl (dA 0, 36, .inl iown)), ((h 16), .inl (dA 2, 36, .inr (.inl u.1))), ((h 19), .inl (dA 5, 4, .inr (.inr (.inr (.inr shf))))), (hd, .inr (2, [.ref ra])), (ra, .inl (dA 1, rn, .inl u.2))] ++ ((wM hm dA m_depths m_owners m_roofs m_rate m_undos m_undoMany m_drawn u'.1 u'.2.1 u'.2.2.1 u'.2.2.2.1 m_tape m_taped m_place m_reads m_read_ m_row m_order m_bestOrder m_nears m_isKept m_keptRoofs m_kept m_lanes m_rowSizes u'.2.2.2.2 m_moved) ++ wr)) H1 → va_S A s.heap H1 locs1 → W p l e room_1 s m #[Value.ref b] below meth c H1 locs1 (kc + 25) (ks + 586) Q (F0 m 1349 ls [])) : W p l e room_1 s m #[Value.ref b] below meth c H locs kc ks Q (F0 m 1041 ls []) := by
  obtain ⟨S, hX, hbl, hbA, hK, hE, hA, hfl⟩ := hC
  obtain ⟨hP, hD⟩ := hPD
  refine lv_aload_n S.1 S.2.1 dL_law_1041 rfl (lv_at hl 1 rfl) ?_
  refine lv_aload_n S.1 S.2.1 dL_law_1042 rfl (lv_at hl 0 rfl) ?_
  refine lv_iload_n S.1 S.2.1 dL_law_1043 rfl (lv_at hl 3 rfl) ?_
  refine lv_iconst (v := 1) S.1 S.2.1 dL_law_1044 (by decide) ?_
  refine lv_iadd S.1 S.2.1 dL_law_1045 ?_
  refine sldE S.1 S.2.1 hX hbl hbA hS hi1 dL_law_1046 ?_
  refine lv_aload_n S.1 S.2.1 dL_law_1047 rfl (lv_at hl 0 rfl) ?_
  refine lv_iload_n S.1 S.2.1 dL_law_1048 rfl (lv_at hl 3 rfl) ?_
  refine lv_iconst (v := 2) S.1 S.2.1 dL_law_1049 (by decide) ?_
  refine lv_iadd S.1 S.2.1 dL_law_1050 ?_
  refine sldE S.1 S.2.1 hX hbl hbA hS hi2 dL_law_1051 ?_
  refine lv_aload_n S.1 S.2.1 dL_law_1052 rfl (lv_at hl 0 rfl) ?_
  refine lv_iload_n S.1 S.2.1 dL_law_1053 rfl (lv_at hl 3 rfl) ?_
  refine lv_iconst (v := 3) S.1 S.2.1 dL_law_1054 (by decide) ?_
  refine lv_iadd S.1 S.2.1 dL_law_1055 ?_
  refine sldE S.1 S.2.1 hX hbl hbA hS hi3 dL_law_1056 ?_
  refine sC_i hP hD hS hA (va_runV (As := [.int a1, .int a2, .int a3]) (rest := []) S (metX0_film_I l hfl hf) (cwV 3 S.2.2.2.2 (lw_V q1036 q1037 q1038 q54 q1039) rfl rfl rfl ⟨rfl, pdX0_film⟩ ⟨Nat.le_of_ble_eq_true rfl, Nat.le_of_ble_eq_true rfl⟩) ⟨ablind, va_recv hK hP (ci := 0) (q0 := 0) rfl rfl, (spre hK hE hP hD hS hA).2⟩ rfl rfl hl.1 rfl (lv_room (Nat.le_of_ble_eq_true rfl)) dL_law_1057 hroom) (fun r u H locs hf hP hD hS => ?_)
  have hP := hP.perm permM
  have hD := hD.perm permM
  refine lv_aload_n S.1 S.2.1 dL_law_1060 rfl (lv_at hl 2 rfl) ?_
  refine lv_aload_n S.1 S.2.1 dL_law_1061 rfl (lv_at hl 0 rfl) ?_
  refine lv_iload_n S.1 S.2.1 dL_law_1062 rfl (lv_at hl 3 rfl) ?_
  refine lv_iconst (v := 1) S.1 S.2.1 dL_law_1063 (by decide) ?_
  refine lv_iadd S.1 S.2.1 dL_law_1064 ?_
  refine sldE S.1 S.2.1 hX hbl hbA hS hi1 dL_law_1065 ?_
  refine lv_aload_n S.1 S.2.1 dL_law_1066 rfl (lv_at hl 0 rfl) ?_
  refine lv_iload_n S.1 S.2.1 dL_law_1067 rfl (lv_at hl 3 rfl) ?_
  refine lv_iconst (v := 2) S.1 S.2.1 dL_law_1068 (by decide) ?_
  refine lv_iadd S.1 S.2.1 dL_law_1069 ?_
  refine sldE S.1 S.2.1 hX hbl hbA hS hi2 dL_law_1070 ?_
  refine lv_aload_n S.1 S.2.1 dL_law_1071 rfl (lv_at hl 0 rfl) ?_
  refine lv_iload_n S.1 S.2.1 dL_law_1072 rfl (lv_at hl 3 rfl) ?_
  refine lv_iconst (v := 3) S.1 S.2.1 dL_law_1073 (by decide) ?_
  refine lv_iadd S.1 S.2.1 dL_law_1074 ?_
  refine sldE S.1 S.2.1 hX hbl hbA hS hi3 dL_law_1075 ?_
  refine sM_i (As := [.int a1, .int a2, .int a3]) (rest := [.int r]) S hK rfl rfl (fun _ => rfl) hP hD hS (metX3_film l hj hf) (lw_V q1589 q1590 q1591 q60 q1592) rfl pdX3_film ⟨rfl, rfl⟩ ⟨Nat.le_of_ble_eq_true rfl, Nat.le_of_ble_eq_true rfl⟩ rfl hl.1 rfl (Nat.le_of_ble_eq_true rfl) dL_law_1076 hroom (fun r' u' H locs hf hP hD hS => ?_)
  obtain ⟨e1, hf⟩ := hf
  refine lv_icmp_eq (tgt := 1349) S.1 S.2.1 dL_law_1079 (by decide) (fun c_1 => ?_) (fun c_1 => ?_)
  · exact kk u u' H locs hf ⟨hP.perm permN, hD.perm permN⟩ hS
  · exact absurd e1 c_1
set_option maxHeartbeats 4000000 in
set_option maxRecDepth 100000 in
theorem lo_film_J (hC : LC p l s m c b L xs A dC dI dA eA mi) (hj : mJ hm) {steps : Int32} {draw : Int32} {typed : Int32} {at_ : Int32} {isImage : Int32} {idraw : Int32} {gd : (Nat → Int32)} {gro : Int64} {grt : Int32} {td : (Nat → Int32)} {tro : Int64} {trt : Int32} {rd : (Nat → Int32)} {rro : Int64} {rrt : Int32} {imd : (Nat → Int32)} {imro : Int64} {imrt : Int32} {owners : (Nat → Int32)} {tour : (Nat → Int32)} {best : (Nat → Int32)} {tape : (Nat → Int32)} {signs : (Nat → Int32)} {acts : (Nat → Int32)} {iown : (Nat → Int32)} {taken : (Nat → Int64)} {shf : (Nat → Option Nat)} {hd : Nat} {rn : Nat} {rf : (Nat → Int64)} {ra : Nat} {m_depths : (Nat → Int32)} {m_owners : (Nat → Int32)} {m_roofs : Int64} {m_rate : Int32} {m_undos : (Nat → Int32)} {m_undoMany : Int32} {m_drawn : Int32} {m_dug : Int64} {m_deep : Int64} {m_holes : (Nat → Int64)} {m_holeMany : Int32} {m_tape : (Nat → Int32)} {m_taped : Int32} {m_place : Int32} {m_reads : Int32} {m_read_ : (Nat → Int32)} {m_row : (Nat → Int32)} {m_order : (Nat → Int32)} {m_bestOrder : (Nat → Int32)} {m_nears : (Nat → Int32)} {m_isKept : Int32} {m_keptRoofs : Int64} {m_kept : (Nat → Int32)} {m_lanes : (Nat → Int32)} {m_rowSizes : (Nat → Int32)} {m_items : (Nat → Int64)} {m_moved : (Nat → Int64)} {PP : (Nat → Int64) → (Nat → Int64) → (Int64) → (Int64) → (Nat → Int64) → (Int32) → (Nat → Int64) → Prop} (hf : wX0_film_J (fun r p0 p1 => wX3_film (fun r' q0 q1 q2 q3 q4 => r = r' ∧ PP p0 p1 q0 q1 q2 q3 q4) m_depths m_roofs m_rate m_dug m_deep m_holes m_holeMany m_lanes m_rowSizes m_items a1 a2 a3) gd gro grt taken shf hd rn rf a1 a2 a3) (hPD : PD A dC dI ([((h 0), .inr (0, [.ref (h 1), .ref (h 3), .ref (h 9), .ref (h 17), .ref (h 10), .ref (h 11), .int steps, .int draw, .ref (h 12), .int typed, .int at_, .ref (h 5), .ref (h 13), .ref (h 14), .int isImage, .ref (h 7), .ref (h 15), .ref (h 18), .int idraw, .ref (h 19), .ref (h 16)])), ((h 1), .inr (1, [.ref (h 2), .long gro, .int grt])), ((h 2), .inl (dA 0, 36, .inl gd)), ((h 3), .inr (1, [.ref (h 4), .long tro, .int trt])), ((h 4), .inl (dA 0, 36, .inl td)), ((h 5), .inr (1, [.ref (h 6), .long rro, .int rrt])), ((h 6), .inl (dA 0, 36, .inl rd)), ((h 7), .inr (1, [.ref (h 8), .long imro, .int imrt])), ((h 8), .inl (dA 0, 36, .inl imd)), ((h 9), .inl (dA 0, 36, .inl owners)), ((h 10), .inl (dA 1, 8, .inl tour)), ((h 11), .inl (dA 1, 8, .inl best)), ((h 12), .inl (dA 0, 160, .inl tape)), ((h 13), .inl (dA 0, 36, .inl signs)), ((h 14), .inl (dA 0, 320, .inl acts)), ((h 15), .inl (dA 0, 36, .inl iown)), ((h 16), .inl (dA 2, 36, .inr (.inl taken))), ((h 19), .inl (dA 5, 4, .inr (.inr (.inr (.inr shf))))), (hd, .inr (2, [.ref ra])), (ra, .inl (dA 2, rn, .inr (.inl rf)))] ++ ((wM hm dA m_depths m_owners m_roofs m_rate m_undos m_undoMany m_drawn m_dug m_deep m_holes m_holeMany m_tape m_taped m_place m_reads m_read_ m_row m_order m_bestOrder m_nears m_isKept m_keptRoofs m_kept m_lanes m_rowSizes m_items m_moved) ++ wr)) H) (hS : va_S A s.heap H locs) (hl : lv_has ls 4 [(0, .ref b), (1, .ref (h 0)), (2, .ref (hm 0)), (3, .int ix)]) (hi1 : vp_in (ix + 1) L ∧ xs (ix + 1).toNatClampNeg = a1) (hi2 : vp_in (ix + 2) L ∧ xs (ix + 2).toNatClampNeg = a2) (hi3 : vp_in (ix + 3) L ∧ xs (ix + 3).toNatClampNeg = a3) (hroom : kc + 25 ≤ room_1.cells ∧ ks + 586 ≤ room_1.slots)
    (kk : ∀ (u : (Nat → Int64) × (Nat → Int64)) (u' : Int64 × Int64 × (Nat → Int64) × Int32 × (Nat → Int64)) (H1 : Heap) (locs1 : List Loc), PP u.1 u.2 u'.1 u'.2.1 u'.2.2.1 u'.2.2.2.1 u'.2.2.2.2 → PD A dC dI ([((h 0), .inr (0, [.ref (h 1), .ref (h 3), .ref (h 9), .ref (h 17), .ref (h 10), .ref (h 11), .int steps, .int draw, .ref (h 12), .int typed, .int at_, .ref (h 5), .ref (h 13), .ref (h 14), .int isImage, .ref (h 7), .ref (h 15), .ref (h 18), .int idraw, .ref (h 19), .ref (h 16)])), ((h 1), .inr (1, [.ref (h 2), .long gro, .int grt])), ((h 2), .inl (dA 0, 36, .inl gd)), ((h 3), .inr (1, [.ref (h 4), .long tro, .int trt])), ((h 4), .inl (dA 0, 36, .inl td)), ((h 5), .inr (1, [.ref (h 6), .long rro, .int rrt])), ((h 6), .inl (dA 0, 36, .inl rd)), ((h 7), .inr (1, [.ref (h 8), .long imro, .int imrt])), ((h 8), .inl (dA 0, 36, .inl imd)), ((h 9), .inl (dA 0, 36, .inl owners)), ((h 10), .inl (dA 1, 8, .inl tour)), ((h 11), .inl (dA 1, 8, .inl best)), ((h 12), .inl (dA 0, 160, .inl tape)), ((h 13), .inl (dA 0, 36, .inl signs)), ((h 14), .inl (dA 0, 320, .inl acts)), ((h 15), .inl (dA 0, 36, .inl iown)), ((h 16), .inl (dA 2, 36, .inr (.inl u.1))), ((h 19), .inl (dA 5, 4, .inr (.inr (.inr (.inr shf))))), (hd, .inr (2, [.ref ra])), (ra, .inl (dA 2, rn, .inr (.inl u.2)))] ++ ((wM hm dA m_depths m_owners m_roofs m_rate m_undos m_undoMany m_drawn u'.1 u'.2.1 u'.2.2.1 u'.2.2.2.1 m_tape m_taped m_place m_reads m_read_ m_row m_order m_bestOrder m_nears m_isKept m_keptRoofs m_kept m_lanes m_rowSizes u'.2.2.2.2 m_moved) ++ wr)) H1 → va_S A s.heap H1 locs1 → W p l e room_1 s m #[Value.ref b] below meth c H1 locs1 (kc + 25) (ks + 586) Q (F0 m 1349 ls [])) : W p l e room_1 s m #[Value.ref b] below meth c H locs kc ks Q (F0 m 1041 ls []) := by
  obtain ⟨S, hX, hbl, hbA, hK, hE, hA, hfl⟩ := hC
  obtain ⟨hP, hD⟩ := hPD
  refine lv_aload_n S.1 S.2.1 dL_law_1041 rfl (lv_at hl 1 rfl) ?_
  refine lv_aload_n S.1 S.2.1 dL_law_1042 rfl (lv_at hl 0 rfl) ?_
  refine lv_iload_n S.1 S.2.1 dL_law_1043 rfl (lv_at hl 3 rfl) ?_
  refine lv_iconst (v := 1) S.1 S.2.1 dL_law_1044 (by decide) ?_
  refine lv_iadd S.1 S.2.1 dL_law_1045 ?_
  refine sldE S.1 S.2.1 hX hbl hbA hS hi1 dL_law_1046 ?_
  refine lv_aload_n S.1 S.2.1 dL_law_1047 rfl (lv_at hl 0 rfl) ?_
  refine lv_iload_n S.1 S.2.1 dL_law_1048 rfl (lv_at hl 3 rfl) ?_
  refine lv_iconst (v := 2) S.1 S.2.1 dL_law_1049 (by decide) ?_
  refine lv_iadd S.1 S.2.1 dL_law_1050 ?_
  refine sldE S.1 S.2.1 hX hbl hbA hS hi2 dL_law_1051 ?_
  refine lv_aload_n S.1 S.2.1 dL_law_1052 rfl (lv_at hl 0 rfl) ?_
  refine lv_iload_n S.1 S.2.1 dL_law_1053 rfl (lv_at hl 3 rfl) ?_
  refine lv_iconst (v := 3) S.1 S.2.1 dL_law_1054 (by decide) ?_
  refine lv_iadd S.1 S.2.1 dL_law_1055 ?_
  refine sldE S.1 S.2.1 hX hbl hbA hS hi3 dL_law_1056 ?_
  refine sC_i hP hD hS hA (va_runV (As := [.int a1, .int a2, .int a3]) (rest := []) S (metX0_film_J l hfl hf) (cwV 3 S.2.2.2.2 (lw_V q1036 q1037 q1038 q54 q1039) rfl rfl rfl ⟨rfl, pdX0_film⟩ ⟨Nat.le_of_ble_eq_true rfl, Nat.le_of_ble_eq_true rfl⟩) ⟨ablind, va_recv hK hP (ci := 0) (q0 := 0) rfl rfl, (spre hK hE hP hD hS hA).2⟩ rfl rfl hl.1 rfl (lv_room (Nat.le_of_ble_eq_true rfl)) dL_law_1057 hroom) (fun r u H locs hf hP hD hS => ?_)
  have hP := hP.perm permM
  have hD := hD.perm permM
  refine lv_aload_n S.1 S.2.1 dL_law_1060 rfl (lv_at hl 2 rfl) ?_
  refine lv_aload_n S.1 S.2.1 dL_law_1061 rfl (lv_at hl 0 rfl) ?_
  refine lv_iload_n S.1 S.2.1 dL_law_1062 rfl (lv_at hl 3 rfl) ?_
  refine lv_iconst (v := 1) S.1 S.2.1 dL_law_1063 (by decide) ?_
  refine lv_iadd S.1 S.2.1 dL_law_1064 ?_
  refine sldE S.1 S.2.1 hX hbl hbA hS hi1 dL_law_1065 ?_
  refine lv_aload_n S.1 S.2.1 dL_law_1066 rfl (lv_at hl 0 rfl) ?_
  refine lv_iload_n S.1 S.2.1 dL_law_1067 rfl (lv_at hl 3 rfl) ?_
  refine lv_iconst (v := 2) S.1 S.2.1 dL_law_1068 (by decide) ?_
  refine lv_iadd S.1 S.2.1 dL_law_1069 ?_
  refine sldE S.1 S.2.1 hX hbl hbA hS hi2 dL_law_1070 ?_
  refine lv_aload_n S.1 S.2.1 dL_law_1071 rfl (lv_at hl 0 rfl) ?_
  refine lv_iload_n S.1 S.2.1 dL_law_1072 rfl (lv_at hl 3 rfl) ?_
  refine lv_iconst (v := 3) S.1 S.2.1 dL_law_1073 (by decide) ?_
  refine lv_iadd S.1 S.2.1 dL_law_1074 ?_
  refine sldE S.1 S.2.1 hX hbl hbA hS hi3 dL_law_1075 ?_
  refine sM_i (As := [.int a1, .int a2, .int a3]) (rest := [.int r]) S hK rfl rfl (fun _ => rfl) hP hD hS (metX3_film l hj hf) (lw_V q1589 q1590 q1591 q60 q1592) rfl pdX3_film ⟨rfl, rfl⟩ ⟨Nat.le_of_ble_eq_true rfl, Nat.le_of_ble_eq_true rfl⟩ rfl hl.1 rfl (Nat.le_of_ble_eq_true rfl) dL_law_1076 hroom (fun r' u' H locs hf hP hD hS => ?_)
  obtain ⟨e1, hf⟩ := hf
  refine lv_icmp_eq (tgt := 1349) S.1 S.2.1 dL_law_1079 (by decide) (fun c_1 => ?_) (fun c_1 => ?_)
  · exact kk u u' H locs hf ⟨hP.perm permN, hD.perm permN⟩ hS
  · exact absurd e1 c_1
set_option maxHeartbeats 4000000 in
set_option maxRecDepth 100000 in
theorem lo_miscounted_N (hC : LC p l s m c b L xs A dC dI dA eA mi) (hj : mJ hm) {steps : Int32} {draw : Int32} {typed : Int32} {at_ : Int32} {isImage : Int32} {idraw : Int32} {gd : (Nat → Int32)} {gro : Int64} {grt : Int32} {td : (Nat → Int32)} {tro : Int64} {trt : Int32} {rd : (Nat → Int32)} {rro : Int64} {rrt : Int32} {imd : (Nat → Int32)} {imro : Int64} {imrt : Int32} {owners : (Nat → Int32)} {tour : (Nat → Int32)} {best : (Nat → Int32)} {tape : (Nat → Int32)} {signs : (Nat → Int32)} {acts : (Nat → Int32)} {iown : (Nat → Int32)} {taken : (Nat → Int64)} {shf : (Nat → Option Nat)} {hd : Nat} {m_depths : (Nat → Int32)} {m_owners : (Nat → Int32)} {m_roofs : Int64} {m_rate : Int32} {m_undos : (Nat → Int32)} {m_undoMany : Int32} {m_drawn : Int32} {m_dug : Int64} {m_deep : Int64} {m_holes : (Nat → Int64)} {m_holeMany : Int32} {m_tape : (Nat → Int32)} {m_taped : Int32} {m_place : Int32} {m_reads : Int32} {m_read_ : (Nat → Int32)} {m_row : (Nat → Int32)} {m_order : (Nat → Int32)} {m_bestOrder : (Nat → Int32)} {m_nears : (Nat → Int32)} {m_isKept : Int32} {m_keptRoofs : Int64} {m_kept : (Nat → Int32)} {m_lanes : (Nat → Int32)} {m_rowSizes : (Nat → Int32)} {m_items : (Nat → Int64)} {m_moved : (Nat → Int64)} {PP : (Int64) → (Int64) → Prop} (hf : wX0_miscounted_N (fun r => wX3_miscounted (fun r' q0 q1 => r = r' ∧ PP q0 q1) m_depths m_dug m_deep m_lanes m_rowSizes m_items a1 a2 a3 a4) gd gro grt taken shf hd a1 a2 a3 a4) (hPD : PD A dC dI ([((h 0), .inr (0, [.ref (h 1), .ref (h 3), .ref (h 9), .ref (h 17), .ref (h 10), .ref (h 11), .int steps, .int draw, .ref (h 12), .int typed, .int at_, .ref (h 5), .ref (h 13), .ref (h 14), .int isImage, .ref (h 7), .ref (h 15), .ref (h 18), .int idraw, .ref (h 19), .ref (h 16)])), ((h 1), .inr (1, [.ref (h 2), .long gro, .int grt])), ((h 2), .inl (dA 0, 36, .inl gd)), ((h 3), .inr (1, [.ref (h 4), .long tro, .int trt])), ((h 4), .inl (dA 0, 36, .inl td)), ((h 5), .inr (1, [.ref (h 6), .long rro, .int rrt])), ((h 6), .inl (dA 0, 36, .inl rd)), ((h 7), .inr (1, [.ref (h 8), .long imro, .int imrt])), ((h 8), .inl (dA 0, 36, .inl imd)), ((h 9), .inl (dA 0, 36, .inl owners)), ((h 10), .inl (dA 1, 8, .inl tour)), ((h 11), .inl (dA 1, 8, .inl best)), ((h 12), .inl (dA 0, 160, .inl tape)), ((h 13), .inl (dA 0, 36, .inl signs)), ((h 14), .inl (dA 0, 320, .inl acts)), ((h 15), .inl (dA 0, 36, .inl iown)), ((h 16), .inl (dA 2, 36, .inr (.inl taken))), ((h 19), .inl (dA 5, 4, .inr (.inr (.inr (.inr shf))))), (hd, .inr (2, [.null]))] ++ ((wM hm dA m_depths m_owners m_roofs m_rate m_undos m_undoMany m_drawn m_dug m_deep m_holes m_holeMany m_tape m_taped m_place m_reads m_read_ m_row m_order m_bestOrder m_nears m_isKept m_keptRoofs m_kept m_lanes m_rowSizes m_items m_moved) ++ wr)) H) (hS : va_S A s.heap H locs) (hl : lv_has ls 4 [(0, .ref b), (1, .ref (h 0)), (2, .ref (hm 0)), (3, .int ix)]) (hi1 : vp_in (ix + 1) L ∧ xs (ix + 1).toNatClampNeg = a1) (hi2 : vp_in (ix + 2) L ∧ xs (ix + 2).toNatClampNeg = a2) (hi3 : vp_in (ix + 3) L ∧ xs (ix + 3).toNatClampNeg = a3) (hi4 : vp_in (ix + 4) L ∧ xs (ix + 4).toNatClampNeg = a4) (hroom : kc + 15 ≤ room_1.cells ∧ ks + 524 ≤ room_1.slots)
    (kk : ∀ (u : Unit) (u' : Int64 × Int64) (H1 : Heap) (locs1 : List Loc), PP u'.1 u'.2 → PD A dC dI ([((h 0), .inr (0, [.ref (h 1), .ref (h 3), .ref (h 9), .ref (h 17), .ref (h 10), .ref (h 11), .int steps, .int draw, .ref (h 12), .int typed, .int at_, .ref (h 5), .ref (h 13), .ref (h 14), .int isImage, .ref (h 7), .ref (h 15), .ref (h 18), .int idraw, .ref (h 19), .ref (h 16)])), ((h 1), .inr (1, [.ref (h 2), .long gro, .int grt])), ((h 2), .inl (dA 0, 36, .inl gd)), ((h 3), .inr (1, [.ref (h 4), .long tro, .int trt])), ((h 4), .inl (dA 0, 36, .inl td)), ((h 5), .inr (1, [.ref (h 6), .long rro, .int rrt])), ((h 6), .inl (dA 0, 36, .inl rd)), ((h 7), .inr (1, [.ref (h 8), .long imro, .int imrt])), ((h 8), .inl (dA 0, 36, .inl imd)), ((h 9), .inl (dA 0, 36, .inl owners)), ((h 10), .inl (dA 1, 8, .inl tour)), ((h 11), .inl (dA 1, 8, .inl best)), ((h 12), .inl (dA 0, 160, .inl tape)), ((h 13), .inl (dA 0, 36, .inl signs)), ((h 14), .inl (dA 0, 320, .inl acts)), ((h 15), .inl (dA 0, 36, .inl iown)), ((h 16), .inl (dA 2, 36, .inr (.inl taken))), ((h 19), .inl (dA 5, 4, .inr (.inr (.inr (.inr shf))))), (hd, .inr (2, [.null]))] ++ ((wM hm dA m_depths m_owners m_roofs m_rate m_undos m_undoMany m_drawn u'.1 u'.2 m_holes m_holeMany m_tape m_taped m_place m_reads m_read_ m_row m_order m_bestOrder m_nears m_isKept m_keptRoofs m_kept m_lanes m_rowSizes m_items m_moved) ++ wr)) H1 → va_S A s.heap H1 locs1 → W p l e room_1 s m #[Value.ref b] below meth c H1 locs1 (kc + 15) (ks + 524) Q (F0 m 1349 ls [])) : W p l e room_1 s m #[Value.ref b] below meth c H locs kc ks Q (F0 m 1084 ls []) := by
  obtain ⟨S, hX, hbl, hbA, hK, hE, hA, hfl⟩ := hC
  obtain ⟨hP, hD⟩ := hPD
  refine lv_aload_n S.1 S.2.1 dL_law_1084 rfl (lv_at hl 1 rfl) ?_
  refine lv_aload_n S.1 S.2.1 dL_law_1085 rfl (lv_at hl 0 rfl) ?_
  refine lv_iload_n S.1 S.2.1 dL_law_1086 rfl (lv_at hl 3 rfl) ?_
  refine lv_iconst (v := 1) S.1 S.2.1 dL_law_1087 (by decide) ?_
  refine lv_iadd S.1 S.2.1 dL_law_1088 ?_
  refine sldE S.1 S.2.1 hX hbl hbA hS hi1 dL_law_1089 ?_
  refine lv_aload_n S.1 S.2.1 dL_law_1090 rfl (lv_at hl 0 rfl) ?_
  refine lv_iload_n S.1 S.2.1 dL_law_1091 rfl (lv_at hl 3 rfl) ?_
  refine lv_iconst (v := 2) S.1 S.2.1 dL_law_1092 (by decide) ?_
  refine lv_iadd S.1 S.2.1 dL_law_1093 ?_
  refine sldE S.1 S.2.1 hX hbl hbA hS hi2 dL_law_1094 ?_
  refine lv_aload_n S.1 S.2.1 dL_law_1095 rfl (lv_at hl 0 rfl) ?_
  refine lv_iload_n S.1 S.2.1 dL_law_1096 rfl (lv_at hl 3 rfl) ?_
  refine lv_iconst (v := 3) S.1 S.2.1 dL_law_1097 (by decide) ?_
  refine lv_iadd S.1 S.2.1 dL_law_1098 ?_
  refine sldE S.1 S.2.1 hX hbl hbA hS hi3 dL_law_1099 ?_
  refine lv_aload_n S.1 S.2.1 dL_law_1100 rfl (lv_at hl 0 rfl) ?_
  refine lv_iload_n S.1 S.2.1 dL_law_1101 rfl (lv_at hl 3 rfl) ?_
  refine lv_iconst (v := 4) S.1 S.2.1 dL_law_1102 (by decide) ?_
  refine lv_iadd S.1 S.2.1 dL_law_1103 ?_
  refine sldE S.1 S.2.1 hX hbl hbA hS hi4 dL_law_1104 ?_
  refine sC_i hP hD hS hA (va_runV (As := [.int a1, .int a2, .int a3, .int a4]) (rest := []) S (metX0_miscounted_N l hfl hf) (cwV 4 S.2.2.2.2 (lw_V q1040 q1041 q1042 q54 q1043) rfl rfl rfl ⟨rfl, pdX0_miscounted⟩ ⟨Nat.le_of_ble_eq_true rfl, Nat.le_of_ble_eq_true rfl⟩) ⟨ablind, va_recv hK hP (ci := 0) (q0 := 0) rfl rfl, (spre hK hE hP hD hS hA).2⟩ rfl rfl hl.1 rfl (lv_room (Nat.le_of_ble_eq_true rfl)) dL_law_1105 hroom) (fun r u H locs hf hP hD hS => ?_)
  have hP := hP.perm permM
  have hD := hD.perm permM
  refine lv_aload_n S.1 S.2.1 dL_law_1108 rfl (lv_at hl 2 rfl) ?_
  refine lv_aload_n S.1 S.2.1 dL_law_1109 rfl (lv_at hl 0 rfl) ?_
  refine lv_iload_n S.1 S.2.1 dL_law_1110 rfl (lv_at hl 3 rfl) ?_
  refine lv_iconst (v := 1) S.1 S.2.1 dL_law_1111 (by decide) ?_
  refine lv_iadd S.1 S.2.1 dL_law_1112 ?_
  refine sldE S.1 S.2.1 hX hbl hbA hS hi1 dL_law_1113 ?_
  refine lv_aload_n S.1 S.2.1 dL_law_1114 rfl (lv_at hl 0 rfl) ?_
  refine lv_iload_n S.1 S.2.1 dL_law_1115 rfl (lv_at hl 3 rfl) ?_
  refine lv_iconst (v := 2) S.1 S.2.1 dL_law_1116 (by decide) ?_
  refine lv_iadd S.1 S.2.1 dL_law_1117 ?_
  refine sldE S.1 S.2.1 hX hbl hbA hS hi2 dL_law_1118 ?_
  refine lv_aload_n S.1 S.2.1 dL_law_1119 rfl (lv_at hl 0 rfl) ?_
  refine lv_iload_n S.1 S.2.1 dL_law_1120 rfl (lv_at hl 3 rfl) ?_
  refine lv_iconst (v := 3) S.1 S.2.1 dL_law_1121 (by decide) ?_
  refine lv_iadd S.1 S.2.1 dL_law_1122 ?_
  refine sldE S.1 S.2.1 hX hbl hbA hS hi3 dL_law_1123 ?_
  refine lv_aload_n S.1 S.2.1 dL_law_1124 rfl (lv_at hl 0 rfl) ?_
  refine lv_iload_n S.1 S.2.1 dL_law_1125 rfl (lv_at hl 3 rfl) ?_
  refine lv_iconst (v := 4) S.1 S.2.1 dL_law_1126 (by decide) ?_
  refine lv_iadd S.1 S.2.1 dL_law_1127 ?_
  refine sldE S.1 S.2.1 hX hbl hbA hS hi4 dL_law_1128 ?_
  refine sM_i (As := [.int a1, .int a2, .int a3, .int a4]) (rest := [.int r]) S hK rfl rfl (fun _ => rfl) hP hD hS (metX3_miscounted l hj hf) (lw_V q1593 q1594 q1595 q60 q1596) rfl pdX3_miscounted ⟨rfl, rfl⟩ ⟨Nat.le_of_ble_eq_true rfl, Nat.le_of_ble_eq_true rfl⟩ rfl hl.1 rfl (Nat.le_of_ble_eq_true rfl) dL_law_1129 hroom (fun r' u' H locs hf hP hD hS => ?_)
  obtain ⟨e1, hf⟩ := hf
  refine lv_icmp_eq (tgt := 1349) S.1 S.2.1 dL_law_1132 (by decide) (fun c_1 => ?_) (fun c_1 => ?_)
  · exact kk u u' H locs hf ⟨hP.perm permN, hD.perm permN⟩ hS
  · exact absurd e1 c_1
set_option maxHeartbeats 4000000 in
set_option maxRecDepth 100000 in
theorem lo_miscounted_B (hC : LC p l s m c b L xs A dC dI dA eA mi) (hj : mJ hm) {steps : Int32} {draw : Int32} {typed : Int32} {at_ : Int32} {isImage : Int32} {idraw : Int32} {gd : (Nat → Int32)} {gro : Int64} {grt : Int32} {td : (Nat → Int32)} {tro : Int64} {trt : Int32} {rd : (Nat → Int32)} {rro : Int64} {rrt : Int32} {imd : (Nat → Int32)} {imro : Int64} {imrt : Int32} {owners : (Nat → Int32)} {tour : (Nat → Int32)} {best : (Nat → Int32)} {tape : (Nat → Int32)} {signs : (Nat → Int32)} {acts : (Nat → Int32)} {iown : (Nat → Int32)} {taken : (Nat → Int64)} {shf : (Nat → Option Nat)} {hd : Nat} {rn : Nat} {rf : (Nat → Int32)} {ra : Nat} {m_depths : (Nat → Int32)} {m_owners : (Nat → Int32)} {m_roofs : Int64} {m_rate : Int32} {m_undos : (Nat → Int32)} {m_undoMany : Int32} {m_drawn : Int32} {m_dug : Int64} {m_deep : Int64} {m_holes : (Nat → Int64)} {m_holeMany : Int32} {m_tape : (Nat → Int32)} {m_taped : Int32} {m_place : Int32} {m_reads : Int32} {m_read_ : (Nat → Int32)} {m_row : (Nat → Int32)} {m_order : (Nat → Int32)} {m_bestOrder : (Nat → Int32)} {m_nears : (Nat → Int32)} {m_isKept : Int32} {m_keptRoofs : Int64} {m_kept : (Nat → Int32)} {m_lanes : (Nat → Int32)} {m_rowSizes : (Nat → Int32)} {m_items : (Nat → Int64)} {m_moved : (Nat → Int64)} {PP : (Nat → Int64) → (Int64) → (Int64) → Prop} (hf : wX0_miscounted_B (fun r p0 => wX3_miscounted (fun r' q0 q1 => r = r' ∧ PP p0 q0 q1) m_depths m_dug m_deep m_lanes m_rowSizes m_items a1 a2 a3 a4) gd gro grt taken shf hd rn rf a1 a2 a3 a4) (hPD : PD A dC dI ([((h 0), .inr (0, [.ref (h 1), .ref (h 3), .ref (h 9), .ref (h 17), .ref (h 10), .ref (h 11), .int steps, .int draw, .ref (h 12), .int typed, .int at_, .ref (h 5), .ref (h 13), .ref (h 14), .int isImage, .ref (h 7), .ref (h 15), .ref (h 18), .int idraw, .ref (h 19), .ref (h 16)])), ((h 1), .inr (1, [.ref (h 2), .long gro, .int grt])), ((h 2), .inl (dA 0, 36, .inl gd)), ((h 3), .inr (1, [.ref (h 4), .long tro, .int trt])), ((h 4), .inl (dA 0, 36, .inl td)), ((h 5), .inr (1, [.ref (h 6), .long rro, .int rrt])), ((h 6), .inl (dA 0, 36, .inl rd)), ((h 7), .inr (1, [.ref (h 8), .long imro, .int imrt])), ((h 8), .inl (dA 0, 36, .inl imd)), ((h 9), .inl (dA 0, 36, .inl owners)), ((h 10), .inl (dA 1, 8, .inl tour)), ((h 11), .inl (dA 1, 8, .inl best)), ((h 12), .inl (dA 0, 160, .inl tape)), ((h 13), .inl (dA 0, 36, .inl signs)), ((h 14), .inl (dA 0, 320, .inl acts)), ((h 15), .inl (dA 0, 36, .inl iown)), ((h 16), .inl (dA 2, 36, .inr (.inl taken))), ((h 19), .inl (dA 5, 4, .inr (.inr (.inr (.inr shf))))), (hd, .inr (2, [.ref ra])), (ra, .inl (dA 0, rn, .inl rf))] ++ ((wM hm dA m_depths m_owners m_roofs m_rate m_undos m_undoMany m_drawn m_dug m_deep m_holes m_holeMany m_tape m_taped m_place m_reads m_read_ m_row m_order m_bestOrder m_nears m_isKept m_keptRoofs m_kept m_lanes m_rowSizes m_items m_moved) ++ wr)) H) (hS : va_S A s.heap H locs) (hl : lv_has ls 4 [(0, .ref b), (1, .ref (h 0)), (2, .ref (hm 0)), (3, .int ix)]) (hi1 : vp_in (ix + 1) L ∧ xs (ix + 1).toNatClampNeg = a1) (hi2 : vp_in (ix + 2) L ∧ xs (ix + 2).toNatClampNeg = a2) (hi3 : vp_in (ix + 3) L ∧ xs (ix + 3).toNatClampNeg = a3) (hi4 : vp_in (ix + 4) L ∧ xs (ix + 4).toNatClampNeg = a4) (hroom : kc + 15 ≤ room_1.cells ∧ ks + 524 ≤ room_1.slots)
    (kk : ∀ (u : (Nat → Int64)) (u' : Int64 × Int64) (H1 : Heap) (locs1 : List Loc), PP u u'.1 u'.2 → PD A dC dI ([((h 0), .inr (0, [.ref (h 1), .ref (h 3), .ref (h 9), .ref (h 17), .ref (h 10), .ref (h 11), .int steps, .int draw, .ref (h 12), .int typed, .int at_, .ref (h 5), .ref (h 13), .ref (h 14), .int isImage, .ref (h 7), .ref (h 15), .ref (h 18), .int idraw, .ref (h 19), .ref (h 16)])), ((h 1), .inr (1, [.ref (h 2), .long gro, .int grt])), ((h 2), .inl (dA 0, 36, .inl gd)), ((h 3), .inr (1, [.ref (h 4), .long tro, .int trt])), ((h 4), .inl (dA 0, 36, .inl td)), ((h 5), .inr (1, [.ref (h 6), .long rro, .int rrt])), ((h 6), .inl (dA 0, 36, .inl rd)), ((h 7), .inr (1, [.ref (h 8), .long imro, .int imrt])), ((h 8), .inl (dA 0, 36, .inl imd)), ((h 9), .inl (dA 0, 36, .inl owners)), ((h 10), .inl (dA 1, 8, .inl tour)), ((h 11), .inl (dA 1, 8, .inl best)), ((h 12), .inl (dA 0, 160, .inl tape)), ((h 13), .inl (dA 0, 36, .inl signs)), ((h 14), .inl (dA 0, 320, .inl acts)), ((h 15), .inl (dA 0, 36, .inl iown)), ((h 16), .inl (dA 2, 36, .inr (.inl u))), ((h 19), .inl (dA 5, 4, .inr (.inr (.inr (.inr shf))))), (hd, .inr (2, [.ref ra])), (ra, .inl (dA 0, rn, .inl rf))] ++ ((wM hm dA m_depths m_owners m_roofs m_rate m_undos m_undoMany m_drawn u'.1 u'.2 m_holes m_holeMany m_tape m_taped m_place m_reads m_read_ m_row m_order m_bestOrder m_nears m_isKept m_keptRoofs m_kept m_lanes m_rowSizes m_items m_moved) ++ wr)) H1 → va_S A s.heap H1 locs1 → W p l e room_1 s m #[Value.ref b] below meth c H1 locs1 (kc + 15) (ks + 524) Q (F0 m 1349 ls [])) : W p l e room_1 s m #[Value.ref b] below meth c H locs kc ks Q (F0 m 1084 ls []) := by
  obtain ⟨S, hX, hbl, hbA, hK, hE, hA, hfl⟩ := hC
  obtain ⟨hP, hD⟩ := hPD
  refine lv_aload_n S.1 S.2.1 dL_law_1084 rfl (lv_at hl 1 rfl) ?_
  refine lv_aload_n S.1 S.2.1 dL_law_1085 rfl (lv_at hl 0 rfl) ?_
  refine lv_iload_n S.1 S.2.1 dL_law_1086 rfl (lv_at hl 3 rfl) ?_
  refine lv_iconst (v := 1) S.1 S.2.1 dL_law_1087 (by decide) ?_
  refine lv_iadd S.1 S.2.1 dL_law_1088 ?_
  refine sldE S.1 S.2.1 hX hbl hbA hS hi1 dL_law_1089 ?_
  refine lv_aload_n S.1 S.2.1 dL_law_1090 rfl (lv_at hl 0 rfl) ?_
  refine lv_iload_n S.1 S.2.1 dL_law_1091 rfl (lv_at hl 3 rfl) ?_
  refine lv_iconst (v := 2) S.1 S.2.1 dL_law_1092 (by decide) ?_
  refine lv_iadd S.1 S.2.1 dL_law_1093 ?_
  refine sldE S.1 S.2.1 hX hbl hbA hS hi2 dL_law_1094 ?_
  refine lv_aload_n S.1 S.2.1 dL_law_1095 rfl (lv_at hl 0 rfl) ?_
  refine lv_iload_n S.1 S.2.1 dL_law_1096 rfl (lv_at hl 3 rfl) ?_
  refine lv_iconst (v := 3) S.1 S.2.1 dL_law_1097 (by decide) ?_
  refine lv_iadd S.1 S.2.1 dL_law_1098 ?_
  refine sldE S.1 S.2.1 hX hbl hbA hS hi3 dL_law_1099 ?_
  refine lv_aload_n S.1 S.2.1 dL_law_1100 rfl (lv_at hl 0 rfl) ?_
  refine lv_iload_n S.1 S.2.1 dL_law_1101 rfl (lv_at hl 3 rfl) ?_
  refine lv_iconst (v := 4) S.1 S.2.1 dL_law_1102 (by decide) ?_
  refine lv_iadd S.1 S.2.1 dL_law_1103 ?_
  refine sldE S.1 S.2.1 hX hbl hbA hS hi4 dL_law_1104 ?_
  refine sC_i hP hD hS hA (va_runV (As := [.int a1, .int a2, .int a3, .int a4]) (rest := []) S (metX0_miscounted_B l hfl hf) (cwV 4 S.2.2.2.2 (lw_V q1040 q1041 q1042 q54 q1043) rfl rfl rfl ⟨rfl, pdX0_miscounted⟩ ⟨Nat.le_of_ble_eq_true rfl, Nat.le_of_ble_eq_true rfl⟩) ⟨ablind, va_recv hK hP (ci := 0) (q0 := 0) rfl rfl, (spre hK hE hP hD hS hA).2⟩ rfl rfl hl.1 rfl (lv_room (Nat.le_of_ble_eq_true rfl)) dL_law_1105 hroom) (fun r u H locs hf hP hD hS => ?_)
  have hP := hP.perm permM
  have hD := hD.perm permM
  refine lv_aload_n S.1 S.2.1 dL_law_1108 rfl (lv_at hl 2 rfl) ?_
  refine lv_aload_n S.1 S.2.1 dL_law_1109 rfl (lv_at hl 0 rfl) ?_
  refine lv_iload_n S.1 S.2.1 dL_law_1110 rfl (lv_at hl 3 rfl) ?_
  refine lv_iconst (v := 1) S.1 S.2.1 dL_law_1111 (by decide) ?_
  refine lv_iadd S.1 S.2.1 dL_law_1112 ?_
  refine sldE S.1 S.2.1 hX hbl hbA hS hi1 dL_law_1113 ?_
  refine lv_aload_n S.1 S.2.1 dL_law_1114 rfl (lv_at hl 0 rfl) ?_
  refine lv_iload_n S.1 S.2.1 dL_law_1115 rfl (lv_at hl 3 rfl) ?_
  refine lv_iconst (v := 2) S.1 S.2.1 dL_law_1116 (by decide) ?_
  refine lv_iadd S.1 S.2.1 dL_law_1117 ?_
  refine sldE S.1 S.2.1 hX hbl hbA hS hi2 dL_law_1118 ?_
  refine lv_aload_n S.1 S.2.1 dL_law_1119 rfl (lv_at hl 0 rfl) ?_
  refine lv_iload_n S.1 S.2.1 dL_law_1120 rfl (lv_at hl 3 rfl) ?_
  refine lv_iconst (v := 3) S.1 S.2.1 dL_law_1121 (by decide) ?_
  refine lv_iadd S.1 S.2.1 dL_law_1122 ?_
  refine sldE S.1 S.2.1 hX hbl hbA hS hi3 dL_law_1123 ?_
  refine lv_aload_n S.1 S.2.1 dL_law_1124 rfl (lv_at hl 0 rfl) ?_
  refine lv_iload_n S.1 S.2.1 dL_law_1125 rfl (lv_at hl 3 rfl) ?_
  refine lv_iconst (v := 4) S.1 S.2.1 dL_law_1126 (by decide) ?_
  refine lv_iadd S.1 S.2.1 dL_law_1127 ?_
  refine sldE S.1 S.2.1 hX hbl hbA hS hi4 dL_law_1128 ?_
  refine sM_i (As := [.int a1, .int a2, .int a3, .int a4]) (rest := [.int r]) S hK rfl rfl (fun _ => rfl) hP hD hS (metX3_miscounted l hj hf) (lw_V q1593 q1594 q1595 q60 q1596) rfl pdX3_miscounted ⟨rfl, rfl⟩ ⟨Nat.le_of_ble_eq_true rfl, Nat.le_of_ble_eq_true rfl⟩ rfl hl.1 rfl (Nat.le_of_ble_eq_true rfl) dL_law_1129 hroom (fun r' u' H locs hf hP hD hS => ?_)
  obtain ⟨e1, hf⟩ := hf
  refine lv_icmp_eq (tgt := 1349) S.1 S.2.1 dL_law_1132 (by decide) (fun c_1 => ?_) (fun c_1 => ?_)
  · exact kk u u' H locs hf ⟨hP.perm permN, hD.perm permN⟩ hS
  · exact absurd e1 c_1
set_option maxHeartbeats 4000000 in
set_option maxRecDepth 100000 in
theorem lo_miscounted_S (hC : LC p l s m c b L xs A dC dI dA eA mi) (hj : mJ hm) {steps : Int32} {draw : Int32} {typed : Int32} {at_ : Int32} {isImage : Int32} {idraw : Int32} {gd : (Nat → Int32)} {gro : Int64} {grt : Int32} {td : (Nat → Int32)} {tro : Int64} {trt : Int32} {rd : (Nat → Int32)} {rro : Int64} {rrt : Int32} {imd : (Nat → Int32)} {imro : Int64} {imrt : Int32} {owners : (Nat → Int32)} {tour : (Nat → Int32)} {best : (Nat → Int32)} {tape : (Nat → Int32)} {signs : (Nat → Int32)} {acts : (Nat → Int32)} {iown : (Nat → Int32)} {taken : (Nat → Int64)} {shf : (Nat → Option Nat)} {hd : Nat} {rn : Nat} {rf : (Nat → Int32)} {ra : Nat} {m_depths : (Nat → Int32)} {m_owners : (Nat → Int32)} {m_roofs : Int64} {m_rate : Int32} {m_undos : (Nat → Int32)} {m_undoMany : Int32} {m_drawn : Int32} {m_dug : Int64} {m_deep : Int64} {m_holes : (Nat → Int64)} {m_holeMany : Int32} {m_tape : (Nat → Int32)} {m_taped : Int32} {m_place : Int32} {m_reads : Int32} {m_read_ : (Nat → Int32)} {m_row : (Nat → Int32)} {m_order : (Nat → Int32)} {m_bestOrder : (Nat → Int32)} {m_nears : (Nat → Int32)} {m_isKept : Int32} {m_keptRoofs : Int64} {m_kept : (Nat → Int32)} {m_lanes : (Nat → Int32)} {m_rowSizes : (Nat → Int32)} {m_items : (Nat → Int64)} {m_moved : (Nat → Int64)} {PP : (Nat → Int64) → (Int64) → (Int64) → Prop} (hf : wX0_miscounted_S (fun r p0 => wX3_miscounted (fun r' q0 q1 => r = r' ∧ PP p0 q0 q1) m_depths m_dug m_deep m_lanes m_rowSizes m_items a1 a2 a3 a4) gd gro grt taken shf hd rn rf a1 a2 a3 a4) (hPD : PD A dC dI ([((h 0), .inr (0, [.ref (h 1), .ref (h 3), .ref (h 9), .ref (h 17), .ref (h 10), .ref (h 11), .int steps, .int draw, .ref (h 12), .int typed, .int at_, .ref (h 5), .ref (h 13), .ref (h 14), .int isImage, .ref (h 7), .ref (h 15), .ref (h 18), .int idraw, .ref (h 19), .ref (h 16)])), ((h 1), .inr (1, [.ref (h 2), .long gro, .int grt])), ((h 2), .inl (dA 0, 36, .inl gd)), ((h 3), .inr (1, [.ref (h 4), .long tro, .int trt])), ((h 4), .inl (dA 0, 36, .inl td)), ((h 5), .inr (1, [.ref (h 6), .long rro, .int rrt])), ((h 6), .inl (dA 0, 36, .inl rd)), ((h 7), .inr (1, [.ref (h 8), .long imro, .int imrt])), ((h 8), .inl (dA 0, 36, .inl imd)), ((h 9), .inl (dA 0, 36, .inl owners)), ((h 10), .inl (dA 1, 8, .inl tour)), ((h 11), .inl (dA 1, 8, .inl best)), ((h 12), .inl (dA 0, 160, .inl tape)), ((h 13), .inl (dA 0, 36, .inl signs)), ((h 14), .inl (dA 0, 320, .inl acts)), ((h 15), .inl (dA 0, 36, .inl iown)), ((h 16), .inl (dA 2, 36, .inr (.inl taken))), ((h 19), .inl (dA 5, 4, .inr (.inr (.inr (.inr shf))))), (hd, .inr (2, [.ref ra])), (ra, .inl (dA 3, rn, .inl rf))] ++ ((wM hm dA m_depths m_owners m_roofs m_rate m_undos m_undoMany m_drawn m_dug m_deep m_holes m_holeMany m_tape m_taped m_place m_reads m_read_ m_row m_order m_bestOrder m_nears m_isKept m_keptRoofs m_kept m_lanes m_rowSizes m_items m_moved) ++ wr)) H) (hS : va_S A s.heap H locs) (hl : lv_has ls 4 [(0, .ref b), (1, .ref (h 0)), (2, .ref (hm 0)), (3, .int ix)]) (hi1 : vp_in (ix + 1) L ∧ xs (ix + 1).toNatClampNeg = a1) (hi2 : vp_in (ix + 2) L ∧ xs (ix + 2).toNatClampNeg = a2) (hi3 : vp_in (ix + 3) L ∧ xs (ix + 3).toNatClampNeg = a3) (hi4 : vp_in (ix + 4) L ∧ xs (ix + 4).toNatClampNeg = a4) (hroom : kc + 15 ≤ room_1.cells ∧ ks + 524 ≤ room_1.slots)
    (kk : ∀ (u : (Nat → Int64)) (u' : Int64 × Int64) (H1 : Heap) (locs1 : List Loc), PP u u'.1 u'.2 → PD A dC dI ([((h 0), .inr (0, [.ref (h 1), .ref (h 3), .ref (h 9), .ref (h 17), .ref (h 10), .ref (h 11), .int steps, .int draw, .ref (h 12), .int typed, .int at_, .ref (h 5), .ref (h 13), .ref (h 14), .int isImage, .ref (h 7), .ref (h 15), .ref (h 18), .int idraw, .ref (h 19), .ref (h 16)])), ((h 1), .inr (1, [.ref (h 2), .long gro, .int grt])), ((h 2), .inl (dA 0, 36, .inl gd)), ((h 3), .inr (1, [.ref (h 4), .long tro, .int trt])), ((h 4), .inl (dA 0, 36, .inl td)), ((h 5), .inr (1, [.ref (h 6), .long rro, .int rrt])), ((h 6), .inl (dA 0, 36, .inl rd)), ((h 7), .inr (1, [.ref (h 8), .long imro, .int imrt])), ((h 8), .inl (dA 0, 36, .inl imd)), ((h 9), .inl (dA 0, 36, .inl owners)), ((h 10), .inl (dA 1, 8, .inl tour)), ((h 11), .inl (dA 1, 8, .inl best)), ((h 12), .inl (dA 0, 160, .inl tape)), ((h 13), .inl (dA 0, 36, .inl signs)), ((h 14), .inl (dA 0, 320, .inl acts)), ((h 15), .inl (dA 0, 36, .inl iown)), ((h 16), .inl (dA 2, 36, .inr (.inl u))), ((h 19), .inl (dA 5, 4, .inr (.inr (.inr (.inr shf))))), (hd, .inr (2, [.ref ra])), (ra, .inl (dA 3, rn, .inl rf))] ++ ((wM hm dA m_depths m_owners m_roofs m_rate m_undos m_undoMany m_drawn u'.1 u'.2 m_holes m_holeMany m_tape m_taped m_place m_reads m_read_ m_row m_order m_bestOrder m_nears m_isKept m_keptRoofs m_kept m_lanes m_rowSizes m_items m_moved) ++ wr)) H1 → va_S A s.heap H1 locs1 → W p l e room_1 s m #[Value.ref b] below meth c H1 locs1 (kc + 15) (ks + 524) Q (F0 m 1349 ls [])) : W p l e room_1 s m #[Value.ref b] below meth c H locs kc ks Q (F0 m 1084 ls []) := by
  obtain ⟨S, hX, hbl, hbA, hK, hE, hA, hfl⟩ := hC
  obtain ⟨hP, hD⟩ := hPD
  refine lv_aload_n S.1 S.2.1 dL_law_1084 rfl (lv_at hl 1 rfl) ?_
  refine lv_aload_n S.1 S.2.1 dL_law_1085 rfl (lv_at hl 0 rfl) ?_
  refine lv_iload_n S.1 S.2.1 dL_law_1086 rfl (lv_at hl 3 rfl) ?_
  refine lv_iconst (v := 1) S.1 S.2.1 dL_law_1087 (by decide) ?_
  refine lv_iadd S.1 S.2.1 dL_law_1088 ?_
  refine sldE S.1 S.2.1 hX hbl hbA hS hi1 dL_law_1089 ?_
  refine lv_aload_n S.1 S.2.1 dL_law_1090 rfl (lv_at hl 0 rfl) ?_
  refine lv_iload_n S.1 S.2.1 dL_law_1091 rfl (lv_at hl 3 rfl) ?_
  refine lv_iconst (v := 2) S.1 S.2.1 dL_law_1092 (by decide) ?_
  refine lv_iadd S.1 S.2.1 dL_law_1093 ?_
  refine sldE S.1 S.2.1 hX hbl hbA hS hi2 dL_law_1094 ?_
  refine lv_aload_n S.1 S.2.1 dL_law_1095 rfl (lv_at hl 0 rfl) ?_
  refine lv_iload_n S.1 S.2.1 dL_law_1096 rfl (lv_at hl 3 rfl) ?_
  refine lv_iconst (v := 3) S.1 S.2.1 dL_law_1097 (by decide) ?_
  refine lv_iadd S.1 S.2.1 dL_law_1098 ?_
  refine sldE S.1 S.2.1 hX hbl hbA hS hi3 dL_law_1099 ?_
  refine lv_aload_n S.1 S.2.1 dL_law_1100 rfl (lv_at hl 0 rfl) ?_
  refine lv_iload_n S.1 S.2.1 dL_law_1101 rfl (lv_at hl 3 rfl) ?_
  refine lv_iconst (v := 4) S.1 S.2.1 dL_law_1102 (by decide) ?_
  refine lv_iadd S.1 S.2.1 dL_law_1103 ?_
  refine sldE S.1 S.2.1 hX hbl hbA hS hi4 dL_law_1104 ?_
  refine sC_i hP hD hS hA (va_runV (As := [.int a1, .int a2, .int a3, .int a4]) (rest := []) S (metX0_miscounted_S l hfl hf) (cwV 4 S.2.2.2.2 (lw_V q1040 q1041 q1042 q54 q1043) rfl rfl rfl ⟨rfl, pdX0_miscounted⟩ ⟨Nat.le_of_ble_eq_true rfl, Nat.le_of_ble_eq_true rfl⟩) ⟨ablind, va_recv hK hP (ci := 0) (q0 := 0) rfl rfl, (spre hK hE hP hD hS hA).2⟩ rfl rfl hl.1 rfl (lv_room (Nat.le_of_ble_eq_true rfl)) dL_law_1105 hroom) (fun r u H locs hf hP hD hS => ?_)
  have hP := hP.perm permM
  have hD := hD.perm permM
  refine lv_aload_n S.1 S.2.1 dL_law_1108 rfl (lv_at hl 2 rfl) ?_
  refine lv_aload_n S.1 S.2.1 dL_law_1109 rfl (lv_at hl 0 rfl) ?_
  refine lv_iload_n S.1 S.2.1 dL_law_1110 rfl (lv_at hl 3 rfl) ?_
  refine lv_iconst (v := 1) S.1 S.2.1 dL_law_1111 (by decide) ?_
  refine lv_iadd S.1 S.2.1 dL_law_1112 ?_
  refine sldE S.1 S.2.1 hX hbl hbA hS hi1 dL_law_1113 ?_
  refine lv_aload_n S.1 S.2.1 dL_law_1114 rfl (lv_at hl 0 rfl) ?_
  refine lv_iload_n S.1 S.2.1 dL_law_1115 rfl (lv_at hl 3 rfl) ?_
  refine lv_iconst (v := 2) S.1 S.2.1 dL_law_1116 (by decide) ?_
  refine lv_iadd S.1 S.2.1 dL_law_1117 ?_
  refine sldE S.1 S.2.1 hX hbl hbA hS hi2 dL_law_1118 ?_
  refine lv_aload_n S.1 S.2.1 dL_law_1119 rfl (lv_at hl 0 rfl) ?_
  refine lv_iload_n S.1 S.2.1 dL_law_1120 rfl (lv_at hl 3 rfl) ?_
  refine lv_iconst (v := 3) S.1 S.2.1 dL_law_1121 (by decide) ?_
  refine lv_iadd S.1 S.2.1 dL_law_1122 ?_
  refine sldE S.1 S.2.1 hX hbl hbA hS hi3 dL_law_1123 ?_
  refine lv_aload_n S.1 S.2.1 dL_law_1124 rfl (lv_at hl 0 rfl) ?_
  refine lv_iload_n S.1 S.2.1 dL_law_1125 rfl (lv_at hl 3 rfl) ?_
  refine lv_iconst (v := 4) S.1 S.2.1 dL_law_1126 (by decide) ?_
  refine lv_iadd S.1 S.2.1 dL_law_1127 ?_
  refine sldE S.1 S.2.1 hX hbl hbA hS hi4 dL_law_1128 ?_
  refine sM_i (As := [.int a1, .int a2, .int a3, .int a4]) (rest := [.int r]) S hK rfl rfl (fun _ => rfl) hP hD hS (metX3_miscounted l hj hf) (lw_V q1593 q1594 q1595 q60 q1596) rfl pdX3_miscounted ⟨rfl, rfl⟩ ⟨Nat.le_of_ble_eq_true rfl, Nat.le_of_ble_eq_true rfl⟩ rfl hl.1 rfl (Nat.le_of_ble_eq_true rfl) dL_law_1129 hroom (fun r' u' H locs hf hP hD hS => ?_)
  obtain ⟨e1, hf⟩ := hf
  refine lv_icmp_eq (tgt := 1349) S.1 S.2.1 dL_law_1132 (by decide) (fun c_1 => ?_) (fun c_1 => ?_)
  · exact kk u u' H locs hf ⟨hP.perm permN, hD.perm permN⟩ hS
  · exact absurd e1 c_1
set_option maxHeartbeats 4000000 in
set_option maxRecDepth 100000 in
theorem lo_miscounted_I (hC : LC p l s m c b L xs A dC dI dA eA mi) (hj : mJ hm) {steps : Int32} {draw : Int32} {typed : Int32} {at_ : Int32} {isImage : Int32} {idraw : Int32} {gd : (Nat → Int32)} {gro : Int64} {grt : Int32} {td : (Nat → Int32)} {tro : Int64} {trt : Int32} {rd : (Nat → Int32)} {rro : Int64} {rrt : Int32} {imd : (Nat → Int32)} {imro : Int64} {imrt : Int32} {owners : (Nat → Int32)} {tour : (Nat → Int32)} {best : (Nat → Int32)} {tape : (Nat → Int32)} {signs : (Nat → Int32)} {acts : (Nat → Int32)} {iown : (Nat → Int32)} {taken : (Nat → Int64)} {shf : (Nat → Option Nat)} {hd : Nat} {rn : Nat} {rf : (Nat → Int32)} {ra : Nat} {m_depths : (Nat → Int32)} {m_owners : (Nat → Int32)} {m_roofs : Int64} {m_rate : Int32} {m_undos : (Nat → Int32)} {m_undoMany : Int32} {m_drawn : Int32} {m_dug : Int64} {m_deep : Int64} {m_holes : (Nat → Int64)} {m_holeMany : Int32} {m_tape : (Nat → Int32)} {m_taped : Int32} {m_place : Int32} {m_reads : Int32} {m_read_ : (Nat → Int32)} {m_row : (Nat → Int32)} {m_order : (Nat → Int32)} {m_bestOrder : (Nat → Int32)} {m_nears : (Nat → Int32)} {m_isKept : Int32} {m_keptRoofs : Int64} {m_kept : (Nat → Int32)} {m_lanes : (Nat → Int32)} {m_rowSizes : (Nat → Int32)} {m_items : (Nat → Int64)} {m_moved : (Nat → Int64)} {PP : (Nat → Int64) → (Int64) → (Int64) → Prop} (hf : wX0_miscounted_I (fun r p0 => wX3_miscounted (fun r' q0 q1 => r = r' ∧ PP p0 q0 q1) m_depths m_dug m_deep m_lanes m_rowSizes m_items a1 a2 a3 a4) gd gro grt taken shf hd rn rf a1 a2 a3 a4) (hPD : PD A dC dI ([((h 0), .inr (0, [.ref (h 1), .ref (h 3), .ref (h 9), .ref (h 17), .ref (h 10), .ref (h 11), .int steps, .int draw, .ref (h 12), .int typed, .int at_, .ref (h 5), .ref (h 13), .ref (h 14), .int isImage, .ref (h 7), .ref (h 15), .ref (h 18), .int idraw, .ref (h 19), .ref (h 16)])), ((h 1), .inr (1, [.ref (h 2), .long gro, .int grt])), ((h 2), .inl (dA 0, 36, .inl gd)), ((h 3), .inr (1, [.ref (h 4), .long tro, .int trt])), ((h 4), .inl (dA 0, 36, .inl td)), ((h 5), .inr (1, [.ref (h 6), .long rro, .int rrt])), ((h 6), .inl (dA 0, 36, .inl rd)), ((h 7), .inr (1, [.ref (h 8), .long imro, .int imrt])), ((h 8), .inl (dA 0, 36, .inl imd)), ((h 9), .inl (dA 0, 36, .inl owners)), ((h 10), .inl (dA 1, 8, .inl tour)), ((h 11), .inl (dA 1, 8, .inl best)), ((h 12), .inl (dA 0, 160, .inl tape)), ((h 13), .inl (dA 0, 36, .inl signs)), ((h 14), .inl (dA 0, 320, .inl acts)), ((h 15), .inl (dA 0, 36, .inl iown)), ((h 16), .inl (dA 2, 36, .inr (.inl taken))), ((h 19), .inl (dA 5, 4, .inr (.inr (.inr (.inr shf))))), (hd, .inr (2, [.ref ra])), (ra, .inl (dA 1, rn, .inl rf))] ++ ((wM hm dA m_depths m_owners m_roofs m_rate m_undos m_undoMany m_drawn m_dug m_deep m_holes m_holeMany m_tape m_taped m_place m_reads m_read_ m_row m_order m_bestOrder m_nears m_isKept m_keptRoofs m_kept m_lanes m_rowSizes m_items m_moved) ++ wr)) H) (hS : va_S A s.heap H locs) (hl : lv_has ls 4 [(0, .ref b), (1, .ref (h 0)), (2, .ref (hm 0)), (3, .int ix)]) (hi1 : vp_in (ix + 1) L ∧ xs (ix + 1).toNatClampNeg = a1) (hi2 : vp_in (ix + 2) L ∧ xs (ix + 2).toNatClampNeg = a2) (hi3 : vp_in (ix + 3) L ∧ xs (ix + 3).toNatClampNeg = a3) (hi4 : vp_in (ix + 4) L ∧ xs (ix + 4).toNatClampNeg = a4) (hroom : kc + 15 ≤ room_1.cells ∧ ks + 524 ≤ room_1.slots)
    (kk : ∀ (u : (Nat → Int64)) (u' : Int64 × Int64) (H1 : Heap) (locs1 : List Loc), PP u u'.1 u'.2 → PD A dC dI ([((h 0), .inr (0, [.ref (h 1), .ref (h 3), .ref (h 9), .ref (h 17), .ref (h 10), .ref (h 11), .int steps, .int draw, .ref (h 12), .int typed, .int at_, .ref (h 5), .ref (h 13), .ref (h 14), .int isImage, .ref (h 7), .ref (h 15), .ref (h 18), .int idraw, .ref (h 19), .ref (h 16)])), ((h 1), .inr (1, [.ref (h 2), .long gro, .int grt])), ((h 2), .inl (dA 0, 36, .inl gd)), ((h 3), .inr (1, [.ref (h 4), .long tro, .int trt])), ((h 4), .inl (dA 0, 36, .inl td)), ((h 5), .inr (1, [.ref (h 6), .long rro, .int rrt])), ((h 6), .inl (dA 0, 36, .inl rd)), ((h 7), .inr (1, [.ref (h 8), .long imro, .int imrt])), ((h 8), .inl (dA 0, 36, .inl imd)), ((h 9), .inl (dA 0, 36, .inl owners)), ((h 10), .inl (dA 1, 8, .inl tour)), ((h 11), .inl (dA 1, 8, .inl best)), ((h 12), .inl (dA 0, 160, .inl tape)), ((h 13), .inl (dA 0, 36, .inl signs)), ((h 14), .inl (dA 0, 320, .inl acts)), ((h 15), .inl (dA 0, 36, .inl iown)), ((h 16), .inl (dA 2, 36, .inr (.inl u))), ((h 19), .inl (dA 5, 4, .inr (.inr (.inr (.inr shf))))), (hd, .inr (2, [.ref ra])), (ra, .inl (dA 1, rn, .inl rf))] ++ ((wM hm dA m_depths m_owners m_roofs m_rate m_undos m_undoMany m_drawn u'.1 u'.2 m_holes m_holeMany m_tape m_taped m_place m_reads m_read_ m_row m_order m_bestOrder m_nears m_isKept m_keptRoofs m_kept m_lanes m_rowSizes m_items m_moved) ++ wr)) H1 → va_S A s.heap H1 locs1 → W p l e room_1 s m #[Value.ref b] below meth c H1 locs1 (kc + 15) (ks + 524) Q (F0 m 1349 ls [])) : W p l e room_1 s m #[Value.ref b] below meth c H locs kc ks Q (F0 m 1084 ls []) := by
  obtain ⟨S, hX, hbl, hbA, hK, hE, hA, hfl⟩ := hC
  obtain ⟨hP, hD⟩ := hPD
  refine lv_aload_n S.1 S.2.1 dL_law_1084 rfl (lv_at hl 1 rfl) ?_
  refine lv_aload_n S.1 S.2.1 dL_law_1085 rfl (lv_at hl 0 rfl) ?_
  refine lv_iload_n S.1 S.2.1 dL_law_1086 rfl (lv_at hl 3 rfl) ?_
  refine lv_iconst (v := 1) S.1 S.2.1 dL_law_1087 (by decide) ?_
  refine lv_iadd S.1 S.2.1 dL_law_1088 ?_
  refine sldE S.1 S.2.1 hX hbl hbA hS hi1 dL_law_1089 ?_
  refine lv_aload_n S.1 S.2.1 dL_law_1090 rfl (lv_at hl 0 rfl) ?_
  refine lv_iload_n S.1 S.2.1 dL_law_1091 rfl (lv_at hl 3 rfl) ?_
  refine lv_iconst (v := 2) S.1 S.2.1 dL_law_1092 (by decide) ?_
  refine lv_iadd S.1 S.2.1 dL_law_1093 ?_
  refine sldE S.1 S.2.1 hX hbl hbA hS hi2 dL_law_1094 ?_
  refine lv_aload_n S.1 S.2.1 dL_law_1095 rfl (lv_at hl 0 rfl) ?_
  refine lv_iload_n S.1 S.2.1 dL_law_1096 rfl (lv_at hl 3 rfl) ?_
  refine lv_iconst (v := 3) S.1 S.2.1 dL_law_1097 (by decide) ?_
  refine lv_iadd S.1 S.2.1 dL_law_1098 ?_
  refine sldE S.1 S.2.1 hX hbl hbA hS hi3 dL_law_1099 ?_
  refine lv_aload_n S.1 S.2.1 dL_law_1100 rfl (lv_at hl 0 rfl) ?_
  refine lv_iload_n S.1 S.2.1 dL_law_1101 rfl (lv_at hl 3 rfl) ?_
  refine lv_iconst (v := 4) S.1 S.2.1 dL_law_1102 (by decide) ?_
  refine lv_iadd S.1 S.2.1 dL_law_1103 ?_
  refine sldE S.1 S.2.1 hX hbl hbA hS hi4 dL_law_1104 ?_
  refine sC_i hP hD hS hA (va_runV (As := [.int a1, .int a2, .int a3, .int a4]) (rest := []) S (metX0_miscounted_I l hfl hf) (cwV 4 S.2.2.2.2 (lw_V q1040 q1041 q1042 q54 q1043) rfl rfl rfl ⟨rfl, pdX0_miscounted⟩ ⟨Nat.le_of_ble_eq_true rfl, Nat.le_of_ble_eq_true rfl⟩) ⟨ablind, va_recv hK hP (ci := 0) (q0 := 0) rfl rfl, (spre hK hE hP hD hS hA).2⟩ rfl rfl hl.1 rfl (lv_room (Nat.le_of_ble_eq_true rfl)) dL_law_1105 hroom) (fun r u H locs hf hP hD hS => ?_)
  have hP := hP.perm permM
  have hD := hD.perm permM
  refine lv_aload_n S.1 S.2.1 dL_law_1108 rfl (lv_at hl 2 rfl) ?_
  refine lv_aload_n S.1 S.2.1 dL_law_1109 rfl (lv_at hl 0 rfl) ?_
  refine lv_iload_n S.1 S.2.1 dL_law_1110 rfl (lv_at hl 3 rfl) ?_
  refine lv_iconst (v := 1) S.1 S.2.1 dL_law_1111 (by decide) ?_
  refine lv_iadd S.1 S.2.1 dL_law_1112 ?_
  refine sldE S.1 S.2.1 hX hbl hbA hS hi1 dL_law_1113 ?_
  refine lv_aload_n S.1 S.2.1 dL_law_1114 rfl (lv_at hl 0 rfl) ?_
  refine lv_iload_n S.1 S.2.1 dL_law_1115 rfl (lv_at hl 3 rfl) ?_
  refine lv_iconst (v := 2) S.1 S.2.1 dL_law_1116 (by decide) ?_
  refine lv_iadd S.1 S.2.1 dL_law_1117 ?_
  refine sldE S.1 S.2.1 hX hbl hbA hS hi2 dL_law_1118 ?_
  refine lv_aload_n S.1 S.2.1 dL_law_1119 rfl (lv_at hl 0 rfl) ?_
  refine lv_iload_n S.1 S.2.1 dL_law_1120 rfl (lv_at hl 3 rfl) ?_
  refine lv_iconst (v := 3) S.1 S.2.1 dL_law_1121 (by decide) ?_
  refine lv_iadd S.1 S.2.1 dL_law_1122 ?_
  refine sldE S.1 S.2.1 hX hbl hbA hS hi3 dL_law_1123 ?_
  refine lv_aload_n S.1 S.2.1 dL_law_1124 rfl (lv_at hl 0 rfl) ?_
  refine lv_iload_n S.1 S.2.1 dL_law_1125 rfl (lv_at hl 3 rfl) ?_
  refine lv_iconst (v := 4) S.1 S.2.1 dL_law_1126 (by decide) ?_
  refine lv_iadd S.1 S.2.1 dL_law_1127 ?_
  refine sldE S.1 S.2.1 hX hbl hbA hS hi4 dL_law_1128 ?_
  refine sM_i (As := [.int a1, .int a2, .int a3, .int a4]) (rest := [.int r]) S hK rfl rfl (fun _ => rfl) hP hD hS (metX3_miscounted l hj hf) (lw_V q1593 q1594 q1595 q60 q1596) rfl pdX3_miscounted ⟨rfl, rfl⟩ ⟨Nat.le_of_ble_eq_true rfl, Nat.le_of_ble_eq_true rfl⟩ rfl hl.1 rfl (Nat.le_of_ble_eq_true rfl) dL_law_1129 hroom (fun r' u' H locs hf hP hD hS => ?_)
  obtain ⟨e1, hf⟩ := hf
  refine lv_icmp_eq (tgt := 1349) S.1 S.2.1 dL_law_1132 (by decide) (fun c_1 => ?_) (fun c_1 => ?_)
  · exact kk u u' H locs hf ⟨hP.perm permN, hD.perm permN⟩ hS
  · exact absurd e1 c_1
set_option maxHeartbeats 4000000 in
set_option maxRecDepth 100000 in
theorem lo_miscounted_J (hC : LC p l s m c b L xs A dC dI dA eA mi) (hj : mJ hm) {steps : Int32} {draw : Int32} {typed : Int32} {at_ : Int32} {isImage : Int32} {idraw : Int32} {gd : (Nat → Int32)} {gro : Int64} {grt : Int32} {td : (Nat → Int32)} {tro : Int64} {trt : Int32} {rd : (Nat → Int32)} {rro : Int64} {rrt : Int32} {imd : (Nat → Int32)} {imro : Int64} {imrt : Int32} {owners : (Nat → Int32)} {tour : (Nat → Int32)} {best : (Nat → Int32)} {tape : (Nat → Int32)} {signs : (Nat → Int32)} {acts : (Nat → Int32)} {iown : (Nat → Int32)} {taken : (Nat → Int64)} {shf : (Nat → Option Nat)} {hd : Nat} {rn : Nat} {rf : (Nat → Int64)} {ra : Nat} {m_depths : (Nat → Int32)} {m_owners : (Nat → Int32)} {m_roofs : Int64} {m_rate : Int32} {m_undos : (Nat → Int32)} {m_undoMany : Int32} {m_drawn : Int32} {m_dug : Int64} {m_deep : Int64} {m_holes : (Nat → Int64)} {m_holeMany : Int32} {m_tape : (Nat → Int32)} {m_taped : Int32} {m_place : Int32} {m_reads : Int32} {m_read_ : (Nat → Int32)} {m_row : (Nat → Int32)} {m_order : (Nat → Int32)} {m_bestOrder : (Nat → Int32)} {m_nears : (Nat → Int32)} {m_isKept : Int32} {m_keptRoofs : Int64} {m_kept : (Nat → Int32)} {m_lanes : (Nat → Int32)} {m_rowSizes : (Nat → Int32)} {m_items : (Nat → Int64)} {m_moved : (Nat → Int64)} {PP : (Nat → Int64) → (Int64) → (Int64) → Prop} (hf : wX0_miscounted_J (fun r p0 => wX3_miscounted (fun r' q0 q1 => r = r' ∧ PP p0 q0 q1) m_depths m_dug m_deep m_lanes m_rowSizes m_items a1 a2 a3 a4) gd gro grt taken shf hd rn rf a1 a2 a3 a4) (hPD : PD A dC dI ([((h 0), .inr (0, [.ref (h 1), .ref (h 3), .ref (h 9), .ref (h 17), .ref (h 10), .ref (h 11), .int steps, .int draw, .ref (h 12), .int typed, .int at_, .ref (h 5), .ref (h 13), .ref (h 14), .int isImage, .ref (h 7), .ref (h 15), .ref (h 18), .int idraw, .ref (h 19), .ref (h 16)])), ((h 1), .inr (1, [.ref (h 2), .long gro, .int grt])), ((h 2), .inl (dA 0, 36, .inl gd)), ((h 3), .inr (1, [.ref (h 4), .long tro, .int trt])), ((h 4), .inl (dA 0, 36, .inl td)), ((h 5), .inr (1, [.ref (h 6), .long rro, .int rrt])), ((h 6), .inl (dA 0, 36, .inl rd)), ((h 7), .inr (1, [.ref (h 8), .long imro, .int imrt])), ((h 8), .inl (dA 0, 36, .inl imd)), ((h 9), .inl (dA 0, 36, .inl owners)), ((h 10), .inl (dA 1, 8, .inl tour)), ((h 11), .inl (dA 1, 8, .inl best)), ((h 12), .inl (dA 0, 160, .inl tape)), ((h 13), .inl (dA 0, 36, .inl signs)), ((h 14), .inl (dA 0, 320, .inl acts)), ((h 15), .inl (dA 0, 36, .inl iown)), ((h 16), .inl (dA 2, 36, .inr (.inl taken))), ((h 19), .inl (dA 5, 4, .inr (.inr (.inr (.inr shf))))), (hd, .inr (2, [.ref ra])), (ra, .inl (dA 2, rn, .inr (.inl rf)))] ++ ((wM hm dA m_depths m_owners m_roofs m_rate m_undos m_undoMany m_drawn m_dug m_deep m_holes m_holeMany m_tape m_taped m_place m_reads m_read_ m_row m_order m_bestOrder m_nears m_isKept m_keptRoofs m_kept m_lanes m_rowSizes m_items m_moved) ++ wr)) H) (hS : va_S A s.heap H locs) (hl : lv_has ls 4 [(0, .ref b), (1, .ref (h 0)), (2, .ref (hm 0)), (3, .int ix)]) (hi1 : vp_in (ix + 1) L ∧ xs (ix + 1).toNatClampNeg = a1) (hi2 : vp_in (ix + 2) L ∧ xs (ix + 2).toNatClampNeg = a2) (hi3 : vp_in (ix + 3) L ∧ xs (ix + 3).toNatClampNeg = a3) (hi4 : vp_in (ix + 4) L ∧ xs (ix + 4).toNatClampNeg = a4) (hroom : kc + 15 ≤ room_1.cells ∧ ks + 524 ≤ room_1.slots)
    (kk : ∀ (u : (Nat → Int64)) (u' : Int64 × Int64) (H1 : Heap) (locs1 : List Loc), PP u u'.1 u'.2 → PD A dC dI ([((h 0), .inr (0, [.ref (h 1), .ref (h 3), .ref (h 9), .ref (h 17), .ref (h 10), .ref (h 11), .int steps, .int draw, .ref (h 12), .int typed, .int at_, .ref (h 5), .ref (h 13), .ref (h 14), .int isImage, .ref (h 7), .ref (h 15), .ref (h 18), .int idraw, .ref (h 19), .ref (h 16)])), ((h 1), .inr (1, [.ref (h 2), .long gro, .int grt])), ((h 2), .inl (dA 0, 36, .inl gd)), ((h 3), .inr (1, [.ref (h 4), .long tro, .int trt])), ((h 4), .inl (dA 0, 36, .inl td)), ((h 5), .inr (1, [.ref (h 6), .long rro, .int rrt])), ((h 6), .inl (dA 0, 36, .inl rd)), ((h 7), .inr (1, [.ref (h 8), .long imro, .int imrt])), ((h 8), .inl (dA 0, 36, .inl imd)), ((h 9), .inl (dA 0, 36, .inl owners)), ((h 10), .inl (dA 1, 8, .inl tour)), ((h 11), .inl (dA 1, 8, .inl best)), ((h 12), .inl (dA 0, 160, .inl tape)), ((h 13), .inl (dA 0, 36, .inl signs)), ((h 14), .inl (dA 0, 320, .inl acts)), ((h 15), .inl (dA 0, 36, .inl iown)), ((h 16), .inl (dA 2, 36, .inr (.inl u))), ((h 19), .inl (dA 5, 4, .inr (.inr (.inr (.inr shf))))), (hd, .inr (2, [.ref ra])), (ra, .inl (dA 2, rn, .inr (.inl rf)))] ++ ((wM hm dA m_depths m_owners m_roofs m_rate m_undos m_undoMany m_drawn u'.1 u'.2 m_holes m_holeMany m_tape m_taped m_place m_reads m_read_ m_row m_order m_bestOrder m_nears m_isKept m_keptRoofs m_kept m_lanes m_rowSizes m_items m_moved) ++ wr)) H1 → va_S A s.heap H1 locs1 → W p l e room_1 s m #[Value.ref b] below meth c H1 locs1 (kc + 15) (ks + 524) Q (F0 m 1349 ls [])) : W p l e room_1 s m #[Value.ref b] below meth c H locs kc ks Q (F0 m 1084 ls []) := by
  obtain ⟨S, hX, hbl, hbA, hK, hE, hA, hfl⟩ := hC
  obtain ⟨hP, hD⟩ := hPD
  refine lv_aload_n S.1 S.2.1 dL_law_1084 rfl (lv_at hl 1 rfl) ?_
  refine lv_aload_n S.1 S.2.1 dL_law_1085 rfl (lv_at hl 0 rfl) ?_
  refine lv_iload_n S.1 S.2.1 dL_law_1086 rfl (lv_at hl 3 rfl) ?_
  refine lv_iconst (v := 1) S.1 S.2.1 dL_law_1087 (by decide) ?_
  refine lv_iadd S.1 S.2.1 dL_law_1088 ?_
  refine sldE S.1 S.2.1 hX hbl hbA hS hi1 dL_law_1089 ?_
  refine lv_aload_n S.1 S.2.1 dL_law_1090 rfl (lv_at hl 0 rfl) ?_
  refine lv_iload_n S.1 S.2.1 dL_law_1091 rfl (lv_at hl 3 rfl) ?_
  refine lv_iconst (v := 2) S.1 S.2.1 dL_law_1092 (by decide) ?_
  refine lv_iadd S.1 S.2.1 dL_law_1093 ?_
  refine sldE S.1 S.2.1 hX hbl hbA hS hi2 dL_law_1094 ?_
  refine lv_aload_n S.1 S.2.1 dL_law_1095 rfl (lv_at hl 0 rfl) ?_
  refine lv_iload_n S.1 S.2.1 dL_law_1096 rfl (lv_at hl 3 rfl) ?_
  refine lv_iconst (v := 3) S.1 S.2.1 dL_law_1097 (by decide) ?_
  refine lv_iadd S.1 S.2.1 dL_law_1098 ?_
  refine sldE S.1 S.2.1 hX hbl hbA hS hi3 dL_law_1099 ?_
  refine lv_aload_n S.1 S.2.1 dL_law_1100 rfl (lv_at hl 0 rfl) ?_
  refine lv_iload_n S.1 S.2.1 dL_law_1101 rfl (lv_at hl 3 rfl) ?_
  refine lv_iconst (v := 4) S.1 S.2.1 dL_law_1102 (by decide) ?_
  refine lv_iadd S.1 S.2.1 dL_law_1103 ?_
  refine sldE S.1 S.2.1 hX hbl hbA hS hi4 dL_law_1104 ?_
  refine sC_i hP hD hS hA (va_runV (As := [.int a1, .int a2, .int a3, .int a4]) (rest := []) S (metX0_miscounted_J l hfl hf) (cwV 4 S.2.2.2.2 (lw_V q1040 q1041 q1042 q54 q1043) rfl rfl rfl ⟨rfl, pdX0_miscounted⟩ ⟨Nat.le_of_ble_eq_true rfl, Nat.le_of_ble_eq_true rfl⟩) ⟨ablind, va_recv hK hP (ci := 0) (q0 := 0) rfl rfl, (spre hK hE hP hD hS hA).2⟩ rfl rfl hl.1 rfl (lv_room (Nat.le_of_ble_eq_true rfl)) dL_law_1105 hroom) (fun r u H locs hf hP hD hS => ?_)
  have hP := hP.perm permM
  have hD := hD.perm permM
  refine lv_aload_n S.1 S.2.1 dL_law_1108 rfl (lv_at hl 2 rfl) ?_
  refine lv_aload_n S.1 S.2.1 dL_law_1109 rfl (lv_at hl 0 rfl) ?_
  refine lv_iload_n S.1 S.2.1 dL_law_1110 rfl (lv_at hl 3 rfl) ?_
  refine lv_iconst (v := 1) S.1 S.2.1 dL_law_1111 (by decide) ?_
  refine lv_iadd S.1 S.2.1 dL_law_1112 ?_
  refine sldE S.1 S.2.1 hX hbl hbA hS hi1 dL_law_1113 ?_
  refine lv_aload_n S.1 S.2.1 dL_law_1114 rfl (lv_at hl 0 rfl) ?_
  refine lv_iload_n S.1 S.2.1 dL_law_1115 rfl (lv_at hl 3 rfl) ?_
  refine lv_iconst (v := 2) S.1 S.2.1 dL_law_1116 (by decide) ?_
  refine lv_iadd S.1 S.2.1 dL_law_1117 ?_
  refine sldE S.1 S.2.1 hX hbl hbA hS hi2 dL_law_1118 ?_
  refine lv_aload_n S.1 S.2.1 dL_law_1119 rfl (lv_at hl 0 rfl) ?_
  refine lv_iload_n S.1 S.2.1 dL_law_1120 rfl (lv_at hl 3 rfl) ?_
  refine lv_iconst (v := 3) S.1 S.2.1 dL_law_1121 (by decide) ?_
  refine lv_iadd S.1 S.2.1 dL_law_1122 ?_
  refine sldE S.1 S.2.1 hX hbl hbA hS hi3 dL_law_1123 ?_
  refine lv_aload_n S.1 S.2.1 dL_law_1124 rfl (lv_at hl 0 rfl) ?_
  refine lv_iload_n S.1 S.2.1 dL_law_1125 rfl (lv_at hl 3 rfl) ?_
  refine lv_iconst (v := 4) S.1 S.2.1 dL_law_1126 (by decide) ?_
  refine lv_iadd S.1 S.2.1 dL_law_1127 ?_
  refine sldE S.1 S.2.1 hX hbl hbA hS hi4 dL_law_1128 ?_
  refine sM_i (As := [.int a1, .int a2, .int a3, .int a4]) (rest := [.int r]) S hK rfl rfl (fun _ => rfl) hP hD hS (metX3_miscounted l hj hf) (lw_V q1593 q1594 q1595 q60 q1596) rfl pdX3_miscounted ⟨rfl, rfl⟩ ⟨Nat.le_of_ble_eq_true rfl, Nat.le_of_ble_eq_true rfl⟩ rfl hl.1 rfl (Nat.le_of_ble_eq_true rfl) dL_law_1129 hroom (fun r' u' H locs hf hP hD hS => ?_)
  obtain ⟨e1, hf⟩ := hf
  refine lv_icmp_eq (tgt := 1349) S.1 S.2.1 dL_law_1132 (by decide) (fun c_1 => ?_) (fun c_1 => ?_)
  · exact kk u u' H locs hf ⟨hP.perm permN, hD.perm permN⟩ hS
  · exact absurd e1 c_1
set_option maxHeartbeats 4000000 in
set_option maxRecDepth 100000 in
theorem lo_sheet_n (hC : LC p l s m c b L xs A dC dI dA eA mi) (hj : mJ hm) {steps : Int32} {draw : Int32} {typed : Int32} {at_ : Int32} {isImage : Int32} {idraw : Int32} {gd : (Nat → Int32)} {gro : Int64} {grt : Int32} {td : (Nat → Int32)} {tro : Int64} {trt : Int32} {rd : (Nat → Int32)} {rro : Int64} {rrt : Int32} {imd : (Nat → Int32)} {imro : Int64} {imrt : Int32} {owners : (Nat → Int32)} {tour : (Nat → Int32)} {best : (Nat → Int32)} {tape : (Nat → Int32)} {signs : (Nat → Int32)} {acts : (Nat → Int32)} {iown : (Nat → Int32)} {taken : (Nat → Int64)} {shf : (Nat → Option Nat)} {hd : Nat} {v0 : Value} {m_depths : (Nat → Int32)} {m_owners : (Nat → Int32)} {m_roofs : Int64} {m_rate : Int32} {m_undos : (Nat → Int32)} {m_undoMany : Int32} {m_drawn : Int32} {m_dug : Int64} {m_deep : Int64} {m_holes : (Nat → Int64)} {m_holeMany : Int32} {m_tape : (Nat → Int32)} {m_taped : Int32} {m_place : Int32} {m_reads : Int32} {m_read_ : (Nat → Int32)} {m_row : (Nat → Int32)} {m_order : (Nat → Int32)} {m_bestOrder : (Nat → Int32)} {m_nears : (Nat → Int32)} {m_isKept : Int32} {m_keptRoofs : Int64} {m_kept : (Nat → Int32)} {m_lanes : (Nat → Int32)} {m_rowSizes : (Nat → Int32)} {m_items : (Nat → Int64)} {m_moved : (Nat → Int64)} {PP : (Nat → Int32) → (Nat → Int32) → (Nat → Int64) → Prop} (hf : wX0_sheet_n (fun r => wX3_sheet (fun r' q0 q1 q2 => r = r' ∧ PP q0 q1 q2) m_lanes m_rowSizes m_items a1 a2 a3) shf hd a1 a2 a3) (hPD : PD A dC dI ([((h 0), .inr (0, [.ref (h 1), .ref (h 3), .ref (h 9), .ref (h 17), .ref (h 10), .ref (h 11), .int steps, .int draw, .ref (h 12), .int typed, .int at_, .ref (h 5), .ref (h 13), .ref (h 14), .int isImage, .ref (h 7), .ref (h 15), .ref (h 18), .int idraw, .ref (h 19), .ref (h 16)])), ((h 1), .inr (1, [.ref (h 2), .long gro, .int grt])), ((h 2), .inl (dA 0, 36, .inl gd)), ((h 3), .inr (1, [.ref (h 4), .long tro, .int trt])), ((h 4), .inl (dA 0, 36, .inl td)), ((h 5), .inr (1, [.ref (h 6), .long rro, .int rrt])), ((h 6), .inl (dA 0, 36, .inl rd)), ((h 7), .inr (1, [.ref (h 8), .long imro, .int imrt])), ((h 8), .inl (dA 0, 36, .inl imd)), ((h 9), .inl (dA 0, 36, .inl owners)), ((h 10), .inl (dA 1, 8, .inl tour)), ((h 11), .inl (dA 1, 8, .inl best)), ((h 12), .inl (dA 0, 160, .inl tape)), ((h 13), .inl (dA 0, 36, .inl signs)), ((h 14), .inl (dA 0, 320, .inl acts)), ((h 15), .inl (dA 0, 36, .inl iown)), ((h 16), .inl (dA 2, 36, .inr (.inl taken))), ((h 19), .inl (dA 5, 4, .inr (.inr (.inr (.inr shf))))), (hd, .inr (2, [v0]))] ++ ((wM hm dA m_depths m_owners m_roofs m_rate m_undos m_undoMany m_drawn m_dug m_deep m_holes m_holeMany m_tape m_taped m_place m_reads m_read_ m_row m_order m_bestOrder m_nears m_isKept m_keptRoofs m_kept m_lanes m_rowSizes m_items m_moved) ++ wr)) H) (hS : va_S A s.heap H locs) (hl : lv_has ls 4 [(0, .ref b), (1, .ref (h 0)), (2, .ref (hm 0)), (3, .int ix)]) (hi1 : vp_in (ix + 1) L ∧ xs (ix + 1).toNatClampNeg = a1) (hi2 : vp_in (ix + 2) L ∧ xs (ix + 2).toNatClampNeg = a2) (hi3 : vp_in (ix + 3) L ∧ xs (ix + 3).toNatClampNeg = a3) (hroom : kc + 3 ≤ room_1.cells ∧ ks + 500 ≤ room_1.slots)
    (kk : ∀ (u : Unit) (u' : (Nat → Int32) × (Nat → Int32) × (Nat → Int64)) (H1 : Heap) (locs1 : List Loc), PP u'.1 u'.2.1 u'.2.2 → PD A dC dI ([((h 0), .inr (0, [.ref (h 1), .ref (h 3), .ref (h 9), .ref (h 17), .ref (h 10), .ref (h 11), .int steps, .int draw, .ref (h 12), .int typed, .int at_, .ref (h 5), .ref (h 13), .ref (h 14), .int isImage, .ref (h 7), .ref (h 15), .ref (h 18), .int idraw, .ref (h 19), .ref (h 16)])), ((h 1), .inr (1, [.ref (h 2), .long gro, .int grt])), ((h 2), .inl (dA 0, 36, .inl gd)), ((h 3), .inr (1, [.ref (h 4), .long tro, .int trt])), ((h 4), .inl (dA 0, 36, .inl td)), ((h 5), .inr (1, [.ref (h 6), .long rro, .int rrt])), ((h 6), .inl (dA 0, 36, .inl rd)), ((h 7), .inr (1, [.ref (h 8), .long imro, .int imrt])), ((h 8), .inl (dA 0, 36, .inl imd)), ((h 9), .inl (dA 0, 36, .inl owners)), ((h 10), .inl (dA 1, 8, .inl tour)), ((h 11), .inl (dA 1, 8, .inl best)), ((h 12), .inl (dA 0, 160, .inl tape)), ((h 13), .inl (dA 0, 36, .inl signs)), ((h 14), .inl (dA 0, 320, .inl acts)), ((h 15), .inl (dA 0, 36, .inl iown)), ((h 16), .inl (dA 2, 36, .inr (.inl taken))), ((h 19), .inl (dA 5, 4, .inr (.inr (.inr (.inr shf))))), (hd, .inr (2, [v0]))] ++ ((wM hm dA m_depths m_owners m_roofs m_rate m_undos m_undoMany m_drawn m_dug m_deep m_holes m_holeMany m_tape m_taped m_place m_reads m_read_ m_row m_order m_bestOrder m_nears m_isKept m_keptRoofs m_kept u'.1 u'.2.1 u'.2.2 m_moved) ++ wr)) H1 → va_S A s.heap H1 locs1 → W p l e room_1 s m #[Value.ref b] below meth c H1 locs1 (kc + 3) (ks + 500) Q (F0 m 1349 ls [])) : W p l e room_1 s m #[Value.ref b] below meth c H locs kc ks Q (F0 m 1137 ls []) := by
  obtain ⟨S, hX, hbl, hbA, hK, hE, hA, hfl⟩ := hC
  obtain ⟨hP, hD⟩ := hPD
  refine lv_aload_n S.1 S.2.1 dL_law_1137 rfl (lv_at hl 1 rfl) ?_
  refine lv_aload_n S.1 S.2.1 dL_law_1138 rfl (lv_at hl 0 rfl) ?_
  refine lv_iload_n S.1 S.2.1 dL_law_1139 rfl (lv_at hl 3 rfl) ?_
  refine lv_iconst (v := 1) S.1 S.2.1 dL_law_1140 (by decide) ?_
  refine lv_iadd S.1 S.2.1 dL_law_1141 ?_
  refine sldE S.1 S.2.1 hX hbl hbA hS hi1 dL_law_1142 ?_
  refine lv_aload_n S.1 S.2.1 dL_law_1143 rfl (lv_at hl 0 rfl) ?_
  refine lv_iload_n S.1 S.2.1 dL_law_1144 rfl (lv_at hl 3 rfl) ?_
  refine lv_iconst (v := 2) S.1 S.2.1 dL_law_1145 (by decide) ?_
  refine lv_iadd S.1 S.2.1 dL_law_1146 ?_
  refine sldE S.1 S.2.1 hX hbl hbA hS hi2 dL_law_1147 ?_
  refine lv_aload_n S.1 S.2.1 dL_law_1148 rfl (lv_at hl 0 rfl) ?_
  refine lv_iload_n S.1 S.2.1 dL_law_1149 rfl (lv_at hl 3 rfl) ?_
  refine lv_iconst (v := 3) S.1 S.2.1 dL_law_1150 (by decide) ?_
  refine lv_iadd S.1 S.2.1 dL_law_1151 ?_
  refine sldE S.1 S.2.1 hX hbl hbA hS hi3 dL_law_1152 ?_
  refine sC_i hP hD hS hA (va_runVW (As := [.int a1, .int a2, .int a3]) (rest := []) S (metX0_sheet_n l hfl hf) (cwVW 3 S.2.2.2.2 q906 q907 q908 q54 q909 pdX0_sheet ⟨Nat.le_of_ble_eq_true rfl, Nat.le_of_ble_eq_true rfl⟩) ⟨ablind, va_recv hK hP (ci := 0) (q0 := 0) rfl rfl, (spre hK hE hP hD hS hA).2⟩ rfl rfl hl.1 rfl (lv_room (Nat.le_of_ble_eq_true rfl)) dL_law_1153 hroom) (fun r u H locs hf hP hD hS => ?_)
  have hP := hP.perm permM
  have hD := hD.perm permM
  refine lv_aload_n S.1 S.2.1 dL_law_1156 rfl (lv_at hl 2 rfl) ?_
  refine lv_aload_n S.1 S.2.1 dL_law_1157 rfl (lv_at hl 0 rfl) ?_
  refine lv_iload_n S.1 S.2.1 dL_law_1158 rfl (lv_at hl 3 rfl) ?_
  refine lv_iconst (v := 1) S.1 S.2.1 dL_law_1159 (by decide) ?_
  refine lv_iadd S.1 S.2.1 dL_law_1160 ?_
  refine sldE S.1 S.2.1 hX hbl hbA hS hi1 dL_law_1161 ?_
  refine lv_aload_n S.1 S.2.1 dL_law_1162 rfl (lv_at hl 0 rfl) ?_
  refine lv_iload_n S.1 S.2.1 dL_law_1163 rfl (lv_at hl 3 rfl) ?_
  refine lv_iconst (v := 2) S.1 S.2.1 dL_law_1164 (by decide) ?_
  refine lv_iadd S.1 S.2.1 dL_law_1165 ?_
  refine sldE S.1 S.2.1 hX hbl hbA hS hi2 dL_law_1166 ?_
  refine lv_aload_n S.1 S.2.1 dL_law_1167 rfl (lv_at hl 0 rfl) ?_
  refine lv_iload_n S.1 S.2.1 dL_law_1168 rfl (lv_at hl 3 rfl) ?_
  refine lv_iconst (v := 3) S.1 S.2.1 dL_law_1169 (by decide) ?_
  refine lv_iadd S.1 S.2.1 dL_law_1170 ?_
  refine sldE S.1 S.2.1 hX hbl hbA hS hi3 dL_law_1171 ?_
  refine sM_i (As := [.int a1, .int a2, .int a3]) (rest := [.int r]) S hK rfl rfl (fun _ => rfl) hP hD hS (metX3_sheet l hj hf) (lw_V q1563 q1564 q1565 q60 q1566) rfl pdX3_sheet ⟨rfl, rfl⟩ ⟨Nat.le_of_ble_eq_true rfl, Nat.le_of_ble_eq_true rfl⟩ rfl hl.1 rfl (Nat.le_of_ble_eq_true rfl) dL_law_1172 hroom (fun r' u' H locs hf hP hD hS => ?_)
  obtain ⟨e1, hf⟩ := hf
  refine lv_icmp_eq (tgt := 1349) S.1 S.2.1 dL_law_1175 (by decide) (fun c_1 => ?_) (fun c_1 => ?_)
  · exact kk u u' H locs hf ⟨hP.perm permN, hD.perm permN⟩ hS
  · exact absurd e1 c_1
set_option maxHeartbeats 4000000 in
set_option maxRecDepth 100000 in
theorem lo_sheet_B (hC : LC p l s m c b L xs A dC dI dA eA mi) (hj : mJ hm) {steps : Int32} {draw : Int32} {typed : Int32} {at_ : Int32} {isImage : Int32} {idraw : Int32} {gd : (Nat → Int32)} {gro : Int64} {grt : Int32} {td : (Nat → Int32)} {tro : Int64} {trt : Int32} {rd : (Nat → Int32)} {rro : Int64} {rrt : Int32} {imd : (Nat → Int32)} {imro : Int64} {imrt : Int32} {owners : (Nat → Int32)} {tour : (Nat → Int32)} {best : (Nat → Int32)} {tape : (Nat → Int32)} {signs : (Nat → Int32)} {acts : (Nat → Int32)} {iown : (Nat → Int32)} {taken : (Nat → Int64)} {shf : (Nat → Option Nat)} {hd : Nat} {v0 : Value} {m_depths : (Nat → Int32)} {m_owners : (Nat → Int32)} {m_roofs : Int64} {m_rate : Int32} {m_undos : (Nat → Int32)} {m_undoMany : Int32} {m_drawn : Int32} {m_dug : Int64} {m_deep : Int64} {m_holes : (Nat → Int64)} {m_holeMany : Int32} {m_tape : (Nat → Int32)} {m_taped : Int32} {m_place : Int32} {m_reads : Int32} {m_read_ : (Nat → Int32)} {m_row : (Nat → Int32)} {m_order : (Nat → Int32)} {m_bestOrder : (Nat → Int32)} {m_nears : (Nat → Int32)} {m_isKept : Int32} {m_keptRoofs : Int64} {m_kept : (Nat → Int32)} {m_lanes : (Nat → Int32)} {m_rowSizes : (Nat → Int32)} {m_items : (Nat → Int64)} {m_moved : (Nat → Int64)} {PP : (Nat) → (Nat → Int32) → (Nat → Int32) → (Nat → Int64) → Prop} (hf : wX0_sheet_B (fun r p0 => wX3_sheet (fun r' q0 q1 q2 => r = r' ∧ PP p0 q0 q1 q2) m_lanes m_rowSizes m_items a1 a2 a3) shf hd a1 a2 a3) (hPD : PD A dC dI ([((h 0), .inr (0, [.ref (h 1), .ref (h 3), .ref (h 9), .ref (h 17), .ref (h 10), .ref (h 11), .int steps, .int draw, .ref (h 12), .int typed, .int at_, .ref (h 5), .ref (h 13), .ref (h 14), .int isImage, .ref (h 7), .ref (h 15), .ref (h 18), .int idraw, .ref (h 19), .ref (h 16)])), ((h 1), .inr (1, [.ref (h 2), .long gro, .int grt])), ((h 2), .inl (dA 0, 36, .inl gd)), ((h 3), .inr (1, [.ref (h 4), .long tro, .int trt])), ((h 4), .inl (dA 0, 36, .inl td)), ((h 5), .inr (1, [.ref (h 6), .long rro, .int rrt])), ((h 6), .inl (dA 0, 36, .inl rd)), ((h 7), .inr (1, [.ref (h 8), .long imro, .int imrt])), ((h 8), .inl (dA 0, 36, .inl imd)), ((h 9), .inl (dA 0, 36, .inl owners)), ((h 10), .inl (dA 1, 8, .inl tour)), ((h 11), .inl (dA 1, 8, .inl best)), ((h 12), .inl (dA 0, 160, .inl tape)), ((h 13), .inl (dA 0, 36, .inl signs)), ((h 14), .inl (dA 0, 320, .inl acts)), ((h 15), .inl (dA 0, 36, .inl iown)), ((h 16), .inl (dA 2, 36, .inr (.inl taken))), ((h 19), .inl (dA 5, 4, .inr (.inr (.inr (.inr shf))))), (hd, .inr (2, [v0]))] ++ ((wM hm dA m_depths m_owners m_roofs m_rate m_undos m_undoMany m_drawn m_dug m_deep m_holes m_holeMany m_tape m_taped m_place m_reads m_read_ m_row m_order m_bestOrder m_nears m_isKept m_keptRoofs m_kept m_lanes m_rowSizes m_items m_moved) ++ wr)) H) (hS : va_S A s.heap H locs) (hl : lv_has ls 4 [(0, .ref b), (1, .ref (h 0)), (2, .ref (hm 0)), (3, .int ix)]) (hi1 : vp_in (ix + 1) L ∧ xs (ix + 1).toNatClampNeg = a1) (hi2 : vp_in (ix + 2) L ∧ xs (ix + 2).toNatClampNeg = a2) (hi3 : vp_in (ix + 3) L ∧ xs (ix + 3).toNatClampNeg = a3) (hroom : kc + 1 ≤ room_1.cells ∧ ks + 36 ≤ room_1.slots)
    (kk : ∀ (u : Nat × Nat) (u' : (Nat → Int32) × (Nat → Int32) × (Nat → Int64)) (H1 : Heap) (locs1 : List Loc), PP u.2 u'.1 u'.2.1 u'.2.2 → PD A dC dI ([((h 0), .inr (0, [.ref (h 1), .ref (h 3), .ref (h 9), .ref (h 17), .ref (h 10), .ref (h 11), .int steps, .int draw, .ref (h 12), .int typed, .int at_, .ref (h 5), .ref (h 13), .ref (h 14), .int isImage, .ref (h 7), .ref (h 15), .ref (h 18), .int idraw, .ref (h 19), .ref (h 16)])), ((h 1), .inr (1, [.ref (h 2), .long gro, .int grt])), ((h 2), .inl (dA 0, 36, .inl gd)), ((h 3), .inr (1, [.ref (h 4), .long tro, .int trt])), ((h 4), .inl (dA 0, 36, .inl td)), ((h 5), .inr (1, [.ref (h 6), .long rro, .int rrt])), ((h 6), .inl (dA 0, 36, .inl rd)), ((h 7), .inr (1, [.ref (h 8), .long imro, .int imrt])), ((h 8), .inl (dA 0, 36, .inl imd)), ((h 9), .inl (dA 0, 36, .inl owners)), ((h 10), .inl (dA 1, 8, .inl tour)), ((h 11), .inl (dA 1, 8, .inl best)), ((h 12), .inl (dA 0, 160, .inl tape)), ((h 13), .inl (dA 0, 36, .inl signs)), ((h 14), .inl (dA 0, 320, .inl acts)), ((h 15), .inl (dA 0, 36, .inl iown)), ((h 16), .inl (dA 2, 36, .inr (.inl taken))), ((h 19), .inl (dA 5, 4, .inr (.inr (.inr (.inr shf))))), (hd, .inr (2, [.ref u.1])), (u.1, .inl (dA 0, u.2, .inl (fun _ => 0)))] ++ ((wM hm dA m_depths m_owners m_roofs m_rate m_undos m_undoMany m_drawn m_dug m_deep m_holes m_holeMany m_tape m_taped m_place m_reads m_read_ m_row m_order m_bestOrder m_nears m_isKept m_keptRoofs m_kept u'.1 u'.2.1 u'.2.2 m_moved) ++ wr)) H1 → va_S A s.heap H1 locs1 → W p l e room_1 s m #[Value.ref b] below meth c H1 locs1 (kc + 1) (ks + 36) Q (F0 m 1349 ls [])) : W p l e room_1 s m #[Value.ref b] below meth c H locs kc ks Q (F0 m 1137 ls []) := by
  obtain ⟨S, hX, hbl, hbA, hK, hE, hA, hfl⟩ := hC
  obtain ⟨hP, hD⟩ := hPD
  refine lv_aload_n S.1 S.2.1 dL_law_1137 rfl (lv_at hl 1 rfl) ?_
  refine lv_aload_n S.1 S.2.1 dL_law_1138 rfl (lv_at hl 0 rfl) ?_
  refine lv_iload_n S.1 S.2.1 dL_law_1139 rfl (lv_at hl 3 rfl) ?_
  refine lv_iconst (v := 1) S.1 S.2.1 dL_law_1140 (by decide) ?_
  refine lv_iadd S.1 S.2.1 dL_law_1141 ?_
  refine sldE S.1 S.2.1 hX hbl hbA hS hi1 dL_law_1142 ?_
  refine lv_aload_n S.1 S.2.1 dL_law_1143 rfl (lv_at hl 0 rfl) ?_
  refine lv_iload_n S.1 S.2.1 dL_law_1144 rfl (lv_at hl 3 rfl) ?_
  refine lv_iconst (v := 2) S.1 S.2.1 dL_law_1145 (by decide) ?_
  refine lv_iadd S.1 S.2.1 dL_law_1146 ?_
  refine sldE S.1 S.2.1 hX hbl hbA hS hi2 dL_law_1147 ?_
  refine lv_aload_n S.1 S.2.1 dL_law_1148 rfl (lv_at hl 0 rfl) ?_
  refine lv_iload_n S.1 S.2.1 dL_law_1149 rfl (lv_at hl 3 rfl) ?_
  refine lv_iconst (v := 3) S.1 S.2.1 dL_law_1150 (by decide) ?_
  refine lv_iadd S.1 S.2.1 dL_law_1151 ?_
  refine sldE S.1 S.2.1 hX hbl hbA hS hi3 dL_law_1152 ?_
  refine sC_i hP hD hS hA (va_runVW (As := [.int a1, .int a2, .int a3]) (rest := []) S (metX0_sheet_B l hfl hf) (cwVW 3 S.2.2.2.2 q906 q907 q908 q54 q909 pdX0_sheet ⟨Nat.le_of_ble_eq_true rfl, Nat.le_of_ble_eq_true rfl⟩) ⟨ablind, va_recv hK hP (ci := 0) (q0 := 0) rfl rfl, (spre hK hE hP hD hS hA).2⟩ rfl rfl hl.1 rfl (lv_room (Nat.le_of_ble_eq_true rfl)) dL_law_1153 hroom) (fun r u H locs hf hP hD hS => ?_)
  have hP := hP.perm permM
  have hD := hD.perm permM
  refine lv_aload_n S.1 S.2.1 dL_law_1156 rfl (lv_at hl 2 rfl) ?_
  refine lv_aload_n S.1 S.2.1 dL_law_1157 rfl (lv_at hl 0 rfl) ?_
  refine lv_iload_n S.1 S.2.1 dL_law_1158 rfl (lv_at hl 3 rfl) ?_
  refine lv_iconst (v := 1) S.1 S.2.1 dL_law_1159 (by decide) ?_
  refine lv_iadd S.1 S.2.1 dL_law_1160 ?_
  refine sldE S.1 S.2.1 hX hbl hbA hS hi1 dL_law_1161 ?_
  refine lv_aload_n S.1 S.2.1 dL_law_1162 rfl (lv_at hl 0 rfl) ?_
  refine lv_iload_n S.1 S.2.1 dL_law_1163 rfl (lv_at hl 3 rfl) ?_
  refine lv_iconst (v := 2) S.1 S.2.1 dL_law_1164 (by decide) ?_
  refine lv_iadd S.1 S.2.1 dL_law_1165 ?_
  refine sldE S.1 S.2.1 hX hbl hbA hS hi2 dL_law_1166 ?_
  refine lv_aload_n S.1 S.2.1 dL_law_1167 rfl (lv_at hl 0 rfl) ?_
  refine lv_iload_n S.1 S.2.1 dL_law_1168 rfl (lv_at hl 3 rfl) ?_
  refine lv_iconst (v := 3) S.1 S.2.1 dL_law_1169 (by decide) ?_
  refine lv_iadd S.1 S.2.1 dL_law_1170 ?_
  refine sldE S.1 S.2.1 hX hbl hbA hS hi3 dL_law_1171 ?_
  refine sM_i (As := [.int a1, .int a2, .int a3]) (rest := [.int r]) S hK rfl rfl (fun _ => rfl) hP hD hS (metX3_sheet l hj hf) (lw_V q1563 q1564 q1565 q60 q1566) rfl pdX3_sheet ⟨rfl, rfl⟩ ⟨Nat.le_of_ble_eq_true rfl, Nat.le_of_ble_eq_true rfl⟩ rfl hl.1 rfl (Nat.le_of_ble_eq_true rfl) dL_law_1172 hroom (fun r' u' H locs hf hP hD hS => ?_)
  obtain ⟨e1, hf⟩ := hf
  refine lv_icmp_eq (tgt := 1349) S.1 S.2.1 dL_law_1175 (by decide) (fun c_1 => ?_) (fun c_1 => ?_)
  · exact kk u u' H locs hf ⟨hP.perm permN, hD.perm permN⟩ hS
  · exact absurd e1 c_1
set_option maxHeartbeats 4000000 in
set_option maxRecDepth 100000 in
theorem lo_sheet_S (hC : LC p l s m c b L xs A dC dI dA eA mi) (hj : mJ hm) {steps : Int32} {draw : Int32} {typed : Int32} {at_ : Int32} {isImage : Int32} {idraw : Int32} {gd : (Nat → Int32)} {gro : Int64} {grt : Int32} {td : (Nat → Int32)} {tro : Int64} {trt : Int32} {rd : (Nat → Int32)} {rro : Int64} {rrt : Int32} {imd : (Nat → Int32)} {imro : Int64} {imrt : Int32} {owners : (Nat → Int32)} {tour : (Nat → Int32)} {best : (Nat → Int32)} {tape : (Nat → Int32)} {signs : (Nat → Int32)} {acts : (Nat → Int32)} {iown : (Nat → Int32)} {taken : (Nat → Int64)} {shf : (Nat → Option Nat)} {hd : Nat} {v0 : Value} {m_depths : (Nat → Int32)} {m_owners : (Nat → Int32)} {m_roofs : Int64} {m_rate : Int32} {m_undos : (Nat → Int32)} {m_undoMany : Int32} {m_drawn : Int32} {m_dug : Int64} {m_deep : Int64} {m_holes : (Nat → Int64)} {m_holeMany : Int32} {m_tape : (Nat → Int32)} {m_taped : Int32} {m_place : Int32} {m_reads : Int32} {m_read_ : (Nat → Int32)} {m_row : (Nat → Int32)} {m_order : (Nat → Int32)} {m_bestOrder : (Nat → Int32)} {m_nears : (Nat → Int32)} {m_isKept : Int32} {m_keptRoofs : Int64} {m_kept : (Nat → Int32)} {m_lanes : (Nat → Int32)} {m_rowSizes : (Nat → Int32)} {m_items : (Nat → Int64)} {m_moved : (Nat → Int64)} {PP : (Nat) → (Nat → Int32) → (Nat → Int32) → (Nat → Int64) → Prop} (hf : wX0_sheet_S (fun r p0 => wX3_sheet (fun r' q0 q1 q2 => r = r' ∧ PP p0 q0 q1 q2) m_lanes m_rowSizes m_items a1 a2 a3) shf hd a1 a2 a3) (hPD : PD A dC dI ([((h 0), .inr (0, [.ref (h 1), .ref (h 3), .ref (h 9), .ref (h 17), .ref (h 10), .ref (h 11), .int steps, .int draw, .ref (h 12), .int typed, .int at_, .ref (h 5), .ref (h 13), .ref (h 14), .int isImage, .ref (h 7), .ref (h 15), .ref (h 18), .int idraw, .ref (h 19), .ref (h 16)])), ((h 1), .inr (1, [.ref (h 2), .long gro, .int grt])), ((h 2), .inl (dA 0, 36, .inl gd)), ((h 3), .inr (1, [.ref (h 4), .long tro, .int trt])), ((h 4), .inl (dA 0, 36, .inl td)), ((h 5), .inr (1, [.ref (h 6), .long rro, .int rrt])), ((h 6), .inl (dA 0, 36, .inl rd)), ((h 7), .inr (1, [.ref (h 8), .long imro, .int imrt])), ((h 8), .inl (dA 0, 36, .inl imd)), ((h 9), .inl (dA 0, 36, .inl owners)), ((h 10), .inl (dA 1, 8, .inl tour)), ((h 11), .inl (dA 1, 8, .inl best)), ((h 12), .inl (dA 0, 160, .inl tape)), ((h 13), .inl (dA 0, 36, .inl signs)), ((h 14), .inl (dA 0, 320, .inl acts)), ((h 15), .inl (dA 0, 36, .inl iown)), ((h 16), .inl (dA 2, 36, .inr (.inl taken))), ((h 19), .inl (dA 5, 4, .inr (.inr (.inr (.inr shf))))), (hd, .inr (2, [v0]))] ++ ((wM hm dA m_depths m_owners m_roofs m_rate m_undos m_undoMany m_drawn m_dug m_deep m_holes m_holeMany m_tape m_taped m_place m_reads m_read_ m_row m_order m_bestOrder m_nears m_isKept m_keptRoofs m_kept m_lanes m_rowSizes m_items m_moved) ++ wr)) H) (hS : va_S A s.heap H locs) (hl : lv_has ls 4 [(0, .ref b), (1, .ref (h 0)), (2, .ref (hm 0)), (3, .int ix)]) (hi1 : vp_in (ix + 1) L ∧ xs (ix + 1).toNatClampNeg = a1) (hi2 : vp_in (ix + 2) L ∧ xs (ix + 2).toNatClampNeg = a2) (hi3 : vp_in (ix + 3) L ∧ xs (ix + 3).toNatClampNeg = a3) (hroom : kc + 1 ≤ room_1.cells ∧ ks + 36 ≤ room_1.slots)
    (kk : ∀ (u : Nat × Nat) (u' : (Nat → Int32) × (Nat → Int32) × (Nat → Int64)) (H1 : Heap) (locs1 : List Loc), PP u.2 u'.1 u'.2.1 u'.2.2 → PD A dC dI ([((h 0), .inr (0, [.ref (h 1), .ref (h 3), .ref (h 9), .ref (h 17), .ref (h 10), .ref (h 11), .int steps, .int draw, .ref (h 12), .int typed, .int at_, .ref (h 5), .ref (h 13), .ref (h 14), .int isImage, .ref (h 7), .ref (h 15), .ref (h 18), .int idraw, .ref (h 19), .ref (h 16)])), ((h 1), .inr (1, [.ref (h 2), .long gro, .int grt])), ((h 2), .inl (dA 0, 36, .inl gd)), ((h 3), .inr (1, [.ref (h 4), .long tro, .int trt])), ((h 4), .inl (dA 0, 36, .inl td)), ((h 5), .inr (1, [.ref (h 6), .long rro, .int rrt])), ((h 6), .inl (dA 0, 36, .inl rd)), ((h 7), .inr (1, [.ref (h 8), .long imro, .int imrt])), ((h 8), .inl (dA 0, 36, .inl imd)), ((h 9), .inl (dA 0, 36, .inl owners)), ((h 10), .inl (dA 1, 8, .inl tour)), ((h 11), .inl (dA 1, 8, .inl best)), ((h 12), .inl (dA 0, 160, .inl tape)), ((h 13), .inl (dA 0, 36, .inl signs)), ((h 14), .inl (dA 0, 320, .inl acts)), ((h 15), .inl (dA 0, 36, .inl iown)), ((h 16), .inl (dA 2, 36, .inr (.inl taken))), ((h 19), .inl (dA 5, 4, .inr (.inr (.inr (.inr shf))))), (hd, .inr (2, [.ref u.1])), (u.1, .inl (dA 3, u.2, .inl (fun _ => 0)))] ++ ((wM hm dA m_depths m_owners m_roofs m_rate m_undos m_undoMany m_drawn m_dug m_deep m_holes m_holeMany m_tape m_taped m_place m_reads m_read_ m_row m_order m_bestOrder m_nears m_isKept m_keptRoofs m_kept u'.1 u'.2.1 u'.2.2 m_moved) ++ wr)) H1 → va_S A s.heap H1 locs1 → W p l e room_1 s m #[Value.ref b] below meth c H1 locs1 (kc + 1) (ks + 36) Q (F0 m 1349 ls [])) : W p l e room_1 s m #[Value.ref b] below meth c H locs kc ks Q (F0 m 1137 ls []) := by
  obtain ⟨S, hX, hbl, hbA, hK, hE, hA, hfl⟩ := hC
  obtain ⟨hP, hD⟩ := hPD
  refine lv_aload_n S.1 S.2.1 dL_law_1137 rfl (lv_at hl 1 rfl) ?_
  refine lv_aload_n S.1 S.2.1 dL_law_1138 rfl (lv_at hl 0 rfl) ?_
  refine lv_iload_n S.1 S.2.1 dL_law_1139 rfl (lv_at hl 3 rfl) ?_
  refine lv_iconst (v := 1) S.1 S.2.1 dL_law_1140 (by decide) ?_
  refine lv_iadd S.1 S.2.1 dL_law_1141 ?_
  refine sldE S.1 S.2.1 hX hbl hbA hS hi1 dL_law_1142 ?_
  refine lv_aload_n S.1 S.2.1 dL_law_1143 rfl (lv_at hl 0 rfl) ?_
  refine lv_iload_n S.1 S.2.1 dL_law_1144 rfl (lv_at hl 3 rfl) ?_
  refine lv_iconst (v := 2) S.1 S.2.1 dL_law_1145 (by decide) ?_
  refine lv_iadd S.1 S.2.1 dL_law_1146 ?_
  refine sldE S.1 S.2.1 hX hbl hbA hS hi2 dL_law_1147 ?_
  refine lv_aload_n S.1 S.2.1 dL_law_1148 rfl (lv_at hl 0 rfl) ?_
  refine lv_iload_n S.1 S.2.1 dL_law_1149 rfl (lv_at hl 3 rfl) ?_
  refine lv_iconst (v := 3) S.1 S.2.1 dL_law_1150 (by decide) ?_
  refine lv_iadd S.1 S.2.1 dL_law_1151 ?_
  refine sldE S.1 S.2.1 hX hbl hbA hS hi3 dL_law_1152 ?_
  refine sC_i hP hD hS hA (va_runVW (As := [.int a1, .int a2, .int a3]) (rest := []) S (metX0_sheet_S l hfl hf) (cwVW 3 S.2.2.2.2 q906 q907 q908 q54 q909 pdX0_sheet ⟨Nat.le_of_ble_eq_true rfl, Nat.le_of_ble_eq_true rfl⟩) ⟨ablind, va_recv hK hP (ci := 0) (q0 := 0) rfl rfl, (spre hK hE hP hD hS hA).2⟩ rfl rfl hl.1 rfl (lv_room (Nat.le_of_ble_eq_true rfl)) dL_law_1153 hroom) (fun r u H locs hf hP hD hS => ?_)
  have hP := hP.perm permM
  have hD := hD.perm permM
  refine lv_aload_n S.1 S.2.1 dL_law_1156 rfl (lv_at hl 2 rfl) ?_
  refine lv_aload_n S.1 S.2.1 dL_law_1157 rfl (lv_at hl 0 rfl) ?_
  refine lv_iload_n S.1 S.2.1 dL_law_1158 rfl (lv_at hl 3 rfl) ?_
  refine lv_iconst (v := 1) S.1 S.2.1 dL_law_1159 (by decide) ?_
  refine lv_iadd S.1 S.2.1 dL_law_1160 ?_
  refine sldE S.1 S.2.1 hX hbl hbA hS hi1 dL_law_1161 ?_
  refine lv_aload_n S.1 S.2.1 dL_law_1162 rfl (lv_at hl 0 rfl) ?_
  refine lv_iload_n S.1 S.2.1 dL_law_1163 rfl (lv_at hl 3 rfl) ?_
  refine lv_iconst (v := 2) S.1 S.2.1 dL_law_1164 (by decide) ?_
  refine lv_iadd S.1 S.2.1 dL_law_1165 ?_
  refine sldE S.1 S.2.1 hX hbl hbA hS hi2 dL_law_1166 ?_
  refine lv_aload_n S.1 S.2.1 dL_law_1167 rfl (lv_at hl 0 rfl) ?_
  refine lv_iload_n S.1 S.2.1 dL_law_1168 rfl (lv_at hl 3 rfl) ?_
  refine lv_iconst (v := 3) S.1 S.2.1 dL_law_1169 (by decide) ?_
  refine lv_iadd S.1 S.2.1 dL_law_1170 ?_
  refine sldE S.1 S.2.1 hX hbl hbA hS hi3 dL_law_1171 ?_
  refine sM_i (As := [.int a1, .int a2, .int a3]) (rest := [.int r]) S hK rfl rfl (fun _ => rfl) hP hD hS (metX3_sheet l hj hf) (lw_V q1563 q1564 q1565 q60 q1566) rfl pdX3_sheet ⟨rfl, rfl⟩ ⟨Nat.le_of_ble_eq_true rfl, Nat.le_of_ble_eq_true rfl⟩ rfl hl.1 rfl (Nat.le_of_ble_eq_true rfl) dL_law_1172 hroom (fun r' u' H locs hf hP hD hS => ?_)
  obtain ⟨e1, hf⟩ := hf
  refine lv_icmp_eq (tgt := 1349) S.1 S.2.1 dL_law_1175 (by decide) (fun c_1 => ?_) (fun c_1 => ?_)
  · exact kk u u' H locs hf ⟨hP.perm permN, hD.perm permN⟩ hS
  · exact absurd e1 c_1
set_option maxHeartbeats 4000000 in
set_option maxRecDepth 100000 in
theorem lo_sheet_I (hC : LC p l s m c b L xs A dC dI dA eA mi) (hj : mJ hm) {steps : Int32} {draw : Int32} {typed : Int32} {at_ : Int32} {isImage : Int32} {idraw : Int32} {gd : (Nat → Int32)} {gro : Int64} {grt : Int32} {td : (Nat → Int32)} {tro : Int64} {trt : Int32} {rd : (Nat → Int32)} {rro : Int64} {rrt : Int32} {imd : (Nat → Int32)} {imro : Int64} {imrt : Int32} {owners : (Nat → Int32)} {tour : (Nat → Int32)} {best : (Nat → Int32)} {tape : (Nat → Int32)} {signs : (Nat → Int32)} {acts : (Nat → Int32)} {iown : (Nat → Int32)} {taken : (Nat → Int64)} {shf : (Nat → Option Nat)} {hd : Nat} {v0 : Value} {m_depths : (Nat → Int32)} {m_owners : (Nat → Int32)} {m_roofs : Int64} {m_rate : Int32} {m_undos : (Nat → Int32)} {m_undoMany : Int32} {m_drawn : Int32} {m_dug : Int64} {m_deep : Int64} {m_holes : (Nat → Int64)} {m_holeMany : Int32} {m_tape : (Nat → Int32)} {m_taped : Int32} {m_place : Int32} {m_reads : Int32} {m_read_ : (Nat → Int32)} {m_row : (Nat → Int32)} {m_order : (Nat → Int32)} {m_bestOrder : (Nat → Int32)} {m_nears : (Nat → Int32)} {m_isKept : Int32} {m_keptRoofs : Int64} {m_kept : (Nat → Int32)} {m_lanes : (Nat → Int32)} {m_rowSizes : (Nat → Int32)} {m_items : (Nat → Int64)} {m_moved : (Nat → Int64)} {PP : (Nat) → (Nat → Int32) → (Nat → Int32) → (Nat → Int64) → Prop} (hf : wX0_sheet_I (fun r p0 => wX3_sheet (fun r' q0 q1 q2 => r = r' ∧ PP p0 q0 q1 q2) m_lanes m_rowSizes m_items a1 a2 a3) shf hd a1 a2 a3) (hPD : PD A dC dI ([((h 0), .inr (0, [.ref (h 1), .ref (h 3), .ref (h 9), .ref (h 17), .ref (h 10), .ref (h 11), .int steps, .int draw, .ref (h 12), .int typed, .int at_, .ref (h 5), .ref (h 13), .ref (h 14), .int isImage, .ref (h 7), .ref (h 15), .ref (h 18), .int idraw, .ref (h 19), .ref (h 16)])), ((h 1), .inr (1, [.ref (h 2), .long gro, .int grt])), ((h 2), .inl (dA 0, 36, .inl gd)), ((h 3), .inr (1, [.ref (h 4), .long tro, .int trt])), ((h 4), .inl (dA 0, 36, .inl td)), ((h 5), .inr (1, [.ref (h 6), .long rro, .int rrt])), ((h 6), .inl (dA 0, 36, .inl rd)), ((h 7), .inr (1, [.ref (h 8), .long imro, .int imrt])), ((h 8), .inl (dA 0, 36, .inl imd)), ((h 9), .inl (dA 0, 36, .inl owners)), ((h 10), .inl (dA 1, 8, .inl tour)), ((h 11), .inl (dA 1, 8, .inl best)), ((h 12), .inl (dA 0, 160, .inl tape)), ((h 13), .inl (dA 0, 36, .inl signs)), ((h 14), .inl (dA 0, 320, .inl acts)), ((h 15), .inl (dA 0, 36, .inl iown)), ((h 16), .inl (dA 2, 36, .inr (.inl taken))), ((h 19), .inl (dA 5, 4, .inr (.inr (.inr (.inr shf))))), (hd, .inr (2, [v0]))] ++ ((wM hm dA m_depths m_owners m_roofs m_rate m_undos m_undoMany m_drawn m_dug m_deep m_holes m_holeMany m_tape m_taped m_place m_reads m_read_ m_row m_order m_bestOrder m_nears m_isKept m_keptRoofs m_kept m_lanes m_rowSizes m_items m_moved) ++ wr)) H) (hS : va_S A s.heap H locs) (hl : lv_has ls 4 [(0, .ref b), (1, .ref (h 0)), (2, .ref (hm 0)), (3, .int ix)]) (hi1 : vp_in (ix + 1) L ∧ xs (ix + 1).toNatClampNeg = a1) (hi2 : vp_in (ix + 2) L ∧ xs (ix + 2).toNatClampNeg = a2) (hi3 : vp_in (ix + 3) L ∧ xs (ix + 3).toNatClampNeg = a3) (hroom : kc + 1 ≤ room_1.cells ∧ ks + 36 ≤ room_1.slots)
    (kk : ∀ (u : Nat × Nat) (u' : (Nat → Int32) × (Nat → Int32) × (Nat → Int64)) (H1 : Heap) (locs1 : List Loc), PP u.2 u'.1 u'.2.1 u'.2.2 → PD A dC dI ([((h 0), .inr (0, [.ref (h 1), .ref (h 3), .ref (h 9), .ref (h 17), .ref (h 10), .ref (h 11), .int steps, .int draw, .ref (h 12), .int typed, .int at_, .ref (h 5), .ref (h 13), .ref (h 14), .int isImage, .ref (h 7), .ref (h 15), .ref (h 18), .int idraw, .ref (h 19), .ref (h 16)])), ((h 1), .inr (1, [.ref (h 2), .long gro, .int grt])), ((h 2), .inl (dA 0, 36, .inl gd)), ((h 3), .inr (1, [.ref (h 4), .long tro, .int trt])), ((h 4), .inl (dA 0, 36, .inl td)), ((h 5), .inr (1, [.ref (h 6), .long rro, .int rrt])), ((h 6), .inl (dA 0, 36, .inl rd)), ((h 7), .inr (1, [.ref (h 8), .long imro, .int imrt])), ((h 8), .inl (dA 0, 36, .inl imd)), ((h 9), .inl (dA 0, 36, .inl owners)), ((h 10), .inl (dA 1, 8, .inl tour)), ((h 11), .inl (dA 1, 8, .inl best)), ((h 12), .inl (dA 0, 160, .inl tape)), ((h 13), .inl (dA 0, 36, .inl signs)), ((h 14), .inl (dA 0, 320, .inl acts)), ((h 15), .inl (dA 0, 36, .inl iown)), ((h 16), .inl (dA 2, 36, .inr (.inl taken))), ((h 19), .inl (dA 5, 4, .inr (.inr (.inr (.inr shf))))), (hd, .inr (2, [.ref u.1])), (u.1, .inl (dA 1, u.2, .inl (fun _ => 0)))] ++ ((wM hm dA m_depths m_owners m_roofs m_rate m_undos m_undoMany m_drawn m_dug m_deep m_holes m_holeMany m_tape m_taped m_place m_reads m_read_ m_row m_order m_bestOrder m_nears m_isKept m_keptRoofs m_kept u'.1 u'.2.1 u'.2.2 m_moved) ++ wr)) H1 → va_S A s.heap H1 locs1 → W p l e room_1 s m #[Value.ref b] below meth c H1 locs1 (kc + 1) (ks + 36) Q (F0 m 1349 ls [])) : W p l e room_1 s m #[Value.ref b] below meth c H locs kc ks Q (F0 m 1137 ls []) := by
  obtain ⟨S, hX, hbl, hbA, hK, hE, hA, hfl⟩ := hC
  obtain ⟨hP, hD⟩ := hPD
  refine lv_aload_n S.1 S.2.1 dL_law_1137 rfl (lv_at hl 1 rfl) ?_
  refine lv_aload_n S.1 S.2.1 dL_law_1138 rfl (lv_at hl 0 rfl) ?_
  refine lv_iload_n S.1 S.2.1 dL_law_1139 rfl (lv_at hl 3 rfl) ?_
  refine lv_iconst (v := 1) S.1 S.2.1 dL_law_1140 (by decide) ?_
  refine lv_iadd S.1 S.2.1 dL_law_1141 ?_
  refine sldE S.1 S.2.1 hX hbl hbA hS hi1 dL_law_1142 ?_
  refine lv_aload_n S.1 S.2.1 dL_law_1143 rfl (lv_at hl 0 rfl) ?_
  refine lv_iload_n S.1 S.2.1 dL_law_1144 rfl (lv_at hl 3 rfl) ?_
  refine lv_iconst (v := 2) S.1 S.2.1 dL_law_1145 (by decide) ?_
  refine lv_iadd S.1 S.2.1 dL_law_1146 ?_
  refine sldE S.1 S.2.1 hX hbl hbA hS hi2 dL_law_1147 ?_
  refine lv_aload_n S.1 S.2.1 dL_law_1148 rfl (lv_at hl 0 rfl) ?_
  refine lv_iload_n S.1 S.2.1 dL_law_1149 rfl (lv_at hl 3 rfl) ?_
  refine lv_iconst (v := 3) S.1 S.2.1 dL_law_1150 (by decide) ?_
  refine lv_iadd S.1 S.2.1 dL_law_1151 ?_
  refine sldE S.1 S.2.1 hX hbl hbA hS hi3 dL_law_1152 ?_
  refine sC_i hP hD hS hA (va_runVW (As := [.int a1, .int a2, .int a3]) (rest := []) S (metX0_sheet_I l hfl hf) (cwVW 3 S.2.2.2.2 q906 q907 q908 q54 q909 pdX0_sheet ⟨Nat.le_of_ble_eq_true rfl, Nat.le_of_ble_eq_true rfl⟩) ⟨ablind, va_recv hK hP (ci := 0) (q0 := 0) rfl rfl, (spre hK hE hP hD hS hA).2⟩ rfl rfl hl.1 rfl (lv_room (Nat.le_of_ble_eq_true rfl)) dL_law_1153 hroom) (fun r u H locs hf hP hD hS => ?_)
  have hP := hP.perm permM
  have hD := hD.perm permM
  refine lv_aload_n S.1 S.2.1 dL_law_1156 rfl (lv_at hl 2 rfl) ?_
  refine lv_aload_n S.1 S.2.1 dL_law_1157 rfl (lv_at hl 0 rfl) ?_
  refine lv_iload_n S.1 S.2.1 dL_law_1158 rfl (lv_at hl 3 rfl) ?_
  refine lv_iconst (v := 1) S.1 S.2.1 dL_law_1159 (by decide) ?_
  refine lv_iadd S.1 S.2.1 dL_law_1160 ?_
  refine sldE S.1 S.2.1 hX hbl hbA hS hi1 dL_law_1161 ?_
  refine lv_aload_n S.1 S.2.1 dL_law_1162 rfl (lv_at hl 0 rfl) ?_
  refine lv_iload_n S.1 S.2.1 dL_law_1163 rfl (lv_at hl 3 rfl) ?_
  refine lv_iconst (v := 2) S.1 S.2.1 dL_law_1164 (by decide) ?_
  refine lv_iadd S.1 S.2.1 dL_law_1165 ?_
  refine sldE S.1 S.2.1 hX hbl hbA hS hi2 dL_law_1166 ?_
  refine lv_aload_n S.1 S.2.1 dL_law_1167 rfl (lv_at hl 0 rfl) ?_
  refine lv_iload_n S.1 S.2.1 dL_law_1168 rfl (lv_at hl 3 rfl) ?_
  refine lv_iconst (v := 3) S.1 S.2.1 dL_law_1169 (by decide) ?_
  refine lv_iadd S.1 S.2.1 dL_law_1170 ?_
  refine sldE S.1 S.2.1 hX hbl hbA hS hi3 dL_law_1171 ?_
  refine sM_i (As := [.int a1, .int a2, .int a3]) (rest := [.int r]) S hK rfl rfl (fun _ => rfl) hP hD hS (metX3_sheet l hj hf) (lw_V q1563 q1564 q1565 q60 q1566) rfl pdX3_sheet ⟨rfl, rfl⟩ ⟨Nat.le_of_ble_eq_true rfl, Nat.le_of_ble_eq_true rfl⟩ rfl hl.1 rfl (Nat.le_of_ble_eq_true rfl) dL_law_1172 hroom (fun r' u' H locs hf hP hD hS => ?_)
  obtain ⟨e1, hf⟩ := hf
  refine lv_icmp_eq (tgt := 1349) S.1 S.2.1 dL_law_1175 (by decide) (fun c_1 => ?_) (fun c_1 => ?_)
  · exact kk u u' H locs hf ⟨hP.perm permN, hD.perm permN⟩ hS
  · exact absurd e1 c_1
set_option maxHeartbeats 4000000 in
set_option maxRecDepth 100000 in
theorem lo_sheet_J (hC : LC p l s m c b L xs A dC dI dA eA mi) (hj : mJ hm) {steps : Int32} {draw : Int32} {typed : Int32} {at_ : Int32} {isImage : Int32} {idraw : Int32} {gd : (Nat → Int32)} {gro : Int64} {grt : Int32} {td : (Nat → Int32)} {tro : Int64} {trt : Int32} {rd : (Nat → Int32)} {rro : Int64} {rrt : Int32} {imd : (Nat → Int32)} {imro : Int64} {imrt : Int32} {owners : (Nat → Int32)} {tour : (Nat → Int32)} {best : (Nat → Int32)} {tape : (Nat → Int32)} {signs : (Nat → Int32)} {acts : (Nat → Int32)} {iown : (Nat → Int32)} {taken : (Nat → Int64)} {shf : (Nat → Option Nat)} {hd : Nat} {v0 : Value} {m_depths : (Nat → Int32)} {m_owners : (Nat → Int32)} {m_roofs : Int64} {m_rate : Int32} {m_undos : (Nat → Int32)} {m_undoMany : Int32} {m_drawn : Int32} {m_dug : Int64} {m_deep : Int64} {m_holes : (Nat → Int64)} {m_holeMany : Int32} {m_tape : (Nat → Int32)} {m_taped : Int32} {m_place : Int32} {m_reads : Int32} {m_read_ : (Nat → Int32)} {m_row : (Nat → Int32)} {m_order : (Nat → Int32)} {m_bestOrder : (Nat → Int32)} {m_nears : (Nat → Int32)} {m_isKept : Int32} {m_keptRoofs : Int64} {m_kept : (Nat → Int32)} {m_lanes : (Nat → Int32)} {m_rowSizes : (Nat → Int32)} {m_items : (Nat → Int64)} {m_moved : (Nat → Int64)} {PP : (Nat) → (Nat → Int32) → (Nat → Int32) → (Nat → Int64) → Prop} (hf : wX0_sheet_J (fun r p0 => wX3_sheet (fun r' q0 q1 q2 => r = r' ∧ PP p0 q0 q1 q2) m_lanes m_rowSizes m_items a1 a2 a3) shf hd a1 a2 a3) (hPD : PD A dC dI ([((h 0), .inr (0, [.ref (h 1), .ref (h 3), .ref (h 9), .ref (h 17), .ref (h 10), .ref (h 11), .int steps, .int draw, .ref (h 12), .int typed, .int at_, .ref (h 5), .ref (h 13), .ref (h 14), .int isImage, .ref (h 7), .ref (h 15), .ref (h 18), .int idraw, .ref (h 19), .ref (h 16)])), ((h 1), .inr (1, [.ref (h 2), .long gro, .int grt])), ((h 2), .inl (dA 0, 36, .inl gd)), ((h 3), .inr (1, [.ref (h 4), .long tro, .int trt])), ((h 4), .inl (dA 0, 36, .inl td)), ((h 5), .inr (1, [.ref (h 6), .long rro, .int rrt])), ((h 6), .inl (dA 0, 36, .inl rd)), ((h 7), .inr (1, [.ref (h 8), .long imro, .int imrt])), ((h 8), .inl (dA 0, 36, .inl imd)), ((h 9), .inl (dA 0, 36, .inl owners)), ((h 10), .inl (dA 1, 8, .inl tour)), ((h 11), .inl (dA 1, 8, .inl best)), ((h 12), .inl (dA 0, 160, .inl tape)), ((h 13), .inl (dA 0, 36, .inl signs)), ((h 14), .inl (dA 0, 320, .inl acts)), ((h 15), .inl (dA 0, 36, .inl iown)), ((h 16), .inl (dA 2, 36, .inr (.inl taken))), ((h 19), .inl (dA 5, 4, .inr (.inr (.inr (.inr shf))))), (hd, .inr (2, [v0]))] ++ ((wM hm dA m_depths m_owners m_roofs m_rate m_undos m_undoMany m_drawn m_dug m_deep m_holes m_holeMany m_tape m_taped m_place m_reads m_read_ m_row m_order m_bestOrder m_nears m_isKept m_keptRoofs m_kept m_lanes m_rowSizes m_items m_moved) ++ wr)) H) (hS : va_S A s.heap H locs) (hl : lv_has ls 4 [(0, .ref b), (1, .ref (h 0)), (2, .ref (hm 0)), (3, .int ix)]) (hi1 : vp_in (ix + 1) L ∧ xs (ix + 1).toNatClampNeg = a1) (hi2 : vp_in (ix + 2) L ∧ xs (ix + 2).toNatClampNeg = a2) (hi3 : vp_in (ix + 3) L ∧ xs (ix + 3).toNatClampNeg = a3) (hroom : kc + 1 ≤ room_1.cells ∧ ks + 36 ≤ room_1.slots)
    (kk : ∀ (u : Nat × Nat) (u' : (Nat → Int32) × (Nat → Int32) × (Nat → Int64)) (H1 : Heap) (locs1 : List Loc), PP u.2 u'.1 u'.2.1 u'.2.2 → PD A dC dI ([((h 0), .inr (0, [.ref (h 1), .ref (h 3), .ref (h 9), .ref (h 17), .ref (h 10), .ref (h 11), .int steps, .int draw, .ref (h 12), .int typed, .int at_, .ref (h 5), .ref (h 13), .ref (h 14), .int isImage, .ref (h 7), .ref (h 15), .ref (h 18), .int idraw, .ref (h 19), .ref (h 16)])), ((h 1), .inr (1, [.ref (h 2), .long gro, .int grt])), ((h 2), .inl (dA 0, 36, .inl gd)), ((h 3), .inr (1, [.ref (h 4), .long tro, .int trt])), ((h 4), .inl (dA 0, 36, .inl td)), ((h 5), .inr (1, [.ref (h 6), .long rro, .int rrt])), ((h 6), .inl (dA 0, 36, .inl rd)), ((h 7), .inr (1, [.ref (h 8), .long imro, .int imrt])), ((h 8), .inl (dA 0, 36, .inl imd)), ((h 9), .inl (dA 0, 36, .inl owners)), ((h 10), .inl (dA 1, 8, .inl tour)), ((h 11), .inl (dA 1, 8, .inl best)), ((h 12), .inl (dA 0, 160, .inl tape)), ((h 13), .inl (dA 0, 36, .inl signs)), ((h 14), .inl (dA 0, 320, .inl acts)), ((h 15), .inl (dA 0, 36, .inl iown)), ((h 16), .inl (dA 2, 36, .inr (.inl taken))), ((h 19), .inl (dA 5, 4, .inr (.inr (.inr (.inr shf))))), (hd, .inr (2, [.ref u.1])), (u.1, .inl (dA 2, u.2, .inr (.inl (fun _ => 0))))] ++ ((wM hm dA m_depths m_owners m_roofs m_rate m_undos m_undoMany m_drawn m_dug m_deep m_holes m_holeMany m_tape m_taped m_place m_reads m_read_ m_row m_order m_bestOrder m_nears m_isKept m_keptRoofs m_kept u'.1 u'.2.1 u'.2.2 m_moved) ++ wr)) H1 → va_S A s.heap H1 locs1 → W p l e room_1 s m #[Value.ref b] below meth c H1 locs1 (kc + 1) (ks + 36) Q (F0 m 1349 ls [])) : W p l e room_1 s m #[Value.ref b] below meth c H locs kc ks Q (F0 m 1137 ls []) := by
  obtain ⟨S, hX, hbl, hbA, hK, hE, hA, hfl⟩ := hC
  obtain ⟨hP, hD⟩ := hPD
  refine lv_aload_n S.1 S.2.1 dL_law_1137 rfl (lv_at hl 1 rfl) ?_
  refine lv_aload_n S.1 S.2.1 dL_law_1138 rfl (lv_at hl 0 rfl) ?_
  refine lv_iload_n S.1 S.2.1 dL_law_1139 rfl (lv_at hl 3 rfl) ?_
  refine lv_iconst (v := 1) S.1 S.2.1 dL_law_1140 (by decide) ?_
  refine lv_iadd S.1 S.2.1 dL_law_1141 ?_
  refine sldE S.1 S.2.1 hX hbl hbA hS hi1 dL_law_1142 ?_
  refine lv_aload_n S.1 S.2.1 dL_law_1143 rfl (lv_at hl 0 rfl) ?_
  refine lv_iload_n S.1 S.2.1 dL_law_1144 rfl (lv_at hl 3 rfl) ?_
  refine lv_iconst (v := 2) S.1 S.2.1 dL_law_1145 (by decide) ?_
  refine lv_iadd S.1 S.2.1 dL_law_1146 ?_
  refine sldE S.1 S.2.1 hX hbl hbA hS hi2 dL_law_1147 ?_
  refine lv_aload_n S.1 S.2.1 dL_law_1148 rfl (lv_at hl 0 rfl) ?_
  refine lv_iload_n S.1 S.2.1 dL_law_1149 rfl (lv_at hl 3 rfl) ?_
  refine lv_iconst (v := 3) S.1 S.2.1 dL_law_1150 (by decide) ?_
  refine lv_iadd S.1 S.2.1 dL_law_1151 ?_
  refine sldE S.1 S.2.1 hX hbl hbA hS hi3 dL_law_1152 ?_
  refine sC_i hP hD hS hA (va_runVW (As := [.int a1, .int a2, .int a3]) (rest := []) S (metX0_sheet_J l hfl hf) (cwVW 3 S.2.2.2.2 q906 q907 q908 q54 q909 pdX0_sheet ⟨Nat.le_of_ble_eq_true rfl, Nat.le_of_ble_eq_true rfl⟩) ⟨ablind, va_recv hK hP (ci := 0) (q0 := 0) rfl rfl, (spre hK hE hP hD hS hA).2⟩ rfl rfl hl.1 rfl (lv_room (Nat.le_of_ble_eq_true rfl)) dL_law_1153 hroom) (fun r u H locs hf hP hD hS => ?_)
  have hP := hP.perm permM
  have hD := hD.perm permM
  refine lv_aload_n S.1 S.2.1 dL_law_1156 rfl (lv_at hl 2 rfl) ?_
  refine lv_aload_n S.1 S.2.1 dL_law_1157 rfl (lv_at hl 0 rfl) ?_
  refine lv_iload_n S.1 S.2.1 dL_law_1158 rfl (lv_at hl 3 rfl) ?_
  refine lv_iconst (v := 1) S.1 S.2.1 dL_law_1159 (by decide) ?_
  refine lv_iadd S.1 S.2.1 dL_law_1160 ?_
  refine sldE S.1 S.2.1 hX hbl hbA hS hi1 dL_law_1161 ?_
  refine lv_aload_n S.1 S.2.1 dL_law_1162 rfl (lv_at hl 0 rfl) ?_
  refine lv_iload_n S.1 S.2.1 dL_law_1163 rfl (lv_at hl 3 rfl) ?_
  refine lv_iconst (v := 2) S.1 S.2.1 dL_law_1164 (by decide) ?_
  refine lv_iadd S.1 S.2.1 dL_law_1165 ?_
  refine sldE S.1 S.2.1 hX hbl hbA hS hi2 dL_law_1166 ?_
  refine lv_aload_n S.1 S.2.1 dL_law_1167 rfl (lv_at hl 0 rfl) ?_
  refine lv_iload_n S.1 S.2.1 dL_law_1168 rfl (lv_at hl 3 rfl) ?_
  refine lv_iconst (v := 3) S.1 S.2.1 dL_law_1169 (by decide) ?_
  refine lv_iadd S.1 S.2.1 dL_law_1170 ?_
  refine sldE S.1 S.2.1 hX hbl hbA hS hi3 dL_law_1171 ?_
  refine sM_i (As := [.int a1, .int a2, .int a3]) (rest := [.int r]) S hK rfl rfl (fun _ => rfl) hP hD hS (metX3_sheet l hj hf) (lw_V q1563 q1564 q1565 q60 q1566) rfl pdX3_sheet ⟨rfl, rfl⟩ ⟨Nat.le_of_ble_eq_true rfl, Nat.le_of_ble_eq_true rfl⟩ rfl hl.1 rfl (Nat.le_of_ble_eq_true rfl) dL_law_1172 hroom (fun r' u' H locs hf hP hD hS => ?_)
  obtain ⟨e1, hf⟩ := hf
  refine lv_icmp_eq (tgt := 1349) S.1 S.2.1 dL_law_1175 (by decide) (fun c_1 => ?_) (fun c_1 => ?_)
  · exact kk u u' H locs hf ⟨hP.perm permN, hD.perm permN⟩ hS
  · exact absurd e1 c_1
set_option maxHeartbeats 4000000 in
set_option maxRecDepth 100000 in
theorem lo_drop_n (hC : LC p l s m c b L xs A dC dI dA eA mi) (hj : mJ hm) {steps : Int32} {draw : Int32} {typed : Int32} {at_ : Int32} {isImage : Int32} {idraw : Int32} {gd : (Nat → Int32)} {gro : Int64} {grt : Int32} {td : (Nat → Int32)} {tro : Int64} {trt : Int32} {rd : (Nat → Int32)} {rro : Int64} {rrt : Int32} {imd : (Nat → Int32)} {imro : Int64} {imrt : Int32} {owners : (Nat → Int32)} {tour : (Nat → Int32)} {best : (Nat → Int32)} {tape : (Nat → Int32)} {signs : (Nat → Int32)} {acts : (Nat → Int32)} {iown : (Nat → Int32)} {taken : (Nat → Int64)} {m_depths : (Nat → Int32)} {m_owners : (Nat → Int32)} {m_roofs : Int64} {m_rate : Int32} {m_undos : (Nat → Int32)} {m_undoMany : Int32} {m_drawn : Int32} {m_dug : Int64} {m_deep : Int64} {m_holes : (Nat → Int64)} {m_holeMany : Int32} {m_tape : (Nat → Int32)} {m_taped : Int32} {m_place : Int32} {m_reads : Int32} {m_read_ : (Nat → Int32)} {m_row : (Nat → Int32)} {m_order : (Nat → Int32)} {m_bestOrder : (Nat → Int32)} {m_nears : (Nat → Int32)} {m_isKept : Int32} {m_keptRoofs : Int64} {m_kept : (Nat → Int32)} {m_lanes : (Nat → Int32)} {m_rowSizes : (Nat → Int32)} {m_items : (Nat → Int64)} {m_moved : (Nat → Int64)} {PP : (Nat → Int32) → Prop} (hf : wX0_drop_n (fun r => wX3_drop (fun r' q0 => r = r' ∧ PP q0) m_lanes m_rowSizes a1) a1) (hPD : PD A dC dI ([((h 0), .inr (0, [.ref (h 1), .ref (h 3), .ref (h 9), .ref (h 17), .ref (h 10), .ref (h 11), .int steps, .int draw, .ref (h 12), .int typed, .int at_, .ref (h 5), .ref (h 13), .ref (h 14), .int isImage, .ref (h 7), .ref (h 15), .ref (h 18), .int idraw, .ref (h 19), .ref (h 16)])), ((h 1), .inr (1, [.ref (h 2), .long gro, .int grt])), ((h 2), .inl (dA 0, 36, .inl gd)), ((h 3), .inr (1, [.ref (h 4), .long tro, .int trt])), ((h 4), .inl (dA 0, 36, .inl td)), ((h 5), .inr (1, [.ref (h 6), .long rro, .int rrt])), ((h 6), .inl (dA 0, 36, .inl rd)), ((h 7), .inr (1, [.ref (h 8), .long imro, .int imrt])), ((h 8), .inl (dA 0, 36, .inl imd)), ((h 9), .inl (dA 0, 36, .inl owners)), ((h 10), .inl (dA 1, 8, .inl tour)), ((h 11), .inl (dA 1, 8, .inl best)), ((h 12), .inl (dA 0, 160, .inl tape)), ((h 13), .inl (dA 0, 36, .inl signs)), ((h 14), .inl (dA 0, 320, .inl acts)), ((h 15), .inl (dA 0, 36, .inl iown)), ((h 16), .inl (dA 2, 36, .inr (.inl taken)))] ++ ((wM hm dA m_depths m_owners m_roofs m_rate m_undos m_undoMany m_drawn m_dug m_deep m_holes m_holeMany m_tape m_taped m_place m_reads m_read_ m_row m_order m_bestOrder m_nears m_isKept m_keptRoofs m_kept m_lanes m_rowSizes m_items m_moved) ++ wr)) H) (hS : va_S A s.heap H locs) (hl : lv_has ls 4 [(0, .ref b), (1, .ref (h 0)), (2, .ref (hm 0)), (3, .int ix)]) (hi1 : vp_in (ix + 1) L ∧ xs (ix + 1).toNatClampNeg = a1) (hroom : kc + 0 ≤ room_1.cells ∧ ks + 0 ≤ room_1.slots)
    (kk : ∀ (u : Unit) (u' : (Nat → Int32)) (H1 : Heap) (locs1 : List Loc), PP u' → PD A dC dI ([((h 0), .inr (0, [.ref (h 1), .ref (h 3), .ref (h 9), .ref (h 17), .ref (h 10), .ref (h 11), .int steps, .int draw, .ref (h 12), .int typed, .int at_, .ref (h 5), .ref (h 13), .ref (h 14), .int isImage, .ref (h 7), .ref (h 15), .ref (h 18), .int idraw, .ref (h 19), .ref (h 16)])), ((h 1), .inr (1, [.ref (h 2), .long gro, .int grt])), ((h 2), .inl (dA 0, 36, .inl gd)), ((h 3), .inr (1, [.ref (h 4), .long tro, .int trt])), ((h 4), .inl (dA 0, 36, .inl td)), ((h 5), .inr (1, [.ref (h 6), .long rro, .int rrt])), ((h 6), .inl (dA 0, 36, .inl rd)), ((h 7), .inr (1, [.ref (h 8), .long imro, .int imrt])), ((h 8), .inl (dA 0, 36, .inl imd)), ((h 9), .inl (dA 0, 36, .inl owners)), ((h 10), .inl (dA 1, 8, .inl tour)), ((h 11), .inl (dA 1, 8, .inl best)), ((h 12), .inl (dA 0, 160, .inl tape)), ((h 13), .inl (dA 0, 36, .inl signs)), ((h 14), .inl (dA 0, 320, .inl acts)), ((h 15), .inl (dA 0, 36, .inl iown)), ((h 16), .inl (dA 2, 36, .inr (.inl taken)))] ++ ((wM hm dA m_depths m_owners m_roofs m_rate m_undos m_undoMany m_drawn m_dug m_deep m_holes m_holeMany m_tape m_taped m_place m_reads m_read_ m_row m_order m_bestOrder m_nears m_isKept m_keptRoofs m_kept u' m_rowSizes m_items m_moved) ++ wr)) H1 → va_S A s.heap H1 locs1 → W p l e room_1 s m #[Value.ref b] below meth c H1 locs1 (kc + 0) (ks + 0) Q (F0 m 1349 ls [])) : W p l e room_1 s m #[Value.ref b] below meth c H locs kc ks Q (F0 m 1180 ls []) := by
  obtain ⟨S, hX, hbl, hbA, hK, hE, hA, hfl⟩ := hC
  obtain ⟨hP, hD⟩ := hPD
  refine lv_aload_n S.1 S.2.1 dL_law_1180 rfl (lv_at hl 1 rfl) ?_
  refine lv_aload_n S.1 S.2.1 dL_law_1181 rfl (lv_at hl 0 rfl) ?_
  refine lv_iload_n S.1 S.2.1 dL_law_1182 rfl (lv_at hl 3 rfl) ?_
  refine lv_iconst (v := 1) S.1 S.2.1 dL_law_1183 (by decide) ?_
  refine lv_iadd S.1 S.2.1 dL_law_1184 ?_
  refine sldE S.1 S.2.1 hX hbl hbA hS hi1 dL_law_1185 ?_
  refine sC_i hP hD hS hA (va_runV (As := [.int a1]) (rest := []) S (metX0_drop_n l hfl hf) (cwV 1 S.2.2.2.2 (lw_V q935 q936 q937 q54 q938) rfl rfl rfl ⟨rfl, pdX0_drop⟩ ⟨Nat.le_of_ble_eq_true rfl, Nat.le_of_ble_eq_true rfl⟩) ⟨ablind, va_recv hK hP (ci := 0) (q0 := 0) rfl rfl, (spre hK hE hP hD hS hA).2⟩ rfl rfl hl.1 rfl (lv_room (Nat.le_of_ble_eq_true rfl)) dL_law_1186 hroom) (fun r u H locs hf hP hD hS => ?_)
  have hP := hP.perm permM
  have hD := hD.perm permM
  refine lv_aload_n S.1 S.2.1 dL_law_1189 rfl (lv_at hl 2 rfl) ?_
  refine lv_aload_n S.1 S.2.1 dL_law_1190 rfl (lv_at hl 0 rfl) ?_
  refine lv_iload_n S.1 S.2.1 dL_law_1191 rfl (lv_at hl 3 rfl) ?_
  refine lv_iconst (v := 1) S.1 S.2.1 dL_law_1192 (by decide) ?_
  refine lv_iadd S.1 S.2.1 dL_law_1193 ?_
  refine sldE S.1 S.2.1 hX hbl hbA hS hi1 dL_law_1194 ?_
  refine sM_i (As := [.int a1]) (rest := [.int r]) S hK rfl rfl (fun _ => rfl) hP hD hS (metX3_drop l hj hf) (lw_V q1570 q1571 q1572 q60 q1573) rfl pdX3_drop ⟨rfl, rfl⟩ ⟨Nat.le_of_ble_eq_true rfl, Nat.le_of_ble_eq_true rfl⟩ rfl hl.1 rfl (Nat.le_of_ble_eq_true rfl) dL_law_1195 hroom (fun r' u' H locs hf hP hD hS => ?_)
  obtain ⟨e1, hf⟩ := hf
  refine lv_icmp_eq (tgt := 1349) S.1 S.2.1 dL_law_1198 (by decide) (fun c_1 => ?_) (fun c_1 => ?_)
  · exact kk u u' H locs hf ⟨hP.perm permN, hD.perm permN⟩ hS
  · exact absurd e1 c_1
set_option maxHeartbeats 4000000 in
set_option maxRecDepth 100000 in
theorem lo_drop_N (hC : LC p l s m c b L xs A dC dI dA eA mi) (hj : mJ hm) {steps : Int32} {draw : Int32} {typed : Int32} {at_ : Int32} {isImage : Int32} {idraw : Int32} {gd : (Nat → Int32)} {gro : Int64} {grt : Int32} {td : (Nat → Int32)} {tro : Int64} {trt : Int32} {rd : (Nat → Int32)} {rro : Int64} {rrt : Int32} {imd : (Nat → Int32)} {imro : Int64} {imrt : Int32} {owners : (Nat → Int32)} {tour : (Nat → Int32)} {best : (Nat → Int32)} {tape : (Nat → Int32)} {signs : (Nat → Int32)} {acts : (Nat → Int32)} {iown : (Nat → Int32)} {taken : (Nat → Int64)} {shf : (Nat → Option Nat)} {hd : Nat} {m_depths : (Nat → Int32)} {m_owners : (Nat → Int32)} {m_roofs : Int64} {m_rate : Int32} {m_undos : (Nat → Int32)} {m_undoMany : Int32} {m_drawn : Int32} {m_dug : Int64} {m_deep : Int64} {m_holes : (Nat → Int64)} {m_holeMany : Int32} {m_tape : (Nat → Int32)} {m_taped : Int32} {m_place : Int32} {m_reads : Int32} {m_read_ : (Nat → Int32)} {m_row : (Nat → Int32)} {m_order : (Nat → Int32)} {m_bestOrder : (Nat → Int32)} {m_nears : (Nat → Int32)} {m_isKept : Int32} {m_keptRoofs : Int64} {m_kept : (Nat → Int32)} {m_lanes : (Nat → Int32)} {m_rowSizes : (Nat → Int32)} {m_items : (Nat → Int64)} {m_moved : (Nat → Int64)} {PP : (Nat → Int32) → Prop} (hf : wX0_drop_N (fun r => wX3_drop (fun r' q0 => r = r' ∧ PP q0) m_lanes m_rowSizes a1) shf hd a1) (hPD : PD A dC dI ([((h 0), .inr (0, [.ref (h 1), .ref (h 3), .ref (h 9), .ref (h 17), .ref (h 10), .ref (h 11), .int steps, .int draw, .ref (h 12), .int typed, .int at_, .ref (h 5), .ref (h 13), .ref (h 14), .int isImage, .ref (h 7), .ref (h 15), .ref (h 18), .int idraw, .ref (h 19), .ref (h 16)])), ((h 1), .inr (1, [.ref (h 2), .long gro, .int grt])), ((h 2), .inl (dA 0, 36, .inl gd)), ((h 3), .inr (1, [.ref (h 4), .long tro, .int trt])), ((h 4), .inl (dA 0, 36, .inl td)), ((h 5), .inr (1, [.ref (h 6), .long rro, .int rrt])), ((h 6), .inl (dA 0, 36, .inl rd)), ((h 7), .inr (1, [.ref (h 8), .long imro, .int imrt])), ((h 8), .inl (dA 0, 36, .inl imd)), ((h 9), .inl (dA 0, 36, .inl owners)), ((h 10), .inl (dA 1, 8, .inl tour)), ((h 11), .inl (dA 1, 8, .inl best)), ((h 12), .inl (dA 0, 160, .inl tape)), ((h 13), .inl (dA 0, 36, .inl signs)), ((h 14), .inl (dA 0, 320, .inl acts)), ((h 15), .inl (dA 0, 36, .inl iown)), ((h 16), .inl (dA 2, 36, .inr (.inl taken))), ((h 19), .inl (dA 5, 4, .inr (.inr (.inr (.inr shf))))), (hd, .inr (2, [.null]))] ++ ((wM hm dA m_depths m_owners m_roofs m_rate m_undos m_undoMany m_drawn m_dug m_deep m_holes m_holeMany m_tape m_taped m_place m_reads m_read_ m_row m_order m_bestOrder m_nears m_isKept m_keptRoofs m_kept m_lanes m_rowSizes m_items m_moved) ++ wr)) H) (hS : va_S A s.heap H locs) (hl : lv_has ls 4 [(0, .ref b), (1, .ref (h 0)), (2, .ref (hm 0)), (3, .int ix)]) (hi1 : vp_in (ix + 1) L ∧ xs (ix + 1).toNatClampNeg = a1) (hroom : kc + 0 ≤ room_1.cells ∧ ks + 0 ≤ room_1.slots)
    (kk : ∀ (u : Unit) (u' : (Nat → Int32)) (H1 : Heap) (locs1 : List Loc), PP u' → PD A dC dI ([((h 0), .inr (0, [.ref (h 1), .ref (h 3), .ref (h 9), .ref (h 17), .ref (h 10), .ref (h 11), .int steps, .int draw, .ref (h 12), .int typed, .int at_, .ref (h 5), .ref (h 13), .ref (h 14), .int isImage, .ref (h 7), .ref (h 15), .ref (h 18), .int idraw, .ref (h 19), .ref (h 16)])), ((h 1), .inr (1, [.ref (h 2), .long gro, .int grt])), ((h 2), .inl (dA 0, 36, .inl gd)), ((h 3), .inr (1, [.ref (h 4), .long tro, .int trt])), ((h 4), .inl (dA 0, 36, .inl td)), ((h 5), .inr (1, [.ref (h 6), .long rro, .int rrt])), ((h 6), .inl (dA 0, 36, .inl rd)), ((h 7), .inr (1, [.ref (h 8), .long imro, .int imrt])), ((h 8), .inl (dA 0, 36, .inl imd)), ((h 9), .inl (dA 0, 36, .inl owners)), ((h 10), .inl (dA 1, 8, .inl tour)), ((h 11), .inl (dA 1, 8, .inl best)), ((h 12), .inl (dA 0, 160, .inl tape)), ((h 13), .inl (dA 0, 36, .inl signs)), ((h 14), .inl (dA 0, 320, .inl acts)), ((h 15), .inl (dA 0, 36, .inl iown)), ((h 16), .inl (dA 2, 36, .inr (.inl taken))), ((h 19), .inl (dA 5, 4, .inr (.inr (.inr (.inr shf))))), (hd, .inr (2, [.null]))] ++ ((wM hm dA m_depths m_owners m_roofs m_rate m_undos m_undoMany m_drawn m_dug m_deep m_holes m_holeMany m_tape m_taped m_place m_reads m_read_ m_row m_order m_bestOrder m_nears m_isKept m_keptRoofs m_kept u' m_rowSizes m_items m_moved) ++ wr)) H1 → va_S A s.heap H1 locs1 → W p l e room_1 s m #[Value.ref b] below meth c H1 locs1 (kc + 0) (ks + 0) Q (F0 m 1349 ls [])) : W p l e room_1 s m #[Value.ref b] below meth c H locs kc ks Q (F0 m 1180 ls []) := by
  obtain ⟨S, hX, hbl, hbA, hK, hE, hA, hfl⟩ := hC
  obtain ⟨hP, hD⟩ := hPD
  refine lv_aload_n S.1 S.2.1 dL_law_1180 rfl (lv_at hl 1 rfl) ?_
  refine lv_aload_n S.1 S.2.1 dL_law_1181 rfl (lv_at hl 0 rfl) ?_
  refine lv_iload_n S.1 S.2.1 dL_law_1182 rfl (lv_at hl 3 rfl) ?_
  refine lv_iconst (v := 1) S.1 S.2.1 dL_law_1183 (by decide) ?_
  refine lv_iadd S.1 S.2.1 dL_law_1184 ?_
  refine sldE S.1 S.2.1 hX hbl hbA hS hi1 dL_law_1185 ?_
  refine sC_i hP hD hS hA (va_runV (As := [.int a1]) (rest := []) S (metX0_drop_N l hfl hf) (cwV 1 S.2.2.2.2 (lw_V q935 q936 q937 q54 q938) rfl rfl rfl ⟨rfl, pdX0_drop⟩ ⟨Nat.le_of_ble_eq_true rfl, Nat.le_of_ble_eq_true rfl⟩) ⟨ablind, va_recv hK hP (ci := 0) (q0 := 0) rfl rfl, (spre hK hE hP hD hS hA).2⟩ rfl rfl hl.1 rfl (lv_room (Nat.le_of_ble_eq_true rfl)) dL_law_1186 hroom) (fun r u H locs hf hP hD hS => ?_)
  have hP := hP.perm permM
  have hD := hD.perm permM
  refine lv_aload_n S.1 S.2.1 dL_law_1189 rfl (lv_at hl 2 rfl) ?_
  refine lv_aload_n S.1 S.2.1 dL_law_1190 rfl (lv_at hl 0 rfl) ?_
  refine lv_iload_n S.1 S.2.1 dL_law_1191 rfl (lv_at hl 3 rfl) ?_
  refine lv_iconst (v := 1) S.1 S.2.1 dL_law_1192 (by decide) ?_
  refine lv_iadd S.1 S.2.1 dL_law_1193 ?_
  refine sldE S.1 S.2.1 hX hbl hbA hS hi1 dL_law_1194 ?_
  refine sM_i (As := [.int a1]) (rest := [.int r]) S hK rfl rfl (fun _ => rfl) hP hD hS (metX3_drop l hj hf) (lw_V q1570 q1571 q1572 q60 q1573) rfl pdX3_drop ⟨rfl, rfl⟩ ⟨Nat.le_of_ble_eq_true rfl, Nat.le_of_ble_eq_true rfl⟩ rfl hl.1 rfl (Nat.le_of_ble_eq_true rfl) dL_law_1195 hroom (fun r' u' H locs hf hP hD hS => ?_)
  obtain ⟨e1, hf⟩ := hf
  refine lv_icmp_eq (tgt := 1349) S.1 S.2.1 dL_law_1198 (by decide) (fun c_1 => ?_) (fun c_1 => ?_)
  · exact kk u u' H locs hf ⟨hP.perm permN, hD.perm permN⟩ hS
  · exact absurd e1 c_1
set_option maxHeartbeats 4000000 in
set_option maxRecDepth 100000 in
theorem lo_drop_B (hC : LC p l s m c b L xs A dC dI dA eA mi) (hj : mJ hm) {steps : Int32} {draw : Int32} {typed : Int32} {at_ : Int32} {isImage : Int32} {idraw : Int32} {gd : (Nat → Int32)} {gro : Int64} {grt : Int32} {td : (Nat → Int32)} {tro : Int64} {trt : Int32} {rd : (Nat → Int32)} {rro : Int64} {rrt : Int32} {imd : (Nat → Int32)} {imro : Int64} {imrt : Int32} {owners : (Nat → Int32)} {tour : (Nat → Int32)} {best : (Nat → Int32)} {tape : (Nat → Int32)} {signs : (Nat → Int32)} {acts : (Nat → Int32)} {iown : (Nat → Int32)} {taken : (Nat → Int64)} {shf : (Nat → Option Nat)} {hd : Nat} {rn : Nat} {rf : (Nat → Int32)} {ra : Nat} {m_depths : (Nat → Int32)} {m_owners : (Nat → Int32)} {m_roofs : Int64} {m_rate : Int32} {m_undos : (Nat → Int32)} {m_undoMany : Int32} {m_drawn : Int32} {m_dug : Int64} {m_deep : Int64} {m_holes : (Nat → Int64)} {m_holeMany : Int32} {m_tape : (Nat → Int32)} {m_taped : Int32} {m_place : Int32} {m_reads : Int32} {m_read_ : (Nat → Int32)} {m_row : (Nat → Int32)} {m_order : (Nat → Int32)} {m_bestOrder : (Nat → Int32)} {m_nears : (Nat → Int32)} {m_isKept : Int32} {m_keptRoofs : Int64} {m_kept : (Nat → Int32)} {m_lanes : (Nat → Int32)} {m_rowSizes : (Nat → Int32)} {m_items : (Nat → Int64)} {m_moved : (Nat → Int64)} {PP : (Nat → Int32) → Prop} (hf : wX0_drop_B (fun r => wX3_drop (fun r' q0 => r = r' ∧ PP q0) m_lanes m_rowSizes a1) shf hd rn a1) (hPD : PD A dC dI ([((h 0), .inr (0, [.ref (h 1), .ref (h 3), .ref (h 9), .ref (h 17), .ref (h 10), .ref (h 11), .int steps, .int draw, .ref (h 12), .int typed, .int at_, .ref (h 5), .ref (h 13), .ref (h 14), .int isImage, .ref (h 7), .ref (h 15), .ref (h 18), .int idraw, .ref (h 19), .ref (h 16)])), ((h 1), .inr (1, [.ref (h 2), .long gro, .int grt])), ((h 2), .inl (dA 0, 36, .inl gd)), ((h 3), .inr (1, [.ref (h 4), .long tro, .int trt])), ((h 4), .inl (dA 0, 36, .inl td)), ((h 5), .inr (1, [.ref (h 6), .long rro, .int rrt])), ((h 6), .inl (dA 0, 36, .inl rd)), ((h 7), .inr (1, [.ref (h 8), .long imro, .int imrt])), ((h 8), .inl (dA 0, 36, .inl imd)), ((h 9), .inl (dA 0, 36, .inl owners)), ((h 10), .inl (dA 1, 8, .inl tour)), ((h 11), .inl (dA 1, 8, .inl best)), ((h 12), .inl (dA 0, 160, .inl tape)), ((h 13), .inl (dA 0, 36, .inl signs)), ((h 14), .inl (dA 0, 320, .inl acts)), ((h 15), .inl (dA 0, 36, .inl iown)), ((h 16), .inl (dA 2, 36, .inr (.inl taken))), ((h 19), .inl (dA 5, 4, .inr (.inr (.inr (.inr shf))))), (hd, .inr (2, [.ref ra])), (ra, .inl (dA 0, rn, .inl rf))] ++ ((wM hm dA m_depths m_owners m_roofs m_rate m_undos m_undoMany m_drawn m_dug m_deep m_holes m_holeMany m_tape m_taped m_place m_reads m_read_ m_row m_order m_bestOrder m_nears m_isKept m_keptRoofs m_kept m_lanes m_rowSizes m_items m_moved) ++ wr)) H) (hS : va_S A s.heap H locs) (hl : lv_has ls 4 [(0, .ref b), (1, .ref (h 0)), (2, .ref (hm 0)), (3, .int ix)]) (hi1 : vp_in (ix + 1) L ∧ xs (ix + 1).toNatClampNeg = a1) (hroom : kc + 0 ≤ room_1.cells ∧ ks + 0 ≤ room_1.slots)
    (kk : ∀ (u : Unit) (u' : (Nat → Int32)) (H1 : Heap) (locs1 : List Loc), PP u' → PD A dC dI ([((h 0), .inr (0, [.ref (h 1), .ref (h 3), .ref (h 9), .ref (h 17), .ref (h 10), .ref (h 11), .int steps, .int draw, .ref (h 12), .int typed, .int at_, .ref (h 5), .ref (h 13), .ref (h 14), .int isImage, .ref (h 7), .ref (h 15), .ref (h 18), .int idraw, .ref (h 19), .ref (h 16)])), ((h 1), .inr (1, [.ref (h 2), .long gro, .int grt])), ((h 2), .inl (dA 0, 36, .inl gd)), ((h 3), .inr (1, [.ref (h 4), .long tro, .int trt])), ((h 4), .inl (dA 0, 36, .inl td)), ((h 5), .inr (1, [.ref (h 6), .long rro, .int rrt])), ((h 6), .inl (dA 0, 36, .inl rd)), ((h 7), .inr (1, [.ref (h 8), .long imro, .int imrt])), ((h 8), .inl (dA 0, 36, .inl imd)), ((h 9), .inl (dA 0, 36, .inl owners)), ((h 10), .inl (dA 1, 8, .inl tour)), ((h 11), .inl (dA 1, 8, .inl best)), ((h 12), .inl (dA 0, 160, .inl tape)), ((h 13), .inl (dA 0, 36, .inl signs)), ((h 14), .inl (dA 0, 320, .inl acts)), ((h 15), .inl (dA 0, 36, .inl iown)), ((h 16), .inl (dA 2, 36, .inr (.inl taken))), ((h 19), .inl (dA 5, 4, .inr (.inr (.inr (.inr shf))))), (hd, .inr (2, [.null]))] ++ ((wM hm dA m_depths m_owners m_roofs m_rate m_undos m_undoMany m_drawn m_dug m_deep m_holes m_holeMany m_tape m_taped m_place m_reads m_read_ m_row m_order m_bestOrder m_nears m_isKept m_keptRoofs m_kept u' m_rowSizes m_items m_moved) ++ wr)) H1 → va_S A s.heap H1 locs1 → W p l e room_1 s m #[Value.ref b] below meth c H1 locs1 (kc + 0) (ks + 0) Q (F0 m 1349 ls [])) : W p l e room_1 s m #[Value.ref b] below meth c H locs kc ks Q (F0 m 1180 ls []) := by
  obtain ⟨S, hX, hbl, hbA, hK, hE, hA, hfl⟩ := hC
  obtain ⟨hP, hD⟩ := hPD
  refine lv_aload_n S.1 S.2.1 dL_law_1180 rfl (lv_at hl 1 rfl) ?_
  refine lv_aload_n S.1 S.2.1 dL_law_1181 rfl (lv_at hl 0 rfl) ?_
  refine lv_iload_n S.1 S.2.1 dL_law_1182 rfl (lv_at hl 3 rfl) ?_
  refine lv_iconst (v := 1) S.1 S.2.1 dL_law_1183 (by decide) ?_
  refine lv_iadd S.1 S.2.1 dL_law_1184 ?_
  refine sldE S.1 S.2.1 hX hbl hbA hS hi1 dL_law_1185 ?_
  refine sC_i hP hD hS hA (va_runV (As := [.int a1]) (rest := []) S (metX0_drop_B l hfl hf) (cwV 1 S.2.2.2.2 (lw_V q935 q936 q937 q54 q938) rfl rfl rfl ⟨rfl, pdX0_drop⟩ ⟨Nat.le_of_ble_eq_true rfl, Nat.le_of_ble_eq_true rfl⟩) ⟨ablind, va_recv hK hP (ci := 0) (q0 := 0) rfl rfl, (spre hK hE hP hD hS hA).2⟩ rfl rfl hl.1 rfl (lv_room (Nat.le_of_ble_eq_true rfl)) dL_law_1186 hroom) (fun r u H locs hf hP hD hS => ?_)
  have hP := hP.perm permM
  have hD := hD.perm permM
  refine lv_aload_n S.1 S.2.1 dL_law_1189 rfl (lv_at hl 2 rfl) ?_
  refine lv_aload_n S.1 S.2.1 dL_law_1190 rfl (lv_at hl 0 rfl) ?_
  refine lv_iload_n S.1 S.2.1 dL_law_1191 rfl (lv_at hl 3 rfl) ?_
  refine lv_iconst (v := 1) S.1 S.2.1 dL_law_1192 (by decide) ?_
  refine lv_iadd S.1 S.2.1 dL_law_1193 ?_
  refine sldE S.1 S.2.1 hX hbl hbA hS hi1 dL_law_1194 ?_
  refine sM_i (As := [.int a1]) (rest := [.int r]) S hK rfl rfl (fun _ => rfl) hP hD hS (metX3_drop l hj hf) (lw_V q1570 q1571 q1572 q60 q1573) rfl pdX3_drop ⟨rfl, rfl⟩ ⟨Nat.le_of_ble_eq_true rfl, Nat.le_of_ble_eq_true rfl⟩ rfl hl.1 rfl (Nat.le_of_ble_eq_true rfl) dL_law_1195 hroom (fun r' u' H locs hf hP hD hS => ?_)
  obtain ⟨e1, hf⟩ := hf
  refine lv_icmp_eq (tgt := 1349) S.1 S.2.1 dL_law_1198 (by decide) (fun c_1 => ?_) (fun c_1 => ?_)
  · exact kk u u' H locs hf ⟨hP.perm permN, hD.perm permN⟩ hS
  · exact absurd e1 c_1
set_option maxHeartbeats 4000000 in
set_option maxRecDepth 100000 in
theorem lo_drop_S (hC : LC p l s m c b L xs A dC dI dA eA mi) (hj : mJ hm) {steps : Int32} {draw : Int32} {typed : Int32} {at_ : Int32} {isImage : Int32} {idraw : Int32} {gd : (Nat → Int32)} {gro : Int64} {grt : Int32} {td : (Nat → Int32)} {tro : Int64} {trt : Int32} {rd : (Nat → Int32)} {rro : Int64} {rrt : Int32} {imd : (Nat → Int32)} {imro : Int64} {imrt : Int32} {owners : (Nat → Int32)} {tour : (Nat → Int32)} {best : (Nat → Int32)} {tape : (Nat → Int32)} {signs : (Nat → Int32)} {acts : (Nat → Int32)} {iown : (Nat → Int32)} {taken : (Nat → Int64)} {shf : (Nat → Option Nat)} {hd : Nat} {rn : Nat} {rf : (Nat → Int32)} {ra : Nat} {m_depths : (Nat → Int32)} {m_owners : (Nat → Int32)} {m_roofs : Int64} {m_rate : Int32} {m_undos : (Nat → Int32)} {m_undoMany : Int32} {m_drawn : Int32} {m_dug : Int64} {m_deep : Int64} {m_holes : (Nat → Int64)} {m_holeMany : Int32} {m_tape : (Nat → Int32)} {m_taped : Int32} {m_place : Int32} {m_reads : Int32} {m_read_ : (Nat → Int32)} {m_row : (Nat → Int32)} {m_order : (Nat → Int32)} {m_bestOrder : (Nat → Int32)} {m_nears : (Nat → Int32)} {m_isKept : Int32} {m_keptRoofs : Int64} {m_kept : (Nat → Int32)} {m_lanes : (Nat → Int32)} {m_rowSizes : (Nat → Int32)} {m_items : (Nat → Int64)} {m_moved : (Nat → Int64)} {PP : (Nat → Int32) → Prop} (hf : wX0_drop_S (fun r => wX3_drop (fun r' q0 => r = r' ∧ PP q0) m_lanes m_rowSizes a1) shf hd rn a1) (hPD : PD A dC dI ([((h 0), .inr (0, [.ref (h 1), .ref (h 3), .ref (h 9), .ref (h 17), .ref (h 10), .ref (h 11), .int steps, .int draw, .ref (h 12), .int typed, .int at_, .ref (h 5), .ref (h 13), .ref (h 14), .int isImage, .ref (h 7), .ref (h 15), .ref (h 18), .int idraw, .ref (h 19), .ref (h 16)])), ((h 1), .inr (1, [.ref (h 2), .long gro, .int grt])), ((h 2), .inl (dA 0, 36, .inl gd)), ((h 3), .inr (1, [.ref (h 4), .long tro, .int trt])), ((h 4), .inl (dA 0, 36, .inl td)), ((h 5), .inr (1, [.ref (h 6), .long rro, .int rrt])), ((h 6), .inl (dA 0, 36, .inl rd)), ((h 7), .inr (1, [.ref (h 8), .long imro, .int imrt])), ((h 8), .inl (dA 0, 36, .inl imd)), ((h 9), .inl (dA 0, 36, .inl owners)), ((h 10), .inl (dA 1, 8, .inl tour)), ((h 11), .inl (dA 1, 8, .inl best)), ((h 12), .inl (dA 0, 160, .inl tape)), ((h 13), .inl (dA 0, 36, .inl signs)), ((h 14), .inl (dA 0, 320, .inl acts)), ((h 15), .inl (dA 0, 36, .inl iown)), ((h 16), .inl (dA 2, 36, .inr (.inl taken))), ((h 19), .inl (dA 5, 4, .inr (.inr (.inr (.inr shf))))), (hd, .inr (2, [.ref ra])), (ra, .inl (dA 3, rn, .inl rf))] ++ ((wM hm dA m_depths m_owners m_roofs m_rate m_undos m_undoMany m_drawn m_dug m_deep m_holes m_holeMany m_tape m_taped m_place m_reads m_read_ m_row m_order m_bestOrder m_nears m_isKept m_keptRoofs m_kept m_lanes m_rowSizes m_items m_moved) ++ wr)) H) (hS : va_S A s.heap H locs) (hl : lv_has ls 4 [(0, .ref b), (1, .ref (h 0)), (2, .ref (hm 0)), (3, .int ix)]) (hi1 : vp_in (ix + 1) L ∧ xs (ix + 1).toNatClampNeg = a1) (hroom : kc + 0 ≤ room_1.cells ∧ ks + 0 ≤ room_1.slots)
    (kk : ∀ (u : Unit) (u' : (Nat → Int32)) (H1 : Heap) (locs1 : List Loc), PP u' → PD A dC dI ([((h 0), .inr (0, [.ref (h 1), .ref (h 3), .ref (h 9), .ref (h 17), .ref (h 10), .ref (h 11), .int steps, .int draw, .ref (h 12), .int typed, .int at_, .ref (h 5), .ref (h 13), .ref (h 14), .int isImage, .ref (h 7), .ref (h 15), .ref (h 18), .int idraw, .ref (h 19), .ref (h 16)])), ((h 1), .inr (1, [.ref (h 2), .long gro, .int grt])), ((h 2), .inl (dA 0, 36, .inl gd)), ((h 3), .inr (1, [.ref (h 4), .long tro, .int trt])), ((h 4), .inl (dA 0, 36, .inl td)), ((h 5), .inr (1, [.ref (h 6), .long rro, .int rrt])), ((h 6), .inl (dA 0, 36, .inl rd)), ((h 7), .inr (1, [.ref (h 8), .long imro, .int imrt])), ((h 8), .inl (dA 0, 36, .inl imd)), ((h 9), .inl (dA 0, 36, .inl owners)), ((h 10), .inl (dA 1, 8, .inl tour)), ((h 11), .inl (dA 1, 8, .inl best)), ((h 12), .inl (dA 0, 160, .inl tape)), ((h 13), .inl (dA 0, 36, .inl signs)), ((h 14), .inl (dA 0, 320, .inl acts)), ((h 15), .inl (dA 0, 36, .inl iown)), ((h 16), .inl (dA 2, 36, .inr (.inl taken))), ((h 19), .inl (dA 5, 4, .inr (.inr (.inr (.inr shf))))), (hd, .inr (2, [.null]))] ++ ((wM hm dA m_depths m_owners m_roofs m_rate m_undos m_undoMany m_drawn m_dug m_deep m_holes m_holeMany m_tape m_taped m_place m_reads m_read_ m_row m_order m_bestOrder m_nears m_isKept m_keptRoofs m_kept u' m_rowSizes m_items m_moved) ++ wr)) H1 → va_S A s.heap H1 locs1 → W p l e room_1 s m #[Value.ref b] below meth c H1 locs1 (kc + 0) (ks + 0) Q (F0 m 1349 ls [])) : W p l e room_1 s m #[Value.ref b] below meth c H locs kc ks Q (F0 m 1180 ls []) := by
  obtain ⟨S, hX, hbl, hbA, hK, hE, hA, hfl⟩ := hC
  obtain ⟨hP, hD⟩ := hPD
  refine lv_aload_n S.1 S.2.1 dL_law_1180 rfl (lv_at hl 1 rfl) ?_
  refine lv_aload_n S.1 S.2.1 dL_law_1181 rfl (lv_at hl 0 rfl) ?_
  refine lv_iload_n S.1 S.2.1 dL_law_1182 rfl (lv_at hl 3 rfl) ?_
  refine lv_iconst (v := 1) S.1 S.2.1 dL_law_1183 (by decide) ?_
  refine lv_iadd S.1 S.2.1 dL_law_1184 ?_
  refine sldE S.1 S.2.1 hX hbl hbA hS hi1 dL_law_1185 ?_
  refine sC_i hP hD hS hA (va_runV (As := [.int a1]) (rest := []) S (metX0_drop_S l hfl hf) (cwV 1 S.2.2.2.2 (lw_V q935 q936 q937 q54 q938) rfl rfl rfl ⟨rfl, pdX0_drop⟩ ⟨Nat.le_of_ble_eq_true rfl, Nat.le_of_ble_eq_true rfl⟩) ⟨ablind, va_recv hK hP (ci := 0) (q0 := 0) rfl rfl, (spre hK hE hP hD hS hA).2⟩ rfl rfl hl.1 rfl (lv_room (Nat.le_of_ble_eq_true rfl)) dL_law_1186 hroom) (fun r u H locs hf hP hD hS => ?_)
  have hP := hP.perm permM
  have hD := hD.perm permM
  refine lv_aload_n S.1 S.2.1 dL_law_1189 rfl (lv_at hl 2 rfl) ?_
  refine lv_aload_n S.1 S.2.1 dL_law_1190 rfl (lv_at hl 0 rfl) ?_
  refine lv_iload_n S.1 S.2.1 dL_law_1191 rfl (lv_at hl 3 rfl) ?_
  refine lv_iconst (v := 1) S.1 S.2.1 dL_law_1192 (by decide) ?_
  refine lv_iadd S.1 S.2.1 dL_law_1193 ?_
  refine sldE S.1 S.2.1 hX hbl hbA hS hi1 dL_law_1194 ?_
  refine sM_i (As := [.int a1]) (rest := [.int r]) S hK rfl rfl (fun _ => rfl) hP hD hS (metX3_drop l hj hf) (lw_V q1570 q1571 q1572 q60 q1573) rfl pdX3_drop ⟨rfl, rfl⟩ ⟨Nat.le_of_ble_eq_true rfl, Nat.le_of_ble_eq_true rfl⟩ rfl hl.1 rfl (Nat.le_of_ble_eq_true rfl) dL_law_1195 hroom (fun r' u' H locs hf hP hD hS => ?_)
  obtain ⟨e1, hf⟩ := hf
  refine lv_icmp_eq (tgt := 1349) S.1 S.2.1 dL_law_1198 (by decide) (fun c_1 => ?_) (fun c_1 => ?_)
  · exact kk u u' H locs hf ⟨hP.perm permN, hD.perm permN⟩ hS
  · exact absurd e1 c_1
set_option maxHeartbeats 4000000 in
set_option maxRecDepth 100000 in
theorem lo_drop_I (hC : LC p l s m c b L xs A dC dI dA eA mi) (hj : mJ hm) {steps : Int32} {draw : Int32} {typed : Int32} {at_ : Int32} {isImage : Int32} {idraw : Int32} {gd : (Nat → Int32)} {gro : Int64} {grt : Int32} {td : (Nat → Int32)} {tro : Int64} {trt : Int32} {rd : (Nat → Int32)} {rro : Int64} {rrt : Int32} {imd : (Nat → Int32)} {imro : Int64} {imrt : Int32} {owners : (Nat → Int32)} {tour : (Nat → Int32)} {best : (Nat → Int32)} {tape : (Nat → Int32)} {signs : (Nat → Int32)} {acts : (Nat → Int32)} {iown : (Nat → Int32)} {taken : (Nat → Int64)} {shf : (Nat → Option Nat)} {hd : Nat} {rn : Nat} {rf : (Nat → Int32)} {ra : Nat} {m_depths : (Nat → Int32)} {m_owners : (Nat → Int32)} {m_roofs : Int64} {m_rate : Int32} {m_undos : (Nat → Int32)} {m_undoMany : Int32} {m_drawn : Int32} {m_dug : Int64} {m_deep : Int64} {m_holes : (Nat → Int64)} {m_holeMany : Int32} {m_tape : (Nat → Int32)} {m_taped : Int32} {m_place : Int32} {m_reads : Int32} {m_read_ : (Nat → Int32)} {m_row : (Nat → Int32)} {m_order : (Nat → Int32)} {m_bestOrder : (Nat → Int32)} {m_nears : (Nat → Int32)} {m_isKept : Int32} {m_keptRoofs : Int64} {m_kept : (Nat → Int32)} {m_lanes : (Nat → Int32)} {m_rowSizes : (Nat → Int32)} {m_items : (Nat → Int64)} {m_moved : (Nat → Int64)} {PP : (Nat → Int32) → Prop} (hf : wX0_drop_I (fun r => wX3_drop (fun r' q0 => r = r' ∧ PP q0) m_lanes m_rowSizes a1) shf hd rn a1) (hPD : PD A dC dI ([((h 0), .inr (0, [.ref (h 1), .ref (h 3), .ref (h 9), .ref (h 17), .ref (h 10), .ref (h 11), .int steps, .int draw, .ref (h 12), .int typed, .int at_, .ref (h 5), .ref (h 13), .ref (h 14), .int isImage, .ref (h 7), .ref (h 15), .ref (h 18), .int idraw, .ref (h 19), .ref (h 16)])), ((h 1), .inr (1, [.ref (h 2), .long gro, .int grt])), ((h 2), .inl (dA 0, 36, .inl gd)), ((h 3), .inr (1, [.ref (h 4), .long tro, .int trt])), ((h 4), .inl (dA 0, 36, .inl td)), ((h 5), .inr (1, [.ref (h 6), .long rro, .int rrt])), ((h 6), .inl (dA 0, 36, .inl rd)), ((h 7), .inr (1, [.ref (h 8), .long imro, .int imrt])), ((h 8), .inl (dA 0, 36, .inl imd)), ((h 9), .inl (dA 0, 36, .inl owners)), ((h 10), .inl (dA 1, 8, .inl tour)), ((h 11), .inl (dA 1, 8, .inl best)), ((h 12), .inl (dA 0, 160, .inl tape)), ((h 13), .inl (dA 0, 36, .inl signs)), ((h 14), .inl (dA 0, 320, .inl acts)), ((h 15), .inl (dA 0, 36, .inl iown)), ((h 16), .inl (dA 2, 36, .inr (.inl taken))), ((h 19), .inl (dA 5, 4, .inr (.inr (.inr (.inr shf))))), (hd, .inr (2, [.ref ra])), (ra, .inl (dA 1, rn, .inl rf))] ++ ((wM hm dA m_depths m_owners m_roofs m_rate m_undos m_undoMany m_drawn m_dug m_deep m_holes m_holeMany m_tape m_taped m_place m_reads m_read_ m_row m_order m_bestOrder m_nears m_isKept m_keptRoofs m_kept m_lanes m_rowSizes m_items m_moved) ++ wr)) H) (hS : va_S A s.heap H locs) (hl : lv_has ls 4 [(0, .ref b), (1, .ref (h 0)), (2, .ref (hm 0)), (3, .int ix)]) (hi1 : vp_in (ix + 1) L ∧ xs (ix + 1).toNatClampNeg = a1) (hroom : kc + 0 ≤ room_1.cells ∧ ks + 0 ≤ room_1.slots)
    (kk : ∀ (u : Unit) (u' : (Nat → Int32)) (H1 : Heap) (locs1 : List Loc), PP u' → PD A dC dI ([((h 0), .inr (0, [.ref (h 1), .ref (h 3), .ref (h 9), .ref (h 17), .ref (h 10), .ref (h 11), .int steps, .int draw, .ref (h 12), .int typed, .int at_, .ref (h 5), .ref (h 13), .ref (h 14), .int isImage, .ref (h 7), .ref (h 15), .ref (h 18), .int idraw, .ref (h 19), .ref (h 16)])), ((h 1), .inr (1, [.ref (h 2), .long gro, .int grt])), ((h 2), .inl (dA 0, 36, .inl gd)), ((h 3), .inr (1, [.ref (h 4), .long tro, .int trt])), ((h 4), .inl (dA 0, 36, .inl td)), ((h 5), .inr (1, [.ref (h 6), .long rro, .int rrt])), ((h 6), .inl (dA 0, 36, .inl rd)), ((h 7), .inr (1, [.ref (h 8), .long imro, .int imrt])), ((h 8), .inl (dA 0, 36, .inl imd)), ((h 9), .inl (dA 0, 36, .inl owners)), ((h 10), .inl (dA 1, 8, .inl tour)), ((h 11), .inl (dA 1, 8, .inl best)), ((h 12), .inl (dA 0, 160, .inl tape)), ((h 13), .inl (dA 0, 36, .inl signs)), ((h 14), .inl (dA 0, 320, .inl acts)), ((h 15), .inl (dA 0, 36, .inl iown)), ((h 16), .inl (dA 2, 36, .inr (.inl taken))), ((h 19), .inl (dA 5, 4, .inr (.inr (.inr (.inr shf))))), (hd, .inr (2, [.null]))] ++ ((wM hm dA m_depths m_owners m_roofs m_rate m_undos m_undoMany m_drawn m_dug m_deep m_holes m_holeMany m_tape m_taped m_place m_reads m_read_ m_row m_order m_bestOrder m_nears m_isKept m_keptRoofs m_kept u' m_rowSizes m_items m_moved) ++ wr)) H1 → va_S A s.heap H1 locs1 → W p l e room_1 s m #[Value.ref b] below meth c H1 locs1 (kc + 0) (ks + 0) Q (F0 m 1349 ls [])) : W p l e room_1 s m #[Value.ref b] below meth c H locs kc ks Q (F0 m 1180 ls []) := by
  obtain ⟨S, hX, hbl, hbA, hK, hE, hA, hfl⟩ := hC
  obtain ⟨hP, hD⟩ := hPD
  refine lv_aload_n S.1 S.2.1 dL_law_1180 rfl (lv_at hl 1 rfl) ?_
  refine lv_aload_n S.1 S.2.1 dL_law_1181 rfl (lv_at hl 0 rfl) ?_
  refine lv_iload_n S.1 S.2.1 dL_law_1182 rfl (lv_at hl 3 rfl) ?_
  refine lv_iconst (v := 1) S.1 S.2.1 dL_law_1183 (by decide) ?_
  refine lv_iadd S.1 S.2.1 dL_law_1184 ?_
  refine sldE S.1 S.2.1 hX hbl hbA hS hi1 dL_law_1185 ?_
  refine sC_i hP hD hS hA (va_runV (As := [.int a1]) (rest := []) S (metX0_drop_I l hfl hf) (cwV 1 S.2.2.2.2 (lw_V q935 q936 q937 q54 q938) rfl rfl rfl ⟨rfl, pdX0_drop⟩ ⟨Nat.le_of_ble_eq_true rfl, Nat.le_of_ble_eq_true rfl⟩) ⟨ablind, va_recv hK hP (ci := 0) (q0 := 0) rfl rfl, (spre hK hE hP hD hS hA).2⟩ rfl rfl hl.1 rfl (lv_room (Nat.le_of_ble_eq_true rfl)) dL_law_1186 hroom) (fun r u H locs hf hP hD hS => ?_)
  have hP := hP.perm permM
  have hD := hD.perm permM
  refine lv_aload_n S.1 S.2.1 dL_law_1189 rfl (lv_at hl 2 rfl) ?_
  refine lv_aload_n S.1 S.2.1 dL_law_1190 rfl (lv_at hl 0 rfl) ?_
  refine lv_iload_n S.1 S.2.1 dL_law_1191 rfl (lv_at hl 3 rfl) ?_
  refine lv_iconst (v := 1) S.1 S.2.1 dL_law_1192 (by decide) ?_
  refine lv_iadd S.1 S.2.1 dL_law_1193 ?_
  refine sldE S.1 S.2.1 hX hbl hbA hS hi1 dL_law_1194 ?_
  refine sM_i (As := [.int a1]) (rest := [.int r]) S hK rfl rfl (fun _ => rfl) hP hD hS (metX3_drop l hj hf) (lw_V q1570 q1571 q1572 q60 q1573) rfl pdX3_drop ⟨rfl, rfl⟩ ⟨Nat.le_of_ble_eq_true rfl, Nat.le_of_ble_eq_true rfl⟩ rfl hl.1 rfl (Nat.le_of_ble_eq_true rfl) dL_law_1195 hroom (fun r' u' H locs hf hP hD hS => ?_)
  obtain ⟨e1, hf⟩ := hf
  refine lv_icmp_eq (tgt := 1349) S.1 S.2.1 dL_law_1198 (by decide) (fun c_1 => ?_) (fun c_1 => ?_)
  · exact kk u u' H locs hf ⟨hP.perm permN, hD.perm permN⟩ hS
  · exact absurd e1 c_1
set_option maxHeartbeats 4000000 in
set_option maxRecDepth 100000 in
theorem lo_drop_J (hC : LC p l s m c b L xs A dC dI dA eA mi) (hj : mJ hm) {steps : Int32} {draw : Int32} {typed : Int32} {at_ : Int32} {isImage : Int32} {idraw : Int32} {gd : (Nat → Int32)} {gro : Int64} {grt : Int32} {td : (Nat → Int32)} {tro : Int64} {trt : Int32} {rd : (Nat → Int32)} {rro : Int64} {rrt : Int32} {imd : (Nat → Int32)} {imro : Int64} {imrt : Int32} {owners : (Nat → Int32)} {tour : (Nat → Int32)} {best : (Nat → Int32)} {tape : (Nat → Int32)} {signs : (Nat → Int32)} {acts : (Nat → Int32)} {iown : (Nat → Int32)} {taken : (Nat → Int64)} {shf : (Nat → Option Nat)} {hd : Nat} {rn : Nat} {rf : (Nat → Int64)} {ra : Nat} {m_depths : (Nat → Int32)} {m_owners : (Nat → Int32)} {m_roofs : Int64} {m_rate : Int32} {m_undos : (Nat → Int32)} {m_undoMany : Int32} {m_drawn : Int32} {m_dug : Int64} {m_deep : Int64} {m_holes : (Nat → Int64)} {m_holeMany : Int32} {m_tape : (Nat → Int32)} {m_taped : Int32} {m_place : Int32} {m_reads : Int32} {m_read_ : (Nat → Int32)} {m_row : (Nat → Int32)} {m_order : (Nat → Int32)} {m_bestOrder : (Nat → Int32)} {m_nears : (Nat → Int32)} {m_isKept : Int32} {m_keptRoofs : Int64} {m_kept : (Nat → Int32)} {m_lanes : (Nat → Int32)} {m_rowSizes : (Nat → Int32)} {m_items : (Nat → Int64)} {m_moved : (Nat → Int64)} {PP : (Nat → Int32) → Prop} (hf : wX0_drop_J (fun r => wX3_drop (fun r' q0 => r = r' ∧ PP q0) m_lanes m_rowSizes a1) shf hd rn a1) (hPD : PD A dC dI ([((h 0), .inr (0, [.ref (h 1), .ref (h 3), .ref (h 9), .ref (h 17), .ref (h 10), .ref (h 11), .int steps, .int draw, .ref (h 12), .int typed, .int at_, .ref (h 5), .ref (h 13), .ref (h 14), .int isImage, .ref (h 7), .ref (h 15), .ref (h 18), .int idraw, .ref (h 19), .ref (h 16)])), ((h 1), .inr (1, [.ref (h 2), .long gro, .int grt])), ((h 2), .inl (dA 0, 36, .inl gd)), ((h 3), .inr (1, [.ref (h 4), .long tro, .int trt])), ((h 4), .inl (dA 0, 36, .inl td)), ((h 5), .inr (1, [.ref (h 6), .long rro, .int rrt])), ((h 6), .inl (dA 0, 36, .inl rd)), ((h 7), .inr (1, [.ref (h 8), .long imro, .int imrt])), ((h 8), .inl (dA 0, 36, .inl imd)), ((h 9), .inl (dA 0, 36, .inl owners)), ((h 10), .inl (dA 1, 8, .inl tour)), ((h 11), .inl (dA 1, 8, .inl best)), ((h 12), .inl (dA 0, 160, .inl tape)), ((h 13), .inl (dA 0, 36, .inl signs)), ((h 14), .inl (dA 0, 320, .inl acts)), ((h 15), .inl (dA 0, 36, .inl iown)), ((h 16), .inl (dA 2, 36, .inr (.inl taken))), ((h 19), .inl (dA 5, 4, .inr (.inr (.inr (.inr shf))))), (hd, .inr (2, [.ref ra])), (ra, .inl (dA 2, rn, .inr (.inl rf)))] ++ ((wM hm dA m_depths m_owners m_roofs m_rate m_undos m_undoMany m_drawn m_dug m_deep m_holes m_holeMany m_tape m_taped m_place m_reads m_read_ m_row m_order m_bestOrder m_nears m_isKept m_keptRoofs m_kept m_lanes m_rowSizes m_items m_moved) ++ wr)) H) (hS : va_S A s.heap H locs) (hl : lv_has ls 4 [(0, .ref b), (1, .ref (h 0)), (2, .ref (hm 0)), (3, .int ix)]) (hi1 : vp_in (ix + 1) L ∧ xs (ix + 1).toNatClampNeg = a1) (hroom : kc + 0 ≤ room_1.cells ∧ ks + 0 ≤ room_1.slots)
    (kk : ∀ (u : Unit) (u' : (Nat → Int32)) (H1 : Heap) (locs1 : List Loc), PP u' → PD A dC dI ([((h 0), .inr (0, [.ref (h 1), .ref (h 3), .ref (h 9), .ref (h 17), .ref (h 10), .ref (h 11), .int steps, .int draw, .ref (h 12), .int typed, .int at_, .ref (h 5), .ref (h 13), .ref (h 14), .int isImage, .ref (h 7), .ref (h 15), .ref (h 18), .int idraw, .ref (h 19), .ref (h 16)])), ((h 1), .inr (1, [.ref (h 2), .long gro, .int grt])), ((h 2), .inl (dA 0, 36, .inl gd)), ((h 3), .inr (1, [.ref (h 4), .long tro, .int trt])), ((h 4), .inl (dA 0, 36, .inl td)), ((h 5), .inr (1, [.ref (h 6), .long rro, .int rrt])), ((h 6), .inl (dA 0, 36, .inl rd)), ((h 7), .inr (1, [.ref (h 8), .long imro, .int imrt])), ((h 8), .inl (dA 0, 36, .inl imd)), ((h 9), .inl (dA 0, 36, .inl owners)), ((h 10), .inl (dA 1, 8, .inl tour)), ((h 11), .inl (dA 1, 8, .inl best)), ((h 12), .inl (dA 0, 160, .inl tape)), ((h 13), .inl (dA 0, 36, .inl signs)), ((h 14), .inl (dA 0, 320, .inl acts)), ((h 15), .inl (dA 0, 36, .inl iown)), ((h 16), .inl (dA 2, 36, .inr (.inl taken))), ((h 19), .inl (dA 5, 4, .inr (.inr (.inr (.inr shf))))), (hd, .inr (2, [.null]))] ++ ((wM hm dA m_depths m_owners m_roofs m_rate m_undos m_undoMany m_drawn m_dug m_deep m_holes m_holeMany m_tape m_taped m_place m_reads m_read_ m_row m_order m_bestOrder m_nears m_isKept m_keptRoofs m_kept u' m_rowSizes m_items m_moved) ++ wr)) H1 → va_S A s.heap H1 locs1 → W p l e room_1 s m #[Value.ref b] below meth c H1 locs1 (kc + 0) (ks + 0) Q (F0 m 1349 ls [])) : W p l e room_1 s m #[Value.ref b] below meth c H locs kc ks Q (F0 m 1180 ls []) := by
  obtain ⟨S, hX, hbl, hbA, hK, hE, hA, hfl⟩ := hC
  obtain ⟨hP, hD⟩ := hPD
  refine lv_aload_n S.1 S.2.1 dL_law_1180 rfl (lv_at hl 1 rfl) ?_
  refine lv_aload_n S.1 S.2.1 dL_law_1181 rfl (lv_at hl 0 rfl) ?_
  refine lv_iload_n S.1 S.2.1 dL_law_1182 rfl (lv_at hl 3 rfl) ?_
  refine lv_iconst (v := 1) S.1 S.2.1 dL_law_1183 (by decide) ?_
  refine lv_iadd S.1 S.2.1 dL_law_1184 ?_
  refine sldE S.1 S.2.1 hX hbl hbA hS hi1 dL_law_1185 ?_
  refine sC_i hP hD hS hA (va_runV (As := [.int a1]) (rest := []) S (metX0_drop_J l hfl hf) (cwV 1 S.2.2.2.2 (lw_V q935 q936 q937 q54 q938) rfl rfl rfl ⟨rfl, pdX0_drop⟩ ⟨Nat.le_of_ble_eq_true rfl, Nat.le_of_ble_eq_true rfl⟩) ⟨ablind, va_recv hK hP (ci := 0) (q0 := 0) rfl rfl, (spre hK hE hP hD hS hA).2⟩ rfl rfl hl.1 rfl (lv_room (Nat.le_of_ble_eq_true rfl)) dL_law_1186 hroom) (fun r u H locs hf hP hD hS => ?_)
  have hP := hP.perm permM
  have hD := hD.perm permM
  refine lv_aload_n S.1 S.2.1 dL_law_1189 rfl (lv_at hl 2 rfl) ?_
  refine lv_aload_n S.1 S.2.1 dL_law_1190 rfl (lv_at hl 0 rfl) ?_
  refine lv_iload_n S.1 S.2.1 dL_law_1191 rfl (lv_at hl 3 rfl) ?_
  refine lv_iconst (v := 1) S.1 S.2.1 dL_law_1192 (by decide) ?_
  refine lv_iadd S.1 S.2.1 dL_law_1193 ?_
  refine sldE S.1 S.2.1 hX hbl hbA hS hi1 dL_law_1194 ?_
  refine sM_i (As := [.int a1]) (rest := [.int r]) S hK rfl rfl (fun _ => rfl) hP hD hS (metX3_drop l hj hf) (lw_V q1570 q1571 q1572 q60 q1573) rfl pdX3_drop ⟨rfl, rfl⟩ ⟨Nat.le_of_ble_eq_true rfl, Nat.le_of_ble_eq_true rfl⟩ rfl hl.1 rfl (Nat.le_of_ble_eq_true rfl) dL_law_1195 hroom (fun r' u' H locs hf hP hD hS => ?_)
  obtain ⟨e1, hf⟩ := hf
  refine lv_icmp_eq (tgt := 1349) S.1 S.2.1 dL_law_1198 (by decide) (fun c_1 => ?_) (fun c_1 => ?_)
  · exact kk u u' H locs hf ⟨hP.perm permN, hD.perm permN⟩ hS
  · exact absurd e1 c_1
set_option maxHeartbeats 4000000 in
set_option maxRecDepth 100000 in
theorem lo_item_N (hC : LC p l s m c b L xs A dC dI dA eA mi) (hj : mJ hm) {steps : Int32} {draw : Int32} {typed : Int32} {at_ : Int32} {isImage : Int32} {idraw : Int32} {gd : (Nat → Int32)} {gro : Int64} {grt : Int32} {td : (Nat → Int32)} {tro : Int64} {trt : Int32} {rd : (Nat → Int32)} {rro : Int64} {rrt : Int32} {imd : (Nat → Int32)} {imro : Int64} {imrt : Int32} {owners : (Nat → Int32)} {tour : (Nat → Int32)} {best : (Nat → Int32)} {tape : (Nat → Int32)} {signs : (Nat → Int32)} {acts : (Nat → Int32)} {iown : (Nat → Int32)} {taken : (Nat → Int64)} {shf : (Nat → Option Nat)} {hd : Nat} {m_depths : (Nat → Int32)} {m_owners : (Nat → Int32)} {m_roofs : Int64} {m_rate : Int32} {m_undos : (Nat → Int32)} {m_undoMany : Int32} {m_drawn : Int32} {m_dug : Int64} {m_deep : Int64} {m_holes : (Nat → Int64)} {m_holeMany : Int32} {m_tape : (Nat → Int32)} {m_taped : Int32} {m_place : Int32} {m_reads : Int32} {m_read_ : (Nat → Int32)} {m_row : (Nat → Int32)} {m_order : (Nat → Int32)} {m_bestOrder : (Nat → Int32)} {m_nears : (Nat → Int32)} {m_isKept : Int32} {m_keptRoofs : Int64} {m_kept : (Nat → Int32)} {m_lanes : (Nat → Int32)} {m_rowSizes : (Nat → Int32)} {m_items : (Nat → Int64)} {m_moved : (Nat → Int64)} {PP : (Nat → Int64) → Prop} (hf : wX0_item_N (fun r => wX3_item (fun r' q0 => r = r' ∧ PP q0) m_lanes m_rowSizes m_items a1 a2 a3 ((a4.toInt64 <<< ((32 : Int32).toInt64 &&& 63)) ||| (a5.toInt64 &&& 4294967295))) shf hd a1 a2 a3 ((a4.toInt64 <<< ((32 : Int32).toInt64 &&& 63)) ||| (a5.toInt64 &&& 4294967295))) (hPD : PD A dC dI ([((h 0), .inr (0, [.ref (h 1), .ref (h 3), .ref (h 9), .ref (h 17), .ref (h 10), .ref (h 11), .int steps, .int draw, .ref (h 12), .int typed, .int at_, .ref (h 5), .ref (h 13), .ref (h 14), .int isImage, .ref (h 7), .ref (h 15), .ref (h 18), .int idraw, .ref (h 19), .ref (h 16)])), ((h 1), .inr (1, [.ref (h 2), .long gro, .int grt])), ((h 2), .inl (dA 0, 36, .inl gd)), ((h 3), .inr (1, [.ref (h 4), .long tro, .int trt])), ((h 4), .inl (dA 0, 36, .inl td)), ((h 5), .inr (1, [.ref (h 6), .long rro, .int rrt])), ((h 6), .inl (dA 0, 36, .inl rd)), ((h 7), .inr (1, [.ref (h 8), .long imro, .int imrt])), ((h 8), .inl (dA 0, 36, .inl imd)), ((h 9), .inl (dA 0, 36, .inl owners)), ((h 10), .inl (dA 1, 8, .inl tour)), ((h 11), .inl (dA 1, 8, .inl best)), ((h 12), .inl (dA 0, 160, .inl tape)), ((h 13), .inl (dA 0, 36, .inl signs)), ((h 14), .inl (dA 0, 320, .inl acts)), ((h 15), .inl (dA 0, 36, .inl iown)), ((h 16), .inl (dA 2, 36, .inr (.inl taken))), ((h 19), .inl (dA 5, 4, .inr (.inr (.inr (.inr shf))))), (hd, .inr (2, [.null]))] ++ ((wM hm dA m_depths m_owners m_roofs m_rate m_undos m_undoMany m_drawn m_dug m_deep m_holes m_holeMany m_tape m_taped m_place m_reads m_read_ m_row m_order m_bestOrder m_nears m_isKept m_keptRoofs m_kept m_lanes m_rowSizes m_items m_moved) ++ wr)) H) (hS : va_S A s.heap H locs) (hl : lv_has ls 4 [(0, .ref b), (1, .ref (h 0)), (2, .ref (hm 0)), (3, .int ix)]) (hi1 : vp_in (ix + 1) L ∧ xs (ix + 1).toNatClampNeg = a1) (hi2 : vp_in (ix + 2) L ∧ xs (ix + 2).toNatClampNeg = a2) (hi3 : vp_in (ix + 3) L ∧ xs (ix + 3).toNatClampNeg = a3) (hi4 : vp_in (ix + 4) L ∧ xs (ix + 4).toNatClampNeg = a4) (hi5 : vp_in (ix + 5) L ∧ xs (ix + 5).toNatClampNeg = a5) (hroom : kc + 3 ≤ room_1.cells ∧ ks + 500 ≤ room_1.slots)
    (kk : ∀ (u : Unit) (u' : (Nat → Int64)) (H1 : Heap) (locs1 : List Loc), PP u' → PD A dC dI ([((h 0), .inr (0, [.ref (h 1), .ref (h 3), .ref (h 9), .ref (h 17), .ref (h 10), .ref (h 11), .int steps, .int draw, .ref (h 12), .int typed, .int at_, .ref (h 5), .ref (h 13), .ref (h 14), .int isImage, .ref (h 7), .ref (h 15), .ref (h 18), .int idraw, .ref (h 19), .ref (h 16)])), ((h 1), .inr (1, [.ref (h 2), .long gro, .int grt])), ((h 2), .inl (dA 0, 36, .inl gd)), ((h 3), .inr (1, [.ref (h 4), .long tro, .int trt])), ((h 4), .inl (dA 0, 36, .inl td)), ((h 5), .inr (1, [.ref (h 6), .long rro, .int rrt])), ((h 6), .inl (dA 0, 36, .inl rd)), ((h 7), .inr (1, [.ref (h 8), .long imro, .int imrt])), ((h 8), .inl (dA 0, 36, .inl imd)), ((h 9), .inl (dA 0, 36, .inl owners)), ((h 10), .inl (dA 1, 8, .inl tour)), ((h 11), .inl (dA 1, 8, .inl best)), ((h 12), .inl (dA 0, 160, .inl tape)), ((h 13), .inl (dA 0, 36, .inl signs)), ((h 14), .inl (dA 0, 320, .inl acts)), ((h 15), .inl (dA 0, 36, .inl iown)), ((h 16), .inl (dA 2, 36, .inr (.inl taken))), ((h 19), .inl (dA 5, 4, .inr (.inr (.inr (.inr shf))))), (hd, .inr (2, [.null]))] ++ ((wM hm dA m_depths m_owners m_roofs m_rate m_undos m_undoMany m_drawn m_dug m_deep m_holes m_holeMany m_tape m_taped m_place m_reads m_read_ m_row m_order m_bestOrder m_nears m_isKept m_keptRoofs m_kept m_lanes m_rowSizes u' m_moved) ++ wr)) H1 → va_S A s.heap H1 locs1 → W p l e room_1 s m #[Value.ref b] below meth c H1 locs1 (kc + 3) (ks + 500) Q (F0 m 1349 ls [])) : W p l e room_1 s m #[Value.ref b] below meth c H locs kc ks Q (F0 m 1203 ls []) := by
  obtain ⟨S, hX, hbl, hbA, hK, hE, hA, hfl⟩ := hC
  obtain ⟨hP, hD⟩ := hPD
  refine lv_aload_n S.1 S.2.1 dL_law_1203 rfl (lv_at hl 1 rfl) ?_
  refine lv_aload_n S.1 S.2.1 dL_law_1204 rfl (lv_at hl 0 rfl) ?_
  refine lv_iload_n S.1 S.2.1 dL_law_1205 rfl (lv_at hl 3 rfl) ?_
  refine lv_iconst (v := 1) S.1 S.2.1 dL_law_1206 (by decide) ?_
  refine lv_iadd S.1 S.2.1 dL_law_1207 ?_
  refine sldE S.1 S.2.1 hX hbl hbA hS hi1 dL_law_1208 ?_
  refine lv_aload_n S.1 S.2.1 dL_law_1209 rfl (lv_at hl 0 rfl) ?_
  refine lv_iload_n S.1 S.2.1 dL_law_1210 rfl (lv_at hl 3 rfl) ?_
  refine lv_iconst (v := 2) S.1 S.2.1 dL_law_1211 (by decide) ?_
  refine lv_iadd S.1 S.2.1 dL_law_1212 ?_
  refine sldE S.1 S.2.1 hX hbl hbA hS hi2 dL_law_1213 ?_
  refine lv_aload_n S.1 S.2.1 dL_law_1214 rfl (lv_at hl 0 rfl) ?_
  refine lv_iload_n S.1 S.2.1 dL_law_1215 rfl (lv_at hl 3 rfl) ?_
  refine lv_iconst (v := 3) S.1 S.2.1 dL_law_1216 (by decide) ?_
  refine lv_iadd S.1 S.2.1 dL_law_1217 ?_
  refine sldE S.1 S.2.1 hX hbl hbA hS hi3 dL_law_1218 ?_
  refine lv_aload_n S.1 S.2.1 dL_law_1219 rfl (lv_at hl 0 rfl) ?_
  refine lv_iload_n S.1 S.2.1 dL_law_1220 rfl (lv_at hl 3 rfl) ?_
  refine lv_iconst (v := 4) S.1 S.2.1 dL_law_1221 (by decide) ?_
  refine lv_iadd S.1 S.2.1 dL_law_1222 ?_
  refine sldE S.1 S.2.1 hX hbl hbA hS hi4 dL_law_1223 ?_
  refine lv_i2l (v := a4.toInt64) S.1 S.2.1 dL_law_1224 rfl ?_
  refine lv_bipush (v := 32) S.1 S.2.1 dL_law_1225 (by decide) ?_
  refine lv_lshl (v := (a4.toInt64 <<< ((32 : Int32).toInt64 &&& 63))) S.1 S.2.1 dL_law_1227 rfl ?_
  refine lv_aload_n S.1 S.2.1 dL_law_1228 rfl (lv_at hl 0 rfl) ?_
  refine lv_iload_n S.1 S.2.1 dL_law_1229 rfl (lv_at hl 3 rfl) ?_
  refine lv_iconst (v := 5) S.1 S.2.1 dL_law_1230 (by decide) ?_
  refine lv_iadd S.1 S.2.1 dL_law_1231 ?_
  refine sldE S.1 S.2.1 hX hbl hbA hS hi5 dL_law_1232 ?_
  refine lv_i2l (v := a5.toInt64) S.1 S.2.1 dL_law_1233 rfl ?_
  refine lv_ldc2 S.1 S.2.1 S.2.2.2.1 (S.2.2.2.2 _ q1602) dL_law_1234 ?_
  refine lv_land S.1 S.2.1 dL_law_1237 ?_
  refine lv_lor S.1 S.2.1 dL_law_1238 ?_
  refine sC_i hP hD hS hA (va_runVW (As := [.int a1, .int a2, .int a3, .long ((a4.toInt64 <<< ((32 : Int32).toInt64 &&& 63)) ||| (a5.toInt64 &&& 4294967295))]) (rest := []) S (metX0_item_N l hfl hf) (cwVW 4 S.2.2.2.2 q949 q950 q951 q54 q952 pdX0_item ⟨Nat.le_of_ble_eq_true rfl, Nat.le_of_ble_eq_true rfl⟩) ⟨ablind, va_recv hK hP (ci := 0) (q0 := 0) rfl rfl, (spre hK hE hP hD hS hA).2⟩ rfl rfl hl.1 rfl (lv_room (Nat.le_of_ble_eq_true rfl)) dL_law_1239 hroom) (fun r u H locs hf hP hD hS => ?_)
  have hP := hP.perm permM
  have hD := hD.perm permM
  refine lv_aload_n S.1 S.2.1 dL_law_1242 rfl (lv_at hl 2 rfl) ?_
  refine lv_aload_n S.1 S.2.1 dL_law_1243 rfl (lv_at hl 0 rfl) ?_
  refine lv_iload_n S.1 S.2.1 dL_law_1244 rfl (lv_at hl 3 rfl) ?_
  refine lv_iconst (v := 1) S.1 S.2.1 dL_law_1245 (by decide) ?_
  refine lv_iadd S.1 S.2.1 dL_law_1246 ?_
  refine sldE S.1 S.2.1 hX hbl hbA hS hi1 dL_law_1247 ?_
  refine lv_aload_n S.1 S.2.1 dL_law_1248 rfl (lv_at hl 0 rfl) ?_
  refine lv_iload_n S.1 S.2.1 dL_law_1249 rfl (lv_at hl 3 rfl) ?_
  refine lv_iconst (v := 2) S.1 S.2.1 dL_law_1250 (by decide) ?_
  refine lv_iadd S.1 S.2.1 dL_law_1251 ?_
  refine sldE S.1 S.2.1 hX hbl hbA hS hi2 dL_law_1252 ?_
  refine lv_aload_n S.1 S.2.1 dL_law_1253 rfl (lv_at hl 0 rfl) ?_
  refine lv_iload_n S.1 S.2.1 dL_law_1254 rfl (lv_at hl 3 rfl) ?_
  refine lv_iconst (v := 3) S.1 S.2.1 dL_law_1255 (by decide) ?_
  refine lv_iadd S.1 S.2.1 dL_law_1256 ?_
  refine sldE S.1 S.2.1 hX hbl hbA hS hi3 dL_law_1257 ?_
  refine lv_aload_n S.1 S.2.1 dL_law_1258 rfl (lv_at hl 0 rfl) ?_
  refine lv_iload_n S.1 S.2.1 dL_law_1259 rfl (lv_at hl 3 rfl) ?_
  refine lv_iconst (v := 4) S.1 S.2.1 dL_law_1260 (by decide) ?_
  refine lv_iadd S.1 S.2.1 dL_law_1261 ?_
  refine sldE S.1 S.2.1 hX hbl hbA hS hi4 dL_law_1262 ?_
  refine lv_i2l (v := a4.toInt64) S.1 S.2.1 dL_law_1263 rfl ?_
  refine lv_bipush (v := 32) S.1 S.2.1 dL_law_1264 (by decide) ?_
  refine lv_lshl (v := (a4.toInt64 <<< ((32 : Int32).toInt64 &&& 63))) S.1 S.2.1 dL_law_1266 rfl ?_
  refine lv_aload_n S.1 S.2.1 dL_law_1267 rfl (lv_at hl 0 rfl) ?_
  refine lv_iload_n S.1 S.2.1 dL_law_1268 rfl (lv_at hl 3 rfl) ?_
  refine lv_iconst (v := 5) S.1 S.2.1 dL_law_1269 (by decide) ?_
  refine lv_iadd S.1 S.2.1 dL_law_1270 ?_
  refine sldE S.1 S.2.1 hX hbl hbA hS hi5 dL_law_1271 ?_
  refine lv_i2l (v := a5.toInt64) S.1 S.2.1 dL_law_1272 rfl ?_
  refine lv_ldc2 S.1 S.2.1 S.2.2.2.1 (S.2.2.2.2 _ q1602) dL_law_1273 ?_
  refine lv_land S.1 S.2.1 dL_law_1276 ?_
  refine lv_lor S.1 S.2.1 dL_law_1277 ?_
  refine sM_i (As := [.int a1, .int a2, .int a3, .long ((a4.toInt64 <<< ((32 : Int32).toInt64 &&& 63)) ||| (a5.toInt64 &&& 4294967295))]) (rest := [.int r]) S hK rfl rfl (fun _ => rfl) hP hD hS (metX3_item l hj hf) (lw_V q1574 q1575 q1576 q60 q1577) rfl pdX3_item ⟨rfl, rfl⟩ ⟨Nat.le_of_ble_eq_true rfl, Nat.le_of_ble_eq_true rfl⟩ rfl hl.1 rfl (Nat.le_of_ble_eq_true rfl) dL_law_1278 hroom (fun r' u' H locs hf hP hD hS => ?_)
  obtain ⟨e1, hf⟩ := hf
  refine lv_icmp_eq (tgt := 1349) S.1 S.2.1 dL_law_1281 (by decide) (fun c_1 => ?_) (fun c_1 => ?_)
  · exact kk u u' H locs hf ⟨hP.perm permN, hD.perm permN⟩ hS
  · exact absurd e1 c_1
set_option maxHeartbeats 4000000 in
set_option maxRecDepth 100000 in
theorem lo_item_B (hC : LC p l s m c b L xs A dC dI dA eA mi) (hj : mJ hm) {steps : Int32} {draw : Int32} {typed : Int32} {at_ : Int32} {isImage : Int32} {idraw : Int32} {gd : (Nat → Int32)} {gro : Int64} {grt : Int32} {td : (Nat → Int32)} {tro : Int64} {trt : Int32} {rd : (Nat → Int32)} {rro : Int64} {rrt : Int32} {imd : (Nat → Int32)} {imro : Int64} {imrt : Int32} {owners : (Nat → Int32)} {tour : (Nat → Int32)} {best : (Nat → Int32)} {tape : (Nat → Int32)} {signs : (Nat → Int32)} {acts : (Nat → Int32)} {iown : (Nat → Int32)} {taken : (Nat → Int64)} {shf : (Nat → Option Nat)} {hd : Nat} {rn : Nat} {rf : (Nat → Int32)} {ra : Nat} {m_depths : (Nat → Int32)} {m_owners : (Nat → Int32)} {m_roofs : Int64} {m_rate : Int32} {m_undos : (Nat → Int32)} {m_undoMany : Int32} {m_drawn : Int32} {m_dug : Int64} {m_deep : Int64} {m_holes : (Nat → Int64)} {m_holeMany : Int32} {m_tape : (Nat → Int32)} {m_taped : Int32} {m_place : Int32} {m_reads : Int32} {m_read_ : (Nat → Int32)} {m_row : (Nat → Int32)} {m_order : (Nat → Int32)} {m_bestOrder : (Nat → Int32)} {m_nears : (Nat → Int32)} {m_isKept : Int32} {m_keptRoofs : Int64} {m_kept : (Nat → Int32)} {m_lanes : (Nat → Int32)} {m_rowSizes : (Nat → Int32)} {m_items : (Nat → Int64)} {m_moved : (Nat → Int64)} {PP : (Nat → Int32) → (Nat → Int64) → Prop} (hf : wX0_item_B (fun r p0 => wX3_item (fun r' q0 => r = r' ∧ PP p0 q0) m_lanes m_rowSizes m_items a1 a2 a3 ((a4.toInt64 <<< ((32 : Int32).toInt64 &&& 63)) ||| (a5.toInt64 &&& 4294967295))) shf hd rn rf a1 a2 a3 ((a4.toInt64 <<< ((32 : Int32).toInt64 &&& 63)) ||| (a5.toInt64 &&& 4294967295))) (hPD : PD A dC dI ([((h 0), .inr (0, [.ref (h 1), .ref (h 3), .ref (h 9), .ref (h 17), .ref (h 10), .ref (h 11), .int steps, .int draw, .ref (h 12), .int typed, .int at_, .ref (h 5), .ref (h 13), .ref (h 14), .int isImage, .ref (h 7), .ref (h 15), .ref (h 18), .int idraw, .ref (h 19), .ref (h 16)])), ((h 1), .inr (1, [.ref (h 2), .long gro, .int grt])), ((h 2), .inl (dA 0, 36, .inl gd)), ((h 3), .inr (1, [.ref (h 4), .long tro, .int trt])), ((h 4), .inl (dA 0, 36, .inl td)), ((h 5), .inr (1, [.ref (h 6), .long rro, .int rrt])), ((h 6), .inl (dA 0, 36, .inl rd)), ((h 7), .inr (1, [.ref (h 8), .long imro, .int imrt])), ((h 8), .inl (dA 0, 36, .inl imd)), ((h 9), .inl (dA 0, 36, .inl owners)), ((h 10), .inl (dA 1, 8, .inl tour)), ((h 11), .inl (dA 1, 8, .inl best)), ((h 12), .inl (dA 0, 160, .inl tape)), ((h 13), .inl (dA 0, 36, .inl signs)), ((h 14), .inl (dA 0, 320, .inl acts)), ((h 15), .inl (dA 0, 36, .inl iown)), ((h 16), .inl (dA 2, 36, .inr (.inl taken))), ((h 19), .inl (dA 5, 4, .inr (.inr (.inr (.inr shf))))), (hd, .inr (2, [.ref ra])), (ra, .inl (dA 0, rn, .inl rf))] ++ ((wM hm dA m_depths m_owners m_roofs m_rate m_undos m_undoMany m_drawn m_dug m_deep m_holes m_holeMany m_tape m_taped m_place m_reads m_read_ m_row m_order m_bestOrder m_nears m_isKept m_keptRoofs m_kept m_lanes m_rowSizes m_items m_moved) ++ wr)) H) (hS : va_S A s.heap H locs) (hl : lv_has ls 4 [(0, .ref b), (1, .ref (h 0)), (2, .ref (hm 0)), (3, .int ix)]) (hi1 : vp_in (ix + 1) L ∧ xs (ix + 1).toNatClampNeg = a1) (hi2 : vp_in (ix + 2) L ∧ xs (ix + 2).toNatClampNeg = a2) (hi3 : vp_in (ix + 3) L ∧ xs (ix + 3).toNatClampNeg = a3) (hi4 : vp_in (ix + 4) L ∧ xs (ix + 4).toNatClampNeg = a4) (hi5 : vp_in (ix + 5) L ∧ xs (ix + 5).toNatClampNeg = a5) (hroom : kc + 3 ≤ room_1.cells ∧ ks + 500 ≤ room_1.slots)
    (kk : ∀ (u : (Nat → Int32)) (u' : (Nat → Int64)) (H1 : Heap) (locs1 : List Loc), PP u u' → PD A dC dI ([((h 0), .inr (0, [.ref (h 1), .ref (h 3), .ref (h 9), .ref (h 17), .ref (h 10), .ref (h 11), .int steps, .int draw, .ref (h 12), .int typed, .int at_, .ref (h 5), .ref (h 13), .ref (h 14), .int isImage, .ref (h 7), .ref (h 15), .ref (h 18), .int idraw, .ref (h 19), .ref (h 16)])), ((h 1), .inr (1, [.ref (h 2), .long gro, .int grt])), ((h 2), .inl (dA 0, 36, .inl gd)), ((h 3), .inr (1, [.ref (h 4), .long tro, .int trt])), ((h 4), .inl (dA 0, 36, .inl td)), ((h 5), .inr (1, [.ref (h 6), .long rro, .int rrt])), ((h 6), .inl (dA 0, 36, .inl rd)), ((h 7), .inr (1, [.ref (h 8), .long imro, .int imrt])), ((h 8), .inl (dA 0, 36, .inl imd)), ((h 9), .inl (dA 0, 36, .inl owners)), ((h 10), .inl (dA 1, 8, .inl tour)), ((h 11), .inl (dA 1, 8, .inl best)), ((h 12), .inl (dA 0, 160, .inl tape)), ((h 13), .inl (dA 0, 36, .inl signs)), ((h 14), .inl (dA 0, 320, .inl acts)), ((h 15), .inl (dA 0, 36, .inl iown)), ((h 16), .inl (dA 2, 36, .inr (.inl taken))), ((h 19), .inl (dA 5, 4, .inr (.inr (.inr (.inr shf))))), (hd, .inr (2, [.ref ra])), (ra, .inl (dA 0, rn, .inl u))] ++ ((wM hm dA m_depths m_owners m_roofs m_rate m_undos m_undoMany m_drawn m_dug m_deep m_holes m_holeMany m_tape m_taped m_place m_reads m_read_ m_row m_order m_bestOrder m_nears m_isKept m_keptRoofs m_kept m_lanes m_rowSizes u' m_moved) ++ wr)) H1 → va_S A s.heap H1 locs1 → W p l e room_1 s m #[Value.ref b] below meth c H1 locs1 (kc + 3) (ks + 500) Q (F0 m 1349 ls [])) : W p l e room_1 s m #[Value.ref b] below meth c H locs kc ks Q (F0 m 1203 ls []) := by
  obtain ⟨S, hX, hbl, hbA, hK, hE, hA, hfl⟩ := hC
  obtain ⟨hP, hD⟩ := hPD
  refine lv_aload_n S.1 S.2.1 dL_law_1203 rfl (lv_at hl 1 rfl) ?_
  refine lv_aload_n S.1 S.2.1 dL_law_1204 rfl (lv_at hl 0 rfl) ?_
  refine lv_iload_n S.1 S.2.1 dL_law_1205 rfl (lv_at hl 3 rfl) ?_
  refine lv_iconst (v := 1) S.1 S.2.1 dL_law_1206 (by decide) ?_
  refine lv_iadd S.1 S.2.1 dL_law_1207 ?_
  refine sldE S.1 S.2.1 hX hbl hbA hS hi1 dL_law_1208 ?_
  refine lv_aload_n S.1 S.2.1 dL_law_1209 rfl (lv_at hl 0 rfl) ?_
  refine lv_iload_n S.1 S.2.1 dL_law_1210 rfl (lv_at hl 3 rfl) ?_
  refine lv_iconst (v := 2) S.1 S.2.1 dL_law_1211 (by decide) ?_
  refine lv_iadd S.1 S.2.1 dL_law_1212 ?_
  refine sldE S.1 S.2.1 hX hbl hbA hS hi2 dL_law_1213 ?_
  refine lv_aload_n S.1 S.2.1 dL_law_1214 rfl (lv_at hl 0 rfl) ?_
  refine lv_iload_n S.1 S.2.1 dL_law_1215 rfl (lv_at hl 3 rfl) ?_
  refine lv_iconst (v := 3) S.1 S.2.1 dL_law_1216 (by decide) ?_
  refine lv_iadd S.1 S.2.1 dL_law_1217 ?_
  refine sldE S.1 S.2.1 hX hbl hbA hS hi3 dL_law_1218 ?_
  refine lv_aload_n S.1 S.2.1 dL_law_1219 rfl (lv_at hl 0 rfl) ?_
  refine lv_iload_n S.1 S.2.1 dL_law_1220 rfl (lv_at hl 3 rfl) ?_
  refine lv_iconst (v := 4) S.1 S.2.1 dL_law_1221 (by decide) ?_
  refine lv_iadd S.1 S.2.1 dL_law_1222 ?_
  refine sldE S.1 S.2.1 hX hbl hbA hS hi4 dL_law_1223 ?_
  refine lv_i2l (v := a4.toInt64) S.1 S.2.1 dL_law_1224 rfl ?_
  refine lv_bipush (v := 32) S.1 S.2.1 dL_law_1225 (by decide) ?_
  refine lv_lshl (v := (a4.toInt64 <<< ((32 : Int32).toInt64 &&& 63))) S.1 S.2.1 dL_law_1227 rfl ?_
  refine lv_aload_n S.1 S.2.1 dL_law_1228 rfl (lv_at hl 0 rfl) ?_
  refine lv_iload_n S.1 S.2.1 dL_law_1229 rfl (lv_at hl 3 rfl) ?_
  refine lv_iconst (v := 5) S.1 S.2.1 dL_law_1230 (by decide) ?_
  refine lv_iadd S.1 S.2.1 dL_law_1231 ?_
  refine sldE S.1 S.2.1 hX hbl hbA hS hi5 dL_law_1232 ?_
  refine lv_i2l (v := a5.toInt64) S.1 S.2.1 dL_law_1233 rfl ?_
  refine lv_ldc2 S.1 S.2.1 S.2.2.2.1 (S.2.2.2.2 _ q1602) dL_law_1234 ?_
  refine lv_land S.1 S.2.1 dL_law_1237 ?_
  refine lv_lor S.1 S.2.1 dL_law_1238 ?_
  refine sC_i hP hD hS hA (va_runVW (As := [.int a1, .int a2, .int a3, .long ((a4.toInt64 <<< ((32 : Int32).toInt64 &&& 63)) ||| (a5.toInt64 &&& 4294967295))]) (rest := []) S (metX0_item_B l hfl hf) (cwVW 4 S.2.2.2.2 q949 q950 q951 q54 q952 pdX0_item ⟨Nat.le_of_ble_eq_true rfl, Nat.le_of_ble_eq_true rfl⟩) ⟨ablind, va_recv hK hP (ci := 0) (q0 := 0) rfl rfl, (spre hK hE hP hD hS hA).2⟩ rfl rfl hl.1 rfl (lv_room (Nat.le_of_ble_eq_true rfl)) dL_law_1239 hroom) (fun r u H locs hf hP hD hS => ?_)
  have hP := hP.perm permM
  have hD := hD.perm permM
  refine lv_aload_n S.1 S.2.1 dL_law_1242 rfl (lv_at hl 2 rfl) ?_
  refine lv_aload_n S.1 S.2.1 dL_law_1243 rfl (lv_at hl 0 rfl) ?_
  refine lv_iload_n S.1 S.2.1 dL_law_1244 rfl (lv_at hl 3 rfl) ?_
  refine lv_iconst (v := 1) S.1 S.2.1 dL_law_1245 (by decide) ?_
  refine lv_iadd S.1 S.2.1 dL_law_1246 ?_
  refine sldE S.1 S.2.1 hX hbl hbA hS hi1 dL_law_1247 ?_
  refine lv_aload_n S.1 S.2.1 dL_law_1248 rfl (lv_at hl 0 rfl) ?_
  refine lv_iload_n S.1 S.2.1 dL_law_1249 rfl (lv_at hl 3 rfl) ?_
  refine lv_iconst (v := 2) S.1 S.2.1 dL_law_1250 (by decide) ?_
  refine lv_iadd S.1 S.2.1 dL_law_1251 ?_
  refine sldE S.1 S.2.1 hX hbl hbA hS hi2 dL_law_1252 ?_
  refine lv_aload_n S.1 S.2.1 dL_law_1253 rfl (lv_at hl 0 rfl) ?_
  refine lv_iload_n S.1 S.2.1 dL_law_1254 rfl (lv_at hl 3 rfl) ?_
  refine lv_iconst (v := 3) S.1 S.2.1 dL_law_1255 (by decide) ?_
  refine lv_iadd S.1 S.2.1 dL_law_1256 ?_
  refine sldE S.1 S.2.1 hX hbl hbA hS hi3 dL_law_1257 ?_
  refine lv_aload_n S.1 S.2.1 dL_law_1258 rfl (lv_at hl 0 rfl) ?_
  refine lv_iload_n S.1 S.2.1 dL_law_1259 rfl (lv_at hl 3 rfl) ?_
  refine lv_iconst (v := 4) S.1 S.2.1 dL_law_1260 (by decide) ?_
  refine lv_iadd S.1 S.2.1 dL_law_1261 ?_
  refine sldE S.1 S.2.1 hX hbl hbA hS hi4 dL_law_1262 ?_
  refine lv_i2l (v := a4.toInt64) S.1 S.2.1 dL_law_1263 rfl ?_
  refine lv_bipush (v := 32) S.1 S.2.1 dL_law_1264 (by decide) ?_
  refine lv_lshl (v := (a4.toInt64 <<< ((32 : Int32).toInt64 &&& 63))) S.1 S.2.1 dL_law_1266 rfl ?_
  refine lv_aload_n S.1 S.2.1 dL_law_1267 rfl (lv_at hl 0 rfl) ?_
  refine lv_iload_n S.1 S.2.1 dL_law_1268 rfl (lv_at hl 3 rfl) ?_
  refine lv_iconst (v := 5) S.1 S.2.1 dL_law_1269 (by decide) ?_
  refine lv_iadd S.1 S.2.1 dL_law_1270 ?_
  refine sldE S.1 S.2.1 hX hbl hbA hS hi5 dL_law_1271 ?_
  refine lv_i2l (v := a5.toInt64) S.1 S.2.1 dL_law_1272 rfl ?_
  refine lv_ldc2 S.1 S.2.1 S.2.2.2.1 (S.2.2.2.2 _ q1602) dL_law_1273 ?_
  refine lv_land S.1 S.2.1 dL_law_1276 ?_
  refine lv_lor S.1 S.2.1 dL_law_1277 ?_
  refine sM_i (As := [.int a1, .int a2, .int a3, .long ((a4.toInt64 <<< ((32 : Int32).toInt64 &&& 63)) ||| (a5.toInt64 &&& 4294967295))]) (rest := [.int r]) S hK rfl rfl (fun _ => rfl) hP hD hS (metX3_item l hj hf) (lw_V q1574 q1575 q1576 q60 q1577) rfl pdX3_item ⟨rfl, rfl⟩ ⟨Nat.le_of_ble_eq_true rfl, Nat.le_of_ble_eq_true rfl⟩ rfl hl.1 rfl (Nat.le_of_ble_eq_true rfl) dL_law_1278 hroom (fun r' u' H locs hf hP hD hS => ?_)
  obtain ⟨e1, hf⟩ := hf
  refine lv_icmp_eq (tgt := 1349) S.1 S.2.1 dL_law_1281 (by decide) (fun c_1 => ?_) (fun c_1 => ?_)
  · exact kk u u' H locs hf ⟨hP.perm permN, hD.perm permN⟩ hS
  · exact absurd e1 c_1
set_option maxHeartbeats 4000000 in
set_option maxRecDepth 100000 in
theorem lo_item_S (hC : LC p l s m c b L xs A dC dI dA eA mi) (hj : mJ hm) {steps : Int32} {draw : Int32} {typed : Int32} {at_ : Int32} {isImage : Int32} {idraw : Int32} {gd : (Nat → Int32)} {gro : Int64} {grt : Int32} {td : (Nat → Int32)} {tro : Int64} {trt : Int32} {rd : (Nat → Int32)} {rro : Int64} {rrt : Int32} {imd : (Nat → Int32)} {imro : Int64} {imrt : Int32} {owners : (Nat → Int32)} {tour : (Nat → Int32)} {best : (Nat → Int32)} {tape : (Nat → Int32)} {signs : (Nat → Int32)} {acts : (Nat → Int32)} {iown : (Nat → Int32)} {taken : (Nat → Int64)} {shf : (Nat → Option Nat)} {hd : Nat} {rn : Nat} {rf : (Nat → Int32)} {ra : Nat} {m_depths : (Nat → Int32)} {m_owners : (Nat → Int32)} {m_roofs : Int64} {m_rate : Int32} {m_undos : (Nat → Int32)} {m_undoMany : Int32} {m_drawn : Int32} {m_dug : Int64} {m_deep : Int64} {m_holes : (Nat → Int64)} {m_holeMany : Int32} {m_tape : (Nat → Int32)} {m_taped : Int32} {m_place : Int32} {m_reads : Int32} {m_read_ : (Nat → Int32)} {m_row : (Nat → Int32)} {m_order : (Nat → Int32)} {m_bestOrder : (Nat → Int32)} {m_nears : (Nat → Int32)} {m_isKept : Int32} {m_keptRoofs : Int64} {m_kept : (Nat → Int32)} {m_lanes : (Nat → Int32)} {m_rowSizes : (Nat → Int32)} {m_items : (Nat → Int64)} {m_moved : (Nat → Int64)} {PP : (Nat → Int32) → (Nat → Int64) → Prop} (hf : wX0_item_S (fun r p0 => wX3_item (fun r' q0 => r = r' ∧ PP p0 q0) m_lanes m_rowSizes m_items a1 a2 a3 ((a4.toInt64 <<< ((32 : Int32).toInt64 &&& 63)) ||| (a5.toInt64 &&& 4294967295))) shf hd rn rf a1 a2 a3 ((a4.toInt64 <<< ((32 : Int32).toInt64 &&& 63)) ||| (a5.toInt64 &&& 4294967295))) (hPD : PD A dC dI ([((h 0), .inr (0, [.ref (h 1), .ref (h 3), .ref (h 9), .ref (h 17), .ref (h 10), .ref (h 11), .int steps, .int draw, .ref (h 12), .int typed, .int at_, .ref (h 5), .ref (h 13), .ref (h 14), .int isImage, .ref (h 7), .ref (h 15), .ref (h 18), .int idraw, .ref (h 19), .ref (h 16)])), ((h 1), .inr (1, [.ref (h 2), .long gro, .int grt])), ((h 2), .inl (dA 0, 36, .inl gd)), ((h 3), .inr (1, [.ref (h 4), .long tro, .int trt])), ((h 4), .inl (dA 0, 36, .inl td)), ((h 5), .inr (1, [.ref (h 6), .long rro, .int rrt])), ((h 6), .inl (dA 0, 36, .inl rd)), ((h 7), .inr (1, [.ref (h 8), .long imro, .int imrt])), ((h 8), .inl (dA 0, 36, .inl imd)), ((h 9), .inl (dA 0, 36, .inl owners)), ((h 10), .inl (dA 1, 8, .inl tour)), ((h 11), .inl (dA 1, 8, .inl best)), ((h 12), .inl (dA 0, 160, .inl tape)), ((h 13), .inl (dA 0, 36, .inl signs)), ((h 14), .inl (dA 0, 320, .inl acts)), ((h 15), .inl (dA 0, 36, .inl iown)), ((h 16), .inl (dA 2, 36, .inr (.inl taken))), ((h 19), .inl (dA 5, 4, .inr (.inr (.inr (.inr shf))))), (hd, .inr (2, [.ref ra])), (ra, .inl (dA 3, rn, .inl rf))] ++ ((wM hm dA m_depths m_owners m_roofs m_rate m_undos m_undoMany m_drawn m_dug m_deep m_holes m_holeMany m_tape m_taped m_place m_reads m_read_ m_row m_order m_bestOrder m_nears m_isKept m_keptRoofs m_kept m_lanes m_rowSizes m_items m_moved) ++ wr)) H) (hS : va_S A s.heap H locs) (hl : lv_has ls 4 [(0, .ref b), (1, .ref (h 0)), (2, .ref (hm 0)), (3, .int ix)]) (hi1 : vp_in (ix + 1) L ∧ xs (ix + 1).toNatClampNeg = a1) (hi2 : vp_in (ix + 2) L ∧ xs (ix + 2).toNatClampNeg = a2) (hi3 : vp_in (ix + 3) L ∧ xs (ix + 3).toNatClampNeg = a3) (hi4 : vp_in (ix + 4) L ∧ xs (ix + 4).toNatClampNeg = a4) (hi5 : vp_in (ix + 5) L ∧ xs (ix + 5).toNatClampNeg = a5) (hroom : kc + 3 ≤ room_1.cells ∧ ks + 500 ≤ room_1.slots)
    (kk : ∀ (u : (Nat → Int32)) (u' : (Nat → Int64)) (H1 : Heap) (locs1 : List Loc), PP u u' → PD A dC dI ([((h 0), .inr (0, [.ref (h 1), .ref (h 3), .ref (h 9), .ref (h 17), .ref (h 10), .ref (h 11), .int steps, .int draw, .ref (h 12), .int typed, .int at_, .ref (h 5), .ref (h 13), .ref (h 14), .int isImage, .ref (h 7), .ref (h 15), .ref (h 18), .int idraw, .ref (h 19), .ref (h 16)])), ((h 1), .inr (1, [.ref (h 2), .long gro, .int grt])), ((h 2), .inl (dA 0, 36, .inl gd)), ((h 3), .inr (1, [.ref (h 4), .long tro, .int trt])), ((h 4), .inl (dA 0, 36, .inl td)), ((h 5), .inr (1, [.ref (h 6), .long rro, .int rrt])), ((h 6), .inl (dA 0, 36, .inl rd)), ((h 7), .inr (1, [.ref (h 8), .long imro, .int imrt])), ((h 8), .inl (dA 0, 36, .inl imd)), ((h 9), .inl (dA 0, 36, .inl owners)), ((h 10), .inl (dA 1, 8, .inl tour)), ((h 11), .inl (dA 1, 8, .inl best)), ((h 12), .inl (dA 0, 160, .inl tape)), ((h 13), .inl (dA 0, 36, .inl signs)), ((h 14), .inl (dA 0, 320, .inl acts)), ((h 15), .inl (dA 0, 36, .inl iown)), ((h 16), .inl (dA 2, 36, .inr (.inl taken))), ((h 19), .inl (dA 5, 4, .inr (.inr (.inr (.inr shf))))), (hd, .inr (2, [.ref ra])), (ra, .inl (dA 3, rn, .inl u))] ++ ((wM hm dA m_depths m_owners m_roofs m_rate m_undos m_undoMany m_drawn m_dug m_deep m_holes m_holeMany m_tape m_taped m_place m_reads m_read_ m_row m_order m_bestOrder m_nears m_isKept m_keptRoofs m_kept m_lanes m_rowSizes u' m_moved) ++ wr)) H1 → va_S A s.heap H1 locs1 → W p l e room_1 s m #[Value.ref b] below meth c H1 locs1 (kc + 3) (ks + 500) Q (F0 m 1349 ls [])) : W p l e room_1 s m #[Value.ref b] below meth c H locs kc ks Q (F0 m 1203 ls []) := by
  obtain ⟨S, hX, hbl, hbA, hK, hE, hA, hfl⟩ := hC
  obtain ⟨hP, hD⟩ := hPD
  refine lv_aload_n S.1 S.2.1 dL_law_1203 rfl (lv_at hl 1 rfl) ?_
  refine lv_aload_n S.1 S.2.1 dL_law_1204 rfl (lv_at hl 0 rfl) ?_
  refine lv_iload_n S.1 S.2.1 dL_law_1205 rfl (lv_at hl 3 rfl) ?_
  refine lv_iconst (v := 1) S.1 S.2.1 dL_law_1206 (by decide) ?_
  refine lv_iadd S.1 S.2.1 dL_law_1207 ?_
  refine sldE S.1 S.2.1 hX hbl hbA hS hi1 dL_law_1208 ?_
  refine lv_aload_n S.1 S.2.1 dL_law_1209 rfl (lv_at hl 0 rfl) ?_
  refine lv_iload_n S.1 S.2.1 dL_law_1210 rfl (lv_at hl 3 rfl) ?_
  refine lv_iconst (v := 2) S.1 S.2.1 dL_law_1211 (by decide) ?_
  refine lv_iadd S.1 S.2.1 dL_law_1212 ?_
  refine sldE S.1 S.2.1 hX hbl hbA hS hi2 dL_law_1213 ?_
  refine lv_aload_n S.1 S.2.1 dL_law_1214 rfl (lv_at hl 0 rfl) ?_
  refine lv_iload_n S.1 S.2.1 dL_law_1215 rfl (lv_at hl 3 rfl) ?_
  refine lv_iconst (v := 3) S.1 S.2.1 dL_law_1216 (by decide) ?_
  refine lv_iadd S.1 S.2.1 dL_law_1217 ?_
  refine sldE S.1 S.2.1 hX hbl hbA hS hi3 dL_law_1218 ?_
  refine lv_aload_n S.1 S.2.1 dL_law_1219 rfl (lv_at hl 0 rfl) ?_
  refine lv_iload_n S.1 S.2.1 dL_law_1220 rfl (lv_at hl 3 rfl) ?_
  refine lv_iconst (v := 4) S.1 S.2.1 dL_law_1221 (by decide) ?_
  refine lv_iadd S.1 S.2.1 dL_law_1222 ?_
  refine sldE S.1 S.2.1 hX hbl hbA hS hi4 dL_law_1223 ?_
  refine lv_i2l (v := a4.toInt64) S.1 S.2.1 dL_law_1224 rfl ?_
  refine lv_bipush (v := 32) S.1 S.2.1 dL_law_1225 (by decide) ?_
  refine lv_lshl (v := (a4.toInt64 <<< ((32 : Int32).toInt64 &&& 63))) S.1 S.2.1 dL_law_1227 rfl ?_
  refine lv_aload_n S.1 S.2.1 dL_law_1228 rfl (lv_at hl 0 rfl) ?_
  refine lv_iload_n S.1 S.2.1 dL_law_1229 rfl (lv_at hl 3 rfl) ?_
  refine lv_iconst (v := 5) S.1 S.2.1 dL_law_1230 (by decide) ?_
  refine lv_iadd S.1 S.2.1 dL_law_1231 ?_
  refine sldE S.1 S.2.1 hX hbl hbA hS hi5 dL_law_1232 ?_
  refine lv_i2l (v := a5.toInt64) S.1 S.2.1 dL_law_1233 rfl ?_
  refine lv_ldc2 S.1 S.2.1 S.2.2.2.1 (S.2.2.2.2 _ q1602) dL_law_1234 ?_
  refine lv_land S.1 S.2.1 dL_law_1237 ?_
  refine lv_lor S.1 S.2.1 dL_law_1238 ?_
  refine sC_i hP hD hS hA (va_runVW (As := [.int a1, .int a2, .int a3, .long ((a4.toInt64 <<< ((32 : Int32).toInt64 &&& 63)) ||| (a5.toInt64 &&& 4294967295))]) (rest := []) S (metX0_item_S l hfl hf) (cwVW 4 S.2.2.2.2 q949 q950 q951 q54 q952 pdX0_item ⟨Nat.le_of_ble_eq_true rfl, Nat.le_of_ble_eq_true rfl⟩) ⟨ablind, va_recv hK hP (ci := 0) (q0 := 0) rfl rfl, (spre hK hE hP hD hS hA).2⟩ rfl rfl hl.1 rfl (lv_room (Nat.le_of_ble_eq_true rfl)) dL_law_1239 hroom) (fun r u H locs hf hP hD hS => ?_)
  have hP := hP.perm permM
  have hD := hD.perm permM
  refine lv_aload_n S.1 S.2.1 dL_law_1242 rfl (lv_at hl 2 rfl) ?_
  refine lv_aload_n S.1 S.2.1 dL_law_1243 rfl (lv_at hl 0 rfl) ?_
  refine lv_iload_n S.1 S.2.1 dL_law_1244 rfl (lv_at hl 3 rfl) ?_
  refine lv_iconst (v := 1) S.1 S.2.1 dL_law_1245 (by decide) ?_
  refine lv_iadd S.1 S.2.1 dL_law_1246 ?_
  refine sldE S.1 S.2.1 hX hbl hbA hS hi1 dL_law_1247 ?_
  refine lv_aload_n S.1 S.2.1 dL_law_1248 rfl (lv_at hl 0 rfl) ?_
  refine lv_iload_n S.1 S.2.1 dL_law_1249 rfl (lv_at hl 3 rfl) ?_
  refine lv_iconst (v := 2) S.1 S.2.1 dL_law_1250 (by decide) ?_
  refine lv_iadd S.1 S.2.1 dL_law_1251 ?_
  refine sldE S.1 S.2.1 hX hbl hbA hS hi2 dL_law_1252 ?_
  refine lv_aload_n S.1 S.2.1 dL_law_1253 rfl (lv_at hl 0 rfl) ?_
  refine lv_iload_n S.1 S.2.1 dL_law_1254 rfl (lv_at hl 3 rfl) ?_
  refine lv_iconst (v := 3) S.1 S.2.1 dL_law_1255 (by decide) ?_
  refine lv_iadd S.1 S.2.1 dL_law_1256 ?_
  refine sldE S.1 S.2.1 hX hbl hbA hS hi3 dL_law_1257 ?_
  refine lv_aload_n S.1 S.2.1 dL_law_1258 rfl (lv_at hl 0 rfl) ?_
  refine lv_iload_n S.1 S.2.1 dL_law_1259 rfl (lv_at hl 3 rfl) ?_
  refine lv_iconst (v := 4) S.1 S.2.1 dL_law_1260 (by decide) ?_
  refine lv_iadd S.1 S.2.1 dL_law_1261 ?_
  refine sldE S.1 S.2.1 hX hbl hbA hS hi4 dL_law_1262 ?_
  refine lv_i2l (v := a4.toInt64) S.1 S.2.1 dL_law_1263 rfl ?_
  refine lv_bipush (v := 32) S.1 S.2.1 dL_law_1264 (by decide) ?_
  refine lv_lshl (v := (a4.toInt64 <<< ((32 : Int32).toInt64 &&& 63))) S.1 S.2.1 dL_law_1266 rfl ?_
  refine lv_aload_n S.1 S.2.1 dL_law_1267 rfl (lv_at hl 0 rfl) ?_
  refine lv_iload_n S.1 S.2.1 dL_law_1268 rfl (lv_at hl 3 rfl) ?_
  refine lv_iconst (v := 5) S.1 S.2.1 dL_law_1269 (by decide) ?_
  refine lv_iadd S.1 S.2.1 dL_law_1270 ?_
  refine sldE S.1 S.2.1 hX hbl hbA hS hi5 dL_law_1271 ?_
  refine lv_i2l (v := a5.toInt64) S.1 S.2.1 dL_law_1272 rfl ?_
  refine lv_ldc2 S.1 S.2.1 S.2.2.2.1 (S.2.2.2.2 _ q1602) dL_law_1273 ?_
  refine lv_land S.1 S.2.1 dL_law_1276 ?_
  refine lv_lor S.1 S.2.1 dL_law_1277 ?_
  refine sM_i (As := [.int a1, .int a2, .int a3, .long ((a4.toInt64 <<< ((32 : Int32).toInt64 &&& 63)) ||| (a5.toInt64 &&& 4294967295))]) (rest := [.int r]) S hK rfl rfl (fun _ => rfl) hP hD hS (metX3_item l hj hf) (lw_V q1574 q1575 q1576 q60 q1577) rfl pdX3_item ⟨rfl, rfl⟩ ⟨Nat.le_of_ble_eq_true rfl, Nat.le_of_ble_eq_true rfl⟩ rfl hl.1 rfl (Nat.le_of_ble_eq_true rfl) dL_law_1278 hroom (fun r' u' H locs hf hP hD hS => ?_)
  obtain ⟨e1, hf⟩ := hf
  refine lv_icmp_eq (tgt := 1349) S.1 S.2.1 dL_law_1281 (by decide) (fun c_1 => ?_) (fun c_1 => ?_)
  · exact kk u u' H locs hf ⟨hP.perm permN, hD.perm permN⟩ hS
  · exact absurd e1 c_1
set_option maxHeartbeats 4000000 in
set_option maxRecDepth 100000 in
theorem lo_item_I (hC : LC p l s m c b L xs A dC dI dA eA mi) (hj : mJ hm) {steps : Int32} {draw : Int32} {typed : Int32} {at_ : Int32} {isImage : Int32} {idraw : Int32} {gd : (Nat → Int32)} {gro : Int64} {grt : Int32} {td : (Nat → Int32)} {tro : Int64} {trt : Int32} {rd : (Nat → Int32)} {rro : Int64} {rrt : Int32} {imd : (Nat → Int32)} {imro : Int64} {imrt : Int32} {owners : (Nat → Int32)} {tour : (Nat → Int32)} {best : (Nat → Int32)} {tape : (Nat → Int32)} {signs : (Nat → Int32)} {acts : (Nat → Int32)} {iown : (Nat → Int32)} {taken : (Nat → Int64)} {shf : (Nat → Option Nat)} {hd : Nat} {rn : Nat} {rf : (Nat → Int32)} {ra : Nat} {m_depths : (Nat → Int32)} {m_owners : (Nat → Int32)} {m_roofs : Int64} {m_rate : Int32} {m_undos : (Nat → Int32)} {m_undoMany : Int32} {m_drawn : Int32} {m_dug : Int64} {m_deep : Int64} {m_holes : (Nat → Int64)} {m_holeMany : Int32} {m_tape : (Nat → Int32)} {m_taped : Int32} {m_place : Int32} {m_reads : Int32} {m_read_ : (Nat → Int32)} {m_row : (Nat → Int32)} {m_order : (Nat → Int32)} {m_bestOrder : (Nat → Int32)} {m_nears : (Nat → Int32)} {m_isKept : Int32} {m_keptRoofs : Int64} {m_kept : (Nat → Int32)} {m_lanes : (Nat → Int32)} {m_rowSizes : (Nat → Int32)} {m_items : (Nat → Int64)} {m_moved : (Nat → Int64)} {PP : (Nat → Int32) → (Nat → Int64) → Prop} (hf : wX0_item_I (fun r p0 => wX3_item (fun r' q0 => r = r' ∧ PP p0 q0) m_lanes m_rowSizes m_items a1 a2 a3 ((a4.toInt64 <<< ((32 : Int32).toInt64 &&& 63)) ||| (a5.toInt64 &&& 4294967295))) shf hd rn rf a1 a2 a3 ((a4.toInt64 <<< ((32 : Int32).toInt64 &&& 63)) ||| (a5.toInt64 &&& 4294967295))) (hPD : PD A dC dI ([((h 0), .inr (0, [.ref (h 1), .ref (h 3), .ref (h 9), .ref (h 17), .ref (h 10), .ref (h 11), .int steps, .int draw, .ref (h 12), .int typed, .int at_, .ref (h 5), .ref (h 13), .ref (h 14), .int isImage, .ref (h 7), .ref (h 15), .ref (h 18), .int idraw, .ref (h 19), .ref (h 16)])), ((h 1), .inr (1, [.ref (h 2), .long gro, .int grt])), ((h 2), .inl (dA 0, 36, .inl gd)), ((h 3), .inr (1, [.ref (h 4), .long tro, .int trt])), ((h 4), .inl (dA 0, 36, .inl td)), ((h 5), .inr (1, [.ref (h 6), .long rro, .int rrt])), ((h 6), .inl (dA 0, 36, .inl rd)), ((h 7), .inr (1, [.ref (h 8), .long imro, .int imrt])), ((h 8), .inl (dA 0, 36, .inl imd)), ((h 9), .inl (dA 0, 36, .inl owners)), ((h 10), .inl (dA 1, 8, .inl tour)), ((h 11), .inl (dA 1, 8, .inl best)), ((h 12), .inl (dA 0, 160, .inl tape)), ((h 13), .inl (dA 0, 36, .inl signs)), ((h 14), .inl (dA 0, 320, .inl acts)), ((h 15), .inl (dA 0, 36, .inl iown)), ((h 16), .inl (dA 2, 36, .inr (.inl taken))), ((h 19), .inl (dA 5, 4, .inr (.inr (.inr (.inr shf))))), (hd, .inr (2, [.ref ra])), (ra, .inl (dA 1, rn, .inl rf))] ++ ((wM hm dA m_depths m_owners m_roofs m_rate m_undos m_undoMany m_drawn m_dug m_deep m_holes m_holeMany m_tape m_taped m_place m_reads m_read_ m_row m_order m_bestOrder m_nears m_isKept m_keptRoofs m_kept m_lanes m_rowSizes m_items m_moved) ++ wr)) H) (hS : va_S A s.heap H locs) (hl : lv_has ls 4 [(0, .ref b), (1, .ref (h 0)), (2, .ref (hm 0)), (3, .int ix)]) (hi1 : vp_in (ix + 1) L ∧ xs (ix + 1).toNatClampNeg = a1) (hi2 : vp_in (ix + 2) L ∧ xs (ix + 2).toNatClampNeg = a2) (hi3 : vp_in (ix + 3) L ∧ xs (ix + 3).toNatClampNeg = a3) (hi4 : vp_in (ix + 4) L ∧ xs (ix + 4).toNatClampNeg = a4) (hi5 : vp_in (ix + 5) L ∧ xs (ix + 5).toNatClampNeg = a5) (hroom : kc + 3 ≤ room_1.cells ∧ ks + 500 ≤ room_1.slots)
    (kk : ∀ (u : (Nat → Int32)) (u' : (Nat → Int64)) (H1 : Heap) (locs1 : List Loc), PP u u' → PD A dC dI ([((h 0), .inr (0, [.ref (h 1), .ref (h 3), .ref (h 9), .ref (h 17), .ref (h 10), .ref (h 11), .int steps, .int draw, .ref (h 12), .int typed, .int at_, .ref (h 5), .ref (h 13), .ref (h 14), .int isImage, .ref (h 7), .ref (h 15), .ref (h 18), .int idraw, .ref (h 19), .ref (h 16)])), ((h 1), .inr (1, [.ref (h 2), .long gro, .int grt])), ((h 2), .inl (dA 0, 36, .inl gd)), ((h 3), .inr (1, [.ref (h 4), .long tro, .int trt])), ((h 4), .inl (dA 0, 36, .inl td)), ((h 5), .inr (1, [.ref (h 6), .long rro, .int rrt])), ((h 6), .inl (dA 0, 36, .inl rd)), ((h 7), .inr (1, [.ref (h 8), .long imro, .int imrt])), ((h 8), .inl (dA 0, 36, .inl imd)), ((h 9), .inl (dA 0, 36, .inl owners)), ((h 10), .inl (dA 1, 8, .inl tour)), ((h 11), .inl (dA 1, 8, .inl best)), ((h 12), .inl (dA 0, 160, .inl tape)), ((h 13), .inl (dA 0, 36, .inl signs)), ((h 14), .inl (dA 0, 320, .inl acts)), ((h 15), .inl (dA 0, 36, .inl iown)), ((h 16), .inl (dA 2, 36, .inr (.inl taken))), ((h 19), .inl (dA 5, 4, .inr (.inr (.inr (.inr shf))))), (hd, .inr (2, [.ref ra])), (ra, .inl (dA 1, rn, .inl u))] ++ ((wM hm dA m_depths m_owners m_roofs m_rate m_undos m_undoMany m_drawn m_dug m_deep m_holes m_holeMany m_tape m_taped m_place m_reads m_read_ m_row m_order m_bestOrder m_nears m_isKept m_keptRoofs m_kept m_lanes m_rowSizes u' m_moved) ++ wr)) H1 → va_S A s.heap H1 locs1 → W p l e room_1 s m #[Value.ref b] below meth c H1 locs1 (kc + 3) (ks + 500) Q (F0 m 1349 ls [])) : W p l e room_1 s m #[Value.ref b] below meth c H locs kc ks Q (F0 m 1203 ls []) := by
  obtain ⟨S, hX, hbl, hbA, hK, hE, hA, hfl⟩ := hC
  obtain ⟨hP, hD⟩ := hPD
  refine lv_aload_n S.1 S.2.1 dL_law_1203 rfl (lv_at hl 1 rfl) ?_
  refine lv_aload_n S.1 S.2.1 dL_law_1204 rfl (lv_at hl 0 rfl) ?_
  refine lv_iload_n S.1 S.2.1 dL_law_1205 rfl (lv_at hl 3 rfl) ?_
  refine lv_iconst (v := 1) S.1 S.2.1 dL_law_1206 (by decide) ?_
  refine lv_iadd S.1 S.2.1 dL_law_1207 ?_
  refine sldE S.1 S.2.1 hX hbl hbA hS hi1 dL_law_1208 ?_
  refine lv_aload_n S.1 S.2.1 dL_law_1209 rfl (lv_at hl 0 rfl) ?_
  refine lv_iload_n S.1 S.2.1 dL_law_1210 rfl (lv_at hl 3 rfl) ?_
  refine lv_iconst (v := 2) S.1 S.2.1 dL_law_1211 (by decide) ?_
  refine lv_iadd S.1 S.2.1 dL_law_1212 ?_
  refine sldE S.1 S.2.1 hX hbl hbA hS hi2 dL_law_1213 ?_
  refine lv_aload_n S.1 S.2.1 dL_law_1214 rfl (lv_at hl 0 rfl) ?_
  refine lv_iload_n S.1 S.2.1 dL_law_1215 rfl (lv_at hl 3 rfl) ?_
  refine lv_iconst (v := 3) S.1 S.2.1 dL_law_1216 (by decide) ?_
  refine lv_iadd S.1 S.2.1 dL_law_1217 ?_
  refine sldE S.1 S.2.1 hX hbl hbA hS hi3 dL_law_1218 ?_
  refine lv_aload_n S.1 S.2.1 dL_law_1219 rfl (lv_at hl 0 rfl) ?_
  refine lv_iload_n S.1 S.2.1 dL_law_1220 rfl (lv_at hl 3 rfl) ?_
  refine lv_iconst (v := 4) S.1 S.2.1 dL_law_1221 (by decide) ?_
  refine lv_iadd S.1 S.2.1 dL_law_1222 ?_
  refine sldE S.1 S.2.1 hX hbl hbA hS hi4 dL_law_1223 ?_
  refine lv_i2l (v := a4.toInt64) S.1 S.2.1 dL_law_1224 rfl ?_
  refine lv_bipush (v := 32) S.1 S.2.1 dL_law_1225 (by decide) ?_
  refine lv_lshl (v := (a4.toInt64 <<< ((32 : Int32).toInt64 &&& 63))) S.1 S.2.1 dL_law_1227 rfl ?_
  refine lv_aload_n S.1 S.2.1 dL_law_1228 rfl (lv_at hl 0 rfl) ?_
  refine lv_iload_n S.1 S.2.1 dL_law_1229 rfl (lv_at hl 3 rfl) ?_
  refine lv_iconst (v := 5) S.1 S.2.1 dL_law_1230 (by decide) ?_
  refine lv_iadd S.1 S.2.1 dL_law_1231 ?_
  refine sldE S.1 S.2.1 hX hbl hbA hS hi5 dL_law_1232 ?_
  refine lv_i2l (v := a5.toInt64) S.1 S.2.1 dL_law_1233 rfl ?_
  refine lv_ldc2 S.1 S.2.1 S.2.2.2.1 (S.2.2.2.2 _ q1602) dL_law_1234 ?_
  refine lv_land S.1 S.2.1 dL_law_1237 ?_
  refine lv_lor S.1 S.2.1 dL_law_1238 ?_
  refine sC_i hP hD hS hA (va_runVW (As := [.int a1, .int a2, .int a3, .long ((a4.toInt64 <<< ((32 : Int32).toInt64 &&& 63)) ||| (a5.toInt64 &&& 4294967295))]) (rest := []) S (metX0_item_I l hfl hf) (cwVW 4 S.2.2.2.2 q949 q950 q951 q54 q952 pdX0_item ⟨Nat.le_of_ble_eq_true rfl, Nat.le_of_ble_eq_true rfl⟩) ⟨ablind, va_recv hK hP (ci := 0) (q0 := 0) rfl rfl, (spre hK hE hP hD hS hA).2⟩ rfl rfl hl.1 rfl (lv_room (Nat.le_of_ble_eq_true rfl)) dL_law_1239 hroom) (fun r u H locs hf hP hD hS => ?_)
  have hP := hP.perm permM
  have hD := hD.perm permM
  refine lv_aload_n S.1 S.2.1 dL_law_1242 rfl (lv_at hl 2 rfl) ?_
  refine lv_aload_n S.1 S.2.1 dL_law_1243 rfl (lv_at hl 0 rfl) ?_
  refine lv_iload_n S.1 S.2.1 dL_law_1244 rfl (lv_at hl 3 rfl) ?_
  refine lv_iconst (v := 1) S.1 S.2.1 dL_law_1245 (by decide) ?_
  refine lv_iadd S.1 S.2.1 dL_law_1246 ?_
  refine sldE S.1 S.2.1 hX hbl hbA hS hi1 dL_law_1247 ?_
  refine lv_aload_n S.1 S.2.1 dL_law_1248 rfl (lv_at hl 0 rfl) ?_
  refine lv_iload_n S.1 S.2.1 dL_law_1249 rfl (lv_at hl 3 rfl) ?_
  refine lv_iconst (v := 2) S.1 S.2.1 dL_law_1250 (by decide) ?_
  refine lv_iadd S.1 S.2.1 dL_law_1251 ?_
  refine sldE S.1 S.2.1 hX hbl hbA hS hi2 dL_law_1252 ?_
  refine lv_aload_n S.1 S.2.1 dL_law_1253 rfl (lv_at hl 0 rfl) ?_
  refine lv_iload_n S.1 S.2.1 dL_law_1254 rfl (lv_at hl 3 rfl) ?_
  refine lv_iconst (v := 3) S.1 S.2.1 dL_law_1255 (by decide) ?_
  refine lv_iadd S.1 S.2.1 dL_law_1256 ?_
  refine sldE S.1 S.2.1 hX hbl hbA hS hi3 dL_law_1257 ?_
  refine lv_aload_n S.1 S.2.1 dL_law_1258 rfl (lv_at hl 0 rfl) ?_
  refine lv_iload_n S.1 S.2.1 dL_law_1259 rfl (lv_at hl 3 rfl) ?_
  refine lv_iconst (v := 4) S.1 S.2.1 dL_law_1260 (by decide) ?_
  refine lv_iadd S.1 S.2.1 dL_law_1261 ?_
  refine sldE S.1 S.2.1 hX hbl hbA hS hi4 dL_law_1262 ?_
  refine lv_i2l (v := a4.toInt64) S.1 S.2.1 dL_law_1263 rfl ?_
  refine lv_bipush (v := 32) S.1 S.2.1 dL_law_1264 (by decide) ?_
  refine lv_lshl (v := (a4.toInt64 <<< ((32 : Int32).toInt64 &&& 63))) S.1 S.2.1 dL_law_1266 rfl ?_
  refine lv_aload_n S.1 S.2.1 dL_law_1267 rfl (lv_at hl 0 rfl) ?_
  refine lv_iload_n S.1 S.2.1 dL_law_1268 rfl (lv_at hl 3 rfl) ?_
  refine lv_iconst (v := 5) S.1 S.2.1 dL_law_1269 (by decide) ?_
  refine lv_iadd S.1 S.2.1 dL_law_1270 ?_
  refine sldE S.1 S.2.1 hX hbl hbA hS hi5 dL_law_1271 ?_
  refine lv_i2l (v := a5.toInt64) S.1 S.2.1 dL_law_1272 rfl ?_
  refine lv_ldc2 S.1 S.2.1 S.2.2.2.1 (S.2.2.2.2 _ q1602) dL_law_1273 ?_
  refine lv_land S.1 S.2.1 dL_law_1276 ?_
  refine lv_lor S.1 S.2.1 dL_law_1277 ?_
  refine sM_i (As := [.int a1, .int a2, .int a3, .long ((a4.toInt64 <<< ((32 : Int32).toInt64 &&& 63)) ||| (a5.toInt64 &&& 4294967295))]) (rest := [.int r]) S hK rfl rfl (fun _ => rfl) hP hD hS (metX3_item l hj hf) (lw_V q1574 q1575 q1576 q60 q1577) rfl pdX3_item ⟨rfl, rfl⟩ ⟨Nat.le_of_ble_eq_true rfl, Nat.le_of_ble_eq_true rfl⟩ rfl hl.1 rfl (Nat.le_of_ble_eq_true rfl) dL_law_1278 hroom (fun r' u' H locs hf hP hD hS => ?_)
  obtain ⟨e1, hf⟩ := hf
  refine lv_icmp_eq (tgt := 1349) S.1 S.2.1 dL_law_1281 (by decide) (fun c_1 => ?_) (fun c_1 => ?_)
  · exact kk u u' H locs hf ⟨hP.perm permN, hD.perm permN⟩ hS
  · exact absurd e1 c_1
set_option maxHeartbeats 4000000 in
set_option maxRecDepth 100000 in
theorem lo_item_J (hC : LC p l s m c b L xs A dC dI dA eA mi) (hj : mJ hm) {steps : Int32} {draw : Int32} {typed : Int32} {at_ : Int32} {isImage : Int32} {idraw : Int32} {gd : (Nat → Int32)} {gro : Int64} {grt : Int32} {td : (Nat → Int32)} {tro : Int64} {trt : Int32} {rd : (Nat → Int32)} {rro : Int64} {rrt : Int32} {imd : (Nat → Int32)} {imro : Int64} {imrt : Int32} {owners : (Nat → Int32)} {tour : (Nat → Int32)} {best : (Nat → Int32)} {tape : (Nat → Int32)} {signs : (Nat → Int32)} {acts : (Nat → Int32)} {iown : (Nat → Int32)} {taken : (Nat → Int64)} {shf : (Nat → Option Nat)} {hd : Nat} {rn : Nat} {rf : (Nat → Int64)} {ra : Nat} {m_depths : (Nat → Int32)} {m_owners : (Nat → Int32)} {m_roofs : Int64} {m_rate : Int32} {m_undos : (Nat → Int32)} {m_undoMany : Int32} {m_drawn : Int32} {m_dug : Int64} {m_deep : Int64} {m_holes : (Nat → Int64)} {m_holeMany : Int32} {m_tape : (Nat → Int32)} {m_taped : Int32} {m_place : Int32} {m_reads : Int32} {m_read_ : (Nat → Int32)} {m_row : (Nat → Int32)} {m_order : (Nat → Int32)} {m_bestOrder : (Nat → Int32)} {m_nears : (Nat → Int32)} {m_isKept : Int32} {m_keptRoofs : Int64} {m_kept : (Nat → Int32)} {m_lanes : (Nat → Int32)} {m_rowSizes : (Nat → Int32)} {m_items : (Nat → Int64)} {m_moved : (Nat → Int64)} {PP : (Nat → Int64) → (Nat → Int64) → Prop} (hf : wX0_item_J (fun r p0 => wX3_item (fun r' q0 => r = r' ∧ PP p0 q0) m_lanes m_rowSizes m_items a1 a2 a3 ((a4.toInt64 <<< ((32 : Int32).toInt64 &&& 63)) ||| (a5.toInt64 &&& 4294967295))) shf hd rn rf a1 a2 a3 ((a4.toInt64 <<< ((32 : Int32).toInt64 &&& 63)) ||| (a5.toInt64 &&& 4294967295))) (hPD : PD A dC dI ([((h 0), .inr (0, [.ref (h 1), .ref (h 3), .ref (h 9), .ref (h 17), .ref (h 10), .ref (h 11), .int steps, .int draw, .ref (h 12), .int typed, .int at_, .ref (h 5), .ref (h 13), .ref (h 14), .int isImage, .ref (h 7), .ref (h 15), .ref (h 18), .int idraw, .ref (h 19), .ref (h 16)])), ((h 1), .inr (1, [.ref (h 2), .long gro, .int grt])), ((h 2), .inl (dA 0, 36, .inl gd)), ((h 3), .inr (1, [.ref (h 4), .long tro, .int trt])), ((h 4), .inl (dA 0, 36, .inl td)), ((h 5), .inr (1, [.ref (h 6), .long rro, .int rrt])), ((h 6), .inl (dA 0, 36, .inl rd)), ((h 7), .inr (1, [.ref (h 8), .long imro, .int imrt])), ((h 8), .inl (dA 0, 36, .inl imd)), ((h 9), .inl (dA 0, 36, .inl owners)), ((h 10), .inl (dA 1, 8, .inl tour)), ((h 11), .inl (dA 1, 8, .inl best)), ((h 12), .inl (dA 0, 160, .inl tape)), ((h 13), .inl (dA 0, 36, .inl signs)), ((h 14), .inl (dA 0, 320, .inl acts)), ((h 15), .inl (dA 0, 36, .inl iown)), ((h 16), .inl (dA 2, 36, .inr (.inl taken))), ((h 19), .inl (dA 5, 4, .inr (.inr (.inr (.inr shf))))), (hd, .inr (2, [.ref ra])), (ra, .inl (dA 2, rn, .inr (.inl rf)))] ++ ((wM hm dA m_depths m_owners m_roofs m_rate m_undos m_undoMany m_drawn m_dug m_deep m_holes m_holeMany m_tape m_taped m_place m_reads m_read_ m_row m_order m_bestOrder m_nears m_isKept m_keptRoofs m_kept m_lanes m_rowSizes m_items m_moved) ++ wr)) H) (hS : va_S A s.heap H locs) (hl : lv_has ls 4 [(0, .ref b), (1, .ref (h 0)), (2, .ref (hm 0)), (3, .int ix)]) (hi1 : vp_in (ix + 1) L ∧ xs (ix + 1).toNatClampNeg = a1) (hi2 : vp_in (ix + 2) L ∧ xs (ix + 2).toNatClampNeg = a2) (hi3 : vp_in (ix + 3) L ∧ xs (ix + 3).toNatClampNeg = a3) (hi4 : vp_in (ix + 4) L ∧ xs (ix + 4).toNatClampNeg = a4) (hi5 : vp_in (ix + 5) L ∧ xs (ix + 5).toNatClampNeg = a5) (hroom : kc + 3 ≤ room_1.cells ∧ ks + 500 ≤ room_1.slots)
    (kk : ∀ (u : (Nat → Int64)) (u' : (Nat → Int64)) (H1 : Heap) (locs1 : List Loc), PP u u' → PD A dC dI ([((h 0), .inr (0, [.ref (h 1), .ref (h 3), .ref (h 9), .ref (h 17), .ref (h 10), .ref (h 11), .int steps, .int draw, .ref (h 12), .int typed, .int at_, .ref (h 5), .ref (h 13), .ref (h 14), .int isImage, .ref (h 7), .ref (h 15), .ref (h 18), .int idraw, .ref (h 19), .ref (h 16)])), ((h 1), .inr (1, [.ref (h 2), .long gro, .int grt])), ((h 2), .inl (dA 0, 36, .inl gd)), ((h 3), .inr (1, [.ref (h 4), .long tro, .int trt])), ((h 4), .inl (dA 0, 36, .inl td)), ((h 5), .inr (1, [.ref (h 6), .long rro, .int rrt])), ((h 6), .inl (dA 0, 36, .inl rd)), ((h 7), .inr (1, [.ref (h 8), .long imro, .int imrt])), ((h 8), .inl (dA 0, 36, .inl imd)), ((h 9), .inl (dA 0, 36, .inl owners)), ((h 10), .inl (dA 1, 8, .inl tour)), ((h 11), .inl (dA 1, 8, .inl best)), ((h 12), .inl (dA 0, 160, .inl tape)), ((h 13), .inl (dA 0, 36, .inl signs)), ((h 14), .inl (dA 0, 320, .inl acts)), ((h 15), .inl (dA 0, 36, .inl iown)), ((h 16), .inl (dA 2, 36, .inr (.inl taken))), ((h 19), .inl (dA 5, 4, .inr (.inr (.inr (.inr shf))))), (hd, .inr (2, [.ref ra])), (ra, .inl (dA 2, rn, .inr (.inl u)))] ++ ((wM hm dA m_depths m_owners m_roofs m_rate m_undos m_undoMany m_drawn m_dug m_deep m_holes m_holeMany m_tape m_taped m_place m_reads m_read_ m_row m_order m_bestOrder m_nears m_isKept m_keptRoofs m_kept m_lanes m_rowSizes u' m_moved) ++ wr)) H1 → va_S A s.heap H1 locs1 → W p l e room_1 s m #[Value.ref b] below meth c H1 locs1 (kc + 3) (ks + 500) Q (F0 m 1349 ls [])) : W p l e room_1 s m #[Value.ref b] below meth c H locs kc ks Q (F0 m 1203 ls []) := by
  obtain ⟨S, hX, hbl, hbA, hK, hE, hA, hfl⟩ := hC
  obtain ⟨hP, hD⟩ := hPD
  refine lv_aload_n S.1 S.2.1 dL_law_1203 rfl (lv_at hl 1 rfl) ?_
  refine lv_aload_n S.1 S.2.1 dL_law_1204 rfl (lv_at hl 0 rfl) ?_
  refine lv_iload_n S.1 S.2.1 dL_law_1205 rfl (lv_at hl 3 rfl) ?_
  refine lv_iconst (v := 1) S.1 S.2.1 dL_law_1206 (by decide) ?_
  refine lv_iadd S.1 S.2.1 dL_law_1207 ?_
  refine sldE S.1 S.2.1 hX hbl hbA hS hi1 dL_law_1208 ?_
  refine lv_aload_n S.1 S.2.1 dL_law_1209 rfl (lv_at hl 0 rfl) ?_
  refine lv_iload_n S.1 S.2.1 dL_law_1210 rfl (lv_at hl 3 rfl) ?_
  refine lv_iconst (v := 2) S.1 S.2.1 dL_law_1211 (by decide) ?_
  refine lv_iadd S.1 S.2.1 dL_law_1212 ?_
  refine sldE S.1 S.2.1 hX hbl hbA hS hi2 dL_law_1213 ?_
  refine lv_aload_n S.1 S.2.1 dL_law_1214 rfl (lv_at hl 0 rfl) ?_
  refine lv_iload_n S.1 S.2.1 dL_law_1215 rfl (lv_at hl 3 rfl) ?_
  refine lv_iconst (v := 3) S.1 S.2.1 dL_law_1216 (by decide) ?_
  refine lv_iadd S.1 S.2.1 dL_law_1217 ?_
  refine sldE S.1 S.2.1 hX hbl hbA hS hi3 dL_law_1218 ?_
  refine lv_aload_n S.1 S.2.1 dL_law_1219 rfl (lv_at hl 0 rfl) ?_
  refine lv_iload_n S.1 S.2.1 dL_law_1220 rfl (lv_at hl 3 rfl) ?_
  refine lv_iconst (v := 4) S.1 S.2.1 dL_law_1221 (by decide) ?_
  refine lv_iadd S.1 S.2.1 dL_law_1222 ?_
  refine sldE S.1 S.2.1 hX hbl hbA hS hi4 dL_law_1223 ?_
  refine lv_i2l (v := a4.toInt64) S.1 S.2.1 dL_law_1224 rfl ?_
  refine lv_bipush (v := 32) S.1 S.2.1 dL_law_1225 (by decide) ?_
  refine lv_lshl (v := (a4.toInt64 <<< ((32 : Int32).toInt64 &&& 63))) S.1 S.2.1 dL_law_1227 rfl ?_
  refine lv_aload_n S.1 S.2.1 dL_law_1228 rfl (lv_at hl 0 rfl) ?_
  refine lv_iload_n S.1 S.2.1 dL_law_1229 rfl (lv_at hl 3 rfl) ?_
  refine lv_iconst (v := 5) S.1 S.2.1 dL_law_1230 (by decide) ?_
  refine lv_iadd S.1 S.2.1 dL_law_1231 ?_
  refine sldE S.1 S.2.1 hX hbl hbA hS hi5 dL_law_1232 ?_
  refine lv_i2l (v := a5.toInt64) S.1 S.2.1 dL_law_1233 rfl ?_
  refine lv_ldc2 S.1 S.2.1 S.2.2.2.1 (S.2.2.2.2 _ q1602) dL_law_1234 ?_
  refine lv_land S.1 S.2.1 dL_law_1237 ?_
  refine lv_lor S.1 S.2.1 dL_law_1238 ?_
  refine sC_i hP hD hS hA (va_runVW (As := [.int a1, .int a2, .int a3, .long ((a4.toInt64 <<< ((32 : Int32).toInt64 &&& 63)) ||| (a5.toInt64 &&& 4294967295))]) (rest := []) S (metX0_item_J l hfl hf) (cwVW 4 S.2.2.2.2 q949 q950 q951 q54 q952 pdX0_item ⟨Nat.le_of_ble_eq_true rfl, Nat.le_of_ble_eq_true rfl⟩) ⟨ablind, va_recv hK hP (ci := 0) (q0 := 0) rfl rfl, (spre hK hE hP hD hS hA).2⟩ rfl rfl hl.1 rfl (lv_room (Nat.le_of_ble_eq_true rfl)) dL_law_1239 hroom) (fun r u H locs hf hP hD hS => ?_)
  have hP := hP.perm permM
  have hD := hD.perm permM
  refine lv_aload_n S.1 S.2.1 dL_law_1242 rfl (lv_at hl 2 rfl) ?_
  refine lv_aload_n S.1 S.2.1 dL_law_1243 rfl (lv_at hl 0 rfl) ?_
  refine lv_iload_n S.1 S.2.1 dL_law_1244 rfl (lv_at hl 3 rfl) ?_
  refine lv_iconst (v := 1) S.1 S.2.1 dL_law_1245 (by decide) ?_
  refine lv_iadd S.1 S.2.1 dL_law_1246 ?_
  refine sldE S.1 S.2.1 hX hbl hbA hS hi1 dL_law_1247 ?_
  refine lv_aload_n S.1 S.2.1 dL_law_1248 rfl (lv_at hl 0 rfl) ?_
  refine lv_iload_n S.1 S.2.1 dL_law_1249 rfl (lv_at hl 3 rfl) ?_
  refine lv_iconst (v := 2) S.1 S.2.1 dL_law_1250 (by decide) ?_
  refine lv_iadd S.1 S.2.1 dL_law_1251 ?_
  refine sldE S.1 S.2.1 hX hbl hbA hS hi2 dL_law_1252 ?_
  refine lv_aload_n S.1 S.2.1 dL_law_1253 rfl (lv_at hl 0 rfl) ?_
  refine lv_iload_n S.1 S.2.1 dL_law_1254 rfl (lv_at hl 3 rfl) ?_
  refine lv_iconst (v := 3) S.1 S.2.1 dL_law_1255 (by decide) ?_
  refine lv_iadd S.1 S.2.1 dL_law_1256 ?_
  refine sldE S.1 S.2.1 hX hbl hbA hS hi3 dL_law_1257 ?_
  refine lv_aload_n S.1 S.2.1 dL_law_1258 rfl (lv_at hl 0 rfl) ?_
  refine lv_iload_n S.1 S.2.1 dL_law_1259 rfl (lv_at hl 3 rfl) ?_
  refine lv_iconst (v := 4) S.1 S.2.1 dL_law_1260 (by decide) ?_
  refine lv_iadd S.1 S.2.1 dL_law_1261 ?_
  refine sldE S.1 S.2.1 hX hbl hbA hS hi4 dL_law_1262 ?_
  refine lv_i2l (v := a4.toInt64) S.1 S.2.1 dL_law_1263 rfl ?_
  refine lv_bipush (v := 32) S.1 S.2.1 dL_law_1264 (by decide) ?_
  refine lv_lshl (v := (a4.toInt64 <<< ((32 : Int32).toInt64 &&& 63))) S.1 S.2.1 dL_law_1266 rfl ?_
  refine lv_aload_n S.1 S.2.1 dL_law_1267 rfl (lv_at hl 0 rfl) ?_
  refine lv_iload_n S.1 S.2.1 dL_law_1268 rfl (lv_at hl 3 rfl) ?_
  refine lv_iconst (v := 5) S.1 S.2.1 dL_law_1269 (by decide) ?_
  refine lv_iadd S.1 S.2.1 dL_law_1270 ?_
  refine sldE S.1 S.2.1 hX hbl hbA hS hi5 dL_law_1271 ?_
  refine lv_i2l (v := a5.toInt64) S.1 S.2.1 dL_law_1272 rfl ?_
  refine lv_ldc2 S.1 S.2.1 S.2.2.2.1 (S.2.2.2.2 _ q1602) dL_law_1273 ?_
  refine lv_land S.1 S.2.1 dL_law_1276 ?_
  refine lv_lor S.1 S.2.1 dL_law_1277 ?_
  refine sM_i (As := [.int a1, .int a2, .int a3, .long ((a4.toInt64 <<< ((32 : Int32).toInt64 &&& 63)) ||| (a5.toInt64 &&& 4294967295))]) (rest := [.int r]) S hK rfl rfl (fun _ => rfl) hP hD hS (metX3_item l hj hf) (lw_V q1574 q1575 q1576 q60 q1577) rfl pdX3_item ⟨rfl, rfl⟩ ⟨Nat.le_of_ble_eq_true rfl, Nat.le_of_ble_eq_true rfl⟩ rfl hl.1 rfl (Nat.le_of_ble_eq_true rfl) dL_law_1278 hroom (fun r' u' H locs hf hP hD hS => ?_)
  obtain ⟨e1, hf⟩ := hf
  refine lv_icmp_eq (tgt := 1349) S.1 S.2.1 dL_law_1281 (by decide) (fun c_1 => ?_) (fun c_1 => ?_)
  · exact kk u u' H locs hf ⟨hP.perm permN, hD.perm permN⟩ hS
  · exact absurd e1 c_1
end LAWO
