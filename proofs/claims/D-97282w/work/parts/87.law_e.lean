section LAWO
variable {p : Program} {l : Launch} {e : Env} {s : State} {m : MethodId} {below : List Frame} {meth : Method} {c : Code} {H : Heap} {locs : List Loc} {kc ks : Nat} {Q : State → Prop} {b L : Nat} {xs : Nat → Int32}
variable {ls : Array Slot} {dC : Nat → ClassId} {dI : Nat → Nat → Nat} {dA : Nat → ClassId} {eA mi : Nat} {A : Nat → Prop} {h hm : Nat → Nat} {wr : va_W} {ix a1 a2 a3 a4 a5 : Int32}
set_option maxHeartbeats 4000000 in
set_option maxRecDepth 100000 in
theorem lo_copy_N (hC : LC p l s m c b L xs A dC dI dA eA mi) (hj : mJ hm) {steps : Int32} {draw : Int32} {typed : Int32} {at_ : Int32} {isImage : Int32} {idraw : Int32} {gd : (Nat → Int32)} {gro : Int64} {grt : Int32} {td : (Nat → Int32)} {tro : Int64} {trt : Int32} {rd : (Nat → Int32)} {rro : Int64} {rrt : Int32} {imd : (Nat → Int32)} {imro : Int64} {imrt : Int32} {owners : (Nat → Int32)} {tour : (Nat → Int32)} {best : (Nat → Int32)} {tape : (Nat → Int32)} {signs : (Nat → Int32)} {acts : (Nat → Int32)} {iown : (Nat → Int32)} {taken : (Nat → Int64)} {shf : (Nat → Option Nat)} {hd : Nat} {m_depths : (Nat → Int32)} {m_owners : (Nat → Int32)} {m_roofs : Int64} {m_rate : Int32} {m_undos : (Nat → Int32)} {m_undoMany : Int32} {m_drawn : Int32} {m_dug : Int64} {m_deep : Int64} {m_holes : (Nat → Int64)} {m_holeMany : Int32} {m_tape : (Nat → Int32)} {m_taped : Int32} {m_place : Int32} {m_reads : Int32} {m_read_ : (Nat → Int32)} {m_row : (Nat → Int32)} {m_order : (Nat → Int32)} {m_bestOrder : (Nat → Int32)} {m_nears : (Nat → Int32)} {m_isKept : Int32} {m_keptRoofs : Int64} {m_kept : (Nat → Int32)} {m_lanes : (Nat → Int32)} {m_rowSizes : (Nat → Int32)} {m_items : (Nat → Int64)} {m_moved : (Nat → Int64)} {PP : (Nat → Int64) → (Nat → Int64) → Prop} (hf : wX0_copy_N (fun r => wX3_copy (fun r' q0 q1 => r = r' ∧ PP q0 q1) m_lanes m_rowSizes m_items m_moved a1 a2 a3 a4 a5) shf hd a1 a2 a3 a4 a5) (hPD : PD A dC dI ([((h 0), .inr (0, [.ref (h 1), .ref (h 3), .ref (h 9), .ref (h 17), .ref (h 10), .ref (h 11), .int steps, .int draw, .ref (h 12), .int typed, .int at_, .ref (h 5), .ref (h 13), .ref (h 14), .int isImage, .ref (h 7), .ref (h 15), .ref (h 18), .int idraw, .ref (h 19), .ref (h 16)])), ((h 1), .inr (1, [.ref (h 2), .long gro, .int grt])), ((h 2), .inl (dA 0, 36, .inl gd)), ((h 3), .inr (1, [.ref (h 4), .long tro, .int trt])), ((h 4), .inl (dA 0, 36, .inl td)), ((h 5), .inr (1, [.ref (h 6), .long rro, .int rrt])), ((h 6), .inl (dA 0, 36, .inl rd)), ((h 7), .inr (1, [.ref (h 8), .long imro, .int imrt])), ((h 8), .inl (dA 0, 36, .inl imd)), ((h 9), .inl (dA 0, 36, .inl owners)), ((h 10), .inl (dA 1, 8, .inl tour)), ((h 11), .inl (dA 1, 8, .inl best)), ((h 12), .inl (dA 0, 160, .inl tape)), ((h 13), .inl (dA 0, 36, .inl signs)), ((h 14), .inl (dA 0, 320, .inl acts)), ((h 15), .inl (dA 0, 36, .inl iown)), ((h 16), .inl (dA 2, 36, .inr (.inl taken))), ((h 19), .inl (dA 5, 4, .inr (.inr (.inr (.inr shf))))), (hd, .inr (2, [.null]))] ++ ((wM hm dA m_depths m_owners m_roofs m_rate m_undos m_undoMany m_drawn m_dug m_deep m_holes m_holeMany m_tape m_taped m_place m_reads m_read_ m_row m_order m_bestOrder m_nears m_isKept m_keptRoofs m_kept m_lanes m_rowSizes m_items m_moved) ++ wr)) H) (hS : va_S A s.heap H locs) (hl : lv_has ls 4 [(0, .ref b), (1, .ref (h 0)), (2, .ref (hm 0)), (3, .int ix)]) (hi1 : vp_in (ix + 1) L ∧ xs (ix + 1).toNatClampNeg = a1) (hi2 : vp_in (ix + 2) L ∧ xs (ix + 2).toNatClampNeg = a2) (hi3 : vp_in (ix + 3) L ∧ xs (ix + 3).toNatClampNeg = a3) (hi4 : vp_in (ix + 4) L ∧ xs (ix + 4).toNatClampNeg = a4) (hi5 : vp_in (ix + 5) L ∧ xs (ix + 5).toNatClampNeg = a5) (hroom : kc + 3 ≤ room_1.cells ∧ ks + 500 ≤ room_1.slots)
    (kk : ∀ (u : Unit) (u' : (Nat → Int64) × (Nat → Int64)) (H1 : Heap) (locs1 : List Loc), PP u'.1 u'.2 → PD A dC dI ([((h 0), .inr (0, [.ref (h 1), .ref (h 3), .ref (h 9), .ref (h 17), .ref (h 10), .ref (h 11), .int steps, .int draw, .ref (h 12), .int typed, .int at_, .ref (h 5), .ref (h 13), .ref (h 14), .int isImage, .ref (h 7), .ref (h 15), .ref (h 18), .int idraw, .ref (h 19), .ref (h 16)])), ((h 1), .inr (1, [.ref (h 2), .long gro, .int grt])), ((h 2), .inl (dA 0, 36, .inl gd)), ((h 3), .inr (1, [.ref (h 4), .long tro, .int trt])), ((h 4), .inl (dA 0, 36, .inl td)), ((h 5), .inr (1, [.ref (h 6), .long rro, .int rrt])), ((h 6), .inl (dA 0, 36, .inl rd)), ((h 7), .inr (1, [.ref (h 8), .long imro, .int imrt])), ((h 8), .inl (dA 0, 36, .inl imd)), ((h 9), .inl (dA 0, 36, .inl owners)), ((h 10), .inl (dA 1, 8, .inl tour)), ((h 11), .inl (dA 1, 8, .inl best)), ((h 12), .inl (dA 0, 160, .inl tape)), ((h 13), .inl (dA 0, 36, .inl signs)), ((h 14), .inl (dA 0, 320, .inl acts)), ((h 15), .inl (dA 0, 36, .inl iown)), ((h 16), .inl (dA 2, 36, .inr (.inl taken))), ((h 19), .inl (dA 5, 4, .inr (.inr (.inr (.inr shf))))), (hd, .inr (2, [.null]))] ++ ((wM hm dA m_depths m_owners m_roofs m_rate m_undos m_undoMany m_drawn m_dug m_deep m_holes m_holeMany m_tape m_taped m_place m_reads m_read_ m_row m_order m_bestOrder m_nears m_isKept m_keptRoofs m_kept m_lanes m_rowSizes u'.1 u'.2) ++ wr)) H1 → va_S A s.heap H1 locs1 → W p l e room_1 s m #[Value.ref b] below meth c H1 locs1 (kc + 3) (ks + 500) Q (F0 m 1349 ls [])) : W p l e room_1 s m #[Value.ref b] below meth c H locs kc ks Q (F0 m 1286 ls []) := by
  obtain ⟨S, hX, hbl, hbA, hK, hE, hA, hfl⟩ := hC
  obtain ⟨hP, hD⟩ := hPD
  refine lv_aload_n S.1 S.2.1 dL_law_1286 rfl (lv_at hl 1 rfl) ?_
  refine lv_aload_n S.1 S.2.1 dL_law_1287 rfl (lv_at hl 0 rfl) ?_
  refine lv_iload_n S.1 S.2.1 dL_law_1288 rfl (lv_at hl 3 rfl) ?_
  refine lv_iconst (v := 1) S.1 S.2.1 dL_law_1289 (by decide) ?_
  refine lv_iadd S.1 S.2.1 dL_law_1290 ?_
  refine sldE S.1 S.2.1 hX hbl hbA hS hi1 dL_law_1291 ?_
  refine lv_aload_n S.1 S.2.1 dL_law_1292 rfl (lv_at hl 0 rfl) ?_
  refine lv_iload_n S.1 S.2.1 dL_law_1293 rfl (lv_at hl 3 rfl) ?_
  refine lv_iconst (v := 2) S.1 S.2.1 dL_law_1294 (by decide) ?_
  refine lv_iadd S.1 S.2.1 dL_law_1295 ?_
  refine sldE S.1 S.2.1 hX hbl hbA hS hi2 dL_law_1296 ?_
  refine lv_aload_n S.1 S.2.1 dL_law_1297 rfl (lv_at hl 0 rfl) ?_
  refine lv_iload_n S.1 S.2.1 dL_law_1298 rfl (lv_at hl 3 rfl) ?_
  refine lv_iconst (v := 3) S.1 S.2.1 dL_law_1299 (by decide) ?_
  refine lv_iadd S.1 S.2.1 dL_law_1300 ?_
  refine sldE S.1 S.2.1 hX hbl hbA hS hi3 dL_law_1301 ?_
  refine lv_aload_n S.1 S.2.1 dL_law_1302 rfl (lv_at hl 0 rfl) ?_
  refine lv_iload_n S.1 S.2.1 dL_law_1303 rfl (lv_at hl 3 rfl) ?_
  refine lv_iconst (v := 4) S.1 S.2.1 dL_law_1304 (by decide) ?_
  refine lv_iadd S.1 S.2.1 dL_law_1305 ?_
  refine sldE S.1 S.2.1 hX hbl hbA hS hi4 dL_law_1306 ?_
  refine lv_aload_n S.1 S.2.1 dL_law_1307 rfl (lv_at hl 0 rfl) ?_
  refine lv_iload_n S.1 S.2.1 dL_law_1308 rfl (lv_at hl 3 rfl) ?_
  refine lv_iconst (v := 5) S.1 S.2.1 dL_law_1309 (by decide) ?_
  refine lv_iadd S.1 S.2.1 dL_law_1310 ?_
  refine sldE S.1 S.2.1 hX hbl hbA hS hi5 dL_law_1311 ?_
  refine sC_i hP hD hS hA (va_runVW (As := [.int a1, .int a2, .int a3, .int a4, .int a5]) (rest := []) S (metX0_copy_N l hfl hf) (cwVW 5 S.2.2.2.2 q1049 q1050 q1051 q54 q1052 pdX0_copy ⟨Nat.le_of_ble_eq_true rfl, Nat.le_of_ble_eq_true rfl⟩) ⟨ablind, va_recv hK hP (ci := 0) (q0 := 0) rfl rfl, (spre hK hE hP hD hS hA).2⟩ rfl rfl hl.1 rfl (lv_room (Nat.le_of_ble_eq_true rfl)) dL_law_1312 hroom) (fun r u H locs hf hP hD hS => ?_)
  have hP := hP.perm permM
  have hD := hD.perm permM
  refine lv_aload_n S.1 S.2.1 dL_law_1315 rfl (lv_at hl 2 rfl) ?_
  refine lv_aload_n S.1 S.2.1 dL_law_1316 rfl (lv_at hl 0 rfl) ?_
  refine lv_iload_n S.1 S.2.1 dL_law_1317 rfl (lv_at hl 3 rfl) ?_
  refine lv_iconst (v := 1) S.1 S.2.1 dL_law_1318 (by decide) ?_
  refine lv_iadd S.1 S.2.1 dL_law_1319 ?_
  refine sldE S.1 S.2.1 hX hbl hbA hS hi1 dL_law_1320 ?_
  refine lv_aload_n S.1 S.2.1 dL_law_1321 rfl (lv_at hl 0 rfl) ?_
  refine lv_iload_n S.1 S.2.1 dL_law_1322 rfl (lv_at hl 3 rfl) ?_
  refine lv_iconst (v := 2) S.1 S.2.1 dL_law_1323 (by decide) ?_
  refine lv_iadd S.1 S.2.1 dL_law_1324 ?_
  refine sldE S.1 S.2.1 hX hbl hbA hS hi2 dL_law_1325 ?_
  refine lv_aload_n S.1 S.2.1 dL_law_1326 rfl (lv_at hl 0 rfl) ?_
  refine lv_iload_n S.1 S.2.1 dL_law_1327 rfl (lv_at hl 3 rfl) ?_
  refine lv_iconst (v := 3) S.1 S.2.1 dL_law_1328 (by decide) ?_
  refine lv_iadd S.1 S.2.1 dL_law_1329 ?_
  refine sldE S.1 S.2.1 hX hbl hbA hS hi3 dL_law_1330 ?_
  refine lv_aload_n S.1 S.2.1 dL_law_1331 rfl (lv_at hl 0 rfl) ?_
  refine lv_iload_n S.1 S.2.1 dL_law_1332 rfl (lv_at hl 3 rfl) ?_
  refine lv_iconst (v := 4) S.1 S.2.1 dL_law_1333 (by decide) ?_
  refine lv_iadd S.1 S.2.1 dL_law_1334 ?_
  refine sldE S.1 S.2.1 hX hbl hbA hS hi4 dL_law_1335 ?_
  refine lv_aload_n S.1 S.2.1 dL_law_1336 rfl (lv_at hl 0 rfl) ?_
  refine lv_iload_n S.1 S.2.1 dL_law_1337 rfl (lv_at hl 3 rfl) ?_
  refine lv_iconst (v := 5) S.1 S.2.1 dL_law_1338 (by decide) ?_
  refine lv_iadd S.1 S.2.1 dL_law_1339 ?_
  refine sldE S.1 S.2.1 hX hbl hbA hS hi5 dL_law_1340 ?_
  refine sM_i (As := [.int a1, .int a2, .int a3, .int a4, .int a5]) (rest := [.int r]) S hK rfl rfl (fun _ => rfl) hP hD hS (metX3_copy l hj hf) (lw_V q1598 q1599 q1600 q60 q1601) rfl pdX3_copy ⟨rfl, rfl⟩ ⟨Nat.le_of_ble_eq_true rfl, Nat.le_of_ble_eq_true rfl⟩ rfl hl.1 rfl (Nat.le_of_ble_eq_true rfl) dL_law_1341 hroom (fun r' u' H locs hf hP hD hS => ?_)
  obtain ⟨e1, hf⟩ := hf
  refine lv_icmp_eq (tgt := 1349) S.1 S.2.1 dL_law_1344 (by decide) (fun c_1 => ?_) (fun c_1 => ?_)
  · exact kk u u' H locs hf ⟨hP.perm permN, hD.perm permN⟩ hS
  · exact absurd e1 c_1
set_option maxHeartbeats 4000000 in
set_option maxRecDepth 100000 in
theorem lo_copy_B (hC : LC p l s m c b L xs A dC dI dA eA mi) (hj : mJ hm) {steps : Int32} {draw : Int32} {typed : Int32} {at_ : Int32} {isImage : Int32} {idraw : Int32} {gd : (Nat → Int32)} {gro : Int64} {grt : Int32} {td : (Nat → Int32)} {tro : Int64} {trt : Int32} {rd : (Nat → Int32)} {rro : Int64} {rrt : Int32} {imd : (Nat → Int32)} {imro : Int64} {imrt : Int32} {owners : (Nat → Int32)} {tour : (Nat → Int32)} {best : (Nat → Int32)} {tape : (Nat → Int32)} {signs : (Nat → Int32)} {acts : (Nat → Int32)} {iown : (Nat → Int32)} {taken : (Nat → Int64)} {shf : (Nat → Option Nat)} {hd : Nat} {rn : Nat} {rf : (Nat → Int32)} {ra : Nat} {m_depths : (Nat → Int32)} {m_owners : (Nat → Int32)} {m_roofs : Int64} {m_rate : Int32} {m_undos : (Nat → Int32)} {m_undoMany : Int32} {m_drawn : Int32} {m_dug : Int64} {m_deep : Int64} {m_holes : (Nat → Int64)} {m_holeMany : Int32} {m_tape : (Nat → Int32)} {m_taped : Int32} {m_place : Int32} {m_reads : Int32} {m_read_ : (Nat → Int32)} {m_row : (Nat → Int32)} {m_order : (Nat → Int32)} {m_bestOrder : (Nat → Int32)} {m_nears : (Nat → Int32)} {m_isKept : Int32} {m_keptRoofs : Int64} {m_kept : (Nat → Int32)} {m_lanes : (Nat → Int32)} {m_rowSizes : (Nat → Int32)} {m_items : (Nat → Int64)} {m_moved : (Nat → Int64)} {PP : (Nat → Int32) → (Nat → Int64) → (Nat → Int64) → Prop} (hf : wX0_copy_B (fun r p0 => wX3_copy (fun r' q0 q1 => r = r' ∧ PP p0 q0 q1) m_lanes m_rowSizes m_items m_moved a1 a2 a3 a4 a5) shf hd rn rf a1 a2 a3 a4 a5) (hPD : PD A dC dI ([((h 0), .inr (0, [.ref (h 1), .ref (h 3), .ref (h 9), .ref (h 17), .ref (h 10), .ref (h 11), .int steps, .int draw, .ref (h 12), .int typed, .int at_, .ref (h 5), .ref (h 13), .ref (h 14), .int isImage, .ref (h 7), .ref (h 15), .ref (h 18), .int idraw, .ref (h 19), .ref (h 16)])), ((h 1), .inr (1, [.ref (h 2), .long gro, .int grt])), ((h 2), .inl (dA 0, 36, .inl gd)), ((h 3), .inr (1, [.ref (h 4), .long tro, .int trt])), ((h 4), .inl (dA 0, 36, .inl td)), ((h 5), .inr (1, [.ref (h 6), .long rro, .int rrt])), ((h 6), .inl (dA 0, 36, .inl rd)), ((h 7), .inr (1, [.ref (h 8), .long imro, .int imrt])), ((h 8), .inl (dA 0, 36, .inl imd)), ((h 9), .inl (dA 0, 36, .inl owners)), ((h 10), .inl (dA 1, 8, .inl tour)), ((h 11), .inl (dA 1, 8, .inl best)), ((h 12), .inl (dA 0, 160, .inl tape)), ((h 13), .inl (dA 0, 36, .inl signs)), ((h 14), .inl (dA 0, 320, .inl acts)), ((h 15), .inl (dA 0, 36, .inl iown)), ((h 16), .inl (dA 2, 36, .inr (.inl taken))), ((h 19), .inl (dA 5, 4, .inr (.inr (.inr (.inr shf))))), (hd, .inr (2, [.ref ra])), (ra, .inl (dA 0, rn, .inl rf))] ++ ((wM hm dA m_depths m_owners m_roofs m_rate m_undos m_undoMany m_drawn m_dug m_deep m_holes m_holeMany m_tape m_taped m_place m_reads m_read_ m_row m_order m_bestOrder m_nears m_isKept m_keptRoofs m_kept m_lanes m_rowSizes m_items m_moved) ++ wr)) H) (hS : va_S A s.heap H locs) (hl : lv_has ls 4 [(0, .ref b), (1, .ref (h 0)), (2, .ref (hm 0)), (3, .int ix)]) (hi1 : vp_in (ix + 1) L ∧ xs (ix + 1).toNatClampNeg = a1) (hi2 : vp_in (ix + 2) L ∧ xs (ix + 2).toNatClampNeg = a2) (hi3 : vp_in (ix + 3) L ∧ xs (ix + 3).toNatClampNeg = a3) (hi4 : vp_in (ix + 4) L ∧ xs (ix + 4).toNatClampNeg = a4) (hi5 : vp_in (ix + 5) L ∧ xs (ix + 5).toNatClampNeg = a5) (hroom : kc + 3 ≤ room_1.cells ∧ ks + 500 ≤ room_1.slots)
    (kk : ∀ (u : (Nat → Int32)) (u' : (Nat → Int64) × (Nat → Int64)) (H1 : Heap) (locs1 : List Loc), PP u u'.1 u'.2 → PD A dC dI ([((h 0), .inr (0, [.ref (h 1), .ref (h 3), .ref (h 9), .ref (h 17), .ref (h 10), .ref (h 11), .int steps, .int draw, .ref (h 12), .int typed, .int at_, .ref (h 5), .ref (h 13), .ref (h 14), .int isImage, .ref (h 7), .ref (h 15), .ref (h 18), .int idraw, .ref (h 19), .ref (h 16)])), ((h 1), .inr (1, [.ref (h 2), .long gro, .int grt])), ((h 2), .inl (dA 0, 36, .inl gd)), ((h 3), .inr (1, [.ref (h 4), .long tro, .int trt])), ((h 4), .inl (dA 0, 36, .inl td)), ((h 5), .inr (1, [.ref (h 6), .long rro, .int rrt])), ((h 6), .inl (dA 0, 36, .inl rd)), ((h 7), .inr (1, [.ref (h 8), .long imro, .int imrt])), ((h 8), .inl (dA 0, 36, .inl imd)), ((h 9), .inl (dA 0, 36, .inl owners)), ((h 10), .inl (dA 1, 8, .inl tour)), ((h 11), .inl (dA 1, 8, .inl best)), ((h 12), .inl (dA 0, 160, .inl tape)), ((h 13), .inl (dA 0, 36, .inl signs)), ((h 14), .inl (dA 0, 320, .inl acts)), ((h 15), .inl (dA 0, 36, .inl iown)), ((h 16), .inl (dA 2, 36, .inr (.inl taken))), ((h 19), .inl (dA 5, 4, .inr (.inr (.inr (.inr shf))))), (hd, .inr (2, [.ref ra])), (ra, .inl (dA 0, rn, .inl u))] ++ ((wM hm dA m_depths m_owners m_roofs m_rate m_undos m_undoMany m_drawn m_dug m_deep m_holes m_holeMany m_tape m_taped m_place m_reads m_read_ m_row m_order m_bestOrder m_nears m_isKept m_keptRoofs m_kept m_lanes m_rowSizes u'.1 u'.2) ++ wr)) H1 → va_S A s.heap H1 locs1 → W p l e room_1 s m #[Value.ref b] below meth c H1 locs1 (kc + 3) (ks + 500) Q (F0 m 1349 ls [])) : W p l e room_1 s m #[Value.ref b] below meth c H locs kc ks Q (F0 m 1286 ls []) := by
  obtain ⟨S, hX, hbl, hbA, hK, hE, hA, hfl⟩ := hC
  obtain ⟨hP, hD⟩ := hPD
  refine lv_aload_n S.1 S.2.1 dL_law_1286 rfl (lv_at hl 1 rfl) ?_
  refine lv_aload_n S.1 S.2.1 dL_law_1287 rfl (lv_at hl 0 rfl) ?_
  refine lv_iload_n S.1 S.2.1 dL_law_1288 rfl (lv_at hl 3 rfl) ?_
  refine lv_iconst (v := 1) S.1 S.2.1 dL_law_1289 (by decide) ?_
  refine lv_iadd S.1 S.2.1 dL_law_1290 ?_
  refine sldE S.1 S.2.1 hX hbl hbA hS hi1 dL_law_1291 ?_
  refine lv_aload_n S.1 S.2.1 dL_law_1292 rfl (lv_at hl 0 rfl) ?_
  refine lv_iload_n S.1 S.2.1 dL_law_1293 rfl (lv_at hl 3 rfl) ?_
  refine lv_iconst (v := 2) S.1 S.2.1 dL_law_1294 (by decide) ?_
  refine lv_iadd S.1 S.2.1 dL_law_1295 ?_
  refine sldE S.1 S.2.1 hX hbl hbA hS hi2 dL_law_1296 ?_
  refine lv_aload_n S.1 S.2.1 dL_law_1297 rfl (lv_at hl 0 rfl) ?_
  refine lv_iload_n S.1 S.2.1 dL_law_1298 rfl (lv_at hl 3 rfl) ?_
  refine lv_iconst (v := 3) S.1 S.2.1 dL_law_1299 (by decide) ?_
  refine lv_iadd S.1 S.2.1 dL_law_1300 ?_
  refine sldE S.1 S.2.1 hX hbl hbA hS hi3 dL_law_1301 ?_
  refine lv_aload_n S.1 S.2.1 dL_law_1302 rfl (lv_at hl 0 rfl) ?_
  refine lv_iload_n S.1 S.2.1 dL_law_1303 rfl (lv_at hl 3 rfl) ?_
  refine lv_iconst (v := 4) S.1 S.2.1 dL_law_1304 (by decide) ?_
  refine lv_iadd S.1 S.2.1 dL_law_1305 ?_
  refine sldE S.1 S.2.1 hX hbl hbA hS hi4 dL_law_1306 ?_
  refine lv_aload_n S.1 S.2.1 dL_law_1307 rfl (lv_at hl 0 rfl) ?_
  refine lv_iload_n S.1 S.2.1 dL_law_1308 rfl (lv_at hl 3 rfl) ?_
  refine lv_iconst (v := 5) S.1 S.2.1 dL_law_1309 (by decide) ?_
  refine lv_iadd S.1 S.2.1 dL_law_1310 ?_
  refine sldE S.1 S.2.1 hX hbl hbA hS hi5 dL_law_1311 ?_
  refine sC_i hP hD hS hA (va_runVW (As := [.int a1, .int a2, .int a3, .int a4, .int a5]) (rest := []) S (metX0_copy_B l hfl hf) (cwVW 5 S.2.2.2.2 q1049 q1050 q1051 q54 q1052 pdX0_copy ⟨Nat.le_of_ble_eq_true rfl, Nat.le_of_ble_eq_true rfl⟩) ⟨ablind, va_recv hK hP (ci := 0) (q0 := 0) rfl rfl, (spre hK hE hP hD hS hA).2⟩ rfl rfl hl.1 rfl (lv_room (Nat.le_of_ble_eq_true rfl)) dL_law_1312 hroom) (fun r u H locs hf hP hD hS => ?_)
  have hP := hP.perm permM
  have hD := hD.perm permM
  refine lv_aload_n S.1 S.2.1 dL_law_1315 rfl (lv_at hl 2 rfl) ?_
  refine lv_aload_n S.1 S.2.1 dL_law_1316 rfl (lv_at hl 0 rfl) ?_
  refine lv_iload_n S.1 S.2.1 dL_law_1317 rfl (lv_at hl 3 rfl) ?_
  refine lv_iconst (v := 1) S.1 S.2.1 dL_law_1318 (by decide) ?_
  refine lv_iadd S.1 S.2.1 dL_law_1319 ?_
  refine sldE S.1 S.2.1 hX hbl hbA hS hi1 dL_law_1320 ?_
  refine lv_aload_n S.1 S.2.1 dL_law_1321 rfl (lv_at hl 0 rfl) ?_
  refine lv_iload_n S.1 S.2.1 dL_law_1322 rfl (lv_at hl 3 rfl) ?_
  refine lv_iconst (v := 2) S.1 S.2.1 dL_law_1323 (by decide) ?_
  refine lv_iadd S.1 S.2.1 dL_law_1324 ?_
  refine sldE S.1 S.2.1 hX hbl hbA hS hi2 dL_law_1325 ?_
  refine lv_aload_n S.1 S.2.1 dL_law_1326 rfl (lv_at hl 0 rfl) ?_
  refine lv_iload_n S.1 S.2.1 dL_law_1327 rfl (lv_at hl 3 rfl) ?_
  refine lv_iconst (v := 3) S.1 S.2.1 dL_law_1328 (by decide) ?_
  refine lv_iadd S.1 S.2.1 dL_law_1329 ?_
  refine sldE S.1 S.2.1 hX hbl hbA hS hi3 dL_law_1330 ?_
  refine lv_aload_n S.1 S.2.1 dL_law_1331 rfl (lv_at hl 0 rfl) ?_
  refine lv_iload_n S.1 S.2.1 dL_law_1332 rfl (lv_at hl 3 rfl) ?_
  refine lv_iconst (v := 4) S.1 S.2.1 dL_law_1333 (by decide) ?_
  refine lv_iadd S.1 S.2.1 dL_law_1334 ?_
  refine sldE S.1 S.2.1 hX hbl hbA hS hi4 dL_law_1335 ?_
  refine lv_aload_n S.1 S.2.1 dL_law_1336 rfl (lv_at hl 0 rfl) ?_
  refine lv_iload_n S.1 S.2.1 dL_law_1337 rfl (lv_at hl 3 rfl) ?_
  refine lv_iconst (v := 5) S.1 S.2.1 dL_law_1338 (by decide) ?_
  refine lv_iadd S.1 S.2.1 dL_law_1339 ?_
  refine sldE S.1 S.2.1 hX hbl hbA hS hi5 dL_law_1340 ?_
  refine sM_i (As := [.int a1, .int a2, .int a3, .int a4, .int a5]) (rest := [.int r]) S hK rfl rfl (fun _ => rfl) hP hD hS (metX3_copy l hj hf) (lw_V q1598 q1599 q1600 q60 q1601) rfl pdX3_copy ⟨rfl, rfl⟩ ⟨Nat.le_of_ble_eq_true rfl, Nat.le_of_ble_eq_true rfl⟩ rfl hl.1 rfl (Nat.le_of_ble_eq_true rfl) dL_law_1341 hroom (fun r' u' H locs hf hP hD hS => ?_)
  obtain ⟨e1, hf⟩ := hf
  refine lv_icmp_eq (tgt := 1349) S.1 S.2.1 dL_law_1344 (by decide) (fun c_1 => ?_) (fun c_1 => ?_)
  · exact kk u u' H locs hf ⟨hP.perm permN, hD.perm permN⟩ hS
  · exact absurd e1 c_1
set_option maxHeartbeats 4000000 in
set_option maxRecDepth 100000 in
theorem lo_copy_S (hC : LC p l s m c b L xs A dC dI dA eA mi) (hj : mJ hm) {steps : Int32} {draw : Int32} {typed : Int32} {at_ : Int32} {isImage : Int32} {idraw : Int32} {gd : (Nat → Int32)} {gro : Int64} {grt : Int32} {td : (Nat → Int32)} {tro : Int64} {trt : Int32} {rd : (Nat → Int32)} {rro : Int64} {rrt : Int32} {imd : (Nat → Int32)} {imro : Int64} {imrt : Int32} {owners : (Nat → Int32)} {tour : (Nat → Int32)} {best : (Nat → Int32)} {tape : (Nat → Int32)} {signs : (Nat → Int32)} {acts : (Nat → Int32)} {iown : (Nat → Int32)} {taken : (Nat → Int64)} {shf : (Nat → Option Nat)} {hd : Nat} {rn : Nat} {rf : (Nat → Int32)} {ra : Nat} {m_depths : (Nat → Int32)} {m_owners : (Nat → Int32)} {m_roofs : Int64} {m_rate : Int32} {m_undos : (Nat → Int32)} {m_undoMany : Int32} {m_drawn : Int32} {m_dug : Int64} {m_deep : Int64} {m_holes : (Nat → Int64)} {m_holeMany : Int32} {m_tape : (Nat → Int32)} {m_taped : Int32} {m_place : Int32} {m_reads : Int32} {m_read_ : (Nat → Int32)} {m_row : (Nat → Int32)} {m_order : (Nat → Int32)} {m_bestOrder : (Nat → Int32)} {m_nears : (Nat → Int32)} {m_isKept : Int32} {m_keptRoofs : Int64} {m_kept : (Nat → Int32)} {m_lanes : (Nat → Int32)} {m_rowSizes : (Nat → Int32)} {m_items : (Nat → Int64)} {m_moved : (Nat → Int64)} {PP : (Nat → Int32) → (Nat → Int64) → (Nat → Int64) → Prop} (hf : wX0_copy_S (fun r p0 => wX3_copy (fun r' q0 q1 => r = r' ∧ PP p0 q0 q1) m_lanes m_rowSizes m_items m_moved a1 a2 a3 a4 a5) shf hd rn rf a1 a2 a3 a4 a5) (hPD : PD A dC dI ([((h 0), .inr (0, [.ref (h 1), .ref (h 3), .ref (h 9), .ref (h 17), .ref (h 10), .ref (h 11), .int steps, .int draw, .ref (h 12), .int typed, .int at_, .ref (h 5), .ref (h 13), .ref (h 14), .int isImage, .ref (h 7), .ref (h 15), .ref (h 18), .int idraw, .ref (h 19), .ref (h 16)])), ((h 1), .inr (1, [.ref (h 2), .long gro, .int grt])), ((h 2), .inl (dA 0, 36, .inl gd)), ((h 3), .inr (1, [.ref (h 4), .long tro, .int trt])), ((h 4), .inl (dA 0, 36, .inl td)), ((h 5), .inr (1, [.ref (h 6), .long rro, .int rrt])), ((h 6), .inl (dA 0, 36, .inl rd)), ((h 7), .inr (1, [.ref (h 8), .long imro, .int imrt])), ((h 8), .inl (dA 0, 36, .inl imd)), ((h 9), .inl (dA 0, 36, .inl owners)), ((h 10), .inl (dA 1, 8, .inl tour)), ((h 11), .inl (dA 1, 8, .inl best)), ((h 12), .inl (dA 0, 160, .inl tape)), ((h 13), .inl (dA 0, 36, .inl signs)), ((h 14), .inl (dA 0, 320, .inl acts)), ((h 15), .inl (dA 0, 36, .inl iown)), ((h 16), .inl (dA 2, 36, .inr (.inl taken))), ((h 19), .inl (dA 5, 4, .inr (.inr (.inr (.inr shf))))), (hd, .inr (2, [.ref ra])), (ra, .inl (dA 3, rn, .inl rf))] ++ ((wM hm dA m_depths m_owners m_roofs m_rate m_undos m_undoMany m_drawn m_dug m_deep m_holes m_holeMany m_tape m_taped m_place m_reads m_read_ m_row m_order m_bestOrder m_nears m_isKept m_keptRoofs m_kept m_lanes m_rowSizes m_items m_moved) ++ wr)) H) (hS : va_S A s.heap H locs) (hl : lv_has ls 4 [(0, .ref b), (1, .ref (h 0)), (2, .ref (hm 0)), (3, .int ix)]) (hi1 : vp_in (ix + 1) L ∧ xs (ix + 1).toNatClampNeg = a1) (hi2 : vp_in (ix + 2) L ∧ xs (ix + 2).toNatClampNeg = a2) (hi3 : vp_in (ix + 3) L ∧ xs (ix + 3).toNatClampNeg = a3) (hi4 : vp_in (ix + 4) L ∧ xs (ix + 4).toNatClampNeg = a4) (hi5 : vp_in (ix + 5) L ∧ xs (ix + 5).toNatClampNeg = a5) (hroom : kc + 3 ≤ room_1.cells ∧ ks + 500 ≤ room_1.slots)
    (kk : ∀ (u : (Nat → Int32)) (u' : (Nat → Int64) × (Nat → Int64)) (H1 : Heap) (locs1 : List Loc), PP u u'.1 u'.2 → PD A dC dI ([((h 0), .inr (0, [.ref (h 1), .ref (h 3), .ref (h 9), .ref (h 17), .ref (h 10), .ref (h 11), .int steps, .int draw, .ref (h 12), .int typed, .int at_, .ref (h 5), .ref (h 13), .ref (h 14), .int isImage, .ref (h 7), .ref (h 15), .ref (h 18), .int idraw, .ref (h 19), .ref (h 16)])), ((h 1), .inr (1, [.ref (h 2), .long gro, .int grt])), ((h 2), .inl (dA 0, 36, .inl gd)), ((h 3), .inr (1, [.ref (h 4), .long tro, .int trt])), ((h 4), .inl (dA 0, 36, .inl td)), ((h 5), .inr (1, [.ref (h 6), .long rro, .int rrt])), ((h 6), .inl (dA 0, 36, .inl rd)), ((h 7), .inr (1, [.ref (h 8), .long imro, .int imrt])), ((h 8), .inl (dA 0, 36, .inl imd)), ((h 9), .inl (dA 0, 36, .inl owners)), ((h 10), .inl (dA 1, 8, .inl tour)), ((h 11), .inl (dA 1, 8, .inl best)), ((h 12), .inl (dA 0, 160, .inl tape)), ((h 13), .inl (dA 0, 36, .inl signs)), ((h 14), .inl (dA 0, 320, .inl acts)), ((h 15), .inl (dA 0, 36, .inl iown)), ((h 16), .inl (dA 2, 36, .inr (.inl taken))), ((h 19), .inl (dA 5, 4, .inr (.inr (.inr (.inr shf))))), (hd, .inr (2, [.ref ra])), (ra, .inl (dA 3, rn, .inl u))] ++ ((wM hm dA m_depths m_owners m_roofs m_rate m_undos m_undoMany m_drawn m_dug m_deep m_holes m_holeMany m_tape m_taped m_place m_reads m_read_ m_row m_order m_bestOrder m_nears m_isKept m_keptRoofs m_kept m_lanes m_rowSizes u'.1 u'.2) ++ wr)) H1 → va_S A s.heap H1 locs1 → W p l e room_1 s m #[Value.ref b] below meth c H1 locs1 (kc + 3) (ks + 500) Q (F0 m 1349 ls [])) : W p l e room_1 s m #[Value.ref b] below meth c H locs kc ks Q (F0 m 1286 ls []) := by
  obtain ⟨S, hX, hbl, hbA, hK, hE, hA, hfl⟩ := hC
  obtain ⟨hP, hD⟩ := hPD
  refine lv_aload_n S.1 S.2.1 dL_law_1286 rfl (lv_at hl 1 rfl) ?_
  refine lv_aload_n S.1 S.2.1 dL_law_1287 rfl (lv_at hl 0 rfl) ?_
  refine lv_iload_n S.1 S.2.1 dL_law_1288 rfl (lv_at hl 3 rfl) ?_
  refine lv_iconst (v := 1) S.1 S.2.1 dL_law_1289 (by decide) ?_
  refine lv_iadd S.1 S.2.1 dL_law_1290 ?_
  refine sldE S.1 S.2.1 hX hbl hbA hS hi1 dL_law_1291 ?_
  refine lv_aload_n S.1 S.2.1 dL_law_1292 rfl (lv_at hl 0 rfl) ?_
  refine lv_iload_n S.1 S.2.1 dL_law_1293 rfl (lv_at hl 3 rfl) ?_
  refine lv_iconst (v := 2) S.1 S.2.1 dL_law_1294 (by decide) ?_
  refine lv_iadd S.1 S.2.1 dL_law_1295 ?_
  refine sldE S.1 S.2.1 hX hbl hbA hS hi2 dL_law_1296 ?_
  refine lv_aload_n S.1 S.2.1 dL_law_1297 rfl (lv_at hl 0 rfl) ?_
  refine lv_iload_n S.1 S.2.1 dL_law_1298 rfl (lv_at hl 3 rfl) ?_
  refine lv_iconst (v := 3) S.1 S.2.1 dL_law_1299 (by decide) ?_
  refine lv_iadd S.1 S.2.1 dL_law_1300 ?_
  refine sldE S.1 S.2.1 hX hbl hbA hS hi3 dL_law_1301 ?_
  refine lv_aload_n S.1 S.2.1 dL_law_1302 rfl (lv_at hl 0 rfl) ?_
  refine lv_iload_n S.1 S.2.1 dL_law_1303 rfl (lv_at hl 3 rfl) ?_
  refine lv_iconst (v := 4) S.1 S.2.1 dL_law_1304 (by decide) ?_
  refine lv_iadd S.1 S.2.1 dL_law_1305 ?_
  refine sldE S.1 S.2.1 hX hbl hbA hS hi4 dL_law_1306 ?_
  refine lv_aload_n S.1 S.2.1 dL_law_1307 rfl (lv_at hl 0 rfl) ?_
  refine lv_iload_n S.1 S.2.1 dL_law_1308 rfl (lv_at hl 3 rfl) ?_
  refine lv_iconst (v := 5) S.1 S.2.1 dL_law_1309 (by decide) ?_
  refine lv_iadd S.1 S.2.1 dL_law_1310 ?_
  refine sldE S.1 S.2.1 hX hbl hbA hS hi5 dL_law_1311 ?_
  refine sC_i hP hD hS hA (va_runVW (As := [.int a1, .int a2, .int a3, .int a4, .int a5]) (rest := []) S (metX0_copy_S l hfl hf) (cwVW 5 S.2.2.2.2 q1049 q1050 q1051 q54 q1052 pdX0_copy ⟨Nat.le_of_ble_eq_true rfl, Nat.le_of_ble_eq_true rfl⟩) ⟨ablind, va_recv hK hP (ci := 0) (q0 := 0) rfl rfl, (spre hK hE hP hD hS hA).2⟩ rfl rfl hl.1 rfl (lv_room (Nat.le_of_ble_eq_true rfl)) dL_law_1312 hroom) (fun r u H locs hf hP hD hS => ?_)
  have hP := hP.perm permM
  have hD := hD.perm permM
  refine lv_aload_n S.1 S.2.1 dL_law_1315 rfl (lv_at hl 2 rfl) ?_
  refine lv_aload_n S.1 S.2.1 dL_law_1316 rfl (lv_at hl 0 rfl) ?_
  refine lv_iload_n S.1 S.2.1 dL_law_1317 rfl (lv_at hl 3 rfl) ?_
  refine lv_iconst (v := 1) S.1 S.2.1 dL_law_1318 (by decide) ?_
  refine lv_iadd S.1 S.2.1 dL_law_1319 ?_
  refine sldE S.1 S.2.1 hX hbl hbA hS hi1 dL_law_1320 ?_
  refine lv_aload_n S.1 S.2.1 dL_law_1321 rfl (lv_at hl 0 rfl) ?_
  refine lv_iload_n S.1 S.2.1 dL_law_1322 rfl (lv_at hl 3 rfl) ?_
  refine lv_iconst (v := 2) S.1 S.2.1 dL_law_1323 (by decide) ?_
  refine lv_iadd S.1 S.2.1 dL_law_1324 ?_
  refine sldE S.1 S.2.1 hX hbl hbA hS hi2 dL_law_1325 ?_
  refine lv_aload_n S.1 S.2.1 dL_law_1326 rfl (lv_at hl 0 rfl) ?_
  refine lv_iload_n S.1 S.2.1 dL_law_1327 rfl (lv_at hl 3 rfl) ?_
  refine lv_iconst (v := 3) S.1 S.2.1 dL_law_1328 (by decide) ?_
  refine lv_iadd S.1 S.2.1 dL_law_1329 ?_
  refine sldE S.1 S.2.1 hX hbl hbA hS hi3 dL_law_1330 ?_
  refine lv_aload_n S.1 S.2.1 dL_law_1331 rfl (lv_at hl 0 rfl) ?_
  refine lv_iload_n S.1 S.2.1 dL_law_1332 rfl (lv_at hl 3 rfl) ?_
  refine lv_iconst (v := 4) S.1 S.2.1 dL_law_1333 (by decide) ?_
  refine lv_iadd S.1 S.2.1 dL_law_1334 ?_
  refine sldE S.1 S.2.1 hX hbl hbA hS hi4 dL_law_1335 ?_
  refine lv_aload_n S.1 S.2.1 dL_law_1336 rfl (lv_at hl 0 rfl) ?_
  refine lv_iload_n S.1 S.2.1 dL_law_1337 rfl (lv_at hl 3 rfl) ?_
  refine lv_iconst (v := 5) S.1 S.2.1 dL_law_1338 (by decide) ?_
  refine lv_iadd S.1 S.2.1 dL_law_1339 ?_
  refine sldE S.1 S.2.1 hX hbl hbA hS hi5 dL_law_1340 ?_
  refine sM_i (As := [.int a1, .int a2, .int a3, .int a4, .int a5]) (rest := [.int r]) S hK rfl rfl (fun _ => rfl) hP hD hS (metX3_copy l hj hf) (lw_V q1598 q1599 q1600 q60 q1601) rfl pdX3_copy ⟨rfl, rfl⟩ ⟨Nat.le_of_ble_eq_true rfl, Nat.le_of_ble_eq_true rfl⟩ rfl hl.1 rfl (Nat.le_of_ble_eq_true rfl) dL_law_1341 hroom (fun r' u' H locs hf hP hD hS => ?_)
  obtain ⟨e1, hf⟩ := hf
  refine lv_icmp_eq (tgt := 1349) S.1 S.2.1 dL_law_1344 (by decide) (fun c_1 => ?_) (fun c_1 => ?_)
  · exact kk u u' H locs hf ⟨hP.perm permN, hD.perm permN⟩ hS
  · exact absurd e1 c_1
set_option maxHeartbeats 4000000 in
set_option maxRecDepth 100000 in
theorem lo_copy_I (hC : LC p l s m c b L xs A dC dI dA eA mi) (hj : mJ hm) {steps : Int32} {draw : Int32} {typed : Int32} {at_ : Int32} {isImage : Int32} {idraw : Int32} {gd : (Nat → Int32)} {gro : Int64} {grt : Int32} {td : (Nat → Int32)} {tro : Int64} {trt : Int32} {rd : (Nat → Int32)} {rro : Int64} {rrt : Int32} {imd : (Nat → Int32)} {imro : Int64} {imrt : Int32} {owners : (Nat → Int32)} {tour : (Nat → Int32)} {best : (Nat → Int32)} {tape : (Nat → Int32)} {signs : (Nat → Int32)} {acts : (Nat → Int32)} {iown : (Nat → Int32)} {taken : (Nat → Int64)} {shf : (Nat → Option Nat)} {hd : Nat} {rn : Nat} {rf : (Nat → Int32)} {ra : Nat} {m_depths : (Nat → Int32)} {m_owners : (Nat → Int32)} {m_roofs : Int64} {m_rate : Int32} {m_undos : (Nat → Int32)} {m_undoMany : Int32} {m_drawn : Int32} {m_dug : Int64} {m_deep : Int64} {m_holes : (Nat → Int64)} {m_holeMany : Int32} {m_tape : (Nat → Int32)} {m_taped : Int32} {m_place : Int32} {m_reads : Int32} {m_read_ : (Nat → Int32)} {m_row : (Nat → Int32)} {m_order : (Nat → Int32)} {m_bestOrder : (Nat → Int32)} {m_nears : (Nat → Int32)} {m_isKept : Int32} {m_keptRoofs : Int64} {m_kept : (Nat → Int32)} {m_lanes : (Nat → Int32)} {m_rowSizes : (Nat → Int32)} {m_items : (Nat → Int64)} {m_moved : (Nat → Int64)} {PP : (Nat → Int32) → (Nat → Int64) → (Nat → Int64) → Prop} (hf : wX0_copy_I (fun r p0 => wX3_copy (fun r' q0 q1 => r = r' ∧ PP p0 q0 q1) m_lanes m_rowSizes m_items m_moved a1 a2 a3 a4 a5) shf hd rn rf a1 a2 a3 a4 a5) (hPD : PD A dC dI ([((h 0), .inr (0, [.ref (h 1), .ref (h 3), .ref (h 9), .ref (h 17), .ref (h 10), .ref (h 11), .int steps, .int draw, .ref (h 12), .int typed, .int at_, .ref (h 5), .ref (h 13), .ref (h 14), .int isImage, .ref (h 7), .ref (h 15), .ref (h 18), .int idraw, .ref (h 19), .ref (h 16)])), ((h 1), .inr (1, [.ref (h 2), .long gro, .int grt])), ((h 2), .inl (dA 0, 36, .inl gd)), ((h 3), .inr (1, [.ref (h 4), .long tro, .int trt])), ((h 4), .inl (dA 0, 36, .inl td)), ((h 5), .inr (1, [.ref (h 6), .long rro, .int rrt])), ((h 6), .inl (dA 0, 36, .inl rd)), ((h 7), .inr (1, [.ref (h 8), .long imro, .int imrt])), ((h 8), .inl (dA 0, 36, .inl imd)), ((h 9), .inl (dA 0, 36, .inl owners)), ((h 10), .inl (dA 1, 8, .inl tour)), ((h 11), .inl (dA 1, 8, .inl best)), ((h 12), .inl (dA 0, 160, .inl tape)), ((h 13), .inl (dA 0, 36, .inl signs)), ((h 14), .inl (dA 0, 320, .inl acts)), ((h 15), .inl (dA 0, 36, .inl iown)), ((h 16), .inl (dA 2, 36, .inr (.inl taken))), ((h 19), .inl (dA 5, 4, .inr (.inr (.inr (.inr shf))))), (hd, .inr (2, [.ref ra])), (ra, .inl (dA 1, rn, .inl rf))] ++ ((wM hm dA m_depths m_owners m_roofs m_rate m_undos m_undoMany m_drawn m_dug m_deep m_holes m_holeMany m_tape m_taped m_place m_reads m_read_ m_row m_order m_bestOrder m_nears m_isKept m_keptRoofs m_kept m_lanes m_rowSizes m_items m_moved) ++ wr)) H) (hS : va_S A s.heap H locs) (hl : lv_has ls 4 [(0, .ref b), (1, .ref (h 0)), (2, .ref (hm 0)), (3, .int ix)]) (hi1 : vp_in (ix + 1) L ∧ xs (ix + 1).toNatClampNeg = a1) (hi2 : vp_in (ix + 2) L ∧ xs (ix + 2).toNatClampNeg = a2) (hi3 : vp_in (ix + 3) L ∧ xs (ix + 3).toNatClampNeg = a3) (hi4 : vp_in (ix + 4) L ∧ xs (ix + 4).toNatClampNeg = a4) (hi5 : vp_in (ix + 5) L ∧ xs (ix + 5).toNatClampNeg = a5) (hroom : kc + 3 ≤ room_1.cells ∧ ks + 500 ≤ room_1.slots)
    (kk : ∀ (u : (Nat → Int32)) (u' : (Nat → Int64) × (Nat → Int64)) (H1 : Heap) (locs1 : List Loc), PP u u'.1 u'.2 → PD A dC dI ([((h 0), .inr (0, [.ref (h 1), .ref (h 3), .ref (h 9), .ref (h 17), .ref (h 10), .ref (h 11), .int steps, .int draw, .ref (h 12), .int typed, .int at_, .ref (h 5), .ref (h 13), .ref (h 14), .int isImage, .ref (h 7), .ref (h 15), .ref (h 18), .int idraw, .ref (h 19), .ref (h 16)])), ((h 1), .inr (1, [.ref (h 2), .long gro, .int grt])), ((h 2), .inl (dA 0, 36, .inl gd)), ((h 3), .inr (1, [.ref (h 4), .long tro, .int trt])), ((h 4), .inl (dA 0, 36, .inl td)), ((h 5), .inr (1, [.ref (h 6), .long rro, .int rrt])), ((h 6), .inl (dA 0, 36, .inl rd)), ((h 7), .inr (1, [.ref (h 8), .long imro, .int imrt])), ((h 8), .inl (dA 0, 36, .inl imd)), ((h 9), .inl (dA 0, 36, .inl owners)), ((h 10), .inl (dA 1, 8, .inl tour)), ((h 11), .inl (dA 1, 8, .inl best)), ((h 12), .inl (dA 0, 160, .inl tape)), ((h 13), .inl (dA 0, 36, .inl signs)), ((h 14), .inl (dA 0, 320, .inl acts)), ((h 15), .inl (dA 0, 36, .inl iown)), ((h 16), .inl (dA 2, 36, .inr (.inl taken))), ((h 19), .inl (dA 5, 4, .inr (.inr (.inr (.inr shf))))), (hd, .inr (2, [.ref ra])), (ra, .inl (dA 1, rn, .inl u))] ++ ((wM hm dA m_depths m_owners m_roofs m_rate m_undos m_undoMany m_drawn m_dug m_deep m_holes m_holeMany m_tape m_taped m_place m_reads m_read_ m_row m_order m_bestOrder m_nears m_isKept m_keptRoofs m_kept m_lanes m_rowSizes u'.1 u'.2) ++ wr)) H1 → va_S A s.heap H1 locs1 → W p l e room_1 s m #[Value.ref b] below meth c H1 locs1 (kc + 3) (ks + 500) Q (F0 m 1349 ls [])) : W p l e room_1 s m #[Value.ref b] below meth c H locs kc ks Q (F0 m 1286 ls []) := by
  obtain ⟨S, hX, hbl, hbA, hK, hE, hA, hfl⟩ := hC
  obtain ⟨hP, hD⟩ := hPD
  refine lv_aload_n S.1 S.2.1 dL_law_1286 rfl (lv_at hl 1 rfl) ?_
  refine lv_aload_n S.1 S.2.1 dL_law_1287 rfl (lv_at hl 0 rfl) ?_
  refine lv_iload_n S.1 S.2.1 dL_law_1288 rfl (lv_at hl 3 rfl) ?_
  refine lv_iconst (v := 1) S.1 S.2.1 dL_law_1289 (by decide) ?_
  refine lv_iadd S.1 S.2.1 dL_law_1290 ?_
  refine sldE S.1 S.2.1 hX hbl hbA hS hi1 dL_law_1291 ?_
  refine lv_aload_n S.1 S.2.1 dL_law_1292 rfl (lv_at hl 0 rfl) ?_
  refine lv_iload_n S.1 S.2.1 dL_law_1293 rfl (lv_at hl 3 rfl) ?_
  refine lv_iconst (v := 2) S.1 S.2.1 dL_law_1294 (by decide) ?_
  refine lv_iadd S.1 S.2.1 dL_law_1295 ?_
  refine sldE S.1 S.2.1 hX hbl hbA hS hi2 dL_law_1296 ?_
  refine lv_aload_n S.1 S.2.1 dL_law_1297 rfl (lv_at hl 0 rfl) ?_
  refine lv_iload_n S.1 S.2.1 dL_law_1298 rfl (lv_at hl 3 rfl) ?_
  refine lv_iconst (v := 3) S.1 S.2.1 dL_law_1299 (by decide) ?_
  refine lv_iadd S.1 S.2.1 dL_law_1300 ?_
  refine sldE S.1 S.2.1 hX hbl hbA hS hi3 dL_law_1301 ?_
  refine lv_aload_n S.1 S.2.1 dL_law_1302 rfl (lv_at hl 0 rfl) ?_
  refine lv_iload_n S.1 S.2.1 dL_law_1303 rfl (lv_at hl 3 rfl) ?_
  refine lv_iconst (v := 4) S.1 S.2.1 dL_law_1304 (by decide) ?_
  refine lv_iadd S.1 S.2.1 dL_law_1305 ?_
  refine sldE S.1 S.2.1 hX hbl hbA hS hi4 dL_law_1306 ?_
  refine lv_aload_n S.1 S.2.1 dL_law_1307 rfl (lv_at hl 0 rfl) ?_
  refine lv_iload_n S.1 S.2.1 dL_law_1308 rfl (lv_at hl 3 rfl) ?_
  refine lv_iconst (v := 5) S.1 S.2.1 dL_law_1309 (by decide) ?_
  refine lv_iadd S.1 S.2.1 dL_law_1310 ?_
  refine sldE S.1 S.2.1 hX hbl hbA hS hi5 dL_law_1311 ?_
  refine sC_i hP hD hS hA (va_runVW (As := [.int a1, .int a2, .int a3, .int a4, .int a5]) (rest := []) S (metX0_copy_I l hfl hf) (cwVW 5 S.2.2.2.2 q1049 q1050 q1051 q54 q1052 pdX0_copy ⟨Nat.le_of_ble_eq_true rfl, Nat.le_of_ble_eq_true rfl⟩) ⟨ablind, va_recv hK hP (ci := 0) (q0 := 0) rfl rfl, (spre hK hE hP hD hS hA).2⟩ rfl rfl hl.1 rfl (lv_room (Nat.le_of_ble_eq_true rfl)) dL_law_1312 hroom) (fun r u H locs hf hP hD hS => ?_)
  have hP := hP.perm permM
  have hD := hD.perm permM
  refine lv_aload_n S.1 S.2.1 dL_law_1315 rfl (lv_at hl 2 rfl) ?_
  refine lv_aload_n S.1 S.2.1 dL_law_1316 rfl (lv_at hl 0 rfl) ?_
  refine lv_iload_n S.1 S.2.1 dL_law_1317 rfl (lv_at hl 3 rfl) ?_
  refine lv_iconst (v := 1) S.1 S.2.1 dL_law_1318 (by decide) ?_
  refine lv_iadd S.1 S.2.1 dL_law_1319 ?_
  refine sldE S.1 S.2.1 hX hbl hbA hS hi1 dL_law_1320 ?_
  refine lv_aload_n S.1 S.2.1 dL_law_1321 rfl (lv_at hl 0 rfl) ?_
  refine lv_iload_n S.1 S.2.1 dL_law_1322 rfl (lv_at hl 3 rfl) ?_
  refine lv_iconst (v := 2) S.1 S.2.1 dL_law_1323 (by decide) ?_
  refine lv_iadd S.1 S.2.1 dL_law_1324 ?_
  refine sldE S.1 S.2.1 hX hbl hbA hS hi2 dL_law_1325 ?_
  refine lv_aload_n S.1 S.2.1 dL_law_1326 rfl (lv_at hl 0 rfl) ?_
  refine lv_iload_n S.1 S.2.1 dL_law_1327 rfl (lv_at hl 3 rfl) ?_
  refine lv_iconst (v := 3) S.1 S.2.1 dL_law_1328 (by decide) ?_
  refine lv_iadd S.1 S.2.1 dL_law_1329 ?_
  refine sldE S.1 S.2.1 hX hbl hbA hS hi3 dL_law_1330 ?_
  refine lv_aload_n S.1 S.2.1 dL_law_1331 rfl (lv_at hl 0 rfl) ?_
  refine lv_iload_n S.1 S.2.1 dL_law_1332 rfl (lv_at hl 3 rfl) ?_
  refine lv_iconst (v := 4) S.1 S.2.1 dL_law_1333 (by decide) ?_
  refine lv_iadd S.1 S.2.1 dL_law_1334 ?_
  refine sldE S.1 S.2.1 hX hbl hbA hS hi4 dL_law_1335 ?_
  refine lv_aload_n S.1 S.2.1 dL_law_1336 rfl (lv_at hl 0 rfl) ?_
  refine lv_iload_n S.1 S.2.1 dL_law_1337 rfl (lv_at hl 3 rfl) ?_
  refine lv_iconst (v := 5) S.1 S.2.1 dL_law_1338 (by decide) ?_
  refine lv_iadd S.1 S.2.1 dL_law_1339 ?_
  refine sldE S.1 S.2.1 hX hbl hbA hS hi5 dL_law_1340 ?_
  refine sM_i (As := [.int a1, .int a2, .int a3, .int a4, .int a5]) (rest := [.int r]) S hK rfl rfl (fun _ => rfl) hP hD hS (metX3_copy l hj hf) (lw_V q1598 q1599 q1600 q60 q1601) rfl pdX3_copy ⟨rfl, rfl⟩ ⟨Nat.le_of_ble_eq_true rfl, Nat.le_of_ble_eq_true rfl⟩ rfl hl.1 rfl (Nat.le_of_ble_eq_true rfl) dL_law_1341 hroom (fun r' u' H locs hf hP hD hS => ?_)
  obtain ⟨e1, hf⟩ := hf
  refine lv_icmp_eq (tgt := 1349) S.1 S.2.1 dL_law_1344 (by decide) (fun c_1 => ?_) (fun c_1 => ?_)
  · exact kk u u' H locs hf ⟨hP.perm permN, hD.perm permN⟩ hS
  · exact absurd e1 c_1
set_option maxHeartbeats 4000000 in
set_option maxRecDepth 100000 in
theorem lo_copy_J (hC : LC p l s m c b L xs A dC dI dA eA mi) (hj : mJ hm) {steps : Int32} {draw : Int32} {typed : Int32} {at_ : Int32} {isImage : Int32} {idraw : Int32} {gd : (Nat → Int32)} {gro : Int64} {grt : Int32} {td : (Nat → Int32)} {tro : Int64} {trt : Int32} {rd : (Nat → Int32)} {rro : Int64} {rrt : Int32} {imd : (Nat → Int32)} {imro : Int64} {imrt : Int32} {owners : (Nat → Int32)} {tour : (Nat → Int32)} {best : (Nat → Int32)} {tape : (Nat → Int32)} {signs : (Nat → Int32)} {acts : (Nat → Int32)} {iown : (Nat → Int32)} {taken : (Nat → Int64)} {shf : (Nat → Option Nat)} {hd : Nat} {rn : Nat} {rf : (Nat → Int64)} {ra : Nat} {m_depths : (Nat → Int32)} {m_owners : (Nat → Int32)} {m_roofs : Int64} {m_rate : Int32} {m_undos : (Nat → Int32)} {m_undoMany : Int32} {m_drawn : Int32} {m_dug : Int64} {m_deep : Int64} {m_holes : (Nat → Int64)} {m_holeMany : Int32} {m_tape : (Nat → Int32)} {m_taped : Int32} {m_place : Int32} {m_reads : Int32} {m_read_ : (Nat → Int32)} {m_row : (Nat → Int32)} {m_order : (Nat → Int32)} {m_bestOrder : (Nat → Int32)} {m_nears : (Nat → Int32)} {m_isKept : Int32} {m_keptRoofs : Int64} {m_kept : (Nat → Int32)} {m_lanes : (Nat → Int32)} {m_rowSizes : (Nat → Int32)} {m_items : (Nat → Int64)} {m_moved : (Nat → Int64)} {PP : (Nat → Int64) → (Nat → Int64) → (Nat → Int64) → Prop} (hf : wX0_copy_J (fun r p0 => wX3_copy (fun r' q0 q1 => r = r' ∧ PP p0 q0 q1) m_lanes m_rowSizes m_items m_moved a1 a2 a3 a4 a5) shf hd rn rf a1 a2 a3 a4 a5) (hPD : PD A dC dI ([((h 0), .inr (0, [.ref (h 1), .ref (h 3), .ref (h 9), .ref (h 17), .ref (h 10), .ref (h 11), .int steps, .int draw, .ref (h 12), .int typed, .int at_, .ref (h 5), .ref (h 13), .ref (h 14), .int isImage, .ref (h 7), .ref (h 15), .ref (h 18), .int idraw, .ref (h 19), .ref (h 16)])), ((h 1), .inr (1, [.ref (h 2), .long gro, .int grt])), ((h 2), .inl (dA 0, 36, .inl gd)), ((h 3), .inr (1, [.ref (h 4), .long tro, .int trt])), ((h 4), .inl (dA 0, 36, .inl td)), ((h 5), .inr (1, [.ref (h 6), .long rro, .int rrt])), ((h 6), .inl (dA 0, 36, .inl rd)), ((h 7), .inr (1, [.ref (h 8), .long imro, .int imrt])), ((h 8), .inl (dA 0, 36, .inl imd)), ((h 9), .inl (dA 0, 36, .inl owners)), ((h 10), .inl (dA 1, 8, .inl tour)), ((h 11), .inl (dA 1, 8, .inl best)), ((h 12), .inl (dA 0, 160, .inl tape)), ((h 13), .inl (dA 0, 36, .inl signs)), ((h 14), .inl (dA 0, 320, .inl acts)), ((h 15), .inl (dA 0, 36, .inl iown)), ((h 16), .inl (dA 2, 36, .inr (.inl taken))), ((h 19), .inl (dA 5, 4, .inr (.inr (.inr (.inr shf))))), (hd, .inr (2, [.ref ra])), (ra, .inl (dA 2, rn, .inr (.inl rf)))] ++ ((wM hm dA m_depths m_owners m_roofs m_rate m_undos m_undoMany m_drawn m_dug m_deep m_holes m_holeMany m_tape m_taped m_place m_reads m_read_ m_row m_order m_bestOrder m_nears m_isKept m_keptRoofs m_kept m_lanes m_rowSizes m_items m_moved) ++ wr)) H) (hS : va_S A s.heap H locs) (hl : lv_has ls 4 [(0, .ref b), (1, .ref (h 0)), (2, .ref (hm 0)), (3, .int ix)]) (hi1 : vp_in (ix + 1) L ∧ xs (ix + 1).toNatClampNeg = a1) (hi2 : vp_in (ix + 2) L ∧ xs (ix + 2).toNatClampNeg = a2) (hi3 : vp_in (ix + 3) L ∧ xs (ix + 3).toNatClampNeg = a3) (hi4 : vp_in (ix + 4) L ∧ xs (ix + 4).toNatClampNeg = a4) (hi5 : vp_in (ix + 5) L ∧ xs (ix + 5).toNatClampNeg = a5) (hroom : kc + 3 ≤ room_1.cells ∧ ks + 500 ≤ room_1.slots)
    (kk : ∀ (u : (Nat → Int64)) (u' : (Nat → Int64) × (Nat → Int64)) (H1 : Heap) (locs1 : List Loc), PP u u'.1 u'.2 → PD A dC dI ([((h 0), .inr (0, [.ref (h 1), .ref (h 3), .ref (h 9), .ref (h 17), .ref (h 10), .ref (h 11), .int steps, .int draw, .ref (h 12), .int typed, .int at_, .ref (h 5), .ref (h 13), .ref (h 14), .int isImage, .ref (h 7), .ref (h 15), .ref (h 18), .int idraw, .ref (h 19), .ref (h 16)])), ((h 1), .inr (1, [.ref (h 2), .long gro, .int grt])), ((h 2), .inl (dA 0, 36, .inl gd)), ((h 3), .inr (1, [.ref (h 4), .long tro, .int trt])), ((h 4), .inl (dA 0, 36, .inl td)), ((h 5), .inr (1, [.ref (h 6), .long rro, .int rrt])), ((h 6), .inl (dA 0, 36, .inl rd)), ((h 7), .inr (1, [.ref (h 8), .long imro, .int imrt])), ((h 8), .inl (dA 0, 36, .inl imd)), ((h 9), .inl (dA 0, 36, .inl owners)), ((h 10), .inl (dA 1, 8, .inl tour)), ((h 11), .inl (dA 1, 8, .inl best)), ((h 12), .inl (dA 0, 160, .inl tape)), ((h 13), .inl (dA 0, 36, .inl signs)), ((h 14), .inl (dA 0, 320, .inl acts)), ((h 15), .inl (dA 0, 36, .inl iown)), ((h 16), .inl (dA 2, 36, .inr (.inl taken))), ((h 19), .inl (dA 5, 4, .inr (.inr (.inr (.inr shf))))), (hd, .inr (2, [.ref ra])), (ra, .inl (dA 2, rn, .inr (.inl u)))] ++ ((wM hm dA m_depths m_owners m_roofs m_rate m_undos m_undoMany m_drawn m_dug m_deep m_holes m_holeMany m_tape m_taped m_place m_reads m_read_ m_row m_order m_bestOrder m_nears m_isKept m_keptRoofs m_kept m_lanes m_rowSizes u'.1 u'.2) ++ wr)) H1 → va_S A s.heap H1 locs1 → W p l e room_1 s m #[Value.ref b] below meth c H1 locs1 (kc + 3) (ks + 500) Q (F0 m 1349 ls [])) : W p l e room_1 s m #[Value.ref b] below meth c H locs kc ks Q (F0 m 1286 ls []) := by
  obtain ⟨S, hX, hbl, hbA, hK, hE, hA, hfl⟩ := hC
  obtain ⟨hP, hD⟩ := hPD
  refine lv_aload_n S.1 S.2.1 dL_law_1286 rfl (lv_at hl 1 rfl) ?_
  refine lv_aload_n S.1 S.2.1 dL_law_1287 rfl (lv_at hl 0 rfl) ?_
  refine lv_iload_n S.1 S.2.1 dL_law_1288 rfl (lv_at hl 3 rfl) ?_
  refine lv_iconst (v := 1) S.1 S.2.1 dL_law_1289 (by decide) ?_
  refine lv_iadd S.1 S.2.1 dL_law_1290 ?_
  refine sldE S.1 S.2.1 hX hbl hbA hS hi1 dL_law_1291 ?_
  refine lv_aload_n S.1 S.2.1 dL_law_1292 rfl (lv_at hl 0 rfl) ?_
  refine lv_iload_n S.1 S.2.1 dL_law_1293 rfl (lv_at hl 3 rfl) ?_
  refine lv_iconst (v := 2) S.1 S.2.1 dL_law_1294 (by decide) ?_
  refine lv_iadd S.1 S.2.1 dL_law_1295 ?_
  refine sldE S.1 S.2.1 hX hbl hbA hS hi2 dL_law_1296 ?_
  refine lv_aload_n S.1 S.2.1 dL_law_1297 rfl (lv_at hl 0 rfl) ?_
  refine lv_iload_n S.1 S.2.1 dL_law_1298 rfl (lv_at hl 3 rfl) ?_
  refine lv_iconst (v := 3) S.1 S.2.1 dL_law_1299 (by decide) ?_
  refine lv_iadd S.1 S.2.1 dL_law_1300 ?_
  refine sldE S.1 S.2.1 hX hbl hbA hS hi3 dL_law_1301 ?_
  refine lv_aload_n S.1 S.2.1 dL_law_1302 rfl (lv_at hl 0 rfl) ?_
  refine lv_iload_n S.1 S.2.1 dL_law_1303 rfl (lv_at hl 3 rfl) ?_
  refine lv_iconst (v := 4) S.1 S.2.1 dL_law_1304 (by decide) ?_
  refine lv_iadd S.1 S.2.1 dL_law_1305 ?_
  refine sldE S.1 S.2.1 hX hbl hbA hS hi4 dL_law_1306 ?_
  refine lv_aload_n S.1 S.2.1 dL_law_1307 rfl (lv_at hl 0 rfl) ?_
  refine lv_iload_n S.1 S.2.1 dL_law_1308 rfl (lv_at hl 3 rfl) ?_
  refine lv_iconst (v := 5) S.1 S.2.1 dL_law_1309 (by decide) ?_
  refine lv_iadd S.1 S.2.1 dL_law_1310 ?_
  refine sldE S.1 S.2.1 hX hbl hbA hS hi5 dL_law_1311 ?_
  refine sC_i hP hD hS hA (va_runVW (As := [.int a1, .int a2, .int a3, .int a4, .int a5]) (rest := []) S (metX0_copy_J l hfl hf) (cwVW 5 S.2.2.2.2 q1049 q1050 q1051 q54 q1052 pdX0_copy ⟨Nat.le_of_ble_eq_true rfl, Nat.le_of_ble_eq_true rfl⟩) ⟨ablind, va_recv hK hP (ci := 0) (q0 := 0) rfl rfl, (spre hK hE hP hD hS hA).2⟩ rfl rfl hl.1 rfl (lv_room (Nat.le_of_ble_eq_true rfl)) dL_law_1312 hroom) (fun r u H locs hf hP hD hS => ?_)
  have hP := hP.perm permM
  have hD := hD.perm permM
  refine lv_aload_n S.1 S.2.1 dL_law_1315 rfl (lv_at hl 2 rfl) ?_
  refine lv_aload_n S.1 S.2.1 dL_law_1316 rfl (lv_at hl 0 rfl) ?_
  refine lv_iload_n S.1 S.2.1 dL_law_1317 rfl (lv_at hl 3 rfl) ?_
  refine lv_iconst (v := 1) S.1 S.2.1 dL_law_1318 (by decide) ?_
  refine lv_iadd S.1 S.2.1 dL_law_1319 ?_
  refine sldE S.1 S.2.1 hX hbl hbA hS hi1 dL_law_1320 ?_
  refine lv_aload_n S.1 S.2.1 dL_law_1321 rfl (lv_at hl 0 rfl) ?_
  refine lv_iload_n S.1 S.2.1 dL_law_1322 rfl (lv_at hl 3 rfl) ?_
  refine lv_iconst (v := 2) S.1 S.2.1 dL_law_1323 (by decide) ?_
  refine lv_iadd S.1 S.2.1 dL_law_1324 ?_
  refine sldE S.1 S.2.1 hX hbl hbA hS hi2 dL_law_1325 ?_
  refine lv_aload_n S.1 S.2.1 dL_law_1326 rfl (lv_at hl 0 rfl) ?_
  refine lv_iload_n S.1 S.2.1 dL_law_1327 rfl (lv_at hl 3 rfl) ?_
  refine lv_iconst (v := 3) S.1 S.2.1 dL_law_1328 (by decide) ?_
  refine lv_iadd S.1 S.2.1 dL_law_1329 ?_
  refine sldE S.1 S.2.1 hX hbl hbA hS hi3 dL_law_1330 ?_
  refine lv_aload_n S.1 S.2.1 dL_law_1331 rfl (lv_at hl 0 rfl) ?_
  refine lv_iload_n S.1 S.2.1 dL_law_1332 rfl (lv_at hl 3 rfl) ?_
  refine lv_iconst (v := 4) S.1 S.2.1 dL_law_1333 (by decide) ?_
  refine lv_iadd S.1 S.2.1 dL_law_1334 ?_
  refine sldE S.1 S.2.1 hX hbl hbA hS hi4 dL_law_1335 ?_
  refine lv_aload_n S.1 S.2.1 dL_law_1336 rfl (lv_at hl 0 rfl) ?_
  refine lv_iload_n S.1 S.2.1 dL_law_1337 rfl (lv_at hl 3 rfl) ?_
  refine lv_iconst (v := 5) S.1 S.2.1 dL_law_1338 (by decide) ?_
  refine lv_iadd S.1 S.2.1 dL_law_1339 ?_
  refine sldE S.1 S.2.1 hX hbl hbA hS hi5 dL_law_1340 ?_
  refine sM_i (As := [.int a1, .int a2, .int a3, .int a4, .int a5]) (rest := [.int r]) S hK rfl rfl (fun _ => rfl) hP hD hS (metX3_copy l hj hf) (lw_V q1598 q1599 q1600 q60 q1601) rfl pdX3_copy ⟨rfl, rfl⟩ ⟨Nat.le_of_ble_eq_true rfl, Nat.le_of_ble_eq_true rfl⟩ rfl hl.1 rfl (Nat.le_of_ble_eq_true rfl) dL_law_1341 hroom (fun r' u' H locs hf hP hD hS => ?_)
  obtain ⟨e1, hf⟩ := hf
  refine lv_icmp_eq (tgt := 1349) S.1 S.2.1 dL_law_1344 (by decide) (fun c_1 => ?_) (fun c_1 => ?_)
  · exact kk u u' H locs hf ⟨hP.perm permN, hD.perm permN⟩ hS
  · exact absurd e1 c_1
set_option maxHeartbeats 4000000 in
set_option maxRecDepth 100000 in
theorem lo_copy_NN (hC : LC p l s m c b L xs A dC dI dA eA mi) (hj : mJ hm) {steps : Int32} {draw : Int32} {typed : Int32} {at_ : Int32} {isImage : Int32} {idraw : Int32} {gd : (Nat → Int32)} {gro : Int64} {grt : Int32} {td : (Nat → Int32)} {tro : Int64} {trt : Int32} {rd : (Nat → Int32)} {rro : Int64} {rrt : Int32} {imd : (Nat → Int32)} {imro : Int64} {imrt : Int32} {owners : (Nat → Int32)} {tour : (Nat → Int32)} {best : (Nat → Int32)} {tape : (Nat → Int32)} {signs : (Nat → Int32)} {acts : (Nat → Int32)} {iown : (Nat → Int32)} {taken : (Nat → Int64)} {shf : (Nat → Option Nat)} {hd : Nat} {hd2 : Nat} {m_depths : (Nat → Int32)} {m_owners : (Nat → Int32)} {m_roofs : Int64} {m_rate : Int32} {m_undos : (Nat → Int32)} {m_undoMany : Int32} {m_drawn : Int32} {m_dug : Int64} {m_deep : Int64} {m_holes : (Nat → Int64)} {m_holeMany : Int32} {m_tape : (Nat → Int32)} {m_taped : Int32} {m_place : Int32} {m_reads : Int32} {m_read_ : (Nat → Int32)} {m_row : (Nat → Int32)} {m_order : (Nat → Int32)} {m_bestOrder : (Nat → Int32)} {m_nears : (Nat → Int32)} {m_isKept : Int32} {m_keptRoofs : Int64} {m_kept : (Nat → Int32)} {m_lanes : (Nat → Int32)} {m_rowSizes : (Nat → Int32)} {m_items : (Nat → Int64)} {m_moved : (Nat → Int64)} {PP : (Nat → Int64) → (Nat → Int64) → Prop} (hf : wX0_copy_NN (fun r => wX3_copy (fun r' q0 q1 => r = r' ∧ PP q0 q1) m_lanes m_rowSizes m_items m_moved a1 a2 a3 a4 a5) shf hd hd2 a1 a2 a3 a4 a5) (hPD : PD A dC dI ([((h 0), .inr (0, [.ref (h 1), .ref (h 3), .ref (h 9), .ref (h 17), .ref (h 10), .ref (h 11), .int steps, .int draw, .ref (h 12), .int typed, .int at_, .ref (h 5), .ref (h 13), .ref (h 14), .int isImage, .ref (h 7), .ref (h 15), .ref (h 18), .int idraw, .ref (h 19), .ref (h 16)])), ((h 1), .inr (1, [.ref (h 2), .long gro, .int grt])), ((h 2), .inl (dA 0, 36, .inl gd)), ((h 3), .inr (1, [.ref (h 4), .long tro, .int trt])), ((h 4), .inl (dA 0, 36, .inl td)), ((h 5), .inr (1, [.ref (h 6), .long rro, .int rrt])), ((h 6), .inl (dA 0, 36, .inl rd)), ((h 7), .inr (1, [.ref (h 8), .long imro, .int imrt])), ((h 8), .inl (dA 0, 36, .inl imd)), ((h 9), .inl (dA 0, 36, .inl owners)), ((h 10), .inl (dA 1, 8, .inl tour)), ((h 11), .inl (dA 1, 8, .inl best)), ((h 12), .inl (dA 0, 160, .inl tape)), ((h 13), .inl (dA 0, 36, .inl signs)), ((h 14), .inl (dA 0, 320, .inl acts)), ((h 15), .inl (dA 0, 36, .inl iown)), ((h 16), .inl (dA 2, 36, .inr (.inl taken))), ((h 19), .inl (dA 5, 4, .inr (.inr (.inr (.inr shf))))), (hd, .inr (2, [.null])), (hd2, .inr (2, [.null]))] ++ ((wM hm dA m_depths m_owners m_roofs m_rate m_undos m_undoMany m_drawn m_dug m_deep m_holes m_holeMany m_tape m_taped m_place m_reads m_read_ m_row m_order m_bestOrder m_nears m_isKept m_keptRoofs m_kept m_lanes m_rowSizes m_items m_moved) ++ wr)) H) (hS : va_S A s.heap H locs) (hl : lv_has ls 4 [(0, .ref b), (1, .ref (h 0)), (2, .ref (hm 0)), (3, .int ix)]) (hi1 : vp_in (ix + 1) L ∧ xs (ix + 1).toNatClampNeg = a1) (hi2 : vp_in (ix + 2) L ∧ xs (ix + 2).toNatClampNeg = a2) (hi3 : vp_in (ix + 3) L ∧ xs (ix + 3).toNatClampNeg = a3) (hi4 : vp_in (ix + 4) L ∧ xs (ix + 4).toNatClampNeg = a4) (hi5 : vp_in (ix + 5) L ∧ xs (ix + 5).toNatClampNeg = a5) (hroom : kc + 3 ≤ room_1.cells ∧ ks + 500 ≤ room_1.slots)
    (kk : ∀ (u : Unit) (u' : (Nat → Int64) × (Nat → Int64)) (H1 : Heap) (locs1 : List Loc), PP u'.1 u'.2 → PD A dC dI ([((h 0), .inr (0, [.ref (h 1), .ref (h 3), .ref (h 9), .ref (h 17), .ref (h 10), .ref (h 11), .int steps, .int draw, .ref (h 12), .int typed, .int at_, .ref (h 5), .ref (h 13), .ref (h 14), .int isImage, .ref (h 7), .ref (h 15), .ref (h 18), .int idraw, .ref (h 19), .ref (h 16)])), ((h 1), .inr (1, [.ref (h 2), .long gro, .int grt])), ((h 2), .inl (dA 0, 36, .inl gd)), ((h 3), .inr (1, [.ref (h 4), .long tro, .int trt])), ((h 4), .inl (dA 0, 36, .inl td)), ((h 5), .inr (1, [.ref (h 6), .long rro, .int rrt])), ((h 6), .inl (dA 0, 36, .inl rd)), ((h 7), .inr (1, [.ref (h 8), .long imro, .int imrt])), ((h 8), .inl (dA 0, 36, .inl imd)), ((h 9), .inl (dA 0, 36, .inl owners)), ((h 10), .inl (dA 1, 8, .inl tour)), ((h 11), .inl (dA 1, 8, .inl best)), ((h 12), .inl (dA 0, 160, .inl tape)), ((h 13), .inl (dA 0, 36, .inl signs)), ((h 14), .inl (dA 0, 320, .inl acts)), ((h 15), .inl (dA 0, 36, .inl iown)), ((h 16), .inl (dA 2, 36, .inr (.inl taken))), ((h 19), .inl (dA 5, 4, .inr (.inr (.inr (.inr shf))))), (hd, .inr (2, [.null])), (hd2, .inr (2, [.null]))] ++ ((wM hm dA m_depths m_owners m_roofs m_rate m_undos m_undoMany m_drawn m_dug m_deep m_holes m_holeMany m_tape m_taped m_place m_reads m_read_ m_row m_order m_bestOrder m_nears m_isKept m_keptRoofs m_kept m_lanes m_rowSizes u'.1 u'.2) ++ wr)) H1 → va_S A s.heap H1 locs1 → W p l e room_1 s m #[Value.ref b] below meth c H1 locs1 (kc + 3) (ks + 500) Q (F0 m 1349 ls [])) : W p l e room_1 s m #[Value.ref b] below meth c H locs kc ks Q (F0 m 1286 ls []) := by
  obtain ⟨S, hX, hbl, hbA, hK, hE, hA, hfl⟩ := hC
  obtain ⟨hP, hD⟩ := hPD
  refine lv_aload_n S.1 S.2.1 dL_law_1286 rfl (lv_at hl 1 rfl) ?_
  refine lv_aload_n S.1 S.2.1 dL_law_1287 rfl (lv_at hl 0 rfl) ?_
  refine lv_iload_n S.1 S.2.1 dL_law_1288 rfl (lv_at hl 3 rfl) ?_
  refine lv_iconst (v := 1) S.1 S.2.1 dL_law_1289 (by decide) ?_
  refine lv_iadd S.1 S.2.1 dL_law_1290 ?_
  refine sldE S.1 S.2.1 hX hbl hbA hS hi1 dL_law_1291 ?_
  refine lv_aload_n S.1 S.2.1 dL_law_1292 rfl (lv_at hl 0 rfl) ?_
  refine lv_iload_n S.1 S.2.1 dL_law_1293 rfl (lv_at hl 3 rfl) ?_
  refine lv_iconst (v := 2) S.1 S.2.1 dL_law_1294 (by decide) ?_
  refine lv_iadd S.1 S.2.1 dL_law_1295 ?_
  refine sldE S.1 S.2.1 hX hbl hbA hS hi2 dL_law_1296 ?_
  refine lv_aload_n S.1 S.2.1 dL_law_1297 rfl (lv_at hl 0 rfl) ?_
  refine lv_iload_n S.1 S.2.1 dL_law_1298 rfl (lv_at hl 3 rfl) ?_
  refine lv_iconst (v := 3) S.1 S.2.1 dL_law_1299 (by decide) ?_
  refine lv_iadd S.1 S.2.1 dL_law_1300 ?_
  refine sldE S.1 S.2.1 hX hbl hbA hS hi3 dL_law_1301 ?_
  refine lv_aload_n S.1 S.2.1 dL_law_1302 rfl (lv_at hl 0 rfl) ?_
  refine lv_iload_n S.1 S.2.1 dL_law_1303 rfl (lv_at hl 3 rfl) ?_
  refine lv_iconst (v := 4) S.1 S.2.1 dL_law_1304 (by decide) ?_
  refine lv_iadd S.1 S.2.1 dL_law_1305 ?_
  refine sldE S.1 S.2.1 hX hbl hbA hS hi4 dL_law_1306 ?_
  refine lv_aload_n S.1 S.2.1 dL_law_1307 rfl (lv_at hl 0 rfl) ?_
  refine lv_iload_n S.1 S.2.1 dL_law_1308 rfl (lv_at hl 3 rfl) ?_
  refine lv_iconst (v := 5) S.1 S.2.1 dL_law_1309 (by decide) ?_
  refine lv_iadd S.1 S.2.1 dL_law_1310 ?_
  refine sldE S.1 S.2.1 hX hbl hbA hS hi5 dL_law_1311 ?_
  refine sC_i hP hD hS hA (va_runVW (As := [.int a1, .int a2, .int a3, .int a4, .int a5]) (rest := []) S (metX0_copy_NN l hfl hf) (cwVW 5 S.2.2.2.2 q1049 q1050 q1051 q54 q1052 pdX0_copy ⟨Nat.le_of_ble_eq_true rfl, Nat.le_of_ble_eq_true rfl⟩) ⟨ablind, va_recv hK hP (ci := 0) (q0 := 0) rfl rfl, (spre hK hE hP hD hS hA).2⟩ rfl rfl hl.1 rfl (lv_room (Nat.le_of_ble_eq_true rfl)) dL_law_1312 hroom) (fun r u H locs hf hP hD hS => ?_)
  have hP := hP.perm permM
  have hD := hD.perm permM
  refine lv_aload_n S.1 S.2.1 dL_law_1315 rfl (lv_at hl 2 rfl) ?_
  refine lv_aload_n S.1 S.2.1 dL_law_1316 rfl (lv_at hl 0 rfl) ?_
  refine lv_iload_n S.1 S.2.1 dL_law_1317 rfl (lv_at hl 3 rfl) ?_
  refine lv_iconst (v := 1) S.1 S.2.1 dL_law_1318 (by decide) ?_
  refine lv_iadd S.1 S.2.1 dL_law_1319 ?_
  refine sldE S.1 S.2.1 hX hbl hbA hS hi1 dL_law_1320 ?_
  refine lv_aload_n S.1 S.2.1 dL_law_1321 rfl (lv_at hl 0 rfl) ?_
  refine lv_iload_n S.1 S.2.1 dL_law_1322 rfl (lv_at hl 3 rfl) ?_
  refine lv_iconst (v := 2) S.1 S.2.1 dL_law_1323 (by decide) ?_
  refine lv_iadd S.1 S.2.1 dL_law_1324 ?_
  refine sldE S.1 S.2.1 hX hbl hbA hS hi2 dL_law_1325 ?_
  refine lv_aload_n S.1 S.2.1 dL_law_1326 rfl (lv_at hl 0 rfl) ?_
  refine lv_iload_n S.1 S.2.1 dL_law_1327 rfl (lv_at hl 3 rfl) ?_
  refine lv_iconst (v := 3) S.1 S.2.1 dL_law_1328 (by decide) ?_
  refine lv_iadd S.1 S.2.1 dL_law_1329 ?_
  refine sldE S.1 S.2.1 hX hbl hbA hS hi3 dL_law_1330 ?_
  refine lv_aload_n S.1 S.2.1 dL_law_1331 rfl (lv_at hl 0 rfl) ?_
  refine lv_iload_n S.1 S.2.1 dL_law_1332 rfl (lv_at hl 3 rfl) ?_
  refine lv_iconst (v := 4) S.1 S.2.1 dL_law_1333 (by decide) ?_
  refine lv_iadd S.1 S.2.1 dL_law_1334 ?_
  refine sldE S.1 S.2.1 hX hbl hbA hS hi4 dL_law_1335 ?_
  refine lv_aload_n S.1 S.2.1 dL_law_1336 rfl (lv_at hl 0 rfl) ?_
  refine lv_iload_n S.1 S.2.1 dL_law_1337 rfl (lv_at hl 3 rfl) ?_
  refine lv_iconst (v := 5) S.1 S.2.1 dL_law_1338 (by decide) ?_
  refine lv_iadd S.1 S.2.1 dL_law_1339 ?_
  refine sldE S.1 S.2.1 hX hbl hbA hS hi5 dL_law_1340 ?_
  refine sM_i (As := [.int a1, .int a2, .int a3, .int a4, .int a5]) (rest := [.int r]) S hK rfl rfl (fun _ => rfl) hP hD hS (metX3_copy l hj hf) (lw_V q1598 q1599 q1600 q60 q1601) rfl pdX3_copy ⟨rfl, rfl⟩ ⟨Nat.le_of_ble_eq_true rfl, Nat.le_of_ble_eq_true rfl⟩ rfl hl.1 rfl (Nat.le_of_ble_eq_true rfl) dL_law_1341 hroom (fun r' u' H locs hf hP hD hS => ?_)
  obtain ⟨e1, hf⟩ := hf
  refine lv_icmp_eq (tgt := 1349) S.1 S.2.1 dL_law_1344 (by decide) (fun c_1 => ?_) (fun c_1 => ?_)
  · exact kk u u' H locs hf ⟨hP.perm permN, hD.perm permN⟩ hS
  · exact absurd e1 c_1
set_option maxHeartbeats 4000000 in
set_option maxRecDepth 100000 in
theorem lo_copy_NB (hC : LC p l s m c b L xs A dC dI dA eA mi) (hj : mJ hm) {steps : Int32} {draw : Int32} {typed : Int32} {at_ : Int32} {isImage : Int32} {idraw : Int32} {gd : (Nat → Int32)} {gro : Int64} {grt : Int32} {td : (Nat → Int32)} {tro : Int64} {trt : Int32} {rd : (Nat → Int32)} {rro : Int64} {rrt : Int32} {imd : (Nat → Int32)} {imro : Int64} {imrt : Int32} {owners : (Nat → Int32)} {tour : (Nat → Int32)} {best : (Nat → Int32)} {tape : (Nat → Int32)} {signs : (Nat → Int32)} {acts : (Nat → Int32)} {iown : (Nat → Int32)} {taken : (Nat → Int64)} {shf : (Nat → Option Nat)} {hd : Nat} {hd2 : Nat} {rn2 : Nat} {rf2 : (Nat → Int32)} {ra2 : Nat} {m_depths : (Nat → Int32)} {m_owners : (Nat → Int32)} {m_roofs : Int64} {m_rate : Int32} {m_undos : (Nat → Int32)} {m_undoMany : Int32} {m_drawn : Int32} {m_dug : Int64} {m_deep : Int64} {m_holes : (Nat → Int64)} {m_holeMany : Int32} {m_tape : (Nat → Int32)} {m_taped : Int32} {m_place : Int32} {m_reads : Int32} {m_read_ : (Nat → Int32)} {m_row : (Nat → Int32)} {m_order : (Nat → Int32)} {m_bestOrder : (Nat → Int32)} {m_nears : (Nat → Int32)} {m_isKept : Int32} {m_keptRoofs : Int64} {m_kept : (Nat → Int32)} {m_lanes : (Nat → Int32)} {m_rowSizes : (Nat → Int32)} {m_items : (Nat → Int64)} {m_moved : (Nat → Int64)} {PP : (Nat → Int64) → (Nat → Int64) → Prop} (hf : wX0_copy_NB (fun r => wX3_copy (fun r' q0 q1 => r = r' ∧ PP q0 q1) m_lanes m_rowSizes m_items m_moved a1 a2 a3 a4 a5) shf hd hd2 a1 a2 a3 a4 a5) (hPD : PD A dC dI ([((h 0), .inr (0, [.ref (h 1), .ref (h 3), .ref (h 9), .ref (h 17), .ref (h 10), .ref (h 11), .int steps, .int draw, .ref (h 12), .int typed, .int at_, .ref (h 5), .ref (h 13), .ref (h 14), .int isImage, .ref (h 7), .ref (h 15), .ref (h 18), .int idraw, .ref (h 19), .ref (h 16)])), ((h 1), .inr (1, [.ref (h 2), .long gro, .int grt])), ((h 2), .inl (dA 0, 36, .inl gd)), ((h 3), .inr (1, [.ref (h 4), .long tro, .int trt])), ((h 4), .inl (dA 0, 36, .inl td)), ((h 5), .inr (1, [.ref (h 6), .long rro, .int rrt])), ((h 6), .inl (dA 0, 36, .inl rd)), ((h 7), .inr (1, [.ref (h 8), .long imro, .int imrt])), ((h 8), .inl (dA 0, 36, .inl imd)), ((h 9), .inl (dA 0, 36, .inl owners)), ((h 10), .inl (dA 1, 8, .inl tour)), ((h 11), .inl (dA 1, 8, .inl best)), ((h 12), .inl (dA 0, 160, .inl tape)), ((h 13), .inl (dA 0, 36, .inl signs)), ((h 14), .inl (dA 0, 320, .inl acts)), ((h 15), .inl (dA 0, 36, .inl iown)), ((h 16), .inl (dA 2, 36, .inr (.inl taken))), ((h 19), .inl (dA 5, 4, .inr (.inr (.inr (.inr shf))))), (hd, .inr (2, [.null])), (hd2, .inr (2, [.ref ra2])), (ra2, .inl (dA 0, rn2, .inl rf2))] ++ ((wM hm dA m_depths m_owners m_roofs m_rate m_undos m_undoMany m_drawn m_dug m_deep m_holes m_holeMany m_tape m_taped m_place m_reads m_read_ m_row m_order m_bestOrder m_nears m_isKept m_keptRoofs m_kept m_lanes m_rowSizes m_items m_moved) ++ wr)) H) (hS : va_S A s.heap H locs) (hl : lv_has ls 4 [(0, .ref b), (1, .ref (h 0)), (2, .ref (hm 0)), (3, .int ix)]) (hi1 : vp_in (ix + 1) L ∧ xs (ix + 1).toNatClampNeg = a1) (hi2 : vp_in (ix + 2) L ∧ xs (ix + 2).toNatClampNeg = a2) (hi3 : vp_in (ix + 3) L ∧ xs (ix + 3).toNatClampNeg = a3) (hi4 : vp_in (ix + 4) L ∧ xs (ix + 4).toNatClampNeg = a4) (hi5 : vp_in (ix + 5) L ∧ xs (ix + 5).toNatClampNeg = a5) (hroom : kc + 3 ≤ room_1.cells ∧ ks + 500 ≤ room_1.slots)
    (kk : ∀ (u : Unit) (u' : (Nat → Int64) × (Nat → Int64)) (H1 : Heap) (locs1 : List Loc), PP u'.1 u'.2 → PD A dC dI ([((h 0), .inr (0, [.ref (h 1), .ref (h 3), .ref (h 9), .ref (h 17), .ref (h 10), .ref (h 11), .int steps, .int draw, .ref (h 12), .int typed, .int at_, .ref (h 5), .ref (h 13), .ref (h 14), .int isImage, .ref (h 7), .ref (h 15), .ref (h 18), .int idraw, .ref (h 19), .ref (h 16)])), ((h 1), .inr (1, [.ref (h 2), .long gro, .int grt])), ((h 2), .inl (dA 0, 36, .inl gd)), ((h 3), .inr (1, [.ref (h 4), .long tro, .int trt])), ((h 4), .inl (dA 0, 36, .inl td)), ((h 5), .inr (1, [.ref (h 6), .long rro, .int rrt])), ((h 6), .inl (dA 0, 36, .inl rd)), ((h 7), .inr (1, [.ref (h 8), .long imro, .int imrt])), ((h 8), .inl (dA 0, 36, .inl imd)), ((h 9), .inl (dA 0, 36, .inl owners)), ((h 10), .inl (dA 1, 8, .inl tour)), ((h 11), .inl (dA 1, 8, .inl best)), ((h 12), .inl (dA 0, 160, .inl tape)), ((h 13), .inl (dA 0, 36, .inl signs)), ((h 14), .inl (dA 0, 320, .inl acts)), ((h 15), .inl (dA 0, 36, .inl iown)), ((h 16), .inl (dA 2, 36, .inr (.inl taken))), ((h 19), .inl (dA 5, 4, .inr (.inr (.inr (.inr shf))))), (hd, .inr (2, [.null])), (hd2, .inr (2, [.ref ra2])), (ra2, .inl (dA 0, rn2, .inl rf2))] ++ ((wM hm dA m_depths m_owners m_roofs m_rate m_undos m_undoMany m_drawn m_dug m_deep m_holes m_holeMany m_tape m_taped m_place m_reads m_read_ m_row m_order m_bestOrder m_nears m_isKept m_keptRoofs m_kept m_lanes m_rowSizes u'.1 u'.2) ++ wr)) H1 → va_S A s.heap H1 locs1 → W p l e room_1 s m #[Value.ref b] below meth c H1 locs1 (kc + 3) (ks + 500) Q (F0 m 1349 ls [])) : W p l e room_1 s m #[Value.ref b] below meth c H locs kc ks Q (F0 m 1286 ls []) := by
  obtain ⟨S, hX, hbl, hbA, hK, hE, hA, hfl⟩ := hC
  obtain ⟨hP, hD⟩ := hPD
  refine lv_aload_n S.1 S.2.1 dL_law_1286 rfl (lv_at hl 1 rfl) ?_
  refine lv_aload_n S.1 S.2.1 dL_law_1287 rfl (lv_at hl 0 rfl) ?_
  refine lv_iload_n S.1 S.2.1 dL_law_1288 rfl (lv_at hl 3 rfl) ?_
  refine lv_iconst (v := 1) S.1 S.2.1 dL_law_1289 (by decide) ?_
  refine lv_iadd S.1 S.2.1 dL_law_1290 ?_
  refine sldE S.1 S.2.1 hX hbl hbA hS hi1 dL_law_1291 ?_
  refine lv_aload_n S.1 S.2.1 dL_law_1292 rfl (lv_at hl 0 rfl) ?_
  refine lv_iload_n S.1 S.2.1 dL_law_1293 rfl (lv_at hl 3 rfl) ?_
  refine lv_iconst (v := 2) S.1 S.2.1 dL_law_1294 (by decide) ?_
  refine lv_iadd S.1 S.2.1 dL_law_1295 ?_
  refine sldE S.1 S.2.1 hX hbl hbA hS hi2 dL_law_1296 ?_
  refine lv_aload_n S.1 S.2.1 dL_law_1297 rfl (lv_at hl 0 rfl) ?_
  refine lv_iload_n S.1 S.2.1 dL_law_1298 rfl (lv_at hl 3 rfl) ?_
  refine lv_iconst (v := 3) S.1 S.2.1 dL_law_1299 (by decide) ?_
  refine lv_iadd S.1 S.2.1 dL_law_1300 ?_
  refine sldE S.1 S.2.1 hX hbl hbA hS hi3 dL_law_1301 ?_
  refine lv_aload_n S.1 S.2.1 dL_law_1302 rfl (lv_at hl 0 rfl) ?_
  refine lv_iload_n S.1 S.2.1 dL_law_1303 rfl (lv_at hl 3 rfl) ?_
  refine lv_iconst (v := 4) S.1 S.2.1 dL_law_1304 (by decide) ?_
  refine lv_iadd S.1 S.2.1 dL_law_1305 ?_
  refine sldE S.1 S.2.1 hX hbl hbA hS hi4 dL_law_1306 ?_
  refine lv_aload_n S.1 S.2.1 dL_law_1307 rfl (lv_at hl 0 rfl) ?_
  refine lv_iload_n S.1 S.2.1 dL_law_1308 rfl (lv_at hl 3 rfl) ?_
  refine lv_iconst (v := 5) S.1 S.2.1 dL_law_1309 (by decide) ?_
  refine lv_iadd S.1 S.2.1 dL_law_1310 ?_
  refine sldE S.1 S.2.1 hX hbl hbA hS hi5 dL_law_1311 ?_
  refine sC_i hP hD hS hA (va_runVW (As := [.int a1, .int a2, .int a3, .int a4, .int a5]) (rest := []) S (metX0_copy_NB l hfl hf) (cwVW 5 S.2.2.2.2 q1049 q1050 q1051 q54 q1052 pdX0_copy ⟨Nat.le_of_ble_eq_true rfl, Nat.le_of_ble_eq_true rfl⟩) ⟨ablind, va_recv hK hP (ci := 0) (q0 := 0) rfl rfl, (spre hK hE hP hD hS hA).2⟩ rfl rfl hl.1 rfl (lv_room (Nat.le_of_ble_eq_true rfl)) dL_law_1312 hroom) (fun r u H locs hf hP hD hS => ?_)
  have hP := hP.perm permM
  have hD := hD.perm permM
  refine lv_aload_n S.1 S.2.1 dL_law_1315 rfl (lv_at hl 2 rfl) ?_
  refine lv_aload_n S.1 S.2.1 dL_law_1316 rfl (lv_at hl 0 rfl) ?_
  refine lv_iload_n S.1 S.2.1 dL_law_1317 rfl (lv_at hl 3 rfl) ?_
  refine lv_iconst (v := 1) S.1 S.2.1 dL_law_1318 (by decide) ?_
  refine lv_iadd S.1 S.2.1 dL_law_1319 ?_
  refine sldE S.1 S.2.1 hX hbl hbA hS hi1 dL_law_1320 ?_
  refine lv_aload_n S.1 S.2.1 dL_law_1321 rfl (lv_at hl 0 rfl) ?_
  refine lv_iload_n S.1 S.2.1 dL_law_1322 rfl (lv_at hl 3 rfl) ?_
  refine lv_iconst (v := 2) S.1 S.2.1 dL_law_1323 (by decide) ?_
  refine lv_iadd S.1 S.2.1 dL_law_1324 ?_
  refine sldE S.1 S.2.1 hX hbl hbA hS hi2 dL_law_1325 ?_
  refine lv_aload_n S.1 S.2.1 dL_law_1326 rfl (lv_at hl 0 rfl) ?_
  refine lv_iload_n S.1 S.2.1 dL_law_1327 rfl (lv_at hl 3 rfl) ?_
  refine lv_iconst (v := 3) S.1 S.2.1 dL_law_1328 (by decide) ?_
  refine lv_iadd S.1 S.2.1 dL_law_1329 ?_
  refine sldE S.1 S.2.1 hX hbl hbA hS hi3 dL_law_1330 ?_
  refine lv_aload_n S.1 S.2.1 dL_law_1331 rfl (lv_at hl 0 rfl) ?_
  refine lv_iload_n S.1 S.2.1 dL_law_1332 rfl (lv_at hl 3 rfl) ?_
  refine lv_iconst (v := 4) S.1 S.2.1 dL_law_1333 (by decide) ?_
  refine lv_iadd S.1 S.2.1 dL_law_1334 ?_
  refine sldE S.1 S.2.1 hX hbl hbA hS hi4 dL_law_1335 ?_
  refine lv_aload_n S.1 S.2.1 dL_law_1336 rfl (lv_at hl 0 rfl) ?_
  refine lv_iload_n S.1 S.2.1 dL_law_1337 rfl (lv_at hl 3 rfl) ?_
  refine lv_iconst (v := 5) S.1 S.2.1 dL_law_1338 (by decide) ?_
  refine lv_iadd S.1 S.2.1 dL_law_1339 ?_
  refine sldE S.1 S.2.1 hX hbl hbA hS hi5 dL_law_1340 ?_
  refine sM_i (As := [.int a1, .int a2, .int a3, .int a4, .int a5]) (rest := [.int r]) S hK rfl rfl (fun _ => rfl) hP hD hS (metX3_copy l hj hf) (lw_V q1598 q1599 q1600 q60 q1601) rfl pdX3_copy ⟨rfl, rfl⟩ ⟨Nat.le_of_ble_eq_true rfl, Nat.le_of_ble_eq_true rfl⟩ rfl hl.1 rfl (Nat.le_of_ble_eq_true rfl) dL_law_1341 hroom (fun r' u' H locs hf hP hD hS => ?_)
  obtain ⟨e1, hf⟩ := hf
  refine lv_icmp_eq (tgt := 1349) S.1 S.2.1 dL_law_1344 (by decide) (fun c_1 => ?_) (fun c_1 => ?_)
  · exact kk u u' H locs hf ⟨hP.perm permN, hD.perm permN⟩ hS
  · exact absurd e1 c_1
set_option maxHeartbeats 4000000 in
set_option maxRecDepth 100000 in
theorem lo_copy_NS (hC : LC p l s m c b L xs A dC dI dA eA mi) (hj : mJ hm) {steps : Int32} {draw : Int32} {typed : Int32} {at_ : Int32} {isImage : Int32} {idraw : Int32} {gd : (Nat → Int32)} {gro : Int64} {grt : Int32} {td : (Nat → Int32)} {tro : Int64} {trt : Int32} {rd : (Nat → Int32)} {rro : Int64} {rrt : Int32} {imd : (Nat → Int32)} {imro : Int64} {imrt : Int32} {owners : (Nat → Int32)} {tour : (Nat → Int32)} {best : (Nat → Int32)} {tape : (Nat → Int32)} {signs : (Nat → Int32)} {acts : (Nat → Int32)} {iown : (Nat → Int32)} {taken : (Nat → Int64)} {shf : (Nat → Option Nat)} {hd : Nat} {hd2 : Nat} {rn2 : Nat} {rf2 : (Nat → Int32)} {ra2 : Nat} {m_depths : (Nat → Int32)} {m_owners : (Nat → Int32)} {m_roofs : Int64} {m_rate : Int32} {m_undos : (Nat → Int32)} {m_undoMany : Int32} {m_drawn : Int32} {m_dug : Int64} {m_deep : Int64} {m_holes : (Nat → Int64)} {m_holeMany : Int32} {m_tape : (Nat → Int32)} {m_taped : Int32} {m_place : Int32} {m_reads : Int32} {m_read_ : (Nat → Int32)} {m_row : (Nat → Int32)} {m_order : (Nat → Int32)} {m_bestOrder : (Nat → Int32)} {m_nears : (Nat → Int32)} {m_isKept : Int32} {m_keptRoofs : Int64} {m_kept : (Nat → Int32)} {m_lanes : (Nat → Int32)} {m_rowSizes : (Nat → Int32)} {m_items : (Nat → Int64)} {m_moved : (Nat → Int64)} {PP : (Nat → Int64) → (Nat → Int64) → Prop} (hf : wX0_copy_NS (fun r => wX3_copy (fun r' q0 q1 => r = r' ∧ PP q0 q1) m_lanes m_rowSizes m_items m_moved a1 a2 a3 a4 a5) shf hd hd2 a1 a2 a3 a4 a5) (hPD : PD A dC dI ([((h 0), .inr (0, [.ref (h 1), .ref (h 3), .ref (h 9), .ref (h 17), .ref (h 10), .ref (h 11), .int steps, .int draw, .ref (h 12), .int typed, .int at_, .ref (h 5), .ref (h 13), .ref (h 14), .int isImage, .ref (h 7), .ref (h 15), .ref (h 18), .int idraw, .ref (h 19), .ref (h 16)])), ((h 1), .inr (1, [.ref (h 2), .long gro, .int grt])), ((h 2), .inl (dA 0, 36, .inl gd)), ((h 3), .inr (1, [.ref (h 4), .long tro, .int trt])), ((h 4), .inl (dA 0, 36, .inl td)), ((h 5), .inr (1, [.ref (h 6), .long rro, .int rrt])), ((h 6), .inl (dA 0, 36, .inl rd)), ((h 7), .inr (1, [.ref (h 8), .long imro, .int imrt])), ((h 8), .inl (dA 0, 36, .inl imd)), ((h 9), .inl (dA 0, 36, .inl owners)), ((h 10), .inl (dA 1, 8, .inl tour)), ((h 11), .inl (dA 1, 8, .inl best)), ((h 12), .inl (dA 0, 160, .inl tape)), ((h 13), .inl (dA 0, 36, .inl signs)), ((h 14), .inl (dA 0, 320, .inl acts)), ((h 15), .inl (dA 0, 36, .inl iown)), ((h 16), .inl (dA 2, 36, .inr (.inl taken))), ((h 19), .inl (dA 5, 4, .inr (.inr (.inr (.inr shf))))), (hd, .inr (2, [.null])), (hd2, .inr (2, [.ref ra2])), (ra2, .inl (dA 3, rn2, .inl rf2))] ++ ((wM hm dA m_depths m_owners m_roofs m_rate m_undos m_undoMany m_drawn m_dug m_deep m_holes m_holeMany m_tape m_taped m_place m_reads m_read_ m_row m_order m_bestOrder m_nears m_isKept m_keptRoofs m_kept m_lanes m_rowSizes m_items m_moved) ++ wr)) H) (hS : va_S A s.heap H locs) (hl : lv_has ls 4 [(0, .ref b), (1, .ref (h 0)), (2, .ref (hm 0)), (3, .int ix)]) (hi1 : vp_in (ix + 1) L ∧ xs (ix + 1).toNatClampNeg = a1) (hi2 : vp_in (ix + 2) L ∧ xs (ix + 2).toNatClampNeg = a2) (hi3 : vp_in (ix + 3) L ∧ xs (ix + 3).toNatClampNeg = a3) (hi4 : vp_in (ix + 4) L ∧ xs (ix + 4).toNatClampNeg = a4) (hi5 : vp_in (ix + 5) L ∧ xs (ix + 5).toNatClampNeg = a5) (hroom : kc + 3 ≤ room_1.cells ∧ ks + 500 ≤ room_1.slots)
    (kk : ∀ (u : Unit) (u' : (Nat → Int64) × (Nat → Int64)) (H1 : Heap) (locs1 : List Loc), PP u'.1 u'.2 → PD A dC dI ([((h 0), .inr (0, [.ref (h 1), .ref (h 3), .ref (h 9), .ref (h 17), .ref (h 10), .ref (h 11), .int steps, .int draw, .ref (h 12), .int typed, .int at_, .ref (h 5), .ref (h 13), .ref (h 14), .int isImage, .ref (h 7), .ref (h 15), .ref (h 18), .int idraw, .ref (h 19), .ref (h 16)])), ((h 1), .inr (1, [.ref (h 2), .long gro, .int grt])), ((h 2), .inl (dA 0, 36, .inl gd)), ((h 3), .inr (1, [.ref (h 4), .long tro, .int trt])), ((h 4), .inl (dA 0, 36, .inl td)), ((h 5), .inr (1, [.ref (h 6), .long rro, .int rrt])), ((h 6), .inl (dA 0, 36, .inl rd)), ((h 7), .inr (1, [.ref (h 8), .long imro, .int imrt])), ((h 8), .inl (dA 0, 36, .inl imd)), ((h 9), .inl (dA 0, 36, .inl owners)), ((h 10), .inl (dA 1, 8, .inl tour)), ((h 11), .inl (dA 1, 8, .inl best)), ((h 12), .inl (dA 0, 160, .inl tape)), ((h 13), .inl (dA 0, 36, .inl signs)), ((h 14), .inl (dA 0, 320, .inl acts)), ((h 15), .inl (dA 0, 36, .inl iown)), ((h 16), .inl (dA 2, 36, .inr (.inl taken))), ((h 19), .inl (dA 5, 4, .inr (.inr (.inr (.inr shf))))), (hd, .inr (2, [.null])), (hd2, .inr (2, [.ref ra2])), (ra2, .inl (dA 3, rn2, .inl rf2))] ++ ((wM hm dA m_depths m_owners m_roofs m_rate m_undos m_undoMany m_drawn m_dug m_deep m_holes m_holeMany m_tape m_taped m_place m_reads m_read_ m_row m_order m_bestOrder m_nears m_isKept m_keptRoofs m_kept m_lanes m_rowSizes u'.1 u'.2) ++ wr)) H1 → va_S A s.heap H1 locs1 → W p l e room_1 s m #[Value.ref b] below meth c H1 locs1 (kc + 3) (ks + 500) Q (F0 m 1349 ls [])) : W p l e room_1 s m #[Value.ref b] below meth c H locs kc ks Q (F0 m 1286 ls []) := by
  obtain ⟨S, hX, hbl, hbA, hK, hE, hA, hfl⟩ := hC
  obtain ⟨hP, hD⟩ := hPD
  refine lv_aload_n S.1 S.2.1 dL_law_1286 rfl (lv_at hl 1 rfl) ?_
  refine lv_aload_n S.1 S.2.1 dL_law_1287 rfl (lv_at hl 0 rfl) ?_
  refine lv_iload_n S.1 S.2.1 dL_law_1288 rfl (lv_at hl 3 rfl) ?_
  refine lv_iconst (v := 1) S.1 S.2.1 dL_law_1289 (by decide) ?_
  refine lv_iadd S.1 S.2.1 dL_law_1290 ?_
  refine sldE S.1 S.2.1 hX hbl hbA hS hi1 dL_law_1291 ?_
  refine lv_aload_n S.1 S.2.1 dL_law_1292 rfl (lv_at hl 0 rfl) ?_
  refine lv_iload_n S.1 S.2.1 dL_law_1293 rfl (lv_at hl 3 rfl) ?_
  refine lv_iconst (v := 2) S.1 S.2.1 dL_law_1294 (by decide) ?_
  refine lv_iadd S.1 S.2.1 dL_law_1295 ?_
  refine sldE S.1 S.2.1 hX hbl hbA hS hi2 dL_law_1296 ?_
  refine lv_aload_n S.1 S.2.1 dL_law_1297 rfl (lv_at hl 0 rfl) ?_
  refine lv_iload_n S.1 S.2.1 dL_law_1298 rfl (lv_at hl 3 rfl) ?_
  refine lv_iconst (v := 3) S.1 S.2.1 dL_law_1299 (by decide) ?_
  refine lv_iadd S.1 S.2.1 dL_law_1300 ?_
  refine sldE S.1 S.2.1 hX hbl hbA hS hi3 dL_law_1301 ?_
  refine lv_aload_n S.1 S.2.1 dL_law_1302 rfl (lv_at hl 0 rfl) ?_
  refine lv_iload_n S.1 S.2.1 dL_law_1303 rfl (lv_at hl 3 rfl) ?_
  refine lv_iconst (v := 4) S.1 S.2.1 dL_law_1304 (by decide) ?_
  refine lv_iadd S.1 S.2.1 dL_law_1305 ?_
  refine sldE S.1 S.2.1 hX hbl hbA hS hi4 dL_law_1306 ?_
  refine lv_aload_n S.1 S.2.1 dL_law_1307 rfl (lv_at hl 0 rfl) ?_
  refine lv_iload_n S.1 S.2.1 dL_law_1308 rfl (lv_at hl 3 rfl) ?_
  refine lv_iconst (v := 5) S.1 S.2.1 dL_law_1309 (by decide) ?_
  refine lv_iadd S.1 S.2.1 dL_law_1310 ?_
  refine sldE S.1 S.2.1 hX hbl hbA hS hi5 dL_law_1311 ?_
  refine sC_i hP hD hS hA (va_runVW (As := [.int a1, .int a2, .int a3, .int a4, .int a5]) (rest := []) S (metX0_copy_NS l hfl hf) (cwVW 5 S.2.2.2.2 q1049 q1050 q1051 q54 q1052 pdX0_copy ⟨Nat.le_of_ble_eq_true rfl, Nat.le_of_ble_eq_true rfl⟩) ⟨ablind, va_recv hK hP (ci := 0) (q0 := 0) rfl rfl, (spre hK hE hP hD hS hA).2⟩ rfl rfl hl.1 rfl (lv_room (Nat.le_of_ble_eq_true rfl)) dL_law_1312 hroom) (fun r u H locs hf hP hD hS => ?_)
  have hP := hP.perm permM
  have hD := hD.perm permM
  refine lv_aload_n S.1 S.2.1 dL_law_1315 rfl (lv_at hl 2 rfl) ?_
  refine lv_aload_n S.1 S.2.1 dL_law_1316 rfl (lv_at hl 0 rfl) ?_
  refine lv_iload_n S.1 S.2.1 dL_law_1317 rfl (lv_at hl 3 rfl) ?_
  refine lv_iconst (v := 1) S.1 S.2.1 dL_law_1318 (by decide) ?_
  refine lv_iadd S.1 S.2.1 dL_law_1319 ?_
  refine sldE S.1 S.2.1 hX hbl hbA hS hi1 dL_law_1320 ?_
  refine lv_aload_n S.1 S.2.1 dL_law_1321 rfl (lv_at hl 0 rfl) ?_
  refine lv_iload_n S.1 S.2.1 dL_law_1322 rfl (lv_at hl 3 rfl) ?_
  refine lv_iconst (v := 2) S.1 S.2.1 dL_law_1323 (by decide) ?_
  refine lv_iadd S.1 S.2.1 dL_law_1324 ?_
  refine sldE S.1 S.2.1 hX hbl hbA hS hi2 dL_law_1325 ?_
  refine lv_aload_n S.1 S.2.1 dL_law_1326 rfl (lv_at hl 0 rfl) ?_
  refine lv_iload_n S.1 S.2.1 dL_law_1327 rfl (lv_at hl 3 rfl) ?_
  refine lv_iconst (v := 3) S.1 S.2.1 dL_law_1328 (by decide) ?_
  refine lv_iadd S.1 S.2.1 dL_law_1329 ?_
  refine sldE S.1 S.2.1 hX hbl hbA hS hi3 dL_law_1330 ?_
  refine lv_aload_n S.1 S.2.1 dL_law_1331 rfl (lv_at hl 0 rfl) ?_
  refine lv_iload_n S.1 S.2.1 dL_law_1332 rfl (lv_at hl 3 rfl) ?_
  refine lv_iconst (v := 4) S.1 S.2.1 dL_law_1333 (by decide) ?_
  refine lv_iadd S.1 S.2.1 dL_law_1334 ?_
  refine sldE S.1 S.2.1 hX hbl hbA hS hi4 dL_law_1335 ?_
  refine lv_aload_n S.1 S.2.1 dL_law_1336 rfl (lv_at hl 0 rfl) ?_
  refine lv_iload_n S.1 S.2.1 dL_law_1337 rfl (lv_at hl 3 rfl) ?_
  refine lv_iconst (v := 5) S.1 S.2.1 dL_law_1338 (by decide) ?_
  refine lv_iadd S.1 S.2.1 dL_law_1339 ?_
  refine sldE S.1 S.2.1 hX hbl hbA hS hi5 dL_law_1340 ?_
  refine sM_i (As := [.int a1, .int a2, .int a3, .int a4, .int a5]) (rest := [.int r]) S hK rfl rfl (fun _ => rfl) hP hD hS (metX3_copy l hj hf) (lw_V q1598 q1599 q1600 q60 q1601) rfl pdX3_copy ⟨rfl, rfl⟩ ⟨Nat.le_of_ble_eq_true rfl, Nat.le_of_ble_eq_true rfl⟩ rfl hl.1 rfl (Nat.le_of_ble_eq_true rfl) dL_law_1341 hroom (fun r' u' H locs hf hP hD hS => ?_)
  obtain ⟨e1, hf⟩ := hf
  refine lv_icmp_eq (tgt := 1349) S.1 S.2.1 dL_law_1344 (by decide) (fun c_1 => ?_) (fun c_1 => ?_)
  · exact kk u u' H locs hf ⟨hP.perm permN, hD.perm permN⟩ hS
  · exact absurd e1 c_1
set_option maxHeartbeats 4000000 in
set_option maxRecDepth 100000 in
theorem lo_copy_NI (hC : LC p l s m c b L xs A dC dI dA eA mi) (hj : mJ hm) {steps : Int32} {draw : Int32} {typed : Int32} {at_ : Int32} {isImage : Int32} {idraw : Int32} {gd : (Nat → Int32)} {gro : Int64} {grt : Int32} {td : (Nat → Int32)} {tro : Int64} {trt : Int32} {rd : (Nat → Int32)} {rro : Int64} {rrt : Int32} {imd : (Nat → Int32)} {imro : Int64} {imrt : Int32} {owners : (Nat → Int32)} {tour : (Nat → Int32)} {best : (Nat → Int32)} {tape : (Nat → Int32)} {signs : (Nat → Int32)} {acts : (Nat → Int32)} {iown : (Nat → Int32)} {taken : (Nat → Int64)} {shf : (Nat → Option Nat)} {hd : Nat} {hd2 : Nat} {rn2 : Nat} {rf2 : (Nat → Int32)} {ra2 : Nat} {m_depths : (Nat → Int32)} {m_owners : (Nat → Int32)} {m_roofs : Int64} {m_rate : Int32} {m_undos : (Nat → Int32)} {m_undoMany : Int32} {m_drawn : Int32} {m_dug : Int64} {m_deep : Int64} {m_holes : (Nat → Int64)} {m_holeMany : Int32} {m_tape : (Nat → Int32)} {m_taped : Int32} {m_place : Int32} {m_reads : Int32} {m_read_ : (Nat → Int32)} {m_row : (Nat → Int32)} {m_order : (Nat → Int32)} {m_bestOrder : (Nat → Int32)} {m_nears : (Nat → Int32)} {m_isKept : Int32} {m_keptRoofs : Int64} {m_kept : (Nat → Int32)} {m_lanes : (Nat → Int32)} {m_rowSizes : (Nat → Int32)} {m_items : (Nat → Int64)} {m_moved : (Nat → Int64)} {PP : (Nat → Int64) → (Nat → Int64) → Prop} (hf : wX0_copy_NI (fun r => wX3_copy (fun r' q0 q1 => r = r' ∧ PP q0 q1) m_lanes m_rowSizes m_items m_moved a1 a2 a3 a4 a5) shf hd hd2 a1 a2 a3 a4 a5) (hPD : PD A dC dI ([((h 0), .inr (0, [.ref (h 1), .ref (h 3), .ref (h 9), .ref (h 17), .ref (h 10), .ref (h 11), .int steps, .int draw, .ref (h 12), .int typed, .int at_, .ref (h 5), .ref (h 13), .ref (h 14), .int isImage, .ref (h 7), .ref (h 15), .ref (h 18), .int idraw, .ref (h 19), .ref (h 16)])), ((h 1), .inr (1, [.ref (h 2), .long gro, .int grt])), ((h 2), .inl (dA 0, 36, .inl gd)), ((h 3), .inr (1, [.ref (h 4), .long tro, .int trt])), ((h 4), .inl (dA 0, 36, .inl td)), ((h 5), .inr (1, [.ref (h 6), .long rro, .int rrt])), ((h 6), .inl (dA 0, 36, .inl rd)), ((h 7), .inr (1, [.ref (h 8), .long imro, .int imrt])), ((h 8), .inl (dA 0, 36, .inl imd)), ((h 9), .inl (dA 0, 36, .inl owners)), ((h 10), .inl (dA 1, 8, .inl tour)), ((h 11), .inl (dA 1, 8, .inl best)), ((h 12), .inl (dA 0, 160, .inl tape)), ((h 13), .inl (dA 0, 36, .inl signs)), ((h 14), .inl (dA 0, 320, .inl acts)), ((h 15), .inl (dA 0, 36, .inl iown)), ((h 16), .inl (dA 2, 36, .inr (.inl taken))), ((h 19), .inl (dA 5, 4, .inr (.inr (.inr (.inr shf))))), (hd, .inr (2, [.null])), (hd2, .inr (2, [.ref ra2])), (ra2, .inl (dA 1, rn2, .inl rf2))] ++ ((wM hm dA m_depths m_owners m_roofs m_rate m_undos m_undoMany m_drawn m_dug m_deep m_holes m_holeMany m_tape m_taped m_place m_reads m_read_ m_row m_order m_bestOrder m_nears m_isKept m_keptRoofs m_kept m_lanes m_rowSizes m_items m_moved) ++ wr)) H) (hS : va_S A s.heap H locs) (hl : lv_has ls 4 [(0, .ref b), (1, .ref (h 0)), (2, .ref (hm 0)), (3, .int ix)]) (hi1 : vp_in (ix + 1) L ∧ xs (ix + 1).toNatClampNeg = a1) (hi2 : vp_in (ix + 2) L ∧ xs (ix + 2).toNatClampNeg = a2) (hi3 : vp_in (ix + 3) L ∧ xs (ix + 3).toNatClampNeg = a3) (hi4 : vp_in (ix + 4) L ∧ xs (ix + 4).toNatClampNeg = a4) (hi5 : vp_in (ix + 5) L ∧ xs (ix + 5).toNatClampNeg = a5) (hroom : kc + 3 ≤ room_1.cells ∧ ks + 500 ≤ room_1.slots)
    (kk : ∀ (u : Unit) (u' : (Nat → Int64) × (Nat → Int64)) (H1 : Heap) (locs1 : List Loc), PP u'.1 u'.2 → PD A dC dI ([((h 0), .inr (0, [.ref (h 1), .ref (h 3), .ref (h 9), .ref (h 17), .ref (h 10), .ref (h 11), .int steps, .int draw, .ref (h 12), .int typed, .int at_, .ref (h 5), .ref (h 13), .ref (h 14), .int isImage, .ref (h 7), .ref (h 15), .ref (h 18), .int idraw, .ref (h 19), .ref (h 16)])), ((h 1), .inr (1, [.ref (h 2), .long gro, .int grt])), ((h 2), .inl (dA 0, 36, .inl gd)), ((h 3), .inr (1, [.ref (h 4), .long tro, .int trt])), ((h 4), .inl (dA 0, 36, .inl td)), ((h 5), .inr (1, [.ref (h 6), .long rro, .int rrt])), ((h 6), .inl (dA 0, 36, .inl rd)), ((h 7), .inr (1, [.ref (h 8), .long imro, .int imrt])), ((h 8), .inl (dA 0, 36, .inl imd)), ((h 9), .inl (dA 0, 36, .inl owners)), ((h 10), .inl (dA 1, 8, .inl tour)), ((h 11), .inl (dA 1, 8, .inl best)), ((h 12), .inl (dA 0, 160, .inl tape)), ((h 13), .inl (dA 0, 36, .inl signs)), ((h 14), .inl (dA 0, 320, .inl acts)), ((h 15), .inl (dA 0, 36, .inl iown)), ((h 16), .inl (dA 2, 36, .inr (.inl taken))), ((h 19), .inl (dA 5, 4, .inr (.inr (.inr (.inr shf))))), (hd, .inr (2, [.null])), (hd2, .inr (2, [.ref ra2])), (ra2, .inl (dA 1, rn2, .inl rf2))] ++ ((wM hm dA m_depths m_owners m_roofs m_rate m_undos m_undoMany m_drawn m_dug m_deep m_holes m_holeMany m_tape m_taped m_place m_reads m_read_ m_row m_order m_bestOrder m_nears m_isKept m_keptRoofs m_kept m_lanes m_rowSizes u'.1 u'.2) ++ wr)) H1 → va_S A s.heap H1 locs1 → W p l e room_1 s m #[Value.ref b] below meth c H1 locs1 (kc + 3) (ks + 500) Q (F0 m 1349 ls [])) : W p l e room_1 s m #[Value.ref b] below meth c H locs kc ks Q (F0 m 1286 ls []) := by
  obtain ⟨S, hX, hbl, hbA, hK, hE, hA, hfl⟩ := hC
  obtain ⟨hP, hD⟩ := hPD
  refine lv_aload_n S.1 S.2.1 dL_law_1286 rfl (lv_at hl 1 rfl) ?_
  refine lv_aload_n S.1 S.2.1 dL_law_1287 rfl (lv_at hl 0 rfl) ?_
  refine lv_iload_n S.1 S.2.1 dL_law_1288 rfl (lv_at hl 3 rfl) ?_
  refine lv_iconst (v := 1) S.1 S.2.1 dL_law_1289 (by decide) ?_
  refine lv_iadd S.1 S.2.1 dL_law_1290 ?_
  refine sldE S.1 S.2.1 hX hbl hbA hS hi1 dL_law_1291 ?_
  refine lv_aload_n S.1 S.2.1 dL_law_1292 rfl (lv_at hl 0 rfl) ?_
  refine lv_iload_n S.1 S.2.1 dL_law_1293 rfl (lv_at hl 3 rfl) ?_
  refine lv_iconst (v := 2) S.1 S.2.1 dL_law_1294 (by decide) ?_
  refine lv_iadd S.1 S.2.1 dL_law_1295 ?_
  refine sldE S.1 S.2.1 hX hbl hbA hS hi2 dL_law_1296 ?_
  refine lv_aload_n S.1 S.2.1 dL_law_1297 rfl (lv_at hl 0 rfl) ?_
  refine lv_iload_n S.1 S.2.1 dL_law_1298 rfl (lv_at hl 3 rfl) ?_
  refine lv_iconst (v := 3) S.1 S.2.1 dL_law_1299 (by decide) ?_
  refine lv_iadd S.1 S.2.1 dL_law_1300 ?_
  refine sldE S.1 S.2.1 hX hbl hbA hS hi3 dL_law_1301 ?_
  refine lv_aload_n S.1 S.2.1 dL_law_1302 rfl (lv_at hl 0 rfl) ?_
  refine lv_iload_n S.1 S.2.1 dL_law_1303 rfl (lv_at hl 3 rfl) ?_
  refine lv_iconst (v := 4) S.1 S.2.1 dL_law_1304 (by decide) ?_
  refine lv_iadd S.1 S.2.1 dL_law_1305 ?_
  refine sldE S.1 S.2.1 hX hbl hbA hS hi4 dL_law_1306 ?_
  refine lv_aload_n S.1 S.2.1 dL_law_1307 rfl (lv_at hl 0 rfl) ?_
  refine lv_iload_n S.1 S.2.1 dL_law_1308 rfl (lv_at hl 3 rfl) ?_
  refine lv_iconst (v := 5) S.1 S.2.1 dL_law_1309 (by decide) ?_
  refine lv_iadd S.1 S.2.1 dL_law_1310 ?_
  refine sldE S.1 S.2.1 hX hbl hbA hS hi5 dL_law_1311 ?_
  refine sC_i hP hD hS hA (va_runVW (As := [.int a1, .int a2, .int a3, .int a4, .int a5]) (rest := []) S (metX0_copy_NI l hfl hf) (cwVW 5 S.2.2.2.2 q1049 q1050 q1051 q54 q1052 pdX0_copy ⟨Nat.le_of_ble_eq_true rfl, Nat.le_of_ble_eq_true rfl⟩) ⟨ablind, va_recv hK hP (ci := 0) (q0 := 0) rfl rfl, (spre hK hE hP hD hS hA).2⟩ rfl rfl hl.1 rfl (lv_room (Nat.le_of_ble_eq_true rfl)) dL_law_1312 hroom) (fun r u H locs hf hP hD hS => ?_)
  have hP := hP.perm permM
  have hD := hD.perm permM
  refine lv_aload_n S.1 S.2.1 dL_law_1315 rfl (lv_at hl 2 rfl) ?_
  refine lv_aload_n S.1 S.2.1 dL_law_1316 rfl (lv_at hl 0 rfl) ?_
  refine lv_iload_n S.1 S.2.1 dL_law_1317 rfl (lv_at hl 3 rfl) ?_
  refine lv_iconst (v := 1) S.1 S.2.1 dL_law_1318 (by decide) ?_
  refine lv_iadd S.1 S.2.1 dL_law_1319 ?_
  refine sldE S.1 S.2.1 hX hbl hbA hS hi1 dL_law_1320 ?_
  refine lv_aload_n S.1 S.2.1 dL_law_1321 rfl (lv_at hl 0 rfl) ?_
  refine lv_iload_n S.1 S.2.1 dL_law_1322 rfl (lv_at hl 3 rfl) ?_
  refine lv_iconst (v := 2) S.1 S.2.1 dL_law_1323 (by decide) ?_
  refine lv_iadd S.1 S.2.1 dL_law_1324 ?_
  refine sldE S.1 S.2.1 hX hbl hbA hS hi2 dL_law_1325 ?_
  refine lv_aload_n S.1 S.2.1 dL_law_1326 rfl (lv_at hl 0 rfl) ?_
  refine lv_iload_n S.1 S.2.1 dL_law_1327 rfl (lv_at hl 3 rfl) ?_
  refine lv_iconst (v := 3) S.1 S.2.1 dL_law_1328 (by decide) ?_
  refine lv_iadd S.1 S.2.1 dL_law_1329 ?_
  refine sldE S.1 S.2.1 hX hbl hbA hS hi3 dL_law_1330 ?_
  refine lv_aload_n S.1 S.2.1 dL_law_1331 rfl (lv_at hl 0 rfl) ?_
  refine lv_iload_n S.1 S.2.1 dL_law_1332 rfl (lv_at hl 3 rfl) ?_
  refine lv_iconst (v := 4) S.1 S.2.1 dL_law_1333 (by decide) ?_
  refine lv_iadd S.1 S.2.1 dL_law_1334 ?_
  refine sldE S.1 S.2.1 hX hbl hbA hS hi4 dL_law_1335 ?_
  refine lv_aload_n S.1 S.2.1 dL_law_1336 rfl (lv_at hl 0 rfl) ?_
  refine lv_iload_n S.1 S.2.1 dL_law_1337 rfl (lv_at hl 3 rfl) ?_
  refine lv_iconst (v := 5) S.1 S.2.1 dL_law_1338 (by decide) ?_
  refine lv_iadd S.1 S.2.1 dL_law_1339 ?_
  refine sldE S.1 S.2.1 hX hbl hbA hS hi5 dL_law_1340 ?_
  refine sM_i (As := [.int a1, .int a2, .int a3, .int a4, .int a5]) (rest := [.int r]) S hK rfl rfl (fun _ => rfl) hP hD hS (metX3_copy l hj hf) (lw_V q1598 q1599 q1600 q60 q1601) rfl pdX3_copy ⟨rfl, rfl⟩ ⟨Nat.le_of_ble_eq_true rfl, Nat.le_of_ble_eq_true rfl⟩ rfl hl.1 rfl (Nat.le_of_ble_eq_true rfl) dL_law_1341 hroom (fun r' u' H locs hf hP hD hS => ?_)
  obtain ⟨e1, hf⟩ := hf
  refine lv_icmp_eq (tgt := 1349) S.1 S.2.1 dL_law_1344 (by decide) (fun c_1 => ?_) (fun c_1 => ?_)
  · exact kk u u' H locs hf ⟨hP.perm permN, hD.perm permN⟩ hS
  · exact absurd e1 c_1
set_option maxHeartbeats 4000000 in
set_option maxRecDepth 100000 in
theorem lo_copy_NJ (hC : LC p l s m c b L xs A dC dI dA eA mi) (hj : mJ hm) {steps : Int32} {draw : Int32} {typed : Int32} {at_ : Int32} {isImage : Int32} {idraw : Int32} {gd : (Nat → Int32)} {gro : Int64} {grt : Int32} {td : (Nat → Int32)} {tro : Int64} {trt : Int32} {rd : (Nat → Int32)} {rro : Int64} {rrt : Int32} {imd : (Nat → Int32)} {imro : Int64} {imrt : Int32} {owners : (Nat → Int32)} {tour : (Nat → Int32)} {best : (Nat → Int32)} {tape : (Nat → Int32)} {signs : (Nat → Int32)} {acts : (Nat → Int32)} {iown : (Nat → Int32)} {taken : (Nat → Int64)} {shf : (Nat → Option Nat)} {hd : Nat} {hd2 : Nat} {rn2 : Nat} {rf2 : (Nat → Int64)} {ra2 : Nat} {m_depths : (Nat → Int32)} {m_owners : (Nat → Int32)} {m_roofs : Int64} {m_rate : Int32} {m_undos : (Nat → Int32)} {m_undoMany : Int32} {m_drawn : Int32} {m_dug : Int64} {m_deep : Int64} {m_holes : (Nat → Int64)} {m_holeMany : Int32} {m_tape : (Nat → Int32)} {m_taped : Int32} {m_place : Int32} {m_reads : Int32} {m_read_ : (Nat → Int32)} {m_row : (Nat → Int32)} {m_order : (Nat → Int32)} {m_bestOrder : (Nat → Int32)} {m_nears : (Nat → Int32)} {m_isKept : Int32} {m_keptRoofs : Int64} {m_kept : (Nat → Int32)} {m_lanes : (Nat → Int32)} {m_rowSizes : (Nat → Int32)} {m_items : (Nat → Int64)} {m_moved : (Nat → Int64)} {PP : (Nat → Int64) → (Nat → Int64) → Prop} (hf : wX0_copy_NJ (fun r => wX3_copy (fun r' q0 q1 => r = r' ∧ PP q0 q1) m_lanes m_rowSizes m_items m_moved a1 a2 a3 a4 a5) shf hd hd2 a1 a2 a3 a4 a5) (hPD : PD A dC dI ([((h 0), .inr (0, [.ref (h 1), .ref (h 3), .ref (h 9), .ref (h 17), .ref (h 10), .ref (h 11), .int steps, .int draw, .ref (h 12), .int typed, .int at_, .ref (h 5), .ref (h 13), .ref (h 14), .int isImage, .ref (h 7), .ref (h 15), .ref (h 18), .int idraw, .ref (h 19), .ref (h 16)])), ((h 1), .inr (1, [.ref (h 2), .long gro, .int grt])), ((h 2), .inl (dA 0, 36, .inl gd)), ((h 3), .inr (1, [.ref (h 4), .long tro, .int trt])), ((h 4), .inl (dA 0, 36, .inl td)), ((h 5), .inr (1, [.ref (h 6), .long rro, .int rrt])), ((h 6), .inl (dA 0, 36, .inl rd)), ((h 7), .inr (1, [.ref (h 8), .long imro, .int imrt])), ((h 8), .inl (dA 0, 36, .inl imd)), ((h 9), .inl (dA 0, 36, .inl owners)), ((h 10), .inl (dA 1, 8, .inl tour)), ((h 11), .inl (dA 1, 8, .inl best)), ((h 12), .inl (dA 0, 160, .inl tape)), ((h 13), .inl (dA 0, 36, .inl signs)), ((h 14), .inl (dA 0, 320, .inl acts)), ((h 15), .inl (dA 0, 36, .inl iown)), ((h 16), .inl (dA 2, 36, .inr (.inl taken))), ((h 19), .inl (dA 5, 4, .inr (.inr (.inr (.inr shf))))), (hd, .inr (2, [.null])), (hd2, .inr (2, [.ref ra2])), (ra2, .inl (dA 2, rn2, .inr (.inl rf2)))] ++ ((wM hm dA m_depths m_owners m_roofs m_rate m_undos m_undoMany m_drawn m_dug m_deep m_holes m_holeMany m_tape m_taped m_place m_reads m_read_ m_row m_order m_bestOrder m_nears m_isKept m_keptRoofs m_kept m_lanes m_rowSizes m_items m_moved) ++ wr)) H) (hS : va_S A s.heap H locs) (hl : lv_has ls 4 [(0, .ref b), (1, .ref (h 0)), (2, .ref (hm 0)), (3, .int ix)]) (hi1 : vp_in (ix + 1) L ∧ xs (ix + 1).toNatClampNeg = a1) (hi2 : vp_in (ix + 2) L ∧ xs (ix + 2).toNatClampNeg = a2) (hi3 : vp_in (ix + 3) L ∧ xs (ix + 3).toNatClampNeg = a3) (hi4 : vp_in (ix + 4) L ∧ xs (ix + 4).toNatClampNeg = a4) (hi5 : vp_in (ix + 5) L ∧ xs (ix + 5).toNatClampNeg = a5) (hroom : kc + 3 ≤ room_1.cells ∧ ks + 500 ≤ room_1.slots)
    (kk : ∀ (u : Unit) (u' : (Nat → Int64) × (Nat → Int64)) (H1 : Heap) (locs1 : List Loc), PP u'.1 u'.2 → PD A dC dI ([((h 0), .inr (0, [.ref (h 1), .ref (h 3), .ref (h 9), .ref (h 17), .ref (h 10), .ref (h 11), .int steps, .int draw, .ref (h 12), .int typed, .int at_, .ref (h 5), .ref (h 13), .ref (h 14), .int isImage, .ref (h 7), .ref (h 15), .ref (h 18), .int idraw, .ref (h 19), .ref (h 16)])), ((h 1), .inr (1, [.ref (h 2), .long gro, .int grt])), ((h 2), .inl (dA 0, 36, .inl gd)), ((h 3), .inr (1, [.ref (h 4), .long tro, .int trt])), ((h 4), .inl (dA 0, 36, .inl td)), ((h 5), .inr (1, [.ref (h 6), .long rro, .int rrt])), ((h 6), .inl (dA 0, 36, .inl rd)), ((h 7), .inr (1, [.ref (h 8), .long imro, .int imrt])), ((h 8), .inl (dA 0, 36, .inl imd)), ((h 9), .inl (dA 0, 36, .inl owners)), ((h 10), .inl (dA 1, 8, .inl tour)), ((h 11), .inl (dA 1, 8, .inl best)), ((h 12), .inl (dA 0, 160, .inl tape)), ((h 13), .inl (dA 0, 36, .inl signs)), ((h 14), .inl (dA 0, 320, .inl acts)), ((h 15), .inl (dA 0, 36, .inl iown)), ((h 16), .inl (dA 2, 36, .inr (.inl taken))), ((h 19), .inl (dA 5, 4, .inr (.inr (.inr (.inr shf))))), (hd, .inr (2, [.null])), (hd2, .inr (2, [.ref ra2])), (ra2, .inl (dA 2, rn2, .inr (.inl rf2)))] ++ ((wM hm dA m_depths m_owners m_roofs m_rate m_undos m_undoMany m_drawn m_dug m_deep m_holes m_holeMany m_tape m_taped m_place m_reads m_read_ m_row m_order m_bestOrder m_nears m_isKept m_keptRoofs m_kept m_lanes m_rowSizes u'.1 u'.2) ++ wr)) H1 → va_S A s.heap H1 locs1 → W p l e room_1 s m #[Value.ref b] below meth c H1 locs1 (kc + 3) (ks + 500) Q (F0 m 1349 ls [])) : W p l e room_1 s m #[Value.ref b] below meth c H locs kc ks Q (F0 m 1286 ls []) := by
  obtain ⟨S, hX, hbl, hbA, hK, hE, hA, hfl⟩ := hC
  obtain ⟨hP, hD⟩ := hPD
  refine lv_aload_n S.1 S.2.1 dL_law_1286 rfl (lv_at hl 1 rfl) ?_
  refine lv_aload_n S.1 S.2.1 dL_law_1287 rfl (lv_at hl 0 rfl) ?_
  refine lv_iload_n S.1 S.2.1 dL_law_1288 rfl (lv_at hl 3 rfl) ?_
  refine lv_iconst (v := 1) S.1 S.2.1 dL_law_1289 (by decide) ?_
  refine lv_iadd S.1 S.2.1 dL_law_1290 ?_
  refine sldE S.1 S.2.1 hX hbl hbA hS hi1 dL_law_1291 ?_
  refine lv_aload_n S.1 S.2.1 dL_law_1292 rfl (lv_at hl 0 rfl) ?_
  refine lv_iload_n S.1 S.2.1 dL_law_1293 rfl (lv_at hl 3 rfl) ?_
  refine lv_iconst (v := 2) S.1 S.2.1 dL_law_1294 (by decide) ?_
  refine lv_iadd S.1 S.2.1 dL_law_1295 ?_
  refine sldE S.1 S.2.1 hX hbl hbA hS hi2 dL_law_1296 ?_
  refine lv_aload_n S.1 S.2.1 dL_law_1297 rfl (lv_at hl 0 rfl) ?_
  refine lv_iload_n S.1 S.2.1 dL_law_1298 rfl (lv_at hl 3 rfl) ?_
  refine lv_iconst (v := 3) S.1 S.2.1 dL_law_1299 (by decide) ?_
  refine lv_iadd S.1 S.2.1 dL_law_1300 ?_
  refine sldE S.1 S.2.1 hX hbl hbA hS hi3 dL_law_1301 ?_
  refine lv_aload_n S.1 S.2.1 dL_law_1302 rfl (lv_at hl 0 rfl) ?_
  refine lv_iload_n S.1 S.2.1 dL_law_1303 rfl (lv_at hl 3 rfl) ?_
  refine lv_iconst (v := 4) S.1 S.2.1 dL_law_1304 (by decide) ?_
  refine lv_iadd S.1 S.2.1 dL_law_1305 ?_
  refine sldE S.1 S.2.1 hX hbl hbA hS hi4 dL_law_1306 ?_
  refine lv_aload_n S.1 S.2.1 dL_law_1307 rfl (lv_at hl 0 rfl) ?_
  refine lv_iload_n S.1 S.2.1 dL_law_1308 rfl (lv_at hl 3 rfl) ?_
  refine lv_iconst (v := 5) S.1 S.2.1 dL_law_1309 (by decide) ?_
  refine lv_iadd S.1 S.2.1 dL_law_1310 ?_
  refine sldE S.1 S.2.1 hX hbl hbA hS hi5 dL_law_1311 ?_
  refine sC_i hP hD hS hA (va_runVW (As := [.int a1, .int a2, .int a3, .int a4, .int a5]) (rest := []) S (metX0_copy_NJ l hfl hf) (cwVW 5 S.2.2.2.2 q1049 q1050 q1051 q54 q1052 pdX0_copy ⟨Nat.le_of_ble_eq_true rfl, Nat.le_of_ble_eq_true rfl⟩) ⟨ablind, va_recv hK hP (ci := 0) (q0 := 0) rfl rfl, (spre hK hE hP hD hS hA).2⟩ rfl rfl hl.1 rfl (lv_room (Nat.le_of_ble_eq_true rfl)) dL_law_1312 hroom) (fun r u H locs hf hP hD hS => ?_)
  have hP := hP.perm permM
  have hD := hD.perm permM
  refine lv_aload_n S.1 S.2.1 dL_law_1315 rfl (lv_at hl 2 rfl) ?_
  refine lv_aload_n S.1 S.2.1 dL_law_1316 rfl (lv_at hl 0 rfl) ?_
  refine lv_iload_n S.1 S.2.1 dL_law_1317 rfl (lv_at hl 3 rfl) ?_
  refine lv_iconst (v := 1) S.1 S.2.1 dL_law_1318 (by decide) ?_
  refine lv_iadd S.1 S.2.1 dL_law_1319 ?_
  refine sldE S.1 S.2.1 hX hbl hbA hS hi1 dL_law_1320 ?_
  refine lv_aload_n S.1 S.2.1 dL_law_1321 rfl (lv_at hl 0 rfl) ?_
  refine lv_iload_n S.1 S.2.1 dL_law_1322 rfl (lv_at hl 3 rfl) ?_
  refine lv_iconst (v := 2) S.1 S.2.1 dL_law_1323 (by decide) ?_
  refine lv_iadd S.1 S.2.1 dL_law_1324 ?_
  refine sldE S.1 S.2.1 hX hbl hbA hS hi2 dL_law_1325 ?_
  refine lv_aload_n S.1 S.2.1 dL_law_1326 rfl (lv_at hl 0 rfl) ?_
  refine lv_iload_n S.1 S.2.1 dL_law_1327 rfl (lv_at hl 3 rfl) ?_
  refine lv_iconst (v := 3) S.1 S.2.1 dL_law_1328 (by decide) ?_
  refine lv_iadd S.1 S.2.1 dL_law_1329 ?_
  refine sldE S.1 S.2.1 hX hbl hbA hS hi3 dL_law_1330 ?_
  refine lv_aload_n S.1 S.2.1 dL_law_1331 rfl (lv_at hl 0 rfl) ?_
  refine lv_iload_n S.1 S.2.1 dL_law_1332 rfl (lv_at hl 3 rfl) ?_
  refine lv_iconst (v := 4) S.1 S.2.1 dL_law_1333 (by decide) ?_
  refine lv_iadd S.1 S.2.1 dL_law_1334 ?_
  refine sldE S.1 S.2.1 hX hbl hbA hS hi4 dL_law_1335 ?_
  refine lv_aload_n S.1 S.2.1 dL_law_1336 rfl (lv_at hl 0 rfl) ?_
  refine lv_iload_n S.1 S.2.1 dL_law_1337 rfl (lv_at hl 3 rfl) ?_
  refine lv_iconst (v := 5) S.1 S.2.1 dL_law_1338 (by decide) ?_
  refine lv_iadd S.1 S.2.1 dL_law_1339 ?_
  refine sldE S.1 S.2.1 hX hbl hbA hS hi5 dL_law_1340 ?_
  refine sM_i (As := [.int a1, .int a2, .int a3, .int a4, .int a5]) (rest := [.int r]) S hK rfl rfl (fun _ => rfl) hP hD hS (metX3_copy l hj hf) (lw_V q1598 q1599 q1600 q60 q1601) rfl pdX3_copy ⟨rfl, rfl⟩ ⟨Nat.le_of_ble_eq_true rfl, Nat.le_of_ble_eq_true rfl⟩ rfl hl.1 rfl (Nat.le_of_ble_eq_true rfl) dL_law_1341 hroom (fun r' u' H locs hf hP hD hS => ?_)
  obtain ⟨e1, hf⟩ := hf
  refine lv_icmp_eq (tgt := 1349) S.1 S.2.1 dL_law_1344 (by decide) (fun c_1 => ?_) (fun c_1 => ?_)
  · exact kk u u' H locs hf ⟨hP.perm permN, hD.perm permN⟩ hS
  · exact absurd e1 c_1
set_option maxHeartbeats 4000000 in
set_option maxRecDepth 100000 in
theorem lo_copy_BN (hC : LC p l s m c b L xs A dC dI dA eA mi) (hj : mJ hm) {steps : Int32} {draw : Int32} {typed : Int32} {at_ : Int32} {isImage : Int32} {idraw : Int32} {gd : (Nat → Int32)} {gro : Int64} {grt : Int32} {td : (Nat → Int32)} {tro : Int64} {trt : Int32} {rd : (Nat → Int32)} {rro : Int64} {rrt : Int32} {imd : (Nat → Int32)} {imro : Int64} {imrt : Int32} {owners : (Nat → Int32)} {tour : (Nat → Int32)} {best : (Nat → Int32)} {tape : (Nat → Int32)} {signs : (Nat → Int32)} {acts : (Nat → Int32)} {iown : (Nat → Int32)} {taken : (Nat → Int64)} {shf : (Nat → Option Nat)} {hd : Nat} {rn : Nat} {rf : (Nat → Int32)} {hd2 : Nat} {ra : Nat} {m_depths : (Nat → Int32)} {m_owners : (Nat → Int32)} {m_roofs : Int64} {m_rate : Int32} {m_undos : (Nat → Int32)} {m_undoMany : Int32} {m_drawn : Int32} {m_dug : Int64} {m_deep : Int64} {m_holes : (Nat → Int64)} {m_holeMany : Int32} {m_tape : (Nat → Int32)} {m_taped : Int32} {m_place : Int32} {m_reads : Int32} {m_read_ : (Nat → Int32)} {m_row : (Nat → Int32)} {m_order : (Nat → Int32)} {m_bestOrder : (Nat → Int32)} {m_nears : (Nat → Int32)} {m_isKept : Int32} {m_keptRoofs : Int64} {m_kept : (Nat → Int32)} {m_lanes : (Nat → Int32)} {m_rowSizes : (Nat → Int32)} {m_items : (Nat → Int64)} {m_moved : (Nat → Int64)} {PP : (Nat → Int64) → (Nat → Int64) → Prop} (hf : wX0_copy_BN (fun r => wX3_copy (fun r' q0 q1 => r = r' ∧ PP q0 q1) m_lanes m_rowSizes m_items m_moved a1 a2 a3 a4 a5) shf hd hd2 a1 a2 a3 a4 a5) (hPD : PD A dC dI ([((h 0), .inr (0, [.ref (h 1), .ref (h 3), .ref (h 9), .ref (h 17), .ref (h 10), .ref (h 11), .int steps, .int draw, .ref (h 12), .int typed, .int at_, .ref (h 5), .ref (h 13), .ref (h 14), .int isImage, .ref (h 7), .ref (h 15), .ref (h 18), .int idraw, .ref (h 19), .ref (h 16)])), ((h 1), .inr (1, [.ref (h 2), .long gro, .int grt])), ((h 2), .inl (dA 0, 36, .inl gd)), ((h 3), .inr (1, [.ref (h 4), .long tro, .int trt])), ((h 4), .inl (dA 0, 36, .inl td)), ((h 5), .inr (1, [.ref (h 6), .long rro, .int rrt])), ((h 6), .inl (dA 0, 36, .inl rd)), ((h 7), .inr (1, [.ref (h 8), .long imro, .int imrt])), ((h 8), .inl (dA 0, 36, .inl imd)), ((h 9), .inl (dA 0, 36, .inl owners)), ((h 10), .inl (dA 1, 8, .inl tour)), ((h 11), .inl (dA 1, 8, .inl best)), ((h 12), .inl (dA 0, 160, .inl tape)), ((h 13), .inl (dA 0, 36, .inl signs)), ((h 14), .inl (dA 0, 320, .inl acts)), ((h 15), .inl (dA 0, 36, .inl iown)), ((h 16), .inl (dA 2, 36, .inr (.inl taken))), ((h 19), .inl (dA 5, 4, .inr (.inr (.inr (.inr shf))))), (hd, .inr (2, [.ref ra])), (ra, .inl (dA 0, rn, .inl rf)), (hd2, .inr (2, [.null]))] ++ ((wM hm dA m_depths m_owners m_roofs m_rate m_undos m_undoMany m_drawn m_dug m_deep m_holes m_holeMany m_tape m_taped m_place m_reads m_read_ m_row m_order m_bestOrder m_nears m_isKept m_keptRoofs m_kept m_lanes m_rowSizes m_items m_moved) ++ wr)) H) (hS : va_S A s.heap H locs) (hl : lv_has ls 4 [(0, .ref b), (1, .ref (h 0)), (2, .ref (hm 0)), (3, .int ix)]) (hi1 : vp_in (ix + 1) L ∧ xs (ix + 1).toNatClampNeg = a1) (hi2 : vp_in (ix + 2) L ∧ xs (ix + 2).toNatClampNeg = a2) (hi3 : vp_in (ix + 3) L ∧ xs (ix + 3).toNatClampNeg = a3) (hi4 : vp_in (ix + 4) L ∧ xs (ix + 4).toNatClampNeg = a4) (hi5 : vp_in (ix + 5) L ∧ xs (ix + 5).toNatClampNeg = a5) (hroom : kc + 3 ≤ room_1.cells ∧ ks + 500 ≤ room_1.slots)
    (kk : ∀ (u : Unit) (u' : (Nat → Int64) × (Nat → Int64)) (H1 : Heap) (locs1 : List Loc), PP u'.1 u'.2 → PD A dC dI ([((h 0), .inr (0, [.ref (h 1), .ref (h 3), .ref (h 9), .ref (h 17), .ref (h 10), .ref (h 11), .int steps, .int draw, .ref (h 12), .int typed, .int at_, .ref (h 5), .ref (h 13), .ref (h 14), .int isImage, .ref (h 7), .ref (h 15), .ref (h 18), .int idraw, .ref (h 19), .ref (h 16)])), ((h 1), .inr (1, [.ref (h 2), .long gro, .int grt])), ((h 2), .inl (dA 0, 36, .inl gd)), ((h 3), .inr (1, [.ref (h 4), .long tro, .int trt])), ((h 4), .inl (dA 0, 36, .inl td)), ((h 5), .inr (1, [.ref (h 6), .long rro, .int rrt])), ((h 6), .inl (dA 0, 36, .inl rd)), ((h 7), .inr (1, [.ref (h 8), .long imro, .int imrt])), ((h 8), .inl (dA 0, 36, .inl imd)), ((h 9), .inl (dA 0, 36, .inl owners)), ((h 10), .inl (dA 1, 8, .inl tour)), ((h 11), .inl (dA 1, 8, .inl best)), ((h 12), .inl (dA 0, 160, .inl tape)), ((h 13), .inl (dA 0, 36, .inl signs)), ((h 14), .inl (dA 0, 320, .inl acts)), ((h 15), .inl (dA 0, 36, .inl iown)), ((h 16), .inl (dA 2, 36, .inr (.inl taken))), ((h 19), .inl (dA 5, 4, .inr (.inr (.inr (.inr shf))))), (hd, .inr (2, [.ref ra])), (ra, .inl (dA 0, rn, .inl rf)), (hd2, .inr (2, [.null]))] ++ ((wM hm dA m_depths m_owners m_roofs m_rate m_undos m_undoMany m_drawn m_dug m_deep m_holes m_holeMany m_tape m_taped m_place m_reads m_read_ m_row m_order m_bestOrder m_nears m_isKept m_keptRoofs m_kept m_lanes m_rowSizes u'.1 u'.2) ++ wr)) H1 → va_S A s.heap H1 locs1 → W p l e room_1 s m #[Value.ref b] below meth c H1 locs1 (kc + 3) (ks + 500) Q (F0 m 1349 ls [])) : W p l e room_1 s m #[Value.ref b] below meth c H locs kc ks Q (F0 m 1286 ls []) := by
  obtain ⟨S, hX, hbl, hbA, hK, hE, hA, hfl⟩ := hC
  obtain ⟨hP, hD⟩ := hPD
  refine lv_aload_n S.1 S.2.1 dL_law_1286 rfl (lv_at hl 1 rfl) ?_
  refine lv_aload_n S.1 S.2.1 dL_law_1287 rfl (lv_at hl 0 rfl) ?_
  refine lv_iload_n S.1 S.2.1 dL_law_1288 rfl (lv_at hl 3 rfl) ?_
  refine lv_iconst (v := 1) S.1 S.2.1 dL_law_1289 (by decide) ?_
  refine lv_iadd S.1 S.2.1 dL_law_1290 ?_
  refine sldE S.1 S.2.1 hX hbl hbA hS hi1 dL_law_1291 ?_
  refine lv_aload_n S.1 S.2.1 dL_law_1292 rfl (lv_at hl 0 rfl) ?_
  refine lv_iload_n S.1 S.2.1 dL_law_1293 rfl (lv_at hl 3 rfl) ?_
  refine lv_iconst (v := 2) S.1 S.2.1 dL_law_1294 (by decide) ?_
  refine lv_iadd S.1 S.2.1 dL_law_1295 ?_
  refine sldE S.1 S.2.1 hX hbl hbA hS hi2 dL_law_1296 ?_
  refine lv_aload_n S.1 S.2.1 dL_law_1297 rfl (lv_at hl 0 rfl) ?_
  refine lv_iload_n S.1 S.2.1 dL_law_1298 rfl (lv_at hl 3 rfl) ?_
  refine lv_iconst (v := 3) S.1 S.2.1 dL_law_1299 (by decide) ?_
  refine lv_iadd S.1 S.2.1 dL_law_1300 ?_
  refine sldE S.1 S.2.1 hX hbl hbA hS hi3 dL_law_1301 ?_
  refine lv_aload_n S.1 S.2.1 dL_law_1302 rfl (lv_at hl 0 rfl) ?_
  refine lv_iload_n S.1 S.2.1 dL_law_1303 rfl (lv_at hl 3 rfl) ?_
  refine lv_iconst (v := 4) S.1 S.2.1 dL_law_1304 (by decide) ?_
  refine lv_iadd S.1 S.2.1 dL_law_1305 ?_
  refine sldE S.1 S.2.1 hX hbl hbA hS hi4 dL_law_1306 ?_
  refine lv_aload_n S.1 S.2.1 dL_law_1307 rfl (lv_at hl 0 rfl) ?_
  refine lv_iload_n S.1 S.2.1 dL_law_1308 rfl (lv_at hl 3 rfl) ?_
  refine lv_iconst (v := 5) S.1 S.2.1 dL_law_1309 (by decide) ?_
  refine lv_iadd S.1 S.2.1 dL_law_1310 ?_
  refine sldE S.1 S.2.1 hX hbl hbA hS hi5 dL_law_1311 ?_
  refine sC_i hP hD hS hA (va_runVW (As := [.int a1, .int a2, .int a3, .int a4, .int a5]) (rest := []) S (metX0_copy_BN l hfl hf) (cwVW 5 S.2.2.2.2 q1049 q1050 q1051 q54 q1052 pdX0_copy ⟨Nat.le_of_ble_eq_true rfl, Nat.le_of_ble_eq_true rfl⟩) ⟨ablind, va_recv hK hP (ci := 0) (q0 := 0) rfl rfl, (spre hK hE hP hD hS hA).2⟩ rfl rfl hl.1 rfl (lv_room (Nat.le_of_ble_eq_true rfl)) dL_law_1312 hroom) (fun r u H locs hf hP hD hS => ?_)
  have hP := hP.perm permM
  have hD := hD.perm permM
  refine lv_aload_n S.1 S.2.1 dL_law_1315 rfl (lv_at hl 2 rfl) ?_
  refine lv_aload_n S.1 S.2.1 dL_law_1316 rfl (lv_at hl 0 rfl) ?_
  refine lv_iload_n S.1 S.2.1 dL_law_1317 rfl (lv_at hl 3 rfl) ?_
  refine lv_iconst (v := 1) S.1 S.2.1 dL_law_1318 (by decide) ?_
  refine lv_iadd S.1 S.2.1 dL_law_1319 ?_
  refine sldE S.1 S.2.1 hX hbl hbA hS hi1 dL_law_1320 ?_
  refine lv_aload_n S.1 S.2.1 dL_law_1321 rfl (lv_at hl 0 rfl) ?_
  refine lv_iload_n S.1 S.2.1 dL_law_1322 rfl (lv_at hl 3 rfl) ?_
  refine lv_iconst (v := 2) S.1 S.2.1 dL_law_1323 (by decide) ?_
  refine lv_iadd S.1 S.2.1 dL_law_1324 ?_
  refine sldE S.1 S.2.1 hX hbl hbA hS hi2 dL_law_1325 ?_
  refine lv_aload_n S.1 S.2.1 dL_law_1326 rfl (lv_at hl 0 rfl) ?_
  refine lv_iload_n S.1 S.2.1 dL_law_1327 rfl (lv_at hl 3 rfl) ?_
  refine lv_iconst (v := 3) S.1 S.2.1 dL_law_1328 (by decide) ?_
  refine lv_iadd S.1 S.2.1 dL_law_1329 ?_
  refine sldE S.1 S.2.1 hX hbl hbA hS hi3 dL_law_1330 ?_
  refine lv_aload_n S.1 S.2.1 dL_law_1331 rfl (lv_at hl 0 rfl) ?_
  refine lv_iload_n S.1 S.2.1 dL_law_1332 rfl (lv_at hl 3 rfl) ?_
  refine lv_iconst (v := 4) S.1 S.2.1 dL_law_1333 (by decide) ?_
  refine lv_iadd S.1 S.2.1 dL_law_1334 ?_
  refine sldE S.1 S.2.1 hX hbl hbA hS hi4 dL_law_1335 ?_
  refine lv_aload_n S.1 S.2.1 dL_law_1336 rfl (lv_at hl 0 rfl) ?_
  refine lv_iload_n S.1 S.2.1 dL_law_1337 rfl (lv_at hl 3 rfl) ?_
  refine lv_iconst (v := 5) S.1 S.2.1 dL_law_1338 (by decide) ?_
  refine lv_iadd S.1 S.2.1 dL_law_1339 ?_
  refine sldE S.1 S.2.1 hX hbl hbA hS hi5 dL_law_1340 ?_
  refine sM_i (As := [.int a1, .int a2, .int a3, .int a4, .int a5]) (rest := [.int r]) S hK rfl rfl (fun _ => rfl) hP hD hS (metX3_copy l hj hf) (lw_V q1598 q1599 q1600 q60 q1601) rfl pdX3_copy ⟨rfl, rfl⟩ ⟨Nat.le_of_ble_eq_true rfl, Nat.le_of_ble_eq_true rfl⟩ rfl hl.1 rfl (Nat.le_of_ble_eq_true rfl) dL_law_1341 hroom (fun r' u' H locs hf hP hD hS => ?_)
  obtain ⟨e1, hf⟩ := hf
  refine lv_icmp_eq (tgt := 1349) S.1 S.2.1 dL_law_1344 (by decide) (fun c_1 => ?_) (fun c_1 => ?_)
  · exact kk u u' H locs hf ⟨hP.perm permN, hD.perm permN⟩ hS
  · exact absurd e1 c_1
set_option maxHeartbeats 4000000 in
set_option maxRecDepth 100000 in
theorem lo_copy_BB (hC : LC p l s m c b L xs A dC dI dA eA mi) (hj : mJ hm) {steps : Int32} {draw : Int32} {typed : Int32} {at_ : Int32} {isImage : Int32} {idraw : Int32} {gd : (Nat → Int32)} {gro : Int64} {grt : Int32} {td : (Nat → Int32)} {tro : Int64} {trt : Int32} {rd : (Nat → Int32)} {rro : Int64} {rrt : Int32} {imd : (Nat → Int32)} {imro : Int64} {imrt : Int32} {owners : (Nat → Int32)} {tour : (Nat → Int32)} {best : (Nat → Int32)} {tape : (Nat → Int32)} {signs : (Nat → Int32)} {acts : (Nat → Int32)} {iown : (Nat → Int32)} {taken : (Nat → Int64)} {shf : (Nat → Option Nat)} {hd : Nat} {rn : Nat} {rf : (Nat → Int32)} {hd2 : Nat} {rn2 : Nat} {rf2 : (Nat → Int32)} {ra : Nat} {ra2 : Nat} {m_depths : (Nat → Int32)} {m_owners : (Nat → Int32)} {m_roofs : Int64} {m_rate : Int32} {m_undos : (Nat → Int32)} {m_undoMany : Int32} {m_drawn : Int32} {m_dug : Int64} {m_deep : Int64} {m_holes : (Nat → Int64)} {m_holeMany : Int32} {m_tape : (Nat → Int32)} {m_taped : Int32} {m_place : Int32} {m_reads : Int32} {m_read_ : (Nat → Int32)} {m_row : (Nat → Int32)} {m_order : (Nat → Int32)} {m_bestOrder : (Nat → Int32)} {m_nears : (Nat → Int32)} {m_isKept : Int32} {m_keptRoofs : Int64} {m_kept : (Nat → Int32)} {m_lanes : (Nat → Int32)} {m_rowSizes : (Nat → Int32)} {m_items : (Nat → Int64)} {m_moved : (Nat → Int64)} {PP : (Nat → Int32) → (Nat → Int64) → (Nat → Int64) → Prop} (hf : wX0_copy_BB (fun r p0 => wX3_copy (fun r' q0 q1 => r = r' ∧ PP p0 q0 q1) m_lanes m_rowSizes m_items m_moved a1 a2 a3 a4 a5) shf hd rn rf hd2 rn2 rf2 a1 a2 a3 a4 a5) (hPD : PD A dC dI ([((h 0), .inr (0, [.ref (h 1), .ref (h 3), .ref (h 9), .ref (h 17), .ref (h 10), .ref (h 11), .int steps, .int draw, .ref (h 12), .int typed, .int at_, .ref (h 5), .ref (h 13), .ref (h 14), .int isImage, .ref (h 7), .ref (h 15), .ref (h 18), .int idraw, .ref (h 19), .ref (h 16)])), ((h 1), .inr (1, [.ref (h 2), .long gro, .int grt])), ((h 2), .inl (dA 0, 36, .inl gd)), ((h 3), .inr (1, [.ref (h 4), .long tro, .int trt])), ((h 4), .inl (dA 0, 36, .inl td)), ((h 5), .inr (1, [.ref (h 6), .long rro, .int rrt])), ((h 6), .inl (dA 0, 36, .inl rd)), ((h 7), .inr (1, [.ref (h 8), .long imro, .int imrt])), ((h 8), .inl (dA 0, 36, .inl imd)), ((h 9), .inl (dA 0, 36, .inl owners)), ((h 10), .inl (dA 1, 8, .inl tour)), ((h 11), .inl (dA 1, 8, .inl best)), ((h 12), .inl (dA 0, 160, .inl tape)), ((h 13), .inl (dA 0, 36, .inl signs)), ((h 14), .inl (dA 0, 320, .inl acts)), ((h 15), .inl (dA 0, 36, .inl iown)), ((h 16), .inl (dA 2, 36, .inr (.inl taken))), ((h 19), .inl (dA 5, 4, .inr (.inr (.inr (.inr shf))))), (hd, .inr (2, [.ref ra])), (ra, .inl (dA 0, rn, .inl rf)), (hd2, .inr (2, [.ref ra2])), (ra2, .inl (dA 0, rn2, .inl rf2))] ++ ((wM hm dA m_depths m_owners m_roofs m_rate m_undos m_undoMany m_drawn m_dug m_deep m_holes m_holeMany m_tape m_taped m_place m_reads m_read_ m_row m_order m_bestOrder m_nears m_isKept m_keptRoofs m_kept m_lanes m_rowSizes m_items m_moved) ++ wr)) H) (hS : va_S A s.heap H locs) (hl : lv_has ls 4 [(0, .ref b), (1, .ref (h 0)), (2, .ref (hm 0)), (3, .int ix)]) (hi1 : vp_in (ix + 1) L ∧ xs (ix + 1).toNatClampNeg = a1) (hi2 : vp_in (ix + 2) L ∧ xs (ix + 2).toNatClampNeg = a2) (hi3 : vp_in (ix + 3) L ∧ xs (ix + 3).toNatClampNeg = a3) (hi4 : vp_in (ix + 4) L ∧ xs (ix + 4).toNatClampNeg = a4) (hi5 : vp_in (ix + 5) L ∧ xs (ix + 5).toNatClampNeg = a5) (hroom : kc + 3 ≤ room_1.cells ∧ ks + 500 ≤ room_1.slots)
    (kk : ∀ (u : (Nat → Int32)) (u' : (Nat → Int64) × (Nat → Int64)) (H1 : Heap) (locs1 : List Loc), PP u u'.1 u'.2 → PD A dC dI ([((h 0), .inr (0, [.ref (h 1), .ref (h 3), .ref (h 9), .ref (h 17), .ref (h 10), .ref (h 11), .int steps, .int draw, .ref (h 12), .int typed, .int at_, .ref (h 5), .ref (h 13), .ref (h 14), .int isImage, .ref (h 7), .ref (h 15), .ref (h 18), .int idraw, .ref (h 19), .ref (h 16)])), ((h 1), .inr (1, [.ref (h 2), .long gro, .int grt])), ((h 2), .inl (dA 0, 36, .inl gd)), ((h 3), .inr (1, [.ref (h 4), .long tro, .int trt])), ((h 4), .inl (dA 0, 36, .inl td)), ((h 5), .inr (1, [.ref (h 6), .long rro, .int rrt])), ((h 6), .inl (dA 0, 36, .inl rd)), ((h 7), .inr (1, [.ref (h 8), .long imro, .int imrt])), ((h 8), .inl (dA 0, 36, .inl imd)), ((h 9), .inl (dA 0, 36, .inl owners)), ((h 10), .inl (dA 1, 8, .inl tour)), ((h 11), .inl (dA 1, 8, .inl best)), ((h 12), .inl (dA 0, 160, .inl tape)), ((h 13), .inl (dA 0, 36, .inl signs)), ((h 14), .inl (dA 0, 320, .inl acts)), ((h 15), .inl (dA 0, 36, .inl iown)), ((h 16), .inl (dA 2, 36, .inr (.inl taken))), ((h 19), .inl (dA 5, 4, .inr (.inr (.inr (.inr shf))))), (hd, .inr (2, [.ref ra])), (ra, .inl (dA 0, rn, .inl rf)), (hd2, .inr (2, [.ref ra2])), (ra2, .inl (dA 0, rn2, .inl u))] ++ ((wM hm dA m_depths m_owners m_roofs m_rate m_undos m_undoMany m_drawn m_dug m_deep m_holes m_holeMany m_tape m_taped m_place m_reads m_read_ m_row m_order m_bestOrder m_nears m_isKept m_keptRoofs m_kept m_lanes m_rowSizes u'.1 u'.2) ++ wr)) H1 → va_S A s.heap H1 locs1 → W p l e room_1 s m #[Value.ref b] below meth c H1 locs1 (kc + 3) (ks + 500) Q (F0 m 1349 ls [])) : W p l e room_1 s m #[Value.ref b] below meth c H locs kc ks Q (F0 m 1286 ls []) := by
  obtain ⟨S, hX, hbl, hbA, hK, hE, hA, hfl⟩ := hC
  obtain ⟨hP, hD⟩ := hPD
  refine lv_aload_n S.1 S.2.1 dL_law_1286 rfl (lv_at hl 1 rfl) ?_
  refine lv_aload_n S.1 S.2.1 dL_law_1287 rfl (lv_at hl 0 rfl) ?_
  refine lv_iload_n S.1 S.2.1 dL_law_1288 rfl (lv_at hl 3 rfl) ?_
  refine lv_iconst (v := 1) S.1 S.2.1 dL_law_1289 (by decide) ?_
  refine lv_iadd S.1 S.2.1 dL_law_1290 ?_
  refine sldE S.1 S.2.1 hX hbl hbA hS hi1 dL_law_1291 ?_
  refine lv_aload_n S.1 S.2.1 dL_law_1292 rfl (lv_at hl 0 rfl) ?_
  refine lv_iload_n S.1 S.2.1 dL_law_1293 rfl (lv_at hl 3 rfl) ?_
  refine lv_iconst (v := 2) S.1 S.2.1 dL_law_1294 (by decide) ?_
  refine lv_iadd S.1 S.2.1 dL_law_1295 ?_
  refine sldE S.1 S.2.1 hX hbl hbA hS hi2 dL_law_1296 ?_
  refine lv_aload_n S.1 S.2.1 dL_law_1297 rfl (lv_at hl 0 rfl) ?_
  refine lv_iload_n S.1 S.2.1 dL_law_1298 rfl (lv_at hl 3 rfl) ?_
  refine lv_iconst (v := 3) S.1 S.2.1 dL_law_1299 (by decide) ?_
  refine lv_iadd S.1 S.2.1 dL_law_1300 ?_
  refine sldE S.1 S.2.1 hX hbl hbA hS hi3 dL_law_1301 ?_
  refine lv_aload_n S.1 S.2.1 dL_law_1302 rfl (lv_at hl 0 rfl) ?_
  refine lv_iload_n S.1 S.2.1 dL_law_1303 rfl (lv_at hl 3 rfl) ?_
  refine lv_iconst (v := 4) S.1 S.2.1 dL_law_1304 (by decide) ?_
  refine lv_iadd S.1 S.2.1 dL_law_1305 ?_
  refine sldE S.1 S.2.1 hX hbl hbA hS hi4 dL_law_1306 ?_
  refine lv_aload_n S.1 S.2.1 dL_law_1307 rfl (lv_at hl 0 rfl) ?_
  refine lv_iload_n S.1 S.2.1 dL_law_1308 rfl (lv_at hl 3 rfl) ?_
  refine lv_iconst (v := 5) S.1 S.2.1 dL_law_1309 (by decide) ?_
  refine lv_iadd S.1 S.2.1 dL_law_1310 ?_
  refine sldE S.1 S.2.1 hX hbl hbA hS hi5 dL_law_1311 ?_
  refine sC_i hP hD hS hA (va_runVW (As := [.int a1, .int a2, .int a3, .int a4, .int a5]) (rest := []) S (metX0_copy_BB l hfl hf) (cwVW 5 S.2.2.2.2 q1049 q1050 q1051 q54 q1052 pdX0_copy ⟨Nat.le_of_ble_eq_true rfl, Nat.le_of_ble_eq_true rfl⟩) ⟨ablind, va_recv hK hP (ci := 0) (q0 := 0) rfl rfl, (spre hK hE hP hD hS hA).2⟩ rfl rfl hl.1 rfl (lv_room (Nat.le_of_ble_eq_true rfl)) dL_law_1312 hroom) (fun r u H locs hf hP hD hS => ?_)
  have hP := hP.perm permM
  have hD := hD.perm permM
  refine lv_aload_n S.1 S.2.1 dL_law_1315 rfl (lv_at hl 2 rfl) ?_
  refine lv_aload_n S.1 S.2.1 dL_law_1316 rfl (lv_at hl 0 rfl) ?_
  refine lv_iload_n S.1 S.2.1 dL_law_1317 rfl (lv_at hl 3 rfl) ?_
  refine lv_iconst (v := 1) S.1 S.2.1 dL_law_1318 (by decide) ?_
  refine lv_iadd S.1 S.2.1 dL_law_1319 ?_
  refine sldE S.1 S.2.1 hX hbl hbA hS hi1 dL_law_1320 ?_
  refine lv_aload_n S.1 S.2.1 dL_law_1321 rfl (lv_at hl 0 rfl) ?_
  refine lv_iload_n S.1 S.2.1 dL_law_1322 rfl (lv_at hl 3 rfl) ?_
  refine lv_iconst (v := 2) S.1 S.2.1 dL_law_1323 (by decide) ?_
  refine lv_iadd S.1 S.2.1 dL_law_1324 ?_
  refine sldE S.1 S.2.1 hX hbl hbA hS hi2 dL_law_1325 ?_
  refine lv_aload_n S.1 S.2.1 dL_law_1326 rfl (lv_at hl 0 rfl) ?_
  refine lv_iload_n S.1 S.2.1 dL_law_1327 rfl (lv_at hl 3 rfl) ?_
  refine lv_iconst (v := 3) S.1 S.2.1 dL_law_1328 (by decide) ?_
  refine lv_iadd S.1 S.2.1 dL_law_1329 ?_
  refine sldE S.1 S.2.1 hX hbl hbA hS hi3 dL_law_1330 ?_
  refine lv_aload_n S.1 S.2.1 dL_law_1331 rfl (lv_at hl 0 rfl) ?_
  refine lv_iload_n S.1 S.2.1 dL_law_1332 rfl (lv_at hl 3 rfl) ?_
  refine lv_iconst (v := 4) S.1 S.2.1 dL_law_1333 (by decide) ?_
  refine lv_iadd S.1 S.2.1 dL_law_1334 ?_
  refine sldE S.1 S.2.1 hX hbl hbA hS hi4 dL_law_1335 ?_
  refine lv_aload_n S.1 S.2.1 dL_law_1336 rfl (lv_at hl 0 rfl) ?_
  refine lv_iload_n S.1 S.2.1 dL_law_1337 rfl (lv_at hl 3 rfl) ?_
  refine lv_iconst (v := 5) S.1 S.2.1 dL_law_1338 (by decide) ?_
  refine lv_iadd S.1 S.2.1 dL_law_1339 ?_
  refine sldE S.1 S.2.1 hX hbl hbA hS hi5 dL_law_1340 ?_
  refine sM_i (As := [.int a1, .int a2, .int a3, .int a4, .int a5]) (rest := [.int r]) S hK rfl rfl (fun _ => rfl) hP hD hS (metX3_copy l hj hf) (lw_V q1598 q1599 q1600 q60 q1601) rfl pdX3_copy ⟨rfl, rfl⟩ ⟨Nat.le_of_ble_eq_true rfl, Nat.le_of_ble_eq_true rfl⟩ rfl hl.1 rfl (Nat.le_of_ble_eq_true rfl) dL_law_1341 hroom (fun r' u' H locs hf hP hD hS => ?_)
  obtain ⟨e1, hf⟩ := hf
  refine lv_icmp_eq (tgt := 1349) S.1 S.2.1 dL_law_1344 (by decide) (fun c_1 => ?_) (fun c_1 => ?_)
  · exact kk u u' H locs hf ⟨hP.perm permN, hD.perm permN⟩ hS
  · exact absurd e1 c_1
set_option maxHeartbeats 4000000 in
set_option maxRecDepth 100000 in
theorem lo_copy_BS (hC : LC p l s m c b L xs A dC dI dA eA mi) (hj : mJ hm) {steps : Int32} {draw : Int32} {typed : Int32} {at_ : Int32} {isImage : Int32} {idraw : Int32} {gd : (Nat → Int32)} {gro : Int64} {grt : Int32} {td : (Nat → Int32)} {tro : Int64} {trt : Int32} {rd : (Nat → Int32)} {rro : Int64} {rrt : Int32} {imd : (Nat → Int32)} {imro : Int64} {imrt : Int32} {owners : (Nat → Int32)} {tour : (Nat → Int32)} {best : (Nat → Int32)} {tape : (Nat → Int32)} {signs : (Nat → Int32)} {acts : (Nat → Int32)} {iown : (Nat → Int32)} {taken : (Nat → Int64)} {shf : (Nat → Option Nat)} {hd : Nat} {rn : Nat} {rf : (Nat → Int32)} {hd2 : Nat} {rn2 : Nat} {rf2 : (Nat → Int32)} {ra : Nat} {ra2 : Nat} {m_depths : (Nat → Int32)} {m_owners : (Nat → Int32)} {m_roofs : Int64} {m_rate : Int32} {m_undos : (Nat → Int32)} {m_undoMany : Int32} {m_drawn : Int32} {m_dug : Int64} {m_deep : Int64} {m_holes : (Nat → Int64)} {m_holeMany : Int32} {m_tape : (Nat → Int32)} {m_taped : Int32} {m_place : Int32} {m_reads : Int32} {m_read_ : (Nat → Int32)} {m_row : (Nat → Int32)} {m_order : (Nat → Int32)} {m_bestOrder : (Nat → Int32)} {m_nears : (Nat → Int32)} {m_isKept : Int32} {m_keptRoofs : Int64} {m_kept : (Nat → Int32)} {m_lanes : (Nat → Int32)} {m_rowSizes : (Nat → Int32)} {m_items : (Nat → Int64)} {m_moved : (Nat → Int64)} {PP : (Nat → Int64) → (Nat → Int64) → Prop} (hf : wX0_copy_BS (fun r => wX3_copy (fun r' q0 q1 => r = r' ∧ PP q0 q1) m_lanes m_rowSizes m_items m_moved a1 a2 a3 a4 a5) shf hd rn hd2 rn2 a1 a2 a3 a4 a5) (hPD : PD A dC dI ([((h 0), .inr (0, [.ref (h 1), .ref (h 3), .ref (h 9), .ref (h 17), .ref (h 10), .ref (h 11), .int steps, .int draw, .ref (h 12), .int typed, .int at_, .ref (h 5), .ref (h 13), .ref (h 14), .int isImage, .ref (h 7), .ref (h 15), .ref (h 18), .int idraw, .ref (h 19), .ref (h 16)])), ((h 1), .inr (1, [.ref (h 2), .long gro, .int grt])), ((h 2), .inl (dA 0, 36, .inl gd)), ((h 3), .inr (1, [.ref (h 4), .long tro, .int trt])), ((h 4), .inl (dA 0, 36, .inl td)), ((h 5), .inr (1, [.ref (h 6), .long rro, .int rrt])), ((h 6), .inl (dA 0, 36, .inl rd)), ((h 7), .inr (1, [.ref (h 8), .long imro, .int imrt])), ((h 8), .inl (dA 0, 36, .inl imd)), ((h 9), .inl (dA 0, 36, .inl owners)), ((h 10), .inl (dA 1, 8, .inl tour)), ((h 11), .inl (dA 1, 8, .inl best)), ((h 12), .inl (dA 0, 160, .inl tape)), ((h 13), .inl (dA 0, 36, .inl signs)), ((h 14), .inl (dA 0, 320, .inl acts)), ((h 15), .inl (dA 0, 36, .inl iown)), ((h 16), .inl (dA 2, 36, .inr (.inl taken))), ((h 19), .inl (dA 5, 4, .inr (.inr (.inr (.inr shf))))), (hd, .inr (2, [.ref ra])), (ra, .inl (dA 0, rn, .inl rf)), (hd2, .inr (2, [.ref ra2])), (ra2, .inl (dA 3, rn2, .inl rf2))] ++ ((wM hm dA m_depths m_owners m_roofs m_rate m_undos m_undoMany m_drawn m_dug m_deep m_holes m_holeMany m_tape m_taped m_place m_reads m_read_ m_row m_order m_bestOrder m_nears m_isKept m_keptRoofs m_kept m_lanes m_rowSizes m_items m_moved) ++ wr)) H) (hS : va_S A s.heap H locs) (hl : lv_has ls 4 [(0, .ref b), (1, .ref (h 0)), (2, .ref (hm 0)), (3, .int ix)]) (hi1 : vp_in (ix + 1) L ∧ xs (ix + 1).toNatClampNeg = a1) (hi2 : vp_in (ix + 2) L ∧ xs (ix + 2).toNatClampNeg = a2) (hi3 : vp_in (ix + 3) L ∧ xs (ix + 3).toNatClampNeg = a3) (hi4 : vp_in (ix + 4) L ∧ xs (ix + 4).toNatClampNeg = a4) (hi5 : vp_in (ix + 5) L ∧ xs (ix + 5).toNatClampNeg = a5) (hroom : kc + 3 ≤ room_1.cells ∧ ks + 500 ≤ room_1.slots)
    (kk : ∀ (u : Unit) (u' : (Nat → Int64) × (Nat → Int64)) (H1 : Heap) (locs1 : List Loc), PP u'.1 u'.2 → PD A dC dI ([((h 0), .inr (0, [.ref (h 1), .ref (h 3), .ref (h 9), .ref (h 17), .ref (h 10), .ref (h 11), .int steps, .int draw, .ref (h 12), .int typed, .int at_, .ref (h 5), .ref (h 13), .ref (h 14), .int isImage, .ref (h 7), .ref (h 15), .ref (h 18), .int idraw, .ref (h 19), .ref (h 16)])), ((h 1), .inr (1, [.ref (h 2), .long gro, .int grt])), ((h 2), .inl (dA 0, 36, .inl gd)), ((h 3), .inr (1, [.ref (h 4), .long tro, .int trt])), ((h 4), .inl (dA 0, 36, .inl td)), ((h 5), .inr (1, [.ref (h 6), .long rro, .int rrt])), ((h 6), .inl (dA 0, 36, .inl rd)), ((h 7), .inr (1, [.ref (h 8), .long imro, .int imrt])), ((h 8), .inl (dA 0, 36, .inl imd)), ((h 9), .inl (dA 0, 36, .inl owners)), ((h 10), .inl (dA 1, 8, .inl tour)), ((h 11), .inl (dA 1, 8, .inl best)), ((h 12), .inl (dA 0, 160, .inl tape)), ((h 13), .inl (dA 0, 36, .inl signs)), ((h 14), .inl (dA 0, 320, .inl acts)), ((h 15), .inl (dA 0, 36, .inl iown)), ((h 16), .inl (dA 2, 36, .inr (.inl taken))), ((h 19), .inl (dA 5, 4, .inr (.inr (.inr (.inr shf))))), (hd, .inr (2, [.ref ra])), (ra, .inl (dA 0, rn, .inl rf)), (hd2, .inr (2, [.ref ra2])), (ra2, .inl (dA 3, rn2, .inl rf2))] ++ ((wM hm dA m_depths m_owners m_roofs m_rate m_undos m_undoMany m_drawn m_dug m_deep m_holes m_holeMany m_tape m_taped m_place m_reads m_read_ m_row m_order m_bestOrder m_nears m_isKept m_keptRoofs m_kept m_lanes m_rowSizes u'.1 u'.2) ++ wr)) H1 → va_S A s.heap H1 locs1 → W p l e room_1 s m #[Value.ref b] below meth c H1 locs1 (kc + 3) (ks + 500) Q (F0 m 1349 ls [])) : W p l e room_1 s m #[Value.ref b] below meth c H locs kc ks Q (F0 m 1286 ls []) := by
  obtain ⟨S, hX, hbl, hbA, hK, hE, hA, hfl⟩ := hC
  obtain ⟨hP, hD⟩ := hPD
  refine lv_aload_n S.1 S.2.1 dL_law_1286 rfl (lv_at hl 1 rfl) ?_
  refine lv_aload_n S.1 S.2.1 dL_law_1287 rfl (lv_at hl 0 rfl) ?_
  refine lv_iload_n S.1 S.2.1 dL_law_1288 rfl (lv_at hl 3 rfl) ?_
  refine lv_iconst (v := 1) S.1 S.2.1 dL_law_1289 (by decide) ?_
  refine lv_iadd S.1 S.2.1 dL_law_1290 ?_
  refine sldE S.1 S.2.1 hX hbl hbA hS hi1 dL_law_1291 ?_
  refine lv_aload_n S.1 S.2.1 dL_law_1292 rfl (lv_at hl 0 rfl) ?_
  refine lv_iload_n S.1 S.2.1 dL_law_1293 rfl (lv_at hl 3 rfl) ?_
  refine lv_iconst (v := 2) S.1 S.2.1 dL_law_1294 (by decide) ?_
  refine lv_iadd S.1 S.2.1 dL_law_1295 ?_
  refine sldE S.1 S.2.1 hX hbl hbA hS hi2 dL_law_1296 ?_
  refine lv_aload_n S.1 S.2.1 dL_law_1297 rfl (lv_at hl 0 rfl) ?_
  refine lv_iload_n S.1 S.2.1 dL_law_1298 rfl (lv_at hl 3 rfl) ?_
  refine lv_iconst (v := 3) S.1 S.2.1 dL_law_1299 (by decide) ?_
  refine lv_iadd S.1 S.2.1 dL_law_1300 ?_
  refine sldE S.1 S.2.1 hX hbl hbA hS hi3 dL_law_1301 ?_
  refine lv_aload_n S.1 S.2.1 dL_law_1302 rfl (lv_at hl 0 rfl) ?_
  refine lv_iload_n S.1 S.2.1 dL_law_1303 rfl (lv_at hl 3 rfl) ?_
  refine lv_iconst (v := 4) S.1 S.2.1 dL_law_1304 (by decide) ?_
  refine lv_iadd S.1 S.2.1 dL_law_1305 ?_
  refine sldE S.1 S.2.1 hX hbl hbA hS hi4 dL_law_1306 ?_
  refine lv_aload_n S.1 S.2.1 dL_law_1307 rfl (lv_at hl 0 rfl) ?_
  refine lv_iload_n S.1 S.2.1 dL_law_1308 rfl (lv_at hl 3 rfl) ?_
  refine lv_iconst (v := 5) S.1 S.2.1 dL_law_1309 (by decide) ?_
  refine lv_iadd S.1 S.2.1 dL_law_1310 ?_
  refine sldE S.1 S.2.1 hX hbl hbA hS hi5 dL_law_1311 ?_
  refine sC_i hP hD hS hA (va_runVW (As := [.int a1, .int a2, .int a3, .int a4, .int a5]) (rest := []) S (metX0_copy_BS l hfl hf) (cwVW 5 S.2.2.2.2 q1049 q1050 q1051 q54 q1052 pdX0_copy ⟨Nat.le_of_ble_eq_true rfl, Nat.le_of_ble_eq_true rfl⟩) ⟨ablind, va_recv hK hP (ci := 0) (q0 := 0) rfl rfl, (spre hK hE hP hD hS hA).2⟩ rfl rfl hl.1 rfl (lv_room (Nat.le_of_ble_eq_true rfl)) dL_law_1312 hroom) (fun r u H locs hf hP hD hS => ?_)
  have hP := hP.perm permM
  have hD := hD.perm permM
  refine lv_aload_n S.1 S.2.1 dL_law_1315 rfl (lv_at hl 2 rfl) ?_
  refine lv_aload_n S.1 S.2.1 dL_law_1316 rfl (lv_at hl 0 rfl) ?_
  refine lv_iload_n S.1 S.2.1 dL_law_1317 rfl (lv_at hl 3 rfl) ?_
  refine lv_iconst (v := 1) S.1 S.2.1 dL_law_1318 (by decide) ?_
  refine lv_iadd S.1 S.2.1 dL_law_1319 ?_
  refine sldE S.1 S.2.1 hX hbl hbA hS hi1 dL_law_1320 ?_
  refine lv_aload_n S.1 S.2.1 dL_law_1321 rfl (lv_at hl 0 rfl) ?_
  refine lv_iload_n S.1 S.2.1 dL_law_1322 rfl (lv_at hl 3 rfl) ?_
  refine lv_iconst (v := 2) S.1 S.2.1 dL_law_1323 (by decide) ?_
  refine lv_iadd S.1 S.2.1 dL_law_1324 ?_
  refine sldE S.1 S.2.1 hX hbl hbA hS hi2 dL_law_1325 ?_
  refine lv_aload_n S.1 S.2.1 dL_law_1326 rfl (lv_at hl 0 rfl) ?_
  refine lv_iload_n S.1 S.2.1 dL_law_1327 rfl (lv_at hl 3 rfl) ?_
  refine lv_iconst (v := 3) S.1 S.2.1 dL_law_1328 (by decide) ?_
  refine lv_iadd S.1 S.2.1 dL_law_1329 ?_
  refine sldE S.1 S.2.1 hX hbl hbA hS hi3 dL_law_1330 ?_
  refine lv_aload_n S.1 S.2.1 dL_law_1331 rfl (lv_at hl 0 rfl) ?_
  refine lv_iload_n S.1 S.2.1 dL_law_1332 rfl (lv_at hl 3 rfl) ?_
  refine lv_iconst (v := 4) S.1 S.2.1 dL_law_1333 (by decide) ?_
  refine lv_iadd S.1 S.2.1 dL_law_1334 ?_
  refine sldE S.1 S.2.1 hX hbl hbA hS hi4 dL_law_1335 ?_
  refine lv_aload_n S.1 S.2.1 dL_law_1336 rfl (lv_at hl 0 rfl) ?_
  refine lv_iload_n S.1 S.2.1 dL_law_1337 rfl (lv_at hl 3 rfl) ?_
  refine lv_iconst (v := 5) S.1 S.2.1 dL_law_1338 (by decide) ?_
  refine lv_iadd S.1 S.2.1 dL_law_1339 ?_
  refine sldE S.1 S.2.1 hX hbl hbA hS hi5 dL_law_1340 ?_
  refine sM_i (As := [.int a1, .int a2, .int a3, .int a4, .int a5]) (rest := [.int r]) S hK rfl rfl (fun _ => rfl) hP hD hS (metX3_copy l hj hf) (lw_V q1598 q1599 q1600 q60 q1601) rfl pdX3_copy ⟨rfl, rfl⟩ ⟨Nat.le_of_ble_eq_true rfl, Nat.le_of_ble_eq_true rfl⟩ rfl hl.1 rfl (Nat.le_of_ble_eq_true rfl) dL_law_1341 hroom (fun r' u' H locs hf hP hD hS => ?_)
  obtain ⟨e1, hf⟩ := hf
  refine lv_icmp_eq (tgt := 1349) S.1 S.2.1 dL_law_1344 (by decide) (fun c_1 => ?_) (fun c_1 => ?_)
  · exact kk u u' H locs hf ⟨hP.perm permN, hD.perm permN⟩ hS
  · exact absurd e1 c_1
set_option maxHeartbeats 4000000 in
set_option maxRecDepth 100000 in
theorem lo_copy_BI (hC : LC p l s m c b L xs A dC dI dA eA mi) (hj : mJ hm) {steps : Int32} {draw : Int32} {typed : Int32} {at_ : Int32} {isImage : Int32} {idraw : Int32} {gd : (Nat → Int32)} {gro : Int64} {grt : Int32} {td : (Nat → Int32)} {tro : Int64} {trt : Int32} {rd : (Nat → Int32)} {rro : Int64} {rrt : Int32} {imd : (Nat → Int32)} {imro : Int64} {imrt : Int32} {owners : (Nat → Int32)} {tour : (Nat → Int32)} {best : (Nat → Int32)} {tape : (Nat → Int32)} {signs : (Nat → Int32)} {acts : (Nat → Int32)} {iown : (Nat → Int32)} {taken : (Nat → Int64)} {shf : (Nat → Option Nat)} {hd : Nat} {rn : Nat} {rf : (Nat → Int32)} {hd2 : Nat} {rn2 : Nat} {rf2 : (Nat → Int32)} {ra : Nat} {ra2 : Nat} {m_depths : (Nat → Int32)} {m_owners : (Nat → Int32)} {m_roofs : Int64} {m_rate : Int32} {m_undos : (Nat → Int32)} {m_undoMany : Int32} {m_drawn : Int32} {m_dug : Int64} {m_deep : Int64} {m_holes : (Nat → Int64)} {m_holeMany : Int32} {m_tape : (Nat → Int32)} {m_taped : Int32} {m_place : Int32} {m_reads : Int32} {m_read_ : (Nat → Int32)} {m_row : (Nat → Int32)} {m_order : (Nat → Int32)} {m_bestOrder : (Nat → Int32)} {m_nears : (Nat → Int32)} {m_isKept : Int32} {m_keptRoofs : Int64} {m_kept : (Nat → Int32)} {m_lanes : (Nat → Int32)} {m_rowSizes : (Nat → Int32)} {m_items : (Nat → Int64)} {m_moved : (Nat → Int64)} {PP : (Nat → Int64) → (Nat → Int64) → Prop} (hf : wX0_copy_BI (fun r => wX3_copy (fun r' q0 q1 => r = r' ∧ PP q0 q1) m_lanes m_rowSizes m_items m_moved a1 a2 a3 a4 a5) shf hd rn hd2 rn2 a1 a2 a3 a4 a5) (hPD : PD A dC dI ([((h 0), .inr (0, [.ref (h 1), .ref (h 3), .ref (h 9), .ref (h 17), .ref (h 10), .ref (h 11), .int steps, .int draw, .ref (h 12), .int typed, .int at_, .ref (h 5), .ref (h 13), .ref (h 14), .int isImage, .ref (h 7), .ref (h 15), .ref (h 18), .int idraw, .ref (h 19), .ref (h 16)])), ((h 1), .inr (1, [.ref (h 2), .long gro, .int grt])), ((h 2), .inl (dA 0, 36, .inl gd)), ((h 3), .inr (1, [.ref (h 4), .long tro, .int trt])), ((h 4), .inl (dA 0, 36, .inl td)), ((h 5), .inr (1, [.ref (h 6), .long rro, .int rrt])), ((h 6), .inl (dA 0, 36, .inl rd)), ((h 7), .inr (1, [.ref (h 8), .long imro, .int imrt])), ((h 8), .inl (dA 0, 36, .inl imd)), ((h 9), .inl (dA 0, 36, .inl owners)), ((h 10), .inl (dA 1, 8, .inl tour)), ((h 11), .inl (dA 1, 8, .inl best)), ((h 12), .inl (dA 0, 160, .inl tape)), ((h 13), .inl (dA 0, 36, .inl signs)), ((h 14), .inl (dA 0, 320, .inl acts)), ((h 15), .inl (dA 0, 36, .inl iown)), ((h 16), .inl (dA 2, 36, .inr (.inl taken))), ((h 19), .inl (dA 5, 4, .inr (.inr (.inr (.inr shf))))), (hd, .inr (2, [.ref ra])), (ra, .inl (dA 0, rn, .inl rf)), (hd2, .inr (2, [.ref ra2])), (ra2, .inl (dA 1, rn2, .inl rf2))] ++ ((wM hm dA m_depths m_owners m_roofs m_rate m_undos m_undoMany m_drawn m_dug m_deep m_holes m_holeMany m_tape m_taped m_place m_reads m_read_ m_row m_order m_bestOrder m_nears m_isKept m_keptRoofs m_kept m_lanes m_rowSizes m_items m_moved) ++ wr)) H) (hS : va_S A s.heap H locs) (hl : lv_has ls 4 [(0, .ref b), (1, .ref (h 0)), (2, .ref (hm 0)), (3, .int ix)]) (hi1 : vp_in (ix + 1) L ∧ xs (ix + 1).toNatClampNeg = a1) (hi2 : vp_in (ix + 2) L ∧ xs (ix + 2).toNatClampNeg = a2) (hi3 : vp_in (ix + 3) L ∧ xs (ix + 3).toNatClampNeg = a3) (hi4 : vp_in (ix + 4) L ∧ xs (ix + 4).toNatClampNeg = a4) (hi5 : vp_in (ix + 5) L ∧ xs (ix + 5).toNatClampNeg = a5) (hroom : kc + 3 ≤ room_1.cells ∧ ks + 500 ≤ room_1.slots)
    (kk : ∀ (u : Unit) (u' : (Nat → Int64) × (Nat → Int64)) (H1 : Heap) (locs1 : List Loc), PP u'.1 u'.2 → PD A dC dI ([((h 0), .inr (0, [.ref (h 1), .ref (h 3), .ref (h 9), .ref (h 17), .ref (h 10), .ref (h 11), .int steps, .int draw, .ref (h 12), .int typed, .int at_, .ref (h 5), .ref (h 13), .ref (h 14), .int isImage, .ref (h 7), .ref (h 15), .ref (h 18), .int idraw, .ref (h 19), .ref (h 16)])), ((h 1), .inr (1, [.ref (h 2), .long gro, .int grt])), ((h 2), .inl (dA 0, 36, .inl gd)), ((h 3), .inr (1, [.ref (h 4), .long tro, .int trt])), ((h 4), .inl (dA 0, 36, .inl td)), ((h 5), .inr (1, [.ref (h 6), .long rro, .int rrt])), ((h 6), .inl (dA 0, 36, .inl rd)), ((h 7), .inr (1, [.ref (h 8), .long imro, .int imrt])), ((h 8), .inl (dA 0, 36, .inl imd)), ((h 9), .inl (dA 0, 36, .inl owners)), ((h 10), .inl (dA 1, 8, .inl tour)), ((h 11), .inl (dA 1, 8, .inl best)), ((h 12), .inl (dA 0, 160, .inl tape)), ((h 13), .inl (dA 0, 36, .inl signs)), ((h 14), .inl (dA 0, 320, .inl acts)), ((h 15), .inl (dA 0, 36, .inl iown)), ((h 16), .inl (dA 2, 36, .inr (.inl taken))), ((h 19), .inl (dA 5, 4, .inr (.inr (.inr (.inr shf))))), (hd, .inr (2, [.ref ra])), (ra, .inl (dA 0, rn, .inl rf)), (hd2, .inr (2, [.ref ra2])), (ra2, .inl (dA 1, rn2, .inl rf2))] ++ ((wM hm dA m_depths m_owners m_roofs m_rate m_undos m_undoMany m_drawn m_dug m_deep m_holes m_holeMany m_tape m_taped m_place m_reads m_read_ m_row m_order m_bestOrder m_nears m_isKept m_keptRoofs m_kept m_lanes m_rowSizes u'.1 u'.2) ++ wr)) H1 → va_S A s.heap H1 locs1 → W p l e room_1 s m #[Value.ref b] below meth c H1 locs1 (kc + 3) (ks + 500) Q (F0 m 1349 ls [])) : W p l e room_1 s m #[Value.ref b] below meth c H locs kc ks Q (F0 m 1286 ls []) := by
  obtain ⟨S, hX, hbl, hbA, hK, hE, hA, hfl⟩ := hC
  obtain ⟨hP, hD⟩ := hPD
  refine lv_aload_n S.1 S.2.1 dL_law_1286 rfl (lv_at hl 1 rfl) ?_
  refine lv_aload_n S.1 S.2.1 dL_law_1287 rfl (lv_at hl 0 rfl) ?_
  refine lv_iload_n S.1 S.2.1 dL_law_1288 rfl (lv_at hl 3 rfl) ?_
  refine lv_iconst (v := 1) S.1 S.2.1 dL_law_1289 (by decide) ?_
  refine lv_iadd S.1 S.2.1 dL_law_1290 ?_
  refine sldE S.1 S.2.1 hX hbl hbA hS hi1 dL_law_1291 ?_
  refine lv_aload_n S.1 S.2.1 dL_law_1292 rfl (lv_at hl 0 rfl) ?_
  refine lv_iload_n S.1 S.2.1 dL_law_1293 rfl (lv_at hl 3 rfl) ?_
  refine lv_iconst (v := 2) S.1 S.2.1 dL_law_1294 (by decide) ?_
  refine lv_iadd S.1 S.2.1 dL_law_1295 ?_
  refine sldE S.1 S.2.1 hX hbl hbA hS hi2 dL_law_1296 ?_
  refine lv_aload_n S.1 S.2.1 dL_law_1297 rfl (lv_at hl 0 rfl) ?_
  refine lv_iload_n S.1 S.2.1 dL_law_1298 rfl (lv_at hl 3 rfl) ?_
  refine lv_iconst (v := 3) S.1 S.2.1 dL_law_1299 (by decide) ?_
  refine lv_iadd S.1 S.2.1 dL_law_1300 ?_
  refine sldE S.1 S.2.1 hX hbl hbA hS hi3 dL_law_1301 ?_
  refine lv_aload_n S.1 S.2.1 dL_law_1302 rfl (lv_at hl 0 rfl) ?_
  refine lv_iload_n S.1 S.2.1 dL_law_1303 rfl (lv_at hl 3 rfl) ?_
  refine lv_iconst (v := 4) S.1 S.2.1 dL_law_1304 (by decide) ?_
  refine lv_iadd S.1 S.2.1 dL_law_1305 ?_
  refine sldE S.1 S.2.1 hX hbl hbA hS hi4 dL_law_1306 ?_
  refine lv_aload_n S.1 S.2.1 dL_law_1307 rfl (lv_at hl 0 rfl) ?_
  refine lv_iload_n S.1 S.2.1 dL_law_1308 rfl (lv_at hl 3 rfl) ?_
  refine lv_iconst (v := 5) S.1 S.2.1 dL_law_1309 (by decide) ?_
  refine lv_iadd S.1 S.2.1 dL_law_1310 ?_
  refine sldE S.1 S.2.1 hX hbl hbA hS hi5 dL_law_1311 ?_
  refine sC_i hP hD hS hA (va_runVW (As := [.int a1, .int a2, .int a3, .int a4, .int a5]) (rest := []) S (metX0_copy_BI l hfl hf) (cwVW 5 S.2.2.2.2 q1049 q1050 q1051 q54 q1052 pdX0_copy ⟨Nat.le_of_ble_eq_true rfl, Nat.le_of_ble_eq_true rfl⟩) ⟨ablind, va_recv hK hP (ci := 0) (q0 := 0) rfl rfl, (spre hK hE hP hD hS hA).2⟩ rfl rfl hl.1 rfl (lv_room (Nat.le_of_ble_eq_true rfl)) dL_law_1312 hroom) (fun r u H locs hf hP hD hS => ?_)
  have hP := hP.perm permM
  have hD := hD.perm permM
  refine lv_aload_n S.1 S.2.1 dL_law_1315 rfl (lv_at hl 2 rfl) ?_
  refine lv_aload_n S.1 S.2.1 dL_law_1316 rfl (lv_at hl 0 rfl) ?_
  refine lv_iload_n S.1 S.2.1 dL_law_1317 rfl (lv_at hl 3 rfl) ?_
  refine lv_iconst (v := 1) S.1 S.2.1 dL_law_1318 (by decide) ?_
  refine lv_iadd S.1 S.2.1 dL_law_1319 ?_
  refine sldE S.1 S.2.1 hX hbl hbA hS hi1 dL_law_1320 ?_
  refine lv_aload_n S.1 S.2.1 dL_law_1321 rfl (lv_at hl 0 rfl) ?_
  refine lv_iload_n S.1 S.2.1 dL_law_1322 rfl (lv_at hl 3 rfl) ?_
  refine lv_iconst (v := 2) S.1 S.2.1 dL_law_1323 (by decide) ?_
  refine lv_iadd S.1 S.2.1 dL_law_1324 ?_
  refine sldE S.1 S.2.1 hX hbl hbA hS hi2 dL_law_1325 ?_
  refine lv_aload_n S.1 S.2.1 dL_law_1326 rfl (lv_at hl 0 rfl) ?_
  refine lv_iload_n S.1 S.2.1 dL_law_1327 rfl (lv_at hl 3 rfl) ?_
  refine lv_iconst (v := 3) S.1 S.2.1 dL_law_1328 (by decide) ?_
  refine lv_iadd S.1 S.2.1 dL_law_1329 ?_
  refine sldE S.1 S.2.1 hX hbl hbA hS hi3 dL_law_1330 ?_
  refine lv_aload_n S.1 S.2.1 dL_law_1331 rfl (lv_at hl 0 rfl) ?_
  refine lv_iload_n S.1 S.2.1 dL_law_1332 rfl (lv_at hl 3 rfl) ?_
  refine lv_iconst (v := 4) S.1 S.2.1 dL_law_1333 (by decide) ?_
  refine lv_iadd S.1 S.2.1 dL_law_1334 ?_
  refine sldE S.1 S.2.1 hX hbl hbA hS hi4 dL_law_1335 ?_
  refine lv_aload_n S.1 S.2.1 dL_law_1336 rfl (lv_at hl 0 rfl) ?_
  refine lv_iload_n S.1 S.2.1 dL_law_1337 rfl (lv_at hl 3 rfl) ?_
  refine lv_iconst (v := 5) S.1 S.2.1 dL_law_1338 (by decide) ?_
  refine lv_iadd S.1 S.2.1 dL_law_1339 ?_
  refine sldE S.1 S.2.1 hX hbl hbA hS hi5 dL_law_1340 ?_
  refine sM_i (As := [.int a1, .int a2, .int a3, .int a4, .int a5]) (rest := [.int r]) S hK rfl rfl (fun _ => rfl) hP hD hS (metX3_copy l hj hf) (lw_V q1598 q1599 q1600 q60 q1601) rfl pdX3_copy ⟨rfl, rfl⟩ ⟨Nat.le_of_ble_eq_true rfl, Nat.le_of_ble_eq_true rfl⟩ rfl hl.1 rfl (Nat.le_of_ble_eq_true rfl) dL_law_1341 hroom (fun r' u' H locs hf hP hD hS => ?_)
  obtain ⟨e1, hf⟩ := hf
  refine lv_icmp_eq (tgt := 1349) S.1 S.2.1 dL_law_1344 (by decide) (fun c_1 => ?_) (fun c_1 => ?_)
  · exact kk u u' H locs hf ⟨hP.perm permN, hD.perm permN⟩ hS
  · exact absurd e1 c_1
set_option maxHeartbeats 4000000 in
set_option maxRecDepth 100000 in
theorem lo_copy_BJ (hC : LC p l s m c b L xs A dC dI dA eA mi) (hj : mJ hm) {steps : Int32} {draw : Int32} {typed : Int32} {at_ : Int32} {isImage : Int32} {idraw : Int32} {gd : (Nat → Int32)} {gro : Int64} {grt : Int32} {td : (Nat → Int32)} {tro : Int64} {trt : Int32} {rd : (Nat → Int32)} {rro : Int64} {rrt : Int32} {imd : (Nat → Int32)} {imro : Int64} {imrt : Int32} {owners : (Nat → Int32)} {tour : (Nat → Int32)} {best : (Nat → Int32)} {tape : (Nat → Int32)} {signs : (Nat → Int32)} {acts : (Nat → Int32)} {iown : (Nat → Int32)} {taken : (Nat → Int64)} {shf : (Nat → Option Nat)} {hd : Nat} {rn : Nat} {rf : (Nat → Int32)} {hd2 : Nat} {rn2 : Nat} {rf2 : (Nat → Int64)} {ra : Nat} {ra2 : Nat} {m_depths : (Nat → Int32)} {m_owners : (Nat → Int32)} {m_roofs : Int64} {m_rate : Int32} {m_undos : (Nat → Int32)} {m_undoMany : Int32} {m_drawn : Int32} {m_dug : Int64} {m_deep : Int64} {m_holes : (Nat → Int64)} {m_holeMany : Int32} {m_tape : (Nat → Int32)} {m_taped : Int32} {m_place : Int32} {m_reads : Int32} {m_read_ : (Nat → Int32)} {m_row : (Nat → Int32)} {m_order : (Nat → Int32)} {m_bestOrder : (Nat → Int32)} {m_nears : (Nat → Int32)} {m_isKept : Int32} {m_keptRoofs : Int64} {m_kept : (Nat → Int32)} {m_lanes : (Nat → Int32)} {m_rowSizes : (Nat → Int32)} {m_items : (Nat → Int64)} {m_moved : (Nat → Int64)} {PP : (Nat → Int64) → (Nat → Int64) → Prop} (hf : wX0_copy_BJ (fun r => wX3_copy (fun r' q0 q1 => r = r' ∧ PP q0 q1) m_lanes m_rowSizes m_items m_moved a1 a2 a3 a4 a5) shf hd rn hd2 rn2 a1 a2 a3 a4 a5) (hPD : PD A dC dI ([((h 0), .inr (0, [.ref (h 1), .ref (h 3), .ref (h 9), .ref (h 17), .ref (h 10), .ref (h 11), .int steps, .int draw, .ref (h 12), .int typed, .int at_, .ref (h 5), .ref (h 13), .ref (h 14), .int isImage, .ref (h 7), .ref (h 15), .ref (h 18), .int idraw, .ref (h 19), .ref (h 16)])), ((h 1), .inr (1, [.ref (h 2), .long gro, .int grt])), ((h 2), .inl (dA 0, 36, .inl gd)), ((h 3), .inr (1, [.ref (h 4), .long tro, .int trt])), ((h 4), .inl (dA 0, 36, .inl td)), ((h 5), .inr (1, [.ref (h 6), .long rro, .int rrt])), ((h 6), .inl (dA 0, 36, .inl rd)), ((h 7), .inr (1, [.ref (h 8), .long imro, .int imrt])), ((h 8), .inl (dA 0, 36, .inl imd)), ((h 9), .inl (dA 0, 36, .inl owners)), ((h 10), .inl (dA 1, 8, .inl tour)), ((h 11), .inl (dA 1, 8, .inl best)), ((h 12), .inl (dA 0, 160, .inl tape)), ((h 13), .inl (dA 0, 36, .inl signs)), ((h 14), .inl (dA 0, 320, .inl acts)), ((h 15), .inl (dA 0, 36, .inl iown)), ((h 16), .inl (dA 2, 36, .inr (.inl taken))), ((h 19), .inl (dA 5, 4, .inr (.inr (.inr (.inr shf))))), (hd, .inr (2, [.ref ra])), (ra, .inl (dA 0, rn, .inl rf)), (hd2, .inr (2, [.ref ra2])), (ra2, .inl (dA 2, rn2, .inr (.inl rf2)))] ++ ((wM hm dA m_depths m_owners m_roofs m_rate m_undos m_undoMany m_drawn m_dug m_deep m_holes m_holeMany m_tape m_taped m_place m_reads m_read_ m_row m_order m_bestOrder m_nears m_isKept m_keptRoofs m_kept m_lanes m_rowSizes m_items m_moved) ++ wr)) H) (hS : va_S A s.heap H locs) (hl : lv_has ls 4 [(0, .ref b), (1, .ref (h 0)), (2, .ref (hm 0)), (3, .int ix)]) (hi1 : vp_in (ix + 1) L ∧ xs (ix + 1).toNatClampNeg = a1) (hi2 : vp_in (ix + 2) L ∧ xs (ix + 2).toNatClampNeg = a2) (hi3 : vp_in (ix + 3) L ∧ xs (ix + 3).toNatClampNeg = a3) (hi4 : vp_in (ix + 4) L ∧ xs (ix + 4).toNatClampNeg = a4) (hi5 : vp_in (ix + 5) L ∧ xs (ix + 5).toNatClampNeg = a5) (hroom : kc + 3 ≤ room_1.cells ∧ ks + 500 ≤ room_1.slots)
    (kk : ∀ (u : Unit) (u' : (Nat → Int64) × (Nat → Int64)) (H1 : Heap) (locs1 : List Loc), PP u'.1 u'.2 → PD A dC dI ([((h 0), .inr (0, [.ref (h 1), .ref (h 3), .ref (h 9), .ref (h 17), .ref (h 10), .ref (h 11), .int steps, .int draw, .ref (h 12), .int typed, .int at_, .ref (h 5), .ref (h 13), .ref (h 14), .int isImage, .ref (h 7), .ref (h 15), .ref (h 18), .int idraw, .ref (h 19), .ref (h 16)])), ((h 1), .inr (1, [.ref (h 2), .long gro, .int grt])), ((h 2), .inl (dA 0, 36, .inl gd)), ((h 3), .inr (1, [.ref (h 4), .long tro, .int trt])), ((h 4), .inl (dA 0, 36, .inl td)), ((h 5), .inr (1, [.ref (h 6), .long rro, .int rrt])), ((h 6), .inl (dA 0, 36, .inl rd)), ((h 7), .inr (1, [.ref (h 8), .long imro, .int imrt])), ((h 8), .inl (dA 0, 36, .inl imd)), ((h 9), .inl (dA 0, 36, .inl owners)), ((h 10), .inl (dA 1, 8, .inl tour)), ((h 11), .inl (dA 1, 8, .inl best)), ((h 12), .inl (dA 0, 160, .inl tape)), ((h 13), .inl (dA 0, 36, .inl signs)), ((h 14), .inl (dA 0, 320, .inl acts)), ((h 15), .inl (dA 0, 36, .inl iown)), ((h 16), .inl (dA 2, 36, .inr (.inl taken))), ((h 19), .inl (dA 5, 4, .inr (.inr (.inr (.inr shf))))), (hd, .inr (2, [.ref ra])), (ra, .inl (dA 0, rn, .inl rf)), (hd2, .inr (2, [.ref ra2])), (ra2, .inl (dA 2, rn2, .inr (.inl rf2)))] ++ ((wM hm dA m_depths m_owners m_roofs m_rate m_undos m_undoMany m_drawn m_dug m_deep m_holes m_holeMany m_tape m_taped m_place m_reads m_read_ m_row m_order m_bestOrder m_nears m_isKept m_keptRoofs m_kept m_lanes m_rowSizes u'.1 u'.2) ++ wr)) H1 → va_S A s.heap H1 locs1 → W p l e room_1 s m #[Value.ref b] below meth c H1 locs1 (kc + 3) (ks + 500) Q (F0 m 1349 ls [])) : W p l e room_1 s m #[Value.ref b] below meth c H locs kc ks Q (F0 m 1286 ls []) := by
  obtain ⟨S, hX, hbl, hbA, hK, hE, hA, hfl⟩ := hC
  obtain ⟨hP, hD⟩ := hPD
  refine lv_aload_n S.1 S.2.1 dL_law_1286 rfl (lv_at hl 1 rfl) ?_
  refine lv_aload_n S.1 S.2.1 dL_law_1287 rfl (lv_at hl 0 rfl) ?_
  refine lv_iload_n S.1 S.2.1 dL_law_1288 rfl (lv_at hl 3 rfl) ?_
  refine lv_iconst (v := 1) S.1 S.2.1 dL_law_1289 (by decide) ?_
  refine lv_iadd S.1 S.2.1 dL_law_1290 ?_
  refine sldE S.1 S.2.1 hX hbl hbA hS hi1 dL_law_1291 ?_
  refine lv_aload_n S.1 S.2.1 dL_law_1292 rfl (lv_at hl 0 rfl) ?_
  refine lv_iload_n S.1 S.2.1 dL_law_1293 rfl (lv_at hl 3 rfl) ?_
  refine lv_iconst (v := 2) S.1 S.2.1 dL_law_1294 (by decide) ?_
  refine lv_iadd S.1 S.2.1 dL_law_1295 ?_
  refine sldE S.1 S.2.1 hX hbl hbA hS hi2 dL_law_1296 ?_
  refine lv_aload_n S.1 S.2.1 dL_law_1297 rfl (lv_at hl 0 rfl) ?_
  refine lv_iload_n S.1 S.2.1 dL_law_1298 rfl (lv_at hl 3 rfl) ?_
  refine lv_iconst (v := 3) S.1 S.2.1 dL_law_1299 (by decide) ?_
  refine lv_iadd S.1 S.2.1 dL_law_1300 ?_
  refine sldE S.1 S.2.1 hX hbl hbA hS hi3 dL_law_1301 ?_
  refine lv_aload_n S.1 S.2.1 dL_law_1302 rfl (lv_at hl 0 rfl) ?_
  refine lv_iload_n S.1 S.2.1 dL_law_1303 rfl (lv_at hl 3 rfl) ?_
  refine lv_iconst (v := 4) S.1 S.2.1 dL_law_1304 (by decide) ?_
  refine lv_iadd S.1 S.2.1 dL_law_1305 ?_
  refine sldE S.1 S.2.1 hX hbl hbA hS hi4 dL_law_1306 ?_
  refine lv_aload_n S.1 S.2.1 dL_law_1307 rfl (lv_at hl 0 rfl) ?_
  refine lv_iload_n S.1 S.2.1 dL_law_1308 rfl (lv_at hl 3 rfl) ?_
  refine lv_iconst (v := 5) S.1 S.2.1 dL_law_1309 (by decide) ?_
  refine lv_iadd S.1 S.2.1 dL_law_1310 ?_
  refine sldE S.1 S.2.1 hX hbl hbA hS hi5 dL_law_1311 ?_
  refine sC_i hP hD hS hA (va_runVW (As := [.int a1, .int a2, .int a3, .int a4, .int a5]) (rest := []) S (metX0_copy_BJ l hfl hf) (cwVW 5 S.2.2.2.2 q1049 q1050 q1051 q54 q1052 pdX0_copy ⟨Nat.le_of_ble_eq_true rfl, Nat.le_of_ble_eq_true rfl⟩) ⟨ablind, va_recv hK hP (ci := 0) (q0 := 0) rfl rfl, (spre hK hE hP hD hS hA).2⟩ rfl rfl hl.1 rfl (lv_room (Nat.le_of_ble_eq_true rfl)) dL_law_1312 hroom) (fun r u H locs hf hP hD hS => ?_)
  have hP := hP.perm permM
  have hD := hD.perm permM
  refine lv_aload_n S.1 S.2.1 dL_law_1315 rfl (lv_at hl 2 rfl) ?_
  refine lv_aload_n S.1 S.2.1 dL_law_1316 rfl (lv_at hl 0 rfl) ?_
  refine lv_iload_n S.1 S.2.1 dL_law_1317 rfl (lv_at hl 3 rfl) ?_
  refine lv_iconst (v := 1) S.1 S.2.1 dL_law_1318 (by decide) ?_
  refine lv_iadd S.1 S.2.1 dL_law_1319 ?_
  refine sldE S.1 S.2.1 hX hbl hbA hS hi1 dL_law_1320 ?_
  refine lv_aload_n S.1 S.2.1 dL_law_1321 rfl (lv_at hl 0 rfl) ?_
  refine lv_iload_n S.1 S.2.1 dL_law_1322 rfl (lv_at hl 3 rfl) ?_
  refine lv_iconst (v := 2) S.1 S.2.1 dL_law_1323 (by decide) ?_
  refine lv_iadd S.1 S.2.1 dL_law_1324 ?_
  refine sldE S.1 S.2.1 hX hbl hbA hS hi2 dL_law_1325 ?_
  refine lv_aload_n S.1 S.2.1 dL_law_1326 rfl (lv_at hl 0 rfl) ?_
  refine lv_iload_n S.1 S.2.1 dL_law_1327 rfl (lv_at hl 3 rfl) ?_
  refine lv_iconst (v := 3) S.1 S.2.1 dL_law_1328 (by decide) ?_
  refine lv_iadd S.1 S.2.1 dL_law_1329 ?_
  refine sldE S.1 S.2.1 hX hbl hbA hS hi3 dL_law_1330 ?_
  refine lv_aload_n S.1 S.2.1 dL_law_1331 rfl (lv_at hl 0 rfl) ?_
  refine lv_iload_n S.1 S.2.1 dL_law_1332 rfl (lv_at hl 3 rfl) ?_
  refine lv_iconst (v := 4) S.1 S.2.1 dL_law_1333 (by decide) ?_
  refine lv_iadd S.1 S.2.1 dL_law_1334 ?_
  refine sldE S.1 S.2.1 hX hbl hbA hS hi4 dL_law_1335 ?_
  refine lv_aload_n S.1 S.2.1 dL_law_1336 rfl (lv_at hl 0 rfl) ?_
  refine lv_iload_n S.1 S.2.1 dL_law_1337 rfl (lv_at hl 3 rfl) ?_
  refine lv_iconst (v := 5) S.1 S.2.1 dL_law_1338 (by decide) ?_
  refine lv_iadd S.1 S.2.1 dL_law_1339 ?_
  refine sldE S.1 S.2.1 hX hbl hbA hS hi5 dL_law_1340 ?_
  refine sM_i (As := [.int a1, .int a2, .int a3, .int a4, .int a5]) (rest := [.int r]) S hK rfl rfl (fun _ => rfl) hP hD hS (metX3_copy l hj hf) (lw_V q1598 q1599 q1600 q60 q1601) rfl pdX3_copy ⟨rfl, rfl⟩ ⟨Nat.le_of_ble_eq_true rfl, Nat.le_of_ble_eq_true rfl⟩ rfl hl.1 rfl (Nat.le_of_ble_eq_true rfl) dL_law_1341 hroom (fun r' u' H locs hf hP hD hS => ?_)
  obtain ⟨e1, hf⟩ := hf
  refine lv_icmp_eq (tgt := 1349) S.1 S.2.1 dL_law_1344 (by decide) (fun c_1 => ?_) (fun c_1 => ?_)
  · exact kk u u' H locs hf ⟨hP.perm permN, hD.perm permN⟩ hS
  · exact absurd e1 c_1
set_option maxHeartbeats 4000000 in
set_option maxRecDepth 100000 in
theorem lo_copy_SN (hC : LC p l s m c b L xs A dC dI dA eA mi) (hj : mJ hm) {steps : Int32} {draw : Int32} {typed : Int32} {at_ : Int32} {isImage : Int32} {idraw : Int32} {gd : (Nat → Int32)} {gro : Int64} {grt : Int32} {td : (Nat → Int32)} {tro : Int64} {trt : Int32} {rd : (Nat → Int32)} {rro : Int64} {rrt : Int32} {imd : (Nat → Int32)} {imro : Int64} {imrt : Int32} {owners : (Nat → Int32)} {tour : (Nat → Int32)} {best : (Nat → Int32)} {tape : (Nat → Int32)} {signs : (Nat → Int32)} {acts : (Nat → Int32)} {iown : (Nat → Int32)} {taken : (Nat → Int64)} {shf : (Nat → Option Nat)} {hd : Nat} {rn : Nat} {rf : (Nat → Int32)} {hd2 : Nat} {ra : Nat} {m_depths : (Nat → Int32)} {m_owners : (Nat → Int32)} {m_roofs : Int64} {m_rate : Int32} {m_undos : (Nat → Int32)} {m_undoMany : Int32} {m_drawn : Int32} {m_dug : Int64} {m_deep : Int64} {m_holes : (Nat → Int64)} {m_holeMany : Int32} {m_tape : (Nat → Int32)} {m_taped : Int32} {m_place : Int32} {m_reads : Int32} {m_read_ : (Nat → Int32)} {m_row : (Nat → Int32)} {m_order : (Nat → Int32)} {m_bestOrder : (Nat → Int32)} {m_nears : (Nat → Int32)} {m_isKept : Int32} {m_keptRoofs : Int64} {m_kept : (Nat → Int32)} {m_lanes : (Nat → Int32)} {m_rowSizes : (Nat → Int32)} {m_items : (Nat → Int64)} {m_moved : (Nat → Int64)} {PP : (Nat → Int64) → (Nat → Int64) → Prop} (hf : wX0_copy_SN (fun r => wX3_copy (fun r' q0 q1 => r = r' ∧ PP q0 q1) m_lanes m_rowSizes m_items m_moved a1 a2 a3 a4 a5) shf hd hd2 a1 a2 a3 a4 a5) (hPD : PD A dC dI ([((h 0), .inr (0, [.ref (h 1), .ref (h 3), .ref (h 9), .ref (h 17), .ref (h 10), .ref (h 11), .int steps, .int draw, .ref (h 12), .int typed, .int at_, .ref (h 5), .ref (h 13), .ref (h 14), .int isImage, .ref (h 7), .ref (h 15), .ref (h 18), .int idraw, .ref (h 19), .ref (h 16)])), ((h 1), .inr (1, [.ref (h 2), .long gro, .int grt])), ((h 2), .inl (dA 0, 36, .inl gd)), ((h 3), .inr (1, [.ref (h 4), .long tro, .int trt])), ((h 4), .inl (dA 0, 36, .inl td)), ((h 5), .inr (1, [.ref (h 6), .long rro, .int rrt])), ((h 6), .inl (dA 0, 36, .inl rd)), ((h 7), .inr (1, [.ref (h 8), .long imro, .int imrt])), ((h 8), .inl (dA 0, 36, .inl imd)), ((h 9), .inl (dA 0, 36, .inl owners)), ((h 10), .inl (dA 1, 8, .inl tour)), ((h 11), .inl (dA 1, 8, .inl best)), ((h 12), .inl (dA 0, 160, .inl tape)), ((h 13), .inl (dA 0, 36, .inl signs)), ((h 14), .inl (dA 0, 320, .inl acts)), ((h 15), .inl (dA 0, 36, .inl iown)), ((h 16), .inl (dA 2, 36, .inr (.inl taken))), ((h 19), .inl (dA 5, 4, .inr (.inr (.inr (.inr shf))))), (hd, .inr (2, [.ref ra])), (ra, .inl (dA 3, rn, .inl rf)), (hd2, .inr (2, [.null]))] ++ ((wM hm dA m_depths m_owners m_roofs m_rate m_undos m_undoMany m_drawn m_dug m_deep m_holes m_holeMany m_tape m_taped m_place m_reads m_read_ m_row m_order m_bestOrder m_nears m_isKept m_keptRoofs m_kept m_lanes m_rowSizes m_items m_moved) ++ wr)) H) (hS : va_S A s.heap H locs) (hl : lv_has ls 4 [(0, .ref b), (1, .ref (h 0)), (2, .ref (hm 0)), (3, .int ix)]) (hi1 : vp_in (ix + 1) L ∧ xs (ix + 1).toNatClampNeg = a1) (hi2 : vp_in (ix + 2) L ∧ xs (ix + 2).toNatClampNeg = a2) (hi3 : vp_in (ix + 3) L ∧ xs (ix + 3).toNatClampNeg = a3) (hi4 : vp_in (ix + 4) L ∧ xs (ix + 4).toNatClampNeg = a4) (hi5 : vp_in (ix + 5) L ∧ xs (ix + 5).toNatClampNeg = a5) (hroom : kc + 3 ≤ room_1.cells ∧ ks + 500 ≤ room_1.slots)
    (kk : ∀ (u : Unit) (u' : (Nat → Int64) × (Nat → Int64)) (H1 : Heap) (locs1 : List Loc), PP u'.1 u'.2 → PD A dC dI ([((h 0), .inr (0, [.ref (h 1), .ref (h 3), .ref (h 9), .ref (h 17), .ref (h 10), .ref (h 11), .int steps, .int draw, .ref (h 12), .int typed, .int at_, .ref (h 5), .ref (h 13), .ref (h 14), .int isImage, .ref (h 7), .ref (h 15), .ref (h 18), .int idraw, .ref (h 19), .ref (h 16)])), ((h 1), .inr (1, [.ref (h 2), .long gro, .int grt])), ((h 2), .inl (dA 0, 36, .inl gd)), ((h 3), .inr (1, [.ref (h 4), .long tro, .int trt])), ((h 4), .inl (dA 0, 36, .inl td)), ((h 5), .inr (1, [.ref (h 6), .long rro, .int rrt])), ((h 6), .inl (dA 0, 36, .inl rd)), ((h 7), .inr (1, [.ref (h 8), .long imro, .int imrt])), ((h 8), .inl (dA 0, 36, .inl imd)), ((h 9), .inl (dA 0, 36, .inl owners)), ((h 10), .inl (dA 1, 8, .inl tour)), ((h 11), .inl (dA 1, 8, .inl best)), ((h 12), .inl (dA 0, 160, .inl tape)), ((h 13), .inl (dA 0, 36, .inl signs)), ((h 14), .inl (dA 0, 320, .inl acts)), ((h 15), .inl (dA 0, 36, .inl iown)), ((h 16), .inl (dA 2, 36, .inr (.inl taken))), ((h 19), .inl (dA 5, 4, .inr (.inr (.inr (.inr shf))))), (hd, .inr (2, [.ref ra])), (ra, .inl (dA 3, rn, .inl rf)), (hd2, .inr (2, [.null]))] ++ ((wM hm dA m_depths m_owners m_roofs m_rate m_undos m_undoMany m_drawn m_dug m_deep m_holes m_holeMany m_tape m_taped m_place m_reads m_read_ m_row m_order m_bestOrder m_nears m_isKept m_keptRoofs m_kept m_lanes m_rowSizes u'.1 u'.2) ++ wr)) H1 → va_S A s.heap H1 locs1 → W p l e room_1 s m #[Value.ref b] below meth c H1 locs1 (kc + 3) (ks + 500) Q (F0 m 1349 ls [])) : W p l e room_1 s m #[Value.ref b] below meth c H locs kc ks Q (F0 m 1286 ls []) := by
  obtain ⟨S, hX, hbl, hbA, hK, hE, hA, hfl⟩ := hC
  obtain ⟨hP, hD⟩ := hPD
  refine lv_aload_n S.1 S.2.1 dL_law_1286 rfl (lv_at hl 1 rfl) ?_
  refine lv_aload_n S.1 S.2.1 dL_law_1287 rfl (lv_at hl 0 rfl) ?_
  refine lv_iload_n S.1 S.2.1 dL_law_1288 rfl (lv_at hl 3 rfl) ?_
  refine lv_iconst (v := 1) S.1 S.2.1 dL_law_1289 (by decide) ?_
  refine lv_iadd S.1 S.2.1 dL_law_1290 ?_
  refine sldE S.1 S.2.1 hX hbl hbA hS hi1 dL_law_1291 ?_
  refine lv_aload_n S.1 S.2.1 dL_law_1292 rfl (lv_at hl 0 rfl) ?_
  refine lv_iload_n S.1 S.2.1 dL_law_1293 rfl (lv_at hl 3 rfl) ?_
  refine lv_iconst (v := 2) S.1 S.2.1 dL_law_1294 (by decide) ?_
  refine lv_iadd S.1 S.2.1 dL_law_1295 ?_
  refine sldE S.1 S.2.1 hX hbl hbA hS hi2 dL_law_1296 ?_
  refine lv_aload_n S.1 S.2.1 dL_law_1297 rfl (lv_at hl 0 rfl) ?_
  refine lv_iload_n S.1 S.2.1 dL_law_1298 rfl (lv_at hl 3 rfl) ?_
  refine lv_iconst (v := 3) S.1 S.2.1 dL_law_1299 (by decide) ?_
  refine lv_iadd S.1 S.2.1 dL_law_1300 ?_
  refine sldE S.1 S.2.1 hX hbl hbA hS hi3 dL_law_1301 ?_
  refine lv_aload_n S.1 S.2.1 dL_law_1302 rfl (lv_at hl 0 rfl) ?_
  refine lv_iload_n S.1 S.2.1 dL_law_1303 rfl (lv_at hl 3 rfl) ?_
  refine lv_iconst (v := 4) S.1 S.2.1 dL_law_1304 (by decide) ?_
  refine lv_iadd S.1 S.2.1 dL_law_1305 ?_
  refine sldE S.1 S.2.1 hX hbl hbA hS hi4 dL_law_1306 ?_
  refine lv_aload_n S.1 S.2.1 dL_law_1307 rfl (lv_at hl 0 rfl) ?_
  refine lv_iload_n S.1 S.2.1 dL_law_1308 rfl (lv_at hl 3 rfl) ?_
  refine lv_iconst (v := 5) S.1 S.2.1 dL_law_1309 (by decide) ?_
  refine lv_iadd S.1 S.2.1 dL_law_1310 ?_
  refine sldE S.1 S.2.1 hX hbl hbA hS hi5 dL_law_1311 ?_
  refine sC_i hP hD hS hA (va_runVW (As := [.int a1, .int a2, .int a3, .int a4, .int a5]) (rest := []) S (metX0_copy_SN l hfl hf) (cwVW 5 S.2.2.2.2 q1049 q1050 q1051 q54 q1052 pdX0_copy ⟨Nat.le_of_ble_eq_true rfl, Nat.le_of_ble_eq_true rfl⟩) ⟨ablind, va_recv hK hP (ci := 0) (q0 := 0) rfl rfl, (spre hK hE hP hD hS hA).2⟩ rfl rfl hl.1 rfl (lv_room (Nat.le_of_ble_eq_true rfl)) dL_law_1312 hroom) (fun r u H locs hf hP hD hS => ?_)
  have hP := hP.perm permM
  have hD := hD.perm permM
  refine lv_aload_n S.1 S.2.1 dL_law_1315 rfl (lv_at hl 2 rfl) ?_
  refine lv_aload_n S.1 S.2.1 dL_law_1316 rfl (lv_at hl 0 rfl) ?_
  refine lv_iload_n S.1 S.2.1 dL_law_1317 rfl (lv_at hl 3 rfl) ?_
  refine lv_iconst (v := 1) S.1 S.2.1 dL_law_1318 (by decide) ?_
  refine lv_iadd S.1 S.2.1 dL_law_1319 ?_
  refine sldE S.1 S.2.1 hX hbl hbA hS hi1 dL_law_1320 ?_
  refine lv_aload_n S.1 S.2.1 dL_law_1321 rfl (lv_at hl 0 rfl) ?_
  refine lv_iload_n S.1 S.2.1 dL_law_1322 rfl (lv_at hl 3 rfl) ?_
  refine lv_iconst (v := 2) S.1 S.2.1 dL_law_1323 (by decide) ?_
  refine lv_iadd S.1 S.2.1 dL_law_1324 ?_
  refine sldE S.1 S.2.1 hX hbl hbA hS hi2 dL_law_1325 ?_
  refine lv_aload_n S.1 S.2.1 dL_law_1326 rfl (lv_at hl 0 rfl) ?_
  refine lv_iload_n S.1 S.2.1 dL_law_1327 rfl (lv_at hl 3 rfl) ?_
  refine lv_iconst (v := 3) S.1 S.2.1 dL_law_1328 (by decide) ?_
  refine lv_iadd S.1 S.2.1 dL_law_1329 ?_
  refine sldE S.1 S.2.1 hX hbl hbA hS hi3 dL_law_1330 ?_
  refine lv_aload_n S.1 S.2.1 dL_law_1331 rfl (lv_at hl 0 rfl) ?_
  refine lv_iload_n S.1 S.2.1 dL_law_1332 rfl (lv_at hl 3 rfl) ?_
  refine lv_iconst (v := 4) S.1 S.2.1 dL_law_1333 (by decide) ?_
  refine lv_iadd S.1 S.2.1 dL_law_1334 ?_
  refine sldE S.1 S.2.1 hX hbl hbA hS hi4 dL_law_1335 ?_
  refine lv_aload_n S.1 S.2.1 dL_law_1336 rfl (lv_at hl 0 rfl) ?_
  refine lv_iload_n S.1 S.2.1 dL_law_1337 rfl (lv_at hl 3 rfl) ?_
  refine lv_iconst (v := 5) S.1 S.2.1 dL_law_1338 (by decide) ?_
  refine lv_iadd S.1 S.2.1 dL_law_1339 ?_
  refine sldE S.1 S.2.1 hX hbl hbA hS hi5 dL_law_1340 ?_
  refine sM_i (As := [.int a1, .int a2, .int a3, .int a4, .int a5]) (rest := [.int r]) S hK rfl rfl (fun _ => rfl) hP hD hS (metX3_copy l hj hf) (lw_V q1598 q1599 q1600 q60 q1601) rfl pdX3_copy ⟨rfl, rfl⟩ ⟨Nat.le_of_ble_eq_true rfl, Nat.le_of_ble_eq_true rfl⟩ rfl hl.1 rfl (Nat.le_of_ble_eq_true rfl) dL_law_1341 hroom (fun r' u' H locs hf hP hD hS => ?_)
  obtain ⟨e1, hf⟩ := hf
  refine lv_icmp_eq (tgt := 1349) S.1 S.2.1 dL_law_1344 (by decide) (fun c_1 => ?_) (fun c_1 => ?_)
  · exact kk u u' H locs hf ⟨hP.perm permN, hD.perm permN⟩ hS
  · exact absurd e1 c_1
set_option maxHeartbeats 4000000 in
set_option maxRecDepth 100000 in
theorem lo_copy_SB (hC : LC p l s m c b L xs A dC dI dA eA mi) (hj : mJ hm) {steps : Int32} {draw : Int32} {typed : Int32} {at_ : Int32} {isImage : Int32} {idraw : Int32} {gd : (Nat → Int32)} {gro : Int64} {grt : Int32} {td : (Nat → Int32)} {tro : Int64} {trt : Int32} {rd : (Nat → Int32)} {rro : Int64} {rrt : Int32} {imd : (Nat → Int32)} {imro : Int64} {imrt : Int32} {owners : (Nat → Int32)} {tour : (Nat → Int32)} {best : (Nat → Int32)} {tape : (Nat → Int32)} {signs : (Nat → Int32)} {acts : (Nat → Int32)} {iown : (Nat → Int32)} {taken : (Nat → Int64)} {shf : (Nat → Option Nat)} {hd : Nat} {rn : Nat} {rf : (Nat → Int32)} {hd2 : Nat} {rn2 : Nat} {rf2 : (Nat → Int32)} {ra : Nat} {ra2 : Nat} {m_depths : (Nat → Int32)} {m_owners : (Nat → Int32)} {m_roofs : Int64} {m_rate : Int32} {m_undos : (Nat → Int32)} {m_undoMany : Int32} {m_drawn : Int32} {m_dug : Int64} {m_deep : Int64} {m_holes : (Nat → Int64)} {m_holeMany : Int32} {m_tape : (Nat → Int32)} {m_taped : Int32} {m_place : Int32} {m_reads : Int32} {m_read_ : (Nat → Int32)} {m_row : (Nat → Int32)} {m_order : (Nat → Int32)} {m_bestOrder : (Nat → Int32)} {m_nears : (Nat → Int32)} {m_isKept : Int32} {m_keptRoofs : Int64} {m_kept : (Nat → Int32)} {m_lanes : (Nat → Int32)} {m_rowSizes : (Nat → Int32)} {m_items : (Nat → Int64)} {m_moved : (Nat → Int64)} {PP : (Nat → Int64) → (Nat → Int64) → Prop} (hf : wX0_copy_SB (fun r => wX3_copy (fun r' q0 q1 => r = r' ∧ PP q0 q1) m_lanes m_rowSizes m_items m_moved a1 a2 a3 a4 a5) shf hd rn hd2 rn2 a1 a2 a3 a4 a5) (hPD : PD A dC dI ([((h 0), .inr (0, [.ref (h 1), .ref (h 3), .ref (h 9), .ref (h 17), .ref (h 10), .ref (h 11), .int steps, .int draw, .ref (h 12), .int typed, .int at_, .ref (h 5), .ref (h 13), .ref (h 14), .int isImage, .ref (h 7), .ref (h 15), .ref (h 18), .int idraw, .ref (h 19), .ref (h 16)])), ((h 1), .inr (1, [.ref (h 2), .long gro, .int grt])), ((h 2), .inl (dA 0, 36, .inl gd)), ((h 3), .inr (1, [.ref (h 4), .long tro, .int trt])), ((h 4), .inl (dA 0, 36, .inl td)), ((h 5), .inr (1, [.ref (h 6), .long rro, .int rrt])), ((h 6), .inl (dA 0, 36, .inl rd)), ((h 7), .inr (1, [.ref (h 8), .long imro, .int imrt])), ((h 8), .inl (dA 0, 36, .inl imd)), ((h 9), .inl (dA 0, 36, .inl owners)), ((h 10), .inl (dA 1, 8, .inl tour)), ((h 11), .inl (dA 1, 8, .inl best)), ((h 12), .inl (dA 0, 160, .inl tape)), ((h 13), .inl (dA 0, 36, .inl signs)), ((h 14), .inl (dA 0, 320, .inl acts)), ((h 15), .inl (dA 0, 36, .inl iown)), ((h 16), .inl (dA 2, 36, .inr (.inl taken))), ((h 19), .inl (dA 5, 4, .inr (.inr (.inr (.inr shf))))), (hd, .inr (2, [.ref ra])), (ra, .inl (dA 3, rn, .inl rf)), (hd2, .inr (2, [.ref ra2])), (ra2, .inl (dA 0, rn2, .inl rf2))] ++ ((wM hm dA m_depths m_owners m_roofs m_rate m_undos m_undoMany m_drawn m_dug m_deep m_holes m_holeMany m_tape m_taped m_place m_reads m_read_ m_row m_order m_bestOrder m_nears m_isKept m_keptRoofs m_kept m_lanes m_rowSizes m_items m_moved) ++ wr)) H) (hS : va_S A s.heap H locs) (hl : lv_has ls 4 [(0, .ref b), (1, .ref (h 0)), (2, .ref (hm 0)), (3, .int ix)]) (hi1 : vp_in (ix + 1) L ∧ xs (ix + 1).toNatClampNeg = a1) (hi2 : vp_in (ix + 2) L ∧ xs (ix + 2).toNatClampNeg = a2) (hi3 : vp_in (ix + 3) L ∧ xs (ix + 3).toNatClampNeg = a3) (hi4 : vp_in (ix + 4) L ∧ xs (ix + 4).toNatClampNeg = a4) (hi5 : vp_in (ix + 5) L ∧ xs (ix + 5).toNatClampNeg = a5) (hroom : kc + 3 ≤ room_1.cells ∧ ks + 500 ≤ room_1.slots)
    (kk : ∀ (u : Unit) (u' : (Nat → Int64) × (Nat → Int64)) (H1 : Heap) (locs1 : List Loc), PP u'.1 u'.2 → PD A dC dI ([((h 0), .inr (0, [.ref (h 1), .ref (h 3), .ref (h 9), .ref (h 17), .ref (h 10), .ref (h 11), .int steps, .int draw, .ref (h 12), .int typed, .int at_, .ref (h 5), .ref (h 13), .ref (h 14), .int isImage, .ref (h 7), .ref (h 15), .ref (h 18), .int idraw, .ref (h 19), .ref (h 16)])), ((h 1), .inr (1, [.ref (h 2), .long gro, .int grt])), ((h 2), .inl (dA 0, 36, .inl gd)), ((h 3), .inr (1, [.ref (h 4), .long tro, .int trt])), ((h 4), .inl (dA 0, 36, .inl td)), ((h 5), .inr (1, [.ref (h 6), .long rro, .int rrt])), ((h 6), .inl (dA 0, 36, .inl rd)), ((h 7), .inr (1, [.ref (h 8), .long imro, .int imrt])), ((h 8), .inl (dA 0, 36, .inl imd)), ((h 9), .inl (dA 0, 36, .inl owners)), ((h 10), .inl (dA 1, 8, .inl tour)), ((h 11), .inl (dA 1, 8, .inl best)), ((h 12), .inl (dA 0, 160, .inl tape)), ((h 13), .inl (dA 0, 36, .inl signs)), ((h 14), .inl (dA 0, 320, .inl acts)), ((h 15), .inl (dA 0, 36, .inl iown)), ((h 16), .inl (dA 2, 36, .inr (.inl taken))), ((h 19), .inl (dA 5, 4, .inr (.inr (.inr (.inr shf))))), (hd, .inr (2, [.ref ra])), (ra, .inl (dA 3, rn, .inl rf)), (hd2, .inr (2, [.ref ra2])), (ra2, .inl (dA 0, rn2, .inl rf2))] ++ ((wM hm dA m_depths m_owners m_roofs m_rate m_undos m_undoMany m_drawn m_dug m_deep m_holes m_holeMany m_tape m_taped m_place m_reads m_read_ m_row m_order m_bestOrder m_nears m_isKept m_keptRoofs m_kept m_lanes m_rowSizes u'.1 u'.2) ++ wr)) H1 → va_S A s.heap H1 locs1 → W p l e room_1 s m #[Value.ref b] below meth c H1 locs1 (kc + 3) (ks + 500) Q (F0 m 1349 ls [])) : W p l e room_1 s m #[Value.ref b] below meth c H locs kc ks Q (F0 m 1286 ls []) := by
  obtain ⟨S, hX, hbl, hbA, hK, hE, hA, hfl⟩ := hC
  obtain ⟨hP, hD⟩ := hPD
  refine lv_aload_n S.1 S.2.1 dL_law_1286 rfl (lv_at hl 1 rfl) ?_
  refine lv_aload_n S.1 S.2.1 dL_law_1287 rfl (lv_at hl 0 rfl) ?_
  refine lv_iload_n S.1 S.2.1 dL_law_1288 rfl (lv_at hl 3 rfl) ?_
  refine lv_iconst (v := 1) S.1 S.2.1 dL_law_1289 (by decide) ?_
  refine lv_iadd S.1 S.2.1 dL_law_1290 ?_
  refine sldE S.1 S.2.1 hX hbl hbA hS hi1 dL_law_1291 ?_
  refine lv_aload_n S.1 S.2.1 dL_law_1292 rfl (lv_at hl 0 rfl) ?_
  refine lv_iload_n S.1 S.2.1 dL_law_1293 rfl (lv_at hl 3 rfl) ?_
  refine lv_iconst (v := 2) S.1 S.2.1 dL_law_1294 (by decide) ?_
  refine lv_iadd S.1 S.2.1 dL_law_1295 ?_
  refine sldE S.1 S.2.1 hX hbl hbA hS hi2 dL_law_1296 ?_
  refine lv_aload_n S.1 S.2.1 dL_law_1297 rfl (lv_at hl 0 rfl) ?_
  refine lv_iload_n S.1 S.2.1 dL_law_1298 rfl (lv_at hl 3 rfl) ?_
  refine lv_iconst (v := 3) S.1 S.2.1 dL_law_1299 (by decide) ?_
  refine lv_iadd S.1 S.2.1 dL_law_1300 ?_
  refine sldE S.1 S.2.1 hX hbl hbA hS hi3 dL_law_1301 ?_
  refine lv_aload_n S.1 S.2.1 dL_law_1302 rfl (lv_at hl 0 rfl) ?_
  refine lv_iload_n S.1 S.2.1 dL_law_1303 rfl (lv_at hl 3 rfl) ?_
  refine lv_iconst (v := 4) S.1 S.2.1 dL_law_1304 (by decide) ?_
  refine lv_iadd S.1 S.2.1 dL_law_1305 ?_
  refine sldE S.1 S.2.1 hX hbl hbA hS hi4 dL_law_1306 ?_
  refine lv_aload_n S.1 S.2.1 dL_law_1307 rfl (lv_at hl 0 rfl) ?_
  refine lv_iload_n S.1 S.2.1 dL_law_1308 rfl (lv_at hl 3 rfl) ?_
  refine lv_iconst (v := 5) S.1 S.2.1 dL_law_1309 (by decide) ?_
  refine lv_iadd S.1 S.2.1 dL_law_1310 ?_
  refine sldE S.1 S.2.1 hX hbl hbA hS hi5 dL_law_1311 ?_
  refine sC_i hP hD hS hA (va_runVW (As := [.int a1, .int a2, .int a3, .int a4, .int a5]) (rest := []) S (metX0_copy_SB l hfl hf) (cwVW 5 S.2.2.2.2 q1049 q1050 q1051 q54 q1052 pdX0_copy ⟨Nat.le_of_ble_eq_true rfl, Nat.le_of_ble_eq_true rfl⟩) ⟨ablind, va_recv hK hP (ci := 0) (q0 := 0) rfl rfl, (spre hK hE hP hD hS hA).2⟩ rfl rfl hl.1 rfl (lv_room (Nat.le_of_ble_eq_true rfl)) dL_law_1312 hroom) (fun r u H locs hf hP hD hS => ?_)
  have hP := hP.perm permM
  have hD := hD.perm permM
  refine lv_aload_n S.1 S.2.1 dL_law_1315 rfl (lv_at hl 2 rfl) ?_
  refine lv_aload_n S.1 S.2.1 dL_law_1316 rfl (lv_at hl 0 rfl) ?_
  refine lv_iload_n S.1 S.2.1 dL_law_1317 rfl (lv_at hl 3 rfl) ?_
  refine lv_iconst (v := 1) S.1 S.2.1 dL_law_1318 (by decide) ?_
  refine lv_iadd S.1 S.2.1 dL_law_1319 ?_
  refine sldE S.1 S.2.1 hX hbl hbA hS hi1 dL_law_1320 ?_
  refine lv_aload_n S.1 S.2.1 dL_law_1321 rfl (lv_at hl 0 rfl) ?_
  refine lv_iload_n S.1 S.2.1 dL_law_1322 rfl (lv_at hl 3 rfl) ?_
  refine lv_iconst (v := 2) S.1 S.2.1 dL_law_1323 (by decide) ?_
  refine lv_iadd S.1 S.2.1 dL_law_1324 ?_
  refine sldE S.1 S.2.1 hX hbl hbA hS hi2 dL_law_1325 ?_
  refine lv_aload_n S.1 S.2.1 dL_law_1326 rfl (lv_at hl 0 rfl) ?_
  refine lv_iload_n S.1 S.2.1 dL_law_1327 rfl (lv_at hl 3 rfl) ?_
  refine lv_iconst (v := 3) S.1 S.2.1 dL_law_1328 (by decide) ?_
  refine lv_iadd S.1 S.2.1 dL_law_1329 ?_
  refine sldE S.1 S.2.1 hX hbl hbA hS hi3 dL_law_1330 ?_
  refine lv_aload_n S.1 S.2.1 dL_law_1331 rfl (lv_at hl 0 rfl) ?_
  refine lv_iload_n S.1 S.2.1 dL_law_1332 rfl (lv_at hl 3 rfl) ?_
  refine lv_iconst (v := 4) S.1 S.2.1 dL_law_1333 (by decide) ?_
  refine lv_iadd S.1 S.2.1 dL_law_1334 ?_
  refine sldE S.1 S.2.1 hX hbl hbA hS hi4 dL_law_1335 ?_
  refine lv_aload_n S.1 S.2.1 dL_law_1336 rfl (lv_at hl 0 rfl) ?_
  refine lv_iload_n S.1 S.2.1 dL_law_1337 rfl (lv_at hl 3 rfl) ?_
  refine lv_iconst (v := 5) S.1 S.2.1 dL_law_1338 (by decide) ?_
  refine lv_iadd S.1 S.2.1 dL_law_1339 ?_
  refine sldE S.1 S.2.1 hX hbl hbA hS hi5 dL_law_1340 ?_
  refine sM_i (As := [.int a1, .int a2, .int a3, .int a4, .int a5]) (rest := [.int r]) S hK rfl rfl (fun _ => rfl) hP hD hS (metX3_copy l hj hf) (lw_V q1598 q1599 q1600 q60 q1601) rfl pdX3_copy ⟨rfl, rfl⟩ ⟨Nat.le_of_ble_eq_true rfl, Nat.le_of_ble_eq_true rfl⟩ rfl hl.1 rfl (Nat.le_of_ble_eq_true rfl) dL_law_1341 hroom (fun r' u' H locs hf hP hD hS => ?_)
  obtain ⟨e1, hf⟩ := hf
  refine lv_icmp_eq (tgt := 1349) S.1 S.2.1 dL_law_1344 (by decide) (fun c_1 => ?_) (fun c_1 => ?_)
  · exact kk u u' H locs hf ⟨hP.perm permN, hD.perm permN⟩ hS
  · exact absurd e1 c_1
set_option maxHeartbeats 4000000 in
set_option maxRecDepth 100000 in
theorem lo_copy_SS (hC : LC p l s m c b L xs A dC dI dA eA mi) (hj : mJ hm) {steps : Int32} {draw : Int32} {typed : Int32} {at_ : Int32} {isImage : Int32} {idraw : Int32} {gd : (Nat → Int32)} {gro : Int64} {grt : Int32} {td : (Nat → Int32)} {tro : Int64} {trt : Int32} {rd : (Nat → Int32)} {rro : Int64} {rrt : Int32} {imd : (Nat → Int32)} {imro : Int64} {imrt : Int32} {owners : (Nat → Int32)} {tour : (Nat → Int32)} {best : (Nat → Int32)} {tape : (Nat → Int32)} {signs : (Nat → Int32)} {acts : (Nat → Int32)} {iown : (Nat → Int32)} {taken : (Nat → Int64)} {shf : (Nat → Option Nat)} {hd : Nat} {rn : Nat} {rf : (Nat → Int32)} {hd2 : Nat} {rn2 : Nat} {rf2 : (Nat → Int32)} {ra : Nat} {ra2 : Nat} {m_depths : (Nat → Int32)} {m_owners : (Nat → Int32)} {m_roofs : Int64} {m_rate : Int32} {m_undos : (Nat → Int32)} {m_undoMany : Int32} {m_drawn : Int32} {m_dug : Int64} {m_deep : Int64} {m_holes : (Nat → Int64)} {m_holeMany : Int32} {m_tape : (Nat → Int32)} {m_taped : Int32} {m_place : Int32} {m_reads : Int32} {m_read_ : (Nat → Int32)} {m_row : (Nat → Int32)} {m_order : (Nat → Int32)} {m_bestOrder : (Nat → Int32)} {m_nears : (Nat → Int32)} {m_isKept : Int32} {m_keptRoofs : Int64} {m_kept : (Nat → Int32)} {m_lanes : (Nat → Int32)} {m_rowSizes : (Nat → Int32)} {m_items : (Nat → Int64)} {m_moved : (Nat → Int64)} {PP : (Nat → Int32) → (Nat → Int64) → (Nat → Int64) → Prop} (hf : wX0_copy_SS (fun r p0 => wX3_copy (fun r' q0 q1 => r = r' ∧ PP p0 q0 q1) m_lanes m_rowSizes m_items m_moved a1 a2 a3 a4 a5) shf hd rn rf hd2 rn2 rf2 a1 a2 a3 a4 a5) (hPD : PD A dC dI ([((h 0), .inr (0, [.ref (h 1), .ref (h 3), .ref (h 9), .ref (h 17), .ref (h 10), .ref (h 11), .int steps, .int draw, .ref (h 12), .int typed, .int at_, .ref (h 5), .ref (h 13), .ref (h 14), .int isImage, .ref (h 7), .ref (h 15), .ref (h 18), .int idraw, .ref (h 19), .ref (h 16)])), ((h 1), .inr (1, [.ref (h 2), .long gro, .int grt])), ((h 2), .inl (dA 0, 36, .inl gd)), ((h 3), .inr (1, [.ref (h 4), .long tro, .int trt])), ((h 4), .inl (dA 0, 36, .inl td)), ((h 5), .inr (1, [.ref (h 6), .long rro, .int rrt])), ((h 6), .inl (dA 0, 36, .inl rd)), ((h 7), .inr (1, [.ref (h 8), .long imro, .int imrt])), ((h 8), .inl (dA 0, 36, .inl imd)), ((h 9), .inl (dA 0, 36, .inl owners)), ((h 10), .inl (dA 1, 8, .inl tour)), ((h 11), .inl (dA 1, 8, .inl best)), ((h 12), .inl (dA 0, 160, .inl tape)), ((h 13), .inl (dA 0, 36, .inl signs)), ((h 14), .inl (dA 0, 320, .inl acts)), ((h 15), .inl (dA 0, 36, .inl iown)), ((h 16), .inl (dA 2, 36, .inr (.inl taken))), ((h 19), .inl (dA 5, 4, .inr (.inr (.inr (.inr shf))))), (hd, .inr (2, [.ref ra])), (ra, .inl (dA 3, rn, .inl rf)), (hd2, .inr (2, [.ref ra2])), (ra2, .inl (dA 3, rn2, .inl rf2))] ++ ((wM hm dA m_depths m_owners m_roofs m_rate m_undos m_undoMany m_drawn m_dug m_deep m_holes m_holeMany m_tape m_taped m_place m_reads m_read_ m_row m_order m_bestOrder m_nears m_isKept m_keptRoofs m_kept m_lanes m_rowSizes m_items m_moved) ++ wr)) H) (hS : va_S A s.heap H locs) (hl : lv_has ls 4 [(0, .ref b), (1, .ref (h 0)), (2, .ref (hm 0)), (3, .int ix)]) (hi1 : vp_in (ix + 1) L ∧ xs (ix + 1).toNatClampNeg = a1) (hi2 : vp_in (ix + 2) L ∧ xs (ix + 2).toNatClampNeg = a2) (hi3 : vp_in (ix + 3) L ∧ xs (ix + 3).toNatClampNeg = a3) (hi4 : vp_in (ix + 4) L ∧ xs (ix + 4).toNatClampNeg = a4) (hi5 : vp_in (ix + 5) L ∧ xs (ix + 5).toNatClampNeg = a5) (hroom : kc + 3 ≤ room_1.cells ∧ ks + 500 ≤ room_1.slots)
    (kk : ∀ (u : (Nat → Int32)) (u' : (Nat → Int64) × (Nat → Int64)) (H1 : Heap) (locs1 : List Loc), PP u u'.1 u'.2 → PD A dC dI ([((h 0), .inr (0, [.ref (h 1), .ref (h 3), .ref (h 9), .ref (h 17), .ref (h 10), .ref (h 11), .int steps, .int draw, .ref (h 12), .int typed, .int at_, .ref (h 5), .ref (h 13), .ref (h 14), .int isImage, .ref (h 7), .ref (h 15), .ref (h 18), .int idraw, .ref (h 19), .ref (h 16)])), ((h 1), .inr (1, [.ref (h 2), .long gro, .int grt])), ((h 2), .inl (dA 0, 36, .inl gd)), ((h 3), .inr (1, [.ref (h 4), .long tro, .int trt])), ((h 4), .inl (dA 0, 36, .inl td)), ((h 5), .inr (1, [.ref (h 6), .long rro, .int rrt])), ((h 6), .inl (dA 0, 36, .inl rd)), ((h 7), .inr (1, [.ref (h 8), .long imro, .int imrt])), ((h 8), .inl (dA 0, 36, .inl imd)), ((h 9), .inl (dA 0, 36, .inl owners)), ((h 10), .inl (dA 1, 8, .inl tour)), ((h 11), .inl (dA 1, 8, .inl best)), ((h 12), .inl (dA 0, 160, .inl tape)), ((h 13), .inl (dA 0, 36, .inl signs)), ((h 14), .inl (dA 0, 320, .inl acts)), ((h 15), .inl (dA 0, 36, .inl iown)), ((h 16), .inl (dA 2, 36, .inr (.inl taken))), ((h 19), .inl (dA 5, 4, .inr (.inr (.inr (.inr shf))))), (hd, .inr (2, [.ref ra])), (ra, .inl (dA 3, rn, .inl rf)), (hd2, .inr (2, [.ref ra2])), (ra2, .inl (dA 3, rn2, .inl u))] ++ ((wM hm dA m_depths m_owners m_roofs m_rate m_undos m_undoMany m_drawn m_dug m_deep m_holes m_holeMany m_tape m_taped m_place m_reads m_read_ m_row m_order m_bestOrder m_nears m_isKept m_keptRoofs m_kept m_lanes m_rowSizes u'.1 u'.2) ++ wr)) H1 → va_S A s.heap H1 locs1 → W p l e room_1 s m #[Value.ref b] below meth c H1 locs1 (kc + 3) (ks + 500) Q (F0 m 1349 ls [])) : W p l e room_1 s m #[Value.ref b] below meth c H locs kc ks Q (F0 m 1286 ls []) := by
  obtain ⟨S, hX, hbl, hbA, hK, hE, hA, hfl⟩ := hC
  obtain ⟨hP, hD⟩ := hPD
  refine lv_aload_n S.1 S.2.1 dL_law_1286 rfl (lv_at hl 1 rfl) ?_
  refine lv_aload_n S.1 S.2.1 dL_law_1287 rfl (lv_at hl 0 rfl) ?_
  refine lv_iload_n S.1 S.2.1 dL_law_1288 rfl (lv_at hl 3 rfl) ?_
  refine lv_iconst (v := 1) S.1 S.2.1 dL_law_1289 (by decide) ?_
  refine lv_iadd S.1 S.2.1 dL_law_1290 ?_
  refine sldE S.1 S.2.1 hX hbl hbA hS hi1 dL_law_1291 ?_
  refine lv_aload_n S.1 S.2.1 dL_law_1292 rfl (lv_at hl 0 rfl) ?_
  refine lv_iload_n S.1 S.2.1 dL_law_1293 rfl (lv_at hl 3 rfl) ?_
  refine lv_iconst (v := 2) S.1 S.2.1 dL_law_1294 (by decide) ?_
  refine lv_iadd S.1 S.2.1 dL_law_1295 ?_
  refine sldE S.1 S.2.1 hX hbl hbA hS hi2 dL_law_1296 ?_
  refine lv_aload_n S.1 S.2.1 dL_law_1297 rfl (lv_at hl 0 rfl) ?_
  refine lv_iload_n S.1 S.2.1 dL_law_1298 rfl (lv_at hl 3 rfl) ?_
  refine lv_iconst (v := 3) S.1 S.2.1 dL_law_1299 (by decide) ?_
  refine lv_iadd S.1 S.2.1 dL_law_1300 ?_
  refine sldE S.1 S.2.1 hX hbl hbA hS hi3 dL_law_1301 ?_
  refine lv_aload_n S.1 S.2.1 dL_law_1302 rfl (lv_at hl 0 rfl) ?_
  refine lv_iload_n S.1 S.2.1 dL_law_1303 rfl (lv_at hl 3 rfl) ?_
  refine lv_iconst (v := 4) S.1 S.2.1 dL_law_1304 (by decide) ?_
  refine lv_iadd S.1 S.2.1 dL_law_1305 ?_
  refine sldE S.1 S.2.1 hX hbl hbA hS hi4 dL_law_1306 ?_
  refine lv_aload_n S.1 S.2.1 dL_law_1307 rfl (lv_at hl 0 rfl) ?_
  refine lv_iload_n S.1 S.2.1 dL_law_1308 rfl (lv_at hl 3 rfl) ?_
  refine lv_iconst (v := 5) S.1 S.2.1 dL_law_1309 (by decide) ?_
  refine lv_iadd S.1 S.2.1 dL_law_1310 ?_
  refine sldE S.1 S.2.1 hX hbl hbA hS hi5 dL_law_1311 ?_
  refine sC_i hP hD hS hA (va_runVW (As := [.int a1, .int a2, .int a3, .int a4, .int a5]) (rest := []) S (metX0_copy_SS l hfl hf) (cwVW 5 S.2.2.2.2 q1049 q1050 q1051 q54 q1052 pdX0_copy ⟨Nat.le_of_ble_eq_true rfl, Nat.le_of_ble_eq_true rfl⟩) ⟨ablind, va_recv hK hP (ci := 0) (q0 := 0) rfl rfl, (spre hK hE hP hD hS hA).2⟩ rfl rfl hl.1 rfl (lv_room (Nat.le_of_ble_eq_true rfl)) dL_law_1312 hroom) (fun r u H locs hf hP hD hS => ?_)
  have hP := hP.perm permM
  have hD := hD.perm permM
  refine lv_aload_n S.1 S.2.1 dL_law_1315 rfl (lv_at hl 2 rfl) ?_
  refine lv_aload_n S.1 S.2.1 dL_law_1316 rfl (lv_at hl 0 rfl) ?_
  refine lv_iload_n S.1 S.2.1 dL_law_1317 rfl (lv_at hl 3 rfl) ?_
  refine lv_iconst (v := 1) S.1 S.2.1 dL_law_1318 (by decide) ?_
  refine lv_iadd S.1 S.2.1 dL_law_1319 ?_
  refine sldE S.1 S.2.1 hX hbl hbA hS hi1 dL_law_1320 ?_
  refine lv_aload_n S.1 S.2.1 dL_law_1321 rfl (lv_at hl 0 rfl) ?_
  refine lv_iload_n S.1 S.2.1 dL_law_1322 rfl (lv_at hl 3 rfl) ?_
  refine lv_iconst (v := 2) S.1 S.2.1 dL_law_1323 (by decide) ?_
  refine lv_iadd S.1 S.2.1 dL_law_1324 ?_
  refine sldE S.1 S.2.1 hX hbl hbA hS hi2 dL_law_1325 ?_
  refine lv_aload_n S.1 S.2.1 dL_law_1326 rfl (lv_at hl 0 rfl) ?_
  refine lv_iload_n S.1 S.2.1 dL_law_1327 rfl (lv_at hl 3 rfl) ?_
  refine lv_iconst (v := 3) S.1 S.2.1 dL_law_1328 (by decide) ?_
  refine lv_iadd S.1 S.2.1 dL_law_1329 ?_
  refine sldE S.1 S.2.1 hX hbl hbA hS hi3 dL_law_1330 ?_
  refine lv_aload_n S.1 S.2.1 dL_law_1331 rfl (lv_at hl 0 rfl) ?_
  refine lv_iload_n S.1 S.2.1 dL_law_1332 rfl (lv_at hl 3 rfl) ?_
  refine lv_iconst (v := 4) S.1 S.2.1 dL_law_1333 (by decide) ?_
  refine lv_iadd S.1 S.2.1 dL_law_1334 ?_
  refine sldE S.1 S.2.1 hX hbl hbA hS hi4 dL_law_1335 ?_
  refine lv_aload_n S.1 S.2.1 dL_law_1336 rfl (lv_at hl 0 rfl) ?_
  refine lv_iload_n S.1 S.2.1 dL_law_1337 rfl (lv_at hl 3 rfl) ?_
  refine lv_iconst (v := 5) S.1 S.2.1 dL_law_1338 (by decide) ?_
  refine lv_iadd S.1 S.2.1 dL_law_1339 ?_
  refine sldE S.1 S.2.1 hX hbl hbA hS hi5 dL_law_1340 ?_
  refine sM_i (As := [.int a1, .int a2, .int a3, .int a4, .int a5]) (rest := [.int r]) S hK rfl rfl (fun _ => rfl) hP hD hS (metX3_copy l hj hf) (lw_V q1598 q1599 q1600 q60 q1601) rfl pdX3_copy ⟨rfl, rfl⟩ ⟨Nat.le_of_ble_eq_true rfl, Nat.le_of_ble_eq_true rfl⟩ rfl hl.1 rfl (Nat.le_of_ble_eq_true rfl) dL_law_1341 hroom (fun r' u' H locs hf hP hD hS => ?_)
  obtain ⟨e1, hf⟩ := hf
  refine lv_icmp_eq (tgt := 1349) S.1 S.2.1 dL_law_1344 (by decide) (fun c_1 => ?_) (fun c_1 => ?_)
  · exact kk u u' H locs hf ⟨hP.perm permN, hD.perm permN⟩ hS
  · exact absurd e1 c_1
set_option maxHeartbeats 4000000 in
set_option maxRecDepth 100000 in
theorem lo_copy_SI (hC : LC p l s m c b L xs A dC dI dA eA mi) (hj : mJ hm) {steps : Int32} {draw : Int32} {typed : Int32} {at_ : Int32} {isImage : Int32} {idraw : Int32} {gd : (Nat → Int32)} {gro : Int64} {grt : Int32} {td : (Nat → Int32)} {tro : Int64} {trt : Int32} {rd : (Nat → Int32)} {rro : Int64} {rrt : Int32} {imd : (Nat → Int32)} {imro : Int64} {imrt : Int32} {owners : (Nat → Int32)} {tour : (Nat → Int32)} {best : (Nat → Int32)} {tape : (Nat → Int32)} {signs : (Nat → Int32)} {acts : (Nat → Int32)} {iown : (Nat → Int32)} {taken : (Nat → Int64)} {shf : (Nat → Option Nat)} {hd : Nat} {rn : Nat} {rf : (Nat → Int32)} {hd2 : Nat} {rn2 : Nat} {rf2 : (Nat → Int32)} {ra : Nat} {ra2 : Nat} {m_depths : (Nat → Int32)} {m_owners : (Nat → Int32)} {m_roofs : Int64} {m_rate : Int32} {m_undos : (Nat → Int32)} {m_undoMany : Int32} {m_drawn : Int32} {m_dug : Int64} {m_deep : Int64} {m_holes : (Nat → Int64)} {m_holeMany : Int32} {m_tape : (Nat → Int32)} {m_taped : Int32} {m_place : Int32} {m_reads : Int32} {m_read_ : (Nat → Int32)} {m_row : (Nat → Int32)} {m_order : (Nat → Int32)} {m_bestOrder : (Nat → Int32)} {m_nears : (Nat → Int32)} {m_isKept : Int32} {m_keptRoofs : Int64} {m_kept : (Nat → Int32)} {m_lanes : (Nat → Int32)} {m_rowSizes : (Nat → Int32)} {m_items : (Nat → Int64)} {m_moved : (Nat → Int64)} {PP : (Nat → Int64) → (Nat → Int64) → Prop} (hf : wX0_copy_SI (fun r => wX3_copy (fun r' q0 q1 => r = r' ∧ PP q0 q1) m_lanes m_rowSizes m_items m_moved a1 a2 a3 a4 a5) shf hd rn hd2 rn2 a1 a2 a3 a4 a5) (hPD : PD A dC dI ([((h 0), .inr (0, [.ref (h 1), .ref (h 3), .ref (h 9), .ref (h 17), .ref (h 10), .ref (h 11), .int steps, .int draw, .ref (h 12), .int typed, .int at_, .ref (h 5), .ref (h 13), .ref (h 14), .int isImage, .ref (h 7), .ref (h 15), .ref (h 18), .int idraw, .ref (h 19), .ref (h 16)])), ((h 1), .inr (1, [.ref (h 2), .long gro, .int grt])), ((h 2), .inl (dA 0, 36, .inl gd)), ((h 3), .inr (1, [.ref (h 4), .long tro, .int trt])), ((h 4), .inl (dA 0, 36, .inl td)), ((h 5), .inr (1, [.ref (h 6), .long rro, .int rrt])), ((h 6), .inl (dA 0, 36, .inl rd)), ((h 7), .inr (1, [.ref (h 8), .long imro, .int imrt])), ((h 8), .inl (dA 0, 36, .inl imd)), ((h 9), .inl (dA 0, 36, .inl owners)), ((h 10), .inl (dA 1, 8, .inl tour)), ((h 11), .inl (dA 1, 8, .inl best)), ((h 12), .inl (dA 0, 160, .inl tape)), ((h 13), .inl (dA 0, 36, .inl signs)), ((h 14), .inl (dA 0, 320, .inl acts)), ((h 15), .inl (dA 0, 36, .inl iown)), ((h 16), .inl (dA 2, 36, .inr (.inl taken))), ((h 19), .inl (dA 5, 4, .inr (.inr (.inr (.inr shf))))), (hd, .inr (2, [.ref ra])), (ra, .inl (dA 3, rn, .inl rf)), (hd2, .inr (2, [.ref ra2])), (ra2, .inl (dA 1, rn2, .inl rf2))] ++ ((wM hm dA m_depths m_owners m_roofs m_rate m_undos m_undoMany m_drawn m_dug m_deep m_holes m_holeMany m_tape m_taped m_place m_reads m_read_ m_row m_order m_bestOrder m_nears m_isKept m_keptRoofs m_kept m_lanes m_rowSizes m_items m_moved) ++ wr)) H) (hS : va_S A s.heap H locs) (hl : lv_has ls 4 [(0, .ref b), (1, .ref (h 0)), (2, .ref (hm 0)), (3, .int ix)]) (hi1 : vp_in (ix + 1) L ∧ xs (ix + 1).toNatClampNeg = a1) (hi2 : vp_in (ix + 2) L ∧ xs (ix + 2).toNatClampNeg = a2) (hi3 : vp_in (ix + 3) L ∧ xs (ix + 3).toNatClampNeg = a3) (hi4 : vp_in (ix + 4) L ∧ xs (ix + 4).toNatClampNeg = a4) (hi5 : vp_in (ix + 5) L ∧ xs (ix + 5).toNatClampNeg = a5) (hroom : kc + 3 ≤ room_1.cells ∧ ks + 500 ≤ room_1.slots)
    (kk : ∀ (u : Unit) (u' : (Nat → Int64) × (Nat → Int64)) (H1 : Heap) (locs1 : List Loc), PP u'.1 u'.2 → PD A dC dI ([((h 0), .inr (0, [.ref (h 1), .ref (h 3), .ref (h 9), .ref (h 17), .ref (h 10), .ref (h 11), .int steps, .int draw, .ref (h 12), .int typed, .int at_, .ref (h 5), .ref (h 13), .ref (h 14), .int isImage, .ref (h 7), .ref (h 15), .ref (h 18), .int idraw, .ref (h 19), .ref (h 16)])), ((h 1), .inr (1, [.ref (h 2), .long gro, .int grt])), ((h 2), .inl (dA 0, 36, .inl gd)), ((h 3), .inr (1, [.ref (h 4), .long tro, .int trt])), ((h 4), .inl (dA 0, 36, .inl td)), ((h 5), .inr (1, [.ref (h 6), .long rro, .int rrt])), ((h 6), .inl (dA 0, 36, .inl rd)), ((h 7), .inr (1, [.ref (h 8), .long imro, .int imrt])), ((h 8), .inl (dA 0, 36, .inl imd)), ((h 9), .inl (dA 0, 36, .inl owners)), ((h 10), .inl (dA 1, 8, .inl tour)), ((h 11), .inl (dA 1, 8, .inl best)), ((h 12), .inl (dA 0, 160, .inl tape)), ((h 13), .inl (dA 0, 36, .inl signs)), ((h 14), .inl (dA 0, 320, .inl acts)), ((h 15), .inl (dA 0, 36, .inl iown)), ((h 16), .inl (dA 2, 36, .inr (.inl taken))), ((h 19), .inl (dA 5, 4, .inr (.inr (.inr (.inr shf))))), (hd, .inr (2, [.ref ra])), (ra, .inl (dA 3, rn, .inl rf)), (hd2, .inr (2, [.ref ra2])), (ra2, .inl (dA 1, rn2, .inl rf2))] ++ ((wM hm dA m_depths m_owners m_roofs m_rate m_undos m_undoMany m_drawn m_dug m_deep m_holes m_holeMany m_tape m_taped m_place m_reads m_read_ m_row m_order m_bestOrder m_nears m_isKept m_keptRoofs m_kept m_lanes m_rowSizes u'.1 u'.2) ++ wr)) H1 → va_S A s.heap H1 locs1 → W p l e room_1 s m #[Value.ref b] below meth c H1 locs1 (kc + 3) (ks + 500) Q (F0 m 1349 ls [])) : W p l e room_1 s m #[Value.ref b] below meth c H locs kc ks Q (F0 m 1286 ls []) := by
  obtain ⟨S, hX, hbl, hbA, hK, hE, hA, hfl⟩ := hC
  obtain ⟨hP, hD⟩ := hPD
  refine lv_aload_n S.1 S.2.1 dL_law_1286 rfl (lv_at hl 1 rfl) ?_
  refine lv_aload_n S.1 S.2.1 dL_law_1287 rfl (lv_at hl 0 rfl) ?_
  refine lv_iload_n S.1 S.2.1 dL_law_1288 rfl (lv_at hl 3 rfl) ?_
  refine lv_iconst (v := 1) S.1 S.2.1 dL_law_1289 (by decide) ?_
  refine lv_iadd S.1 S.2.1 dL_law_1290 ?_
  refine sldE S.1 S.2.1 hX hbl hbA hS hi1 dL_law_1291 ?_
  refine lv_aload_n S.1 S.2.1 dL_law_1292 rfl (lv_at hl 0 rfl) ?_
  refine lv_iload_n S.1 S.2.1 dL_law_1293 rfl (lv_at hl 3 rfl) ?_
  refine lv_iconst (v := 2) S.1 S.2.1 dL_law_1294 (by decide) ?_
  refine lv_iadd S.1 S.2.1 dL_law_1295 ?_
  refine sldE S.1 S.2.1 hX hbl hbA hS hi2 dL_law_1296 ?_
  refine lv_aload_n S.1 S.2.1 dL_law_1297 rfl (lv_at hl 0 rfl) ?_
  refine lv_iload_n S.1 S.2.1 dL_law_1298 rfl (lv_at hl 3 rfl) ?_
  refine lv_iconst (v := 3) S.1 S.2.1 dL_law_1299 (by decide) ?_
  refine lv_iadd S.1 S.2.1 dL_law_1300 ?_
  refine sldE S.1 S.2.1 hX hbl hbA hS hi3 dL_law_1301 ?_
  refine lv_aload_n S.1 S.2.1 dL_law_1302 rfl (lv_at hl 0 rfl) ?_
  refine lv_iload_n S.1 S.2.1 dL_law_1303 rfl (lv_at hl 3 rfl) ?_
  refine lv_iconst (v := 4) S.1 S.2.1 dL_law_1304 (by decide) ?_
  refine lv_iadd S.1 S.2.1 dL_law_1305 ?_
  refine sldE S.1 S.2.1 hX hbl hbA hS hi4 dL_law_1306 ?_
  refine lv_aload_n S.1 S.2.1 dL_law_1307 rfl (lv_at hl 0 rfl) ?_
  refine lv_iload_n S.1 S.2.1 dL_law_1308 rfl (lv_at hl 3 rfl) ?_
  refine lv_iconst (v := 5) S.1 S.2.1 dL_law_1309 (by decide) ?_
  refine lv_iadd S.1 S.2.1 dL_law_1310 ?_
  refine sldE S.1 S.2.1 hX hbl hbA hS hi5 dL_law_1311 ?_
  refine sC_i hP hD hS hA (va_runVW (As := [.int a1, .int a2, .int a3, .int a4, .int a5]) (rest := []) S (metX0_copy_SI l hfl hf) (cwVW 5 S.2.2.2.2 q1049 q1050 q1051 q54 q1052 pdX0_copy ⟨Nat.le_of_ble_eq_true rfl, Nat.le_of_ble_eq_true rfl⟩) ⟨ablind, va_recv hK hP (ci := 0) (q0 := 0) rfl rfl, (spre hK hE hP hD hS hA).2⟩ rfl rfl hl.1 rfl (lv_room (Nat.le_of_ble_eq_true rfl)) dL_law_1312 hroom) (fun r u H locs hf hP hD hS => ?_)
  have hP := hP.perm permM
  have hD := hD.perm permM
  refine lv_aload_n S.1 S.2.1 dL_law_1315 rfl (lv_at hl 2 rfl) ?_
  refine lv_aload_n S.1 S.2.1 dL_law_1316 rfl (lv_at hl 0 rfl) ?_
  refine lv_iload_n S.1 S.2.1 dL_law_1317 rfl (lv_at hl 3 rfl) ?_
  refine lv_iconst (v := 1) S.1 S.2.1 dL_law_1318 (by decide) ?_
  refine lv_iadd S.1 S.2.1 dL_law_1319 ?_
  refine sldE S.1 S.2.1 hX hbl hbA hS hi1 dL_law_1320 ?_
  refine lv_aload_n S.1 S.2.1 dL_law_1321 rfl (lv_at hl 0 rfl) ?_
  refine lv_iload_n S.1 S.2.1 dL_law_1322 rfl (lv_at hl 3 rfl) ?_
  refine lv_iconst (v := 2) S.1 S.2.1 dL_law_1323 (by decide) ?_
  refine lv_iadd S.1 S.2.1 dL_law_1324 ?_
  refine sldE S.1 S.2.1 hX hbl hbA hS hi2 dL_law_1325 ?_
  refine lv_aload_n S.1 S.2.1 dL_law_1326 rfl (lv_at hl 0 rfl) ?_
  refine lv_iload_n S.1 S.2.1 dL_law_1327 rfl (lv_at hl 3 rfl) ?_
  refine lv_iconst (v := 3) S.1 S.2.1 dL_law_1328 (by decide) ?_
  refine lv_iadd S.1 S.2.1 dL_law_1329 ?_
  refine sldE S.1 S.2.1 hX hbl hbA hS hi3 dL_law_1330 ?_
  refine lv_aload_n S.1 S.2.1 dL_law_1331 rfl (lv_at hl 0 rfl) ?_
  refine lv_iload_n S.1 S.2.1 dL_law_1332 rfl (lv_at hl 3 rfl) ?_
  refine lv_iconst (v := 4) S.1 S.2.1 dL_law_1333 (by decide) ?_
  refine lv_iadd S.1 S.2.1 dL_law_1334 ?_
  refine sldE S.1 S.2.1 hX hbl hbA hS hi4 dL_law_1335 ?_
  refine lv_aload_n S.1 S.2.1 dL_law_1336 rfl (lv_at hl 0 rfl) ?_
  refine lv_iload_n S.1 S.2.1 dL_law_1337 rfl (lv_at hl 3 rfl) ?_
  refine lv_iconst (v := 5) S.1 S.2.1 dL_law_1338 (by decide) ?_
  refine lv_iadd S.1 S.2.1 dL_law_1339 ?_
  refine sldE S.1 S.2.1 hX hbl hbA hS hi5 dL_law_1340 ?_
  refine sM_i (As := [.int a1, .int a2, .int a3, .int a4, .int a5]) (rest := [.int r]) S hK rfl rfl (fun _ => rfl) hP hD hS (metX3_copy l hj hf) (lw_V q1598 q1599 q1600 q60 q1601) rfl pdX3_copy ⟨rfl, rfl⟩ ⟨Nat.le_of_ble_eq_true rfl, Nat.le_of_ble_eq_true rfl⟩ rfl hl.1 rfl (Nat.le_of_ble_eq_true rfl) dL_law_1341 hroom (fun r' u' H locs hf hP hD hS => ?_)
  obtain ⟨e1, hf⟩ := hf
  refine lv_icmp_eq (tgt := 1349) S.1 S.2.1 dL_law_1344 (by decide) (fun c_1 => ?_) (fun c_1 => ?_)
  · exact kk u u' H locs hf ⟨hP.perm permN, hD.perm permN⟩ hS
  · exact absurd e1 c_1
set_option maxHeartbeats 4000000 in
set_option maxRecDepth 100000 in
theorem lo_copy_SJ (hC : LC p l s m c b L xs A dC dI dA eA mi) (hj : mJ hm) {steps : Int32} {draw : Int32} {typed : Int32} {at_ : Int32} {isImage : Int32} {idraw : Int32} {gd : (Nat → Int32)} {gro : Int64} {grt : Int32} {td : (Nat → Int32)} {tro : Int64} {trt : Int32} {rd : (Nat → Int32)} {rro : Int64} {rrt : Int32} {imd : (Nat → Int32)} {imro : Int64} {imrt : Int32} {owners : (Nat → Int32)} {tour : (Nat → Int32)} {best : (Nat → Int32)} {tape : (Nat → Int32)} {signs : (Nat → Int32)} {acts : (Nat → Int32)} {iown : (Nat → Int32)} {taken : (Nat → Int64)} {shf : (Nat → Option Nat)} {hd : Nat} {rn : Nat} {rf : (Nat → Int32)} {hd2 : Nat} {rn2 : Nat} {rf2 : (Nat → Int64)} {ra : Nat} {ra2 : Nat} {m_depths : (Nat → Int32)} {m_owners : (Nat → Int32)} {m_roofs : Int64} {m_rate : Int32} {m_undos : (Nat → Int32)} {m_undoMany : Int32} {m_drawn : Int32} {m_dug : Int64} {m_deep : Int64} {m_holes : (Nat → Int64)} {m_holeMany : Int32} {m_tape : (Nat → Int32)} {m_taped : Int32} {m_place : Int32} {m_reads : Int32} {m_read_ : (Nat → Int32)} {m_row : (Nat → Int32)} {m_order : (Nat → Int32)} {m_bestOrder : (Nat → Int32)} {m_nears : (Nat → Int32)} {m_isKept : Int32} {m_keptRoofs : Int64} {m_kept : (Nat → Int32)} {m_lanes : (Nat → Int32)} {m_rowSizes : (Nat → Int32)} {m_items : (Nat → Int64)} {m_moved : (Nat → Int64)} {PP : (Nat → Int64) → (Nat → Int64) → Prop} (hf : wX0_copy_SJ (fun r => wX3_copy (fun r' q0 q1 => r = r' ∧ PP q0 q1) m_lanes m_rowSizes m_items m_moved a1 a2 a3 a4 a5) shf hd rn hd2 rn2 a1 a2 a3 a4 a5) (hPD : PD A dC dI ([((h 0), .inr (0, [.ref (h 1), .ref (h 3), .ref (h 9), .ref (h 17), .ref (h 10), .ref (h 11), .int steps, .int draw, .ref (h 12), .int typed, .int at_, .ref (h 5), .ref (h 13), .ref (h 14), .int isImage, .ref (h 7), .ref (h 15), .ref (h 18), .int idraw, .ref (h 19), .ref (h 16)])), ((h 1), .inr (1, [.ref (h 2), .long gro, .int grt])), ((h 2), .inl (dA 0, 36, .inl gd)), ((h 3), .inr (1, [.ref (h 4), .long tro, .int trt])), ((h 4), .inl (dA 0, 36, .inl td)), ((h 5), .inr (1, [.ref (h 6), .long rro, .int rrt])), ((h 6), .inl (dA 0, 36, .inl rd)), ((h 7), .inr (1, [.ref (h 8), .long imro, .int imrt])), ((h 8), .inl (dA 0, 36, .inl imd)), ((h 9), .inl (dA 0, 36, .inl owners)), ((h 10), .inl (dA 1, 8, .inl tour)), ((h 11), .inl (dA 1, 8, .inl best)), ((h 12), .inl (dA 0, 160, .inl tape)), ((h 13), .inl (dA 0, 36, .inl signs)), ((h 14), .inl (dA 0, 320, .inl acts)), ((h 15), .inl (dA 0, 36, .inl iown)), ((h 16), .inl (dA 2, 36, .inr (.inl taken))), ((h 19), .inl (dA 5, 4, .inr (.inr (.inr (.inr shf))))), (hd, .inr (2, [.ref ra])), (ra, .inl (dA 3, rn, .inl rf)), (hd2, .inr (2, [.ref ra2])), (ra2, .inl (dA 2, rn2, .inr (.inl rf2)))] ++ ((wM hm dA m_depths m_owners m_roofs m_rate m_undos m_undoMany m_drawn m_dug m_deep m_holes m_holeMany m_tape m_taped m_place m_reads m_read_ m_row m_order m_bestOrder m_nears m_isKept m_keptRoofs m_kept m_lanes m_rowSizes m_items m_moved) ++ wr)) H) (hS : va_S A s.heap H locs) (hl : lv_has ls 4 [(0, .ref b), (1, .ref (h 0)), (2, .ref (hm 0)), (3, .int ix)]) (hi1 : vp_in (ix + 1) L ∧ xs (ix + 1).toNatClampNeg = a1) (hi2 : vp_in (ix + 2) L ∧ xs (ix + 2).toNatClampNeg = a2) (hi3 : vp_in (ix + 3) L ∧ xs (ix + 3).toNatClampNeg = a3) (hi4 : vp_in (ix + 4) L ∧ xs (ix + 4).toNatClampNeg = a4) (hi5 : vp_in (ix + 5) L ∧ xs (ix + 5).toNatClampNeg = a5) (hroom : kc + 3 ≤ room_1.cells ∧ ks + 500 ≤ room_1.slots)
    (kk : ∀ (u : Unit) (u' : (Nat → Int64) × (Nat → Int64)) (H1 : Heap) (locs1 : List Loc), PP u'.1 u'.2 → PD A dC dI ([((h 0), .inr (0, [.ref (h 1), .ref (h 3), .ref (h 9), .ref (h 17), .ref (h 10), .ref (h 11), .int steps, .int draw, .ref (h 12), .int typed, .int at_, .ref (h 5), .ref (h 13), .ref (h 14), .int isImage, .ref (h 7), .ref (h 15), .ref (h 18), .int idraw, .ref (h 19), .ref (h 16)])), ((h 1), .inr (1, [.ref (h 2), .long gro, .int grt])), ((h 2), .inl (dA 0, 36, .inl gd)), ((h 3), .inr (1, [.ref (h 4), .long tro, .int trt])), ((h 4), .inl (dA 0, 36, .inl td)), ((h 5), .inr (1, [.ref (h 6), .long rro, .int rrt])), ((h 6), .inl (dA 0, 36, .inl rd)), ((h 7), .inr (1, [.ref (h 8), .long imro, .int imrt])), ((h 8), .inl (dA 0, 36, .inl imd)), ((h 9), .inl (dA 0, 36, .inl owners)), ((h 10), .inl (dA 1, 8, .inl tour)), ((h 11), .inl (dA 1, 8, .inl best)), ((h 12), .inl (dA 0, 160, .inl tape)), ((h 13), .inl (dA 0, 36, .inl signs)), ((h 14), .inl (dA 0, 320, .inl acts)), ((h 15), .inl (dA 0, 36, .inl iown)), ((h 16), .inl (dA 2, 36, .inr (.inl taken))), ((h 19), .inl (dA 5, 4, .inr (.inr (.inr (.inr shf))))), (hd, .inr (2, [.ref ra])), (ra, .inl (dA 3, rn, .inl rf)), (hd2, .inr (2, [.ref ra2])), (ra2, .inl (dA 2, rn2, .inr (.inl rf2)))] ++ ((wM hm dA m_depths m_owners m_roofs m_rate m_undos m_undoMany m_drawn m_dug m_deep m_holes m_holeMany m_tape m_taped m_place m_reads m_read_ m_row m_order m_bestOrder m_nears m_isKept m_keptRoofs m_kept m_lanes m_rowSizes u'.1 u'.2) ++ wr)) H1 → va_S A s.heap H1 locs1 → W p l e room_1 s m #[Value.ref b] below meth c H1 locs1 (kc + 3) (ks + 500) Q (F0 m 1349 ls [])) : W p l e room_1 s m #[Value.ref b] below meth c H locs kc ks Q (F0 m 1286 ls []) := by
  obtain ⟨S, hX, hbl, hbA, hK, hE, hA, hfl⟩ := hC
  obtain ⟨hP, hD⟩ := hPD
  refine lv_aload_n S.1 S.2.1 dL_law_1286 rfl (lv_at hl 1 rfl) ?_
  refine lv_aload_n S.1 S.2.1 dL_law_1287 rfl (lv_at hl 0 rfl) ?_
  refine lv_iload_n S.1 S.2.1 dL_law_1288 rfl (lv_at hl 3 rfl) ?_
  refine lv_iconst (v := 1) S.1 S.2.1 dL_law_1289 (by decide) ?_
  refine lv_iadd S.1 S.2.1 dL_law_1290 ?_
  refine sldE S.1 S.2.1 hX hbl hbA hS hi1 dL_law_1291 ?_
  refine lv_aload_n S.1 S.2.1 dL_law_1292 rfl (lv_at hl 0 rfl) ?_
  refine lv_iload_n S.1 S.2.1 dL_law_1293 rfl (lv_at hl 3 rfl) ?_
  refine lv_iconst (v := 2) S.1 S.2.1 dL_law_1294 (by decide) ?_
  refine lv_iadd S.1 S.2.1 dL_law_1295 ?_
  refine sldE S.1 S.2.1 hX hbl hbA hS hi2 dL_law_1296 ?_
  refine lv_aload_n S.1 S.2.1 dL_law_1297 rfl (lv_at hl 0 rfl) ?_
  refine lv_iload_n S.1 S.2.1 dL_law_1298 rfl (lv_at hl 3 rfl) ?_
  refine lv_iconst (v := 3) S.1 S.2.1 dL_law_1299 (by decide) ?_
  refine lv_iadd S.1 S.2.1 dL_law_1300 ?_
  refine sldE S.1 S.2.1 hX hbl hbA hS hi3 dL_law_1301 ?_
  refine lv_aload_n S.1 S.2.1 dL_law_1302 rfl (lv_at hl 0 rfl) ?_
  refine lv_iload_n S.1 S.2.1 dL_law_1303 rfl (lv_at hl 3 rfl) ?_
  refine lv_iconst (v := 4) S.1 S.2.1 dL_law_1304 (by decide) ?_
  refine lv_iadd S.1 S.2.1 dL_law_1305 ?_
  refine sldE S.1 S.2.1 hX hbl hbA hS hi4 dL_law_1306 ?_
  refine lv_aload_n S.1 S.2.1 dL_law_1307 rfl (lv_at hl 0 rfl) ?_
  refine lv_iload_n S.1 S.2.1 dL_law_1308 rfl (lv_at hl 3 rfl) ?_
  refine lv_iconst (v := 5) S.1 S.2.1 dL_law_1309 (by decide) ?_
  refine lv_iadd S.1 S.2.1 dL_law_1310 ?_
  refine sldE S.1 S.2.1 hX hbl hbA hS hi5 dL_law_1311 ?_
  refine sC_i hP hD hS hA (va_runVW (As := [.int a1, .int a2, .int a3, .int a4, .int a5]) (rest := []) S (metX0_copy_SJ l hfl hf) (cwVW 5 S.2.2.2.2 q1049 q1050 q1051 q54 q1052 pdX0_copy ⟨Nat.le_of_ble_eq_true rfl, Nat.le_of_ble_eq_true rfl⟩) ⟨ablind, va_recv hK hP (ci := 0) (q0 := 0) rfl rfl, (spre hK hE hP hD hS hA).2⟩ rfl rfl hl.1 rfl (lv_room (Nat.le_of_ble_eq_true rfl)) dL_law_1312 hroom) (fun r u H locs hf hP hD hS => ?_)
  have hP := hP.perm permM
  have hD := hD.perm permM
  refine lv_aload_n S.1 S.2.1 dL_law_1315 rfl (lv_at hl 2 rfl) ?_
  refine lv_aload_n S.1 S.2.1 dL_law_1316 rfl (lv_at hl 0 rfl) ?_
  refine lv_iload_n S.1 S.2.1 dL_law_1317 rfl (lv_at hl 3 rfl) ?_
  refine lv_iconst (v := 1) S.1 S.2.1 dL_law_1318 (by decide) ?_
  refine lv_iadd S.1 S.2.1 dL_law_1319 ?_
  refine sldE S.1 S.2.1 hX hbl hbA hS hi1 dL_law_1320 ?_
  refine lv_aload_n S.1 S.2.1 dL_law_1321 rfl (lv_at hl 0 rfl) ?_
  refine lv_iload_n S.1 S.2.1 dL_law_1322 rfl (lv_at hl 3 rfl) ?_
  refine lv_iconst (v := 2) S.1 S.2.1 dL_law_1323 (by decide) ?_
  refine lv_iadd S.1 S.2.1 dL_law_1324 ?_
  refine sldE S.1 S.2.1 hX hbl hbA hS hi2 dL_law_1325 ?_
  refine lv_aload_n S.1 S.2.1 dL_law_1326 rfl (lv_at hl 0 rfl) ?_
  refine lv_iload_n S.1 S.2.1 dL_law_1327 rfl (lv_at hl 3 rfl) ?_
  refine lv_iconst (v := 3) S.1 S.2.1 dL_law_1328 (by decide) ?_
  refine lv_iadd S.1 S.2.1 dL_law_1329 ?_
  refine sldE S.1 S.2.1 hX hbl hbA hS hi3 dL_law_1330 ?_
  refine lv_aload_n S.1 S.2.1 dL_law_1331 rfl (lv_at hl 0 rfl) ?_
  refine lv_iload_n S.1 S.2.1 dL_law_1332 rfl (lv_at hl 3 rfl) ?_
  refine lv_iconst (v := 4) S.1 S.2.1 dL_law_1333 (by decide) ?_
  refine lv_iadd S.1 S.2.1 dL_law_1334 ?_
  refine sldE S.1 S.2.1 hX hbl hbA hS hi4 dL_law_1335 ?_
  refine lv_aload_n S.1 S.2.1 dL_law_1336 rfl (lv_at hl 0 rfl) ?_
  refine lv_iload_n S.1 S.2.1 dL_law_1337 rfl (lv_at hl 3 rfl) ?_
  refine lv_iconst (v := 5) S.1 S.2.1 dL_law_1338 (by decide) ?_
  refine lv_iadd S.1 S.2.1 dL_law_1339 ?_
  refine sldE S.1 S.2.1 hX hbl hbA hS hi5 dL_law_1340 ?_
  refine sM_i (As := [.int a1, .int a2, .int a3, .int a4, .int a5]) (rest := [.int r]) S hK rfl rfl (fun _ => rfl) hP hD hS (metX3_copy l hj hf) (lw_V q1598 q1599 q1600 q60 q1601) rfl pdX3_copy ⟨rfl, rfl⟩ ⟨Nat.le_of_ble_eq_true rfl, Nat.le_of_ble_eq_true rfl⟩ rfl hl.1 rfl (Nat.le_of_ble_eq_true rfl) dL_law_1341 hroom (fun r' u' H locs hf hP hD hS => ?_)
  obtain ⟨e1, hf⟩ := hf
  refine lv_icmp_eq (tgt := 1349) S.1 S.2.1 dL_law_1344 (by decide) (fun c_1 => ?_) (fun c_1 => ?_)
  · exact kk u u' H locs hf ⟨hP.perm permN, hD.perm permN⟩ hS
  · exact absurd e1 c_1
set_option maxHeartbeats 4000000 in
set_option maxRecDepth 100000 in
theorem lo_copy_IN (hC : LC p l s m c b L xs A dC dI dA eA mi) (hj : mJ hm) {steps : Int32} {draw : Int32} {typed : Int32} {at_ : Int32} {isImage : Int32} {idraw : Int32} {gd : (Nat → Int32)} {gro : Int64} {grt : Int32} {td : (Nat → Int32)} {tro : Int64} {trt : Int32} {rd : (Nat → Int32)} {rro : Int64} {rrt : Int32} {imd : (Nat → Int32)} {imro : Int64} {imrt : Int32} {owners : (Nat → Int32)} {tour : (Nat → Int32)} {best : (Nat → Int32)} {tape : (Nat → Int32)} {signs : (Nat → Int32)} {acts : (Nat → Int32)} {iown : (Nat → Int32)} {taken : (Nat → Int64)} {shf : (Nat → Option Nat)} {hd : Nat} {rn : Nat} {rf : (Nat → Int32)} {hd2 : Nat} {ra : Nat} {m_depths : (Nat → Int32)} {m_owners : (Nat → Int32)} {m_roofs : Int64} {m_rate : Int32} {m_undos : (Nat → Int32)} {m_undoMany : Int32} {m_drawn : Int32} {m_dug : Int64} {m_deep : Int64} {m_holes : (Nat → Int64)} {m_holeMany : Int32} {m_tape : (Nat → Int32)} {m_taped : Int32} {m_place : Int32} {m_reads : Int32} {m_read_ : (Nat → Int32)} {m_row : (Nat → Int32)} {m_order : (Nat → Int32)} {m_bestOrder : (Nat → Int32)} {m_nears : (Nat → Int32)} {m_isKept : Int32} {m_keptRoofs : Int64} {m_kept : (Nat → Int32)} {m_lanes : (Nat → Int32)} {m_rowSizes : (Nat → Int32)} {m_items : (Nat → Int64)} {m_moved : (Nat → Int64)} {PP : (Nat → Int64) → (Nat → Int64) → Prop} (hf : wX0_copy_IN (fun r => wX3_copy (fun r' q0 q1 => r = r' ∧ PP q0 q1) m_lanes m_rowSizes m_items m_moved a1 a2 a3 a4 a5) shf hd hd2 a1 a2 a3 a4 a5) (hPD : PD A dC dI ([((h 0), .inr (0, [.ref (h 1), .ref (h 3), .ref (h 9), .ref (h 17), .ref (h 10), .ref (h 11), .int steps, .int draw, .ref (h 12), .int typed, .int at_, .ref (h 5), .ref (h 13), .ref (h 14), .int isImage, .ref (h 7), .ref (h 15), .ref (h 18), .int idraw, .ref (h 19), .ref (h 16)])), ((h 1), .inr (1, [.ref (h 2), .long gro, .int grt])), ((h 2), .inl (dA 0, 36, .inl gd)), ((h 3), .inr (1, [.ref (h 4), .long tro, .int trt])), ((h 4), .inl (dA 0, 36, .inl td)), ((h 5), .inr (1, [.ref (h 6), .long rro, .int rrt])), ((h 6), .inl (dA 0, 36, .inl rd)), ((h 7), .inr (1, [.ref (h 8), .long imro, .int imrt])), ((h 8), .inl (dA 0, 36, .inl imd)), ((h 9), .inl (dA 0, 36, .inl owners)), ((h 10), .inl (dA 1, 8, .inl tour)), ((h 11), .inl (dA 1, 8, .inl best)), ((h 12), .inl (dA 0, 160, .inl tape)), ((h 13), .inl (dA 0, 36, .inl signs)), ((h 14), .inl (dA 0, 320, .inl acts)), ((h 15), .inl (dA 0, 36, .inl iown)), ((h 16), .inl (dA 2, 36, .inr (.inl taken))), ((h 19), .inl (dA 5, 4, .inr (.inr (.inr (.inr shf))))), (hd, .inr (2, [.ref ra])), (ra, .inl (dA 1, rn, .inl rf)), (hd2, .inr (2, [.null]))] ++ ((wM hm dA m_depths m_owners m_roofs m_rate m_undos m_undoMany m_drawn m_dug m_deep m_holes m_holeMany m_tape m_taped m_place m_reads m_read_ m_row m_order m_bestOrder m_nears m_isKept m_keptRoofs m_kept m_lanes m_rowSizes m_items m_moved) ++ wr)) H) (hS : va_S A s.heap H locs) (hl : lv_has ls 4 [(0, .ref b), (1, .ref (h 0)), (2, .ref (hm 0)), (3, .int ix)]) (hi1 : vp_in (ix + 1) L ∧ xs (ix + 1).toNatClampNeg = a1) (hi2 : vp_in (ix + 2) L ∧ xs (ix + 2).toNatClampNeg = a2) (hi3 : vp_in (ix + 3) L ∧ xs (ix + 3).toNatClampNeg = a3) (hi4 : vp_in (ix + 4) L ∧ xs (ix + 4).toNatClampNeg = a4) (hi5 : vp_in (ix + 5) L ∧ xs (ix + 5).toNatClampNeg = a5) (hroom : kc + 3 ≤ room_1.cells ∧ ks + 500 ≤ room_1.slots)
    (kk : ∀ (u : Unit) (u' : (Nat → Int64) × (Nat → Int64)) (H1 : Heap) (locs1 : List Loc), PP u'.1 u'.2 → PD A dC dI ([((h 0), .inr (0, [.ref (h 1), .ref (h 3), .ref (h 9), .ref (h 17), .ref (h 10), .ref (h 11), .int steps, .int draw, .ref (h 12), .int typed, .int at_, .ref (h 5), .ref (h 13), .ref (h 14), .int isImage, .ref (h 7), .ref (h 15), .ref (h 18), .int idraw, .ref (h 19), .ref (h 16)])), ((h 1), .inr (1, [.ref (h 2), .long gro, .int grt])), ((h 2), .inl (dA 0, 36, .inl gd)), ((h 3), .inr (1, [.ref (h 4), .long tro, .int trt])), ((h 4), .inl (dA 0, 36, .inl td)), ((h 5), .inr (1, [.ref (h 6), .long rro, .int rrt])), ((h 6), .inl (dA 0, 36, .inl rd)), ((h 7), .inr (1, [.ref (h 8), .long imro, .int imrt])), ((h 8), .inl (dA 0, 36, .inl imd)), ((h 9), .inl (dA 0, 36, .inl owners)), ((h 10), .inl (dA 1, 8, .inl tour)), ((h 11), .inl (dA 1, 8, .inl best)), ((h 12), .inl (dA 0, 160, .inl tape)), ((h 13), .inl (dA 0, 36, .inl signs)), ((h 14), .inl (dA 0, 320, .inl acts)), ((h 15), .inl (dA 0, 36, .inl iown)), ((h 16), .inl (dA 2, 36, .inr (.inl taken))), ((h 19), .inl (dA 5, 4, .inr (.inr (.inr (.inr shf))))), (hd, .inr (2, [.ref ra])), (ra, .inl (dA 1, rn, .inl rf)), (hd2, .inr (2, [.null]))] ++ ((wM hm dA m_depths m_owners m_roofs m_rate m_undos m_undoMany m_drawn m_dug m_deep m_holes m_holeMany m_tape m_taped m_place m_reads m_read_ m_row m_order m_bestOrder m_nears m_isKept m_keptRoofs m_kept m_lanes m_rowSizes u'.1 u'.2) ++ wr)) H1 → va_S A s.heap H1 locs1 → W p l e room_1 s m #[Value.ref b] below meth c H1 locs1 (kc + 3) (ks + 500) Q (F0 m 1349 ls [])) : W p l e room_1 s m #[Value.ref b] below meth c H locs kc ks Q (F0 m 1286 ls []) := by
  obtain ⟨S, hX, hbl, hbA, hK, hE, hA, hfl⟩ := hC
  obtain ⟨hP, hD⟩ := hPD
  refine lv_aload_n S.1 S.2.1 dL_law_1286 rfl (lv_at hl 1 rfl) ?_
  refine lv_aload_n S.1 S.2.1 dL_law_1287 rfl (lv_at hl 0 rfl) ?_
  refine lv_iload_n S.1 S.2.1 dL_law_1288 rfl (lv_at hl 3 rfl) ?_
  refine lv_iconst (v := 1) S.1 S.2.1 dL_law_1289 (by decide) ?_
  refine lv_iadd S.1 S.2.1 dL_law_1290 ?_
  refine sldE S.1 S.2.1 hX hbl hbA hS hi1 dL_law_1291 ?_
  refine lv_aload_n S.1 S.2.1 dL_law_1292 rfl (lv_at hl 0 rfl) ?_
  refine lv_iload_n S.1 S.2.1 dL_law_1293 rfl (lv_at hl 3 rfl) ?_
  refine lv_iconst (v := 2) S.1 S.2.1 dL_law_1294 (by decide) ?_
  refine lv_iadd S.1 S.2.1 dL_law_1295 ?_
  refine sldE S.1 S.2.1 hX hbl hbA hS hi2 dL_law_1296 ?_
  refine lv_aload_n S.1 S.2.1 dL_law_1297 rfl (lv_at hl 0 rfl) ?_
  refine lv_iload_n S.1 S.2.1 dL_law_1298 rfl (lv_at hl 3 rfl) ?_
  refine lv_iconst (v := 3) S.1 S.2.1 dL_law_1299 (by decide) ?_
  refine lv_iadd S.1 S.2.1 dL_law_1300 ?_
  refine sldE S.1 S.2.1 hX hbl hbA hS hi3 dL_law_1301 ?_
  refine lv_aload_n S.1 S.2.1 dL_law_1302 rfl (lv_at hl 0 rfl) ?_
  refine lv_iload_n S.1 S.2.1 dL_law_1303 rfl (lv_at hl 3 rfl) ?_
  refine lv_iconst (v := 4) S.1 S.2.1 dL_law_1304 (by decide) ?_
  refine lv_iadd S.1 S.2.1 dL_law_1305 ?_
  refine sldE S.1 S.2.1 hX hbl hbA hS hi4 dL_law_1306 ?_
  refine lv_aload_n S.1 S.2.1 dL_law_1307 rfl (lv_at hl 0 rfl) ?_
  refine lv_iload_n S.1 S.2.1 dL_law_1308 rfl (lv_at hl 3 rfl) ?_
  refine lv_iconst (v := 5) S.1 S.2.1 dL_law_1309 (by decide) ?_
  refine lv_iadd S.1 S.2.1 dL_law_1310 ?_
  refine sldE S.1 S.2.1 hX hbl hbA hS hi5 dL_law_1311 ?_
  refine sC_i hP hD hS hA (va_runVW (As := [.int a1, .int a2, .int a3, .int a4, .int a5]) (rest := []) S (metX0_copy_IN l hfl hf) (cwVW 5 S.2.2.2.2 q1049 q1050 q1051 q54 q1052 pdX0_copy ⟨Nat.le_of_ble_eq_true rfl, Nat.le_of_ble_eq_true rfl⟩) ⟨ablind, va_recv hK hP (ci := 0) (q0 := 0) rfl rfl, (spre hK hE hP hD hS hA).2⟩ rfl rfl hl.1 rfl (lv_room (Nat.le_of_ble_eq_true rfl)) dL_law_1312 hroom) (fun r u H locs hf hP hD hS => ?_)
  have hP := hP.perm permM
  have hD := hD.perm permM
  refine lv_aload_n S.1 S.2.1 dL_law_1315 rfl (lv_at hl 2 rfl) ?_
  refine lv_aload_n S.1 S.2.1 dL_law_1316 rfl (lv_at hl 0 rfl) ?_
  refine lv_iload_n S.1 S.2.1 dL_law_1317 rfl (lv_at hl 3 rfl) ?_
  refine lv_iconst (v := 1) S.1 S.2.1 dL_law_1318 (by decide) ?_
  refine lv_iadd S.1 S.2.1 dL_law_1319 ?_
  refine sldE S.1 S.2.1 hX hbl hbA hS hi1 dL_law_1320 ?_
  refine lv_aload_n S.1 S.2.1 dL_law_1321 rfl (lv_at hl 0 rfl) ?_
  refine lv_iload_n S.1 S.2.1 dL_law_1322 rfl (lv_at hl 3 rfl) ?_
  refine lv_iconst (v := 2) S.1 S.2.1 dL_law_1323 (by decide) ?_
  refine lv_iadd S.1 S.2.1 dL_law_1324 ?_
  refine sldE S.1 S.2.1 hX hbl hbA hS hi2 dL_law_1325 ?_
  refine lv_aload_n S.1 S.2.1 dL_law_1326 rfl (lv_at hl 0 rfl) ?_
  refine lv_iload_n S.1 S.2.1 dL_law_1327 rfl (lv_at hl 3 rfl) ?_
  refine lv_iconst (v := 3) S.1 S.2.1 dL_law_1328 (by decide) ?_
  refine lv_iadd S.1 S.2.1 dL_law_1329 ?_
  refine sldE S.1 S.2.1 hX hbl hbA hS hi3 dL_law_1330 ?_
  refine lv_aload_n S.1 S.2.1 dL_law_1331 rfl (lv_at hl 0 rfl) ?_
  refine lv_iload_n S.1 S.2.1 dL_law_1332 rfl (lv_at hl 3 rfl) ?_
  refine lv_iconst (v := 4) S.1 S.2.1 dL_law_1333 (by decide) ?_
  refine lv_iadd S.1 S.2.1 dL_law_1334 ?_
  refine sldE S.1 S.2.1 hX hbl hbA hS hi4 dL_law_1335 ?_
  refine lv_aload_n S.1 S.2.1 dL_law_1336 rfl (lv_at hl 0 rfl) ?_
  refine lv_iload_n S.1 S.2.1 dL_law_1337 rfl (lv_at hl 3 rfl) ?_
  refine lv_iconst (v := 5) S.1 S.2.1 dL_law_1338 (by decide) ?_
  refine lv_iadd S.1 S.2.1 dL_law_1339 ?_
  refine sldE S.1 S.2.1 hX hbl hbA hS hi5 dL_law_1340 ?_
  refine sM_i (As := [.int a1, .int a2, .int a3, .int a4, .int a5]) (rest := [.int r]) S hK rfl rfl (fun _ => rfl) hP hD hS (metX3_copy l hj hf) (lw_V q1598 q1599 q1600 q60 q1601) rfl pdX3_copy ⟨rfl, rfl⟩ ⟨Nat.le_of_ble_eq_true rfl, Nat.le_of_ble_eq_true rfl⟩ rfl hl.1 rfl (Nat.le_of_ble_eq_true rfl) dL_law_1341 hroom (fun r' u' H locs hf hP hD hS => ?_)
  obtain ⟨e1, hf⟩ := hf
  refine lv_icmp_eq (tgt := 1349) S.1 S.2.1 dL_law_1344 (by decide) (fun c_1 => ?_) (fun c_1 => ?_)
  · exact kk u u' H locs hf ⟨hP.perm permN, hD.perm permN⟩ hS
  · exact absurd e1 c_1
set_option maxHeartbeats 4000000 in
set_option maxRecDepth 100000 in
theorem lo_copy_IB (hC : LC p l s m c b L xs A dC dI dA eA mi) (hj : mJ hm) {steps : Int32} {draw : Int32} {typed : Int32} {at_ : Int32} {isImage : Int32} {idraw : Int32} {gd : (Nat → Int32)} {gro : Int64} {grt : Int32} {td : (Nat → Int32)} {tro : Int64} {trt : Int32} {rd : (Nat → Int32)} {rro : Int64} {rrt : Int32} {imd : (Nat → Int32)} {imro : Int64} {imrt : Int32} {owners : (Nat → Int32)} {tour : (Nat → Int32)} {best : (Nat → Int32)} {tape : (Nat → Int32)} {signs : (Nat → Int32)} {acts : (Nat → Int32)} {iown : (Nat → Int32)} {taken : (Nat → Int64)} {shf : (Nat → Option Nat)} {hd : Nat} {rn : Nat} {rf : (Nat → Int32)} {hd2 : Nat} {rn2 : Nat} {rf2 : (Nat → Int32)} {ra : Nat} {ra2 : Nat} {m_depths : (Nat → Int32)} {m_owners : (Nat → Int32)} {m_roofs : Int64} {m_rate : Int32} {m_undos : (Nat → Int32)} {m_undoMany : Int32} {m_drawn : Int32} {m_dug : Int64} {m_deep : Int64} {m_holes : (Nat → Int64)} {m_holeMany : Int32} {m_tape : (Nat → Int32)} {m_taped : Int32} {m_place : Int32} {m_reads : Int32} {m_read_ : (Nat → Int32)} {m_row : (Nat → Int32)} {m_order : (Nat → Int32)} {m_bestOrder : (Nat → Int32)} {m_nears : (Nat → Int32)} {m_isKept : Int32} {m_keptRoofs : Int64} {m_kept : (Nat → Int32)} {m_lanes : (Nat → Int32)} {m_rowSizes : (Nat → Int32)} {m_items : (Nat → Int64)} {m_moved : (Nat → Int64)} {PP : (Nat → Int64) → (Nat → Int64) → Prop} (hf : wX0_copy_IB (fun r => wX3_copy (fun r' q0 q1 => r = r' ∧ PP q0 q1) m_lanes m_rowSizes m_items m_moved a1 a2 a3 a4 a5) shf hd rn hd2 rn2 a1 a2 a3 a4 a5) (hPD : PD A dC dI ([((h 0), .inr (0, [.ref (h 1), .ref (h 3), .ref (h 9), .ref (h 17), .ref (h 10), .ref (h 11), .int steps, .int draw, .ref (h 12), .int typed, .int at_, .ref (h 5), .ref (h 13), .ref (h 14), .int isImage, .ref (h 7), .ref (h 15), .ref (h 18), .int idraw, .ref (h 19), .ref (h 16)])), ((h 1), .inr (1, [.ref (h 2), .long gro, .int grt])), ((h 2), .inl (dA 0, 36, .inl gd)), ((h 3), .inr (1, [.ref (h 4), .long tro, .int trt])), ((h 4), .inl (dA 0, 36, .inl td)), ((h 5), .inr (1, [.ref (h 6), .long rro, .int rrt])), ((h 6), .inl (dA 0, 36, .inl rd)), ((h 7), .inr (1, [.ref (h 8), .long imro, .int imrt])), ((h 8), .inl (dA 0, 36, .inl imd)), ((h 9), .inl (dA 0, 36, .inl owners)), ((h 10), .inl (dA 1, 8, .inl tour)), ((h 11), .inl (dA 1, 8, .inl best)), ((h 12), .inl (dA 0, 160, .inl tape)), ((h 13), .inl (dA 0, 36, .inl signs)), ((h 14), .inl (dA 0, 320, .inl acts)), ((h 15), .inl (dA 0, 36, .inl iown)), ((h 16), .inl (dA 2, 36, .inr (.inl taken))), ((h 19), .inl (dA 5, 4, .inr (.inr (.inr (.inr shf))))), (hd, .inr (2, [.ref ra])), (ra, .inl (dA 1, rn, .inl rf)), (hd2, .inr (2, [.ref ra2])), (ra2, .inl (dA 0, rn2, .inl rf2))] ++ ((wM hm dA m_depths m_owners m_roofs m_rate m_undos m_undoMany m_drawn m_dug m_deep m_holes m_holeMany m_tape m_taped m_place m_reads m_read_ m_row m_order m_bestOrder m_nears m_isKept m_keptRoofs m_kept m_lanes m_rowSizes m_items m_moved) ++ wr)) H) (hS : va_S A s.heap H locs) (hl : lv_has ls 4 [(0, .ref b), (1, .ref (h 0)), (2, .ref (hm 0)), (3, .int ix)]) (hi1 : vp_in (ix + 1) L ∧ xs (ix + 1).toNatClampNeg = a1) (hi2 : vp_in (ix + 2) L ∧ xs (ix + 2).toNatClampNeg = a2) (hi3 : vp_in (ix + 3) L ∧ xs (ix + 3).toNatClampNeg = a3) (hi4 : vp_in (ix + 4) L ∧ xs (ix + 4).toNatClampNeg = a4) (hi5 : vp_in (ix + 5) L ∧ xs (ix + 5).toNatClampNeg = a5) (hroom : kc + 3 ≤ room_1.cells ∧ ks + 500 ≤ room_1.slots)
    (kk : ∀ (u : Unit) (u' : (Nat → Int64) × (Nat → Int64)) (H1 : Heap) (locs1 : List Loc), PP u'.1 u'.2 → PD A dC dI ([((h 0), .inr (0, [.ref (h 1), .ref (h 3), .ref (h 9), .ref (h 17), .ref (h 10), .ref (h 11), .int steps, .int draw, .ref (h 12), .int typed, .int at_, .ref (h 5), .ref (h 13), .ref (h 14), .int isImage, .ref (h 7), .ref (h 15), .ref (h 18), .int idraw, .ref (h 19), .ref (h 16)])), ((h 1), .inr (1, [.ref (h 2), .long gro, .int grt])), ((h 2), .inl (dA 0, 36, .inl gd)), ((h 3), .inr (1, [.ref (h 4), .long tro, .int trt])), ((h 4), .inl (dA 0, 36, .inl td)), ((h 5), .inr (1, [.ref (h 6), .long rro, .int rrt])), ((h 6), .inl (dA 0, 36, .inl rd)), ((h 7), .inr (1, [.ref (h 8), .long imro, .int imrt])), ((h 8), .inl (dA 0, 36, .inl imd)), ((h 9), .inl (dA 0, 36, .inl owners)), ((h 10), .inl (dA 1, 8, .inl tour)), ((h 11), .inl (dA 1, 8, .inl best)), ((h 12), .inl (dA 0, 160, .inl tape)), ((h 13), .inl (dA 0, 36, .inl signs)), ((h 14), .inl (dA 0, 320, .inl acts)), ((h 15), .inl (dA 0, 36, .inl iown)), ((h 16), .inl (dA 2, 36, .inr (.inl taken))), ((h 19), .inl (dA 5, 4, .inr (.inr (.inr (.inr shf))))), (hd, .inr (2, [.ref ra])), (ra, .inl (dA 1, rn, .inl rf)), (hd2, .inr (2, [.ref ra2])), (ra2, .inl (dA 0, rn2, .inl rf2))] ++ ((wM hm dA m_depths m_owners m_roofs m_rate m_undos m_undoMany m_drawn m_dug m_deep m_holes m_holeMany m_tape m_taped m_place m_reads m_read_ m_row m_order m_bestOrder m_nears m_isKept m_keptRoofs m_kept m_lanes m_rowSizes u'.1 u'.2) ++ wr)) H1 → va_S A s.heap H1 locs1 → W p l e room_1 s m #[Value.ref b] below meth c H1 locs1 (kc + 3) (ks + 500) Q (F0 m 1349 ls [])) : W p l e room_1 s m #[Value.ref b] below meth c H locs kc ks Q (F0 m 1286 ls []) := by
  obtain ⟨S, hX, hbl, hbA, hK, hE, hA, hfl⟩ := hC
  obtain ⟨hP, hD⟩ := hPD
  refine lv_aload_n S.1 S.2.1 dL_law_1286 rfl (lv_at hl 1 rfl) ?_
  refine lv_aload_n S.1 S.2.1 dL_law_1287 rfl (lv_at hl 0 rfl) ?_
  refine lv_iload_n S.1 S.2.1 dL_law_1288 rfl (lv_at hl 3 rfl) ?_
  refine lv_iconst (v := 1) S.1 S.2.1 dL_law_1289 (by decide) ?_
  refine lv_iadd S.1 S.2.1 dL_law_1290 ?_
  refine sldE S.1 S.2.1 hX hbl hbA hS hi1 dL_law_1291 ?_
  refine lv_aload_n S.1 S.2.1 dL_law_1292 rfl (lv_at hl 0 rfl) ?_
  refine lv_iload_n S.1 S.2.1 dL_law_1293 rfl (lv_at hl 3 rfl) ?_
  refine lv_iconst (v := 2) S.1 S.2.1 dL_law_1294 (by decide) ?_
  refine lv_iadd S.1 S.2.1 dL_law_1295 ?_
  refine sldE S.1 S.2.1 hX hbl hbA hS hi2 dL_law_1296 ?_
  refine lv_aload_n S.1 S.2.1 dL_law_1297 rfl (lv_at hl 0 rfl) ?_
  refine lv_iload_n S.1 S.2.1 dL_law_1298 rfl (lv_at hl 3 rfl) ?_
  refine lv_iconst (v := 3) S.1 S.2.1 dL_law_1299 (by decide) ?_
  refine lv_iadd S.1 S.2.1 dL_law_1300 ?_
  refine sldE S.1 S.2.1 hX hbl hbA hS hi3 dL_law_1301 ?_
  refine lv_aload_n S.1 S.2.1 dL_law_1302 rfl (lv_at hl 0 rfl) ?_
  refine lv_iload_n S.1 S.2.1 dL_law_1303 rfl (lv_at hl 3 rfl) ?_
  refine lv_iconst (v := 4) S.1 S.2.1 dL_law_1304 (by decide) ?_
  refine lv_iadd S.1 S.2.1 dL_law_1305 ?_
  refine sldE S.1 S.2.1 hX hbl hbA hS hi4 dL_law_1306 ?_
  refine lv_aload_n S.1 S.2.1 dL_law_1307 rfl (lv_at hl 0 rfl) ?_
  refine lv_iload_n S.1 S.2.1 dL_law_1308 rfl (lv_at hl 3 rfl) ?_
  refine lv_iconst (v := 5) S.1 S.2.1 dL_law_1309 (by decide) ?_
  refine lv_iadd S.1 S.2.1 dL_law_1310 ?_
  refine sldE S.1 S.2.1 hX hbl hbA hS hi5 dL_law_1311 ?_
  refine sC_i hP hD hS hA (va_runVW (As := [.int a1, .int a2, .int a3, .int a4, .int a5]) (rest := []) S (metX0_copy_IB l hfl hf) (cwVW 5 S.2.2.2.2 q1049 q1050 q1051 q54 q1052 pdX0_copy ⟨Nat.le_of_ble_eq_true rfl, Nat.le_of_ble_eq_true rfl⟩) ⟨ablind, va_recv hK hP (ci := 0) (q0 := 0) rfl rfl, (spre hK hE hP hD hS hA).2⟩ rfl rfl hl.1 rfl (lv_room (Nat.le_of_ble_eq_true rfl)) dL_law_1312 hroom) (fun r u H locs hf hP hD hS => ?_)
  have hP := hP.perm permM
  have hD := hD.perm permM
  refine lv_aload_n S.1 S.2.1 dL_law_1315 rfl (lv_at hl 2 rfl) ?_
  refine lv_aload_n S.1 S.2.1 dL_law_1316 rfl (lv_at hl 0 rfl) ?_
  refine lv_iload_n S.1 S.2.1 dL_law_1317 rfl (lv_at hl 3 rfl) ?_
  refine lv_iconst (v := 1) S.1 S.2.1 dL_law_1318 (by decide) ?_
  refine lv_iadd S.1 S.2.1 dL_law_1319 ?_
  refine sldE S.1 S.2.1 hX hbl hbA hS hi1 dL_law_1320 ?_
  refine lv_aload_n S.1 S.2.1 dL_law_1321 rfl (lv_at hl 0 rfl) ?_
  refine lv_iload_n S.1 S.2.1 dL_law_1322 rfl (lv_at hl 3 rfl) ?_
  refine lv_iconst (v := 2) S.1 S.2.1 dL_law_1323 (by decide) ?_
  refine lv_iadd S.1 S.2.1 dL_law_1324 ?_
  refine sldE S.1 S.2.1 hX hbl hbA hS hi2 dL_law_1325 ?_
  refine lv_aload_n S.1 S.2.1 dL_law_1326 rfl (lv_at hl 0 rfl) ?_
  refine lv_iload_n S.1 S.2.1 dL_law_1327 rfl (lv_at hl 3 rfl) ?_
  refine lv_iconst (v := 3) S.1 S.2.1 dL_law_1328 (by decide) ?_
  refine lv_iadd S.1 S.2.1 dL_law_1329 ?_
  refine sldE S.1 S.2.1 hX hbl hbA hS hi3 dL_law_1330 ?_
  refine lv_aload_n S.1 S.2.1 dL_law_1331 rfl (lv_at hl 0 rfl) ?_
  refine lv_iload_n S.1 S.2.1 dL_law_1332 rfl (lv_at hl 3 rfl) ?_
  refine lv_iconst (v := 4) S.1 S.2.1 dL_law_1333 (by decide) ?_
  refine lv_iadd S.1 S.2.1 dL_law_1334 ?_
  refine sldE S.1 S.2.1 hX hbl hbA hS hi4 dL_law_1335 ?_
  refine lv_aload_n S.1 S.2.1 dL_law_1336 rfl (lv_at hl 0 rfl) ?_
  refine lv_iload_n S.1 S.2.1 dL_law_1337 rfl (lv_at hl 3 rfl) ?_
  refine lv_iconst (v := 5) S.1 S.2.1 dL_law_1338 (by decide) ?_
  refine lv_iadd S.1 S.2.1 dL_law_1339 ?_
  refine sldE S.1 S.2.1 hX hbl hbA hS hi5 dL_law_1340 ?_
  refine sM_i (As := [.int a1, .int a2, .int a3, .int a4, .int a5]) (rest := [.int r]) S hK rfl rfl (fun _ => rfl) hP hD hS (metX3_copy l hj hf) (lw_V q1598 q1599 q1600 q60 q1601) rfl pdX3_copy ⟨rfl, rfl⟩ ⟨Nat.le_of_ble_eq_true rfl, Nat.le_of_ble_eq_true rfl⟩ rfl hl.1 rfl (Nat.le_of_ble_eq_true rfl) dL_law_1341 hroom (fun r' u' H locs hf hP hD hS => ?_)
  obtain ⟨e1, hf⟩ := hf
  refine lv_icmp_eq (tgt := 1349) S.1 S.2.1 dL_law_1344 (by decide) (fun c_1 => ?_) (fun c_1 => ?_)
  · exact kk u u' H locs hf ⟨hP.perm permN, hD.perm permN⟩ hS
  · exact absurd e1 c_1
set_option maxHeartbeats 4000000 in
set_option maxRecDepth 100000 in
theorem lo_copy_IS (hC : LC p l s m c b L xs A dC dI dA eA mi) (hj : mJ hm) {steps : Int32} {draw : Int32} {typed : Int32} {at_ : Int32} {isImage : Int32} {idraw : Int32} {gd : (Nat → Int32)} {gro : Int64} {grt : Int32} {td : (Nat → Int32)} {tro : Int64} {trt : Int32} {rd : (Nat → Int32)} {rro : Int64} {rrt : Int32} {imd : (Nat → Int32)} {imro : Int64} {imrt : Int32} {owners : (Nat → Int32)} {tour : (Nat → Int32)} {best : (Nat → Int32)} {tape : (Nat → Int32)} {signs : (Nat → Int32)} {acts : (Nat → Int32)} {iown : (Nat → Int32)} {taken : (Nat → Int64)} {shf : (Nat → Option Nat)} {hd : Nat} {rn : Nat} {rf : (Nat → Int32)} {hd2 : Nat} {rn2 : Nat} {rf2 : (Nat → Int32)} {ra : Nat} {ra2 : Nat} {m_depths : (Nat → Int32)} {m_owners : (Nat → Int32)} {m_roofs : Int64} {m_rate : Int32} {m_undos : (Nat → Int32)} {m_undoMany : Int32} {m_drawn : Int32} {m_dug : Int64} {m_deep : Int64} {m_holes : (Nat → Int64)} {m_holeMany : Int32} {m_tape : (Nat → Int32)} {m_taped : Int32} {m_place : Int32} {m_reads : Int32} {m_read_ : (Nat → Int32)} {m_row : (Nat → Int32)} {m_order : (Nat → Int32)} {m_bestOrder : (Nat → Int32)} {m_nears : (Nat → Int32)} {m_isKept : Int32} {m_keptRoofs : Int64} {m_kept : (Nat → Int32)} {m_lanes : (Nat → Int32)} {m_rowSizes : (Nat → Int32)} {m_items : (Nat → Int64)} {m_moved : (Nat → Int64)} {PP : (Nat → Int64) → (Nat → Int64) → Prop} (hf : wX0_copy_IS (fun r => wX3_copy (fun r' q0 q1 => r = r' ∧ PP q0 q1) m_lanes m_rowSizes m_items m_moved a1 a2 a3 a4 a5) shf hd rn hd2 rn2 a1 a2 a3 a4 a5) (hPD : PD A dC dI ([((h 0), .inr (0, [.ref (h 1), .ref (h 3), .ref (h 9), .ref (h 17), .ref (h 10), .ref (h 11), .int steps, .int draw, .ref (h 12), .int typed, .int at_, .ref (h 5), .ref (h 13), .ref (h 14), .int isImage, .ref (h 7), .ref (h 15), .ref (h 18), .int idraw, .ref (h 19), .ref (h 16)])), ((h 1), .inr (1, [.ref (h 2), .long gro, .int grt])), ((h 2), .inl (dA 0, 36, .inl gd)), ((h 3), .inr (1, [.ref (h 4), .long tro, .int trt])), ((h 4), .inl (dA 0, 36, .inl td)), ((h 5), .inr (1, [.ref (h 6), .long rro, .int rrt])), ((h 6), .inl (dA 0, 36, .inl rd)), ((h 7), .inr (1, [.ref (h 8), .long imro, .int imrt])), ((h 8), .inl (dA 0, 36, .inl imd)), ((h 9), .inl (dA 0, 36, .inl owners)), ((h 10), .inl (dA 1, 8, .inl tour)), ((h 11), .inl (dA 1, 8, .inl best)), ((h 12), .inl (dA 0, 160, .inl tape)), ((h 13), .inl (dA 0, 36, .inl signs)), ((h 14), .inl (dA 0, 320, .inl acts)), ((h 15), .inl (dA 0, 36, .inl iown)), ((h 16), .inl (dA 2, 36, .inr (.inl taken))), ((h 19), .inl (dA 5, 4, .inr (.inr (.inr (.inr shf))))), (hd, .inr (2, [.ref ra])), (ra, .inl (dA 1, rn, .inl rf)), (hd2, .inr (2, [.ref ra2])), (ra2, .inl (dA 3, rn2, .inl rf2))] ++ ((wM hm dA m_depths m_owners m_roofs m_rate m_undos m_undoMany m_drawn m_dug m_deep m_holes m_holeMany m_tape m_taped m_place m_reads m_read_ m_row m_order m_bestOrder m_nears m_isKept m_keptRoofs m_kept m_lanes m_rowSizes m_items m_moved) ++ wr)) H) (hS : va_S A s.heap H locs) (hl : lv_has ls 4 [(0, .ref b), (1, .ref (h 0)), (2, .ref (hm 0)), (3, .int ix)]) (hi1 : vp_in (ix + 1) L ∧ xs (ix + 1).toNatClampNeg = a1) (hi2 : vp_in (ix + 2) L ∧ xs (ix + 2).toNatClampNeg = a2) (hi3 : vp_in (ix + 3) L ∧ xs (ix + 3).toNatClampNeg = a3) (hi4 : vp_in (ix + 4) L ∧ xs (ix + 4).toNatClampNeg = a4) (hi5 : vp_in (ix + 5) L ∧ xs (ix + 5).toNatClampNeg = a5) (hroom : kc + 3 ≤ room_1.cells ∧ ks + 500 ≤ room_1.slots)
    (kk : ∀ (u : Unit) (u' : (Nat → Int64) × (Nat → Int64)) (H1 : Heap) (locs1 : List Loc), PP u'.1 u'.2 → PD A dC dI ([((h 0), .inr (0, [.ref (h 1), .ref (h 3), .ref (h 9), .ref (h 17), .ref (h 10), .ref (h 11), .int steps, .int draw, .ref (h 12), .int typed, .int at_, .ref (h 5), .ref (h 13), .ref (h 14), .int isImage, .ref (h 7), .ref (h 15), .ref (h 18), .int idraw, .ref (h 19), .ref (h 16)])), ((h 1), .inr (1, [.ref (h 2), .long gro, .int grt])), ((h 2), .inl (dA 0, 36, .inl gd)), ((h 3), .inr (1, [.ref (h 4), .long tro, .int trt])), ((h 4), .inl (dA 0, 36, .inl td)), ((h 5), .inr (1, [.ref (h 6), .long rro, .int rrt])), ((h 6), .inl (dA 0, 36, .inl rd)), ((h 7), .inr (1, [.ref (h 8), .long imro, .int imrt])), ((h 8), .inl (dA 0, 36, .inl imd)), ((h 9), .inl (dA 0, 36, .inl owners)), ((h 10), .inl (dA 1, 8, .inl tour)), ((h 11), .inl (dA 1, 8, .inl best)), ((h 12), .inl (dA 0, 160, .inl tape)), ((h 13), .inl (dA 0, 36, .inl signs)), ((h 14), .inl (dA 0, 320, .inl acts)), ((h 15), .inl (dA 0, 36, .inl iown)), ((h 16), .inl (dA 2, 36, .inr (.inl taken))), ((h 19), .inl (dA 5, 4, .inr (.inr (.inr (.inr shf))))), (hd, .inr (2, [.ref ra])), (ra, .inl (dA 1, rn, .inl rf)), (hd2, .inr (2, [.ref ra2])), (ra2, .inl (dA 3, rn2, .inl rf2))] ++ ((wM hm dA m_depths m_owners m_roofs m_rate m_undos m_undoMany m_drawn m_dug m_deep m_holes m_holeMany m_tape m_taped m_place m_reads m_read_ m_row m_order m_bestOrder m_nears m_isKept m_keptRoofs m_kept m_lanes m_rowSizes u'.1 u'.2) ++ wr)) H1 → va_S A s.heap H1 locs1 → W p l e room_1 s m #[Value.ref b] below meth c H1 locs1 (kc + 3) (ks + 500) Q (F0 m 1349 ls [])) : W p l e room_1 s m #[Value.ref b] below meth c H locs kc ks Q (F0 m 1286 ls []) := by
  obtain ⟨S, hX, hbl, hbA, hK, hE, hA, hfl⟩ := hC
  obtain ⟨hP, hD⟩ := hPD
  refine lv_aload_n S.1 S.2.1 dL_law_1286 rfl (lv_at hl 1 rfl) ?_
  refine lv_aload_n S.1 S.2.1 dL_law_1287 rfl (lv_at hl 0 rfl) ?_
  refine lv_iload_n S.1 S.2.1 dL_law_1288 rfl (lv_at hl 3 rfl) ?_
  refine lv_iconst (v := 1) S.1 S.2.1 dL_law_1289 (by decide) ?_
  refine lv_iadd S.1 S.2.1 dL_law_1290 ?_
  refine sldE S.1 S.2.1 hX hbl hbA hS hi1 dL_law_1291 ?_
  refine lv_aload_n S.1 S.2.1 dL_law_1292 rfl (lv_at hl 0 rfl) ?_
  refine lv_iload_n S.1 S.2.1 dL_law_1293 rfl (lv_at hl 3 rfl) ?_
  refine lv_iconst (v := 2) S.1 S.2.1 dL_law_1294 (by decide) ?_
  refine lv_iadd S.1 S.2.1 dL_law_1295 ?_
  refine sldE S.1 S.2.1 hX hbl hbA hS hi2 dL_law_1296 ?_
  refine lv_aload_n S.1 S.2.1 dL_law_1297 rfl (lv_at hl 0 rfl) ?_
  refine lv_iload_n S.1 S.2.1 dL_law_1298 rfl (lv_at hl 3 rfl) ?_
  refine lv_iconst (v := 3) S.1 S.2.1 dL_law_1299 (by decide) ?_
  refine lv_iadd S.1 S.2.1 dL_law_1300 ?_
  refine sldE S.1 S.2.1 hX hbl hbA hS hi3 dL_law_1301 ?_
  refine lv_aload_n S.1 S.2.1 dL_law_1302 rfl (lv_at hl 0 rfl) ?_
  refine lv_iload_n S.1 S.2.1 dL_law_1303 rfl (lv_at hl 3 rfl) ?_
  refine lv_iconst (v := 4) S.1 S.2.1 dL_law_1304 (by decide) ?_
  refine lv_iadd S.1 S.2.1 dL_law_1305 ?_
  refine sldE S.1 S.2.1 hX hbl hbA hS hi4 dL_law_1306 ?_
  refine lv_aload_n S.1 S.2.1 dL_law_1307 rfl (lv_at hl 0 rfl) ?_
  refine lv_iload_n S.1 S.2.1 dL_law_1308 rfl (lv_at hl 3 rfl) ?_
  refine lv_iconst (v := 5) S.1 S.2.1 dL_law_1309 (by decide) ?_
  refine lv_iadd S.1 S.2.1 dL_law_1310 ?_
  refine sldE S.1 S.2.1 hX hbl hbA hS hi5 dL_law_1311 ?_
  refine sC_i hP hD hS hA (va_runVW (As := [.int a1, .int a2, .int a3, .int a4, .int a5]) (rest := []) S (metX0_copy_IS l hfl hf) (cwVW 5 S.2.2.2.2 q1049 q1050 q1051 q54 q1052 pdX0_copy ⟨Nat.le_of_ble_eq_true rfl, Nat.le_of_ble_eq_true rfl⟩) ⟨ablind, va_recv hK hP (ci := 0) (q0 := 0) rfl rfl, (spre hK hE hP hD hS hA).2⟩ rfl rfl hl.1 rfl (lv_room (Nat.le_of_ble_eq_true rfl)) dL_law_1312 hroom) (fun r u H locs hf hP hD hS => ?_)
  have hP := hP.perm permM
  have hD := hD.perm permM
  refine lv_aload_n S.1 S.2.1 dL_law_1315 rfl (lv_at hl 2 rfl) ?_
  refine lv_aload_n S.1 S.2.1 dL_law_1316 rfl (lv_at hl 0 rfl) ?_
  refine lv_iload_n S.1 S.2.1 dL_law_1317 rfl (lv_at hl 3 rfl) ?_
  refine lv_iconst (v := 1) S.1 S.2.1 dL_law_1318 (by decide) ?_
  refine lv_iadd S.1 S.2.1 dL_law_1319 ?_
  refine sldE S.1 S.2.1 hX hbl hbA hS hi1 dL_law_1320 ?_
  refine lv_aload_n S.1 S.2.1 dL_law_1321 rfl (lv_at hl 0 rfl) ?_
  refine lv_iload_n S.1 S.2.1 dL_law_1322 rfl (lv_at hl 3 rfl) ?_
  refine lv_iconst (v := 2) S.1 S.2.1 dL_law_1323 (by decide) ?_
  refine lv_iadd S.1 S.2.1 dL_law_1324 ?_
  refine sldE S.1 S.2.1 hX hbl hbA hS hi2 dL_law_1325 ?_
  refine lv_aload_n S.1 S.2.1 dL_law_1326 rfl (lv_at hl 0 rfl) ?_
  refine lv_iload_n S.1 S.2.1 dL_law_1327 rfl (lv_at hl 3 rfl) ?_
  refine lv_iconst (v := 3) S.1 S.2.1 dL_law_1328 (by decide) ?_
  refine lv_iadd S.1 S.2.1 dL_law_1329 ?_
  refine sldE S.1 S.2.1 hX hbl hbA hS hi3 dL_law_1330 ?_
  refine lv_aload_n S.1 S.2.1 dL_law_1331 rfl (lv_at hl 0 rfl) ?_
  refine lv_iload_n S.1 S.2.1 dL_law_1332 rfl (lv_at hl 3 rfl) ?_
  refine lv_iconst (v := 4) S.1 S.2.1 dL_law_1333 (by decide) ?_
  refine lv_iadd S.1 S.2.1 dL_law_1334 ?_
  refine sldE S.1 S.2.1 hX hbl hbA hS hi4 dL_law_1335 ?_
  refine lv_aload_n S.1 S.2.1 dL_law_1336 rfl (lv_at hl 0 rfl) ?_
  refine lv_iload_n S.1 S.2.1 dL_law_1337 rfl (lv_at hl 3 rfl) ?_
  refine lv_iconst (v := 5) S.1 S.2.1 dL_law_1338 (by decide) ?_
  refine lv_iadd S.1 S.2.1 dL_law_1339 ?_
  refine sldE S.1 S.2.1 hX hbl hbA hS hi5 dL_law_1340 ?_
  refine sM_i (As := [.int a1, .int a2, .int a3, .int a4, .int a5]) (rest := [.int r]) S hK rfl rfl (fun _ => rfl) hP hD hS (metX3_copy l hj hf) (lw_V q1598 q1599 q1600 q60 q1601) rfl pdX3_copy ⟨rfl, rfl⟩ ⟨Nat.le_of_ble_eq_true rfl, Nat.le_of_ble_eq_true rfl⟩ rfl hl.1 rfl (Nat.le_of_ble_eq_true rfl) dL_law_1341 hroom (fun r' u' H locs hf hP hD hS => ?_)
  obtain ⟨e1, hf⟩ := hf
  refine lv_icmp_eq (tgt := 1349) S.1 S.2.1 dL_law_1344 (by decide) (fun c_1 => ?_) (fun c_1 => ?_)
  · exact kk u u' H locs hf ⟨hP.perm permN, hD.perm permN⟩ hS
  · exact absurd e1 c_1
set_option maxHeartbeats 4000000 in
set_option maxRecDepth 100000 in
theorem lo_copy_II (hC : LC p l s m c b L xs A dC dI dA eA mi) (hj : mJ hm) {steps : Int32} {draw : Int32} {typed : Int32} {at_ : Int32} {isImage : Int32} {idraw : Int32} {gd : (Nat → Int32)} {gro : Int64} {grt : Int32} {td : (Nat → Int32)} {tro : Int64} {trt : Int32} {rd : (Nat → Int32)} {rro : Int64} {rrt : Int32} {imd : (Nat → Int32)} {imro : Int64} {imrt : Int32} {owners : (Nat → Int32)} {tour : (Nat → Int32)} {best : (Nat → Int32)} {tape : (Nat → Int32)} {signs : (Nat → Int32)} {acts : (Nat → Int32)} {iown : (Nat → Int32)} {taken : (Nat → Int64)} {shf : (Nat → Option Nat)} {hd : Nat} {rn : Nat} {rf : (Nat → Int32)} {hd2 : Nat} {rn2 : Nat} {rf2 : (Nat → Int32)} {ra : Nat} {ra2 : Nat} {m_depths : (Nat → Int32)} {m_owners : (Nat → Int32)} {m_roofs : Int64} {m_rate : Int32} {m_undos : (Nat → Int32)} {m_undoMany : Int32} {m_drawn : Int32} {m_dug : Int64} {m_deep : Int64} {m_holes : (Nat → Int64)} {m_holeMany : Int32} {m_tape : (Nat → Int32)} {m_taped : Int32} {m_place : Int32} {m_reads : Int32} {m_read_ : (Nat → Int32)} {m_row : (Nat → Int32)} {m_order : (Nat → Int32)} {m_bestOrder : (Nat → Int32)} {m_nears : (Nat → Int32)} {m_isKept : Int32} {m_keptRoofs : Int64} {m_kept : (Nat → Int32)} {m_lanes : (Nat → Int32)} {m_rowSizes : (Nat → Int32)} {m_items : (Nat → Int64)} {m_moved : (Nat → Int64)} {PP : (Nat → Int32) → (Nat → Int64) → (Nat → Int64) → Prop} (hf : wX0_copy_II (fun r p0 => wX3_copy (fun r' q0 q1 => r = r' ∧ PP p0 q0 q1) m_lanes m_rowSizes m_items m_moved a1 a2 a3 a4 a5) shf hd rn rf hd2 rn2 rf2 a1 a2 a3 a4 a5) (hPD : PD A dC dI ([((h 0), .inr (0, [.ref (h 1), .ref (h 3), .ref (h 9), .ref (h 17), .ref (h 10), .ref (h 11), .int steps, .int draw, .ref (h 12), .int typed, .int at_, .ref (h 5), .ref (h 13), .ref (h 14), .int isImage, .ref (h 7), .ref (h 15), .ref (h 18), .int idraw, .ref (h 19), .ref (h 16)])), ((h 1), .inr (1, [.ref (h 2), .long gro, .int grt])), ((h 2), .inl (dA 0, 36, .inl gd)), ((h 3), .inr (1, [.ref (h 4), .long tro, .int trt])), ((h 4), .inl (dA 0, 36, .inl td)), ((h 5), .inr (1, [.ref (h 6), .long rro, .int rrt])), ((h 6), .inl (dA 0, 36, .inl rd)), ((h 7), .inr (1, [.ref (h 8), .long imro, .int imrt])), ((h 8), .inl (dA 0, 36, .inl imd)), ((h 9), .inl (dA 0, 36, .inl owners)), ((h 10), .inl (dA 1, 8, .inl tour)), ((h 11), .inl (dA 1, 8, .inl best)), ((h 12), .inl (dA 0, 160, .inl tape)), ((h 13), .inl (dA 0, 36, .inl signs)), ((h 14), .inl (dA 0, 320, .inl acts)), ((h 15), .inl (dA 0, 36, .inl iown)), ((h 16), .inl (dA 2, 36, .inr (.inl taken))), ((h 19), .inl (dA 5, 4, .inr (.inr (.inr (.inr shf))))), (hd, .inr (2, [.ref ra])), (ra, .inl (dA 1, rn, .inl rf)), (hd2, .inr (2, [.ref ra2])), (ra2, .inl (dA 1, rn2, .inl rf2))] ++ ((wM hm dA m_depths m_owners m_roofs m_rate m_undos m_undoMany m_drawn m_dug m_deep m_holes m_holeMany m_tape m_taped m_place m_reads m_read_ m_row m_order m_bestOrder m_nears m_isKept m_keptRoofs m_kept m_lanes m_rowSizes m_items m_moved) ++ wr)) H) (hS : va_S A s.heap H locs) (hl : lv_has ls 4 [(0, .ref b), (1, .ref (h 0)), (2, .ref (hm 0)), (3, .int ix)]) (hi1 : vp_in (ix + 1) L ∧ xs (ix + 1).toNatClampNeg = a1) (hi2 : vp_in (ix + 2) L ∧ xs (ix + 2).toNatClampNeg = a2) (hi3 : vp_in (ix + 3) L ∧ xs (ix + 3).toNatClampNeg = a3) (hi4 : vp_in (ix + 4) L ∧ xs (ix + 4).toNatClampNeg = a4) (hi5 : vp_in (ix + 5) L ∧ xs (ix + 5).toNatClampNeg = a5) (hroom : kc + 3 ≤ room_1.cells ∧ ks + 500 ≤ room_1.slots)
    (kk : ∀ (u : (Nat → Int32)) (u' : (Nat → Int64) × (Nat → Int64)) (H1 : Heap) (locs1 : List Loc), PP u u'.1 u'.2 → PD A dC dI ([((h 0), .inr (0, [.ref (h 1), .ref (h 3), .ref (h 9), .ref (h 17), .ref (h 10), .ref (h 11), .int steps, .int draw, .ref (h 12), .int typed, .int at_, .ref (h 5), .ref (h 13), .ref (h 14), .int isImage, .ref (h 7), .ref (h 15), .ref (h 18), .int idraw, .ref (h 19), .ref (h 16)])), ((h 1), .inr (1, [.ref (h 2), .long gro, .int grt])), ((h 2), .inl (dA 0, 36, .inl gd)), ((h 3), .inr (1, [.ref (h 4), .long tro, .int trt])), ((h 4), .inl (dA 0, 36, .inl td)), ((h 5), .inr (1, [.ref (h 6), .long rro, .int rrt])), ((h 6), .inl (dA 0, 36, .inl rd)), ((h 7), .inr (1, [.ref (h 8), .long imro, .int imrt])), ((h 8), .inl (dA 0, 36, .inl imd)), ((h 9), .inl (dA 0, 36, .inl owners)), ((h 10), .inl (dA 1, 8, .inl tour)), ((h 11), .inl (dA 1, 8, .inl best)), ((h 12), .inl (dA 0, 160, .inl tape)), ((h 13), .inl (dA 0, 36, .inl signs)), ((h 14), .inl (dA 0, 320, .inl acts)), ((h 15), .inl (dA 0, 36, .inl iown)), ((h 16), .inl (dA 2, 36, .inr (.inl taken))), ((h 19), .inl (dA 5, 4, .inr (.inr (.inr (.inr shf))))), (hd, .inr (2, [.ref ra])), (ra, .inl (dA 1, rn, .inl rf)), (hd2, .inr (2, [.ref ra2])), (ra2, .inl (dA 1, rn2, .inl u))] ++ ((wM hm dA m_depths m_owners m_roofs m_rate m_undos m_undoMany m_drawn m_dug m_deep m_holes m_holeMany m_tape m_taped m_place m_reads m_read_ m_row m_order m_bestOrder m_nears m_isKept m_keptRoofs m_kept m_lanes m_rowSizes u'.1 u'.2) ++ wr)) H1 → va_S A s.heap H1 locs1 → W p l e room_1 s m #[Value.ref b] below meth c H1 locs1 (kc + 3) (ks + 500) Q (F0 m 1349 ls [])) : W p l e room_1 s m #[Value.ref b] below meth c H locs kc ks Q (F0 m 1286 ls []) := by
  obtain ⟨S, hX, hbl, hbA, hK, hE, hA, hfl⟩ := hC
  obtain ⟨hP, hD⟩ := hPD
  refine lv_aload_n S.1 S.2.1 dL_law_1286 rfl (lv_at hl 1 rfl) ?_
  refine lv_aload_n S.1 S.2.1 dL_law_1287 rfl (lv_at hl 0 rfl) ?_
  refine lv_iload_n S.1 S.2.1 dL_law_1288 rfl (lv_at hl 3 rfl) ?_
  refine lv_iconst (v := 1) S.1 S.2.1 dL_law_1289 (by decide) ?_
  refine lv_iadd S.1 S.2.1 dL_law_1290 ?_
  refine sldE S.1 S.2.1 hX hbl hbA hS hi1 dL_law_1291 ?_
  refine lv_aload_n S.1 S.2.1 dL_law_1292 rfl (lv_at hl 0 rfl) ?_
  refine lv_iload_n S.1 S.2.1 dL_law_1293 rfl (lv_at hl 3 rfl) ?_
  refine lv_iconst (v := 2) S.1 S.2.1 dL_law_1294 (by decide) ?_
  refine lv_iadd S.1 S.2.1 dL_law_1295 ?_
  refine sldE S.1 S.2.1 hX hbl hbA hS hi2 dL_law_1296 ?_
  refine lv_aload_n S.1 S.2.1 dL_law_1297 rfl (lv_at hl 0 rfl) ?_
  refine lv_iload_n S.1 S.2.1 dL_law_1298 rfl (lv_at hl 3 rfl) ?_
  refine lv_iconst (v := 3) S.1 S.2.1 dL_law_1299 (by decide) ?_
  refine lv_iadd S.1 S.2.1 dL_law_1300 ?_
  refine sldE S.1 S.2.1 hX hbl hbA hS hi3 dL_law_1301 ?_
  refine lv_aload_n S.1 S.2.1 dL_law_1302 rfl (lv_at hl 0 rfl) ?_
  refine lv_iload_n S.1 S.2.1 dL_law_1303 rfl (lv_at hl 3 rfl) ?_
  refine lv_iconst (v := 4) S.1 S.2.1 dL_law_1304 (by decide) ?_
  refine lv_iadd S.1 S.2.1 dL_law_1305 ?_
  refine sldE S.1 S.2.1 hX hbl hbA hS hi4 dL_law_1306 ?_
  refine lv_aload_n S.1 S.2.1 dL_law_1307 rfl (lv_at hl 0 rfl) ?_
  refine lv_iload_n S.1 S.2.1 dL_law_1308 rfl (lv_at hl 3 rfl) ?_
  refine lv_iconst (v := 5) S.1 S.2.1 dL_law_1309 (by decide) ?_
  refine lv_iadd S.1 S.2.1 dL_law_1310 ?_
  refine sldE S.1 S.2.1 hX hbl hbA hS hi5 dL_law_1311 ?_
  refine sC_i hP hD hS hA (va_runVW (As := [.int a1, .int a2, .int a3, .int a4, .int a5]) (rest := []) S (metX0_copy_II l hfl hf) (cwVW 5 S.2.2.2.2 q1049 q1050 q1051 q54 q1052 pdX0_copy ⟨Nat.le_of_ble_eq_true rfl, Nat.le_of_ble_eq_true rfl⟩) ⟨ablind, va_recv hK hP (ci := 0) (q0 := 0) rfl rfl, (spre hK hE hP hD hS hA).2⟩ rfl rfl hl.1 rfl (lv_room (Nat.le_of_ble_eq_true rfl)) dL_law_1312 hroom) (fun r u H locs hf hP hD hS => ?_)
  have hP := hP.perm permM
  have hD := hD.perm permM
  refine lv_aload_n S.1 S.2.1 dL_law_1315 rfl (lv_at hl 2 rfl) ?_
  refine lv_aload_n S.1 S.2.1 dL_law_1316 rfl (lv_at hl 0 rfl) ?_
  refine lv_iload_n S.1 S.2.1 dL_law_1317 rfl (lv_at hl 3 rfl) ?_
  refine lv_iconst (v := 1) S.1 S.2.1 dL_law_1318 (by decide) ?_
  refine lv_iadd S.1 S.2.1 dL_law_1319 ?_
  refine sldE S.1 S.2.1 hX hbl hbA hS hi1 dL_law_1320 ?_
  refine lv_aload_n S.1 S.2.1 dL_law_1321 rfl (lv_at hl 0 rfl) ?_
  refine lv_iload_n S.1 S.2.1 dL_law_1322 rfl (lv_at hl 3 rfl) ?_
  refine lv_iconst (v := 2) S.1 S.2.1 dL_law_1323 (by decide) ?_
  refine lv_iadd S.1 S.2.1 dL_law_1324 ?_
  refine sldE S.1 S.2.1 hX hbl hbA hS hi2 dL_law_1325 ?_
  refine lv_aload_n S.1 S.2.1 dL_law_1326 rfl (lv_at hl 0 rfl) ?_
  refine lv_iload_n S.1 S.2.1 dL_law_1327 rfl (lv_at hl 3 rfl) ?_
  refine lv_iconst (v := 3) S.1 S.2.1 dL_law_1328 (by decide) ?_
  refine lv_iadd S.1 S.2.1 dL_law_1329 ?_
  refine sldE S.1 S.2.1 hX hbl hbA hS hi3 dL_law_1330 ?_
  refine lv_aload_n S.1 S.2.1 dL_law_1331 rfl (lv_at hl 0 rfl) ?_
  refine lv_iload_n S.1 S.2.1 dL_law_1332 rfl (lv_at hl 3 rfl) ?_
  refine lv_iconst (v := 4) S.1 S.2.1 dL_law_1333 (by decide) ?_
  refine lv_iadd S.1 S.2.1 dL_law_1334 ?_
  refine sldE S.1 S.2.1 hX hbl hbA hS hi4 dL_law_1335 ?_
  refine lv_aload_n S.1 S.2.1 dL_law_1336 rfl (lv_at hl 0 rfl) ?_
  refine lv_iload_n S.1 S.2.1 dL_law_1337 rfl (lv_at hl 3 rfl) ?_
  refine lv_iconst (v := 5) S.1 S.2.1 dL_law_1338 (by decide) ?_
  refine lv_iadd S.1 S.2.1 dL_law_1339 ?_
  refine sldE S.1 S.2.1 hX hbl hbA hS hi5 dL_law_1340 ?_
  refine sM_i (As := [.int a1, .int a2, .int a3, .int a4, .int a5]) (rest := [.int r]) S hK rfl rfl (fun _ => rfl) hP hD hS (metX3_copy l hj hf) (lw_V q1598 q1599 q1600 q60 q1601) rfl pdX3_copy ⟨rfl, rfl⟩ ⟨Nat.le_of_ble_eq_true rfl, Nat.le_of_ble_eq_true rfl⟩ rfl hl.1 rfl (Nat.le_of_ble_eq_true rfl) dL_law_1341 hroom (fun r' u' H locs hf hP hD hS => ?_)
  obtain ⟨e1, hf⟩ := hf
  refine lv_icmp_eq (tgt := 1349) S.1 S.2.1 dL_law_1344 (by decide) (fun c_1 => ?_) (fun c_1 => ?_)
  · exact kk u u' H locs hf ⟨hP.perm permN, hD.perm permN⟩ hS
  · exact absurd e1 c_1
set_option maxHeartbeats 4000000 in
set_option maxRecDepth 100000 in
theorem lo_copy_IJ (hC : LC p l s m c b L xs A dC dI dA eA mi) (hj : mJ hm) {steps : Int32} {draw : Int32} {typed : Int32} {at_ : Int32} {isImage : Int32} {idraw : Int32} {gd : (Nat → Int32)} {gro : Int64} {grt : Int32} {td : (Nat → Int32)} {tro : Int64} {trt : Int32} {rd : (Nat → Int32)} {rro : Int64} {rrt : Int32} {imd : (Nat → Int32)} {imro : Int64} {imrt : Int32} {owners : (Nat → Int32)} {tour : (Nat → Int32)} {best : (Nat → Int32)} {tape : (Nat → Int32)} {signs : (Nat → Int32)} {acts : (Nat → Int32)} {iown : (Nat → Int32)} {taken : (Nat → Int64)} {shf : (Nat → Option Nat)} {hd : Nat} {rn : Nat} {rf : (Nat → Int32)} {hd2 : Nat} {rn2 : Nat} {rf2 : (Nat → Int64)} {ra : Nat} {ra2 : Nat} {m_depths : (Nat → Int32)} {m_owners : (Nat → Int32)} {m_roofs : Int64} {m_rate : Int32} {m_undos : (Nat → Int32)} {m_undoMany : Int32} {m_drawn : Int32} {m_dug : Int64} {m_deep : Int64} {m_holes : (Nat → Int64)} {m_holeMany : Int32} {m_tape : (Nat → Int32)} {m_taped : Int32} {m_place : Int32} {m_reads : Int32} {m_read_ : (Nat → Int32)} {m_row : (Nat → Int32)} {m_order : (Nat → Int32)} {m_bestOrder : (Nat → Int32)} {m_nears : (Nat → Int32)} {m_isKept : Int32} {m_keptRoofs : Int64} {m_kept : (Nat → Int32)} {m_lanes : (Nat → Int32)} {m_rowSizes : (Nat → Int32)} {m_items : (Nat → Int64)} {m_moved : (Nat → Int64)} {PP : (Nat → Int64) → (Nat → Int64) → Prop} (hf : wX0_copy_IJ (fun r => wX3_copy (fun r' q0 q1 => r = r' ∧ PP q0 q1) m_lanes m_rowSizes m_items m_moved a1 a2 a3 a4 a5) shf hd rn hd2 rn2 a1 a2 a3 a4 a5) (hPD : PD A dC dI ([((h 0), .inr (0, [.ref (h 1), .ref (h 3), .ref (h 9), .ref (h 17), .ref (h 10), .ref (h 11), .int steps, .int draw, .ref (h 12), .int typed, .int at_, .ref (h 5), .ref (h 13), .ref (h 14), .int isImage, .ref (h 7), .ref (h 15), .ref (h 18), .int idraw, .ref (h 19), .ref (h 16)])), ((h 1), .inr (1, [.ref (h 2), .long gro, .int grt])), ((h 2), .inl (dA 0, 36, .inl gd)), ((h 3), .inr (1, [.ref (h 4), .long tro, .int trt])), ((h 4), .inl (dA 0, 36, .inl td)), ((h 5), .inr (1, [.ref (h 6), .long rro, .int rrt])), ((h 6), .inl (dA 0, 36, .inl rd)), ((h 7), .inr (1, [.ref (h 8), .long imro, .int imrt])), ((h 8), .inl (dA 0, 36, .inl imd)), ((h 9), .inl (dA 0, 36, .inl owners)), ((h 10), .inl (dA 1, 8, .inl tour)), ((h 11), .inl (dA 1, 8, .inl best)), ((h 12), .inl (dA 0, 160, .inl tape)), ((h 13), .inl (dA 0, 36, .inl signs)), ((h 14), .inl (dA 0, 320, .inl acts)), ((h 15), .inl (dA 0, 36, .inl iown)), ((h 16), .inl (dA 2, 36, .inr (.inl taken))), ((h 19), .inl (dA 5, 4, .inr (.inr (.inr (.inr shf))))), (hd, .inr (2, [.ref ra])), (ra, .inl (dA 1, rn, .inl rf)), (hd2, .inr (2, [.ref ra2])), (ra2, .inl (dA 2, rn2, .inr (.inl rf2)))] ++ ((wM hm dA m_depths m_owners m_roofs m_rate m_undos m_undoMany m_drawn m_dug m_deep m_holes m_holeMany m_tape m_taped m_place m_reads m_read_ m_row m_order m_bestOrder m_nears m_isKept m_keptRoofs m_kept m_lanes m_rowSizes m_items m_moved) ++ wr)) H) (hS : va_S A s.heap H locs) (hl : lv_has ls 4 [(0, .ref b), (1, .ref (h 0)), (2, .ref (hm 0)), (3, .int ix)]) (hi1 : vp_in (ix + 1) L ∧ xs (ix + 1).toNatClampNeg = a1) (hi2 : vp_in (ix + 2) L ∧ xs (ix + 2).toNatClampNeg = a2) (hi3 : vp_in (ix + 3) L ∧ xs (ix + 3).toNatClampNeg = a3) (hi4 : vp_in (ix + 4) L ∧ xs (ix + 4).toNatClampNeg = a4) (hi5 : vp_in (ix + 5) L ∧ xs (ix + 5).toNatClampNeg = a5) (hroom : kc + 3 ≤ room_1.cells ∧ ks + 500 ≤ room_1.slots)
    (kk : ∀ (u : Unit) (u' : (Nat → Int64) × (Nat → Int64)) (H1 : Heap) (locs1 : List Loc), PP u'.1 u'.2 → PD A dC dI ([((h 0), .inr (0, [.ref (h 1), .ref (h 3), .ref (h 9), .ref (h 17), .ref (h 10), .ref (h 11), .int steps, .int draw, .ref (h 12), .int typed, .int at_, .ref (h 5), .ref (h 13), .ref (h 14), .int isImage, .ref (h 7), .ref (h 15), .ref (h 18), .int idraw, .ref (h 19), .ref (h 16)])), ((h 1), .inr (1, [.ref (h 2), .long gro, .int grt])), ((h 2), .inl (dA 0, 36, .inl gd)), ((h 3), .inr (1, [.ref (h 4), .long tro, .int trt])), ((h 4), .inl (dA 0, 36, .inl td)), ((h 5), .inr (1, [.ref (h 6), .long rro, .int rrt])), ((h 6), .inl (dA 0, 36, .inl rd)), ((h 7), .inr (1, [.ref (h 8), .long imro, .int imrt])), ((h 8), .inl (dA 0, 36, .inl imd)), ((h 9), .inl (dA 0, 36, .inl owners)), ((h 10), .inl (dA 1, 8, .inl tour)), ((h 11), .inl (dA 1, 8, .inl best)), ((h 12), .inl (dA 0, 160, .inl tape)), ((h 13), .inl (dA 0, 36, .inl signs)), ((h 14), .inl (dA 0, 320, .inl acts)), ((h 15), .inl (dA 0, 36, .inl iown)), ((h 16), .inl (dA 2, 36, .inr (.inl taken))), ((h 19), .inl (dA 5, 4, .inr (.inr (.inr (.inr shf))))), (hd, .inr (2, [.ref ra])), (ra, .inl (dA 1, rn, .inl rf)), (hd2, .inr (2, [.ref ra2])), (ra2, .inl (dA 2, rn2, .inr (.inl rf2)))] ++ ((wM hm dA m_depths m_owners m_roofs m_rate m_undos m_undoMany m_drawn m_dug m_deep m_holes m_holeMany m_tape m_taped m_place m_reads m_read_ m_row m_order m_bestOrder m_nears m_isKept m_keptRoofs m_kept m_lanes m_rowSizes u'.1 u'.2) ++ wr)) H1 → va_S A s.heap H1 locs1 → W p l e room_1 s m #[Value.ref b] below meth c H1 locs1 (kc + 3) (ks + 500) Q (F0 m 1349 ls [])) : W p l e room_1 s m #[Value.ref b] below meth c H locs kc ks Q (F0 m 1286 ls []) := by
  obtain ⟨S, hX, hbl, hbA, hK, hE, hA, hfl⟩ := hC
  obtain ⟨hP, hD⟩ := hPD
  refine lv_aload_n S.1 S.2.1 dL_law_1286 rfl (lv_at hl 1 rfl) ?_
  refine lv_aload_n S.1 S.2.1 dL_law_1287 rfl (lv_at hl 0 rfl) ?_
  refine lv_iload_n S.1 S.2.1 dL_law_1288 rfl (lv_at hl 3 rfl) ?_
  refine lv_iconst (v := 1) S.1 S.2.1 dL_law_1289 (by decide) ?_
  refine lv_iadd S.1 S.2.1 dL_law_1290 ?_
  refine sldE S.1 S.2.1 hX hbl hbA hS hi1 dL_law_1291 ?_
  refine lv_aload_n S.1 S.2.1 dL_law_1292 rfl (lv_at hl 0 rfl) ?_
  refine lv_iload_n S.1 S.2.1 dL_law_1293 rfl (lv_at hl 3 rfl) ?_
  refine lv_iconst (v := 2) S.1 S.2.1 dL_law_1294 (by decide) ?_
  refine lv_iadd S.1 S.2.1 dL_law_1295 ?_
  refine sldE S.1 S.2.1 hX hbl hbA hS hi2 dL_law_1296 ?_
  refine lv_aload_n S.1 S.2.1 dL_law_1297 rfl (lv_at hl 0 rfl) ?_
  refine lv_iload_n S.1 S.2.1 dL_law_1298 rfl (lv_at hl 3 rfl) ?_
  refine lv_iconst (v := 3) S.1 S.2.1 dL_law_1299 (by decide) ?_
  refine lv_iadd S.1 S.2.1 dL_law_1300 ?_
  refine sldE S.1 S.2.1 hX hbl hbA hS hi3 dL_law_1301 ?_
  refine lv_aload_n S.1 S.2.1 dL_law_1302 rfl (lv_at hl 0 rfl) ?_
  refine lv_iload_n S.1 S.2.1 dL_law_1303 rfl (lv_at hl 3 rfl) ?_
  refine lv_iconst (v := 4) S.1 S.2.1 dL_law_1304 (by decide) ?_
  refine lv_iadd S.1 S.2.1 dL_law_1305 ?_
  refine sldE S.1 S.2.1 hX hbl hbA hS hi4 dL_law_1306 ?_
  refine lv_aload_n S.1 S.2.1 dL_law_1307 rfl (lv_at hl 0 rfl) ?_
  refine lv_iload_n S.1 S.2.1 dL_law_1308 rfl (lv_at hl 3 rfl) ?_
  refine lv_iconst (v := 5) S.1 S.2.1 dL_law_1309 (by decide) ?_
  refine lv_iadd S.1 S.2.1 dL_law_1310 ?_
  refine sldE S.1 S.2.1 hX hbl hbA hS hi5 dL_law_1311 ?_
  refine sC_i hP hD hS hA (va_runVW (As := [.int a1, .int a2, .int a3, .int a4, .int a5]) (rest := []) S (metX0_copy_IJ l hfl hf) (cwVW 5 S.2.2.2.2 q1049 q1050 q1051 q54 q1052 pdX0_copy ⟨Nat.le_of_ble_eq_true rfl, Nat.le_of_ble_eq_true rfl⟩) ⟨ablind, va_recv hK hP (ci := 0) (q0 := 0) rfl rfl, (spre hK hE hP hD hS hA).2⟩ rfl rfl hl.1 rfl (lv_room (Nat.le_of_ble_eq_true rfl)) dL_law_1312 hroom) (fun r u H locs hf hP hD hS => ?_)
  have hP := hP.perm permM
  have hD := hD.perm permM
  refine lv_aload_n S.1 S.2.1 dL_law_1315 rfl (lv_at hl 2 rfl) ?_
  refine lv_aload_n S.1 S.2.1 dL_law_1316 rfl (lv_at hl 0 rfl) ?_
  refine lv_iload_n S.1 S.2.1 dL_law_1317 rfl (lv_at hl 3 rfl) ?_
  refine lv_iconst (v := 1) S.1 S.2.1 dL_law_1318 (by decide) ?_
  refine lv_iadd S.1 S.2.1 dL_law_1319 ?_
  refine sldE S.1 S.2.1 hX hbl hbA hS hi1 dL_law_1320 ?_
  refine lv_aload_n S.1 S.2.1 dL_law_1321 rfl (lv_at hl 0 rfl) ?_
  refine lv_iload_n S.1 S.2.1 dL_law_1322 rfl (lv_at hl 3 rfl) ?_
  refine lv_iconst (v := 2) S.1 S.2.1 dL_law_1323 (by decide) ?_
  refine lv_iadd S.1 S.2.1 dL_law_1324 ?_
  refine sldE S.1 S.2.1 hX hbl hbA hS hi2 dL_law_1325 ?_
  refine lv_aload_n S.1 S.2.1 dL_law_1326 rfl (lv_at hl 0 rfl) ?_
  refine lv_iload_n S.1 S.2.1 dL_law_1327 rfl (lv_at hl 3 rfl) ?_
  refine lv_iconst (v := 3) S.1 S.2.1 dL_law_1328 (by decide) ?_
  refine lv_iadd S.1 S.2.1 dL_law_1329 ?_
  refine sldE S.1 S.2.1 hX hbl hbA hS hi3 dL_law_1330 ?_
  refine lv_aload_n S.1 S.2.1 dL_law_1331 rfl (lv_at hl 0 rfl) ?_
  refine lv_iload_n S.1 S.2.1 dL_law_1332 rfl (lv_at hl 3 rfl) ?_
  refine lv_iconst (v := 4) S.1 S.2.1 dL_law_1333 (by decide) ?_
  refine lv_iadd S.1 S.2.1 dL_law_1334 ?_
  refine sldE S.1 S.2.1 hX hbl hbA hS hi4 dL_law_1335 ?_
  refine lv_aload_n S.1 S.2.1 dL_law_1336 rfl (lv_at hl 0 rfl) ?_
  refine lv_iload_n S.1 S.2.1 dL_law_1337 rfl (lv_at hl 3 rfl) ?_
  refine lv_iconst (v := 5) S.1 S.2.1 dL_law_1338 (by decide) ?_
  refine lv_iadd S.1 S.2.1 dL_law_1339 ?_
  refine sldE S.1 S.2.1 hX hbl hbA hS hi5 dL_law_1340 ?_
  refine sM_i (As := [.int a1, .int a2, .int a3, .int a4, .int a5]) (rest := [.int r]) S hK rfl rfl (fun _ => rfl) hP hD hS (metX3_copy l hj hf) (lw_V q1598 q1599 q1600 q60 q1601) rfl pdX3_copy ⟨rfl, rfl⟩ ⟨Nat.le_of_ble_eq_true rfl, Nat.le_of_ble_eq_true rfl⟩ rfl hl.1 rfl (Nat.le_of_ble_eq_true rfl) dL_law_1341 hroom (fun r' u' H locs hf hP hD hS => ?_)
  obtain ⟨e1, hf⟩ := hf
  refine lv_icmp_eq (tgt := 1349) S.1 S.2.1 dL_law_1344 (by decide) (fun c_1 => ?_) (fun c_1 => ?_)
  · exact kk u u' H locs hf ⟨hP.perm permN, hD.perm permN⟩ hS
  · exact absurd e1 c_1
set_option maxHeartbeats 4000000 in
set_option maxRecDepth 100000 in
theorem lo_copy_JN (hC : LC p l s m c b L xs A dC dI dA eA mi) (hj : mJ hm) {steps : Int32} {draw : Int32} {typed : Int32} {at_ : Int32} {isImage : Int32} {idraw : Int32} {gd : (Nat → Int32)} {gro : Int64} {grt : Int32} {td : (Nat → Int32)} {tro : Int64} {trt : Int32} {rd : (Nat → Int32)} {rro : Int64} {rrt : Int32} {imd : (Nat → Int32)} {imro : Int64} {imrt : Int32} {owners : (Nat → Int32)} {tour : (Nat → Int32)} {best : (Nat → Int32)} {tape : (Nat → Int32)} {signs : (Nat → Int32)} {acts : (Nat → Int32)} {iown : (Nat → Int32)} {taken : (Nat → Int64)} {shf : (Nat → Option Nat)} {hd : Nat} {rn : Nat} {rf : (Nat → Int64)} {hd2 : Nat} {ra : Nat} {m_depths : (Nat → Int32)} {m_owners : (Nat → Int32)} {m_roofs : Int64} {m_rate : Int32} {m_undos : (Nat → Int32)} {m_undoMany : Int32} {m_drawn : Int32} {m_dug : Int64} {m_deep : Int64} {m_holes : (Nat → Int64)} {m_holeMany : Int32} {m_tape : (Nat → Int32)} {m_taped : Int32} {m_place : Int32} {m_reads : Int32} {m_read_ : (Nat → Int32)} {m_row : (Nat → Int32)} {m_order : (Nat → Int32)} {m_bestOrder : (Nat → Int32)} {m_nears : (Nat → Int32)} {m_isKept : Int32} {m_keptRoofs : Int64} {m_kept : (Nat → Int32)} {m_lanes : (Nat → Int32)} {m_rowSizes : (Nat → Int32)} {m_items : (Nat → Int64)} {m_moved : (Nat → Int64)} {PP : (Nat → Int64) → (Nat → Int64) → Prop} (hf : wX0_copy_JN (fun r => wX3_copy (fun r' q0 q1 => r = r' ∧ PP q0 q1) m_lanes m_rowSizes m_items m_moved a1 a2 a3 a4 a5) shf hd hd2 a1 a2 a3 a4 a5) (hPD : PD A dC dI ([((h 0), .inr (0, [.ref (h 1), .ref (h 3), .ref (h 9), .ref (h 17), .ref (h 10), .ref (h 11), .int steps, .int draw, .ref (h 12), .int typed, .int at_, .ref (h 5), .ref (h 13), .ref (h 14), .int isImage, .ref (h 7), .ref (h 15), .ref (h 18), .int idraw, .ref (h 19), .ref (h 16)])), ((h 1), .inr (1, [.ref (h 2), .long gro, .int grt])), ((h 2), .inl (dA 0, 36, .inl gd)), ((h 3), .inr (1, [.ref (h 4), .long tro, .int trt])), ((h 4), .inl (dA 0, 36, .inl td)), ((h 5), .inr (1, [.ref (h 6), .long rro, .int rrt])), ((h 6), .inl (dA 0, 36, .inl rd)), ((h 7), .inr (1, [.ref (h 8), .long imro, .int imrt])), ((h 8), .inl (dA 0, 36, .inl imd)), ((h 9), .inl (dA 0, 36, .inl owners)), ((h 10), .inl (dA 1, 8, .inl tour)), ((h 11), .inl (dA 1, 8, .inl best)), ((h 12), .inl (dA 0, 160, .inl tape)), ((h 13), .inl (dA 0, 36, .inl signs)), ((h 14), .inl (dA 0, 320, .inl acts)), ((h 15), .inl (dA 0, 36, .inl iown)), ((h 16), .inl (dA 2, 36, .inr (.inl taken))), ((h 19), .inl (dA 5, 4, .inr (.inr (.inr (.inr shf))))), (hd, .inr (2, [.ref ra])), (ra, .inl (dA 2, rn, .inr (.inl rf))), (hd2, .inr (2, [.null]))] ++ ((wM hm dA m_depths m_owners m_roofs m_rate m_undos m_undoMany m_drawn m_dug m_deep m_holes m_holeMany m_tape m_taped m_place m_reads m_read_ m_row m_order m_bestOrder m_nears m_isKept m_keptRoofs m_kept m_lanes m_rowSizes m_items m_moved) ++ wr)) H) (hS : va_S A s.heap H locs) (hl : lv_has ls 4 [(0, .ref b), (1, .ref (h 0)), (2, .ref (hm 0)), (3, .int ix)]) (hi1 : vp_in (ix + 1) L ∧ xs (ix + 1).toNatClampNeg = a1) (hi2 : vp_in (ix + 2) L ∧ xs (ix + 2).toNatClampNeg = a2) (hi3 : vp_in (ix + 3) L ∧ xs (ix + 3).toNatClampNeg = a3) (hi4 : vp_in (ix + 4) L ∧ xs (ix + 4).toNatClampNeg = a4) (hi5 : vp_in (ix + 5) L ∧ xs (ix + 5).toNatClampNeg = a5) (hroom : kc + 3 ≤ room_1.cells ∧ ks + 500 ≤ room_1.slots)
    (kk : ∀ (u : Unit) (u' : (Nat → Int64) × (Nat → Int64)) (H1 : Heap) (locs1 : List Loc), PP u'.1 u'.2 → PD A dC dI ([((h 0), .inr (0, [.ref (h 1), .ref (h 3), .ref (h 9), .ref (h 17), .ref (h 10), .ref (h 11), .int steps, .int draw, .ref (h 12), .int typed, .int at_, .ref (h 5), .ref (h 13), .ref (h 14), .int isImage, .ref (h 7), .ref (h 15), .ref (h 18), .int idraw, .ref (h 19), .ref (h 16)])), ((h 1), .inr (1, [.ref (h 2), .long gro, .int grt])), ((h 2), .inl (dA 0, 36, .inl gd)), ((h 3), .inr (1, [.ref (h 4), .long tro, .int trt])), ((h 4), .inl (dA 0, 36, .inl td)), ((h 5), .inr (1, [.ref (h 6), .long rro, .int rrt])), ((h 6), .inl (dA 0, 36, .inl rd)), ((h 7), .inr (1, [.ref (h 8), .long imro, .int imrt])), ((h 8), .inl (dA 0, 36, .inl imd)), ((h 9), .inl (dA 0, 36, .inl owners)), ((h 10), .inl (dA 1, 8, .inl tour)), ((h 11), .inl (dA 1, 8, .inl best)), ((h 12), .inl (dA 0, 160, .inl tape)), ((h 13), .inl (dA 0, 36, .inl signs)), ((h 14), .inl (dA 0, 320, .inl acts)), ((h 15), .inl (dA 0, 36, .inl iown)), ((h 16), .inl (dA 2, 36, .inr (.inl taken))), ((h 19), .inl (dA 5, 4, .inr (.inr (.inr (.inr shf))))), (hd, .inr (2, [.ref ra])), (ra, .inl (dA 2, rn, .inr (.inl rf))), (hd2, .inr (2, [.null]))] ++ ((wM hm dA m_depths m_owners m_roofs m_rate m_undos m_undoMany m_drawn m_dug m_deep m_holes m_holeMany m_tape m_taped m_place m_reads m_read_ m_row m_order m_bestOrder m_nears m_isKept m_keptRoofs m_kept m_lanes m_rowSizes u'.1 u'.2) ++ wr)) H1 → va_S A s.heap H1 locs1 → W p l e room_1 s m #[Value.ref b] below meth c H1 locs1 (kc + 3) (ks + 500) Q (F0 m 1349 ls [])) : W p l e room_1 s m #[Value.ref b] below meth c H locs kc ks Q (F0 m 1286 ls []) := by
  obtain ⟨S, hX, hbl, hbA, hK, hE, hA, hfl⟩ := hC
  obtain ⟨hP, hD⟩ := hPD
  refine lv_aload_n S.1 S.2.1 dL_law_1286 rfl (lv_at hl 1 rfl) ?_
  refine lv_aload_n S.1 S.2.1 dL_law_1287 rfl (lv_at hl 0 rfl) ?_
  refine lv_iload_n S.1 S.2.1 dL_law_1288 rfl (lv_at hl 3 rfl) ?_
  refine lv_iconst (v := 1) S.1 S.2.1 dL_law_1289 (by decide) ?_
  refine lv_iadd S.1 S.2.1 dL_law_1290 ?_
  refine sldE S.1 S.2.1 hX hbl hbA hS hi1 dL_law_1291 ?_
  refine lv_aload_n S.1 S.2.1 dL_law_1292 rfl (lv_at hl 0 rfl) ?_
  refine lv_iload_n S.1 S.2.1 dL_law_1293 rfl (lv_at hl 3 rfl) ?_
  refine lv_iconst (v := 2) S.1 S.2.1 dL_law_1294 (by decide) ?_
  refine lv_iadd S.1 S.2.1 dL_law_1295 ?_
  refine sldE S.1 S.2.1 hX hbl hbA hS hi2 dL_law_1296 ?_
  refine lv_aload_n S.1 S.2.1 dL_law_1297 rfl (lv_at hl 0 rfl) ?_
  refine lv_iload_n S.1 S.2.1 dL_law_1298 rfl (lv_at hl 3 rfl) ?_
  refine lv_iconst (v := 3) S.1 S.2.1 dL_law_1299 (by decide) ?_
  refine lv_iadd S.1 S.2.1 dL_law_1300 ?_
  refine sldE S.1 S.2.1 hX hbl hbA hS hi3 dL_law_1301 ?_
  refine lv_aload_n S.1 S.2.1 dL_law_1302 rfl (lv_at hl 0 rfl) ?_
  refine lv_iload_n S.1 S.2.1 dL_law_1303 rfl (lv_at hl 3 rfl) ?_
  refine lv_iconst (v := 4) S.1 S.2.1 dL_law_1304 (by decide) ?_
  refine lv_iadd S.1 S.2.1 dL_law_1305 ?_
  refine sldE S.1 S.2.1 hX hbl hbA hS hi4 dL_law_1306 ?_
  refine lv_aload_n S.1 S.2.1 dL_law_1307 rfl (lv_at hl 0 rfl) ?_
  refine lv_iload_n S.1 S.2.1 dL_law_1308 rfl (lv_at hl 3 rfl) ?_
  refine lv_iconst (v := 5) S.1 S.2.1 dL_law_1309 (by decide) ?_
  refine lv_iadd S.1 S.2.1 dL_law_1310 ?_
  refine sldE S.1 S.2.1 hX hbl hbA hS hi5 dL_law_1311 ?_
  refine sC_i hP hD hS hA (va_runVW (As := [.int a1, .int a2, .int a3, .int a4, .int a5]) (rest := []) S (metX0_copy_JN l hfl hf) (cwVW 5 S.2.2.2.2 q1049 q1050 q1051 q54 q1052 pdX0_copy ⟨Nat.le_of_ble_eq_true rfl, Nat.le_of_ble_eq_true rfl⟩) ⟨ablind, va_recv hK hP (ci := 0) (q0 := 0) rfl rfl, (spre hK hE hP hD hS hA).2⟩ rfl rfl hl.1 rfl (lv_room (Nat.le_of_ble_eq_true rfl)) dL_law_1312 hroom) (fun r u H locs hf hP hD hS => ?_)
  have hP := hP.perm permM
  have hD := hD.perm permM
  refine lv_aload_n S.1 S.2.1 dL_law_1315 rfl (lv_at hl 2 rfl) ?_
  refine lv_aload_n S.1 S.2.1 dL_law_1316 rfl (lv_at hl 0 rfl) ?_
  refine lv_iload_n S.1 S.2.1 dL_law_1317 rfl (lv_at hl 3 rfl) ?_
  refine lv_iconst (v := 1) S.1 S.2.1 dL_law_1318 (by decide) ?_
  refine lv_iadd S.1 S.2.1 dL_law_1319 ?_
  refine sldE S.1 S.2.1 hX hbl hbA hS hi1 dL_law_1320 ?_
  refine lv_aload_n S.1 S.2.1 dL_law_1321 rfl (lv_at hl 0 rfl) ?_
  refine lv_iload_n S.1 S.2.1 dL_law_1322 rfl (lv_at hl 3 rfl) ?_
  refine lv_iconst (v := 2) S.1 S.2.1 dL_law_1323 (by decide) ?_
  refine lv_iadd S.1 S.2.1 dL_law_1324 ?_
  refine sldE S.1 S.2.1 hX hbl hbA hS hi2 dL_law_1325 ?_
  refine lv_aload_n S.1 S.2.1 dL_law_1326 rfl (lv_at hl 0 rfl) ?_
  refine lv_iload_n S.1 S.2.1 dL_law_1327 rfl (lv_at hl 3 rfl) ?_
  refine lv_iconst (v := 3) S.1 S.2.1 dL_law_1328 (by decide) ?_
  refine lv_iadd S.1 S.2.1 dL_law_1329 ?_
  refine sldE S.1 S.2.1 hX hbl hbA hS hi3 dL_law_1330 ?_
  refine lv_aload_n S.1 S.2.1 dL_law_1331 rfl (lv_at hl 0 rfl) ?_
  refine lv_iload_n S.1 S.2.1 dL_law_1332 rfl (lv_at hl 3 rfl) ?_
  refine lv_iconst (v := 4) S.1 S.2.1 dL_law_1333 (by decide) ?_
  refine lv_iadd S.1 S.2.1 dL_law_1334 ?_
  refine sldE S.1 S.2.1 hX hbl hbA hS hi4 dL_law_1335 ?_
  refine lv_aload_n S.1 S.2.1 dL_law_1336 rfl (lv_at hl 0 rfl) ?_
  refine lv_iload_n S.1 S.2.1 dL_law_1337 rfl (lv_at hl 3 rfl) ?_
  refine lv_iconst (v := 5) S.1 S.2.1 dL_law_1338 (by decide) ?_
  refine lv_iadd S.1 S.2.1 dL_law_1339 ?_
  refine sldE S.1 S.2.1 hX hbl hbA hS hi5 dL_law_1340 ?_
  refine sM_i (As := [.int a1, .int a2, .int a3, .int a4, .int a5]) (rest := [.int r]) S hK rfl rfl (fun _ => rfl) hP hD hS (metX3_copy l hj hf) (lw_V q1598 q1599 q1600 q60 q1601) rfl pdX3_copy ⟨rfl, rfl⟩ ⟨Nat.le_of_ble_eq_true rfl, Nat.le_of_ble_eq_true rfl⟩ rfl hl.1 rfl (Nat.le_of_ble_eq_true rfl) dL_law_1341 hroom (fun r' u' H locs hf hP hD hS => ?_)
  obtain ⟨e1, hf⟩ := hf
  refine lv_icmp_eq (tgt := 1349) S.1 S.2.1 dL_law_1344 (by decide) (fun c_1 => ?_) (fun c_1 => ?_)
  · exact kk u u' H locs hf ⟨hP.perm permN, hD.perm permN⟩ hS
  · exact absurd e1 c_1
set_option maxHeartbeats 4000000 in
set_option maxRecDepth 100000 in
theorem lo_copy_JB (hC : LC p l s m c b L xs A dC dI dA eA mi) (hj : mJ hm) {steps : Int32} {draw : Int32} {typed : Int32} {at_ : Int32} {isImage : Int32} {idraw : Int32} {gd : (Nat → Int32)} {gro : Int64} {grt : Int32} {td : (Nat → Int32)} {tro : Int64} {trt : Int32} {rd : (Nat → Int32)} {rro : Int64} {rrt : Int32} {imd : (Nat → Int32)} {imro : Int64} {imrt : Int32} {owners : (Nat → Int32)} {tour : (Nat → Int32)} {best : (Nat → Int32)} {tape : (Nat → Int32)} {signs : (Nat → Int32)} {acts : (Nat → Int32)} {iown : (Nat → Int32)} {taken : (Nat → Int64)} {shf : (Nat → Option Nat)} {hd : Nat} {rn : Nat} {rf : (Nat → Int64)} {hd2 : Nat} {rn2 : Nat} {rf2 : (Nat → Int32)} {ra : Nat} {ra2 : Nat} {m_depths : (Nat → Int32)} {m_owners : (Nat → Int32)} {m_roofs : Int64} {m_rate : Int32} {m_undos : (Nat → Int32)} {m_undoMany : Int32} {m_drawn : Int32} {m_dug : Int64} {m_deep : Int64} {m_holes : (Nat → Int64)} {m_holeMany : Int32} {m_tape : (Nat → Int32)} {m_taped : Int32} {m_place : Int32} {m_reads : Int32} {m_read_ : (Nat → Int32)} {m_row : (Nat → Int32)} {m_order : (Nat → Int32)} {m_bestOrder : (Nat → Int32)} {m_nears : (Nat → Int32)} {m_isKept : Int32} {m_keptRoofs : Int64} {m_kept : (Nat → Int32)} {m_lanes : (Nat → Int32)} {m_rowSizes : (Nat → Int32)} {m_items : (Nat → Int64)} {m_moved : (Nat → Int64)} {PP : (Nat → Int64) → (Nat → Int64) → Prop} (hf : wX0_copy_JB (fun r => wX3_copy (fun r' q0 q1 => r = r' ∧ PP q0 q1) m_lanes m_rowSizes m_items m_moved a1 a2 a3 a4 a5) shf hd rn hd2 rn2 a1 a2 a3 a4 a5) (hPD : PD A dC dI ([((h 0), .inr (0, [.ref (h 1), .ref (h 3), .ref (h 9), .ref (h 17), .ref (h 10), .ref (h 11), .int steps, .int draw, .ref (h 12), .int typed, .int at_, .ref (h 5), .ref (h 13), .ref (h 14), .int isImage, .ref (h 7), .ref (h 15), .ref (h 18), .int idraw, .ref (h 19), .ref (h 16)])), ((h 1), .inr (1, [.ref (h 2), .long gro, .int grt])), ((h 2), .inl (dA 0, 36, .inl gd)), ((h 3), .inr (1, [.ref (h 4), .long tro, .int trt])), ((h 4), .inl (dA 0, 36, .inl td)), ((h 5), .inr (1, [.ref (h 6), .long rro, .int rrt])), ((h 6), .inl (dA 0, 36, .inl rd)), ((h 7), .inr (1, [.ref (h 8), .long imro, .int imrt])), ((h 8), .inl (dA 0, 36, .inl imd)), ((h 9), .inl (dA 0, 36, .inl owners)), ((h 10), .inl (dA 1, 8, .inl tour)), ((h 11), .inl (dA 1, 8, .inl best)), ((h 12), .inl (dA 0, 160, .inl tape)), ((h 13), .inl (dA 0, 36, .inl signs)), ((h 14), .inl (dA 0, 320, .inl acts)), ((h 15), .inl (dA 0, 36, .inl iown)), ((h 16), .inl (dA 2, 36, .inr (.inl taken))), ((h 19), .inl (dA 5, 4, .inr (.inr (.inr (.inr shf))))), (hd, .inr (2, [.ref ra])), (ra, .inl (dA 2, rn, .inr (.inl rf))), (hd2, .inr (2, [.ref ra2])), (ra2, .inl (dA 0, rn2, .inl rf2))] ++ ((wM hm dA m_depths m_owners m_roofs m_rate m_undos m_undoMany m_drawn m_dug m_deep m_holes m_holeMany m_tape m_taped m_place m_reads m_read_ m_row m_order m_bestOrder m_nears m_isKept m_keptRoofs m_kept m_lanes m_rowSizes m_items m_moved) ++ wr)) H) (hS : va_S A s.heap H locs) (hl : lv_has ls 4 [(0, .ref b), (1, .ref (h 0)), (2, .ref (hm 0)), (3, .int ix)]) (hi1 : vp_in (ix + 1) L ∧ xs (ix + 1).toNatClampNeg = a1) (hi2 : vp_in (ix + 2) L ∧ xs (ix + 2).toNatClampNeg = a2) (hi3 : vp_in (ix + 3) L ∧ xs (ix + 3).toNatClampNeg = a3) (hi4 : vp_in (ix + 4) L ∧ xs (ix + 4).toNatClampNeg = a4) (hi5 : vp_in (ix + 5) L ∧ xs (ix + 5).toNatClampNeg = a5) (hroom : kc + 3 ≤ room_1.cells ∧ ks + 500 ≤ room_1.slots)
    (kk : ∀ (u : Unit) (u' : (Nat → Int64) × (Nat → Int64)) (H1 : Heap) (locs1 : List Loc), PP u'.1 u'.2 → PD A dC dI ([((h 0), .inr (0, [.ref (h 1), .ref (h 3), .ref (h 9), .ref (h 17), .ref (h 10), .ref (h 11), .int steps, .int draw, .ref (h 12), .int typed, .int at_, .ref (h 5), .ref (h 13), .ref (h 14), .int isImage, .ref (h 7), .ref (h 15), .ref (h 18), .int idraw, .ref (h 19), .ref (h 16)])), ((h 1), .inr (1, [.ref (h 2), .long gro, .int grt])), ((h 2), .inl (dA 0, 36, .inl gd)), ((h 3), .inr (1, [.ref (h 4), .long tro, .int trt])), ((h 4), .inl (dA 0, 36, .inl td)), ((h 5), .inr (1, [.ref (h 6), .long rro, .int rrt])), ((h 6), .inl (dA 0, 36, .inl rd)), ((h 7), .inr (1, [.ref (h 8), .long imro, .int imrt])), ((h 8), .inl (dA 0, 36, .inl imd)), ((h 9), .inl (dA 0, 36, .inl owners)), ((h 10), .inl (dA 1, 8, .inl tour)), ((h 11), .inl (dA 1, 8, .inl best)), ((h 12), .inl (dA 0, 160, .inl tape)), ((h 13), .inl (dA 0, 36, .inl signs)), ((h 14), .inl (dA 0, 320, .inl acts)), ((h 15), .inl (dA 0, 36, .inl iown)), ((h 16), .inl (dA 2, 36, .inr (.inl taken))), ((h 19), .inl (dA 5, 4, .inr (.inr (.inr (.inr shf))))), (hd, .inr (2, [.ref ra])), (ra, .inl (dA 2, rn, .inr (.inl rf))), (hd2, .inr (2, [.ref ra2])), (ra2, .inl (dA 0, rn2, .inl rf2))] ++ ((wM hm dA m_depths m_owners m_roofs m_rate m_undos m_undoMany m_drawn m_dug m_deep m_holes m_holeMany m_tape m_taped m_place m_reads m_read_ m_row m_order m_bestOrder m_nears m_isKept m_keptRoofs m_kept m_lanes m_rowSizes u'.1 u'.2) ++ wr)) H1 → va_S A s.heap H1 locs1 → W p l e room_1 s m #[Value.ref b] below meth c H1 locs1 (kc + 3) (ks + 500) Q (F0 m 1349 ls [])) : W p l e room_1 s m #[Value.ref b] below meth c H locs kc ks Q (F0 m 1286 ls []) := by
  obtain ⟨S, hX, hbl, hbA, hK, hE, hA, hfl⟩ := hC
  obtain ⟨hP, hD⟩ := hPD
  refine lv_aload_n S.1 S.2.1 dL_law_1286 rfl (lv_at hl 1 rfl) ?_
  refine lv_aload_n S.1 S.2.1 dL_law_1287 rfl (lv_at hl 0 rfl) ?_
  refine lv_iload_n S.1 S.2.1 dL_law_1288 rfl (lv_at hl 3 rfl) ?_
  refine lv_iconst (v := 1) S.1 S.2.1 dL_law_1289 (by decide) ?_
  refine lv_iadd S.1 S.2.1 dL_law_1290 ?_
  refine sldE S.1 S.2.1 hX hbl hbA hS hi1 dL_law_1291 ?_
  refine lv_aload_n S.1 S.2.1 dL_law_1292 rfl (lv_at hl 0 rfl) ?_
  refine lv_iload_n S.1 S.2.1 dL_law_1293 rfl (lv_at hl 3 rfl) ?_
  refine lv_iconst (v := 2) S.1 S.2.1 dL_law_1294 (by decide) ?_
  refine lv_iadd S.1 S.2.1 dL_law_1295 ?_
  refine sldE S.1 S.2.1 hX hbl hbA hS hi2 dL_law_1296 ?_
  refine lv_aload_n S.1 S.2.1 dL_law_1297 rfl (lv_at hl 0 rfl) ?_
  refine lv_iload_n S.1 S.2.1 dL_law_1298 rfl (lv_at hl 3 rfl) ?_
  refine lv_iconst (v := 3) S.1 S.2.1 dL_law_1299 (by decide) ?_
  refine lv_iadd S.1 S.2.1 dL_law_1300 ?_
  refine sldE S.1 S.2.1 hX hbl hbA hS hi3 dL_law_1301 ?_
  refine lv_aload_n S.1 S.2.1 dL_law_1302 rfl (lv_at hl 0 rfl) ?_
  refine lv_iload_n S.1 S.2.1 dL_law_1303 rfl (lv_at hl 3 rfl) ?_
  refine lv_iconst (v := 4) S.1 S.2.1 dL_law_1304 (by decide) ?_
  refine lv_iadd S.1 S.2.1 dL_law_1305 ?_
  refine sldE S.1 S.2.1 hX hbl hbA hS hi4 dL_law_1306 ?_
  refine lv_aload_n S.1 S.2.1 dL_law_1307 rfl (lv_at hl 0 rfl) ?_
  refine lv_iload_n S.1 S.2.1 dL_law_1308 rfl (lv_at hl 3 rfl) ?_
  refine lv_iconst (v := 5) S.1 S.2.1 dL_law_1309 (by decide) ?_
  refine lv_iadd S.1 S.2.1 dL_law_1310 ?_
  refine sldE S.1 S.2.1 hX hbl hbA hS hi5 dL_law_1311 ?_
  refine sC_i hP hD hS hA (va_runVW (As := [.int a1, .int a2, .int a3, .int a4, .int a5]) (rest := []) S (metX0_copy_JB l hfl hf) (cwVW 5 S.2.2.2.2 q1049 q1050 q1051 q54 q1052 pdX0_copy ⟨Nat.le_of_ble_eq_true rfl, Nat.le_of_ble_eq_true rfl⟩) ⟨ablind, va_recv hK hP (ci := 0) (q0 := 0) rfl rfl, (spre hK hE hP hD hS hA).2⟩ rfl rfl hl.1 rfl (lv_room (Nat.le_of_ble_eq_true rfl)) dL_law_1312 hroom) (fun r u H locs hf hP hD hS => ?_)
  have hP := hP.perm permM
  have hD := hD.perm permM
  refine lv_aload_n S.1 S.2.1 dL_law_1315 rfl (lv_at hl 2 rfl) ?_
  refine lv_aload_n S.1 S.2.1 dL_law_1316 rfl (lv_at hl 0 rfl) ?_
  refine lv_iload_n S.1 S.2.1 dL_law_1317 rfl (lv_at hl 3 rfl) ?_
  refine lv_iconst (v := 1) S.1 S.2.1 dL_law_1318 (by decide) ?_
  refine lv_iadd S.1 S.2.1 dL_law_1319 ?_
  refine sldE S.1 S.2.1 hX hbl hbA hS hi1 dL_law_1320 ?_
  refine lv_aload_n S.1 S.2.1 dL_law_1321 rfl (lv_at hl 0 rfl) ?_
  refine lv_iload_n S.1 S.2.1 dL_law_1322 rfl (lv_at hl 3 rfl) ?_
  refine lv_iconst (v := 2) S.1 S.2.1 dL_law_1323 (by decide) ?_
  refine lv_iadd S.1 S.2.1 dL_law_1324 ?_
  refine sldE S.1 S.2.1 hX hbl hbA hS hi2 dL_law_1325 ?_
  refine lv_aload_n S.1 S.2.1 dL_law_1326 rfl (lv_at hl 0 rfl) ?_
  refine lv_iload_n S.1 S.2.1 dL_law_1327 rfl (lv_at hl 3 rfl) ?_
  refine lv_iconst (v := 3) S.1 S.2.1 dL_law_1328 (by decide) ?_
  refine lv_iadd S.1 S.2.1 dL_law_1329 ?_
  refine sldE S.1 S.2.1 hX hbl hbA hS hi3 dL_law_1330 ?_
  refine lv_aload_n S.1 S.2.1 dL_law_1331 rfl (lv_at hl 0 rfl) ?_
  refine lv_iload_n S.1 S.2.1 dL_law_1332 rfl (lv_at hl 3 rfl) ?_
  refine lv_iconst (v := 4) S.1 S.2.1 dL_law_1333 (by decide) ?_
  refine lv_iadd S.1 S.2.1 dL_law_1334 ?_
  refine sldE S.1 S.2.1 hX hbl hbA hS hi4 dL_law_1335 ?_
  refine lv_aload_n S.1 S.2.1 dL_law_1336 rfl (lv_at hl 0 rfl) ?_
  refine lv_iload_n S.1 S.2.1 dL_law_1337 rfl (lv_at hl 3 rfl) ?_
  refine lv_iconst (v := 5) S.1 S.2.1 dL_law_1338 (by decide) ?_
  refine lv_iadd S.1 S.2.1 dL_law_1339 ?_
  refine sldE S.1 S.2.1 hX hbl hbA hS hi5 dL_law_1340 ?_
  refine sM_i (As := [.int a1, .int a2, .int a3, .int a4, .int a5]) (rest := [.int r]) S hK rfl rfl (fun _ => rfl) hP hD hS (metX3_copy l hj hf) (lw_V q1598 q1599 q1600 q60 q1601) rfl pdX3_copy ⟨rfl, rfl⟩ ⟨Nat.le_of_ble_eq_true rfl, Nat.le_of_ble_eq_true rfl⟩ rfl hl.1 rfl (Nat.le_of_ble_eq_true rfl) dL_law_1341 hroom (fun r' u' H locs hf hP hD hS => ?_)
  obtain ⟨e1, hf⟩ := hf
  refine lv_icmp_eq (tgt := 1349) S.1 S.2.1 dL_law_1344 (by decide) (fun c_1 => ?_) (fun c_1 => ?_)
  · exact kk u u' H locs hf ⟨hP.perm permN, hD.perm permN⟩ hS
  · exact absurd e1 c_1
set_option maxHeartbeats 4000000 in
set_option maxRecDepth 100000 in
theorem lo_copy_JS (hC : LC p l s m c b L xs A dC dI dA eA mi) (hj : mJ hm) {steps : Int32} {draw : Int32} {typed : Int32} {at_ : Int32} {isImage : Int32} {idraw : Int32} {gd : (Nat → Int32)} {gro : Int64} {grt : Int32} {td : (Nat → Int32)} {tro : Int64} {trt : Int32} {rd : (Nat → Int32)} {rro : Int64} {rrt : Int32} {imd : (Nat → Int32)} {imro : Int64} {imrt : Int32} {owners : (Nat → Int32)} {tour : (Nat → Int32)} {best : (Nat → Int32)} {tape : (Nat → Int32)} {signs : (Nat → Int32)} {acts : (Nat → Int32)} {iown : (Nat → Int32)} {taken : (Nat → Int64)} {shf : (Nat → Option Nat)} {hd : Nat} {rn : Nat} {rf : (Nat → Int64)} {hd2 : Nat} {rn2 : Nat} {rf2 : (Nat → Int32)} {ra : Nat} {ra2 : Nat} {m_depths : (Nat → Int32)} {m_owners : (Nat → Int32)} {m_roofs : Int64} {m_rate : Int32} {m_undos : (Nat → Int32)} {m_undoMany : Int32} {m_drawn : Int32} {m_dug : Int64} {m_deep : Int64} {m_holes : (Nat → Int64)} {m_holeMany : Int32} {m_tape : (Nat → Int32)} {m_taped : Int32} {m_place : Int32} {m_reads : Int32} {m_read_ : (Nat → Int32)} {m_row : (Nat → Int32)} {m_order : (Nat → Int32)} {m_bestOrder : (Nat → Int32)} {m_nears : (Nat → Int32)} {m_isKept : Int32} {m_keptRoofs : Int64} {m_kept : (Nat → Int32)} {m_lanes : (Nat → Int32)} {m_rowSizes : (Nat → Int32)} {m_items : (Nat → Int64)} {m_moved : (Nat → Int64)} {PP : (Nat → Int64) → (Nat → Int64) → Prop} (hf : wX0_copy_JS (fun r => wX3_copy (fun r' q0 q1 => r = r' ∧ PP q0 q1) m_lanes m_rowSizes m_items m_moved a1 a2 a3 a4 a5) shf hd rn hd2 rn2 a1 a2 a3 a4 a5) (hPD : PD A dC dI ([((h 0), .inr (0, [.ref (h 1), .ref (h 3), .ref (h 9), .ref (h 17), .ref (h 10), .ref (h 11), .int steps, .int draw, .ref (h 12), .int typed, .int at_, .ref (h 5), .ref (h 13), .ref (h 14), .int isImage, .ref (h 7), .ref (h 15), .ref (h 18), .int idraw, .ref (h 19), .ref (h 16)])), ((h 1), .inr (1, [.ref (h 2), .long gro, .int grt])), ((h 2), .inl (dA 0, 36, .inl gd)), ((h 3), .inr (1, [.ref (h 4), .long tro, .int trt])), ((h 4), .inl (dA 0, 36, .inl td)), ((h 5), .inr (1, [.ref (h 6), .long rro, .int rrt])), ((h 6), .inl (dA 0, 36, .inl rd)), ((h 7), .inr (1, [.ref (h 8), .long imro, .int imrt])), ((h 8), .inl (dA 0, 36, .inl imd)), ((h 9), .inl (dA 0, 36, .inl owners)), ((h 10), .inl (dA 1, 8, .inl tour)), ((h 11), .inl (dA 1, 8, .inl best)), ((h 12), .inl (dA 0, 160, .inl tape)), ((h 13), .inl (dA 0, 36, .inl signs)), ((h 14), .inl (dA 0, 320, .inl acts)), ((h 15), .inl (dA 0, 36, .inl iown)), ((h 16), .inl (dA 2, 36, .inr (.inl taken))), ((h 19), .inl (dA 5, 4, .inr (.inr (.inr (.inr shf))))), (hd, .inr (2, [.ref ra])), (ra, .inl (dA 2, rn, .inr (.inl rf))), (hd2, .inr (2, [.ref ra2])), (ra2, .inl (dA 3, rn2, .inl rf2))] ++ ((wM hm dA m_depths m_owners m_roofs m_rate m_undos m_undoMany m_drawn m_dug m_deep m_holes m_holeMany m_tape m_taped m_place m_reads m_read_ m_row m_order m_bestOrder m_nears m_isKept m_keptRoofs m_kept m_lanes m_rowSizes m_items m_moved) ++ wr)) H) (hS : va_S A s.heap H locs) (hl : lv_has ls 4 [(0, .ref b), (1, .ref (h 0)), (2, .ref (hm 0)), (3, .int ix)]) (hi1 : vp_in (ix + 1) L ∧ xs (ix + 1).toNatClampNeg = a1) (hi2 : vp_in (ix + 2) L ∧ xs (ix + 2).toNatClampNeg = a2) (hi3 : vp_in (ix + 3) L ∧ xs (ix + 3).toNatClampNeg = a3) (hi4 : vp_in (ix + 4) L ∧ xs (ix + 4).toNatClampNeg = a4) (hi5 : vp_in (ix + 5) L ∧ xs (ix + 5).toNatClampNeg = a5) (hroom : kc + 3 ≤ room_1.cells ∧ ks + 500 ≤ room_1.slots)
    (kk : ∀ (u : Unit) (u' : (Nat → Int64) × (Nat → Int64)) (H1 : Heap) (locs1 : List Loc), PP u'.1 u'.2 → PD A dC dI ([((h 0), .inr (0, [.ref (h 1), .ref (h 3), .ref (h 9), .ref (h 17), .ref (h 10), .ref (h 11), .int steps, .int draw, .ref (h 12), .int typed, .int at_, .ref (h 5), .ref (h 13), .ref (h 14), .int isImage, .ref (h 7), .ref (h 15), .ref (h 18), .int idraw, .ref (h 19), .ref (h 16)])), ((h 1), .inr (1, [.ref (h 2), .long gro, .int grt])), ((h 2), .inl (dA 0, 36, .inl gd)), ((h 3), .inr (1, [.ref (h 4), .long tro, .int trt])), ((h 4), .inl (dA 0, 36, .inl td)), ((h 5), .inr (1, [.ref (h 6), .long rro, .int rrt])), ((h 6), .inl (dA 0, 36, .inl rd)), ((h 7), .inr (1, [.ref (h 8), .long imro, .int imrt])), ((h 8), .inl (dA 0, 36, .inl imd)), ((h 9), .inl (dA 0, 36, .inl owners)), ((h 10), .inl (dA 1, 8, .inl tour)), ((h 11), .inl (dA 1, 8, .inl best)), ((h 12), .inl (dA 0, 160, .inl tape)), ((h 13), .inl (dA 0, 36, .inl signs)), ((h 14), .inl (dA 0, 320, .inl acts)), ((h 15), .inl (dA 0, 36, .inl iown)), ((h 16), .inl (dA 2, 36, .inr (.inl taken))), ((h 19), .inl (dA 5, 4, .inr (.inr (.inr (.inr shf))))), (hd, .inr (2, [.ref ra])), (ra, .inl (dA 2, rn, .inr (.inl rf))), (hd2, .inr (2, [.ref ra2])), (ra2, .inl (dA 3, rn2, .inl rf2))] ++ ((wM hm dA m_depths m_owners m_roofs m_rate m_undos m_undoMany m_drawn m_dug m_deep m_holes m_holeMany m_tape m_taped m_place m_reads m_read_ m_row m_order m_bestOrder m_nears m_isKept m_keptRoofs m_kept m_lanes m_rowSizes u'.1 u'.2) ++ wr)) H1 → va_S A s.heap H1 locs1 → W p l e room_1 s m #[Value.ref b] below meth c H1 locs1 (kc + 3) (ks + 500) Q (F0 m 1349 ls [])) : W p l e room_1 s m #[Value.ref b] below meth c H locs kc ks Q (F0 m 1286 ls []) := by
  obtain ⟨S, hX, hbl, hbA, hK, hE, hA, hfl⟩ := hC
  obtain ⟨hP, hD⟩ := hPD
  refine lv_aload_n S.1 S.2.1 dL_law_1286 rfl (lv_at hl 1 rfl) ?_
  refine lv_aload_n S.1 S.2.1 dL_law_1287 rfl (lv_at hl 0 rfl) ?_
  refine lv_iload_n S.1 S.2.1 dL_law_1288 rfl (lv_at hl 3 rfl) ?_
  refine lv_iconst (v := 1) S.1 S.2.1 dL_law_1289 (by decide) ?_
  refine lv_iadd S.1 S.2.1 dL_law_1290 ?_
  refine sldE S.1 S.2.1 hX hbl hbA hS hi1 dL_law_1291 ?_
  refine lv_aload_n S.1 S.2.1 dL_law_1292 rfl (lv_at hl 0 rfl) ?_
  refine lv_iload_n S.1 S.2.1 dL_law_1293 rfl (lv_at hl 3 rfl) ?_
  refine lv_iconst (v := 2) S.1 S.2.1 dL_law_1294 (by decide) ?_
  refine lv_iadd S.1 S.2.1 dL_law_1295 ?_
  refine sldE S.1 S.2.1 hX hbl hbA hS hi2 dL_law_1296 ?_
  refine lv_aload_n S.1 S.2.1 dL_law_1297 rfl (lv_at hl 0 rfl) ?_
  refine lv_iload_n S.1 S.2.1 dL_law_1298 rfl (lv_at hl 3 rfl) ?_
  refine lv_iconst (v := 3) S.1 S.2.1 dL_law_1299 (by decide) ?_
  refine lv_iadd S.1 S.2.1 dL_law_1300 ?_
  refine sldE S.1 S.2.1 hX hbl hbA hS hi3 dL_law_1301 ?_
  refine lv_aload_n S.1 S.2.1 dL_law_1302 rfl (lv_at hl 0 rfl) ?_
  refine lv_iload_n S.1 S.2.1 dL_law_1303 rfl (lv_at hl 3 rfl) ?_
  refine lv_iconst (v := 4) S.1 S.2.1 dL_law_1304 (by decide) ?_
  refine lv_iadd S.1 S.2.1 dL_law_1305 ?_
  refine sldE S.1 S.2.1 hX hbl hbA hS hi4 dL_law_1306 ?_
  refine lv_aload_n S.1 S.2.1 dL_law_1307 rfl (lv_at hl 0 rfl) ?_
  refine lv_iload_n S.1 S.2.1 dL_law_1308 rfl (lv_at hl 3 rfl) ?_
  refine lv_iconst (v := 5) S.1 S.2.1 dL_law_1309 (by decide) ?_
  refine lv_iadd S.1 S.2.1 dL_law_1310 ?_
  refine sldE S.1 S.2.1 hX hbl hbA hS hi5 dL_law_1311 ?_
  refine sC_i hP hD hS hA (va_runVW (As := [.int a1, .int a2, .int a3, .int a4, .int a5]) (rest := []) S (metX0_copy_JS l hfl hf) (cwVW 5 S.2.2.2.2 q1049 q1050 q1051 q54 q1052 pdX0_copy ⟨Nat.le_of_ble_eq_true rfl, Nat.le_of_ble_eq_true rfl⟩) ⟨ablind, va_recv hK hP (ci := 0) (q0 := 0) rfl rfl, (spre hK hE hP hD hS hA).2⟩ rfl rfl hl.1 rfl (lv_room (Nat.le_of_ble_eq_true rfl)) dL_law_1312 hroom) (fun r u H locs hf hP hD hS => ?_)
  have hP := hP.perm permM
  have hD := hD.perm permM
  refine lv_aload_n S.1 S.2.1 dL_law_1315 rfl (lv_at hl 2 rfl) ?_
  refine lv_aload_n S.1 S.2.1 dL_law_1316 rfl (lv_at hl 0 rfl) ?_
  refine lv_iload_n S.1 S.2.1 dL_law_1317 rfl (lv_at hl 3 rfl) ?_
  refine lv_iconst (v := 1) S.1 S.2.1 dL_law_1318 (by decide) ?_
  refine lv_iadd S.1 S.2.1 dL_law_1319 ?_
  refine sldE S.1 S.2.1 hX hbl hbA hS hi1 dL_law_1320 ?_
  refine lv_aload_n S.1 S.2.1 dL_law_1321 rfl (lv_at hl 0 rfl) ?_
  refine lv_iload_n S.1 S.2.1 dL_law_1322 rfl (lv_at hl 3 rfl) ?_
  refine lv_iconst (v := 2) S.1 S.2.1 dL_law_1323 (by decide) ?_
  refine lv_iadd S.1 S.2.1 dL_law_1324 ?_
  refine sldE S.1 S.2.1 hX hbl hbA hS hi2 dL_law_1325 ?_
  refine lv_aload_n S.1 S.2.1 dL_law_1326 rfl (lv_at hl 0 rfl) ?_
  refine lv_iload_n S.1 S.2.1 dL_law_1327 rfl (lv_at hl 3 rfl) ?_
  refine lv_iconst (v := 3) S.1 S.2.1 dL_law_1328 (by decide) ?_
  refine lv_iadd S.1 S.2.1 dL_law_1329 ?_
  refine sldE S.1 S.2.1 hX hbl hbA hS hi3 dL_law_1330 ?_
  refine lv_aload_n S.1 S.2.1 dL_law_1331 rfl (lv_at hl 0 rfl) ?_
  refine lv_iload_n S.1 S.2.1 dL_law_1332 rfl (lv_at hl 3 rfl) ?_
  refine lv_iconst (v := 4) S.1 S.2.1 dL_law_1333 (by decide) ?_
  refine lv_iadd S.1 S.2.1 dL_law_1334 ?_
  refine sldE S.1 S.2.1 hX hbl hbA hS hi4 dL_law_1335 ?_
  refine lv_aload_n S.1 S.2.1 dL_law_1336 rfl (lv_at hl 0 rfl) ?_
  refine lv_iload_n S.1 S.2.1 dL_law_1337 rfl (lv_at hl 3 rfl) ?_
  refine lv_iconst (v := 5) S.1 S.2.1 dL_law_1338 (by decide) ?_
  refine lv_iadd S.1 S.2.1 dL_law_1339 ?_
  refine sldE S.1 S.2.1 hX hbl hbA hS hi5 dL_law_1340 ?_
  refine sM_i (As := [.int a1, .int a2, .int a3, .int a4, .int a5]) (rest := [.int r]) S hK rfl rfl (fun _ => rfl) hP hD hS (metX3_copy l hj hf) (lw_V q1598 q1599 q1600 q60 q1601) rfl pdX3_copy ⟨rfl, rfl⟩ ⟨Nat.le_of_ble_eq_true rfl, Nat.le_of_ble_eq_true rfl⟩ rfl hl.1 rfl (Nat.le_of_ble_eq_true rfl) dL_law_1341 hroom (fun r' u' H locs hf hP hD hS => ?_)
  obtain ⟨e1, hf⟩ := hf
  refine lv_icmp_eq (tgt := 1349) S.1 S.2.1 dL_law_1344 (by decide) (fun c_1 => ?_) (fun c_1 => ?_)
  · exact kk u u' H locs hf ⟨hP.perm permN, hD.perm permN⟩ hS
  · exact absurd e1 c_1
set_option maxHeartbeats 4000000 in
set_option maxRecDepth 100000 in
theorem lo_copy_JI (hC : LC p l s m c b L xs A dC dI dA eA mi) (hj : mJ hm) {steps : Int32} {draw : Int32} {typed : Int32} {at_ : Int32} {isImage : Int32} {idraw : Int32} {gd : (Nat → Int32)} {gro : Int64} {grt : Int32} {td : (Nat → Int32)} {tro : Int64} {trt : Int32} {rd : (Nat → Int32)} {rro : Int64} {rrt : Int32} {imd : (Nat → Int32)} {imro : Int64} {imrt : Int32} {owners : (Nat → Int32)} {tour : (Nat → Int32)} {best : (Nat → Int32)} {tape : (Nat → Int32)} {signs : (Nat → Int32)} {acts : (Nat → Int32)} {iown : (Nat → Int32)} {taken : (Nat → Int64)} {shf : (Nat → Option Nat)} {hd : Nat} {rn : Nat} {rf : (Nat → Int64)} {hd2 : Nat} {rn2 : Nat} {rf2 : (Nat → Int32)} {ra : Nat} {ra2 : Nat} {m_depths : (Nat → Int32)} {m_owners : (Nat → Int32)} {m_roofs : Int64} {m_rate : Int32} {m_undos : (Nat → Int32)} {m_undoMany : Int32} {m_drawn : Int32} {m_dug : Int64} {m_deep : Int64} {m_holes : (Nat → Int64)} {m_holeMany : Int32} {m_tape : (Nat → Int32)} {m_taped : Int32} {m_place : Int32} {m_reads : Int32} {m_read_ : (Nat → Int32)} {m_row : (Nat → Int32)} {m_order : (Nat → Int32)} {m_bestOrder : (Nat → Int32)} {m_nears : (Nat → Int32)} {m_isKept : Int32} {m_keptRoofs : Int64} {m_kept : (Nat → Int32)} {m_lanes : (Nat → Int32)} {m_rowSizes : (Nat → Int32)} {m_items : (Nat → Int64)} {m_moved : (Nat → Int64)} {PP : (Nat → Int64) → (Nat → Int64) → Prop} (hf : wX0_copy_JI (fun r => wX3_copy (fun r' q0 q1 => r = r' ∧ PP q0 q1) m_lanes m_rowSizes m_items m_moved a1 a2 a3 a4 a5) shf hd rn hd2 rn2 a1 a2 a3 a4 a5) (hPD : PD A dC dI ([((h 0), .inr (0, [.ref (h 1), .ref (h 3), .ref (h 9), .ref (h 17), .ref (h 10), .ref (h 11), .int steps, .int draw, .ref (h 12), .int typed, .int at_, .ref (h 5), .ref (h 13), .ref (h 14), .int isImage, .ref (h 7), .ref (h 15), .ref (h 18), .int idraw, .ref (h 19), .ref (h 16)])), ((h 1), .inr (1, [.ref (h 2), .long gro, .int grt])), ((h 2), .inl (dA 0, 36, .inl gd)), ((h 3), .inr (1, [.ref (h 4), .long tro, .int trt])), ((h 4), .inl (dA 0, 36, .inl td)), ((h 5), .inr (1, [.ref (h 6), .long rro, .int rrt])), ((h 6), .inl (dA 0, 36, .inl rd)), ((h 7), .inr (1, [.ref (h 8), .long imro, .int imrt])), ((h 8), .inl (dA 0, 36, .inl imd)), ((h 9), .inl (dA 0, 36, .inl owners)), ((h 10), .inl (dA 1, 8, .inl tour)), ((h 11), .inl (dA 1, 8, .inl best)), ((h 12), .inl (dA 0, 160, .inl tape)), ((h 13), .inl (dA 0, 36, .inl signs)), ((h 14), .inl (dA 0, 320, .inl acts)), ((h 15), .inl (dA 0, 36, .inl iown)), ((h 16), .inl (dA 2, 36, .inr (.inl taken))), ((h 19), .inl (dA 5, 4, .inr (.inr (.inr (.inr shf))))), (hd, .inr (2, [.ref ra])), (ra, .inl (dA 2, rn, .inr (.inl rf))), (hd2, .inr (2, [.ref ra2])), (ra2, .inl (dA 1, rn2, .inl rf2))] ++ ((wM hm dA m_depths m_owners m_roofs m_rate m_undos m_undoMany m_drawn m_dug m_deep m_holes m_holeMany m_tape m_taped m_place m_reads m_read_ m_row m_order m_bestOrder m_nears m_isKept m_keptRoofs m_kept m_lanes m_rowSizes m_items m_moved) ++ wr)) H) (hS : va_S A s.heap H locs) (hl : lv_has ls 4 [(0, .ref b), (1, .ref (h 0)), (2, .ref (hm 0)), (3, .int ix)]) (hi1 : vp_in (ix + 1) L ∧ xs (ix + 1).toNatClampNeg = a1) (hi2 : vp_in (ix + 2) L ∧ xs (ix + 2).toNatClampNeg = a2) (hi3 : vp_in (ix + 3) L ∧ xs (ix + 3).toNatClampNeg = a3) (hi4 : vp_in (ix + 4) L ∧ xs (ix + 4).toNatClampNeg = a4) (hi5 : vp_in (ix + 5) L ∧ xs (ix + 5).toNatClampNeg = a5) (hroom : kc + 3 ≤ room_1.cells ∧ ks + 500 ≤ room_1.slots)
    (kk : ∀ (u : Unit) (u' : (Nat → Int64) × (Nat → Int64)) (H1 : Heap) (locs1 : List Loc), PP u'.1 u'.2 → PD A dC dI ([((h 0), .inr (0, [.ref (h 1), .ref (h 3), .ref (h 9), .ref (h 17), .ref (h 10), .ref (h 11), .int steps, .int draw, .ref (h 12), .int typed, .int at_, .ref (h 5), .ref (h 13), .ref (h 14), .int isImage, .ref (h 7), .ref (h 15), .ref (h 18), .int idraw, .ref (h 19), .ref (h 16)])), ((h 1), .inr (1, [.ref (h 2), .long gro, .int grt])), ((h 2), .inl (dA 0, 36, .inl gd)), ((h 3), .inr (1, [.ref (h 4), .long tro, .int trt])), ((h 4), .inl (dA 0, 36, .inl td)), ((h 5), .inr (1, [.ref (h 6), .long rro, .int rrt])), ((h 6), .inl (dA 0, 36, .inl rd)), ((h 7), .inr (1, [.ref (h 8), .long imro, .int imrt])), ((h 8), .inl (dA 0, 36, .inl imd)), ((h 9), .inl (dA 0, 36, .inl owners)), ((h 10), .inl (dA 1, 8, .inl tour)), ((h 11), .inl (dA 1, 8, .inl best)), ((h 12), .inl (dA 0, 160, .inl tape)), ((h 13), .inl (dA 0, 36, .inl signs)), ((h 14), .inl (dA 0, 320, .inl acts)), ((h 15), .inl (dA 0, 36, .inl iown)), ((h 16), .inl (dA 2, 36, .inr (.inl taken))), ((h 19), .inl (dA 5, 4, .inr (.inr (.inr (.inr shf))))), (hd, .inr (2, [.ref ra])), (ra, .inl (dA 2, rn, .inr (.inl rf))), (hd2, .inr (2, [.ref ra2])), (ra2, .inl (dA 1, rn2, .inl rf2))] ++ ((wM hm dA m_depths m_owners m_roofs m_rate m_undos m_undoMany m_drawn m_dug m_deep m_holes m_holeMany m_tape m_taped m_place m_reads m_read_ m_row m_order m_bestOrder m_nears m_isKept m_keptRoofs m_kept m_lanes m_rowSizes u'.1 u'.2) ++ wr)) H1 → va_S A s.heap H1 locs1 → W p l e room_1 s m #[Value.ref b] below meth c H1 locs1 (kc + 3) (ks + 500) Q (F0 m 1349 ls [])) : W p l e room_1 s m #[Value.ref b] below meth c H locs kc ks Q (F0 m 1286 ls []) := by
  obtain ⟨S, hX, hbl, hbA, hK, hE, hA, hfl⟩ := hC
  obtain ⟨hP, hD⟩ := hPD
  refine lv_aload_n S.1 S.2.1 dL_law_1286 rfl (lv_at hl 1 rfl) ?_
  refine lv_aload_n S.1 S.2.1 dL_law_1287 rfl (lv_at hl 0 rfl) ?_
  refine lv_iload_n S.1 S.2.1 dL_law_1288 rfl (lv_at hl 3 rfl) ?_
  refine lv_iconst (v := 1) S.1 S.2.1 dL_law_1289 (by decide) ?_
  refine lv_iadd S.1 S.2.1 dL_law_1290 ?_
  refine sldE S.1 S.2.1 hX hbl hbA hS hi1 dL_law_1291 ?_
  refine lv_aload_n S.1 S.2.1 dL_law_1292 rfl (lv_at hl 0 rfl) ?_
  refine lv_iload_n S.1 S.2.1 dL_law_1293 rfl (lv_at hl 3 rfl) ?_
  refine lv_iconst (v := 2) S.1 S.2.1 dL_law_1294 (by decide) ?_
  refine lv_iadd S.1 S.2.1 dL_law_1295 ?_
  refine sldE S.1 S.2.1 hX hbl hbA hS hi2 dL_law_1296 ?_
  refine lv_aload_n S.1 S.2.1 dL_law_1297 rfl (lv_at hl 0 rfl) ?_
  refine lv_iload_n S.1 S.2.1 dL_law_1298 rfl (lv_at hl 3 rfl) ?_
  refine lv_iconst (v := 3) S.1 S.2.1 dL_law_1299 (by decide) ?_
  refine lv_iadd S.1 S.2.1 dL_law_1300 ?_
  refine sldE S.1 S.2.1 hX hbl hbA hS hi3 dL_law_1301 ?_
  refine lv_aload_n S.1 S.2.1 dL_law_1302 rfl (lv_at hl 0 rfl) ?_
  refine lv_iload_n S.1 S.2.1 dL_law_1303 rfl (lv_at hl 3 rfl) ?_
  refine lv_iconst (v := 4) S.1 S.2.1 dL_law_1304 (by decide) ?_
  refine lv_iadd S.1 S.2.1 dL_law_1305 ?_
  refine sldE S.1 S.2.1 hX hbl hbA hS hi4 dL_law_1306 ?_
  refine lv_aload_n S.1 S.2.1 dL_law_1307 rfl (lv_at hl 0 rfl) ?_
  refine lv_iload_n S.1 S.2.1 dL_law_1308 rfl (lv_at hl 3 rfl) ?_
  refine lv_iconst (v := 5) S.1 S.2.1 dL_law_1309 (by decide) ?_
  refine lv_iadd S.1 S.2.1 dL_law_1310 ?_
  refine sldE S.1 S.2.1 hX hbl hbA hS hi5 dL_law_1311 ?_
  refine sC_i hP hD hS hA (va_runVW (As := [.int a1, .int a2, .int a3, .int a4, .int a5]) (rest := []) S (metX0_copy_JI l hfl hf) (cwVW 5 S.2.2.2.2 q1049 q1050 q1051 q54 q1052 pdX0_copy ⟨Nat.le_of_ble_eq_true rfl, Nat.le_of_ble_eq_true rfl⟩) ⟨ablind, va_recv hK hP (ci := 0) (q0 := 0) rfl rfl, (spre hK hE hP hD hS hA).2⟩ rfl rfl hl.1 rfl (lv_room (Nat.le_of_ble_eq_true rfl)) dL_law_1312 hroom) (fun r u H locs hf hP hD hS => ?_)
  have hP := hP.perm permM
  have hD := hD.perm permM
  refine lv_aload_n S.1 S.2.1 dL_law_1315 rfl (lv_at hl 2 rfl) ?_
  refine lv_aload_n S.1 S.2.1 dL_law_1316 rfl (lv_at hl 0 rfl) ?_
  refine lv_iload_n S.1 S.2.1 dL_law_1317 rfl (lv_at hl 3 rfl) ?_
  refine lv_iconst (v := 1) S.1 S.2.1 dL_law_1318 (by decide) ?_
  refine lv_iadd S.1 S.2.1 dL_law_1319 ?_
  refine sldE S.1 S.2.1 hX hbl hbA hS hi1 dL_law_1320 ?_
  refine lv_aload_n S.1 S.2.1 dL_law_1321 rfl (lv_at hl 0 rfl) ?_
  refine lv_iload_n S.1 S.2.1 dL_law_1322 rfl (lv_at hl 3 rfl) ?_
  refine lv_iconst (v := 2) S.1 S.2.1 dL_law_1323 (by decide) ?_
  refine lv_iadd S.1 S.2.1 dL_law_1324 ?_
  refine sldE S.1 S.2.1 hX hbl hbA hS hi2 dL_law_1325 ?_
  refine lv_aload_n S.1 S.2.1 dL_law_1326 rfl (lv_at hl 0 rfl) ?_
  refine lv_iload_n S.1 S.2.1 dL_law_1327 rfl (lv_at hl 3 rfl) ?_
  refine lv_iconst (v := 3) S.1 S.2.1 dL_law_1328 (by decide) ?_
  refine lv_iadd S.1 S.2.1 dL_law_1329 ?_
  refine sldE S.1 S.2.1 hX hbl hbA hS hi3 dL_law_1330 ?_
  refine lv_aload_n S.1 S.2.1 dL_law_1331 rfl (lv_at hl 0 rfl) ?_
  refine lv_iload_n S.1 S.2.1 dL_law_1332 rfl (lv_at hl 3 rfl) ?_
  refine lv_iconst (v := 4) S.1 S.2.1 dL_law_1333 (by decide) ?_
  refine lv_iadd S.1 S.2.1 dL_law_1334 ?_
  refine sldE S.1 S.2.1 hX hbl hbA hS hi4 dL_law_1335 ?_
  refine lv_aload_n S.1 S.2.1 dL_law_1336 rfl (lv_at hl 0 rfl) ?_
  refine lv_iload_n S.1 S.2.1 dL_law_1337 rfl (lv_at hl 3 rfl) ?_
  refine lv_iconst (v := 5) S.1 S.2.1 dL_law_1338 (by decide) ?_
  refine lv_iadd S.1 S.2.1 dL_law_1339 ?_
  refine sldE S.1 S.2.1 hX hbl hbA hS hi5 dL_law_1340 ?_
  refine sM_i (As := [.int a1, .int a2, .int a3, .int a4, .int a5]) (rest := [.int r]) S hK rfl rfl (fun _ => rfl) hP hD hS (metX3_copy l hj hf) (lw_V q1598 q1599 q1600 q60 q1601) rfl pdX3_copy ⟨rfl, rfl⟩ ⟨Nat.le_of_ble_eq_true rfl, Nat.le_of_ble_eq_true rfl⟩ rfl hl.1 rfl (Nat.le_of_ble_eq_true rfl) dL_law_1341 hroom (fun r' u' H locs hf hP hD hS => ?_)
  obtain ⟨e1, hf⟩ := hf
  refine lv_icmp_eq (tgt := 1349) S.1 S.2.1 dL_law_1344 (by decide) (fun c_1 => ?_) (fun c_1 => ?_)
  · exact kk u u' H locs hf ⟨hP.perm permN, hD.perm permN⟩ hS
  · exact absurd e1 c_1
set_option maxHeartbeats 4000000 in
set_option maxRecDepth 100000 in
theorem lo_copy_JJ (hC : LC p l s m c b L xs A dC dI dA eA mi) (hj : mJ hm) {steps : Int32} {draw : Int32} {typed : Int32} {at_ : Int32} {isImage : Int32} {idraw : Int32} {gd : (Nat → Int32)} {gro : Int64} {grt : Int32} {td : (Nat → Int32)} {tro : Int64} {trt : Int32} {rd : (Nat → Int32)} {rro : Int64} {rrt : Int32} {imd : (Nat → Int32)} {imro : Int64} {imrt : Int32} {owners : (Nat → Int32)} {tour : (Nat → Int32)} {best : (Nat → Int32)} {tape : (Nat → Int32)} {signs : (Nat → Int32)} {acts : (Nat → Int32)} {iown : (Nat → Int32)} {taken : (Nat → Int64)} {shf : (Nat → Option Nat)} {hd : Nat} {rn : Nat} {rf : (Nat → Int64)} {hd2 : Nat} {rn2 : Nat} {rf2 : (Nat → Int64)} {ra : Nat} {ra2 : Nat} {m_depths : (Nat → Int32)} {m_owners : (Nat → Int32)} {m_roofs : Int64} {m_rate : Int32} {m_undos : (Nat → Int32)} {m_undoMany : Int32} {m_drawn : Int32} {m_dug : Int64} {m_deep : Int64} {m_holes : (Nat → Int64)} {m_holeMany : Int32} {m_tape : (Nat → Int32)} {m_taped : Int32} {m_place : Int32} {m_reads : Int32} {m_read_ : (Nat → Int32)} {m_row : (Nat → Int32)} {m_order : (Nat → Int32)} {m_bestOrder : (Nat → Int32)} {m_nears : (Nat → Int32)} {m_isKept : Int32} {m_keptRoofs : Int64} {m_kept : (Nat → Int32)} {m_lanes : (Nat → Int32)} {m_rowSizes : (Nat → Int32)} {m_items : (Nat → Int64)} {m_moved : (Nat → Int64)} {PP : (Nat → Int64) → (Nat → Int64) → (Nat → Int64) → Prop} (hf : wX0_copy_JJ (fun r p0 => wX3_copy (fun r' q0 q1 => r = r' ∧ PP p0 q0 q1) m_lanes m_rowSizes m_items m_moved a1 a2 a3 a4 a5) shf hd rn rf hd2 rn2 rf2 a1 a2 a3 a4 a5) (hPD : PD A dC dI ([((h 0), .inr (0, [.ref (h 1), .ref (h 3), .ref (h 9), .ref (h 17), .ref (h 10), .ref (h 11), .int steps, .int draw, .ref (h 12), .int typed, .int at_, .ref (h 5), .ref (h 13), .ref (h 14), .int isImage, .ref (h 7), .ref (h 15), .ref (h 18), .int idraw, .ref (h 19), .ref (h 16)])), ((h 1), .inr (1, [.ref (h 2), .long gro, .int grt])), ((h 2), .inl (dA 0, 36, .inl gd)), ((h 3), .inr (1, [.ref (h 4), .long tro, .int trt])), ((h 4), .inl (dA 0, 36, .inl td)), ((h 5), .inr (1, [.ref (h 6), .long rro, .int rrt])), ((h 6), .inl (dA 0, 36, .inl rd)), ((h 7), .inr (1, [.ref (h 8), .long imro, .int imrt])), ((h 8), .inl (dA 0, 36, .inl imd)), ((h 9), .inl (dA 0, 36, .inl owners)), ((h 10), .inl (dA 1, 8, .inl tour)), ((h 11), .inl (dA 1, 8, .inl best)), ((h 12), .inl (dA 0, 160, .inl tape)), ((h 13), .inl (dA 0, 36, .inl signs)), ((h 14), .inl (dA 0, 320, .inl acts)), ((h 15), .inl (dA 0, 36, .inl iown)), ((h 16), .inl (dA 2, 36, .inr (.inl taken))), ((h 19), .inl (dA 5, 4, .inr (.inr (.inr (.inr shf))))), (hd, .inr (2, [.ref ra])), (ra, .inl (dA 2, rn, .inr (.inl rf))), (hd2, .inr (2, [.ref ra2])), (ra2, .inl (dA 2, rn2, .inr (.inl rf2)))] ++ ((wM hm dA m_depths m_owners m_roofs m_rate m_undos m_undoMany m_drawn m_dug m_deep m_holes m_holeMany m_tape m_taped m_place m_reads m_read_ m_row m_order m_bestOrder m_nears m_isKept m_keptRoofs m_kept m_lanes m_rowSizes m_items m_moved) ++ wr)) H) (hS : va_S A s.heap H locs) (hl : lv_has ls 4 [(0, .ref b), (1, .ref (h 0)), (2, .ref (hm 0)), (3, .int ix)]) (hi1 : vp_in (ix + 1) L ∧ xs (ix + 1).toNatClampNeg = a1) (hi2 : vp_in (ix + 2) L ∧ xs (ix + 2).toNatClampNeg = a2) (hi3 : vp_in (ix + 3) L ∧ xs (ix + 3).toNatClampNeg = a3) (hi4 : vp_in (ix + 4) L ∧ xs (ix + 4).toNatClampNeg = a4) (hi5 : vp_in (ix + 5) L ∧ xs (ix + 5).toNatClampNeg = a5) (hroom : kc + 3 ≤ room_1.cells ∧ ks + 500 ≤ room_1.slots)
    (kk : ∀ (u : (Nat → Int64)) (u' : (Nat → Int64) × (Nat → Int64)) (H1 : Heap) (locs1 : List Loc), PP u u'.1 u'.2 → PD A dC dI ([((h 0), .inr (0, [.ref (h 1), .ref (h 3), .ref (h 9), .ref (h 17), .ref (h 10), .ref (h 11), .int steps, .int draw, .ref (h 12), .int typed, .int at_, .ref (h 5), .ref (h 13), .ref (h 14), .int isImage, .ref (h 7), .ref (h 15), .ref (h 18), .int idraw, .ref (h 19), .ref (h 16)])), ((h 1), .inr (1, [.ref (h 2), .long gro, .int grt])), ((h 2), .inl (dA 0, 36, .inl gd)), ((h 3), .inr (1, [.ref (h 4), .long tro, .int trt])), ((h 4), .inl (dA 0, 36, .inl td)), ((h 5), .inr (1, [.ref (h 6), .long rro, .int rrt])), ((h 6), .inl (dA 0, 36, .inl rd)), ((h 7), .inr (1, [.ref (h 8), .long imro, .int imrt])), ((h 8), .inl (dA 0, 36, .inl imd)), ((h 9), .inl (dA 0, 36, .inl owners)), ((h 10), .inl (dA 1, 8, .inl tour)), ((h 11), .inl (dA 1, 8, .inl best)), ((h 12), .inl (dA 0, 160, .inl tape)), ((h 13), .inl (dA 0, 36, .inl signs)), ((h 14), .inl (dA 0, 320, .inl acts)), ((h 15), .inl (dA 0, 36, .inl iown)), ((h 16), .inl (dA 2, 36, .inr (.inl taken))), ((h 19), .inl (dA 5, 4, .inr (.inr (.inr (.inr shf))))), (hd, .inr (2, [.ref ra])), (ra, .inl (dA 2, rn, .inr (.inl rf))), (hd2, .inr (2, [.ref ra2])), (ra2, .inl (dA 2, rn2, .inr (.inl u)))] ++ ((wM hm dA m_depths m_owners m_roofs m_rate m_undos m_undoMany m_drawn m_dug m_deep m_holes m_holeMany m_tape m_taped m_place m_reads m_read_ m_row m_order m_bestOrder m_nears m_isKept m_keptRoofs m_kept m_lanes m_rowSizes u'.1 u'.2) ++ wr)) H1 → va_S A s.heap H1 locs1 → W p l e room_1 s m #[Value.ref b] below meth c H1 locs1 (kc + 3) (ks + 500) Q (F0 m 1349 ls [])) : W p l e room_1 s m #[Value.ref b] below meth c H locs kc ks Q (F0 m 1286 ls []) := by
  obtain ⟨S, hX, hbl, hbA, hK, hE, hA, hfl⟩ := hC
  obtain ⟨hP, hD⟩ := hPD
  refine lv_aload_n S.1 S.2.1 dL_law_1286 rfl (lv_at hl 1 rfl) ?_
  refine lv_aload_n S.1 S.2.1 dL_law_1287 rfl (lv_at hl 0 rfl) ?_
  refine lv_iload_n S.1 S.2.1 dL_law_1288 rfl (lv_at hl 3 rfl) ?_
  refine lv_iconst (v := 1) S.1 S.2.1 dL_law_1289 (by decide) ?_
  refine lv_iadd S.1 S.2.1 dL_law_1290 ?_
  refine sldE S.1 S.2.1 hX hbl hbA hS hi1 dL_law_1291 ?_
  refine lv_aload_n S.1 S.2.1 dL_law_1292 rfl (lv_at hl 0 rfl) ?_
  refine lv_iload_n S.1 S.2.1 dL_law_1293 rfl (lv_at hl 3 rfl) ?_
  refine lv_iconst (v := 2) S.1 S.2.1 dL_law_1294 (by decide) ?_
  refine lv_iadd S.1 S.2.1 dL_law_1295 ?_
  refine sldE S.1 S.2.1 hX hbl hbA hS hi2 dL_law_1296 ?_
  refine lv_aload_n S.1 S.2.1 dL_law_1297 rfl (lv_at hl 0 rfl) ?_
  refine lv_iload_n S.1 S.2.1 dL_law_1298 rfl (lv_at hl 3 rfl) ?_
  refine lv_iconst (v := 3) S.1 S.2.1 dL_law_1299 (by decide) ?_
  refine lv_iadd S.1 S.2.1 dL_law_1300 ?_
  refine sldE S.1 S.2.1 hX hbl hbA hS hi3 dL_law_1301 ?_
  refine lv_aload_n S.1 S.2.1 dL_law_1302 rfl (lv_at hl 0 rfl) ?_
  refine lv_iload_n S.1 S.2.1 dL_law_1303 rfl (lv_at hl 3 rfl) ?_
  refine lv_iconst (v := 4) S.1 S.2.1 dL_law_1304 (by decide) ?_
  refine lv_iadd S.1 S.2.1 dL_law_1305 ?_
  refine sldE S.1 S.2.1 hX hbl hbA hS hi4 dL_law_1306 ?_
  refine lv_aload_n S.1 S.2.1 dL_law_1307 rfl (lv_at hl 0 rfl) ?_
  refine lv_iload_n S.1 S.2.1 dL_law_1308 rfl (lv_at hl 3 rfl) ?_
  refine lv_iconst (v := 5) S.1 S.2.1 dL_law_1309 (by decide) ?_
  refine lv_iadd S.1 S.2.1 dL_law_1310 ?_
  refine sldE S.1 S.2.1 hX hbl hbA hS hi5 dL_law_1311 ?_
  refine sC_i hP hD hS hA (va_runVW (As := [.int a1, .int a2, .int a3, .int a4, .int a5]) (rest := []) S (metX0_copy_JJ l hfl hf) (cwVW 5 S.2.2.2.2 q1049 q1050 q1051 q54 q1052 pdX0_copy ⟨Nat.le_of_ble_eq_true rfl, Nat.le_of_ble_eq_true rfl⟩) ⟨ablind, va_recv hK hP (ci := 0) (q0 := 0) rfl rfl, (spre hK hE hP hD hS hA).2⟩ rfl rfl hl.1 rfl (lv_room (Nat.le_of_ble_eq_true rfl)) dL_law_1312 hroom) (fun r u H locs hf hP hD hS => ?_)
  have hP := hP.perm permM
  have hD := hD.perm permM
  refine lv_aload_n S.1 S.2.1 dL_law_1315 rfl (lv_at hl 2 rfl) ?_
  refine lv_aload_n S.1 S.2.1 dL_law_1316 rfl (lv_at hl 0 rfl) ?_
  refine lv_iload_n S.1 S.2.1 dL_law_1317 rfl (lv_at hl 3 rfl) ?_
  refine lv_iconst (v := 1) S.1 S.2.1 dL_law_1318 (by decide) ?_
  refine lv_iadd S.1 S.2.1 dL_law_1319 ?_
  refine sldE S.1 S.2.1 hX hbl hbA hS hi1 dL_law_1320 ?_
  refine lv_aload_n S.1 S.2.1 dL_law_1321 rfl (lv_at hl 0 rfl) ?_
  refine lv_iload_n S.1 S.2.1 dL_law_1322 rfl (lv_at hl 3 rfl) ?_
  refine lv_iconst (v := 2) S.1 S.2.1 dL_law_1323 (by decide) ?_
  refine lv_iadd S.1 S.2.1 dL_law_1324 ?_
  refine sldE S.1 S.2.1 hX hbl hbA hS hi2 dL_law_1325 ?_
  refine lv_aload_n S.1 S.2.1 dL_law_1326 rfl (lv_at hl 0 rfl) ?_
  refine lv_iload_n S.1 S.2.1 dL_law_1327 rfl (lv_at hl 3 rfl) ?_
  refine lv_iconst (v := 3) S.1 S.2.1 dL_law_1328 (by decide) ?_
  refine lv_iadd S.1 S.2.1 dL_law_1329 ?_
  refine sldE S.1 S.2.1 hX hbl hbA hS hi3 dL_law_1330 ?_
  refine lv_aload_n S.1 S.2.1 dL_law_1331 rfl (lv_at hl 0 rfl) ?_
  refine lv_iload_n S.1 S.2.1 dL_law_1332 rfl (lv_at hl 3 rfl) ?_
  refine lv_iconst (v := 4) S.1 S.2.1 dL_law_1333 (by decide) ?_
  refine lv_iadd S.1 S.2.1 dL_law_1334 ?_
  refine sldE S.1 S.2.1 hX hbl hbA hS hi4 dL_law_1335 ?_
  refine lv_aload_n S.1 S.2.1 dL_law_1336 rfl (lv_at hl 0 rfl) ?_
  refine lv_iload_n S.1 S.2.1 dL_law_1337 rfl (lv_at hl 3 rfl) ?_
  refine lv_iconst (v := 5) S.1 S.2.1 dL_law_1338 (by decide) ?_
  refine lv_iadd S.1 S.2.1 dL_law_1339 ?_
  refine sldE S.1 S.2.1 hX hbl hbA hS hi5 dL_law_1340 ?_
  refine sM_i (As := [.int a1, .int a2, .int a3, .int a4, .int a5]) (rest := [.int r]) S hK rfl rfl (fun _ => rfl) hP hD hS (metX3_copy l hj hf) (lw_V q1598 q1599 q1600 q60 q1601) rfl pdX3_copy ⟨rfl, rfl⟩ ⟨Nat.le_of_ble_eq_true rfl, Nat.le_of_ble_eq_true rfl⟩ rfl hl.1 rfl (Nat.le_of_ble_eq_true rfl) dL_law_1341 hroom (fun r' u' H locs hf hP hD hS => ?_)
  obtain ⟨e1, hf⟩ := hf
  refine lv_icmp_eq (tgt := 1349) S.1 S.2.1 dL_law_1344 (by decide) (fun c_1 => ?_) (fun c_1 => ?_)
  · exact kk u u' H locs hf ⟨hP.perm permN, hD.perm permN⟩ hS
  · exact absurd e1 c_1
set_option maxHeartbeats 4000000 in
set_option maxRecDepth 100000 in
theorem lo_copy_m (hC : LC p l s m c b L xs A dC dI dA eA mi) (hj : mJ hm) {steps : Int32} {draw : Int32} {typed : Int32} {at_ : Int32} {isImage : Int32} {idraw : Int32} {gd : (Nat → Int32)} {gro : Int64} {grt : Int32} {td : (Nat → Int32)} {tro : Int64} {trt : Int32} {rd : (Nat → Int32)} {rro : Int64} {rrt : Int32} {imd : (Nat → Int32)} {imro : Int64} {imrt : Int32} {owners : (Nat → Int32)} {tour : (Nat → Int32)} {best : (Nat → Int32)} {tape : (Nat → Int32)} {signs : (Nat → Int32)} {acts : (Nat → Int32)} {iown : (Nat → Int32)} {taken : (Nat → Int64)} {m_depths : (Nat → Int32)} {m_owners : (Nat → Int32)} {m_roofs : Int64} {m_rate : Int32} {m_undos : (Nat → Int32)} {m_undoMany : Int32} {m_drawn : Int32} {m_dug : Int64} {m_deep : Int64} {m_holes : (Nat → Int64)} {m_holeMany : Int32} {m_tape : (Nat → Int32)} {m_taped : Int32} {m_place : Int32} {m_reads : Int32} {m_read_ : (Nat → Int32)} {m_row : (Nat → Int32)} {m_order : (Nat → Int32)} {m_bestOrder : (Nat → Int32)} {m_nears : (Nat → Int32)} {m_isKept : Int32} {m_keptRoofs : Int64} {m_kept : (Nat → Int32)} {m_lanes : (Nat → Int32)} {m_rowSizes : (Nat → Int32)} {m_items : (Nat → Int64)} {m_moved : (Nat → Int64)} {PP : (Nat → Int64) → (Nat → Int64) → Prop} (hf : wX0_copy_m (fun r => wX3_copy (fun r' q0 q1 => r = r' ∧ PP q0 q1) m_lanes m_rowSizes m_items m_moved a1 a2 a3 a4 a5) a1 a2 a3 a4 a5) (hPD : PD A dC dI ([((h 0), .inr (0, [.ref (h 1), .ref (h 3), .ref (h 9), .ref (h 17), .ref (h 10), .ref (h 11), .int steps, .int draw, .ref (h 12), .int typed, .int at_, .ref (h 5), .ref (h 13), .ref (h 14), .int isImage, .ref (h 7), .ref (h 15), .ref (h 18), .int idraw, .ref (h 19), .ref (h 16)])), ((h 1), .inr (1, [.ref (h 2), .long gro, .int grt])), ((h 2), .inl (dA 0, 36, .inl gd)), ((h 3), .inr (1, [.ref (h 4), .long tro, .int trt])), ((h 4), .inl (dA 0, 36, .inl td)), ((h 5), .inr (1, [.ref (h 6), .long rro, .int rrt])), ((h 6), .inl (dA 0, 36, .inl rd)), ((h 7), .inr (1, [.ref (h 8), .long imro, .int imrt])), ((h 8), .inl (dA 0, 36, .inl imd)), ((h 9), .inl (dA 0, 36, .inl owners)), ((h 10), .inl (dA 1, 8, .inl tour)), ((h 11), .inl (dA 1, 8, .inl best)), ((h 12), .inl (dA 0, 160, .inl tape)), ((h 13), .inl (dA 0, 36, .inl signs)), ((h 14), .inl (dA 0, 320, .inl acts)), ((h 15), .inl (dA 0, 36, .inl iown)), ((h 16), .inl (dA 2, 36, .inr (.inl taken)))] ++ ((wM hm dA m_depths m_owners m_roofs m_rate m_undos m_undoMany m_drawn m_dug m_deep m_holes m_holeMany m_tape m_taped m_place m_reads m_read_ m_row m_order m_bestOrder m_nears m_isKept m_keptRoofs m_kept m_lanes m_rowSizes m_items m_moved) ++ wr)) H) (hS : va_S A s.heap H locs) (hl : lv_has ls 4 [(0, .ref b), (1, .ref (h 0)), (2, .ref (hm 0)), (3, .int ix)]) (hi1 : vp_in (ix + 1) L ∧ xs (ix + 1).toNatClampNeg = a1) (hi2 : vp_in (ix + 2) L ∧ xs (ix + 2).toNatClampNeg = a2) (hi3 : vp_in (ix + 3) L ∧ xs (ix + 3).toNatClampNeg = a3) (hi4 : vp_in (ix + 4) L ∧ xs (ix + 4).toNatClampNeg = a4) (hi5 : vp_in (ix + 5) L ∧ xs (ix + 5).toNatClampNeg = a5) (hroom : kc + 0 ≤ room_1.cells ∧ ks + 0 ≤ room_1.slots)
    (kk : ∀ (u : Unit) (u' : (Nat → Int64) × (Nat → Int64)) (H1 : Heap) (locs1 : List Loc), PP u'.1 u'.2 → PD A dC dI ([((h 0), .inr (0, [.ref (h 1), .ref (h 3), .ref (h 9), .ref (h 17), .ref (h 10), .ref (h 11), .int steps, .int draw, .ref (h 12), .int typed, .int at_, .ref (h 5), .ref (h 13), .ref (h 14), .int isImage, .ref (h 7), .ref (h 15), .ref (h 18), .int idraw, .ref (h 19), .ref (h 16)])), ((h 1), .inr (1, [.ref (h 2), .long gro, .int grt])), ((h 2), .inl (dA 0, 36, .inl gd)), ((h 3), .inr (1, [.ref (h 4), .long tro, .int trt])), ((h 4), .inl (dA 0, 36, .inl td)), ((h 5), .inr (1, [.ref (h 6), .long rro, .int rrt])), ((h 6), .inl (dA 0, 36, .inl rd)), ((h 7), .inr (1, [.ref (h 8), .long imro, .int imrt])), ((h 8), .inl (dA 0, 36, .inl imd)), ((h 9), .inl (dA 0, 36, .inl owners)), ((h 10), .inl (dA 1, 8, .inl tour)), ((h 11), .inl (dA 1, 8, .inl best)), ((h 12), .inl (dA 0, 160, .inl tape)), ((h 13), .inl (dA 0, 36, .inl signs)), ((h 14), .inl (dA 0, 320, .inl acts)), ((h 15), .inl (dA 0, 36, .inl iown)), ((h 16), .inl (dA 2, 36, .inr (.inl taken)))] ++ ((wM hm dA m_depths m_owners m_roofs m_rate m_undos m_undoMany m_drawn m_dug m_deep m_holes m_holeMany m_tape m_taped m_place m_reads m_read_ m_row m_order m_bestOrder m_nears m_isKept m_keptRoofs m_kept m_lanes m_rowSizes u'.1 u'.2) ++ wr)) H1 → va_S A s.heap H1 locs1 → W p l e room_1 s m #[Value.ref b] below meth c H1 locs1 (kc + 0) (ks + 0) Q (F0 m 1349 ls [])) : W p l e room_1 s m #[Value.ref b] below meth c H locs kc ks Q (F0 m 1286 ls []) := by
  obtain ⟨S, hX, hbl, hbA, hK, hE, hA, hfl⟩ := hC
  obtain ⟨hP, hD⟩ := hPD
  refine lv_aload_n S.1 S.2.1 dL_law_1286 rfl (lv_at hl 1 rfl) ?_
  refine lv_aload_n S.1 S.2.1 dL_law_1287 rfl (lv_at hl 0 rfl) ?_
  refine lv_iload_n S.1 S.2.1 dL_law_1288 rfl (lv_at hl 3 rfl) ?_
  refine lv_iconst (v := 1) S.1 S.2.1 dL_law_1289 (by decide) ?_
  refine lv_iadd S.1 S.2.1 dL_law_1290 ?_
  refine sldE S.1 S.2.1 hX hbl hbA hS hi1 dL_law_1291 ?_
  refine lv_aload_n S.1 S.2.1 dL_law_1292 rfl (lv_at hl 0 rfl) ?_
  refine lv_iload_n S.1 S.2.1 dL_law_1293 rfl (lv_at hl 3 rfl) ?_
  refine lv_iconst (v := 2) S.1 S.2.1 dL_law_1294 (by decide) ?_
  refine lv_iadd S.1 S.2.1 dL_law_1295 ?_
  refine sldE S.1 S.2.1 hX hbl hbA hS hi2 dL_law_1296 ?_
  refine lv_aload_n S.1 S.2.1 dL_law_1297 rfl (lv_at hl 0 rfl) ?_
  refine lv_iload_n S.1 S.2.1 dL_law_1298 rfl (lv_at hl 3 rfl) ?_
  refine lv_iconst (v := 3) S.1 S.2.1 dL_law_1299 (by decide) ?_
  refine lv_iadd S.1 S.2.1 dL_law_1300 ?_
  refine sldE S.1 S.2.1 hX hbl hbA hS hi3 dL_law_1301 ?_
  refine lv_aload_n S.1 S.2.1 dL_law_1302 rfl (lv_at hl 0 rfl) ?_
  refine lv_iload_n S.1 S.2.1 dL_law_1303 rfl (lv_at hl 3 rfl) ?_
  refine lv_iconst (v := 4) S.1 S.2.1 dL_law_1304 (by decide) ?_
  refine lv_iadd S.1 S.2.1 dL_law_1305 ?_
  refine sldE S.1 S.2.1 hX hbl hbA hS hi4 dL_law_1306 ?_
  refine lv_aload_n S.1 S.2.1 dL_law_1307 rfl (lv_at hl 0 rfl) ?_
  refine lv_iload_n S.1 S.2.1 dL_law_1308 rfl (lv_at hl 3 rfl) ?_
  refine lv_iconst (v := 5) S.1 S.2.1 dL_law_1309 (by decide) ?_
  refine lv_iadd S.1 S.2.1 dL_law_1310 ?_
  refine sldE S.1 S.2.1 hX hbl hbA hS hi5 dL_law_1311 ?_
  refine sC_i hP hD hS hA (va_runVW (As := [.int a1, .int a2, .int a3, .int a4, .int a5]) (rest := []) S (metX0_copy_m l hfl hf) (cwVW 5 S.2.2.2.2 q1049 q1050 q1051 q54 q1052 pdX0_copy ⟨Nat.le_of_ble_eq_true rfl, Nat.le_of_ble_eq_true rfl⟩) ⟨ablind, va_recv hK hP (ci := 0) (q0 := 0) rfl rfl, (spre hK hE hP hD hS hA).2⟩ rfl rfl hl.1 rfl (lv_room (Nat.le_of_ble_eq_true rfl)) dL_law_1312 hroom) (fun r u H locs hf hP hD hS => ?_)
  have hP := hP.perm permM
  have hD := hD.perm permM
  refine lv_aload_n S.1 S.2.1 dL_law_1315 rfl (lv_at hl 2 rfl) ?_
  refine lv_aload_n S.1 S.2.1 dL_law_1316 rfl (lv_at hl 0 rfl) ?_
  refine lv_iload_n S.1 S.2.1 dL_law_1317 rfl (lv_at hl 3 rfl) ?_
  refine lv_iconst (v := 1) S.1 S.2.1 dL_law_1318 (by decide) ?_
  refine lv_iadd S.1 S.2.1 dL_law_1319 ?_
  refine sldE S.1 S.2.1 hX hbl hbA hS hi1 dL_law_1320 ?_
  refine lv_aload_n S.1 S.2.1 dL_law_1321 rfl (lv_at hl 0 rfl) ?_
  refine lv_iload_n S.1 S.2.1 dL_law_1322 rfl (lv_at hl 3 rfl) ?_
  refine lv_iconst (v := 2) S.1 S.2.1 dL_law_1323 (by decide) ?_
  refine lv_iadd S.1 S.2.1 dL_law_1324 ?_
  refine sldE S.1 S.2.1 hX hbl hbA hS hi2 dL_law_1325 ?_
  refine lv_aload_n S.1 S.2.1 dL_law_1326 rfl (lv_at hl 0 rfl) ?_
  refine lv_iload_n S.1 S.2.1 dL_law_1327 rfl (lv_at hl 3 rfl) ?_
  refine lv_iconst (v := 3) S.1 S.2.1 dL_law_1328 (by decide) ?_
  refine lv_iadd S.1 S.2.1 dL_law_1329 ?_
  refine sldE S.1 S.2.1 hX hbl hbA hS hi3 dL_law_1330 ?_
  refine lv_aload_n S.1 S.2.1 dL_law_1331 rfl (lv_at hl 0 rfl) ?_
  refine lv_iload_n S.1 S.2.1 dL_law_1332 rfl (lv_at hl 3 rfl) ?_
  refine lv_iconst (v := 4) S.1 S.2.1 dL_law_1333 (by decide) ?_
  refine lv_iadd S.1 S.2.1 dL_law_1334 ?_
  refine sldE S.1 S.2.1 hX hbl hbA hS hi4 dL_law_1335 ?_
  refine lv_aload_n S.1 S.2.1 dL_law_1336 rfl (lv_at hl 0 rfl) ?_
  refine lv_iload_n S.1 S.2.1 dL_law_1337 rfl (lv_at hl 3 rfl) ?_
  refine lv_iconst (v := 5) S.1 S.2.1 dL_law_1338 (by decide) ?_
  refine lv_iadd S.1 S.2.1 dL_law_1339 ?_
  refine sldE S.1 S.2.1 hX hbl hbA hS hi5 dL_law_1340 ?_
  refine sM_i (As := [.int a1, .int a2, .int a3, .int a4, .int a5]) (rest := [.int r]) S hK rfl rfl (fun _ => rfl) hP hD hS (metX3_copy l hj hf) (lw_V q1598 q1599 q1600 q60 q1601) rfl pdX3_copy ⟨rfl, rfl⟩ ⟨Nat.le_of_ble_eq_true rfl, Nat.le_of_ble_eq_true rfl⟩ rfl hl.1 rfl (Nat.le_of_ble_eq_true rfl) dL_law_1341 hroom (fun r' u' H locs hf hP hD hS => ?_)
  obtain ⟨e1, hf⟩ := hf
  refine lv_icmp_eq (tgt := 1349) S.1 S.2.1 dL_law_1344 (by decide) (fun c_1 => ?_) (fun c_1 => ?_)
  · exact kk u u' H locs hf ⟨hP.perm permN, hD.perm permN⟩ hS
  · exact absurd e1 c_1
end LAWO
