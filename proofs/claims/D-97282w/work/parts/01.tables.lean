-- ===== PART A: goes FIRST, ahead of the names: the tables' words, and 'selects' of the private methods out of them =====
/-- a private method of a class that the tables say can be made, by its rows of tables_1 -/
def lw_okq (q : MethodName × Nat) : Prop := (q.1.cls ≠ "java/lang/invoke/MethodHandle" ∧ q.1.cls ≠ "java/lang/invoke/VarHandle") ∧ Cond.instantiable q.1.cls q.2 ∈ tables_1 ∧ Cond.privateMethod q.1 ∈ tables_1 ∧ Cond.instanceMethod q.1 ∈ tables_1
set_option maxRecDepth 100000
theorem lw_t1 {w : Cond} (h : w ∈ tables_1_1) : w ∈ tables_1 := List.mem_append_left _ h
theorem lw_t2 {w : Cond} (h : w ∈ tables_1_2) : w ∈ tables_1 := List.mem_append_right _ (List.mem_append_left _ h)
theorem lw_t3 {w : Cond} (h : w ∈ tables_1_3) : w ∈ tables_1 := List.mem_append_right _ (List.mem_append_right _ (List.mem_append_left _ h))
theorem lw_t4 {w : Cond} (h : w ∈ tables_1_4) : w ∈ tables_1 := List.mem_append_right _ (List.mem_append_right _ (List.mem_append_right _ (List.mem_append_left _ h)))
theorem lw_t5 {w : Cond} (h : w ∈ tables_1_5) : w ∈ tables_1 := List.mem_append_right _ (List.mem_append_right _ (List.mem_append_right _ (List.mem_append_right _ (List.mem_append_left _ h))))
theorem lw_t6 {w : Cond} (h : w ∈ tables_1_6) : w ∈ tables_1 := List.mem_append_right _ (List.mem_append_right _ (List.mem_append_right _ (List.mem_append_right _ (List.mem_append_right _ (List.mem_append_left _ h)))))
theorem lw_t7 {w : Cond} (h : w ∈ tables_1_7) : w ∈ tables_1 := List.mem_append_right _ (List.mem_append_right _ (List.mem_append_right _ (List.mem_append_right _ (List.mem_append_right _ (List.mem_append_right _ h)))))
theorem lw_p0 : lw_okq (⟨"java/util/ArrayList", "fastRemove", "([Ljava/lang/Object;I)V"⟩, 3) := ⟨⟨by decide +kernel, by decide +kernel⟩, lw_t1 (List.mem_of_getElem? (i := 91) rfl), lw_t1 (List.mem_of_getElem? (i := 89) rfl), lw_t1 (List.mem_of_getElem? (i := 90) rfl)⟩
theorem lw_p1 : lw_okq (⟨"java/util/ArrayList", "add", "(Ljava/lang/Object;[Ljava/lang/Object;I)V"⟩, 3) := ⟨⟨by decide +kernel, by decide +kernel⟩, lw_t1 (List.mem_of_getElem? (i := 91) rfl), lw_t1 (List.mem_of_getElem? (i := 101) rfl), lw_t1 (List.mem_of_getElem? (i := 102) rfl)⟩
theorem lw_p2 : lw_okq (⟨"java/util/ArrayList", "grow", "()[Ljava/lang/Object;"⟩, 3) := ⟨⟨by decide +kernel, by decide +kernel⟩, lw_t1 (List.mem_of_getElem? (i := 91) rfl), lw_t1 (List.mem_of_getElem? (i := 105) rfl), lw_t1 (List.mem_of_getElem? (i := 106) rfl)⟩
theorem lw_p3 : lw_okq (⟨"java/util/ArrayList", "grow", "(I)[Ljava/lang/Object;"⟩, 3) := ⟨⟨by decide +kernel, by decide +kernel⟩, lw_t1 (List.mem_of_getElem? (i := 91) rfl), lw_t1 (List.mem_of_getElem? (i := 109) rfl), lw_t1 (List.mem_of_getElem? (i := 110) rfl)⟩
theorem lw_p4 : lw_okq (⟨"HoleCounty$Ground", "isDeep", "(J)Z"⟩, 3) := ⟨⟨by decide +kernel, by decide +kernel⟩, lw_t2 (List.mem_of_getElem? (i := 44) rfl), lw_t2 (List.mem_of_getElem? (i := 42) rfl), lw_t2 (List.mem_of_getElem? (i := 43) rfl)⟩
theorem lw_p5 : lw_okq (⟨"HoleCounty", "ownerOf", "(LHoleCounty$Pit;)I"⟩, 21) := ⟨⟨by decide +kernel, by decide +kernel⟩, lw_t2 (List.mem_of_getElem? (i := 188) rfl), lw_t2 (List.mem_of_getElem? (i := 186) rfl), lw_t2 (List.mem_of_getElem? (i := 187) rfl)⟩
theorem lw_p6 : lw_okq (⟨"HoleCounty", "rims", "(LHoleCounty$Pit;)[I"⟩, 21) := ⟨⟨by decide +kernel, by decide +kernel⟩, lw_t2 (List.mem_of_getElem? (i := 188) rfl), lw_t2 (List.mem_of_getElem? (i := 191) rfl), lw_t2 (List.mem_of_getElem? (i := 192) rfl)⟩
theorem lw_p7 : lw_okq (⟨"HoleCounty", "nested", "(LHoleCounty$Pit;)I"⟩, 21) := ⟨⟨by decide +kernel, by decide +kernel⟩, lw_t2 (List.mem_of_getElem? (i := 188) rfl), lw_t2 (List.mem_of_getElem? (i := 195) rfl), lw_t2 (List.mem_of_getElem? (i := 196) rfl)⟩
theorem lw_p8 : lw_okq (⟨"HoleCounty", "partOf", "(LHoleCounty$Pit;I)I"⟩, 21) := ⟨⟨by decide +kernel, by decide +kernel⟩, lw_t2 (List.mem_of_getElem? (i := 188) rfl), lw_t2 (List.mem_of_getElem? (i := 237) rfl), lw_t2 (List.mem_of_getElem? (i := 238) rfl)⟩
theorem lw_p9 : lw_okq (⟨"java/lang/NullPointerException", "getExtendedNPEMessage", "()Ljava/lang/String;"⟩, 8) := ⟨⟨by decide +kernel, by decide +kernel⟩, lw_t3 (List.mem_of_getElem? (i := 33) rfl), lw_t3 (List.mem_of_getElem? (i := 31) rfl), lw_t3 (List.mem_of_getElem? (i := 32) rfl)⟩
theorem lw_p10 : lw_okq (⟨"java/lang/Throwable", "fillInStackTrace", "(I)Ljava/lang/Throwable;"⟩, 6) := ⟨⟨by decide +kernel, by decide +kernel⟩, lw_t3 (List.mem_of_getElem? (i := 45) rfl), lw_t3 (List.mem_of_getElem? (i := 43) rfl), lw_t3 (List.mem_of_getElem? (i := 44) rfl)⟩
theorem lw_p11 : lw_okq (⟨"HoleCounty", "fewestFilled", "(I)I"⟩, 21) := ⟨⟨by decide +kernel, by decide +kernel⟩, lw_t2 (List.mem_of_getElem? (i := 188) rfl), lw_t3 (List.mem_of_getElem? (i := 108) rfl), lw_t3 (List.mem_of_getElem? (i := 109) rfl)⟩
theorem lw_p12 : lw_okq (⟨"HoleCounty", "isTaxed", "(JI)Z"⟩, 21) := ⟨⟨by decide +kernel, by decide +kernel⟩, lw_t2 (List.mem_of_getElem? (i := 188) rfl), lw_t3 (List.mem_of_getElem? (i := 112) rfl), lw_t3 (List.mem_of_getElem? (i := 113) rfl)⟩
theorem lw_p13 : lw_okq (⟨"HoleCounty", "goes", "(Ljava/util/ArrayList;IIII)V"⟩, 21) := ⟨⟨by decide +kernel, by decide +kernel⟩, lw_t2 (List.mem_of_getElem? (i := 188) rfl), lw_t3 (List.mem_of_getElem? (i := 147) rfl), lw_t3 (List.mem_of_getElem? (i := 148) rfl)⟩
theorem lw_p14 : lw_okq (⟨"HoleCounty", "drawn", "(I)I"⟩, 21) := ⟨⟨by decide +kernel, by decide +kernel⟩, lw_t2 (List.mem_of_getElem? (i := 188) rfl), lw_t3 (List.mem_of_getElem? (i := 183) rfl), lw_t3 (List.mem_of_getElem? (i := 184) rfl)⟩
theorem lw_p15 : lw_okq (⟨"HoleCounty", "must", "(I)V"⟩, 21) := ⟨⟨by decide +kernel, by decide +kernel⟩, lw_t2 (List.mem_of_getElem? (i := 188) rfl), lw_t3 (List.mem_of_getElem? (i := 205) rfl), lw_t3 (List.mem_of_getElem? (i := 206) rfl)⟩
def lw_privs_1 : List (MethodName × Nat) := [(⟨"java/util/ArrayList", "fastRemove", "([Ljava/lang/Object;I)V"⟩, 3), (⟨"java/util/ArrayList", "add", "(Ljava/lang/Object;[Ljava/lang/Object;I)V"⟩, 3), (⟨"java/util/ArrayList", "grow", "()[Ljava/lang/Object;"⟩, 3), (⟨"java/util/ArrayList", "grow", "(I)[Ljava/lang/Object;"⟩, 3), (⟨"HoleCounty$Ground", "isDeep", "(J)Z"⟩, 3), (⟨"HoleCounty", "ownerOf", "(LHoleCounty$Pit;)I"⟩, 21), (⟨"HoleCounty", "rims", "(LHoleCounty$Pit;)[I"⟩, 21), (⟨"HoleCounty", "nested", "(LHoleCounty$Pit;)I"⟩, 21), (⟨"HoleCounty", "partOf", "(LHoleCounty$Pit;I)I"⟩, 21), (⟨"java/lang/NullPointerException", "getExtendedNPEMessage", "()Ljava/lang/String;"⟩, 8), (⟨"java/lang/Throwable", "fillInStackTrace", "(I)Ljava/lang/Throwable;"⟩, 6), (⟨"HoleCounty", "fewestFilled", "(I)I"⟩, 21), (⟨"HoleCounty", "isTaxed", "(JI)Z"⟩, 21), (⟨"HoleCounty", "goes", "(Ljava/util/ArrayList;IIII)V"⟩, 21), (⟨"HoleCounty", "drawn", "(I)I"⟩, 21), (⟨"HoleCounty", "must", "(I)V"⟩, 21)]
theorem lw_r1 : ∀ q ∈ lw_privs_1, lw_okq q := List.forall_mem_cons.mpr ⟨lw_p0, List.forall_mem_cons.mpr ⟨lw_p1, List.forall_mem_cons.mpr ⟨lw_p2, List.forall_mem_cons.mpr ⟨lw_p3, List.forall_mem_cons.mpr ⟨lw_p4, List.forall_mem_cons.mpr ⟨lw_p5, List.forall_mem_cons.mpr ⟨lw_p6, List.forall_mem_cons.mpr ⟨lw_p7, List.forall_mem_cons.mpr ⟨lw_p8, List.forall_mem_cons.mpr ⟨lw_p9, List.forall_mem_cons.mpr ⟨lw_p10, List.forall_mem_cons.mpr ⟨lw_p11, List.forall_mem_cons.mpr ⟨lw_p12, List.forall_mem_cons.mpr ⟨lw_p13, List.forall_mem_cons.mpr ⟨lw_p14, List.forall_mem_cons.mpr ⟨lw_p15, fun _ h => absurd h List.not_mem_nil⟩⟩⟩⟩⟩⟩⟩⟩⟩⟩⟩⟩⟩⟩⟩⟩
theorem lw_p16 : lw_okq (⟨"HoleCounty", "passes", "(I)Z"⟩, 21) := ⟨⟨by decide +kernel, by decide +kernel⟩, lw_t2 (List.mem_of_getElem? (i := 188) rfl), lw_t3 (List.mem_of_getElem? (i := 209) rfl), lw_t3 (List.mem_of_getElem? (i := 210) rfl)⟩
theorem lw_p17 : lw_okq (⟨"HoleCounty", "here", "()I"⟩, 21) := ⟨⟨by decide +kernel, by decide +kernel⟩, lw_t2 (List.mem_of_getElem? (i := 188) rfl), lw_t3 (List.mem_of_getElem? (i := 213) rfl), lw_t3 (List.mem_of_getElem? (i := 214) rfl)⟩
theorem lw_p18 : lw_okq (⟨"HoleCounty", "figure", "(I)I"⟩, 21) := ⟨⟨by decide +kernel, by decide +kernel⟩, lw_t2 (List.mem_of_getElem? (i := 188) rfl), lw_t4 (List.mem_of_getElem? (i := 0) rfl), lw_t4 (List.mem_of_getElem? (i := 1) rfl)⟩
theorem lw_p19 : lw_okq (⟨"HoleCounty", "ends", "()V"⟩, 21) := ⟨⟨by decide +kernel, by decide +kernel⟩, lw_t2 (List.mem_of_getElem? (i := 188) rfl), lw_t4 (List.mem_of_getElem? (i := 5) rfl), lw_t4 (List.mem_of_getElem? (i := 6) rfl)⟩
theorem lw_p20 : lw_okq (⟨"HoleCounty", "letter", "(Ljava/lang/String;)I"⟩, 21) := ⟨⟨by decide +kernel, by decide +kernel⟩, lw_t2 (List.mem_of_getElem? (i := 188) rfl), lw_t4 (List.mem_of_getElem? (i := 14) rfl), lw_t4 (List.mem_of_getElem? (i := 15) rfl)⟩
theorem lw_p21 : lw_okq (⟨"HoleCounty", "does", "(I)I"⟩, 21) := ⟨⟨by decide +kernel, by decide +kernel⟩, lw_t2 (List.mem_of_getElem? (i := 188) rfl), lw_t4 (List.mem_of_getElem? (i := 105) rfl), lw_t4 (List.mem_of_getElem? (i := 106) rfl)⟩
theorem lw_p22 : lw_okq (⟨"HoleCounty", "refusal", "(IIII)I"⟩, 21) := ⟨⟨by decide +kernel, by decide +kernel⟩, lw_t2 (List.mem_of_getElem? (i := 188) rfl), lw_t5 (List.mem_of_getElem? (i := 6) rfl), lw_t5 (List.mem_of_getElem? (i := 7) rfl)⟩
theorem lw_p23 : lw_okq (⟨"HoleCounty", "looksAt", "(Ljava/lang/Object;III)V"⟩, 21) := ⟨⟨by decide +kernel, by decide +kernel⟩, lw_t2 (List.mem_of_getElem? (i := 188) rfl), lw_t5 (List.mem_of_getElem? (i := 10) rfl), lw_t5 (List.mem_of_getElem? (i := 11) rfl)⟩
theorem lw_p24 : lw_okq (⟨"HoleCounty", "isCounted", "(JJ)Z"⟩, 21) := ⟨⟨by decide +kernel, by decide +kernel⟩, lw_t2 (List.mem_of_getElem? (i := 188) rfl), lw_t5 (List.mem_of_getElem? (i := 33) rfl), lw_t5 (List.mem_of_getElem? (i := 34) rfl)⟩
theorem lw_p25 : lw_okq (⟨"HoleCountyModel", "note", "(I)V"⟩, 27) := ⟨⟨by decide +kernel, by decide +kernel⟩, lw_t5 (List.mem_of_getElem? (i := 160) rfl), lw_t6 (List.mem_of_getElem? (i := 19) rfl), lw_t6 (List.mem_of_getElem? (i := 20) rfl)⟩
theorem lw_p26 : lw_okq (⟨"HoleCountyModel", "put", "(IIZ)V"⟩, 27) := ⟨⟨by decide +kernel, by decide +kernel⟩, lw_t5 (List.mem_of_getElem? (i := 160) rfl), lw_t6 (List.mem_of_getElem? (i := 30) rfl), lw_t6 (List.mem_of_getElem? (i := 31) rfl)⟩
theorem lw_p27 : lw_okq (⟨"HoleCountyModel", "look", "()V"⟩, 27) := ⟨⟨by decide +kernel, by decide +kernel⟩, lw_t5 (List.mem_of_getElem? (i := 160) rfl), lw_t6 (List.mem_of_getElem? (i := 57) rfl), lw_t6 (List.mem_of_getElem? (i := 58) rfl)⟩
theorem lw_p28 : lw_okq (⟨"HoleCountyModel", "holeAt", "(I)J"⟩, 27) := ⟨⟨by decide +kernel, by decide +kernel⟩, lw_t5 (List.mem_of_getElem? (i := 160) rfl), lw_t6 (List.mem_of_getElem? (i := 61) rfl), lw_t6 (List.mem_of_getElem? (i := 62) rfl)⟩
theorem lw_p29 : lw_okq (⟨"HoleCountyModel", "readGround", "()Z"⟩, 27) := ⟨⟨by decide +kernel, by decide +kernel⟩, lw_t5 (List.mem_of_getElem? (i := 160) rfl), lw_t6 (List.mem_of_getElem? (i := 87) rfl), lw_t6 (List.mem_of_getElem? (i := 88) rfl)⟩
theorem lw_p30 : lw_okq (⟨"HoleCountyModel", "takes", "(I)Z"⟩, 27) := ⟨⟨by decide +kernel, by decide +kernel⟩, lw_t5 (List.mem_of_getElem? (i := 160) rfl), lw_t6 (List.mem_of_getElem? (i := 91) rfl), lw_t6 (List.mem_of_getElem? (i := 92) rfl)⟩
theorem lw_p31 : lw_okq (⟨"HoleCountyModel", "nextLetter", "()I"⟩, 27) := ⟨⟨by decide +kernel, by decide +kernel⟩, lw_t5 (List.mem_of_getElem? (i := 160) rfl), lw_t6 (List.mem_of_getElem? (i := 95) rfl), lw_t6 (List.mem_of_getElem? (i := 96) rfl)⟩
def lw_privs_2 : List (MethodName × Nat) := [(⟨"HoleCounty", "passes", "(I)Z"⟩, 21), (⟨"HoleCounty", "here", "()I"⟩, 21), (⟨"HoleCounty", "figure", "(I)I"⟩, 21), (⟨"HoleCounty", "ends", "()V"⟩, 21), (⟨"HoleCounty", "letter", "(Ljava/lang/String;)I"⟩, 21), (⟨"HoleCounty", "does", "(I)I"⟩, 21), (⟨"HoleCounty", "refusal", "(IIII)I"⟩, 21), (⟨"HoleCounty", "looksAt", "(Ljava/lang/Object;III)V"⟩, 21), (⟨"HoleCounty", "isCounted", "(JJ)Z"⟩, 21), (⟨"HoleCountyModel", "note", "(I)V"⟩, 27), (⟨"HoleCountyModel", "put", "(IIZ)V"⟩, 27), (⟨"HoleCountyModel", "look", "()V"⟩, 27), (⟨"HoleCountyModel", "holeAt", "(I)J"⟩, 27), (⟨"HoleCountyModel", "readGround", "()Z"⟩, 27), (⟨"HoleCountyModel", "takes", "(I)Z"⟩, 27), (⟨"HoleCountyModel", "nextLetter", "()I"⟩, 27)]
theorem lw_r2 : ∀ q ∈ lw_privs_2, lw_okq q := List.forall_mem_cons.mpr ⟨lw_p16, List.forall_mem_cons.mpr ⟨lw_p17, List.forall_mem_cons.mpr ⟨lw_p18, List.forall_mem_cons.mpr ⟨lw_p19, List.forall_mem_cons.mpr ⟨lw_p20, List.forall_mem_cons.mpr ⟨lw_p21, List.forall_mem_cons.mpr ⟨lw_p22, List.forall_mem_cons.mpr ⟨lw_p23, List.forall_mem_cons.mpr ⟨lw_p24, List.forall_mem_cons.mpr ⟨lw_p25, List.forall_mem_cons.mpr ⟨lw_p26, List.forall_mem_cons.mpr ⟨lw_p27, List.forall_mem_cons.mpr ⟨lw_p28, List.forall_mem_cons.mpr ⟨lw_p29, List.forall_mem_cons.mpr ⟨lw_p30, List.forall_mem_cons.mpr ⟨lw_p31, fun _ h => absurd h List.not_mem_nil⟩⟩⟩⟩⟩⟩⟩⟩⟩⟩⟩⟩⟩⟩⟩⟩
theorem lw_p32 : lw_okq (⟨"HoleCountyModel", "end", "(Z)I"⟩, 27) := ⟨⟨by decide +kernel, by decide +kernel⟩, lw_t5 (List.mem_of_getElem? (i := 160) rfl), lw_t6 (List.mem_of_getElem? (i := 100) rfl), lw_t6 (List.mem_of_getElem? (i := 101) rfl)⟩
theorem lw_p33 : lw_okq (⟨"HoleCountyModel", "findHoles", "()V"⟩, 27) := ⟨⟨by decide +kernel, by decide +kernel⟩, lw_t5 (List.mem_of_getElem? (i := 160) rfl), lw_t6 (List.mem_of_getElem? (i := 104) rfl), lw_t6 (List.mem_of_getElem? (i := 105) rfl)⟩
theorem lw_p34 : lw_okq (⟨"HoleCountyModel", "readOwners", "()Z"⟩, 27) := ⟨⟨by decide +kernel, by decide +kernel⟩, lw_t5 (List.mem_of_getElem? (i := 160) rfl), lw_t6 (List.mem_of_getElem? (i := 112) rfl), lw_t6 (List.mem_of_getElem? (i := 113) rfl)⟩
theorem lw_p35 : lw_okq (⟨"HoleCountyModel", "readDay", "()Z"⟩, 27) := ⟨⟨by decide +kernel, by decide +kernel⟩, lw_t5 (List.mem_of_getElem? (i := 160) rfl), lw_t6 (List.mem_of_getElem? (i := 122) rfl), lw_t6 (List.mem_of_getElem? (i := 123) rfl)⟩
theorem lw_p36 : lw_okq (⟨"HoleCountyModel", "readAct", "()Z"⟩, 27) := ⟨⟨by decide +kernel, by decide +kernel⟩, lw_t5 (List.mem_of_getElem? (i := 160) rfl), lw_t6 (List.mem_of_getElem? (i := 126) rfl), lw_t6 (List.mem_of_getElem? (i := 127) rfl)⟩
theorem lw_p37 : lw_okq (⟨"HoleCountyModel", "taxOfAll", "()I"⟩, 27) := ⟨⟨by decide +kernel, by decide +kernel⟩, lw_t5 (List.mem_of_getElem? (i := 160) rfl), lw_t6 (List.mem_of_getElem? (i := 141) rfl), lw_t6 (List.mem_of_getElem? (i := 142) rfl)⟩
theorem lw_p38 : lw_okq (⟨"HoleCountyModel", "taxOf", "(J)I"⟩, 27) := ⟨⟨by decide +kernel, by decide +kernel⟩, lw_t5 (List.mem_of_getElem? (i := 160) rfl), lw_t6 (List.mem_of_getElem? (i := 145) rfl), lw_t6 (List.mem_of_getElem? (i := 146) rfl)⟩
theorem lw_p39 : lw_okq (⟨"HoleCountyModel", "kindOf", "(J)I"⟩, 27) := ⟨⟨by decide +kernel, by decide +kernel⟩, lw_t5 (List.mem_of_getElem? (i := 160) rfl), lw_t6 (List.mem_of_getElem? (i := 149) rfl), lw_t6 (List.mem_of_getElem? (i := 150) rfl)⟩
theorem lw_p40 : lw_okq (⟨"HoleCountyModel", "rimOf", "(J)J"⟩, 27) := ⟨⟨by decide +kernel, by decide +kernel⟩, lw_t5 (List.mem_of_getElem? (i := 160) rfl), lw_t6 (List.mem_of_getElem? (i := 169) rfl), lw_t6 (List.mem_of_getElem? (i := 170) rfl)⟩
theorem lw_p41 : lw_okq (⟨"HoleCountyModel", "ownerOf", "(J)I"⟩, 27) := ⟨⟨by decide +kernel, by decide +kernel⟩, lw_t5 (List.mem_of_getElem? (i := 160) rfl), lw_t6 (List.mem_of_getElem? (i := 173) rfl), lw_t6 (List.mem_of_getElem? (i := 174) rfl)⟩
theorem lw_p42 : lw_okq (⟨"HoleCountyModel", "owned", "(I)J"⟩, 27) := ⟨⟨by decide +kernel, by decide +kernel⟩, lw_t5 (List.mem_of_getElem? (i := 160) rfl), lw_t6 (List.mem_of_getElem? (i := 177) rfl), lw_t6 (List.mem_of_getElem? (i := 178) rfl)⟩
theorem lw_p43 : lw_okq (⟨"HoleCountyModel", "nestedOf", "(J)I"⟩, 27) := ⟨⟨by decide +kernel, by decide +kernel⟩, lw_t5 (List.mem_of_getElem? (i := 160) rfl), lw_t6 (List.mem_of_getElem? (i := 181) rfl), lw_t6 (List.mem_of_getElem? (i := 182) rfl)⟩
theorem lw_p44 : lw_okq (⟨"HoleCountyModel", "partOf", "(JI)I"⟩, 27) := ⟨⟨by decide +kernel, by decide +kernel⟩, lw_t5 (List.mem_of_getElem? (i := 160) rfl), lw_t6 (List.mem_of_getElem? (i := 202) rfl), lw_t6 (List.mem_of_getElem? (i := 203) rfl)⟩
theorem lw_p45 : lw_okq (⟨"HoleCountyModel", "fewestFilled", "(IJ)I"⟩, 27) := ⟨⟨by decide +kernel, by decide +kernel⟩, lw_t5 (List.mem_of_getElem? (i := 160) rfl), lw_t6 (List.mem_of_getElem? (i := 220) rfl), lw_t6 (List.mem_of_getElem? (i := 221) rfl)⟩
theorem lw_p46 : lw_okq (⟨"HoleCountyModel", "does", "(JIJ)Z"⟩, 27) := ⟨⟨by decide +kernel, by decide +kernel⟩, lw_t5 (List.mem_of_getElem? (i := 160) rfl), lw_t6 (List.mem_of_getElem? (i := 224) rfl), lw_t6 (List.mem_of_getElem? (i := 225) rfl)⟩
theorem lw_p47 : lw_okq (⟨"HoleCountyModel", "fewestDug", "(JJJ)I"⟩, 27) := ⟨⟨by decide +kernel, by decide +kernel⟩, lw_t5 (List.mem_of_getElem? (i := 160) rfl), lw_t6 (List.mem_of_getElem? (i := 236) rfl), lw_t6 (List.mem_of_getElem? (i := 237) rfl)⟩
def lw_privs_3 : List (MethodName × Nat) := [(⟨"HoleCountyModel", "end", "(Z)I"⟩, 27), (⟨"HoleCountyModel", "findHoles", "()V"⟩, 27), (⟨"HoleCountyModel", "readOwners", "()Z"⟩, 27), (⟨"HoleCountyModel", "readDay", "()Z"⟩, 27), (⟨"HoleCountyModel", "readAct", "()Z"⟩, 27), (⟨"HoleCountyModel", "taxOfAll", "()I"⟩, 27), (⟨"HoleCountyModel", "taxOf", "(J)I"⟩, 27), (⟨"HoleCountyModel", "kindOf", "(J)I"⟩, 27), (⟨"HoleCountyModel", "rimOf", "(J)J"⟩, 27), (⟨"HoleCountyModel", "ownerOf", "(J)I"⟩, 27), (⟨"HoleCountyModel", "owned", "(I)J"⟩, 27), (⟨"HoleCountyModel", "nestedOf", "(J)I"⟩, 27), (⟨"HoleCountyModel", "partOf", "(JI)I"⟩, 27), (⟨"HoleCountyModel", "fewestFilled", "(IJ)I"⟩, 27), (⟨"HoleCountyModel", "does", "(JIJ)Z"⟩, 27), (⟨"HoleCountyModel", "fewestDug", "(JJJ)I"⟩, 27)]
theorem lw_r3 : ∀ q ∈ lw_privs_3, lw_okq q := List.forall_mem_cons.mpr ⟨lw_p32, List.forall_mem_cons.mpr ⟨lw_p33, List.forall_mem_cons.mpr ⟨lw_p34, List.forall_mem_cons.mpr ⟨lw_p35, List.forall_mem_cons.mpr ⟨lw_p36, List.forall_mem_cons.mpr ⟨lw_p37, List.forall_mem_cons.mpr ⟨lw_p38, List.forall_mem_cons.mpr ⟨lw_p39, List.forall_mem_cons.mpr ⟨lw_p40, List.forall_mem_cons.mpr ⟨lw_p41, List.forall_mem_cons.mpr ⟨lw_p42, List.forall_mem_cons.mpr ⟨lw_p43, List.forall_mem_cons.mpr ⟨lw_p44, List.forall_mem_cons.mpr ⟨lw_p45, List.forall_mem_cons.mpr ⟨lw_p46, List.forall_mem_cons.mpr ⟨lw_p47, fun _ h => absurd h List.not_mem_nil⟩⟩⟩⟩⟩⟩⟩⟩⟩⟩⟩⟩⟩⟩⟩⟩
theorem lw_p48 : lw_okq (⟨"HoleCountyModel", "stepsOf", "(II)I"⟩, 27) := ⟨⟨by decide +kernel, by decide +kernel⟩, lw_t5 (List.mem_of_getElem? (i := 160) rfl), lw_t7 (List.mem_of_getElem? (i := 21) rfl), lw_t7 (List.mem_of_getElem? (i := 22) rfl)⟩
theorem lw_p49 : lw_okq (⟨"HoleCountyModel", "nextOrder", "(I)Z"⟩, 27) := ⟨⟨by decide +kernel, by decide +kernel⟩, lw_t5 (List.mem_of_getElem? (i := 160) rfl), lw_t7 (List.mem_of_getElem? (i := 25) rfl), lw_t7 (List.mem_of_getElem? (i := 26) rfl)⟩
theorem lw_p50 : lw_okq (⟨"HoleCountyModel", "nextDraw", "(I)I"⟩, 27) := ⟨⟨by decide +kernel, by decide +kernel⟩, lw_t5 (List.mem_of_getElem? (i := 160) rfl), lw_t7 (List.mem_of_getElem? (i := 47) rfl), lw_t7 (List.mem_of_getElem? (i := 48) rfl)⟩
theorem lw_p51 : lw_okq (⟨"HoleCountyModel", "carried", "(IIZ)I"⟩, 27) := ⟨⟨by decide +kernel, by decide +kernel⟩, lw_t5 (List.mem_of_getElem? (i := 160) rfl), lw_t7 (List.mem_of_getElem? (i := 63) rfl), lw_t7 (List.mem_of_getElem? (i := 64) rfl)⟩
theorem lw_p52 : lw_okq (⟨"HoleCountyModel", "lacksRow", "(IIII)I"⟩, 27) := ⟨⟨by decide +kernel, by decide +kernel⟩, lw_t5 (List.mem_of_getElem? (i := 160) rfl), lw_t7 (List.mem_of_getElem? (i := 86) rfl), lw_t7 (List.mem_of_getElem? (i := 87) rfl)⟩
def lw_privs_4 : List (MethodName × Nat) := [(⟨"HoleCountyModel", "stepsOf", "(II)I"⟩, 27), (⟨"HoleCountyModel", "nextOrder", "(I)Z"⟩, 27), (⟨"HoleCountyModel", "nextDraw", "(I)I"⟩, 27), (⟨"HoleCountyModel", "carried", "(IIZ)I"⟩, 27), (⟨"HoleCountyModel", "lacksRow", "(IIII)I"⟩, 27)]
theorem lw_r4 : ∀ q ∈ lw_privs_4, lw_okq q := List.forall_mem_cons.mpr ⟨lw_p48, List.forall_mem_cons.mpr ⟨lw_p49, List.forall_mem_cons.mpr ⟨lw_p50, List.forall_mem_cons.mpr ⟨lw_p51, List.forall_mem_cons.mpr ⟨lw_p52, fun _ h => absurd h List.not_mem_nil⟩⟩⟩⟩⟩
def lw_privs : List (MethodName × Nat) := lw_privs_1 ++ (lw_privs_2 ++ (lw_privs_3 ++ (lw_privs_4)))
def lw_tbl : List Cond := k2_sels lw_privs ++ tables_1
theorem lw_privs_ok : ∀ q ∈ lw_privs, lw_okq q := by
  show ∀ q ∈ lw_privs_1 ++ (lw_privs_2 ++ (lw_privs_3 ++ (lw_privs_4))), lw_okq q
  exact List.forall_mem_append.mpr ⟨lw_r1, List.forall_mem_append.mpr ⟨lw_r2, List.forall_mem_append.mpr ⟨lw_r3, lw_r4⟩⟩⟩
-- ===== ONE list of words for every method: the tables' words that hold all through a run =====
def lw_all : List Cond := lw_tbl.filter goodWord
/-- a word of the tables by its place: claim/WORDS.tsv -/
theorem lw_w {w : Cond} (i : Nat) (h : lw_tbl[i]? = some w) (g : goodWord w = true) : w ∈ lw_all := List.mem_filter.mpr ⟨List.mem_of_getElem? h, g⟩
theorem lw_all_tbl {w : Cond} (h : w ∈ lw_all) : w ∈ lw_tbl := (List.mem_filter.mp h).1
theorem lw_self : GoodIn lw_all lw_all := fun w h => ⟨h, good_of_word (List.mem_filter.mp h).2⟩
/-- a class's field words, by their places -/
theorem lw_in (ws : List Cond) (ps : List Nat) (hp : ws = ps.filterMap (fun i => lw_tbl[i]?)) (hg : ws.all goodWord = true) : ∀ w ∈ ws, w ∈ lw_all := by
  intro w h
  have h1 := List.all_eq_true.mp hg w h
  rw [hp] at h
  obtain ⟨i, -, hi⟩ := List.mem_filterMap.mp h
  exact lw_w i hi h1
/-- the words of a contract for the method y with code b, L locals, answer r -/
abbrev ws_ (y : MethodName) (b : ByteArray) (L : Nat) (r : Option FieldType) : List Cond := Cond.code y b L r :: lw_all
theorem lw_meth {y : MethodName} {b : ByteArray} {L : Nat} {r : Option FieldType} (h : Cond.code y b L r ∈ lw_all) : GoodIn lw_all (ws_ y b L r) := by
  intro w hw
  rcases List.mem_cons.mp hw with e | e
  · rw [e]
    exact lw_self _ h
  · exact lw_self _ e
theorem lw_app {a c : List Cond} (ha : ∀ w ∈ a, w ∈ lw_all) (hc : GoodIn lw_all c) : GoodIn lw_all (a ++ c) := by
  intro w hw
  rcases List.mem_append.mp hw with e | e
  · exact lw_self w (ha w e)
  · exact hc w e
/-- what a call through an object asks: cwV n hts (lw_V ..) -/
theorem lw_V {own : String} {idx : Nat} {C : String} {y : MethodName} {b : ByteArray} {L : Nat} {r : Option FieldType} (h1 : Cond.methodLink own idx y ∈ lw_all) (h2 : Cond.instanceMethod y ∈ lw_all) (h3 : Cond.selects C y y ∈ lw_all) (h4 : Cond.initialized C ∈ lw_all) (h5 : Cond.code y b L r ∈ lw_all) : GoodIn lw_all (wsV own idx C y (ws_ y b L r)) := by
  refine lw_app ?_ (lw_meth h5)
  intro w hw
  simp only [List.mem_cons, List.not_mem_nil, or_false] at hw
  rcases hw with e | e | e | e
  · rw [e]; exact h1
  · rw [e]; exact h2
  · rw [e]; exact h3
  · rw [e]; exact h4
/-- what a static call asks: va_cwS n hts (lw_S ..) -/
theorem lw_S {own : String} {idx : Nat} {y : MethodName} {b : ByteArray} {L : Nat} {r : Option FieldType} (h1 : Cond.methodLink own idx y ∈ lw_all) (h2 : Cond.static y ∈ lw_all) (h3 : Cond.initialized y.cls ∈ lw_all) (h4 : Cond.code y b L r ∈ lw_all) : GoodIn lw_all (va_wsS own idx y (ws_ y b L r)) := by
  refine lw_app ?_ (lw_meth h4)
  intro w hw
  simp only [List.mem_cons, List.not_mem_nil, or_false] at hw
  rcases hw with e | e | e
  · rw [e]; exact h1
  · rw [e]; exact h2
  · rw [e]; exact h3
/-- the words of a contract for a method WITH HANDLERS (hh: its table) -/
abbrev wsW_ (y : MethodName) (b : ByteArray) (L : Nat) (r : Option FieldType) (hh : List (Nat × Nat × Nat × Nat)) : List Cond := Cond.codeWith y b L r hh :: lw_all
theorem lw_methW {y : MethodName} {b : ByteArray} {L : Nat} {r : Option FieldType} {hh : List (Nat × Nat × Nat × Nat)} (h : Cond.codeWith y b L r hh ∈ lw_all) : GoodIn lw_all (wsW_ y b L r hh) := by
  intro w hw
  rcases List.mem_cons.mp hw with e | e
  · rw [e]
    exact lw_self _ h
  · exact lw_self _ e
/-- any list of words by their places (lw_in), good -/
theorem lw_good {ws : List Cond} (h : ∀ w ∈ ws, w ∈ lw_all) : GoodIn lw_all ws := fun w hw => lw_self w (h w hw)
/-- what a call of a method with handlers asks: vx_cwVW n hts (lw_VW ..), vx_cwSW n hts (lw_SW ..) -/
theorem lw_VW {own : String} {idx : Nat} {C : String} {y : MethodName} {b : ByteArray} {L : Nat} {r : Option FieldType} {hh : List (Nat × Nat × Nat × Nat)} (h1 : Cond.methodLink own idx y ∈ lw_all) (h2 : Cond.instanceMethod y ∈ lw_all) (h3 : Cond.selects C y y ∈ lw_all) (h4 : Cond.initialized C ∈ lw_all) (h5 : Cond.codeWith y b L r hh ∈ lw_all) : GoodIn lw_all (wsV own idx C y (wsW_ y b L r hh)) := by
  refine lw_app ?_ (lw_methW h5)
  intro w hw
  simp only [List.mem_cons, List.not_mem_nil, or_false] at hw
  rcases hw with e | e | e | e
  · rw [e]; exact h1
  · rw [e]; exact h2
  · rw [e]; exact h3
  · rw [e]; exact h4
theorem lw_SW {own : String} {idx : Nat} {y : MethodName} {b : ByteArray} {L : Nat} {r : Option FieldType} {hh : List (Nat × Nat × Nat × Nat)} (h1 : Cond.methodLink own idx y ∈ lw_all) (h2 : Cond.static y ∈ lw_all) (h3 : Cond.initialized y.cls ∈ lw_all) (h4 : Cond.codeWith y b L r hh ∈ lw_all) : GoodIn lw_all (va_wsS own idx y (wsW_ y b L r hh)) := by
  refine lw_app ?_ (lw_methW h4)
  intro w hw
  simp only [List.mem_cons, List.not_mem_nil, or_false] at hw
  rcases hw with e | e | e
  · rw [e]; exact h1
  · rw [e]; exact h2
  · rw [e]; exact h3
/-- a word by its place in its run of the tables -/
theorem lw_at {r : List Cond} (hr : ∀ w ∈ r, w ∈ lw_tbl) {w : Cond} (i : Nat) (h : r[i]? = some w) : w ∈ lw_tbl := hr w (List.mem_of_getElem? h)
theorem lw_g {w : Cond} (h : w ∈ lw_tbl) (g : goodWord w = true) : w ∈ lw_all := List.mem_filter.mpr ⟨h, g⟩
theorem lw_ms : ∀ w ∈ k2_sels lw_privs, w ∈ lw_tbl := fun w h => show w ∈ k2_sels lw_privs ++ tables_1 from List.mem_append_left _ h
theorem lw_m1 : ∀ w ∈ tables_1_1, w ∈ lw_tbl := fun w h => show w ∈ k2_sels lw_privs ++ tables_1 from List.mem_append_right (k2_sels lw_privs) (show w ∈ tables_1 from List.mem_append_left _ h)
theorem lw_m2 : ∀ w ∈ tables_1_2, w ∈ lw_tbl := fun w h => show w ∈ k2_sels lw_privs ++ tables_1 from List.mem_append_right (k2_sels lw_privs) (show w ∈ tables_1 from List.mem_append_right _ (List.mem_append_left _ h))
theorem lw_m3 : ∀ w ∈ tables_1_3, w ∈ lw_tbl := fun w h => show w ∈ k2_sels lw_privs ++ tables_1 from List.mem_append_right (k2_sels lw_privs) (show w ∈ tables_1 from List.mem_append_right _ (List.mem_append_right _ (List.mem_append_left _ h)))
theorem lw_m4 : ∀ w ∈ tables_1_4, w ∈ lw_tbl := fun w h => show w ∈ k2_sels lw_privs ++ tables_1 from List.mem_append_right (k2_sels lw_privs) (show w ∈ tables_1 from List.mem_append_right _ (List.mem_append_right _ (List.mem_append_right _ (List.mem_append_left _ h))))
theorem lw_m5 : ∀ w ∈ tables_1_5, w ∈ lw_tbl := fun w h => show w ∈ k2_sels lw_privs ++ tables_1 from List.mem_append_right (k2_sels lw_privs) (show w ∈ tables_1 from List.mem_append_right _ (List.mem_append_right _ (List.mem_append_right _ (List.mem_append_right _ (List.mem_append_left _ h)))))
theorem lw_m6 : ∀ w ∈ tables_1_6, w ∈ lw_tbl := fun w h => show w ∈ k2_sels lw_privs ++ tables_1 from List.mem_append_right (k2_sels lw_privs) (show w ∈ tables_1 from List.mem_append_right _ (List.mem_append_right _ (List.mem_append_right _ (List.mem_append_right _ (List.mem_append_right _ (List.mem_append_left _ h))))))
theorem lw_m7 : ∀ w ∈ tables_1_7, w ∈ lw_tbl := fun w h => show w ∈ k2_sels lw_privs ++ tables_1 from List.mem_append_right (k2_sels lw_privs) (show w ∈ tables_1 from List.mem_append_right _ (List.mem_append_right _ (List.mem_append_right _ (List.mem_append_right _ (List.mem_append_right _ (List.mem_append_right _ h))))))
theorem qs0 : (Cond.selects "java/util/ArrayList" ⟨"java/util/ArrayList", "fastRemove", "([Ljava/lang/Object;I)V"⟩ ⟨"java/util/ArrayList", "fastRemove", "([Ljava/lang/Object;I)V"⟩) ∈ lw_all := lw_g (lw_at lw_ms 0 rfl) rfl
theorem qs1 : (Cond.selects "java/util/ArrayList" ⟨"java/util/ArrayList", "add", "(Ljava/lang/Object;[Ljava/lang/Object;I)V"⟩ ⟨"java/util/ArrayList", "add", "(Ljava/lang/Object;[Ljava/lang/Object;I)V"⟩) ∈ lw_all := lw_g (lw_at lw_ms 1 rfl) rfl
theorem qs2 : (Cond.selects "java/util/ArrayList" ⟨"java/util/ArrayList", "grow", "()[Ljava/lang/Object;"⟩ ⟨"java/util/ArrayList", "grow", "()[Ljava/lang/Object;"⟩) ∈ lw_all := lw_g (lw_at lw_ms 2 rfl) rfl
theorem qs3 : (Cond.selects "java/util/ArrayList" ⟨"java/util/ArrayList", "grow", "(I)[Ljava/lang/Object;"⟩ ⟨"java/util/ArrayList", "grow", "(I)[Ljava/lang/Object;"⟩) ∈ lw_all := lw_g (lw_at lw_ms 3 rfl) rfl
theorem qs4 : (Cond.selects "HoleCounty$Ground" ⟨"HoleCounty$Ground", "isDeep", "(J)Z"⟩ ⟨"HoleCounty$Ground", "isDeep", "(J)Z"⟩) ∈ lw_all := lw_g (lw_at lw_ms 4 rfl) rfl
theorem qs5 : (Cond.selects "HoleCounty" ⟨"HoleCounty", "ownerOf", "(LHoleCounty$Pit;)I"⟩ ⟨"HoleCounty", "ownerOf", "(LHoleCounty$Pit;)I"⟩) ∈ lw_all := lw_g (lw_at lw_ms 5 rfl) rfl
theorem qs6 : (Cond.selects "HoleCounty" ⟨"HoleCounty", "rims", "(LHoleCounty$Pit;)[I"⟩ ⟨"HoleCounty", "rims", "(LHoleCounty$Pit;)[I"⟩) ∈ lw_all := lw_g (lw_at lw_ms 6 rfl) rfl
theorem qs7 : (Cond.selects "HoleCounty" ⟨"HoleCounty", "nested", "(LHoleCounty$Pit;)I"⟩ ⟨"HoleCounty", "nested", "(LHoleCounty$Pit;)I"⟩) ∈ lw_all := lw_g (lw_at lw_ms 7 rfl) rfl
theorem qs8 : (Cond.selects "HoleCounty" ⟨"HoleCounty", "partOf", "(LHoleCounty$Pit;I)I"⟩ ⟨"HoleCounty", "partOf", "(LHoleCounty$Pit;I)I"⟩) ∈ lw_all := lw_g (lw_at lw_ms 8 rfl) rfl
theorem qs9 : (Cond.selects "java/lang/NullPointerException" ⟨"java/lang/NullPointerException", "getExtendedNPEMessage", "()Ljava/lang/String;"⟩ ⟨"java/lang/NullPointerException", "getExtendedNPEMessage", "()Ljava/lang/String;"⟩) ∈ lw_all := lw_g (lw_at lw_ms 9 rfl) rfl
theorem qs10 : (Cond.selects "java/lang/Throwable" ⟨"java/lang/Throwable", "fillInStackTrace", "(I)Ljava/lang/Throwable;"⟩ ⟨"java/lang/Throwable", "fillInStackTrace", "(I)Ljava/lang/Throwable;"⟩) ∈ lw_all := lw_g (lw_at lw_ms 10 rfl) rfl
theorem qs11 : (Cond.selects "HoleCounty" ⟨"HoleCounty", "fewestFilled", "(I)I"⟩ ⟨"HoleCounty", "fewestFilled", "(I)I"⟩) ∈ lw_all := lw_g (lw_at lw_ms 11 rfl) rfl
theorem qs12 : (Cond.selects "HoleCounty" ⟨"HoleCounty", "isTaxed", "(JI)Z"⟩ ⟨"HoleCounty", "isTaxed", "(JI)Z"⟩) ∈ lw_all := lw_g (lw_at lw_ms 12 rfl) rfl
theorem qs13 : (Cond.selects "HoleCounty" ⟨"HoleCounty", "goes", "(Ljava/util/ArrayList;IIII)V"⟩ ⟨"HoleCounty", "goes", "(Ljava/util/ArrayList;IIII)V"⟩) ∈ lw_all := lw_g (lw_at lw_ms 13 rfl) rfl
theorem qs14 : (Cond.selects "HoleCounty" ⟨"HoleCounty", "drawn", "(I)I"⟩ ⟨"HoleCounty", "drawn", "(I)I"⟩) ∈ lw_all := lw_g (lw_at lw_ms 14 rfl) rfl
theorem qs15 : (Cond.selects "HoleCounty" ⟨"HoleCounty", "must", "(I)V"⟩ ⟨"HoleCounty", "must", "(I)V"⟩) ∈ lw_all := lw_g (lw_at lw_ms 15 rfl) rfl
theorem qs16 : (Cond.selects "HoleCounty" ⟨"HoleCounty", "passes", "(I)Z"⟩ ⟨"HoleCounty", "passes", "(I)Z"⟩) ∈ lw_all := lw_g (lw_at lw_ms 16 rfl) rfl
theorem qs17 : (Cond.selects "HoleCounty" ⟨"HoleCounty", "here", "()I"⟩ ⟨"HoleCounty", "here", "()I"⟩) ∈ lw_all := lw_g (lw_at lw_ms 17 rfl) rfl
theorem qs18 : (Cond.selects "HoleCounty" ⟨"HoleCounty", "figure", "(I)I"⟩ ⟨"HoleCounty", "figure", "(I)I"⟩) ∈ lw_all := lw_g (lw_at lw_ms 18 rfl) rfl
theorem qs19 : (Cond.selects "HoleCounty" ⟨"HoleCounty", "ends", "()V"⟩ ⟨"HoleCounty", "ends", "()V"⟩) ∈ lw_all := lw_g (lw_at lw_ms 19 rfl) rfl
theorem qs20 : (Cond.selects "HoleCounty" ⟨"HoleCounty", "letter", "(Ljava/lang/String;)I"⟩ ⟨"HoleCounty", "letter", "(Ljava/lang/String;)I"⟩) ∈ lw_all := lw_g (lw_at lw_ms 20 rfl) rfl
theorem qs21 : (Cond.selects "HoleCounty" ⟨"HoleCounty", "does", "(I)I"⟩ ⟨"HoleCounty", "does", "(I)I"⟩) ∈ lw_all := lw_g (lw_at lw_ms 21 rfl) rfl
theorem qs22 : (Cond.selects "HoleCounty" ⟨"HoleCounty", "refusal", "(IIII)I"⟩ ⟨"HoleCounty", "refusal", "(IIII)I"⟩) ∈ lw_all := lw_g (lw_at lw_ms 22 rfl) rfl
theorem qs23 : (Cond.selects "HoleCounty" ⟨"HoleCounty", "looksAt", "(Ljava/lang/Object;III)V"⟩ ⟨"HoleCounty", "looksAt", "(Ljava/lang/Object;III)V"⟩) ∈ lw_all := lw_g (lw_at lw_ms 23 rfl) rfl
theorem qs24 : (Cond.selects "HoleCounty" ⟨"HoleCounty", "isCounted", "(JJ)Z"⟩ ⟨"HoleCounty", "isCounted", "(JJ)Z"⟩) ∈ lw_all := lw_g (lw_at lw_ms 24 rfl) rfl
theorem qs25 : (Cond.selects "HoleCountyModel" ⟨"HoleCountyModel", "note", "(I)V"⟩ ⟨"HoleCountyModel", "note", "(I)V"⟩) ∈ lw_all := lw_g (lw_at lw_ms 25 rfl) rfl
theorem qs26 : (Cond.selects "HoleCountyModel" ⟨"HoleCountyModel", "put", "(IIZ)V"⟩ ⟨"HoleCountyModel", "put", "(IIZ)V"⟩) ∈ lw_all := lw_g (lw_at lw_ms 26 rfl) rfl
theorem qs27 : (Cond.selects "HoleCountyModel" ⟨"HoleCountyModel", "look", "()V"⟩ ⟨"HoleCountyModel", "look", "()V"⟩) ∈ lw_all := lw_g (lw_at lw_ms 27 rfl) rfl
theorem qs28 : (Cond.selects "HoleCountyModel" ⟨"HoleCountyModel", "holeAt", "(I)J"⟩ ⟨"HoleCountyModel", "holeAt", "(I)J"⟩) ∈ lw_all := lw_g (lw_at lw_ms 28 rfl) rfl
theorem qs29 : (Cond.selects "HoleCountyModel" ⟨"HoleCountyModel", "readGround", "()Z"⟩ ⟨"HoleCountyModel", "readGround", "()Z"⟩) ∈ lw_all := lw_g (lw_at lw_ms 29 rfl) rfl
theorem qs30 : (Cond.selects "HoleCountyModel" ⟨"HoleCountyModel", "takes", "(I)Z"⟩ ⟨"HoleCountyModel", "takes", "(I)Z"⟩) ∈ lw_all := lw_g (lw_at lw_ms 30 rfl) rfl
theorem qs31 : (Cond.selects "HoleCountyModel" ⟨"HoleCountyModel", "nextLetter", "()I"⟩ ⟨"HoleCountyModel", "nextLetter", "()I"⟩) ∈ lw_all := lw_g (lw_at lw_ms 31 rfl) rfl
theorem qs32 : (Cond.selects "HoleCountyModel" ⟨"HoleCountyModel", "end", "(Z)I"⟩ ⟨"HoleCountyModel", "end", "(Z)I"⟩) ∈ lw_all := lw_g (lw_at lw_ms 32 rfl) rfl
theorem qs33 : (Cond.selects "HoleCountyModel" ⟨"HoleCountyModel", "findHoles", "()V"⟩ ⟨"HoleCountyModel", "findHoles", "()V"⟩) ∈ lw_all := lw_g (lw_at lw_ms 33 rfl) rfl
theorem qs34 : (Cond.selects "HoleCountyModel" ⟨"HoleCountyModel", "readOwners", "()Z"⟩ ⟨"HoleCountyModel", "readOwners", "()Z"⟩) ∈ lw_all := lw_g (lw_at lw_ms 34 rfl) rfl
theorem qs35 : (Cond.selects "HoleCountyModel" ⟨"HoleCountyModel", "readDay", "()Z"⟩ ⟨"HoleCountyModel", "readDay", "()Z"⟩) ∈ lw_all := lw_g (lw_at lw_ms 35 rfl) rfl
theorem qs36 : (Cond.selects "HoleCountyModel" ⟨"HoleCountyModel", "readAct", "()Z"⟩ ⟨"HoleCountyModel", "readAct", "()Z"⟩) ∈ lw_all := lw_g (lw_at lw_ms 36 rfl) rfl
theorem qs37 : (Cond.selects "HoleCountyModel" ⟨"HoleCountyModel", "taxOfAll", "()I"⟩ ⟨"HoleCountyModel", "taxOfAll", "()I"⟩) ∈ lw_all := lw_g (lw_at lw_ms 37 rfl) rfl
theorem qs38 : (Cond.selects "HoleCountyModel" ⟨"HoleCountyModel", "taxOf", "(J)I"⟩ ⟨"HoleCountyModel", "taxOf", "(J)I"⟩) ∈ lw_all := lw_g (lw_at lw_ms 38 rfl) rfl
theorem qs39 : (Cond.selects "HoleCountyModel" ⟨"HoleCountyModel", "kindOf", "(J)I"⟩ ⟨"HoleCountyModel", "kindOf", "(J)I"⟩) ∈ lw_all := lw_g (lw_at lw_ms 39 rfl) rfl
theorem qs40 : (Cond.selects "HoleCountyModel" ⟨"HoleCountyModel", "rimOf", "(J)J"⟩ ⟨"HoleCountyModel", "rimOf", "(J)J"⟩) ∈ lw_all := lw_g (lw_at lw_ms 40 rfl) rfl
theorem qs41 : (Cond.selects "HoleCountyModel" ⟨"HoleCountyModel", "ownerOf", "(J)I"⟩ ⟨"HoleCountyModel", "ownerOf", "(J)I"⟩) ∈ lw_all := lw_g (lw_at lw_ms 41 rfl) rfl
theorem qs42 : (Cond.selects "HoleCountyModel" ⟨"HoleCountyModel", "owned", "(I)J"⟩ ⟨"HoleCountyModel", "owned", "(I)J"⟩) ∈ lw_all := lw_g (lw_at lw_ms 42 rfl) rfl
theorem qs43 : (Cond.selects "HoleCountyModel" ⟨"HoleCountyModel", "nestedOf", "(J)I"⟩ ⟨"HoleCountyModel", "nestedOf", "(J)I"⟩) ∈ lw_all := lw_g (lw_at lw_ms 43 rfl) rfl
theorem qs44 : (Cond.selects "HoleCountyModel" ⟨"HoleCountyModel", "partOf", "(JI)I"⟩ ⟨"HoleCountyModel", "partOf", "(JI)I"⟩) ∈ lw_all := lw_g (lw_at lw_ms 44 rfl) rfl
theorem qs45 : (Cond.selects "HoleCountyModel" ⟨"HoleCountyModel", "fewestFilled", "(IJ)I"⟩ ⟨"HoleCountyModel", "fewestFilled", "(IJ)I"⟩) ∈ lw_all := lw_g (lw_at lw_ms 45 rfl) rfl
theorem qs46 : (Cond.selects "HoleCountyModel" ⟨"HoleCountyModel", "does", "(JIJ)Z"⟩ ⟨"HoleCountyModel", "does", "(JIJ)Z"⟩) ∈ lw_all := lw_g (lw_at lw_ms 46 rfl) rfl
theorem qs47 : (Cond.selects "HoleCountyModel" ⟨"HoleCountyModel", "fewestDug", "(JJJ)I"⟩ ⟨"HoleCountyModel", "fewestDug", "(JJJ)I"⟩) ∈ lw_all := lw_g (lw_at lw_ms 47 rfl) rfl
theorem qs48 : (Cond.selects "HoleCountyModel" ⟨"HoleCountyModel", "stepsOf", "(II)I"⟩ ⟨"HoleCountyModel", "stepsOf", "(II)I"⟩) ∈ lw_all := lw_g (lw_at lw_ms 48 rfl) rfl
theorem qs49 : (Cond.selects "HoleCountyModel" ⟨"HoleCountyModel", "nextOrder", "(I)Z"⟩ ⟨"HoleCountyModel", "nextOrder", "(I)Z"⟩) ∈ lw_all := lw_g (lw_at lw_ms 49 rfl) rfl
theorem qs50 : (Cond.selects "HoleCountyModel" ⟨"HoleCountyModel", "nextDraw", "(I)I"⟩ ⟨"HoleCountyModel", "nextDraw", "(I)I"⟩) ∈ lw_all := lw_g (lw_at lw_ms 50 rfl) rfl
theorem qs51 : (Cond.selects "HoleCountyModel" ⟨"HoleCountyModel", "carried", "(IIZ)I"⟩ ⟨"HoleCountyModel", "carried", "(IIZ)I"⟩) ∈ lw_all := lw_g (lw_at lw_ms 51 rfl) rfl
theorem qs52 : (Cond.selects "HoleCountyModel" ⟨"HoleCountyModel", "lacksRow", "(IIII)I"⟩ ⟨"HoleCountyModel", "lacksRow", "(IIII)I"⟩) ∈ lw_all := lw_g (lw_at lw_ms 52 rfl) rfl
