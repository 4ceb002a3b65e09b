/-! HoleCounty -/
set_option maxRecDepth 100000
def RX0 : String := "HoleCounty"
def TX0 : u_T := fun k => match k with
  | 0 => ("HoleCounty", "ground", "LHoleCounty$Ground;", true)
  | 1 => ("HoleCounty", "tried", "LHoleCounty$Ground;", true)
  | 2 => ("HoleCounty", "owners", "[B", true)
  | 3 => ("HoleCounty", "undos", "Ljava/util/ArrayList;", true)
  | 4 => ("HoleCounty", "tour", "[I", true)
  | 5 => ("HoleCounty", "best", "[I", true)
  | 6 => ("HoleCounty", "steps", "I", false)
  | 7 => ("HoleCounty", "draw", "I", false)
  | 8 => ("HoleCounty", "tape", "[B", true)
  | 9 => ("HoleCounty", "typed", "I", false)
  | 10 => ("HoleCounty", "at", "I", false)
  | 11 => ("HoleCounty", "read", "LHoleCounty$Ground;", true)
  | 12 => ("HoleCounty", "signs", "[B", true)
  | 13 => ("HoleCounty", "acts", "[B", true)
  | 14 => ("HoleCounty", "isImage", "Z", false)
  | 15 => ("HoleCounty", "image", "LHoleCounty$Ground;", true)
  | 16 => ("HoleCounty", "imageOwners", "[B", true)
  | 17 => ("HoleCounty", "imageUndos", "Ljava/util/ArrayList;", true)
  | 18 => ("HoleCounty", "imageDraw", "I", false)
  | 19 => ("HoleCounty", "sheets", "[LHoleCounty$Held;", true)
  | _ => ("HoleCounty", "taken", "[J", true)
def tyX0 : Nat → FieldType := fun k => match k with
  | 0 => .object "HoleCounty$Ground"
  | 1 => .object "HoleCounty$Ground"
  | 2 => .array .byte
  | 3 => .object "java/util/ArrayList"
  | 4 => .array .int
  | 5 => .array .int
  | 6 => .int
  | 7 => .int
  | 8 => .array .byte
  | 9 => .int
  | 10 => .int
  | 11 => .object "HoleCounty$Ground"
  | 12 => .array .byte
  | 13 => .array .byte
  | 14 => .boolean
  | 15 => .object "HoleCounty$Ground"
  | 16 => .array .byte
  | 17 => .object "java/util/ArrayList"
  | 18 => .int
  | 19 => .array (.object "HoleCounty$Held")
  | _ => .array .long
abbrev wsX00 : List Cond := u_ws RX0 TX0 21
set_option maxRecDepth 100000 in
theorem nmX0 : ∀ a, a < 21 → ∀ b, b < 21 → a ≠ b → (TX0 a).2.1 ≠ (TX0 b).2.1 := by decide +kernel
set_option maxRecDepth 100000 in
theorem tyX0_ok : ∀ k, k < 21 → parseFieldDescriptor (TX0 k).2.2.1 = some (tyX0 k) := by decide +kernel
abbrev cX0_dig : ByteArray := prog_1_method_11_code
def yX0_dig : MethodName := ⟨RX0, "dig", "(I)I"⟩
def dkwX0_dig_2 : List UInt8 := [51, 4, 96, 145, 84, 42, 180, 0, 38, 180, 0, 42, 27, 51, 172]
abbrev dktX0_dig_2 : List UInt8 := dkwX0_dig_2 ++ []
def dkwX0_dig_1 : List UInt8 := [16, 253, 172, 187, 0, 48, 89, 42, 27, 183, 0, 50, 182, 0, 54, 42, 180, 0, 38, 180, 0, 42, 27, 92]
abbrev dktX0_dig_1 : List UInt8 := dkwX0_dig_1 ++ dktX0_dig_2
def dkwX0_dig_0 : List UInt8 := [27, 184, 0, 34, 154, 0, 5, 2, 172, 42, 180, 0, 38, 180, 0, 42, 27, 51, 16, 9, 160, 0, 6]
abbrev dktX0_dig_0 : List UInt8 := dkwX0_dig_0 ++ dktX0_dig_1
theorem dksX0_dig_0 : cX0_dig.data.toList.drop 0 = dktX0_dig_0 := by decide +kernel
theorem dksX0_dig_1 : cX0_dig.data.toList.drop 23 = dktX0_dig_1 := dk_seg dksX0_dig_0 23 rfl rfl
theorem dksX0_dig_2 : cX0_dig.data.toList.drop 47 = dktX0_dig_2 := dk_seg dksX0_dig_1 24 rfl rfl
theorem dX0_dig_0 : decode cX0_dig 0 = .ok (.iload_n 1, 1) := dk_27 (dk_at dksX0_dig_0 0 rfl rfl)
theorem dX0_dig_1 : decode cX0_dig 1 = .ok (.invokestatic 34, 3) := dk_184 0 34 (dk_at dksX0_dig_0 1 rfl rfl)
theorem dX0_dig_4 : decode cX0_dig 4 = .ok (.ifCond .ne 5, 3) := dk_154 0 5 (dk_at dksX0_dig_0 4 rfl rfl)
theorem dX0_dig_7 : decode cX0_dig 7 = .ok (.iconst (-1), 1) := dk_2 (dk_at dksX0_dig_0 7 rfl rfl)
theorem dX0_dig_8 : decode cX0_dig 8 = .ok (.ireturn, 1) := dk_172 (dk_at dksX0_dig_0 8 rfl rfl)
theorem dX0_dig_9 : decode cX0_dig 9 = .ok (.aload_n 0, 1) := dk_42 (dk_at dksX0_dig_0 9 rfl rfl)
theorem dX0_dig_10 : decode cX0_dig 10 = .ok (.getfield 38, 3) := dk_180 0 38 (dk_at dksX0_dig_0 10 rfl rfl)
theorem dX0_dig_13 : decode cX0_dig 13 = .ok (.getfield 42, 3) := dk_180 0 42 (dk_at dksX0_dig_0 13 rfl rfl)
theorem dX0_dig_16 : decode cX0_dig 16 = .ok (.iload_n 1, 1) := dk_27 (dk_at dksX0_dig_0 16 rfl rfl)
theorem dX0_dig_17 : decode cX0_dig 17 = .ok (.baload, 1) := dk_51 (dk_at dksX0_dig_0 17 rfl rfl)
theorem dX0_dig_18 : decode cX0_dig 18 = .ok (.bipush 9, 2) := dk_16 9 (dk_at dksX0_dig_0 18 rfl rfl)
theorem dX0_dig_20 : decode cX0_dig 20 = .ok (.if_icmp .ne 6, 3) := dk_160 0 6 (dk_at dksX0_dig_0 20 rfl rfl)
theorem dX0_dig_23 : decode cX0_dig 23 = .ok (.bipush (-3), 2) := dk_16 253 (dk_at dksX0_dig_1 0 rfl rfl)
theorem dX0_dig_25 : decode cX0_dig 25 = .ok (.ireturn, 1) := dk_172 (dk_at dksX0_dig_1 2 rfl rfl)
theorem dX0_dig_26 : decode cX0_dig 26 = .ok (.new 48, 3) := dk_187 0 48 (dk_at dksX0_dig_1 3 rfl rfl)
theorem dX0_dig_29 : decode cX0_dig 29 = .ok (.dup, 1) := dk_89 (dk_at dksX0_dig_1 6 rfl rfl)
theorem dX0_dig_30 : decode cX0_dig 30 = .ok (.aload_n 0, 1) := dk_42 (dk_at dksX0_dig_1 7 rfl rfl)
theorem dX0_dig_31 : decode cX0_dig 31 = .ok (.iload_n 1, 1) := dk_27 (dk_at dksX0_dig_1 8 rfl rfl)
theorem dX0_dig_32 : decode cX0_dig 32 = .ok (.invokespecial 50, 3) := dk_183 0 50 (dk_at dksX0_dig_1 9 rfl rfl)
theorem dX0_dig_35 : decode cX0_dig 35 = .ok (.invokevirtual 54, 3) := dk_182 0 54 (dk_at dksX0_dig_1 12 rfl rfl)
theorem dX0_dig_38 : decode cX0_dig 38 = .ok (.aload_n 0, 1) := dk_42 (dk_at dksX0_dig_1 15 rfl rfl)
theorem dX0_dig_39 : decode cX0_dig 39 = .ok (.getfield 38, 3) := dk_180 0 38 (dk_at dksX0_dig_1 16 rfl rfl)
theorem dX0_dig_42 : decode cX0_dig 42 = .ok (.getfield 42, 3) := dk_180 0 42 (dk_at dksX0_dig_1 19 rfl rfl)
theorem dX0_dig_45 : decode cX0_dig 45 = .ok (.iload_n 1, 1) := dk_27 (dk_at dksX0_dig_1 22 rfl rfl)
theorem dX0_dig_46 : decode cX0_dig 46 = .ok (.dup2, 1) := dk_92 (dk_at dksX0_dig_1 23 rfl rfl)
theorem dX0_dig_47 : decode cX0_dig 47 = .ok (.baload, 1) := dk_51 (dk_at dksX0_dig_2 0 rfl rfl)
theorem dX0_dig_48 : decode cX0_dig 48 = .ok (.iconst 1, 1) := dk_4 (dk_at dksX0_dig_2 1 rfl rfl)
theorem dX0_dig_49 : decode cX0_dig 49 = .ok (.iadd, 1) := dk_96 (dk_at dksX0_dig_2 2 rfl rfl)
theorem dX0_dig_50 : decode cX0_dig 50 = .ok (.i2b, 1) := dk_145 (dk_at dksX0_dig_2 3 rfl rfl)
theorem dX0_dig_51 : decode cX0_dig 51 = .ok (.bastore, 1) := dk_84 (dk_at dksX0_dig_2 4 rfl rfl)
theorem dX0_dig_52 : decode cX0_dig 52 = .ok (.aload_n 0, 1) := dk_42 (dk_at dksX0_dig_2 5 rfl rfl)
theorem dX0_dig_53 : decode cX0_dig 53 = .ok (.getfield 38, 3) := dk_180 0 38 (dk_at dksX0_dig_2 6 rfl rfl)
theorem dX0_dig_56 : decode cX0_dig 56 = .ok (.getfield 42, 3) := dk_180 0 42 (dk_at dksX0_dig_2 9 rfl rfl)
theorem dX0_dig_59 : decode cX0_dig 59 = .ok (.iload_n 1, 1) := dk_27 (dk_at dksX0_dig_2 12 rfl rfl)
theorem dX0_dig_60 : decode cX0_dig 60 = .ok (.baload, 1) := dk_51 (dk_at dksX0_dig_2 13 rfl rfl)
theorem dX0_dig_61 : decode cX0_dig 61 = .ok (.ireturn, 1) := dk_172 (dk_at dksX0_dig_2 14 rfl rfl)
abbrev cX0_isCell : ByteArray := prog_1_method_2_code
def yX0_isCell : MethodName := ⟨RX0, "isCell", "(I)Z"⟩
def dkwX0_isCell_0 : List UInt8 := [26, 133, 9, 20, 0, 3, 184, 0, 5, 172]
abbrev dktX0_isCell_0 : List UInt8 := dkwX0_isCell_0 ++ []
theorem dksX0_isCell_0 : cX0_isCell.data.toList.drop 0 = dktX0_isCell_0 := by decide +kernel
theorem dX0_isCell_0 : decode cX0_isCell 0 = .ok (.iload_n 0, 1) := dk_26 (dk_at dksX0_isCell_0 0 rfl rfl)
theorem dX0_isCell_1 : decode cX0_isCell 1 = .ok (.i2l, 1) := dk_133 (dk_at dksX0_isCell_0 1 rfl rfl)
theorem dX0_isCell_2 : decode cX0_isCell 2 = .ok (.lconst 0, 1) := dk_9 (dk_at dksX0_isCell_0 2 rfl rfl)
theorem dX0_isCell_3 : decode cX0_isCell 3 = .ok (.ldc2_w 3, 3) := dk_20 0 3 (dk_at dksX0_isCell_0 3 rfl rfl)
theorem dX0_isCell_6 : decode cX0_isCell 6 = .ok (.invokestatic 5, 3) := dk_184 0 5 (dk_at dksX0_isCell_0 6 rfl rfl)
theorem dX0_isCell_9 : decode cX0_isCell 9 = .ok (.ireturn, 1) := dk_172 (dk_at dksX0_isCell_0 9 rfl rfl)
abbrev cX0_in : ByteArray := prog_1_method_1_code
def yX0_in : MethodName := ⟨RX0, "in", "(JJJ)Z"⟩
def dkwX0_in_0 : List UInt8 := [30, 32, 148, 155, 0, 14, 30, 22, 4, 148, 157, 0, 7, 4, 167, 0, 4, 3, 172]
abbrev dktX0_in_0 : List UInt8 := dkwX0_in_0 ++ []
theorem dksX0_in_0 : cX0_in.data.toList.drop 0 = dktX0_in_0 := by decide +kernel
theorem dX0_in_0 : decode cX0_in 0 = .ok (.lload_n 0, 1) := dk_30 (dk_at dksX0_in_0 0 rfl rfl)
theorem dX0_in_1 : decode cX0_in 1 = .ok (.lload_n 2, 1) := dk_32 (dk_at dksX0_in_0 1 rfl rfl)
theorem dX0_in_2 : decode cX0_in 2 = .ok (.lcmp, 1) := dk_148 (dk_at dksX0_in_0 2 rfl rfl)
theorem dX0_in_3 : decode cX0_in 3 = .ok (.ifCond .lt 14, 3) := dk_155 0 14 (dk_at dksX0_in_0 3 rfl rfl)
theorem dX0_in_6 : decode cX0_in 6 = .ok (.lload_n 0, 1) := dk_30 (dk_at dksX0_in_0 6 rfl rfl)
theorem dX0_in_7 : decode cX0_in 7 = .ok (.lload 4, 2) := dk_22 4 (dk_at dksX0_in_0 7 rfl rfl)
theorem dX0_in_9 : decode cX0_in 9 = .ok (.lcmp, 1) := dk_148 (dk_at dksX0_in_0 9 rfl rfl)
theorem dX0_in_10 : decode cX0_in 10 = .ok (.ifCond .gt 7, 3) := dk_157 0 7 (dk_at dksX0_in_0 10 rfl rfl)
theorem dX0_in_13 : decode cX0_in 13 = .ok (.iconst 1, 1) := dk_4 (dk_at dksX0_in_0 13 rfl rfl)
theorem dX0_in_14 : decode cX0_in 14 = .ok (.goto 4, 3) := dk_167 0 4 (dk_at dksX0_in_0 14 rfl rfl)
theorem dX0_in_17 : decode cX0_in 17 = .ok (.iconst 0, 1) := dk_3 (dk_at dksX0_in_0 17 rfl rfl)
theorem dX0_in_18 : decode cX0_in 18 = .ok (.ireturn, 1) := dk_172 (dk_at dksX0_in_0 18 rfl rfl)
abbrev cX0_has : ByteArray := prog_1_method_5_code
def yX0_has : MethodName := ⟨RX0, "has", "(JI)Z"⟩
def dkwX0_has_0 : List UInt8 := [30, 28, 123, 10, 127, 10, 148, 154, 0, 7, 4, 167, 0, 4, 3, 172]
abbrev dktX0_has_0 : List UInt8 := dkwX0_has_0 ++ []
theorem dksX0_has_0 : cX0_has.data.toList.drop 0 = dktX0_has_0 := by decide +kernel
theorem dX0_has_0 : decode cX0_has 0 = .ok (.lload_n 0, 1) := dk_30 (dk_at dksX0_has_0 0 rfl rfl)
theorem dX0_has_1 : decode cX0_has 1 = .ok (.iload_n 2, 1) := dk_28 (dk_at dksX0_has_0 1 rfl rfl)
theorem dX0_has_2 : decode cX0_has 2 = .ok (.lshr, 1) := dk_123 (dk_at dksX0_has_0 2 rfl rfl)
theorem dX0_has_3 : decode cX0_has 3 = .ok (.lconst 1, 1) := dk_10 (dk_at dksX0_has_0 3 rfl rfl)
theorem dX0_has_4 : decode cX0_has 4 = .ok (.land, 1) := dk_127 (dk_at dksX0_has_0 4 rfl rfl)
theorem dX0_has_5 : decode cX0_has 5 = .ok (.lconst 1, 1) := dk_10 (dk_at dksX0_has_0 5 rfl rfl)
theorem dX0_has_6 : decode cX0_has 6 = .ok (.lcmp, 1) := dk_148 (dk_at dksX0_has_0 6 rfl rfl)
theorem dX0_has_7 : decode cX0_has 7 = .ok (.ifCond .ne 7, 3) := dk_154 0 7 (dk_at dksX0_has_0 7 rfl rfl)
theorem dX0_has_10 : decode cX0_has 10 = .ok (.iconst 1, 1) := dk_4 (dk_at dksX0_has_0 10 rfl rfl)
theorem dX0_has_11 : decode cX0_has 11 = .ok (.goto 4, 3) := dk_167 0 4 (dk_at dksX0_has_0 11 rfl rfl)
theorem dX0_has_14 : decode cX0_has 14 = .ok (.iconst 0, 1) := dk_3 (dk_at dksX0_has_0 14 rfl rfl)
theorem dX0_has_15 : decode cX0_has 15 = .ok (.ireturn, 1) := dk_172 (dk_at dksX0_has_0 15 rfl rfl)
abbrev cX0_fill : ByteArray := prog_1_method_12_code
def yX0_fill : MethodName := ⟨RX0, "fill", "(I)I"⟩
def dkwX0_fill_2 : List UInt8 := [182, 0, 58, 28, 172]
abbrev dktX0_fill_2 : List UInt8 := dkwX0_fill_2 ++ []
def dkwX0_fill_1 : List UInt8 := [16, 254, 172, 187, 0, 48, 89, 42, 27, 183, 0, 50, 182, 0, 54, 42, 180, 0, 38, 10, 27, 121, 3]
abbrev dktX0_fill_1 : List UInt8 := dkwX0_fill_1 ++ dktX0_fill_2
def dkwX0_fill_0 : List UInt8 := [27, 184, 0, 34, 154, 0, 5, 2, 172, 42, 180, 0, 38, 180, 0, 42, 27, 51, 61, 28, 154, 0, 6]
abbrev dktX0_fill_0 : List UInt8 := dkwX0_fill_0 ++ dktX0_fill_1
theorem dksX0_fill_0 : cX0_fill.data.toList.drop 0 = dktX0_fill_0 := by decide +kernel
theorem dksX0_fill_1 : cX0_fill.data.toList.drop 23 = dktX0_fill_1 := dk_seg dksX0_fill_0 23 rfl rfl
theorem dksX0_fill_2 : cX0_fill.data.toList.drop 46 = dktX0_fill_2 := dk_seg dksX0_fill_1 23 rfl rfl
theorem dX0_fill_0 : decode cX0_fill 0 = .ok (.iload_n 1, 1) := dk_27 (dk_at dksX0_fill_0 0 rfl rfl)
theorem dX0_fill_1 : decode cX0_fill 1 = .ok (.invokestatic 34, 3) := dk_184 0 34 (dk_at dksX0_fill_0 1 rfl rfl)
theorem dX0_fill_4 : decode cX0_fill 4 = .ok (.ifCond .ne 5, 3) := dk_154 0 5 (dk_at dksX0_fill_0 4 rfl rfl)
theorem dX0_fill_7 : decode cX0_fill 7 = .ok (.iconst (-1), 1) := dk_2 (dk_at dksX0_fill_0 7 rfl rfl)
theorem dX0_fill_8 : decode cX0_fill 8 = .ok (.ireturn, 1) := dk_172 (dk_at dksX0_fill_0 8 rfl rfl)
theorem dX0_fill_9 : decode cX0_fill 9 = .ok (.aload_n 0, 1) := dk_42 (dk_at dksX0_fill_0 9 rfl rfl)
theorem dX0_fill_10 : decode cX0_fill 10 = .ok (.getfield 38, 3) := dk_180 0 38 (dk_at dksX0_fill_0 10 rfl rfl)
theorem dX0_fill_13 : decode cX0_fill 13 = .ok (.getfield 42, 3) := dk_180 0 42 (dk_at dksX0_fill_0 13 rfl rfl)
theorem dX0_fill_16 : decode cX0_fill 16 = .ok (.iload_n 1, 1) := dk_27 (dk_at dksX0_fill_0 16 rfl rfl)
theorem dX0_fill_17 : decode cX0_fill 17 = .ok (.baload, 1) := dk_51 (dk_at dksX0_fill_0 17 rfl rfl)
theorem dX0_fill_18 : decode cX0_fill 18 = .ok (.istore_n 2, 1) := dk_61 (dk_at dksX0_fill_0 18 rfl rfl)
theorem dX0_fill_19 : decode cX0_fill 19 = .ok (.iload_n 2, 1) := dk_28 (dk_at dksX0_fill_0 19 rfl rfl)
theorem dX0_fill_20 : decode cX0_fill 20 = .ok (.ifCond .ne 6, 3) := dk_154 0 6 (dk_at dksX0_fill_0 20 rfl rfl)
theorem dX0_fill_23 : decode cX0_fill 23 = .ok (.bipush (-2), 2) := dk_16 254 (dk_at dksX0_fill_1 0 rfl rfl)
theorem dX0_fill_25 : decode cX0_fill 25 = .ok (.ireturn, 1) := dk_172 (dk_at dksX0_fill_1 2 rfl rfl)
theorem dX0_fill_26 : decode cX0_fill 26 = .ok (.new 48, 3) := dk_187 0 48 (dk_at dksX0_fill_1 3 rfl rfl)
theorem dX0_fill_29 : decode cX0_fill 29 = .ok (.dup, 1) := dk_89 (dk_at dksX0_fill_1 6 rfl rfl)
theorem dX0_fill_30 : decode cX0_fill 30 = .ok (.aload_n 0, 1) := dk_42 (dk_at dksX0_fill_1 7 rfl rfl)
theorem dX0_fill_31 : decode cX0_fill 31 = .ok (.iload_n 1, 1) := dk_27 (dk_at dksX0_fill_1 8 rfl rfl)
theorem dX0_fill_32 : decode cX0_fill 32 = .ok (.invokespecial 50, 3) := dk_183 0 50 (dk_at dksX0_fill_1 9 rfl rfl)
theorem dX0_fill_35 : decode cX0_fill 35 = .ok (.invokevirtual 54, 3) := dk_182 0 54 (dk_at dksX0_fill_1 12 rfl rfl)
theorem dX0_fill_38 : decode cX0_fill 38 = .ok (.aload_n 0, 1) := dk_42 (dk_at dksX0_fill_1 15 rfl rfl)
theorem dX0_fill_39 : decode cX0_fill 39 = .ok (.getfield 38, 3) := dk_180 0 38 (dk_at dksX0_fill_1 16 rfl rfl)
theorem dX0_fill_42 : decode cX0_fill 42 = .ok (.lconst 1, 1) := dk_10 (dk_at dksX0_fill_1 19 rfl rfl)
theorem dX0_fill_43 : decode cX0_fill 43 = .ok (.iload_n 1, 1) := dk_27 (dk_at dksX0_fill_1 20 rfl rfl)
theorem dX0_fill_44 : decode cX0_fill 44 = .ok (.lshl, 1) := dk_121 (dk_at dksX0_fill_1 21 rfl rfl)
theorem dX0_fill_45 : decode cX0_fill 45 = .ok (.iconst 0, 1) := dk_3 (dk_at dksX0_fill_1 22 rfl rfl)
theorem dX0_fill_46 : decode cX0_fill 46 = .ok (.invokevirtual 58, 3) := dk_182 0 58 (dk_at dksX0_fill_2 0 rfl rfl)
theorem dX0_fill_49 : decode cX0_fill 49 = .ok (.iload_n 2, 1) := dk_28 (dk_at dksX0_fill_2 3 rfl rfl)
theorem dX0_fill_50 : decode cX0_fill 50 = .ok (.ireturn, 1) := dk_172 (dk_at dksX0_fill_2 4 rfl rfl)
abbrev cX0_least : ByteArray := prog_1_method_9_code
def yX0_least : MethodName := ⟨RX0, "least", "(J)I"⟩
def dkwX0_least_0 : List UInt8 := [3, 61, 30, 28, 184, 0, 26, 154, 0, 9, 132, 2, 1, 167, 255, 245, 28, 172]
abbrev dktX0_least_0 : List UInt8 := dkwX0_least_0 ++ []
theorem dksX0_least_0 : cX0_least.data.toList.drop 0 = dktX0_least_0 := by decide +kernel
theorem dX0_least_0 : decode cX0_least 0 = .ok (.iconst 0, 1) := dk_3 (dk_at dksX0_least_0 0 rfl rfl)
theorem dX0_least_1 : decode cX0_least 1 = .ok (.istore_n 2, 1) := dk_61 (dk_at dksX0_least_0 1 rfl rfl)
theorem dX0_least_2 : decode cX0_least 2 = .ok (.lload_n 0, 1) := dk_30 (dk_at dksX0_least_0 2 rfl rfl)
theorem dX0_least_3 : decode cX0_least 3 = .ok (.iload_n 2, 1) := dk_28 (dk_at dksX0_least_0 3 rfl rfl)
theorem dX0_least_4 : decode cX0_least 4 = .ok (.invokestatic 26, 3) := dk_184 0 26 (dk_at dksX0_least_0 4 rfl rfl)
theorem dX0_least_7 : decode cX0_least 7 = .ok (.ifCond .ne 9, 3) := dk_154 0 9 (dk_at dksX0_least_0 7 rfl rfl)
theorem dX0_least_10 : decode cX0_least 10 = .ok (.iinc 2 1, 3) := dk_132 2 1 (dk_at dksX0_least_0 10 rfl rfl)
theorem dX0_least_13 : decode cX0_least 13 = .ok (.goto (-11), 3) := dk_167 255 245 (dk_at dksX0_least_0 13 rfl rfl)
theorem dX0_least_16 : decode cX0_least 16 = .ok (.iload_n 2, 1) := dk_28 (dk_at dksX0_least_0 16 rfl rfl)
theorem dX0_least_17 : decode cX0_least 17 = .ok (.ireturn, 1) := dk_172 (dk_at dksX0_least_0 17 rfl rfl)
abbrev cX0_roof : ByteArray := prog_1_method_13_code
def yX0_roof : MethodName := ⟨RX0, "roof", "(I)I"⟩
def dkwX0_roof_2 : List UInt8 := [181, 0, 62, 42, 180, 0, 38, 180, 0, 62, 27, 184, 0, 26, 153, 0, 7, 4, 167, 0, 4, 3, 172]
abbrev dktX0_roof_2 : List UInt8 := dkwX0_roof_2 ++ []
def dkwX0_roof_1 : List UInt8 := [187, 0, 48, 89, 42, 27, 183, 0, 50, 182, 0, 54, 42, 180, 0, 38, 89, 180, 0, 62, 10, 27, 121, 131]
abbrev dktX0_roof_1 : List UInt8 := dkwX0_roof_1 ++ dktX0_roof_2
def dkwX0_roof_0 : List UInt8 := [27, 184, 0, 34, 154, 0, 5, 2, 172, 42, 180, 0, 38, 180, 0, 42, 27, 51, 154, 0, 6, 16, 254, 172]
abbrev dktX0_roof_0 : List UInt8 := dkwX0_roof_0 ++ dktX0_roof_1
theorem dksX0_roof_0 : cX0_roof.data.toList.drop 0 = dktX0_roof_0 := by decide +kernel
theorem dksX0_roof_1 : cX0_roof.data.toList.drop 24 = dktX0_roof_1 := dk_seg dksX0_roof_0 24 rfl rfl
theorem dksX0_roof_2 : cX0_roof.data.toList.drop 48 = dktX0_roof_2 := dk_seg dksX0_roof_1 24 rfl rfl
theorem dX0_roof_0 : decode cX0_roof 0 = .ok (.iload_n 1, 1) := dk_27 (dk_at dksX0_roof_0 0 rfl rfl)
theorem dX0_roof_1 : decode cX0_roof 1 = .ok (.invokestatic 34, 3) := dk_184 0 34 (dk_at dksX0_roof_0 1 rfl rfl)
theorem dX0_roof_4 : decode cX0_roof 4 = .ok (.ifCond .ne 5, 3) := dk_154 0 5 (dk_at dksX0_roof_0 4 rfl rfl)
theorem dX0_roof_7 : decode cX0_roof 7 = .ok (.iconst (-1), 1) := dk_2 (dk_at dksX0_roof_0 7 rfl rfl)
theorem dX0_roof_8 : decode cX0_roof 8 = .ok (.ireturn, 1) := dk_172 (dk_at dksX0_roof_0 8 rfl rfl)
theorem dX0_roof_9 : decode cX0_roof 9 = .ok (.aload_n 0, 1) := dk_42 (dk_at dksX0_roof_0 9 rfl rfl)
theorem dX0_roof_10 : decode cX0_roof 10 = .ok (.getfield 38, 3) := dk_180 0 38 (dk_at dksX0_roof_0 10 rfl rfl)
theorem dX0_roof_13 : decode cX0_roof 13 = .ok (.getfield 42, 3) := dk_180 0 42 (dk_at dksX0_roof_0 13 rfl rfl)
theorem dX0_roof_16 : decode cX0_roof 16 = .ok (.iload_n 1, 1) := dk_27 (dk_at dksX0_roof_0 16 rfl rfl)
theorem dX0_roof_17 : decode cX0_roof 17 = .ok (.baload, 1) := dk_51 (dk_at dksX0_roof_0 17 rfl rfl)
theorem dX0_roof_18 : decode cX0_roof 18 = .ok (.ifCond .ne 6, 3) := dk_154 0 6 (dk_at dksX0_roof_0 18 rfl rfl)
theorem dX0_roof_21 : decode cX0_roof 21 = .ok (.bipush (-2), 2) := dk_16 254 (dk_at dksX0_roof_0 21 rfl rfl)
theorem dX0_roof_23 : decode cX0_roof 23 = .ok (.ireturn, 1) := dk_172 (dk_at dksX0_roof_0 23 rfl rfl)
theorem dX0_roof_24 : decode cX0_roof 24 = .ok (.new 48, 3) := dk_187 0 48 (dk_at dksX0_roof_1 0 rfl rfl)
theorem dX0_roof_27 : decode cX0_roof 27 = .ok (.dup, 1) := dk_89 (dk_at dksX0_roof_1 3 rfl rfl)
theorem dX0_roof_28 : decode cX0_roof 28 = .ok (.aload_n 0, 1) := dk_42 (dk_at dksX0_roof_1 4 rfl rfl)
theorem dX0_roof_29 : decode cX0_roof 29 = .ok (.iload_n 1, 1) := dk_27 (dk_at dksX0_roof_1 5 rfl rfl)
theorem dX0_roof_30 : decode cX0_roof 30 = .ok (.invokespecial 50, 3) := dk_183 0 50 (dk_at dksX0_roof_1 6 rfl rfl)
theorem dX0_roof_33 : decode cX0_roof 33 = .ok (.invokevirtual 54, 3) := dk_182 0 54 (dk_at dksX0_roof_1 9 rfl rfl)
theorem dX0_roof_36 : decode cX0_roof 36 = .ok (.aload_n 0, 1) := dk_42 (dk_at dksX0_roof_1 12 rfl rfl)
theorem dX0_roof_37 : decode cX0_roof 37 = .ok (.getfield 38, 3) := dk_180 0 38 (dk_at dksX0_roof_1 13 rfl rfl)
theorem dX0_roof_40 : decode cX0_roof 40 = .ok (.dup, 1) := dk_89 (dk_at dksX0_roof_1 16 rfl rfl)
theorem dX0_roof_41 : decode cX0_roof 41 = .ok (.getfield 62, 3) := dk_180 0 62 (dk_at dksX0_roof_1 17 rfl rfl)
theorem dX0_roof_44 : decode cX0_roof 44 = .ok (.lconst 1, 1) := dk_10 (dk_at dksX0_roof_1 20 rfl rfl)
theorem dX0_roof_45 : decode cX0_roof 45 = .ok (.iload_n 1, 1) := dk_27 (dk_at dksX0_roof_1 21 rfl rfl)
theorem dX0_roof_46 : decode cX0_roof 46 = .ok (.lshl, 1) := dk_121 (dk_at dksX0_roof_1 22 rfl rfl)
theorem dX0_roof_47 : decode cX0_roof 47 = .ok (.lxor, 1) := dk_131 (dk_at dksX0_roof_1 23 rfl rfl)
theorem dX0_roof_48 : decode cX0_roof 48 = .ok (.putfield 62, 3) := dk_181 0 62 (dk_at dksX0_roof_2 0 rfl rfl)
theorem dX0_roof_51 : decode cX0_roof 51 = .ok (.aload_n 0, 1) := dk_42 (dk_at dksX0_roof_2 3 rfl rfl)
theorem dX0_roof_52 : decode cX0_roof 52 = .ok (.getfield 38, 3) := dk_180 0 38 (dk_at dksX0_roof_2 4 rfl rfl)
theorem dX0_roof_55 : decode cX0_roof 55 = .ok (.getfield 62, 3) := dk_180 0 62 (dk_at dksX0_roof_2 7 rfl rfl)
theorem dX0_roof_58 : decode cX0_roof 58 = .ok (.iload_n 1, 1) := dk_27 (dk_at dksX0_roof_2 10 rfl rfl)
theorem dX0_roof_59 : decode cX0_roof 59 = .ok (.invokestatic 26, 3) := dk_184 0 26 (dk_at dksX0_roof_2 11 rfl rfl)
theorem dX0_roof_62 : decode cX0_roof 62 = .ok (.ifCond .eq 7, 3) := dk_153 0 7 (dk_at dksX0_roof_2 14 rfl rfl)
theorem dX0_roof_65 : decode cX0_roof 65 = .ok (.iconst 1, 1) := dk_4 (dk_at dksX0_roof_2 17 rfl rfl)
theorem dX0_roof_66 : decode cX0_roof 66 = .ok (.goto 4, 3) := dk_167 0 4 (dk_at dksX0_roof_2 18 rfl rfl)
theorem dX0_roof_69 : decode cX0_roof 69 = .ok (.iconst 0, 1) := dk_3 (dk_at dksX0_roof_2 21 rfl rfl)
theorem dX0_roof_70 : decode cX0_roof 70 = .ok (.ireturn, 1) := dk_172 (dk_at dksX0_roof_2 22 rfl rfl)
abbrev cX0_undo : ByteArray := prog_1_method_14_code
def yX0_undo : MethodName := ⟨RX0, "undo", "()I"⟩
def dkwX0_undo_1 : List UInt8 := [4, 100, 182, 0, 79, 192, 0, 48, 182, 0, 83, 42, 180, 0, 65, 182, 0, 75, 172]
abbrev dktX0_undo_1 : List UInt8 := dkwX0_undo_1 ++ []
def dkwX0_undo_0 : List UInt8 := [42, 180, 0, 65, 182, 0, 69, 153, 0, 6, 16, 252, 172, 42, 180, 0, 65, 42, 180, 0, 65, 182, 0, 75]
abbrev dktX0_undo_0 : List UInt8 := dkwX0_undo_0 ++ dktX0_undo_1
theorem dksX0_undo_0 : cX0_undo.data.toList.drop 0 = dktX0_undo_0 := by decide +kernel
theorem dksX0_undo_1 : cX0_undo.data.toList.drop 24 = dktX0_undo_1 := dk_seg dksX0_undo_0 24 rfl rfl
theorem dX0_undo_0 : decode cX0_undo 0 = .ok (.aload_n 0, 1) := dk_42 (dk_at dksX0_undo_0 0 rfl rfl)
theorem dX0_undo_1 : decode cX0_undo 1 = .ok (.getfield 65, 3) := dk_180 0 65 (dk_at dksX0_undo_0 1 rfl rfl)
theorem dX0_undo_4 : decode cX0_undo 4 = .ok (.invokevirtual 69, 3) := dk_182 0 69 (dk_at dksX0_undo_0 4 rfl rfl)
theorem dX0_undo_7 : decode cX0_undo 7 = .ok (.ifCond .eq 6, 3) := dk_153 0 6 (dk_at dksX0_undo_0 7 rfl rfl)
theorem dX0_undo_10 : decode cX0_undo 10 = .ok (.bipush (-4), 2) := dk_16 252 (dk_at dksX0_undo_0 10 rfl rfl)
theorem dX0_undo_12 : decode cX0_undo 12 = .ok (.ireturn, 1) := dk_172 (dk_at dksX0_undo_0 12 rfl rfl)
theorem dX0_undo_13 : decode cX0_undo 13 = .ok (.aload_n 0, 1) := dk_42 (dk_at dksX0_undo_0 13 rfl rfl)
theorem dX0_undo_14 : decode cX0_undo 14 = .ok (.getfield 65, 3) := dk_180 0 65 (dk_at dksX0_undo_0 14 rfl rfl)
theorem dX0_undo_17 : decode cX0_undo 17 = .ok (.aload_n 0, 1) := dk_42 (dk_at dksX0_undo_0 17 rfl rfl)
theorem dX0_undo_18 : decode cX0_undo 18 = .ok (.getfield 65, 3) := dk_180 0 65 (dk_at dksX0_undo_0 18 rfl rfl)
theorem dX0_undo_21 : decode cX0_undo 21 = .ok (.invokevirtual 75, 3) := dk_182 0 75 (dk_at dksX0_undo_0 21 rfl rfl)
theorem dX0_undo_24 : decode cX0_undo 24 = .ok (.iconst 1, 1) := dk_4 (dk_at dksX0_undo_1 0 rfl rfl)
theorem dX0_undo_25 : decode cX0_undo 25 = .ok (.isub, 1) := dk_100 (dk_at dksX0_undo_1 1 rfl rfl)
theorem dX0_undo_26 : decode cX0_undo 26 = .ok (.invokevirtual 79, 3) := dk_182 0 79 (dk_at dksX0_undo_1 2 rfl rfl)
theorem dX0_undo_29 : decode cX0_undo 29 = .ok (.checkcast 48, 3) := dk_192 0 48 (dk_at dksX0_undo_1 5 rfl rfl)
theorem dX0_undo_32 : decode cX0_undo 32 = .ok (.invokevirtual 83, 3) := dk_182 0 83 (dk_at dksX0_undo_1 8 rfl rfl)
theorem dX0_undo_35 : decode cX0_undo 35 = .ok (.aload_n 0, 1) := dk_42 (dk_at dksX0_undo_1 11 rfl rfl)
theorem dX0_undo_36 : decode cX0_undo 36 = .ok (.getfield 65, 3) := dk_180 0 65 (dk_at dksX0_undo_1 12 rfl rfl)
theorem dX0_undo_39 : decode cX0_undo 39 = .ok (.invokevirtual 75, 3) := dk_182 0 75 (dk_at dksX0_undo_1 15 rfl rfl)
theorem dX0_undo_42 : decode cX0_undo 42 = .ok (.ireturn, 1) := dk_172 (dk_at dksX0_undo_1 18 rfl rfl)
abbrev cX0_own : ByteArray := prog_1_method_15_code
def yX0_own : MethodName := ⟨RX0, "own", "(II)I"⟩
def dkwX0_own_1 : List UInt8 := [180, 0, 88, 27, 51, 62, 42, 180, 0, 88, 27, 28, 145, 84, 29, 172]
abbrev dktX0_own_1 : List UInt8 := dkwX0_own_1 ++ []
def dkwX0_own_0 : List UInt8 := [27, 184, 0, 34, 153, 0, 15, 28, 133, 9, 20, 0, 86, 184, 0, 5, 154, 0, 5, 2, 172, 42]
abbrev dktX0_own_0 : List UInt8 := dkwX0_own_0 ++ dktX0_own_1
theorem dksX0_own_0 : cX0_own.data.toList.drop 0 = dktX0_own_0 := by decide +kernel
theorem dksX0_own_1 : cX0_own.data.toList.drop 22 = dktX0_own_1 := dk_seg dksX0_own_0 22 rfl rfl
theorem dX0_own_0 : decode cX0_own 0 = .ok (.iload_n 1, 1) := dk_27 (dk_at dksX0_own_0 0 rfl rfl)
theorem dX0_own_1 : decode cX0_own 1 = .ok (.invokestatic 34, 3) := dk_184 0 34 (dk_at dksX0_own_0 1 rfl rfl)
theorem dX0_own_4 : decode cX0_own 4 = .ok (.ifCond .eq 15, 3) := dk_153 0 15 (dk_at dksX0_own_0 4 rfl rfl)
theorem dX0_own_7 : decode cX0_own 7 = .ok (.iload_n 2, 1) := dk_28 (dk_at dksX0_own_0 7 rfl rfl)
theorem dX0_own_8 : decode cX0_own 8 = .ok (.i2l, 1) := dk_133 (dk_at dksX0_own_0 8 rfl rfl)
theorem dX0_own_9 : decode cX0_own 9 = .ok (.lconst 0, 1) := dk_9 (dk_at dksX0_own_0 9 rfl rfl)
theorem dX0_own_10 : decode cX0_own 10 = .ok (.ldc2_w 86, 3) := dk_20 0 86 (dk_at dksX0_own_0 10 rfl rfl)
theorem dX0_own_13 : decode cX0_own 13 = .ok (.invokestatic 5, 3) := dk_184 0 5 (dk_at dksX0_own_0 13 rfl rfl)
theorem dX0_own_16 : decode cX0_own 16 = .ok (.ifCond .ne 5, 3) := dk_154 0 5 (dk_at dksX0_own_0 16 rfl rfl)
theorem dX0_own_19 : decode cX0_own 19 = .ok (.iconst (-1), 1) := dk_2 (dk_at dksX0_own_0 19 rfl rfl)
theorem dX0_own_20 : decode cX0_own 20 = .ok (.ireturn, 1) := dk_172 (dk_at dksX0_own_0 20 rfl rfl)
theorem dX0_own_21 : decode cX0_own 21 = .ok (.aload_n 0, 1) := dk_42 (dk_at dksX0_own_0 21 rfl rfl)
theorem dX0_own_22 : decode cX0_own 22 = .ok (.getfield 88, 3) := dk_180 0 88 (dk_at dksX0_own_1 0 rfl rfl)
theorem dX0_own_25 : decode cX0_own 25 = .ok (.iload_n 1, 1) := dk_27 (dk_at dksX0_own_1 3 rfl rfl)
theorem dX0_own_26 : decode cX0_own 26 = .ok (.baload, 1) := dk_51 (dk_at dksX0_own_1 4 rfl rfl)
theorem dX0_own_27 : decode cX0_own 27 = .ok (.istore_n 3, 1) := dk_62 (dk_at dksX0_own_1 5 rfl rfl)
theorem dX0_own_28 : decode cX0_own 28 = .ok (.aload_n 0, 1) := dk_42 (dk_at dksX0_own_1 6 rfl rfl)
theorem dX0_own_29 : decode cX0_own 29 = .ok (.getfield 88, 3) := dk_180 0 88 (dk_at dksX0_own_1 7 rfl rfl)
theorem dX0_own_32 : decode cX0_own 32 = .ok (.iload_n 1, 1) := dk_27 (dk_at dksX0_own_1 10 rfl rfl)
theorem dX0_own_33 : decode cX0_own 33 = .ok (.iload_n 2, 1) := dk_28 (dk_at dksX0_own_1 11 rfl rfl)
theorem dX0_own_34 : decode cX0_own 34 = .ok (.i2b, 1) := dk_145 (dk_at dksX0_own_1 12 rfl rfl)
theorem dX0_own_35 : decode cX0_own 35 = .ok (.bastore, 1) := dk_84 (dk_at dksX0_own_1 13 rfl rfl)
theorem dX0_own_36 : decode cX0_own 36 = .ok (.iload_n 3, 1) := dk_29 (dk_at dksX0_own_1 14 rfl rfl)
theorem dX0_own_37 : decode cX0_own 37 = .ok (.ireturn, 1) := dk_172 (dk_at dksX0_own_1 15 rfl rfl)
abbrev cX0_rate : ByteArray := prog_1_method_16_code
def yX0_rate : MethodName := ⟨RX0, "rate", "(I)I"⟩
def dkwX0_rate_1 : List UInt8 := [180, 0, 38, 27, 181, 0, 93, 28, 172]
abbrev dktX0_rate_1 : List UInt8 := dkwX0_rate_1 ++ []
def dkwX0_rate_0 : List UInt8 := [27, 133, 9, 20, 0, 91, 184, 0, 5, 154, 0, 5, 2, 172, 42, 180, 0, 38, 180, 0, 93, 61, 42]
abbrev dktX0_rate_0 : List UInt8 := dkwX0_rate_0 ++ dktX0_rate_1
theorem dksX0_rate_0 : cX0_rate.data.toList.drop 0 = dktX0_rate_0 := by decide +kernel
theorem dksX0_rate_1 : cX0_rate.data.toList.drop 23 = dktX0_rate_1 := dk_seg dksX0_rate_0 23 rfl rfl
theorem dX0_rate_0 : decode cX0_rate 0 = .ok (.iload_n 1, 1) := dk_27 (dk_at dksX0_rate_0 0 rfl rfl)
theorem dX0_rate_1 : decode cX0_rate 1 = .ok (.i2l, 1) := dk_133 (dk_at dksX0_rate_0 1 rfl rfl)
theorem dX0_rate_2 : decode cX0_rate 2 = .ok (.lconst 0, 1) := dk_9 (dk_at dksX0_rate_0 2 rfl rfl)
theorem dX0_rate_3 : decode cX0_rate 3 = .ok (.ldc2_w 91, 3) := dk_20 0 91 (dk_at dksX0_rate_0 3 rfl rfl)
theorem dX0_rate_6 : decode cX0_rate 6 = .ok (.invokestatic 5, 3) := dk_184 0 5 (dk_at dksX0_rate_0 6 rfl rfl)
theorem dX0_rate_9 : decode cX0_rate 9 = .ok (.ifCond .ne 5, 3) := dk_154 0 5 (dk_at dksX0_rate_0 9 rfl rfl)
theorem dX0_rate_12 : decode cX0_rate 12 = .ok (.iconst (-1), 1) := dk_2 (dk_at dksX0_rate_0 12 rfl rfl)
theorem dX0_rate_13 : decode cX0_rate 13 = .ok (.ireturn, 1) := dk_172 (dk_at dksX0_rate_0 13 rfl rfl)
theorem dX0_rate_14 : decode cX0_rate 14 = .ok (.aload_n 0, 1) := dk_42 (dk_at dksX0_rate_0 14 rfl rfl)
theorem dX0_rate_15 : decode cX0_rate 15 = .ok (.getfield 38, 3) := dk_180 0 38 (dk_at dksX0_rate_0 15 rfl rfl)
theorem dX0_rate_18 : decode cX0_rate 18 = .ok (.getfield 93, 3) := dk_180 0 93 (dk_at dksX0_rate_0 18 rfl rfl)
theorem dX0_rate_21 : decode cX0_rate 21 = .ok (.istore_n 2, 1) := dk_61 (dk_at dksX0_rate_0 21 rfl rfl)
theorem dX0_rate_22 : decode cX0_rate 22 = .ok (.aload_n 0, 1) := dk_42 (dk_at dksX0_rate_0 22 rfl rfl)
theorem dX0_rate_23 : decode cX0_rate 23 = .ok (.getfield 38, 3) := dk_180 0 38 (dk_at dksX0_rate_1 0 rfl rfl)
theorem dX0_rate_26 : decode cX0_rate 26 = .ok (.iload_n 1, 1) := dk_27 (dk_at dksX0_rate_1 3 rfl rfl)
theorem dX0_rate_27 : decode cX0_rate 27 = .ok (.putfield 93, 3) := dk_181 0 93 (dk_at dksX0_rate_1 4 rfl rfl)
theorem dX0_rate_30 : decode cX0_rate 30 = .ok (.iload_n 2, 1) := dk_28 (dk_at dksX0_rate_1 7 rfl rfl)
theorem dX0_rate_31 : decode cX0_rate 31 = .ok (.ireturn, 1) := dk_172 (dk_at dksX0_rate_1 8 rfl rfl)
abbrev cX0_told : ByteArray := prog_1_method_17_code
def yX0_told : MethodName := ⟨RX0, "told", "(II)I"⟩
def dkwX0_told_4 : List UInt8 := [45, 180, 0, 103, 184, 0, 108, 172]
abbrev dktX0_told_4 : List UInt8 := dkwX0_told_4 ++ []
def dkwX0_told_3 : List UInt8 := [180, 0, 88, 27, 51, 172, 42, 180, 0, 38, 27, 182, 0, 99, 78, 45, 199, 0, 8, 16, 252, 167, 0, 10]
abbrev dktX0_told_3 : List UInt8 := dkwX0_told_3 ++ dktX0_told_4
def dkwX0_told_2 : List UInt8 := [42, 180, 0, 38, 180, 0, 62, 27, 184, 0, 26, 153, 0, 7, 4, 167, 0, 13, 3, 167, 0, 9, 42]
abbrev dktX0_told_2 : List UInt8 := dkwX0_told_2 ++ dktX0_told_3
def dkwX0_told_1 : List UInt8 := [162, 0, 53, 28, 154, 0, 15, 42, 180, 0, 38, 180, 0, 42, 27, 51, 167, 0, 36, 28, 4, 160, 0, 25]
abbrev dktX0_told_1 : List UInt8 := dkwX0_told_1 ++ dktX0_told_2
def dkwX0_told_0 : List UInt8 := [27, 184, 0, 34, 153, 0, 15, 28, 133, 9, 20, 0, 97, 184, 0, 5, 154, 0, 5, 2, 172, 28, 6]
abbrev dktX0_told_0 : List UInt8 := dkwX0_told_0 ++ dktX0_told_1
theorem dksX0_told_0 : cX0_told.data.toList.drop 0 = dktX0_told_0 := by decide +kernel
theorem dksX0_told_1 : cX0_told.data.toList.drop 23 = dktX0_told_1 := dk_seg dksX0_told_0 23 rfl rfl
theorem dksX0_told_2 : cX0_told.data.toList.drop 47 = dktX0_told_2 := dk_seg dksX0_told_1 24 rfl rfl
theorem dksX0_told_3 : cX0_told.data.toList.drop 70 = dktX0_told_3 := dk_seg dksX0_told_2 23 rfl rfl
theorem dksX0_told_4 : cX0_told.data.toList.drop 94 = dktX0_told_4 := dk_seg dksX0_told_3 24 rfl rfl
theorem dX0_told_0 : decode cX0_told 0 = .ok (.iload_n 1, 1) := dk_27 (dk_at dksX0_told_0 0 rfl rfl)
theorem dX0_told_1 : decode cX0_told 1 = .ok (.invokestatic 34, 3) := dk_184 0 34 (dk_at dksX0_told_0 1 rfl rfl)
theorem dX0_told_4 : decode cX0_told 4 = .ok (.ifCond .eq 15, 3) := dk_153 0 15 (dk_at dksX0_told_0 4 rfl rfl)
theorem dX0_told_7 : decode cX0_told 7 = .ok (.iload_n 2, 1) := dk_28 (dk_at dksX0_told_0 7 rfl rfl)
theorem dX0_told_8 : decode cX0_told 8 = .ok (.i2l, 1) := dk_133 (dk_at dksX0_told_0 8 rfl rfl)
theorem dX0_told_9 : decode cX0_told 9 = .ok (.lconst 0, 1) := dk_9 (dk_at dksX0_told_0 9 rfl rfl)
theorem dX0_told_10 : decode cX0_told 10 = .ok (.ldc2_w 97, 3) := dk_20 0 97 (dk_at dksX0_told_0 10 rfl rfl)
theorem dX0_told_13 : decode cX0_told 13 = .ok (.invokestatic 5, 3) := dk_184 0 5 (dk_at dksX0_told_0 13 rfl rfl)
theorem dX0_told_16 : decode cX0_told 16 = .ok (.ifCond .ne 5, 3) := dk_154 0 5 (dk_at dksX0_told_0 16 rfl rfl)
theorem dX0_told_19 : decode cX0_told 19 = .ok (.iconst (-1), 1) := dk_2 (dk_at dksX0_told_0 19 rfl rfl)
theorem dX0_told_20 : decode cX0_told 20 = .ok (.ireturn, 1) := dk_172 (dk_at dksX0_told_0 20 rfl rfl)
theorem dX0_told_21 : decode cX0_told 21 = .ok (.iload_n 2, 1) := dk_28 (dk_at dksX0_told_0 21 rfl rfl)
theorem dX0_told_22 : decode cX0_told 22 = .ok (.iconst 3, 1) := dk_6 (dk_at dksX0_told_0 22 rfl rfl)
theorem dX0_told_23 : decode cX0_told 23 = .ok (.if_icmp .ge 53, 3) := dk_162 0 53 (dk_at dksX0_told_1 0 rfl rfl)
theorem dX0_told_26 : decode cX0_told 26 = .ok (.iload_n 2, 1) := dk_28 (dk_at dksX0_told_1 3 rfl rfl)
theorem dX0_told_27 : decode cX0_told 27 = .ok (.ifCond .ne 15, 3) := dk_154 0 15 (dk_at dksX0_told_1 4 rfl rfl)
theorem dX0_told_30 : decode cX0_told 30 = .ok (.aload_n 0, 1) := dk_42 (dk_at dksX0_told_1 7 rfl rfl)
theorem dX0_told_31 : decode cX0_told 31 = .ok (.getfield 38, 3) := dk_180 0 38 (dk_at dksX0_told_1 8 rfl rfl)
theorem dX0_told_34 : decode cX0_told 34 = .ok (.getfield 42, 3) := dk_180 0 42 (dk_at dksX0_told_1 11 rfl rfl)
theorem dX0_told_37 : decode cX0_told 37 = .ok (.iload_n 1, 1) := dk_27 (dk_at dksX0_told_1 14 rfl rfl)
theorem dX0_told_38 : decode cX0_told 38 = .ok (.baload, 1) := dk_51 (dk_at dksX0_told_1 15 rfl rfl)
theorem dX0_told_39 : decode cX0_told 39 = .ok (.goto 36, 3) := dk_167 0 36 (dk_at dksX0_told_1 16 rfl rfl)
theorem dX0_told_42 : decode cX0_told 42 = .ok (.iload_n 2, 1) := dk_28 (dk_at dksX0_told_1 19 rfl rfl)
theorem dX0_told_43 : decode cX0_told 43 = .ok (.iconst 1, 1) := dk_4 (dk_at dksX0_told_1 20 rfl rfl)
theorem dX0_told_44 : decode cX0_told 44 = .ok (.if_icmp .ne 25, 3) := dk_160 0 25 (dk_at dksX0_told_1 21 rfl rfl)
theorem dX0_told_47 : decode cX0_told 47 = .ok (.aload_n 0, 1) := dk_42 (dk_at dksX0_told_2 0 rfl rfl)
theorem dX0_told_48 : decode cX0_told 48 = .ok (.getfield 38, 3) := dk_180 0 38 (dk_at dksX0_told_2 1 rfl rfl)
theorem dX0_told_51 : decode cX0_told 51 = .ok (.getfield 62, 3) := dk_180 0 62 (dk_at dksX0_told_2 4 rfl rfl)
theorem dX0_told_54 : decode cX0_told 54 = .ok (.iload_n 1, 1) := dk_27 (dk_at dksX0_told_2 7 rfl rfl)
theorem dX0_told_55 : decode cX0_told 55 = .ok (.invokestatic 26, 3) := dk_184 0 26 (dk_at dksX0_told_2 8 rfl rfl)
theorem dX0_told_58 : decode cX0_told 58 = .ok (.ifCond .eq 7, 3) := dk_153 0 7 (dk_at dksX0_told_2 11 rfl rfl)
theorem dX0_told_61 : decode cX0_told 61 = .ok (.iconst 1, 1) := dk_4 (dk_at dksX0_told_2 14 rfl rfl)
theorem dX0_told_62 : decode cX0_told 62 = .ok (.goto 13, 3) := dk_167 0 13 (dk_at dksX0_told_2 15 rfl rfl)
theorem dX0_told_65 : decode cX0_told 65 = .ok (.iconst 0, 1) := dk_3 (dk_at dksX0_told_2 18 rfl rfl)
theorem dX0_told_66 : decode cX0_told 66 = .ok (.goto 9, 3) := dk_167 0 9 (dk_at dksX0_told_2 19 rfl rfl)
theorem dX0_told_69 : decode cX0_told 69 = .ok (.aload_n 0, 1) := dk_42 (dk_at dksX0_told_2 22 rfl rfl)
theorem dX0_told_70 : decode cX0_told 70 = .ok (.getfield 88, 3) := dk_180 0 88 (dk_at dksX0_told_3 0 rfl rfl)
theorem dX0_told_73 : decode cX0_told 73 = .ok (.iload_n 1, 1) := dk_27 (dk_at dksX0_told_3 3 rfl rfl)
theorem dX0_told_74 : decode cX0_told 74 = .ok (.baload, 1) := dk_51 (dk_at dksX0_told_3 4 rfl rfl)
theorem dX0_told_75 : decode cX0_told 75 = .ok (.ireturn, 1) := dk_172 (dk_at dksX0_told_3 5 rfl rfl)
theorem dX0_told_76 : decode cX0_told 76 = .ok (.aload_n 0, 1) := dk_42 (dk_at dksX0_told_3 6 rfl rfl)
theorem dX0_told_77 : decode cX0_told 77 = .ok (.getfield 38, 3) := dk_180 0 38 (dk_at dksX0_told_3 7 rfl rfl)
theorem dX0_told_80 : decode cX0_told 80 = .ok (.iload_n 1, 1) := dk_27 (dk_at dksX0_told_3 10 rfl rfl)
theorem dX0_told_81 : decode cX0_told 81 = .ok (.invokevirtual 99, 3) := dk_182 0 99 (dk_at dksX0_told_3 11 rfl rfl)
theorem dX0_told_84 : decode cX0_told 84 = .ok (.astore_n 3, 1) := dk_78 (dk_at dksX0_told_3 14 rfl rfl)
theorem dX0_told_85 : decode cX0_told 85 = .ok (.aload_n 3, 1) := dk_45 (dk_at dksX0_told_3 15 rfl rfl)
theorem dX0_told_86 : decode cX0_told 86 = .ok (.ifnonnull 8, 3) := dk_199 0 8 (dk_at dksX0_told_3 16 rfl rfl)
theorem dX0_told_89 : decode cX0_told 89 = .ok (.bipush (-4), 2) := dk_16 252 (dk_at dksX0_told_3 19 rfl rfl)
theorem dX0_told_91 : decode cX0_told 91 = .ok (.goto 10, 3) := dk_167 0 10 (dk_at dksX0_told_3 21 rfl rfl)
theorem dX0_told_94 : decode cX0_told 94 = .ok (.aload_n 3, 1) := dk_45 (dk_at dksX0_told_4 0 rfl rfl)
theorem dX0_told_95 : decode cX0_told 95 = .ok (.getfield 103, 3) := dk_180 0 103 (dk_at dksX0_told_4 1 rfl rfl)
theorem dX0_told_98 : decode cX0_told 98 = .ok (.invokestatic 108, 3) := dk_184 0 108 (dk_at dksX0_told_4 4 rfl rfl)
theorem dX0_told_101 : decode cX0_told 101 = .ok (.ireturn, 1) := dk_172 (dk_at dksX0_told_4 7 rfl rfl)
abbrev cX0_spread : ByteArray := prog_1_method_7_code
def yX0_spread : MethodName := ⟨RX0, "spread", "(JJ)J"⟩
def dkwX0_spread_1 : List UInt8 := [184, 0, 22, 32, 127, 129, 55, 4, 167, 255, 232, 22, 4, 173]
abbrev dktX0_spread_1 : List UInt8 := dkwX0_spread_1 ++ []
def dkwX0_spread_0 : List UInt8 := [30, 32, 127, 55, 4, 9, 55, 6, 22, 4, 22, 6, 148, 153, 0, 22, 22, 4, 55, 6, 22, 4, 22, 4]
abbrev dktX0_spread_0 : List UInt8 := dkwX0_spread_0 ++ dktX0_spread_1
theorem dksX0_spread_0 : cX0_spread.data.toList.drop 0 = dktX0_spread_0 := by decide +kernel
theorem dksX0_spread_1 : cX0_spread.data.toList.drop 24 = dktX0_spread_1 := dk_seg dksX0_spread_0 24 rfl rfl
theorem dX0_spread_0 : decode cX0_spread 0 = .ok (.lload_n 0, 1) := dk_30 (dk_at dksX0_spread_0 0 rfl rfl)
theorem dX0_spread_1 : decode cX0_spread 1 = .ok (.lload_n 2, 1) := dk_32 (dk_at dksX0_spread_0 1 rfl rfl)
theorem dX0_spread_2 : decode cX0_spread 2 = .ok (.land, 1) := dk_127 (dk_at dksX0_spread_0 2 rfl rfl)
theorem dX0_spread_3 : decode cX0_spread 3 = .ok (.lstore 4, 2) := dk_55 4 (dk_at dksX0_spread_0 3 rfl rfl)
theorem dX0_spread_5 : decode cX0_spread 5 = .ok (.lconst 0, 1) := dk_9 (dk_at dksX0_spread_0 5 rfl rfl)
theorem dX0_spread_6 : decode cX0_spread 6 = .ok (.lstore 6, 2) := dk_55 6 (dk_at dksX0_spread_0 6 rfl rfl)
theorem dX0_spread_8 : decode cX0_spread 8 = .ok (.lload 4, 2) := dk_22 4 (dk_at dksX0_spread_0 8 rfl rfl)
theorem dX0_spread_10 : decode cX0_spread 10 = .ok (.lload 6, 2) := dk_22 6 (dk_at dksX0_spread_0 10 rfl rfl)
theorem dX0_spread_12 : decode cX0_spread 12 = .ok (.lcmp, 1) := dk_148 (dk_at dksX0_spread_0 12 rfl rfl)
theorem dX0_spread_13 : decode cX0_spread 13 = .ok (.ifCond .eq 22, 3) := dk_153 0 22 (dk_at dksX0_spread_0 13 rfl rfl)
theorem dX0_spread_16 : decode cX0_spread 16 = .ok (.lload 4, 2) := dk_22 4 (dk_at dksX0_spread_0 16 rfl rfl)
theorem dX0_spread_18 : decode cX0_spread 18 = .ok (.lstore 6, 2) := dk_55 6 (dk_at dksX0_spread_0 18 rfl rfl)
theorem dX0_spread_20 : decode cX0_spread 20 = .ok (.lload 4, 2) := dk_22 4 (dk_at dksX0_spread_0 20 rfl rfl)
theorem dX0_spread_22 : decode cX0_spread 22 = .ok (.lload 4, 2) := dk_22 4 (dk_at dksX0_spread_0 22 rfl rfl)
theorem dX0_spread_24 : decode cX0_spread 24 = .ok (.invokestatic 22, 3) := dk_184 0 22 (dk_at dksX0_spread_1 0 rfl rfl)
theorem dX0_spread_27 : decode cX0_spread 27 = .ok (.lload_n 2, 1) := dk_32 (dk_at dksX0_spread_1 3 rfl rfl)
theorem dX0_spread_28 : decode cX0_spread 28 = .ok (.land, 1) := dk_127 (dk_at dksX0_spread_1 4 rfl rfl)
theorem dX0_spread_29 : decode cX0_spread 29 = .ok (.lor, 1) := dk_129 (dk_at dksX0_spread_1 5 rfl rfl)
theorem dX0_spread_30 : decode cX0_spread 30 = .ok (.lstore 4, 2) := dk_55 4 (dk_at dksX0_spread_1 6 rfl rfl)
theorem dX0_spread_32 : decode cX0_spread 32 = .ok (.goto (-24), 3) := dk_167 255 232 (dk_at dksX0_spread_1 8 rfl rfl)
theorem dX0_spread_35 : decode cX0_spread 35 = .ok (.lload 4, 2) := dk_22 4 (dk_at dksX0_spread_1 11 rfl rfl)
theorem dX0_spread_37 : decode cX0_spread 37 = .ok (.lreturn, 1) := dk_173 (dk_at dksX0_spread_1 13 rfl rfl)
abbrev cX0_beside : ByteArray := prog_1_method_6_code
def yX0_beside : MethodName := ⟨RX0, "beside", "(J)J"⟩
def dkwX0_beside_1 : List UInt8 := [178, 0, 17, 20, 0, 15, 131, 127, 4, 123, 129, 20, 0, 20, 127, 173]
abbrev dktX0_beside_1 : List UInt8 := dkwX0_beside_1 ++ []
def dkwX0_beside_0 : List UInt8 := [30, 16, 6, 121, 30, 16, 6, 123, 129, 30, 178, 0, 11, 20, 0, 15, 131, 127, 4, 121, 129, 30]
abbrev dktX0_beside_0 : List UInt8 := dkwX0_beside_0 ++ dktX0_beside_1
theorem dksX0_beside_0 : cX0_beside.data.toList.drop 0 = dktX0_beside_0 := by decide +kernel
theorem dksX0_beside_1 : cX0_beside.data.toList.drop 22 = dktX0_beside_1 := dk_seg dksX0_beside_0 22 rfl rfl
theorem dX0_beside_0 : decode cX0_beside 0 = .ok (.lload_n 0, 1) := dk_30 (dk_at dksX0_beside_0 0 rfl rfl)
theorem dX0_beside_1 : decode cX0_beside 1 = .ok (.bipush 6, 2) := dk_16 6 (dk_at dksX0_beside_0 1 rfl rfl)
theorem dX0_beside_3 : decode cX0_beside 3 = .ok (.lshl, 1) := dk_121 (dk_at dksX0_beside_0 3 rfl rfl)
theorem dX0_beside_4 : decode cX0_beside 4 = .ok (.lload_n 0, 1) := dk_30 (dk_at dksX0_beside_0 4 rfl rfl)
theorem dX0_beside_5 : decode cX0_beside 5 = .ok (.bipush 6, 2) := dk_16 6 (dk_at dksX0_beside_0 5 rfl rfl)
theorem dX0_beside_7 : decode cX0_beside 7 = .ok (.lshr, 1) := dk_123 (dk_at dksX0_beside_0 7 rfl rfl)
theorem dX0_beside_8 : decode cX0_beside 8 = .ok (.lor, 1) := dk_129 (dk_at dksX0_beside_0 8 rfl rfl)
theorem dX0_beside_9 : decode cX0_beside 9 = .ok (.lload_n 0, 1) := dk_30 (dk_at dksX0_beside_0 9 rfl rfl)
theorem dX0_beside_10 : decode cX0_beside 10 = .ok (.getstatic 11, 3) := dk_178 0 11 (dk_at dksX0_beside_0 10 rfl rfl)
theorem dX0_beside_13 : decode cX0_beside 13 = .ok (.ldc2_w 15, 3) := dk_20 0 15 (dk_at dksX0_beside_0 13 rfl rfl)
theorem dX0_beside_16 : decode cX0_beside 16 = .ok (.lxor, 1) := dk_131 (dk_at dksX0_beside_0 16 rfl rfl)
theorem dX0_beside_17 : decode cX0_beside 17 = .ok (.land, 1) := dk_127 (dk_at dksX0_beside_0 17 rfl rfl)
theorem dX0_beside_18 : decode cX0_beside 18 = .ok (.iconst 1, 1) := dk_4 (dk_at dksX0_beside_0 18 rfl rfl)
theorem dX0_beside_19 : decode cX0_beside 19 = .ok (.lshl, 1) := dk_121 (dk_at dksX0_beside_0 19 rfl rfl)
theorem dX0_beside_20 : decode cX0_beside 20 = .ok (.lor, 1) := dk_129 (dk_at dksX0_beside_0 20 rfl rfl)
theorem dX0_beside_21 : decode cX0_beside 21 = .ok (.lload_n 0, 1) := dk_30 (dk_at dksX0_beside_0 21 rfl rfl)
theorem dX0_beside_22 : decode cX0_beside 22 = .ok (.getstatic 17, 3) := dk_178 0 17 (dk_at dksX0_beside_1 0 rfl rfl)
theorem dX0_beside_25 : decode cX0_beside 25 = .ok (.ldc2_w 15, 3) := dk_20 0 15 (dk_at dksX0_beside_1 3 rfl rfl)
theorem dX0_beside_28 : decode cX0_beside 28 = .ok (.lxor, 1) := dk_131 (dk_at dksX0_beside_1 6 rfl rfl)
theorem dX0_beside_29 : decode cX0_beside 29 = .ok (.land, 1) := dk_127 (dk_at dksX0_beside_1 7 rfl rfl)
theorem dX0_beside_30 : decode cX0_beside 30 = .ok (.iconst 1, 1) := dk_4 (dk_at dksX0_beside_1 8 rfl rfl)
theorem dX0_beside_31 : decode cX0_beside 31 = .ok (.lshr, 1) := dk_123 (dk_at dksX0_beside_1 9 rfl rfl)
theorem dX0_beside_32 : decode cX0_beside 32 = .ok (.lor, 1) := dk_129 (dk_at dksX0_beside_1 10 rfl rfl)
theorem dX0_beside_33 : decode cX0_beside 33 = .ok (.ldc2_w 20, 3) := dk_20 0 20 (dk_at dksX0_beside_1 11 rfl rfl)
theorem dX0_beside_36 : decode cX0_beside 36 = .ok (.land, 1) := dk_127 (dk_at dksX0_beside_1 14 rfl rfl)
theorem dX0_beside_37 : decode cX0_beside 37 = .ok (.lreturn, 1) := dk_173 (dk_at dksX0_beside_1 15 rfl rfl)
abbrev cX0_count : ByteArray := prog_1_method_18_code
def yX0_count : MethodName := ⟨RX0, "count", "(I)I"⟩
def dkwX0_count_5 : List UInt8 := [180, 0, 38, 180, 0, 42, 29, 51, 96, 61, 132, 3, 1, 167, 255, 235, 28, 172, 2, 172]
abbrev dktX0_count_5 : List UInt8 := dkwX0_count_5 ++ []
def dkwX0_count_4 : List UInt8 := [180, 0, 38, 180, 0, 62, 184, 0, 119, 172, 3, 61, 3, 62, 29, 16, 36, 162, 0, 21, 28, 42]
abbrev dktX0_count_4 : List UInt8 := dkwX0_count_4 ++ dktX0_count_5
def dkwX0_count_3 : List UInt8 := [180, 0, 38, 182, 0, 121, 172, 42, 180, 0, 65, 182, 0, 75, 172, 42, 180, 0, 38, 180, 0, 93, 172, 42]
abbrev dktX0_count_3 : List UInt8 := dkwX0_count_3 ++ dktX0_count_4
def dkwX0_count_2 : List UInt8 := [42, 180, 0, 38, 182, 0, 112, 184, 0, 116, 172, 42, 180, 0, 38, 182, 0, 112, 184, 0, 119, 172, 42]
abbrev dktX0_count_2 : List UInt8 := dkwX0_count_2 ++ dktX0_count_3
def dkwX0_count_1 : List UInt8 := [170, 0, 0, 0, 0, 0, 130, 0, 0, 0, 0, 0, 0, 0, 6, 0, 0, 0, 43, 0, 0, 0, 54, 0, 0, 0, 65, 0, 0, 0, 73, 0, 0, 0, 81, 0, 0, 0, 89, 0, 0, 0, 100]
abbrev dktX0_count_1 : List UInt8 := dkwX0_count_1 ++ dktX0_count_2
def dkwX0_count_0 : List UInt8 := [27]
abbrev dktX0_count_0 : List UInt8 := dkwX0_count_0 ++ dktX0_count_1
theorem dksX0_count_0 : cX0_count.data.toList.drop 0 = dktX0_count_0 := by decide +kernel
theorem dksX0_count_1 : cX0_count.data.toList.drop 1 = dktX0_count_1 := dk_seg dksX0_count_0 1 rfl rfl
theorem dksX0_count_2 : cX0_count.data.toList.drop 44 = dktX0_count_2 := dk_seg dksX0_count_1 43 rfl rfl
theorem dksX0_count_3 : cX0_count.data.toList.drop 67 = dktX0_count_3 := dk_seg dksX0_count_2 23 rfl rfl
theorem dksX0_count_4 : cX0_count.data.toList.drop 91 = dktX0_count_4 := dk_seg dksX0_count_3 24 rfl rfl
theorem dksX0_count_5 : cX0_count.data.toList.drop 113 = dktX0_count_5 := dk_seg dksX0_count_4 22 rfl rfl
theorem dX0_count_0 : decode cX0_count 0 = .ok (.iload_n 1, 1) := dk_27 (dk_at dksX0_count_0 0 rfl rfl)
theorem dX0_count_1 : decode cX0_count 1 = .ok (.tableswitch 130 0 6 #[43, 54, 65, 73, 81, 89, 100], 43) := by decide +kernel
theorem dX0_count_44 : decode cX0_count 44 = .ok (.aload_n 0, 1) := dk_42 (dk_at dksX0_count_2 0 rfl rfl)
theorem dX0_count_45 : decode cX0_count 45 = .ok (.getfield 38, 3) := dk_180 0 38 (dk_at dksX0_count_2 1 rfl rfl)
theorem dX0_count_48 : decode cX0_count 48 = .ok (.invokevirtual 112, 3) := dk_182 0 112 (dk_at dksX0_count_2 4 rfl rfl)
theorem dX0_count_51 : decode cX0_count 51 = .ok (.invokestatic 116, 3) := dk_184 0 116 (dk_at dksX0_count_2 7 rfl rfl)
theorem dX0_count_54 : decode cX0_count 54 = .ok (.ireturn, 1) := dk_172 (dk_at dksX0_count_2 10 rfl rfl)
theorem dX0_count_55 : decode cX0_count 55 = .ok (.aload_n 0, 1) := dk_42 (dk_at dksX0_count_2 11 rfl rfl)
theorem dX0_count_56 : decode cX0_count 56 = .ok (.getfield 38, 3) := dk_180 0 38 (dk_at dksX0_count_2 12 rfl rfl)
theorem dX0_count_59 : decode cX0_count 59 = .ok (.invokevirtual 112, 3) := dk_182 0 112 (dk_at dksX0_count_2 15 rfl rfl)
theorem dX0_count_62 : decode cX0_count 62 = .ok (.invokestatic 119, 3) := dk_184 0 119 (dk_at dksX0_count_2 18 rfl rfl)
theorem dX0_count_65 : decode cX0_count 65 = .ok (.ireturn, 1) := dk_172 (dk_at dksX0_count_2 21 rfl rfl)
theorem dX0_count_66 : decode cX0_count 66 = .ok (.aload_n 0, 1) := dk_42 (dk_at dksX0_count_2 22 rfl rfl)
theorem dX0_count_67 : decode cX0_count 67 = .ok (.getfield 38, 3) := dk_180 0 38 (dk_at dksX0_count_3 0 rfl rfl)
theorem dX0_count_70 : decode cX0_count 70 = .ok (.invokevirtual 121, 3) := dk_182 0 121 (dk_at dksX0_count_3 3 rfl rfl)
theorem dX0_count_73 : decode cX0_count 73 = .ok (.ireturn, 1) := dk_172 (dk_at dksX0_count_3 6 rfl rfl)
theorem dX0_count_74 : decode cX0_count 74 = .ok (.aload_n 0, 1) := dk_42 (dk_at dksX0_count_3 7 rfl rfl)
theorem dX0_count_75 : decode cX0_count 75 = .ok (.getfield 65, 3) := dk_180 0 65 (dk_at dksX0_count_3 8 rfl rfl)
theorem dX0_count_78 : decode cX0_count 78 = .ok (.invokevirtual 75, 3) := dk_182 0 75 (dk_at dksX0_count_3 11 rfl rfl)
theorem dX0_count_81 : decode cX0_count 81 = .ok (.ireturn, 1) := dk_172 (dk_at dksX0_count_3 14 rfl rfl)
theorem dX0_count_82 : decode cX0_count 82 = .ok (.aload_n 0, 1) := dk_42 (dk_at dksX0_count_3 15 rfl rfl)
theorem dX0_count_83 : decode cX0_count 83 = .ok (.getfield 38, 3) := dk_180 0 38 (dk_at dksX0_count_3 16 rfl rfl)
theorem dX0_count_86 : decode cX0_count 86 = .ok (.getfield 93, 3) := dk_180 0 93 (dk_at dksX0_count_3 19 rfl rfl)
theorem dX0_count_89 : decode cX0_count 89 = .ok (.ireturn, 1) := dk_172 (dk_at dksX0_count_3 22 rfl rfl)
theorem dX0_count_90 : decode cX0_count 90 = .ok (.aload_n 0, 1) := dk_42 (dk_at dksX0_count_3 23 rfl rfl)
theorem dX0_count_91 : decode cX0_count 91 = .ok (.getfield 38, 3) := dk_180 0 38 (dk_at dksX0_count_4 0 rfl rfl)
theorem dX0_count_94 : decode cX0_count 94 = .ok (.getfield 62, 3) := dk_180 0 62 (dk_at dksX0_count_4 3 rfl rfl)
theorem dX0_count_97 : decode cX0_count 97 = .ok (.invokestatic 119, 3) := dk_184 0 119 (dk_at dksX0_count_4 6 rfl rfl)
theorem dX0_count_100 : decode cX0_count 100 = .ok (.ireturn, 1) := dk_172 (dk_at dksX0_count_4 9 rfl rfl)
theorem dX0_count_101 : decode cX0_count 101 = .ok (.iconst 0, 1) := dk_3 (dk_at dksX0_count_4 10 rfl rfl)
theorem dX0_count_102 : decode cX0_count 102 = .ok (.istore_n 2, 1) := dk_61 (dk_at dksX0_count_4 11 rfl rfl)
theorem dX0_count_103 : decode cX0_count 103 = .ok (.iconst 0, 1) := dk_3 (dk_at dksX0_count_4 12 rfl rfl)
theorem dX0_count_104 : decode cX0_count 104 = .ok (.istore_n 3, 1) := dk_62 (dk_at dksX0_count_4 13 rfl rfl)
theorem dX0_count_105 : decode cX0_count 105 = .ok (.iload_n 3, 1) := dk_29 (dk_at dksX0_count_4 14 rfl rfl)
theorem dX0_count_106 : decode cX0_count 106 = .ok (.bipush 36, 2) := dk_16 36 (dk_at dksX0_count_4 15 rfl rfl)
theorem dX0_count_108 : decode cX0_count 108 = .ok (.if_icmp .ge 21, 3) := dk_162 0 21 (dk_at dksX0_count_4 17 rfl rfl)
theorem dX0_count_111 : decode cX0_count 111 = .ok (.iload_n 2, 1) := dk_28 (dk_at dksX0_count_4 20 rfl rfl)
theorem dX0_count_112 : decode cX0_count 112 = .ok (.aload_n 0, 1) := dk_42 (dk_at dksX0_count_4 21 rfl rfl)
theorem dX0_count_113 : decode cX0_count 113 = .ok (.getfield 38, 3) := dk_180 0 38 (dk_at dksX0_count_5 0 rfl rfl)
theorem dX0_count_116 : decode cX0_count 116 = .ok (.getfield 42, 3) := dk_180 0 42 (dk_at dksX0_count_5 3 rfl rfl)
theorem dX0_count_119 : decode cX0_count 119 = .ok (.iload_n 3, 1) := dk_29 (dk_at dksX0_count_5 6 rfl rfl)
theorem dX0_count_120 : decode cX0_count 120 = .ok (.baload, 1) := dk_51 (dk_at dksX0_count_5 7 rfl rfl)
theorem dX0_count_121 : decode cX0_count 121 = .ok (.iadd, 1) := dk_96 (dk_at dksX0_count_5 8 rfl rfl)
theorem dX0_count_122 : decode cX0_count 122 = .ok (.istore_n 2, 1) := dk_61 (dk_at dksX0_count_5 9 rfl rfl)
theorem dX0_count_123 : decode cX0_count 123 = .ok (.iinc 3 1, 3) := dk_132 3 1 (dk_at dksX0_count_5 10 rfl rfl)
theorem dX0_count_126 : decode cX0_count 126 = .ok (.goto (-21), 3) := dk_167 255 235 (dk_at dksX0_count_5 13 rfl rfl)
theorem dX0_count_129 : decode cX0_count 129 = .ok (.iload_n 2, 1) := dk_28 (dk_at dksX0_count_5 16 rfl rfl)
theorem dX0_count_130 : decode cX0_count 130 = .ok (.ireturn, 1) := dk_172 (dk_at dksX0_count_5 17 rfl rfl)
theorem dX0_count_131 : decode cX0_count 131 = .ok (.iconst (-1), 1) := dk_2 (dk_at dksX0_count_5 18 rfl rfl)
theorem dX0_count_132 : decode cX0_count 132 = .ok (.ireturn, 1) := dk_172 (dk_at dksX0_count_5 19 rfl rfl)
abbrev cX0_pieces : ByteArray := prog_1_method_10_code
def yX0_pieces : MethodName := ⟨RX0, "pieces", "(J)I"⟩
def dkwX0_pieces_1 : List UInt8 := [66, 132, 2, 1, 167, 255, 232, 28, 172]
abbrev dktX0_pieces_1 : List UInt8 := dkwX0_pieces_1 ++ []
def dkwX0_pieces_0 : List UInt8 := [3, 61, 30, 66, 33, 9, 148, 153, 0, 24, 33, 33, 33, 117, 127, 33, 184, 0, 30, 20, 0, 15, 131, 127]
abbrev dktX0_pieces_0 : List UInt8 := dkwX0_pieces_0 ++ dktX0_pieces_1
theorem dksX0_pieces_0 : cX0_pieces.data.toList.drop 0 = dktX0_pieces_0 := by decide +kernel
theorem dksX0_pieces_1 : cX0_pieces.data.toList.drop 24 = dktX0_pieces_1 := dk_seg dksX0_pieces_0 24 rfl rfl
theorem dX0_pieces_0 : decode cX0_pieces 0 = .ok (.iconst 0, 1) := dk_3 (dk_at dksX0_pieces_0 0 rfl rfl)
theorem dX0_pieces_1 : decode cX0_pieces 1 = .ok (.istore_n 2, 1) := dk_61 (dk_at dksX0_pieces_0 1 rfl rfl)
theorem dX0_pieces_2 : decode cX0_pieces 2 = .ok (.lload_n 0, 1) := dk_30 (dk_at dksX0_pieces_0 2 rfl rfl)
theorem dX0_pieces_3 : decode cX0_pieces 3 = .ok (.lstore_n 3, 1) := dk_66 (dk_at dksX0_pieces_0 3 rfl rfl)
theorem dX0_pieces_4 : decode cX0_pieces 4 = .ok (.lload_n 3, 1) := dk_33 (dk_at dksX0_pieces_0 4 rfl rfl)
theorem dX0_pieces_5 : decode cX0_pieces 5 = .ok (.lconst 0, 1) := dk_9 (dk_at dksX0_pieces_0 5 rfl rfl)
theorem dX0_pieces_6 : decode cX0_pieces 6 = .ok (.lcmp, 1) := dk_148 (dk_at dksX0_pieces_0 6 rfl rfl)
theorem dX0_pieces_7 : decode cX0_pieces 7 = .ok (.ifCond .eq 24, 3) := dk_153 0 24 (dk_at dksX0_pieces_0 7 rfl rfl)
theorem dX0_pieces_10 : decode cX0_pieces 10 = .ok (.lload_n 3, 1) := dk_33 (dk_at dksX0_pieces_0 10 rfl rfl)
theorem dX0_pieces_11 : decode cX0_pieces 11 = .ok (.lload_n 3, 1) := dk_33 (dk_at dksX0_pieces_0 11 rfl rfl)
theorem dX0_pieces_12 : decode cX0_pieces 12 = .ok (.lload_n 3, 1) := dk_33 (dk_at dksX0_pieces_0 12 rfl rfl)
theorem dX0_pieces_13 : decode cX0_pieces 13 = .ok (.lneg, 1) := dk_117 (dk_at dksX0_pieces_0 13 rfl rfl)
theorem dX0_pieces_14 : decode cX0_pieces 14 = .ok (.land, 1) := dk_127 (dk_at dksX0_pieces_0 14 rfl rfl)
theorem dX0_pieces_15 : decode cX0_pieces 15 = .ok (.lload_n 3, 1) := dk_33 (dk_at dksX0_pieces_0 15 rfl rfl)
theorem dX0_pieces_16 : decode cX0_pieces 16 = .ok (.invokestatic 30, 3) := dk_184 0 30 (dk_at dksX0_pieces_0 16 rfl rfl)
theorem dX0_pieces_19 : decode cX0_pieces 19 = .ok (.ldc2_w 15, 3) := dk_20 0 15 (dk_at dksX0_pieces_0 19 rfl rfl)
theorem dX0_pieces_22 : decode cX0_pieces 22 = .ok (.lxor, 1) := dk_131 (dk_at dksX0_pieces_0 22 rfl rfl)
theorem dX0_pieces_23 : decode cX0_pieces 23 = .ok (.land, 1) := dk_127 (dk_at dksX0_pieces_0 23 rfl rfl)
theorem dX0_pieces_24 : decode cX0_pieces 24 = .ok (.lstore_n 3, 1) := dk_66 (dk_at dksX0_pieces_1 0 rfl rfl)
theorem dX0_pieces_25 : decode cX0_pieces 25 = .ok (.iinc 2 1, 3) := dk_132 2 1 (dk_at dksX0_pieces_1 1 rfl rfl)
theorem dX0_pieces_28 : decode cX0_pieces 28 = .ok (.goto (-24), 3) := dk_167 255 232 (dk_at dksX0_pieces_1 4 rfl rfl)
theorem dX0_pieces_31 : decode cX0_pieces 31 = .ok (.iload_n 2, 1) := dk_28 (dk_at dksX0_pieces_1 7 rfl rfl)
theorem dX0_pieces_32 : decode cX0_pieces 32 = .ok (.ireturn, 1) := dk_172 (dk_at dksX0_pieces_1 8 rfl rfl)
abbrev cX0_size : ByteArray := prog_1_method_8_code
def yX0_size : MethodName := ⟨RX0, "size", "(J)I"⟩
def dkwX0_size_0 : List UInt8 := [3, 61, 30, 66, 33, 9, 148, 153, 0, 15, 132, 2, 1, 33, 33, 10, 101, 127, 66, 167, 255, 241, 28, 172]
abbrev dktX0_size_0 : List UInt8 := dkwX0_size_0 ++ []
theorem dksX0_size_0 : cX0_size.data.toList.drop 0 = dktX0_size_0 := by decide +kernel
theorem dX0_size_0 : decode cX0_size 0 = .ok (.iconst 0, 1) := dk_3 (dk_at dksX0_size_0 0 rfl rfl)
theorem dX0_size_1 : decode cX0_size 1 = .ok (.istore_n 2, 1) := dk_61 (dk_at dksX0_size_0 1 rfl rfl)
theorem dX0_size_2 : decode cX0_size 2 = .ok (.lload_n 0, 1) := dk_30 (dk_at dksX0_size_0 2 rfl rfl)
theorem dX0_size_3 : decode cX0_size 3 = .ok (.lstore_n 3, 1) := dk_66 (dk_at dksX0_size_0 3 rfl rfl)
theorem dX0_size_4 : decode cX0_size 4 = .ok (.lload_n 3, 1) := dk_33 (dk_at dksX0_size_0 4 rfl rfl)
theorem dX0_size_5 : decode cX0_size 5 = .ok (.lconst 0, 1) := dk_9 (dk_at dksX0_size_0 5 rfl rfl)
theorem dX0_size_6 : decode cX0_size 6 = .ok (.lcmp, 1) := dk_148 (dk_at dksX0_size_0 6 rfl rfl)
theorem dX0_size_7 : decode cX0_size 7 = .ok (.ifCond .eq 15, 3) := dk_153 0 15 (dk_at dksX0_size_0 7 rfl rfl)
theorem dX0_size_10 : decode cX0_size 10 = .ok (.iinc 2 1, 3) := dk_132 2 1 (dk_at dksX0_size_0 10 rfl rfl)
theorem dX0_size_13 : decode cX0_size 13 = .ok (.lload_n 3, 1) := dk_33 (dk_at dksX0_size_0 13 rfl rfl)
theorem dX0_size_14 : decode cX0_size 14 = .ok (.lload_n 3, 1) := dk_33 (dk_at dksX0_size_0 14 rfl rfl)
theorem dX0_size_15 : decode cX0_size 15 = .ok (.lconst 1, 1) := dk_10 (dk_at dksX0_size_0 15 rfl rfl)
theorem dX0_size_16 : decode cX0_size 16 = .ok (.lsub, 1) := dk_101 (dk_at dksX0_size_0 16 rfl rfl)
theorem dX0_size_17 : decode cX0_size 17 = .ok (.land, 1) := dk_127 (dk_at dksX0_size_0 17 rfl rfl)
theorem dX0_size_18 : decode cX0_size 18 = .ok (.lstore_n 3, 1) := dk_66 (dk_at dksX0_size_0 18 rfl rfl)
theorem dX0_size_19 : decode cX0_size 19 = .ok (.goto (-15), 3) := dk_167 255 241 (dk_at dksX0_size_0 19 rfl rfl)
theorem dX0_size_22 : decode cX0_size 22 = .ok (.iload_n 2, 1) := dk_28 (dk_at dksX0_size_0 22 rfl rfl)
theorem dX0_size_23 : decode cX0_size 23 = .ok (.ireturn, 1) := dk_172 (dk_at dksX0_size_0 23 rfl rfl)
abbrev cX0_hole : ByteArray := prog_1_method_22_code
def yX0_hole : MethodName := ⟨RX0, "hole", "(II)I"⟩
def dkwX0_hole_4 : List UInt8 := [182, 0, 124, 184, 0, 119, 172, 42, 45, 182, 0, 150, 172, 42, 45, 182, 0, 154, 172, 45, 182, 0, 157, 172]
abbrev dktX0_hole_4 : List UInt8 := dkwX0_hole_4 ++ []
def dkwX0_hole_3 : List UInt8 := [45, 180, 0, 103, 184, 0, 119, 172, 45, 182, 0, 143, 172, 45, 182, 0, 146, 172, 45, 182, 0, 147, 172, 45]
abbrev dktX0_hole_3 : List UInt8 := dkwX0_hole_3 ++ dktX0_hole_4
def dkwX0_hole_2 : List UInt8 := [170, 0, 0, 0, 0, 85, 0, 0, 0, 0, 0, 0, 0, 6, 0, 0, 0, 42, 0, 0, 0, 50, 0, 0, 0, 55, 0, 0, 0, 60, 0, 0, 0, 65, 0, 0, 0, 73, 0, 0, 0, 79]
abbrev dktX0_hole_2 : List UInt8 := dkwX0_hole_2 ++ dktX0_hole_3
def dkwX0_hole_1 : List UInt8 := [180, 0, 38, 27, 182, 0, 99, 78, 45, 199, 0, 6, 16, 254, 172, 28]
abbrev dktX0_hole_1 : List UInt8 := dkwX0_hole_1 ++ dktX0_hole_2
def dkwX0_hole_0 : List UInt8 := [27, 184, 0, 34, 153, 0, 15, 28, 133, 9, 20, 0, 141, 184, 0, 5, 154, 0, 5, 2, 172, 42]
abbrev dktX0_hole_0 : List UInt8 := dkwX0_hole_0 ++ dktX0_hole_1
theorem dksX0_hole_0 : cX0_hole.data.toList.drop 0 = dktX0_hole_0 := by decide +kernel
theorem dksX0_hole_1 : cX0_hole.data.toList.drop 22 = dktX0_hole_1 := dk_seg dksX0_hole_0 22 rfl rfl
theorem dksX0_hole_2 : cX0_hole.data.toList.drop 38 = dktX0_hole_2 := dk_seg dksX0_hole_1 16 rfl rfl
theorem dksX0_hole_3 : cX0_hole.data.toList.drop 80 = dktX0_hole_3 := dk_seg dksX0_hole_2 42 rfl rfl
theorem dksX0_hole_4 : cX0_hole.data.toList.drop 104 = dktX0_hole_4 := dk_seg dksX0_hole_3 24 rfl rfl
theorem dX0_hole_0 : decode cX0_hole 0 = .ok (.iload_n 1, 1) := dk_27 (dk_at dksX0_hole_0 0 rfl rfl)
theorem dX0_hole_1 : decode cX0_hole 1 = .ok (.invokestatic 34, 3) := dk_184 0 34 (dk_at dksX0_hole_0 1 rfl rfl)
theorem dX0_hole_4 : decode cX0_hole 4 = .ok (.ifCond .eq 15, 3) := dk_153 0 15 (dk_at dksX0_hole_0 4 rfl rfl)
theorem dX0_hole_7 : decode cX0_hole 7 = .ok (.iload_n 2, 1) := dk_28 (dk_at dksX0_hole_0 7 rfl rfl)
theorem dX0_hole_8 : decode cX0_hole 8 = .ok (.i2l, 1) := dk_133 (dk_at dksX0_hole_0 8 rfl rfl)
theorem dX0_hole_9 : decode cX0_hole 9 = .ok (.lconst 0, 1) := dk_9 (dk_at dksX0_hole_0 9 rfl rfl)
theorem dX0_hole_10 : decode cX0_hole 10 = .ok (.ldc2_w 141, 3) := dk_20 0 141 (dk_at dksX0_hole_0 10 rfl rfl)
theorem dX0_hole_13 : decode cX0_hole 13 = .ok (.invokestatic 5, 3) := dk_184 0 5 (dk_at dksX0_hole_0 13 rfl rfl)
theorem dX0_hole_16 : decode cX0_hole 16 = .ok (.ifCond .ne 5, 3) := dk_154 0 5 (dk_at dksX0_hole_0 16 rfl rfl)
theorem dX0_hole_19 : decode cX0_hole 19 = .ok (.iconst (-1), 1) := dk_2 (dk_at dksX0_hole_0 19 rfl rfl)
theorem dX0_hole_20 : decode cX0_hole 20 = .ok (.ireturn, 1) := dk_172 (dk_at dksX0_hole_0 20 rfl rfl)
theorem dX0_hole_21 : decode cX0_hole 21 = .ok (.aload_n 0, 1) := dk_42 (dk_at dksX0_hole_0 21 rfl rfl)
theorem dX0_hole_22 : decode cX0_hole 22 = .ok (.getfield 38, 3) := dk_180 0 38 (dk_at dksX0_hole_1 0 rfl rfl)
theorem dX0_hole_25 : decode cX0_hole 25 = .ok (.iload_n 1, 1) := dk_27 (dk_at dksX0_hole_1 3 rfl rfl)
theorem dX0_hole_26 : decode cX0_hole 26 = .ok (.invokevirtual 99, 3) := dk_182 0 99 (dk_at dksX0_hole_1 4 rfl rfl)
theorem dX0_hole_29 : decode cX0_hole 29 = .ok (.astore_n 3, 1) := dk_78 (dk_at dksX0_hole_1 7 rfl rfl)
theorem dX0_hole_30 : decode cX0_hole 30 = .ok (.aload_n 3, 1) := dk_45 (dk_at dksX0_hole_1 8 rfl rfl)
theorem dX0_hole_31 : decode cX0_hole 31 = .ok (.ifnonnull 6, 3) := dk_199 0 6 (dk_at dksX0_hole_1 9 rfl rfl)
theorem dX0_hole_34 : decode cX0_hole 34 = .ok (.bipush (-2), 2) := dk_16 254 (dk_at dksX0_hole_1 12 rfl rfl)
theorem dX0_hole_36 : decode cX0_hole 36 = .ok (.ireturn, 1) := dk_172 (dk_at dksX0_hole_1 14 rfl rfl)
theorem dX0_hole_37 : decode cX0_hole 37 = .ok (.iload_n 2, 1) := dk_28 (dk_at dksX0_hole_1 15 rfl rfl)
theorem dX0_hole_38 : decode cX0_hole 38 = .ok (.tableswitch 85 0 6 #[42, 50, 55, 60, 65, 73, 79], 42) := by decide +kernel
theorem dX0_hole_80 : decode cX0_hole 80 = .ok (.aload_n 3, 1) := dk_45 (dk_at dksX0_hole_3 0 rfl rfl)
theorem dX0_hole_81 : decode cX0_hole 81 = .ok (.getfield 103, 3) := dk_180 0 103 (dk_at dksX0_hole_3 1 rfl rfl)
theorem dX0_hole_84 : decode cX0_hole 84 = .ok (.invokestatic 119, 3) := dk_184 0 119 (dk_at dksX0_hole_3 4 rfl rfl)
theorem dX0_hole_87 : decode cX0_hole 87 = .ok (.ireturn, 1) := dk_172 (dk_at dksX0_hole_3 7 rfl rfl)
theorem dX0_hole_88 : decode cX0_hole 88 = .ok (.aload_n 3, 1) := dk_45 (dk_at dksX0_hole_3 8 rfl rfl)
theorem dX0_hole_89 : decode cX0_hole 89 = .ok (.invokevirtual 143, 3) := dk_182 0 143 (dk_at dksX0_hole_3 9 rfl rfl)
theorem dX0_hole_92 : decode cX0_hole 92 = .ok (.ireturn, 1) := dk_172 (dk_at dksX0_hole_3 12 rfl rfl)
theorem dX0_hole_93 : decode cX0_hole 93 = .ok (.aload_n 3, 1) := dk_45 (dk_at dksX0_hole_3 13 rfl rfl)
theorem dX0_hole_94 : decode cX0_hole 94 = .ok (.invokevirtual 146, 3) := dk_182 0 146 (dk_at dksX0_hole_3 14 rfl rfl)
theorem dX0_hole_97 : decode cX0_hole 97 = .ok (.ireturn, 1) := dk_172 (dk_at dksX0_hole_3 17 rfl rfl)
theorem dX0_hole_98 : decode cX0_hole 98 = .ok (.aload_n 3, 1) := dk_45 (dk_at dksX0_hole_3 18 rfl rfl)
theorem dX0_hole_99 : decode cX0_hole 99 = .ok (.invokevirtual 147, 3) := dk_182 0 147 (dk_at dksX0_hole_3 19 rfl rfl)
theorem dX0_hole_102 : decode cX0_hole 102 = .ok (.ireturn, 1) := dk_172 (dk_at dksX0_hole_3 22 rfl rfl)
theorem dX0_hole_103 : decode cX0_hole 103 = .ok (.aload_n 3, 1) := dk_45 (dk_at dksX0_hole_3 23 rfl rfl)
theorem dX0_hole_104 : decode cX0_hole 104 = .ok (.invokevirtual 124, 3) := dk_182 0 124 (dk_at dksX0_hole_4 0 rfl rfl)
theorem dX0_hole_107 : decode cX0_hole 107 = .ok (.invokestatic 119, 3) := dk_184 0 119 (dk_at dksX0_hole_4 3 rfl rfl)
theorem dX0_hole_110 : decode cX0_hole 110 = .ok (.ireturn, 1) := dk_172 (dk_at dksX0_hole_4 6 rfl rfl)
theorem dX0_hole_111 : decode cX0_hole 111 = .ok (.aload_n 0, 1) := dk_42 (dk_at dksX0_hole_4 7 rfl rfl)
theorem dX0_hole_112 : decode cX0_hole 112 = .ok (.aload_n 3, 1) := dk_45 (dk_at dksX0_hole_4 8 rfl rfl)
theorem dX0_hole_113 : decode cX0_hole 113 = .ok (.invokevirtual 150, 3) := dk_182 0 150 (dk_at dksX0_hole_4 9 rfl rfl)
theorem dX0_hole_116 : decode cX0_hole 116 = .ok (.ireturn, 1) := dk_172 (dk_at dksX0_hole_4 12 rfl rfl)
theorem dX0_hole_117 : decode cX0_hole 117 = .ok (.aload_n 0, 1) := dk_42 (dk_at dksX0_hole_4 13 rfl rfl)
theorem dX0_hole_118 : decode cX0_hole 118 = .ok (.aload_n 3, 1) := dk_45 (dk_at dksX0_hole_4 14 rfl rfl)
theorem dX0_hole_119 : decode cX0_hole 119 = .ok (.invokevirtual 154, 3) := dk_182 0 154 (dk_at dksX0_hole_4 15 rfl rfl)
theorem dX0_hole_122 : decode cX0_hole 122 = .ok (.ireturn, 1) := dk_172 (dk_at dksX0_hole_4 18 rfl rfl)
theorem dX0_hole_123 : decode cX0_hole 123 = .ok (.aload_n 3, 1) := dk_45 (dk_at dksX0_hole_4 19 rfl rfl)
theorem dX0_hole_124 : decode cX0_hole 124 = .ok (.invokevirtual 157, 3) := dk_182 0 157 (dk_at dksX0_hole_4 20 rfl rfl)
theorem dX0_hole_127 : decode cX0_hole 127 = .ok (.ireturn, 1) := dk_172 (dk_at dksX0_hole_4 23 rfl rfl)
abbrev cX0_ownerOf : ByteArray := prog_1_method_20_code
def yX0_ownerOf : MethodName := ⟨RX0, "ownerOf", "(LHoleCounty$Pit;)I"⟩
def dkwX0_ownerOf_2 : List UInt8 := [172]
abbrev dktX0_ownerOf_2 : List UInt8 := dkwX0_ownerOf_2 ++ []
def dkwX0_ownerOf_1 : List UInt8 := [21, 4, 163, 0, 6, 167, 0, 12, 44, 21, 5, 46, 54, 4, 21, 5, 62, 132, 5, 1, 167, 255, 226, 29]
abbrev dktX0_ownerOf_1 : List UInt8 := dkwX0_ownerOf_1 ++ dktX0_ownerOf_2
def dkwX0_ownerOf_0 : List UInt8 := [42, 43, 182, 0, 127, 77, 7, 62, 3, 54, 4, 3, 54, 5, 21, 5, 7, 162, 0, 30, 44, 21, 5, 46]
abbrev dktX0_ownerOf_0 : List UInt8 := dkwX0_ownerOf_0 ++ dktX0_ownerOf_1
theorem dksX0_ownerOf_0 : cX0_ownerOf.data.toList.drop 0 = dktX0_ownerOf_0 := by decide +kernel
theorem dksX0_ownerOf_1 : cX0_ownerOf.data.toList.drop 24 = dktX0_ownerOf_1 := dk_seg dksX0_ownerOf_0 24 rfl rfl
theorem dksX0_ownerOf_2 : cX0_ownerOf.data.toList.drop 48 = dktX0_ownerOf_2 := dk_seg dksX0_ownerOf_1 24 rfl rfl
theorem dX0_ownerOf_0 : decode cX0_ownerOf 0 = .ok (.aload_n 0, 1) := dk_42 (dk_at dksX0_ownerOf_0 0 rfl rfl)
theorem dX0_ownerOf_1 : decode cX0_ownerOf 1 = .ok (.aload_n 1, 1) := dk_43 (dk_at dksX0_ownerOf_0 1 rfl rfl)
theorem dX0_ownerOf_2 : decode cX0_ownerOf 2 = .ok (.invokevirtual 127, 3) := dk_182 0 127 (dk_at dksX0_ownerOf_0 2 rfl rfl)
theorem dX0_ownerOf_5 : decode cX0_ownerOf 5 = .ok (.astore_n 2, 1) := dk_77 (dk_at dksX0_ownerOf_0 5 rfl rfl)
theorem dX0_ownerOf_6 : decode cX0_ownerOf 6 = .ok (.iconst 4, 1) := dk_7 (dk_at dksX0_ownerOf_0 6 rfl rfl)
theorem dX0_ownerOf_7 : decode cX0_ownerOf 7 = .ok (.istore_n 3, 1) := dk_62 (dk_at dksX0_ownerOf_0 7 rfl rfl)
theorem dX0_ownerOf_8 : decode cX0_ownerOf 8 = .ok (.iconst 0, 1) := dk_3 (dk_at dksX0_ownerOf_0 8 rfl rfl)
theorem dX0_ownerOf_9 : decode cX0_ownerOf 9 = .ok (.istore 4, 2) := dk_54 4 (dk_at dksX0_ownerOf_0 9 rfl rfl)
theorem dX0_ownerOf_11 : decode cX0_ownerOf 11 = .ok (.iconst 0, 1) := dk_3 (dk_at dksX0_ownerOf_0 11 rfl rfl)
theorem dX0_ownerOf_12 : decode cX0_ownerOf 12 = .ok (.istore 5, 2) := dk_54 5 (dk_at dksX0_ownerOf_0 12 rfl rfl)
theorem dX0_ownerOf_14 : decode cX0_ownerOf 14 = .ok (.iload 5, 2) := dk_21 5 (dk_at dksX0_ownerOf_0 14 rfl rfl)
theorem dX0_ownerOf_16 : decode cX0_ownerOf 16 = .ok (.iconst 4, 1) := dk_7 (dk_at dksX0_ownerOf_0 16 rfl rfl)
theorem dX0_ownerOf_17 : decode cX0_ownerOf 17 = .ok (.if_icmp .ge 30, 3) := dk_162 0 30 (dk_at dksX0_ownerOf_0 17 rfl rfl)
theorem dX0_ownerOf_20 : decode cX0_ownerOf 20 = .ok (.aload_n 2, 1) := dk_44 (dk_at dksX0_ownerOf_0 20 rfl rfl)
theorem dX0_ownerOf_21 : decode cX0_ownerOf 21 = .ok (.iload 5, 2) := dk_21 5 (dk_at dksX0_ownerOf_0 21 rfl rfl)
theorem dX0_ownerOf_23 : decode cX0_ownerOf 23 = .ok (.iaload, 1) := dk_46 (dk_at dksX0_ownerOf_0 23 rfl rfl)
theorem dX0_ownerOf_24 : decode cX0_ownerOf 24 = .ok (.iload 4, 2) := dk_21 4 (dk_at dksX0_ownerOf_1 0 rfl rfl)
theorem dX0_ownerOf_26 : decode cX0_ownerOf 26 = .ok (.if_icmp .gt 6, 3) := dk_163 0 6 (dk_at dksX0_ownerOf_1 2 rfl rfl)
theorem dX0_ownerOf_29 : decode cX0_ownerOf 29 = .ok (.goto 12, 3) := dk_167 0 12 (dk_at dksX0_ownerOf_1 5 rfl rfl)
theorem dX0_ownerOf_32 : decode cX0_ownerOf 32 = .ok (.aload_n 2, 1) := dk_44 (dk_at dksX0_ownerOf_1 8 rfl rfl)
theorem dX0_ownerOf_33 : decode cX0_ownerOf 33 = .ok (.iload 5, 2) := dk_21 5 (dk_at dksX0_ownerOf_1 9 rfl rfl)
theorem dX0_ownerOf_35 : decode cX0_ownerOf 35 = .ok (.iaload, 1) := dk_46 (dk_at dksX0_ownerOf_1 11 rfl rfl)
theorem dX0_ownerOf_36 : decode cX0_ownerOf 36 = .ok (.istore 4, 2) := dk_54 4 (dk_at dksX0_ownerOf_1 12 rfl rfl)
theorem dX0_ownerOf_38 : decode cX0_ownerOf 38 = .ok (.iload 5, 2) := dk_21 5 (dk_at dksX0_ownerOf_1 14 rfl rfl)
theorem dX0_ownerOf_40 : decode cX0_ownerOf 40 = .ok (.istore_n 3, 1) := dk_62 (dk_at dksX0_ownerOf_1 16 rfl rfl)
theorem dX0_ownerOf_41 : decode cX0_ownerOf 41 = .ok (.iinc 5 1, 3) := dk_132 5 1 (dk_at dksX0_ownerOf_1 17 rfl rfl)
theorem dX0_ownerOf_44 : decode cX0_ownerOf 44 = .ok (.goto (-30), 3) := dk_167 255 226 (dk_at dksX0_ownerOf_1 20 rfl rfl)
theorem dX0_ownerOf_47 : decode cX0_ownerOf 47 = .ok (.iload_n 3, 1) := dk_29 (dk_at dksX0_ownerOf_1 23 rfl rfl)
theorem dX0_ownerOf_48 : decode cX0_ownerOf 48 = .ok (.ireturn, 1) := dk_172 (dk_at dksX0_ownerOf_2 0 rfl rfl)
abbrev cX0_rims : ByteArray := prog_1_method_19_code
def yX0_rims : MethodName := ⟨RX0, "rims", "(LHoleCounty$Pit;)[I"⟩
def dkwX0_rims_1 : List UInt8 := [51, 92, 46, 4, 96, 79, 33, 33, 10, 101, 127, 66, 167, 255, 229, 44, 176]
abbrev dktX0_rims_1 : List UInt8 := dkwX0_rims_1 ++ []
def dkwX0_rims_0 : List UInt8 := [8, 188, 10, 77, 43, 182, 0, 124, 66, 33, 9, 148, 153, 0, 27, 44, 42, 180, 0, 88, 33, 184, 0, 108]
abbrev dktX0_rims_0 : List UInt8 := dkwX0_rims_0 ++ dktX0_rims_1
theorem dksX0_rims_0 : cX0_rims.data.toList.drop 0 = dktX0_rims_0 := by decide +kernel
theorem dksX0_rims_1 : cX0_rims.data.toList.drop 24 = dktX0_rims_1 := dk_seg dksX0_rims_0 24 rfl rfl
theorem dX0_rims_0 : decode cX0_rims 0 = .ok (.iconst 5, 1) := dk_8 (dk_at dksX0_rims_0 0 rfl rfl)
theorem dX0_rims_1 : decode cX0_rims 1 = .ok (.newarray .int, 2) := dk_188_10 (dk_at dksX0_rims_0 1 rfl rfl)
theorem dX0_rims_3 : decode cX0_rims 3 = .ok (.astore_n 2, 1) := dk_77 (dk_at dksX0_rims_0 3 rfl rfl)
theorem dX0_rims_4 : decode cX0_rims 4 = .ok (.aload_n 1, 1) := dk_43 (dk_at dksX0_rims_0 4 rfl rfl)
theorem dX0_rims_5 : decode cX0_rims 5 = .ok (.invokevirtual 124, 3) := dk_182 0 124 (dk_at dksX0_rims_0 5 rfl rfl)
theorem dX0_rims_8 : decode cX0_rims 8 = .ok (.lstore_n 3, 1) := dk_66 (dk_at dksX0_rims_0 8 rfl rfl)
theorem dX0_rims_9 : decode cX0_rims 9 = .ok (.lload_n 3, 1) := dk_33 (dk_at dksX0_rims_0 9 rfl rfl)
theorem dX0_rims_10 : decode cX0_rims 10 = .ok (.lconst 0, 1) := dk_9 (dk_at dksX0_rims_0 10 rfl rfl)
theorem dX0_rims_11 : decode cX0_rims 11 = .ok (.lcmp, 1) := dk_148 (dk_at dksX0_rims_0 11 rfl rfl)
theorem dX0_rims_12 : decode cX0_rims 12 = .ok (.ifCond .eq 27, 3) := dk_153 0 27 (dk_at dksX0_rims_0 12 rfl rfl)
theorem dX0_rims_15 : decode cX0_rims 15 = .ok (.aload_n 2, 1) := dk_44 (dk_at dksX0_rims_0 15 rfl rfl)
theorem dX0_rims_16 : decode cX0_rims 16 = .ok (.aload_n 0, 1) := dk_42 (dk_at dksX0_rims_0 16 rfl rfl)
theorem dX0_rims_17 : decode cX0_rims 17 = .ok (.getfield 88, 3) := dk_180 0 88 (dk_at dksX0_rims_0 17 rfl rfl)
theorem dX0_rims_20 : decode cX0_rims 20 = .ok (.lload_n 3, 1) := dk_33 (dk_at dksX0_rims_0 20 rfl rfl)
theorem dX0_rims_21 : decode cX0_rims 21 = .ok (.invokestatic 108, 3) := dk_184 0 108 (dk_at dksX0_rims_0 21 rfl rfl)
theorem dX0_rims_24 : decode cX0_rims 24 = .ok (.baload, 1) := dk_51 (dk_at dksX0_rims_1 0 rfl rfl)
theorem dX0_rims_25 : decode cX0_rims 25 = .ok (.dup2, 1) := dk_92 (dk_at dksX0_rims_1 1 rfl rfl)
theorem dX0_rims_26 : decode cX0_rims 26 = .ok (.iaload, 1) := dk_46 (dk_at dksX0_rims_1 2 rfl rfl)
theorem dX0_rims_27 : decode cX0_rims 27 = .ok (.iconst 1, 1) := dk_4 (dk_at dksX0_rims_1 3 rfl rfl)
theorem dX0_rims_28 : decode cX0_rims 28 = .ok (.iadd, 1) := dk_96 (dk_at dksX0_rims_1 4 rfl rfl)
theorem dX0_rims_29 : decode cX0_rims 29 = .ok (.iastore, 1) := dk_79 (dk_at dksX0_rims_1 5 rfl rfl)
theorem dX0_rims_30 : decode cX0_rims 30 = .ok (.lload_n 3, 1) := dk_33 (dk_at dksX0_rims_1 6 rfl rfl)
theorem dX0_rims_31 : decode cX0_rims 31 = .ok (.lload_n 3, 1) := dk_33 (dk_at dksX0_rims_1 7 rfl rfl)
theorem dX0_rims_32 : decode cX0_rims 32 = .ok (.lconst 1, 1) := dk_10 (dk_at dksX0_rims_1 8 rfl rfl)
theorem dX0_rims_33 : decode cX0_rims 33 = .ok (.lsub, 1) := dk_101 (dk_at dksX0_rims_1 9 rfl rfl)
theorem dX0_rims_34 : decode cX0_rims 34 = .ok (.land, 1) := dk_127 (dk_at dksX0_rims_1 10 rfl rfl)
theorem dX0_rims_35 : decode cX0_rims 35 = .ok (.lstore_n 3, 1) := dk_66 (dk_at dksX0_rims_1 11 rfl rfl)
theorem dX0_rims_36 : decode cX0_rims 36 = .ok (.goto (-27), 3) := dk_167 255 229 (dk_at dksX0_rims_1 12 rfl rfl)
theorem dX0_rims_39 : decode cX0_rims 39 = .ok (.aload_n 2, 1) := dk_44 (dk_at dksX0_rims_1 15 rfl rfl)
theorem dX0_rims_40 : decode cX0_rims 40 = .ok (.areturn, 1) := dk_176 (dk_at dksX0_rims_1 16 rfl rfl)
abbrev cX0_nested : ByteArray := prog_1_method_21_code
def yX0_nested : MethodName := ⟨RX0, "nested", "(LHoleCounty$Pit;)I"⟩
def dkwX0_nested_2 : List UInt8 := [167, 0, 4, 3, 96, 61, 132, 4, 1, 167, 255, 214, 28, 172]
abbrev dktX0_nested_2 : List UInt8 := dkwX0_nested_2 ++ []
def dkwX0_nested_1 : List UInt8 := [21, 4, 182, 0, 135, 192, 0, 104, 182, 0, 138, 43, 180, 0, 103, 127, 9, 148, 153, 0, 7, 4]
abbrev dktX0_nested_1 : List UInt8 := dkwX0_nested_1 ++ dktX0_nested_2
def dkwX0_nested_0 : List UInt8 := [3, 61, 42, 180, 0, 38, 182, 0, 131, 78, 3, 54, 4, 21, 4, 45, 182, 0, 75, 162, 0, 39, 28, 45]
abbrev dktX0_nested_0 : List UInt8 := dkwX0_nested_0 ++ dktX0_nested_1
theorem dksX0_nested_0 : cX0_nested.data.toList.drop 0 = dktX0_nested_0 := by decide +kernel
theorem dksX0_nested_1 : cX0_nested.data.toList.drop 24 = dktX0_nested_1 := dk_seg dksX0_nested_0 24 rfl rfl
theorem dksX0_nested_2 : cX0_nested.data.toList.drop 46 = dktX0_nested_2 := dk_seg dksX0_nested_1 22 rfl rfl
theorem dX0_nested_0 : decode cX0_nested 0 = .ok (.iconst 0, 1) := dk_3 (dk_at dksX0_nested_0 0 rfl rfl)
theorem dX0_nested_1 : decode cX0_nested 1 = .ok (.istore_n 2, 1) := dk_61 (dk_at dksX0_nested_0 1 rfl rfl)
theorem dX0_nested_2 : decode cX0_nested 2 = .ok (.aload_n 0, 1) := dk_42 (dk_at dksX0_nested_0 2 rfl rfl)
theorem dX0_nested_3 : decode cX0_nested 3 = .ok (.getfield 38, 3) := dk_180 0 38 (dk_at dksX0_nested_0 3 rfl rfl)
theorem dX0_nested_6 : decode cX0_nested 6 = .ok (.invokevirtual 131, 3) := dk_182 0 131 (dk_at dksX0_nested_0 6 rfl rfl)
theorem dX0_nested_9 : decode cX0_nested 9 = .ok (.astore_n 3, 1) := dk_78 (dk_at dksX0_nested_0 9 rfl rfl)
theorem dX0_nested_10 : decode cX0_nested 10 = .ok (.iconst 0, 1) := dk_3 (dk_at dksX0_nested_0 10 rfl rfl)
theorem dX0_nested_11 : decode cX0_nested 11 = .ok (.istore 4, 2) := dk_54 4 (dk_at dksX0_nested_0 11 rfl rfl)
theorem dX0_nested_13 : decode cX0_nested 13 = .ok (.iload 4, 2) := dk_21 4 (dk_at dksX0_nested_0 13 rfl rfl)
theorem dX0_nested_15 : decode cX0_nested 15 = .ok (.aload_n 3, 1) := dk_45 (dk_at dksX0_nested_0 15 rfl rfl)
theorem dX0_nested_16 : decode cX0_nested 16 = .ok (.invokevirtual 75, 3) := dk_182 0 75 (dk_at dksX0_nested_0 16 rfl rfl)
theorem dX0_nested_19 : decode cX0_nested 19 = .ok (.if_icmp .ge 39, 3) := dk_162 0 39 (dk_at dksX0_nested_0 19 rfl rfl)
theorem dX0_nested_22 : decode cX0_nested 22 = .ok (.iload_n 2, 1) := dk_28 (dk_at dksX0_nested_0 22 rfl rfl)
theorem dX0_nested_23 : decode cX0_nested 23 = .ok (.aload_n 3, 1) := dk_45 (dk_at dksX0_nested_0 23 rfl rfl)
theorem dX0_nested_24 : decode cX0_nested 24 = .ok (.iload 4, 2) := dk_21 4 (dk_at dksX0_nested_1 0 rfl rfl)
theorem dX0_nested_26 : decode cX0_nested 26 = .ok (.invokevirtual 135, 3) := dk_182 0 135 (dk_at dksX0_nested_1 2 rfl rfl)
theorem dX0_nested_29 : decode cX0_nested 29 = .ok (.checkcast 104, 3) := dk_192 0 104 (dk_at dksX0_nested_1 5 rfl rfl)
theorem dX0_nested_32 : decode cX0_nested 32 = .ok (.invokevirtual 138, 3) := dk_182 0 138 (dk_at dksX0_nested_1 8 rfl rfl)
theorem dX0_nested_35 : decode cX0_nested 35 = .ok (.aload_n 1, 1) := dk_43 (dk_at dksX0_nested_1 11 rfl rfl)
theorem dX0_nested_36 : decode cX0_nested 36 = .ok (.getfield 103, 3) := dk_180 0 103 (dk_at dksX0_nested_1 12 rfl rfl)
theorem dX0_nested_39 : decode cX0_nested 39 = .ok (.land, 1) := dk_127 (dk_at dksX0_nested_1 15 rfl rfl)
theorem dX0_nested_40 : decode cX0_nested 40 = .ok (.lconst 0, 1) := dk_9 (dk_at dksX0_nested_1 16 rfl rfl)
theorem dX0_nested_41 : decode cX0_nested 41 = .ok (.lcmp, 1) := dk_148 (dk_at dksX0_nested_1 17 rfl rfl)
theorem dX0_nested_42 : decode cX0_nested 42 = .ok (.ifCond .eq 7, 3) := dk_153 0 7 (dk_at dksX0_nested_1 18 rfl rfl)
theorem dX0_nested_45 : decode cX0_nested 45 = .ok (.iconst 1, 1) := dk_4 (dk_at dksX0_nested_1 21 rfl rfl)
theorem dX0_nested_46 : decode cX0_nested 46 = .ok (.goto 4, 3) := dk_167 0 4 (dk_at dksX0_nested_2 0 rfl rfl)
theorem dX0_nested_49 : decode cX0_nested 49 = .ok (.iconst 0, 1) := dk_3 (dk_at dksX0_nested_2 3 rfl rfl)
theorem dX0_nested_50 : decode cX0_nested 50 = .ok (.iadd, 1) := dk_96 (dk_at dksX0_nested_2 4 rfl rfl)
theorem dX0_nested_51 : decode cX0_nested 51 = .ok (.istore_n 2, 1) := dk_61 (dk_at dksX0_nested_2 5 rfl rfl)
theorem dX0_nested_52 : decode cX0_nested 52 = .ok (.iinc 4 1, 3) := dk_132 4 1 (dk_at dksX0_nested_2 6 rfl rfl)
theorem dX0_nested_55 : decode cX0_nested 55 = .ok (.goto (-42), 3) := dk_167 255 214 (dk_at dksX0_nested_2 9 rfl rfl)
theorem dX0_nested_58 : decode cX0_nested 58 = .ok (.iload_n 2, 1) := dk_28 (dk_at dksX0_nested_2 12 rfl rfl)
theorem dX0_nested_59 : decode cX0_nested 59 = .ok (.ireturn, 1) := dk_172 (dk_at dksX0_nested_2 13 rfl rfl)
abbrev cX0_cells : ByteArray := prog_1_method_23_code
def yX0_cells : MethodName := ⟨RX0, "cells", "(II)J"⟩
def dkwX0_cells_2 : List UInt8 := [167, 0, 19, 28, 4, 160, 0, 10, 45, 182, 0, 124, 167, 0, 7, 45, 182, 0, 138, 173]
abbrev dktX0_cells_2 : List UInt8 := dkwX0_cells_2 ++ []
def dkwX0_cells_1 : List UInt8 := [180, 0, 38, 27, 182, 0, 99, 78, 45, 199, 0, 7, 20, 0, 162, 173, 28, 154, 0, 10, 45, 180, 0, 103]
abbrev dktX0_cells_1 : List UInt8 := dkwX0_cells_1 ++ dktX0_cells_2
def dkwX0_cells_0 : List UInt8 := [27, 184, 0, 34, 153, 0, 15, 28, 133, 9, 20, 0, 160, 184, 0, 5, 154, 0, 7, 20, 0, 15, 173, 42]
abbrev dktX0_cells_0 : List UInt8 := dkwX0_cells_0 ++ dktX0_cells_1
theorem dksX0_cells_0 : cX0_cells.data.toList.drop 0 = dktX0_cells_0 := by decide +kernel
theorem dksX0_cells_1 : cX0_cells.data.toList.drop 24 = dktX0_cells_1 := dk_seg dksX0_cells_0 24 rfl rfl
theorem dksX0_cells_2 : cX0_cells.data.toList.drop 48 = dktX0_cells_2 := dk_seg dksX0_cells_1 24 rfl rfl
theorem dX0_cells_0 : decode cX0_cells 0 = .ok (.iload_n 1, 1) := dk_27 (dk_at dksX0_cells_0 0 rfl rfl)
theorem dX0_cells_1 : decode cX0_cells 1 = .ok (.invokestatic 34, 3) := dk_184 0 34 (dk_at dksX0_cells_0 1 rfl rfl)
theorem dX0_cells_4 : decode cX0_cells 4 = .ok (.ifCond .eq 15, 3) := dk_153 0 15 (dk_at dksX0_cells_0 4 rfl rfl)
theorem dX0_cells_7 : decode cX0_cells 7 = .ok (.iload_n 2, 1) := dk_28 (dk_at dksX0_cells_0 7 rfl rfl)
theorem dX0_cells_8 : decode cX0_cells 8 = .ok (.i2l, 1) := dk_133 (dk_at dksX0_cells_0 8 rfl rfl)
theorem dX0_cells_9 : decode cX0_cells 9 = .ok (.lconst 0, 1) := dk_9 (dk_at dksX0_cells_0 9 rfl rfl)
theorem dX0_cells_10 : decode cX0_cells 10 = .ok (.ldc2_w 160, 3) := dk_20 0 160 (dk_at dksX0_cells_0 10 rfl rfl)
theorem dX0_cells_13 : decode cX0_cells 13 = .ok (.invokestatic 5, 3) := dk_184 0 5 (dk_at dksX0_cells_0 13 rfl rfl)
theorem dX0_cells_16 : decode cX0_cells 16 = .ok (.ifCond .ne 7, 3) := dk_154 0 7 (dk_at dksX0_cells_0 16 rfl rfl)
theorem dX0_cells_19 : decode cX0_cells 19 = .ok (.ldc2_w 15, 3) := dk_20 0 15 (dk_at dksX0_cells_0 19 rfl rfl)
theorem dX0_cells_22 : decode cX0_cells 22 = .ok (.lreturn, 1) := dk_173 (dk_at dksX0_cells_0 22 rfl rfl)
theorem dX0_cells_23 : decode cX0_cells 23 = .ok (.aload_n 0, 1) := dk_42 (dk_at dksX0_cells_0 23 rfl rfl)
theorem dX0_cells_24 : decode cX0_cells 24 = .ok (.getfield 38, 3) := dk_180 0 38 (dk_at dksX0_cells_1 0 rfl rfl)
theorem dX0_cells_27 : decode cX0_cells 27 = .ok (.iload_n 1, 1) := dk_27 (dk_at dksX0_cells_1 3 rfl rfl)
theorem dX0_cells_28 : decode cX0_cells 28 = .ok (.invokevirtual 99, 3) := dk_182 0 99 (dk_at dksX0_cells_1 4 rfl rfl)
theorem dX0_cells_31 : decode cX0_cells 31 = .ok (.astore_n 3, 1) := dk_78 (dk_at dksX0_cells_1 7 rfl rfl)
theorem dX0_cells_32 : decode cX0_cells 32 = .ok (.aload_n 3, 1) := dk_45 (dk_at dksX0_cells_1 8 rfl rfl)
theorem dX0_cells_33 : decode cX0_cells 33 = .ok (.ifnonnull 7, 3) := dk_199 0 7 (dk_at dksX0_cells_1 9 rfl rfl)
theorem dX0_cells_36 : decode cX0_cells 36 = .ok (.ldc2_w 162, 3) := dk_20 0 162 (dk_at dksX0_cells_1 12 rfl rfl)
theorem dX0_cells_39 : decode cX0_cells 39 = .ok (.lreturn, 1) := dk_173 (dk_at dksX0_cells_1 15 rfl rfl)
theorem dX0_cells_40 : decode cX0_cells 40 = .ok (.iload_n 2, 1) := dk_28 (dk_at dksX0_cells_1 16 rfl rfl)
theorem dX0_cells_41 : decode cX0_cells 41 = .ok (.ifCond .ne 10, 3) := dk_154 0 10 (dk_at dksX0_cells_1 17 rfl rfl)
theorem dX0_cells_44 : decode cX0_cells 44 = .ok (.aload_n 3, 1) := dk_45 (dk_at dksX0_cells_1 20 rfl rfl)
theorem dX0_cells_45 : decode cX0_cells 45 = .ok (.getfield 103, 3) := dk_180 0 103 (dk_at dksX0_cells_1 21 rfl rfl)
theorem dX0_cells_48 : decode cX0_cells 48 = .ok (.goto 19, 3) := dk_167 0 19 (dk_at dksX0_cells_2 0 rfl rfl)
theorem dX0_cells_51 : decode cX0_cells 51 = .ok (.iload_n 2, 1) := dk_28 (dk_at dksX0_cells_2 3 rfl rfl)
theorem dX0_cells_52 : decode cX0_cells 52 = .ok (.iconst 1, 1) := dk_4 (dk_at dksX0_cells_2 4 rfl rfl)
theorem dX0_cells_53 : decode cX0_cells 53 = .ok (.if_icmp .ne 10, 3) := dk_160 0 10 (dk_at dksX0_cells_2 5 rfl rfl)
theorem dX0_cells_56 : decode cX0_cells 56 = .ok (.aload_n 3, 1) := dk_45 (dk_at dksX0_cells_2 8 rfl rfl)
theorem dX0_cells_57 : decode cX0_cells 57 = .ok (.invokevirtual 124, 3) := dk_182 0 124 (dk_at dksX0_cells_2 9 rfl rfl)
theorem dX0_cells_60 : decode cX0_cells 60 = .ok (.goto 7, 3) := dk_167 0 7 (dk_at dksX0_cells_2 12 rfl rfl)
theorem dX0_cells_63 : decode cX0_cells 63 = .ok (.aload_n 3, 1) := dk_45 (dk_at dksX0_cells_2 15 rfl rfl)
theorem dX0_cells_64 : decode cX0_cells 64 = .ok (.invokevirtual 138, 3) := dk_182 0 138 (dk_at dksX0_cells_2 16 rfl rfl)
theorem dX0_cells_67 : decode cX0_cells 67 = .ok (.lreturn, 1) := dk_173 (dk_at dksX0_cells_2 19 rfl rfl)
abbrev cX0_part : ByteArray := prog_1_method_26_code
def yX0_part : MethodName := ⟨RX0, "part", "(II)I"⟩
def dkwX0_part_1 : List UInt8 := [78, 45, 199, 0, 8, 16, 254, 167, 0, 9, 42, 45, 28, 182, 0, 169, 172]
abbrev dktX0_part_1 : List UInt8 := dkwX0_part_1 ++ []
def dkwX0_part_0 : List UInt8 := [27, 184, 0, 34, 153, 0, 10, 28, 184, 0, 166, 154, 0, 5, 2, 172, 42, 180, 0, 38, 27, 182, 0, 99]
abbrev dktX0_part_0 : List UInt8 := dkwX0_part_0 ++ dktX0_part_1
theorem dksX0_part_0 : cX0_part.data.toList.drop 0 = dktX0_part_0 := by decide +kernel
theorem dksX0_part_1 : cX0_part.data.toList.drop 24 = dktX0_part_1 := dk_seg dksX0_part_0 24 rfl rfl
theorem dX0_part_0 : decode cX0_part 0 = .ok (.iload_n 1, 1) := dk_27 (dk_at dksX0_part_0 0 rfl rfl)
theorem dX0_part_1 : decode cX0_part 1 = .ok (.invokestatic 34, 3) := dk_184 0 34 (dk_at dksX0_part_0 1 rfl rfl)
theorem dX0_part_4 : decode cX0_part 4 = .ok (.ifCond .eq 10, 3) := dk_153 0 10 (dk_at dksX0_part_0 4 rfl rfl)
theorem dX0_part_7 : decode cX0_part 7 = .ok (.iload_n 2, 1) := dk_28 (dk_at dksX0_part_0 7 rfl rfl)
theorem dX0_part_8 : decode cX0_part 8 = .ok (.invokestatic 166, 3) := dk_184 0 166 (dk_at dksX0_part_0 8 rfl rfl)
theorem dX0_part_11 : decode cX0_part 11 = .ok (.ifCond .ne 5, 3) := dk_154 0 5 (dk_at dksX0_part_0 11 rfl rfl)
theorem dX0_part_14 : decode cX0_part 14 = .ok (.iconst (-1), 1) := dk_2 (dk_at dksX0_part_0 14 rfl rfl)
theorem dX0_part_15 : decode cX0_part 15 = .ok (.ireturn, 1) := dk_172 (dk_at dksX0_part_0 15 rfl rfl)
theorem dX0_part_16 : decode cX0_part 16 = .ok (.aload_n 0, 1) := dk_42 (dk_at dksX0_part_0 16 rfl rfl)
theorem dX0_part_17 : decode cX0_part 17 = .ok (.getfield 38, 3) := dk_180 0 38 (dk_at dksX0_part_0 17 rfl rfl)
theorem dX0_part_20 : decode cX0_part 20 = .ok (.iload_n 1, 1) := dk_27 (dk_at dksX0_part_0 20 rfl rfl)
theorem dX0_part_21 : decode cX0_part 21 = .ok (.invokevirtual 99, 3) := dk_182 0 99 (dk_at dksX0_part_0 21 rfl rfl)
theorem dX0_part_24 : decode cX0_part 24 = .ok (.astore_n 3, 1) := dk_78 (dk_at dksX0_part_1 0 rfl rfl)
theorem dX0_part_25 : decode cX0_part 25 = .ok (.aload_n 3, 1) := dk_45 (dk_at dksX0_part_1 1 rfl rfl)
theorem dX0_part_26 : decode cX0_part 26 = .ok (.ifnonnull 8, 3) := dk_199 0 8 (dk_at dksX0_part_1 2 rfl rfl)
theorem dX0_part_29 : decode cX0_part 29 = .ok (.bipush (-2), 2) := dk_16 254 (dk_at dksX0_part_1 5 rfl rfl)
theorem dX0_part_31 : decode cX0_part 31 = .ok (.goto 9, 3) := dk_167 0 9 (dk_at dksX0_part_1 7 rfl rfl)
theorem dX0_part_34 : decode cX0_part 34 = .ok (.aload_n 0, 1) := dk_42 (dk_at dksX0_part_1 10 rfl rfl)
theorem dX0_part_35 : decode cX0_part 35 = .ok (.aload_n 3, 1) := dk_45 (dk_at dksX0_part_1 11 rfl rfl)
theorem dX0_part_36 : decode cX0_part 36 = .ok (.iload_n 2, 1) := dk_28 (dk_at dksX0_part_1 12 rfl rfl)
theorem dX0_part_37 : decode cX0_part 37 = .ok (.invokevirtual 169, 3) := dk_182 0 169 (dk_at dksX0_part_1 13 rfl rfl)
theorem dX0_part_40 : decode cX0_part 40 = .ok (.ireturn, 1) := dk_172 (dk_at dksX0_part_1 16 rfl rfl)
abbrev cX0_isOwner : ByteArray := prog_1_method_25_code
def yX0_isOwner : MethodName := ⟨RX0, "isOwner", "(I)Z"⟩
def dkwX0_isOwner_0 : List UInt8 := [26, 133, 9, 20, 0, 97, 184, 0, 5, 172]
abbrev dktX0_isOwner_0 : List UInt8 := dkwX0_isOwner_0 ++ []
theorem dksX0_isOwner_0 : cX0_isOwner.data.toList.drop 0 = dktX0_isOwner_0 := by decide +kernel
theorem dX0_isOwner_0 : decode cX0_isOwner 0 = .ok (.iload_n 0, 1) := dk_26 (dk_at dksX0_isOwner_0 0 rfl rfl)
theorem dX0_isOwner_1 : decode cX0_isOwner 1 = .ok (.i2l, 1) := dk_133 (dk_at dksX0_isOwner_0 1 rfl rfl)
theorem dX0_isOwner_2 : decode cX0_isOwner 2 = .ok (.lconst 0, 1) := dk_9 (dk_at dksX0_isOwner_0 2 rfl rfl)
theorem dX0_isOwner_3 : decode cX0_isOwner 3 = .ok (.ldc2_w 97, 3) := dk_20 0 97 (dk_at dksX0_isOwner_0 3 rfl rfl)
theorem dX0_isOwner_6 : decode cX0_isOwner 6 = .ok (.invokestatic 5, 3) := dk_184 0 5 (dk_at dksX0_isOwner_0 6 rfl rfl)
theorem dX0_isOwner_9 : decode cX0_isOwner 9 = .ok (.ireturn, 1) := dk_172 (dk_at dksX0_isOwner_0 9 rfl rfl)
abbrev cX0_partOf : ByteArray := prog_1_method_24_code
def yX0_partOf : MethodName := ⟨RX0, "partOf", "(LHoleCounty$Pit;I)I"⟩
def dkwX0_partOf_2 : List UInt8 := [172]
abbrev dktX0_partOf_2 : List UInt8 := dkwX0_partOf_2 ++ []
def dkwX0_partOf_1 : List UInt8 := [96, 54, 4, 132, 5, 1, 167, 255, 238, 43, 182, 0, 146, 45, 28, 46, 104, 21, 4, 108, 172, 58, 5, 3]
abbrev dktX0_partOf_1 : List UInt8 := dkwX0_partOf_1 ++ dktX0_partOf_2
def dkwX0_partOf_0 : List UInt8 := [42, 43, 182, 0, 127, 78, 3, 54, 4, 3, 54, 5, 21, 5, 7, 162, 0, 18, 21, 4, 45, 21, 5, 46]
abbrev dktX0_partOf_0 : List UInt8 := dkwX0_partOf_0 ++ dktX0_partOf_1
theorem dksX0_partOf_0 : cX0_partOf.data.toList.drop 0 = dktX0_partOf_0 := by decide +kernel
theorem dksX0_partOf_1 : cX0_partOf.data.toList.drop 24 = dktX0_partOf_1 := dk_seg dksX0_partOf_0 24 rfl rfl
theorem dksX0_partOf_2 : cX0_partOf.data.toList.drop 48 = dktX0_partOf_2 := dk_seg dksX0_partOf_1 24 rfl rfl
theorem dX0_partOf_0 : decode cX0_partOf 0 = .ok (.aload_n 0, 1) := dk_42 (dk_at dksX0_partOf_0 0 rfl rfl)
theorem dX0_partOf_1 : decode cX0_partOf 1 = .ok (.aload_n 1, 1) := dk_43 (dk_at dksX0_partOf_0 1 rfl rfl)
theorem dX0_partOf_2 : decode cX0_partOf 2 = .ok (.invokevirtual 127, 3) := dk_182 0 127 (dk_at dksX0_partOf_0 2 rfl rfl)
theorem dX0_partOf_5 : decode cX0_partOf 5 = .ok (.astore_n 3, 1) := dk_78 (dk_at dksX0_partOf_0 5 rfl rfl)
theorem dX0_partOf_6 : decode cX0_partOf 6 = .ok (.iconst 0, 1) := dk_3 (dk_at dksX0_partOf_0 6 rfl rfl)
theorem dX0_partOf_7 : decode cX0_partOf 7 = .ok (.istore 4, 2) := dk_54 4 (dk_at dksX0_partOf_0 7 rfl rfl)
theorem dX0_partOf_9 : decode cX0_partOf 9 = .ok (.iconst 0, 1) := dk_3 (dk_at dksX0_partOf_0 9 rfl rfl)
theorem dX0_partOf_10 : decode cX0_partOf 10 = .ok (.istore 5, 2) := dk_54 5 (dk_at dksX0_partOf_0 10 rfl rfl)
theorem dX0_partOf_12 : decode cX0_partOf 12 = .ok (.iload 5, 2) := dk_21 5 (dk_at dksX0_partOf_0 12 rfl rfl)
theorem dX0_partOf_14 : decode cX0_partOf 14 = .ok (.iconst 4, 1) := dk_7 (dk_at dksX0_partOf_0 14 rfl rfl)
theorem dX0_partOf_15 : decode cX0_partOf 15 = .ok (.if_icmp .ge 18, 3) := dk_162 0 18 (dk_at dksX0_partOf_0 15 rfl rfl)
theorem dX0_partOf_18 : decode cX0_partOf 18 = .ok (.iload 4, 2) := dk_21 4 (dk_at dksX0_partOf_0 18 rfl rfl)
theorem dX0_partOf_20 : decode cX0_partOf 20 = .ok (.aload_n 3, 1) := dk_45 (dk_at dksX0_partOf_0 20 rfl rfl)
theorem dX0_partOf_21 : decode cX0_partOf 21 = .ok (.iload 5, 2) := dk_21 5 (dk_at dksX0_partOf_0 21 rfl rfl)
theorem dX0_partOf_23 : decode cX0_partOf 23 = .ok (.iaload, 1) := dk_46 (dk_at dksX0_partOf_0 23 rfl rfl)
theorem dX0_partOf_24 : decode cX0_partOf 24 = .ok (.iadd, 1) := dk_96 (dk_at dksX0_partOf_1 0 rfl rfl)
theorem dX0_partOf_25 : decode cX0_partOf 25 = .ok (.istore 4, 2) := dk_54 4 (dk_at dksX0_partOf_1 1 rfl rfl)
theorem dX0_partOf_27 : decode cX0_partOf 27 = .ok (.iinc 5 1, 3) := dk_132 5 1 (dk_at dksX0_partOf_1 3 rfl rfl)
theorem dX0_partOf_30 : decode cX0_partOf 30 = .ok (.goto (-18), 3) := dk_167 255 238 (dk_at dksX0_partOf_1 6 rfl rfl)
theorem dX0_partOf_33 : decode cX0_partOf 33 = .ok (.aload_n 1, 1) := dk_43 (dk_at dksX0_partOf_1 9 rfl rfl)
theorem dX0_partOf_34 : decode cX0_partOf 34 = .ok (.invokevirtual 146, 3) := dk_182 0 146 (dk_at dksX0_partOf_1 10 rfl rfl)
theorem dX0_partOf_37 : decode cX0_partOf 37 = .ok (.aload_n 3, 1) := dk_45 (dk_at dksX0_partOf_1 13 rfl rfl)
theorem dX0_partOf_38 : decode cX0_partOf 38 = .ok (.iload_n 2, 1) := dk_28 (dk_at dksX0_partOf_1 14 rfl rfl)
theorem dX0_partOf_39 : decode cX0_partOf 39 = .ok (.iaload, 1) := dk_46 (dk_at dksX0_partOf_1 15 rfl rfl)
theorem dX0_partOf_40 : decode cX0_partOf 40 = .ok (.imul, 1) := dk_104 (dk_at dksX0_partOf_1 16 rfl rfl)
theorem dX0_partOf_41 : decode cX0_partOf 41 = .ok (.iload 4, 2) := dk_21 4 (dk_at dksX0_partOf_1 17 rfl rfl)
theorem dX0_partOf_43 : decode cX0_partOf 43 = .ok (.idiv, 1) := dk_108 (dk_at dksX0_partOf_1 19 rfl rfl)
theorem dX0_partOf_44 : decode cX0_partOf 44 = .ok (.ireturn, 1) := dk_172 (dk_at dksX0_partOf_1 20 rfl rfl)
theorem dX0_partOf_45 : decode cX0_partOf 45 = .ok (.astore 5, 2) := dk_58 5 (dk_at dksX0_partOf_1 21 rfl rfl)
theorem dX0_partOf_47 : decode cX0_partOf 47 = .ok (.iconst 0, 1) := dk_3 (dk_at dksX0_partOf_1 23 rfl rfl)
theorem dX0_partOf_48 : decode cX0_partOf 48 = .ok (.ireturn, 1) := dk_172 (dk_at dksX0_partOf_2 0 rfl rfl)
abbrev cX0_pays : ByteArray := prog_1_method_27_code
def yX0_pays : MethodName := ⟨RX0, "pays", "(I)I"⟩
def dkwX0_pays_2 : List UInt8 := [132, 4, 1, 167, 255, 227, 28, 172]
abbrev dktX0_pays_2 : List UInt8 := dkwX0_pays_2 ++ []
def dkwX0_pays_1 : List UInt8 := [45, 182, 0, 75, 162, 0, 26, 28, 42, 45, 21, 4, 182, 0, 135, 192, 0, 104, 27, 182, 0, 169, 96, 61]
abbrev dktX0_pays_1 : List UInt8 := dkwX0_pays_1 ++ dktX0_pays_2
def dkwX0_pays_0 : List UInt8 := [27, 184, 0, 166, 154, 0, 5, 2, 172, 3, 61, 42, 180, 0, 38, 182, 0, 131, 78, 3, 54, 4, 21, 4]
abbrev dktX0_pays_0 : List UInt8 := dkwX0_pays_0 ++ dktX0_pays_1
theorem dksX0_pays_0 : cX0_pays.data.toList.drop 0 = dktX0_pays_0 := by decide +kernel
theorem dksX0_pays_1 : cX0_pays.data.toList.drop 24 = dktX0_pays_1 := dk_seg dksX0_pays_0 24 rfl rfl
theorem dksX0_pays_2 : cX0_pays.data.toList.drop 48 = dktX0_pays_2 := dk_seg dksX0_pays_1 24 rfl rfl
theorem dX0_pays_0 : decode cX0_pays 0 = .ok (.iload_n 1, 1) := dk_27 (dk_at dksX0_pays_0 0 rfl rfl)
theorem dX0_pays_1 : decode cX0_pays 1 = .ok (.invokestatic 166, 3) := dk_184 0 166 (dk_at dksX0_pays_0 1 rfl rfl)
theorem dX0_pays_4 : decode cX0_pays 4 = .ok (.ifCond .ne 5, 3) := dk_154 0 5 (dk_at dksX0_pays_0 4 rfl rfl)
theorem dX0_pays_7 : decode cX0_pays 7 = .ok (.iconst (-1), 1) := dk_2 (dk_at dksX0_pays_0 7 rfl rfl)
theorem dX0_pays_8 : decode cX0_pays 8 = .ok (.ireturn, 1) := dk_172 (dk_at dksX0_pays_0 8 rfl rfl)
theorem dX0_pays_9 : decode cX0_pays 9 = .ok (.iconst 0, 1) := dk_3 (dk_at dksX0_pays_0 9 rfl rfl)
theorem dX0_pays_10 : decode cX0_pays 10 = .ok (.istore_n 2, 1) := dk_61 (dk_at dksX0_pays_0 10 rfl rfl)
theorem dX0_pays_11 : decode cX0_pays 11 = .ok (.aload_n 0, 1) := dk_42 (dk_at dksX0_pays_0 11 rfl rfl)
theorem dX0_pays_12 : decode cX0_pays 12 = .ok (.getfield 38, 3) := dk_180 0 38 (dk_at dksX0_pays_0 12 rfl rfl)
theorem dX0_pays_15 : decode cX0_pays 15 = .ok (.invokevirtual 131, 3) := dk_182 0 131 (dk_at dksX0_pays_0 15 rfl rfl)
theorem dX0_pays_18 : decode cX0_pays 18 = .ok (.astore_n 3, 1) := dk_78 (dk_at dksX0_pays_0 18 rfl rfl)
theorem dX0_pays_19 : decode cX0_pays 19 = .ok (.iconst 0, 1) := dk_3 (dk_at dksX0_pays_0 19 rfl rfl)
theorem dX0_pays_20 : decode cX0_pays 20 = .ok (.istore 4, 2) := dk_54 4 (dk_at dksX0_pays_0 20 rfl rfl)
theorem dX0_pays_22 : decode cX0_pays 22 = .ok (.iload 4, 2) := dk_21 4 (dk_at dksX0_pays_0 22 rfl rfl)
theorem dX0_pays_24 : decode cX0_pays 24 = .ok (.aload_n 3, 1) := dk_45 (dk_at dksX0_pays_1 0 rfl rfl)
theorem dX0_pays_25 : decode cX0_pays 25 = .ok (.invokevirtual 75, 3) := dk_182 0 75 (dk_at dksX0_pays_1 1 rfl rfl)
theorem dX0_pays_28 : decode cX0_pays 28 = .ok (.if_icmp .ge 26, 3) := dk_162 0 26 (dk_at dksX0_pays_1 4 rfl rfl)
theorem dX0_pays_31 : decode cX0_pays 31 = .ok (.iload_n 2, 1) := dk_28 (dk_at dksX0_pays_1 7 rfl rfl)
theorem dX0_pays_32 : decode cX0_pays 32 = .ok (.aload_n 0, 1) := dk_42 (dk_at dksX0_pays_1 8 rfl rfl)
theorem dX0_pays_33 : decode cX0_pays 33 = .ok (.aload_n 3, 1) := dk_45 (dk_at dksX0_pays_1 9 rfl rfl)
theorem dX0_pays_34 : decode cX0_pays 34 = .ok (.iload 4, 2) := dk_21 4 (dk_at dksX0_pays_1 10 rfl rfl)
theorem dX0_pays_36 : decode cX0_pays 36 = .ok (.invokevirtual 135, 3) := dk_182 0 135 (dk_at dksX0_pays_1 12 rfl rfl)
theorem dX0_pays_39 : decode cX0_pays 39 = .ok (.checkcast 104, 3) := dk_192 0 104 (dk_at dksX0_pays_1 15 rfl rfl)
theorem dX0_pays_42 : decode cX0_pays 42 = .ok (.iload_n 1, 1) := dk_27 (dk_at dksX0_pays_1 18 rfl rfl)
theorem dX0_pays_43 : decode cX0_pays 43 = .ok (.invokevirtual 169, 3) := dk_182 0 169 (dk_at dksX0_pays_1 19 rfl rfl)
theorem dX0_pays_46 : decode cX0_pays 46 = .ok (.iadd, 1) := dk_96 (dk_at dksX0_pays_1 22 rfl rfl)
theorem dX0_pays_47 : decode cX0_pays 47 = .ok (.istore_n 2, 1) := dk_61 (dk_at dksX0_pays_1 23 rfl rfl)
theorem dX0_pays_48 : decode cX0_pays 48 = .ok (.iinc 4 1, 3) := dk_132 4 1 (dk_at dksX0_pays_2 0 rfl rfl)
theorem dX0_pays_51 : decode cX0_pays 51 = .ok (.goto (-29), 3) := dk_167 255 227 (dk_at dksX0_pays_2 3 rfl rfl)
theorem dX0_pays_54 : decode cX0_pays 54 = .ok (.iload_n 2, 1) := dk_28 (dk_at dksX0_pays_2 6 rfl rfl)
theorem dX0_pays_55 : decode cX0_pays 55 = .ok (.ireturn, 1) := dk_172 (dk_at dksX0_pays_2 7 rfl rfl)
abbrev cX0_worth : ByteArray := prog_1_method_28_code
def yX0_worth : MethodName := ⟨RX0, "worth", "(I)I"⟩
def dkwX0_worth_3 : List UInt8 := [172]
abbrev dktX0_worth_3 : List UInt8 := dkwX0_worth_3 ++ []
def dkwX0_worth_2 : List UInt8 := [182, 0, 58, 132, 2, 1, 167, 255, 226, 42, 180, 0, 38, 182, 0, 121, 42, 180, 0, 174, 182, 0, 121, 100]
abbrev dktX0_worth_2 : List UInt8 := dkwX0_worth_2 ++ dktX0_worth_3
def dkwX0_worth_1 : List UInt8 := [16, 36, 162, 0, 30, 42, 180, 0, 88, 28, 51, 27, 160, 0, 14, 42, 180, 0, 174, 10, 28, 121, 3]
abbrev dktX0_worth_1 : List UInt8 := dkwX0_worth_1 ++ dktX0_worth_2
def dkwX0_worth_0 : List UInt8 := [27, 184, 0, 166, 154, 0, 6, 18, 173, 172, 42, 180, 0, 174, 42, 180, 0, 38, 182, 0, 177, 3, 61, 28]
abbrev dktX0_worth_0 : List UInt8 := dkwX0_worth_0 ++ dktX0_worth_1
theorem dksX0_worth_0 : cX0_worth.data.toList.drop 0 = dktX0_worth_0 := by decide +kernel
theorem dksX0_worth_1 : cX0_worth.data.toList.drop 24 = dktX0_worth_1 := dk_seg dksX0_worth_0 24 rfl rfl
theorem dksX0_worth_2 : cX0_worth.data.toList.drop 47 = dktX0_worth_2 := dk_seg dksX0_worth_1 23 rfl rfl
theorem dksX0_worth_3 : cX0_worth.data.toList.drop 71 = dktX0_worth_3 := dk_seg dksX0_worth_2 24 rfl rfl
theorem dX0_worth_0 : decode cX0_worth 0 = .ok (.iload_n 1, 1) := dk_27 (dk_at dksX0_worth_0 0 rfl rfl)
theorem dX0_worth_1 : decode cX0_worth 1 = .ok (.invokestatic 166, 3) := dk_184 0 166 (dk_at dksX0_worth_0 1 rfl rfl)
theorem dX0_worth_4 : decode cX0_worth 4 = .ok (.ifCond .ne 6, 3) := dk_154 0 6 (dk_at dksX0_worth_0 4 rfl rfl)
theorem dX0_worth_7 : decode cX0_worth 7 = .ok (.ldc 173, 2) := dk_18 173 (dk_at dksX0_worth_0 7 rfl rfl)
theorem dX0_worth_9 : decode cX0_worth 9 = .ok (.ireturn, 1) := dk_172 (dk_at dksX0_worth_0 9 rfl rfl)
theorem dX0_worth_10 : decode cX0_worth 10 = .ok (.aload_n 0, 1) := dk_42 (dk_at dksX0_worth_0 10 rfl rfl)
theorem dX0_worth_11 : decode cX0_worth 11 = .ok (.getfield 174, 3) := dk_180 0 174 (dk_at dksX0_worth_0 11 rfl rfl)
theorem dX0_worth_14 : decode cX0_worth 14 = .ok (.aload_n 0, 1) := dk_42 (dk_at dksX0_worth_0 14 rfl rfl)
theorem dX0_worth_15 : decode cX0_worth 15 = .ok (.getfield 38, 3) := dk_180 0 38 (dk_at dksX0_worth_0 15 rfl rfl)
theorem dX0_worth_18 : decode cX0_worth 18 = .ok (.invokevirtual 177, 3) := dk_182 0 177 (dk_at dksX0_worth_0 18 rfl rfl)
theorem dX0_worth_21 : decode cX0_worth 21 = .ok (.iconst 0, 1) := dk_3 (dk_at dksX0_worth_0 21 rfl rfl)
theorem dX0_worth_22 : decode cX0_worth 22 = .ok (.istore_n 2, 1) := dk_61 (dk_at dksX0_worth_0 22 rfl rfl)
theorem dX0_worth_23 : decode cX0_worth 23 = .ok (.iload_n 2, 1) := dk_28 (dk_at dksX0_worth_0 23 rfl rfl)
theorem dX0_worth_24 : decode cX0_worth 24 = .ok (.bipush 36, 2) := dk_16 36 (dk_at dksX0_worth_1 0 rfl rfl)
theorem dX0_worth_26 : decode cX0_worth 26 = .ok (.if_icmp .ge 30, 3) := dk_162 0 30 (dk_at dksX0_worth_1 2 rfl rfl)
theorem dX0_worth_29 : decode cX0_worth 29 = .ok (.aload_n 0, 1) := dk_42 (dk_at dksX0_worth_1 5 rfl rfl)
theorem dX0_worth_30 : decode cX0_worth 30 = .ok (.getfield 88, 3) := dk_180 0 88 (dk_at dksX0_worth_1 6 rfl rfl)
theorem dX0_worth_33 : decode cX0_worth 33 = .ok (.iload_n 2, 1) := dk_28 (dk_at dksX0_worth_1 9 rfl rfl)
theorem dX0_worth_34 : decode cX0_worth 34 = .ok (.baload, 1) := dk_51 (dk_at dksX0_worth_1 10 rfl rfl)
theorem dX0_worth_35 : decode cX0_worth 35 = .ok (.iload_n 1, 1) := dk_27 (dk_at dksX0_worth_1 11 rfl rfl)
theorem dX0_worth_36 : decode cX0_worth 36 = .ok (.if_icmp .ne 14, 3) := dk_160 0 14 (dk_at dksX0_worth_1 12 rfl rfl)
theorem dX0_worth_39 : decode cX0_worth 39 = .ok (.aload_n 0, 1) := dk_42 (dk_at dksX0_worth_1 15 rfl rfl)
theorem dX0_worth_40 : decode cX0_worth 40 = .ok (.getfield 174, 3) := dk_180 0 174 (dk_at dksX0_worth_1 16 rfl rfl)
theorem dX0_worth_43 : decode cX0_worth 43 = .ok (.lconst 1, 1) := dk_10 (dk_at dksX0_worth_1 19 rfl rfl)
theorem dX0_worth_44 : decode cX0_worth 44 = .ok (.iload_n 2, 1) := dk_28 (dk_at dksX0_worth_1 20 rfl rfl)
theorem dX0_worth_45 : decode cX0_worth 45 = .ok (.lshl, 1) := dk_121 (dk_at dksX0_worth_1 21 rfl rfl)
theorem dX0_worth_46 : decode cX0_worth 46 = .ok (.iconst 0, 1) := dk_3 (dk_at dksX0_worth_1 22 rfl rfl)
theorem dX0_worth_47 : decode cX0_worth 47 = .ok (.invokevirtual 58, 3) := dk_182 0 58 (dk_at dksX0_worth_2 0 rfl rfl)
theorem dX0_worth_50 : decode cX0_worth 50 = .ok (.iinc 2 1, 3) := dk_132 2 1 (dk_at dksX0_worth_2 3 rfl rfl)
theorem dX0_worth_53 : decode cX0_worth 53 = .ok (.goto (-30), 3) := dk_167 255 226 (dk_at dksX0_worth_2 6 rfl rfl)
theorem dX0_worth_56 : decode cX0_worth 56 = .ok (.aload_n 0, 1) := dk_42 (dk_at dksX0_worth_2 9 rfl rfl)
theorem dX0_worth_57 : decode cX0_worth 57 = .ok (.getfield 38, 3) := dk_180 0 38 (dk_at dksX0_worth_2 10 rfl rfl)
theorem dX0_worth_60 : decode cX0_worth 60 = .ok (.invokevirtual 121, 3) := dk_182 0 121 (dk_at dksX0_worth_2 13 rfl rfl)
theorem dX0_worth_63 : decode cX0_worth 63 = .ok (.aload_n 0, 1) := dk_42 (dk_at dksX0_worth_2 16 rfl rfl)
theorem dX0_worth_64 : decode cX0_worth 64 = .ok (.getfield 174, 3) := dk_180 0 174 (dk_at dksX0_worth_2 17 rfl rfl)
theorem dX0_worth_67 : decode cX0_worth 67 = .ok (.invokevirtual 121, 3) := dk_182 0 121 (dk_at dksX0_worth_2 20 rfl rfl)
theorem dX0_worth_70 : decode cX0_worth 70 = .ok (.isub, 1) := dk_100 (dk_at dksX0_worth_2 23 rfl rfl)
theorem dX0_worth_71 : decode cX0_worth 71 = .ok (.ireturn, 1) := dk_172 (dk_at dksX0_worth_3 0 rfl rfl)
abbrev cX0_filled : ByteArray := prog_1_method_32_code
def yX0_filled : MethodName := ⟨RX0, "filled", "(II)I"⟩
def dkwX0_filled_1 : List UInt8 := [2, 172, 42, 27, 182, 0, 186, 28, 184, 0, 190, 172]
abbrev dktX0_filled_1 : List UInt8 := dkwX0_filled_1 ++ []
def dkwX0_filled_0 : List UInt8 := [27, 133, 9, 20, 0, 184, 184, 0, 5, 153, 0, 15, 28, 133, 20, 0, 15, 10, 184, 0, 5, 154, 0, 5]
abbrev dktX0_filled_0 : List UInt8 := dkwX0_filled_0 ++ dktX0_filled_1
theorem dksX0_filled_0 : cX0_filled.data.toList.drop 0 = dktX0_filled_0 := by decide +kernel
theorem dksX0_filled_1 : cX0_filled.data.toList.drop 24 = dktX0_filled_1 := dk_seg dksX0_filled_0 24 rfl rfl
theorem dX0_filled_0 : decode cX0_filled 0 = .ok (.iload_n 1, 1) := dk_27 (dk_at dksX0_filled_0 0 rfl rfl)
theorem dX0_filled_1 : decode cX0_filled 1 = .ok (.i2l, 1) := dk_133 (dk_at dksX0_filled_0 1 rfl rfl)
theorem dX0_filled_2 : decode cX0_filled 2 = .ok (.lconst 0, 1) := dk_9 (dk_at dksX0_filled_0 2 rfl rfl)
theorem dX0_filled_3 : decode cX0_filled 3 = .ok (.ldc2_w 184, 3) := dk_20 0 184 (dk_at dksX0_filled_0 3 rfl rfl)
theorem dX0_filled_6 : decode cX0_filled 6 = .ok (.invokestatic 5, 3) := dk_184 0 5 (dk_at dksX0_filled_0 6 rfl rfl)
theorem dX0_filled_9 : decode cX0_filled 9 = .ok (.ifCond .eq 15, 3) := dk_153 0 15 (dk_at dksX0_filled_0 9 rfl rfl)
theorem dX0_filled_12 : decode cX0_filled 12 = .ok (.iload_n 2, 1) := dk_28 (dk_at dksX0_filled_0 12 rfl rfl)
theorem dX0_filled_13 : decode cX0_filled 13 = .ok (.i2l, 1) := dk_133 (dk_at dksX0_filled_0 13 rfl rfl)
theorem dX0_filled_14 : decode cX0_filled 14 = .ok (.ldc2_w 15, 3) := dk_20 0 15 (dk_at dksX0_filled_0 14 rfl rfl)
theorem dX0_filled_17 : decode cX0_filled 17 = .ok (.lconst 1, 1) := dk_10 (dk_at dksX0_filled_0 17 rfl rfl)
theorem dX0_filled_18 : decode cX0_filled 18 = .ok (.invokestatic 5, 3) := dk_184 0 5 (dk_at dksX0_filled_0 18 rfl rfl)
theorem dX0_filled_21 : decode cX0_filled 21 = .ok (.ifCond .ne 5, 3) := dk_154 0 5 (dk_at dksX0_filled_0 21 rfl rfl)
theorem dX0_filled_24 : decode cX0_filled 24 = .ok (.iconst (-1), 1) := dk_2 (dk_at dksX0_filled_1 0 rfl rfl)
theorem dX0_filled_25 : decode cX0_filled 25 = .ok (.ireturn, 1) := dk_172 (dk_at dksX0_filled_1 1 rfl rfl)
theorem dX0_filled_26 : decode cX0_filled 26 = .ok (.aload_n 0, 1) := dk_42 (dk_at dksX0_filled_1 2 rfl rfl)
theorem dX0_filled_27 : decode cX0_filled 27 = .ok (.iload_n 1, 1) := dk_27 (dk_at dksX0_filled_1 3 rfl rfl)
theorem dX0_filled_28 : decode cX0_filled 28 = .ok (.invokevirtual 186, 3) := dk_182 0 186 (dk_at dksX0_filled_1 4 rfl rfl)
theorem dX0_filled_31 : decode cX0_filled 31 = .ok (.iload_n 2, 1) := dk_28 (dk_at dksX0_filled_1 7 rfl rfl)
theorem dX0_filled_32 : decode cX0_filled 32 = .ok (.invokestatic 190, 3) := dk_184 0 190 (dk_at dksX0_filled_1 8 rfl rfl)
theorem dX0_filled_35 : decode cX0_filled 35 = .ok (.ireturn, 1) := dk_172 (dk_at dksX0_filled_1 11 rfl rfl)
abbrev cX0_fewestFilled : ByteArray := prog_1_method_31_code
def yX0_fewestFilled : MethodName := ⟨RX0, "fewestFilled", "(I)I"⟩
def dkwX0_fewestFilled_6 : List UInt8 := [132, 4, 1, 167, 255, 183, 16, 252, 172]
abbrev dktX0_fewestFilled_6 : List UInt8 := dkwX0_fewestFilled_6 ++ []
def dkwX0_fewestFilled_5 : List UInt8 := [129, 27, 182, 0, 181, 153, 0, 12, 16, 100, 21, 4, 104, 21, 5, 96, 172, 132, 5, 1, 167, 255, 202]
abbrev dktX0_fewestFilled_5 : List UInt8 := dkwX0_fewestFilled_5 ++ dktX0_fewestFilled_6
def dkwX0_fewestFilled_4 : List UInt8 := [184, 0, 26, 153, 0, 38, 32, 21, 5, 184, 0, 26, 153, 0, 29, 42, 10, 21, 4, 121, 10, 21, 5, 121]
abbrev dktX0_fewestFilled_4 : List UInt8 := dkwX0_fewestFilled_4 ++ dktX0_fewestFilled_5
def dkwX0_fewestFilled_3 : List UInt8 := [21, 4, 16, 36, 162, 0, 72, 21, 4, 4, 96, 54, 5, 21, 5, 16, 36, 162, 0, 53, 32, 21, 4]
abbrev dktX0_fewestFilled_3 : List UInt8 := dkwX0_fewestFilled_3 ++ dktX0_fewestFilled_4
def dkwX0_fewestFilled_2 : List UInt8 := [182, 0, 181, 153, 0, 12, 16, 100, 21, 4, 104, 16, 99, 96, 172, 132, 4, 1, 167, 255, 216, 3, 54, 4]
abbrev dktX0_fewestFilled_2 : List UInt8 := dkwX0_fewestFilled_2 ++ dktX0_fewestFilled_3
def dkwX0_fewestFilled_1 : List UInt8 := [21, 4, 16, 36, 162, 0, 39, 32, 21, 4, 184, 0, 26, 153, 0, 24, 42, 10, 21, 4, 121, 27]
abbrev dktX0_fewestFilled_1 : List UInt8 := dkwX0_fewestFilled_1 ++ dktX0_fewestFilled_2
def dkwX0_fewestFilled_0 : List UInt8 := [42, 9, 27, 182, 0, 181, 153, 0, 7, 17, 39, 15, 172, 42, 180, 0, 38, 182, 0, 112, 65, 3, 54, 4]
abbrev dktX0_fewestFilled_0 : List UInt8 := dkwX0_fewestFilled_0 ++ dktX0_fewestFilled_1
theorem dksX0_fewestFilled_0 : cX0_fewestFilled.data.toList.drop 0 = dktX0_fewestFilled_0 := by decide +kernel
theorem dksX0_fewestFilled_1 : cX0_fewestFilled.data.toList.drop 24 = dktX0_fewestFilled_1 := dk_seg dksX0_fewestFilled_0 24 rfl rfl
theorem dksX0_fewestFilled_2 : cX0_fewestFilled.data.toList.drop 46 = dktX0_fewestFilled_2 := dk_seg dksX0_fewestFilled_1 22 rfl rfl
theorem dksX0_fewestFilled_3 : cX0_fewestFilled.data.toList.drop 70 = dktX0_fewestFilled_3 := dk_seg dksX0_fewestFilled_2 24 rfl rfl
theorem dksX0_fewestFilled_4 : cX0_fewestFilled.data.toList.drop 93 = dktX0_fewestFilled_4 := dk_seg dksX0_fewestFilled_3 23 rfl rfl
theorem dksX0_fewestFilled_5 : cX0_fewestFilled.data.toList.drop 117 = dktX0_fewestFilled_5 := dk_seg dksX0_fewestFilled_4 24 rfl rfl
theorem dksX0_fewestFilled_6 : cX0_fewestFilled.data.toList.drop 140 = dktX0_fewestFilled_6 := dk_seg dksX0_fewestFilled_5 23 rfl rfl
theorem dX0_fewestFilled_0 : decode cX0_fewestFilled 0 = .ok (.aload_n 0, 1) := dk_42 (dk_at dksX0_fewestFilled_0 0 rfl rfl)
theorem dX0_fewestFilled_1 : decode cX0_fewestFilled 1 = .ok (.lconst 0, 1) := dk_9 (dk_at dksX0_fewestFilled_0 1 rfl rfl)
theorem dX0_fewestFilled_2 : decode cX0_fewestFilled 2 = .ok (.iload_n 1, 1) := dk_27 (dk_at dksX0_fewestFilled_0 2 rfl rfl)
theorem dX0_fewestFilled_3 : decode cX0_fewestFilled 3 = .ok (.invokevirtual 181, 3) := dk_182 0 181 (dk_at dksX0_fewestFilled_0 3 rfl rfl)
theorem dX0_fewestFilled_6 : decode cX0_fewestFilled 6 = .ok (.ifCond .eq 7, 3) := dk_153 0 7 (dk_at dksX0_fewestFilled_0 6 rfl rfl)
theorem dX0_fewestFilled_9 : decode cX0_fewestFilled 9 = .ok (.sipush 9999, 3) := dk_17 39 15 (dk_at dksX0_fewestFilled_0 9 rfl rfl)
theorem dX0_fewestFilled_12 : decode cX0_fewestFilled 12 = .ok (.ireturn, 1) := dk_172 (dk_at dksX0_fewestFilled_0 12 rfl rfl)
theorem dX0_fewestFilled_13 : decode cX0_fewestFilled 13 = .ok (.aload_n 0, 1) := dk_42 (dk_at dksX0_fewestFilled_0 13 rfl rfl)
theorem dX0_fewestFilled_14 : decode cX0_fewestFilled 14 = .ok (.getfield 38, 3) := dk_180 0 38 (dk_at dksX0_fewestFilled_0 14 rfl rfl)
theorem dX0_fewestFilled_17 : decode cX0_fewestFilled 17 = .ok (.invokevirtual 112, 3) := dk_182 0 112 (dk_at dksX0_fewestFilled_0 17 rfl rfl)
theorem dX0_fewestFilled_20 : decode cX0_fewestFilled 20 = .ok (.lstore_n 2, 1) := dk_65 (dk_at dksX0_fewestFilled_0 20 rfl rfl)
theorem dX0_fewestFilled_21 : decode cX0_fewestFilled 21 = .ok (.iconst 0, 1) := dk_3 (dk_at dksX0_fewestFilled_0 21 rfl rfl)
theorem dX0_fewestFilled_22 : decode cX0_fewestFilled 22 = .ok (.istore 4, 2) := dk_54 4 (dk_at dksX0_fewestFilled_0 22 rfl rfl)
theorem dX0_fewestFilled_24 : decode cX0_fewestFilled 24 = .ok (.iload 4, 2) := dk_21 4 (dk_at dksX0_fewestFilled_1 0 rfl rfl)
theorem dX0_fewestFilled_26 : decode cX0_fewestFilled 26 = .ok (.bipush 36, 2) := dk_16 36 (dk_at dksX0_fewestFilled_1 2 rfl rfl)
theorem dX0_fewestFilled_28 : decode cX0_fewestFilled 28 = .ok (.if_icmp .ge 39, 3) := dk_162 0 39 (dk_at dksX0_fewestFilled_1 4 rfl rfl)
theorem dX0_fewestFilled_31 : decode cX0_fewestFilled 31 = .ok (.lload_n 2, 1) := dk_32 (dk_at dksX0_fewestFilled_1 7 rfl rfl)
theorem dX0_fewestFilled_32 : decode cX0_fewestFilled 32 = .ok (.iload 4, 2) := dk_21 4 (dk_at dksX0_fewestFilled_1 8 rfl rfl)
theorem dX0_fewestFilled_34 : decode cX0_fewestFilled 34 = .ok (.invokestatic 26, 3) := dk_184 0 26 (dk_at dksX0_fewestFilled_1 10 rfl rfl)
theorem dX0_fewestFilled_37 : decode cX0_fewestFilled 37 = .ok (.ifCond .eq 24, 3) := dk_153 0 24 (dk_at dksX0_fewestFilled_1 13 rfl rfl)
theorem dX0_fewestFilled_40 : decode cX0_fewestFilled 40 = .ok (.aload_n 0, 1) := dk_42 (dk_at dksX0_fewestFilled_1 16 rfl rfl)
theorem dX0_fewestFilled_41 : decode cX0_fewestFilled 41 = .ok (.lconst 1, 1) := dk_10 (dk_at dksX0_fewestFilled_1 17 rfl rfl)
theorem dX0_fewestFilled_42 : decode cX0_fewestFilled 42 = .ok (.iload 4, 2) := dk_21 4 (dk_at dksX0_fewestFilled_1 18 rfl rfl)
theorem dX0_fewestFilled_44 : decode cX0_fewestFilled 44 = .ok (.lshl, 1) := dk_121 (dk_at dksX0_fewestFilled_1 20 rfl rfl)
theorem dX0_fewestFilled_45 : decode cX0_fewestFilled 45 = .ok (.iload_n 1, 1) := dk_27 (dk_at dksX0_fewestFilled_1 21 rfl rfl)
theorem dX0_fewestFilled_46 : decode cX0_fewestFilled 46 = .ok (.invokevirtual 181, 3) := dk_182 0 181 (dk_at dksX0_fewestFilled_2 0 rfl rfl)
theorem dX0_fewestFilled_49 : decode cX0_fewestFilled 49 = .ok (.ifCond .eq 12, 3) := dk_153 0 12 (dk_at dksX0_fewestFilled_2 3 rfl rfl)
theorem dX0_fewestFilled_52 : decode cX0_fewestFilled 52 = .ok (.bipush 100, 2) := dk_16 100 (dk_at dksX0_fewestFilled_2 6 rfl rfl)
theorem dX0_fewestFilled_54 : decode cX0_fewestFilled 54 = .ok (.iload 4, 2) := dk_21 4 (dk_at dksX0_fewestFilled_2 8 rfl rfl)
theorem dX0_fewestFilled_56 : decode cX0_fewestFilled 56 = .ok (.imul, 1) := dk_104 (dk_at dksX0_fewestFilled_2 10 rfl rfl)
theorem dX0_fewestFilled_57 : decode cX0_fewestFilled 57 = .ok (.bipush 99, 2) := dk_16 99 (dk_at dksX0_fewestFilled_2 11 rfl rfl)
theorem dX0_fewestFilled_59 : decode cX0_fewestFilled 59 = .ok (.iadd, 1) := dk_96 (dk_at dksX0_fewestFilled_2 13 rfl rfl)
theorem dX0_fewestFilled_60 : decode cX0_fewestFilled 60 = .ok (.ireturn, 1) := dk_172 (dk_at dksX0_fewestFilled_2 14 rfl rfl)
theorem dX0_fewestFilled_61 : decode cX0_fewestFilled 61 = .ok (.iinc 4 1, 3) := dk_132 4 1 (dk_at dksX0_fewestFilled_2 15 rfl rfl)
theorem dX0_fewestFilled_64 : decode cX0_fewestFilled 64 = .ok (.goto (-40), 3) := dk_167 255 216 (dk_at dksX0_fewestFilled_2 18 rfl rfl)
theorem dX0_fewestFilled_67 : decode cX0_fewestFilled 67 = .ok (.iconst 0, 1) := dk_3 (dk_at dksX0_fewestFilled_2 21 rfl rfl)
theorem dX0_fewestFilled_68 : decode cX0_fewestFilled 68 = .ok (.istore 4, 2) := dk_54 4 (dk_at dksX0_fewestFilled_2 22 rfl rfl)
theorem dX0_fewestFilled_70 : decode cX0_fewestFilled 70 = .ok (.iload 4, 2) := dk_21 4 (dk_at dksX0_fewestFilled_3 0 rfl rfl)
theorem dX0_fewestFilled_72 : decode cX0_fewestFilled 72 = .ok (.bipush 36, 2) := dk_16 36 (dk_at dksX0_fewestFilled_3 2 rfl rfl)
theorem dX0_fewestFilled_74 : decode cX0_fewestFilled 74 = .ok (.if_icmp .ge 72, 3) := dk_162 0 72 (dk_at dksX0_fewestFilled_3 4 rfl rfl)
theorem dX0_fewestFilled_77 : decode cX0_fewestFilled 77 = .ok (.iload 4, 2) := dk_21 4 (dk_at dksX0_fewestFilled_3 7 rfl rfl)
theorem dX0_fewestFilled_79 : decode cX0_fewestFilled 79 = .ok (.iconst 1, 1) := dk_4 (dk_at dksX0_fewestFilled_3 9 rfl rfl)
theorem dX0_fewestFilled_80 : decode cX0_fewestFilled 80 = .ok (.iadd, 1) := dk_96 (dk_at dksX0_fewestFilled_3 10 rfl rfl)
theorem dX0_fewestFilled_81 : decode cX0_fewestFilled 81 = .ok (.istore 5, 2) := dk_54 5 (dk_at dksX0_fewestFilled_3 11 rfl rfl)
theorem dX0_fewestFilled_83 : decode cX0_fewestFilled 83 = .ok (.iload 5, 2) := dk_21 5 (dk_at dksX0_fewestFilled_3 13 rfl rfl)
theorem dX0_fewestFilled_85 : decode cX0_fewestFilled 85 = .ok (.bipush 36, 2) := dk_16 36 (dk_at dksX0_fewestFilled_3 15 rfl rfl)
theorem dX0_fewestFilled_87 : decode cX0_fewestFilled 87 = .ok (.if_icmp .ge 53, 3) := dk_162 0 53 (dk_at dksX0_fewestFilled_3 17 rfl rfl)
theorem dX0_fewestFilled_90 : decode cX0_fewestFilled 90 = .ok (.lload_n 2, 1) := dk_32 (dk_at dksX0_fewestFilled_3 20 rfl rfl)
theorem dX0_fewestFilled_91 : decode cX0_fewestFilled 91 = .ok (.iload 4, 2) := dk_21 4 (dk_at dksX0_fewestFilled_3 21 rfl rfl)
theorem dX0_fewestFilled_93 : decode cX0_fewestFilled 93 = .ok (.invokestatic 26, 3) := dk_184 0 26 (dk_at dksX0_fewestFilled_4 0 rfl rfl)
theorem dX0_fewestFilled_96 : decode cX0_fewestFilled 96 = .ok (.ifCond .eq 38, 3) := dk_153 0 38 (dk_at dksX0_fewestFilled_4 3 rfl rfl)
theorem dX0_fewestFilled_99 : decode cX0_fewestFilled 99 = .ok (.lload_n 2, 1) := dk_32 (dk_at dksX0_fewestFilled_4 6 rfl rfl)
theorem dX0_fewestFilled_100 : decode cX0_fewestFilled 100 = .ok (.iload 5, 2) := dk_21 5 (dk_at dksX0_fewestFilled_4 7 rfl rfl)
theorem dX0_fewestFilled_102 : decode cX0_fewestFilled 102 = .ok (.invokestatic 26, 3) := dk_184 0 26 (dk_at dksX0_fewestFilled_4 9 rfl rfl)
theorem dX0_fewestFilled_105 : decode cX0_fewestFilled 105 = .ok (.ifCond .eq 29, 3) := dk_153 0 29 (dk_at dksX0_fewestFilled_4 12 rfl rfl)
theorem dX0_fewestFilled_108 : decode cX0_fewestFilled 108 = .ok (.aload_n 0, 1) := dk_42 (dk_at dksX0_fewestFilled_4 15 rfl rfl)
theorem dX0_fewestFilled_109 : decode cX0_fewestFilled 109 = .ok (.lconst 1, 1) := dk_10 (dk_at dksX0_fewestFilled_4 16 rfl rfl)
theorem dX0_fewestFilled_110 : decode cX0_fewestFilled 110 = .ok (.iload 4, 2) := dk_21 4 (dk_at dksX0_fewestFilled_4 17 rfl rfl)
theorem dX0_fewestFilled_112 : decode cX0_fewestFilled 112 = .ok (.lshl, 1) := dk_121 (dk_at dksX0_fewestFilled_4 19 rfl rfl)
theorem dX0_fewestFilled_113 : decode cX0_fewestFilled 113 = .ok (.lconst 1, 1) := dk_10 (dk_at dksX0_fewestFilled_4 20 rfl rfl)
theorem dX0_fewestFilled_114 : decode cX0_fewestFilled 114 = .ok (.iload 5, 2) := dk_21 5 (dk_at dksX0_fewestFilled_4 21 rfl rfl)
theorem dX0_fewestFilled_116 : decode cX0_fewestFilled 116 = .ok (.lshl, 1) := dk_121 (dk_at dksX0_fewestFilled_4 23 rfl rfl)
theorem dX0_fewestFilled_117 : decode cX0_fewestFilled 117 = .ok (.lor, 1) := dk_129 (dk_at dksX0_fewestFilled_5 0 rfl rfl)
theorem dX0_fewestFilled_118 : decode cX0_fewestFilled 118 = .ok (.iload_n 1, 1) := dk_27 (dk_at dksX0_fewestFilled_5 1 rfl rfl)
theorem dX0_fewestFilled_119 : decode cX0_fewestFilled 119 = .ok (.invokevirtual 181, 3) := dk_182 0 181 (dk_at dksX0_fewestFilled_5 2 rfl rfl)
theorem dX0_fewestFilled_122 : decode cX0_fewestFilled 122 = .ok (.ifCond .eq 12, 3) := dk_153 0 12 (dk_at dksX0_fewestFilled_5 5 rfl rfl)
theorem dX0_fewestFilled_125 : decode cX0_fewestFilled 125 = .ok (.bipush 100, 2) := dk_16 100 (dk_at dksX0_fewestFilled_5 8 rfl rfl)
theorem dX0_fewestFilled_127 : decode cX0_fewestFilled 127 = .ok (.iload 4, 2) := dk_21 4 (dk_at dksX0_fewestFilled_5 10 rfl rfl)
theorem dX0_fewestFilled_129 : decode cX0_fewestFilled 129 = .ok (.imul, 1) := dk_104 (dk_at dksX0_fewestFilled_5 12 rfl rfl)
theorem dX0_fewestFilled_130 : decode cX0_fewestFilled 130 = .ok (.iload 5, 2) := dk_21 5 (dk_at dksX0_fewestFilled_5 13 rfl rfl)
theorem dX0_fewestFilled_132 : decode cX0_fewestFilled 132 = .ok (.iadd, 1) := dk_96 (dk_at dksX0_fewestFilled_5 15 rfl rfl)
theorem dX0_fewestFilled_133 : decode cX0_fewestFilled 133 = .ok (.ireturn, 1) := dk_172 (dk_at dksX0_fewestFilled_5 16 rfl rfl)
theorem dX0_fewestFilled_134 : decode cX0_fewestFilled 134 = .ok (.iinc 5 1, 3) := dk_132 5 1 (dk_at dksX0_fewestFilled_5 17 rfl rfl)
theorem dX0_fewestFilled_137 : decode cX0_fewestFilled 137 = .ok (.goto (-54), 3) := dk_167 255 202 (dk_at dksX0_fewestFilled_5 20 rfl rfl)
theorem dX0_fewestFilled_140 : decode cX0_fewestFilled 140 = .ok (.iinc 4 1, 3) := dk_132 4 1 (dk_at dksX0_fewestFilled_6 0 rfl rfl)
theorem dX0_fewestFilled_143 : decode cX0_fewestFilled 143 = .ok (.goto (-73), 3) := dk_167 255 183 (dk_at dksX0_fewestFilled_6 3 rfl rfl)
theorem dX0_fewestFilled_146 : decode cX0_fewestFilled 146 = .ok (.bipush (-4), 2) := dk_16 252 (dk_at dksX0_fewestFilled_6 6 rfl rfl)
theorem dX0_fewestFilled_148 : decode cX0_fewestFilled 148 = .ok (.ireturn, 1) := dk_172 (dk_at dksX0_fewestFilled_6 8 rfl rfl)
abbrev cX0_isTaxed : ByteArray := prog_1_method_30_code
def yX0_isTaxed : MethodName := ⟨RX0, "isTaxed", "(JI)Z"⟩
def dkwX0_isTaxed_1 : List UInt8 := [182, 0, 121, 29, 163, 0, 7, 4, 167, 0, 4, 3, 172]
abbrev dktX0_isTaxed_1 : List UInt8 := dkwX0_isTaxed_1 ++ []
def dkwX0_isTaxed_0 : List UInt8 := [42, 180, 0, 174, 42, 180, 0, 38, 182, 0, 177, 42, 180, 0, 174, 31, 3, 182, 0, 58, 42, 180, 0, 174]
abbrev dktX0_isTaxed_0 : List UInt8 := dkwX0_isTaxed_0 ++ dktX0_isTaxed_1
theorem dksX0_isTaxed_0 : cX0_isTaxed.data.toList.drop 0 = dktX0_isTaxed_0 := by decide +kernel
theorem dksX0_isTaxed_1 : cX0_isTaxed.data.toList.drop 24 = dktX0_isTaxed_1 := dk_seg dksX0_isTaxed_0 24 rfl rfl
theorem dX0_isTaxed_0 : decode cX0_isTaxed 0 = .ok (.aload_n 0, 1) := dk_42 (dk_at dksX0_isTaxed_0 0 rfl rfl)
theorem dX0_isTaxed_1 : decode cX0_isTaxed 1 = .ok (.getfield 174, 3) := dk_180 0 174 (dk_at dksX0_isTaxed_0 1 rfl rfl)
theorem dX0_isTaxed_4 : decode cX0_isTaxed 4 = .ok (.aload_n 0, 1) := dk_42 (dk_at dksX0_isTaxed_0 4 rfl rfl)
theorem dX0_isTaxed_5 : decode cX0_isTaxed 5 = .ok (.getfield 38, 3) := dk_180 0 38 (dk_at dksX0_isTaxed_0 5 rfl rfl)
theorem dX0_isTaxed_8 : decode cX0_isTaxed 8 = .ok (.invokevirtual 177, 3) := dk_182 0 177 (dk_at dksX0_isTaxed_0 8 rfl rfl)
theorem dX0_isTaxed_11 : decode cX0_isTaxed 11 = .ok (.aload_n 0, 1) := dk_42 (dk_at dksX0_isTaxed_0 11 rfl rfl)
theorem dX0_isTaxed_12 : decode cX0_isTaxed 12 = .ok (.getfield 174, 3) := dk_180 0 174 (dk_at dksX0_isTaxed_0 12 rfl rfl)
theorem dX0_isTaxed_15 : decode cX0_isTaxed 15 = .ok (.lload_n 1, 1) := dk_31 (dk_at dksX0_isTaxed_0 15 rfl rfl)
theorem dX0_isTaxed_16 : decode cX0_isTaxed 16 = .ok (.iconst 0, 1) := dk_3 (dk_at dksX0_isTaxed_0 16 rfl rfl)
theorem dX0_isTaxed_17 : decode cX0_isTaxed 17 = .ok (.invokevirtual 58, 3) := dk_182 0 58 (dk_at dksX0_isTaxed_0 17 rfl rfl)
theorem dX0_isTaxed_20 : decode cX0_isTaxed 20 = .ok (.aload_n 0, 1) := dk_42 (dk_at dksX0_isTaxed_0 20 rfl rfl)
theorem dX0_isTaxed_21 : decode cX0_isTaxed 21 = .ok (.getfield 174, 3) := dk_180 0 174 (dk_at dksX0_isTaxed_0 21 rfl rfl)
theorem dX0_isTaxed_24 : decode cX0_isTaxed 24 = .ok (.invokevirtual 121, 3) := dk_182 0 121 (dk_at dksX0_isTaxed_1 0 rfl rfl)
theorem dX0_isTaxed_27 : decode cX0_isTaxed 27 = .ok (.iload_n 3, 1) := dk_29 (dk_at dksX0_isTaxed_1 3 rfl rfl)
theorem dX0_isTaxed_28 : decode cX0_isTaxed 28 = .ok (.if_icmp .gt 7, 3) := dk_163 0 7 (dk_at dksX0_isTaxed_1 4 rfl rfl)
theorem dX0_isTaxed_31 : decode cX0_isTaxed 31 = .ok (.iconst 1, 1) := dk_4 (dk_at dksX0_isTaxed_1 7 rfl rfl)
theorem dX0_isTaxed_32 : decode cX0_isTaxed 32 = .ok (.goto 4, 3) := dk_167 0 4 (dk_at dksX0_isTaxed_1 8 rfl rfl)
theorem dX0_isTaxed_35 : decode cX0_isTaxed 35 = .ok (.iconst 0, 1) := dk_3 (dk_at dksX0_isTaxed_1 11 rfl rfl)
theorem dX0_isTaxed_36 : decode cX0_isTaxed 36 = .ok (.ireturn, 1) := dk_172 (dk_at dksX0_isTaxed_1 12 rfl rfl)
abbrev cX0_found : ByteArray := prog_1_method_29_code
def yX0_found : MethodName := ⟨RX0, "found", "(II)I"⟩
def dkwX0_found_3 : List UInt8 := [172]
abbrev dktX0_found_3 : List UInt8 := dkwX0_found_3 ++ []
def dkwX0_found_2 : List UInt8 := [154, 0, 7, 28, 167, 0, 4, 29, 54, 4, 21, 4, 16, 99, 160, 0, 8, 16, 252, 167, 0, 5, 21, 4]
abbrev dktX0_found_2 : List UInt8 := dkwX0_found_2 ++ dktX0_found_3
def dkwX0_found_1 : List UInt8 := [16, 99, 160, 0, 7, 3, 167, 0, 4, 4, 29, 16, 99, 160, 0, 7, 3, 167, 0, 4, 4, 96, 172, 27]
abbrev dktX0_found_1 : List UInt8 := dkwX0_found_1 ++ dktX0_found_2
def dkwX0_found_0 : List UInt8 := [26, 16, 252, 160, 0, 6, 16, 252, 172, 26, 16, 100, 108, 61, 26, 16, 100, 112, 62, 27, 156, 0, 27, 28]
abbrev dktX0_found_0 : List UInt8 := dkwX0_found_0 ++ dktX0_found_1
theorem dksX0_found_0 : cX0_found.data.toList.drop 0 = dktX0_found_0 := by decide +kernel
theorem dksX0_found_1 : cX0_found.data.toList.drop 24 = dktX0_found_1 := dk_seg dksX0_found_0 24 rfl rfl
theorem dksX0_found_2 : cX0_found.data.toList.drop 48 = dktX0_found_2 := dk_seg dksX0_found_1 24 rfl rfl
theorem dksX0_found_3 : cX0_found.data.toList.drop 72 = dktX0_found_3 := dk_seg dksX0_found_2 24 rfl rfl
theorem dX0_found_0 : decode cX0_found 0 = .ok (.iload_n 0, 1) := dk_26 (dk_at dksX0_found_0 0 rfl rfl)
theorem dX0_found_1 : decode cX0_found 1 = .ok (.bipush (-4), 2) := dk_16 252 (dk_at dksX0_found_0 1 rfl rfl)
theorem dX0_found_3 : decode cX0_found 3 = .ok (.if_icmp .ne 6, 3) := dk_160 0 6 (dk_at dksX0_found_0 3 rfl rfl)
theorem dX0_found_6 : decode cX0_found 6 = .ok (.bipush (-4), 2) := dk_16 252 (dk_at dksX0_found_0 6 rfl rfl)
theorem dX0_found_8 : decode cX0_found 8 = .ok (.ireturn, 1) := dk_172 (dk_at dksX0_found_0 8 rfl rfl)
theorem dX0_found_9 : decode cX0_found 9 = .ok (.iload_n 0, 1) := dk_26 (dk_at dksX0_found_0 9 rfl rfl)
theorem dX0_found_10 : decode cX0_found 10 = .ok (.bipush 100, 2) := dk_16 100 (dk_at dksX0_found_0 10 rfl rfl)
theorem dX0_found_12 : decode cX0_found 12 = .ok (.idiv, 1) := dk_108 (dk_at dksX0_found_0 12 rfl rfl)
theorem dX0_found_13 : decode cX0_found 13 = .ok (.istore_n 2, 1) := dk_61 (dk_at dksX0_found_0 13 rfl rfl)
theorem dX0_found_14 : decode cX0_found 14 = .ok (.iload_n 0, 1) := dk_26 (dk_at dksX0_found_0 14 rfl rfl)
theorem dX0_found_15 : decode cX0_found 15 = .ok (.bipush 100, 2) := dk_16 100 (dk_at dksX0_found_0 15 rfl rfl)
theorem dX0_found_17 : decode cX0_found 17 = .ok (.irem, 1) := dk_112 (dk_at dksX0_found_0 17 rfl rfl)
theorem dX0_found_18 : decode cX0_found 18 = .ok (.istore_n 3, 1) := dk_62 (dk_at dksX0_found_0 18 rfl rfl)
theorem dX0_found_19 : decode cX0_found 19 = .ok (.iload_n 1, 1) := dk_27 (dk_at dksX0_found_0 19 rfl rfl)
theorem dX0_found_20 : decode cX0_found 20 = .ok (.ifCond .ge 27, 3) := dk_156 0 27 (dk_at dksX0_found_0 20 rfl rfl)
theorem dX0_found_23 : decode cX0_found 23 = .ok (.iload_n 2, 1) := dk_28 (dk_at dksX0_found_0 23 rfl rfl)
theorem dX0_found_24 : decode cX0_found 24 = .ok (.bipush 99, 2) := dk_16 99 (dk_at dksX0_found_1 0 rfl rfl)
theorem dX0_found_26 : decode cX0_found 26 = .ok (.if_icmp .ne 7, 3) := dk_160 0 7 (dk_at dksX0_found_1 2 rfl rfl)
theorem dX0_found_29 : decode cX0_found 29 = .ok (.iconst 0, 1) := dk_3 (dk_at dksX0_found_1 5 rfl rfl)
theorem dX0_found_30 : decode cX0_found 30 = .ok (.goto 4, 3) := dk_167 0 4 (dk_at dksX0_found_1 6 rfl rfl)
theorem dX0_found_33 : decode cX0_found 33 = .ok (.iconst 1, 1) := dk_4 (dk_at dksX0_found_1 9 rfl rfl)
theorem dX0_found_34 : decode cX0_found 34 = .ok (.iload_n 3, 1) := dk_29 (dk_at dksX0_found_1 10 rfl rfl)
theorem dX0_found_35 : decode cX0_found 35 = .ok (.bipush 99, 2) := dk_16 99 (dk_at dksX0_found_1 11 rfl rfl)
theorem dX0_found_37 : decode cX0_found 37 = .ok (.if_icmp .ne 7, 3) := dk_160 0 7 (dk_at dksX0_found_1 13 rfl rfl)
theorem dX0_found_40 : decode cX0_found 40 = .ok (.iconst 0, 1) := dk_3 (dk_at dksX0_found_1 16 rfl rfl)
theorem dX0_found_41 : decode cX0_found 41 = .ok (.goto 4, 3) := dk_167 0 4 (dk_at dksX0_found_1 17 rfl rfl)
theorem dX0_found_44 : decode cX0_found 44 = .ok (.iconst 1, 1) := dk_4 (dk_at dksX0_found_1 20 rfl rfl)
theorem dX0_found_45 : decode cX0_found 45 = .ok (.iadd, 1) := dk_96 (dk_at dksX0_found_1 21 rfl rfl)
theorem dX0_found_46 : decode cX0_found 46 = .ok (.ireturn, 1) := dk_172 (dk_at dksX0_found_1 22 rfl rfl)
theorem dX0_found_47 : decode cX0_found 47 = .ok (.iload_n 1, 1) := dk_27 (dk_at dksX0_found_1 23 rfl rfl)
theorem dX0_found_48 : decode cX0_found 48 = .ok (.ifCond .ne 7, 3) := dk_154 0 7 (dk_at dksX0_found_2 0 rfl rfl)
theorem dX0_found_51 : decode cX0_found 51 = .ok (.iload_n 2, 1) := dk_28 (dk_at dksX0_found_2 3 rfl rfl)
theorem dX0_found_52 : decode cX0_found 52 = .ok (.goto 4, 3) := dk_167 0 4 (dk_at dksX0_found_2 4 rfl rfl)
theorem dX0_found_55 : decode cX0_found 55 = .ok (.iload_n 3, 1) := dk_29 (dk_at dksX0_found_2 7 rfl rfl)
theorem dX0_found_56 : decode cX0_found 56 = .ok (.istore 4, 2) := dk_54 4 (dk_at dksX0_found_2 8 rfl rfl)
theorem dX0_found_58 : decode cX0_found 58 = .ok (.iload 4, 2) := dk_21 4 (dk_at dksX0_found_2 10 rfl rfl)
theorem dX0_found_60 : decode cX0_found 60 = .ok (.bipush 99, 2) := dk_16 99 (dk_at dksX0_found_2 12 rfl rfl)
theorem dX0_found_62 : decode cX0_found 62 = .ok (.if_icmp .ne 8, 3) := dk_160 0 8 (dk_at dksX0_found_2 14 rfl rfl)
theorem dX0_found_65 : decode cX0_found 65 = .ok (.bipush (-4), 2) := dk_16 252 (dk_at dksX0_found_2 17 rfl rfl)
theorem dX0_found_67 : decode cX0_found 67 = .ok (.goto 5, 3) := dk_167 0 5 (dk_at dksX0_found_2 19 rfl rfl)
theorem dX0_found_70 : decode cX0_found 70 = .ok (.iload 4, 2) := dk_21 4 (dk_at dksX0_found_2 22 rfl rfl)
theorem dX0_found_72 : decode cX0_found 72 = .ok (.ireturn, 1) := dk_172 (dk_at dksX0_found_3 0 rfl rfl)
abbrev cX0_split : ByteArray := prog_1_method_34_code
def yX0_split : MethodName := ⟨RX0, "split", "(II)I"⟩
def dkwX0_split_2 : List UInt8 := [28, 184, 0, 190, 172]
abbrev dktX0_split_2 : List UInt8 := dkwX0_split_2 ++ []
def dkwX0_split_1 : List UInt8 := [180, 0, 38, 27, 182, 0, 99, 78, 45, 199, 0, 8, 16, 254, 167, 0, 14, 45, 180, 0, 103, 184, 0, 194]
abbrev dktX0_split_1 : List UInt8 := dkwX0_split_1 ++ dktX0_split_2
def dkwX0_split_0 : List UInt8 := [27, 184, 0, 34, 153, 0, 15, 28, 133, 20, 0, 15, 10, 184, 0, 5, 154, 0, 5, 2, 172, 42]
abbrev dktX0_split_0 : List UInt8 := dkwX0_split_0 ++ dktX0_split_1
theorem dksX0_split_0 : cX0_split.data.toList.drop 0 = dktX0_split_0 := by decide +kernel
theorem dksX0_split_1 : cX0_split.data.toList.drop 22 = dktX0_split_1 := dk_seg dksX0_split_0 22 rfl rfl
theorem dksX0_split_2 : cX0_split.data.toList.drop 46 = dktX0_split_2 := dk_seg dksX0_split_1 24 rfl rfl
theorem dX0_split_0 : decode cX0_split 0 = .ok (.iload_n 1, 1) := dk_27 (dk_at dksX0_split_0 0 rfl rfl)
theorem dX0_split_1 : decode cX0_split 1 = .ok (.invokestatic 34, 3) := dk_184 0 34 (dk_at dksX0_split_0 1 rfl rfl)
theorem dX0_split_4 : decode cX0_split 4 = .ok (.ifCond .eq 15, 3) := dk_153 0 15 (dk_at dksX0_split_0 4 rfl rfl)
theorem dX0_split_7 : decode cX0_split 7 = .ok (.iload_n 2, 1) := dk_28 (dk_at dksX0_split_0 7 rfl rfl)
theorem dX0_split_8 : decode cX0_split 8 = .ok (.i2l, 1) := dk_133 (dk_at dksX0_split_0 8 rfl rfl)
theorem dX0_split_9 : decode cX0_split 9 = .ok (.ldc2_w 15, 3) := dk_20 0 15 (dk_at dksX0_split_0 9 rfl rfl)
theorem dX0_split_12 : decode cX0_split 12 = .ok (.lconst 1, 1) := dk_10 (dk_at dksX0_split_0 12 rfl rfl)
theorem dX0_split_13 : decode cX0_split 13 = .ok (.invokestatic 5, 3) := dk_184 0 5 (dk_at dksX0_split_0 13 rfl rfl)
theorem dX0_split_16 : decode cX0_split 16 = .ok (.ifCond .ne 5, 3) := dk_154 0 5 (dk_at dksX0_split_0 16 rfl rfl)
theorem dX0_split_19 : decode cX0_split 19 = .ok (.iconst (-1), 1) := dk_2 (dk_at dksX0_split_0 19 rfl rfl)
theorem dX0_split_20 : decode cX0_split 20 = .ok (.ireturn, 1) := dk_172 (dk_at dksX0_split_0 20 rfl rfl)
theorem dX0_split_21 : decode cX0_split 21 = .ok (.aload_n 0, 1) := dk_42 (dk_at dksX0_split_0 21 rfl rfl)
theorem dX0_split_22 : decode cX0_split 22 = .ok (.getfield 38, 3) := dk_180 0 38 (dk_at dksX0_split_1 0 rfl rfl)
theorem dX0_split_25 : decode cX0_split 25 = .ok (.iload_n 1, 1) := dk_27 (dk_at dksX0_split_1 3 rfl rfl)
theorem dX0_split_26 : decode cX0_split 26 = .ok (.invokevirtual 99, 3) := dk_182 0 99 (dk_at dksX0_split_1 4 rfl rfl)
theorem dX0_split_29 : decode cX0_split 29 = .ok (.astore_n 3, 1) := dk_78 (dk_at dksX0_split_1 7 rfl rfl)
theorem dX0_split_30 : decode cX0_split 30 = .ok (.aload_n 3, 1) := dk_45 (dk_at dksX0_split_1 8 rfl rfl)
theorem dX0_split_31 : decode cX0_split 31 = .ok (.ifnonnull 8, 3) := dk_199 0 8 (dk_at dksX0_split_1 9 rfl rfl)
theorem dX0_split_34 : decode cX0_split 34 = .ok (.bipush (-2), 2) := dk_16 254 (dk_at dksX0_split_1 12 rfl rfl)
theorem dX0_split_36 : decode cX0_split 36 = .ok (.goto 14, 3) := dk_167 0 14 (dk_at dksX0_split_1 14 rfl rfl)
theorem dX0_split_39 : decode cX0_split 39 = .ok (.aload_n 3, 1) := dk_45 (dk_at dksX0_split_1 17 rfl rfl)
theorem dX0_split_40 : decode cX0_split 40 = .ok (.getfield 103, 3) := dk_180 0 103 (dk_at dksX0_split_1 18 rfl rfl)
theorem dX0_split_43 : decode cX0_split 43 = .ok (.invokestatic 194, 3) := dk_184 0 194 (dk_at dksX0_split_1 21 rfl rfl)
theorem dX0_split_46 : decode cX0_split 46 = .ok (.iload_n 2, 1) := dk_28 (dk_at dksX0_split_2 0 rfl rfl)
theorem dX0_split_47 : decode cX0_split 47 = .ok (.invokestatic 190, 3) := dk_184 0 190 (dk_at dksX0_split_2 1 rfl rfl)
theorem dX0_split_50 : decode cX0_split 50 = .ok (.ireturn, 1) := dk_172 (dk_at dksX0_split_2 4 rfl rfl)
abbrev cX0_fewestSplit : ByteArray := prog_1_method_33_code
def yX0_fewestSplit : MethodName := ⟨RX0, "fewestSplit", "(J)I"⟩
def dkwX0_fewestSplit_5 : List UInt8 := [16, 252, 172]
abbrev dktX0_fewestSplit_5 : List UInt8 := dkwX0_fewestSplit_5 ++ []
def dkwX0_fewestSplit_4 : List UInt8 := [4, 164, 0, 10, 16, 100, 28, 104, 29, 96, 172, 132, 3, 1, 167, 255, 204, 132, 2, 1, 167, 255, 188]
abbrev dktX0_fewestSplit_4 : List UInt8 := dkwX0_fewestSplit_4 ++ dktX0_fewestSplit_5
def dkwX0_fewestSplit_3 : List UInt8 := [30, 29, 184, 0, 26, 153, 0, 30, 30, 10, 28, 121, 10, 29, 121, 129, 20, 0, 15, 131, 127, 184, 0, 116]
abbrev dktX0_fewestSplit_3 : List UInt8 := dkwX0_fewestSplit_3 ++ dktX0_fewestSplit_4
def dkwX0_fewestSplit_2 : List UInt8 := [28, 16, 36, 162, 0, 68, 28, 4, 96, 62, 29, 16, 36, 162, 0, 52, 30, 28, 184, 0, 26, 153, 0, 38]
abbrev dktX0_fewestSplit_2 : List UInt8 := dkwX0_fewestSplit_2 ++ dktX0_fewestSplit_3
def dkwX0_fewestSplit_1 : List UInt8 := [127, 184, 0, 116, 4, 164, 0, 11, 16, 100, 28, 104, 16, 99, 96, 172, 132, 2, 1, 167, 255, 215, 3, 61]
abbrev dktX0_fewestSplit_1 : List UInt8 := dkwX0_fewestSplit_1 ++ dktX0_fewestSplit_2
def dkwX0_fewestSplit_0 : List UInt8 := [3, 61, 28, 16, 36, 162, 0, 41, 30, 28, 184, 0, 26, 153, 0, 27, 30, 10, 28, 121, 20, 0, 15, 131]
abbrev dktX0_fewestSplit_0 : List UInt8 := dkwX0_fewestSplit_0 ++ dktX0_fewestSplit_1
theorem dksX0_fewestSplit_0 : cX0_fewestSplit.data.toList.drop 0 = dktX0_fewestSplit_0 := by decide +kernel
theorem dksX0_fewestSplit_1 : cX0_fewestSplit.data.toList.drop 24 = dktX0_fewestSplit_1 := dk_seg dksX0_fewestSplit_0 24 rfl rfl
theorem dksX0_fewestSplit_2 : cX0_fewestSplit.data.toList.drop 48 = dktX0_fewestSplit_2 := dk_seg dksX0_fewestSplit_1 24 rfl rfl
theorem dksX0_fewestSplit_3 : cX0_fewestSplit.data.toList.drop 72 = dktX0_fewestSplit_3 := dk_seg dksX0_fewestSplit_2 24 rfl rfl
theorem dksX0_fewestSplit_4 : cX0_fewestSplit.data.toList.drop 96 = dktX0_fewestSplit_4 := dk_seg dksX0_fewestSplit_3 24 rfl rfl
theorem dksX0_fewestSplit_5 : cX0_fewestSplit.data.toList.drop 119 = dktX0_fewestSplit_5 := dk_seg dksX0_fewestSplit_4 23 rfl rfl
theorem dX0_fewestSplit_0 : decode cX0_fewestSplit 0 = .ok (.iconst 0, 1) := dk_3 (dk_at dksX0_fewestSplit_0 0 rfl rfl)
theorem dX0_fewestSplit_1 : decode cX0_fewestSplit 1 = .ok (.istore_n 2, 1) := dk_61 (dk_at dksX0_fewestSplit_0 1 rfl rfl)
theorem dX0_fewestSplit_2 : decode cX0_fewestSplit 2 = .ok (.iload_n 2, 1) := dk_28 (dk_at dksX0_fewestSplit_0 2 rfl rfl)
theorem dX0_fewestSplit_3 : decode cX0_fewestSplit 3 = .ok (.bipush 36, 2) := dk_16 36 (dk_at dksX0_fewestSplit_0 3 rfl rfl)
theorem dX0_fewestSplit_5 : decode cX0_fewestSplit 5 = .ok (.if_icmp .ge 41, 3) := dk_162 0 41 (dk_at dksX0_fewestSplit_0 5 rfl rfl)
theorem dX0_fewestSplit_8 : decode cX0_fewestSplit 8 = .ok (.lload_n 0, 1) := dk_30 (dk_at dksX0_fewestSplit_0 8 rfl rfl)
theorem dX0_fewestSplit_9 : decode cX0_fewestSplit 9 = .ok (.iload_n 2, 1) := dk_28 (dk_at dksX0_fewestSplit_0 9 rfl rfl)
theorem dX0_fewestSplit_10 : decode cX0_fewestSplit 10 = .ok (.invokestatic 26, 3) := dk_184 0 26 (dk_at dksX0_fewestSplit_0 10 rfl rfl)
theorem dX0_fewestSplit_13 : decode cX0_fewestSplit 13 = .ok (.ifCond .eq 27, 3) := dk_153 0 27 (dk_at dksX0_fewestSplit_0 13 rfl rfl)
theorem dX0_fewestSplit_16 : decode cX0_fewestSplit 16 = .ok (.lload_n 0, 1) := dk_30 (dk_at dksX0_fewestSplit_0 16 rfl rfl)
theorem dX0_fewestSplit_17 : decode cX0_fewestSplit 17 = .ok (.lconst 1, 1) := dk_10 (dk_at dksX0_fewestSplit_0 17 rfl rfl)
theorem dX0_fewestSplit_18 : decode cX0_fewestSplit 18 = .ok (.iload_n 2, 1) := dk_28 (dk_at dksX0_fewestSplit_0 18 rfl rfl)
theorem dX0_fewestSplit_19 : decode cX0_fewestSplit 19 = .ok (.lshl, 1) := dk_121 (dk_at dksX0_fewestSplit_0 19 rfl rfl)
theorem dX0_fewestSplit_20 : decode cX0_fewestSplit 20 = .ok (.ldc2_w 15, 3) := dk_20 0 15 (dk_at dksX0_fewestSplit_0 20 rfl rfl)
theorem dX0_fewestSplit_23 : decode cX0_fewestSplit 23 = .ok (.lxor, 1) := dk_131 (dk_at dksX0_fewestSplit_0 23 rfl rfl)
theorem dX0_fewestSplit_24 : decode cX0_fewestSplit 24 = .ok (.land, 1) := dk_127 (dk_at dksX0_fewestSplit_1 0 rfl rfl)
theorem dX0_fewestSplit_25 : decode cX0_fewestSplit 25 = .ok (.invokestatic 116, 3) := dk_184 0 116 (dk_at dksX0_fewestSplit_1 1 rfl rfl)
theorem dX0_fewestSplit_28 : decode cX0_fewestSplit 28 = .ok (.iconst 1, 1) := dk_4 (dk_at dksX0_fewestSplit_1 4 rfl rfl)
theorem dX0_fewestSplit_29 : decode cX0_fewestSplit 29 = .ok (.if_icmp .le 11, 3) := dk_164 0 11 (dk_at dksX0_fewestSplit_1 5 rfl rfl)
theorem dX0_fewestSplit_32 : decode cX0_fewestSplit 32 = .ok (.bipush 100, 2) := dk_16 100 (dk_at dksX0_fewestSplit_1 8 rfl rfl)
theorem dX0_fewestSplit_34 : decode cX0_fewestSplit 34 = .ok (.iload_n 2, 1) := dk_28 (dk_at dksX0_fewestSplit_1 10 rfl rfl)
theorem dX0_fewestSplit_35 : decode cX0_fewestSplit 35 = .ok (.imul, 1) := dk_104 (dk_at dksX0_fewestSplit_1 11 rfl rfl)
theorem dX0_fewestSplit_36 : decode cX0_fewestSplit 36 = .ok (.bipush 99, 2) := dk_16 99 (dk_at dksX0_fewestSplit_1 12 rfl rfl)
theorem dX0_fewestSplit_38 : decode cX0_fewestSplit 38 = .ok (.iadd, 1) := dk_96 (dk_at dksX0_fewestSplit_1 14 rfl rfl)
theorem dX0_fewestSplit_39 : decode cX0_fewestSplit 39 = .ok (.ireturn, 1) := dk_172 (dk_at dksX0_fewestSplit_1 15 rfl rfl)
theorem dX0_fewestSplit_40 : decode cX0_fewestSplit 40 = .ok (.iinc 2 1, 3) := dk_132 2 1 (dk_at dksX0_fewestSplit_1 16 rfl rfl)
theorem dX0_fewestSplit_43 : decode cX0_fewestSplit 43 = .ok (.goto (-41), 3) := dk_167 255 215 (dk_at dksX0_fewestSplit_1 19 rfl rfl)
theorem dX0_fewestSplit_46 : decode cX0_fewestSplit 46 = .ok (.iconst 0, 1) := dk_3 (dk_at dksX0_fewestSplit_1 22 rfl rfl)
theorem dX0_fewestSplit_47 : decode cX0_fewestSplit 47 = .ok (.istore_n 2, 1) := dk_61 (dk_at dksX0_fewestSplit_1 23 rfl rfl)
theorem dX0_fewestSplit_48 : decode cX0_fewestSplit 48 = .ok (.iload_n 2, 1) := dk_28 (dk_at dksX0_fewestSplit_2 0 rfl rfl)
theorem dX0_fewestSplit_49 : decode cX0_fewestSplit 49 = .ok (.bipush 36, 2) := dk_16 36 (dk_at dksX0_fewestSplit_2 1 rfl rfl)
theorem dX0_fewestSplit_51 : decode cX0_fewestSplit 51 = .ok (.if_icmp .ge 68, 3) := dk_162 0 68 (dk_at dksX0_fewestSplit_2 3 rfl rfl)
theorem dX0_fewestSplit_54 : decode cX0_fewestSplit 54 = .ok (.iload_n 2, 1) := dk_28 (dk_at dksX0_fewestSplit_2 6 rfl rfl)
theorem dX0_fewestSplit_55 : decode cX0_fewestSplit 55 = .ok (.iconst 1, 1) := dk_4 (dk_at dksX0_fewestSplit_2 7 rfl rfl)
theorem dX0_fewestSplit_56 : decode cX0_fewestSplit 56 = .ok (.iadd, 1) := dk_96 (dk_at dksX0_fewestSplit_2 8 rfl rfl)
theorem dX0_fewestSplit_57 : decode cX0_fewestSplit 57 = .ok (.istore_n 3, 1) := dk_62 (dk_at dksX0_fewestSplit_2 9 rfl rfl)
theorem dX0_fewestSplit_58 : decode cX0_fewestSplit 58 = .ok (.iload_n 3, 1) := dk_29 (dk_at dksX0_fewestSplit_2 10 rfl rfl)
theorem dX0_fewestSplit_59 : decode cX0_fewestSplit 59 = .ok (.bipush 36, 2) := dk_16 36 (dk_at dksX0_fewestSplit_2 11 rfl rfl)
theorem dX0_fewestSplit_61 : decode cX0_fewestSplit 61 = .ok (.if_icmp .ge 52, 3) := dk_162 0 52 (dk_at dksX0_fewestSplit_2 13 rfl rfl)
theorem dX0_fewestSplit_64 : decode cX0_fewestSplit 64 = .ok (.lload_n 0, 1) := dk_30 (dk_at dksX0_fewestSplit_2 16 rfl rfl)
theorem dX0_fewestSplit_65 : decode cX0_fewestSplit 65 = .ok (.iload_n 2, 1) := dk_28 (dk_at dksX0_fewestSplit_2 17 rfl rfl)
theorem dX0_fewestSplit_66 : decode cX0_fewestSplit 66 = .ok (.invokestatic 26, 3) := dk_184 0 26 (dk_at dksX0_fewestSplit_2 18 rfl rfl)
theorem dX0_fewestSplit_69 : decode cX0_fewestSplit 69 = .ok (.ifCond .eq 38, 3) := dk_153 0 38 (dk_at dksX0_fewestSplit_2 21 rfl rfl)
theorem dX0_fewestSplit_72 : decode cX0_fewestSplit 72 = .ok (.lload_n 0, 1) := dk_30 (dk_at dksX0_fewestSplit_3 0 rfl rfl)
theorem dX0_fewestSplit_73 : decode cX0_fewestSplit 73 = .ok (.iload_n 3, 1) := dk_29 (dk_at dksX0_fewestSplit_3 1 rfl rfl)
theorem dX0_fewestSplit_74 : decode cX0_fewestSplit 74 = .ok (.invokestatic 26, 3) := dk_184 0 26 (dk_at dksX0_fewestSplit_3 2 rfl rfl)
theorem dX0_fewestSplit_77 : decode cX0_fewestSplit 77 = .ok (.ifCond .eq 30, 3) := dk_153 0 30 (dk_at dksX0_fewestSplit_3 5 rfl rfl)
theorem dX0_fewestSplit_80 : decode cX0_fewestSplit 80 = .ok (.lload_n 0, 1) := dk_30 (dk_at dksX0_fewestSplit_3 8 rfl rfl)
theorem dX0_fewestSplit_81 : decode cX0_fewestSplit 81 = .ok (.lconst 1, 1) := dk_10 (dk_at dksX0_fewestSplit_3 9 rfl rfl)
theorem dX0_fewestSplit_82 : decode cX0_fewestSplit 82 = .ok (.iload_n 2, 1) := dk_28 (dk_at dksX0_fewestSplit_3 10 rfl rfl)
theorem dX0_fewestSplit_83 : decode cX0_fewestSplit 83 = .ok (.lshl, 1) := dk_121 (dk_at dksX0_fewestSplit_3 11 rfl rfl)
theorem dX0_fewestSplit_84 : decode cX0_fewestSplit 84 = .ok (.lconst 1, 1) := dk_10 (dk_at dksX0_fewestSplit_3 12 rfl rfl)
theorem dX0_fewestSplit_85 : decode cX0_fewestSplit 85 = .ok (.iload_n 3, 1) := dk_29 (dk_at dksX0_fewestSplit_3 13 rfl rfl)
theorem dX0_fewestSplit_86 : decode cX0_fewestSplit 86 = .ok (.lshl, 1) := dk_121 (dk_at dksX0_fewestSplit_3 14 rfl rfl)
theorem dX0_fewestSplit_87 : decode cX0_fewestSplit 87 = .ok (.lor, 1) := dk_129 (dk_at dksX0_fewestSplit_3 15 rfl rfl)
theorem dX0_fewestSplit_88 : decode cX0_fewestSplit 88 = .ok (.ldc2_w 15, 3) := dk_20 0 15 (dk_at dksX0_fewestSplit_3 16 rfl rfl)
theorem dX0_fewestSplit_91 : decode cX0_fewestSplit 91 = .ok (.lxor, 1) := dk_131 (dk_at dksX0_fewestSplit_3 19 rfl rfl)
theorem dX0_fewestSplit_92 : decode cX0_fewestSplit 92 = .ok (.land, 1) := dk_127 (dk_at dksX0_fewestSplit_3 20 rfl rfl)
theorem dX0_fewestSplit_93 : decode cX0_fewestSplit 93 = .ok (.invokestatic 116, 3) := dk_184 0 116 (dk_at dksX0_fewestSplit_3 21 rfl rfl)
theorem dX0_fewestSplit_96 : decode cX0_fewestSplit 96 = .ok (.iconst 1, 1) := dk_4 (dk_at dksX0_fewestSplit_4 0 rfl rfl)
theorem dX0_fewestSplit_97 : decode cX0_fewestSplit 97 = .ok (.if_icmp .le 10, 3) := dk_164 0 10 (dk_at dksX0_fewestSplit_4 1 rfl rfl)
theorem dX0_fewestSplit_100 : decode cX0_fewestSplit 100 = .ok (.bipush 100, 2) := dk_16 100 (dk_at dksX0_fewestSplit_4 4 rfl rfl)
theorem dX0_fewestSplit_102 : decode cX0_fewestSplit 102 = .ok (.iload_n 2, 1) := dk_28 (dk_at dksX0_fewestSplit_4 6 rfl rfl)
theorem dX0_fewestSplit_103 : decode cX0_fewestSplit 103 = .ok (.imul, 1) := dk_104 (dk_at dksX0_fewestSplit_4 7 rfl rfl)
theorem dX0_fewestSplit_104 : decode cX0_fewestSplit 104 = .ok (.iload_n 3, 1) := dk_29 (dk_at dksX0_fewestSplit_4 8 rfl rfl)
theorem dX0_fewestSplit_105 : decode cX0_fewestSplit 105 = .ok (.iadd, 1) := dk_96 (dk_at dksX0_fewestSplit_4 9 rfl rfl)
theorem dX0_fewestSplit_106 : decode cX0_fewestSplit 106 = .ok (.ireturn, 1) := dk_172 (dk_at dksX0_fewestSplit_4 10 rfl rfl)
theorem dX0_fewestSplit_107 : decode cX0_fewestSplit 107 = .ok (.iinc 3 1, 3) := dk_132 3 1 (dk_at dksX0_fewestSplit_4 11 rfl rfl)
theorem dX0_fewestSplit_110 : decode cX0_fewestSplit 110 = .ok (.goto (-52), 3) := dk_167 255 204 (dk_at dksX0_fewestSplit_4 14 rfl rfl)
theorem dX0_fewestSplit_113 : decode cX0_fewestSplit 113 = .ok (.iinc 2 1, 3) := dk_132 2 1 (dk_at dksX0_fewestSplit_4 17 rfl rfl)
theorem dX0_fewestSplit_116 : decode cX0_fewestSplit 116 = .ok (.goto (-68), 3) := dk_167 255 188 (dk_at dksX0_fewestSplit_4 20 rfl rfl)
theorem dX0_fewestSplit_119 : decode cX0_fewestSplit 119 = .ok (.bipush (-4), 2) := dk_16 252 (dk_at dksX0_fewestSplit_5 0 rfl rfl)
theorem dX0_fewestSplit_121 : decode cX0_fewestSplit 121 = .ok (.ireturn, 1) := dk_172 (dk_at dksX0_fewestSplit_5 2 rfl rfl)
abbrev cX0_dug : ByteArray := prog_1_method_36_code
def yX0_dug : MethodName := ⟨RX0, "dug", "(III)I"⟩
def dkwX0_dug_7 : List UInt8 := [21, 9, 121, 129, 55, 4, 21, 9, 54, 7, 132, 8, 1, 132, 9, 1, 167, 255, 196, 21, 7, 172]
abbrev dktX0_dug_7 : List UInt8 := dkwX0_dug_7 ++ []
def dkwX0_dug_6 : List UInt8 := [21, 9, 121, 129, 184, 0, 199, 21, 6, 21, 8, 100, 4, 100, 159, 0, 6, 167, 0, 19, 22, 4, 10]
abbrev dktX0_dug_6 : List UInt8 := dkwX0_dug_6 ++ dktX0_dug_7
def dkwX0_dug_5 : List UInt8 := [54, 9, 21, 8, 29, 163, 0, 60, 22, 4, 21, 9, 184, 0, 26, 154, 0, 44, 27, 28, 22, 4, 10]
abbrev dktX0_dug_5 : List UInt8 := dkwX0_dug_5 ++ dktX0_dug_6
def dkwX0_dug_4 : List UInt8 := [161, 0, 15, 29, 156, 0, 8, 21, 6, 167, 0, 5, 16, 252, 172, 16, 252, 54, 7, 3, 54, 8, 3]
abbrev dktX0_dug_4 : List UInt8 := dkwX0_dug_4 ++ dktX0_dug_5
def dkwX0_dug_3 : List UInt8 := [153, 0, 6, 16, 254, 172, 27, 28, 22, 4, 184, 0, 199, 54, 6, 29, 155, 0, 9, 29, 21, 6]
abbrev dktX0_dug_3 : List UInt8 := dkwX0_dug_3 ++ dktX0_dug_4
def dkwX0_dug_2 : List UInt8 := [153, 0, 27, 22, 4, 28, 184, 0, 26, 153, 0, 18, 10, 27, 121, 22, 4, 184, 0, 30, 28, 184, 0, 26]
abbrev dktX0_dug_2 : List UInt8 := dkwX0_dug_2 ++ dktX0_dug_3
def dkwX0_dug_1 : List UInt8 := [184, 0, 5, 154, 0, 5, 2, 172, 42, 180, 0, 38, 182, 0, 112, 55, 4, 22, 4, 27, 184, 0, 26]
abbrev dktX0_dug_1 : List UInt8 := dkwX0_dug_1 ++ dktX0_dug_2
def dkwX0_dug_0 : List UInt8 := [27, 184, 0, 34, 153, 0, 24, 28, 184, 0, 34, 153, 0, 17, 29, 133, 20, 0, 15, 20, 0, 197]
abbrev dktX0_dug_0 : List UInt8 := dkwX0_dug_0 ++ dktX0_dug_1
theorem dksX0_dug_0 : cX0_dug.data.toList.drop 0 = dktX0_dug_0 := by decide +kernel
theorem dksX0_dug_1 : cX0_dug.data.toList.drop 22 = dktX0_dug_1 := dk_seg dksX0_dug_0 22 rfl rfl
theorem dksX0_dug_2 : cX0_dug.data.toList.drop 45 = dktX0_dug_2 := dk_seg dksX0_dug_1 23 rfl rfl
theorem dksX0_dug_3 : cX0_dug.data.toList.drop 69 = dktX0_dug_3 := dk_seg dksX0_dug_2 24 rfl rfl
theorem dksX0_dug_4 : cX0_dug.data.toList.drop 91 = dktX0_dug_4 := dk_seg dksX0_dug_3 22 rfl rfl
theorem dksX0_dug_5 : cX0_dug.data.toList.drop 114 = dktX0_dug_5 := dk_seg dksX0_dug_4 23 rfl rfl
theorem dksX0_dug_6 : cX0_dug.data.toList.drop 137 = dktX0_dug_6 := dk_seg dksX0_dug_5 23 rfl rfl
theorem dksX0_dug_7 : cX0_dug.data.toList.drop 160 = dktX0_dug_7 := dk_seg dksX0_dug_6 23 rfl rfl
theorem dX0_dug_0 : decode cX0_dug 0 = .ok (.iload_n 1, 1) := dk_27 (dk_at dksX0_dug_0 0 rfl rfl)
theorem dX0_dug_1 : decode cX0_dug 1 = .ok (.invokestatic 34, 3) := dk_184 0 34 (dk_at dksX0_dug_0 1 rfl rfl)
theorem dX0_dug_4 : decode cX0_dug 4 = .ok (.ifCond .eq 24, 3) := dk_153 0 24 (dk_at dksX0_dug_0 4 rfl rfl)
theorem dX0_dug_7 : decode cX0_dug 7 = .ok (.iload_n 2, 1) := dk_28 (dk_at dksX0_dug_0 7 rfl rfl)
theorem dX0_dug_8 : decode cX0_dug 8 = .ok (.invokestatic 34, 3) := dk_184 0 34 (dk_at dksX0_dug_0 8 rfl rfl)
theorem dX0_dug_11 : decode cX0_dug 11 = .ok (.ifCond .eq 17, 3) := dk_153 0 17 (dk_at dksX0_dug_0 11 rfl rfl)
theorem dX0_dug_14 : decode cX0_dug 14 = .ok (.iload_n 3, 1) := dk_29 (dk_at dksX0_dug_0 14 rfl rfl)
theorem dX0_dug_15 : decode cX0_dug 15 = .ok (.i2l, 1) := dk_133 (dk_at dksX0_dug_0 15 rfl rfl)
theorem dX0_dug_16 : decode cX0_dug 16 = .ok (.ldc2_w 15, 3) := dk_20 0 15 (dk_at dksX0_dug_0 16 rfl rfl)
theorem dX0_dug_19 : decode cX0_dug 19 = .ok (.ldc2_w 197, 3) := dk_20 0 197 (dk_at dksX0_dug_0 19 rfl rfl)
theorem dX0_dug_22 : decode cX0_dug 22 = .ok (.invokestatic 5, 3) := dk_184 0 5 (dk_at dksX0_dug_1 0 rfl rfl)
theorem dX0_dug_25 : decode cX0_dug 25 = .ok (.ifCond .ne 5, 3) := dk_154 0 5 (dk_at dksX0_dug_1 3 rfl rfl)
theorem dX0_dug_28 : decode cX0_dug 28 = .ok (.iconst (-1), 1) := dk_2 (dk_at dksX0_dug_1 6 rfl rfl)
theorem dX0_dug_29 : decode cX0_dug 29 = .ok (.ireturn, 1) := dk_172 (dk_at dksX0_dug_1 7 rfl rfl)
theorem dX0_dug_30 : decode cX0_dug 30 = .ok (.aload_n 0, 1) := dk_42 (dk_at dksX0_dug_1 8 rfl rfl)
theorem dX0_dug_31 : decode cX0_dug 31 = .ok (.getfield 38, 3) := dk_180 0 38 (dk_at dksX0_dug_1 9 rfl rfl)
theorem dX0_dug_34 : decode cX0_dug 34 = .ok (.invokevirtual 112, 3) := dk_182 0 112 (dk_at dksX0_dug_1 12 rfl rfl)
theorem dX0_dug_37 : decode cX0_dug 37 = .ok (.lstore 4, 2) := dk_55 4 (dk_at dksX0_dug_1 15 rfl rfl)
theorem dX0_dug_39 : decode cX0_dug 39 = .ok (.lload 4, 2) := dk_22 4 (dk_at dksX0_dug_1 17 rfl rfl)
theorem dX0_dug_41 : decode cX0_dug 41 = .ok (.iload_n 1, 1) := dk_27 (dk_at dksX0_dug_1 19 rfl rfl)
theorem dX0_dug_42 : decode cX0_dug 42 = .ok (.invokestatic 26, 3) := dk_184 0 26 (dk_at dksX0_dug_1 20 rfl rfl)
theorem dX0_dug_45 : decode cX0_dug 45 = .ok (.ifCond .eq 27, 3) := dk_153 0 27 (dk_at dksX0_dug_2 0 rfl rfl)
theorem dX0_dug_48 : decode cX0_dug 48 = .ok (.lload 4, 2) := dk_22 4 (dk_at dksX0_dug_2 3 rfl rfl)
theorem dX0_dug_50 : decode cX0_dug 50 = .ok (.iload_n 2, 1) := dk_28 (dk_at dksX0_dug_2 5 rfl rfl)
theorem dX0_dug_51 : decode cX0_dug 51 = .ok (.invokestatic 26, 3) := dk_184 0 26 (dk_at dksX0_dug_2 6 rfl rfl)
theorem dX0_dug_54 : decode cX0_dug 54 = .ok (.ifCond .eq 18, 3) := dk_153 0 18 (dk_at dksX0_dug_2 9 rfl rfl)
theorem dX0_dug_57 : decode cX0_dug 57 = .ok (.lconst 1, 1) := dk_10 (dk_at dksX0_dug_2 12 rfl rfl)
theorem dX0_dug_58 : decode cX0_dug 58 = .ok (.iload_n 1, 1) := dk_27 (dk_at dksX0_dug_2 13 rfl rfl)
theorem dX0_dug_59 : decode cX0_dug 59 = .ok (.lshl, 1) := dk_121 (dk_at dksX0_dug_2 14 rfl rfl)
theorem dX0_dug_60 : decode cX0_dug 60 = .ok (.lload 4, 2) := dk_22 4 (dk_at dksX0_dug_2 15 rfl rfl)
theorem dX0_dug_62 : decode cX0_dug 62 = .ok (.invokestatic 30, 3) := dk_184 0 30 (dk_at dksX0_dug_2 17 rfl rfl)
theorem dX0_dug_65 : decode cX0_dug 65 = .ok (.iload_n 2, 1) := dk_28 (dk_at dksX0_dug_2 20 rfl rfl)
theorem dX0_dug_66 : decode cX0_dug 66 = .ok (.invokestatic 26, 3) := dk_184 0 26 (dk_at dksX0_dug_2 21 rfl rfl)
theorem dX0_dug_69 : decode cX0_dug 69 = .ok (.ifCond .eq 6, 3) := dk_153 0 6 (dk_at dksX0_dug_3 0 rfl rfl)
theorem dX0_dug_72 : decode cX0_dug 72 = .ok (.bipush (-2), 2) := dk_16 254 (dk_at dksX0_dug_3 3 rfl rfl)
theorem dX0_dug_74 : decode cX0_dug 74 = .ok (.ireturn, 1) := dk_172 (dk_at dksX0_dug_3 5 rfl rfl)
theorem dX0_dug_75 : decode cX0_dug 75 = .ok (.iload_n 1, 1) := dk_27 (dk_at dksX0_dug_3 6 rfl rfl)
theorem dX0_dug_76 : decode cX0_dug 76 = .ok (.iload_n 2, 1) := dk_28 (dk_at dksX0_dug_3 7 rfl rfl)
theorem dX0_dug_77 : decode cX0_dug 77 = .ok (.lload 4, 2) := dk_22 4 (dk_at dksX0_dug_3 8 rfl rfl)
theorem dX0_dug_79 : decode cX0_dug 79 = .ok (.invokestatic 199, 3) := dk_184 0 199 (dk_at dksX0_dug_3 10 rfl rfl)
theorem dX0_dug_82 : decode cX0_dug 82 = .ok (.istore 6, 2) := dk_54 6 (dk_at dksX0_dug_3 13 rfl rfl)
theorem dX0_dug_84 : decode cX0_dug 84 = .ok (.iload_n 3, 1) := dk_29 (dk_at dksX0_dug_3 15 rfl rfl)
theorem dX0_dug_85 : decode cX0_dug 85 = .ok (.ifCond .lt 9, 3) := dk_155 0 9 (dk_at dksX0_dug_3 16 rfl rfl)
theorem dX0_dug_88 : decode cX0_dug 88 = .ok (.iload_n 3, 1) := dk_29 (dk_at dksX0_dug_3 19 rfl rfl)
theorem dX0_dug_89 : decode cX0_dug 89 = .ok (.iload 6, 2) := dk_21 6 (dk_at dksX0_dug_3 20 rfl rfl)
theorem dX0_dug_91 : decode cX0_dug 91 = .ok (.if_icmp .lt 15, 3) := dk_161 0 15 (dk_at dksX0_dug_4 0 rfl rfl)
theorem dX0_dug_94 : decode cX0_dug 94 = .ok (.iload_n 3, 1) := dk_29 (dk_at dksX0_dug_4 3 rfl rfl)
theorem dX0_dug_95 : decode cX0_dug 95 = .ok (.ifCond .ge 8, 3) := dk_156 0 8 (dk_at dksX0_dug_4 4 rfl rfl)
theorem dX0_dug_98 : decode cX0_dug 98 = .ok (.iload 6, 2) := dk_21 6 (dk_at dksX0_dug_4 7 rfl rfl)
theorem dX0_dug_100 : decode cX0_dug 100 = .ok (.goto 5, 3) := dk_167 0 5 (dk_at dksX0_dug_4 9 rfl rfl)
theorem dX0_dug_103 : decode cX0_dug 103 = .ok (.bipush (-4), 2) := dk_16 252 (dk_at dksX0_dug_4 12 rfl rfl)
theorem dX0_dug_105 : decode cX0_dug 105 = .ok (.ireturn, 1) := dk_172 (dk_at dksX0_dug_4 14 rfl rfl)
theorem dX0_dug_106 : decode cX0_dug 106 = .ok (.bipush (-4), 2) := dk_16 252 (dk_at dksX0_dug_4 15 rfl rfl)
theorem dX0_dug_108 : decode cX0_dug 108 = .ok (.istore 7, 2) := dk_54 7 (dk_at dksX0_dug_4 17 rfl rfl)
theorem dX0_dug_110 : decode cX0_dug 110 = .ok (.iconst 0, 1) := dk_3 (dk_at dksX0_dug_4 19 rfl rfl)
theorem dX0_dug_111 : decode cX0_dug 111 = .ok (.istore 8, 2) := dk_54 8 (dk_at dksX0_dug_4 20 rfl rfl)
theorem dX0_dug_113 : decode cX0_dug 113 = .ok (.iconst 0, 1) := dk_3 (dk_at dksX0_dug_4 22 rfl rfl)
theorem dX0_dug_114 : decode cX0_dug 114 = .ok (.istore 9, 2) := dk_54 9 (dk_at dksX0_dug_5 0 rfl rfl)
theorem dX0_dug_116 : decode cX0_dug 116 = .ok (.iload 8, 2) := dk_21 8 (dk_at dksX0_dug_5 2 rfl rfl)
theorem dX0_dug_118 : decode cX0_dug 118 = .ok (.iload_n 3, 1) := dk_29 (dk_at dksX0_dug_5 4 rfl rfl)
theorem dX0_dug_119 : decode cX0_dug 119 = .ok (.if_icmp .gt 60, 3) := dk_163 0 60 (dk_at dksX0_dug_5 5 rfl rfl)
theorem dX0_dug_122 : decode cX0_dug 122 = .ok (.lload 4, 2) := dk_22 4 (dk_at dksX0_dug_5 8 rfl rfl)
theorem dX0_dug_124 : decode cX0_dug 124 = .ok (.iload 9, 2) := dk_21 9 (dk_at dksX0_dug_5 10 rfl rfl)
theorem dX0_dug_126 : decode cX0_dug 126 = .ok (.invokestatic 26, 3) := dk_184 0 26 (dk_at dksX0_dug_5 12 rfl rfl)
theorem dX0_dug_129 : decode cX0_dug 129 = .ok (.ifCond .ne 44, 3) := dk_154 0 44 (dk_at dksX0_dug_5 15 rfl rfl)
theorem dX0_dug_132 : decode cX0_dug 132 = .ok (.iload_n 1, 1) := dk_27 (dk_at dksX0_dug_5 18 rfl rfl)
theorem dX0_dug_133 : decode cX0_dug 133 = .ok (.iload_n 2, 1) := dk_28 (dk_at dksX0_dug_5 19 rfl rfl)
theorem dX0_dug_134 : decode cX0_dug 134 = .ok (.lload 4, 2) := dk_22 4 (dk_at dksX0_dug_5 20 rfl rfl)
theorem dX0_dug_136 : decode cX0_dug 136 = .ok (.lconst 1, 1) := dk_10 (dk_at dksX0_dug_5 22 rfl rfl)
theorem dX0_dug_137 : decode cX0_dug 137 = .ok (.iload 9, 2) := dk_21 9 (dk_at dksX0_dug_6 0 rfl rfl)
theorem dX0_dug_139 : decode cX0_dug 139 = .ok (.lshl, 1) := dk_121 (dk_at dksX0_dug_6 2 rfl rfl)
theorem dX0_dug_140 : decode cX0_dug 140 = .ok (.lor, 1) := dk_129 (dk_at dksX0_dug_6 3 rfl rfl)
theorem dX0_dug_141 : decode cX0_dug 141 = .ok (.invokestatic 199, 3) := dk_184 0 199 (dk_at dksX0_dug_6 4 rfl rfl)
theorem dX0_dug_144 : decode cX0_dug 144 = .ok (.iload 6, 2) := dk_21 6 (dk_at dksX0_dug_6 7 rfl rfl)
theorem dX0_dug_146 : decode cX0_dug 146 = .ok (.iload 8, 2) := dk_21 8 (dk_at dksX0_dug_6 9 rfl rfl)
theorem dX0_dug_148 : decode cX0_dug 148 = .ok (.isub, 1) := dk_100 (dk_at dksX0_dug_6 11 rfl rfl)
theorem dX0_dug_149 : decode cX0_dug 149 = .ok (.iconst 1, 1) := dk_4 (dk_at dksX0_dug_6 12 rfl rfl)
theorem dX0_dug_150 : decode cX0_dug 150 = .ok (.isub, 1) := dk_100 (dk_at dksX0_dug_6 13 rfl rfl)
theorem dX0_dug_151 : decode cX0_dug 151 = .ok (.if_icmp .eq 6, 3) := dk_159 0 6 (dk_at dksX0_dug_6 14 rfl rfl)
theorem dX0_dug_154 : decode cX0_dug 154 = .ok (.goto 19, 3) := dk_167 0 19 (dk_at dksX0_dug_6 17 rfl rfl)
theorem dX0_dug_157 : decode cX0_dug 157 = .ok (.lload 4, 2) := dk_22 4 (dk_at dksX0_dug_6 20 rfl rfl)
theorem dX0_dug_159 : decode cX0_dug 159 = .ok (.lconst 1, 1) := dk_10 (dk_at dksX0_dug_6 22 rfl rfl)
theorem dX0_dug_160 : decode cX0_dug 160 = .ok (.iload 9, 2) := dk_21 9 (dk_at dksX0_dug_7 0 rfl rfl)
theorem dX0_dug_162 : decode cX0_dug 162 = .ok (.lshl, 1) := dk_121 (dk_at dksX0_dug_7 2 rfl rfl)
theorem dX0_dug_163 : decode cX0_dug 163 = .ok (.lor, 1) := dk_129 (dk_at dksX0_dug_7 3 rfl rfl)
theorem dX0_dug_164 : decode cX0_dug 164 = .ok (.lstore 4, 2) := dk_55 4 (dk_at dksX0_dug_7 4 rfl rfl)
theorem dX0_dug_166 : decode cX0_dug 166 = .ok (.iload 9, 2) := dk_21 9 (dk_at dksX0_dug_7 6 rfl rfl)
theorem dX0_dug_168 : decode cX0_dug 168 = .ok (.istore 7, 2) := dk_54 7 (dk_at dksX0_dug_7 8 rfl rfl)
theorem dX0_dug_170 : decode cX0_dug 170 = .ok (.iinc 8 1, 3) := dk_132 8 1 (dk_at dksX0_dug_7 10 rfl rfl)
theorem dX0_dug_173 : decode cX0_dug 173 = .ok (.iinc 9 1, 3) := dk_132 9 1 (dk_at dksX0_dug_7 13 rfl rfl)
theorem dX0_dug_176 : decode cX0_dug 176 = .ok (.goto (-60), 3) := dk_167 255 196 (dk_at dksX0_dug_7 16 rfl rfl)
theorem dX0_dug_179 : decode cX0_dug 179 = .ok (.iload 7, 2) := dk_21 7 (dk_at dksX0_dug_7 19 rfl rfl)
theorem dX0_dug_181 : decode cX0_dug 181 = .ok (.ireturn, 1) := dk_172 (dk_at dksX0_dug_7 21 rfl rfl)
abbrev cX0_between : ByteArray := prog_1_method_35_code
def yX0_between : MethodName := ⟨RX0, "between", "(IIJ)I"⟩
def dkwX0_between_2 : List UInt8 := [132, 6, 1, 167, 255, 218, 21, 6, 172]
abbrev dktX0_between_2 : List UInt8 := dkwX0_between_2 ++ []
def dkwX0_between_1 : List UInt8 := [22, 4, 184, 0, 22, 129, 55, 4, 22, 4, 22, 4, 184, 0, 22, 32, 127, 32, 184, 0, 30, 129, 55, 4]
abbrev dktX0_between_1 : List UInt8 := dkwX0_between_1 ++ dktX0_between_2
def dkwX0_between_0 : List UInt8 := [10, 26, 121, 32, 184, 0, 30, 55, 4, 3, 54, 6, 22, 4, 27, 184, 0, 26, 154, 0, 35, 22, 4]
abbrev dktX0_between_0 : List UInt8 := dkwX0_between_0 ++ dktX0_between_1
theorem dksX0_between_0 : cX0_between.data.toList.drop 0 = dktX0_between_0 := by decide +kernel
theorem dksX0_between_1 : cX0_between.data.toList.drop 23 = dktX0_between_1 := dk_seg dksX0_between_0 23 rfl rfl
theorem dksX0_between_2 : cX0_between.data.toList.drop 47 = dktX0_between_2 := dk_seg dksX0_between_1 24 rfl rfl
theorem dX0_between_0 : decode cX0_between 0 = .ok (.lconst 1, 1) := dk_10 (dk_at dksX0_between_0 0 rfl rfl)
theorem dX0_between_1 : decode cX0_between 1 = .ok (.iload_n 0, 1) := dk_26 (dk_at dksX0_between_0 1 rfl rfl)
theorem dX0_between_2 : decode cX0_between 2 = .ok (.lshl, 1) := dk_121 (dk_at dksX0_between_0 2 rfl rfl)
theorem dX0_between_3 : decode cX0_between 3 = .ok (.lload_n 2, 1) := dk_32 (dk_at dksX0_between_0 3 rfl rfl)
theorem dX0_between_4 : decode cX0_between 4 = .ok (.invokestatic 30, 3) := dk_184 0 30 (dk_at dksX0_between_0 4 rfl rfl)
theorem dX0_between_7 : decode cX0_between 7 = .ok (.lstore 4, 2) := dk_55 4 (dk_at dksX0_between_0 7 rfl rfl)
theorem dX0_between_9 : decode cX0_between 9 = .ok (.iconst 0, 1) := dk_3 (dk_at dksX0_between_0 9 rfl rfl)
theorem dX0_between_10 : decode cX0_between 10 = .ok (.istore 6, 2) := dk_54 6 (dk_at dksX0_between_0 10 rfl rfl)
theorem dX0_between_12 : decode cX0_between 12 = .ok (.lload 4, 2) := dk_22 4 (dk_at dksX0_between_0 12 rfl rfl)
theorem dX0_between_14 : decode cX0_between 14 = .ok (.iload_n 1, 1) := dk_27 (dk_at dksX0_between_0 14 rfl rfl)
theorem dX0_between_15 : decode cX0_between 15 = .ok (.invokestatic 26, 3) := dk_184 0 26 (dk_at dksX0_between_0 15 rfl rfl)
theorem dX0_between_18 : decode cX0_between 18 = .ok (.ifCond .ne 35, 3) := dk_154 0 35 (dk_at dksX0_between_0 18 rfl rfl)
theorem dX0_between_21 : decode cX0_between 21 = .ok (.lload 4, 2) := dk_22 4 (dk_at dksX0_between_0 21 rfl rfl)
theorem dX0_between_23 : decode cX0_between 23 = .ok (.lload 4, 2) := dk_22 4 (dk_at dksX0_between_1 0 rfl rfl)
theorem dX0_between_25 : decode cX0_between 25 = .ok (.invokestatic 22, 3) := dk_184 0 22 (dk_at dksX0_between_1 2 rfl rfl)
theorem dX0_between_28 : decode cX0_between 28 = .ok (.lor, 1) := dk_129 (dk_at dksX0_between_1 5 rfl rfl)
theorem dX0_between_29 : decode cX0_between 29 = .ok (.lstore 4, 2) := dk_55 4 (dk_at dksX0_between_1 6 rfl rfl)
theorem dX0_between_31 : decode cX0_between 31 = .ok (.lload 4, 2) := dk_22 4 (dk_at dksX0_between_1 8 rfl rfl)
theorem dX0_between_33 : decode cX0_between 33 = .ok (.lload 4, 2) := dk_22 4 (dk_at dksX0_between_1 10 rfl rfl)
theorem dX0_between_35 : decode cX0_between 35 = .ok (.invokestatic 22, 3) := dk_184 0 22 (dk_at dksX0_between_1 12 rfl rfl)
theorem dX0_between_38 : decode cX0_between 38 = .ok (.lload_n 2, 1) := dk_32 (dk_at dksX0_between_1 15 rfl rfl)
theorem dX0_between_39 : decode cX0_between 39 = .ok (.land, 1) := dk_127 (dk_at dksX0_between_1 16 rfl rfl)
theorem dX0_between_40 : decode cX0_between 40 = .ok (.lload_n 2, 1) := dk_32 (dk_at dksX0_between_1 17 rfl rfl)
theorem dX0_between_41 : decode cX0_between 41 = .ok (.invokestatic 30, 3) := dk_184 0 30 (dk_at dksX0_between_1 18 rfl rfl)
theorem dX0_between_44 : decode cX0_between 44 = .ok (.lor, 1) := dk_129 (dk_at dksX0_between_1 21 rfl rfl)
theorem dX0_between_45 : decode cX0_between 45 = .ok (.lstore 4, 2) := dk_55 4 (dk_at dksX0_between_1 22 rfl rfl)
theorem dX0_between_47 : decode cX0_between 47 = .ok (.iinc 6 1, 3) := dk_132 6 1 (dk_at dksX0_between_2 0 rfl rfl)
theorem dX0_between_50 : decode cX0_between 50 = .ok (.goto (-38), 3) := dk_167 255 218 (dk_at dksX0_between_2 3 rfl rfl)
theorem dX0_between_53 : decode cX0_between 53 = .ok (.iload 6, 2) := dk_21 6 (dk_at dksX0_between_2 6 rfl rfl)
theorem dX0_between_55 : decode cX0_between 55 = .ok (.ireturn, 1) := dk_172 (dk_at dksX0_between_2 8 rfl rfl)
abbrev cX0_loophole : ByteArray := prog_1_method_37_code
def yX0_loophole : MethodName := ⟨RX0, "loophole", "()I"⟩
def dkwX0_loophole_3 : List UInt8 := [161, 0, 6, 167, 0, 8, 21, 4, 60, 29, 61, 132, 3, 1, 167, 255, 187, 28, 172]
abbrev dktX0_loophole_3 : List UInt8 := dkwX0_loophole_3 ++ []
def dkwX0_loophole_2 : List UInt8 := [180, 0, 174, 10, 29, 121, 4, 182, 0, 58, 42, 180, 0, 174, 182, 0, 121, 54, 4, 21, 4, 27]
abbrev dktX0_loophole_2 : List UInt8 := dkwX0_loophole_2 ++ dktX0_loophole_3
def dkwX0_loophole_1 : List UInt8 := [180, 0, 42, 29, 51, 158, 0, 6, 167, 0, 48, 42, 180, 0, 174, 42, 180, 0, 38, 182, 0, 177, 42]
abbrev dktX0_loophole_1 : List UInt8 := dkwX0_loophole_1 ++ dktX0_loophole_2
def dkwX0_loophole_0 : List UInt8 := [42, 180, 0, 38, 182, 0, 121, 60, 16, 252, 61, 3, 62, 29, 16, 36, 162, 0, 69, 42, 180, 0, 38]
abbrev dktX0_loophole_0 : List UInt8 := dkwX0_loophole_0 ++ dktX0_loophole_1
theorem dksX0_loophole_0 : cX0_loophole.data.toList.drop 0 = dktX0_loophole_0 := by decide +kernel
theorem dksX0_loophole_1 : cX0_loophole.data.toList.drop 23 = dktX0_loophole_1 := dk_seg dksX0_loophole_0 23 rfl rfl
theorem dksX0_loophole_2 : cX0_loophole.data.toList.drop 46 = dktX0_loophole_2 := dk_seg dksX0_loophole_1 23 rfl rfl
theorem dksX0_loophole_3 : cX0_loophole.data.toList.drop 68 = dktX0_loophole_3 := dk_seg dksX0_loophole_2 22 rfl rfl
theorem dX0_loophole_0 : decode cX0_loophole 0 = .ok (.aload_n 0, 1) := dk_42 (dk_at dksX0_loophole_0 0 rfl rfl)
theorem dX0_loophole_1 : decode cX0_loophole 1 = .ok (.getfield 38, 3) := dk_180 0 38 (dk_at dksX0_loophole_0 1 rfl rfl)
theorem dX0_loophole_4 : decode cX0_loophole 4 = .ok (.invokevirtual 121, 3) := dk_182 0 121 (dk_at dksX0_loophole_0 4 rfl rfl)
theorem dX0_loophole_7 : decode cX0_loophole 7 = .ok (.istore_n 1, 1) := dk_60 (dk_at dksX0_loophole_0 7 rfl rfl)
theorem dX0_loophole_8 : decode cX0_loophole 8 = .ok (.bipush (-4), 2) := dk_16 252 (dk_at dksX0_loophole_0 8 rfl rfl)
theorem dX0_loophole_10 : decode cX0_loophole 10 = .ok (.istore_n 2, 1) := dk_61 (dk_at dksX0_loophole_0 10 rfl rfl)
theorem dX0_loophole_11 : decode cX0_loophole 11 = .ok (.iconst 0, 1) := dk_3 (dk_at dksX0_loophole_0 11 rfl rfl)
theorem dX0_loophole_12 : decode cX0_loophole 12 = .ok (.istore_n 3, 1) := dk_62 (dk_at dksX0_loophole_0 12 rfl rfl)
theorem dX0_loophole_13 : decode cX0_loophole 13 = .ok (.iload_n 3, 1) := dk_29 (dk_at dksX0_loophole_0 13 rfl rfl)
theorem dX0_loophole_14 : decode cX0_loophole 14 = .ok (.bipush 36, 2) := dk_16 36 (dk_at dksX0_loophole_0 14 rfl rfl)
theorem dX0_loophole_16 : decode cX0_loophole 16 = .ok (.if_icmp .ge 69, 3) := dk_162 0 69 (dk_at dksX0_loophole_0 16 rfl rfl)
theorem dX0_loophole_19 : decode cX0_loophole 19 = .ok (.aload_n 0, 1) := dk_42 (dk_at dksX0_loophole_0 19 rfl rfl)
theorem dX0_loophole_20 : decode cX0_loophole 20 = .ok (.getfield 38, 3) := dk_180 0 38 (dk_at dksX0_loophole_0 20 rfl rfl)
theorem dX0_loophole_23 : decode cX0_loophole 23 = .ok (.getfield 42, 3) := dk_180 0 42 (dk_at dksX0_loophole_1 0 rfl rfl)
theorem dX0_loophole_26 : decode cX0_loophole 26 = .ok (.iload_n 3, 1) := dk_29 (dk_at dksX0_loophole_1 3 rfl rfl)
theorem dX0_loophole_27 : decode cX0_loophole 27 = .ok (.baload, 1) := dk_51 (dk_at dksX0_loophole_1 4 rfl rfl)
theorem dX0_loophole_28 : decode cX0_loophole 28 = .ok (.ifCond .le 6, 3) := dk_158 0 6 (dk_at dksX0_loophole_1 5 rfl rfl)
theorem dX0_loophole_31 : decode cX0_loophole 31 = .ok (.goto 48, 3) := dk_167 0 48 (dk_at dksX0_loophole_1 8 rfl rfl)
theorem dX0_loophole_34 : decode cX0_loophole 34 = .ok (.aload_n 0, 1) := dk_42 (dk_at dksX0_loophole_1 11 rfl rfl)
theorem dX0_loophole_35 : decode cX0_loophole 35 = .ok (.getfield 174, 3) := dk_180 0 174 (dk_at dksX0_loophole_1 12 rfl rfl)
theorem dX0_loophole_38 : decode cX0_loophole 38 = .ok (.aload_n 0, 1) := dk_42 (dk_at dksX0_loophole_1 15 rfl rfl)
theorem dX0_loophole_39 : decode cX0_loophole 39 = .ok (.getfield 38, 3) := dk_180 0 38 (dk_at dksX0_loophole_1 16 rfl rfl)
theorem dX0_loophole_42 : decode cX0_loophole 42 = .ok (.invokevirtual 177, 3) := dk_182 0 177 (dk_at dksX0_loophole_1 19 rfl rfl)
theorem dX0_loophole_45 : decode cX0_loophole 45 = .ok (.aload_n 0, 1) := dk_42 (dk_at dksX0_loophole_1 22 rfl rfl)
theorem dX0_loophole_46 : decode cX0_loophole 46 = .ok (.getfield 174, 3) := dk_180 0 174 (dk_at dksX0_loophole_2 0 rfl rfl)
theorem dX0_loophole_49 : decode cX0_loophole 49 = .ok (.lconst 1, 1) := dk_10 (dk_at dksX0_loophole_2 3 rfl rfl)
theorem dX0_loophole_50 : decode cX0_loophole 50 = .ok (.iload_n 3, 1) := dk_29 (dk_at dksX0_loophole_2 4 rfl rfl)
theorem dX0_loophole_51 : decode cX0_loophole 51 = .ok (.lshl, 1) := dk_121 (dk_at dksX0_loophole_2 5 rfl rfl)
theorem dX0_loophole_52 : decode cX0_loophole 52 = .ok (.iconst 1, 1) := dk_4 (dk_at dksX0_loophole_2 6 rfl rfl)
theorem dX0_loophole_53 : decode cX0_loophole 53 = .ok (.invokevirtual 58, 3) := dk_182 0 58 (dk_at dksX0_loophole_2 7 rfl rfl)
theorem dX0_loophole_56 : decode cX0_loophole 56 = .ok (.aload_n 0, 1) := dk_42 (dk_at dksX0_loophole_2 10 rfl rfl)
theorem dX0_loophole_57 : decode cX0_loophole 57 = .ok (.getfield 174, 3) := dk_180 0 174 (dk_at dksX0_loophole_2 11 rfl rfl)
theorem dX0_loophole_60 : decode cX0_loophole 60 = .ok (.invokevirtual 121, 3) := dk_182 0 121 (dk_at dksX0_loophole_2 14 rfl rfl)
theorem dX0_loophole_63 : decode cX0_loophole 63 = .ok (.istore 4, 2) := dk_54 4 (dk_at dksX0_loophole_2 17 rfl rfl)
theorem dX0_loophole_65 : decode cX0_loophole 65 = .ok (.iload 4, 2) := dk_21 4 (dk_at dksX0_loophole_2 19 rfl rfl)
theorem dX0_loophole_67 : decode cX0_loophole 67 = .ok (.iload_n 1, 1) := dk_27 (dk_at dksX0_loophole_2 21 rfl rfl)
theorem dX0_loophole_68 : decode cX0_loophole 68 = .ok (.if_icmp .lt 6, 3) := dk_161 0 6 (dk_at dksX0_loophole_3 0 rfl rfl)
theorem dX0_loophole_71 : decode cX0_loophole 71 = .ok (.goto 8, 3) := dk_167 0 8 (dk_at dksX0_loophole_3 3 rfl rfl)
theorem dX0_loophole_74 : decode cX0_loophole 74 = .ok (.iload 4, 2) := dk_21 4 (dk_at dksX0_loophole_3 6 rfl rfl)
theorem dX0_loophole_76 : decode cX0_loophole 76 = .ok (.istore_n 1, 1) := dk_60 (dk_at dksX0_loophole_3 8 rfl rfl)
theorem dX0_loophole_77 : decode cX0_loophole 77 = .ok (.iload_n 3, 1) := dk_29 (dk_at dksX0_loophole_3 9 rfl rfl)
theorem dX0_loophole_78 : decode cX0_loophole 78 = .ok (.istore_n 2, 1) := dk_61 (dk_at dksX0_loophole_3 10 rfl rfl)
theorem dX0_loophole_79 : decode cX0_loophole 79 = .ok (.iinc 3 1, 3) := dk_132 3 1 (dk_at dksX0_loophole_3 11 rfl rfl)
theorem dX0_loophole_82 : decode cX0_loophole 82 = .ok (.goto (-69), 3) := dk_167 255 187 (dk_at dksX0_loophole_3 14 rfl rfl)
theorem dX0_loophole_85 : decode cX0_loophole 85 = .ok (.iload_n 2, 1) := dk_28 (dk_at dksX0_loophole_3 17 rfl rfl)
theorem dX0_loophole_86 : decode cX0_loophole 86 = .ok (.ireturn, 1) := dk_172 (dk_at dksX0_loophole_3 18 rfl rfl)
abbrev cX0_roofs : ByteArray := prog_1_method_38_code
def yX0_roofs : MethodName := ⟨RX0, "roofs", "(I)I"⟩
def dkwX0_roofs_1 : List UInt8 := [167, 0, 22, 44, 180, 0, 103, 42, 180, 0, 38, 180, 0, 62, 20, 0, 15, 131, 127, 184, 0, 119, 172]
abbrev dktX0_roofs_1 : List UInt8 := dkwX0_roofs_1 ++ []
def dkwX0_roofs_0 : List UInt8 := [27, 184, 0, 34, 154, 0, 5, 2, 172, 42, 180, 0, 38, 27, 182, 0, 99, 77, 44, 199, 0, 8, 16, 254]
abbrev dktX0_roofs_0 : List UInt8 := dkwX0_roofs_0 ++ dktX0_roofs_1
theorem dksX0_roofs_0 : cX0_roofs.data.toList.drop 0 = dktX0_roofs_0 := by decide +kernel
theorem dksX0_roofs_1 : cX0_roofs.data.toList.drop 24 = dktX0_roofs_1 := dk_seg dksX0_roofs_0 24 rfl rfl
theorem dX0_roofs_0 : decode cX0_roofs 0 = .ok (.iload_n 1, 1) := dk_27 (dk_at dksX0_roofs_0 0 rfl rfl)
theorem dX0_roofs_1 : decode cX0_roofs 1 = .ok (.invokestatic 34, 3) := dk_184 0 34 (dk_at dksX0_roofs_0 1 rfl rfl)
theorem dX0_roofs_4 : decode cX0_roofs 4 = .ok (.ifCond .ne 5, 3) := dk_154 0 5 (dk_at dksX0_roofs_0 4 rfl rfl)
theorem dX0_roofs_7 : decode cX0_roofs 7 = .ok (.iconst (-1), 1) := dk_2 (dk_at dksX0_roofs_0 7 rfl rfl)
theorem dX0_roofs_8 : decode cX0_roofs 8 = .ok (.ireturn, 1) := dk_172 (dk_at dksX0_roofs_0 8 rfl rfl)
theorem dX0_roofs_9 : decode cX0_roofs 9 = .ok (.aload_n 0, 1) := dk_42 (dk_at dksX0_roofs_0 9 rfl rfl)
theorem dX0_roofs_10 : decode cX0_roofs 10 = .ok (.getfield 38, 3) := dk_180 0 38 (dk_at dksX0_roofs_0 10 rfl rfl)
theorem dX0_roofs_13 : decode cX0_roofs 13 = .ok (.iload_n 1, 1) := dk_27 (dk_at dksX0_roofs_0 13 rfl rfl)
theorem dX0_roofs_14 : decode cX0_roofs 14 = .ok (.invokevirtual 99, 3) := dk_182 0 99 (dk_at dksX0_roofs_0 14 rfl rfl)
theorem dX0_roofs_17 : decode cX0_roofs 17 = .ok (.astore_n 2, 1) := dk_77 (dk_at dksX0_roofs_0 17 rfl rfl)
theorem dX0_roofs_18 : decode cX0_roofs 18 = .ok (.aload_n 2, 1) := dk_44 (dk_at dksX0_roofs_0 18 rfl rfl)
theorem dX0_roofs_19 : decode cX0_roofs 19 = .ok (.ifnonnull 8, 3) := dk_199 0 8 (dk_at dksX0_roofs_0 19 rfl rfl)
theorem dX0_roofs_22 : decode cX0_roofs 22 = .ok (.bipush (-2), 2) := dk_16 254 (dk_at dksX0_roofs_0 22 rfl rfl)
theorem dX0_roofs_24 : decode cX0_roofs 24 = .ok (.goto 22, 3) := dk_167 0 22 (dk_at dksX0_roofs_1 0 rfl rfl)
theorem dX0_roofs_27 : decode cX0_roofs 27 = .ok (.aload_n 2, 1) := dk_44 (dk_at dksX0_roofs_1 3 rfl rfl)
theorem dX0_roofs_28 : decode cX0_roofs 28 = .ok (.getfield 103, 3) := dk_180 0 103 (dk_at dksX0_roofs_1 4 rfl rfl)
theorem dX0_roofs_31 : decode cX0_roofs 31 = .ok (.aload_n 0, 1) := dk_42 (dk_at dksX0_roofs_1 7 rfl rfl)
theorem dX0_roofs_32 : decode cX0_roofs 32 = .ok (.getfield 38, 3) := dk_180 0 38 (dk_at dksX0_roofs_1 8 rfl rfl)
theorem dX0_roofs_35 : decode cX0_roofs 35 = .ok (.getfield 62, 3) := dk_180 0 62 (dk_at dksX0_roofs_1 11 rfl rfl)
theorem dX0_roofs_38 : decode cX0_roofs 38 = .ok (.ldc2_w 15, 3) := dk_20 0 15 (dk_at dksX0_roofs_1 14 rfl rfl)
theorem dX0_roofs_41 : decode cX0_roofs 41 = .ok (.lxor, 1) := dk_131 (dk_at dksX0_roofs_1 17 rfl rfl)
theorem dX0_roofs_42 : decode cX0_roofs 42 = .ok (.land, 1) := dk_127 (dk_at dksX0_roofs_1 18 rfl rfl)
theorem dX0_roofs_43 : decode cX0_roofs 43 = .ok (.invokestatic 119, 3) := dk_184 0 119 (dk_at dksX0_roofs_1 19 rfl rfl)
theorem dX0_roofs_46 : decode cX0_roofs 46 = .ok (.ireturn, 1) := dk_172 (dk_at dksX0_roofs_1 22 rfl rfl)
abbrev cX0_round : ByteArray := prog_1_method_42_code
def yX0_round : MethodName := ⟨RX0, "round", "(II)I"⟩
def dkwX0_round_4 : List UInt8 := [16, 252, 172]
abbrev dktX0_round_4 : List UInt8 := dkwX0_round_4 ++ []
def dkwX0_round_3 : List UInt8 := [180, 0, 211, 167, 0, 22, 28, 45, 182, 0, 75, 162, 0, 12, 42, 180, 0, 218, 28, 46, 167, 0, 5]
abbrev dktX0_round_3 : List UInt8 := dkwX0_round_3 ++ dktX0_round_4
def dkwX0_round_2 : List UInt8 := [181, 0, 211, 42, 45, 27, 3, 4, 45, 182, 0, 75, 120, 4, 100, 3, 182, 0, 231, 28, 156, 0, 10, 42]
abbrev dktX0_round_2 : List UInt8 := dkwX0_round_2 ++ dktX0_round_3
def dkwX0_round_1 : List UInt8 := [180, 0, 38, 182, 0, 131, 78, 45, 182, 0, 75, 16, 8, 164, 0, 6, 16, 253, 172, 42, 18, 235]
abbrev dktX0_round_1 : List UInt8 := dkwX0_round_1 ++ dktX0_round_2
def dkwX0_round_0 : List UInt8 := [27, 184, 0, 34, 153, 0, 17, 28, 133, 20, 0, 15, 20, 0, 141, 184, 0, 5, 154, 0, 5, 2, 172, 42]
abbrev dktX0_round_0 : List UInt8 := dkwX0_round_0 ++ dktX0_round_1
theorem dksX0_round_0 : cX0_round.data.toList.drop 0 = dktX0_round_0 := by decide +kernel
theorem dksX0_round_1 : cX0_round.data.toList.drop 24 = dktX0_round_1 := dk_seg dksX0_round_0 24 rfl rfl
theorem dksX0_round_2 : cX0_round.data.toList.drop 46 = dktX0_round_2 := dk_seg dksX0_round_1 22 rfl rfl
theorem dksX0_round_3 : cX0_round.data.toList.drop 70 = dktX0_round_3 := dk_seg dksX0_round_2 24 rfl rfl
theorem dksX0_round_4 : cX0_round.data.toList.drop 93 = dktX0_round_4 := dk_seg dksX0_round_3 23 rfl rfl
theorem dX0_round_0 : decode cX0_round 0 = .ok (.iload_n 1, 1) := dk_27 (dk_at dksX0_round_0 0 rfl rfl)
theorem dX0_round_1 : decode cX0_round 1 = .ok (.invokestatic 34, 3) := dk_184 0 34 (dk_at dksX0_round_0 1 rfl rfl)
theorem dX0_round_4 : decode cX0_round 4 = .ok (.ifCond .eq 17, 3) := dk_153 0 17 (dk_at dksX0_round_0 4 rfl rfl)
theorem dX0_round_7 : decode cX0_round 7 = .ok (.iload_n 2, 1) := dk_28 (dk_at dksX0_round_0 7 rfl rfl)
theorem dX0_round_8 : decode cX0_round 8 = .ok (.i2l, 1) := dk_133 (dk_at dksX0_round_0 8 rfl rfl)
theorem dX0_round_9 : decode cX0_round 9 = .ok (.ldc2_w 15, 3) := dk_20 0 15 (dk_at dksX0_round_0 9 rfl rfl)
theorem dX0_round_12 : decode cX0_round 12 = .ok (.ldc2_w 141, 3) := dk_20 0 141 (dk_at dksX0_round_0 12 rfl rfl)
theorem dX0_round_15 : decode cX0_round 15 = .ok (.invokestatic 5, 3) := dk_184 0 5 (dk_at dksX0_round_0 15 rfl rfl)
theorem dX0_round_18 : decode cX0_round 18 = .ok (.ifCond .ne 5, 3) := dk_154 0 5 (dk_at dksX0_round_0 18 rfl rfl)
theorem dX0_round_21 : decode cX0_round 21 = .ok (.iconst (-1), 1) := dk_2 (dk_at dksX0_round_0 21 rfl rfl)
theorem dX0_round_22 : decode cX0_round 22 = .ok (.ireturn, 1) := dk_172 (dk_at dksX0_round_0 22 rfl rfl)
theorem dX0_round_23 : decode cX0_round 23 = .ok (.aload_n 0, 1) := dk_42 (dk_at dksX0_round_0 23 rfl rfl)
theorem dX0_round_24 : decode cX0_round 24 = .ok (.getfield 38, 3) := dk_180 0 38 (dk_at dksX0_round_1 0 rfl rfl)
theorem dX0_round_27 : decode cX0_round 27 = .ok (.invokevirtual 131, 3) := dk_182 0 131 (dk_at dksX0_round_1 3 rfl rfl)
theorem dX0_round_30 : decode cX0_round 30 = .ok (.astore_n 3, 1) := dk_78 (dk_at dksX0_round_1 6 rfl rfl)
theorem dX0_round_31 : decode cX0_round 31 = .ok (.aload_n 3, 1) := dk_45 (dk_at dksX0_round_1 7 rfl rfl)
theorem dX0_round_32 : decode cX0_round 32 = .ok (.invokevirtual 75, 3) := dk_182 0 75 (dk_at dksX0_round_1 8 rfl rfl)
theorem dX0_round_35 : decode cX0_round 35 = .ok (.bipush 8, 2) := dk_16 8 (dk_at dksX0_round_1 11 rfl rfl)
theorem dX0_round_37 : decode cX0_round 37 = .ok (.if_icmp .le 6, 3) := dk_164 0 6 (dk_at dksX0_round_1 13 rfl rfl)
theorem dX0_round_40 : decode cX0_round 40 = .ok (.bipush (-3), 2) := dk_16 253 (dk_at dksX0_round_1 16 rfl rfl)
theorem dX0_round_42 : decode cX0_round 42 = .ok (.ireturn, 1) := dk_172 (dk_at dksX0_round_1 18 rfl rfl)
theorem dX0_round_43 : decode cX0_round 43 = .ok (.aload_n 0, 1) := dk_42 (dk_at dksX0_round_1 19 rfl rfl)
theorem dX0_round_44 : decode cX0_round 44 = .ok (.ldc 235, 2) := dk_18 235 (dk_at dksX0_round_1 20 rfl rfl)
theorem dX0_round_46 : decode cX0_round 46 = .ok (.putfield 211, 3) := dk_181 0 211 (dk_at dksX0_round_2 0 rfl rfl)
theorem dX0_round_49 : decode cX0_round 49 = .ok (.aload_n 0, 1) := dk_42 (dk_at dksX0_round_2 3 rfl rfl)
theorem dX0_round_50 : decode cX0_round 50 = .ok (.aload_n 3, 1) := dk_45 (dk_at dksX0_round_2 4 rfl rfl)
theorem dX0_round_51 : decode cX0_round 51 = .ok (.iload_n 1, 1) := dk_27 (dk_at dksX0_round_2 5 rfl rfl)
theorem dX0_round_52 : decode cX0_round 52 = .ok (.iconst 0, 1) := dk_3 (dk_at dksX0_round_2 6 rfl rfl)
theorem dX0_round_53 : decode cX0_round 53 = .ok (.iconst 1, 1) := dk_4 (dk_at dksX0_round_2 7 rfl rfl)
theorem dX0_round_54 : decode cX0_round 54 = .ok (.aload_n 3, 1) := dk_45 (dk_at dksX0_round_2 8 rfl rfl)
theorem dX0_round_55 : decode cX0_round 55 = .ok (.invokevirtual 75, 3) := dk_182 0 75 (dk_at dksX0_round_2 9 rfl rfl)
theorem dX0_round_58 : decode cX0_round 58 = .ok (.ishl, 1) := dk_120 (dk_at dksX0_round_2 12 rfl rfl)
theorem dX0_round_59 : decode cX0_round 59 = .ok (.iconst 1, 1) := dk_4 (dk_at dksX0_round_2 13 rfl rfl)
theorem dX0_round_60 : decode cX0_round 60 = .ok (.isub, 1) := dk_100 (dk_at dksX0_round_2 14 rfl rfl)
theorem dX0_round_61 : decode cX0_round 61 = .ok (.iconst 0, 1) := dk_3 (dk_at dksX0_round_2 15 rfl rfl)
theorem dX0_round_62 : decode cX0_round 62 = .ok (.invokevirtual 231, 3) := dk_182 0 231 (dk_at dksX0_round_2 16 rfl rfl)
theorem dX0_round_65 : decode cX0_round 65 = .ok (.iload_n 2, 1) := dk_28 (dk_at dksX0_round_2 19 rfl rfl)
theorem dX0_round_66 : decode cX0_round 66 = .ok (.ifCond .ge 10, 3) := dk_156 0 10 (dk_at dksX0_round_2 20 rfl rfl)
theorem dX0_round_69 : decode cX0_round 69 = .ok (.aload_n 0, 1) := dk_42 (dk_at dksX0_round_2 23 rfl rfl)
theorem dX0_round_70 : decode cX0_round 70 = .ok (.getfield 211, 3) := dk_180 0 211 (dk_at dksX0_round_3 0 rfl rfl)
theorem dX0_round_73 : decode cX0_round 73 = .ok (.goto 22, 3) := dk_167 0 22 (dk_at dksX0_round_3 3 rfl rfl)
theorem dX0_round_76 : decode cX0_round 76 = .ok (.iload_n 2, 1) := dk_28 (dk_at dksX0_round_3 6 rfl rfl)
theorem dX0_round_77 : decode cX0_round 77 = .ok (.aload_n 3, 1) := dk_45 (dk_at dksX0_round_3 7 rfl rfl)
theorem dX0_round_78 : decode cX0_round 78 = .ok (.invokevirtual 75, 3) := dk_182 0 75 (dk_at dksX0_round_3 8 rfl rfl)
theorem dX0_round_81 : decode cX0_round 81 = .ok (.if_icmp .ge 12, 3) := dk_162 0 12 (dk_at dksX0_round_3 11 rfl rfl)
theorem dX0_round_84 : decode cX0_round 84 = .ok (.aload_n 0, 1) := dk_42 (dk_at dksX0_round_3 14 rfl rfl)
theorem dX0_round_85 : decode cX0_round 85 = .ok (.getfield 218, 3) := dk_180 0 218 (dk_at dksX0_round_3 15 rfl rfl)
theorem dX0_round_88 : decode cX0_round 88 = .ok (.iload_n 2, 1) := dk_28 (dk_at dksX0_round_3 18 rfl rfl)
theorem dX0_round_89 : decode cX0_round 89 = .ok (.iaload, 1) := dk_46 (dk_at dksX0_round_3 19 rfl rfl)
theorem dX0_round_90 : decode cX0_round 90 = .ok (.goto 5, 3) := dk_167 0 5 (dk_at dksX0_round_3 20 rfl rfl)
theorem dX0_round_93 : decode cX0_round 93 = .ok (.bipush (-4), 2) := dk_16 252 (dk_at dksX0_round_4 0 rfl rfl)
theorem dX0_round_95 : decode cX0_round 95 = .ok (.ireturn, 1) := dk_172 (dk_at dksX0_round_4 2 rfl rfl)
abbrev cX0_goes : ByteArray := prog_1_method_41_code
def yX0_goes : MethodName := ⟨RX0, "goes", "(Ljava/util/ArrayList;IIII)V"⟩
def dkwX0_goes_5 : List UInt8 := [130, 126, 21, 5, 28, 21, 7, 184, 0, 208, 96, 182, 0, 231, 132, 6, 1, 167, 255, 164, 177]
abbrev dktX0_goes_5 : List UInt8 := dkwX0_goes_5 ++ []
def dkwX0_goes_4 : List UInt8 := [192, 0, 104, 180, 0, 103, 184, 0, 108, 79, 42, 43, 21, 7, 29, 4, 96, 21, 4, 4, 21, 6, 120, 2]
abbrev dktX0_goes_4 : List UInt8 := dkwX0_goes_4 ++ dktX0_goes_5
def dkwX0_goes_3 : List UInt8 := [192, 0, 104, 180, 0, 103, 184, 0, 227, 54, 7, 42, 180, 0, 214, 29, 43, 21, 6, 182, 0, 135]
abbrev dktX0_goes_3 : List UInt8 := dkwX0_goes_3 ++ dktX0_goes_4
def dkwX0_goes_2 : List UInt8 := [162, 0, 89, 21, 4, 21, 6, 122, 4, 126, 154, 0, 6, 167, 0, 70, 28, 43, 21, 6, 182, 0, 135]
abbrev dktX0_goes_2 : List UInt8 := dkwX0_goes_2 ++ dktX0_goes_3
def dkwX0_goes_1 : List UInt8 := [180, 0, 214, 3, 42, 180, 0, 218, 3, 29, 184, 0, 221, 177, 3, 54, 6, 21, 6, 43, 182, 0, 75]
abbrev dktX0_goes_1 : List UInt8 := dkwX0_goes_1 ++ dktX0_goes_2
def dkwX0_goes_0 : List UInt8 := [21, 5, 42, 180, 0, 211, 161, 0, 4, 177, 21, 4, 154, 0, 24, 42, 21, 5, 181, 0, 211, 42]
abbrev dktX0_goes_0 : List UInt8 := dkwX0_goes_0 ++ dktX0_goes_1
theorem dksX0_goes_0 : cX0_goes.data.toList.drop 0 = dktX0_goes_0 := by decide +kernel
theorem dksX0_goes_1 : cX0_goes.data.toList.drop 22 = dktX0_goes_1 := dk_seg dksX0_goes_0 22 rfl rfl
theorem dksX0_goes_2 : cX0_goes.data.toList.drop 45 = dktX0_goes_2 := dk_seg dksX0_goes_1 23 rfl rfl
theorem dksX0_goes_3 : cX0_goes.data.toList.drop 68 = dktX0_goes_3 := dk_seg dksX0_goes_2 23 rfl rfl
theorem dksX0_goes_4 : cX0_goes.data.toList.drop 90 = dktX0_goes_4 := dk_seg dksX0_goes_3 22 rfl rfl
theorem dksX0_goes_5 : cX0_goes.data.toList.drop 114 = dktX0_goes_5 := dk_seg dksX0_goes_4 24 rfl rfl
theorem dX0_goes_0 : decode cX0_goes 0 = .ok (.iload 5, 2) := dk_21 5 (dk_at dksX0_goes_0 0 rfl rfl)
theorem dX0_goes_2 : decode cX0_goes 2 = .ok (.aload_n 0, 1) := dk_42 (dk_at dksX0_goes_0 2 rfl rfl)
theorem dX0_goes_3 : decode cX0_goes 3 = .ok (.getfield 211, 3) := dk_180 0 211 (dk_at dksX0_goes_0 3 rfl rfl)
theorem dX0_goes_6 : decode cX0_goes 6 = .ok (.if_icmp .lt 4, 3) := dk_161 0 4 (dk_at dksX0_goes_0 6 rfl rfl)
theorem dX0_goes_9 : decode cX0_goes 9 = .ok (.return_, 1) := dk_177 (dk_at dksX0_goes_0 9 rfl rfl)
theorem dX0_goes_10 : decode cX0_goes 10 = .ok (.iload 4, 2) := dk_21 4 (dk_at dksX0_goes_0 10 rfl rfl)
theorem dX0_goes_12 : decode cX0_goes 12 = .ok (.ifCond .ne 24, 3) := dk_154 0 24 (dk_at dksX0_goes_0 12 rfl rfl)
theorem dX0_goes_15 : decode cX0_goes 15 = .ok (.aload_n 0, 1) := dk_42 (dk_at dksX0_goes_0 15 rfl rfl)
theorem dX0_goes_16 : decode cX0_goes 16 = .ok (.iload 5, 2) := dk_21 5 (dk_at dksX0_goes_0 16 rfl rfl)
theorem dX0_goes_18 : decode cX0_goes 18 = .ok (.putfield 211, 3) := dk_181 0 211 (dk_at dksX0_goes_0 18 rfl rfl)
theorem dX0_goes_21 : decode cX0_goes 21 = .ok (.aload_n 0, 1) := dk_42 (dk_at dksX0_goes_0 21 rfl rfl)
theorem dX0_goes_22 : decode cX0_goes 22 = .ok (.getfield 214, 3) := dk_180 0 214 (dk_at dksX0_goes_1 0 rfl rfl)
theorem dX0_goes_25 : decode cX0_goes 25 = .ok (.iconst 0, 1) := dk_3 (dk_at dksX0_goes_1 3 rfl rfl)
theorem dX0_goes_26 : decode cX0_goes 26 = .ok (.aload_n 0, 1) := dk_42 (dk_at dksX0_goes_1 4 rfl rfl)
theorem dX0_goes_27 : decode cX0_goes 27 = .ok (.getfield 218, 3) := dk_180 0 218 (dk_at dksX0_goes_1 5 rfl rfl)
theorem dX0_goes_30 : decode cX0_goes 30 = .ok (.iconst 0, 1) := dk_3 (dk_at dksX0_goes_1 8 rfl rfl)
theorem dX0_goes_31 : decode cX0_goes 31 = .ok (.iload_n 3, 1) := dk_29 (dk_at dksX0_goes_1 9 rfl rfl)
theorem dX0_goes_32 : decode cX0_goes 32 = .ok (.invokestatic 221, 3) := dk_184 0 221 (dk_at dksX0_goes_1 10 rfl rfl)
theorem dX0_goes_35 : decode cX0_goes 35 = .ok (.return_, 1) := dk_177 (dk_at dksX0_goes_1 13 rfl rfl)
theorem dX0_goes_36 : decode cX0_goes 36 = .ok (.iconst 0, 1) := dk_3 (dk_at dksX0_goes_1 14 rfl rfl)
theorem dX0_goes_37 : decode cX0_goes 37 = .ok (.istore 6, 2) := dk_54 6 (dk_at dksX0_goes_1 15 rfl rfl)
theorem dX0_goes_39 : decode cX0_goes 39 = .ok (.iload 6, 2) := dk_21 6 (dk_at dksX0_goes_1 17 rfl rfl)
theorem dX0_goes_41 : decode cX0_goes 41 = .ok (.aload_n 1, 1) := dk_43 (dk_at dksX0_goes_1 19 rfl rfl)
theorem dX0_goes_42 : decode cX0_goes 42 = .ok (.invokevirtual 75, 3) := dk_182 0 75 (dk_at dksX0_goes_1 20 rfl rfl)
theorem dX0_goes_45 : decode cX0_goes 45 = .ok (.if_icmp .ge 89, 3) := dk_162 0 89 (dk_at dksX0_goes_2 0 rfl rfl)
theorem dX0_goes_48 : decode cX0_goes 48 = .ok (.iload 4, 2) := dk_21 4 (dk_at dksX0_goes_2 3 rfl rfl)
theorem dX0_goes_50 : decode cX0_goes 50 = .ok (.iload 6, 2) := dk_21 6 (dk_at dksX0_goes_2 5 rfl rfl)
theorem dX0_goes_52 : decode cX0_goes 52 = .ok (.ishr, 1) := dk_122 (dk_at dksX0_goes_2 7 rfl rfl)
theorem dX0_goes_53 : decode cX0_goes 53 = .ok (.iconst 1, 1) := dk_4 (dk_at dksX0_goes_2 8 rfl rfl)
theorem dX0_goes_54 : decode cX0_goes 54 = .ok (.iand, 1) := dk_126 (dk_at dksX0_goes_2 9 rfl rfl)
theorem dX0_goes_55 : decode cX0_goes 55 = .ok (.ifCond .ne 6, 3) := dk_154 0 6 (dk_at dksX0_goes_2 10 rfl rfl)
theorem dX0_goes_58 : decode cX0_goes 58 = .ok (.goto 70, 3) := dk_167 0 70 (dk_at dksX0_goes_2 13 rfl rfl)
theorem dX0_goes_61 : decode cX0_goes 61 = .ok (.iload_n 2, 1) := dk_28 (dk_at dksX0_goes_2 16 rfl rfl)
theorem dX0_goes_62 : decode cX0_goes 62 = .ok (.aload_n 1, 1) := dk_43 (dk_at dksX0_goes_2 17 rfl rfl)
theorem dX0_goes_63 : decode cX0_goes 63 = .ok (.iload 6, 2) := dk_21 6 (dk_at dksX0_goes_2 18 rfl rfl)
theorem dX0_goes_65 : decode cX0_goes 65 = .ok (.invokevirtual 135, 3) := dk_182 0 135 (dk_at dksX0_goes_2 20 rfl rfl)
theorem dX0_goes_68 : decode cX0_goes 68 = .ok (.checkcast 104, 3) := dk_192 0 104 (dk_at dksX0_goes_3 0 rfl rfl)
theorem dX0_goes_71 : decode cX0_goes 71 = .ok (.getfield 103, 3) := dk_180 0 103 (dk_at dksX0_goes_3 3 rfl rfl)
theorem dX0_goes_74 : decode cX0_goes 74 = .ok (.invokestatic 227, 3) := dk_184 0 227 (dk_at dksX0_goes_3 6 rfl rfl)
theorem dX0_goes_77 : decode cX0_goes 77 = .ok (.istore 7, 2) := dk_54 7 (dk_at dksX0_goes_3 9 rfl rfl)
theorem dX0_goes_79 : decode cX0_goes 79 = .ok (.aload_n 0, 1) := dk_42 (dk_at dksX0_goes_3 11 rfl rfl)
theorem dX0_goes_80 : decode cX0_goes 80 = .ok (.getfield 214, 3) := dk_180 0 214 (dk_at dksX0_goes_3 12 rfl rfl)
theorem dX0_goes_83 : decode cX0_goes 83 = .ok (.iload_n 3, 1) := dk_29 (dk_at dksX0_goes_3 15 rfl rfl)
theorem dX0_goes_84 : decode cX0_goes 84 = .ok (.aload_n 1, 1) := dk_43 (dk_at dksX0_goes_3 16 rfl rfl)
theorem dX0_goes_85 : decode cX0_goes 85 = .ok (.iload 6, 2) := dk_21 6 (dk_at dksX0_goes_3 17 rfl rfl)
theorem dX0_goes_87 : decode cX0_goes 87 = .ok (.invokevirtual 135, 3) := dk_182 0 135 (dk_at dksX0_goes_3 19 rfl rfl)
theorem dX0_goes_90 : decode cX0_goes 90 = .ok (.checkcast 104, 3) := dk_192 0 104 (dk_at dksX0_goes_4 0 rfl rfl)
theorem dX0_goes_93 : decode cX0_goes 93 = .ok (.getfield 103, 3) := dk_180 0 103 (dk_at dksX0_goes_4 3 rfl rfl)
theorem dX0_goes_96 : decode cX0_goes 96 = .ok (.invokestatic 108, 3) := dk_184 0 108 (dk_at dksX0_goes_4 6 rfl rfl)
theorem dX0_goes_99 : decode cX0_goes 99 = .ok (.iastore, 1) := dk_79 (dk_at dksX0_goes_4 9 rfl rfl)
theorem dX0_goes_100 : decode cX0_goes 100 = .ok (.aload_n 0, 1) := dk_42 (dk_at dksX0_goes_4 10 rfl rfl)
theorem dX0_goes_101 : decode cX0_goes 101 = .ok (.aload_n 1, 1) := dk_43 (dk_at dksX0_goes_4 11 rfl rfl)
theorem dX0_goes_102 : decode cX0_goes 102 = .ok (.iload 7, 2) := dk_21 7 (dk_at dksX0_goes_4 12 rfl rfl)
theorem dX0_goes_104 : decode cX0_goes 104 = .ok (.iload_n 3, 1) := dk_29 (dk_at dksX0_goes_4 14 rfl rfl)
theorem dX0_goes_105 : decode cX0_goes 105 = .ok (.iconst 1, 1) := dk_4 (dk_at dksX0_goes_4 15 rfl rfl)
theorem dX0_goes_106 : decode cX0_goes 106 = .ok (.iadd, 1) := dk_96 (dk_at dksX0_goes_4 16 rfl rfl)
theorem dX0_goes_107 : decode cX0_goes 107 = .ok (.iload 4, 2) := dk_21 4 (dk_at dksX0_goes_4 17 rfl rfl)
theorem dX0_goes_109 : decode cX0_goes 109 = .ok (.iconst 1, 1) := dk_4 (dk_at dksX0_goes_4 19 rfl rfl)
theorem dX0_goes_110 : decode cX0_goes 110 = .ok (.iload 6, 2) := dk_21 6 (dk_at dksX0_goes_4 20 rfl rfl)
theorem dX0_goes_112 : decode cX0_goes 112 = .ok (.ishl, 1) := dk_120 (dk_at dksX0_goes_4 22 rfl rfl)
theorem dX0_goes_113 : decode cX0_goes 113 = .ok (.iconst (-1), 1) := dk_2 (dk_at dksX0_goes_4 23 rfl rfl)
theorem dX0_goes_114 : decode cX0_goes 114 = .ok (.ixor, 1) := dk_130 (dk_at dksX0_goes_5 0 rfl rfl)
theorem dX0_goes_115 : decode cX0_goes 115 = .ok (.iand, 1) := dk_126 (dk_at dksX0_goes_5 1 rfl rfl)
theorem dX0_goes_116 : decode cX0_goes 116 = .ok (.iload 5, 2) := dk_21 5 (dk_at dksX0_goes_5 2 rfl rfl)
theorem dX0_goes_118 : decode cX0_goes 118 = .ok (.iload_n 2, 1) := dk_28 (dk_at dksX0_goes_5 4 rfl rfl)
theorem dX0_goes_119 : decode cX0_goes 119 = .ok (.iload 7, 2) := dk_21 7 (dk_at dksX0_goes_5 5 rfl rfl)
theorem dX0_goes_121 : decode cX0_goes 121 = .ok (.invokestatic 208, 3) := dk_184 0 208 (dk_at dksX0_goes_5 7 rfl rfl)
theorem dX0_goes_124 : decode cX0_goes 124 = .ok (.iadd, 1) := dk_96 (dk_at dksX0_goes_5 10 rfl rfl)
theorem dX0_goes_125 : decode cX0_goes 125 = .ok (.invokevirtual 231, 3) := dk_182 0 231 (dk_at dksX0_goes_5 11 rfl rfl)
theorem dX0_goes_128 : decode cX0_goes 128 = .ok (.iinc 6 1, 3) := dk_132 6 1 (dk_at dksX0_goes_5 14 rfl rfl)
theorem dX0_goes_131 : decode cX0_goes 131 = .ok (.goto (-92), 3) := dk_167 255 164 (dk_at dksX0_goes_5 17 rfl rfl)
theorem dX0_goes_134 : decode cX0_goes 134 = .ok (.return_, 1) := dk_177 (dk_at dksX0_goes_5 20 rfl rfl)
abbrev cX0_nearest : ByteArray := prog_1_method_40_code
def yX0_nearest : MethodName := ⟨RX0, "nearest", "(IJ)I"⟩
def dkwX0_nearest_2 : List UInt8 := [10, 101, 127, 55, 4, 167, 255, 210, 29, 172]
abbrev dktX0_nearest_2 : List UInt8 := dkwX0_nearest_2 ++ []
def dkwX0_nearest_1 : List UInt8 := [159, 0, 17, 26, 21, 6, 184, 0, 208, 26, 29, 184, 0, 208, 162, 0, 6, 21, 6, 62, 22, 4, 22, 4]
abbrev dktX0_nearest_1 : List UInt8 := dkwX0_nearest_1 ++ dktX0_nearest_2
def dkwX0_nearest_0 : List UInt8 := [16, 252, 62, 31, 55, 4, 22, 4, 9, 148, 153, 0, 45, 22, 4, 184, 0, 108, 54, 6, 29, 16, 252]
abbrev dktX0_nearest_0 : List UInt8 := dkwX0_nearest_0 ++ dktX0_nearest_1
theorem dksX0_nearest_0 : cX0_nearest.data.toList.drop 0 = dktX0_nearest_0 := by decide +kernel
theorem dksX0_nearest_1 : cX0_nearest.data.toList.drop 23 = dktX0_nearest_1 := dk_seg dksX0_nearest_0 23 rfl rfl
theorem dksX0_nearest_2 : cX0_nearest.data.toList.drop 47 = dktX0_nearest_2 := dk_seg dksX0_nearest_1 24 rfl rfl
theorem dX0_nearest_0 : decode cX0_nearest 0 = .ok (.bipush (-4), 2) := dk_16 252 (dk_at dksX0_nearest_0 0 rfl rfl)
theorem dX0_nearest_2 : decode cX0_nearest 2 = .ok (.istore_n 3, 1) := dk_62 (dk_at dksX0_nearest_0 2 rfl rfl)
theorem dX0_nearest_3 : decode cX0_nearest 3 = .ok (.lload_n 1, 1) := dk_31 (dk_at dksX0_nearest_0 3 rfl rfl)
theorem dX0_nearest_4 : decode cX0_nearest 4 = .ok (.lstore 4, 2) := dk_55 4 (dk_at dksX0_nearest_0 4 rfl rfl)
theorem dX0_nearest_6 : decode cX0_nearest 6 = .ok (.lload 4, 2) := dk_22 4 (dk_at dksX0_nearest_0 6 rfl rfl)
theorem dX0_nearest_8 : decode cX0_nearest 8 = .ok (.lconst 0, 1) := dk_9 (dk_at dksX0_nearest_0 8 rfl rfl)
theorem dX0_nearest_9 : decode cX0_nearest 9 = .ok (.lcmp, 1) := dk_148 (dk_at dksX0_nearest_0 9 rfl rfl)
theorem dX0_nearest_10 : decode cX0_nearest 10 = .ok (.ifCond .eq 45, 3) := dk_153 0 45 (dk_at dksX0_nearest_0 10 rfl rfl)
theorem dX0_nearest_13 : decode cX0_nearest 13 = .ok (.lload 4, 2) := dk_22 4 (dk_at dksX0_nearest_0 13 rfl rfl)
theorem dX0_nearest_15 : decode cX0_nearest 15 = .ok (.invokestatic 108, 3) := dk_184 0 108 (dk_at dksX0_nearest_0 15 rfl rfl)
theorem dX0_nearest_18 : decode cX0_nearest 18 = .ok (.istore 6, 2) := dk_54 6 (dk_at dksX0_nearest_0 18 rfl rfl)
theorem dX0_nearest_20 : decode cX0_nearest 20 = .ok (.iload_n 3, 1) := dk_29 (dk_at dksX0_nearest_0 20 rfl rfl)
theorem dX0_nearest_21 : decode cX0_nearest 21 = .ok (.bipush (-4), 2) := dk_16 252 (dk_at dksX0_nearest_0 21 rfl rfl)
theorem dX0_nearest_23 : decode cX0_nearest 23 = .ok (.if_icmp .eq 17, 3) := dk_159 0 17 (dk_at dksX0_nearest_1 0 rfl rfl)
theorem dX0_nearest_26 : decode cX0_nearest 26 = .ok (.iload_n 0, 1) := dk_26 (dk_at dksX0_nearest_1 3 rfl rfl)
theorem dX0_nearest_27 : decode cX0_nearest 27 = .ok (.iload 6, 2) := dk_21 6 (dk_at dksX0_nearest_1 4 rfl rfl)
theorem dX0_nearest_29 : decode cX0_nearest 29 = .ok (.invokestatic 208, 3) := dk_184 0 208 (dk_at dksX0_nearest_1 6 rfl rfl)
theorem dX0_nearest_32 : decode cX0_nearest 32 = .ok (.iload_n 0, 1) := dk_26 (dk_at dksX0_nearest_1 9 rfl rfl)
theorem dX0_nearest_33 : decode cX0_nearest 33 = .ok (.iload_n 3, 1) := dk_29 (dk_at dksX0_nearest_1 10 rfl rfl)
theorem dX0_nearest_34 : decode cX0_nearest 34 = .ok (.invokestatic 208, 3) := dk_184 0 208 (dk_at dksX0_nearest_1 11 rfl rfl)
theorem dX0_nearest_37 : decode cX0_nearest 37 = .ok (.if_icmp .ge 6, 3) := dk_162 0 6 (dk_at dksX0_nearest_1 14 rfl rfl)
theorem dX0_nearest_40 : decode cX0_nearest 40 = .ok (.iload 6, 2) := dk_21 6 (dk_at dksX0_nearest_1 17 rfl rfl)
theorem dX0_nearest_42 : decode cX0_nearest 42 = .ok (.istore_n 3, 1) := dk_62 (dk_at dksX0_nearest_1 19 rfl rfl)
theorem dX0_nearest_43 : decode cX0_nearest 43 = .ok (.lload 4, 2) := dk_22 4 (dk_at dksX0_nearest_1 20 rfl rfl)
theorem dX0_nearest_45 : decode cX0_nearest 45 = .ok (.lload 4, 2) := dk_22 4 (dk_at dksX0_nearest_1 22 rfl rfl)
theorem dX0_nearest_47 : decode cX0_nearest 47 = .ok (.lconst 1, 1) := dk_10 (dk_at dksX0_nearest_2 0 rfl rfl)
theorem dX0_nearest_48 : decode cX0_nearest 48 = .ok (.lsub, 1) := dk_101 (dk_at dksX0_nearest_2 1 rfl rfl)
theorem dX0_nearest_49 : decode cX0_nearest 49 = .ok (.land, 1) := dk_127 (dk_at dksX0_nearest_2 2 rfl rfl)
theorem dX0_nearest_50 : decode cX0_nearest 50 = .ok (.lstore 4, 2) := dk_55 4 (dk_at dksX0_nearest_2 3 rfl rfl)
theorem dX0_nearest_52 : decode cX0_nearest 52 = .ok (.goto (-46), 3) := dk_167 255 210 (dk_at dksX0_nearest_2 5 rfl rfl)
theorem dX0_nearest_55 : decode cX0_nearest 55 = .ok (.iload_n 3, 1) := dk_29 (dk_at dksX0_nearest_2 8 rfl rfl)
theorem dX0_nearest_56 : decode cX0_nearest 56 = .ok (.ireturn, 1) := dk_172 (dk_at dksX0_nearest_2 9 rfl rfl)
abbrev cX0_apart : ByteArray := prog_1_method_39_code
def yX0_apart : MethodName := ⟨RX0, "apart", "(II)I"⟩
def dkwX0_apart_1 : List UInt8 := [96, 172]
abbrev dktX0_apart_1 : List UInt8 := dkwX0_apart_1 ++ []
def dkwX0_apart_0 : List UInt8 := [26, 16, 6, 108, 27, 16, 6, 108, 100, 184, 0, 203, 26, 16, 6, 112, 27, 16, 6, 112, 100, 184, 0, 203]
abbrev dktX0_apart_0 : List UInt8 := dkwX0_apart_0 ++ dktX0_apart_1
theorem dksX0_apart_0 : cX0_apart.data.toList.drop 0 = dktX0_apart_0 := by decide +kernel
theorem dksX0_apart_1 : cX0_apart.data.toList.drop 24 = dktX0_apart_1 := dk_seg dksX0_apart_0 24 rfl rfl
theorem dX0_apart_0 : decode cX0_apart 0 = .ok (.iload_n 0, 1) := dk_26 (dk_at dksX0_apart_0 0 rfl rfl)
theorem dX0_apart_1 : decode cX0_apart 1 = .ok (.bipush 6, 2) := dk_16 6 (dk_at dksX0_apart_0 1 rfl rfl)
theorem dX0_apart_3 : decode cX0_apart 3 = .ok (.idiv, 1) := dk_108 (dk_at dksX0_apart_0 3 rfl rfl)
theorem dX0_apart_4 : decode cX0_apart 4 = .ok (.iload_n 1, 1) := dk_27 (dk_at dksX0_apart_0 4 rfl rfl)
theorem dX0_apart_5 : decode cX0_apart 5 = .ok (.bipush 6, 2) := dk_16 6 (dk_at dksX0_apart_0 5 rfl rfl)
theorem dX0_apart_7 : decode cX0_apart 7 = .ok (.idiv, 1) := dk_108 (dk_at dksX0_apart_0 7 rfl rfl)
theorem dX0_apart_8 : decode cX0_apart 8 = .ok (.isub, 1) := dk_100 (dk_at dksX0_apart_0 8 rfl rfl)
theorem dX0_apart_9 : decode cX0_apart 9 = .ok (.invokestatic 203, 3) := dk_184 0 203 (dk_at dksX0_apart_0 9 rfl rfl)
theorem dX0_apart_12 : decode cX0_apart 12 = .ok (.iload_n 0, 1) := dk_26 (dk_at dksX0_apart_0 12 rfl rfl)
theorem dX0_apart_13 : decode cX0_apart 13 = .ok (.bipush 6, 2) := dk_16 6 (dk_at dksX0_apart_0 13 rfl rfl)
theorem dX0_apart_15 : decode cX0_apart 15 = .ok (.irem, 1) := dk_112 (dk_at dksX0_apart_0 15 rfl rfl)
theorem dX0_apart_16 : decode cX0_apart 16 = .ok (.iload_n 1, 1) := dk_27 (dk_at dksX0_apart_0 16 rfl rfl)
theorem dX0_apart_17 : decode cX0_apart 17 = .ok (.bipush 6, 2) := dk_16 6 (dk_at dksX0_apart_0 17 rfl rfl)
theorem dX0_apart_19 : decode cX0_apart 19 = .ok (.irem, 1) := dk_112 (dk_at dksX0_apart_0 19 rfl rfl)
theorem dX0_apart_20 : decode cX0_apart 20 = .ok (.isub, 1) := dk_100 (dk_at dksX0_apart_0 20 rfl rfl)
theorem dX0_apart_21 : decode cX0_apart 21 = .ok (.invokestatic 203, 3) := dk_184 0 203 (dk_at dksX0_apart_0 21 rfl rfl)
theorem dX0_apart_24 : decode cX0_apart 24 = .ok (.iadd, 1) := dk_96 (dk_at dksX0_apart_1 0 rfl rfl)
theorem dX0_apart_25 : decode cX0_apart 25 = .ok (.ireturn, 1) := dk_172 (dk_at dksX0_apart_1 1 rfl rfl)
abbrev cX0_border : ByteArray := prog_1_method_43_code
def yX0_border : MethodName := ⟨RX0, "border", "(I)I"⟩
def dkwX0_border_4 : List UInt8 := [154, 0, 13, 45, 180, 0, 103, 184, 0, 108, 167, 0, 7, 45, 182, 0, 147, 172]
abbrev dktX0_border_4 : List UInt8 := dkwX0_border_4 ++ []
def dkwX0_border_3 : List UInt8 := [184, 0, 119, 164, 0, 13, 44, 21, 4, 182, 0, 135, 192, 0, 104, 78, 132, 4, 1, 167, 255, 209, 27]
abbrev dktX0_border_3 : List UInt8 := dkwX0_border_3 ++ dktX0_border_4
def dkwX0_border_2 : List UInt8 := [162, 0, 44, 44, 21, 4, 182, 0, 135, 192, 0, 104, 180, 0, 103, 184, 0, 119, 45, 180, 0, 103]
abbrev dktX0_border_2 : List UInt8 := dkwX0_border_2 ++ dktX0_border_3
def dkwX0_border_1 : List UInt8 := [153, 0, 6, 16, 252, 172, 44, 3, 182, 0, 135, 192, 0, 104, 78, 4, 54, 4, 21, 4, 44, 182, 0, 75]
abbrev dktX0_border_1 : List UInt8 := dkwX0_border_1 ++ dktX0_border_2
def dkwX0_border_0 : List UInt8 := [27, 133, 9, 10, 184, 0, 5, 154, 0, 5, 2, 172, 42, 180, 0, 38, 182, 0, 131, 77, 44, 182, 0, 69]
abbrev dktX0_border_0 : List UInt8 := dkwX0_border_0 ++ dktX0_border_1
theorem dksX0_border_0 : cX0_border.data.toList.drop 0 = dktX0_border_0 := by decide +kernel
theorem dksX0_border_1 : cX0_border.data.toList.drop 24 = dktX0_border_1 := dk_seg dksX0_border_0 24 rfl rfl
theorem dksX0_border_2 : cX0_border.data.toList.drop 48 = dktX0_border_2 := dk_seg dksX0_border_1 24 rfl rfl
theorem dksX0_border_3 : cX0_border.data.toList.drop 70 = dktX0_border_3 := dk_seg dksX0_border_2 22 rfl rfl
theorem dksX0_border_4 : cX0_border.data.toList.drop 93 = dktX0_border_4 := dk_seg dksX0_border_3 23 rfl rfl
theorem dX0_border_0 : decode cX0_border 0 = .ok (.iload_n 1, 1) := dk_27 (dk_at dksX0_border_0 0 rfl rfl)
theorem dX0_border_1 : decode cX0_border 1 = .ok (.i2l, 1) := dk_133 (dk_at dksX0_border_0 1 rfl rfl)
theorem dX0_border_2 : decode cX0_border 2 = .ok (.lconst 0, 1) := dk_9 (dk_at dksX0_border_0 2 rfl rfl)
theorem dX0_border_3 : decode cX0_border 3 = .ok (.lconst 1, 1) := dk_10 (dk_at dksX0_border_0 3 rfl rfl)
theorem dX0_border_4 : decode cX0_border 4 = .ok (.invokestatic 5, 3) := dk_184 0 5 (dk_at dksX0_border_0 4 rfl rfl)
theorem dX0_border_7 : decode cX0_border 7 = .ok (.ifCond .ne 5, 3) := dk_154 0 5 (dk_at dksX0_border_0 7 rfl rfl)
theorem dX0_border_10 : decode cX0_border 10 = .ok (.iconst (-1), 1) := dk_2 (dk_at dksX0_border_0 10 rfl rfl)
theorem dX0_border_11 : decode cX0_border 11 = .ok (.ireturn, 1) := dk_172 (dk_at dksX0_border_0 11 rfl rfl)
theorem dX0_border_12 : decode cX0_border 12 = .ok (.aload_n 0, 1) := dk_42 (dk_at dksX0_border_0 12 rfl rfl)
theorem dX0_border_13 : decode cX0_border 13 = .ok (.getfield 38, 3) := dk_180 0 38 (dk_at dksX0_border_0 13 rfl rfl)
theorem dX0_border_16 : decode cX0_border 16 = .ok (.invokevirtual 131, 3) := dk_182 0 131 (dk_at dksX0_border_0 16 rfl rfl)
theorem dX0_border_19 : decode cX0_border 19 = .ok (.astore_n 2, 1) := dk_77 (dk_at dksX0_border_0 19 rfl rfl)
theorem dX0_border_20 : decode cX0_border 20 = .ok (.aload_n 2, 1) := dk_44 (dk_at dksX0_border_0 20 rfl rfl)
theorem dX0_border_21 : decode cX0_border 21 = .ok (.invokevirtual 69, 3) := dk_182 0 69 (dk_at dksX0_border_0 21 rfl rfl)
theorem dX0_border_24 : decode cX0_border 24 = .ok (.ifCond .eq 6, 3) := dk_153 0 6 (dk_at dksX0_border_1 0 rfl rfl)
theorem dX0_border_27 : decode cX0_border 27 = .ok (.bipush (-4), 2) := dk_16 252 (dk_at dksX0_border_1 3 rfl rfl)
theorem dX0_border_29 : decode cX0_border 29 = .ok (.ireturn, 1) := dk_172 (dk_at dksX0_border_1 5 rfl rfl)
theorem dX0_border_30 : decode cX0_border 30 = .ok (.aload_n 2, 1) := dk_44 (dk_at dksX0_border_1 6 rfl rfl)
theorem dX0_border_31 : decode cX0_border 31 = .ok (.iconst 0, 1) := dk_3 (dk_at dksX0_border_1 7 rfl rfl)
theorem dX0_border_32 : decode cX0_border 32 = .ok (.invokevirtual 135, 3) := dk_182 0 135 (dk_at dksX0_border_1 8 rfl rfl)
theorem dX0_border_35 : decode cX0_border 35 = .ok (.checkcast 104, 3) := dk_192 0 104 (dk_at dksX0_border_1 11 rfl rfl)
theorem dX0_border_38 : decode cX0_border 38 = .ok (.astore_n 3, 1) := dk_78 (dk_at dksX0_border_1 14 rfl rfl)
theorem dX0_border_39 : decode cX0_border 39 = .ok (.iconst 1, 1) := dk_4 (dk_at dksX0_border_1 15 rfl rfl)
theorem dX0_border_40 : decode cX0_border 40 = .ok (.istore 4, 2) := dk_54 4 (dk_at dksX0_border_1 16 rfl rfl)
theorem dX0_border_42 : decode cX0_border 42 = .ok (.iload 4, 2) := dk_21 4 (dk_at dksX0_border_1 18 rfl rfl)
theorem dX0_border_44 : decode cX0_border 44 = .ok (.aload_n 2, 1) := dk_44 (dk_at dksX0_border_1 20 rfl rfl)
theorem dX0_border_45 : decode cX0_border 45 = .ok (.invokevirtual 75, 3) := dk_182 0 75 (dk_at dksX0_border_1 21 rfl rfl)
theorem dX0_border_48 : decode cX0_border 48 = .ok (.if_icmp .ge 44, 3) := dk_162 0 44 (dk_at dksX0_border_2 0 rfl rfl)
theorem dX0_border_51 : decode cX0_border 51 = .ok (.aload_n 2, 1) := dk_44 (dk_at dksX0_border_2 3 rfl rfl)
theorem dX0_border_52 : decode cX0_border 52 = .ok (.iload 4, 2) := dk_21 4 (dk_at dksX0_border_2 4 rfl rfl)
theorem dX0_border_54 : decode cX0_border 54 = .ok (.invokevirtual 135, 3) := dk_182 0 135 (dk_at dksX0_border_2 6 rfl rfl)
theorem dX0_border_57 : decode cX0_border 57 = .ok (.checkcast 104, 3) := dk_192 0 104 (dk_at dksX0_border_2 9 rfl rfl)
theorem dX0_border_60 : decode cX0_border 60 = .ok (.getfield 103, 3) := dk_180 0 103 (dk_at dksX0_border_2 12 rfl rfl)
theorem dX0_border_63 : decode cX0_border 63 = .ok (.invokestatic 119, 3) := dk_184 0 119 (dk_at dksX0_border_2 15 rfl rfl)
theorem dX0_border_66 : decode cX0_border 66 = .ok (.aload_n 3, 1) := dk_45 (dk_at dksX0_border_2 18 rfl rfl)
theorem dX0_border_67 : decode cX0_border 67 = .ok (.getfield 103, 3) := dk_180 0 103 (dk_at dksX0_border_2 19 rfl rfl)
theorem dX0_border_70 : decode cX0_border 70 = .ok (.invokestatic 119, 3) := dk_184 0 119 (dk_at dksX0_border_3 0 rfl rfl)
theorem dX0_border_73 : decode cX0_border 73 = .ok (.if_icmp .le 13, 3) := dk_164 0 13 (dk_at dksX0_border_3 3 rfl rfl)
theorem dX0_border_76 : decode cX0_border 76 = .ok (.aload_n 2, 1) := dk_44 (dk_at dksX0_border_3 6 rfl rfl)
theorem dX0_border_77 : decode cX0_border 77 = .ok (.iload 4, 2) := dk_21 4 (dk_at dksX0_border_3 7 rfl rfl)
theorem dX0_border_79 : decode cX0_border 79 = .ok (.invokevirtual 135, 3) := dk_182 0 135 (dk_at dksX0_border_3 9 rfl rfl)
theorem dX0_border_82 : decode cX0_border 82 = .ok (.checkcast 104, 3) := dk_192 0 104 (dk_at dksX0_border_3 12 rfl rfl)
theorem dX0_border_85 : decode cX0_border 85 = .ok (.astore_n 3, 1) := dk_78 (dk_at dksX0_border_3 15 rfl rfl)
theorem dX0_border_86 : decode cX0_border 86 = .ok (.iinc 4 1, 3) := dk_132 4 1 (dk_at dksX0_border_3 16 rfl rfl)
theorem dX0_border_89 : decode cX0_border 89 = .ok (.goto (-47), 3) := dk_167 255 209 (dk_at dksX0_border_3 19 rfl rfl)
theorem dX0_border_92 : decode cX0_border 92 = .ok (.iload_n 1, 1) := dk_27 (dk_at dksX0_border_3 22 rfl rfl)
theorem dX0_border_93 : decode cX0_border 93 = .ok (.ifCond .ne 13, 3) := dk_154 0 13 (dk_at dksX0_border_4 0 rfl rfl)
theorem dX0_border_96 : decode cX0_border 96 = .ok (.aload_n 3, 1) := dk_45 (dk_at dksX0_border_4 3 rfl rfl)
theorem dX0_border_97 : decode cX0_border 97 = .ok (.getfield 103, 3) := dk_180 0 103 (dk_at dksX0_border_4 4 rfl rfl)
theorem dX0_border_100 : decode cX0_border 100 = .ok (.invokestatic 108, 3) := dk_184 0 108 (dk_at dksX0_border_4 7 rfl rfl)
theorem dX0_border_103 : decode cX0_border 103 = .ok (.goto 7, 3) := dk_167 0 7 (dk_at dksX0_border_4 10 rfl rfl)
theorem dX0_border_106 : decode cX0_border 106 = .ok (.aload_n 3, 1) := dk_45 (dk_at dksX0_border_4 13 rfl rfl)
theorem dX0_border_107 : decode cX0_border 107 = .ok (.invokevirtual 147, 3) := dk_182 0 147 (dk_at dksX0_border_4 14 rfl rfl)
theorem dX0_border_110 : decode cX0_border 110 = .ok (.ireturn, 1) := dk_172 (dk_at dksX0_border_4 17 rfl rfl)
abbrev cX0_cut : ByteArray := prog_1_method_44_code
def yX0_cut : MethodName := ⟨RX0, "cut", "(I)I"⟩
def dkwX0_cut_4 : List UInt8 := [167, 255, 194, 16, 252, 172]
abbrev dktX0_cut_4 : List UInt8 := dkwX0_cut_4 ++ []
def dkwX0_cut_3 : List UInt8 := [182, 0, 99, 182, 0, 157, 44, 182, 0, 157, 164, 0, 6, 21, 5, 172, 33, 33, 10, 101, 127, 66]
abbrev dktX0_cut_3 : List UInt8 := dkwX0_cut_3 ++ dktX0_cut_4
def dkwX0_cut_2 : List UInt8 := [180, 0, 38, 182, 0, 177, 42, 180, 0, 174, 10, 21, 5, 121, 4, 182, 0, 58, 42, 180, 0, 174, 27]
abbrev dktX0_cut_2 : List UInt8 := dkwX0_cut_2 ++ dktX0_cut_3
def dkwX0_cut_1 : List UInt8 := [172, 44, 182, 0, 124, 66, 33, 9, 148, 153, 0, 62, 33, 184, 0, 108, 54, 5, 42, 180, 0, 174, 42]
abbrev dktX0_cut_1 : List UInt8 := dkwX0_cut_1 ++ dktX0_cut_2
def dkwX0_cut_0 : List UInt8 := [27, 184, 0, 34, 154, 0, 5, 2, 172, 42, 180, 0, 38, 27, 182, 0, 99, 77, 44, 199, 0, 6, 16, 254]
abbrev dktX0_cut_0 : List UInt8 := dkwX0_cut_0 ++ dktX0_cut_1
theorem dksX0_cut_0 : cX0_cut.data.toList.drop 0 = dktX0_cut_0 := by decide +kernel
theorem dksX0_cut_1 : cX0_cut.data.toList.drop 24 = dktX0_cut_1 := dk_seg dksX0_cut_0 24 rfl rfl
theorem dksX0_cut_2 : cX0_cut.data.toList.drop 47 = dktX0_cut_2 := dk_seg dksX0_cut_1 23 rfl rfl
theorem dksX0_cut_3 : cX0_cut.data.toList.drop 70 = dktX0_cut_3 := dk_seg dksX0_cut_2 23 rfl rfl
theorem dksX0_cut_4 : cX0_cut.data.toList.drop 92 = dktX0_cut_4 := dk_seg dksX0_cut_3 22 rfl rfl
theorem dX0_cut_0 : decode cX0_cut 0 = .ok (.iload_n 1, 1) := dk_27 (dk_at dksX0_cut_0 0 rfl rfl)
theorem dX0_cut_1 : decode cX0_cut 1 = .ok (.invokestatic 34, 3) := dk_184 0 34 (dk_at dksX0_cut_0 1 rfl rfl)
theorem dX0_cut_4 : decode cX0_cut 4 = .ok (.ifCond .ne 5, 3) := dk_154 0 5 (dk_at dksX0_cut_0 4 rfl rfl)
theorem dX0_cut_7 : decode cX0_cut 7 = .ok (.iconst (-1), 1) := dk_2 (dk_at dksX0_cut_0 7 rfl rfl)
theorem dX0_cut_8 : decode cX0_cut 8 = .ok (.ireturn, 1) := dk_172 (dk_at dksX0_cut_0 8 rfl rfl)
theorem dX0_cut_9 : decode cX0_cut 9 = .ok (.aload_n 0, 1) := dk_42 (dk_at dksX0_cut_0 9 rfl rfl)
theorem dX0_cut_10 : decode cX0_cut 10 = .ok (.getfield 38, 3) := dk_180 0 38 (dk_at dksX0_cut_0 10 rfl rfl)
theorem dX0_cut_13 : decode cX0_cut 13 = .ok (.iload_n 1, 1) := dk_27 (dk_at dksX0_cut_0 13 rfl rfl)
theorem dX0_cut_14 : decode cX0_cut 14 = .ok (.invokevirtual 99, 3) := dk_182 0 99 (dk_at dksX0_cut_0 14 rfl rfl)
theorem dX0_cut_17 : decode cX0_cut 17 = .ok (.astore_n 2, 1) := dk_77 (dk_at dksX0_cut_0 17 rfl rfl)
theorem dX0_cut_18 : decode cX0_cut 18 = .ok (.aload_n 2, 1) := dk_44 (dk_at dksX0_cut_0 18 rfl rfl)
theorem dX0_cut_19 : decode cX0_cut 19 = .ok (.ifnonnull 6, 3) := dk_199 0 6 (dk_at dksX0_cut_0 19 rfl rfl)
theorem dX0_cut_22 : decode cX0_cut 22 = .ok (.bipush (-2), 2) := dk_16 254 (dk_at dksX0_cut_0 22 rfl rfl)
theorem dX0_cut_24 : decode cX0_cut 24 = .ok (.ireturn, 1) := dk_172 (dk_at dksX0_cut_1 0 rfl rfl)
theorem dX0_cut_25 : decode cX0_cut 25 = .ok (.aload_n 2, 1) := dk_44 (dk_at dksX0_cut_1 1 rfl rfl)
theorem dX0_cut_26 : decode cX0_cut 26 = .ok (.invokevirtual 124, 3) := dk_182 0 124 (dk_at dksX0_cut_1 2 rfl rfl)
theorem dX0_cut_29 : decode cX0_cut 29 = .ok (.lstore_n 3, 1) := dk_66 (dk_at dksX0_cut_1 5 rfl rfl)
theorem dX0_cut_30 : decode cX0_cut 30 = .ok (.lload_n 3, 1) := dk_33 (dk_at dksX0_cut_1 6 rfl rfl)
theorem dX0_cut_31 : decode cX0_cut 31 = .ok (.lconst 0, 1) := dk_9 (dk_at dksX0_cut_1 7 rfl rfl)
theorem dX0_cut_32 : decode cX0_cut 32 = .ok (.lcmp, 1) := dk_148 (dk_at dksX0_cut_1 8 rfl rfl)
theorem dX0_cut_33 : decode cX0_cut 33 = .ok (.ifCond .eq 62, 3) := dk_153 0 62 (dk_at dksX0_cut_1 9 rfl rfl)
theorem dX0_cut_36 : decode cX0_cut 36 = .ok (.lload_n 3, 1) := dk_33 (dk_at dksX0_cut_1 12 rfl rfl)
theorem dX0_cut_37 : decode cX0_cut 37 = .ok (.invokestatic 108, 3) := dk_184 0 108 (dk_at dksX0_cut_1 13 rfl rfl)
theorem dX0_cut_40 : decode cX0_cut 40 = .ok (.istore 5, 2) := dk_54 5 (dk_at dksX0_cut_1 16 rfl rfl)
theorem dX0_cut_42 : decode cX0_cut 42 = .ok (.aload_n 0, 1) := dk_42 (dk_at dksX0_cut_1 18 rfl rfl)
theorem dX0_cut_43 : decode cX0_cut 43 = .ok (.getfield 174, 3) := dk_180 0 174 (dk_at dksX0_cut_1 19 rfl rfl)
theorem dX0_cut_46 : decode cX0_cut 46 = .ok (.aload_n 0, 1) := dk_42 (dk_at dksX0_cut_1 22 rfl rfl)
theorem dX0_cut_47 : decode cX0_cut 47 = .ok (.getfield 38, 3) := dk_180 0 38 (dk_at dksX0_cut_2 0 rfl rfl)
theorem dX0_cut_50 : decode cX0_cut 50 = .ok (.invokevirtual 177, 3) := dk_182 0 177 (dk_at dksX0_cut_2 3 rfl rfl)
theorem dX0_cut_53 : decode cX0_cut 53 = .ok (.aload_n 0, 1) := dk_42 (dk_at dksX0_cut_2 6 rfl rfl)
theorem dX0_cut_54 : decode cX0_cut 54 = .ok (.getfield 174, 3) := dk_180 0 174 (dk_at dksX0_cut_2 7 rfl rfl)
theorem dX0_cut_57 : decode cX0_cut 57 = .ok (.lconst 1, 1) := dk_10 (dk_at dksX0_cut_2 10 rfl rfl)
theorem dX0_cut_58 : decode cX0_cut 58 = .ok (.iload 5, 2) := dk_21 5 (dk_at dksX0_cut_2 11 rfl rfl)
theorem dX0_cut_60 : decode cX0_cut 60 = .ok (.lshl, 1) := dk_121 (dk_at dksX0_cut_2 13 rfl rfl)
theorem dX0_cut_61 : decode cX0_cut 61 = .ok (.iconst 1, 1) := dk_4 (dk_at dksX0_cut_2 14 rfl rfl)
theorem dX0_cut_62 : decode cX0_cut 62 = .ok (.invokevirtual 58, 3) := dk_182 0 58 (dk_at dksX0_cut_2 15 rfl rfl)
theorem dX0_cut_65 : decode cX0_cut 65 = .ok (.aload_n 0, 1) := dk_42 (dk_at dksX0_cut_2 18 rfl rfl)
theorem dX0_cut_66 : decode cX0_cut 66 = .ok (.getfield 174, 3) := dk_180 0 174 (dk_at dksX0_cut_2 19 rfl rfl)
theorem dX0_cut_69 : decode cX0_cut 69 = .ok (.iload_n 1, 1) := dk_27 (dk_at dksX0_cut_2 22 rfl rfl)
theorem dX0_cut_70 : decode cX0_cut 70 = .ok (.invokevirtual 99, 3) := dk_182 0 99 (dk_at dksX0_cut_3 0 rfl rfl)
theorem dX0_cut_73 : decode cX0_cut 73 = .ok (.invokevirtual 157, 3) := dk_182 0 157 (dk_at dksX0_cut_3 3 rfl rfl)
theorem dX0_cut_76 : decode cX0_cut 76 = .ok (.aload_n 2, 1) := dk_44 (dk_at dksX0_cut_3 6 rfl rfl)
theorem dX0_cut_77 : decode cX0_cut 77 = .ok (.invokevirtual 157, 3) := dk_182 0 157 (dk_at dksX0_cut_3 7 rfl rfl)
theorem dX0_cut_80 : decode cX0_cut 80 = .ok (.if_icmp .le 6, 3) := dk_164 0 6 (dk_at dksX0_cut_3 10 rfl rfl)
theorem dX0_cut_83 : decode cX0_cut 83 = .ok (.iload 5, 2) := dk_21 5 (dk_at dksX0_cut_3 13 rfl rfl)
theorem dX0_cut_85 : decode cX0_cut 85 = .ok (.ireturn, 1) := dk_172 (dk_at dksX0_cut_3 15 rfl rfl)
theorem dX0_cut_86 : decode cX0_cut 86 = .ok (.lload_n 3, 1) := dk_33 (dk_at dksX0_cut_3 16 rfl rfl)
theorem dX0_cut_87 : decode cX0_cut 87 = .ok (.lload_n 3, 1) := dk_33 (dk_at dksX0_cut_3 17 rfl rfl)
theorem dX0_cut_88 : decode cX0_cut 88 = .ok (.lconst 1, 1) := dk_10 (dk_at dksX0_cut_3 18 rfl rfl)
theorem dX0_cut_89 : decode cX0_cut 89 = .ok (.lsub, 1) := dk_101 (dk_at dksX0_cut_3 19 rfl rfl)
theorem dX0_cut_90 : decode cX0_cut 90 = .ok (.land, 1) := dk_127 (dk_at dksX0_cut_3 20 rfl rfl)
theorem dX0_cut_91 : decode cX0_cut 91 = .ok (.lstore_n 3, 1) := dk_66 (dk_at dksX0_cut_3 21 rfl rfl)
theorem dX0_cut_92 : decode cX0_cut 92 = .ok (.goto (-62), 3) := dk_167 255 194 (dk_at dksX0_cut_4 0 rfl rfl)
theorem dX0_cut_95 : decode cX0_cut 95 = .ok (.bipush (-4), 2) := dk_16 252 (dk_at dksX0_cut_4 3 rfl rfl)
theorem dX0_cut_97 : decode cX0_cut 97 = .ok (.ireturn, 1) := dk_172 (dk_at dksX0_cut_4 5 rfl rfl)
abbrev cX0_books : ByteArray := prog_1_method_45_code
def yX0_books : MethodName := ⟨RX0, "books", "(JIII)J"⟩
def dkwX0_books_10 : List UInt8 := [160, 0, 8, 22, 8, 167, 0, 16, 21, 5, 5, 160, 0, 8, 22, 10, 167, 0, 5, 22, 12, 173]
abbrev dktX0_books_10 : List UInt8 := dkwX0_books_10 ++ []
def dkwX0_books_9 : List UInt8 := [21, 5, 154, 0, 6, 22, 6, 173, 22, 6, 9, 148, 154, 0, 9, 20, 0, 238, 167, 0, 27, 21, 5, 4]
abbrev dktX0_books_9 : List UInt8 := dkwX0_books_9 ++ dktX0_books_10
def dkwX0_books_8 : List UInt8 := [22, 14, 20, 0, 15, 131, 127, 55, 12, 22, 14, 31, 101, 31, 127, 55, 14, 22, 14, 9, 148, 154, 255, 132]
abbrev dktX0_books_8 : List UInt8 := dkwX0_books_8 ++ dktX0_books_9
def dkwX0_books_7 : List UInt8 := [22, 14, 167, 0, 5, 22, 8, 55, 8, 22, 6, 10, 97, 55, 6, 22, 10, 22, 14, 127, 55, 10, 22, 12]
abbrev dktX0_books_7 : List UInt8 := dkwX0_books_7 ++ dktX0_books_8
def dkwX0_books_6 : List UInt8 := [21, 4, 155, 0, 15, 42, 180, 0, 174, 182, 0, 121, 21, 4, 160, 0, 43, 22, 6, 9, 148, 154, 0, 8]
abbrev dktX0_books_6 : List UInt8 := dkwX0_books_6 ++ dktX0_books_7
def dkwX0_books_5 : List UInt8 := [22, 14, 4, 182, 0, 58, 29, 155, 0, 17, 42, 180, 0, 174, 182, 0, 112, 184, 0, 116, 29, 160, 0, 60]
abbrev dktX0_books_5 : List UInt8 := dkwX0_books_5 ++ dktX0_books_6
def dkwX0_books_4 : List UInt8 := [182, 0, 177, 42, 180, 0, 174, 31, 22, 14, 20, 0, 15, 131, 127, 3, 182, 0, 58, 42, 180, 0, 174]
abbrev dktX0_books_4 : List UInt8 := dkwX0_books_4 ++ dktX0_books_5
def dkwX0_books_3 : List UInt8 := [20, 0, 238, 55, 8, 31, 55, 10, 31, 55, 12, 9, 55, 14, 42, 180, 0, 174, 42, 180, 0, 38]
abbrev dktX0_books_3 : List UInt8 := dkwX0_books_3 ++ dktX0_books_4
def dkwX0_books_2 : List UInt8 := [153, 0, 16, 21, 5, 133, 9, 20, 0, 97, 184, 0, 5, 154, 0, 7, 20, 0, 15, 173, 9, 55, 6]
abbrev dktX0_books_2 : List UInt8 := dkwX0_books_2 ++ dktX0_books_3
def dkwX0_books_1 : List UInt8 := [20, 0, 15, 20, 0, 236, 184, 0, 5, 153, 0, 31, 21, 4, 133, 20, 0, 15, 20, 0, 184, 184, 0, 5]
abbrev dktX0_books_1 : List UInt8 := dkwX0_books_1 ++ dktX0_books_2
def dkwX0_books_0 : List UInt8 := [31, 9, 20, 0, 20, 184, 0, 5, 153, 0, 54, 31, 184, 0, 119, 16, 6, 163, 0, 45, 29, 133]
abbrev dktX0_books_0 : List UInt8 := dkwX0_books_0 ++ dktX0_books_1
theorem dksX0_books_0 : cX0_books.data.toList.drop 0 = dktX0_books_0 := by decide +kernel
theorem dksX0_books_1 : cX0_books.data.toList.drop 22 = dktX0_books_1 := dk_seg dksX0_books_0 22 rfl rfl
theorem dksX0_books_2 : cX0_books.data.toList.drop 46 = dktX0_books_2 := dk_seg dksX0_books_1 24 rfl rfl
theorem dksX0_books_3 : cX0_books.data.toList.drop 69 = dktX0_books_3 := dk_seg dksX0_books_2 23 rfl rfl
theorem dksX0_books_4 : cX0_books.data.toList.drop 91 = dktX0_books_4 := dk_seg dksX0_books_3 22 rfl rfl
theorem dksX0_books_5 : cX0_books.data.toList.drop 114 = dktX0_books_5 := dk_seg dksX0_books_4 23 rfl rfl
theorem dksX0_books_6 : cX0_books.data.toList.drop 138 = dktX0_books_6 := dk_seg dksX0_books_5 24 rfl rfl
theorem dksX0_books_7 : cX0_books.data.toList.drop 162 = dktX0_books_7 := dk_seg dksX0_books_6 24 rfl rfl
theorem dksX0_books_8 : cX0_books.data.toList.drop 186 = dktX0_books_8 := dk_seg dksX0_books_7 24 rfl rfl
theorem dksX0_books_9 : cX0_books.data.toList.drop 210 = dktX0_books_9 := dk_seg dksX0_books_8 24 rfl rfl
theorem dksX0_books_10 : cX0_books.data.toList.drop 234 = dktX0_books_10 := dk_seg dksX0_books_9 24 rfl rfl
theorem dX0_books_0 : decode cX0_books 0 = .ok (.lload_n 1, 1) := dk_31 (dk_at dksX0_books_0 0 rfl rfl)
theorem dX0_books_1 : decode cX0_books 1 = .ok (.lconst 0, 1) := dk_9 (dk_at dksX0_books_0 1 rfl rfl)
theorem dX0_books_2 : decode cX0_books 2 = .ok (.ldc2_w 20, 3) := dk_20 0 20 (dk_at dksX0_books_0 2 rfl rfl)
theorem dX0_books_5 : decode cX0_books 5 = .ok (.invokestatic 5, 3) := dk_184 0 5 (dk_at dksX0_books_0 5 rfl rfl)
theorem dX0_books_8 : decode cX0_books 8 = .ok (.ifCond .eq 54, 3) := dk_153 0 54 (dk_at dksX0_books_0 8 rfl rfl)
theorem dX0_books_11 : decode cX0_books 11 = .ok (.lload_n 1, 1) := dk_31 (dk_at dksX0_books_0 11 rfl rfl)
theorem dX0_books_12 : decode cX0_books 12 = .ok (.invokestatic 119, 3) := dk_184 0 119 (dk_at dksX0_books_0 12 rfl rfl)
theorem dX0_books_15 : decode cX0_books 15 = .ok (.bipush 6, 2) := dk_16 6 (dk_at dksX0_books_0 15 rfl rfl)
theorem dX0_books_17 : decode cX0_books 17 = .ok (.if_icmp .gt 45, 3) := dk_163 0 45 (dk_at dksX0_books_0 17 rfl rfl)
theorem dX0_books_20 : decode cX0_books 20 = .ok (.iload_n 3, 1) := dk_29 (dk_at dksX0_books_0 20 rfl rfl)
theorem dX0_books_21 : decode cX0_books 21 = .ok (.i2l, 1) := dk_133 (dk_at dksX0_books_0 21 rfl rfl)
theorem dX0_books_22 : decode cX0_books 22 = .ok (.ldc2_w 15, 3) := dk_20 0 15 (dk_at dksX0_books_1 0 rfl rfl)
theorem dX0_books_25 : decode cX0_books 25 = .ok (.ldc2_w 236, 3) := dk_20 0 236 (dk_at dksX0_books_1 3 rfl rfl)
theorem dX0_books_28 : decode cX0_books 28 = .ok (.invokestatic 5, 3) := dk_184 0 5 (dk_at dksX0_books_1 6 rfl rfl)
theorem dX0_books_31 : decode cX0_books 31 = .ok (.ifCond .eq 31, 3) := dk_153 0 31 (dk_at dksX0_books_1 9 rfl rfl)
theorem dX0_books_34 : decode cX0_books 34 = .ok (.iload 4, 2) := dk_21 4 (dk_at dksX0_books_1 12 rfl rfl)
theorem dX0_books_36 : decode cX0_books 36 = .ok (.i2l, 1) := dk_133 (dk_at dksX0_books_1 14 rfl rfl)
theorem dX0_books_37 : decode cX0_books 37 = .ok (.ldc2_w 15, 3) := dk_20 0 15 (dk_at dksX0_books_1 15 rfl rfl)
theorem dX0_books_40 : decode cX0_books 40 = .ok (.ldc2_w 184, 3) := dk_20 0 184 (dk_at dksX0_books_1 18 rfl rfl)
theorem dX0_books_43 : decode cX0_books 43 = .ok (.invokestatic 5, 3) := dk_184 0 5 (dk_at dksX0_books_1 21 rfl rfl)
theorem dX0_books_46 : decode cX0_books 46 = .ok (.ifCond .eq 16, 3) := dk_153 0 16 (dk_at dksX0_books_2 0 rfl rfl)
theorem dX0_books_49 : decode cX0_books 49 = .ok (.iload 5, 2) := dk_21 5 (dk_at dksX0_books_2 3 rfl rfl)
theorem dX0_books_51 : decode cX0_books 51 = .ok (.i2l, 1) := dk_133 (dk_at dksX0_books_2 5 rfl rfl)
theorem dX0_books_52 : decode cX0_books 52 = .ok (.lconst 0, 1) := dk_9 (dk_at dksX0_books_2 6 rfl rfl)
theorem dX0_books_53 : decode cX0_books 53 = .ok (.ldc2_w 97, 3) := dk_20 0 97 (dk_at dksX0_books_2 7 rfl rfl)
theorem dX0_books_56 : decode cX0_books 56 = .ok (.invokestatic 5, 3) := dk_184 0 5 (dk_at dksX0_books_2 10 rfl rfl)
theorem dX0_books_59 : decode cX0_books 59 = .ok (.ifCond .ne 7, 3) := dk_154 0 7 (dk_at dksX0_books_2 13 rfl rfl)
theorem dX0_books_62 : decode cX0_books 62 = .ok (.ldc2_w 15, 3) := dk_20 0 15 (dk_at dksX0_books_2 16 rfl rfl)
theorem dX0_books_65 : decode cX0_books 65 = .ok (.lreturn, 1) := dk_173 (dk_at dksX0_books_2 19 rfl rfl)
theorem dX0_books_66 : decode cX0_books 66 = .ok (.lconst 0, 1) := dk_9 (dk_at dksX0_books_2 20 rfl rfl)
theorem dX0_books_67 : decode cX0_books 67 = .ok (.lstore 6, 2) := dk_55 6 (dk_at dksX0_books_2 21 rfl rfl)
theorem dX0_books_69 : decode cX0_books 69 = .ok (.ldc2_w 238, 3) := dk_20 0 238 (dk_at dksX0_books_3 0 rfl rfl)
theorem dX0_books_72 : decode cX0_books 72 = .ok (.lstore 8, 2) := dk_55 8 (dk_at dksX0_books_3 3 rfl rfl)
theorem dX0_books_74 : decode cX0_books 74 = .ok (.lload_n 1, 1) := dk_31 (dk_at dksX0_books_3 5 rfl rfl)
theorem dX0_books_75 : decode cX0_books 75 = .ok (.lstore 10, 2) := dk_55 10 (dk_at dksX0_books_3 6 rfl rfl)
theorem dX0_books_77 : decode cX0_books 77 = .ok (.lload_n 1, 1) := dk_31 (dk_at dksX0_books_3 8 rfl rfl)
theorem dX0_books_78 : decode cX0_books 78 = .ok (.lstore 12, 2) := dk_55 12 (dk_at dksX0_books_3 9 rfl rfl)
theorem dX0_books_80 : decode cX0_books 80 = .ok (.lconst 0, 1) := dk_9 (dk_at dksX0_books_3 11 rfl rfl)
theorem dX0_books_81 : decode cX0_books 81 = .ok (.lstore 14, 2) := dk_55 14 (dk_at dksX0_books_3 12 rfl rfl)
theorem dX0_books_83 : decode cX0_books 83 = .ok (.aload_n 0, 1) := dk_42 (dk_at dksX0_books_3 14 rfl rfl)
theorem dX0_books_84 : decode cX0_books 84 = .ok (.getfield 174, 3) := dk_180 0 174 (dk_at dksX0_books_3 15 rfl rfl)
theorem dX0_books_87 : decode cX0_books 87 = .ok (.aload_n 0, 1) := dk_42 (dk_at dksX0_books_3 18 rfl rfl)
theorem dX0_books_88 : decode cX0_books 88 = .ok (.getfield 38, 3) := dk_180 0 38 (dk_at dksX0_books_3 19 rfl rfl)
theorem dX0_books_91 : decode cX0_books 91 = .ok (.invokevirtual 177, 3) := dk_182 0 177 (dk_at dksX0_books_4 0 rfl rfl)
theorem dX0_books_94 : decode cX0_books 94 = .ok (.aload_n 0, 1) := dk_42 (dk_at dksX0_books_4 3 rfl rfl)
theorem dX0_books_95 : decode cX0_books 95 = .ok (.getfield 174, 3) := dk_180 0 174 (dk_at dksX0_books_4 4 rfl rfl)
theorem dX0_books_98 : decode cX0_books 98 = .ok (.lload_n 1, 1) := dk_31 (dk_at dksX0_books_4 7 rfl rfl)
theorem dX0_books_99 : decode cX0_books 99 = .ok (.lload 14, 2) := dk_22 14 (dk_at dksX0_books_4 8 rfl rfl)
theorem dX0_books_101 : decode cX0_books 101 = .ok (.ldc2_w 15, 3) := dk_20 0 15 (dk_at dksX0_books_4 10 rfl rfl)
theorem dX0_books_104 : decode cX0_books 104 = .ok (.lxor, 1) := dk_131 (dk_at dksX0_books_4 13 rfl rfl)
theorem dX0_books_105 : decode cX0_books 105 = .ok (.land, 1) := dk_127 (dk_at dksX0_books_4 14 rfl rfl)
theorem dX0_books_106 : decode cX0_books 106 = .ok (.iconst 0, 1) := dk_3 (dk_at dksX0_books_4 15 rfl rfl)
theorem dX0_books_107 : decode cX0_books 107 = .ok (.invokevirtual 58, 3) := dk_182 0 58 (dk_at dksX0_books_4 16 rfl rfl)
theorem dX0_books_110 : decode cX0_books 110 = .ok (.aload_n 0, 1) := dk_42 (dk_at dksX0_books_4 19 rfl rfl)
theorem dX0_books_111 : decode cX0_books 111 = .ok (.getfield 174, 3) := dk_180 0 174 (dk_at dksX0_books_4 20 rfl rfl)
theorem dX0_books_114 : decode cX0_books 114 = .ok (.lload 14, 2) := dk_22 14 (dk_at dksX0_books_5 0 rfl rfl)
theorem dX0_books_116 : decode cX0_books 116 = .ok (.iconst 1, 1) := dk_4 (dk_at dksX0_books_5 2 rfl rfl)
theorem dX0_books_117 : decode cX0_books 117 = .ok (.invokevirtual 58, 3) := dk_182 0 58 (dk_at dksX0_books_5 3 rfl rfl)
theorem dX0_books_120 : decode cX0_books 120 = .ok (.iload_n 3, 1) := dk_29 (dk_at dksX0_books_5 6 rfl rfl)
theorem dX0_books_121 : decode cX0_books 121 = .ok (.ifCond .lt 17, 3) := dk_155 0 17 (dk_at dksX0_books_5 7 rfl rfl)
theorem dX0_books_124 : decode cX0_books 124 = .ok (.aload_n 0, 1) := dk_42 (dk_at dksX0_books_5 10 rfl rfl)
theorem dX0_books_125 : decode cX0_books 125 = .ok (.getfield 174, 3) := dk_180 0 174 (dk_at dksX0_books_5 11 rfl rfl)
theorem dX0_books_128 : decode cX0_books 128 = .ok (.invokevirtual 112, 3) := dk_182 0 112 (dk_at dksX0_books_5 14 rfl rfl)
theorem dX0_books_131 : decode cX0_books 131 = .ok (.invokestatic 116, 3) := dk_184 0 116 (dk_at dksX0_books_5 17 rfl rfl)
theorem dX0_books_134 : decode cX0_books 134 = .ok (.iload_n 3, 1) := dk_29 (dk_at dksX0_books_5 20 rfl rfl)
theorem dX0_books_135 : decode cX0_books 135 = .ok (.if_icmp .ne 60, 3) := dk_160 0 60 (dk_at dksX0_books_5 21 rfl rfl)
theorem dX0_books_138 : decode cX0_books 138 = .ok (.iload 4, 2) := dk_21 4 (dk_at dksX0_books_6 0 rfl rfl)
theorem dX0_books_140 : decode cX0_books 140 = .ok (.ifCond .lt 15, 3) := dk_155 0 15 (dk_at dksX0_books_6 2 rfl rfl)
theorem dX0_books_143 : decode cX0_books 143 = .ok (.aload_n 0, 1) := dk_42 (dk_at dksX0_books_6 5 rfl rfl)
theorem dX0_books_144 : decode cX0_books 144 = .ok (.getfield 174, 3) := dk_180 0 174 (dk_at dksX0_books_6 6 rfl rfl)
theorem dX0_books_147 : decode cX0_books 147 = .ok (.invokevirtual 121, 3) := dk_182 0 121 (dk_at dksX0_books_6 9 rfl rfl)
theorem dX0_books_150 : decode cX0_books 150 = .ok (.iload 4, 2) := dk_21 4 (dk_at dksX0_books_6 12 rfl rfl)
theorem dX0_books_152 : decode cX0_books 152 = .ok (.if_icmp .ne 43, 3) := dk_160 0 43 (dk_at dksX0_books_6 14 rfl rfl)
theorem dX0_books_155 : decode cX0_books 155 = .ok (.lload 6, 2) := dk_22 6 (dk_at dksX0_books_6 17 rfl rfl)
theorem dX0_books_157 : decode cX0_books 157 = .ok (.lconst 0, 1) := dk_9 (dk_at dksX0_books_6 19 rfl rfl)
theorem dX0_books_158 : decode cX0_books 158 = .ok (.lcmp, 1) := dk_148 (dk_at dksX0_books_6 20 rfl rfl)
theorem dX0_books_159 : decode cX0_books 159 = .ok (.ifCond .ne 8, 3) := dk_154 0 8 (dk_at dksX0_books_6 21 rfl rfl)
theorem dX0_books_162 : decode cX0_books 162 = .ok (.lload 14, 2) := dk_22 14 (dk_at dksX0_books_7 0 rfl rfl)
theorem dX0_books_164 : decode cX0_books 164 = .ok (.goto 5, 3) := dk_167 0 5 (dk_at dksX0_books_7 2 rfl rfl)
theorem dX0_books_167 : decode cX0_books 167 = .ok (.lload 8, 2) := dk_22 8 (dk_at dksX0_books_7 5 rfl rfl)
theorem dX0_books_169 : decode cX0_books 169 = .ok (.lstore 8, 2) := dk_55 8 (dk_at dksX0_books_7 7 rfl rfl)
theorem dX0_books_171 : decode cX0_books 171 = .ok (.lload 6, 2) := dk_22 6 (dk_at dksX0_books_7 9 rfl rfl)
theorem dX0_books_173 : decode cX0_books 173 = .ok (.lconst 1, 1) := dk_10 (dk_at dksX0_books_7 11 rfl rfl)
theorem dX0_books_174 : decode cX0_books 174 = .ok (.ladd, 1) := dk_97 (dk_at dksX0_books_7 12 rfl rfl)
theorem dX0_books_175 : decode cX0_books 175 = .ok (.lstore 6, 2) := dk_55 6 (dk_at dksX0_books_7 13 rfl rfl)
theorem dX0_books_177 : decode cX0_books 177 = .ok (.lload 10, 2) := dk_22 10 (dk_at dksX0_books_7 15 rfl rfl)
theorem dX0_books_179 : decode cX0_books 179 = .ok (.lload 14, 2) := dk_22 14 (dk_at dksX0_books_7 17 rfl rfl)
theorem dX0_books_181 : decode cX0_books 181 = .ok (.land, 1) := dk_127 (dk_at dksX0_books_7 19 rfl rfl)
theorem dX0_books_182 : decode cX0_books 182 = .ok (.lstore 10, 2) := dk_55 10 (dk_at dksX0_books_7 20 rfl rfl)
theorem dX0_books_184 : decode cX0_books 184 = .ok (.lload 12, 2) := dk_22 12 (dk_at dksX0_books_7 22 rfl rfl)
theorem dX0_books_186 : decode cX0_books 186 = .ok (.lload 14, 2) := dk_22 14 (dk_at dksX0_books_8 0 rfl rfl)
theorem dX0_books_188 : decode cX0_books 188 = .ok (.ldc2_w 15, 3) := dk_20 0 15 (dk_at dksX0_books_8 2 rfl rfl)
theorem dX0_books_191 : decode cX0_books 191 = .ok (.lxor, 1) := dk_131 (dk_at dksX0_books_8 5 rfl rfl)
theorem dX0_books_192 : decode cX0_books 192 = .ok (.land, 1) := dk_127 (dk_at dksX0_books_8 6 rfl rfl)
theorem dX0_books_193 : decode cX0_books 193 = .ok (.lstore 12, 2) := dk_55 12 (dk_at dksX0_books_8 7 rfl rfl)
theorem dX0_books_195 : decode cX0_books 195 = .ok (.lload 14, 2) := dk_22 14 (dk_at dksX0_books_8 9 rfl rfl)
theorem dX0_books_197 : decode cX0_books 197 = .ok (.lload_n 1, 1) := dk_31 (dk_at dksX0_books_8 11 rfl rfl)
theorem dX0_books_198 : decode cX0_books 198 = .ok (.lsub, 1) := dk_101 (dk_at dksX0_books_8 12 rfl rfl)
theorem dX0_books_199 : decode cX0_books 199 = .ok (.lload_n 1, 1) := dk_31 (dk_at dksX0_books_8 13 rfl rfl)
theorem dX0_books_200 : decode cX0_books 200 = .ok (.land, 1) := dk_127 (dk_at dksX0_books_8 14 rfl rfl)
theorem dX0_books_201 : decode cX0_books 201 = .ok (.lstore 14, 2) := dk_55 14 (dk_at dksX0_books_8 15 rfl rfl)
theorem dX0_books_203 : decode cX0_books 203 = .ok (.lload 14, 2) := dk_22 14 (dk_at dksX0_books_8 17 rfl rfl)
theorem dX0_books_205 : decode cX0_books 205 = .ok (.lconst 0, 1) := dk_9 (dk_at dksX0_books_8 19 rfl rfl)
theorem dX0_books_206 : decode cX0_books 206 = .ok (.lcmp, 1) := dk_148 (dk_at dksX0_books_8 20 rfl rfl)
theorem dX0_books_207 : decode cX0_books 207 = .ok (.ifCond .ne (-124), 3) := dk_154 255 132 (dk_at dksX0_books_8 21 rfl rfl)
theorem dX0_books_210 : decode cX0_books 210 = .ok (.iload 5, 2) := dk_21 5 (dk_at dksX0_books_9 0 rfl rfl)
theorem dX0_books_212 : decode cX0_books 212 = .ok (.ifCond .ne 6, 3) := dk_154 0 6 (dk_at dksX0_books_9 2 rfl rfl)
theorem dX0_books_215 : decode cX0_books 215 = .ok (.lload 6, 2) := dk_22 6 (dk_at dksX0_books_9 5 rfl rfl)
theorem dX0_books_217 : decode cX0_books 217 = .ok (.lreturn, 1) := dk_173 (dk_at dksX0_books_9 7 rfl rfl)
theorem dX0_books_218 : decode cX0_books 218 = .ok (.lload 6, 2) := dk_22 6 (dk_at dksX0_books_9 8 rfl rfl)
theorem dX0_books_220 : decode cX0_books 220 = .ok (.lconst 0, 1) := dk_9 (dk_at dksX0_books_9 10 rfl rfl)
theorem dX0_books_221 : decode cX0_books 221 = .ok (.lcmp, 1) := dk_148 (dk_at dksX0_books_9 11 rfl rfl)
theorem dX0_books_222 : decode cX0_books 222 = .ok (.ifCond .ne 9, 3) := dk_154 0 9 (dk_at dksX0_books_9 12 rfl rfl)
theorem dX0_books_225 : decode cX0_books 225 = .ok (.ldc2_w 238, 3) := dk_20 0 238 (dk_at dksX0_books_9 15 rfl rfl)
theorem dX0_books_228 : decode cX0_books 228 = .ok (.goto 27, 3) := dk_167 0 27 (dk_at dksX0_books_9 18 rfl rfl)
theorem dX0_books_231 : decode cX0_books 231 = .ok (.iload 5, 2) := dk_21 5 (dk_at dksX0_books_9 21 rfl rfl)
theorem dX0_books_233 : decode cX0_books 233 = .ok (.iconst 1, 1) := dk_4 (dk_at dksX0_books_9 23 rfl rfl)
theorem dX0_books_234 : decode cX0_books 234 = .ok (.if_icmp .ne 8, 3) := dk_160 0 8 (dk_at dksX0_books_10 0 rfl rfl)
theorem dX0_books_237 : decode cX0_books 237 = .ok (.lload 8, 2) := dk_22 8 (dk_at dksX0_books_10 3 rfl rfl)
theorem dX0_books_239 : decode cX0_books 239 = .ok (.goto 16, 3) := dk_167 0 16 (dk_at dksX0_books_10 5 rfl rfl)
theorem dX0_books_242 : decode cX0_books 242 = .ok (.iload 5, 2) := dk_21 5 (dk_at dksX0_books_10 8 rfl rfl)
theorem dX0_books_244 : decode cX0_books 244 = .ok (.iconst 2, 1) := dk_5 (dk_at dksX0_books_10 10 rfl rfl)
theorem dX0_books_245 : decode cX0_books 245 = .ok (.if_icmp .ne 8, 3) := dk_160 0 8 (dk_at dksX0_books_10 11 rfl rfl)
theorem dX0_books_248 : decode cX0_books 248 = .ok (.lload 10, 2) := dk_22 10 (dk_at dksX0_books_10 14 rfl rfl)
theorem dX0_books_250 : decode cX0_books 250 = .ok (.goto 5, 3) := dk_167 0 5 (dk_at dksX0_books_10 16 rfl rfl)
theorem dX0_books_253 : decode cX0_books 253 = .ok (.lload 12, 2) := dk_22 12 (dk_at dksX0_books_10 19 rfl rfl)
theorem dX0_books_255 : decode cX0_books 255 = .ok (.lreturn, 1) := dk_173 (dk_at dksX0_books_10 21 rfl rfl)
abbrev cX0_seed : ByteArray := prog_1_method_46_code
def yX0_seed : MethodName := ⟨RX0, "seed", "(I)I"⟩
def dkwX0_seed_0 : List UInt8 := [27, 156, 0, 5, 2, 172, 42, 180, 0, 240, 61, 42, 27, 181, 0, 240, 28, 172]
abbrev dktX0_seed_0 : List UInt8 := dkwX0_seed_0 ++ []
theorem dksX0_seed_0 : cX0_seed.data.toList.drop 0 = dktX0_seed_0 := by decide +kernel
theorem dX0_seed_0 : decode cX0_seed 0 = .ok (.iload_n 1, 1) := dk_27 (dk_at dksX0_seed_0 0 rfl rfl)
theorem dX0_seed_1 : decode cX0_seed 1 = .ok (.ifCond .ge 5, 3) := dk_156 0 5 (dk_at dksX0_seed_0 1 rfl rfl)
theorem dX0_seed_4 : decode cX0_seed 4 = .ok (.iconst (-1), 1) := dk_2 (dk_at dksX0_seed_0 4 rfl rfl)
theorem dX0_seed_5 : decode cX0_seed 5 = .ok (.ireturn, 1) := dk_172 (dk_at dksX0_seed_0 5 rfl rfl)
theorem dX0_seed_6 : decode cX0_seed 6 = .ok (.aload_n 0, 1) := dk_42 (dk_at dksX0_seed_0 6 rfl rfl)
theorem dX0_seed_7 : decode cX0_seed 7 = .ok (.getfield 240, 3) := dk_180 0 240 (dk_at dksX0_seed_0 7 rfl rfl)
theorem dX0_seed_10 : decode cX0_seed 10 = .ok (.istore_n 2, 1) := dk_61 (dk_at dksX0_seed_0 10 rfl rfl)
theorem dX0_seed_11 : decode cX0_seed 11 = .ok (.aload_n 0, 1) := dk_42 (dk_at dksX0_seed_0 11 rfl rfl)
theorem dX0_seed_12 : decode cX0_seed 12 = .ok (.iload_n 1, 1) := dk_27 (dk_at dksX0_seed_0 12 rfl rfl)
theorem dX0_seed_13 : decode cX0_seed 13 = .ok (.putfield 240, 3) := dk_181 0 240 (dk_at dksX0_seed_0 13 rfl rfl)
theorem dX0_seed_16 : decode cX0_seed 16 = .ok (.iload_n 2, 1) := dk_28 (dk_at dksX0_seed_0 16 rfl rfl)
theorem dX0_seed_17 : decode cX0_seed 17 = .ok (.ireturn, 1) := dk_172 (dk_at dksX0_seed_0 17 rfl rfl)
abbrev cX0_lots : ByteArray := prog_1_method_48_code
def yX0_lots : MethodName := ⟨RX0, "lots", "(I)I"⟩
def dkwX0_lots_5 : List UInt8 := [167, 255, 156, 42, 180, 0, 65, 182, 0, 249, 28, 172]
abbrev dktX0_lots_5 : List UInt8 := dkwX0_lots_5 ++ []
def dkwX0_lots_4 : List UInt8 := [21, 6, 4, 96, 182, 0, 58, 28, 21, 5, 153, 0, 8, 16, 100, 167, 0, 4, 4, 96, 61, 132, 3, 1]
abbrev dktX0_lots_4 : List UInt8 := dkwX0_lots_4 ++ dktX0_lots_5
def dkwX0_lots_3 : List UInt8 := [160, 0, 6, 167, 0, 41, 42, 180, 0, 38, 10, 21, 4, 121, 21, 5, 153, 0, 7, 3, 167, 0, 7]
abbrev dktX0_lots_3 : List UInt8 := dkwX0_lots_3 ++ dktX0_lots_4
def dkwX0_lots_2 : List UInt8 := [180, 0, 38, 180, 0, 42, 21, 4, 51, 54, 6, 21, 6, 21, 5, 153, 0, 7, 3, 167, 0, 5, 16, 9]
abbrev dktX0_lots_2 : List UInt8 := dkwX0_lots_2 ++ dktX0_lots_3
def dkwX0_lots_1 : List UInt8 := [16, 36, 182, 0, 246, 54, 4, 42, 7, 182, 0, 246, 154, 0, 7, 4, 167, 0, 4, 3, 54, 5, 42]
abbrev dktX0_lots_1 : List UInt8 := dkwX0_lots_1 ++ dktX0_lots_2
def dkwX0_lots_0 : List UInt8 := [27, 133, 10, 20, 0, 91, 184, 0, 5, 154, 0, 5, 2, 172, 3, 61, 3, 62, 29, 27, 162, 0, 101, 42]
abbrev dktX0_lots_0 : List UInt8 := dkwX0_lots_0 ++ dktX0_lots_1
theorem dksX0_lots_0 : cX0_lots.data.toList.drop 0 = dktX0_lots_0 := by decide +kernel
theorem dksX0_lots_1 : cX0_lots.data.toList.drop 24 = dktX0_lots_1 := dk_seg dksX0_lots_0 24 rfl rfl
theorem dksX0_lots_2 : cX0_lots.data.toList.drop 47 = dktX0_lots_2 := dk_seg dksX0_lots_1 23 rfl rfl
theorem dksX0_lots_3 : cX0_lots.data.toList.drop 71 = dktX0_lots_3 := dk_seg dksX0_lots_2 24 rfl rfl
theorem dksX0_lots_4 : cX0_lots.data.toList.drop 94 = dktX0_lots_4 := dk_seg dksX0_lots_3 23 rfl rfl
theorem dksX0_lots_5 : cX0_lots.data.toList.drop 118 = dktX0_lots_5 := dk_seg dksX0_lots_4 24 rfl rfl
theorem dX0_lots_0 : decode cX0_lots 0 = .ok (.iload_n 1, 1) := dk_27 (dk_at dksX0_lots_0 0 rfl rfl)
theorem dX0_lots_1 : decode cX0_lots 1 = .ok (.i2l, 1) := dk_133 (dk_at dksX0_lots_0 1 rfl rfl)
theorem dX0_lots_2 : decode cX0_lots 2 = .ok (.lconst 1, 1) := dk_10 (dk_at dksX0_lots_0 2 rfl rfl)
theorem dX0_lots_3 : decode cX0_lots 3 = .ok (.ldc2_w 91, 3) := dk_20 0 91 (dk_at dksX0_lots_0 3 rfl rfl)
theorem dX0_lots_6 : decode cX0_lots 6 = .ok (.invokestatic 5, 3) := dk_184 0 5 (dk_at dksX0_lots_0 6 rfl rfl)
theorem dX0_lots_9 : decode cX0_lots 9 = .ok (.ifCond .ne 5, 3) := dk_154 0 5 (dk_at dksX0_lots_0 9 rfl rfl)
theorem dX0_lots_12 : decode cX0_lots 12 = .ok (.iconst (-1), 1) := dk_2 (dk_at dksX0_lots_0 12 rfl rfl)
theorem dX0_lots_13 : decode cX0_lots 13 = .ok (.ireturn, 1) := dk_172 (dk_at dksX0_lots_0 13 rfl rfl)
theorem dX0_lots_14 : decode cX0_lots 14 = .ok (.iconst 0, 1) := dk_3 (dk_at dksX0_lots_0 14 rfl rfl)
theorem dX0_lots_15 : decode cX0_lots 15 = .ok (.istore_n 2, 1) := dk_61 (dk_at dksX0_lots_0 15 rfl rfl)
theorem dX0_lots_16 : decode cX0_lots 16 = .ok (.iconst 0, 1) := dk_3 (dk_at dksX0_lots_0 16 rfl rfl)
theorem dX0_lots_17 : decode cX0_lots 17 = .ok (.istore_n 3, 1) := dk_62 (dk_at dksX0_lots_0 17 rfl rfl)
theorem dX0_lots_18 : decode cX0_lots 18 = .ok (.iload_n 3, 1) := dk_29 (dk_at dksX0_lots_0 18 rfl rfl)
theorem dX0_lots_19 : decode cX0_lots 19 = .ok (.iload_n 1, 1) := dk_27 (dk_at dksX0_lots_0 19 rfl rfl)
theorem dX0_lots_20 : decode cX0_lots 20 = .ok (.if_icmp .ge 101, 3) := dk_162 0 101 (dk_at dksX0_lots_0 20 rfl rfl)
theorem dX0_lots_23 : decode cX0_lots 23 = .ok (.aload_n 0, 1) := dk_42 (dk_at dksX0_lots_0 23 rfl rfl)
theorem dX0_lots_24 : decode cX0_lots 24 = .ok (.bipush 36, 2) := dk_16 36 (dk_at dksX0_lots_1 0 rfl rfl)
theorem dX0_lots_26 : decode cX0_lots 26 = .ok (.invokevirtual 246, 3) := dk_182 0 246 (dk_at dksX0_lots_1 2 rfl rfl)
theorem dX0_lots_29 : decode cX0_lots 29 = .ok (.istore 4, 2) := dk_54 4 (dk_at dksX0_lots_1 5 rfl rfl)
theorem dX0_lots_31 : decode cX0_lots 31 = .ok (.aload_n 0, 1) := dk_42 (dk_at dksX0_lots_1 7 rfl rfl)
theorem dX0_lots_32 : decode cX0_lots 32 = .ok (.iconst 4, 1) := dk_7 (dk_at dksX0_lots_1 8 rfl rfl)
theorem dX0_lots_33 : decode cX0_lots 33 = .ok (.invokevirtual 246, 3) := dk_182 0 246 (dk_at dksX0_lots_1 9 rfl rfl)
theorem dX0_lots_36 : decode cX0_lots 36 = .ok (.ifCond .ne 7, 3) := dk_154 0 7 (dk_at dksX0_lots_1 12 rfl rfl)
theorem dX0_lots_39 : decode cX0_lots 39 = .ok (.iconst 1, 1) := dk_4 (dk_at dksX0_lots_1 15 rfl rfl)
theorem dX0_lots_40 : decode cX0_lots 40 = .ok (.goto 4, 3) := dk_167 0 4 (dk_at dksX0_lots_1 16 rfl rfl)
theorem dX0_lots_43 : decode cX0_lots 43 = .ok (.iconst 0, 1) := dk_3 (dk_at dksX0_lots_1 19 rfl rfl)
theorem dX0_lots_44 : decode cX0_lots 44 = .ok (.istore 5, 2) := dk_54 5 (dk_at dksX0_lots_1 20 rfl rfl)
theorem dX0_lots_46 : decode cX0_lots 46 = .ok (.aload_n 0, 1) := dk_42 (dk_at dksX0_lots_1 22 rfl rfl)
theorem dX0_lots_47 : decode cX0_lots 47 = .ok (.getfield 38, 3) := dk_180 0 38 (dk_at dksX0_lots_2 0 rfl rfl)
theorem dX0_lots_50 : decode cX0_lots 50 = .ok (.getfield 42, 3) := dk_180 0 42 (dk_at dksX0_lots_2 3 rfl rfl)
theorem dX0_lots_53 : decode cX0_lots 53 = .ok (.iload 4, 2) := dk_21 4 (dk_at dksX0_lots_2 6 rfl rfl)
theorem dX0_lots_55 : decode cX0_lots 55 = .ok (.baload, 1) := dk_51 (dk_at dksX0_lots_2 8 rfl rfl)
theorem dX0_lots_56 : decode cX0_lots 56 = .ok (.istore 6, 2) := dk_54 6 (dk_at dksX0_lots_2 9 rfl rfl)
theorem dX0_lots_58 : decode cX0_lots 58 = .ok (.iload 6, 2) := dk_21 6 (dk_at dksX0_lots_2 11 rfl rfl)
theorem dX0_lots_60 : decode cX0_lots 60 = .ok (.iload 5, 2) := dk_21 5 (dk_at dksX0_lots_2 13 rfl rfl)
theorem dX0_lots_62 : decode cX0_lots 62 = .ok (.ifCond .eq 7, 3) := dk_153 0 7 (dk_at dksX0_lots_2 15 rfl rfl)
theorem dX0_lots_65 : decode cX0_lots 65 = .ok (.iconst 0, 1) := dk_3 (dk_at dksX0_lots_2 18 rfl rfl)
theorem dX0_lots_66 : decode cX0_lots 66 = .ok (.goto 5, 3) := dk_167 0 5 (dk_at dksX0_lots_2 19 rfl rfl)
theorem dX0_lots_69 : decode cX0_lots 69 = .ok (.bipush 9, 2) := dk_16 9 (dk_at dksX0_lots_2 22 rfl rfl)
theorem dX0_lots_71 : decode cX0_lots 71 = .ok (.if_icmp .ne 6, 3) := dk_160 0 6 (dk_at dksX0_lots_3 0 rfl rfl)
theorem dX0_lots_74 : decode cX0_lots 74 = .ok (.goto 41, 3) := dk_167 0 41 (dk_at dksX0_lots_3 3 rfl rfl)
theorem dX0_lots_77 : decode cX0_lots 77 = .ok (.aload_n 0, 1) := dk_42 (dk_at dksX0_lots_3 6 rfl rfl)
theorem dX0_lots_78 : decode cX0_lots 78 = .ok (.getfield 38, 3) := dk_180 0 38 (dk_at dksX0_lots_3 7 rfl rfl)
theorem dX0_lots_81 : decode cX0_lots 81 = .ok (.lconst 1, 1) := dk_10 (dk_at dksX0_lots_3 10 rfl rfl)
theorem dX0_lots_82 : decode cX0_lots 82 = .ok (.iload 4, 2) := dk_21 4 (dk_at dksX0_lots_3 11 rfl rfl)
theorem dX0_lots_84 : decode cX0_lots 84 = .ok (.lshl, 1) := dk_121 (dk_at dksX0_lots_3 13 rfl rfl)
theorem dX0_lots_85 : decode cX0_lots 85 = .ok (.iload 5, 2) := dk_21 5 (dk_at dksX0_lots_3 14 rfl rfl)
theorem dX0_lots_87 : decode cX0_lots 87 = .ok (.ifCond .eq 7, 3) := dk_153 0 7 (dk_at dksX0_lots_3 16 rfl rfl)
theorem dX0_lots_90 : decode cX0_lots 90 = .ok (.iconst 0, 1) := dk_3 (dk_at dksX0_lots_3 19 rfl rfl)
theorem dX0_lots_91 : decode cX0_lots 91 = .ok (.goto 7, 3) := dk_167 0 7 (dk_at dksX0_lots_3 20 rfl rfl)
theorem dX0_lots_94 : decode cX0_lots 94 = .ok (.iload 6, 2) := dk_21 6 (dk_at dksX0_lots_4 0 rfl rfl)
theorem dX0_lots_96 : decode cX0_lots 96 = .ok (.iconst 1, 1) := dk_4 (dk_at dksX0_lots_4 2 rfl rfl)
theorem dX0_lots_97 : decode cX0_lots 97 = .ok (.iadd, 1) := dk_96 (dk_at dksX0_lots_4 3 rfl rfl)
theorem dX0_lots_98 : decode cX0_lots 98 = .ok (.invokevirtual 58, 3) := dk_182 0 58 (dk_at dksX0_lots_4 4 rfl rfl)
theorem dX0_lots_101 : decode cX0_lots 101 = .ok (.iload_n 2, 1) := dk_28 (dk_at dksX0_lots_4 7 rfl rfl)
theorem dX0_lots_102 : decode cX0_lots 102 = .ok (.iload 5, 2) := dk_21 5 (dk_at dksX0_lots_4 8 rfl rfl)
theorem dX0_lots_104 : decode cX0_lots 104 = .ok (.ifCond .eq 8, 3) := dk_153 0 8 (dk_at dksX0_lots_4 10 rfl rfl)
theorem dX0_lots_107 : decode cX0_lots 107 = .ok (.bipush 100, 2) := dk_16 100 (dk_at dksX0_lots_4 13 rfl rfl)
theorem dX0_lots_109 : decode cX0_lots 109 = .ok (.goto 4, 3) := dk_167 0 4 (dk_at dksX0_lots_4 15 rfl rfl)
theorem dX0_lots_112 : decode cX0_lots 112 = .ok (.iconst 1, 1) := dk_4 (dk_at dksX0_lots_4 18 rfl rfl)
theorem dX0_lots_113 : decode cX0_lots 113 = .ok (.iadd, 1) := dk_96 (dk_at dksX0_lots_4 19 rfl rfl)
theorem dX0_lots_114 : decode cX0_lots 114 = .ok (.istore_n 2, 1) := dk_61 (dk_at dksX0_lots_4 20 rfl rfl)
theorem dX0_lots_115 : decode cX0_lots 115 = .ok (.iinc 3 1, 3) := dk_132 3 1 (dk_at dksX0_lots_4 21 rfl rfl)
theorem dX0_lots_118 : decode cX0_lots 118 = .ok (.goto (-100), 3) := dk_167 255 156 (dk_at dksX0_lots_5 0 rfl rfl)
theorem dX0_lots_121 : decode cX0_lots 121 = .ok (.aload_n 0, 1) := dk_42 (dk_at dksX0_lots_5 3 rfl rfl)
theorem dX0_lots_122 : decode cX0_lots 122 = .ok (.getfield 65, 3) := dk_180 0 65 (dk_at dksX0_lots_5 4 rfl rfl)
theorem dX0_lots_125 : decode cX0_lots 125 = .ok (.invokevirtual 249, 3) := dk_182 0 249 (dk_at dksX0_lots_5 7 rfl rfl)
theorem dX0_lots_128 : decode cX0_lots 128 = .ok (.iload_n 2, 1) := dk_28 (dk_at dksX0_lots_5 10 rfl rfl)
theorem dX0_lots_129 : decode cX0_lots 129 = .ok (.ireturn, 1) := dk_172 (dk_at dksX0_lots_5 11 rfl rfl)
abbrev cX0_drawn : ByteArray := prog_1_method_47_code
def yX0_drawn : MethodName := ⟨RX0, "drawn", "(I)I"⟩
def dkwX0_drawn_1 : List UInt8 := [108, 27, 112, 172]
abbrev dktX0_drawn_1 : List UInt8 := dkwX0_drawn_1 ++ []
def dkwX0_drawn_0 : List UInt8 := [42, 42, 180, 0, 240, 18, 243, 104, 17, 48, 57, 96, 18, 244, 126, 181, 0, 240, 42, 180, 0, 240, 18, 245]
abbrev dktX0_drawn_0 : List UInt8 := dkwX0_drawn_0 ++ dktX0_drawn_1
theorem dksX0_drawn_0 : cX0_drawn.data.toList.drop 0 = dktX0_drawn_0 := by decide +kernel
theorem dksX0_drawn_1 : cX0_drawn.data.toList.drop 24 = dktX0_drawn_1 := dk_seg dksX0_drawn_0 24 rfl rfl
theorem dX0_drawn_0 : decode cX0_drawn 0 = .ok (.aload_n 0, 1) := dk_42 (dk_at dksX0_drawn_0 0 rfl rfl)
theorem dX0_drawn_1 : decode cX0_drawn 1 = .ok (.aload_n 0, 1) := dk_42 (dk_at dksX0_drawn_0 1 rfl rfl)
theorem dX0_drawn_2 : decode cX0_drawn 2 = .ok (.getfield 240, 3) := dk_180 0 240 (dk_at dksX0_drawn_0 2 rfl rfl)
theorem dX0_drawn_5 : decode cX0_drawn 5 = .ok (.ldc 243, 2) := dk_18 243 (dk_at dksX0_drawn_0 5 rfl rfl)
theorem dX0_drawn_7 : decode cX0_drawn 7 = .ok (.imul, 1) := dk_104 (dk_at dksX0_drawn_0 7 rfl rfl)
theorem dX0_drawn_8 : decode cX0_drawn 8 = .ok (.sipush 12345, 3) := dk_17 48 57 (dk_at dksX0_drawn_0 8 rfl rfl)
theorem dX0_drawn_11 : decode cX0_drawn 11 = .ok (.iadd, 1) := dk_96 (dk_at dksX0_drawn_0 11 rfl rfl)
theorem dX0_drawn_12 : decode cX0_drawn 12 = .ok (.ldc 244, 2) := dk_18 244 (dk_at dksX0_drawn_0 12 rfl rfl)
theorem dX0_drawn_14 : decode cX0_drawn 14 = .ok (.iand, 1) := dk_126 (dk_at dksX0_drawn_0 14 rfl rfl)
theorem dX0_drawn_15 : decode cX0_drawn 15 = .ok (.putfield 240, 3) := dk_181 0 240 (dk_at dksX0_drawn_0 15 rfl rfl)
theorem dX0_drawn_18 : decode cX0_drawn 18 = .ok (.aload_n 0, 1) := dk_42 (dk_at dksX0_drawn_0 18 rfl rfl)
theorem dX0_drawn_19 : decode cX0_drawn 19 = .ok (.getfield 240, 3) := dk_180 0 240 (dk_at dksX0_drawn_0 19 rfl rfl)
theorem dX0_drawn_22 : decode cX0_drawn 22 = .ok (.ldc 245, 2) := dk_18 245 (dk_at dksX0_drawn_0 22 rfl rfl)
theorem dX0_drawn_24 : decode cX0_drawn 24 = .ok (.idiv, 1) := dk_108 (dk_at dksX0_drawn_1 0 rfl rfl)
theorem dX0_drawn_25 : decode cX0_drawn 25 = .ok (.iload_n 1, 1) := dk_27 (dk_at dksX0_drawn_1 1 rfl rfl)
theorem dX0_drawn_26 : decode cX0_drawn 26 = .ok (.irem, 1) := dk_112 (dk_at dksX0_drawn_1 2 rfl rfl)
theorem dX0_drawn_27 : decode cX0_drawn 27 = .ok (.ireturn, 1) := dk_172 (dk_at dksX0_drawn_1 3 rfl rfl)
abbrev cX0_type : ByteArray := prog_1_method_49_code
def yX0_type : MethodName := ⟨RX0, "type", "(I)I"⟩
def dkwX0_type_2 : List UInt8 := [181, 1, 0, 42, 180, 1, 0, 172]
abbrev dktX0_type_2 : List UInt8 := dkwX0_type_2 ++ []
def dkwX0_type_1 : List UInt8 := [160, 0, 6, 16, 253, 172, 42, 180, 1, 3, 42, 180, 1, 0, 27, 145, 84, 42, 89, 180, 1, 0, 4, 96]
abbrev dktX0_type_1 : List UInt8 := dkwX0_type_1 ++ dktX0_type_2
def dkwX0_type_0 : List UInt8 := [27, 133, 20, 0, 252, 20, 0, 254, 184, 0, 5, 154, 0, 5, 2, 172, 42, 180, 1, 0, 17, 0, 160]
abbrev dktX0_type_0 : List UInt8 := dkwX0_type_0 ++ dktX0_type_1
theorem dksX0_type_0 : cX0_type.data.toList.drop 0 = dktX0_type_0 := by decide +kernel
theorem dksX0_type_1 : cX0_type.data.toList.drop 23 = dktX0_type_1 := dk_seg dksX0_type_0 23 rfl rfl
theorem dksX0_type_2 : cX0_type.data.toList.drop 47 = dktX0_type_2 := dk_seg dksX0_type_1 24 rfl rfl
theorem dX0_type_0 : decode cX0_type 0 = .ok (.iload_n 1, 1) := dk_27 (dk_at dksX0_type_0 0 rfl rfl)
theorem dX0_type_1 : decode cX0_type 1 = .ok (.i2l, 1) := dk_133 (dk_at dksX0_type_0 1 rfl rfl)
theorem dX0_type_2 : decode cX0_type 2 = .ok (.ldc2_w 252, 3) := dk_20 0 252 (dk_at dksX0_type_0 2 rfl rfl)
theorem dX0_type_5 : decode cX0_type 5 = .ok (.ldc2_w 254, 3) := dk_20 0 254 (dk_at dksX0_type_0 5 rfl rfl)
theorem dX0_type_8 : decode cX0_type 8 = .ok (.invokestatic 5, 3) := dk_184 0 5 (dk_at dksX0_type_0 8 rfl rfl)
theorem dX0_type_11 : decode cX0_type 11 = .ok (.ifCond .ne 5, 3) := dk_154 0 5 (dk_at dksX0_type_0 11 rfl rfl)
theorem dX0_type_14 : decode cX0_type 14 = .ok (.iconst (-1), 1) := dk_2 (dk_at dksX0_type_0 14 rfl rfl)
theorem dX0_type_15 : decode cX0_type 15 = .ok (.ireturn, 1) := dk_172 (dk_at dksX0_type_0 15 rfl rfl)
theorem dX0_type_16 : decode cX0_type 16 = .ok (.aload_n 0, 1) := dk_42 (dk_at dksX0_type_0 16 rfl rfl)
theorem dX0_type_17 : decode cX0_type 17 = .ok (.getfield 256, 3) := dk_180 1 0 (dk_at dksX0_type_0 17 rfl rfl)
theorem dX0_type_20 : decode cX0_type 20 = .ok (.sipush 160, 3) := dk_17 0 160 (dk_at dksX0_type_0 20 rfl rfl)
theorem dX0_type_23 : decode cX0_type 23 = .ok (.if_icmp .ne 6, 3) := dk_160 0 6 (dk_at dksX0_type_1 0 rfl rfl)
theorem dX0_type_26 : decode cX0_type 26 = .ok (.bipush (-3), 2) := dk_16 253 (dk_at dksX0_type_1 3 rfl rfl)
theorem dX0_type_28 : decode cX0_type 28 = .ok (.ireturn, 1) := dk_172 (dk_at dksX0_type_1 5 rfl rfl)
theorem dX0_type_29 : decode cX0_type 29 = .ok (.aload_n 0, 1) := dk_42 (dk_at dksX0_type_1 6 rfl rfl)
theorem dX0_type_30 : decode cX0_type 30 = .ok (.getfield 259, 3) := dk_180 1 3 (dk_at dksX0_type_1 7 rfl rfl)
theorem dX0_type_33 : decode cX0_type 33 = .ok (.aload_n 0, 1) := dk_42 (dk_at dksX0_type_1 10 rfl rfl)
theorem dX0_type_34 : decode cX0_type 34 = .ok (.getfield 256, 3) := dk_180 1 0 (dk_at dksX0_type_1 11 rfl rfl)
theorem dX0_type_37 : decode cX0_type 37 = .ok (.iload_n 1, 1) := dk_27 (dk_at dksX0_type_1 14 rfl rfl)
theorem dX0_type_38 : decode cX0_type 38 = .ok (.i2b, 1) := dk_145 (dk_at dksX0_type_1 15 rfl rfl)
theorem dX0_type_39 : decode cX0_type 39 = .ok (.bastore, 1) := dk_84 (dk_at dksX0_type_1 16 rfl rfl)
theorem dX0_type_40 : decode cX0_type 40 = .ok (.aload_n 0, 1) := dk_42 (dk_at dksX0_type_1 17 rfl rfl)
theorem dX0_type_41 : decode cX0_type 41 = .ok (.dup, 1) := dk_89 (dk_at dksX0_type_1 18 rfl rfl)
theorem dX0_type_42 : decode cX0_type 42 = .ok (.getfield 256, 3) := dk_180 1 0 (dk_at dksX0_type_1 19 rfl rfl)
theorem dX0_type_45 : decode cX0_type 45 = .ok (.iconst 1, 1) := dk_4 (dk_at dksX0_type_1 22 rfl rfl)
theorem dX0_type_46 : decode cX0_type 46 = .ok (.iadd, 1) := dk_96 (dk_at dksX0_type_1 23 rfl rfl)
theorem dX0_type_47 : decode cX0_type 47 = .ok (.putfield 256, 3) := dk_181 1 0 (dk_at dksX0_type_2 0 rfl rfl)
theorem dX0_type_50 : decode cX0_type 50 = .ok (.aload_n 0, 1) := dk_42 (dk_at dksX0_type_2 3 rfl rfl)
theorem dX0_type_51 : decode cX0_type 51 = .ok (.getfield 256, 3) := dk_180 1 0 (dk_at dksX0_type_2 4 rfl rfl)
theorem dX0_type_54 : decode cX0_type 54 = .ok (.ireturn, 1) := dk_172 (dk_at dksX0_type_2 7 rfl rfl)
abbrev cX0_ground : ByteArray := prog_1_method_56_code
def yX0_ground : MethodName := ⟨RX0, "ground", "()I"⟩
def dkwX0_ground_7 : List UInt8 := [78, 42, 3, 181, 1, 0, 45, 191]
abbrev dktX0_ground_7 : List UInt8 := dkwX0_ground_7 ++ []
def dkwX0_ground_6 : List UInt8 := [60, 42, 3, 181, 1, 0, 27, 172, 76, 16, 236, 43, 180, 1, 39, 100, 61, 42, 3, 181, 1, 0, 28, 172]
abbrev dktX0_ground_6 : List UInt8 := dkwX0_ground_6 ++ dktX0_ground_7
def dkwX0_ground_5 : List UInt8 := [42, 180, 1, 27, 182, 0, 177, 42, 180, 0, 65, 182, 0, 249, 42, 180, 0, 38, 182, 0, 112, 184, 0, 116]
abbrev dktX0_ground_5 : List UInt8 := dkwX0_ground_5 ++ dktX0_ground_6
def dkwX0_ground_4 : List UInt8 := [180, 0, 62, 10, 27, 121, 129, 181, 0, 62, 132, 1, 1, 167, 255, 178, 42, 182, 1, 36, 42, 180, 0, 38]
abbrev dktX0_ground_4 : List UInt8 := dkwX0_ground_4 ++ dktX0_ground_5
def dkwX0_ground_3 : List UInt8 := [180, 0, 42, 27, 51, 158, 0, 27, 42, 16, 94, 182, 1, 12, 153, 0, 18, 42, 180, 1, 27, 89]
abbrev dktX0_ground_3 : List UInt8 := dkwX0_ground_3 ++ dktX0_ground_4
def dkwX0_ground_2 : List UInt8 := [182, 1, 30, 42, 180, 1, 27, 180, 0, 42, 27, 42, 16, 9, 182, 1, 33, 145, 84, 42, 180, 1, 27]
abbrev dktX0_ground_2 : List UInt8 := dkwX0_ground_2 ++ dktX0_ground_3
def dkwX0_ground_1 : List UInt8 := [3, 60, 27, 16, 36, 162, 0, 78, 27, 158, 0, 16, 27, 16, 6, 112, 154, 0, 9, 42, 16, 47]
abbrev dktX0_ground_1 : List UInt8 := dkwX0_ground_1 ++ dktX0_ground_2
def dkwX0_ground_0 : List UInt8 := [42, 3, 181, 1, 6, 42, 180, 1, 27, 42, 180, 0, 38, 182, 0, 177, 42, 180, 1, 27, 9, 181, 0, 62]
abbrev dktX0_ground_0 : List UInt8 := dkwX0_ground_0 ++ dktX0_ground_1
theorem dksX0_ground_0 : cX0_ground.data.toList.drop 0 = dktX0_ground_0 := by decide +kernel
theorem dksX0_ground_1 : cX0_ground.data.toList.drop 24 = dktX0_ground_1 := dk_seg dksX0_ground_0 24 rfl rfl
theorem dksX0_ground_2 : cX0_ground.data.toList.drop 46 = dktX0_ground_2 := dk_seg dksX0_ground_1 22 rfl rfl
theorem dksX0_ground_3 : cX0_ground.data.toList.drop 69 = dktX0_ground_3 := dk_seg dksX0_ground_2 23 rfl rfl
theorem dksX0_ground_4 : cX0_ground.data.toList.drop 91 = dktX0_ground_4 := dk_seg dksX0_ground_3 22 rfl rfl
theorem dksX0_ground_5 : cX0_ground.data.toList.drop 115 = dktX0_ground_5 := dk_seg dksX0_ground_4 24 rfl rfl
theorem dksX0_ground_6 : cX0_ground.data.toList.drop 139 = dktX0_ground_6 := dk_seg dksX0_ground_5 24 rfl rfl
theorem dksX0_ground_7 : cX0_ground.data.toList.drop 163 = dktX0_ground_7 := dk_seg dksX0_ground_6 24 rfl rfl
theorem dX0_ground_0 : decode cX0_ground 0 = .ok (.aload_n 0, 1) := dk_42 (dk_at dksX0_ground_0 0 rfl rfl)
theorem dX0_ground_1 : decode cX0_ground 1 = .ok (.iconst 0, 1) := dk_3 (dk_at dksX0_ground_0 1 rfl rfl)
theorem dX0_ground_2 : decode cX0_ground 2 = .ok (.putfield 262, 3) := dk_181 1 6 (dk_at dksX0_ground_0 2 rfl rfl)
theorem dX0_ground_5 : decode cX0_ground 5 = .ok (.aload_n 0, 1) := dk_42 (dk_at dksX0_ground_0 5 rfl rfl)
theorem dX0_ground_6 : decode cX0_ground 6 = .ok (.getfield 283, 3) := dk_180 1 27 (dk_at dksX0_ground_0 6 rfl rfl)
theorem dX0_ground_9 : decode cX0_ground 9 = .ok (.aload_n 0, 1) := dk_42 (dk_at dksX0_ground_0 9 rfl rfl)
theorem dX0_ground_10 : decode cX0_ground 10 = .ok (.getfield 38, 3) := dk_180 0 38 (dk_at dksX0_ground_0 10 rfl rfl)
theorem dX0_ground_13 : decode cX0_ground 13 = .ok (.invokevirtual 177, 3) := dk_182 0 177 (dk_at dksX0_ground_0 13 rfl rfl)
theorem dX0_ground_16 : decode cX0_ground 16 = .ok (.aload_n 0, 1) := dk_42 (dk_at dksX0_ground_0 16 rfl rfl)
theorem dX0_ground_17 : decode cX0_ground 17 = .ok (.getfield 283, 3) := dk_180 1 27 (dk_at dksX0_ground_0 17 rfl rfl)
theorem dX0_ground_20 : decode cX0_ground 20 = .ok (.lconst 0, 1) := dk_9 (dk_at dksX0_ground_0 20 rfl rfl)
theorem dX0_ground_21 : decode cX0_ground 21 = .ok (.putfield 62, 3) := dk_181 0 62 (dk_at dksX0_ground_0 21 rfl rfl)
theorem dX0_ground_24 : decode cX0_ground 24 = .ok (.iconst 0, 1) := dk_3 (dk_at dksX0_ground_1 0 rfl rfl)
theorem dX0_ground_25 : decode cX0_ground 25 = .ok (.istore_n 1, 1) := dk_60 (dk_at dksX0_ground_1 1 rfl rfl)
theorem dX0_ground_26 : decode cX0_ground 26 = .ok (.iload_n 1, 1) := dk_27 (dk_at dksX0_ground_1 2 rfl rfl)
theorem dX0_ground_27 : decode cX0_ground 27 = .ok (.bipush 36, 2) := dk_16 36 (dk_at dksX0_ground_1 3 rfl rfl)
theorem dX0_ground_29 : decode cX0_ground 29 = .ok (.if_icmp .ge 78, 3) := dk_162 0 78 (dk_at dksX0_ground_1 5 rfl rfl)
theorem dX0_ground_32 : decode cX0_ground 32 = .ok (.iload_n 1, 1) := dk_27 (dk_at dksX0_ground_1 8 rfl rfl)
theorem dX0_ground_33 : decode cX0_ground 33 = .ok (.ifCond .le 16, 3) := dk_158 0 16 (dk_at dksX0_ground_1 9 rfl rfl)
theorem dX0_ground_36 : decode cX0_ground 36 = .ok (.iload_n 1, 1) := dk_27 (dk_at dksX0_ground_1 12 rfl rfl)
theorem dX0_ground_37 : decode cX0_ground 37 = .ok (.bipush 6, 2) := dk_16 6 (dk_at dksX0_ground_1 13 rfl rfl)
theorem dX0_ground_39 : decode cX0_ground 39 = .ok (.irem, 1) := dk_112 (dk_at dksX0_ground_1 15 rfl rfl)
theorem dX0_ground_40 : decode cX0_ground 40 = .ok (.ifCond .ne 9, 3) := dk_154 0 9 (dk_at dksX0_ground_1 16 rfl rfl)
theorem dX0_ground_43 : decode cX0_ground 43 = .ok (.aload_n 0, 1) := dk_42 (dk_at dksX0_ground_1 19 rfl rfl)
theorem dX0_ground_44 : decode cX0_ground 44 = .ok (.bipush 47, 2) := dk_16 47 (dk_at dksX0_ground_1 20 rfl rfl)
theorem dX0_ground_46 : decode cX0_ground 46 = .ok (.invokevirtual 286, 3) := dk_182 1 30 (dk_at dksX0_ground_2 0 rfl rfl)
theorem dX0_ground_49 : decode cX0_ground 49 = .ok (.aload_n 0, 1) := dk_42 (dk_at dksX0_ground_2 3 rfl rfl)
theorem dX0_ground_50 : decode cX0_ground 50 = .ok (.getfield 283, 3) := dk_180 1 27 (dk_at dksX0_ground_2 4 rfl rfl)
theorem dX0_ground_53 : decode cX0_ground 53 = .ok (.getfield 42, 3) := dk_180 0 42 (dk_at dksX0_ground_2 7 rfl rfl)
theorem dX0_ground_56 : decode cX0_ground 56 = .ok (.iload_n 1, 1) := dk_27 (dk_at dksX0_ground_2 10 rfl rfl)
theorem dX0_ground_57 : decode cX0_ground 57 = .ok (.aload_n 0, 1) := dk_42 (dk_at dksX0_ground_2 11 rfl rfl)
theorem dX0_ground_58 : decode cX0_ground 58 = .ok (.bipush 9, 2) := dk_16 9 (dk_at dksX0_ground_2 12 rfl rfl)
theorem dX0_ground_60 : decode cX0_ground 60 = .ok (.invokevirtual 289, 3) := dk_182 1 33 (dk_at dksX0_ground_2 14 rfl rfl)
theorem dX0_ground_63 : decode cX0_ground 63 = .ok (.i2b, 1) := dk_145 (dk_at dksX0_ground_2 17 rfl rfl)
theorem dX0_ground_64 : decode cX0_ground 64 = .ok (.bastore, 1) := dk_84 (dk_at dksX0_ground_2 18 rfl rfl)
theorem dX0_ground_65 : decode cX0_ground 65 = .ok (.aload_n 0, 1) := dk_42 (dk_at dksX0_ground_2 19 rfl rfl)
theorem dX0_ground_66 : decode cX0_ground 66 = .ok (.getfield 283, 3) := dk_180 1 27 (dk_at dksX0_ground_2 20 rfl rfl)
theorem dX0_ground_69 : decode cX0_ground 69 = .ok (.getfield 42, 3) := dk_180 0 42 (dk_at dksX0_ground_3 0 rfl rfl)
theorem dX0_ground_72 : decode cX0_ground 72 = .ok (.iload_n 1, 1) := dk_27 (dk_at dksX0_ground_3 3 rfl rfl)
theorem dX0_ground_73 : decode cX0_ground 73 = .ok (.baload, 1) := dk_51 (dk_at dksX0_ground_3 4 rfl rfl)
theorem dX0_ground_74 : decode cX0_ground 74 = .ok (.ifCond .le 27, 3) := dk_158 0 27 (dk_at dksX0_ground_3 5 rfl rfl)
theorem dX0_ground_77 : decode cX0_ground 77 = .ok (.aload_n 0, 1) := dk_42 (dk_at dksX0_ground_3 8 rfl rfl)
theorem dX0_ground_78 : decode cX0_ground 78 = .ok (.bipush 94, 2) := dk_16 94 (dk_at dksX0_ground_3 9 rfl rfl)
theorem dX0_ground_80 : decode cX0_ground 80 = .ok (.invokevirtual 268, 3) := dk_182 1 12 (dk_at dksX0_ground_3 11 rfl rfl)
theorem dX0_ground_83 : decode cX0_ground 83 = .ok (.ifCond .eq 18, 3) := dk_153 0 18 (dk_at dksX0_ground_3 14 rfl rfl)
theorem dX0_ground_86 : decode cX0_ground 86 = .ok (.aload_n 0, 1) := dk_42 (dk_at dksX0_ground_3 17 rfl rfl)
theorem dX0_ground_87 : decode cX0_ground 87 = .ok (.getfield 283, 3) := dk_180 1 27 (dk_at dksX0_ground_3 18 rfl rfl)
theorem dX0_ground_90 : decode cX0_ground 90 = .ok (.dup, 1) := dk_89 (dk_at dksX0_ground_3 21 rfl rfl)
theorem dX0_ground_91 : decode cX0_ground 91 = .ok (.getfield 62, 3) := dk_180 0 62 (dk_at dksX0_ground_4 0 rfl rfl)
theorem dX0_ground_94 : decode cX0_ground 94 = .ok (.lconst 1, 1) := dk_10 (dk_at dksX0_ground_4 3 rfl rfl)
theorem dX0_ground_95 : decode cX0_ground 95 = .ok (.iload_n 1, 1) := dk_27 (dk_at dksX0_ground_4 4 rfl rfl)
theorem dX0_ground_96 : decode cX0_ground 96 = .ok (.lshl, 1) := dk_121 (dk_at dksX0_ground_4 5 rfl rfl)
theorem dX0_ground_97 : decode cX0_ground 97 = .ok (.lor, 1) := dk_129 (dk_at dksX0_ground_4 6 rfl rfl)
theorem dX0_ground_98 : decode cX0_ground 98 = .ok (.putfield 62, 3) := dk_181 0 62 (dk_at dksX0_ground_4 7 rfl rfl)
theorem dX0_ground_101 : decode cX0_ground 101 = .ok (.iinc 1 1, 3) := dk_132 1 1 (dk_at dksX0_ground_4 10 rfl rfl)
theorem dX0_ground_104 : decode cX0_ground 104 = .ok (.goto (-78), 3) := dk_167 255 178 (dk_at dksX0_ground_4 13 rfl rfl)
theorem dX0_ground_107 : decode cX0_ground 107 = .ok (.aload_n 0, 1) := dk_42 (dk_at dksX0_ground_4 16 rfl rfl)
theorem dX0_ground_108 : decode cX0_ground 108 = .ok (.invokevirtual 292, 3) := dk_182 1 36 (dk_at dksX0_ground_4 17 rfl rfl)
theorem dX0_ground_111 : decode cX0_ground 111 = .ok (.aload_n 0, 1) := dk_42 (dk_at dksX0_ground_4 20 rfl rfl)
theorem dX0_ground_112 : decode cX0_ground 112 = .ok (.getfield 38, 3) := dk_180 0 38 (dk_at dksX0_ground_4 21 rfl rfl)
theorem dX0_ground_115 : decode cX0_ground 115 = .ok (.aload_n 0, 1) := dk_42 (dk_at dksX0_ground_5 0 rfl rfl)
theorem dX0_ground_116 : decode cX0_ground 116 = .ok (.getfield 283, 3) := dk_180 1 27 (dk_at dksX0_ground_5 1 rfl rfl)
theorem dX0_ground_119 : decode cX0_ground 119 = .ok (.invokevirtual 177, 3) := dk_182 0 177 (dk_at dksX0_ground_5 4 rfl rfl)
theorem dX0_ground_122 : decode cX0_ground 122 = .ok (.aload_n 0, 1) := dk_42 (dk_at dksX0_ground_5 7 rfl rfl)
theorem dX0_ground_123 : decode cX0_ground 123 = .ok (.getfield 65, 3) := dk_180 0 65 (dk_at dksX0_ground_5 8 rfl rfl)
theorem dX0_ground_126 : decode cX0_ground 126 = .ok (.invokevirtual 249, 3) := dk_182 0 249 (dk_at dksX0_ground_5 11 rfl rfl)
theorem dX0_ground_129 : decode cX0_ground 129 = .ok (.aload_n 0, 1) := dk_42 (dk_at dksX0_ground_5 14 rfl rfl)
theorem dX0_ground_130 : decode cX0_ground 130 = .ok (.getfield 38, 3) := dk_180 0 38 (dk_at dksX0_ground_5 15 rfl rfl)
theorem dX0_ground_133 : decode cX0_ground 133 = .ok (.invokevirtual 112, 3) := dk_182 0 112 (dk_at dksX0_ground_5 18 rfl rfl)
theorem dX0_ground_136 : decode cX0_ground 136 = .ok (.invokestatic 116, 3) := dk_184 0 116 (dk_at dksX0_ground_5 21 rfl rfl)
theorem dX0_ground_139 : decode cX0_ground 139 = .ok (.istore_n 1, 1) := dk_60 (dk_at dksX0_ground_6 0 rfl rfl)
theorem dX0_ground_140 : decode cX0_ground 140 = .ok (.aload_n 0, 1) := dk_42 (dk_at dksX0_ground_6 1 rfl rfl)
theorem dX0_ground_141 : decode cX0_ground 141 = .ok (.iconst 0, 1) := dk_3 (dk_at dksX0_ground_6 2 rfl rfl)
theorem dX0_ground_142 : decode cX0_ground 142 = .ok (.putfield 256, 3) := dk_181 1 0 (dk_at dksX0_ground_6 3 rfl rfl)
theorem dX0_ground_145 : decode cX0_ground 145 = .ok (.iload_n 1, 1) := dk_27 (dk_at dksX0_ground_6 6 rfl rfl)
theorem dX0_ground_146 : decode cX0_ground 146 = .ok (.ireturn, 1) := dk_172 (dk_at dksX0_ground_6 7 rfl rfl)
theorem dX0_ground_147 : decode cX0_ground 147 = .ok (.astore_n 1, 1) := dk_76 (dk_at dksX0_ground_6 8 rfl rfl)
theorem dX0_ground_148 : decode cX0_ground 148 = .ok (.bipush (-20), 2) := dk_16 236 (dk_at dksX0_ground_6 9 rfl rfl)
theorem dX0_ground_150 : decode cX0_ground 150 = .ok (.aload_n 1, 1) := dk_43 (dk_at dksX0_ground_6 11 rfl rfl)
theorem dX0_ground_151 : decode cX0_ground 151 = .ok (.getfield 295, 3) := dk_180 1 39 (dk_at dksX0_ground_6 12 rfl rfl)
theorem dX0_ground_154 : decode cX0_ground 154 = .ok (.isub, 1) := dk_100 (dk_at dksX0_ground_6 15 rfl rfl)
theorem dX0_ground_155 : decode cX0_ground 155 = .ok (.istore_n 2, 1) := dk_61 (dk_at dksX0_ground_6 16 rfl rfl)
theorem dX0_ground_156 : decode cX0_ground 156 = .ok (.aload_n 0, 1) := dk_42 (dk_at dksX0_ground_6 17 rfl rfl)
theorem dX0_ground_157 : decode cX0_ground 157 = .ok (.iconst 0, 1) := dk_3 (dk_at dksX0_ground_6 18 rfl rfl)
theorem dX0_ground_158 : decode cX0_ground 158 = .ok (.putfield 256, 3) := dk_181 1 0 (dk_at dksX0_ground_6 19 rfl rfl)
theorem dX0_ground_161 : decode cX0_ground 161 = .ok (.iload_n 2, 1) := dk_28 (dk_at dksX0_ground_6 22 rfl rfl)
theorem dX0_ground_162 : decode cX0_ground 162 = .ok (.ireturn, 1) := dk_172 (dk_at dksX0_ground_6 23 rfl rfl)
theorem dX0_ground_163 : decode cX0_ground 163 = .ok (.astore_n 3, 1) := dk_78 (dk_at dksX0_ground_7 0 rfl rfl)
theorem dX0_ground_164 : decode cX0_ground 164 = .ok (.aload_n 0, 1) := dk_42 (dk_at dksX0_ground_7 1 rfl rfl)
theorem dX0_ground_165 : decode cX0_ground 165 = .ok (.iconst 0, 1) := dk_3 (dk_at dksX0_ground_7 2 rfl rfl)
theorem dX0_ground_166 : decode cX0_ground 166 = .ok (.putfield 256, 3) := dk_181 1 0 (dk_at dksX0_ground_7 3 rfl rfl)
theorem dX0_ground_169 : decode cX0_ground 169 = .ok (.aload_n 3, 1) := dk_45 (dk_at dksX0_ground_7 6 rfl rfl)
theorem dX0_ground_170 : decode cX0_ground 170 = .ok (.athrow, 1) := dk_191 (dk_at dksX0_ground_7 7 rfl rfl)
abbrev cX0_must : ByteArray := prog_1_method_52_code
def yX0_must : MethodName := ⟨RX0, "must", "(I)V"⟩
def dkwX0_must_0 : List UInt8 := [42, 27, 182, 1, 12, 154, 0, 15, 187, 1, 15, 89, 42, 180, 1, 6, 183, 1, 17, 191, 177]
abbrev dktX0_must_0 : List UInt8 := dkwX0_must_0 ++ []
theorem dksX0_must_0 : cX0_must.data.toList.drop 0 = dktX0_must_0 := by decide +kernel
theorem dX0_must_0 : decode cX0_must 0 = .ok (.aload_n 0, 1) := dk_42 (dk_at dksX0_must_0 0 rfl rfl)
theorem dX0_must_1 : decode cX0_must 1 = .ok (.iload_n 1, 1) := dk_27 (dk_at dksX0_must_0 1 rfl rfl)
theorem dX0_must_2 : decode cX0_must 2 = .ok (.invokevirtual 268, 3) := dk_182 1 12 (dk_at dksX0_must_0 2 rfl rfl)
theorem dX0_must_5 : decode cX0_must 5 = .ok (.ifCond .ne 15, 3) := dk_154 0 15 (dk_at dksX0_must_0 5 rfl rfl)
theorem dX0_must_8 : decode cX0_must 8 = .ok (.new 271, 3) := dk_187 1 15 (dk_at dksX0_must_0 8 rfl rfl)
theorem dX0_must_11 : decode cX0_must 11 = .ok (.dup, 1) := dk_89 (dk_at dksX0_must_0 11 rfl rfl)
theorem dX0_must_12 : decode cX0_must 12 = .ok (.aload_n 0, 1) := dk_42 (dk_at dksX0_must_0 12 rfl rfl)
theorem dX0_must_13 : decode cX0_must 13 = .ok (.getfield 262, 3) := dk_180 1 6 (dk_at dksX0_must_0 13 rfl rfl)
theorem dX0_must_16 : decode cX0_must 16 = .ok (.invokespecial 273, 3) := dk_183 1 17 (dk_at dksX0_must_0 16 rfl rfl)
theorem dX0_must_19 : decode cX0_must 19 = .ok (.athrow, 1) := dk_191 (dk_at dksX0_must_0 19 rfl rfl)
theorem dX0_must_20 : decode cX0_must 20 = .ok (.return_, 1) := dk_177 (dk_at dksX0_must_0 20 rfl rfl)
abbrev cX0_passes : ByteArray := prog_1_method_51_code
def yX0_passes : MethodName := ⟨RX0, "passes", "(I)Z"⟩
def dkwX0_passes_1 : List UInt8 := [167, 0, 4, 3, 96, 181, 1, 6, 28, 172]
abbrev dktX0_passes_1 : List UInt8 := dkwX0_passes_1 ++ []
def dkwX0_passes_0 : List UInt8 := [42, 182, 1, 9, 27, 160, 0, 7, 4, 167, 0, 4, 3, 61, 42, 89, 180, 1, 6, 28, 153, 0, 7, 4]
abbrev dktX0_passes_0 : List UInt8 := dkwX0_passes_0 ++ dktX0_passes_1
theorem dksX0_passes_0 : cX0_passes.data.toList.drop 0 = dktX0_passes_0 := by decide +kernel
theorem dksX0_passes_1 : cX0_passes.data.toList.drop 24 = dktX0_passes_1 := dk_seg dksX0_passes_0 24 rfl rfl
theorem dX0_passes_0 : decode cX0_passes 0 = .ok (.aload_n 0, 1) := dk_42 (dk_at dksX0_passes_0 0 rfl rfl)
theorem dX0_passes_1 : decode cX0_passes 1 = .ok (.invokevirtual 265, 3) := dk_182 1 9 (dk_at dksX0_passes_0 1 rfl rfl)
theorem dX0_passes_4 : decode cX0_passes 4 = .ok (.iload_n 1, 1) := dk_27 (dk_at dksX0_passes_0 4 rfl rfl)
theorem dX0_passes_5 : decode cX0_passes 5 = .ok (.if_icmp .ne 7, 3) := dk_160 0 7 (dk_at dksX0_passes_0 5 rfl rfl)
theorem dX0_passes_8 : decode cX0_passes 8 = .ok (.iconst 1, 1) := dk_4 (dk_at dksX0_passes_0 8 rfl rfl)
theorem dX0_passes_9 : decode cX0_passes 9 = .ok (.goto 4, 3) := dk_167 0 4 (dk_at dksX0_passes_0 9 rfl rfl)
theorem dX0_passes_12 : decode cX0_passes 12 = .ok (.iconst 0, 1) := dk_3 (dk_at dksX0_passes_0 12 rfl rfl)
theorem dX0_passes_13 : decode cX0_passes 13 = .ok (.istore_n 2, 1) := dk_61 (dk_at dksX0_passes_0 13 rfl rfl)
theorem dX0_passes_14 : decode cX0_passes 14 = .ok (.aload_n 0, 1) := dk_42 (dk_at dksX0_passes_0 14 rfl rfl)
theorem dX0_passes_15 : decode cX0_passes 15 = .ok (.dup, 1) := dk_89 (dk_at dksX0_passes_0 15 rfl rfl)
theorem dX0_passes_16 : decode cX0_passes 16 = .ok (.getfield 262, 3) := dk_180 1 6 (dk_at dksX0_passes_0 16 rfl rfl)
theorem dX0_passes_19 : decode cX0_passes 19 = .ok (.iload_n 2, 1) := dk_28 (dk_at dksX0_passes_0 19 rfl rfl)
theorem dX0_passes_20 : decode cX0_passes 20 = .ok (.ifCond .eq 7, 3) := dk_153 0 7 (dk_at dksX0_passes_0 20 rfl rfl)
theorem dX0_passes_23 : decode cX0_passes 23 = .ok (.iconst 1, 1) := dk_4 (dk_at dksX0_passes_0 23 rfl rfl)
theorem dX0_passes_24 : decode cX0_passes 24 = .ok (.goto 4, 3) := dk_167 0 4 (dk_at dksX0_passes_1 0 rfl rfl)
theorem dX0_passes_27 : decode cX0_passes 27 = .ok (.iconst 0, 1) := dk_3 (dk_at dksX0_passes_1 3 rfl rfl)
theorem dX0_passes_28 : decode cX0_passes 28 = .ok (.iadd, 1) := dk_96 (dk_at dksX0_passes_1 4 rfl rfl)
theorem dX0_passes_29 : decode cX0_passes 29 = .ok (.putfield 262, 3) := dk_181 1 6 (dk_at dksX0_passes_1 5 rfl rfl)
theorem dX0_passes_32 : decode cX0_passes 32 = .ok (.iload_n 2, 1) := dk_28 (dk_at dksX0_passes_1 8 rfl rfl)
theorem dX0_passes_33 : decode cX0_passes 33 = .ok (.ireturn, 1) := dk_172 (dk_at dksX0_passes_1 9 rfl rfl)
abbrev cX0_here : ByteArray := prog_1_method_50_code
def yX0_here : MethodName := ⟨RX0, "here", "()I"⟩
def dkwX0_here_2 : List UInt8 := [162, 0, 15, 42, 180, 1, 3, 42, 180, 1, 6, 51, 167, 0, 4, 3, 172]
abbrev dktX0_here_2 : List UInt8 := dkwX0_here_2 ++ []
def dkwX0_here_1 : List UInt8 := [160, 0, 16, 42, 89, 180, 1, 6, 4, 96, 181, 1, 6, 167, 255, 221, 42, 180, 1, 6, 42, 180, 1, 0]
abbrev dktX0_here_1 : List UInt8 := dkwX0_here_1 ++ dktX0_here_2
def dkwX0_here_0 : List UInt8 := [42, 180, 1, 6, 42, 180, 1, 0, 162, 0, 30, 42, 180, 1, 3, 42, 180, 1, 6, 51, 16, 32]
abbrev dktX0_here_0 : List UInt8 := dkwX0_here_0 ++ dktX0_here_1
theorem dksX0_here_0 : cX0_here.data.toList.drop 0 = dktX0_here_0 := by decide +kernel
theorem dksX0_here_1 : cX0_here.data.toList.drop 22 = dktX0_here_1 := dk_seg dksX0_here_0 22 rfl rfl
theorem dksX0_here_2 : cX0_here.data.toList.drop 46 = dktX0_here_2 := dk_seg dksX0_here_1 24 rfl rfl
theorem dX0_here_0 : decode cX0_here 0 = .ok (.aload_n 0, 1) := dk_42 (dk_at dksX0_here_0 0 rfl rfl)
theorem dX0_here_1 : decode cX0_here 1 = .ok (.getfield 262, 3) := dk_180 1 6 (dk_at dksX0_here_0 1 rfl rfl)
theorem dX0_here_4 : decode cX0_here 4 = .ok (.aload_n 0, 1) := dk_42 (dk_at dksX0_here_0 4 rfl rfl)
theorem dX0_here_5 : decode cX0_here 5 = .ok (.getfield 256, 3) := dk_180 1 0 (dk_at dksX0_here_0 5 rfl rfl)
theorem dX0_here_8 : decode cX0_here 8 = .ok (.if_icmp .ge 30, 3) := dk_162 0 30 (dk_at dksX0_here_0 8 rfl rfl)
theorem dX0_here_11 : decode cX0_here 11 = .ok (.aload_n 0, 1) := dk_42 (dk_at dksX0_here_0 11 rfl rfl)
theorem dX0_here_12 : decode cX0_here 12 = .ok (.getfield 259, 3) := dk_180 1 3 (dk_at dksX0_here_0 12 rfl rfl)
theorem dX0_here_15 : decode cX0_here 15 = .ok (.aload_n 0, 1) := dk_42 (dk_at dksX0_here_0 15 rfl rfl)
theorem dX0_here_16 : decode cX0_here 16 = .ok (.getfield 262, 3) := dk_180 1 6 (dk_at dksX0_here_0 16 rfl rfl)
theorem dX0_here_19 : decode cX0_here 19 = .ok (.baload, 1) := dk_51 (dk_at dksX0_here_0 19 rfl rfl)
theorem dX0_here_20 : decode cX0_here 20 = .ok (.bipush 32, 2) := dk_16 32 (dk_at dksX0_here_0 20 rfl rfl)
theorem dX0_here_22 : decode cX0_here 22 = .ok (.if_icmp .ne 16, 3) := dk_160 0 16 (dk_at dksX0_here_1 0 rfl rfl)
theorem dX0_here_25 : decode cX0_here 25 = .ok (.aload_n 0, 1) := dk_42 (dk_at dksX0_here_1 3 rfl rfl)
theorem dX0_here_26 : decode cX0_here 26 = .ok (.dup, 1) := dk_89 (dk_at dksX0_here_1 4 rfl rfl)
theorem dX0_here_27 : decode cX0_here 27 = .ok (.getfield 262, 3) := dk_180 1 6 (dk_at dksX0_here_1 5 rfl rfl)
theorem dX0_here_30 : decode cX0_here 30 = .ok (.iconst 1, 1) := dk_4 (dk_at dksX0_here_1 8 rfl rfl)
theorem dX0_here_31 : decode cX0_here 31 = .ok (.iadd, 1) := dk_96 (dk_at dksX0_here_1 9 rfl rfl)
theorem dX0_here_32 : decode cX0_here 32 = .ok (.putfield 262, 3) := dk_181 1 6 (dk_at dksX0_here_1 10 rfl rfl)
theorem dX0_here_35 : decode cX0_here 35 = .ok (.goto (-35), 3) := dk_167 255 221 (dk_at dksX0_here_1 13 rfl rfl)
theorem dX0_here_38 : decode cX0_here 38 = .ok (.aload_n 0, 1) := dk_42 (dk_at dksX0_here_1 16 rfl rfl)
theorem dX0_here_39 : decode cX0_here 39 = .ok (.getfield 262, 3) := dk_180 1 6 (dk_at dksX0_here_1 17 rfl rfl)
theorem dX0_here_42 : decode cX0_here 42 = .ok (.aload_n 0, 1) := dk_42 (dk_at dksX0_here_1 20 rfl rfl)
theorem dX0_here_43 : decode cX0_here 43 = .ok (.getfield 256, 3) := dk_180 1 0 (dk_at dksX0_here_1 21 rfl rfl)
theorem dX0_here_46 : decode cX0_here 46 = .ok (.if_icmp .ge 15, 3) := dk_162 0 15 (dk_at dksX0_here_2 0 rfl rfl)
theorem dX0_here_49 : decode cX0_here 49 = .ok (.aload_n 0, 1) := dk_42 (dk_at dksX0_here_2 3 rfl rfl)
theorem dX0_here_50 : decode cX0_here 50 = .ok (.getfield 259, 3) := dk_180 1 3 (dk_at dksX0_here_2 4 rfl rfl)
theorem dX0_here_53 : decode cX0_here 53 = .ok (.aload_n 0, 1) := dk_42 (dk_at dksX0_here_2 7 rfl rfl)
theorem dX0_here_54 : decode cX0_here 54 = .ok (.getfield 262, 3) := dk_180 1 6 (dk_at dksX0_here_2 8 rfl rfl)
theorem dX0_here_57 : decode cX0_here 57 = .ok (.baload, 1) := dk_51 (dk_at dksX0_here_2 11 rfl rfl)
theorem dX0_here_58 : decode cX0_here 58 = .ok (.goto 4, 3) := dk_167 0 4 (dk_at dksX0_here_2 12 rfl rfl)
theorem dX0_here_61 : decode cX0_here 61 = .ok (.iconst 0, 1) := dk_3 (dk_at dksX0_here_2 15 rfl rfl)
theorem dX0_here_62 : decode cX0_here 62 = .ok (.ireturn, 1) := dk_172 (dk_at dksX0_here_2 16 rfl rfl)
abbrev cX0_figure : ByteArray := prog_1_method_54_code
def yX0_figure : MethodName := ⟨RX0, "figure", "(I)I"⟩
def dkwX0_figure_1 : List UInt8 := [89, 42, 180, 1, 6, 183, 1, 17, 191, 42, 89, 180, 1, 6, 4, 96, 181, 1, 6, 28, 16, 48, 100, 172]
abbrev dktX0_figure_1 : List UInt8 := dkwX0_figure_1 ++ []
def dkwX0_figure_0 : List UInt8 := [42, 182, 1, 9, 61, 28, 133, 20, 1, 25, 16, 48, 27, 96, 133, 184, 0, 5, 154, 0, 15, 187, 1, 15]
abbrev dktX0_figure_0 : List UInt8 := dkwX0_figure_0 ++ dktX0_figure_1
theorem dksX0_figure_0 : cX0_figure.data.toList.drop 0 = dktX0_figure_0 := by decide +kernel
theorem dksX0_figure_1 : cX0_figure.data.toList.drop 24 = dktX0_figure_1 := dk_seg dksX0_figure_0 24 rfl rfl
theorem dX0_figure_0 : decode cX0_figure 0 = .ok (.aload_n 0, 1) := dk_42 (dk_at dksX0_figure_0 0 rfl rfl)
theorem dX0_figure_1 : decode cX0_figure 1 = .ok (.invokevirtual 265, 3) := dk_182 1 9 (dk_at dksX0_figure_0 1 rfl rfl)
theorem dX0_figure_4 : decode cX0_figure 4 = .ok (.istore_n 2, 1) := dk_61 (dk_at dksX0_figure_0 4 rfl rfl)
theorem dX0_figure_5 : decode cX0_figure 5 = .ok (.iload_n 2, 1) := dk_28 (dk_at dksX0_figure_0 5 rfl rfl)
theorem dX0_figure_6 : decode cX0_figure 6 = .ok (.i2l, 1) := dk_133 (dk_at dksX0_figure_0 6 rfl rfl)
theorem dX0_figure_7 : decode cX0_figure 7 = .ok (.ldc2_w 281, 3) := dk_20 1 25 (dk_at dksX0_figure_0 7 rfl rfl)
theorem dX0_figure_10 : decode cX0_figure 10 = .ok (.bipush 48, 2) := dk_16 48 (dk_at dksX0_figure_0 10 rfl rfl)
theorem dX0_figure_12 : decode cX0_figure 12 = .ok (.iload_n 1, 1) := dk_27 (dk_at dksX0_figure_0 12 rfl rfl)
theorem dX0_figure_13 : decode cX0_figure 13 = .ok (.iadd, 1) := dk_96 (dk_at dksX0_figure_0 13 rfl rfl)
theorem dX0_figure_14 : decode cX0_figure 14 = .ok (.i2l, 1) := dk_133 (dk_at dksX0_figure_0 14 rfl rfl)
theorem dX0_figure_15 : decode cX0_figure 15 = .ok (.invokestatic 5, 3) := dk_184 0 5 (dk_at dksX0_figure_0 15 rfl rfl)
theorem dX0_figure_18 : decode cX0_figure 18 = .ok (.ifCond .ne 15, 3) := dk_154 0 15 (dk_at dksX0_figure_0 18 rfl rfl)
theorem dX0_figure_21 : decode cX0_figure 21 = .ok (.new 271, 3) := dk_187 1 15 (dk_at dksX0_figure_0 21 rfl rfl)
theorem dX0_figure_24 : decode cX0_figure 24 = .ok (.dup, 1) := dk_89 (dk_at dksX0_figure_1 0 rfl rfl)
theorem dX0_figure_25 : decode cX0_figure 25 = .ok (.aload_n 0, 1) := dk_42 (dk_at dksX0_figure_1 1 rfl rfl)
theorem dX0_figure_26 : decode cX0_figure 26 = .ok (.getfield 262, 3) := dk_180 1 6 (dk_at dksX0_figure_1 2 rfl rfl)
theorem dX0_figure_29 : decode cX0_figure 29 = .ok (.invokespecial 273, 3) := dk_183 1 17 (dk_at dksX0_figure_1 5 rfl rfl)
theorem dX0_figure_32 : decode cX0_figure 32 = .ok (.athrow, 1) := dk_191 (dk_at dksX0_figure_1 8 rfl rfl)
theorem dX0_figure_33 : decode cX0_figure 33 = .ok (.aload_n 0, 1) := dk_42 (dk_at dksX0_figure_1 9 rfl rfl)
theorem dX0_figure_34 : decode cX0_figure 34 = .ok (.dup, 1) := dk_89 (dk_at dksX0_figure_1 10 rfl rfl)
theorem dX0_figure_35 : decode cX0_figure 35 = .ok (.getfield 262, 3) := dk_180 1 6 (dk_at dksX0_figure_1 11 rfl rfl)
theorem dX0_figure_38 : decode cX0_figure 38 = .ok (.iconst 1, 1) := dk_4 (dk_at dksX0_figure_1 14 rfl rfl)
theorem dX0_figure_39 : decode cX0_figure 39 = .ok (.iadd, 1) := dk_96 (dk_at dksX0_figure_1 15 rfl rfl)
theorem dX0_figure_40 : decode cX0_figure 40 = .ok (.putfield 262, 3) := dk_181 1 6 (dk_at dksX0_figure_1 16 rfl rfl)
theorem dX0_figure_43 : decode cX0_figure 43 = .ok (.iload_n 2, 1) := dk_28 (dk_at dksX0_figure_1 19 rfl rfl)
theorem dX0_figure_44 : decode cX0_figure 44 = .ok (.bipush 48, 2) := dk_16 48 (dk_at dksX0_figure_1 20 rfl rfl)
theorem dX0_figure_46 : decode cX0_figure 46 = .ok (.isub, 1) := dk_100 (dk_at dksX0_figure_1 22 rfl rfl)
theorem dX0_figure_47 : decode cX0_figure 47 = .ok (.ireturn, 1) := dk_172 (dk_at dksX0_figure_1 23 rfl rfl)
abbrev cX0_ends : ByteArray := prog_1_method_55_code
def yX0_ends : MethodName := ⟨RX0, "ends", "()V"⟩
def dkwX0_ends_0 : List UInt8 := [42, 182, 1, 9, 153, 0, 15, 187, 1, 15, 89, 42, 180, 1, 6, 183, 1, 17, 191, 177]
abbrev dktX0_ends_0 : List UInt8 := dkwX0_ends_0 ++ []
theorem dksX0_ends_0 : cX0_ends.data.toList.drop 0 = dktX0_ends_0 := by decide +kernel
theorem dX0_ends_0 : decode cX0_ends 0 = .ok (.aload_n 0, 1) := dk_42 (dk_at dksX0_ends_0 0 rfl rfl)
theorem dX0_ends_1 : decode cX0_ends 1 = .ok (.invokevirtual 265, 3) := dk_182 1 9 (dk_at dksX0_ends_0 1 rfl rfl)
theorem dX0_ends_4 : decode cX0_ends 4 = .ok (.ifCond .eq 15, 3) := dk_153 0 15 (dk_at dksX0_ends_0 4 rfl rfl)
theorem dX0_ends_7 : decode cX0_ends 7 = .ok (.new 271, 3) := dk_187 1 15 (dk_at dksX0_ends_0 7 rfl rfl)
theorem dX0_ends_10 : decode cX0_ends 10 = .ok (.dup, 1) := dk_89 (dk_at dksX0_ends_0 10 rfl rfl)
theorem dX0_ends_11 : decode cX0_ends 11 = .ok (.aload_n 0, 1) := dk_42 (dk_at dksX0_ends_0 11 rfl rfl)
theorem dX0_ends_12 : decode cX0_ends 12 = .ok (.getfield 262, 3) := dk_180 1 6 (dk_at dksX0_ends_0 12 rfl rfl)
theorem dX0_ends_15 : decode cX0_ends 15 = .ok (.invokespecial 273, 3) := dk_183 1 17 (dk_at dksX0_ends_0 15 rfl rfl)
theorem dX0_ends_18 : decode cX0_ends 18 = .ok (.athrow, 1) := dk_191 (dk_at dksX0_ends_0 18 rfl rfl)
theorem dX0_ends_19 : decode cX0_ends 19 = .ok (.return_, 1) := dk_177 (dk_at dksX0_ends_0 19 rfl rfl)
abbrev cX0_owners : ByteArray := prog_1_method_57_code
def yX0_owners : MethodName := ⟨RX0, "owners", "()I"⟩
def dkwX0_owners_5 : List UInt8 := [100, 61, 42, 3, 181, 1, 0, 28, 172, 78, 42, 3, 181, 1, 0, 45, 191]
abbrev dktX0_owners_5 : List UInt8 := dkwX0_owners_5 ++ []
def dkwX0_owners_4 : List UInt8 := [96, 60, 132, 2, 1, 167, 255, 229, 27, 61, 42, 3, 181, 1, 0, 28, 172, 76, 16, 236, 43, 180, 1, 39]
abbrev dktX0_owners_4 : List UInt8 := dkwX0_owners_4 ++ dktX0_owners_5
def dkwX0_owners_3 : List UInt8 := [3, 61, 28, 16, 36, 162, 0, 27, 27, 42, 180, 0, 88, 28, 51, 7, 160, 0, 7, 3, 167, 0, 4, 4]
abbrev dktX0_owners_3 : List UInt8 := dkwX0_owners_3 ++ dktX0_owners_4
def dkwX0_owners_2 : List UInt8 := [167, 255, 215, 42, 182, 1, 36, 42, 180, 1, 42, 3, 42, 180, 0, 88, 3, 16, 36, 184, 0, 221, 3, 60]
abbrev dktX0_owners_2 : List UInt8 := dkwX0_owners_2 ++ dktX0_owners_3
def dkwX0_owners_1 : List UInt8 := [42, 16, 47, 182, 1, 12, 87, 42, 180, 1, 42, 27, 42, 19, 1, 45, 182, 1, 47, 145, 84, 132, 1, 1]
abbrev dktX0_owners_1 : List UInt8 := dkwX0_owners_1 ++ dktX0_owners_2
def dkwX0_owners_0 : List UInt8 := [42, 3, 181, 1, 6, 3, 60, 27, 16, 36, 162, 0, 41, 27, 158, 0, 17, 27, 16, 6, 112, 154, 0, 10]
abbrev dktX0_owners_0 : List UInt8 := dkwX0_owners_0 ++ dktX0_owners_1
theorem dksX0_owners_0 : cX0_owners.data.toList.drop 0 = dktX0_owners_0 := by decide +kernel
theorem dksX0_owners_1 : cX0_owners.data.toList.drop 24 = dktX0_owners_1 := dk_seg dksX0_owners_0 24 rfl rfl
theorem dksX0_owners_2 : cX0_owners.data.toList.drop 48 = dktX0_owners_2 := dk_seg dksX0_owners_1 24 rfl rfl
theorem dksX0_owners_3 : cX0_owners.data.toList.drop 72 = dktX0_owners_3 := dk_seg dksX0_owners_2 24 rfl rfl
theorem dksX0_owners_4 : cX0_owners.data.toList.drop 96 = dktX0_owners_4 := dk_seg dksX0_owners_3 24 rfl rfl
theorem dksX0_owners_5 : cX0_owners.data.toList.drop 120 = dktX0_owners_5 := dk_seg dksX0_owners_4 24 rfl rfl
theorem dX0_owners_0 : decode cX0_owners 0 = .ok (.aload_n 0, 1) := dk_42 (dk_at dksX0_owners_0 0 rfl rfl)
theorem dX0_owners_1 : decode cX0_owners 1 = .ok (.iconst 0, 1) := dk_3 (dk_at dksX0_owners_0 1 rfl rfl)
theorem dX0_owners_2 : decode cX0_owners 2 = .ok (.putfield 262, 3) := dk_181 1 6 (dk_at dksX0_owners_0 2 rfl rfl)
theorem dX0_owners_5 : decode cX0_owners 5 = .ok (.iconst 0, 1) := dk_3 (dk_at dksX0_owners_0 5 rfl rfl)
theorem dX0_owners_6 : decode cX0_owners 6 = .ok (.istore_n 1, 1) := dk_60 (dk_at dksX0_owners_0 6 rfl rfl)
theorem dX0_owners_7 : decode cX0_owners 7 = .ok (.iload_n 1, 1) := dk_27 (dk_at dksX0_owners_0 7 rfl rfl)
theorem dX0_owners_8 : decode cX0_owners 8 = .ok (.bipush 36, 2) := dk_16 36 (dk_at dksX0_owners_0 8 rfl rfl)
theorem dX0_owners_10 : decode cX0_owners 10 = .ok (.if_icmp .ge 41, 3) := dk_162 0 41 (dk_at dksX0_owners_0 10 rfl rfl)
theorem dX0_owners_13 : decode cX0_owners 13 = .ok (.iload_n 1, 1) := dk_27 (dk_at dksX0_owners_0 13 rfl rfl)
theorem dX0_owners_14 : decode cX0_owners 14 = .ok (.ifCond .le 17, 3) := dk_158 0 17 (dk_at dksX0_owners_0 14 rfl rfl)
theorem dX0_owners_17 : decode cX0_owners 17 = .ok (.iload_n 1, 1) := dk_27 (dk_at dksX0_owners_0 17 rfl rfl)
theorem dX0_owners_18 : decode cX0_owners 18 = .ok (.bipush 6, 2) := dk_16 6 (dk_at dksX0_owners_0 18 rfl rfl)
theorem dX0_owners_20 : decode cX0_owners 20 = .ok (.irem, 1) := dk_112 (dk_at dksX0_owners_0 20 rfl rfl)
theorem dX0_owners_21 : decode cX0_owners 21 = .ok (.ifCond .ne 10, 3) := dk_154 0 10 (dk_at dksX0_owners_0 21 rfl rfl)
theorem dX0_owners_24 : decode cX0_owners 24 = .ok (.aload_n 0, 1) := dk_42 (dk_at dksX0_owners_1 0 rfl rfl)
theorem dX0_owners_25 : decode cX0_owners 25 = .ok (.bipush 47, 2) := dk_16 47 (dk_at dksX0_owners_1 1 rfl rfl)
theorem dX0_owners_27 : decode cX0_owners 27 = .ok (.invokevirtual 268, 3) := dk_182 1 12 (dk_at dksX0_owners_1 3 rfl rfl)
theorem dX0_owners_30 : decode cX0_owners 30 = .ok (.pop, 1) := dk_87 (dk_at dksX0_owners_1 6 rfl rfl)
theorem dX0_owners_31 : decode cX0_owners 31 = .ok (.aload_n 0, 1) := dk_42 (dk_at dksX0_owners_1 7 rfl rfl)
theorem dX0_owners_32 : decode cX0_owners 32 = .ok (.getfield 298, 3) := dk_180 1 42 (dk_at dksX0_owners_1 8 rfl rfl)
theorem dX0_owners_35 : decode cX0_owners 35 = .ok (.iload_n 1, 1) := dk_27 (dk_at dksX0_owners_1 11 rfl rfl)
theorem dX0_owners_36 : decode cX0_owners 36 = .ok (.aload_n 0, 1) := dk_42 (dk_at dksX0_owners_1 12 rfl rfl)
theorem dX0_owners_37 : decode cX0_owners 37 = .ok (.ldc_w 301, 3) := dk_19 1 45 (dk_at dksX0_owners_1 13 rfl rfl)
theorem dX0_owners_40 : decode cX0_owners 40 = .ok (.invokevirtual 303, 3) := dk_182 1 47 (dk_at dksX0_owners_1 16 rfl rfl)
theorem dX0_owners_43 : decode cX0_owners 43 = .ok (.i2b, 1) := dk_145 (dk_at dksX0_owners_1 19 rfl rfl)
theorem dX0_owners_44 : decode cX0_owners 44 = .ok (.bastore, 1) := dk_84 (dk_at dksX0_owners_1 20 rfl rfl)
theorem dX0_owners_45 : decode cX0_owners 45 = .ok (.iinc 1 1, 3) := dk_132 1 1 (dk_at dksX0_owners_1 21 rfl rfl)
theorem dX0_owners_48 : decode cX0_owners 48 = .ok (.goto (-41), 3) := dk_167 255 215 (dk_at dksX0_owners_2 0 rfl rfl)
theorem dX0_owners_51 : decode cX0_owners 51 = .ok (.aload_n 0, 1) := dk_42 (dk_at dksX0_owners_2 3 rfl rfl)
theorem dX0_owners_52 : decode cX0_owners 52 = .ok (.invokevirtual 292, 3) := dk_182 1 36 (dk_at dksX0_owners_2 4 rfl rfl)
theorem dX0_owners_55 : decode cX0_owners 55 = .ok (.aload_n 0, 1) := dk_42 (dk_at dksX0_owners_2 7 rfl rfl)
theorem dX0_owners_56 : decode cX0_owners 56 = .ok (.getfield 298, 3) := dk_180 1 42 (dk_at dksX0_owners_2 8 rfl rfl)
theorem dX0_owners_59 : decode cX0_owners 59 = .ok (.iconst 0, 1) := dk_3 (dk_at dksX0_owners_2 11 rfl rfl)
theorem dX0_owners_60 : decode cX0_owners 60 = .ok (.aload_n 0, 1) := dk_42 (dk_at dksX0_owners_2 12 rfl rfl)
theorem dX0_owners_61 : decode cX0_owners 61 = .ok (.getfield 88, 3) := dk_180 0 88 (dk_at dksX0_owners_2 13 rfl rfl)
theorem dX0_owners_64 : decode cX0_owners 64 = .ok (.iconst 0, 1) := dk_3 (dk_at dksX0_owners_2 16 rfl rfl)
theorem dX0_owners_65 : decode cX0_owners 65 = .ok (.bipush 36, 2) := dk_16 36 (dk_at dksX0_owners_2 17 rfl rfl)
theorem dX0_owners_67 : decode cX0_owners 67 = .ok (.invokestatic 221, 3) := dk_184 0 221 (dk_at dksX0_owners_2 19 rfl rfl)
theorem dX0_owners_70 : decode cX0_owners 70 = .ok (.iconst 0, 1) := dk_3 (dk_at dksX0_owners_2 22 rfl rfl)
theorem dX0_owners_71 : decode cX0_owners 71 = .ok (.istore_n 1, 1) := dk_60 (dk_at dksX0_owners_2 23 rfl rfl)
theorem dX0_owners_72 : decode cX0_owners 72 = .ok (.iconst 0, 1) := dk_3 (dk_at dksX0_owners_3 0 rfl rfl)
theorem dX0_owners_73 : decode cX0_owners 73 = .ok (.istore_n 2, 1) := dk_61 (dk_at dksX0_owners_3 1 rfl rfl)
theorem dX0_owners_74 : decode cX0_owners 74 = .ok (.iload_n 2, 1) := dk_28 (dk_at dksX0_owners_3 2 rfl rfl)
theorem dX0_owners_75 : decode cX0_owners 75 = .ok (.bipush 36, 2) := dk_16 36 (dk_at dksX0_owners_3 3 rfl rfl)
theorem dX0_owners_77 : decode cX0_owners 77 = .ok (.if_icmp .ge 27, 3) := dk_162 0 27 (dk_at dksX0_owners_3 5 rfl rfl)
theorem dX0_owners_80 : decode cX0_owners 80 = .ok (.iload_n 1, 1) := dk_27 (dk_at dksX0_owners_3 8 rfl rfl)
theorem dX0_owners_81 : decode cX0_owners 81 = .ok (.aload_n 0, 1) := dk_42 (dk_at dksX0_owners_3 9 rfl rfl)
theorem dX0_owners_82 : decode cX0_owners 82 = .ok (.getfield 88, 3) := dk_180 0 88 (dk_at dksX0_owners_3 10 rfl rfl)
theorem dX0_owners_85 : decode cX0_owners 85 = .ok (.iload_n 2, 1) := dk_28 (dk_at dksX0_owners_3 13 rfl rfl)
theorem dX0_owners_86 : decode cX0_owners 86 = .ok (.baload, 1) := dk_51 (dk_at dksX0_owners_3 14 rfl rfl)
theorem dX0_owners_87 : decode cX0_owners 87 = .ok (.iconst 4, 1) := dk_7 (dk_at dksX0_owners_3 15 rfl rfl)
theorem dX0_owners_88 : decode cX0_owners 88 = .ok (.if_icmp .ne 7, 3) := dk_160 0 7 (dk_at dksX0_owners_3 16 rfl rfl)
theorem dX0_owners_91 : decode cX0_owners 91 = .ok (.iconst 0, 1) := dk_3 (dk_at dksX0_owners_3 19 rfl rfl)
theorem dX0_owners_92 : decode cX0_owners 92 = .ok (.goto 4, 3) := dk_167 0 4 (dk_at dksX0_owners_3 20 rfl rfl)
theorem dX0_owners_95 : decode cX0_owners 95 = .ok (.iconst 1, 1) := dk_4 (dk_at dksX0_owners_3 23 rfl rfl)
theorem dX0_owners_96 : decode cX0_owners 96 = .ok (.iadd, 1) := dk_96 (dk_at dksX0_owners_4 0 rfl rfl)
theorem dX0_owners_97 : decode cX0_owners 97 = .ok (.istore_n 1, 1) := dk_60 (dk_at dksX0_owners_4 1 rfl rfl)
theorem dX0_owners_98 : decode cX0_owners 98 = .ok (.iinc 2 1, 3) := dk_132 2 1 (dk_at dksX0_owners_4 2 rfl rfl)
theorem dX0_owners_101 : decode cX0_owners 101 = .ok (.goto (-27), 3) := dk_167 255 229 (dk_at dksX0_owners_4 5 rfl rfl)
theorem dX0_owners_104 : decode cX0_owners 104 = .ok (.iload_n 1, 1) := dk_27 (dk_at dksX0_owners_4 8 rfl rfl)
theorem dX0_owners_105 : decode cX0_owners 105 = .ok (.istore_n 2, 1) := dk_61 (dk_at dksX0_owners_4 9 rfl rfl)
theorem dX0_owners_106 : decode cX0_owners 106 = .ok (.aload_n 0, 1) := dk_42 (dk_at dksX0_owners_4 10 rfl rfl)
theorem dX0_owners_107 : decode cX0_owners 107 = .ok (.iconst 0, 1) := dk_3 (dk_at dksX0_owners_4 11 rfl rfl)
theorem dX0_owners_108 : decode cX0_owners 108 = .ok (.putfield 256, 3) := dk_181 1 0 (dk_at dksX0_owners_4 12 rfl rfl)
theorem dX0_owners_111 : decode cX0_owners 111 = .ok (.iload_n 2, 1) := dk_28 (dk_at dksX0_owners_4 15 rfl rfl)
theorem dX0_owners_112 : decode cX0_owners 112 = .ok (.ireturn, 1) := dk_172 (dk_at dksX0_owners_4 16 rfl rfl)
theorem dX0_owners_113 : decode cX0_owners 113 = .ok (.astore_n 1, 1) := dk_76 (dk_at dksX0_owners_4 17 rfl rfl)
theorem dX0_owners_114 : decode cX0_owners 114 = .ok (.bipush (-20), 2) := dk_16 236 (dk_at dksX0_owners_4 18 rfl rfl)
theorem dX0_owners_116 : decode cX0_owners 116 = .ok (.aload_n 1, 1) := dk_43 (dk_at dksX0_owners_4 20 rfl rfl)
theorem dX0_owners_117 : decode cX0_owners 117 = .ok (.getfield 295, 3) := dk_180 1 39 (dk_at dksX0_owners_4 21 rfl rfl)
theorem dX0_owners_120 : decode cX0_owners 120 = .ok (.isub, 1) := dk_100 (dk_at dksX0_owners_5 0 rfl rfl)
theorem dX0_owners_121 : decode cX0_owners 121 = .ok (.istore_n 2, 1) := dk_61 (dk_at dksX0_owners_5 1 rfl rfl)
theorem dX0_owners_122 : decode cX0_owners 122 = .ok (.aload_n 0, 1) := dk_42 (dk_at dksX0_owners_5 2 rfl rfl)
theorem dX0_owners_123 : decode cX0_owners 123 = .ok (.iconst 0, 1) := dk_3 (dk_at dksX0_owners_5 3 rfl rfl)
theorem dX0_owners_124 : decode cX0_owners 124 = .ok (.putfield 256, 3) := dk_181 1 0 (dk_at dksX0_owners_5 4 rfl rfl)
theorem dX0_owners_127 : decode cX0_owners 127 = .ok (.iload_n 2, 1) := dk_28 (dk_at dksX0_owners_5 7 rfl rfl)
theorem dX0_owners_128 : decode cX0_owners 128 = .ok (.ireturn, 1) := dk_172 (dk_at dksX0_owners_5 8 rfl rfl)
theorem dX0_owners_129 : decode cX0_owners 129 = .ok (.astore_n 3, 1) := dk_78 (dk_at dksX0_owners_5 9 rfl rfl)
theorem dX0_owners_130 : decode cX0_owners 130 = .ok (.aload_n 0, 1) := dk_42 (dk_at dksX0_owners_5 10 rfl rfl)
theorem dX0_owners_131 : decode cX0_owners 131 = .ok (.iconst 0, 1) := dk_3 (dk_at dksX0_owners_5 11 rfl rfl)
theorem dX0_owners_132 : decode cX0_owners 132 = .ok (.putfield 256, 3) := dk_181 1 0 (dk_at dksX0_owners_5 12 rfl rfl)
theorem dX0_owners_135 : decode cX0_owners 135 = .ok (.aload_n 3, 1) := dk_45 (dk_at dksX0_owners_5 15 rfl rfl)
theorem dX0_owners_136 : decode cX0_owners 136 = .ok (.athrow, 1) := dk_191 (dk_at dksX0_owners_5 16 rfl rfl)
abbrev cX0_letter : ByteArray := prog_1_method_53_code
def yX0_letter : MethodName := ⟨RX0, "letter", "(Ljava/lang/String;)I"⟩
def dkwX0_letter_2 : List UInt8 := [181, 1, 6, 28, 172]
abbrev dktX0_letter_2 : List UInt8 := dkwX0_letter_2 ++ []
def dkwX0_letter_1 : List UInt8 := [156, 0, 15, 187, 1, 15, 89, 42, 180, 1, 6, 183, 1, 17, 191, 42, 89, 180, 1, 6, 4, 96]
abbrev dktX0_letter_1 : List UInt8 := dkwX0_letter_1 ++ dktX0_letter_2
def dkwX0_letter_0 : List UInt8 := [42, 182, 1, 9, 154, 0, 8, 16, 252, 167, 0, 11, 43, 42, 182, 1, 9, 182, 1, 20, 61, 28]
abbrev dktX0_letter_0 : List UInt8 := dkwX0_letter_0 ++ dktX0_letter_1
theorem dksX0_letter_0 : cX0_letter.data.toList.drop 0 = dktX0_letter_0 := by decide +kernel
theorem dksX0_letter_1 : cX0_letter.data.toList.drop 22 = dktX0_letter_1 := dk_seg dksX0_letter_0 22 rfl rfl
theorem dksX0_letter_2 : cX0_letter.data.toList.drop 44 = dktX0_letter_2 := dk_seg dksX0_letter_1 22 rfl rfl
theorem dX0_letter_0 : decode cX0_letter 0 = .ok (.aload_n 0, 1) := dk_42 (dk_at dksX0_letter_0 0 rfl rfl)
theorem dX0_letter_1 : decode cX0_letter 1 = .ok (.invokevirtual 265, 3) := dk_182 1 9 (dk_at dksX0_letter_0 1 rfl rfl)
theorem dX0_letter_4 : decode cX0_letter 4 = .ok (.ifCond .ne 8, 3) := dk_154 0 8 (dk_at dksX0_letter_0 4 rfl rfl)
theorem dX0_letter_7 : decode cX0_letter 7 = .ok (.bipush (-4), 2) := dk_16 252 (dk_at dksX0_letter_0 7 rfl rfl)
theorem dX0_letter_9 : decode cX0_letter 9 = .ok (.goto 11, 3) := dk_167 0 11 (dk_at dksX0_letter_0 9 rfl rfl)
theorem dX0_letter_12 : decode cX0_letter 12 = .ok (.aload_n 1, 1) := dk_43 (dk_at dksX0_letter_0 12 rfl rfl)
theorem dX0_letter_13 : decode cX0_letter 13 = .ok (.aload_n 0, 1) := dk_42 (dk_at dksX0_letter_0 13 rfl rfl)
theorem dX0_letter_14 : decode cX0_letter 14 = .ok (.invokevirtual 265, 3) := dk_182 1 9 (dk_at dksX0_letter_0 14 rfl rfl)
theorem dX0_letter_17 : decode cX0_letter 17 = .ok (.invokevirtual 276, 3) := dk_182 1 20 (dk_at dksX0_letter_0 17 rfl rfl)
theorem dX0_letter_20 : decode cX0_letter 20 = .ok (.istore_n 2, 1) := dk_61 (dk_at dksX0_letter_0 20 rfl rfl)
theorem dX0_letter_21 : decode cX0_letter 21 = .ok (.iload_n 2, 1) := dk_28 (dk_at dksX0_letter_0 21 rfl rfl)
theorem dX0_letter_22 : decode cX0_letter 22 = .ok (.ifCond .ge 15, 3) := dk_156 0 15 (dk_at dksX0_letter_1 0 rfl rfl)
theorem dX0_letter_25 : decode cX0_letter 25 = .ok (.new 271, 3) := dk_187 1 15 (dk_at dksX0_letter_1 3 rfl rfl)
theorem dX0_letter_28 : decode cX0_letter 28 = .ok (.dup, 1) := dk_89 (dk_at dksX0_letter_1 6 rfl rfl)
theorem dX0_letter_29 : decode cX0_letter 29 = .ok (.aload_n 0, 1) := dk_42 (dk_at dksX0_letter_1 7 rfl rfl)
theorem dX0_letter_30 : decode cX0_letter 30 = .ok (.getfield 262, 3) := dk_180 1 6 (dk_at dksX0_letter_1 8 rfl rfl)
theorem dX0_letter_33 : decode cX0_letter 33 = .ok (.invokespecial 273, 3) := dk_183 1 17 (dk_at dksX0_letter_1 11 rfl rfl)
theorem dX0_letter_36 : decode cX0_letter 36 = .ok (.athrow, 1) := dk_191 (dk_at dksX0_letter_1 14 rfl rfl)
theorem dX0_letter_37 : decode cX0_letter 37 = .ok (.aload_n 0, 1) := dk_42 (dk_at dksX0_letter_1 15 rfl rfl)
theorem dX0_letter_38 : decode cX0_letter 38 = .ok (.dup, 1) := dk_89 (dk_at dksX0_letter_1 16 rfl rfl)
theorem dX0_letter_39 : decode cX0_letter 39 = .ok (.getfield 262, 3) := dk_180 1 6 (dk_at dksX0_letter_1 17 rfl rfl)
theorem dX0_letter_42 : decode cX0_letter 42 = .ok (.iconst 1, 1) := dk_4 (dk_at dksX0_letter_1 20 rfl rfl)
theorem dX0_letter_43 : decode cX0_letter 43 = .ok (.iadd, 1) := dk_96 (dk_at dksX0_letter_1 21 rfl rfl)
theorem dX0_letter_44 : decode cX0_letter 44 = .ok (.putfield 262, 3) := dk_181 1 6 (dk_at dksX0_letter_2 0 rfl rfl)
theorem dX0_letter_47 : decode cX0_letter 47 = .ok (.iload_n 2, 1) := dk_28 (dk_at dksX0_letter_2 3 rfl rfl)
theorem dX0_letter_48 : decode cX0_letter 48 = .ok (.ireturn, 1) := dk_172 (dk_at dksX0_letter_2 4 rfl rfl)
abbrev cX0_day : ByteArray := prog_1_method_59_code
def yX0_day : MethodName := ⟨RX0, "day", "()I"⟩
def dkwX0_day_5 : List UInt8 := [181, 1, 0, 25, 4, 191]
abbrev dktX0_day_5 : List UInt8 := dkwX0_day_5 ++ []
def dkwX0_day_4 : List UInt8 := [29, 172, 76, 16, 236, 43, 180, 1, 39, 100, 61, 42, 3, 181, 1, 0, 28, 172, 58, 4, 42, 3]
abbrev dktX0_day_4 : List UInt8 := dkwX0_day_4 ++ dktX0_day_5
def dkwX0_day_3 : List UInt8 := [162, 0, 17, 42, 28, 182, 1, 65, 155, 0, 9, 132, 2, 1, 167, 255, 240, 28, 62, 42, 3, 181, 1, 0]
abbrev dktX0_day_3 : List UInt8 := dkwX0_day_3 ++ dktX0_day_4
def dkwX0_day_2 : List UInt8 := [145, 84, 132, 1, 1, 42, 16, 59, 182, 1, 12, 154, 255, 204, 42, 182, 1, 36, 3, 61, 28, 27]
abbrev dktX0_day_2 : List UInt8 := dkwX0_day_2 ++ dktX0_day_3
def dkwX0_day_1 : List UInt8 := [8, 182, 1, 33, 61, 42, 180, 1, 51, 5, 27, 104, 4, 96, 16, 6, 28, 104, 42, 8, 182, 1, 33, 96]
abbrev dktX0_day_1 : List UInt8 := dkwX0_day_1 ++ dktX0_day_2
def dkwX0_day_0 : List UInt8 := [42, 3, 181, 1, 6, 3, 60, 42, 180, 1, 51, 5, 27, 104, 42, 19, 1, 63, 182, 1, 47, 145, 84, 42]
abbrev dktX0_day_0 : List UInt8 := dkwX0_day_0 ++ dktX0_day_1
theorem dksX0_day_0 : cX0_day.data.toList.drop 0 = dktX0_day_0 := by decide +kernel
theorem dksX0_day_1 : cX0_day.data.toList.drop 24 = dktX0_day_1 := dk_seg dksX0_day_0 24 rfl rfl
theorem dksX0_day_2 : cX0_day.data.toList.drop 48 = dktX0_day_2 := dk_seg dksX0_day_1 24 rfl rfl
theorem dksX0_day_3 : cX0_day.data.toList.drop 70 = dktX0_day_3 := dk_seg dksX0_day_2 22 rfl rfl
theorem dksX0_day_4 : cX0_day.data.toList.drop 94 = dktX0_day_4 := dk_seg dksX0_day_3 24 rfl rfl
theorem dksX0_day_5 : cX0_day.data.toList.drop 116 = dktX0_day_5 := dk_seg dksX0_day_4 22 rfl rfl
theorem dX0_day_0 : decode cX0_day 0 = .ok (.aload_n 0, 1) := dk_42 (dk_at dksX0_day_0 0 rfl rfl)
theorem dX0_day_1 : decode cX0_day 1 = .ok (.iconst 0, 1) := dk_3 (dk_at dksX0_day_0 1 rfl rfl)
theorem dX0_day_2 : decode cX0_day 2 = .ok (.putfield 262, 3) := dk_181 1 6 (dk_at dksX0_day_0 2 rfl rfl)
theorem dX0_day_5 : decode cX0_day 5 = .ok (.iconst 0, 1) := dk_3 (dk_at dksX0_day_0 5 rfl rfl)
theorem dX0_day_6 : decode cX0_day 6 = .ok (.istore_n 1, 1) := dk_60 (dk_at dksX0_day_0 6 rfl rfl)
theorem dX0_day_7 : decode cX0_day 7 = .ok (.aload_n 0, 1) := dk_42 (dk_at dksX0_day_0 7 rfl rfl)
theorem dX0_day_8 : decode cX0_day 8 = .ok (.getfield 307, 3) := dk_180 1 51 (dk_at dksX0_day_0 8 rfl rfl)
theorem dX0_day_11 : decode cX0_day 11 = .ok (.iconst 2, 1) := dk_5 (dk_at dksX0_day_0 11 rfl rfl)
theorem dX0_day_12 : decode cX0_day 12 = .ok (.iload_n 1, 1) := dk_27 (dk_at dksX0_day_0 12 rfl rfl)
theorem dX0_day_13 : decode cX0_day 13 = .ok (.imul, 1) := dk_104 (dk_at dksX0_day_0 13 rfl rfl)
theorem dX0_day_14 : decode cX0_day 14 = .ok (.aload_n 0, 1) := dk_42 (dk_at dksX0_day_0 14 rfl rfl)
theorem dX0_day_15 : decode cX0_day 15 = .ok (.ldc_w 319, 3) := dk_19 1 63 (dk_at dksX0_day_0 15 rfl rfl)
theorem dX0_day_18 : decode cX0_day 18 = .ok (.invokevirtual 303, 3) := dk_182 1 47 (dk_at dksX0_day_0 18 rfl rfl)
theorem dX0_day_21 : decode cX0_day 21 = .ok (.i2b, 1) := dk_145 (dk_at dksX0_day_0 21 rfl rfl)
theorem dX0_day_22 : decode cX0_day 22 = .ok (.bastore, 1) := dk_84 (dk_at dksX0_day_0 22 rfl rfl)
theorem dX0_day_23 : decode cX0_day 23 = .ok (.aload_n 0, 1) := dk_42 (dk_at dksX0_day_0 23 rfl rfl)
theorem dX0_day_24 : decode cX0_day 24 = .ok (.iconst 5, 1) := dk_8 (dk_at dksX0_day_1 0 rfl rfl)
theorem dX0_day_25 : decode cX0_day 25 = .ok (.invokevirtual 289, 3) := dk_182 1 33 (dk_at dksX0_day_1 1 rfl rfl)
theorem dX0_day_28 : decode cX0_day 28 = .ok (.istore_n 2, 1) := dk_61 (dk_at dksX0_day_1 4 rfl rfl)
theorem dX0_day_29 : decode cX0_day 29 = .ok (.aload_n 0, 1) := dk_42 (dk_at dksX0_day_1 5 rfl rfl)
theorem dX0_day_30 : decode cX0_day 30 = .ok (.getfield 307, 3) := dk_180 1 51 (dk_at dksX0_day_1 6 rfl rfl)
theorem dX0_day_33 : decode cX0_day 33 = .ok (.iconst 2, 1) := dk_5 (dk_at dksX0_day_1 9 rfl rfl)
theorem dX0_day_34 : decode cX0_day 34 = .ok (.iload_n 1, 1) := dk_27 (dk_at dksX0_day_1 10 rfl rfl)
theorem dX0_day_35 : decode cX0_day 35 = .ok (.imul, 1) := dk_104 (dk_at dksX0_day_1 11 rfl rfl)
theorem dX0_day_36 : decode cX0_day 36 = .ok (.iconst 1, 1) := dk_4 (dk_at dksX0_day_1 12 rfl rfl)
theorem dX0_day_37 : decode cX0_day 37 = .ok (.iadd, 1) := dk_96 (dk_at dksX0_day_1 13 rfl rfl)
theorem dX0_day_38 : decode cX0_day 38 = .ok (.bipush 6, 2) := dk_16 6 (dk_at dksX0_day_1 14 rfl rfl)
theorem dX0_day_40 : decode cX0_day 40 = .ok (.iload_n 2, 1) := dk_28 (dk_at dksX0_day_1 16 rfl rfl)
theorem dX0_day_41 : decode cX0_day 41 = .ok (.imul, 1) := dk_104 (dk_at dksX0_day_1 17 rfl rfl)
theorem dX0_day_42 : decode cX0_day 42 = .ok (.aload_n 0, 1) := dk_42 (dk_at dksX0_day_1 18 rfl rfl)
theorem dX0_day_43 : decode cX0_day 43 = .ok (.iconst 5, 1) := dk_8 (dk_at dksX0_day_1 19 rfl rfl)
theorem dX0_day_44 : decode cX0_day 44 = .ok (.invokevirtual 289, 3) := dk_182 1 33 (dk_at dksX0_day_1 20 rfl rfl)
theorem dX0_day_47 : decode cX0_day 47 = .ok (.iadd, 1) := dk_96 (dk_at dksX0_day_1 23 rfl rfl)
theorem dX0_day_48 : decode cX0_day 48 = .ok (.i2b, 1) := dk_145 (dk_at dksX0_day_2 0 rfl rfl)
theorem dX0_day_49 : decode cX0_day 49 = .ok (.bastore, 1) := dk_84 (dk_at dksX0_day_2 1 rfl rfl)
theorem dX0_day_50 : decode cX0_day 50 = .ok (.iinc 1 1, 3) := dk_132 1 1 (dk_at dksX0_day_2 2 rfl rfl)
theorem dX0_day_53 : decode cX0_day 53 = .ok (.aload_n 0, 1) := dk_42 (dk_at dksX0_day_2 5 rfl rfl)
theorem dX0_day_54 : decode cX0_day 54 = .ok (.bipush 59, 2) := dk_16 59 (dk_at dksX0_day_2 6 rfl rfl)
theorem dX0_day_56 : decode cX0_day 56 = .ok (.invokevirtual 268, 3) := dk_182 1 12 (dk_at dksX0_day_2 8 rfl rfl)
theorem dX0_day_59 : decode cX0_day 59 = .ok (.ifCond .ne (-52), 3) := dk_154 255 204 (dk_at dksX0_day_2 11 rfl rfl)
theorem dX0_day_62 : decode cX0_day 62 = .ok (.aload_n 0, 1) := dk_42 (dk_at dksX0_day_2 14 rfl rfl)
theorem dX0_day_63 : decode cX0_day 63 = .ok (.invokevirtual 292, 3) := dk_182 1 36 (dk_at dksX0_day_2 15 rfl rfl)
theorem dX0_day_66 : decode cX0_day 66 = .ok (.iconst 0, 1) := dk_3 (dk_at dksX0_day_2 18 rfl rfl)
theorem dX0_day_67 : decode cX0_day 67 = .ok (.istore_n 2, 1) := dk_61 (dk_at dksX0_day_2 19 rfl rfl)
theorem dX0_day_68 : decode cX0_day 68 = .ok (.iload_n 2, 1) := dk_28 (dk_at dksX0_day_2 20 rfl rfl)
theorem dX0_day_69 : decode cX0_day 69 = .ok (.iload_n 1, 1) := dk_27 (dk_at dksX0_day_2 21 rfl rfl)
theorem dX0_day_70 : decode cX0_day 70 = .ok (.if_icmp .ge 17, 3) := dk_162 0 17 (dk_at dksX0_day_3 0 rfl rfl)
theorem dX0_day_73 : decode cX0_day 73 = .ok (.aload_n 0, 1) := dk_42 (dk_at dksX0_day_3 3 rfl rfl)
theorem dX0_day_74 : decode cX0_day 74 = .ok (.iload_n 2, 1) := dk_28 (dk_at dksX0_day_3 4 rfl rfl)
theorem dX0_day_75 : decode cX0_day 75 = .ok (.invokevirtual 321, 3) := dk_182 1 65 (dk_at dksX0_day_3 5 rfl rfl)
theorem dX0_day_78 : decode cX0_day 78 = .ok (.ifCond .lt 9, 3) := dk_155 0 9 (dk_at dksX0_day_3 8 rfl rfl)
theorem dX0_day_81 : decode cX0_day 81 = .ok (.iinc 2 1, 3) := dk_132 2 1 (dk_at dksX0_day_3 11 rfl rfl)
theorem dX0_day_84 : decode cX0_day 84 = .ok (.goto (-16), 3) := dk_167 255 240 (dk_at dksX0_day_3 14 rfl rfl)
theorem dX0_day_87 : decode cX0_day 87 = .ok (.iload_n 2, 1) := dk_28 (dk_at dksX0_day_3 17 rfl rfl)
theorem dX0_day_88 : decode cX0_day 88 = .ok (.istore_n 3, 1) := dk_62 (dk_at dksX0_day_3 18 rfl rfl)
theorem dX0_day_89 : decode cX0_day 89 = .ok (.aload_n 0, 1) := dk_42 (dk_at dksX0_day_3 19 rfl rfl)
theorem dX0_day_90 : decode cX0_day 90 = .ok (.iconst 0, 1) := dk_3 (dk_at dksX0_day_3 20 rfl rfl)
theorem dX0_day_91 : decode cX0_day 91 = .ok (.putfield 256, 3) := dk_181 1 0 (dk_at dksX0_day_3 21 rfl rfl)
theorem dX0_day_94 : decode cX0_day 94 = .ok (.iload_n 3, 1) := dk_29 (dk_at dksX0_day_4 0 rfl rfl)
theorem dX0_day_95 : decode cX0_day 95 = .ok (.ireturn, 1) := dk_172 (dk_at dksX0_day_4 1 rfl rfl)
theorem dX0_day_96 : decode cX0_day 96 = .ok (.astore_n 1, 1) := dk_76 (dk_at dksX0_day_4 2 rfl rfl)
theorem dX0_day_97 : decode cX0_day 97 = .ok (.bipush (-20), 2) := dk_16 236 (dk_at dksX0_day_4 3 rfl rfl)
theorem dX0_day_99 : decode cX0_day 99 = .ok (.aload_n 1, 1) := dk_43 (dk_at dksX0_day_4 5 rfl rfl)
theorem dX0_day_100 : decode cX0_day 100 = .ok (.getfield 295, 3) := dk_180 1 39 (dk_at dksX0_day_4 6 rfl rfl)
theorem dX0_day_103 : decode cX0_day 103 = .ok (.isub, 1) := dk_100 (dk_at dksX0_day_4 9 rfl rfl)
theorem dX0_day_104 : decode cX0_day 104 = .ok (.istore_n 2, 1) := dk_61 (dk_at dksX0_day_4 10 rfl rfl)
theorem dX0_day_105 : decode cX0_day 105 = .ok (.aload_n 0, 1) := dk_42 (dk_at dksX0_day_4 11 rfl rfl)
theorem dX0_day_106 : decode cX0_day 106 = .ok (.iconst 0, 1) := dk_3 (dk_at dksX0_day_4 12 rfl rfl)
theorem dX0_day_107 : decode cX0_day 107 = .ok (.putfield 256, 3) := dk_181 1 0 (dk_at dksX0_day_4 13 rfl rfl)
theorem dX0_day_110 : decode cX0_day 110 = .ok (.iload_n 2, 1) := dk_28 (dk_at dksX0_day_4 16 rfl rfl)
theorem dX0_day_111 : decode cX0_day 111 = .ok (.ireturn, 1) := dk_172 (dk_at dksX0_day_4 17 rfl rfl)
theorem dX0_day_112 : decode cX0_day 112 = .ok (.astore 4, 2) := dk_58 4 (dk_at dksX0_day_4 18 rfl rfl)
theorem dX0_day_114 : decode cX0_day 114 = .ok (.aload_n 0, 1) := dk_42 (dk_at dksX0_day_4 20 rfl rfl)
theorem dX0_day_115 : decode cX0_day 115 = .ok (.iconst 0, 1) := dk_3 (dk_at dksX0_day_4 21 rfl rfl)
theorem dX0_day_116 : decode cX0_day 116 = .ok (.putfield 256, 3) := dk_181 1 0 (dk_at dksX0_day_5 0 rfl rfl)
theorem dX0_day_119 : decode cX0_day 119 = .ok (.aload 4, 2) := dk_25 4 (dk_at dksX0_day_5 3 rfl rfl)
theorem dX0_day_121 : decode cX0_day 121 = .ok (.athrow, 1) := dk_191 (dk_at dksX0_day_5 5 rfl rfl)
abbrev cX0_does : ByteArray := prog_1_method_58_code
def yX0_does : MethodName := ⟨RX0, "does", "(I)I"⟩
def dkwX0_does_2 : List UInt8 := [42, 28, 182, 1, 54, 172, 42, 28, 182, 1, 57, 172, 42, 28, 182, 1, 60, 172]
abbrev dktX0_does_2 : List UInt8 := dkwX0_does_2 ++ []
def dkwX0_does_1 : List UInt8 := [171, 0, 0, 0, 37, 0, 0, 0, 2, 0, 0, 0, 0, 0, 0, 0, 25, 0, 0, 0, 1, 0, 0, 0, 31]
abbrev dktX0_does_1 : List UInt8 := dkwX0_does_1 ++ dktX0_does_2
def dkwX0_does_0 : List UInt8 := [42, 180, 1, 51, 5, 27, 104, 4, 96, 51, 61, 42, 180, 1, 51, 5, 27, 104, 51]
abbrev dktX0_does_0 : List UInt8 := dkwX0_does_0 ++ dktX0_does_1
theorem dksX0_does_0 : cX0_does.data.toList.drop 0 = dktX0_does_0 := by decide +kernel
theorem dksX0_does_1 : cX0_does.data.toList.drop 19 = dktX0_does_1 := dk_seg dksX0_does_0 19 rfl rfl
theorem dksX0_does_2 : cX0_does.data.toList.drop 44 = dktX0_does_2 := dk_seg dksX0_does_1 25 rfl rfl
theorem dX0_does_0 : decode cX0_does 0 = .ok (.aload_n 0, 1) := dk_42 (dk_at dksX0_does_0 0 rfl rfl)
theorem dX0_does_1 : decode cX0_does 1 = .ok (.getfield 307, 3) := dk_180 1 51 (dk_at dksX0_does_0 1 rfl rfl)
theorem dX0_does_4 : decode cX0_does 4 = .ok (.iconst 2, 1) := dk_5 (dk_at dksX0_does_0 4 rfl rfl)
theorem dX0_does_5 : decode cX0_does 5 = .ok (.iload_n 1, 1) := dk_27 (dk_at dksX0_does_0 5 rfl rfl)
theorem dX0_does_6 : decode cX0_does 6 = .ok (.imul, 1) := dk_104 (dk_at dksX0_does_0 6 rfl rfl)
theorem dX0_does_7 : decode cX0_does 7 = .ok (.iconst 1, 1) := dk_4 (dk_at dksX0_does_0 7 rfl rfl)
theorem dX0_does_8 : decode cX0_does 8 = .ok (.iadd, 1) := dk_96 (dk_at dksX0_does_0 8 rfl rfl)
theorem dX0_does_9 : decode cX0_does 9 = .ok (.baload, 1) := dk_51 (dk_at dksX0_does_0 9 rfl rfl)
theorem dX0_does_10 : decode cX0_does 10 = .ok (.istore_n 2, 1) := dk_61 (dk_at dksX0_does_0 10 rfl rfl)
theorem dX0_does_11 : decode cX0_does 11 = .ok (.aload_n 0, 1) := dk_42 (dk_at dksX0_does_0 11 rfl rfl)
theorem dX0_does_12 : decode cX0_does 12 = .ok (.getfield 307, 3) := dk_180 1 51 (dk_at dksX0_does_0 12 rfl rfl)
theorem dX0_does_15 : decode cX0_does 15 = .ok (.iconst 2, 1) := dk_5 (dk_at dksX0_does_0 15 rfl rfl)
theorem dX0_does_16 : decode cX0_does 16 = .ok (.iload_n 1, 1) := dk_27 (dk_at dksX0_does_0 16 rfl rfl)
theorem dX0_does_17 : decode cX0_does 17 = .ok (.imul, 1) := dk_104 (dk_at dksX0_does_0 17 rfl rfl)
theorem dX0_does_18 : decode cX0_does 18 = .ok (.baload, 1) := dk_51 (dk_at dksX0_does_0 18 rfl rfl)
theorem dX0_does_19 : decode cX0_does 19 = .ok (.lookupswitch 37 #[(0, 25), (1, 31)], 25) := by decide +kernel
theorem dX0_does_44 : decode cX0_does 44 = .ok (.aload_n 0, 1) := dk_42 (dk_at dksX0_does_2 0 rfl rfl)
theorem dX0_does_45 : decode cX0_does 45 = .ok (.iload_n 2, 1) := dk_28 (dk_at dksX0_does_2 1 rfl rfl)
theorem dX0_does_46 : decode cX0_does 46 = .ok (.invokevirtual 310, 3) := dk_182 1 54 (dk_at dksX0_does_2 2 rfl rfl)
theorem dX0_does_49 : decode cX0_does 49 = .ok (.ireturn, 1) := dk_172 (dk_at dksX0_does_2 5 rfl rfl)
theorem dX0_does_50 : decode cX0_does 50 = .ok (.aload_n 0, 1) := dk_42 (dk_at dksX0_does_2 6 rfl rfl)
theorem dX0_does_51 : decode cX0_does 51 = .ok (.iload_n 2, 1) := dk_28 (dk_at dksX0_does_2 7 rfl rfl)
theorem dX0_does_52 : decode cX0_does 52 = .ok (.invokevirtual 313, 3) := dk_182 1 57 (dk_at dksX0_does_2 8 rfl rfl)
theorem dX0_does_55 : decode cX0_does 55 = .ok (.ireturn, 1) := dk_172 (dk_at dksX0_does_2 11 rfl rfl)
theorem dX0_does_56 : decode cX0_does 56 = .ok (.aload_n 0, 1) := dk_42 (dk_at dksX0_does_2 12 rfl rfl)
theorem dX0_does_57 : decode cX0_does 57 = .ok (.iload_n 2, 1) := dk_28 (dk_at dksX0_does_2 13 rfl rfl)
theorem dX0_does_58 : decode cX0_does 58 = .ok (.invokevirtual 316, 3) := dk_182 1 60 (dk_at dksX0_does_2 14 rfl rfl)
theorem dX0_does_61 : decode cX0_does 61 = .ok (.ireturn, 1) := dk_172 (dk_at dksX0_does_2 17 rfl rfl)
abbrev cX0_image : ByteArray := prog_1_method_60_code
def yX0_image : MethodName := ⟨RX0, "image", "()I"⟩
def dkwX0_image_2 : List UInt8 := [182, 1, 81, 87, 42, 42, 180, 0, 240, 181, 1, 85, 4, 172]
abbrev dktX0_image_2 : List UInt8 := dkwX0_image_2 ++ []
def dkwX0_image_1 : List UInt8 := [180, 1, 75, 3, 16, 36, 184, 0, 221, 42, 180, 1, 78, 182, 0, 249, 42, 180, 1, 78, 42, 180, 0, 65]
abbrev dktX0_image_1 : List UInt8 := dkwX0_image_1 ++ dktX0_image_2
def dkwX0_image_0 : List UInt8 := [42, 4, 181, 1, 68, 42, 180, 1, 72, 42, 180, 0, 38, 182, 0, 177, 42, 180, 0, 88, 3, 42]
abbrev dktX0_image_0 : List UInt8 := dkwX0_image_0 ++ dktX0_image_1
theorem dksX0_image_0 : cX0_image.data.toList.drop 0 = dktX0_image_0 := by decide +kernel
theorem dksX0_image_1 : cX0_image.data.toList.drop 22 = dktX0_image_1 := dk_seg dksX0_image_0 22 rfl rfl
theorem dksX0_image_2 : cX0_image.data.toList.drop 46 = dktX0_image_2 := dk_seg dksX0_image_1 24 rfl rfl
theorem dX0_image_0 : decode cX0_image 0 = .ok (.aload_n 0, 1) := dk_42 (dk_at dksX0_image_0 0 rfl rfl)
theorem dX0_image_1 : decode cX0_image 1 = .ok (.iconst 1, 1) := dk_4 (dk_at dksX0_image_0 1 rfl rfl)
theorem dX0_image_2 : decode cX0_image 2 = .ok (.putfield 324, 3) := dk_181 1 68 (dk_at dksX0_image_0 2 rfl rfl)
theorem dX0_image_5 : decode cX0_image 5 = .ok (.aload_n 0, 1) := dk_42 (dk_at dksX0_image_0 5 rfl rfl)
theorem dX0_image_6 : decode cX0_image 6 = .ok (.getfield 328, 3) := dk_180 1 72 (dk_at dksX0_image_0 6 rfl rfl)
theorem dX0_image_9 : decode cX0_image 9 = .ok (.aload_n 0, 1) := dk_42 (dk_at dksX0_image_0 9 rfl rfl)
theorem dX0_image_10 : decode cX0_image 10 = .ok (.getfield 38, 3) := dk_180 0 38 (dk_at dksX0_image_0 10 rfl rfl)
theorem dX0_image_13 : decode cX0_image 13 = .ok (.invokevirtual 177, 3) := dk_182 0 177 (dk_at dksX0_image_0 13 rfl rfl)
theorem dX0_image_16 : decode cX0_image 16 = .ok (.aload_n 0, 1) := dk_42 (dk_at dksX0_image_0 16 rfl rfl)
theorem dX0_image_17 : decode cX0_image 17 = .ok (.getfield 88, 3) := dk_180 0 88 (dk_at dksX0_image_0 17 rfl rfl)
theorem dX0_image_20 : decode cX0_image 20 = .ok (.iconst 0, 1) := dk_3 (dk_at dksX0_image_0 20 rfl rfl)
theorem dX0_image_21 : decode cX0_image 21 = .ok (.aload_n 0, 1) := dk_42 (dk_at dksX0_image_0 21 rfl rfl)
theorem dX0_image_22 : decode cX0_image 22 = .ok (.getfield 331, 3) := dk_180 1 75 (dk_at dksX0_image_1 0 rfl rfl)
theorem dX0_image_25 : decode cX0_image 25 = .ok (.iconst 0, 1) := dk_3 (dk_at dksX0_image_1 3 rfl rfl)
theorem dX0_image_26 : decode cX0_image 26 = .ok (.bipush 36, 2) := dk_16 36 (dk_at dksX0_image_1 4 rfl rfl)
theorem dX0_image_28 : decode cX0_image 28 = .ok (.invokestatic 221, 3) := dk_184 0 221 (dk_at dksX0_image_1 6 rfl rfl)
theorem dX0_image_31 : decode cX0_image 31 = .ok (.aload_n 0, 1) := dk_42 (dk_at dksX0_image_1 9 rfl rfl)
theorem dX0_image_32 : decode cX0_image 32 = .ok (.getfield 334, 3) := dk_180 1 78 (dk_at dksX0_image_1 10 rfl rfl)
theorem dX0_image_35 : decode cX0_image 35 = .ok (.invokevirtual 249, 3) := dk_182 0 249 (dk_at dksX0_image_1 13 rfl rfl)
theorem dX0_image_38 : decode cX0_image 38 = .ok (.aload_n 0, 1) := dk_42 (dk_at dksX0_image_1 16 rfl rfl)
theorem dX0_image_39 : decode cX0_image 39 = .ok (.getfield 334, 3) := dk_180 1 78 (dk_at dksX0_image_1 17 rfl rfl)
theorem dX0_image_42 : decode cX0_image 42 = .ok (.aload_n 0, 1) := dk_42 (dk_at dksX0_image_1 20 rfl rfl)
theorem dX0_image_43 : decode cX0_image 43 = .ok (.getfield 65, 3) := dk_180 0 65 (dk_at dksX0_image_1 21 rfl rfl)
theorem dX0_image_46 : decode cX0_image 46 = .ok (.invokevirtual 337, 3) := dk_182 1 81 (dk_at dksX0_image_2 0 rfl rfl)
theorem dX0_image_49 : decode cX0_image 49 = .ok (.pop, 1) := dk_87 (dk_at dksX0_image_2 3 rfl rfl)
theorem dX0_image_50 : decode cX0_image 50 = .ok (.aload_n 0, 1) := dk_42 (dk_at dksX0_image_2 4 rfl rfl)
theorem dX0_image_51 : decode cX0_image 51 = .ok (.aload_n 0, 1) := dk_42 (dk_at dksX0_image_2 5 rfl rfl)
theorem dX0_image_52 : decode cX0_image 52 = .ok (.getfield 240, 3) := dk_180 0 240 (dk_at dksX0_image_2 6 rfl rfl)
theorem dX0_image_55 : decode cX0_image 55 = .ok (.putfield 341, 3) := dk_181 1 85 (dk_at dksX0_image_2 9 rfl rfl)
theorem dX0_image_58 : decode cX0_image 58 = .ok (.iconst 1, 1) := dk_4 (dk_at dksX0_image_2 12 rfl rfl)
theorem dX0_image_59 : decode cX0_image 59 = .ok (.ireturn, 1) := dk_172 (dk_at dksX0_image_2 13 rfl rfl)
abbrev cX0_restore : ByteArray := prog_1_method_61_code
def yX0_restore : MethodName := ⟨RX0, "restore", "()I"⟩
def dkwX0_restore_2 : List UInt8 := [180, 0, 65, 42, 180, 1, 78, 182, 1, 81, 87, 42, 42, 180, 1, 85, 181, 0, 240, 4, 172]
abbrev dktX0_restore_2 : List UInt8 := dkwX0_restore_2 ++ []
def dkwX0_restore_1 : List UInt8 := [180, 1, 75, 3, 42, 180, 0, 88, 3, 16, 36, 184, 0, 221, 42, 180, 0, 65, 182, 0, 249, 42]
abbrev dktX0_restore_1 : List UInt8 := dkwX0_restore_1 ++ dktX0_restore_2
def dkwX0_restore_0 : List UInt8 := [42, 180, 1, 68, 154, 0, 6, 16, 252, 172, 42, 180, 0, 38, 42, 180, 1, 72, 182, 0, 177, 42]
abbrev dktX0_restore_0 : List UInt8 := dkwX0_restore_0 ++ dktX0_restore_1
theorem dksX0_restore_0 : cX0_restore.data.toList.drop 0 = dktX0_restore_0 := by decide +kernel
theorem dksX0_restore_1 : cX0_restore.data.toList.drop 22 = dktX0_restore_1 := dk_seg dksX0_restore_0 22 rfl rfl
theorem dksX0_restore_2 : cX0_restore.data.toList.drop 44 = dktX0_restore_2 := dk_seg dksX0_restore_1 22 rfl rfl
theorem dX0_restore_0 : decode cX0_restore 0 = .ok (.aload_n 0, 1) := dk_42 (dk_at dksX0_restore_0 0 rfl rfl)
theorem dX0_restore_1 : decode cX0_restore 1 = .ok (.getfield 324, 3) := dk_180 1 68 (dk_at dksX0_restore_0 1 rfl rfl)
theorem dX0_restore_4 : decode cX0_restore 4 = .ok (.ifCond .ne 6, 3) := dk_154 0 6 (dk_at dksX0_restore_0 4 rfl rfl)
theorem dX0_restore_7 : decode cX0_restore 7 = .ok (.bipush (-4), 2) := dk_16 252 (dk_at dksX0_restore_0 7 rfl rfl)
theorem dX0_restore_9 : decode cX0_restore 9 = .ok (.ireturn, 1) := dk_172 (dk_at dksX0_restore_0 9 rfl rfl)
theorem dX0_restore_10 : decode cX0_restore 10 = .ok (.aload_n 0, 1) := dk_42 (dk_at dksX0_restore_0 10 rfl rfl)
theorem dX0_restore_11 : decode cX0_restore 11 = .ok (.getfield 38, 3) := dk_180 0 38 (dk_at dksX0_restore_0 11 rfl rfl)
theorem dX0_restore_14 : decode cX0_restore 14 = .ok (.aload_n 0, 1) := dk_42 (dk_at dksX0_restore_0 14 rfl rfl)
theorem dX0_restore_15 : decode cX0_restore 15 = .ok (.getfield 328, 3) := dk_180 1 72 (dk_at dksX0_restore_0 15 rfl rfl)
theorem dX0_restore_18 : decode cX0_restore 18 = .ok (.invokevirtual 177, 3) := dk_182 0 177 (dk_at dksX0_restore_0 18 rfl rfl)
theorem dX0_restore_21 : decode cX0_restore 21 = .ok (.aload_n 0, 1) := dk_42 (dk_at dksX0_restore_0 21 rfl rfl)
theorem dX0_restore_22 : decode cX0_restore 22 = .ok (.getfield 331, 3) := dk_180 1 75 (dk_at dksX0_restore_1 0 rfl rfl)
theorem dX0_restore_25 : decode cX0_restore 25 = .ok (.iconst 0, 1) := dk_3 (dk_at dksX0_restore_1 3 rfl rfl)
theorem dX0_restore_26 : decode cX0_restore 26 = .ok (.aload_n 0, 1) := dk_42 (dk_at dksX0_restore_1 4 rfl rfl)
theorem dX0_restore_27 : decode cX0_restore 27 = .ok (.getfield 88, 3) := dk_180 0 88 (dk_at dksX0_restore_1 5 rfl rfl)
theorem dX0_restore_30 : decode cX0_restore 30 = .ok (.iconst 0, 1) := dk_3 (dk_at dksX0_restore_1 8 rfl rfl)
theorem dX0_restore_31 : decode cX0_restore 31 = .ok (.bipush 36, 2) := dk_16 36 (dk_at dksX0_restore_1 9 rfl rfl)
theorem dX0_restore_33 : decode cX0_restore 33 = .ok (.invokestatic 221, 3) := dk_184 0 221 (dk_at dksX0_restore_1 11 rfl rfl)
theorem dX0_restore_36 : decode cX0_restore 36 = .ok (.aload_n 0, 1) := dk_42 (dk_at dksX0_restore_1 14 rfl rfl)
theorem dX0_restore_37 : decode cX0_restore 37 = .ok (.getfield 65, 3) := dk_180 0 65 (dk_at dksX0_restore_1 15 rfl rfl)
theorem dX0_restore_40 : decode cX0_restore 40 = .ok (.invokevirtual 249, 3) := dk_182 0 249 (dk_at dksX0_restore_1 18 rfl rfl)
theorem dX0_restore_43 : decode cX0_restore 43 = .ok (.aload_n 0, 1) := dk_42 (dk_at dksX0_restore_1 21 rfl rfl)
theorem dX0_restore_44 : decode cX0_restore 44 = .ok (.getfield 65, 3) := dk_180 0 65 (dk_at dksX0_restore_2 0 rfl rfl)
theorem dX0_restore_47 : decode cX0_restore 47 = .ok (.aload_n 0, 1) := dk_42 (dk_at dksX0_restore_2 3 rfl rfl)
theorem dX0_restore_48 : decode cX0_restore 48 = .ok (.getfield 334, 3) := dk_180 1 78 (dk_at dksX0_restore_2 4 rfl rfl)
theorem dX0_restore_51 : decode cX0_restore 51 = .ok (.invokevirtual 337, 3) := dk_182 1 81 (dk_at dksX0_restore_2 7 rfl rfl)
theorem dX0_restore_54 : decode cX0_restore 54 = .ok (.pop, 1) := dk_87 (dk_at dksX0_restore_2 10 rfl rfl)
theorem dX0_restore_55 : decode cX0_restore 55 = .ok (.aload_n 0, 1) := dk_42 (dk_at dksX0_restore_2 11 rfl rfl)
theorem dX0_restore_56 : decode cX0_restore 56 = .ok (.aload_n 0, 1) := dk_42 (dk_at dksX0_restore_2 12 rfl rfl)
theorem dX0_restore_57 : decode cX0_restore 57 = .ok (.getfield 341, 3) := dk_180 1 85 (dk_at dksX0_restore_2 13 rfl rfl)
theorem dX0_restore_60 : decode cX0_restore 60 = .ok (.putfield 240, 3) := dk_181 0 240 (dk_at dksX0_restore_2 16 rfl rfl)
theorem dX0_restore_63 : decode cX0_restore 63 = .ok (.iconst 1, 1) := dk_4 (dk_at dksX0_restore_2 19 rfl rfl)
theorem dX0_restore_64 : decode cX0_restore 64 = .ok (.ireturn, 1) := dk_172 (dk_at dksX0_restore_2 20 rfl rfl)
abbrev cX0_sheet : ByteArray := prog_1_method_68_code
def yX0_sheet : MethodName := ⟨RX0, "sheet", "(III)I"⟩
def dkwX0_sheet_1 : List UInt8 := [180, 1, 100, 27, 50, 28, 29, 184, 1, 104, 181, 1, 108, 29, 172, 58, 4, 16, 242, 172]
abbrev dktX0_sheet_1 : List UInt8 := dkwX0_sheet_1 ++ []
def dkwX0_sheet_0 : List UInt8 := [27, 184, 1, 94, 153, 0, 16, 28, 184, 1, 97, 153, 0, 9, 29, 16, 36, 164, 0, 5, 2, 172, 42]
abbrev dktX0_sheet_0 : List UInt8 := dkwX0_sheet_0 ++ dktX0_sheet_1
theorem dksX0_sheet_0 : cX0_sheet.data.toList.drop 0 = dktX0_sheet_0 := by decide +kernel
theorem dksX0_sheet_1 : cX0_sheet.data.toList.drop 23 = dktX0_sheet_1 := dk_seg dksX0_sheet_0 23 rfl rfl
theorem dX0_sheet_0 : decode cX0_sheet 0 = .ok (.iload_n 1, 1) := dk_27 (dk_at dksX0_sheet_0 0 rfl rfl)
theorem dX0_sheet_1 : decode cX0_sheet 1 = .ok (.invokestatic 350, 3) := dk_184 1 94 (dk_at dksX0_sheet_0 1 rfl rfl)
theorem dX0_sheet_4 : decode cX0_sheet 4 = .ok (.ifCond .eq 16, 3) := dk_153 0 16 (dk_at dksX0_sheet_0 4 rfl rfl)
theorem dX0_sheet_7 : decode cX0_sheet 7 = .ok (.iload_n 2, 1) := dk_28 (dk_at dksX0_sheet_0 7 rfl rfl)
theorem dX0_sheet_8 : decode cX0_sheet 8 = .ok (.invokestatic 353, 3) := dk_184 1 97 (dk_at dksX0_sheet_0 8 rfl rfl)
theorem dX0_sheet_11 : decode cX0_sheet 11 = .ok (.ifCond .eq 9, 3) := dk_153 0 9 (dk_at dksX0_sheet_0 11 rfl rfl)
theorem dX0_sheet_14 : decode cX0_sheet 14 = .ok (.iload_n 3, 1) := dk_29 (dk_at dksX0_sheet_0 14 rfl rfl)
theorem dX0_sheet_15 : decode cX0_sheet 15 = .ok (.bipush 36, 2) := dk_16 36 (dk_at dksX0_sheet_0 15 rfl rfl)
theorem dX0_sheet_17 : decode cX0_sheet 17 = .ok (.if_icmp .le 5, 3) := dk_164 0 5 (dk_at dksX0_sheet_0 17 rfl rfl)
theorem dX0_sheet_20 : decode cX0_sheet 20 = .ok (.iconst (-1), 1) := dk_2 (dk_at dksX0_sheet_0 20 rfl rfl)
theorem dX0_sheet_21 : decode cX0_sheet 21 = .ok (.ireturn, 1) := dk_172 (dk_at dksX0_sheet_0 21 rfl rfl)
theorem dX0_sheet_22 : decode cX0_sheet 22 = .ok (.aload_n 0, 1) := dk_42 (dk_at dksX0_sheet_0 22 rfl rfl)
theorem dX0_sheet_23 : decode cX0_sheet 23 = .ok (.getfield 356, 3) := dk_180 1 100 (dk_at dksX0_sheet_1 0 rfl rfl)
theorem dX0_sheet_26 : decode cX0_sheet 26 = .ok (.iload_n 1, 1) := dk_27 (dk_at dksX0_sheet_1 3 rfl rfl)
theorem dX0_sheet_27 : decode cX0_sheet 27 = .ok (.aaload, 1) := dk_50 (dk_at dksX0_sheet_1 4 rfl rfl)
theorem dX0_sheet_28 : decode cX0_sheet 28 = .ok (.iload_n 2, 1) := dk_28 (dk_at dksX0_sheet_1 5 rfl rfl)
theorem dX0_sheet_29 : decode cX0_sheet 29 = .ok (.iload_n 3, 1) := dk_29 (dk_at dksX0_sheet_1 6 rfl rfl)
theorem dX0_sheet_30 : decode cX0_sheet 30 = .ok (.invokestatic 360, 3) := dk_184 1 104 (dk_at dksX0_sheet_1 7 rfl rfl)
theorem dX0_sheet_33 : decode cX0_sheet 33 = .ok (.putfield 364, 3) := dk_181 1 108 (dk_at dksX0_sheet_1 10 rfl rfl)
theorem dX0_sheet_36 : decode cX0_sheet 36 = .ok (.iload_n 3, 1) := dk_29 (dk_at dksX0_sheet_1 13 rfl rfl)
theorem dX0_sheet_37 : decode cX0_sheet 37 = .ok (.ireturn, 1) := dk_172 (dk_at dksX0_sheet_1 14 rfl rfl)
theorem dX0_sheet_38 : decode cX0_sheet 38 = .ok (.astore 4, 2) := dk_58 4 (dk_at dksX0_sheet_1 15 rfl rfl)
theorem dX0_sheet_40 : decode cX0_sheet 40 = .ok (.bipush (-14), 2) := dk_16 242 (dk_at dksX0_sheet_1 17 rfl rfl)
theorem dX0_sheet_42 : decode cX0_sheet 42 = .ok (.ireturn, 1) := dk_172 (dk_at dksX0_sheet_1 19 rfl rfl)
abbrev cX0_isSheet : ByteArray := prog_1_method_62_code
def yX0_isSheet : MethodName := ⟨RX0, "isSheet", "(I)Z"⟩
def dkwX0_isSheet_0 : List UInt8 := [26, 133, 9, 20, 0, 97, 184, 0, 5, 172]
abbrev dktX0_isSheet_0 : List UInt8 := dkwX0_isSheet_0 ++ []
theorem dksX0_isSheet_0 : cX0_isSheet.data.toList.drop 0 = dktX0_isSheet_0 := by decide +kernel
theorem dX0_isSheet_0 : decode cX0_isSheet 0 = .ok (.iload_n 0, 1) := dk_26 (dk_at dksX0_isSheet_0 0 rfl rfl)
theorem dX0_isSheet_1 : decode cX0_isSheet 1 = .ok (.i2l, 1) := dk_133 (dk_at dksX0_isSheet_0 1 rfl rfl)
theorem dX0_isSheet_2 : decode cX0_isSheet 2 = .ok (.lconst 0, 1) := dk_9 (dk_at dksX0_isSheet_0 2 rfl rfl)
theorem dX0_isSheet_3 : decode cX0_isSheet 3 = .ok (.ldc2_w 97, 3) := dk_20 0 97 (dk_at dksX0_isSheet_0 3 rfl rfl)
theorem dX0_isSheet_6 : decode cX0_isSheet 6 = .ok (.invokestatic 5, 3) := dk_184 0 5 (dk_at dksX0_isSheet_0 6 rfl rfl)
theorem dX0_isSheet_9 : decode cX0_isSheet 9 = .ok (.ireturn, 1) := dk_172 (dk_at dksX0_isSheet_0 9 rfl rfl)
abbrev cX0_isLane : ByteArray := prog_1_method_63_code
def yX0_isLane : MethodName := ⟨RX0, "isLane", "(I)Z"⟩
def dkwX0_isLane_0 : List UInt8 := [26, 133, 9, 20, 0, 97, 184, 0, 5, 172]
abbrev dktX0_isLane_0 : List UInt8 := dkwX0_isLane_0 ++ []
theorem dksX0_isLane_0 : cX0_isLane.data.toList.drop 0 = dktX0_isLane_0 := by decide +kernel
theorem dX0_isLane_0 : decode cX0_isLane 0 = .ok (.iload_n 0, 1) := dk_26 (dk_at dksX0_isLane_0 0 rfl rfl)
theorem dX0_isLane_1 : decode cX0_isLane 1 = .ok (.i2l, 1) := dk_133 (dk_at dksX0_isLane_0 1 rfl rfl)
theorem dX0_isLane_2 : decode cX0_isLane 2 = .ok (.lconst 0, 1) := dk_9 (dk_at dksX0_isLane_0 2 rfl rfl)
theorem dX0_isLane_3 : decode cX0_isLane 3 = .ok (.ldc2_w 97, 3) := dk_20 0 97 (dk_at dksX0_isLane_0 3 rfl rfl)
theorem dX0_isLane_6 : decode cX0_isLane 6 = .ok (.invokestatic 5, 3) := dk_184 0 5 (dk_at dksX0_isLane_0 6 rfl rfl)
theorem dX0_isLane_9 : decode cX0_isLane 9 = .ok (.ireturn, 1) := dk_172 (dk_at dksX0_isLane_0 9 rfl rfl)
abbrev cX0_laid : ByteArray := prog_1_method_64_code
def yX0_laid : MethodName := ⟨RX0, "laid", "(II)Ljava/lang/Object;"⟩
def dkwX0_laid_2 : List UInt8 := [27, 188, 8, 176, 27, 188, 9, 176, 27, 188, 10, 176, 27, 188, 11, 176]
abbrev dktX0_laid_2 : List UInt8 := dkwX0_laid_2 ++ []
def dkwX0_laid_1 : List UInt8 := [170, 0, 0, 0, 0, 0, 39, 0, 0, 0, 0, 0, 0, 0, 2, 0, 0, 0, 27, 0, 0, 0, 31, 0, 0, 0, 35]
abbrev dktX0_laid_1 : List UInt8 := dkwX0_laid_1 ++ dktX0_laid_2
def dkwX0_laid_0 : List UInt8 := [26]
abbrev dktX0_laid_0 : List UInt8 := dkwX0_laid_0 ++ dktX0_laid_1
theorem dksX0_laid_0 : cX0_laid.data.toList.drop 0 = dktX0_laid_0 := by decide +kernel
theorem dksX0_laid_1 : cX0_laid.data.toList.drop 1 = dktX0_laid_1 := dk_seg dksX0_laid_0 1 rfl rfl
theorem dksX0_laid_2 : cX0_laid.data.toList.drop 28 = dktX0_laid_2 := dk_seg dksX0_laid_1 27 rfl rfl
theorem dX0_laid_0 : decode cX0_laid 0 = .ok (.iload_n 0, 1) := dk_26 (dk_at dksX0_laid_0 0 rfl rfl)
theorem dX0_laid_1 : decode cX0_laid 1 = .ok (.tableswitch 39 0 2 #[27, 31, 35], 27) := by decide +kernel
theorem dX0_laid_28 : decode cX0_laid 28 = .ok (.iload_n 1, 1) := dk_27 (dk_at dksX0_laid_2 0 rfl rfl)
theorem dX0_laid_29 : decode cX0_laid 29 = .ok (.newarray .byte, 2) := dk_188_8 (dk_at dksX0_laid_2 1 rfl rfl)
theorem dX0_laid_31 : decode cX0_laid 31 = .ok (.areturn, 1) := dk_176 (dk_at dksX0_laid_2 3 rfl rfl)
theorem dX0_laid_32 : decode cX0_laid 32 = .ok (.iload_n 1, 1) := dk_27 (dk_at dksX0_laid_2 4 rfl rfl)
theorem dX0_laid_33 : decode cX0_laid 33 = .ok (.newarray .short, 2) := dk_188_9 (dk_at dksX0_laid_2 5 rfl rfl)
theorem dX0_laid_35 : decode cX0_laid 35 = .ok (.areturn, 1) := dk_176 (dk_at dksX0_laid_2 7 rfl rfl)
theorem dX0_laid_36 : decode cX0_laid 36 = .ok (.iload_n 1, 1) := dk_27 (dk_at dksX0_laid_2 8 rfl rfl)
theorem dX0_laid_37 : decode cX0_laid 37 = .ok (.newarray .int, 2) := dk_188_10 (dk_at dksX0_laid_2 9 rfl rfl)
theorem dX0_laid_39 : decode cX0_laid 39 = .ok (.areturn, 1) := dk_176 (dk_at dksX0_laid_2 11 rfl rfl)
theorem dX0_laid_40 : decode cX0_laid 40 = .ok (.iload_n 1, 1) := dk_27 (dk_at dksX0_laid_2 12 rfl rfl)
theorem dX0_laid_41 : decode cX0_laid 41 = .ok (.newarray .long, 2) := dk_188_11 (dk_at dksX0_laid_2 13 rfl rfl)
theorem dX0_laid_43 : decode cX0_laid 43 = .ok (.areturn, 1) := dk_176 (dk_at dksX0_laid_2 15 rfl rfl)
abbrev cX0_drop : ByteArray := prog_1_method_69_code
def yX0_drop : MethodName := ⟨RX0, "drop", "(I)I"⟩
def dkwX0_drop_1 : List UInt8 := [16, 245, 172, 42, 180, 1, 100, 27, 50, 1, 181, 1, 108, 44, 44, 184, 1, 116, 184, 1, 120, 172]
abbrev dktX0_drop_1 : List UInt8 := dkwX0_drop_1 ++ []
def dkwX0_drop_0 : List UInt8 := [27, 184, 1, 94, 154, 0, 5, 2, 172, 42, 180, 1, 100, 27, 50, 180, 1, 108, 77, 44, 199, 0, 6]
abbrev dktX0_drop_0 : List UInt8 := dkwX0_drop_0 ++ dktX0_drop_1
theorem dksX0_drop_0 : cX0_drop.data.toList.drop 0 = dktX0_drop_0 := by decide +kernel
theorem dksX0_drop_1 : cX0_drop.data.toList.drop 23 = dktX0_drop_1 := dk_seg dksX0_drop_0 23 rfl rfl
theorem dX0_drop_0 : decode cX0_drop 0 = .ok (.iload_n 1, 1) := dk_27 (dk_at dksX0_drop_0 0 rfl rfl)
theorem dX0_drop_1 : decode cX0_drop 1 = .ok (.invokestatic 350, 3) := dk_184 1 94 (dk_at dksX0_drop_0 1 rfl rfl)
theorem dX0_drop_4 : decode cX0_drop 4 = .ok (.ifCond .ne 5, 3) := dk_154 0 5 (dk_at dksX0_drop_0 4 rfl rfl)
theorem dX0_drop_7 : decode cX0_drop 7 = .ok (.iconst (-1), 1) := dk_2 (dk_at dksX0_drop_0 7 rfl rfl)
theorem dX0_drop_8 : decode cX0_drop 8 = .ok (.ireturn, 1) := dk_172 (dk_at dksX0_drop_0 8 rfl rfl)
theorem dX0_drop_9 : decode cX0_drop 9 = .ok (.aload_n 0, 1) := dk_42 (dk_at dksX0_drop_0 9 rfl rfl)
theorem dX0_drop_10 : decode cX0_drop 10 = .ok (.getfield 356, 3) := dk_180 1 100 (dk_at dksX0_drop_0 10 rfl rfl)
theorem dX0_drop_13 : decode cX0_drop 13 = .ok (.iload_n 1, 1) := dk_27 (dk_at dksX0_drop_0 13 rfl rfl)
theorem dX0_drop_14 : decode cX0_drop 14 = .ok (.aaload, 1) := dk_50 (dk_at dksX0_drop_0 14 rfl rfl)
theorem dX0_drop_15 : decode cX0_drop 15 = .ok (.getfield 364, 3) := dk_180 1 108 (dk_at dksX0_drop_0 15 rfl rfl)
theorem dX0_drop_18 : decode cX0_drop 18 = .ok (.astore_n 2, 1) := dk_77 (dk_at dksX0_drop_0 18 rfl rfl)
theorem dX0_drop_19 : decode cX0_drop 19 = .ok (.aload_n 2, 1) := dk_44 (dk_at dksX0_drop_0 19 rfl rfl)
theorem dX0_drop_20 : decode cX0_drop 20 = .ok (.ifnonnull 6, 3) := dk_199 0 6 (dk_at dksX0_drop_0 20 rfl rfl)
theorem dX0_drop_23 : decode cX0_drop 23 = .ok (.bipush (-11), 2) := dk_16 245 (dk_at dksX0_drop_1 0 rfl rfl)
theorem dX0_drop_25 : decode cX0_drop 25 = .ok (.ireturn, 1) := dk_172 (dk_at dksX0_drop_1 2 rfl rfl)
theorem dX0_drop_26 : decode cX0_drop 26 = .ok (.aload_n 0, 1) := dk_42 (dk_at dksX0_drop_1 3 rfl rfl)
theorem dX0_drop_27 : decode cX0_drop 27 = .ok (.getfield 356, 3) := dk_180 1 100 (dk_at dksX0_drop_1 4 rfl rfl)
theorem dX0_drop_30 : decode cX0_drop 30 = .ok (.iload_n 1, 1) := dk_27 (dk_at dksX0_drop_1 7 rfl rfl)
theorem dX0_drop_31 : decode cX0_drop 31 = .ok (.aaload, 1) := dk_50 (dk_at dksX0_drop_1 8 rfl rfl)
theorem dX0_drop_32 : decode cX0_drop 32 = .ok (.aconst_null, 1) := dk_1 (dk_at dksX0_drop_1 9 rfl rfl)
theorem dX0_drop_33 : decode cX0_drop 33 = .ok (.putfield 364, 3) := dk_181 1 108 (dk_at dksX0_drop_1 10 rfl rfl)
theorem dX0_drop_36 : decode cX0_drop 36 = .ok (.aload_n 2, 1) := dk_44 (dk_at dksX0_drop_1 13 rfl rfl)
theorem dX0_drop_37 : decode cX0_drop 37 = .ok (.aload_n 2, 1) := dk_44 (dk_at dksX0_drop_1 14 rfl rfl)
theorem dX0_drop_38 : decode cX0_drop 38 = .ok (.invokestatic 372, 3) := dk_184 1 116 (dk_at dksX0_drop_1 15 rfl rfl)
theorem dX0_drop_41 : decode cX0_drop 41 = .ok (.invokestatic 376, 3) := dk_184 1 120 (dk_at dksX0_drop_1 18 rfl rfl)
theorem dX0_drop_44 : decode cX0_drop 44 = .ok (.ireturn, 1) := dk_172 (dk_at dksX0_drop_1 21 rfl rfl)
abbrev cX0_laneOf : ByteArray := prog_1_method_67_code
def yX0_laneOf : MethodName := ⟨RX0, "laneOf", "(Ljava/lang/Object;)I"⟩
def dkwX0_laneOf_1 : List UInt8 := [193, 1, 91, 153, 0, 7, 5, 167, 0, 4, 6, 172]
abbrev dktX0_laneOf_1 : List UInt8 := dkwX0_laneOf_1 ++ []
def dkwX0_laneOf_0 : List UInt8 := [42, 193, 1, 88, 153, 0, 7, 3, 167, 0, 26, 42, 193, 1, 89, 153, 0, 7, 4, 167, 0, 15, 42]
abbrev dktX0_laneOf_0 : List UInt8 := dkwX0_laneOf_0 ++ dktX0_laneOf_1
theorem dksX0_laneOf_0 : cX0_laneOf.data.toList.drop 0 = dktX0_laneOf_0 := by decide +kernel
theorem dksX0_laneOf_1 : cX0_laneOf.data.toList.drop 23 = dktX0_laneOf_1 := dk_seg dksX0_laneOf_0 23 rfl rfl
theorem dX0_laneOf_0 : decode cX0_laneOf 0 = .ok (.aload_n 0, 1) := dk_42 (dk_at dksX0_laneOf_0 0 rfl rfl)
theorem dX0_laneOf_1 : decode cX0_laneOf 1 = .ok (.instanceof 344, 3) := dk_193 1 88 (dk_at dksX0_laneOf_0 1 rfl rfl)
theorem dX0_laneOf_4 : decode cX0_laneOf 4 = .ok (.ifCond .eq 7, 3) := dk_153 0 7 (dk_at dksX0_laneOf_0 4 rfl rfl)
theorem dX0_laneOf_7 : decode cX0_laneOf 7 = .ok (.iconst 0, 1) := dk_3 (dk_at dksX0_laneOf_0 7 rfl rfl)
theorem dX0_laneOf_8 : decode cX0_laneOf 8 = .ok (.goto 26, 3) := dk_167 0 26 (dk_at dksX0_laneOf_0 8 rfl rfl)
theorem dX0_laneOf_11 : decode cX0_laneOf 11 = .ok (.aload_n 0, 1) := dk_42 (dk_at dksX0_laneOf_0 11 rfl rfl)
theorem dX0_laneOf_12 : decode cX0_laneOf 12 = .ok (.instanceof 345, 3) := dk_193 1 89 (dk_at dksX0_laneOf_0 12 rfl rfl)
theorem dX0_laneOf_15 : decode cX0_laneOf 15 = .ok (.ifCond .eq 7, 3) := dk_153 0 7 (dk_at dksX0_laneOf_0 15 rfl rfl)
theorem dX0_laneOf_18 : decode cX0_laneOf 18 = .ok (.iconst 1, 1) := dk_4 (dk_at dksX0_laneOf_0 18 rfl rfl)
theorem dX0_laneOf_19 : decode cX0_laneOf 19 = .ok (.goto 15, 3) := dk_167 0 15 (dk_at dksX0_laneOf_0 19 rfl rfl)
theorem dX0_laneOf_22 : decode cX0_laneOf 22 = .ok (.aload_n 0, 1) := dk_42 (dk_at dksX0_laneOf_0 22 rfl rfl)
theorem dX0_laneOf_23 : decode cX0_laneOf 23 = .ok (.instanceof 347, 3) := dk_193 1 91 (dk_at dksX0_laneOf_1 0 rfl rfl)
theorem dX0_laneOf_26 : decode cX0_laneOf 26 = .ok (.ifCond .eq 7, 3) := dk_153 0 7 (dk_at dksX0_laneOf_1 3 rfl rfl)
theorem dX0_laneOf_29 : decode cX0_laneOf 29 = .ok (.iconst 2, 1) := dk_5 (dk_at dksX0_laneOf_1 6 rfl rfl)
theorem dX0_laneOf_30 : decode cX0_laneOf 30 = .ok (.goto 4, 3) := dk_167 0 4 (dk_at dksX0_laneOf_1 7 rfl rfl)
theorem dX0_laneOf_33 : decode cX0_laneOf 33 = .ok (.iconst 3, 1) := dk_6 (dk_at dksX0_laneOf_1 10 rfl rfl)
theorem dX0_laneOf_34 : decode cX0_laneOf 34 = .ok (.ireturn, 1) := dk_172 (dk_at dksX0_laneOf_1 11 rfl rfl)
abbrev cX0_sizeOf : ByteArray := prog_1_method_65_code
def yX0_sizeOf : MethodName := ⟨RX0, "sizeOf", "(Ljava/lang/Object;I)I"⟩
def dkwX0_sizeOf_2 : List UInt8 := [42, 192, 1, 88, 190, 172, 42, 192, 1, 89, 190, 172, 42, 192, 1, 91, 190, 172, 42, 192, 1, 92, 190, 172]
abbrev dktX0_sizeOf_2 : List UInt8 := dkwX0_sizeOf_2 ++ []
def dkwX0_sizeOf_1 : List UInt8 := [170, 0, 0, 0, 0, 0, 45, 0, 0, 0, 0, 0, 0, 0, 2, 0, 0, 0, 27, 0, 0, 0, 33, 0, 0, 0, 39]
abbrev dktX0_sizeOf_1 : List UInt8 := dkwX0_sizeOf_1 ++ dktX0_sizeOf_2
def dkwX0_sizeOf_0 : List UInt8 := [27]
abbrev dktX0_sizeOf_0 : List UInt8 := dkwX0_sizeOf_0 ++ dktX0_sizeOf_1
theorem dksX0_sizeOf_0 : cX0_sizeOf.data.toList.drop 0 = dktX0_sizeOf_0 := by decide +kernel
theorem dksX0_sizeOf_1 : cX0_sizeOf.data.toList.drop 1 = dktX0_sizeOf_1 := dk_seg dksX0_sizeOf_0 1 rfl rfl
theorem dksX0_sizeOf_2 : cX0_sizeOf.data.toList.drop 28 = dktX0_sizeOf_2 := dk_seg dksX0_sizeOf_1 27 rfl rfl
theorem dX0_sizeOf_0 : decode cX0_sizeOf 0 = .ok (.iload_n 1, 1) := dk_27 (dk_at dksX0_sizeOf_0 0 rfl rfl)
theorem dX0_sizeOf_1 : decode cX0_sizeOf 1 = .ok (.tableswitch 45 0 2 #[27, 33, 39], 27) := by decide +kernel
theorem dX0_sizeOf_28 : decode cX0_sizeOf 28 = .ok (.aload_n 0, 1) := dk_42 (dk_at dksX0_sizeOf_2 0 rfl rfl)
theorem dX0_sizeOf_29 : decode cX0_sizeOf 29 = .ok (.checkcast 344, 3) := dk_192 1 88 (dk_at dksX0_sizeOf_2 1 rfl rfl)
theorem dX0_sizeOf_32 : decode cX0_sizeOf 32 = .ok (.arraylength, 1) := dk_190 (dk_at dksX0_sizeOf_2 4 rfl rfl)
theorem dX0_sizeOf_33 : decode cX0_sizeOf 33 = .ok (.ireturn, 1) := dk_172 (dk_at dksX0_sizeOf_2 5 rfl rfl)
theorem dX0_sizeOf_34 : decode cX0_sizeOf 34 = .ok (.aload_n 0, 1) := dk_42 (dk_at dksX0_sizeOf_2 6 rfl rfl)
theorem dX0_sizeOf_35 : decode cX0_sizeOf 35 = .ok (.checkcast 345, 3) := dk_192 1 89 (dk_at dksX0_sizeOf_2 7 rfl rfl)
theorem dX0_sizeOf_38 : decode cX0_sizeOf 38 = .ok (.arraylength, 1) := dk_190 (dk_at dksX0_sizeOf_2 10 rfl rfl)
theorem dX0_sizeOf_39 : decode cX0_sizeOf 39 = .ok (.ireturn, 1) := dk_172 (dk_at dksX0_sizeOf_2 11 rfl rfl)
theorem dX0_sizeOf_40 : decode cX0_sizeOf 40 = .ok (.aload_n 0, 1) := dk_42 (dk_at dksX0_sizeOf_2 12 rfl rfl)
theorem dX0_sizeOf_41 : decode cX0_sizeOf 41 = .ok (.checkcast 347, 3) := dk_192 1 91 (dk_at dksX0_sizeOf_2 13 rfl rfl)
theorem dX0_sizeOf_44 : decode cX0_sizeOf 44 = .ok (.arraylength, 1) := dk_190 (dk_at dksX0_sizeOf_2 16 rfl rfl)
theorem dX0_sizeOf_45 : decode cX0_sizeOf 45 = .ok (.ireturn, 1) := dk_172 (dk_at dksX0_sizeOf_2 17 rfl rfl)
theorem dX0_sizeOf_46 : decode cX0_sizeOf 46 = .ok (.aload_n 0, 1) := dk_42 (dk_at dksX0_sizeOf_2 18 rfl rfl)
theorem dX0_sizeOf_47 : decode cX0_sizeOf 47 = .ok (.checkcast 348, 3) := dk_192 1 92 (dk_at dksX0_sizeOf_2 19 rfl rfl)
theorem dX0_sizeOf_50 : decode cX0_sizeOf 50 = .ok (.arraylength, 1) := dk_190 (dk_at dksX0_sizeOf_2 22 rfl rfl)
theorem dX0_sizeOf_51 : decode cX0_sizeOf 51 = .ok (.ireturn, 1) := dk_172 (dk_at dksX0_sizeOf_2 23 rfl rfl)
abbrev cX0_item : ByteArray := prog_1_method_71_code
def yX0_item : MethodName := ⟨RX0, "item", "(IIIJ)I"⟩
def dkwX0_item_2 : List UInt8 := [16, 243, 172]
abbrev dktX0_item_2 : List UInt8 := dkwX0_item_2 ++ []
def dkwX0_item_1 : List UInt8 := [180, 1, 108, 28, 29, 22, 4, 184, 1, 124, 4, 172, 58, 6, 16, 245, 172, 58, 6, 16, 244, 172, 58, 6]
abbrev dktX0_item_1 : List UInt8 := dkwX0_item_1 ++ dktX0_item_2
def dkwX0_item_0 : List UInt8 := [27, 184, 1, 94, 153, 0, 10, 28, 184, 1, 97, 154, 0, 5, 2, 172, 42, 180, 1, 100, 27, 50]
abbrev dktX0_item_0 : List UInt8 := dkwX0_item_0 ++ dktX0_item_1
theorem dksX0_item_0 : cX0_item.data.toList.drop 0 = dktX0_item_0 := by decide +kernel
theorem dksX0_item_1 : cX0_item.data.toList.drop 22 = dktX0_item_1 := dk_seg dksX0_item_0 22 rfl rfl
theorem dksX0_item_2 : cX0_item.data.toList.drop 46 = dktX0_item_2 := dk_seg dksX0_item_1 24 rfl rfl
theorem dX0_item_0 : decode cX0_item 0 = .ok (.iload_n 1, 1) := dk_27 (dk_at dksX0_item_0 0 rfl rfl)
theorem dX0_item_1 : decode cX0_item 1 = .ok (.invokestatic 350, 3) := dk_184 1 94 (dk_at dksX0_item_0 1 rfl rfl)
theorem dX0_item_4 : decode cX0_item 4 = .ok (.ifCond .eq 10, 3) := dk_153 0 10 (dk_at dksX0_item_0 4 rfl rfl)
theorem dX0_item_7 : decode cX0_item 7 = .ok (.iload_n 2, 1) := dk_28 (dk_at dksX0_item_0 7 rfl rfl)
theorem dX0_item_8 : decode cX0_item 8 = .ok (.invokestatic 353, 3) := dk_184 1 97 (dk_at dksX0_item_0 8 rfl rfl)
theorem dX0_item_11 : decode cX0_item 11 = .ok (.ifCond .ne 5, 3) := dk_154 0 5 (dk_at dksX0_item_0 11 rfl rfl)
theorem dX0_item_14 : decode cX0_item 14 = .ok (.iconst (-1), 1) := dk_2 (dk_at dksX0_item_0 14 rfl rfl)
theorem dX0_item_15 : decode cX0_item 15 = .ok (.ireturn, 1) := dk_172 (dk_at dksX0_item_0 15 rfl rfl)
theorem dX0_item_16 : decode cX0_item 16 = .ok (.aload_n 0, 1) := dk_42 (dk_at dksX0_item_0 16 rfl rfl)
theorem dX0_item_17 : decode cX0_item 17 = .ok (.getfield 356, 3) := dk_180 1 100 (dk_at dksX0_item_0 17 rfl rfl)
theorem dX0_item_20 : decode cX0_item 20 = .ok (.iload_n 1, 1) := dk_27 (dk_at dksX0_item_0 20 rfl rfl)
theorem dX0_item_21 : decode cX0_item 21 = .ok (.aaload, 1) := dk_50 (dk_at dksX0_item_0 21 rfl rfl)
theorem dX0_item_22 : decode cX0_item 22 = .ok (.getfield 364, 3) := dk_180 1 108 (dk_at dksX0_item_1 0 rfl rfl)
theorem dX0_item_25 : decode cX0_item 25 = .ok (.iload_n 2, 1) := dk_28 (dk_at dksX0_item_1 3 rfl rfl)
theorem dX0_item_26 : decode cX0_item 26 = .ok (.iload_n 3, 1) := dk_29 (dk_at dksX0_item_1 4 rfl rfl)
theorem dX0_item_27 : decode cX0_item 27 = .ok (.lload 4, 2) := dk_22 4 (dk_at dksX0_item_1 5 rfl rfl)
theorem dX0_item_29 : decode cX0_item 29 = .ok (.invokestatic 380, 3) := dk_184 1 124 (dk_at dksX0_item_1 7 rfl rfl)
theorem dX0_item_32 : decode cX0_item 32 = .ok (.iconst 1, 1) := dk_4 (dk_at dksX0_item_1 10 rfl rfl)
theorem dX0_item_33 : decode cX0_item 33 = .ok (.ireturn, 1) := dk_172 (dk_at dksX0_item_1 11 rfl rfl)
theorem dX0_item_34 : decode cX0_item 34 = .ok (.astore 6, 2) := dk_58 6 (dk_at dksX0_item_1 12 rfl rfl)
theorem dX0_item_36 : decode cX0_item 36 = .ok (.bipush (-11), 2) := dk_16 245 (dk_at dksX0_item_1 14 rfl rfl)
theorem dX0_item_38 : decode cX0_item 38 = .ok (.ireturn, 1) := dk_172 (dk_at dksX0_item_1 16 rfl rfl)
theorem dX0_item_39 : decode cX0_item 39 = .ok (.astore 6, 2) := dk_58 6 (dk_at dksX0_item_1 17 rfl rfl)
theorem dX0_item_41 : decode cX0_item 41 = .ok (.bipush (-12), 2) := dk_16 244 (dk_at dksX0_item_1 19 rfl rfl)
theorem dX0_item_43 : decode cX0_item 43 = .ok (.ireturn, 1) := dk_172 (dk_at dksX0_item_1 21 rfl rfl)
theorem dX0_item_44 : decode cX0_item 44 = .ok (.astore 6, 2) := dk_58 6 (dk_at dksX0_item_1 22 rfl rfl)
theorem dX0_item_46 : decode cX0_item 46 = .ok (.bipush (-13), 2) := dk_16 243 (dk_at dksX0_item_2 0 rfl rfl)
theorem dX0_item_48 : decode cX0_item 48 = .ok (.ireturn, 1) := dk_172 (dk_at dksX0_item_2 2 rfl rfl)
abbrev cX0_puts : ByteArray := prog_1_method_70_code
def yX0_puts : MethodName := ⟨RX0, "puts", "(Ljava/lang/Object;IIJ)V"⟩
def dkwX0_puts_2 : List UInt8 := [167, 0, 10, 42, 192, 1, 92, 28, 33, 80, 177]
abbrev dktX0_puts_2 : List UInt8 := dkwX0_puts_2 ++ []
def dkwX0_puts_1 : List UInt8 := [192, 1, 89, 28, 33, 136, 147, 86, 167, 0, 26, 27, 5, 160, 0, 14, 42, 192, 1, 91, 28, 33, 136, 79]
abbrev dktX0_puts_1 : List UInt8 := dkwX0_puts_1 ++ dktX0_puts_2
def dkwX0_puts_0 : List UInt8 := [27, 154, 0, 15, 42, 192, 1, 88, 28, 33, 136, 145, 84, 167, 0, 43, 27, 4, 160, 0, 15, 42]
abbrev dktX0_puts_0 : List UInt8 := dkwX0_puts_0 ++ dktX0_puts_1
theorem dksX0_puts_0 : cX0_puts.data.toList.drop 0 = dktX0_puts_0 := by decide +kernel
theorem dksX0_puts_1 : cX0_puts.data.toList.drop 22 = dktX0_puts_1 := dk_seg dksX0_puts_0 22 rfl rfl
theorem dksX0_puts_2 : cX0_puts.data.toList.drop 46 = dktX0_puts_2 := dk_seg dksX0_puts_1 24 rfl rfl
theorem dX0_puts_0 : decode cX0_puts 0 = .ok (.iload_n 1, 1) := dk_27 (dk_at dksX0_puts_0 0 rfl rfl)
theorem dX0_puts_1 : decode cX0_puts 1 = .ok (.ifCond .ne 15, 3) := dk_154 0 15 (dk_at dksX0_puts_0 1 rfl rfl)
theorem dX0_puts_4 : decode cX0_puts 4 = .ok (.aload_n 0, 1) := dk_42 (dk_at dksX0_puts_0 4 rfl rfl)
theorem dX0_puts_5 : decode cX0_puts 5 = .ok (.checkcast 344, 3) := dk_192 1 88 (dk_at dksX0_puts_0 5 rfl rfl)
theorem dX0_puts_8 : decode cX0_puts 8 = .ok (.iload_n 2, 1) := dk_28 (dk_at dksX0_puts_0 8 rfl rfl)
theorem dX0_puts_9 : decode cX0_puts 9 = .ok (.lload_n 3, 1) := dk_33 (dk_at dksX0_puts_0 9 rfl rfl)
theorem dX0_puts_10 : decode cX0_puts 10 = .ok (.l2i, 1) := dk_136 (dk_at dksX0_puts_0 10 rfl rfl)
theorem dX0_puts_11 : decode cX0_puts 11 = .ok (.i2b, 1) := dk_145 (dk_at dksX0_puts_0 11 rfl rfl)
theorem dX0_puts_12 : decode cX0_puts 12 = .ok (.bastore, 1) := dk_84 (dk_at dksX0_puts_0 12 rfl rfl)
theorem dX0_puts_13 : decode cX0_puts 13 = .ok (.goto 43, 3) := dk_167 0 43 (dk_at dksX0_puts_0 13 rfl rfl)
theorem dX0_puts_16 : decode cX0_puts 16 = .ok (.iload_n 1, 1) := dk_27 (dk_at dksX0_puts_0 16 rfl rfl)
theorem dX0_puts_17 : decode cX0_puts 17 = .ok (.iconst 1, 1) := dk_4 (dk_at dksX0_puts_0 17 rfl rfl)
theorem dX0_puts_18 : decode cX0_puts 18 = .ok (.if_icmp .ne 15, 3) := dk_160 0 15 (dk_at dksX0_puts_0 18 rfl rfl)
theorem dX0_puts_21 : decode cX0_puts 21 = .ok (.aload_n 0, 1) := dk_42 (dk_at dksX0_puts_0 21 rfl rfl)
theorem dX0_puts_22 : decode cX0_puts 22 = .ok (.checkcast 345, 3) := dk_192 1 89 (dk_at dksX0_puts_1 0 rfl rfl)
theorem dX0_puts_25 : decode cX0_puts 25 = .ok (.iload_n 2, 1) := dk_28 (dk_at dksX0_puts_1 3 rfl rfl)
theorem dX0_puts_26 : decode cX0_puts 26 = .ok (.lload_n 3, 1) := dk_33 (dk_at dksX0_puts_1 4 rfl rfl)
theorem dX0_puts_27 : decode cX0_puts 27 = .ok (.l2i, 1) := dk_136 (dk_at dksX0_puts_1 5 rfl rfl)
theorem dX0_puts_28 : decode cX0_puts 28 = .ok (.i2s, 1) := dk_147 (dk_at dksX0_puts_1 6 rfl rfl)
theorem dX0_puts_29 : decode cX0_puts 29 = .ok (.sastore, 1) := dk_86 (dk_at dksX0_puts_1 7 rfl rfl)
theorem dX0_puts_30 : decode cX0_puts 30 = .ok (.goto 26, 3) := dk_167 0 26 (dk_at dksX0_puts_1 8 rfl rfl)
theorem dX0_puts_33 : decode cX0_puts 33 = .ok (.iload_n 1, 1) := dk_27 (dk_at dksX0_puts_1 11 rfl rfl)
theorem dX0_puts_34 : decode cX0_puts 34 = .ok (.iconst 2, 1) := dk_5 (dk_at dksX0_puts_1 12 rfl rfl)
theorem dX0_puts_35 : decode cX0_puts 35 = .ok (.if_icmp .ne 14, 3) := dk_160 0 14 (dk_at dksX0_puts_1 13 rfl rfl)
theorem dX0_puts_38 : decode cX0_puts 38 = .ok (.aload_n 0, 1) := dk_42 (dk_at dksX0_puts_1 16 rfl rfl)
theorem dX0_puts_39 : decode cX0_puts 39 = .ok (.checkcast 347, 3) := dk_192 1 91 (dk_at dksX0_puts_1 17 rfl rfl)
theorem dX0_puts_42 : decode cX0_puts 42 = .ok (.iload_n 2, 1) := dk_28 (dk_at dksX0_puts_1 20 rfl rfl)
theorem dX0_puts_43 : decode cX0_puts 43 = .ok (.lload_n 3, 1) := dk_33 (dk_at dksX0_puts_1 21 rfl rfl)
theorem dX0_puts_44 : decode cX0_puts 44 = .ok (.l2i, 1) := dk_136 (dk_at dksX0_puts_1 22 rfl rfl)
theorem dX0_puts_45 : decode cX0_puts 45 = .ok (.iastore, 1) := dk_79 (dk_at dksX0_puts_1 23 rfl rfl)
theorem dX0_puts_46 : decode cX0_puts 46 = .ok (.goto 10, 3) := dk_167 0 10 (dk_at dksX0_puts_2 0 rfl rfl)
theorem dX0_puts_49 : decode cX0_puts 49 = .ok (.aload_n 0, 1) := dk_42 (dk_at dksX0_puts_2 3 rfl rfl)
theorem dX0_puts_50 : decode cX0_puts 50 = .ok (.checkcast 348, 3) := dk_192 1 92 (dk_at dksX0_puts_2 4 rfl rfl)
theorem dX0_puts_53 : decode cX0_puts 53 = .ok (.iload_n 2, 1) := dk_28 (dk_at dksX0_puts_2 7 rfl rfl)
theorem dX0_puts_54 : decode cX0_puts 54 = .ok (.lload_n 3, 1) := dk_33 (dk_at dksX0_puts_2 8 rfl rfl)
theorem dX0_puts_55 : decode cX0_puts 55 = .ok (.lastore, 1) := dk_80 (dk_at dksX0_puts_2 9 rfl rfl)
theorem dX0_puts_56 : decode cX0_puts 56 = .ok (.return_, 1) := dk_177 (dk_at dksX0_puts_2 10 rfl rfl)
abbrev cX0_lay : ByteArray := prog_1_method_74_code
def yX0_lay : MethodName := ⟨RX0, "lay", "(IIIII)I"⟩
def dkwX0_lay_5 : List UInt8 := [21, 7, 47, 136, 182, 0, 58, 132, 7, 1, 167, 255, 225, 42, 180, 0, 65, 182, 0, 249, 21, 5, 172]
abbrev dktX0_lay_5 : List UInt8 := dkwX0_lay_5 ++ []
def dkwX0_lay_4 : List UInt8 := [54, 7, 21, 7, 21, 5, 162, 0, 30, 42, 180, 0, 38, 10, 27, 21, 7, 96, 121, 42, 180, 1, 136]
abbrev dktX0_lay_4 : List UInt8 := dkwX0_lay_4 ++ dktX0_lay_5
def dkwX0_lay_3 : List UInt8 := [21, 7, 47, 9, 20, 0, 197, 184, 0, 5, 154, 0, 6, 16, 254, 172, 132, 7, 1, 167, 255, 226, 3]
abbrev dktX0_lay_3 : List UInt8 := dkwX0_lay_3 ++ dktX0_lay_4
def dkwX0_lay_2 : List UInt8 := [54, 6, 21, 6, 156, 0, 6, 21, 6, 172, 3, 54, 7, 21, 7, 21, 5, 162, 0, 29, 42, 180, 1, 136]
abbrev dktX0_lay_2 : List UInt8 := dkwX0_lay_2 ++ dktX0_lay_3
def dkwX0_lay_1 : List UInt8 := [10, 16, 36, 27, 100, 133, 184, 0, 5, 154, 0, 5, 2, 172, 42, 28, 29, 21, 4, 21, 5, 182, 1, 147]
abbrev dktX0_lay_1 : List UInt8 := dkwX0_lay_1 ++ dktX0_lay_2
def dkwX0_lay_0 : List UInt8 := [27, 184, 0, 34, 153, 0, 32, 28, 184, 1, 94, 153, 0, 25, 29, 184, 1, 97, 153, 0, 18, 21, 5, 133]
abbrev dktX0_lay_0 : List UInt8 := dkwX0_lay_0 ++ dktX0_lay_1
theorem dksX0_lay_0 : cX0_lay.data.toList.drop 0 = dktX0_lay_0 := by decide +kernel
theorem dksX0_lay_1 : cX0_lay.data.toList.drop 24 = dktX0_lay_1 := dk_seg dksX0_lay_0 24 rfl rfl
theorem dksX0_lay_2 : cX0_lay.data.toList.drop 48 = dktX0_lay_2 := dk_seg dksX0_lay_1 24 rfl rfl
theorem dksX0_lay_3 : cX0_lay.data.toList.drop 72 = dktX0_lay_3 := dk_seg dksX0_lay_2 24 rfl rfl
theorem dksX0_lay_4 : cX0_lay.data.toList.drop 95 = dktX0_lay_4 := dk_seg dksX0_lay_3 23 rfl rfl
theorem dksX0_lay_5 : cX0_lay.data.toList.drop 118 = dktX0_lay_5 := dk_seg dksX0_lay_4 23 rfl rfl
theorem dX0_lay_0 : decode cX0_lay 0 = .ok (.iload_n 1, 1) := dk_27 (dk_at dksX0_lay_0 0 rfl rfl)
theorem dX0_lay_1 : decode cX0_lay 1 = .ok (.invokestatic 34, 3) := dk_184 0 34 (dk_at dksX0_lay_0 1 rfl rfl)
theorem dX0_lay_4 : decode cX0_lay 4 = .ok (.ifCond .eq 32, 3) := dk_153 0 32 (dk_at dksX0_lay_0 4 rfl rfl)
theorem dX0_lay_7 : decode cX0_lay 7 = .ok (.iload_n 2, 1) := dk_28 (dk_at dksX0_lay_0 7 rfl rfl)
theorem dX0_lay_8 : decode cX0_lay 8 = .ok (.invokestatic 350, 3) := dk_184 1 94 (dk_at dksX0_lay_0 8 rfl rfl)
theorem dX0_lay_11 : decode cX0_lay 11 = .ok (.ifCond .eq 25, 3) := dk_153 0 25 (dk_at dksX0_lay_0 11 rfl rfl)
theorem dX0_lay_14 : decode cX0_lay 14 = .ok (.iload_n 3, 1) := dk_29 (dk_at dksX0_lay_0 14 rfl rfl)
theorem dX0_lay_15 : decode cX0_lay 15 = .ok (.invokestatic 353, 3) := dk_184 1 97 (dk_at dksX0_lay_0 15 rfl rfl)
theorem dX0_lay_18 : decode cX0_lay 18 = .ok (.ifCond .eq 18, 3) := dk_153 0 18 (dk_at dksX0_lay_0 18 rfl rfl)
theorem dX0_lay_21 : decode cX0_lay 21 = .ok (.iload 5, 2) := dk_21 5 (dk_at dksX0_lay_0 21 rfl rfl)
theorem dX0_lay_23 : decode cX0_lay 23 = .ok (.i2l, 1) := dk_133 (dk_at dksX0_lay_0 23 rfl rfl)
theorem dX0_lay_24 : decode cX0_lay 24 = .ok (.lconst 1, 1) := dk_10 (dk_at dksX0_lay_1 0 rfl rfl)
theorem dX0_lay_25 : decode cX0_lay 25 = .ok (.bipush 36, 2) := dk_16 36 (dk_at dksX0_lay_1 1 rfl rfl)
theorem dX0_lay_27 : decode cX0_lay 27 = .ok (.iload_n 1, 1) := dk_27 (dk_at dksX0_lay_1 3 rfl rfl)
theorem dX0_lay_28 : decode cX0_lay 28 = .ok (.isub, 1) := dk_100 (dk_at dksX0_lay_1 4 rfl rfl)
theorem dX0_lay_29 : decode cX0_lay 29 = .ok (.i2l, 1) := dk_133 (dk_at dksX0_lay_1 5 rfl rfl)
theorem dX0_lay_30 : decode cX0_lay 30 = .ok (.invokestatic 5, 3) := dk_184 0 5 (dk_at dksX0_lay_1 6 rfl rfl)
theorem dX0_lay_33 : decode cX0_lay 33 = .ok (.ifCond .ne 5, 3) := dk_154 0 5 (dk_at dksX0_lay_1 9 rfl rfl)
theorem dX0_lay_36 : decode cX0_lay 36 = .ok (.iconst (-1), 1) := dk_2 (dk_at dksX0_lay_1 12 rfl rfl)
theorem dX0_lay_37 : decode cX0_lay 37 = .ok (.ireturn, 1) := dk_172 (dk_at dksX0_lay_1 13 rfl rfl)
theorem dX0_lay_38 : decode cX0_lay 38 = .ok (.aload_n 0, 1) := dk_42 (dk_at dksX0_lay_1 14 rfl rfl)
theorem dX0_lay_39 : decode cX0_lay 39 = .ok (.iload_n 2, 1) := dk_28 (dk_at dksX0_lay_1 15 rfl rfl)
theorem dX0_lay_40 : decode cX0_lay 40 = .ok (.iload_n 3, 1) := dk_29 (dk_at dksX0_lay_1 16 rfl rfl)
theorem dX0_lay_41 : decode cX0_lay 41 = .ok (.iload 4, 2) := dk_21 4 (dk_at dksX0_lay_1 17 rfl rfl)
theorem dX0_lay_43 : decode cX0_lay 43 = .ok (.iload 5, 2) := dk_21 5 (dk_at dksX0_lay_1 19 rfl rfl)
theorem dX0_lay_45 : decode cX0_lay 45 = .ok (.invokevirtual 403, 3) := dk_182 1 147 (dk_at dksX0_lay_1 21 rfl rfl)
theorem dX0_lay_48 : decode cX0_lay 48 = .ok (.istore 6, 2) := dk_54 6 (dk_at dksX0_lay_2 0 rfl rfl)
theorem dX0_lay_50 : decode cX0_lay 50 = .ok (.iload 6, 2) := dk_21 6 (dk_at dksX0_lay_2 2 rfl rfl)
theorem dX0_lay_52 : decode cX0_lay 52 = .ok (.ifCond .ge 6, 3) := dk_156 0 6 (dk_at dksX0_lay_2 4 rfl rfl)
theorem dX0_lay_55 : decode cX0_lay 55 = .ok (.iload 6, 2) := dk_21 6 (dk_at dksX0_lay_2 7 rfl rfl)
theorem dX0_lay_57 : decode cX0_lay 57 = .ok (.ireturn, 1) := dk_172 (dk_at dksX0_lay_2 9 rfl rfl)
theorem dX0_lay_58 : decode cX0_lay 58 = .ok (.iconst 0, 1) := dk_3 (dk_at dksX0_lay_2 10 rfl rfl)
theorem dX0_lay_59 : decode cX0_lay 59 = .ok (.istore 7, 2) := dk_54 7 (dk_at dksX0_lay_2 11 rfl rfl)
theorem dX0_lay_61 : decode cX0_lay 61 = .ok (.iload 7, 2) := dk_21 7 (dk_at dksX0_lay_2 13 rfl rfl)
theorem dX0_lay_63 : decode cX0_lay 63 = .ok (.iload 5, 2) := dk_21 5 (dk_at dksX0_lay_2 15 rfl rfl)
theorem dX0_lay_65 : decode cX0_lay 65 = .ok (.if_icmp .ge 29, 3) := dk_162 0 29 (dk_at dksX0_lay_2 17 rfl rfl)
theorem dX0_lay_68 : decode cX0_lay 68 = .ok (.aload_n 0, 1) := dk_42 (dk_at dksX0_lay_2 20 rfl rfl)
theorem dX0_lay_69 : decode cX0_lay 69 = .ok (.getfield 392, 3) := dk_180 1 136 (dk_at dksX0_lay_2 21 rfl rfl)
theorem dX0_lay_72 : decode cX0_lay 72 = .ok (.iload 7, 2) := dk_21 7 (dk_at dksX0_lay_3 0 rfl rfl)
theorem dX0_lay_74 : decode cX0_lay 74 = .ok (.laload, 1) := dk_47 (dk_at dksX0_lay_3 2 rfl rfl)
theorem dX0_lay_75 : decode cX0_lay 75 = .ok (.lconst 0, 1) := dk_9 (dk_at dksX0_lay_3 3 rfl rfl)
theorem dX0_lay_76 : decode cX0_lay 76 = .ok (.ldc2_w 197, 3) := dk_20 0 197 (dk_at dksX0_lay_3 4 rfl rfl)
theorem dX0_lay_79 : decode cX0_lay 79 = .ok (.invokestatic 5, 3) := dk_184 0 5 (dk_at dksX0_lay_3 7 rfl rfl)
theorem dX0_lay_82 : decode cX0_lay 82 = .ok (.ifCond .ne 6, 3) := dk_154 0 6 (dk_at dksX0_lay_3 10 rfl rfl)
theorem dX0_lay_85 : decode cX0_lay 85 = .ok (.bipush (-2), 2) := dk_16 254 (dk_at dksX0_lay_3 13 rfl rfl)
theorem dX0_lay_87 : decode cX0_lay 87 = .ok (.ireturn, 1) := dk_172 (dk_at dksX0_lay_3 15 rfl rfl)
theorem dX0_lay_88 : decode cX0_lay 88 = .ok (.iinc 7 1, 3) := dk_132 7 1 (dk_at dksX0_lay_3 16 rfl rfl)
theorem dX0_lay_91 : decode cX0_lay 91 = .ok (.goto (-30), 3) := dk_167 255 226 (dk_at dksX0_lay_3 19 rfl rfl)
theorem dX0_lay_94 : decode cX0_lay 94 = .ok (.iconst 0, 1) := dk_3 (dk_at dksX0_lay_3 22 rfl rfl)
theorem dX0_lay_95 : decode cX0_lay 95 = .ok (.istore 7, 2) := dk_54 7 (dk_at dksX0_lay_4 0 rfl rfl)
theorem dX0_lay_97 : decode cX0_lay 97 = .ok (.iload 7, 2) := dk_21 7 (dk_at dksX0_lay_4 2 rfl rfl)
theorem dX0_lay_99 : decode cX0_lay 99 = .ok (.iload 5, 2) := dk_21 5 (dk_at dksX0_lay_4 4 rfl rfl)
theorem dX0_lay_101 : decode cX0_lay 101 = .ok (.if_icmp .ge 30, 3) := dk_162 0 30 (dk_at dksX0_lay_4 6 rfl rfl)
theorem dX0_lay_104 : decode cX0_lay 104 = .ok (.aload_n 0, 1) := dk_42 (dk_at dksX0_lay_4 9 rfl rfl)
theorem dX0_lay_105 : decode cX0_lay 105 = .ok (.getfield 38, 3) := dk_180 0 38 (dk_at dksX0_lay_4 10 rfl rfl)
theorem dX0_lay_108 : decode cX0_lay 108 = .ok (.lconst 1, 1) := dk_10 (dk_at dksX0_lay_4 13 rfl rfl)
theorem dX0_lay_109 : decode cX0_lay 109 = .ok (.iload_n 1, 1) := dk_27 (dk_at dksX0_lay_4 14 rfl rfl)
theorem dX0_lay_110 : decode cX0_lay 110 = .ok (.iload 7, 2) := dk_21 7 (dk_at dksX0_lay_4 15 rfl rfl)
theorem dX0_lay_112 : decode cX0_lay 112 = .ok (.iadd, 1) := dk_96 (dk_at dksX0_lay_4 17 rfl rfl)
theorem dX0_lay_113 : decode cX0_lay 113 = .ok (.lshl, 1) := dk_121 (dk_at dksX0_lay_4 18 rfl rfl)
theorem dX0_lay_114 : decode cX0_lay 114 = .ok (.aload_n 0, 1) := dk_42 (dk_at dksX0_lay_4 19 rfl rfl)
theorem dX0_lay_115 : decode cX0_lay 115 = .ok (.getfield 392, 3) := dk_180 1 136 (dk_at dksX0_lay_4 20 rfl rfl)
theorem dX0_lay_118 : decode cX0_lay 118 = .ok (.iload 7, 2) := dk_21 7 (dk_at dksX0_lay_5 0 rfl rfl)
theorem dX0_lay_120 : decode cX0_lay 120 = .ok (.laload, 1) := dk_47 (dk_at dksX0_lay_5 2 rfl rfl)
theorem dX0_lay_121 : decode cX0_lay 121 = .ok (.l2i, 1) := dk_136 (dk_at dksX0_lay_5 3 rfl rfl)
theorem dX0_lay_122 : decode cX0_lay 122 = .ok (.invokevirtual 58, 3) := dk_182 0 58 (dk_at dksX0_lay_5 4 rfl rfl)
theorem dX0_lay_125 : decode cX0_lay 125 = .ok (.iinc 7 1, 3) := dk_132 7 1 (dk_at dksX0_lay_5 7 rfl rfl)
theorem dX0_lay_128 : decode cX0_lay 128 = .ok (.goto (-31), 3) := dk_167 255 225 (dk_at dksX0_lay_5 10 rfl rfl)
theorem dX0_lay_131 : decode cX0_lay 131 = .ok (.aload_n 0, 1) := dk_42 (dk_at dksX0_lay_5 13 rfl rfl)
theorem dX0_lay_132 : decode cX0_lay 132 = .ok (.getfield 65, 3) := dk_180 0 65 (dk_at dksX0_lay_5 14 rfl rfl)
theorem dX0_lay_135 : decode cX0_lay 135 = .ok (.invokevirtual 249, 3) := dk_182 0 249 (dk_at dksX0_lay_5 17 rfl rfl)
theorem dX0_lay_138 : decode cX0_lay 138 = .ok (.iload 5, 2) := dk_21 5 (dk_at dksX0_lay_5 20 rfl rfl)
theorem dX0_lay_140 : decode cX0_lay 140 = .ok (.ireturn, 1) := dk_172 (dk_at dksX0_lay_5 22 rfl rfl)
abbrev cX0_refusal : ByteArray := prog_1_method_73_code
def yX0_refusal : MethodName := ⟨RX0, "refusal", "(IIII)I"⟩
def dkwX0_refusal_1 : List UInt8 := [58, 5, 16, 244, 172, 58, 5, 16, 243, 172]
abbrev dktX0_refusal_1 : List UInt8 := dkwX0_refusal_1 ++ []
def dkwX0_refusal_0 : List UInt8 := [42, 42, 180, 1, 100, 27, 50, 180, 1, 108, 28, 29, 21, 4, 182, 1, 143, 3, 172, 58, 5, 16, 245, 172]
abbrev dktX0_refusal_0 : List UInt8 := dkwX0_refusal_0 ++ dktX0_refusal_1
theorem dksX0_refusal_0 : cX0_refusal.data.toList.drop 0 = dktX0_refusal_0 := by decide +kernel
theorem dksX0_refusal_1 : cX0_refusal.data.toList.drop 24 = dktX0_refusal_1 := dk_seg dksX0_refusal_0 24 rfl rfl
theorem dX0_refusal_0 : decode cX0_refusal 0 = .ok (.aload_n 0, 1) := dk_42 (dk_at dksX0_refusal_0 0 rfl rfl)
theorem dX0_refusal_1 : decode cX0_refusal 1 = .ok (.aload_n 0, 1) := dk_42 (dk_at dksX0_refusal_0 1 rfl rfl)
theorem dX0_refusal_2 : decode cX0_refusal 2 = .ok (.getfield 356, 3) := dk_180 1 100 (dk_at dksX0_refusal_0 2 rfl rfl)
theorem dX0_refusal_5 : decode cX0_refusal 5 = .ok (.iload_n 1, 1) := dk_27 (dk_at dksX0_refusal_0 5 rfl rfl)
theorem dX0_refusal_6 : decode cX0_refusal 6 = .ok (.aaload, 1) := dk_50 (dk_at dksX0_refusal_0 6 rfl rfl)
theorem dX0_refusal_7 : decode cX0_refusal 7 = .ok (.getfield 364, 3) := dk_180 1 108 (dk_at dksX0_refusal_0 7 rfl rfl)
theorem dX0_refusal_10 : decode cX0_refusal 10 = .ok (.iload_n 2, 1) := dk_28 (dk_at dksX0_refusal_0 10 rfl rfl)
theorem dX0_refusal_11 : decode cX0_refusal 11 = .ok (.iload_n 3, 1) := dk_29 (dk_at dksX0_refusal_0 11 rfl rfl)
theorem dX0_refusal_12 : decode cX0_refusal 12 = .ok (.iload 4, 2) := dk_21 4 (dk_at dksX0_refusal_0 12 rfl rfl)
theorem dX0_refusal_14 : decode cX0_refusal 14 = .ok (.invokevirtual 399, 3) := dk_182 1 143 (dk_at dksX0_refusal_0 14 rfl rfl)
theorem dX0_refusal_17 : decode cX0_refusal 17 = .ok (.iconst 0, 1) := dk_3 (dk_at dksX0_refusal_0 17 rfl rfl)
theorem dX0_refusal_18 : decode cX0_refusal 18 = .ok (.ireturn, 1) := dk_172 (dk_at dksX0_refusal_0 18 rfl rfl)
theorem dX0_refusal_19 : decode cX0_refusal 19 = .ok (.astore 5, 2) := dk_58 5 (dk_at dksX0_refusal_0 19 rfl rfl)
theorem dX0_refusal_21 : decode cX0_refusal 21 = .ok (.bipush (-11), 2) := dk_16 245 (dk_at dksX0_refusal_0 21 rfl rfl)
theorem dX0_refusal_23 : decode cX0_refusal 23 = .ok (.ireturn, 1) := dk_172 (dk_at dksX0_refusal_0 23 rfl rfl)
theorem dX0_refusal_24 : decode cX0_refusal 24 = .ok (.astore 5, 2) := dk_58 5 (dk_at dksX0_refusal_1 0 rfl rfl)
theorem dX0_refusal_26 : decode cX0_refusal 26 = .ok (.bipush (-12), 2) := dk_16 244 (dk_at dksX0_refusal_1 2 rfl rfl)
theorem dX0_refusal_28 : decode cX0_refusal 28 = .ok (.ireturn, 1) := dk_172 (dk_at dksX0_refusal_1 4 rfl rfl)
theorem dX0_refusal_29 : decode cX0_refusal 29 = .ok (.astore 5, 2) := dk_58 5 (dk_at dksX0_refusal_1 5 rfl rfl)
theorem dX0_refusal_31 : decode cX0_refusal 31 = .ok (.bipush (-13), 2) := dk_16 243 (dk_at dksX0_refusal_1 7 rfl rfl)
theorem dX0_refusal_33 : decode cX0_refusal 33 = .ok (.ireturn, 1) := dk_172 (dk_at dksX0_refusal_1 9 rfl rfl)
abbrev cX0_looksAt : ByteArray := prog_1_method_72_code
def yX0_looksAt : MethodName := ⟨RX0, "looksAt", "(Ljava/lang/Object;III)V"⟩
def dkwX0_looksAt_2 : List UInt8 := [180, 1, 136, 21, 6, 43, 28, 29, 21, 6, 96, 184, 1, 139, 80, 132, 6, 1, 167, 255, 230, 177]
abbrev dktX0_looksAt_2 : List UInt8 := dkwX0_looksAt_2 ++ []
def dkwX0_looksAt_1 : List UInt8 := [100, 164, 0, 11, 187, 1, 132, 89, 183, 1, 134, 191, 3, 54, 6, 21, 6, 21, 4, 162, 0, 25, 42]
abbrev dktX0_looksAt_1 : List UInt8 := dkwX0_looksAt_1 ++ dktX0_looksAt_2
def dkwX0_looksAt_0 : List UInt8 := [43, 28, 184, 1, 120, 54, 5, 29, 133, 9, 21, 5, 133, 184, 0, 5, 153, 0, 12, 21, 4, 21, 5, 29]
abbrev dktX0_looksAt_0 : List UInt8 := dkwX0_looksAt_0 ++ dktX0_looksAt_1
theorem dksX0_looksAt_0 : cX0_looksAt.data.toList.drop 0 = dktX0_looksAt_0 := by decide +kernel
theorem dksX0_looksAt_1 : cX0_looksAt.data.toList.drop 24 = dktX0_looksAt_1 := dk_seg dksX0_looksAt_0 24 rfl rfl
theorem dksX0_looksAt_2 : cX0_looksAt.data.toList.drop 47 = dktX0_looksAt_2 := dk_seg dksX0_looksAt_1 23 rfl rfl
theorem dX0_looksAt_0 : decode cX0_looksAt 0 = .ok (.aload_n 1, 1) := dk_43 (dk_at dksX0_looksAt_0 0 rfl rfl)
theorem dX0_looksAt_1 : decode cX0_looksAt 1 = .ok (.iload_n 2, 1) := dk_28 (dk_at dksX0_looksAt_0 1 rfl rfl)
theorem dX0_looksAt_2 : decode cX0_looksAt 2 = .ok (.invokestatic 376, 3) := dk_184 1 120 (dk_at dksX0_looksAt_0 2 rfl rfl)
theorem dX0_looksAt_5 : decode cX0_looksAt 5 = .ok (.istore 5, 2) := dk_54 5 (dk_at dksX0_looksAt_0 5 rfl rfl)
theorem dX0_looksAt_7 : decode cX0_looksAt 7 = .ok (.iload_n 3, 1) := dk_29 (dk_at dksX0_looksAt_0 7 rfl rfl)
theorem dX0_looksAt_8 : decode cX0_looksAt 8 = .ok (.i2l, 1) := dk_133 (dk_at dksX0_looksAt_0 8 rfl rfl)
theorem dX0_looksAt_9 : decode cX0_looksAt 9 = .ok (.lconst 0, 1) := dk_9 (dk_at dksX0_looksAt_0 9 rfl rfl)
theorem dX0_looksAt_10 : decode cX0_looksAt 10 = .ok (.iload 5, 2) := dk_21 5 (dk_at dksX0_looksAt_0 10 rfl rfl)
theorem dX0_looksAt_12 : decode cX0_looksAt 12 = .ok (.i2l, 1) := dk_133 (dk_at dksX0_looksAt_0 12 rfl rfl)
theorem dX0_looksAt_13 : decode cX0_looksAt 13 = .ok (.invokestatic 5, 3) := dk_184 0 5 (dk_at dksX0_looksAt_0 13 rfl rfl)
theorem dX0_looksAt_16 : decode cX0_looksAt 16 = .ok (.ifCond .eq 12, 3) := dk_153 0 12 (dk_at dksX0_looksAt_0 16 rfl rfl)
theorem dX0_looksAt_19 : decode cX0_looksAt 19 = .ok (.iload 4, 2) := dk_21 4 (dk_at dksX0_looksAt_0 19 rfl rfl)
theorem dX0_looksAt_21 : decode cX0_looksAt 21 = .ok (.iload 5, 2) := dk_21 5 (dk_at dksX0_looksAt_0 21 rfl rfl)
theorem dX0_looksAt_23 : decode cX0_looksAt 23 = .ok (.iload_n 3, 1) := dk_29 (dk_at dksX0_looksAt_0 23 rfl rfl)
theorem dX0_looksAt_24 : decode cX0_looksAt 24 = .ok (.isub, 1) := dk_100 (dk_at dksX0_looksAt_1 0 rfl rfl)
theorem dX0_looksAt_25 : decode cX0_looksAt 25 = .ok (.if_icmp .le 11, 3) := dk_164 0 11 (dk_at dksX0_looksAt_1 1 rfl rfl)
theorem dX0_looksAt_28 : decode cX0_looksAt 28 = .ok (.new 388, 3) := dk_187 1 132 (dk_at dksX0_looksAt_1 4 rfl rfl)
theorem dX0_looksAt_31 : decode cX0_looksAt 31 = .ok (.dup, 1) := dk_89 (dk_at dksX0_looksAt_1 7 rfl rfl)
theorem dX0_looksAt_32 : decode cX0_looksAt 32 = .ok (.invokespecial 390, 3) := dk_183 1 134 (dk_at dksX0_looksAt_1 8 rfl rfl)
theorem dX0_looksAt_35 : decode cX0_looksAt 35 = .ok (.athrow, 1) := dk_191 (dk_at dksX0_looksAt_1 11 rfl rfl)
theorem dX0_looksAt_36 : decode cX0_looksAt 36 = .ok (.iconst 0, 1) := dk_3 (dk_at dksX0_looksAt_1 12 rfl rfl)
theorem dX0_looksAt_37 : decode cX0_looksAt 37 = .ok (.istore 6, 2) := dk_54 6 (dk_at dksX0_looksAt_1 13 rfl rfl)
theorem dX0_looksAt_39 : decode cX0_looksAt 39 = .ok (.iload 6, 2) := dk_21 6 (dk_at dksX0_looksAt_1 15 rfl rfl)
theorem dX0_looksAt_41 : decode cX0_looksAt 41 = .ok (.iload 4, 2) := dk_21 4 (dk_at dksX0_looksAt_1 17 rfl rfl)
theorem dX0_looksAt_43 : decode cX0_looksAt 43 = .ok (.if_icmp .ge 25, 3) := dk_162 0 25 (dk_at dksX0_looksAt_1 19 rfl rfl)
theorem dX0_looksAt_46 : decode cX0_looksAt 46 = .ok (.aload_n 0, 1) := dk_42 (dk_at dksX0_looksAt_1 22 rfl rfl)
theorem dX0_looksAt_47 : decode cX0_looksAt 47 = .ok (.getfield 392, 3) := dk_180 1 136 (dk_at dksX0_looksAt_2 0 rfl rfl)
theorem dX0_looksAt_50 : decode cX0_looksAt 50 = .ok (.iload 6, 2) := dk_21 6 (dk_at dksX0_looksAt_2 3 rfl rfl)
theorem dX0_looksAt_52 : decode cX0_looksAt 52 = .ok (.aload_n 1, 1) := dk_43 (dk_at dksX0_looksAt_2 5 rfl rfl)
theorem dX0_looksAt_53 : decode cX0_looksAt 53 = .ok (.iload_n 2, 1) := dk_28 (dk_at dksX0_looksAt_2 6 rfl rfl)
theorem dX0_looksAt_54 : decode cX0_looksAt 54 = .ok (.iload_n 3, 1) := dk_29 (dk_at dksX0_looksAt_2 7 rfl rfl)
theorem dX0_looksAt_55 : decode cX0_looksAt 55 = .ok (.iload 6, 2) := dk_21 6 (dk_at dksX0_looksAt_2 8 rfl rfl)
theorem dX0_looksAt_57 : decode cX0_looksAt 57 = .ok (.iadd, 1) := dk_96 (dk_at dksX0_looksAt_2 10 rfl rfl)
theorem dX0_looksAt_58 : decode cX0_looksAt 58 = .ok (.invokestatic 395, 3) := dk_184 1 139 (dk_at dksX0_looksAt_2 11 rfl rfl)
theorem dX0_looksAt_61 : decode cX0_looksAt 61 = .ok (.lastore, 1) := dk_80 (dk_at dksX0_looksAt_2 14 rfl rfl)
theorem dX0_looksAt_62 : decode cX0_looksAt 62 = .ok (.iinc 6 1, 3) := dk_132 6 1 (dk_at dksX0_looksAt_2 15 rfl rfl)
theorem dX0_looksAt_65 : decode cX0_looksAt 65 = .ok (.goto (-26), 3) := dk_167 255 230 (dk_at dksX0_looksAt_2 18 rfl rfl)
theorem dX0_looksAt_68 : decode cX0_looksAt 68 = .ok (.return_, 1) := dk_177 (dk_at dksX0_looksAt_2 21 rfl rfl)
abbrev cX0_itemOf : ByteArray := prog_1_method_66_code
def yX0_itemOf : MethodName := ⟨RX0, "itemOf", "(Ljava/lang/Object;II)J"⟩
def dkwX0_itemOf_3 : List UInt8 := [42, 192, 1, 92, 28, 47, 173]
abbrev dktX0_itemOf_3 : List UInt8 := dkwX0_itemOf_3 ++ []
def dkwX0_itemOf_2 : List UInt8 := [42, 192, 1, 88, 28, 51, 133, 173, 42, 192, 1, 89, 28, 53, 133, 173, 42, 192, 1, 91, 28, 46, 133, 173]
abbrev dktX0_itemOf_2 : List UInt8 := dkwX0_itemOf_2 ++ dktX0_itemOf_3
def dkwX0_itemOf_1 : List UInt8 := [170, 0, 0, 0, 0, 0, 51, 0, 0, 0, 0, 0, 0, 0, 2, 0, 0, 0, 27, 0, 0, 0, 35, 0, 0, 0, 43]
abbrev dktX0_itemOf_1 : List UInt8 := dkwX0_itemOf_1 ++ dktX0_itemOf_2
def dkwX0_itemOf_0 : List UInt8 := [27]
abbrev dktX0_itemOf_0 : List UInt8 := dkwX0_itemOf_0 ++ dktX0_itemOf_1
theorem dksX0_itemOf_0 : cX0_itemOf.data.toList.drop 0 = dktX0_itemOf_0 := by decide +kernel
theorem dksX0_itemOf_1 : cX0_itemOf.data.toList.drop 1 = dktX0_itemOf_1 := dk_seg dksX0_itemOf_0 1 rfl rfl
theorem dksX0_itemOf_2 : cX0_itemOf.data.toList.drop 28 = dktX0_itemOf_2 := dk_seg dksX0_itemOf_1 27 rfl rfl
theorem dksX0_itemOf_3 : cX0_itemOf.data.toList.drop 52 = dktX0_itemOf_3 := dk_seg dksX0_itemOf_2 24 rfl rfl
theorem dX0_itemOf_0 : decode cX0_itemOf 0 = .ok (.iload_n 1, 1) := dk_27 (dk_at dksX0_itemOf_0 0 rfl rfl)
theorem dX0_itemOf_1 : decode cX0_itemOf 1 = .ok (.tableswitch 51 0 2 #[27, 35, 43], 27) := by decide +kernel
theorem dX0_itemOf_28 : decode cX0_itemOf 28 = .ok (.aload_n 0, 1) := dk_42 (dk_at dksX0_itemOf_2 0 rfl rfl)
theorem dX0_itemOf_29 : decode cX0_itemOf 29 = .ok (.checkcast 344, 3) := dk_192 1 88 (dk_at dksX0_itemOf_2 1 rfl rfl)
theorem dX0_itemOf_32 : decode cX0_itemOf 32 = .ok (.iload_n 2, 1) := dk_28 (dk_at dksX0_itemOf_2 4 rfl rfl)
theorem dX0_itemOf_33 : decode cX0_itemOf 33 = .ok (.baload, 1) := dk_51 (dk_at dksX0_itemOf_2 5 rfl rfl)
theorem dX0_itemOf_34 : decode cX0_itemOf 34 = .ok (.i2l, 1) := dk_133 (dk_at dksX0_itemOf_2 6 rfl rfl)
theorem dX0_itemOf_35 : decode cX0_itemOf 35 = .ok (.lreturn, 1) := dk_173 (dk_at dksX0_itemOf_2 7 rfl rfl)
theorem dX0_itemOf_36 : decode cX0_itemOf 36 = .ok (.aload_n 0, 1) := dk_42 (dk_at dksX0_itemOf_2 8 rfl rfl)
theorem dX0_itemOf_37 : decode cX0_itemOf 37 = .ok (.checkcast 345, 3) := dk_192 1 89 (dk_at dksX0_itemOf_2 9 rfl rfl)
theorem dX0_itemOf_40 : decode cX0_itemOf 40 = .ok (.iload_n 2, 1) := dk_28 (dk_at dksX0_itemOf_2 12 rfl rfl)
theorem dX0_itemOf_41 : decode cX0_itemOf 41 = .ok (.saload, 1) := dk_53 (dk_at dksX0_itemOf_2 13 rfl rfl)
theorem dX0_itemOf_42 : decode cX0_itemOf 42 = .ok (.i2l, 1) := dk_133 (dk_at dksX0_itemOf_2 14 rfl rfl)
theorem dX0_itemOf_43 : decode cX0_itemOf 43 = .ok (.lreturn, 1) := dk_173 (dk_at dksX0_itemOf_2 15 rfl rfl)
theorem dX0_itemOf_44 : decode cX0_itemOf 44 = .ok (.aload_n 0, 1) := dk_42 (dk_at dksX0_itemOf_2 16 rfl rfl)
theorem dX0_itemOf_45 : decode cX0_itemOf 45 = .ok (.checkcast 347, 3) := dk_192 1 91 (dk_at dksX0_itemOf_2 17 rfl rfl)
theorem dX0_itemOf_48 : decode cX0_itemOf 48 = .ok (.iload_n 2, 1) := dk_28 (dk_at dksX0_itemOf_2 20 rfl rfl)
theorem dX0_itemOf_49 : decode cX0_itemOf 49 = .ok (.iaload, 1) := dk_46 (dk_at dksX0_itemOf_2 21 rfl rfl)
theorem dX0_itemOf_50 : decode cX0_itemOf 50 = .ok (.i2l, 1) := dk_133 (dk_at dksX0_itemOf_2 22 rfl rfl)
theorem dX0_itemOf_51 : decode cX0_itemOf 51 = .ok (.lreturn, 1) := dk_173 (dk_at dksX0_itemOf_2 23 rfl rfl)
theorem dX0_itemOf_52 : decode cX0_itemOf 52 = .ok (.aload_n 0, 1) := dk_42 (dk_at dksX0_itemOf_3 0 rfl rfl)
theorem dX0_itemOf_53 : decode cX0_itemOf 53 = .ok (.checkcast 348, 3) := dk_192 1 92 (dk_at dksX0_itemOf_3 1 rfl rfl)
theorem dX0_itemOf_56 : decode cX0_itemOf 56 = .ok (.iload_n 2, 1) := dk_28 (dk_at dksX0_itemOf_3 4 rfl rfl)
theorem dX0_itemOf_57 : decode cX0_itemOf 57 = .ok (.laload, 1) := dk_47 (dk_at dksX0_itemOf_3 5 rfl rfl)
theorem dX0_itemOf_58 : decode cX0_itemOf 58 = .ok (.lreturn, 1) := dk_173 (dk_at dksX0_itemOf_3 6 rfl rfl)
abbrev cX0_film : ByteArray := prog_1_method_75_code
def yX0_film : MethodName := ⟨RX0, "film", "(III)I"⟩
def dkwX0_film_4 : List UInt8 := [167, 255, 212, 25, 4, 182, 0, 75, 172]
abbrev dktX0_film_4 : List UInt8 := dkwX0_film_4 ++ []
def dkwX0_film_3 : List UInt8 := [21, 6, 96, 25, 4, 21, 6, 182, 0, 135, 192, 0, 104, 182, 0, 146, 133, 184, 1, 124, 132, 6, 1]
abbrev dktX0_film_3 : List UInt8 := dkwX0_film_3 ++ dktX0_film_4
def dkwX0_film_2 : List UInt8 := [3, 54, 6, 21, 6, 25, 4, 182, 0, 75, 162, 0, 40, 42, 180, 1, 100, 27, 50, 180, 1, 108, 28, 29]
abbrev dktX0_film_2 : List UInt8 := dkwX0_film_2 ++ dktX0_film_3
def dkwX0_film_1 : List UInt8 := [58, 4, 42, 27, 28, 29, 25, 4, 182, 0, 75, 182, 1, 147, 54, 5, 21, 5, 156, 0, 6, 21, 5, 172]
abbrev dktX0_film_1 : List UInt8 := dkwX0_film_1 ++ dktX0_film_2
def dkwX0_film_0 : List UInt8 := [27, 184, 1, 94, 153, 0, 10, 28, 184, 1, 97, 154, 0, 5, 2, 172, 42, 180, 0, 38, 182, 0, 131]
abbrev dktX0_film_0 : List UInt8 := dkwX0_film_0 ++ dktX0_film_1
theorem dksX0_film_0 : cX0_film.data.toList.drop 0 = dktX0_film_0 := by decide +kernel
theorem dksX0_film_1 : cX0_film.data.toList.drop 23 = dktX0_film_1 := dk_seg dksX0_film_0 23 rfl rfl
theorem dksX0_film_2 : cX0_film.data.toList.drop 47 = dktX0_film_2 := dk_seg dksX0_film_1 24 rfl rfl
theorem dksX0_film_3 : cX0_film.data.toList.drop 71 = dktX0_film_3 := dk_seg dksX0_film_2 24 rfl rfl
theorem dksX0_film_4 : cX0_film.data.toList.drop 94 = dktX0_film_4 := dk_seg dksX0_film_3 23 rfl rfl
theorem dX0_film_0 : decode cX0_film 0 = .ok (.iload_n 1, 1) := dk_27 (dk_at dksX0_film_0 0 rfl rfl)
theorem dX0_film_1 : decode cX0_film 1 = .ok (.invokestatic 350, 3) := dk_184 1 94 (dk_at dksX0_film_0 1 rfl rfl)
theorem dX0_film_4 : decode cX0_film 4 = .ok (.ifCond .eq 10, 3) := dk_153 0 10 (dk_at dksX0_film_0 4 rfl rfl)
theorem dX0_film_7 : decode cX0_film 7 = .ok (.iload_n 2, 1) := dk_28 (dk_at dksX0_film_0 7 rfl rfl)
theorem dX0_film_8 : decode cX0_film 8 = .ok (.invokestatic 353, 3) := dk_184 1 97 (dk_at dksX0_film_0 8 rfl rfl)
theorem dX0_film_11 : decode cX0_film 11 = .ok (.ifCond .ne 5, 3) := dk_154 0 5 (dk_at dksX0_film_0 11 rfl rfl)
theorem dX0_film_14 : decode cX0_film 14 = .ok (.iconst (-1), 1) := dk_2 (dk_at dksX0_film_0 14 rfl rfl)
theorem dX0_film_15 : decode cX0_film 15 = .ok (.ireturn, 1) := dk_172 (dk_at dksX0_film_0 15 rfl rfl)
theorem dX0_film_16 : decode cX0_film 16 = .ok (.aload_n 0, 1) := dk_42 (dk_at dksX0_film_0 16 rfl rfl)
theorem dX0_film_17 : decode cX0_film 17 = .ok (.getfield 38, 3) := dk_180 0 38 (dk_at dksX0_film_0 17 rfl rfl)
theorem dX0_film_20 : decode cX0_film 20 = .ok (.invokevirtual 131, 3) := dk_182 0 131 (dk_at dksX0_film_0 20 rfl rfl)
theorem dX0_film_23 : decode cX0_film 23 = .ok (.astore 4, 2) := dk_58 4 (dk_at dksX0_film_1 0 rfl rfl)
theorem dX0_film_25 : decode cX0_film 25 = .ok (.aload_n 0, 1) := dk_42 (dk_at dksX0_film_1 2 rfl rfl)
theorem dX0_film_26 : decode cX0_film 26 = .ok (.iload_n 1, 1) := dk_27 (dk_at dksX0_film_1 3 rfl rfl)
theorem dX0_film_27 : decode cX0_film 27 = .ok (.iload_n 2, 1) := dk_28 (dk_at dksX0_film_1 4 rfl rfl)
theorem dX0_film_28 : decode cX0_film 28 = .ok (.iload_n 3, 1) := dk_29 (dk_at dksX0_film_1 5 rfl rfl)
theorem dX0_film_29 : decode cX0_film 29 = .ok (.aload 4, 2) := dk_25 4 (dk_at dksX0_film_1 6 rfl rfl)
theorem dX0_film_31 : decode cX0_film 31 = .ok (.invokevirtual 75, 3) := dk_182 0 75 (dk_at dksX0_film_1 8 rfl rfl)
theorem dX0_film_34 : decode cX0_film 34 = .ok (.invokevirtual 403, 3) := dk_182 1 147 (dk_at dksX0_film_1 11 rfl rfl)
theorem dX0_film_37 : decode cX0_film 37 = .ok (.istore 5, 2) := dk_54 5 (dk_at dksX0_film_1 14 rfl rfl)
theorem dX0_film_39 : decode cX0_film 39 = .ok (.iload 5, 2) := dk_21 5 (dk_at dksX0_film_1 16 rfl rfl)
theorem dX0_film_41 : decode cX0_film 41 = .ok (.ifCond .ge 6, 3) := dk_156 0 6 (dk_at dksX0_film_1 18 rfl rfl)
theorem dX0_film_44 : decode cX0_film 44 = .ok (.iload 5, 2) := dk_21 5 (dk_at dksX0_film_1 21 rfl rfl)
theorem dX0_film_46 : decode cX0_film 46 = .ok (.ireturn, 1) := dk_172 (dk_at dksX0_film_1 23 rfl rfl)
theorem dX0_film_47 : decode cX0_film 47 = .ok (.iconst 0, 1) := dk_3 (dk_at dksX0_film_2 0 rfl rfl)
theorem dX0_film_48 : decode cX0_film 48 = .ok (.istore 6, 2) := dk_54 6 (dk_at dksX0_film_2 1 rfl rfl)
theorem dX0_film_50 : decode cX0_film 50 = .ok (.iload 6, 2) := dk_21 6 (dk_at dksX0_film_2 3 rfl rfl)
theorem dX0_film_52 : decode cX0_film 52 = .ok (.aload 4, 2) := dk_25 4 (dk_at dksX0_film_2 5 rfl rfl)
theorem dX0_film_54 : decode cX0_film 54 = .ok (.invokevirtual 75, 3) := dk_182 0 75 (dk_at dksX0_film_2 7 rfl rfl)
theorem dX0_film_57 : decode cX0_film 57 = .ok (.if_icmp .ge 40, 3) := dk_162 0 40 (dk_at dksX0_film_2 10 rfl rfl)
theorem dX0_film_60 : decode cX0_film 60 = .ok (.aload_n 0, 1) := dk_42 (dk_at dksX0_film_2 13 rfl rfl)
theorem dX0_film_61 : decode cX0_film 61 = .ok (.getfield 356, 3) := dk_180 1 100 (dk_at dksX0_film_2 14 rfl rfl)
theorem dX0_film_64 : decode cX0_film 64 = .ok (.iload_n 1, 1) := dk_27 (dk_at dksX0_film_2 17 rfl rfl)
theorem dX0_film_65 : decode cX0_film 65 = .ok (.aaload, 1) := dk_50 (dk_at dksX0_film_2 18 rfl rfl)
theorem dX0_film_66 : decode cX0_film 66 = .ok (.getfield 364, 3) := dk_180 1 108 (dk_at dksX0_film_2 19 rfl rfl)
theorem dX0_film_69 : decode cX0_film 69 = .ok (.iload_n 2, 1) := dk_28 (dk_at dksX0_film_2 22 rfl rfl)
theorem dX0_film_70 : decode cX0_film 70 = .ok (.iload_n 3, 1) := dk_29 (dk_at dksX0_film_2 23 rfl rfl)
theorem dX0_film_71 : decode cX0_film 71 = .ok (.iload 6, 2) := dk_21 6 (dk_at dksX0_film_3 0 rfl rfl)
theorem dX0_film_73 : decode cX0_film 73 = .ok (.iadd, 1) := dk_96 (dk_at dksX0_film_3 2 rfl rfl)
theorem dX0_film_74 : decode cX0_film 74 = .ok (.aload 4, 2) := dk_25 4 (dk_at dksX0_film_3 3 rfl rfl)
theorem dX0_film_76 : decode cX0_film 76 = .ok (.iload 6, 2) := dk_21 6 (dk_at dksX0_film_3 5 rfl rfl)
theorem dX0_film_78 : decode cX0_film 78 = .ok (.invokevirtual 135, 3) := dk_182 0 135 (dk_at dksX0_film_3 7 rfl rfl)
theorem dX0_film_81 : decode cX0_film 81 = .ok (.checkcast 104, 3) := dk_192 0 104 (dk_at dksX0_film_3 10 rfl rfl)
theorem dX0_film_84 : decode cX0_film 84 = .ok (.invokevirtual 146, 3) := dk_182 0 146 (dk_at dksX0_film_3 13 rfl rfl)
theorem dX0_film_87 : decode cX0_film 87 = .ok (.i2l, 1) := dk_133 (dk_at dksX0_film_3 16 rfl rfl)
theorem dX0_film_88 : decode cX0_film 88 = .ok (.invokestatic 380, 3) := dk_184 1 124 (dk_at dksX0_film_3 17 rfl rfl)
theorem dX0_film_91 : decode cX0_film 91 = .ok (.iinc 6 1, 3) := dk_132 6 1 (dk_at dksX0_film_3 20 rfl rfl)
theorem dX0_film_94 : decode cX0_film 94 = .ok (.goto (-44), 3) := dk_167 255 212 (dk_at dksX0_film_4 0 rfl rfl)
theorem dX0_film_97 : decode cX0_film 97 = .ok (.aload 4, 2) := dk_25 4 (dk_at dksX0_film_4 3 rfl rfl)
theorem dX0_film_99 : decode cX0_film 99 = .ok (.invokevirtual 75, 3) := dk_182 0 75 (dk_at dksX0_film_4 5 rfl rfl)
theorem dX0_film_102 : decode cX0_film 102 = .ok (.ireturn, 1) := dk_172 (dk_at dksX0_film_4 8 rfl rfl)
abbrev cX0_miscounted : ByteArray := prog_1_method_77_code
def yX0_miscounted : MethodName := ⟨RX0, "miscounted", "(IIII)I"⟩
def dkwX0_miscounted_4 : List UInt8 := [167, 255, 216, 16, 252, 172]
abbrev dktX0_miscounted_4 : List UInt8 := dkwX0_miscounted_4 ++ []
def dkwX0_miscounted_3 : List UInt8 := [180, 1, 136, 5, 21, 6, 104, 4, 96, 47, 182, 1, 153, 154, 0, 6, 21, 6, 172, 132, 6, 1]
abbrev dktX0_miscounted_3 : List UInt8 := dkwX0_miscounted_3 ++ dktX0_miscounted_4
def dkwX0_miscounted_2 : List UInt8 := [21, 5, 172, 3, 54, 6, 21, 6, 21, 4, 162, 0, 39, 42, 42, 180, 1, 136, 5, 21, 6, 104, 47, 42]
abbrev dktX0_miscounted_2 : List UInt8 := dkwX0_miscounted_2 ++ dktX0_miscounted_3
def dkwX0_miscounted_1 : List UInt8 := [154, 0, 5, 2, 172, 42, 27, 28, 29, 5, 21, 4, 104, 182, 1, 147, 54, 5, 21, 5, 156, 0, 6]
abbrev dktX0_miscounted_1 : List UInt8 := dkwX0_miscounted_1 ++ dktX0_miscounted_2
def dkwX0_miscounted_0 : List UInt8 := [27, 184, 1, 94, 153, 0, 23, 28, 184, 1, 97, 153, 0, 16, 21, 4, 133, 10, 20, 1, 151, 184, 0, 5]
abbrev dktX0_miscounted_0 : List UInt8 := dkwX0_miscounted_0 ++ dktX0_miscounted_1
theorem dksX0_miscounted_0 : cX0_miscounted.data.toList.drop 0 = dktX0_miscounted_0 := by decide +kernel
theorem dksX0_miscounted_1 : cX0_miscounted.data.toList.drop 24 = dktX0_miscounted_1 := dk_seg dksX0_miscounted_0 24 rfl rfl
theorem dksX0_miscounted_2 : cX0_miscounted.data.toList.drop 47 = dktX0_miscounted_2 := dk_seg dksX0_miscounted_1 23 rfl rfl
theorem dksX0_miscounted_3 : cX0_miscounted.data.toList.drop 71 = dktX0_miscounted_3 := dk_seg dksX0_miscounted_2 24 rfl rfl
theorem dksX0_miscounted_4 : cX0_miscounted.data.toList.drop 93 = dktX0_miscounted_4 := dk_seg dksX0_miscounted_3 22 rfl rfl
theorem dX0_miscounted_0 : decode cX0_miscounted 0 = .ok (.iload_n 1, 1) := dk_27 (dk_at dksX0_miscounted_0 0 rfl rfl)
theorem dX0_miscounted_1 : decode cX0_miscounted 1 = .ok (.invokestatic 350, 3) := dk_184 1 94 (dk_at dksX0_miscounted_0 1 rfl rfl)
theorem dX0_miscounted_4 : decode cX0_miscounted 4 = .ok (.ifCond .eq 23, 3) := dk_153 0 23 (dk_at dksX0_miscounted_0 4 rfl rfl)
theorem dX0_miscounted_7 : decode cX0_miscounted 7 = .ok (.iload_n 2, 1) := dk_28 (dk_at dksX0_miscounted_0 7 rfl rfl)
theorem dX0_miscounted_8 : decode cX0_miscounted 8 = .ok (.invokestatic 353, 3) := dk_184 1 97 (dk_at dksX0_miscounted_0 8 rfl rfl)
theorem dX0_miscounted_11 : decode cX0_miscounted 11 = .ok (.ifCond .eq 16, 3) := dk_153 0 16 (dk_at dksX0_miscounted_0 11 rfl rfl)
theorem dX0_miscounted_14 : decode cX0_miscounted 14 = .ok (.iload 4, 2) := dk_21 4 (dk_at dksX0_miscounted_0 14 rfl rfl)
theorem dX0_miscounted_16 : decode cX0_miscounted 16 = .ok (.i2l, 1) := dk_133 (dk_at dksX0_miscounted_0 16 rfl rfl)
theorem dX0_miscounted_17 : decode cX0_miscounted 17 = .ok (.lconst 1, 1) := dk_10 (dk_at dksX0_miscounted_0 17 rfl rfl)
theorem dX0_miscounted_18 : decode cX0_miscounted 18 = .ok (.ldc2_w 407, 3) := dk_20 1 151 (dk_at dksX0_miscounted_0 18 rfl rfl)
theorem dX0_miscounted_21 : decode cX0_miscounted 21 = .ok (.invokestatic 5, 3) := dk_184 0 5 (dk_at dksX0_miscounted_0 21 rfl rfl)
theorem dX0_miscounted_24 : decode cX0_miscounted 24 = .ok (.ifCond .ne 5, 3) := dk_154 0 5 (dk_at dksX0_miscounted_1 0 rfl rfl)
theorem dX0_miscounted_27 : decode cX0_miscounted 27 = .ok (.iconst (-1), 1) := dk_2 (dk_at dksX0_miscounted_1 3 rfl rfl)
theorem dX0_miscounted_28 : decode cX0_miscounted 28 = .ok (.ireturn, 1) := dk_172 (dk_at dksX0_miscounted_1 4 rfl rfl)
theorem dX0_miscounted_29 : decode cX0_miscounted 29 = .ok (.aload_n 0, 1) := dk_42 (dk_at dksX0_miscounted_1 5 rfl rfl)
theorem dX0_miscounted_30 : decode cX0_miscounted 30 = .ok (.iload_n 1, 1) := dk_27 (dk_at dksX0_miscounted_1 6 rfl rfl)
theorem dX0_miscounted_31 : decode cX0_miscounted 31 = .ok (.iload_n 2, 1) := dk_28 (dk_at dksX0_miscounted_1 7 rfl rfl)
theorem dX0_miscounted_32 : decode cX0_miscounted 32 = .ok (.iload_n 3, 1) := dk_29 (dk_at dksX0_miscounted_1 8 rfl rfl)
theorem dX0_miscounted_33 : decode cX0_miscounted 33 = .ok (.iconst 2, 1) := dk_5 (dk_at dksX0_miscounted_1 9 rfl rfl)
theorem dX0_miscounted_34 : decode cX0_miscounted 34 = .ok (.iload 4, 2) := dk_21 4 (dk_at dksX0_miscounted_1 10 rfl rfl)
theorem dX0_miscounted_36 : decode cX0_miscounted 36 = .ok (.imul, 1) := dk_104 (dk_at dksX0_miscounted_1 12 rfl rfl)
theorem dX0_miscounted_37 : decode cX0_miscounted 37 = .ok (.invokevirtual 403, 3) := dk_182 1 147 (dk_at dksX0_miscounted_1 13 rfl rfl)
theorem dX0_miscounted_40 : decode cX0_miscounted 40 = .ok (.istore 5, 2) := dk_54 5 (dk_at dksX0_miscounted_1 16 rfl rfl)
theorem dX0_miscounted_42 : decode cX0_miscounted 42 = .ok (.iload 5, 2) := dk_21 5 (dk_at dksX0_miscounted_1 18 rfl rfl)
theorem dX0_miscounted_44 : decode cX0_miscounted 44 = .ok (.ifCond .ge 6, 3) := dk_156 0 6 (dk_at dksX0_miscounted_1 20 rfl rfl)
theorem dX0_miscounted_47 : decode cX0_miscounted 47 = .ok (.iload 5, 2) := dk_21 5 (dk_at dksX0_miscounted_2 0 rfl rfl)
theorem dX0_miscounted_49 : decode cX0_miscounted 49 = .ok (.ireturn, 1) := dk_172 (dk_at dksX0_miscounted_2 2 rfl rfl)
theorem dX0_miscounted_50 : decode cX0_miscounted 50 = .ok (.iconst 0, 1) := dk_3 (dk_at dksX0_miscounted_2 3 rfl rfl)
theorem dX0_miscounted_51 : decode cX0_miscounted 51 = .ok (.istore 6, 2) := dk_54 6 (dk_at dksX0_miscounted_2 4 rfl rfl)
theorem dX0_miscounted_53 : decode cX0_miscounted 53 = .ok (.iload 6, 2) := dk_21 6 (dk_at dksX0_miscounted_2 6 rfl rfl)
theorem dX0_miscounted_55 : decode cX0_miscounted 55 = .ok (.iload 4, 2) := dk_21 4 (dk_at dksX0_miscounted_2 8 rfl rfl)
theorem dX0_miscounted_57 : decode cX0_miscounted 57 = .ok (.if_icmp .ge 39, 3) := dk_162 0 39 (dk_at dksX0_miscounted_2 10 rfl rfl)
theorem dX0_miscounted_60 : decode cX0_miscounted 60 = .ok (.aload_n 0, 1) := dk_42 (dk_at dksX0_miscounted_2 13 rfl rfl)
theorem dX0_miscounted_61 : decode cX0_miscounted 61 = .ok (.aload_n 0, 1) := dk_42 (dk_at dksX0_miscounted_2 14 rfl rfl)
theorem dX0_miscounted_62 : decode cX0_miscounted 62 = .ok (.getfield 392, 3) := dk_180 1 136 (dk_at dksX0_miscounted_2 15 rfl rfl)
theorem dX0_miscounted_65 : decode cX0_miscounted 65 = .ok (.iconst 2, 1) := dk_5 (dk_at dksX0_miscounted_2 18 rfl rfl)
theorem dX0_miscounted_66 : decode cX0_miscounted 66 = .ok (.iload 6, 2) := dk_21 6 (dk_at dksX0_miscounted_2 19 rfl rfl)
theorem dX0_miscounted_68 : decode cX0_miscounted 68 = .ok (.imul, 1) := dk_104 (dk_at dksX0_miscounted_2 21 rfl rfl)
theorem dX0_miscounted_69 : decode cX0_miscounted 69 = .ok (.laload, 1) := dk_47 (dk_at dksX0_miscounted_2 22 rfl rfl)
theorem dX0_miscounted_70 : decode cX0_miscounted 70 = .ok (.aload_n 0, 1) := dk_42 (dk_at dksX0_miscounted_2 23 rfl rfl)
theorem dX0_miscounted_71 : decode cX0_miscounted 71 = .ok (.getfield 392, 3) := dk_180 1 136 (dk_at dksX0_miscounted_3 0 rfl rfl)
theorem dX0_miscounted_74 : decode cX0_miscounted 74 = .ok (.iconst 2, 1) := dk_5 (dk_at dksX0_miscounted_3 3 rfl rfl)
theorem dX0_miscounted_75 : decode cX0_miscounted 75 = .ok (.iload 6, 2) := dk_21 6 (dk_at dksX0_miscounted_3 4 rfl rfl)
theorem dX0_miscounted_77 : decode cX0_miscounted 77 = .ok (.imul, 1) := dk_104 (dk_at dksX0_miscounted_3 6 rfl rfl)
theorem dX0_miscounted_78 : decode cX0_miscounted 78 = .ok (.iconst 1, 1) := dk_4 (dk_at dksX0_miscounted_3 7 rfl rfl)
theorem dX0_miscounted_79 : decode cX0_miscounted 79 = .ok (.iadd, 1) := dk_96 (dk_at dksX0_miscounted_3 8 rfl rfl)
theorem dX0_miscounted_80 : decode cX0_miscounted 80 = .ok (.laload, 1) := dk_47 (dk_at dksX0_miscounted_3 9 rfl rfl)
theorem dX0_miscounted_81 : decode cX0_miscounted 81 = .ok (.invokevirtual 409, 3) := dk_182 1 153 (dk_at dksX0_miscounted_3 10 rfl rfl)
theorem dX0_miscounted_84 : decode cX0_miscounted 84 = .ok (.ifCond .ne 6, 3) := dk_154 0 6 (dk_at dksX0_miscounted_3 13 rfl rfl)
theorem dX0_miscounted_87 : decode cX0_miscounted 87 = .ok (.iload 6, 2) := dk_21 6 (dk_at dksX0_miscounted_3 16 rfl rfl)
theorem dX0_miscounted_89 : decode cX0_miscounted 89 = .ok (.ireturn, 1) := dk_172 (dk_at dksX0_miscounted_3 18 rfl rfl)
theorem dX0_miscounted_90 : decode cX0_miscounted 90 = .ok (.iinc 6 1, 3) := dk_132 6 1 (dk_at dksX0_miscounted_3 19 rfl rfl)
theorem dX0_miscounted_93 : decode cX0_miscounted 93 = .ok (.goto (-40), 3) := dk_167 255 216 (dk_at dksX0_miscounted_4 0 rfl rfl)
theorem dX0_miscounted_96 : decode cX0_miscounted 96 = .ok (.bipush (-4), 2) := dk_16 252 (dk_at dksX0_miscounted_4 3 rfl rfl)
theorem dX0_miscounted_98 : decode cX0_miscounted 98 = .ok (.ireturn, 1) := dk_172 (dk_at dksX0_miscounted_4 5 rfl rfl)
abbrev cX0_isCounted : ByteArray := prog_1_method_76_code
def yX0_isCounted : MethodName := ⟨RX0, "isCounted", "(JJ)Z"⟩
def dkwX0_isCounted_2 : List UInt8 := [172]
abbrev dktX0_isCounted_2 : List UInt8 := dkwX0_isCounted_2 ++ []
def dkwX0_isCounted_1 : List UInt8 := [25, 5, 198, 0, 21, 25, 5, 180, 0, 103, 184, 0, 119, 133, 33, 148, 154, 0, 7, 4, 167, 0, 4, 3]
abbrev dktX0_isCounted_1 : List UInt8 := dkwX0_isCounted_1 ++ dktX0_isCounted_2
def dkwX0_isCounted_0 : List UInt8 := [31, 9, 20, 0, 3, 184, 0, 5, 154, 0, 5, 3, 172, 42, 180, 0, 38, 31, 136, 182, 0, 99, 58, 5]
abbrev dktX0_isCounted_0 : List UInt8 := dkwX0_isCounted_0 ++ dktX0_isCounted_1
theorem dksX0_isCounted_0 : cX0_isCounted.data.toList.drop 0 = dktX0_isCounted_0 := by decide +kernel
theorem dksX0_isCounted_1 : cX0_isCounted.data.toList.drop 24 = dktX0_isCounted_1 := dk_seg dksX0_isCounted_0 24 rfl rfl
theorem dksX0_isCounted_2 : cX0_isCounted.data.toList.drop 48 = dktX0_isCounted_2 := dk_seg dksX0_isCounted_1 24 rfl rfl
theorem dX0_isCounted_0 : decode cX0_isCounted 0 = .ok (.lload_n 1, 1) := dk_31 (dk_at dksX0_isCounted_0 0 rfl rfl)
theorem dX0_isCounted_1 : decode cX0_isCounted 1 = .ok (.lconst 0, 1) := dk_9 (dk_at dksX0_isCounted_0 1 rfl rfl)
theorem dX0_isCounted_2 : decode cX0_isCounted 2 = .ok (.ldc2_w 3, 3) := dk_20 0 3 (dk_at dksX0_isCounted_0 2 rfl rfl)
theorem dX0_isCounted_5 : decode cX0_isCounted 5 = .ok (.invokestatic 5, 3) := dk_184 0 5 (dk_at dksX0_isCounted_0 5 rfl rfl)
theorem dX0_isCounted_8 : decode cX0_isCounted 8 = .ok (.ifCond .ne 5, 3) := dk_154 0 5 (dk_at dksX0_isCounted_0 8 rfl rfl)
theorem dX0_isCounted_11 : decode cX0_isCounted 11 = .ok (.iconst 0, 1) := dk_3 (dk_at dksX0_isCounted_0 11 rfl rfl)
theorem dX0_isCounted_12 : decode cX0_isCounted 12 = .ok (.ireturn, 1) := dk_172 (dk_at dksX0_isCounted_0 12 rfl rfl)
theorem dX0_isCounted_13 : decode cX0_isCounted 13 = .ok (.aload_n 0, 1) := dk_42 (dk_at dksX0_isCounted_0 13 rfl rfl)
theorem dX0_isCounted_14 : decode cX0_isCounted 14 = .ok (.getfield 38, 3) := dk_180 0 38 (dk_at dksX0_isCounted_0 14 rfl rfl)
theorem dX0_isCounted_17 : decode cX0_isCounted 17 = .ok (.lload_n 1, 1) := dk_31 (dk_at dksX0_isCounted_0 17 rfl rfl)
theorem dX0_isCounted_18 : decode cX0_isCounted 18 = .ok (.l2i, 1) := dk_136 (dk_at dksX0_isCounted_0 18 rfl rfl)
theorem dX0_isCounted_19 : decode cX0_isCounted 19 = .ok (.invokevirtual 99, 3) := dk_182 0 99 (dk_at dksX0_isCounted_0 19 rfl rfl)
theorem dX0_isCounted_22 : decode cX0_isCounted 22 = .ok (.astore 5, 2) := dk_58 5 (dk_at dksX0_isCounted_0 22 rfl rfl)
theorem dX0_isCounted_24 : decode cX0_isCounted 24 = .ok (.aload 5, 2) := dk_25 5 (dk_at dksX0_isCounted_1 0 rfl rfl)
theorem dX0_isCounted_26 : decode cX0_isCounted 26 = .ok (.ifnull 21, 3) := dk_198 0 21 (dk_at dksX0_isCounted_1 2 rfl rfl)
theorem dX0_isCounted_29 : decode cX0_isCounted 29 = .ok (.aload 5, 2) := dk_25 5 (dk_at dksX0_isCounted_1 5 rfl rfl)
theorem dX0_isCounted_31 : decode cX0_isCounted 31 = .ok (.getfield 103, 3) := dk_180 0 103 (dk_at dksX0_isCounted_1 7 rfl rfl)
theorem dX0_isCounted_34 : decode cX0_isCounted 34 = .ok (.invokestatic 119, 3) := dk_184 0 119 (dk_at dksX0_isCounted_1 10 rfl rfl)
theorem dX0_isCounted_37 : decode cX0_isCounted 37 = .ok (.i2l, 1) := dk_133 (dk_at dksX0_isCounted_1 13 rfl rfl)
theorem dX0_isCounted_38 : decode cX0_isCounted 38 = .ok (.lload_n 3, 1) := dk_33 (dk_at dksX0_isCounted_1 14 rfl rfl)
theorem dX0_isCounted_39 : decode cX0_isCounted 39 = .ok (.lcmp, 1) := dk_148 (dk_at dksX0_isCounted_1 15 rfl rfl)
theorem dX0_isCounted_40 : decode cX0_isCounted 40 = .ok (.ifCond .ne 7, 3) := dk_154 0 7 (dk_at dksX0_isCounted_1 16 rfl rfl)
theorem dX0_isCounted_43 : decode cX0_isCounted 43 = .ok (.iconst 1, 1) := dk_4 (dk_at dksX0_isCounted_1 19 rfl rfl)
theorem dX0_isCounted_44 : decode cX0_isCounted 44 = .ok (.goto 4, 3) := dk_167 0 4 (dk_at dksX0_isCounted_1 20 rfl rfl)
theorem dX0_isCounted_47 : decode cX0_isCounted 47 = .ok (.iconst 0, 1) := dk_3 (dk_at dksX0_isCounted_1 23 rfl rfl)
theorem dX0_isCounted_48 : decode cX0_isCounted 48 = .ok (.ireturn, 1) := dk_172 (dk_at dksX0_isCounted_2 0 rfl rfl)
abbrev cX0_copy : ByteArray := prog_1_method_78_code
def yX0_copy : MethodName := ⟨RX0, "copy", "(IIIII)I"⟩
def dkwX0_copy_2 : List UInt8 := [58, 6, 16, 245, 172, 58, 6, 16, 244, 172, 58, 6, 16, 243, 172]
abbrev dktX0_copy_2 : List UInt8 := dkwX0_copy_2 ++ []
def dkwX0_copy_1 : List UInt8 := [180, 1, 108, 28, 42, 180, 1, 100, 29, 50, 180, 1, 108, 21, 4, 21, 5, 184, 0, 221, 21, 5, 172]
abbrev dktX0_copy_1 : List UInt8 := dkwX0_copy_1 ++ dktX0_copy_2
def dkwX0_copy_0 : List UInt8 := [27, 184, 1, 94, 153, 0, 10, 29, 184, 1, 94, 154, 0, 5, 2, 172, 42, 180, 1, 100, 27, 50]
abbrev dktX0_copy_0 : List UInt8 := dkwX0_copy_0 ++ dktX0_copy_1
theorem dksX0_copy_0 : cX0_copy.data.toList.drop 0 = dktX0_copy_0 := by decide +kernel
theorem dksX0_copy_1 : cX0_copy.data.toList.drop 22 = dktX0_copy_1 := dk_seg dksX0_copy_0 22 rfl rfl
theorem dksX0_copy_2 : cX0_copy.data.toList.drop 45 = dktX0_copy_2 := dk_seg dksX0_copy_1 23 rfl rfl
theorem dX0_copy_0 : decode cX0_copy 0 = .ok (.iload_n 1, 1) := dk_27 (dk_at dksX0_copy_0 0 rfl rfl)
theorem dX0_copy_1 : decode cX0_copy 1 = .ok (.invokestatic 350, 3) := dk_184 1 94 (dk_at dksX0_copy_0 1 rfl rfl)
theorem dX0_copy_4 : decode cX0_copy 4 = .ok (.ifCond .eq 10, 3) := dk_153 0 10 (dk_at dksX0_copy_0 4 rfl rfl)
theorem dX0_copy_7 : decode cX0_copy 7 = .ok (.iload_n 3, 1) := dk_29 (dk_at dksX0_copy_0 7 rfl rfl)
theorem dX0_copy_8 : decode cX0_copy 8 = .ok (.invokestatic 350, 3) := dk_184 1 94 (dk_at dksX0_copy_0 8 rfl rfl)
theorem dX0_copy_11 : decode cX0_copy 11 = .ok (.ifCond .ne 5, 3) := dk_154 0 5 (dk_at dksX0_copy_0 11 rfl rfl)
theorem dX0_copy_14 : decode cX0_copy 14 = .ok (.iconst (-1), 1) := dk_2 (dk_at dksX0_copy_0 14 rfl rfl)
theorem dX0_copy_15 : decode cX0_copy 15 = .ok (.ireturn, 1) := dk_172 (dk_at dksX0_copy_0 15 rfl rfl)
theorem dX0_copy_16 : decode cX0_copy 16 = .ok (.aload_n 0, 1) := dk_42 (dk_at dksX0_copy_0 16 rfl rfl)
theorem dX0_copy_17 : decode cX0_copy 17 = .ok (.getfield 356, 3) := dk_180 1 100 (dk_at dksX0_copy_0 17 rfl rfl)
theorem dX0_copy_20 : decode cX0_copy 20 = .ok (.iload_n 1, 1) := dk_27 (dk_at dksX0_copy_0 20 rfl rfl)
theorem dX0_copy_21 : decode cX0_copy 21 = .ok (.aaload, 1) := dk_50 (dk_at dksX0_copy_0 21 rfl rfl)
theorem dX0_copy_22 : decode cX0_copy 22 = .ok (.getfield 364, 3) := dk_180 1 108 (dk_at dksX0_copy_1 0 rfl rfl)
theorem dX0_copy_25 : decode cX0_copy 25 = .ok (.iload_n 2, 1) := dk_28 (dk_at dksX0_copy_1 3 rfl rfl)
theorem dX0_copy_26 : decode cX0_copy 26 = .ok (.aload_n 0, 1) := dk_42 (dk_at dksX0_copy_1 4 rfl rfl)
theorem dX0_copy_27 : decode cX0_copy 27 = .ok (.getfield 356, 3) := dk_180 1 100 (dk_at dksX0_copy_1 5 rfl rfl)
theorem dX0_copy_30 : decode cX0_copy 30 = .ok (.iload_n 3, 1) := dk_29 (dk_at dksX0_copy_1 8 rfl rfl)
theorem dX0_copy_31 : decode cX0_copy 31 = .ok (.aaload, 1) := dk_50 (dk_at dksX0_copy_1 9 rfl rfl)
theorem dX0_copy_32 : decode cX0_copy 32 = .ok (.getfield 364, 3) := dk_180 1 108 (dk_at dksX0_copy_1 10 rfl rfl)
theorem dX0_copy_35 : decode cX0_copy 35 = .ok (.iload 4, 2) := dk_21 4 (dk_at dksX0_copy_1 13 rfl rfl)
theorem dX0_copy_37 : decode cX0_copy 37 = .ok (.iload 5, 2) := dk_21 5 (dk_at dksX0_copy_1 15 rfl rfl)
theorem dX0_copy_39 : decode cX0_copy 39 = .ok (.invokestatic 221, 3) := dk_184 0 221 (dk_at dksX0_copy_1 17 rfl rfl)
theorem dX0_copy_42 : decode cX0_copy 42 = .ok (.iload 5, 2) := dk_21 5 (dk_at dksX0_copy_1 20 rfl rfl)
theorem dX0_copy_44 : decode cX0_copy 44 = .ok (.ireturn, 1) := dk_172 (dk_at dksX0_copy_1 22 rfl rfl)
theorem dX0_copy_45 : decode cX0_copy 45 = .ok (.astore 6, 2) := dk_58 6 (dk_at dksX0_copy_2 0 rfl rfl)
theorem dX0_copy_47 : decode cX0_copy 47 = .ok (.bipush (-11), 2) := dk_16 245 (dk_at dksX0_copy_2 2 rfl rfl)
theorem dX0_copy_49 : decode cX0_copy 49 = .ok (.ireturn, 1) := dk_172 (dk_at dksX0_copy_2 4 rfl rfl)
theorem dX0_copy_50 : decode cX0_copy 50 = .ok (.astore 6, 2) := dk_58 6 (dk_at dksX0_copy_2 5 rfl rfl)
theorem dX0_copy_52 : decode cX0_copy 52 = .ok (.bipush (-12), 2) := dk_16 244 (dk_at dksX0_copy_2 7 rfl rfl)
theorem dX0_copy_54 : decode cX0_copy 54 = .ok (.ireturn, 1) := dk_172 (dk_at dksX0_copy_2 9 rfl rfl)
theorem dX0_copy_55 : decode cX0_copy 55 = .ok (.astore 6, 2) := dk_58 6 (dk_at dksX0_copy_2 10 rfl rfl)
theorem dX0_copy_57 : decode cX0_copy 57 = .ok (.bipush (-13), 2) := dk_16 243 (dk_at dksX0_copy_2 12 rfl rfl)
theorem dX0_copy_59 : decode cX0_copy 59 = .ok (.ireturn, 1) := dk_172 (dk_at dksX0_copy_2 14 rfl rfl)
abbrev cX0_init : ByteArray := prog_1_method_79_code
def yX0_init : MethodName := ⟨RX0, "<init>", "()V"⟩
def dkwX0_init_8 : List UInt8 := [84, 132, 1, 1, 167, 255, 240, 177]
abbrev dktX0_init_8 : List UInt8 := dkwX0_init_8 ++ []
def dkwX0_init_7 : List UInt8 := [183, 1, 166, 83, 132, 1, 1, 167, 255, 235, 3, 60, 27, 16, 36, 162, 0, 16, 42, 180, 0, 88, 27, 7]
abbrev dktX0_init_7 : List UInt8 := dkwX0_init_7 ++ dktX0_init_8
def dkwX0_init_6 : List UInt8 := [42, 16, 36, 188, 11, 181, 1, 136, 3, 60, 27, 7, 162, 0, 22, 42, 180, 1, 100, 27, 187, 1, 109, 89]
abbrev dktX0_init_6 : List UInt8 := dkwX0_init_6 ++ dktX0_init_7
def dkwX0_init_5 : List UInt8 := [188, 8, 181, 1, 75, 42, 187, 0, 70, 89, 183, 1, 165, 181, 1, 78, 42, 7, 189, 1, 109, 181, 1, 100]
abbrev dktX0_init_5 : List UInt8 := dkwX0_init_5 ++ dktX0_init_6
def dkwX0_init_4 : List UInt8 := [42, 17, 1, 64, 188, 8, 181, 1, 51, 42, 187, 0, 43, 89, 183, 1, 164, 181, 1, 72, 42, 16, 36]
abbrev dktX0_init_4 : List UInt8 := dkwX0_init_4 ++ dktX0_init_5
def dkwX0_init_3 : List UInt8 := [188, 8, 181, 1, 3, 42, 187, 0, 43, 89, 183, 1, 164, 181, 1, 27, 42, 16, 36, 188, 8, 181, 1, 42]
abbrev dktX0_init_3 : List UInt8 := dkwX0_init_3 ++ dktX0_init_4
def dkwX0_init_2 : List UInt8 := [16, 8, 188, 10, 181, 0, 214, 42, 16, 8, 188, 10, 181, 0, 218, 42, 4, 181, 0, 240, 42, 17, 0, 160]
abbrev dktX0_init_2 : List UInt8 := dkwX0_init_2 ++ dktX0_init_3
def dkwX0_init_1 : List UInt8 := [181, 0, 174, 42, 16, 36, 188, 8, 181, 0, 88, 42, 187, 0, 70, 89, 183, 1, 165, 181, 0, 65, 42]
abbrev dktX0_init_1 : List UInt8 := dkwX0_init_1 ++ dktX0_init_2
def dkwX0_init_0 : List UInt8 := [42, 183, 1, 161, 42, 187, 0, 43, 89, 183, 1, 164, 181, 0, 38, 42, 187, 0, 43, 89, 183, 1, 164]
abbrev dktX0_init_0 : List UInt8 := dkwX0_init_0 ++ dktX0_init_1
theorem dksX0_init_0 : cX0_init.data.toList.drop 0 = dktX0_init_0 := by decide +kernel
theorem dksX0_init_1 : cX0_init.data.toList.drop 23 = dktX0_init_1 := dk_seg dksX0_init_0 23 rfl rfl
theorem dksX0_init_2 : cX0_init.data.toList.drop 46 = dktX0_init_2 := dk_seg dksX0_init_1 23 rfl rfl
theorem dksX0_init_3 : cX0_init.data.toList.drop 70 = dktX0_init_3 := dk_seg dksX0_init_2 24 rfl rfl
theorem dksX0_init_4 : cX0_init.data.toList.drop 94 = dktX0_init_4 := dk_seg dksX0_init_3 24 rfl rfl
theorem dksX0_init_5 : cX0_init.data.toList.drop 117 = dktX0_init_5 := dk_seg dksX0_init_4 23 rfl rfl
theorem dksX0_init_6 : cX0_init.data.toList.drop 141 = dktX0_init_6 := dk_seg dksX0_init_5 24 rfl rfl
theorem dksX0_init_7 : cX0_init.data.toList.drop 165 = dktX0_init_7 := dk_seg dksX0_init_6 24 rfl rfl
theorem dksX0_init_8 : cX0_init.data.toList.drop 189 = dktX0_init_8 := dk_seg dksX0_init_7 24 rfl rfl
theorem dX0_init_0 : decode cX0_init 0 = .ok (.aload_n 0, 1) := dk_42 (dk_at dksX0_init_0 0 rfl rfl)
theorem dX0_init_1 : decode cX0_init 1 = .ok (.invokespecial 417, 3) := dk_183 1 161 (dk_at dksX0_init_0 1 rfl rfl)
theorem dX0_init_4 : decode cX0_init 4 = .ok (.aload_n 0, 1) := dk_42 (dk_at dksX0_init_0 4 rfl rfl)
theorem dX0_init_5 : decode cX0_init 5 = .ok (.new 43, 3) := dk_187 0 43 (dk_at dksX0_init_0 5 rfl rfl)
theorem dX0_init_8 : decode cX0_init 8 = .ok (.dup, 1) := dk_89 (dk_at dksX0_init_0 8 rfl rfl)
theorem dX0_init_9 : decode cX0_init 9 = .ok (.invokespecial 420, 3) := dk_183 1 164 (dk_at dksX0_init_0 9 rfl rfl)
theorem dX0_init_12 : decode cX0_init 12 = .ok (.putfield 38, 3) := dk_181 0 38 (dk_at dksX0_init_0 12 rfl rfl)
theorem dX0_init_15 : decode cX0_init 15 = .ok (.aload_n 0, 1) := dk_42 (dk_at dksX0_init_0 15 rfl rfl)
theorem dX0_init_16 : decode cX0_init 16 = .ok (.new 43, 3) := dk_187 0 43 (dk_at dksX0_init_0 16 rfl rfl)
theorem dX0_init_19 : decode cX0_init 19 = .ok (.dup, 1) := dk_89 (dk_at dksX0_init_0 19 rfl rfl)
theorem dX0_init_20 : decode cX0_init 20 = .ok (.invokespecial 420, 3) := dk_183 1 164 (dk_at dksX0_init_0 20 rfl rfl)
theorem dX0_init_23 : decode cX0_init 23 = .ok (.putfield 174, 3) := dk_181 0 174 (dk_at dksX0_init_1 0 rfl rfl)
theorem dX0_init_26 : decode cX0_init 26 = .ok (.aload_n 0, 1) := dk_42 (dk_at dksX0_init_1 3 rfl rfl)
theorem dX0_init_27 : decode cX0_init 27 = .ok (.bipush 36, 2) := dk_16 36 (dk_at dksX0_init_1 4 rfl rfl)
theorem dX0_init_29 : decode cX0_init 29 = .ok (.newarray .byte, 2) := dk_188_8 (dk_at dksX0_init_1 6 rfl rfl)
theorem dX0_init_31 : decode cX0_init 31 = .ok (.putfield 88, 3) := dk_181 0 88 (dk_at dksX0_init_1 8 rfl rfl)
theorem dX0_init_34 : decode cX0_init 34 = .ok (.aload_n 0, 1) := dk_42 (dk_at dksX0_init_1 11 rfl rfl)
theorem dX0_init_35 : decode cX0_init 35 = .ok (.new 70, 3) := dk_187 0 70 (dk_at dksX0_init_1 12 rfl rfl)
theorem dX0_init_38 : decode cX0_init 38 = .ok (.dup, 1) := dk_89 (dk_at dksX0_init_1 15 rfl rfl)
theorem dX0_init_39 : decode cX0_init 39 = .ok (.invokespecial 421, 3) := dk_183 1 165 (dk_at dksX0_init_1 16 rfl rfl)
theorem dX0_init_42 : decode cX0_init 42 = .ok (.putfield 65, 3) := dk_181 0 65 (dk_at dksX0_init_1 19 rfl rfl)
theorem dX0_init_45 : decode cX0_init 45 = .ok (.aload_n 0, 1) := dk_42 (dk_at dksX0_init_1 22 rfl rfl)
theorem dX0_init_46 : decode cX0_init 46 = .ok (.bipush 8, 2) := dk_16 8 (dk_at dksX0_init_2 0 rfl rfl)
theorem dX0_init_48 : decode cX0_init 48 = .ok (.newarray .int, 2) := dk_188_10 (dk_at dksX0_init_2 2 rfl rfl)
theorem dX0_init_50 : decode cX0_init 50 = .ok (.putfield 214, 3) := dk_181 0 214 (dk_at dksX0_init_2 4 rfl rfl)
theorem dX0_init_53 : decode cX0_init 53 = .ok (.aload_n 0, 1) := dk_42 (dk_at dksX0_init_2 7 rfl rfl)
theorem dX0_init_54 : decode cX0_init 54 = .ok (.bipush 8, 2) := dk_16 8 (dk_at dksX0_init_2 8 rfl rfl)
theorem dX0_init_56 : decode cX0_init 56 = .ok (.newarray .int, 2) := dk_188_10 (dk_at dksX0_init_2 10 rfl rfl)
theorem dX0_init_58 : decode cX0_init 58 = .ok (.putfield 218, 3) := dk_181 0 218 (dk_at dksX0_init_2 12 rfl rfl)
theorem dX0_init_61 : decode cX0_init 61 = .ok (.aload_n 0, 1) := dk_42 (dk_at dksX0_init_2 15 rfl rfl)
theorem dX0_init_62 : decode cX0_init 62 = .ok (.iconst 1, 1) := dk_4 (dk_at dksX0_init_2 16 rfl rfl)
theorem dX0_init_63 : decode cX0_init 63 = .ok (.putfield 240, 3) := dk_181 0 240 (dk_at dksX0_init_2 17 rfl rfl)
theorem dX0_init_66 : decode cX0_init 66 = .ok (.aload_n 0, 1) := dk_42 (dk_at dksX0_init_2 20 rfl rfl)
theorem dX0_init_67 : decode cX0_init 67 = .ok (.sipush 160, 3) := dk_17 0 160 (dk_at dksX0_init_2 21 rfl rfl)
theorem dX0_init_70 : decode cX0_init 70 = .ok (.newarray .byte, 2) := dk_188_8 (dk_at dksX0_init_3 0 rfl rfl)
theorem dX0_init_72 : decode cX0_init 72 = .ok (.putfield 259, 3) := dk_181 1 3 (dk_at dksX0_init_3 2 rfl rfl)
theorem dX0_init_75 : decode cX0_init 75 = .ok (.aload_n 0, 1) := dk_42 (dk_at dksX0_init_3 5 rfl rfl)
theorem dX0_init_76 : decode cX0_init 76 = .ok (.new 43, 3) := dk_187 0 43 (dk_at dksX0_init_3 6 rfl rfl)
theorem dX0_init_79 : decode cX0_init 79 = .ok (.dup, 1) := dk_89 (dk_at dksX0_init_3 9 rfl rfl)
theorem dX0_init_80 : decode cX0_init 80 = .ok (.invokespecial 420, 3) := dk_183 1 164 (dk_at dksX0_init_3 10 rfl rfl)
theorem dX0_init_83 : decode cX0_init 83 = .ok (.putfield 283, 3) := dk_181 1 27 (dk_at dksX0_init_3 13 rfl rfl)
theorem dX0_init_86 : decode cX0_init 86 = .ok (.aload_n 0, 1) := dk_42 (dk_at dksX0_init_3 16 rfl rfl)
theorem dX0_init_87 : decode cX0_init 87 = .ok (.bipush 36, 2) := dk_16 36 (dk_at dksX0_init_3 17 rfl rfl)
theorem dX0_init_89 : decode cX0_init 89 = .ok (.newarray .byte, 2) := dk_188_8 (dk_at dksX0_init_3 19 rfl rfl)
theorem dX0_init_91 : decode cX0_init 91 = .ok (.putfield 298, 3) := dk_181 1 42 (dk_at dksX0_init_3 21 rfl rfl)
theorem dX0_init_94 : decode cX0_init 94 = .ok (.aload_n 0, 1) := dk_42 (dk_at dksX0_init_4 0 rfl rfl)
theorem dX0_init_95 : decode cX0_init 95 = .ok (.sipush 320, 3) := dk_17 1 64 (dk_at dksX0_init_4 1 rfl rfl)
theorem dX0_init_98 : decode cX0_init 98 = .ok (.newarray .byte, 2) := dk_188_8 (dk_at dksX0_init_4 4 rfl rfl)
theorem dX0_init_100 : decode cX0_init 100 = .ok (.putfield 307, 3) := dk_181 1 51 (dk_at dksX0_init_4 6 rfl rfl)
theorem dX0_init_103 : decode cX0_init 103 = .ok (.aload_n 0, 1) := dk_42 (dk_at dksX0_init_4 9 rfl rfl)
theorem dX0_init_104 : decode cX0_init 104 = .ok (.new 43, 3) := dk_187 0 43 (dk_at dksX0_init_4 10 rfl rfl)
theorem dX0_init_107 : decode cX0_init 107 = .ok (.dup, 1) := dk_89 (dk_at dksX0_init_4 13 rfl rfl)
theorem dX0_init_108 : decode cX0_init 108 = .ok (.invokespecial 420, 3) := dk_183 1 164 (dk_at dksX0_init_4 14 rfl rfl)
theorem dX0_init_111 : decode cX0_init 111 = .ok (.putfield 328, 3) := dk_181 1 72 (dk_at dksX0_init_4 17 rfl rfl)
theorem dX0_init_114 : decode cX0_init 114 = .ok (.aload_n 0, 1) := dk_42 (dk_at dksX0_init_4 20 rfl rfl)
theorem dX0_init_115 : decode cX0_init 115 = .ok (.bipush 36, 2) := dk_16 36 (dk_at dksX0_init_4 21 rfl rfl)
theorem dX0_init_117 : decode cX0_init 117 = .ok (.newarray .byte, 2) := dk_188_8 (dk_at dksX0_init_5 0 rfl rfl)
theorem dX0_init_119 : decode cX0_init 119 = .ok (.putfield 331, 3) := dk_181 1 75 (dk_at dksX0_init_5 2 rfl rfl)
theorem dX0_init_122 : decode cX0_init 122 = .ok (.aload_n 0, 1) := dk_42 (dk_at dksX0_init_5 5 rfl rfl)
theorem dX0_init_123 : decode cX0_init 123 = .ok (.new 70, 3) := dk_187 0 70 (dk_at dksX0_init_5 6 rfl rfl)
theorem dX0_init_126 : decode cX0_init 126 = .ok (.dup, 1) := dk_89 (dk_at dksX0_init_5 9 rfl rfl)
theorem dX0_init_127 : decode cX0_init 127 = .ok (.invokespecial 421, 3) := dk_183 1 165 (dk_at dksX0_init_5 10 rfl rfl)
theorem dX0_init_130 : decode cX0_init 130 = .ok (.putfield 334, 3) := dk_181 1 78 (dk_at dksX0_init_5 13 rfl rfl)
theorem dX0_init_133 : decode cX0_init 133 = .ok (.aload_n 0, 1) := dk_42 (dk_at dksX0_init_5 16 rfl rfl)
theorem dX0_init_134 : decode cX0_init 134 = .ok (.iconst 4, 1) := dk_7 (dk_at dksX0_init_5 17 rfl rfl)
theorem dX0_init_135 : decode cX0_init 135 = .ok (.anewarray 365, 3) := dk_189 1 109 (dk_at dksX0_init_5 18 rfl rfl)
theorem dX0_init_138 : decode cX0_init 138 = .ok (.putfield 356, 3) := dk_181 1 100 (dk_at dksX0_init_5 21 rfl rfl)
theorem dX0_init_141 : decode cX0_init 141 = .ok (.aload_n 0, 1) := dk_42 (dk_at dksX0_init_6 0 rfl rfl)
theorem dX0_init_142 : decode cX0_init 142 = .ok (.bipush 36, 2) := dk_16 36 (dk_at dksX0_init_6 1 rfl rfl)
theorem dX0_init_144 : decode cX0_init 144 = .ok (.newarray .long, 2) := dk_188_11 (dk_at dksX0_init_6 3 rfl rfl)
theorem dX0_init_146 : decode cX0_init 146 = .ok (.putfield 392, 3) := dk_181 1 136 (dk_at dksX0_init_6 5 rfl rfl)
theorem dX0_init_149 : decode cX0_init 149 = .ok (.iconst 0, 1) := dk_3 (dk_at dksX0_init_6 8 rfl rfl)
theorem dX0_init_150 : decode cX0_init 150 = .ok (.istore_n 1, 1) := dk_60 (dk_at dksX0_init_6 9 rfl rfl)
theorem dX0_init_151 : decode cX0_init 151 = .ok (.iload_n 1, 1) := dk_27 (dk_at dksX0_init_6 10 rfl rfl)
theorem dX0_init_152 : decode cX0_init 152 = .ok (.iconst 4, 1) := dk_7 (dk_at dksX0_init_6 11 rfl rfl)
theorem dX0_init_153 : decode cX0_init 153 = .ok (.if_icmp .ge 22, 3) := dk_162 0 22 (dk_at dksX0_init_6 12 rfl rfl)
theorem dX0_init_156 : decode cX0_init 156 = .ok (.aload_n 0, 1) := dk_42 (dk_at dksX0_init_6 15 rfl rfl)
theorem dX0_init_157 : decode cX0_init 157 = .ok (.getfield 356, 3) := dk_180 1 100 (dk_at dksX0_init_6 16 rfl rfl)
theorem dX0_init_160 : decode cX0_init 160 = .ok (.iload_n 1, 1) := dk_27 (dk_at dksX0_init_6 19 rfl rfl)
theorem dX0_init_161 : decode cX0_init 161 = .ok (.new 365, 3) := dk_187 1 109 (dk_at dksX0_init_6 20 rfl rfl)
theorem dX0_init_164 : decode cX0_init 164 = .ok (.dup, 1) := dk_89 (dk_at dksX0_init_6 23 rfl rfl)
theorem dX0_init_165 : decode cX0_init 165 = .ok (.invokespecial 422, 3) := dk_183 1 166 (dk_at dksX0_init_7 0 rfl rfl)
theorem dX0_init_168 : decode cX0_init 168 = .ok (.aastore, 1) := dk_83 (dk_at dksX0_init_7 3 rfl rfl)
theorem dX0_init_169 : decode cX0_init 169 = .ok (.iinc 1 1, 3) := dk_132 1 1 (dk_at dksX0_init_7 4 rfl rfl)
theorem dX0_init_172 : decode cX0_init 172 = .ok (.goto (-21), 3) := dk_167 255 235 (dk_at dksX0_init_7 7 rfl rfl)
theorem dX0_init_175 : decode cX0_init 175 = .ok (.iconst 0, 1) := dk_3 (dk_at dksX0_init_7 10 rfl rfl)
theorem dX0_init_176 : decode cX0_init 176 = .ok (.istore_n 1, 1) := dk_60 (dk_at dksX0_init_7 11 rfl rfl)
theorem dX0_init_177 : decode cX0_init 177 = .ok (.iload_n 1, 1) := dk_27 (dk_at dksX0_init_7 12 rfl rfl)
theorem dX0_init_178 : decode cX0_init 178 = .ok (.bipush 36, 2) := dk_16 36 (dk_at dksX0_init_7 13 rfl rfl)
theorem dX0_init_180 : decode cX0_init 180 = .ok (.if_icmp .ge 16, 3) := dk_162 0 16 (dk_at dksX0_init_7 15 rfl rfl)
theorem dX0_init_183 : decode cX0_init 183 = .ok (.aload_n 0, 1) := dk_42 (dk_at dksX0_init_7 18 rfl rfl)
theorem dX0_init_184 : decode cX0_init 184 = .ok (.getfield 88, 3) := dk_180 0 88 (dk_at dksX0_init_7 19 rfl rfl)
theorem dX0_init_187 : decode cX0_init 187 = .ok (.iload_n 1, 1) := dk_27 (dk_at dksX0_init_7 22 rfl rfl)
theorem dX0_init_188 : decode cX0_init 188 = .ok (.iconst 4, 1) := dk_7 (dk_at dksX0_init_7 23 rfl rfl)
theorem dX0_init_189 : decode cX0_init 189 = .ok (.bastore, 1) := dk_84 (dk_at dksX0_init_8 0 rfl rfl)
theorem dX0_init_190 : decode cX0_init 190 = .ok (.iinc 1 1, 3) := dk_132 1 1 (dk_at dksX0_init_8 1 rfl rfl)
theorem dX0_init_193 : decode cX0_init 193 = .ok (.goto (-16), 3) := dk_167 255 240 (dk_at dksX0_init_8 4 rfl rfl)
theorem dX0_init_196 : decode cX0_init 196 = .ok (.return_, 1) := dk_177 (dk_at dksX0_init_8 7 rfl rfl)
theorem q54 : (Jvm.Cond.initialized "HoleCounty") ∈ lw_all := lw_g (lw_at lw_m1 1 rfl) rfl
theorem q89 : (Jvm.Cond.instanceMethod ({ cls := "HoleCounty", name := "dig", desc := "(I)I" } : Jvm.MethodName)) ∈ lw_all := lw_g (lw_at lw_m1 36 rfl) rfl
theorem q90 : (Jvm.Cond.selects "HoleCounty" ({ cls := "HoleCounty", name := "dig", desc := "(I)I" } : Jvm.MethodName) ({ cls := "HoleCounty", name := "dig", desc := "(I)I" } : Jvm.MethodName)) ∈ lw_all := lw_g (lw_at lw_m1 37 rfl) rfl
theorem q91 : (Jvm.Cond.code ({ cls := "HoleCounty", name := "dig", desc := "(I)I" } : Jvm.MethodName) prog_1_method_11_code (2 : Nat) (Option.some Jvm.ClassFile.FieldType.int)) ∈ lw_all := lw_g (lw_at lw_m1 38 rfl) rfl
theorem q92 : (Jvm.Cond.methodLink "HoleCounty" (34 : Nat) ({ cls := "HoleCounty", name := "isCell", desc := "(I)Z" } : Jvm.MethodName)) ∈ lw_all := lw_g (lw_at lw_m1 39 rfl) rfl
theorem q93 : (Jvm.Cond.static ({ cls := "HoleCounty", name := "isCell", desc := "(I)Z" } : Jvm.MethodName)) ∈ lw_all := lw_g (lw_at lw_m1 40 rfl) rfl
theorem q94 : (Jvm.Cond.code ({ cls := "HoleCounty", name := "isCell", desc := "(I)Z" } : Jvm.MethodName) prog_1_method_2_code (1 : Nat) (Option.some Jvm.ClassFile.FieldType.boolean)) ∈ lw_all := lw_g (lw_at lw_m1 41 rfl) rfl
theorem q95 : (Jvm.Cond.constantLong "HoleCounty" (3 : Nat) (35 : Int64)) ∈ lw_all := lw_g (lw_at lw_m1 42 rfl) rfl
theorem q96 : (Jvm.Cond.methodLink "HoleCounty" (5 : Nat) ({ cls := "HoleCounty", name := "in", desc := "(JJJ)Z" } : Jvm.MethodName)) ∈ lw_all := lw_g (lw_at lw_m1 43 rfl) rfl
theorem q97 : (Jvm.Cond.static ({ cls := "HoleCounty", name := "in", desc := "(JJJ)Z" } : Jvm.MethodName)) ∈ lw_all := lw_g (lw_at lw_m1 44 rfl) rfl
theorem q98 : (Jvm.Cond.code ({ cls := "HoleCounty", name := "in", desc := "(JJJ)Z" } : Jvm.MethodName) prog_1_method_1_code (6 : Nat) (Option.some Jvm.ClassFile.FieldType.boolean)) ∈ lw_all := lw_g (lw_at lw_m1 45 rfl) rfl
theorem q99 : (Jvm.Cond.classLink "HoleCounty" (48 : Nat) "HoleCounty$Repair") ∈ lw_all := lw_g (lw_at lw_m1 46 rfl) rfl
theorem q101 : (Jvm.Cond.methodLink "HoleCounty" (50 : Nat) ({ cls := "HoleCounty$Repair", name := "<init>", desc := "(LHoleCounty;I)V" } : Jvm.MethodName)) ∈ lw_all := lw_g (lw_at lw_m1 48 rfl) rfl
theorem q108 : (Jvm.Cond.static ({ cls := "HoleCounty", name := "has", desc := "(JI)Z" } : Jvm.MethodName)) ∈ lw_all := lw_g (lw_at lw_m1 55 rfl) rfl
theorem q109 : (Jvm.Cond.code ({ cls := "HoleCounty", name := "has", desc := "(JI)Z" } : Jvm.MethodName) prog_1_method_5_code (3 : Nat) (Option.some Jvm.ClassFile.FieldType.boolean)) ∈ lw_all := lw_g (lw_at lw_m1 56 rfl) rfl
theorem q123 : (Jvm.Cond.methodLink "HoleCounty" (54 : Nat) ({ cls := "HoleCounty$Repair", name := "kept", desc := "()V" } : Jvm.MethodName)) ∈ lw_all := lw_g (lw_at lw_m1 70 rfl) rfl
theorem q183 : (Jvm.Cond.selects "HoleCounty" ({ cls := "java/lang/Object", name := "getClass", desc := "()Ljava/lang/Class;" } : Jvm.MethodName) ({ cls := "java/lang/Object", name := "getClass", desc := "()Ljava/lang/Class;" } : Jvm.MethodName)) ∈ lw_all := lw_g (lw_at lw_m1 130 rfl) rfl
theorem q215 : (Jvm.Cond.instanceMethod ({ cls := "HoleCounty", name := "fill", desc := "(I)I" } : Jvm.MethodName)) ∈ lw_all := lw_g (lw_at lw_m1 162 rfl) rfl
theorem q216 : (Jvm.Cond.selects "HoleCounty" ({ cls := "HoleCounty", name := "fill", desc := "(I)I" } : Jvm.MethodName) ({ cls := "HoleCounty", name := "fill", desc := "(I)I" } : Jvm.MethodName)) ∈ lw_all := lw_g (lw_at lw_m1 163 rfl) rfl
theorem q217 : (Jvm.Cond.code ({ cls := "HoleCounty", name := "fill", desc := "(I)I" } : Jvm.MethodName) prog_1_method_12_code (3 : Nat) (Option.some Jvm.ClassFile.FieldType.int)) ∈ lw_all := lw_g (lw_at lw_m1 164 rfl) rfl
theorem q218 : (Jvm.Cond.methodLink "HoleCounty" (58 : Nat) ({ cls := "HoleCounty$Ground", name := "becomes", desc := "(JI)V" } : Jvm.MethodName)) ∈ lw_all := lw_g (lw_at lw_m1 165 rfl) rfl
theorem q223 : (Jvm.Cond.static ({ cls := "HoleCounty", name := "least", desc := "(J)I" } : Jvm.MethodName)) ∈ lw_all := lw_g (lw_at lw_m1 170 rfl) rfl
theorem q224 : (Jvm.Cond.code ({ cls := "HoleCounty", name := "least", desc := "(J)I" } : Jvm.MethodName) prog_1_method_9_code (3 : Nat) (Option.some Jvm.ClassFile.FieldType.int)) ∈ lw_all := lw_g (lw_at lw_m1 171 rfl) rfl
theorem q225 : (Jvm.Cond.methodLink "HoleCounty" (26 : Nat) ({ cls := "HoleCounty", name := "has", desc := "(JI)Z" } : Jvm.MethodName)) ∈ lw_all := lw_g (lw_at lw_m1 172 rfl) rfl
theorem q228 : (Jvm.Cond.instanceMethod ({ cls := "HoleCounty", name := "roof", desc := "(I)I" } : Jvm.MethodName)) ∈ lw_all := lw_g (lw_at lw_m1 175 rfl) rfl
theorem q229 : (Jvm.Cond.selects "HoleCounty" ({ cls := "HoleCounty", name := "roof", desc := "(I)I" } : Jvm.MethodName) ({ cls := "HoleCounty", name := "roof", desc := "(I)I" } : Jvm.MethodName)) ∈ lw_all := lw_g (lw_at lw_m1 176 rfl) rfl
theorem q230 : (Jvm.Cond.code ({ cls := "HoleCounty", name := "roof", desc := "(I)I" } : Jvm.MethodName) prog_1_method_13_code (2 : Nat) (Option.some Jvm.ClassFile.FieldType.int)) ∈ lw_all := lw_g (lw_at lw_m1 177 rfl) rfl
theorem q232 : (Jvm.Cond.instanceMethod ({ cls := "HoleCounty", name := "undo", desc := "()I" } : Jvm.MethodName)) ∈ lw_all := lw_g (lw_at lw_m1 179 rfl) rfl
theorem q233 : (Jvm.Cond.selects "HoleCounty" ({ cls := "HoleCounty", name := "undo", desc := "()I" } : Jvm.MethodName) ({ cls := "HoleCounty", name := "undo", desc := "()I" } : Jvm.MethodName)) ∈ lw_all := lw_g (lw_at lw_m1 180 rfl) rfl
theorem q234 : (Jvm.Cond.code ({ cls := "HoleCounty", name := "undo", desc := "()I" } : Jvm.MethodName) prog_1_method_14_code (1 : Nat) (Option.some Jvm.ClassFile.FieldType.int)) ∈ lw_all := lw_g (lw_at lw_m1 181 rfl) rfl
theorem q235 : (Jvm.Cond.methodLink "HoleCounty" (69 : Nat) ({ cls := "java/util/ArrayList", name := "isEmpty", desc := "()Z" } : Jvm.MethodName)) ∈ lw_all := lw_g (lw_at lw_m1 182 rfl) rfl
theorem q239 : (Jvm.Cond.methodLink "HoleCounty" (75 : Nat) ({ cls := "java/util/ArrayList", name := "size", desc := "()I" } : Jvm.MethodName)) ∈ lw_all := lw_g (lw_at lw_m1 186 rfl) rfl
theorem q240 : (Jvm.Cond.methodLink "HoleCounty" (79 : Nat) ({ cls := "java/util/ArrayList", name := "remove", desc := "(I)Ljava/lang/Object;" } : Jvm.MethodName)) ∈ lw_all := lw_g (lw_at lw_m1 187 rfl) rfl
theorem q241 : (Jvm.Cond.methodLink "HoleCounty" (83 : Nat) ({ cls := "HoleCounty$Repair", name := "undoes", desc := "()V" } : Jvm.MethodName)) ∈ lw_all := lw_g (lw_at lw_m1 188 rfl) rfl
theorem q248 : (Jvm.Cond.instanceMethod ({ cls := "HoleCounty", name := "own", desc := "(II)I" } : Jvm.MethodName)) ∈ lw_all := lw_g (lw_at lw_m1 195 rfl) rfl
theorem q249 : (Jvm.Cond.selects "HoleCounty" ({ cls := "HoleCounty", name := "own", desc := "(II)I" } : Jvm.MethodName) ({ cls := "HoleCounty", name := "own", desc := "(II)I" } : Jvm.MethodName)) ∈ lw_all := lw_g (lw_at lw_m1 196 rfl) rfl
theorem q250 : (Jvm.Cond.code ({ cls := "HoleCounty", name := "own", desc := "(II)I" } : Jvm.MethodName) prog_1_method_15_code (4 : Nat) (Option.some Jvm.ClassFile.FieldType.int)) ∈ lw_all := lw_g (lw_at lw_m1 197 rfl) rfl
theorem q251 : (Jvm.Cond.constantLong "HoleCounty" (86 : Nat) (4 : Int64)) ∈ lw_all := lw_g (lw_at lw_m1 198 rfl) rfl
theorem q253 : (Jvm.Cond.instanceMethod ({ cls := "HoleCounty", name := "rate", desc := "(I)I" } : Jvm.MethodName)) ∈ lw_all := lw_g (lw_at lw_m1 200 rfl) rfl
theorem q254 : (Jvm.Cond.selects "HoleCounty" ({ cls := "HoleCounty", name := "rate", desc := "(I)I" } : Jvm.MethodName) ({ cls := "HoleCounty", name := "rate", desc := "(I)I" } : Jvm.MethodName)) ∈ lw_all := lw_g (lw_at lw_m1 201 rfl) rfl
theorem q255 : (Jvm.Cond.code ({ cls := "HoleCounty", name := "rate", desc := "(I)I" } : Jvm.MethodName) prog_1_method_16_code (3 : Nat) (Option.some Jvm.ClassFile.FieldType.int)) ∈ lw_all := lw_g (lw_at lw_m1 202 rfl) rfl
theorem q256 : (Jvm.Cond.constantLong "HoleCounty" (91 : Nat) (99 : Int64)) ∈ lw_all := lw_g (lw_at lw_m1 203 rfl) rfl
theorem q258 : (Jvm.Cond.instanceMethod ({ cls := "HoleCounty", name := "told", desc := "(II)I" } : Jvm.MethodName)) ∈ lw_all := lw_g (lw_at lw_m1 205 rfl) rfl
theorem q259 : (Jvm.Cond.selects "HoleCounty" ({ cls := "HoleCounty", name := "told", desc := "(II)I" } : Jvm.MethodName) ({ cls := "HoleCounty", name := "told", desc := "(II)I" } : Jvm.MethodName)) ∈ lw_all := lw_g (lw_at lw_m1 206 rfl) rfl
theorem q260 : (Jvm.Cond.code ({ cls := "HoleCounty", name := "told", desc := "(II)I" } : Jvm.MethodName) prog_1_method_17_code (4 : Nat) (Option.some Jvm.ClassFile.FieldType.int)) ∈ lw_all := lw_g (lw_at lw_m1 207 rfl) rfl
theorem q261 : (Jvm.Cond.constantLong "HoleCounty" (97 : Nat) (3 : Int64)) ∈ lw_all := lw_g (lw_at lw_m1 208 rfl) rfl
theorem q262 : (Jvm.Cond.methodLink "HoleCounty" (99 : Nat) ({ cls := "HoleCounty$Ground", name := "hole", desc := "(I)LHoleCounty$Pit;" } : Jvm.MethodName)) ∈ lw_all := lw_g (lw_at lw_m1 209 rfl) rfl
theorem q271 : (Jvm.Cond.static ({ cls := "HoleCounty", name := "spread", desc := "(JJ)J" } : Jvm.MethodName)) ∈ lw_all := lw_g (lw_at lw_m1 218 rfl) rfl
theorem q272 : (Jvm.Cond.code ({ cls := "HoleCounty", name := "spread", desc := "(JJ)J" } : Jvm.MethodName) prog_1_method_7_code (8 : Nat) (Option.some Jvm.ClassFile.FieldType.long)) ∈ lw_all := lw_g (lw_at lw_m1 219 rfl) rfl
theorem q273 : (Jvm.Cond.methodLink "HoleCounty" (22 : Nat) ({ cls := "HoleCounty", name := "beside", desc := "(J)J" } : Jvm.MethodName)) ∈ lw_all := lw_g (lw_at lw_m1 220 rfl) rfl
theorem q274 : (Jvm.Cond.static ({ cls := "HoleCounty", name := "beside", desc := "(J)J" } : Jvm.MethodName)) ∈ lw_all := lw_g (lw_at lw_m1 221 rfl) rfl
theorem q275 : (Jvm.Cond.code ({ cls := "HoleCounty", name := "beside", desc := "(J)J" } : Jvm.MethodName) prog_1_method_6_code (2 : Nat) (Option.some Jvm.ClassFile.FieldType.long)) ∈ lw_all := lw_g (lw_at lw_m1 222 rfl) rfl
theorem q276 : (Jvm.Cond.fieldLink "HoleCounty" (11 : Nat) "HoleCounty" "LAST" "J") ∈ lw_all := lw_g (lw_at lw_m1 223 rfl) rfl
theorem q277 : (Jvm.Cond.laysStatic "HoleCounty" "LAST" "J") ∈ lw_tbl := lw_at lw_m1 224 rfl
theorem q278 : (Jvm.Cond.constantLong "HoleCounty" (15 : Nat) (-1 : Int64)) ∈ lw_all := lw_g (lw_at lw_m1 225 rfl) rfl
theorem q279 : (Jvm.Cond.fieldLink "HoleCounty" (17 : Nat) "HoleCounty" "FIRST" "J") ∈ lw_all := lw_g (lw_at lw_m1 226 rfl) rfl
theorem q280 : (Jvm.Cond.laysStatic "HoleCounty" "FIRST" "J") ∈ lw_tbl := lw_at lw_m1 227 rfl
theorem q281 : (Jvm.Cond.constantLong "HoleCounty" (20 : Nat) (68719476735 : Int64)) ∈ lw_all := lw_g (lw_at lw_m1 228 rfl) rfl
theorem q301 : (Jvm.Cond.fieldLink "HoleCounty" (103 : Nat) "HoleCounty$Pit" "cells" "J") ∈ lw_all := lw_g (lw_at lw_m2 8 rfl) rfl
theorem q309 : (Jvm.Cond.laysStatic "HoleCounty" "TOP" "J") ∈ lw_tbl := lw_at lw_m2 16 rfl
theorem q311 : (Jvm.Cond.laysStatic "HoleCounty" "BOTTOM" "J") ∈ lw_tbl := lw_at lw_m2 18 rfl
theorem q327 : (Jvm.Cond.laysStatic "HoleCounty" "EDGE" "J") ∈ lw_tbl := lw_at lw_m2 34 rfl
theorem q351 : (Jvm.Cond.methodLink "HoleCounty" (108 : Nat) ({ cls := "HoleCounty", name := "least", desc := "(J)I" } : Jvm.MethodName)) ∈ lw_all := lw_g (lw_at lw_m2 58 rfl) rfl
theorem q353 : (Jvm.Cond.instanceMethod ({ cls := "HoleCounty", name := "count", desc := "(I)I" } : Jvm.MethodName)) ∈ lw_all := lw_g (lw_at lw_m2 60 rfl) rfl
theorem q354 : (Jvm.Cond.selects "HoleCounty" ({ cls := "HoleCounty", name := "count", desc := "(I)I" } : Jvm.MethodName) ({ cls := "HoleCounty", name := "count", desc := "(I)I" } : Jvm.MethodName)) ∈ lw_all := lw_g (lw_at lw_m2 61 rfl) rfl
theorem q355 : (Jvm.Cond.code ({ cls := "HoleCounty", name := "count", desc := "(I)I" } : Jvm.MethodName) prog_1_method_18_code (4 : Nat) (Option.some Jvm.ClassFile.FieldType.int)) ∈ lw_all := lw_g (lw_at lw_m2 62 rfl) rfl
theorem q356 : (Jvm.Cond.methodLink "HoleCounty" (112 : Nat) ({ cls := "HoleCounty$Ground", name := "dug", desc := "()J" } : Jvm.MethodName)) ∈ lw_all := lw_g (lw_at lw_m2 63 rfl) rfl
theorem q357 : (Jvm.Cond.methodLink "HoleCounty" (116 : Nat) ({ cls := "HoleCounty", name := "pieces", desc := "(J)I" } : Jvm.MethodName)) ∈ lw_all := lw_g (lw_at lw_m2 64 rfl) rfl
theorem q358 : (Jvm.Cond.static ({ cls := "HoleCounty", name := "pieces", desc := "(J)I" } : Jvm.MethodName)) ∈ lw_all := lw_g (lw_at lw_m2 65 rfl) rfl
theorem q359 : (Jvm.Cond.code ({ cls := "HoleCounty", name := "pieces", desc := "(J)I" } : Jvm.MethodName) prog_1_method_10_code (5 : Nat) (Option.some Jvm.ClassFile.FieldType.int)) ∈ lw_all := lw_g (lw_at lw_m2 66 rfl) rfl
theorem q360 : (Jvm.Cond.methodLink "HoleCounty" (30 : Nat) ({ cls := "HoleCounty", name := "spread", desc := "(JJ)J" } : Jvm.MethodName)) ∈ lw_all := lw_g (lw_at lw_m2 67 rfl) rfl
theorem q361 : (Jvm.Cond.methodLink "HoleCounty" (119 : Nat) ({ cls := "HoleCounty", name := "size", desc := "(J)I" } : Jvm.MethodName)) ∈ lw_all := lw_g (lw_at lw_m2 68 rfl) rfl
theorem q362 : (Jvm.Cond.static ({ cls := "HoleCounty", name := "size", desc := "(J)I" } : Jvm.MethodName)) ∈ lw_all := lw_g (lw_at lw_m2 69 rfl) rfl
theorem q363 : (Jvm.Cond.code ({ cls := "HoleCounty", name := "size", desc := "(J)I" } : Jvm.MethodName) prog_1_method_8_code (5 : Nat) (Option.some Jvm.ClassFile.FieldType.int)) ∈ lw_all := lw_g (lw_at lw_m2 70 rfl) rfl
theorem q364 : (Jvm.Cond.methodLink "HoleCounty" (121 : Nat) ({ cls := "HoleCounty$Ground", name := "tax", desc := "()I" } : Jvm.MethodName)) ∈ lw_all := lw_g (lw_at lw_m2 71 rfl) rfl
theorem q441 : (Jvm.Cond.instanceMethod ({ cls := "HoleCounty", name := "hole", desc := "(II)I" } : Jvm.MethodName)) ∈ lw_all := lw_g (lw_at lw_m2 148 rfl) rfl
theorem q442 : (Jvm.Cond.selects "HoleCounty" ({ cls := "HoleCounty", name := "hole", desc := "(II)I" } : Jvm.MethodName) ({ cls := "HoleCounty", name := "hole", desc := "(II)I" } : Jvm.MethodName)) ∈ lw_all := lw_g (lw_at lw_m2 149 rfl) rfl
theorem q443 : (Jvm.Cond.code ({ cls := "HoleCounty", name := "hole", desc := "(II)I" } : Jvm.MethodName) prog_1_method_22_code (4 : Nat) (Option.some Jvm.ClassFile.FieldType.int)) ∈ lw_all := lw_g (lw_at lw_m2 150 rfl) rfl
theorem q444 : (Jvm.Cond.constantLong "HoleCounty" (141 : Nat) (7 : Int64)) ∈ lw_all := lw_g (lw_at lw_m2 151 rfl) rfl
theorem q445 : (Jvm.Cond.methodLink "HoleCounty" (143 : Nat) ({ cls := "HoleCounty$Pit", name := "kind", desc := "()I" } : Jvm.MethodName)) ∈ lw_all := lw_g (lw_at lw_m2 152 rfl) rfl
theorem q466 : (Jvm.Cond.methodLink "HoleCounty" (146 : Nat) ({ cls := "HoleCounty$Pit", name := "tax", desc := "()I" } : Jvm.MethodName)) ∈ lw_all := lw_g (lw_at lw_m2 173 rfl) rfl
theorem q467 : (Jvm.Cond.methodLink "HoleCounty" (147 : Nat) ({ cls := "HoleCounty$Pit", name := "fence", desc := "()I" } : Jvm.MethodName)) ∈ lw_all := lw_g (lw_at lw_m2 174 rfl) rfl
theorem q468 : (Jvm.Cond.methodLink "HoleCounty" (124 : Nat) ({ cls := "HoleCounty$Pit", name := "rim", desc := "()J" } : Jvm.MethodName)) ∈ lw_all := lw_g (lw_at lw_m2 175 rfl) rfl
theorem q478 : (Jvm.Cond.methodLink "HoleCounty" (150 : Nat) ({ cls := "HoleCounty", name := "ownerOf", desc := "(LHoleCounty$Pit;)I" } : Jvm.MethodName)) ∈ lw_all := lw_g (lw_at lw_m2 185 rfl) rfl
theorem q479 : (Jvm.Cond.privateMethod ({ cls := "HoleCounty", name := "ownerOf", desc := "(LHoleCounty$Pit;)I" } : Jvm.MethodName)) ∈ lw_tbl := lw_at lw_m2 186 rfl
theorem q480 : (Jvm.Cond.instanceMethod ({ cls := "HoleCounty", name := "ownerOf", desc := "(LHoleCounty$Pit;)I" } : Jvm.MethodName)) ∈ lw_all := lw_g (lw_at lw_m2 187 rfl) rfl
theorem q481 : (Jvm.Cond.instantiable "HoleCounty" (21 : Nat)) ∈ lw_all := lw_g (lw_at lw_m2 188 rfl) rfl
theorem q482 : (Jvm.Cond.code ({ cls := "HoleCounty", name := "ownerOf", desc := "(LHoleCounty$Pit;)I" } : Jvm.MethodName) prog_1_method_20_code (6 : Nat) (Option.some Jvm.ClassFile.FieldType.int)) ∈ lw_all := lw_g (lw_at lw_m2 189 rfl) rfl
theorem q483 : (Jvm.Cond.methodLink "HoleCounty" (127 : Nat) ({ cls := "HoleCounty", name := "rims", desc := "(LHoleCounty$Pit;)[I" } : Jvm.MethodName)) ∈ lw_all := lw_g (lw_at lw_m2 190 rfl) rfl
theorem q484 : (Jvm.Cond.privateMethod ({ cls := "HoleCounty", name := "rims", desc := "(LHoleCounty$Pit;)[I" } : Jvm.MethodName)) ∈ lw_tbl := lw_at lw_m2 191 rfl
theorem q485 : (Jvm.Cond.instanceMethod ({ cls := "HoleCounty", name := "rims", desc := "(LHoleCounty$Pit;)[I" } : Jvm.MethodName)) ∈ lw_all := lw_g (lw_at lw_m2 192 rfl) rfl
theorem q486 : (Jvm.Cond.code ({ cls := "HoleCounty", name := "rims", desc := "(LHoleCounty$Pit;)[I" } : Jvm.MethodName) prog_1_method_19_code (5 : Nat) (Option.some (Jvm.ClassFile.FieldType.array Jvm.ClassFile.FieldType.int))) ∈ lw_all := lw_g (lw_at lw_m2 193 rfl) rfl
theorem q487 : (Jvm.Cond.methodLink "HoleCounty" (154 : Nat) ({ cls := "HoleCounty", name := "nested", desc := "(LHoleCounty$Pit;)I" } : Jvm.MethodName)) ∈ lw_all := lw_g (lw_at lw_m2 194 rfl) rfl
theorem q488 : (Jvm.Cond.privateMethod ({ cls := "HoleCounty", name := "nested", desc := "(LHoleCounty$Pit;)I" } : Jvm.MethodName)) ∈ lw_tbl := lw_at lw_m2 195 rfl
theorem q489 : (Jvm.Cond.instanceMethod ({ cls := "HoleCounty", name := "nested", desc := "(LHoleCounty$Pit;)I" } : Jvm.MethodName)) ∈ lw_all := lw_g (lw_at lw_m2 196 rfl) rfl
theorem q490 : (Jvm.Cond.code ({ cls := "HoleCounty", name := "nested", desc := "(LHoleCounty$Pit;)I" } : Jvm.MethodName) prog_1_method_21_code (5 : Nat) (Option.some Jvm.ClassFile.FieldType.int)) ∈ lw_all := lw_g (lw_at lw_m2 197 rfl) rfl
theorem q491 : (Jvm.Cond.methodLink "HoleCounty" (131 : Nat) ({ cls := "HoleCounty$Ground", name := "holes", desc := "()Ljava/util/ArrayList;" } : Jvm.MethodName)) ∈ lw_all := lw_g (lw_at lw_m2 198 rfl) rfl
theorem q492 : (Jvm.Cond.methodLink "HoleCounty" (135 : Nat) ({ cls := "java/util/ArrayList", name := "get", desc := "(I)Ljava/lang/Object;" } : Jvm.MethodName)) ∈ lw_all := lw_g (lw_at lw_m2 199 rfl) rfl
theorem q493 : (Jvm.Cond.classLink "HoleCounty" (104 : Nat) "HoleCounty$Pit") ∈ lw_all := lw_g (lw_at lw_m2 200 rfl) rfl
theorem q494 : (Jvm.Cond.methodLink "HoleCounty" (138 : Nat) ({ cls := "HoleCounty$Pit", name := "within", desc := "()J" } : Jvm.MethodName)) ∈ lw_all := lw_g (lw_at lw_m2 201 rfl) rfl
theorem q506 : (Jvm.Cond.methodLink "HoleCounty" (157 : Nat) ({ cls := "HoleCounty$Pit", name := "largest", desc := "()I" } : Jvm.MethodName)) ∈ lw_all := lw_g (lw_at lw_m2 213 rfl) rfl
theorem q517 : (Jvm.Cond.instanceMethod ({ cls := "HoleCounty", name := "cells", desc := "(II)J" } : Jvm.MethodName)) ∈ lw_all := lw_g (lw_at lw_m2 224 rfl) rfl
theorem q518 : (Jvm.Cond.selects "HoleCounty" ({ cls := "HoleCounty", name := "cells", desc := "(II)J" } : Jvm.MethodName) ({ cls := "HoleCounty", name := "cells", desc := "(II)J" } : Jvm.MethodName)) ∈ lw_all := lw_g (lw_at lw_m2 225 rfl) rfl
theorem q519 : (Jvm.Cond.code ({ cls := "HoleCounty", name := "cells", desc := "(II)J" } : Jvm.MethodName) prog_1_method_23_code (4 : Nat) (Option.some Jvm.ClassFile.FieldType.long)) ∈ lw_all := lw_g (lw_at lw_m2 226 rfl) rfl
theorem q520 : (Jvm.Cond.constantLong "HoleCounty" (160 : Nat) (2 : Int64)) ∈ lw_all := lw_g (lw_at lw_m2 227 rfl) rfl
theorem q521 : (Jvm.Cond.constantLong "HoleCounty" (162 : Nat) (-2 : Int64)) ∈ lw_all := lw_g (lw_at lw_m2 228 rfl) rfl
theorem q523 : (Jvm.Cond.instanceMethod ({ cls := "HoleCounty", name := "part", desc := "(II)I" } : Jvm.MethodName)) ∈ lw_all := lw_g (lw_at lw_m2 230 rfl) rfl
theorem q524 : (Jvm.Cond.selects "HoleCounty" ({ cls := "HoleCounty", name := "part", desc := "(II)I" } : Jvm.MethodName) ({ cls := "HoleCounty", name := "part", desc := "(II)I" } : Jvm.MethodName)) ∈ lw_all := lw_g (lw_at lw_m2 231 rfl) rfl
theorem q525 : (Jvm.Cond.code ({ cls := "HoleCounty", name := "part", desc := "(II)I" } : Jvm.MethodName) prog_1_method_26_code (4 : Nat) (Option.some Jvm.ClassFile.FieldType.int)) ∈ lw_all := lw_g (lw_at lw_m2 232 rfl) rfl
theorem q526 : (Jvm.Cond.methodLink "HoleCounty" (166 : Nat) ({ cls := "HoleCounty", name := "isOwner", desc := "(I)Z" } : Jvm.MethodName)) ∈ lw_all := lw_g (lw_at lw_m2 233 rfl) rfl
theorem q527 : (Jvm.Cond.static ({ cls := "HoleCounty", name := "isOwner", desc := "(I)Z" } : Jvm.MethodName)) ∈ lw_all := lw_g (lw_at lw_m2 234 rfl) rfl
theorem q528 : (Jvm.Cond.code ({ cls := "HoleCounty", name := "isOwner", desc := "(I)Z" } : Jvm.MethodName) prog_1_method_25_code (1 : Nat) (Option.some Jvm.ClassFile.FieldType.boolean)) ∈ lw_all := lw_g (lw_at lw_m2 235 rfl) rfl
theorem q529 : (Jvm.Cond.methodLink "HoleCounty" (169 : Nat) ({ cls := "HoleCounty", name := "partOf", desc := "(LHoleCounty$Pit;I)I" } : Jvm.MethodName)) ∈ lw_all := lw_g (lw_at lw_m2 236 rfl) rfl
theorem q530 : (Jvm.Cond.privateMethod ({ cls := "HoleCounty", name := "partOf", desc := "(LHoleCounty$Pit;I)I" } : Jvm.MethodName)) ∈ lw_tbl := lw_at lw_m2 237 rfl
theorem q531 : (Jvm.Cond.instanceMethod ({ cls := "HoleCounty", name := "partOf", desc := "(LHoleCounty$Pit;I)I" } : Jvm.MethodName)) ∈ lw_all := lw_g (lw_at lw_m2 238 rfl) rfl
theorem q532 : (Jvm.Cond.codeWith ({ cls := "HoleCounty", name := "partOf", desc := "(LHoleCounty$Pit;I)I" } : Jvm.MethodName) prog_1_method_24_code (6 : Nat) (Option.some Jvm.ClassFile.FieldType.int) [((33 : Nat), (44 : Nat), (45 : Nat), (164 : Nat))]) ∈ lw_all := lw_g (lw_at lw_m2 239 rfl) rfl
theorem q533 : (Jvm.Cond.classLink "HoleCounty" (164 : Nat) "java/lang/ArithmeticException") ∈ lw_all := lw_g (lw_at lw_m3 0 rfl) rfl
theorem q622 : (Jvm.Cond.instanceMethod ({ cls := "HoleCounty", name := "pays", desc := "(I)I" } : Jvm.MethodName)) ∈ lw_all := lw_g (lw_at lw_m3 89 rfl) rfl
theorem q623 : (Jvm.Cond.selects "HoleCounty" ({ cls := "HoleCounty", name := "pays", desc := "(I)I" } : Jvm.MethodName) ({ cls := "HoleCounty", name := "pays", desc := "(I)I" } : Jvm.MethodName)) ∈ lw_all := lw_g (lw_at lw_m3 90 rfl) rfl
theorem q624 : (Jvm.Cond.code ({ cls := "HoleCounty", name := "pays", desc := "(I)I" } : Jvm.MethodName) prog_1_method_27_code (5 : Nat) (Option.some Jvm.ClassFile.FieldType.int)) ∈ lw_all := lw_g (lw_at lw_m3 91 rfl) rfl
theorem q626 : (Jvm.Cond.instanceMethod ({ cls := "HoleCounty", name := "worth", desc := "(I)I" } : Jvm.MethodName)) ∈ lw_all := lw_g (lw_at lw_m3 93 rfl) rfl
theorem q627 : (Jvm.Cond.selects "HoleCounty" ({ cls := "HoleCounty", name := "worth", desc := "(I)I" } : Jvm.MethodName) ({ cls := "HoleCounty", name := "worth", desc := "(I)I" } : Jvm.MethodName)) ∈ lw_all := lw_g (lw_at lw_m3 94 rfl) rfl
theorem q628 : (Jvm.Cond.code ({ cls := "HoleCounty", name := "worth", desc := "(I)I" } : Jvm.MethodName) prog_1_method_28_code (3 : Nat) (Option.some Jvm.ClassFile.FieldType.int)) ∈ lw_all := lw_g (lw_at lw_m3 95 rfl) rfl
theorem q629 : (Jvm.Cond.constant "HoleCounty" (173 : Nat) (-100001 : Int32)) ∈ lw_all := lw_g (lw_at lw_m3 96 rfl) rfl
theorem q630 : (Jvm.Cond.methodLink "HoleCounty" (177 : Nat) ({ cls := "HoleCounty$Ground", name := "takes", desc := "(LHoleCounty$Ground;)V" } : Jvm.MethodName)) ∈ lw_all := lw_g (lw_at lw_m3 97 rfl) rfl
theorem q636 : (Jvm.Cond.instanceMethod ({ cls := "HoleCounty", name := "filled", desc := "(II)I" } : Jvm.MethodName)) ∈ lw_all := lw_g (lw_at lw_m3 103 rfl) rfl
theorem q637 : (Jvm.Cond.selects "HoleCounty" ({ cls := "HoleCounty", name := "filled", desc := "(II)I" } : Jvm.MethodName) ({ cls := "HoleCounty", name := "filled", desc := "(II)I" } : Jvm.MethodName)) ∈ lw_all := lw_g (lw_at lw_m3 104 rfl) rfl
theorem q638 : (Jvm.Cond.code ({ cls := "HoleCounty", name := "filled", desc := "(II)I" } : Jvm.MethodName) prog_1_method_32_code (3 : Nat) (Option.some Jvm.ClassFile.FieldType.int)) ∈ lw_all := lw_g (lw_at lw_m3 105 rfl) rfl
theorem q639 : (Jvm.Cond.constantLong "HoleCounty" (184 : Nat) (9999 : Int64)) ∈ lw_all := lw_g (lw_at lw_m3 106 rfl) rfl
theorem q640 : (Jvm.Cond.methodLink "HoleCounty" (186 : Nat) ({ cls := "HoleCounty", name := "fewestFilled", desc := "(I)I" } : Jvm.MethodName)) ∈ lw_all := lw_g (lw_at lw_m3 107 rfl) rfl
theorem q641 : (Jvm.Cond.privateMethod ({ cls := "HoleCounty", name := "fewestFilled", desc := "(I)I" } : Jvm.MethodName)) ∈ lw_tbl := lw_at lw_m3 108 rfl
theorem q642 : (Jvm.Cond.instanceMethod ({ cls := "HoleCounty", name := "fewestFilled", desc := "(I)I" } : Jvm.MethodName)) ∈ lw_all := lw_g (lw_at lw_m3 109 rfl) rfl
theorem q643 : (Jvm.Cond.code ({ cls := "HoleCounty", name := "fewestFilled", desc := "(I)I" } : Jvm.MethodName) prog_1_method_31_code (6 : Nat) (Option.some Jvm.ClassFile.FieldType.int)) ∈ lw_all := lw_g (lw_at lw_m3 110 rfl) rfl
theorem q644 : (Jvm.Cond.methodLink "HoleCounty" (181 : Nat) ({ cls := "HoleCounty", name := "isTaxed", desc := "(JI)Z" } : Jvm.MethodName)) ∈ lw_all := lw_g (lw_at lw_m3 111 rfl) rfl
theorem q645 : (Jvm.Cond.privateMethod ({ cls := "HoleCounty", name := "isTaxed", desc := "(JI)Z" } : Jvm.MethodName)) ∈ lw_tbl := lw_at lw_m3 112 rfl
theorem q646 : (Jvm.Cond.instanceMethod ({ cls := "HoleCounty", name := "isTaxed", desc := "(JI)Z" } : Jvm.MethodName)) ∈ lw_all := lw_g (lw_at lw_m3 113 rfl) rfl
theorem q647 : (Jvm.Cond.code ({ cls := "HoleCounty", name := "isTaxed", desc := "(JI)Z" } : Jvm.MethodName) prog_1_method_30_code (4 : Nat) (Option.some Jvm.ClassFile.FieldType.boolean)) ∈ lw_all := lw_g (lw_at lw_m3 114 rfl) rfl
theorem q648 : (Jvm.Cond.methodLink "HoleCounty" (190 : Nat) ({ cls := "HoleCounty", name := "found", desc := "(II)I" } : Jvm.MethodName)) ∈ lw_all := lw_g (lw_at lw_m3 115 rfl) rfl
theorem q649 : (Jvm.Cond.static ({ cls := "HoleCounty", name := "found", desc := "(II)I" } : Jvm.MethodName)) ∈ lw_all := lw_g (lw_at lw_m3 116 rfl) rfl
theorem q650 : (Jvm.Cond.code ({ cls := "HoleCounty", name := "found", desc := "(II)I" } : Jvm.MethodName) prog_1_method_29_code (5 : Nat) (Option.some Jvm.ClassFile.FieldType.int)) ∈ lw_all := lw_g (lw_at lw_m3 117 rfl) rfl
theorem q652 : (Jvm.Cond.instanceMethod ({ cls := "HoleCounty", name := "split", desc := "(II)I" } : Jvm.MethodName)) ∈ lw_all := lw_g (lw_at lw_m3 119 rfl) rfl
theorem q653 : (Jvm.Cond.selects "HoleCounty" ({ cls := "HoleCounty", name := "split", desc := "(II)I" } : Jvm.MethodName) ({ cls := "HoleCounty", name := "split", desc := "(II)I" } : Jvm.MethodName)) ∈ lw_all := lw_g (lw_at lw_m3 120 rfl) rfl
theorem q654 : (Jvm.Cond.code ({ cls := "HoleCounty", name := "split", desc := "(II)I" } : Jvm.MethodName) prog_1_method_34_code (4 : Nat) (Option.some Jvm.ClassFile.FieldType.int)) ∈ lw_all := lw_g (lw_at lw_m3 121 rfl) rfl
theorem q655 : (Jvm.Cond.methodLink "HoleCounty" (194 : Nat) ({ cls := "HoleCounty", name := "fewestSplit", desc := "(J)I" } : Jvm.MethodName)) ∈ lw_all := lw_g (lw_at lw_m3 122 rfl) rfl
theorem q656 : (Jvm.Cond.static ({ cls := "HoleCounty", name := "fewestSplit", desc := "(J)I" } : Jvm.MethodName)) ∈ lw_all := lw_g (lw_at lw_m3 123 rfl) rfl
theorem q657 : (Jvm.Cond.code ({ cls := "HoleCounty", name := "fewestSplit", desc := "(J)I" } : Jvm.MethodName) prog_1_method_33_code (4 : Nat) (Option.some Jvm.ClassFile.FieldType.int)) ∈ lw_all := lw_g (lw_at lw_m3 124 rfl) rfl
theorem q659 : (Jvm.Cond.instanceMethod ({ cls := "HoleCounty", name := "dug", desc := "(III)I" } : Jvm.MethodName)) ∈ lw_all := lw_g (lw_at lw_m3 126 rfl) rfl
theorem q660 : (Jvm.Cond.selects "HoleCounty" ({ cls := "HoleCounty", name := "dug", desc := "(III)I" } : Jvm.MethodName) ({ cls := "HoleCounty", name := "dug", desc := "(III)I" } : Jvm.MethodName)) ∈ lw_all := lw_g (lw_at lw_m3 127 rfl) rfl
theorem q661 : (Jvm.Cond.code ({ cls := "HoleCounty", name := "dug", desc := "(III)I" } : Jvm.MethodName) prog_1_method_36_code (10 : Nat) (Option.some Jvm.ClassFile.FieldType.int)) ∈ lw_all := lw_g (lw_at lw_m3 128 rfl) rfl
theorem q662 : (Jvm.Cond.constantLong "HoleCounty" (197 : Nat) (9 : Int64)) ∈ lw_all := lw_g (lw_at lw_m3 129 rfl) rfl
theorem q663 : (Jvm.Cond.methodLink "HoleCounty" (199 : Nat) ({ cls := "HoleCounty", name := "between", desc := "(IIJ)I" } : Jvm.MethodName)) ∈ lw_all := lw_g (lw_at lw_m3 130 rfl) rfl
theorem q664 : (Jvm.Cond.static ({ cls := "HoleCounty", name := "between", desc := "(IIJ)I" } : Jvm.MethodName)) ∈ lw_all := lw_g (lw_at lw_m3 131 rfl) rfl
theorem q665 : (Jvm.Cond.code ({ cls := "HoleCounty", name := "between", desc := "(IIJ)I" } : Jvm.MethodName) prog_1_method_35_code (7 : Nat) (Option.some Jvm.ClassFile.FieldType.int)) ∈ lw_all := lw_g (lw_at lw_m3 132 rfl) rfl
theorem q667 : (Jvm.Cond.instanceMethod ({ cls := "HoleCounty", name := "loophole", desc := "()I" } : Jvm.MethodName)) ∈ lw_all := lw_g (lw_at lw_m3 134 rfl) rfl
theorem q668 : (Jvm.Cond.selects "HoleCounty" ({ cls := "HoleCounty", name := "loophole", desc := "()I" } : Jvm.MethodName) ({ cls := "HoleCounty", name := "loophole", desc := "()I" } : Jvm.MethodName)) ∈ lw_all := lw_g (lw_at lw_m3 135 rfl) rfl
theorem q669 : (Jvm.Cond.code ({ cls := "HoleCounty", name := "loophole", desc := "()I" } : Jvm.MethodName) prog_1_method_37_code (5 : Nat) (Option.some Jvm.ClassFile.FieldType.int)) ∈ lw_all := lw_g (lw_at lw_m3 136 rfl) rfl
theorem q671 : (Jvm.Cond.instanceMethod ({ cls := "HoleCounty", name := "roofs", desc := "(I)I" } : Jvm.MethodName)) ∈ lw_all := lw_g (lw_at lw_m3 138 rfl) rfl
theorem q672 : (Jvm.Cond.selects "HoleCounty" ({ cls := "HoleCounty", name := "roofs", desc := "(I)I" } : Jvm.MethodName) ({ cls := "HoleCounty", name := "roofs", desc := "(I)I" } : Jvm.MethodName)) ∈ lw_all := lw_g (lw_at lw_m3 139 rfl) rfl
theorem q673 : (Jvm.Cond.code ({ cls := "HoleCounty", name := "roofs", desc := "(I)I" } : Jvm.MethodName) prog_1_method_38_code (3 : Nat) (Option.some Jvm.ClassFile.FieldType.int)) ∈ lw_all := lw_g (lw_at lw_m3 140 rfl) rfl
theorem q675 : (Jvm.Cond.instanceMethod ({ cls := "HoleCounty", name := "round", desc := "(II)I" } : Jvm.MethodName)) ∈ lw_all := lw_g (lw_at lw_m3 142 rfl) rfl
theorem q676 : (Jvm.Cond.selects "HoleCounty" ({ cls := "HoleCounty", name := "round", desc := "(II)I" } : Jvm.MethodName) ({ cls := "HoleCounty", name := "round", desc := "(II)I" } : Jvm.MethodName)) ∈ lw_all := lw_g (lw_at lw_m3 143 rfl) rfl
theorem q677 : (Jvm.Cond.code ({ cls := "HoleCounty", name := "round", desc := "(II)I" } : Jvm.MethodName) prog_1_method_42_code (4 : Nat) (Option.some Jvm.ClassFile.FieldType.int)) ∈ lw_all := lw_g (lw_at lw_m3 144 rfl) rfl
theorem q678 : (Jvm.Cond.constant "HoleCounty" (235 : Nat) (100000 : Int32)) ∈ lw_all := lw_g (lw_at lw_m3 145 rfl) rfl
theorem q679 : (Jvm.Cond.methodLink "HoleCounty" (231 : Nat) ({ cls := "HoleCounty", name := "goes", desc := "(Ljava/util/ArrayList;IIII)V" } : Jvm.MethodName)) ∈ lw_all := lw_g (lw_at lw_m3 146 rfl) rfl
theorem q680 : (Jvm.Cond.privateMethod ({ cls := "HoleCounty", name := "goes", desc := "(Ljava/util/ArrayList;IIII)V" } : Jvm.MethodName)) ∈ lw_tbl := lw_at lw_m3 147 rfl
theorem q681 : (Jvm.Cond.instanceMethod ({ cls := "HoleCounty", name := "goes", desc := "(Ljava/util/ArrayList;IIII)V" } : Jvm.MethodName)) ∈ lw_all := lw_g (lw_at lw_m3 148 rfl) rfl
theorem q682 : (Jvm.Cond.code ({ cls := "HoleCounty", name := "goes", desc := "(Ljava/util/ArrayList;IIII)V" } : Jvm.MethodName) prog_1_method_41_code (8 : Nat) (Option.none : Option Jvm.ClassFile.FieldType)) ∈ lw_all := lw_g (lw_at lw_m3 149 rfl) rfl
theorem q683 : (Jvm.Cond.methodLink "HoleCounty" (221 : Nat) ({ cls := "java/lang/System", name := "arraycopy", desc := "(Ljava/lang/Object;ILjava/lang/Object;II)V" } : Jvm.MethodName)) ∈ lw_all := lw_g (lw_at lw_m3 150 rfl) rfl
theorem q684 : (Jvm.Cond.methodLink "HoleCounty" (227 : Nat) ({ cls := "HoleCounty", name := "nearest", desc := "(IJ)I" } : Jvm.MethodName)) ∈ lw_all := lw_g (lw_at lw_m3 151 rfl) rfl
theorem q685 : (Jvm.Cond.static ({ cls := "HoleCounty", name := "nearest", desc := "(IJ)I" } : Jvm.MethodName)) ∈ lw_all := lw_g (lw_at lw_m3 152 rfl) rfl
theorem q686 : (Jvm.Cond.code ({ cls := "HoleCounty", name := "nearest", desc := "(IJ)I" } : Jvm.MethodName) prog_1_method_40_code (7 : Nat) (Option.some Jvm.ClassFile.FieldType.int)) ∈ lw_all := lw_g (lw_at lw_m3 153 rfl) rfl
theorem q687 : (Jvm.Cond.methodLink "HoleCounty" (208 : Nat) ({ cls := "HoleCounty", name := "apart", desc := "(II)I" } : Jvm.MethodName)) ∈ lw_all := lw_g (lw_at lw_m3 154 rfl) rfl
theorem q688 : (Jvm.Cond.static ({ cls := "HoleCounty", name := "apart", desc := "(II)I" } : Jvm.MethodName)) ∈ lw_all := lw_g (lw_at lw_m3 155 rfl) rfl
theorem q689 : (Jvm.Cond.code ({ cls := "HoleCounty", name := "apart", desc := "(II)I" } : Jvm.MethodName) prog_1_method_39_code (2 : Nat) (Option.some Jvm.ClassFile.FieldType.int)) ∈ lw_all := lw_g (lw_at lw_m3 156 rfl) rfl
theorem q690 : (Jvm.Cond.methodLink "HoleCounty" (203 : Nat) ({ cls := "java/lang/Math", name := "abs", desc := "(I)I" } : Jvm.MethodName)) ∈ lw_all := lw_g (lw_at lw_m3 157 rfl) rfl
theorem q694 : (Jvm.Cond.instanceMethod ({ cls := "HoleCounty", name := "border", desc := "(I)I" } : Jvm.MethodName)) ∈ lw_all := lw_g (lw_at lw_m3 161 rfl) rfl
theorem q695 : (Jvm.Cond.selects "HoleCounty" ({ cls := "HoleCounty", name := "border", desc := "(I)I" } : Jvm.MethodName) ({ cls := "HoleCounty", name := "border", desc := "(I)I" } : Jvm.MethodName)) ∈ lw_all := lw_g (lw_at lw_m3 162 rfl) rfl
theorem q696 : (Jvm.Cond.code ({ cls := "HoleCounty", name := "border", desc := "(I)I" } : Jvm.MethodName) prog_1_method_43_code (5 : Nat) (Option.some Jvm.ClassFile.FieldType.int)) ∈ lw_all := lw_g (lw_at lw_m3 163 rfl) rfl
theorem q698 : (Jvm.Cond.instanceMethod ({ cls := "HoleCounty", name := "cut", desc := "(I)I" } : Jvm.MethodName)) ∈ lw_all := lw_g (lw_at lw_m3 165 rfl) rfl
theorem q699 : (Jvm.Cond.selects "HoleCounty" ({ cls := "HoleCounty", name := "cut", desc := "(I)I" } : Jvm.MethodName) ({ cls := "HoleCounty", name := "cut", desc := "(I)I" } : Jvm.MethodName)) ∈ lw_all := lw_g (lw_at lw_m3 166 rfl) rfl
theorem q700 : (Jvm.Cond.code ({ cls := "HoleCounty", name := "cut", desc := "(I)I" } : Jvm.MethodName) prog_1_method_44_code (6 : Nat) (Option.some Jvm.ClassFile.FieldType.int)) ∈ lw_all := lw_g (lw_at lw_m3 167 rfl) rfl
theorem q702 : (Jvm.Cond.instanceMethod ({ cls := "HoleCounty", name := "books", desc := "(JIII)J" } : Jvm.MethodName)) ∈ lw_all := lw_g (lw_at lw_m3 169 rfl) rfl
theorem q703 : (Jvm.Cond.selects "HoleCounty" ({ cls := "HoleCounty", name := "books", desc := "(JIII)J" } : Jvm.MethodName) ({ cls := "HoleCounty", name := "books", desc := "(JIII)J" } : Jvm.MethodName)) ∈ lw_all := lw_g (lw_at lw_m3 170 rfl) rfl
theorem q704 : (Jvm.Cond.code ({ cls := "HoleCounty", name := "books", desc := "(JIII)J" } : Jvm.MethodName) prog_1_method_45_code (16 : Nat) (Option.some Jvm.ClassFile.FieldType.long)) ∈ lw_all := lw_g (lw_at lw_m3 171 rfl) rfl
theorem q705 : (Jvm.Cond.constantLong "HoleCounty" (236 : Nat) (36 : Int64)) ∈ lw_all := lw_g (lw_at lw_m3 172 rfl) rfl
theorem q706 : (Jvm.Cond.constantLong "HoleCounty" (238 : Nat) (-4 : Int64)) ∈ lw_all := lw_g (lw_at lw_m3 173 rfl) rfl
theorem q708 : (Jvm.Cond.instanceMethod ({ cls := "HoleCounty", name := "seed", desc := "(I)I" } : Jvm.MethodName)) ∈ lw_all := lw_g (lw_at lw_m3 175 rfl) rfl
theorem q709 : (Jvm.Cond.selects "HoleCounty" ({ cls := "HoleCounty", name := "seed", desc := "(I)I" } : Jvm.MethodName) ({ cls := "HoleCounty", name := "seed", desc := "(I)I" } : Jvm.MethodName)) ∈ lw_all := lw_g (lw_at lw_m3 176 rfl) rfl
theorem q710 : (Jvm.Cond.code ({ cls := "HoleCounty", name := "seed", desc := "(I)I" } : Jvm.MethodName) prog_1_method_46_code (3 : Nat) (Option.some Jvm.ClassFile.FieldType.int)) ∈ lw_all := lw_g (lw_at lw_m3 177 rfl) rfl
theorem q712 : (Jvm.Cond.instanceMethod ({ cls := "HoleCounty", name := "lots", desc := "(I)I" } : Jvm.MethodName)) ∈ lw_all := lw_g (lw_at lw_m3 179 rfl) rfl
theorem q713 : (Jvm.Cond.selects "HoleCounty" ({ cls := "HoleCounty", name := "lots", desc := "(I)I" } : Jvm.MethodName) ({ cls := "HoleCounty", name := "lots", desc := "(I)I" } : Jvm.MethodName)) ∈ lw_all := lw_g (lw_at lw_m3 180 rfl) rfl
theorem q714 : (Jvm.Cond.code ({ cls := "HoleCounty", name := "lots", desc := "(I)I" } : Jvm.MethodName) prog_1_method_48_code (7 : Nat) (Option.some Jvm.ClassFile.FieldType.int)) ∈ lw_all := lw_g (lw_at lw_m3 181 rfl) rfl
theorem q715 : (Jvm.Cond.methodLink "HoleCounty" (246 : Nat) ({ cls := "HoleCounty", name := "drawn", desc := "(I)I" } : Jvm.MethodName)) ∈ lw_all := lw_g (lw_at lw_m3 182 rfl) rfl
theorem q716 : (Jvm.Cond.privateMethod ({ cls := "HoleCounty", name := "drawn", desc := "(I)I" } : Jvm.MethodName)) ∈ lw_tbl := lw_at lw_m3 183 rfl
theorem q717 : (Jvm.Cond.instanceMethod ({ cls := "HoleCounty", name := "drawn", desc := "(I)I" } : Jvm.MethodName)) ∈ lw_all := lw_g (lw_at lw_m3 184 rfl) rfl
theorem q718 : (Jvm.Cond.code ({ cls := "HoleCounty", name := "drawn", desc := "(I)I" } : Jvm.MethodName) prog_1_method_47_code (2 : Nat) (Option.some Jvm.ClassFile.FieldType.int)) ∈ lw_all := lw_g (lw_at lw_m3 185 rfl) rfl
theorem q719 : (Jvm.Cond.constant "HoleCounty" (243 : Nat) (1103515245 : Int32)) ∈ lw_all := lw_g (lw_at lw_m3 186 rfl) rfl
theorem q720 : (Jvm.Cond.constant "HoleCounty" (244 : Nat) (2147483647 : Int32)) ∈ lw_all := lw_g (lw_at lw_m3 187 rfl) rfl
theorem q721 : (Jvm.Cond.constant "HoleCounty" (245 : Nat) (65536 : Int32)) ∈ lw_all := lw_g (lw_at lw_m3 188 rfl) rfl
theorem q722 : (Jvm.Cond.methodLink "HoleCounty" (249 : Nat) ({ cls := "java/util/ArrayList", name := "clear", desc := "()V" } : Jvm.MethodName)) ∈ lw_all := lw_g (lw_at lw_m3 189 rfl) rfl
theorem q727 : (Jvm.Cond.instanceMethod ({ cls := "HoleCounty", name := "type", desc := "(I)I" } : Jvm.MethodName)) ∈ lw_all := lw_g (lw_at lw_m3 194 rfl) rfl
theorem q728 : (Jvm.Cond.selects "HoleCounty" ({ cls := "HoleCounty", name := "type", desc := "(I)I" } : Jvm.MethodName) ({ cls := "HoleCounty", name := "type", desc := "(I)I" } : Jvm.MethodName)) ∈ lw_all := lw_g (lw_at lw_m3 195 rfl) rfl
theorem q729 : (Jvm.Cond.code ({ cls := "HoleCounty", name := "type", desc := "(I)I" } : Jvm.MethodName) prog_1_method_49_code (2 : Nat) (Option.some Jvm.ClassFile.FieldType.int)) ∈ lw_all := lw_g (lw_at lw_m3 196 rfl) rfl
theorem q730 : (Jvm.Cond.constantLong "HoleCounty" (252 : Nat) (32 : Int64)) ∈ lw_all := lw_g (lw_at lw_m3 197 rfl) rfl
theorem q731 : (Jvm.Cond.constantLong "HoleCounty" (254 : Nat) (126 : Int64)) ∈ lw_all := lw_g (lw_at lw_m3 198 rfl) rfl
theorem q733 : (Jvm.Cond.instanceMethod ({ cls := "HoleCounty", name := "ground", desc := "()I" } : Jvm.MethodName)) ∈ lw_all := lw_g (lw_at lw_m3 200 rfl) rfl
theorem q734 : (Jvm.Cond.selects "HoleCounty" ({ cls := "HoleCounty", name := "ground", desc := "()I" } : Jvm.MethodName) ({ cls := "HoleCounty", name := "ground", desc := "()I" } : Jvm.MethodName)) ∈ lw_all := lw_g (lw_at lw_m3 201 rfl) rfl
theorem q735 : (Jvm.Cond.codeWith ({ cls := "HoleCounty", name := "ground", desc := "()I" } : Jvm.MethodName) prog_1_method_56_code (4 : Nat) (Option.some Jvm.ClassFile.FieldType.int) [((0 : Nat), (140 : Nat), (147 : Nat), (271 : Nat)), ((0 : Nat), (140 : Nat), (163 : Nat), (0 : Nat)), ((147 : Nat), (156 : Nat), (163 : Nat), (0 : Nat))]) ∈ lw_all := lw_g (lw_at lw_m3 202 rfl) rfl
theorem q736 : (Jvm.Cond.classLink "HoleCounty" (271 : Nat) "HoleCounty$Fault") ∈ lw_all := lw_g (lw_at lw_m3 203 rfl) rfl
theorem q737 : (Jvm.Cond.methodLink "HoleCounty" (286 : Nat) ({ cls := "HoleCounty", name := "must", desc := "(I)V" } : Jvm.MethodName)) ∈ lw_all := lw_g (lw_at lw_m3 204 rfl) rfl
theorem q738 : (Jvm.Cond.privateMethod ({ cls := "HoleCounty", name := "must", desc := "(I)V" } : Jvm.MethodName)) ∈ lw_tbl := lw_at lw_m3 205 rfl
theorem q739 : (Jvm.Cond.instanceMethod ({ cls := "HoleCounty", name := "must", desc := "(I)V" } : Jvm.MethodName)) ∈ lw_all := lw_g (lw_at lw_m3 206 rfl) rfl
theorem q740 : (Jvm.Cond.code ({ cls := "HoleCounty", name := "must", desc := "(I)V" } : Jvm.MethodName) prog_1_method_52_code (2 : Nat) (Option.none : Option Jvm.ClassFile.FieldType)) ∈ lw_all := lw_g (lw_at lw_m3 207 rfl) rfl
theorem q741 : (Jvm.Cond.methodLink "HoleCounty" (268 : Nat) ({ cls := "HoleCounty", name := "passes", desc := "(I)Z" } : Jvm.MethodName)) ∈ lw_all := lw_g (lw_at lw_m3 208 rfl) rfl
theorem q742 : (Jvm.Cond.privateMethod ({ cls := "HoleCounty", name := "passes", desc := "(I)Z" } : Jvm.MethodName)) ∈ lw_tbl := lw_at lw_m3 209 rfl
theorem q743 : (Jvm.Cond.instanceMethod ({ cls := "HoleCounty", name := "passes", desc := "(I)Z" } : Jvm.MethodName)) ∈ lw_all := lw_g (lw_at lw_m3 210 rfl) rfl
theorem q744 : (Jvm.Cond.code ({ cls := "HoleCounty", name := "passes", desc := "(I)Z" } : Jvm.MethodName) prog_1_method_51_code (3 : Nat) (Option.some Jvm.ClassFile.FieldType.boolean)) ∈ lw_all := lw_g (lw_at lw_m3 211 rfl) rfl
theorem q745 : (Jvm.Cond.methodLink "HoleCounty" (265 : Nat) ({ cls := "HoleCounty", name := "here", desc := "()I" } : Jvm.MethodName)) ∈ lw_all := lw_g (lw_at lw_m3 212 rfl) rfl
theorem q746 : (Jvm.Cond.privateMethod ({ cls := "HoleCounty", name := "here", desc := "()I" } : Jvm.MethodName)) ∈ lw_tbl := lw_at lw_m3 213 rfl
theorem q747 : (Jvm.Cond.instanceMethod ({ cls := "HoleCounty", name := "here", desc := "()I" } : Jvm.MethodName)) ∈ lw_all := lw_g (lw_at lw_m3 214 rfl) rfl
theorem q748 : (Jvm.Cond.code ({ cls := "HoleCounty", name := "here", desc := "()I" } : Jvm.MethodName) prog_1_method_50_code (1 : Nat) (Option.some Jvm.ClassFile.FieldType.int)) ∈ lw_all := lw_g (lw_at lw_m3 215 rfl) rfl
theorem q757 : (Jvm.Cond.methodLink "HoleCounty" (273 : Nat) ({ cls := "HoleCounty$Fault", name := "<init>", desc := "(I)V" } : Jvm.MethodName)) ∈ lw_all := lw_g (lw_at lw_m3 224 rfl) rfl
theorem q767 : (Jvm.Cond.fieldLinkNest "HoleCounty" (295 : Nat) "HoleCounty$Fault" "place" "I" "HoleCounty") ∈ lw_tbl := lw_at lw_m3 234 rfl
theorem q772 : (Jvm.Cond.methodLink "HoleCounty" (289 : Nat) ({ cls := "HoleCounty", name := "figure", desc := "(I)I" } : Jvm.MethodName)) ∈ lw_all := lw_g (lw_at lw_m3 239 rfl) rfl
theorem q773 : (Jvm.Cond.privateMethod ({ cls := "HoleCounty", name := "figure", desc := "(I)I" } : Jvm.MethodName)) ∈ lw_tbl := lw_at lw_m4 0 rfl
theorem q774 : (Jvm.Cond.instanceMethod ({ cls := "HoleCounty", name := "figure", desc := "(I)I" } : Jvm.MethodName)) ∈ lw_all := lw_g (lw_at lw_m4 1 rfl) rfl
theorem q775 : (Jvm.Cond.code ({ cls := "HoleCounty", name := "figure", desc := "(I)I" } : Jvm.MethodName) prog_1_method_54_code (3 : Nat) (Option.some Jvm.ClassFile.FieldType.int)) ∈ lw_all := lw_g (lw_at lw_m4 2 rfl) rfl
theorem q776 : (Jvm.Cond.constantLong "HoleCounty" (281 : Nat) (48 : Int64)) ∈ lw_all := lw_g (lw_at lw_m4 3 rfl) rfl
theorem q777 : (Jvm.Cond.methodLink "HoleCounty" (292 : Nat) ({ cls := "HoleCounty", name := "ends", desc := "()V" } : Jvm.MethodName)) ∈ lw_all := lw_g (lw_at lw_m4 4 rfl) rfl
theorem q778 : (Jvm.Cond.privateMethod ({ cls := "HoleCounty", name := "ends", desc := "()V" } : Jvm.MethodName)) ∈ lw_tbl := lw_at lw_m4 5 rfl
theorem q779 : (Jvm.Cond.instanceMethod ({ cls := "HoleCounty", name := "ends", desc := "()V" } : Jvm.MethodName)) ∈ lw_all := lw_g (lw_at lw_m4 6 rfl) rfl
theorem q780 : (Jvm.Cond.code ({ cls := "HoleCounty", name := "ends", desc := "()V" } : Jvm.MethodName) prog_1_method_55_code (1 : Nat) (Option.none : Option Jvm.ClassFile.FieldType)) ∈ lw_all := lw_g (lw_at lw_m4 7 rfl) rfl
theorem q782 : (Jvm.Cond.instanceMethod ({ cls := "HoleCounty", name := "owners", desc := "()I" } : Jvm.MethodName)) ∈ lw_all := lw_g (lw_at lw_m4 9 rfl) rfl
theorem q783 : (Jvm.Cond.selects "HoleCounty" ({ cls := "HoleCounty", name := "owners", desc := "()I" } : Jvm.MethodName) ({ cls := "HoleCounty", name := "owners", desc := "()I" } : Jvm.MethodName)) ∈ lw_all := lw_g (lw_at lw_m4 10 rfl) rfl
theorem q784 : (Jvm.Cond.codeWith ({ cls := "HoleCounty", name := "owners", desc := "()I" } : Jvm.MethodName) prog_1_method_57_code (4 : Nat) (Option.some Jvm.ClassFile.FieldType.int) [((0 : Nat), (106 : Nat), (113 : Nat), (271 : Nat)), ((0 : Nat), (106 : Nat), (129 : Nat), (0 : Nat)), ((113 : Nat), (122 : Nat), (129 : Nat), (0 : Nat))]) ∈ lw_all := lw_g (lw_at lw_m4 11 rfl) rfl
theorem q785 : (Jvm.Cond.stringRef "HoleCounty" (301 : Nat) "0123-") ∈ lw_tbl := lw_at lw_m4 12 rfl
theorem q786 : (Jvm.Cond.methodLink "HoleCounty" (303 : Nat) ({ cls := "HoleCounty", name := "letter", desc := "(Ljava/lang/String;)I" } : Jvm.MethodName)) ∈ lw_all := lw_g (lw_at lw_m4 13 rfl) rfl
theorem q787 : (Jvm.Cond.privateMethod ({ cls := "HoleCounty", name := "letter", desc := "(Ljava/lang/String;)I" } : Jvm.MethodName)) ∈ lw_tbl := lw_at lw_m4 14 rfl
theorem q788 : (Jvm.Cond.instanceMethod ({ cls := "HoleCounty", name := "letter", desc := "(Ljava/lang/String;)I" } : Jvm.MethodName)) ∈ lw_all := lw_g (lw_at lw_m4 15 rfl) rfl
theorem q789 : (Jvm.Cond.code ({ cls := "HoleCounty", name := "letter", desc := "(Ljava/lang/String;)I" } : Jvm.MethodName) prog_1_method_53_code (3 : Nat) (Option.some Jvm.ClassFile.FieldType.int)) ∈ lw_all := lw_g (lw_at lw_m4 16 rfl) rfl
theorem q790 : (Jvm.Cond.methodLink "HoleCounty" (276 : Nat) ({ cls := "java/lang/String", name := "indexOf", desc := "(I)I" } : Jvm.MethodName)) ∈ lw_all := lw_g (lw_at lw_m4 17 rfl) rfl
theorem q873 : (Jvm.Cond.instanceMethod ({ cls := "HoleCounty", name := "day", desc := "()I" } : Jvm.MethodName)) ∈ lw_all := lw_g (lw_at lw_m4 100 rfl) rfl
theorem q874 : (Jvm.Cond.selects "HoleCounty" ({ cls := "HoleCounty", name := "day", desc := "()I" } : Jvm.MethodName) ({ cls := "HoleCounty", name := "day", desc := "()I" } : Jvm.MethodName)) ∈ lw_all := lw_g (lw_at lw_m4 101 rfl) rfl
theorem q875 : (Jvm.Cond.codeWith ({ cls := "HoleCounty", name := "day", desc := "()I" } : Jvm.MethodName) prog_1_method_59_code (5 : Nat) (Option.some Jvm.ClassFile.FieldType.int) [((0 : Nat), (89 : Nat), (96 : Nat), (271 : Nat)), ((0 : Nat), (89 : Nat), (112 : Nat), (0 : Nat)), ((96 : Nat), (105 : Nat), (112 : Nat), (0 : Nat)), ((112 : Nat), (114 : Nat), (112 : Nat), (0 : Nat))]) ∈ lw_all := lw_g (lw_at lw_m4 102 rfl) rfl
theorem q876 : (Jvm.Cond.stringRef "HoleCounty" (319 : Nat) "dfr") ∈ lw_tbl := lw_at lw_m4 103 rfl
theorem q877 : (Jvm.Cond.methodLink "HoleCounty" (321 : Nat) ({ cls := "HoleCounty", name := "does", desc := "(I)I" } : Jvm.MethodName)) ∈ lw_all := lw_g (lw_at lw_m4 104 rfl) rfl
theorem q878 : (Jvm.Cond.privateMethod ({ cls := "HoleCounty", name := "does", desc := "(I)I" } : Jvm.MethodName)) ∈ lw_tbl := lw_at lw_m4 105 rfl
theorem q879 : (Jvm.Cond.instanceMethod ({ cls := "HoleCounty", name := "does", desc := "(I)I" } : Jvm.MethodName)) ∈ lw_all := lw_g (lw_at lw_m4 106 rfl) rfl
theorem q880 : (Jvm.Cond.code ({ cls := "HoleCounty", name := "does", desc := "(I)I" } : Jvm.MethodName) prog_1_method_58_code (3 : Nat) (Option.some Jvm.ClassFile.FieldType.int)) ∈ lw_all := lw_g (lw_at lw_m4 107 rfl) rfl
theorem q881 : (Jvm.Cond.methodLink "HoleCounty" (310 : Nat) ({ cls := "HoleCounty", name := "dig", desc := "(I)I" } : Jvm.MethodName)) ∈ lw_all := lw_g (lw_at lw_m4 108 rfl) rfl
theorem q882 : (Jvm.Cond.methodLink "HoleCounty" (313 : Nat) ({ cls := "HoleCounty", name := "fill", desc := "(I)I" } : Jvm.MethodName)) ∈ lw_all := lw_g (lw_at lw_m4 109 rfl) rfl
theorem q883 : (Jvm.Cond.methodLink "HoleCounty" (316 : Nat) ({ cls := "HoleCounty", name := "roof", desc := "(I)I" } : Jvm.MethodName)) ∈ lw_all := lw_g (lw_at lw_m4 110 rfl) rfl
theorem q885 : (Jvm.Cond.instanceMethod ({ cls := "HoleCounty", name := "image", desc := "()I" } : Jvm.MethodName)) ∈ lw_all := lw_g (lw_at lw_m4 112 rfl) rfl
theorem q886 : (Jvm.Cond.selects "HoleCounty" ({ cls := "HoleCounty", name := "image", desc := "()I" } : Jvm.MethodName) ({ cls := "HoleCounty", name := "image", desc := "()I" } : Jvm.MethodName)) ∈ lw_all := lw_g (lw_at lw_m4 113 rfl) rfl
theorem q887 : (Jvm.Cond.code ({ cls := "HoleCounty", name := "image", desc := "()I" } : Jvm.MethodName) prog_1_method_60_code (1 : Nat) (Option.some Jvm.ClassFile.FieldType.int)) ∈ lw_all := lw_g (lw_at lw_m4 114 rfl) rfl
theorem q888 : (Jvm.Cond.methodLink "HoleCounty" (337 : Nat) ({ cls := "java/util/ArrayList", name := "addAll", desc := "(Ljava/util/Collection;)Z" } : Jvm.MethodName)) ∈ lw_all := lw_g (lw_at lw_m4 115 rfl) rfl
theorem q903 : (Jvm.Cond.instanceMethod ({ cls := "HoleCounty", name := "restore", desc := "()I" } : Jvm.MethodName)) ∈ lw_all := lw_g (lw_at lw_m4 130 rfl) rfl
theorem q904 : (Jvm.Cond.selects "HoleCounty" ({ cls := "HoleCounty", name := "restore", desc := "()I" } : Jvm.MethodName) ({ cls := "HoleCounty", name := "restore", desc := "()I" } : Jvm.MethodName)) ∈ lw_all := lw_g (lw_at lw_m4 131 rfl) rfl
theorem q905 : (Jvm.Cond.code ({ cls := "HoleCounty", name := "restore", desc := "()I" } : Jvm.MethodName) prog_1_method_61_code (1 : Nat) (Option.some Jvm.ClassFile.FieldType.int)) ∈ lw_all := lw_g (lw_at lw_m4 132 rfl) rfl
theorem q907 : (Jvm.Cond.instanceMethod ({ cls := "HoleCounty", name := "sheet", desc := "(III)I" } : Jvm.MethodName)) ∈ lw_all := lw_g (lw_at lw_m4 134 rfl) rfl
theorem q908 : (Jvm.Cond.selects "HoleCounty" ({ cls := "HoleCounty", name := "sheet", desc := "(III)I" } : Jvm.MethodName) ({ cls := "HoleCounty", name := "sheet", desc := "(III)I" } : Jvm.MethodName)) ∈ lw_all := lw_g (lw_at lw_m4 135 rfl) rfl
theorem q909 : (Jvm.Cond.codeWith ({ cls := "HoleCounty", name := "sheet", desc := "(III)I" } : Jvm.MethodName) prog_1_method_68_code (5 : Nat) (Option.some Jvm.ClassFile.FieldType.int) [((22 : Nat), (37 : Nat), (38 : Nat), (370 : Nat))]) ∈ lw_all := lw_g (lw_at lw_m4 136 rfl) rfl
theorem q910 : (Jvm.Cond.classLink "HoleCounty" (370 : Nat) "java/lang/NegativeArraySizeException") ∈ lw_all := lw_g (lw_at lw_m4 137 rfl) rfl
theorem q924 : (Jvm.Cond.methodLink "HoleCounty" (350 : Nat) ({ cls := "HoleCounty", name := "isSheet", desc := "(I)Z" } : Jvm.MethodName)) ∈ lw_all := lw_g (lw_at lw_m4 151 rfl) rfl
theorem q925 : (Jvm.Cond.static ({ cls := "HoleCounty", name := "isSheet", desc := "(I)Z" } : Jvm.MethodName)) ∈ lw_all := lw_g (lw_at lw_m4 152 rfl) rfl
theorem q926 : (Jvm.Cond.code ({ cls := "HoleCounty", name := "isSheet", desc := "(I)Z" } : Jvm.MethodName) prog_1_method_62_code (1 : Nat) (Option.some Jvm.ClassFile.FieldType.boolean)) ∈ lw_all := lw_g (lw_at lw_m4 153 rfl) rfl
theorem q927 : (Jvm.Cond.methodLink "HoleCounty" (353 : Nat) ({ cls := "HoleCounty", name := "isLane", desc := "(I)Z" } : Jvm.MethodName)) ∈ lw_all := lw_g (lw_at lw_m4 154 rfl) rfl
theorem q928 : (Jvm.Cond.static ({ cls := "HoleCounty", name := "isLane", desc := "(I)Z" } : Jvm.MethodName)) ∈ lw_all := lw_g (lw_at lw_m4 155 rfl) rfl
theorem q929 : (Jvm.Cond.code ({ cls := "HoleCounty", name := "isLane", desc := "(I)Z" } : Jvm.MethodName) prog_1_method_63_code (1 : Nat) (Option.some Jvm.ClassFile.FieldType.boolean)) ∈ lw_all := lw_g (lw_at lw_m4 156 rfl) rfl
theorem q930 : (Jvm.Cond.methodLink "HoleCounty" (360 : Nat) ({ cls := "HoleCounty", name := "laid", desc := "(II)Ljava/lang/Object;" } : Jvm.MethodName)) ∈ lw_all := lw_g (lw_at lw_m4 157 rfl) rfl
theorem q931 : (Jvm.Cond.static ({ cls := "HoleCounty", name := "laid", desc := "(II)Ljava/lang/Object;" } : Jvm.MethodName)) ∈ lw_all := lw_g (lw_at lw_m4 158 rfl) rfl
theorem q932 : (Jvm.Cond.code ({ cls := "HoleCounty", name := "laid", desc := "(II)Ljava/lang/Object;" } : Jvm.MethodName) prog_1_method_64_code (2 : Nat) (Option.some (Jvm.ClassFile.FieldType.object "java/lang/Object"))) ∈ lw_all := lw_g (lw_at lw_m4 159 rfl) rfl
theorem q936 : (Jvm.Cond.instanceMethod ({ cls := "HoleCounty", name := "drop", desc := "(I)I" } : Jvm.MethodName)) ∈ lw_all := lw_g (lw_at lw_m4 163 rfl) rfl
theorem q937 : (Jvm.Cond.selects "HoleCounty" ({ cls := "HoleCounty", name := "drop", desc := "(I)I" } : Jvm.MethodName) ({ cls := "HoleCounty", name := "drop", desc := "(I)I" } : Jvm.MethodName)) ∈ lw_all := lw_g (lw_at lw_m4 164 rfl) rfl
theorem q938 : (Jvm.Cond.code ({ cls := "HoleCounty", name := "drop", desc := "(I)I" } : Jvm.MethodName) prog_1_method_69_code (3 : Nat) (Option.some Jvm.ClassFile.FieldType.int)) ∈ lw_all := lw_g (lw_at lw_m4 165 rfl) rfl
theorem q939 : (Jvm.Cond.methodLink "HoleCounty" (372 : Nat) ({ cls := "HoleCounty", name := "laneOf", desc := "(Ljava/lang/Object;)I" } : Jvm.MethodName)) ∈ lw_all := lw_g (lw_at lw_m4 166 rfl) rfl
theorem q940 : (Jvm.Cond.static ({ cls := "HoleCounty", name := "laneOf", desc := "(Ljava/lang/Object;)I" } : Jvm.MethodName)) ∈ lw_all := lw_g (lw_at lw_m4 167 rfl) rfl
theorem q941 : (Jvm.Cond.code ({ cls := "HoleCounty", name := "laneOf", desc := "(Ljava/lang/Object;)I" } : Jvm.MethodName) prog_1_method_67_code (1 : Nat) (Option.some Jvm.ClassFile.FieldType.int)) ∈ lw_all := lw_g (lw_at lw_m4 168 rfl) rfl
theorem q942 : (Jvm.Cond.classLink "HoleCounty" (344 : Nat) "[B") ∈ lw_all := lw_g (lw_at lw_m4 169 rfl) rfl
theorem q943 : (Jvm.Cond.classLink "HoleCounty" (345 : Nat) "[S") ∈ lw_all := lw_g (lw_at lw_m4 170 rfl) rfl
theorem q944 : (Jvm.Cond.classLink "HoleCounty" (347 : Nat) "[I") ∈ lw_all := lw_g (lw_at lw_m4 171 rfl) rfl
theorem q945 : (Jvm.Cond.methodLink "HoleCounty" (376 : Nat) ({ cls := "HoleCounty", name := "sizeOf", desc := "(Ljava/lang/Object;I)I" } : Jvm.MethodName)) ∈ lw_all := lw_g (lw_at lw_m4 172 rfl) rfl
theorem q946 : (Jvm.Cond.static ({ cls := "HoleCounty", name := "sizeOf", desc := "(Ljava/lang/Object;I)I" } : Jvm.MethodName)) ∈ lw_all := lw_g (lw_at lw_m4 173 rfl) rfl
theorem q947 : (Jvm.Cond.code ({ cls := "HoleCounty", name := "sizeOf", desc := "(Ljava/lang/Object;I)I" } : Jvm.MethodName) prog_1_method_65_code (2 : Nat) (Option.some Jvm.ClassFile.FieldType.int)) ∈ lw_all := lw_g (lw_at lw_m4 174 rfl) rfl
theorem q948 : (Jvm.Cond.classLink "HoleCounty" (348 : Nat) "[J") ∈ lw_all := lw_g (lw_at lw_m4 175 rfl) rfl
theorem q950 : (Jvm.Cond.instanceMethod ({ cls := "HoleCounty", name := "item", desc := "(IIIJ)I" } : Jvm.MethodName)) ∈ lw_all := lw_g (lw_at lw_m4 177 rfl) rfl
theorem q951 : (Jvm.Cond.selects "HoleCounty" ({ cls := "HoleCounty", name := "item", desc := "(IIIJ)I" } : Jvm.MethodName) ({ cls := "HoleCounty", name := "item", desc := "(IIIJ)I" } : Jvm.MethodName)) ∈ lw_all := lw_g (lw_at lw_m4 178 rfl) rfl
theorem q952 : (Jvm.Cond.codeWith ({ cls := "HoleCounty", name := "item", desc := "(IIIJ)I" } : Jvm.MethodName) prog_1_method_71_code (7 : Nat) (Option.some Jvm.ClassFile.FieldType.int) [((16 : Nat), (33 : Nat), (34 : Nat), (384 : Nat)), ((16 : Nat), (33 : Nat), (39 : Nat), (386 : Nat)), ((16 : Nat), (33 : Nat), (44 : Nat), (388 : Nat))]) ∈ lw_all := lw_g (lw_at lw_m4 179 rfl) rfl
theorem q953 : (Jvm.Cond.classLink "HoleCounty" (384 : Nat) "java/lang/NullPointerException") ∈ lw_all := lw_g (lw_at lw_m4 180 rfl) rfl
theorem q978 : (Jvm.Cond.classLink "HoleCounty" (386 : Nat) "java/lang/ClassCastException") ∈ lw_all := lw_g (lw_at lw_m4 205 rfl) rfl
theorem q992 : (Jvm.Cond.classLink "HoleCounty" (388 : Nat) "java/lang/ArrayIndexOutOfBoundsException") ∈ lw_all := lw_g (lw_at lw_m4 219 rfl) rfl
theorem q1011 : (Jvm.Cond.methodLink "HoleCounty" (380 : Nat) ({ cls := "HoleCounty", name := "puts", desc := "(Ljava/lang/Object;IIJ)V" } : Jvm.MethodName)) ∈ lw_all := lw_g (lw_at lw_m4 238 rfl) rfl
theorem q1012 : (Jvm.Cond.static ({ cls := "HoleCounty", name := "puts", desc := "(Ljava/lang/Object;IIJ)V" } : Jvm.MethodName)) ∈ lw_all := lw_g (lw_at lw_m4 239 rfl) rfl
theorem q1013 : (Jvm.Cond.code ({ cls := "HoleCounty", name := "puts", desc := "(Ljava/lang/Object;IIJ)V" } : Jvm.MethodName) prog_1_method_70_code (5 : Nat) (Option.none : Option Jvm.ClassFile.FieldType)) ∈ lw_all := lw_g (lw_at lw_m5 0 rfl) rfl
theorem q1015 : (Jvm.Cond.instanceMethod ({ cls := "HoleCounty", name := "lay", desc := "(IIIII)I" } : Jvm.MethodName)) ∈ lw_all := lw_g (lw_at lw_m5 2 rfl) rfl
theorem q1016 : (Jvm.Cond.selects "HoleCounty" ({ cls := "HoleCounty", name := "lay", desc := "(IIIII)I" } : Jvm.MethodName) ({ cls := "HoleCounty", name := "lay", desc := "(IIIII)I" } : Jvm.MethodName)) ∈ lw_all := lw_g (lw_at lw_m5 3 rfl) rfl
theorem q1017 : (Jvm.Cond.code ({ cls := "HoleCounty", name := "lay", desc := "(IIIII)I" } : Jvm.MethodName) prog_1_method_74_code (8 : Nat) (Option.some Jvm.ClassFile.FieldType.int)) ∈ lw_all := lw_g (lw_at lw_m5 4 rfl) rfl
theorem q1018 : (Jvm.Cond.methodLink "HoleCounty" (403 : Nat) ({ cls := "HoleCounty", name := "refusal", desc := "(IIII)I" } : Jvm.MethodName)) ∈ lw_all := lw_g (lw_at lw_m5 5 rfl) rfl
theorem q1019 : (Jvm.Cond.privateMethod ({ cls := "HoleCounty", name := "refusal", desc := "(IIII)I" } : Jvm.MethodName)) ∈ lw_tbl := lw_at lw_m5 6 rfl
theorem q1020 : (Jvm.Cond.instanceMethod ({ cls := "HoleCounty", name := "refusal", desc := "(IIII)I" } : Jvm.MethodName)) ∈ lw_all := lw_g (lw_at lw_m5 7 rfl) rfl
theorem q1021 : (Jvm.Cond.codeWith ({ cls := "HoleCounty", name := "refusal", desc := "(IIII)I" } : Jvm.MethodName) prog_1_method_73_code (6 : Nat) (Option.some Jvm.ClassFile.FieldType.int) [((0 : Nat), (18 : Nat), (19 : Nat), (384 : Nat)), ((0 : Nat), (18 : Nat), (24 : Nat), (386 : Nat)), ((0 : Nat), (18 : Nat), (29 : Nat), (388 : Nat))]) ∈ lw_all := lw_g (lw_at lw_m5 8 rfl) rfl
theorem q1022 : (Jvm.Cond.methodLink "HoleCounty" (399 : Nat) ({ cls := "HoleCounty", name := "looksAt", desc := "(Ljava/lang/Object;III)V" } : Jvm.MethodName)) ∈ lw_all := lw_g (lw_at lw_m5 9 rfl) rfl
theorem q1023 : (Jvm.Cond.privateMethod ({ cls := "HoleCounty", name := "looksAt", desc := "(Ljava/lang/Object;III)V" } : Jvm.MethodName)) ∈ lw_tbl := lw_at lw_m5 10 rfl
theorem q1024 : (Jvm.Cond.instanceMethod ({ cls := "HoleCounty", name := "looksAt", desc := "(Ljava/lang/Object;III)V" } : Jvm.MethodName)) ∈ lw_all := lw_g (lw_at lw_m5 11 rfl) rfl
theorem q1025 : (Jvm.Cond.code ({ cls := "HoleCounty", name := "looksAt", desc := "(Ljava/lang/Object;III)V" } : Jvm.MethodName) prog_1_method_72_code (7 : Nat) (Option.none : Option Jvm.ClassFile.FieldType)) ∈ lw_all := lw_g (lw_at lw_m5 12 rfl) rfl
theorem q1026 : (Jvm.Cond.methodLink "HoleCounty" (390 : Nat) ({ cls := "java/lang/ArrayIndexOutOfBoundsException", name := "<init>", desc := "()V" } : Jvm.MethodName)) ∈ lw_all := lw_g (lw_at lw_m5 13 rfl) rfl
theorem q1033 : (Jvm.Cond.methodLink "HoleCounty" (395 : Nat) ({ cls := "HoleCounty", name := "itemOf", desc := "(Ljava/lang/Object;II)J" } : Jvm.MethodName)) ∈ lw_all := lw_g (lw_at lw_m5 20 rfl) rfl
theorem q1034 : (Jvm.Cond.static ({ cls := "HoleCounty", name := "itemOf", desc := "(Ljava/lang/Object;II)J" } : Jvm.MethodName)) ∈ lw_all := lw_g (lw_at lw_m5 21 rfl) rfl
theorem q1035 : (Jvm.Cond.code ({ cls := "HoleCounty", name := "itemOf", desc := "(Ljava/lang/Object;II)J" } : Jvm.MethodName) prog_1_method_66_code (3 : Nat) (Option.some Jvm.ClassFile.FieldType.long)) ∈ lw_all := lw_g (lw_at lw_m5 22 rfl) rfl
theorem q1037 : (Jvm.Cond.instanceMethod ({ cls := "HoleCounty", name := "film", desc := "(III)I" } : Jvm.MethodName)) ∈ lw_all := lw_g (lw_at lw_m5 24 rfl) rfl
theorem q1038 : (Jvm.Cond.selects "HoleCounty" ({ cls := "HoleCounty", name := "film", desc := "(III)I" } : Jvm.MethodName) ({ cls := "HoleCounty", name := "film", desc := "(III)I" } : Jvm.MethodName)) ∈ lw_all := lw_g (lw_at lw_m5 25 rfl) rfl
theorem q1039 : (Jvm.Cond.code ({ cls := "HoleCounty", name := "film", desc := "(III)I" } : Jvm.MethodName) prog_1_method_75_code (7 : Nat) (Option.some Jvm.ClassFile.FieldType.int)) ∈ lw_all := lw_g (lw_at lw_m5 26 rfl) rfl
theorem q1041 : (Jvm.Cond.instanceMethod ({ cls := "HoleCounty", name := "miscounted", desc := "(IIII)I" } : Jvm.MethodName)) ∈ lw_all := lw_g (lw_at lw_m5 28 rfl) rfl
theorem q1042 : (Jvm.Cond.selects "HoleCounty" ({ cls := "HoleCounty", name := "miscounted", desc := "(IIII)I" } : Jvm.MethodName) ({ cls := "HoleCounty", name := "miscounted", desc := "(IIII)I" } : Jvm.MethodName)) ∈ lw_all := lw_g (lw_at lw_m5 29 rfl) rfl
theorem q1043 : (Jvm.Cond.code ({ cls := "HoleCounty", name := "miscounted", desc := "(IIII)I" } : Jvm.MethodName) prog_1_method_77_code (7 : Nat) (Option.some Jvm.ClassFile.FieldType.int)) ∈ lw_all := lw_g (lw_at lw_m5 30 rfl) rfl
theorem q1044 : (Jvm.Cond.constantLong "HoleCounty" (407 : Nat) (12 : Int64)) ∈ lw_all := lw_g (lw_at lw_m5 31 rfl) rfl
theorem q1045 : (Jvm.Cond.methodLink "HoleCounty" (409 : Nat) ({ cls := "HoleCounty", name := "isCounted", desc := "(JJ)Z" } : Jvm.MethodName)) ∈ lw_all := lw_g (lw_at lw_m5 32 rfl) rfl
theorem q1046 : (Jvm.Cond.privateMethod ({ cls := "HoleCounty", name := "isCounted", desc := "(JJ)Z" } : Jvm.MethodName)) ∈ lw_tbl := lw_at lw_m5 33 rfl
theorem q1047 : (Jvm.Cond.instanceMethod ({ cls := "HoleCounty", name := "isCounted", desc := "(JJ)Z" } : Jvm.MethodName)) ∈ lw_all := lw_g (lw_at lw_m5 34 rfl) rfl
theorem q1048 : (Jvm.Cond.code ({ cls := "HoleCounty", name := "isCounted", desc := "(JJ)Z" } : Jvm.MethodName) prog_1_method_76_code (6 : Nat) (Option.some Jvm.ClassFile.FieldType.boolean)) ∈ lw_all := lw_g (lw_at lw_m5 35 rfl) rfl
theorem q1050 : (Jvm.Cond.instanceMethod ({ cls := "HoleCounty", name := "copy", desc := "(IIIII)I" } : Jvm.MethodName)) ∈ lw_all := lw_g (lw_at lw_m5 37 rfl) rfl
theorem q1051 : (Jvm.Cond.selects "HoleCounty" ({ cls := "HoleCounty", name := "copy", desc := "(IIIII)I" } : Jvm.MethodName) ({ cls := "HoleCounty", name := "copy", desc := "(IIIII)I" } : Jvm.MethodName)) ∈ lw_all := lw_g (lw_at lw_m5 38 rfl) rfl
theorem q1052 : (Jvm.Cond.codeWith ({ cls := "HoleCounty", name := "copy", desc := "(IIIII)I" } : Jvm.MethodName) prog_1_method_78_code (7 : Nat) (Option.some Jvm.ClassFile.FieldType.int) [((16 : Nat), (44 : Nat), (45 : Nat), (384 : Nat)), ((16 : Nat), (44 : Nat), (50 : Nat), (413 : Nat)), ((16 : Nat), (44 : Nat), (55 : Nat), (415 : Nat))]) ∈ lw_all := lw_g (lw_at lw_m5 39 rfl) rfl
theorem q1053 : (Jvm.Cond.classLink "HoleCounty" (413 : Nat) "java/lang/ArrayStoreException") ∈ lw_all := lw_g (lw_at lw_m5 40 rfl) rfl
theorem q1067 : (Jvm.Cond.classLink "HoleCounty" (415 : Nat) "java/lang/IndexOutOfBoundsException") ∈ lw_all := lw_g (lw_at lw_m5 54 rfl) rfl
theorem q1070 : (Jvm.Cond.instanceMethod ({ cls := "HoleCounty", name := "<init>", desc := "()V" } : Jvm.MethodName)) ∈ lw_all := lw_g (lw_at lw_m5 57 rfl) rfl
theorem q1071 : (Jvm.Cond.code ({ cls := "HoleCounty", name := "<init>", desc := "()V" } : Jvm.MethodName) prog_1_method_79_code (2 : Nat) (Option.none : Option Jvm.ClassFile.FieldType)) ∈ lw_all := lw_g (lw_at lw_m5 58 rfl) rfl
theorem q1072 : (Jvm.Cond.methodLink "HoleCounty" (417 : Nat) ({ cls := "java/lang/Object", name := "<init>", desc := "()V" } : Jvm.MethodName)) ∈ lw_all := lw_g (lw_at lw_m5 59 rfl) rfl
theorem q1073 : (Jvm.Cond.classLink "HoleCounty" (43 : Nat) "HoleCounty$Ground") ∈ lw_all := lw_g (lw_at lw_m5 60 rfl) rfl
theorem q1074 : (Jvm.Cond.methodLinkNest "HoleCounty" (420 : Nat) ({ cls := "HoleCounty$Ground", name := "<init>", desc := "()V" } : Jvm.MethodName) "HoleCounty") ∈ lw_tbl := lw_at lw_m5 61 rfl
theorem q1080 : (Jvm.Cond.fieldLinkNest "HoleCounty" (42 : Nat) "HoleCounty$Ground" "depths" "[B" "HoleCounty") ∈ lw_tbl := lw_at lw_m5 67 rfl
theorem q1083 : (Jvm.Cond.fieldLinkNest "HoleCounty" (62 : Nat) "HoleCounty$Ground" "roofs" "J" "HoleCounty") ∈ lw_tbl := lw_at lw_m5 70 rfl
theorem q1085 : (Jvm.Cond.fieldLinkNest "HoleCounty" (93 : Nat) "HoleCounty$Ground" "rate" "I" "HoleCounty") ∈ lw_tbl := lw_at lw_m5 72 rfl
theorem q1093 : (Jvm.Cond.classLink "HoleCounty" (70 : Nat) "java/util/ArrayList") ∈ lw_all := lw_g (lw_at lw_m5 80 rfl) rfl
theorem q1094 : (Jvm.Cond.methodLink "HoleCounty" (421 : Nat) ({ cls := "java/util/ArrayList", name := "<init>", desc := "()V" } : Jvm.MethodName)) ∈ lw_all := lw_g (lw_at lw_m5 81 rfl) rfl
theorem q1095 : (Jvm.Cond.classLink "HoleCounty" (365 : Nat) "HoleCounty$Held") ∈ lw_all := lw_g (lw_at lw_m5 82 rfl) rfl
theorem q1098 : (Jvm.Cond.methodLinkNest "HoleCounty" (422 : Nat) ({ cls := "HoleCounty$Held", name := "<init>", desc := "()V" } : Jvm.MethodName) "HoleCounty") ∈ lw_tbl := lw_at lw_m5 85 rfl
theorem q1102 : (Jvm.Cond.fieldLinkNest "HoleCounty" (364 : Nat) "HoleCounty$Held" "row" "Ljava/lang/Object;" "HoleCounty") ∈ lw_tbl := lw_at lw_m5 89 rfl
theorem q1107 : (Jvm.Cond.fieldLink "HoleCounty" (38 : Nat) "HoleCounty" "ground" "LHoleCounty$Ground;") ∈ lw_all := lw_g (lw_at lw_m5 94 rfl) rfl
theorem q1108 : (Jvm.Cond.fieldLink "HoleCounty" (174 : Nat) "HoleCounty" "tried" "LHoleCounty$Ground;") ∈ lw_all := lw_g (lw_at lw_m5 95 rfl) rfl
theorem q1109 : (Jvm.Cond.fieldLink "HoleCounty" (88 : Nat) "HoleCounty" "owners" "[B") ∈ lw_all := lw_g (lw_at lw_m5 96 rfl) rfl
theorem q1111 : (Jvm.Cond.fieldLink "HoleCounty" (65 : Nat) "HoleCounty" "undos" "Ljava/util/ArrayList;") ∈ lw_all := lw_g (lw_at lw_m5 98 rfl) rfl
theorem q1112 : (Jvm.Cond.fieldLink "HoleCounty" (214 : Nat) "HoleCounty" "tour" "[I") ∈ lw_all := lw_g (lw_at lw_m5 99 rfl) rfl
theorem q1113 : (Jvm.Cond.fieldLink "HoleCounty" (218 : Nat) "HoleCounty" "best" "[I") ∈ lw_all := lw_g (lw_at lw_m5 100 rfl) rfl
theorem q1114 : (Jvm.Cond.fieldLink "HoleCounty" (211 : Nat) "HoleCounty" "steps" "I") ∈ lw_all := lw_g (lw_at lw_m5 101 rfl) rfl
theorem q1115 : (Jvm.Cond.fieldLink "HoleCounty" (240 : Nat) "HoleCounty" "draw" "I") ∈ lw_all := lw_g (lw_at lw_m5 102 rfl) rfl
theorem q1116 : (Jvm.Cond.fieldLink "HoleCounty" (259 : Nat) "HoleCounty" "tape" "[B") ∈ lw_all := lw_g (lw_at lw_m5 103 rfl) rfl
theorem q1117 : (Jvm.Cond.fieldLink "HoleCounty" (256 : Nat) "HoleCounty" "typed" "I") ∈ lw_all := lw_g (lw_at lw_m5 104 rfl) rfl
theorem q1118 : (Jvm.Cond.fieldLink "HoleCounty" (262 : Nat) "HoleCounty" "at" "I") ∈ lw_all := lw_g (lw_at lw_m5 105 rfl) rfl
theorem q1119 : (Jvm.Cond.fieldLink "HoleCounty" (283 : Nat) "HoleCounty" "read" "LHoleCounty$Ground;") ∈ lw_all := lw_g (lw_at lw_m5 106 rfl) rfl
theorem q1120 : (Jvm.Cond.fieldLink "HoleCounty" (298 : Nat) "HoleCounty" "signs" "[B") ∈ lw_all := lw_g (lw_at lw_m5 107 rfl) rfl
theorem q1121 : (Jvm.Cond.fieldLink "HoleCounty" (307 : Nat) "HoleCounty" "acts" "[B") ∈ lw_all := lw_g (lw_at lw_m5 108 rfl) rfl
theorem q1122 : (Jvm.Cond.fieldLink "HoleCounty" (324 : Nat) "HoleCounty" "isImage" "Z") ∈ lw_all := lw_g (lw_at lw_m5 109 rfl) rfl
theorem q1123 : (Jvm.Cond.fieldLink "HoleCounty" (328 : Nat) "HoleCounty" "image" "LHoleCounty$Ground;") ∈ lw_all := lw_g (lw_at lw_m5 110 rfl) rfl
theorem q1124 : (Jvm.Cond.fieldLink "HoleCounty" (331 : Nat) "HoleCounty" "imageOwners" "[B") ∈ lw_all := lw_g (lw_at lw_m5 111 rfl) rfl
theorem q1125 : (Jvm.Cond.fieldLink "HoleCounty" (334 : Nat) "HoleCounty" "imageUndos" "Ljava/util/ArrayList;") ∈ lw_all := lw_g (lw_at lw_m5 112 rfl) rfl
theorem q1126 : (Jvm.Cond.fieldLink "HoleCounty" (341 : Nat) "HoleCounty" "imageDraw" "I") ∈ lw_all := lw_g (lw_at lw_m5 113 rfl) rfl
theorem q1127 : (Jvm.Cond.fieldLink "HoleCounty" (356 : Nat) "HoleCounty" "sheets" "[LHoleCounty$Held;") ∈ lw_all := lw_g (lw_at lw_m5 114 rfl) rfl
theorem q1128 : (Jvm.Cond.fieldLink "HoleCounty" (392 : Nat) "HoleCounty" "taken" "[J") ∈ lw_all := lw_g (lw_at lw_m5 115 rfl) rfl
theorem q1129 : (Jvm.Cond.laysFinal "HoleCounty" "HoleCounty" "ground" "LHoleCounty$Ground;") ∈ lw_all := lw_g (lw_at lw_m5 116 rfl) rfl
theorem q1130 : (Jvm.Cond.soleField "HoleCounty" "ground") ∈ lw_all := lw_g (lw_at lw_m5 117 rfl) rfl
theorem q1131 : (Jvm.Cond.laysFinal "HoleCounty" "HoleCounty" "tried" "LHoleCounty$Ground;") ∈ lw_all := lw_g (lw_at lw_m5 118 rfl) rfl
theorem q1132 : (Jvm.Cond.soleField "HoleCounty" "tried") ∈ lw_all := lw_g (lw_at lw_m5 119 rfl) rfl
theorem q1133 : (Jvm.Cond.laysFinal "HoleCounty" "HoleCounty" "owners" "[B") ∈ lw_all := lw_g (lw_at lw_m5 120 rfl) rfl
theorem q1134 : (Jvm.Cond.soleField "HoleCounty" "owners") ∈ lw_all := lw_g (lw_at lw_m5 121 rfl) rfl
theorem q1135 : (Jvm.Cond.laysFinal "HoleCounty" "HoleCounty" "undos" "Ljava/util/ArrayList;") ∈ lw_all := lw_g (lw_at lw_m5 122 rfl) rfl
theorem q1136 : (Jvm.Cond.soleField "HoleCounty" "undos") ∈ lw_all := lw_g (lw_at lw_m5 123 rfl) rfl
theorem q1137 : (Jvm.Cond.laysFinal "HoleCounty" "HoleCounty" "tour" "[I") ∈ lw_all := lw_g (lw_at lw_m5 124 rfl) rfl
theorem q1138 : (Jvm.Cond.soleField "HoleCounty" "tour") ∈ lw_all := lw_g (lw_at lw_m5 125 rfl) rfl
theorem q1139 : (Jvm.Cond.laysFinal "HoleCounty" "HoleCounty" "best" "[I") ∈ lw_all := lw_g (lw_at lw_m5 126 rfl) rfl
theorem q1140 : (Jvm.Cond.soleField "HoleCounty" "best") ∈ lw_all := lw_g (lw_at lw_m5 127 rfl) rfl
theorem q1141 : (Jvm.Cond.lays "HoleCounty" "HoleCounty" "steps" "I") ∈ lw_all := lw_g (lw_at lw_m5 128 rfl) rfl
theorem q1142 : (Jvm.Cond.soleField "HoleCounty" "steps") ∈ lw_all := lw_g (lw_at lw_m5 129 rfl) rfl
theorem q1143 : (Jvm.Cond.lays "HoleCounty" "HoleCounty" "draw" "I") ∈ lw_all := lw_g (lw_at lw_m5 130 rfl) rfl
theorem q1144 : (Jvm.Cond.soleField "HoleCounty" "draw") ∈ lw_all := lw_g (lw_at lw_m5 131 rfl) rfl
theorem q1145 : (Jvm.Cond.laysFinal "HoleCounty" "HoleCounty" "tape" "[B") ∈ lw_all := lw_g (lw_at lw_m5 132 rfl) rfl
theorem q1146 : (Jvm.Cond.soleField "HoleCounty" "tape") ∈ lw_all := lw_g (lw_at lw_m5 133 rfl) rfl
theorem q1147 : (Jvm.Cond.lays "HoleCounty" "HoleCounty" "typed" "I") ∈ lw_all := lw_g (lw_at lw_m5 134 rfl) rfl
theorem q1148 : (Jvm.Cond.soleField "HoleCounty" "typed") ∈ lw_all := lw_g (lw_at lw_m5 135 rfl) rfl
theorem q1149 : (Jvm.Cond.lays "HoleCounty" "HoleCounty" "at" "I") ∈ lw_all := lw_g (lw_at lw_m5 136 rfl) rfl
theorem q1150 : (Jvm.Cond.soleField "HoleCounty" "at") ∈ lw_all := lw_g (lw_at lw_m5 137 rfl) rfl
theorem q1151 : (Jvm.Cond.laysFinal "HoleCounty" "HoleCounty" "read" "LHoleCounty$Ground;") ∈ lw_all := lw_g (lw_at lw_m5 138 rfl) rfl
theorem q1152 : (Jvm.Cond.soleField "HoleCounty" "read") ∈ lw_all := lw_g (lw_at lw_m5 139 rfl) rfl
theorem q1153 : (Jvm.Cond.laysFinal "HoleCounty" "HoleCounty" "signs" "[B") ∈ lw_all := lw_g (lw_at lw_m5 140 rfl) rfl
theorem q1154 : (Jvm.Cond.soleField "HoleCounty" "signs") ∈ lw_all := lw_g (lw_at lw_m5 141 rfl) rfl
theorem q1155 : (Jvm.Cond.laysFinal "HoleCounty" "HoleCounty" "acts" "[B") ∈ lw_all := lw_g (lw_at lw_m5 142 rfl) rfl
theorem q1156 : (Jvm.Cond.soleField "HoleCounty" "acts") ∈ lw_all := lw_g (lw_at lw_m5 143 rfl) rfl
theorem q1157 : (Jvm.Cond.lays "HoleCounty" "HoleCounty" "isImage" "Z") ∈ lw_all := lw_g (lw_at lw_m5 144 rfl) rfl
theorem q1158 : (Jvm.Cond.soleField "HoleCounty" "isImage") ∈ lw_all := lw_g (lw_at lw_m5 145 rfl) rfl
theorem q1159 : (Jvm.Cond.laysFinal "HoleCounty" "HoleCounty" "image" "LHoleCounty$Ground;") ∈ lw_all := lw_g (lw_at lw_m5 146 rfl) rfl
theorem q1160 : (Jvm.Cond.soleField "HoleCounty" "image") ∈ lw_all := lw_g (lw_at lw_m5 147 rfl) rfl
theorem q1161 : (Jvm.Cond.laysFinal "HoleCounty" "HoleCounty" "imageOwners" "[B") ∈ lw_all := lw_g (lw_at lw_m5 148 rfl) rfl
theorem q1162 : (Jvm.Cond.soleField "HoleCounty" "imageOwners") ∈ lw_all := lw_g (lw_at lw_m5 149 rfl) rfl
theorem q1163 : (Jvm.Cond.laysFinal "HoleCounty" "HoleCounty" "imageUndos" "Ljava/util/ArrayList;") ∈ lw_all := lw_g (lw_at lw_m5 150 rfl) rfl
theorem q1164 : (Jvm.Cond.soleField "HoleCounty" "imageUndos") ∈ lw_all := lw_g (lw_at lw_m5 151 rfl) rfl
theorem q1165 : (Jvm.Cond.lays "HoleCounty" "HoleCounty" "imageDraw" "I") ∈ lw_all := lw_g (lw_at lw_m5 152 rfl) rfl
theorem q1166 : (Jvm.Cond.soleField "HoleCounty" "imageDraw") ∈ lw_all := lw_g (lw_at lw_m5 153 rfl) rfl
theorem q1167 : (Jvm.Cond.laysFinal "HoleCounty" "HoleCounty" "sheets" "[LHoleCounty$Held;") ∈ lw_all := lw_g (lw_at lw_m5 154 rfl) rfl
theorem q1168 : (Jvm.Cond.soleField "HoleCounty" "sheets") ∈ lw_all := lw_g (lw_at lw_m5 155 rfl) rfl
theorem q1169 : (Jvm.Cond.laysFinal "HoleCounty" "HoleCounty" "taken" "[J") ∈ lw_all := lw_g (lw_at lw_m5 156 rfl) rfl
theorem q1170 : (Jvm.Cond.soleField "HoleCounty" "taken") ∈ lw_all := lw_g (lw_at lw_m5 157 rfl) rfl
theorem q1171 : (Jvm.Cond.superclass "HoleCounty" "java/lang/Object") ∈ lw_all := lw_g (lw_at lw_m5 158 rfl) rfl
theorem q1620 : (Jvm.Cond.castable "HoleCounty" "java/lang/Object") ∈ lw_tbl := lw_at lw_m7 127 rfl
theorem in_X0 : ∀ w ∈ wsX00, w ∈ lw_all := lw_in wsX00 [1129, 1131, 1133, 1135, 1137, 1139, 1141, 1143, 1145, 1147, 1149, 1151, 1153, 1155, 1157, 1159, 1161, 1163, 1165, 1167, 1169] (by decide +kernel) (by decide +kernel)
