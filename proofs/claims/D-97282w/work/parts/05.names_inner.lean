/-! HoleCounty$Ground -/
set_option maxRecDepth 100000
def RX1 : String := "HoleCounty$Ground"
def TX1 : u_T := fun k => match k with
  | 0 => ("HoleCounty$Ground", "depths", "[B", true)
  | 1 => ("HoleCounty$Ground", "roofs", "J", false)
  | _ => ("HoleCounty$Ground", "rate", "I", false)
def tyX1 : Nat → FieldType := fun k => match k with
  | 0 => .array .byte
  | 1 => .long
  | _ => .int
abbrev wsX10 : List Cond := u_ws RX1 TX1 3
theorem nmX1 : ∀ a, a < 3 → ∀ b, b < 3 → a ≠ b → (TX1 a).2.1 ≠ (TX1 b).2.1 := by decide +kernel
theorem tyX1_ok : ∀ k, k < 3 → parseFieldDescriptor (TX1 k).2.2.1 = some (tyX1 k) := by decide +kernel
abbrev cX1_becomes : ByteArray := prog_5_method_9_code
def yX1_becomes : MethodName := ⟨RX1, "becomes", "(JI)V"⟩
def dkwX1_becomes_2 : List UInt8 := [127, 181, 0, 25, 177]
abbrev dktX1_becomes_2 : List UInt8 := dkwX1_becomes_2 ++ []
def dkwX1_becomes_1 : List UInt8 := [22, 4, 10, 101, 127, 55, 4, 167, 255, 228, 29, 154, 0, 17, 42, 89, 180, 0, 25, 31, 20, 0, 33, 131]
abbrev dktX1_becomes_1 : List UInt8 := dkwX1_becomes_1 ++ dktX1_becomes_2
def dkwX1_becomes_0 : List UInt8 := [31, 55, 4, 22, 4, 9, 148, 153, 0, 27, 42, 180, 0, 9, 22, 4, 184, 0, 29, 29, 145, 84, 22, 4]
abbrev dktX1_becomes_0 : List UInt8 := dkwX1_becomes_0 ++ dktX1_becomes_1
theorem dksX1_becomes_0 : cX1_becomes.data.toList.drop 0 = dktX1_becomes_0 := by decide +kernel
theorem dksX1_becomes_1 : cX1_becomes.data.toList.drop 24 = dktX1_becomes_1 := dk_seg dksX1_becomes_0 24 rfl rfl
theorem dksX1_becomes_2 : cX1_becomes.data.toList.drop 48 = dktX1_becomes_2 := dk_seg dksX1_becomes_1 24 rfl rfl
theorem dX1_becomes_0 : decode cX1_becomes 0 = .ok (.lload_n 1, 1) := dk_31 (dk_at dksX1_becomes_0 0 rfl rfl)
theorem dX1_becomes_1 : decode cX1_becomes 1 = .ok (.lstore 4, 2) := dk_55 4 (dk_at dksX1_becomes_0 1 rfl rfl)
theorem dX1_becomes_3 : decode cX1_becomes 3 = .ok (.lload 4, 2) := dk_22 4 (dk_at dksX1_becomes_0 3 rfl rfl)
theorem dX1_becomes_5 : decode cX1_becomes 5 = .ok (.lconst 0, 1) := dk_9 (dk_at dksX1_becomes_0 5 rfl rfl)
theorem dX1_becomes_6 : decode cX1_becomes 6 = .ok (.lcmp, 1) := dk_148 (dk_at dksX1_becomes_0 6 rfl rfl)
theorem dX1_becomes_7 : decode cX1_becomes 7 = .ok (.ifCond .eq 27, 3) := dk_153 0 27 (dk_at dksX1_becomes_0 7 rfl rfl)
theorem dX1_becomes_10 : decode cX1_becomes 10 = .ok (.aload_n 0, 1) := dk_42 (dk_at dksX1_becomes_0 10 rfl rfl)
theorem dX1_becomes_11 : decode cX1_becomes 11 = .ok (.getfield 9, 3) := dk_180 0 9 (dk_at dksX1_becomes_0 11 rfl rfl)
theorem dX1_becomes_14 : decode cX1_becomes 14 = .ok (.lload 4, 2) := dk_22 4 (dk_at dksX1_becomes_0 14 rfl rfl)
theorem dX1_becomes_16 : decode cX1_becomes 16 = .ok (.invokestatic 29, 3) := dk_184 0 29 (dk_at dksX1_becomes_0 16 rfl rfl)
theorem dX1_becomes_19 : decode cX1_becomes 19 = .ok (.iload_n 3, 1) := dk_29 (dk_at dksX1_becomes_0 19 rfl rfl)
theorem dX1_becomes_20 : decode cX1_becomes 20 = .ok (.i2b, 1) := dk_145 (dk_at dksX1_becomes_0 20 rfl rfl)
theorem dX1_becomes_21 : decode cX1_becomes 21 = .ok (.bastore, 1) := dk_84 (dk_at dksX1_becomes_0 21 rfl rfl)
theorem dX1_becomes_22 : decode cX1_becomes 22 = .ok (.lload 4, 2) := dk_22 4 (dk_at dksX1_becomes_0 22 rfl rfl)
theorem dX1_becomes_24 : decode cX1_becomes 24 = .ok (.lload 4, 2) := dk_22 4 (dk_at dksX1_becomes_1 0 rfl rfl)
theorem dX1_becomes_26 : decode cX1_becomes 26 = .ok (.lconst 1, 1) := dk_10 (dk_at dksX1_becomes_1 2 rfl rfl)
theorem dX1_becomes_27 : decode cX1_becomes 27 = .ok (.lsub, 1) := dk_101 (dk_at dksX1_becomes_1 3 rfl rfl)
theorem dX1_becomes_28 : decode cX1_becomes 28 = .ok (.land, 1) := dk_127 (dk_at dksX1_becomes_1 4 rfl rfl)
theorem dX1_becomes_29 : decode cX1_becomes 29 = .ok (.lstore 4, 2) := dk_55 4 (dk_at dksX1_becomes_1 5 rfl rfl)
theorem dX1_becomes_31 : decode cX1_becomes 31 = .ok (.goto (-28), 3) := dk_167 255 228 (dk_at dksX1_becomes_1 7 rfl rfl)
theorem dX1_becomes_34 : decode cX1_becomes 34 = .ok (.iload_n 3, 1) := dk_29 (dk_at dksX1_becomes_1 10 rfl rfl)
theorem dX1_becomes_35 : decode cX1_becomes 35 = .ok (.ifCond .ne 17, 3) := dk_154 0 17 (dk_at dksX1_becomes_1 11 rfl rfl)
theorem dX1_becomes_38 : decode cX1_becomes 38 = .ok (.aload_n 0, 1) := dk_42 (dk_at dksX1_becomes_1 14 rfl rfl)
theorem dX1_becomes_39 : decode cX1_becomes 39 = .ok (.dup, 1) := dk_89 (dk_at dksX1_becomes_1 15 rfl rfl)
theorem dX1_becomes_40 : decode cX1_becomes 40 = .ok (.getfield 25, 3) := dk_180 0 25 (dk_at dksX1_becomes_1 16 rfl rfl)
theorem dX1_becomes_43 : decode cX1_becomes 43 = .ok (.lload_n 1, 1) := dk_31 (dk_at dksX1_becomes_1 19 rfl rfl)
theorem dX1_becomes_44 : decode cX1_becomes 44 = .ok (.ldc2_w 33, 3) := dk_20 0 33 (dk_at dksX1_becomes_1 20 rfl rfl)
theorem dX1_becomes_47 : decode cX1_becomes 47 = .ok (.lxor, 1) := dk_131 (dk_at dksX1_becomes_1 23 rfl rfl)
theorem dX1_becomes_48 : decode cX1_becomes 48 = .ok (.land, 1) := dk_127 (dk_at dksX1_becomes_2 0 rfl rfl)
theorem dX1_becomes_49 : decode cX1_becomes 49 = .ok (.putfield 25, 3) := dk_181 0 25 (dk_at dksX1_becomes_2 1 rfl rfl)
theorem dX1_becomes_52 : decode cX1_becomes 52 = .ok (.return_, 1) := dk_177 (dk_at dksX1_becomes_2 4 rfl rfl)
abbrev cX1_hole : ByteArray := prog_5_method_6_code
def yX1_hole : MethodName := ⟨RX1, "hole", "(I)LHoleCounty$Pit;"⟩
def dkwX1_hole_1 : List UInt8 := [182, 0, 79, 176]
abbrev dktX1_hole_1 : List UInt8 := dkwX1_hole_1 ++ []
def dkwX1_hole_0 : List UInt8 := [10, 27, 121, 42, 182, 0, 71, 184, 0, 75, 65, 32, 9, 148, 154, 0, 7, 1, 167, 0, 8, 42, 32]
abbrev dktX1_hole_0 : List UInt8 := dkwX1_hole_0 ++ dktX1_hole_1
theorem dksX1_hole_0 : cX1_hole.data.toList.drop 0 = dktX1_hole_0 := by decide +kernel
theorem dksX1_hole_1 : cX1_hole.data.toList.drop 23 = dktX1_hole_1 := dk_seg dksX1_hole_0 23 rfl rfl
theorem dX1_hole_0 : decode cX1_hole 0 = .ok (.lconst 1, 1) := dk_10 (dk_at dksX1_hole_0 0 rfl rfl)
theorem dX1_hole_1 : decode cX1_hole 1 = .ok (.iload_n 1, 1) := dk_27 (dk_at dksX1_hole_0 1 rfl rfl)
theorem dX1_hole_2 : decode cX1_hole 2 = .ok (.lshl, 1) := dk_121 (dk_at dksX1_hole_0 2 rfl rfl)
theorem dX1_hole_3 : decode cX1_hole 3 = .ok (.aload_n 0, 1) := dk_42 (dk_at dksX1_hole_0 3 rfl rfl)
theorem dX1_hole_4 : decode cX1_hole 4 = .ok (.invokevirtual 71, 3) := dk_182 0 71 (dk_at dksX1_hole_0 4 rfl rfl)
theorem dX1_hole_7 : decode cX1_hole 7 = .ok (.invokestatic 75, 3) := dk_184 0 75 (dk_at dksX1_hole_0 7 rfl rfl)
theorem dX1_hole_10 : decode cX1_hole 10 = .ok (.lstore_n 2, 1) := dk_65 (dk_at dksX1_hole_0 10 rfl rfl)
theorem dX1_hole_11 : decode cX1_hole 11 = .ok (.lload_n 2, 1) := dk_32 (dk_at dksX1_hole_0 11 rfl rfl)
theorem dX1_hole_12 : decode cX1_hole 12 = .ok (.lconst 0, 1) := dk_9 (dk_at dksX1_hole_0 12 rfl rfl)
theorem dX1_hole_13 : decode cX1_hole 13 = .ok (.lcmp, 1) := dk_148 (dk_at dksX1_hole_0 13 rfl rfl)
theorem dX1_hole_14 : decode cX1_hole 14 = .ok (.ifCond .ne 7, 3) := dk_154 0 7 (dk_at dksX1_hole_0 14 rfl rfl)
theorem dX1_hole_17 : decode cX1_hole 17 = .ok (.aconst_null, 1) := dk_1 (dk_at dksX1_hole_0 17 rfl rfl)
theorem dX1_hole_18 : decode cX1_hole 18 = .ok (.goto 8, 3) := dk_167 0 8 (dk_at dksX1_hole_0 18 rfl rfl)
theorem dX1_hole_21 : decode cX1_hole 21 = .ok (.aload_n 0, 1) := dk_42 (dk_at dksX1_hole_0 21 rfl rfl)
theorem dX1_hole_22 : decode cX1_hole 22 = .ok (.lload_n 2, 1) := dk_32 (dk_at dksX1_hole_0 22 rfl rfl)
theorem dX1_hole_23 : decode cX1_hole 23 = .ok (.invokevirtual 79, 3) := dk_182 0 79 (dk_at dksX1_hole_1 0 rfl rfl)
theorem dX1_hole_26 : decode cX1_hole 26 = .ok (.areturn, 1) := dk_176 (dk_at dksX1_hole_1 3 rfl rfl)
abbrev cX1_dug : ByteArray := prog_5_method_3_code
def yX1_dug : MethodName := ⟨RX1, "dug", "()J"⟩
def dkwX1_dug_1 : List UInt8 := [167, 0, 4, 9, 129, 64, 132, 3, 1, 167, 255, 228, 31, 173]
abbrev dktX1_dug_1 : List UInt8 := dkwX1_dug_1 ++ []
def dkwX1_dug_0 : List UInt8 := [9, 64, 3, 62, 29, 16, 36, 162, 0, 28, 31, 42, 180, 0, 9, 29, 51, 158, 0, 9, 10, 29, 121]
abbrev dktX1_dug_0 : List UInt8 := dkwX1_dug_0 ++ dktX1_dug_1
theorem dksX1_dug_0 : cX1_dug.data.toList.drop 0 = dktX1_dug_0 := by decide +kernel
theorem dksX1_dug_1 : cX1_dug.data.toList.drop 23 = dktX1_dug_1 := dk_seg dksX1_dug_0 23 rfl rfl
theorem dX1_dug_0 : decode cX1_dug 0 = .ok (.lconst 0, 1) := dk_9 (dk_at dksX1_dug_0 0 rfl rfl)
theorem dX1_dug_1 : decode cX1_dug 1 = .ok (.lstore_n 1, 1) := dk_64 (dk_at dksX1_dug_0 1 rfl rfl)
theorem dX1_dug_2 : decode cX1_dug 2 = .ok (.iconst 0, 1) := dk_3 (dk_at dksX1_dug_0 2 rfl rfl)
theorem dX1_dug_3 : decode cX1_dug 3 = .ok (.istore_n 3, 1) := dk_62 (dk_at dksX1_dug_0 3 rfl rfl)
theorem dX1_dug_4 : decode cX1_dug 4 = .ok (.iload_n 3, 1) := dk_29 (dk_at dksX1_dug_0 4 rfl rfl)
theorem dX1_dug_5 : decode cX1_dug 5 = .ok (.bipush 36, 2) := dk_16 36 (dk_at dksX1_dug_0 5 rfl rfl)
theorem dX1_dug_7 : decode cX1_dug 7 = .ok (.if_icmp .ge 28, 3) := dk_162 0 28 (dk_at dksX1_dug_0 7 rfl rfl)
theorem dX1_dug_10 : decode cX1_dug 10 = .ok (.lload_n 1, 1) := dk_31 (dk_at dksX1_dug_0 10 rfl rfl)
theorem dX1_dug_11 : decode cX1_dug 11 = .ok (.aload_n 0, 1) := dk_42 (dk_at dksX1_dug_0 11 rfl rfl)
theorem dX1_dug_12 : decode cX1_dug 12 = .ok (.getfield 9, 3) := dk_180 0 9 (dk_at dksX1_dug_0 12 rfl rfl)
theorem dX1_dug_15 : decode cX1_dug 15 = .ok (.iload_n 3, 1) := dk_29 (dk_at dksX1_dug_0 15 rfl rfl)
theorem dX1_dug_16 : decode cX1_dug 16 = .ok (.baload, 1) := dk_51 (dk_at dksX1_dug_0 16 rfl rfl)
theorem dX1_dug_17 : decode cX1_dug 17 = .ok (.ifCond .le 9, 3) := dk_158 0 9 (dk_at dksX1_dug_0 17 rfl rfl)
theorem dX1_dug_20 : decode cX1_dug 20 = .ok (.lconst 1, 1) := dk_10 (dk_at dksX1_dug_0 20 rfl rfl)
theorem dX1_dug_21 : decode cX1_dug 21 = .ok (.iload_n 3, 1) := dk_29 (dk_at dksX1_dug_0 21 rfl rfl)
theorem dX1_dug_22 : decode cX1_dug 22 = .ok (.lshl, 1) := dk_121 (dk_at dksX1_dug_0 22 rfl rfl)
theorem dX1_dug_23 : decode cX1_dug 23 = .ok (.goto 4, 3) := dk_167 0 4 (dk_at dksX1_dug_1 0 rfl rfl)
theorem dX1_dug_26 : decode cX1_dug 26 = .ok (.lconst 0, 1) := dk_9 (dk_at dksX1_dug_1 3 rfl rfl)
theorem dX1_dug_27 : decode cX1_dug 27 = .ok (.lor, 1) := dk_129 (dk_at dksX1_dug_1 4 rfl rfl)
theorem dX1_dug_28 : decode cX1_dug 28 = .ok (.lstore_n 1, 1) := dk_64 (dk_at dksX1_dug_1 5 rfl rfl)
theorem dX1_dug_29 : decode cX1_dug 29 = .ok (.iinc 3 1, 3) := dk_132 3 1 (dk_at dksX1_dug_1 6 rfl rfl)
theorem dX1_dug_32 : decode cX1_dug 32 = .ok (.goto (-28), 3) := dk_167 255 228 (dk_at dksX1_dug_1 9 rfl rfl)
theorem dX1_dug_35 : decode cX1_dug 35 = .ok (.lload_n 1, 1) := dk_31 (dk_at dksX1_dug_1 12 rfl rfl)
theorem dX1_dug_36 : decode cX1_dug 36 = .ok (.lreturn, 1) := dk_173 (dk_at dksX1_dug_1 13 rfl rfl)
abbrev cX1_made : ByteArray := prog_5_method_5_code
def yX1_made : MethodName := ⟨RX1, "made", "(J)LHoleCounty$Pit;"⟩
def dkwX1_made_5 : List UInt8 := [180, 0, 15, 183, 0, 67, 167, 0, 15, 187, 0, 68, 89, 31, 42, 180, 0, 15, 183, 0, 70, 176]
abbrev dktX1_made_5 : List UInt8 := dkwX1_made_5 ++ []
def dkwX1_made_4 : List UInt8 := [42, 180, 0, 15, 183, 0, 60, 176, 42, 31, 182, 0, 61, 153, 0, 18, 187, 0, 65, 89, 31, 42]
abbrev dktX1_made_4 : List UInt8 := dkwX1_made_4 ++ dktX1_made_5
def dkwX1_made_3 : List UInt8 := [31, 42, 180, 0, 15, 183, 0, 54, 176, 31, 178, 0, 55, 127, 9, 148, 153, 0, 16, 187, 0, 58, 89, 31]
abbrev dktX1_made_3 : List UInt8 := dkwX1_made_3 ++ dktX1_made_4
def dkwX1_made_2 : List UInt8 := [31, 178, 0, 46, 127, 9, 148, 153, 0, 26, 31, 178, 0, 49, 127, 9, 148, 153, 0, 16, 187, 0, 52, 89]
abbrev dktX1_made_2 : List UInt8 := dkwX1_made_2 ++ dktX1_made_3
def dkwX1_made_1 : List UInt8 := [183, 0, 37, 176, 31, 178, 0, 40, 127, 9, 148, 153, 0, 13, 31, 178, 0, 43, 127, 9, 148, 154, 0, 23]
abbrev dktX1_made_1 : List UInt8 := dkwX1_made_1 ++ dktX1_made_2
def dkwX1_made_0 : List UInt8 := [31, 42, 180, 0, 25, 20, 0, 33, 131, 127, 9, 148, 154, 0, 16, 187, 0, 35, 89, 31, 42, 180, 0, 15]
abbrev dktX1_made_0 : List UInt8 := dkwX1_made_0 ++ dktX1_made_1
theorem dksX1_made_0 : cX1_made.data.toList.drop 0 = dktX1_made_0 := by decide +kernel
theorem dksX1_made_1 : cX1_made.data.toList.drop 24 = dktX1_made_1 := dk_seg dksX1_made_0 24 rfl rfl
theorem dksX1_made_2 : cX1_made.data.toList.drop 48 = dktX1_made_2 := dk_seg dksX1_made_1 24 rfl rfl
theorem dksX1_made_3 : cX1_made.data.toList.drop 72 = dktX1_made_3 := dk_seg dksX1_made_2 24 rfl rfl
theorem dksX1_made_4 : cX1_made.data.toList.drop 96 = dktX1_made_4 := dk_seg dksX1_made_3 24 rfl rfl
theorem dksX1_made_5 : cX1_made.data.toList.drop 118 = dktX1_made_5 := dk_seg dksX1_made_4 22 rfl rfl
theorem dX1_made_0 : decode cX1_made 0 = .ok (.lload_n 1, 1) := dk_31 (dk_at dksX1_made_0 0 rfl rfl)
theorem dX1_made_1 : decode cX1_made 1 = .ok (.aload_n 0, 1) := dk_42 (dk_at dksX1_made_0 1 rfl rfl)
theorem dX1_made_2 : decode cX1_made 2 = .ok (.getfield 25, 3) := dk_180 0 25 (dk_at dksX1_made_0 2 rfl rfl)
theorem dX1_made_5 : decode cX1_made 5 = .ok (.ldc2_w 33, 3) := dk_20 0 33 (dk_at dksX1_made_0 5 rfl rfl)
theorem dX1_made_8 : decode cX1_made 8 = .ok (.lxor, 1) := dk_131 (dk_at dksX1_made_0 8 rfl rfl)
theorem dX1_made_9 : decode cX1_made 9 = .ok (.land, 1) := dk_127 (dk_at dksX1_made_0 9 rfl rfl)
theorem dX1_made_10 : decode cX1_made 10 = .ok (.lconst 0, 1) := dk_9 (dk_at dksX1_made_0 10 rfl rfl)
theorem dX1_made_11 : decode cX1_made 11 = .ok (.lcmp, 1) := dk_148 (dk_at dksX1_made_0 11 rfl rfl)
theorem dX1_made_12 : decode cX1_made 12 = .ok (.ifCond .ne 16, 3) := dk_154 0 16 (dk_at dksX1_made_0 12 rfl rfl)
theorem dX1_made_15 : decode cX1_made 15 = .ok (.new 35, 3) := dk_187 0 35 (dk_at dksX1_made_0 15 rfl rfl)
theorem dX1_made_18 : decode cX1_made 18 = .ok (.dup, 1) := dk_89 (dk_at dksX1_made_0 18 rfl rfl)
theorem dX1_made_19 : decode cX1_made 19 = .ok (.lload_n 1, 1) := dk_31 (dk_at dksX1_made_0 19 rfl rfl)
theorem dX1_made_20 : decode cX1_made 20 = .ok (.aload_n 0, 1) := dk_42 (dk_at dksX1_made_0 20 rfl rfl)
theorem dX1_made_21 : decode cX1_made 21 = .ok (.getfield 15, 3) := dk_180 0 15 (dk_at dksX1_made_0 21 rfl rfl)
theorem dX1_made_24 : decode cX1_made 24 = .ok (.invokespecial 37, 3) := dk_183 0 37 (dk_at dksX1_made_1 0 rfl rfl)
theorem dX1_made_27 : decode cX1_made 27 = .ok (.areturn, 1) := dk_176 (dk_at dksX1_made_1 3 rfl rfl)
theorem dX1_made_28 : decode cX1_made 28 = .ok (.lload_n 1, 1) := dk_31 (dk_at dksX1_made_1 4 rfl rfl)
theorem dX1_made_29 : decode cX1_made 29 = .ok (.getstatic 40, 3) := dk_178 0 40 (dk_at dksX1_made_1 5 rfl rfl)
theorem dX1_made_32 : decode cX1_made 32 = .ok (.land, 1) := dk_127 (dk_at dksX1_made_1 8 rfl rfl)
theorem dX1_made_33 : decode cX1_made 33 = .ok (.lconst 0, 1) := dk_9 (dk_at dksX1_made_1 9 rfl rfl)
theorem dX1_made_34 : decode cX1_made 34 = .ok (.lcmp, 1) := dk_148 (dk_at dksX1_made_1 10 rfl rfl)
theorem dX1_made_35 : decode cX1_made 35 = .ok (.ifCond .eq 13, 3) := dk_153 0 13 (dk_at dksX1_made_1 11 rfl rfl)
theorem dX1_made_38 : decode cX1_made 38 = .ok (.lload_n 1, 1) := dk_31 (dk_at dksX1_made_1 14 rfl rfl)
theorem dX1_made_39 : decode cX1_made 39 = .ok (.getstatic 43, 3) := dk_178 0 43 (dk_at dksX1_made_1 15 rfl rfl)
theorem dX1_made_42 : decode cX1_made 42 = .ok (.land, 1) := dk_127 (dk_at dksX1_made_1 18 rfl rfl)
theorem dX1_made_43 : decode cX1_made 43 = .ok (.lconst 0, 1) := dk_9 (dk_at dksX1_made_1 19 rfl rfl)
theorem dX1_made_44 : decode cX1_made 44 = .ok (.lcmp, 1) := dk_148 (dk_at dksX1_made_1 20 rfl rfl)
theorem dX1_made_45 : decode cX1_made 45 = .ok (.ifCond .ne 23, 3) := dk_154 0 23 (dk_at dksX1_made_1 21 rfl rfl)
theorem dX1_made_48 : decode cX1_made 48 = .ok (.lload_n 1, 1) := dk_31 (dk_at dksX1_made_2 0 rfl rfl)
theorem dX1_made_49 : decode cX1_made 49 = .ok (.getstatic 46, 3) := dk_178 0 46 (dk_at dksX1_made_2 1 rfl rfl)
theorem dX1_made_52 : decode cX1_made 52 = .ok (.land, 1) := dk_127 (dk_at dksX1_made_2 4 rfl rfl)
theorem dX1_made_53 : decode cX1_made 53 = .ok (.lconst 0, 1) := dk_9 (dk_at dksX1_made_2 5 rfl rfl)
theorem dX1_made_54 : decode cX1_made 54 = .ok (.lcmp, 1) := dk_148 (dk_at dksX1_made_2 6 rfl rfl)
theorem dX1_made_55 : decode cX1_made 55 = .ok (.ifCond .eq 26, 3) := dk_153 0 26 (dk_at dksX1_made_2 7 rfl rfl)
theorem dX1_made_58 : decode cX1_made 58 = .ok (.lload_n 1, 1) := dk_31 (dk_at dksX1_made_2 10 rfl rfl)
theorem dX1_made_59 : decode cX1_made 59 = .ok (.getstatic 49, 3) := dk_178 0 49 (dk_at dksX1_made_2 11 rfl rfl)
theorem dX1_made_62 : decode cX1_made 62 = .ok (.land, 1) := dk_127 (dk_at dksX1_made_2 14 rfl rfl)
theorem dX1_made_63 : decode cX1_made 63 = .ok (.lconst 0, 1) := dk_9 (dk_at dksX1_made_2 15 rfl rfl)
theorem dX1_made_64 : decode cX1_made 64 = .ok (.lcmp, 1) := dk_148 (dk_at dksX1_made_2 16 rfl rfl)
theorem dX1_made_65 : decode cX1_made 65 = .ok (.ifCond .eq 16, 3) := dk_153 0 16 (dk_at dksX1_made_2 17 rfl rfl)
theorem dX1_made_68 : decode cX1_made 68 = .ok (.new 52, 3) := dk_187 0 52 (dk_at dksX1_made_2 20 rfl rfl)
theorem dX1_made_71 : decode cX1_made 71 = .ok (.dup, 1) := dk_89 (dk_at dksX1_made_2 23 rfl rfl)
theorem dX1_made_72 : decode cX1_made 72 = .ok (.lload_n 1, 1) := dk_31 (dk_at dksX1_made_3 0 rfl rfl)
theorem dX1_made_73 : decode cX1_made 73 = .ok (.aload_n 0, 1) := dk_42 (dk_at dksX1_made_3 1 rfl rfl)
theorem dX1_made_74 : decode cX1_made 74 = .ok (.getfield 15, 3) := dk_180 0 15 (dk_at dksX1_made_3 2 rfl rfl)
theorem dX1_made_77 : decode cX1_made 77 = .ok (.invokespecial 54, 3) := dk_183 0 54 (dk_at dksX1_made_3 5 rfl rfl)
theorem dX1_made_80 : decode cX1_made 80 = .ok (.areturn, 1) := dk_176 (dk_at dksX1_made_3 8 rfl rfl)
theorem dX1_made_81 : decode cX1_made 81 = .ok (.lload_n 1, 1) := dk_31 (dk_at dksX1_made_3 9 rfl rfl)
theorem dX1_made_82 : decode cX1_made 82 = .ok (.getstatic 55, 3) := dk_178 0 55 (dk_at dksX1_made_3 10 rfl rfl)
theorem dX1_made_85 : decode cX1_made 85 = .ok (.land, 1) := dk_127 (dk_at dksX1_made_3 13 rfl rfl)
theorem dX1_made_86 : decode cX1_made 86 = .ok (.lconst 0, 1) := dk_9 (dk_at dksX1_made_3 14 rfl rfl)
theorem dX1_made_87 : decode cX1_made 87 = .ok (.lcmp, 1) := dk_148 (dk_at dksX1_made_3 15 rfl rfl)
theorem dX1_made_88 : decode cX1_made 88 = .ok (.ifCond .eq 16, 3) := dk_153 0 16 (dk_at dksX1_made_3 16 rfl rfl)
theorem dX1_made_91 : decode cX1_made 91 = .ok (.new 58, 3) := dk_187 0 58 (dk_at dksX1_made_3 19 rfl rfl)
theorem dX1_made_94 : decode cX1_made 94 = .ok (.dup, 1) := dk_89 (dk_at dksX1_made_3 22 rfl rfl)
theorem dX1_made_95 : decode cX1_made 95 = .ok (.lload_n 1, 1) := dk_31 (dk_at dksX1_made_3 23 rfl rfl)
theorem dX1_made_96 : decode cX1_made 96 = .ok (.aload_n 0, 1) := dk_42 (dk_at dksX1_made_4 0 rfl rfl)
theorem dX1_made_97 : decode cX1_made 97 = .ok (.getfield 15, 3) := dk_180 0 15 (dk_at dksX1_made_4 1 rfl rfl)
theorem dX1_made_100 : decode cX1_made 100 = .ok (.invokespecial 60, 3) := dk_183 0 60 (dk_at dksX1_made_4 4 rfl rfl)
theorem dX1_made_103 : decode cX1_made 103 = .ok (.areturn, 1) := dk_176 (dk_at dksX1_made_4 7 rfl rfl)
theorem dX1_made_104 : decode cX1_made 104 = .ok (.aload_n 0, 1) := dk_42 (dk_at dksX1_made_4 8 rfl rfl)
theorem dX1_made_105 : decode cX1_made 105 = .ok (.lload_n 1, 1) := dk_31 (dk_at dksX1_made_4 9 rfl rfl)
theorem dX1_made_106 : decode cX1_made 106 = .ok (.invokevirtual 61, 3) := dk_182 0 61 (dk_at dksX1_made_4 10 rfl rfl)
theorem dX1_made_109 : decode cX1_made 109 = .ok (.ifCond .eq 18, 3) := dk_153 0 18 (dk_at dksX1_made_4 13 rfl rfl)
theorem dX1_made_112 : decode cX1_made 112 = .ok (.new 65, 3) := dk_187 0 65 (dk_at dksX1_made_4 16 rfl rfl)
theorem dX1_made_115 : decode cX1_made 115 = .ok (.dup, 1) := dk_89 (dk_at dksX1_made_4 19 rfl rfl)
theorem dX1_made_116 : decode cX1_made 116 = .ok (.lload_n 1, 1) := dk_31 (dk_at dksX1_made_4 20 rfl rfl)
theorem dX1_made_117 : decode cX1_made 117 = .ok (.aload_n 0, 1) := dk_42 (dk_at dksX1_made_4 21 rfl rfl)
theorem dX1_made_118 : decode cX1_made 118 = .ok (.getfield 15, 3) := dk_180 0 15 (dk_at dksX1_made_5 0 rfl rfl)
theorem dX1_made_121 : decode cX1_made 121 = .ok (.invokespecial 67, 3) := dk_183 0 67 (dk_at dksX1_made_5 3 rfl rfl)
theorem dX1_made_124 : decode cX1_made 124 = .ok (.goto 15, 3) := dk_167 0 15 (dk_at dksX1_made_5 6 rfl rfl)
theorem dX1_made_127 : decode cX1_made 127 = .ok (.new 68, 3) := dk_187 0 68 (dk_at dksX1_made_5 9 rfl rfl)
theorem dX1_made_130 : decode cX1_made 130 = .ok (.dup, 1) := dk_89 (dk_at dksX1_made_5 12 rfl rfl)
theorem dX1_made_131 : decode cX1_made 131 = .ok (.lload_n 1, 1) := dk_31 (dk_at dksX1_made_5 13 rfl rfl)
theorem dX1_made_132 : decode cX1_made 132 = .ok (.aload_n 0, 1) := dk_42 (dk_at dksX1_made_5 14 rfl rfl)
theorem dX1_made_133 : decode cX1_made 133 = .ok (.getfield 15, 3) := dk_180 0 15 (dk_at dksX1_made_5 15 rfl rfl)
theorem dX1_made_136 : decode cX1_made 136 = .ok (.invokespecial 70, 3) := dk_183 0 70 (dk_at dksX1_made_5 18 rfl rfl)
theorem dX1_made_139 : decode cX1_made 139 = .ok (.areturn, 1) := dk_176 (dk_at dksX1_made_5 21 rfl rfl)
abbrev cX1_isDeep : ByteArray := prog_5_method_4_code
def yX1_isDeep : MethodName := ⟨RX1, "isDeep", "(J)Z"⟩
def dkwX1_isDeep_2 : List UInt8 := [167, 255, 215, 29, 172]
abbrev dktX1_isDeep_2 : List UInt8 := dkwX1_isDeep_2 ++ []
def dkwX1_isDeep_1 : List UInt8 := [184, 0, 29, 51, 16, 9, 160, 0, 7, 4, 167, 0, 4, 3, 62, 22, 4, 22, 4, 10, 101, 127, 55, 4]
abbrev dktX1_isDeep_1 : List UInt8 := dkwX1_isDeep_1 ++ dktX1_isDeep_2
def dkwX1_isDeep_0 : List UInt8 := [3, 62, 31, 55, 4, 22, 4, 9, 148, 153, 0, 40, 29, 154, 0, 36, 42, 180, 0, 9, 22, 4]
abbrev dktX1_isDeep_0 : List UInt8 := dkwX1_isDeep_0 ++ dktX1_isDeep_1
theorem dksX1_isDeep_0 : cX1_isDeep.data.toList.drop 0 = dktX1_isDeep_0 := by decide +kernel
theorem dksX1_isDeep_1 : cX1_isDeep.data.toList.drop 22 = dktX1_isDeep_1 := dk_seg dksX1_isDeep_0 22 rfl rfl
theorem dksX1_isDeep_2 : cX1_isDeep.data.toList.drop 46 = dktX1_isDeep_2 := dk_seg dksX1_isDeep_1 24 rfl rfl
theorem dX1_isDeep_0 : decode cX1_isDeep 0 = .ok (.iconst 0, 1) := dk_3 (dk_at dksX1_isDeep_0 0 rfl rfl)
theorem dX1_isDeep_1 : decode cX1_isDeep 1 = .ok (.istore_n 3, 1) := dk_62 (dk_at dksX1_isDeep_0 1 rfl rfl)
theorem dX1_isDeep_2 : decode cX1_isDeep 2 = .ok (.lload_n 1, 1) := dk_31 (dk_at dksX1_isDeep_0 2 rfl rfl)
theorem dX1_isDeep_3 : decode cX1_isDeep 3 = .ok (.lstore 4, 2) := dk_55 4 (dk_at dksX1_isDeep_0 3 rfl rfl)
theorem dX1_isDeep_5 : decode cX1_isDeep 5 = .ok (.lload 4, 2) := dk_22 4 (dk_at dksX1_isDeep_0 5 rfl rfl)
theorem dX1_isDeep_7 : decode cX1_isDeep 7 = .ok (.lconst 0, 1) := dk_9 (dk_at dksX1_isDeep_0 7 rfl rfl)
theorem dX1_isDeep_8 : decode cX1_isDeep 8 = .ok (.lcmp, 1) := dk_148 (dk_at dksX1_isDeep_0 8 rfl rfl)
theorem dX1_isDeep_9 : decode cX1_isDeep 9 = .ok (.ifCond .eq 40, 3) := dk_153 0 40 (dk_at dksX1_isDeep_0 9 rfl rfl)
theorem dX1_isDeep_12 : decode cX1_isDeep 12 = .ok (.iload_n 3, 1) := dk_29 (dk_at dksX1_isDeep_0 12 rfl rfl)
theorem dX1_isDeep_13 : decode cX1_isDeep 13 = .ok (.ifCond .ne 36, 3) := dk_154 0 36 (dk_at dksX1_isDeep_0 13 rfl rfl)
theorem dX1_isDeep_16 : decode cX1_isDeep 16 = .ok (.aload_n 0, 1) := dk_42 (dk_at dksX1_isDeep_0 16 rfl rfl)
theorem dX1_isDeep_17 : decode cX1_isDeep 17 = .ok (.getfield 9, 3) := dk_180 0 9 (dk_at dksX1_isDeep_0 17 rfl rfl)
theorem dX1_isDeep_20 : decode cX1_isDeep 20 = .ok (.lload 4, 2) := dk_22 4 (dk_at dksX1_isDeep_0 20 rfl rfl)
theorem dX1_isDeep_22 : decode cX1_isDeep 22 = .ok (.invokestatic 29, 3) := dk_184 0 29 (dk_at dksX1_isDeep_1 0 rfl rfl)
theorem dX1_isDeep_25 : decode cX1_isDeep 25 = .ok (.baload, 1) := dk_51 (dk_at dksX1_isDeep_1 3 rfl rfl)
theorem dX1_isDeep_26 : decode cX1_isDeep 26 = .ok (.bipush 9, 2) := dk_16 9 (dk_at dksX1_isDeep_1 4 rfl rfl)
theorem dX1_isDeep_28 : decode cX1_isDeep 28 = .ok (.if_icmp .ne 7, 3) := dk_160 0 7 (dk_at dksX1_isDeep_1 6 rfl rfl)
theorem dX1_isDeep_31 : decode cX1_isDeep 31 = .ok (.iconst 1, 1) := dk_4 (dk_at dksX1_isDeep_1 9 rfl rfl)
theorem dX1_isDeep_32 : decode cX1_isDeep 32 = .ok (.goto 4, 3) := dk_167 0 4 (dk_at dksX1_isDeep_1 10 rfl rfl)
theorem dX1_isDeep_35 : decode cX1_isDeep 35 = .ok (.iconst 0, 1) := dk_3 (dk_at dksX1_isDeep_1 13 rfl rfl)
theorem dX1_isDeep_36 : decode cX1_isDeep 36 = .ok (.istore_n 3, 1) := dk_62 (dk_at dksX1_isDeep_1 14 rfl rfl)
theorem dX1_isDeep_37 : decode cX1_isDeep 37 = .ok (.lload 4, 2) := dk_22 4 (dk_at dksX1_isDeep_1 15 rfl rfl)
theorem dX1_isDeep_39 : decode cX1_isDeep 39 = .ok (.lload 4, 2) := dk_22 4 (dk_at dksX1_isDeep_1 17 rfl rfl)
theorem dX1_isDeep_41 : decode cX1_isDeep 41 = .ok (.lconst 1, 1) := dk_10 (dk_at dksX1_isDeep_1 19 rfl rfl)
theorem dX1_isDeep_42 : decode cX1_isDeep 42 = .ok (.lsub, 1) := dk_101 (dk_at dksX1_isDeep_1 20 rfl rfl)
theorem dX1_isDeep_43 : decode cX1_isDeep 43 = .ok (.land, 1) := dk_127 (dk_at dksX1_isDeep_1 21 rfl rfl)
theorem dX1_isDeep_44 : decode cX1_isDeep 44 = .ok (.lstore 4, 2) := dk_55 4 (dk_at dksX1_isDeep_1 22 rfl rfl)
theorem dX1_isDeep_46 : decode cX1_isDeep 46 = .ok (.goto (-41), 3) := dk_167 255 215 (dk_at dksX1_isDeep_2 0 rfl rfl)
theorem dX1_isDeep_49 : decode cX1_isDeep 49 = .ok (.iload_n 3, 1) := dk_29 (dk_at dksX1_isDeep_2 3 rfl rfl)
theorem dX1_isDeep_50 : decode cX1_isDeep 50 = .ok (.ireturn, 1) := dk_172 (dk_at dksX1_isDeep_2 4 rfl rfl)
abbrev cX1_tax : ByteArray := prog_5_method_8_code
def yX1_tax : MethodName := ⟨RX1, "tax", "()I"⟩
def dkwX1_tax_1 : List UInt8 := [192, 0, 68, 182, 0, 102, 96, 60, 132, 3, 1, 167, 255, 231, 27, 172]
abbrev dktX1_tax_1 : List UInt8 := dkwX1_tax_1 ++ []
def dkwX1_tax_0 : List UInt8 := [3, 60, 42, 182, 0, 90, 77, 3, 62, 29, 44, 182, 0, 94, 162, 0, 23, 27, 44, 29, 182, 0, 98]
abbrev dktX1_tax_0 : List UInt8 := dkwX1_tax_0 ++ dktX1_tax_1
theorem dksX1_tax_0 : cX1_tax.data.toList.drop 0 = dktX1_tax_0 := by decide +kernel
theorem dksX1_tax_1 : cX1_tax.data.toList.drop 23 = dktX1_tax_1 := dk_seg dksX1_tax_0 23 rfl rfl
theorem dX1_tax_0 : decode cX1_tax 0 = .ok (.iconst 0, 1) := dk_3 (dk_at dksX1_tax_0 0 rfl rfl)
theorem dX1_tax_1 : decode cX1_tax 1 = .ok (.istore_n 1, 1) := dk_60 (dk_at dksX1_tax_0 1 rfl rfl)
theorem dX1_tax_2 : decode cX1_tax 2 = .ok (.aload_n 0, 1) := dk_42 (dk_at dksX1_tax_0 2 rfl rfl)
theorem dX1_tax_3 : decode cX1_tax 3 = .ok (.invokevirtual 90, 3) := dk_182 0 90 (dk_at dksX1_tax_0 3 rfl rfl)
theorem dX1_tax_6 : decode cX1_tax 6 = .ok (.astore_n 2, 1) := dk_77 (dk_at dksX1_tax_0 6 rfl rfl)
theorem dX1_tax_7 : decode cX1_tax 7 = .ok (.iconst 0, 1) := dk_3 (dk_at dksX1_tax_0 7 rfl rfl)
theorem dX1_tax_8 : decode cX1_tax 8 = .ok (.istore_n 3, 1) := dk_62 (dk_at dksX1_tax_0 8 rfl rfl)
theorem dX1_tax_9 : decode cX1_tax 9 = .ok (.iload_n 3, 1) := dk_29 (dk_at dksX1_tax_0 9 rfl rfl)
theorem dX1_tax_10 : decode cX1_tax 10 = .ok (.aload_n 2, 1) := dk_44 (dk_at dksX1_tax_0 10 rfl rfl)
theorem dX1_tax_11 : decode cX1_tax 11 = .ok (.invokevirtual 94, 3) := dk_182 0 94 (dk_at dksX1_tax_0 11 rfl rfl)
theorem dX1_tax_14 : decode cX1_tax 14 = .ok (.if_icmp .ge 23, 3) := dk_162 0 23 (dk_at dksX1_tax_0 14 rfl rfl)
theorem dX1_tax_17 : decode cX1_tax 17 = .ok (.iload_n 1, 1) := dk_27 (dk_at dksX1_tax_0 17 rfl rfl)
theorem dX1_tax_18 : decode cX1_tax 18 = .ok (.aload_n 2, 1) := dk_44 (dk_at dksX1_tax_0 18 rfl rfl)
theorem dX1_tax_19 : decode cX1_tax 19 = .ok (.iload_n 3, 1) := dk_29 (dk_at dksX1_tax_0 19 rfl rfl)
theorem dX1_tax_20 : decode cX1_tax 20 = .ok (.invokevirtual 98, 3) := dk_182 0 98 (dk_at dksX1_tax_0 20 rfl rfl)
theorem dX1_tax_23 : decode cX1_tax 23 = .ok (.checkcast 68, 3) := dk_192 0 68 (dk_at dksX1_tax_1 0 rfl rfl)
theorem dX1_tax_26 : decode cX1_tax 26 = .ok (.invokevirtual 102, 3) := dk_182 0 102 (dk_at dksX1_tax_1 3 rfl rfl)
theorem dX1_tax_29 : decode cX1_tax 29 = .ok (.iadd, 1) := dk_96 (dk_at dksX1_tax_1 6 rfl rfl)
theorem dX1_tax_30 : decode cX1_tax 30 = .ok (.istore_n 1, 1) := dk_60 (dk_at dksX1_tax_1 7 rfl rfl)
theorem dX1_tax_31 : decode cX1_tax 31 = .ok (.iinc 3 1, 3) := dk_132 3 1 (dk_at dksX1_tax_1 8 rfl rfl)
theorem dX1_tax_34 : decode cX1_tax 34 = .ok (.goto (-25), 3) := dk_167 255 231 (dk_at dksX1_tax_1 11 rfl rfl)
theorem dX1_tax_37 : decode cX1_tax 37 = .ok (.iload_n 1, 1) := dk_27 (dk_at dksX1_tax_1 14 rfl rfl)
theorem dX1_tax_38 : decode cX1_tax 38 = .ok (.ireturn, 1) := dk_172 (dk_at dksX1_tax_1 15 rfl rfl)
abbrev cX1_holes : ByteArray := prog_5_method_7_code
def yX1_holes : MethodName := ⟨RX1, "holes", "()Ljava/util/ArrayList;"⟩
def dkwX1_holes_2 : List UInt8 := [65, 167, 255, 220, 43, 176]
abbrev dktX1_holes_2 : List UInt8 := dkwX1_holes_2 ++ []
def dkwX1_holes_1 : List UInt8 := [184, 0, 75, 55, 4, 43, 42, 22, 4, 182, 0, 79, 182, 0, 86, 87, 32, 22, 4, 20, 0, 33, 131, 127]
abbrev dktX1_holes_1 : List UInt8 := dkwX1_holes_1 ++ dktX1_holes_2
def dkwX1_holes_0 : List UInt8 := [187, 0, 83, 89, 183, 0, 85, 76, 42, 182, 0, 71, 65, 32, 9, 148, 153, 0, 36, 32, 32, 117, 127, 32]
abbrev dktX1_holes_0 : List UInt8 := dkwX1_holes_0 ++ dktX1_holes_1
theorem dksX1_holes_0 : cX1_holes.data.toList.drop 0 = dktX1_holes_0 := by decide +kernel
theorem dksX1_holes_1 : cX1_holes.data.toList.drop 24 = dktX1_holes_1 := dk_seg dksX1_holes_0 24 rfl rfl
theorem dksX1_holes_2 : cX1_holes.data.toList.drop 48 = dktX1_holes_2 := dk_seg dksX1_holes_1 24 rfl rfl
theorem dX1_holes_0 : decode cX1_holes 0 = .ok (.new 83, 3) := dk_187 0 83 (dk_at dksX1_holes_0 0 rfl rfl)
theorem dX1_holes_3 : decode cX1_holes 3 = .ok (.dup, 1) := dk_89 (dk_at dksX1_holes_0 3 rfl rfl)
theorem dX1_holes_4 : decode cX1_holes 4 = .ok (.invokespecial 85, 3) := dk_183 0 85 (dk_at dksX1_holes_0 4 rfl rfl)
theorem dX1_holes_7 : decode cX1_holes 7 = .ok (.astore_n 1, 1) := dk_76 (dk_at dksX1_holes_0 7 rfl rfl)
theorem dX1_holes_8 : decode cX1_holes 8 = .ok (.aload_n 0, 1) := dk_42 (dk_at dksX1_holes_0 8 rfl rfl)
theorem dX1_holes_9 : decode cX1_holes 9 = .ok (.invokevirtual 71, 3) := dk_182 0 71 (dk_at dksX1_holes_0 9 rfl rfl)
theorem dX1_holes_12 : decode cX1_holes 12 = .ok (.lstore_n 2, 1) := dk_65 (dk_at dksX1_holes_0 12 rfl rfl)
theorem dX1_holes_13 : decode cX1_holes 13 = .ok (.lload_n 2, 1) := dk_32 (dk_at dksX1_holes_0 13 rfl rfl)
theorem dX1_holes_14 : decode cX1_holes 14 = .ok (.lconst 0, 1) := dk_9 (dk_at dksX1_holes_0 14 rfl rfl)
theorem dX1_holes_15 : decode cX1_holes 15 = .ok (.lcmp, 1) := dk_148 (dk_at dksX1_holes_0 15 rfl rfl)
theorem dX1_holes_16 : decode cX1_holes 16 = .ok (.ifCond .eq 36, 3) := dk_153 0 36 (dk_at dksX1_holes_0 16 rfl rfl)
theorem dX1_holes_19 : decode cX1_holes 19 = .ok (.lload_n 2, 1) := dk_32 (dk_at dksX1_holes_0 19 rfl rfl)
theorem dX1_holes_20 : decode cX1_holes 20 = .ok (.lload_n 2, 1) := dk_32 (dk_at dksX1_holes_0 20 rfl rfl)
theorem dX1_holes_21 : decode cX1_holes 21 = .ok (.lneg, 1) := dk_117 (dk_at dksX1_holes_0 21 rfl rfl)
theorem dX1_holes_22 : decode cX1_holes 22 = .ok (.land, 1) := dk_127 (dk_at dksX1_holes_0 22 rfl rfl)
theorem dX1_holes_23 : decode cX1_holes 23 = .ok (.lload_n 2, 1) := dk_32 (dk_at dksX1_holes_0 23 rfl rfl)
theorem dX1_holes_24 : decode cX1_holes 24 = .ok (.invokestatic 75, 3) := dk_184 0 75 (dk_at dksX1_holes_1 0 rfl rfl)
theorem dX1_holes_27 : decode cX1_holes 27 = .ok (.lstore 4, 2) := dk_55 4 (dk_at dksX1_holes_1 3 rfl rfl)
theorem dX1_holes_29 : decode cX1_holes 29 = .ok (.aload_n 1, 1) := dk_43 (dk_at dksX1_holes_1 5 rfl rfl)
theorem dX1_holes_30 : decode cX1_holes 30 = .ok (.aload_n 0, 1) := dk_42 (dk_at dksX1_holes_1 6 rfl rfl)
theorem dX1_holes_31 : decode cX1_holes 31 = .ok (.lload 4, 2) := dk_22 4 (dk_at dksX1_holes_1 7 rfl rfl)
theorem dX1_holes_33 : decode cX1_holes 33 = .ok (.invokevirtual 79, 3) := dk_182 0 79 (dk_at dksX1_holes_1 9 rfl rfl)
theorem dX1_holes_36 : decode cX1_holes 36 = .ok (.invokevirtual 86, 3) := dk_182 0 86 (dk_at dksX1_holes_1 12 rfl rfl)
theorem dX1_holes_39 : decode cX1_holes 39 = .ok (.pop, 1) := dk_87 (dk_at dksX1_holes_1 15 rfl rfl)
theorem dX1_holes_40 : decode cX1_holes 40 = .ok (.lload_n 2, 1) := dk_32 (dk_at dksX1_holes_1 16 rfl rfl)
theorem dX1_holes_41 : decode cX1_holes 41 = .ok (.lload 4, 2) := dk_22 4 (dk_at dksX1_holes_1 17 rfl rfl)
theorem dX1_holes_43 : decode cX1_holes 43 = .ok (.ldc2_w 33, 3) := dk_20 0 33 (dk_at dksX1_holes_1 19 rfl rfl)
theorem dX1_holes_46 : decode cX1_holes 46 = .ok (.lxor, 1) := dk_131 (dk_at dksX1_holes_1 22 rfl rfl)
theorem dX1_holes_47 : decode cX1_holes 47 = .ok (.land, 1) := dk_127 (dk_at dksX1_holes_1 23 rfl rfl)
theorem dX1_holes_48 : decode cX1_holes 48 = .ok (.lstore_n 2, 1) := dk_65 (dk_at dksX1_holes_2 0 rfl rfl)
theorem dX1_holes_49 : decode cX1_holes 49 = .ok (.goto (-36), 3) := dk_167 255 220 (dk_at dksX1_holes_2 1 rfl rfl)
theorem dX1_holes_52 : decode cX1_holes 52 = .ok (.aload_n 1, 1) := dk_43 (dk_at dksX1_holes_2 4 rfl rfl)
theorem dX1_holes_53 : decode cX1_holes 53 = .ok (.areturn, 1) := dk_176 (dk_at dksX1_holes_2 5 rfl rfl)
abbrev cX1_takes : ByteArray := prog_5_method_2_code
def yX1_takes : MethodName := ⟨RX1, "takes", "(LHoleCounty$Ground;)V"⟩
def dkwX1_takes_1 : List UInt8 := [43, 180, 0, 15, 181, 0, 15, 177]
abbrev dktX1_takes_1 : List UInt8 := dkwX1_takes_1 ++ []
def dkwX1_takes_0 : List UInt8 := [43, 180, 0, 9, 3, 42, 180, 0, 9, 3, 16, 36, 184, 0, 19, 42, 43, 180, 0, 25, 181, 0, 25, 42]
abbrev dktX1_takes_0 : List UInt8 := dkwX1_takes_0 ++ dktX1_takes_1
theorem dksX1_takes_0 : cX1_takes.data.toList.drop 0 = dktX1_takes_0 := by decide +kernel
theorem dksX1_takes_1 : cX1_takes.data.toList.drop 24 = dktX1_takes_1 := dk_seg dksX1_takes_0 24 rfl rfl
theorem dX1_takes_0 : decode cX1_takes 0 = .ok (.aload_n 1, 1) := dk_43 (dk_at dksX1_takes_0 0 rfl rfl)
theorem dX1_takes_1 : decode cX1_takes 1 = .ok (.getfield 9, 3) := dk_180 0 9 (dk_at dksX1_takes_0 1 rfl rfl)
theorem dX1_takes_4 : decode cX1_takes 4 = .ok (.iconst 0, 1) := dk_3 (dk_at dksX1_takes_0 4 rfl rfl)
theorem dX1_takes_5 : decode cX1_takes 5 = .ok (.aload_n 0, 1) := dk_42 (dk_at dksX1_takes_0 5 rfl rfl)
theorem dX1_takes_6 : decode cX1_takes 6 = .ok (.getfield 9, 3) := dk_180 0 9 (dk_at dksX1_takes_0 6 rfl rfl)
theorem dX1_takes_9 : decode cX1_takes 9 = .ok (.iconst 0, 1) := dk_3 (dk_at dksX1_takes_0 9 rfl rfl)
theorem dX1_takes_10 : decode cX1_takes 10 = .ok (.bipush 36, 2) := dk_16 36 (dk_at dksX1_takes_0 10 rfl rfl)
theorem dX1_takes_12 : decode cX1_takes 12 = .ok (.invokestatic 19, 3) := dk_184 0 19 (dk_at dksX1_takes_0 12 rfl rfl)
theorem dX1_takes_15 : decode cX1_takes 15 = .ok (.aload_n 0, 1) := dk_42 (dk_at dksX1_takes_0 15 rfl rfl)
theorem dX1_takes_16 : decode cX1_takes 16 = .ok (.aload_n 1, 1) := dk_43 (dk_at dksX1_takes_0 16 rfl rfl)
theorem dX1_takes_17 : decode cX1_takes 17 = .ok (.getfield 25, 3) := dk_180 0 25 (dk_at dksX1_takes_0 17 rfl rfl)
theorem dX1_takes_20 : decode cX1_takes 20 = .ok (.putfield 25, 3) := dk_181 0 25 (dk_at dksX1_takes_0 20 rfl rfl)
theorem dX1_takes_23 : decode cX1_takes 23 = .ok (.aload_n 0, 1) := dk_42 (dk_at dksX1_takes_0 23 rfl rfl)
theorem dX1_takes_24 : decode cX1_takes 24 = .ok (.aload_n 1, 1) := dk_43 (dk_at dksX1_takes_1 0 rfl rfl)
theorem dX1_takes_25 : decode cX1_takes 25 = .ok (.getfield 15, 3) := dk_180 0 15 (dk_at dksX1_takes_1 1 rfl rfl)
theorem dX1_takes_28 : decode cX1_takes 28 = .ok (.putfield 15, 3) := dk_181 0 15 (dk_at dksX1_takes_1 4 rfl rfl)
theorem dX1_takes_31 : decode cX1_takes 31 = .ok (.return_, 1) := dk_177 (dk_at dksX1_takes_1 7 rfl rfl)
abbrev cX1_init : ByteArray := prog_5_method_1_code
def yX1_init : MethodName := ⟨RX1, "<init>", "()V"⟩
def dkwX1_init_0 : List UInt8 := [42, 183, 0, 3, 42, 16, 36, 188, 8, 181, 0, 9, 42, 5, 181, 0, 15, 177]
abbrev dktX1_init_0 : List UInt8 := dkwX1_init_0 ++ []
theorem dksX1_init_0 : cX1_init.data.toList.drop 0 = dktX1_init_0 := by decide +kernel
theorem dX1_init_0 : decode cX1_init 0 = .ok (.aload_n 0, 1) := dk_42 (dk_at dksX1_init_0 0 rfl rfl)
theorem dX1_init_1 : decode cX1_init 1 = .ok (.invokespecial 3, 3) := dk_183 0 3 (dk_at dksX1_init_0 1 rfl rfl)
theorem dX1_init_4 : decode cX1_init 4 = .ok (.aload_n 0, 1) := dk_42 (dk_at dksX1_init_0 4 rfl rfl)
theorem dX1_init_5 : decode cX1_init 5 = .ok (.bipush 36, 2) := dk_16 36 (dk_at dksX1_init_0 5 rfl rfl)
theorem dX1_init_7 : decode cX1_init 7 = .ok (.newarray .byte, 2) := dk_188_8 (dk_at dksX1_init_0 7 rfl rfl)
theorem dX1_init_9 : decode cX1_init 9 = .ok (.putfield 9, 3) := dk_181 0 9 (dk_at dksX1_init_0 9 rfl rfl)
theorem dX1_init_12 : decode cX1_init 12 = .ok (.aload_n 0, 1) := dk_42 (dk_at dksX1_init_0 12 rfl rfl)
theorem dX1_init_13 : decode cX1_init 13 = .ok (.iconst 2, 1) := dk_5 (dk_at dksX1_init_0 13 rfl rfl)
theorem dX1_init_14 : decode cX1_init 14 = .ok (.putfield 15, 3) := dk_181 0 15 (dk_at dksX1_init_0 14 rfl rfl)
theorem dX1_init_17 : decode cX1_init 17 = .ok (.return_, 1) := dk_177 (dk_at dksX1_init_0 17 rfl rfl)
theorem q55 : (Jvm.Cond.initialized "HoleCounty$Ground") ∈ lw_all := lw_g (lw_at lw_m1 2 rfl) rfl
theorem q187 : (Jvm.Cond.selects "HoleCounty$Ground" ({ cls := "java/lang/Object", name := "getClass", desc := "()Ljava/lang/Class;" } : Jvm.MethodName) ({ cls := "java/lang/Object", name := "getClass", desc := "()Ljava/lang/Class;" } : Jvm.MethodName)) ∈ lw_all := lw_g (lw_at lw_m1 134 rfl) rfl
theorem q219 : (Jvm.Cond.instanceMethod ({ cls := "HoleCounty$Ground", name := "becomes", desc := "(JI)V" } : Jvm.MethodName)) ∈ lw_all := lw_g (lw_at lw_m1 166 rfl) rfl
theorem q220 : (Jvm.Cond.selects "HoleCounty$Ground" ({ cls := "HoleCounty$Ground", name := "becomes", desc := "(JI)V" } : Jvm.MethodName) ({ cls := "HoleCounty$Ground", name := "becomes", desc := "(JI)V" } : Jvm.MethodName)) ∈ lw_all := lw_g (lw_at lw_m1 167 rfl) rfl
theorem q221 : (Jvm.Cond.code ({ cls := "HoleCounty$Ground", name := "becomes", desc := "(JI)V" } : Jvm.MethodName) prog_5_method_9_code (6 : Nat) (Option.none : Option Jvm.ClassFile.FieldType)) ∈ lw_all := lw_g (lw_at lw_m1 168 rfl) rfl
theorem q222 : (Jvm.Cond.methodLinkNest "HoleCounty$Ground" (29 : Nat) ({ cls := "HoleCounty", name := "least", desc := "(J)I" } : Jvm.MethodName) "HoleCounty") ∈ lw_tbl := lw_at lw_m1 169 rfl
theorem q226 : (Jvm.Cond.constantLong "HoleCounty$Ground" (33 : Nat) (-1 : Int64)) ∈ lw_all := lw_g (lw_at lw_m1 173 rfl) rfl
theorem q263 : (Jvm.Cond.instanceMethod ({ cls := "HoleCounty$Ground", name := "hole", desc := "(I)LHoleCounty$Pit;" } : Jvm.MethodName)) ∈ lw_all := lw_g (lw_at lw_m1 210 rfl) rfl
theorem q264 : (Jvm.Cond.selects "HoleCounty$Ground" ({ cls := "HoleCounty$Ground", name := "hole", desc := "(I)LHoleCounty$Pit;" } : Jvm.MethodName) ({ cls := "HoleCounty$Ground", name := "hole", desc := "(I)LHoleCounty$Pit;" } : Jvm.MethodName)) ∈ lw_all := lw_g (lw_at lw_m1 211 rfl) rfl
theorem q265 : (Jvm.Cond.code ({ cls := "HoleCounty$Ground", name := "hole", desc := "(I)LHoleCounty$Pit;" } : Jvm.MethodName) prog_5_method_6_code (4 : Nat) (Option.some (Jvm.ClassFile.FieldType.object "HoleCounty$Pit"))) ∈ lw_all := lw_g (lw_at lw_m1 212 rfl) rfl
theorem q266 : (Jvm.Cond.methodLink "HoleCounty$Ground" (71 : Nat) ({ cls := "HoleCounty$Ground", name := "dug", desc := "()J" } : Jvm.MethodName)) ∈ lw_all := lw_g (lw_at lw_m1 213 rfl) rfl
theorem q267 : (Jvm.Cond.instanceMethod ({ cls := "HoleCounty$Ground", name := "dug", desc := "()J" } : Jvm.MethodName)) ∈ lw_all := lw_g (lw_at lw_m1 214 rfl) rfl
theorem q268 : (Jvm.Cond.selects "HoleCounty$Ground" ({ cls := "HoleCounty$Ground", name := "dug", desc := "()J" } : Jvm.MethodName) ({ cls := "HoleCounty$Ground", name := "dug", desc := "()J" } : Jvm.MethodName)) ∈ lw_all := lw_g (lw_at lw_m1 215 rfl) rfl
theorem q269 : (Jvm.Cond.code ({ cls := "HoleCounty$Ground", name := "dug", desc := "()J" } : Jvm.MethodName) prog_5_method_3_code (4 : Nat) (Option.some Jvm.ClassFile.FieldType.long)) ∈ lw_all := lw_g (lw_at lw_m1 216 rfl) rfl
theorem q270 : (Jvm.Cond.methodLinkNest "HoleCounty$Ground" (75 : Nat) ({ cls := "HoleCounty", name := "spread", desc := "(JJ)J" } : Jvm.MethodName) "HoleCounty") ∈ lw_tbl := lw_at lw_m1 217 rfl
theorem q282 : (Jvm.Cond.methodLink "HoleCounty$Ground" (79 : Nat) ({ cls := "HoleCounty$Ground", name := "made", desc := "(J)LHoleCounty$Pit;" } : Jvm.MethodName)) ∈ lw_all := lw_g (lw_at lw_m1 229 rfl) rfl
theorem q283 : (Jvm.Cond.instanceMethod ({ cls := "HoleCounty$Ground", name := "made", desc := "(J)LHoleCounty$Pit;" } : Jvm.MethodName)) ∈ lw_all := lw_g (lw_at lw_m1 230 rfl) rfl
theorem q284 : (Jvm.Cond.selects "HoleCounty$Ground" ({ cls := "HoleCounty$Ground", name := "made", desc := "(J)LHoleCounty$Pit;" } : Jvm.MethodName) ({ cls := "HoleCounty$Ground", name := "made", desc := "(J)LHoleCounty$Pit;" } : Jvm.MethodName)) ∈ lw_all := lw_g (lw_at lw_m1 231 rfl) rfl
theorem q285 : (Jvm.Cond.code ({ cls := "HoleCounty$Ground", name := "made", desc := "(J)LHoleCounty$Pit;" } : Jvm.MethodName) prog_5_method_5_code (3 : Nat) (Option.some (Jvm.ClassFile.FieldType.object "HoleCounty$Pit"))) ∈ lw_all := lw_g (lw_at lw_m1 232 rfl) rfl
theorem q286 : (Jvm.Cond.classLink "HoleCounty$Ground" (35 : Nat) "HoleCounty$Absence") ∈ lw_all := lw_g (lw_at lw_m1 233 rfl) rfl
theorem q288 : (Jvm.Cond.methodLink "HoleCounty$Ground" (37 : Nat) ({ cls := "HoleCounty$Absence", name := "<init>", desc := "(JI)V" } : Jvm.MethodName)) ∈ lw_all := lw_g (lw_at lw_m1 235 rfl) rfl
theorem q308 : (Jvm.Cond.fieldLinkNest "HoleCounty$Ground" (40 : Nat) "HoleCounty" "TOP" "J" "HoleCounty") ∈ lw_tbl := lw_at lw_m2 15 rfl
theorem q310 : (Jvm.Cond.fieldLinkNest "HoleCounty$Ground" (43 : Nat) "HoleCounty" "BOTTOM" "J" "HoleCounty") ∈ lw_tbl := lw_at lw_m2 17 rfl
theorem q312 : (Jvm.Cond.fieldLinkNest "HoleCounty$Ground" (46 : Nat) "HoleCounty" "FIRST" "J" "HoleCounty") ∈ lw_tbl := lw_at lw_m2 19 rfl
theorem q313 : (Jvm.Cond.fieldLinkNest "HoleCounty$Ground" (49 : Nat) "HoleCounty" "LAST" "J" "HoleCounty") ∈ lw_tbl := lw_at lw_m2 20 rfl
theorem q314 : (Jvm.Cond.classLink "HoleCounty$Ground" (52 : Nat) "HoleCounty$Pass") ∈ lw_all := lw_g (lw_at lw_m2 21 rfl) rfl
theorem q316 : (Jvm.Cond.methodLink "HoleCounty$Ground" (54 : Nat) ({ cls := "HoleCounty$Pass", name := "<init>", desc := "(JI)V" } : Jvm.MethodName)) ∈ lw_all := lw_g (lw_at lw_m2 23 rfl) rfl
theorem q326 : (Jvm.Cond.fieldLinkNest "HoleCounty$Ground" (55 : Nat) "HoleCounty" "EDGE" "J" "HoleCounty") ∈ lw_tbl := lw_at lw_m2 33 rfl
theorem q328 : (Jvm.Cond.classLink "HoleCounty$Ground" (58 : Nat) "HoleCounty$Gap") ∈ lw_all := lw_g (lw_at lw_m2 35 rfl) rfl
theorem q330 : (Jvm.Cond.methodLink "HoleCounty$Ground" (60 : Nat) ({ cls := "HoleCounty$Gap", name := "<init>", desc := "(JI)V" } : Jvm.MethodName)) ∈ lw_all := lw_g (lw_at lw_m2 37 rfl) rfl
theorem q334 : (Jvm.Cond.methodLink "HoleCounty$Ground" (61 : Nat) ({ cls := "HoleCounty$Ground", name := "isDeep", desc := "(J)Z" } : Jvm.MethodName)) ∈ lw_all := lw_g (lw_at lw_m2 41 rfl) rfl
theorem q335 : (Jvm.Cond.privateMethod ({ cls := "HoleCounty$Ground", name := "isDeep", desc := "(J)Z" } : Jvm.MethodName)) ∈ lw_tbl := lw_at lw_m2 42 rfl
theorem q336 : (Jvm.Cond.instanceMethod ({ cls := "HoleCounty$Ground", name := "isDeep", desc := "(J)Z" } : Jvm.MethodName)) ∈ lw_all := lw_g (lw_at lw_m2 43 rfl) rfl
theorem q337 : (Jvm.Cond.instantiable "HoleCounty$Ground" (3 : Nat)) ∈ lw_all := lw_g (lw_at lw_m2 44 rfl) rfl
theorem q338 : (Jvm.Cond.code ({ cls := "HoleCounty$Ground", name := "isDeep", desc := "(J)Z" } : Jvm.MethodName) prog_5_method_4_code (6 : Nat) (Option.some Jvm.ClassFile.FieldType.boolean)) ∈ lw_all := lw_g (lw_at lw_m2 45 rfl) rfl
theorem q339 : (Jvm.Cond.classLink "HoleCounty$Ground" (65 : Nat) "HoleCounty$Shaft") ∈ lw_all := lw_g (lw_at lw_m2 46 rfl) rfl
theorem q341 : (Jvm.Cond.methodLink "HoleCounty$Ground" (67 : Nat) ({ cls := "HoleCounty$Shaft", name := "<init>", desc := "(JI)V" } : Jvm.MethodName)) ∈ lw_all := lw_g (lw_at lw_m2 48 rfl) rfl
theorem q345 : (Jvm.Cond.classLink "HoleCounty$Ground" (68 : Nat) "HoleCounty$Pit") ∈ lw_all := lw_g (lw_at lw_m2 52 rfl) rfl
theorem q347 : (Jvm.Cond.methodLink "HoleCounty$Ground" (70 : Nat) ({ cls := "HoleCounty$Pit", name := "<init>", desc := "(JI)V" } : Jvm.MethodName)) ∈ lw_all := lw_g (lw_at lw_m2 54 rfl) rfl
theorem q365 : (Jvm.Cond.instanceMethod ({ cls := "HoleCounty$Ground", name := "tax", desc := "()I" } : Jvm.MethodName)) ∈ lw_all := lw_g (lw_at lw_m2 72 rfl) rfl
theorem q366 : (Jvm.Cond.selects "HoleCounty$Ground" ({ cls := "HoleCounty$Ground", name := "tax", desc := "()I" } : Jvm.MethodName) ({ cls := "HoleCounty$Ground", name := "tax", desc := "()I" } : Jvm.MethodName)) ∈ lw_all := lw_g (lw_at lw_m2 73 rfl) rfl
theorem q367 : (Jvm.Cond.code ({ cls := "HoleCounty$Ground", name := "tax", desc := "()I" } : Jvm.MethodName) prog_5_method_8_code (4 : Nat) (Option.some Jvm.ClassFile.FieldType.int)) ∈ lw_all := lw_g (lw_at lw_m2 74 rfl) rfl
theorem q368 : (Jvm.Cond.methodLink "HoleCounty$Ground" (90 : Nat) ({ cls := "HoleCounty$Ground", name := "holes", desc := "()Ljava/util/ArrayList;" } : Jvm.MethodName)) ∈ lw_all := lw_g (lw_at lw_m2 75 rfl) rfl
theorem q369 : (Jvm.Cond.instanceMethod ({ cls := "HoleCounty$Ground", name := "holes", desc := "()Ljava/util/ArrayList;" } : Jvm.MethodName)) ∈ lw_all := lw_g (lw_at lw_m2 76 rfl) rfl
theorem q370 : (Jvm.Cond.selects "HoleCounty$Ground" ({ cls := "HoleCounty$Ground", name := "holes", desc := "()Ljava/util/ArrayList;" } : Jvm.MethodName) ({ cls := "HoleCounty$Ground", name := "holes", desc := "()Ljava/util/ArrayList;" } : Jvm.MethodName)) ∈ lw_all := lw_g (lw_at lw_m2 77 rfl) rfl
theorem q371 : (Jvm.Cond.code ({ cls := "HoleCounty$Ground", name := "holes", desc := "()Ljava/util/ArrayList;" } : Jvm.MethodName) prog_5_method_7_code (6 : Nat) (Option.some (Jvm.ClassFile.FieldType.object "java/util/ArrayList"))) ∈ lw_all := lw_g (lw_at lw_m2 78 rfl) rfl
theorem q372 : (Jvm.Cond.classLink "HoleCounty$Ground" (83 : Nat) "java/util/ArrayList") ∈ lw_all := lw_g (lw_at lw_m2 79 rfl) rfl
theorem q373 : (Jvm.Cond.methodLink "HoleCounty$Ground" (85 : Nat) ({ cls := "java/util/ArrayList", name := "<init>", desc := "()V" } : Jvm.MethodName)) ∈ lw_all := lw_g (lw_at lw_m2 80 rfl) rfl
theorem q395 : (Jvm.Cond.methodLink "HoleCounty$Ground" (86 : Nat) ({ cls := "java/util/ArrayList", name := "add", desc := "(Ljava/lang/Object;)Z" } : Jvm.MethodName)) ∈ lw_all := lw_g (lw_at lw_m2 102 rfl) rfl
theorem q396 : (Jvm.Cond.methodLink "HoleCounty$Ground" (94 : Nat) ({ cls := "java/util/ArrayList", name := "size", desc := "()I" } : Jvm.MethodName)) ∈ lw_all := lw_g (lw_at lw_m2 103 rfl) rfl
theorem q397 : (Jvm.Cond.methodLink "HoleCounty$Ground" (98 : Nat) ({ cls := "java/util/ArrayList", name := "get", desc := "(I)Ljava/lang/Object;" } : Jvm.MethodName)) ∈ lw_all := lw_g (lw_at lw_m2 104 rfl) rfl
theorem q405 : (Jvm.Cond.methodLink "HoleCounty$Ground" (102 : Nat) ({ cls := "HoleCounty$Pit", name := "tax", desc := "()I" } : Jvm.MethodName)) ∈ lw_all := lw_g (lw_at lw_m2 112 rfl) rfl
theorem q631 : (Jvm.Cond.instanceMethod ({ cls := "HoleCounty$Ground", name := "takes", desc := "(LHoleCounty$Ground;)V" } : Jvm.MethodName)) ∈ lw_all := lw_g (lw_at lw_m3 98 rfl) rfl
theorem q632 : (Jvm.Cond.selects "HoleCounty$Ground" ({ cls := "HoleCounty$Ground", name := "takes", desc := "(LHoleCounty$Ground;)V" } : Jvm.MethodName) ({ cls := "HoleCounty$Ground", name := "takes", desc := "(LHoleCounty$Ground;)V" } : Jvm.MethodName)) ∈ lw_all := lw_g (lw_at lw_m3 99 rfl) rfl
theorem q633 : (Jvm.Cond.code ({ cls := "HoleCounty$Ground", name := "takes", desc := "(LHoleCounty$Ground;)V" } : Jvm.MethodName) prog_5_method_2_code (2 : Nat) (Option.none : Option Jvm.ClassFile.FieldType)) ∈ lw_all := lw_g (lw_at lw_m3 100 rfl) rfl
theorem q634 : (Jvm.Cond.methodLink "HoleCounty$Ground" (19 : Nat) ({ cls := "java/lang/System", name := "arraycopy", desc := "(Ljava/lang/Object;ILjava/lang/Object;II)V" } : Jvm.MethodName)) ∈ lw_all := lw_g (lw_at lw_m3 101 rfl) rfl
theorem q1075 : (Jvm.Cond.instanceMethod ({ cls := "HoleCounty$Ground", name := "<init>", desc := "()V" } : Jvm.MethodName)) ∈ lw_all := lw_g (lw_at lw_m5 62 rfl) rfl
theorem q1076 : (Jvm.Cond.code ({ cls := "HoleCounty$Ground", name := "<init>", desc := "()V" } : Jvm.MethodName) prog_5_method_1_code (1 : Nat) (Option.none : Option Jvm.ClassFile.FieldType)) ∈ lw_all := lw_g (lw_at lw_m5 63 rfl) rfl
theorem q1077 : (Jvm.Cond.methodLink "HoleCounty$Ground" (3 : Nat) ({ cls := "java/lang/Object", name := "<init>", desc := "()V" } : Jvm.MethodName)) ∈ lw_all := lw_g (lw_at lw_m5 64 rfl) rfl
theorem q1078 : (Jvm.Cond.fieldLink "HoleCounty$Ground" (9 : Nat) "HoleCounty$Ground" "depths" "[B") ∈ lw_all := lw_g (lw_at lw_m5 65 rfl) rfl
theorem q1082 : (Jvm.Cond.fieldLink "HoleCounty$Ground" (25 : Nat) "HoleCounty$Ground" "roofs" "J") ∈ lw_all := lw_g (lw_at lw_m5 69 rfl) rfl
theorem q1084 : (Jvm.Cond.fieldLink "HoleCounty$Ground" (15 : Nat) "HoleCounty$Ground" "rate" "I") ∈ lw_all := lw_g (lw_at lw_m5 71 rfl) rfl
theorem q1086 : (Jvm.Cond.laysFinal "HoleCounty$Ground" "HoleCounty$Ground" "depths" "[B") ∈ lw_all := lw_g (lw_at lw_m5 73 rfl) rfl
theorem q1087 : (Jvm.Cond.soleField "HoleCounty$Ground" "depths") ∈ lw_all := lw_g (lw_at lw_m5 74 rfl) rfl
theorem q1088 : (Jvm.Cond.lays "HoleCounty$Ground" "HoleCounty$Ground" "roofs" "J") ∈ lw_all := lw_g (lw_at lw_m5 75 rfl) rfl
theorem q1089 : (Jvm.Cond.soleField "HoleCounty$Ground" "roofs") ∈ lw_all := lw_g (lw_at lw_m5 76 rfl) rfl
theorem q1090 : (Jvm.Cond.lays "HoleCounty$Ground" "HoleCounty$Ground" "rate" "I") ∈ lw_all := lw_g (lw_at lw_m5 77 rfl) rfl
theorem q1091 : (Jvm.Cond.soleField "HoleCounty$Ground" "rate") ∈ lw_all := lw_g (lw_at lw_m5 78 rfl) rfl
theorem q1092 : (Jvm.Cond.superclass "HoleCounty$Ground" "java/lang/Object") ∈ lw_all := lw_g (lw_at lw_m5 79 rfl) rfl
theorem q1621 : (Jvm.Cond.castable "HoleCounty$Ground" "java/lang/Object") ∈ lw_tbl := lw_at lw_m7 128 rfl
theorem in_X1 : ∀ w ∈ wsX10, w ∈ lw_all := lw_in wsX10 [1086, 1088, 1090] (by decide +kernel) (by decide +kernel)
/-! HoleCounty$Held -/
set_option maxRecDepth 100000
def RX2 : String := "HoleCounty$Held"
def TX2 : u_T := fun k => match k with
  | _ => ("HoleCounty$Held", "row", "Ljava/lang/Object;", false)
def tyX2 : Nat → FieldType := fun k => match k with
  | _ => .object "java/lang/Object"
abbrev wsX20 : List Cond := u_ws RX2 TX2 1
theorem nmX2 : ∀ a, a < 1 → ∀ b, b < 1 → a ≠ b → (TX2 a).2.1 ≠ (TX2 b).2.1 := by decide +kernel
theorem tyX2_ok : ∀ k, k < 1 → parseFieldDescriptor (TX2 k).2.2.1 = some (tyX2 k) := by decide +kernel
abbrev cX2_init : ByteArray := prog_6_method_1_code
def yX2_init : MethodName := ⟨RX2, "<init>", "()V"⟩
theorem dX2_init_0 : decode cX2_init 0 = .ok (.aload_n 0, 1) := by decide +kernel
theorem dX2_init_1 : decode cX2_init 1 = .ok (.invokespecial 1, 3) := by decide +kernel
theorem dX2_init_4 : decode cX2_init 4 = .ok (.return_, 1) := by decide +kernel
theorem q59 : (Jvm.Cond.initialized "HoleCounty$Held") ∈ lw_all := lw_g (lw_at lw_m1 6 rfl) rfl
theorem q188 : (Jvm.Cond.selects "HoleCounty$Held" ({ cls := "java/lang/Object", name := "getClass", desc := "()Ljava/lang/Class;" } : Jvm.MethodName) ({ cls := "java/lang/Object", name := "getClass", desc := "()Ljava/lang/Class;" } : Jvm.MethodName)) ∈ lw_all := lw_g (lw_at lw_m1 135 rfl) rfl
theorem q1097 : (Jvm.Cond.instantiable "HoleCounty$Held" (1 : Nat)) ∈ lw_all := lw_g (lw_at lw_m5 84 rfl) rfl
theorem q1099 : (Jvm.Cond.instanceMethod ({ cls := "HoleCounty$Held", name := "<init>", desc := "()V" } : Jvm.MethodName)) ∈ lw_all := lw_g (lw_at lw_m5 86 rfl) rfl
theorem q1100 : (Jvm.Cond.code ({ cls := "HoleCounty$Held", name := "<init>", desc := "()V" } : Jvm.MethodName) prog_6_method_1_code (1 : Nat) (Option.none : Option Jvm.ClassFile.FieldType)) ∈ lw_all := lw_g (lw_at lw_m5 87 rfl) rfl
theorem q1101 : (Jvm.Cond.methodLink "HoleCounty$Held" (1 : Nat) ({ cls := "java/lang/Object", name := "<init>", desc := "()V" } : Jvm.MethodName)) ∈ lw_all := lw_g (lw_at lw_m5 88 rfl) rfl
theorem q1103 : (Jvm.Cond.lays "HoleCounty$Held" "HoleCounty$Held" "row" "Ljava/lang/Object;") ∈ lw_all := lw_g (lw_at lw_m5 90 rfl) rfl
theorem q1104 : (Jvm.Cond.soleField "HoleCounty$Held" "row") ∈ lw_all := lw_g (lw_at lw_m5 91 rfl) rfl
theorem q1105 : (Jvm.Cond.superclass "HoleCounty$Held" "java/lang/Object") ∈ lw_all := lw_g (lw_at lw_m5 92 rfl) rfl
theorem q1619 : (Jvm.Cond.castable "HoleCounty$Held" "java/lang/Object") ∈ lw_tbl := lw_at lw_m7 126 rfl
theorem in_X2 : ∀ w ∈ wsX20, w ∈ lw_all := lw_in wsX20 [1103] (by decide +kernel) (by decide +kernel)
/-! HoleCounty$Repair -/
set_option maxRecDepth 100000
def RX4 : String := "HoleCounty$Repair"
def TX4 : u_T := fun k => match k with
  | 0 => ("HoleCounty$Repair", "cell", "I", true)
  | 1 => ("HoleCounty$Repair", "depth", "I", true)
  | 2 => ("HoleCounty$Repair", "isRoofed", "Z", true)
  | _ => ("HoleCounty$Repair", "this$0", "LHoleCounty;", true)
def tyX4 : Nat → FieldType := fun k => match k with
  | 0 => .int
  | 1 => .int
  | 2 => .boolean
  | _ => .object "HoleCounty"
abbrev wsX40 : List Cond := u_ws RX4 TX4 4
theorem nmX4 : ∀ a, a < 4 → ∀ b, b < 4 → a ≠ b → (TX4 a).2.1 ≠ (TX4 b).2.1 := by decide +kernel
theorem tyX4_ok : ∀ k, k < 4 → parseFieldDescriptor (TX4 k).2.2.1 = some (tyX4 k) := by decide +kernel
abbrev cX4_init : ByteArray := prog_9_method_1_code
def yX4_init : MethodName := ⟨RX4, "<init>", "(LHoleCounty;I)V"⟩
def dkwX4_init_1 : List UInt8 := [181, 0, 29, 42, 43, 180, 0, 19, 180, 0, 32, 28, 184, 0, 36, 181, 0, 40, 177]
abbrev dktX4_init_1 : List UInt8 := dkwX4_init_1 ++ []
def dkwX4_init_0 : List UInt8 := [42, 43, 181, 0, 3, 42, 183, 0, 9, 42, 28, 181, 0, 15, 42, 43, 180, 0, 19, 180, 0, 23, 28, 51]
abbrev dktX4_init_0 : List UInt8 := dkwX4_init_0 ++ dktX4_init_1
theorem dksX4_init_0 : cX4_init.data.toList.drop 0 = dktX4_init_0 := by decide +kernel
theorem dksX4_init_1 : cX4_init.data.toList.drop 24 = dktX4_init_1 := dk_seg dksX4_init_0 24 rfl rfl
theorem dX4_init_0 : decode cX4_init 0 = .ok (.aload_n 0, 1) := dk_42 (dk_at dksX4_init_0 0 rfl rfl)
theorem dX4_init_1 : decode cX4_init 1 = .ok (.aload_n 1, 1) := dk_43 (dk_at dksX4_init_0 1 rfl rfl)
theorem dX4_init_2 : decode cX4_init 2 = .ok (.putfield 3, 3) := dk_181 0 3 (dk_at dksX4_init_0 2 rfl rfl)
theorem dX4_init_5 : decode cX4_init 5 = .ok (.aload_n 0, 1) := dk_42 (dk_at dksX4_init_0 5 rfl rfl)
theorem dX4_init_6 : decode cX4_init 6 = .ok (.invokespecial 9, 3) := dk_183 0 9 (dk_at dksX4_init_0 6 rfl rfl)
theorem dX4_init_9 : decode cX4_init 9 = .ok (.aload_n 0, 1) := dk_42 (dk_at dksX4_init_0 9 rfl rfl)
theorem dX4_init_10 : decode cX4_init 10 = .ok (.iload_n 2, 1) := dk_28 (dk_at dksX4_init_0 10 rfl rfl)
theorem dX4_init_11 : decode cX4_init 11 = .ok (.putfield 15, 3) := dk_181 0 15 (dk_at dksX4_init_0 11 rfl rfl)
theorem dX4_init_14 : decode cX4_init 14 = .ok (.aload_n 0, 1) := dk_42 (dk_at dksX4_init_0 14 rfl rfl)
theorem dX4_init_15 : decode cX4_init 15 = .ok (.aload_n 1, 1) := dk_43 (dk_at dksX4_init_0 15 rfl rfl)
theorem dX4_init_16 : decode cX4_init 16 = .ok (.getfield 19, 3) := dk_180 0 19 (dk_at dksX4_init_0 16 rfl rfl)
theorem dX4_init_19 : decode cX4_init 19 = .ok (.getfield 23, 3) := dk_180 0 23 (dk_at dksX4_init_0 19 rfl rfl)
theorem dX4_init_22 : decode cX4_init 22 = .ok (.iload_n 2, 1) := dk_28 (dk_at dksX4_init_0 22 rfl rfl)
theorem dX4_init_23 : decode cX4_init 23 = .ok (.baload, 1) := dk_51 (dk_at dksX4_init_0 23 rfl rfl)
theorem dX4_init_24 : decode cX4_init 24 = .ok (.putfield 29, 3) := dk_181 0 29 (dk_at dksX4_init_1 0 rfl rfl)
theorem dX4_init_27 : decode cX4_init 27 = .ok (.aload_n 0, 1) := dk_42 (dk_at dksX4_init_1 3 rfl rfl)
theorem dX4_init_28 : decode cX4_init 28 = .ok (.aload_n 1, 1) := dk_43 (dk_at dksX4_init_1 4 rfl rfl)
theorem dX4_init_29 : decode cX4_init 29 = .ok (.getfield 19, 3) := dk_180 0 19 (dk_at dksX4_init_1 5 rfl rfl)
theorem dX4_init_32 : decode cX4_init 32 = .ok (.getfield 32, 3) := dk_180 0 32 (dk_at dksX4_init_1 8 rfl rfl)
theorem dX4_init_35 : decode cX4_init 35 = .ok (.iload_n 2, 1) := dk_28 (dk_at dksX4_init_1 11 rfl rfl)
theorem dX4_init_36 : decode cX4_init 36 = .ok (.invokestatic 36, 3) := dk_184 0 36 (dk_at dksX4_init_1 12 rfl rfl)
theorem dX4_init_39 : decode cX4_init 39 = .ok (.putfield 40, 3) := dk_181 0 40 (dk_at dksX4_init_1 15 rfl rfl)
theorem dX4_init_42 : decode cX4_init 42 = .ok (.return_, 1) := dk_177 (dk_at dksX4_init_1 18 rfl rfl)
abbrev cX4_kept : ByteArray := prog_9_method_2_code
def yX4_kept : MethodName := ⟨RX4, "kept", "()V"⟩
def dkwX4_kept_1 : List UInt8 := [182, 0, 54, 87, 42, 180, 0, 3, 180, 0, 44, 42, 182, 0, 58, 87, 177]
abbrev dktX4_kept_1 : List UInt8 := dkwX4_kept_1 ++ []
def dkwX4_kept_0 : List UInt8 := [42, 180, 0, 3, 180, 0, 44, 182, 0, 48, 16, 10, 160, 0, 15, 42, 180, 0, 3, 180, 0, 44, 3]
abbrev dktX4_kept_0 : List UInt8 := dkwX4_kept_0 ++ dktX4_kept_1
theorem dksX4_kept_0 : cX4_kept.data.toList.drop 0 = dktX4_kept_0 := by decide +kernel
theorem dksX4_kept_1 : cX4_kept.data.toList.drop 23 = dktX4_kept_1 := dk_seg dksX4_kept_0 23 rfl rfl
theorem dX4_kept_0 : decode cX4_kept 0 = .ok (.aload_n 0, 1) := dk_42 (dk_at dksX4_kept_0 0 rfl rfl)
theorem dX4_kept_1 : decode cX4_kept 1 = .ok (.getfield 3, 3) := dk_180 0 3 (dk_at dksX4_kept_0 1 rfl rfl)
theorem dX4_kept_4 : decode cX4_kept 4 = .ok (.getfield 44, 3) := dk_180 0 44 (dk_at dksX4_kept_0 4 rfl rfl)
theorem dX4_kept_7 : decode cX4_kept 7 = .ok (.invokevirtual 48, 3) := dk_182 0 48 (dk_at dksX4_kept_0 7 rfl rfl)
theorem dX4_kept_10 : decode cX4_kept 10 = .ok (.bipush 10, 2) := dk_16 10 (dk_at dksX4_kept_0 10 rfl rfl)
theorem dX4_kept_12 : decode cX4_kept 12 = .ok (.if_icmp .ne 15, 3) := dk_160 0 15 (dk_at dksX4_kept_0 12 rfl rfl)
theorem dX4_kept_15 : decode cX4_kept 15 = .ok (.aload_n 0, 1) := dk_42 (dk_at dksX4_kept_0 15 rfl rfl)
theorem dX4_kept_16 : decode cX4_kept 16 = .ok (.getfield 3, 3) := dk_180 0 3 (dk_at dksX4_kept_0 16 rfl rfl)
theorem dX4_kept_19 : decode cX4_kept 19 = .ok (.getfield 44, 3) := dk_180 0 44 (dk_at dksX4_kept_0 19 rfl rfl)
theorem dX4_kept_22 : decode cX4_kept 22 = .ok (.iconst 0, 1) := dk_3 (dk_at dksX4_kept_0 22 rfl rfl)
theorem dX4_kept_23 : decode cX4_kept 23 = .ok (.invokevirtual 54, 3) := dk_182 0 54 (dk_at dksX4_kept_1 0 rfl rfl)
theorem dX4_kept_26 : decode cX4_kept 26 = .ok (.pop, 1) := dk_87 (dk_at dksX4_kept_1 3 rfl rfl)
theorem dX4_kept_27 : decode cX4_kept 27 = .ok (.aload_n 0, 1) := dk_42 (dk_at dksX4_kept_1 4 rfl rfl)
theorem dX4_kept_28 : decode cX4_kept 28 = .ok (.getfield 3, 3) := dk_180 0 3 (dk_at dksX4_kept_1 5 rfl rfl)
theorem dX4_kept_31 : decode cX4_kept 31 = .ok (.getfield 44, 3) := dk_180 0 44 (dk_at dksX4_kept_1 8 rfl rfl)
theorem dX4_kept_34 : decode cX4_kept 34 = .ok (.aload_n 0, 1) := dk_42 (dk_at dksX4_kept_1 11 rfl rfl)
theorem dX4_kept_35 : decode cX4_kept 35 = .ok (.invokevirtual 58, 3) := dk_182 0 58 (dk_at dksX4_kept_1 12 rfl rfl)
theorem dX4_kept_38 : decode cX4_kept 38 = .ok (.pop, 1) := dk_87 (dk_at dksX4_kept_1 15 rfl rfl)
theorem dX4_kept_39 : decode cX4_kept 39 = .ok (.return_, 1) := dk_177 (dk_at dksX4_kept_1 16 rfl rfl)
abbrev cX4_undoes : ByteArray := prog_9_method_3_code
def yX4_undoes : MethodName := ⟨RX4, "undoes", "()V"⟩
def dkwX4_undoes_3 : List UInt8 := [20, 0, 66, 131, 127, 181, 0, 32, 177]
abbrev dktX4_undoes_3 : List UInt8 := dkwX4_undoes_3 ++ []
def dkwX4_undoes_2 : List UInt8 := [180, 0, 15, 121, 129, 167, 0, 24, 42, 180, 0, 3, 180, 0, 19, 180, 0, 32, 10, 42, 180, 0, 15, 121]
abbrev dktX4_undoes_2 : List UInt8 := dkwX4_undoes_2 ++ dktX4_undoes_3
def dkwX4_undoes_1 : List UInt8 := [180, 0, 19, 42, 180, 0, 40, 153, 0, 23, 42, 180, 0, 3, 180, 0, 19, 180, 0, 32, 10, 42]
abbrev dktX4_undoes_1 : List UInt8 := dkwX4_undoes_1 ++ dktX4_undoes_2
def dkwX4_undoes_0 : List UInt8 := [42, 180, 0, 3, 180, 0, 19, 10, 42, 180, 0, 15, 121, 42, 180, 0, 29, 182, 0, 62, 42, 180, 0, 3]
abbrev dktX4_undoes_0 : List UInt8 := dkwX4_undoes_0 ++ dktX4_undoes_1
theorem dksX4_undoes_0 : cX4_undoes.data.toList.drop 0 = dktX4_undoes_0 := by decide +kernel
theorem dksX4_undoes_1 : cX4_undoes.data.toList.drop 24 = dktX4_undoes_1 := dk_seg dksX4_undoes_0 24 rfl rfl
theorem dksX4_undoes_2 : cX4_undoes.data.toList.drop 46 = dktX4_undoes_2 := dk_seg dksX4_undoes_1 22 rfl rfl
theorem dksX4_undoes_3 : cX4_undoes.data.toList.drop 70 = dktX4_undoes_3 := dk_seg dksX4_undoes_2 24 rfl rfl
theorem dX4_undoes_0 : decode cX4_undoes 0 = .ok (.aload_n 0, 1) := dk_42 (dk_at dksX4_undoes_0 0 rfl rfl)
theorem dX4_undoes_1 : decode cX4_undoes 1 = .ok (.getfield 3, 3) := dk_180 0 3 (dk_at dksX4_undoes_0 1 rfl rfl)
theorem dX4_undoes_4 : decode cX4_undoes 4 = .ok (.getfield 19, 3) := dk_180 0 19 (dk_at dksX4_undoes_0 4 rfl rfl)
theorem dX4_undoes_7 : decode cX4_undoes 7 = .ok (.lconst 1, 1) := dk_10 (dk_at dksX4_undoes_0 7 rfl rfl)
theorem dX4_undoes_8 : decode cX4_undoes 8 = .ok (.aload_n 0, 1) := dk_42 (dk_at dksX4_undoes_0 8 rfl rfl)
theorem dX4_undoes_9 : decode cX4_undoes 9 = .ok (.getfield 15, 3) := dk_180 0 15 (dk_at dksX4_undoes_0 9 rfl rfl)
theorem dX4_undoes_12 : decode cX4_undoes 12 = .ok (.lshl, 1) := dk_121 (dk_at dksX4_undoes_0 12 rfl rfl)
theorem dX4_undoes_13 : decode cX4_undoes 13 = .ok (.aload_n 0, 1) := dk_42 (dk_at dksX4_undoes_0 13 rfl rfl)
theorem dX4_undoes_14 : decode cX4_undoes 14 = .ok (.getfield 29, 3) := dk_180 0 29 (dk_at dksX4_undoes_0 14 rfl rfl)
theorem dX4_undoes_17 : decode cX4_undoes 17 = .ok (.invokevirtual 62, 3) := dk_182 0 62 (dk_at dksX4_undoes_0 17 rfl rfl)
theorem dX4_undoes_20 : decode cX4_undoes 20 = .ok (.aload_n 0, 1) := dk_42 (dk_at dksX4_undoes_0 20 rfl rfl)
theorem dX4_undoes_21 : decode cX4_undoes 21 = .ok (.getfield 3, 3) := dk_180 0 3 (dk_at dksX4_undoes_0 21 rfl rfl)
theorem dX4_undoes_24 : decode cX4_undoes 24 = .ok (.getfield 19, 3) := dk_180 0 19 (dk_at dksX4_undoes_1 0 rfl rfl)
theorem dX4_undoes_27 : decode cX4_undoes 27 = .ok (.aload_n 0, 1) := dk_42 (dk_at dksX4_undoes_1 3 rfl rfl)
theorem dX4_undoes_28 : decode cX4_undoes 28 = .ok (.getfield 40, 3) := dk_180 0 40 (dk_at dksX4_undoes_1 4 rfl rfl)
theorem dX4_undoes_31 : decode cX4_undoes 31 = .ok (.ifCond .eq 23, 3) := dk_153 0 23 (dk_at dksX4_undoes_1 7 rfl rfl)
theorem dX4_undoes_34 : decode cX4_undoes 34 = .ok (.aload_n 0, 1) := dk_42 (dk_at dksX4_undoes_1 10 rfl rfl)
theorem dX4_undoes_35 : decode cX4_undoes 35 = .ok (.getfield 3, 3) := dk_180 0 3 (dk_at dksX4_undoes_1 11 rfl rfl)
theorem dX4_undoes_38 : decode cX4_undoes 38 = .ok (.getfield 19, 3) := dk_180 0 19 (dk_at dksX4_undoes_1 14 rfl rfl)
theorem dX4_undoes_41 : decode cX4_undoes 41 = .ok (.getfield 32, 3) := dk_180 0 32 (dk_at dksX4_undoes_1 17 rfl rfl)
theorem dX4_undoes_44 : decode cX4_undoes 44 = .ok (.lconst 1, 1) := dk_10 (dk_at dksX4_undoes_1 20 rfl rfl)
theorem dX4_undoes_45 : decode cX4_undoes 45 = .ok (.aload_n 0, 1) := dk_42 (dk_at dksX4_undoes_1 21 rfl rfl)
theorem dX4_undoes_46 : decode cX4_undoes 46 = .ok (.getfield 15, 3) := dk_180 0 15 (dk_at dksX4_undoes_2 0 rfl rfl)
theorem dX4_undoes_49 : decode cX4_undoes 49 = .ok (.lshl, 1) := dk_121 (dk_at dksX4_undoes_2 3 rfl rfl)
theorem dX4_undoes_50 : decode cX4_undoes 50 = .ok (.lor, 1) := dk_129 (dk_at dksX4_undoes_2 4 rfl rfl)
theorem dX4_undoes_51 : decode cX4_undoes 51 = .ok (.goto 24, 3) := dk_167 0 24 (dk_at dksX4_undoes_2 5 rfl rfl)
theorem dX4_undoes_54 : decode cX4_undoes 54 = .ok (.aload_n 0, 1) := dk_42 (dk_at dksX4_undoes_2 8 rfl rfl)
theorem dX4_undoes_55 : decode cX4_undoes 55 = .ok (.getfield 3, 3) := dk_180 0 3 (dk_at dksX4_undoes_2 9 rfl rfl)
theorem dX4_undoes_58 : decode cX4_undoes 58 = .ok (.getfield 19, 3) := dk_180 0 19 (dk_at dksX4_undoes_2 12 rfl rfl)
theorem dX4_undoes_61 : decode cX4_undoes 61 = .ok (.getfield 32, 3) := dk_180 0 32 (dk_at dksX4_undoes_2 15 rfl rfl)
theorem dX4_undoes_64 : decode cX4_undoes 64 = .ok (.lconst 1, 1) := dk_10 (dk_at dksX4_undoes_2 18 rfl rfl)
theorem dX4_undoes_65 : decode cX4_undoes 65 = .ok (.aload_n 0, 1) := dk_42 (dk_at dksX4_undoes_2 19 rfl rfl)
theorem dX4_undoes_66 : decode cX4_undoes 66 = .ok (.getfield 15, 3) := dk_180 0 15 (dk_at dksX4_undoes_2 20 rfl rfl)
theorem dX4_undoes_69 : decode cX4_undoes 69 = .ok (.lshl, 1) := dk_121 (dk_at dksX4_undoes_2 23 rfl rfl)
theorem dX4_undoes_70 : decode cX4_undoes 70 = .ok (.ldc2_w 66, 3) := dk_20 0 66 (dk_at dksX4_undoes_3 0 rfl rfl)
theorem dX4_undoes_73 : decode cX4_undoes 73 = .ok (.lxor, 1) := dk_131 (dk_at dksX4_undoes_3 3 rfl rfl)
theorem dX4_undoes_74 : decode cX4_undoes 74 = .ok (.land, 1) := dk_127 (dk_at dksX4_undoes_3 4 rfl rfl)
theorem dX4_undoes_75 : decode cX4_undoes 75 = .ok (.putfield 32, 3) := dk_181 0 32 (dk_at dksX4_undoes_3 5 rfl rfl)
theorem dX4_undoes_78 : decode cX4_undoes 78 = .ok (.return_, 1) := dk_177 (dk_at dksX4_undoes_3 8 rfl rfl)
theorem q61 : (Jvm.Cond.initialized "HoleCounty$Repair") ∈ lw_all := lw_g (lw_at lw_m1 8 rfl) rfl
theorem q100 : (Jvm.Cond.instantiable "HoleCounty$Repair" (4 : Nat)) ∈ lw_all := lw_g (lw_at lw_m1 47 rfl) rfl
theorem q102 : (Jvm.Cond.instanceMethod ({ cls := "HoleCounty$Repair", name := "<init>", desc := "(LHoleCounty;I)V" } : Jvm.MethodName)) ∈ lw_all := lw_g (lw_at lw_m1 49 rfl) rfl
theorem q103 : (Jvm.Cond.code ({ cls := "HoleCounty$Repair", name := "<init>", desc := "(LHoleCounty;I)V" } : Jvm.MethodName) prog_9_method_1_code (3 : Nat) (Option.none : Option Jvm.ClassFile.FieldType)) ∈ lw_all := lw_g (lw_at lw_m1 50 rfl) rfl
theorem q104 : (Jvm.Cond.methodLink "HoleCounty$Repair" (9 : Nat) ({ cls := "java/lang/Object", name := "<init>", desc := "()V" } : Jvm.MethodName)) ∈ lw_all := lw_g (lw_at lw_m1 51 rfl) rfl
theorem q107 : (Jvm.Cond.methodLinkNest "HoleCounty$Repair" (36 : Nat) ({ cls := "HoleCounty", name := "has", desc := "(JI)Z" } : Jvm.MethodName) "HoleCounty") ∈ lw_tbl := lw_at lw_m1 54 rfl
theorem q110 : (Jvm.Cond.fieldLink "HoleCounty$Repair" (15 : Nat) "HoleCounty$Repair" "cell" "I") ∈ lw_all := lw_g (lw_at lw_m1 57 rfl) rfl
theorem q111 : (Jvm.Cond.fieldLink "HoleCounty$Repair" (29 : Nat) "HoleCounty$Repair" "depth" "I") ∈ lw_all := lw_g (lw_at lw_m1 58 rfl) rfl
theorem q112 : (Jvm.Cond.fieldLink "HoleCounty$Repair" (40 : Nat) "HoleCounty$Repair" "isRoofed" "Z") ∈ lw_all := lw_g (lw_at lw_m1 59 rfl) rfl
theorem q113 : (Jvm.Cond.fieldLink "HoleCounty$Repair" (3 : Nat) "HoleCounty$Repair" "this$0" "LHoleCounty;") ∈ lw_all := lw_g (lw_at lw_m1 60 rfl) rfl
theorem q114 : (Jvm.Cond.laysFinal "HoleCounty$Repair" "HoleCounty$Repair" "cell" "I") ∈ lw_all := lw_g (lw_at lw_m1 61 rfl) rfl
theorem q115 : (Jvm.Cond.soleField "HoleCounty$Repair" "cell") ∈ lw_all := lw_g (lw_at lw_m1 62 rfl) rfl
theorem q116 : (Jvm.Cond.laysFinal "HoleCounty$Repair" "HoleCounty$Repair" "depth" "I") ∈ lw_all := lw_g (lw_at lw_m1 63 rfl) rfl
theorem q117 : (Jvm.Cond.soleField "HoleCounty$Repair" "depth") ∈ lw_all := lw_g (lw_at lw_m1 64 rfl) rfl
theorem q118 : (Jvm.Cond.laysFinal "HoleCounty$Repair" "HoleCounty$Repair" "isRoofed" "Z") ∈ lw_all := lw_g (lw_at lw_m1 65 rfl) rfl
theorem q119 : (Jvm.Cond.soleField "HoleCounty$Repair" "isRoofed") ∈ lw_all := lw_g (lw_at lw_m1 66 rfl) rfl
theorem q120 : (Jvm.Cond.laysFinal "HoleCounty$Repair" "HoleCounty$Repair" "this$0" "LHoleCounty;") ∈ lw_all := lw_g (lw_at lw_m1 67 rfl) rfl
theorem q121 : (Jvm.Cond.soleField "HoleCounty$Repair" "this$0") ∈ lw_all := lw_g (lw_at lw_m1 68 rfl) rfl
theorem q122 : (Jvm.Cond.superclass "HoleCounty$Repair" "java/lang/Object") ∈ lw_all := lw_g (lw_at lw_m1 69 rfl) rfl
theorem q124 : (Jvm.Cond.instanceMethod ({ cls := "HoleCounty$Repair", name := "kept", desc := "()V" } : Jvm.MethodName)) ∈ lw_all := lw_g (lw_at lw_m1 71 rfl) rfl
theorem q125 : (Jvm.Cond.selects "HoleCounty$Repair" ({ cls := "HoleCounty$Repair", name := "kept", desc := "()V" } : Jvm.MethodName) ({ cls := "HoleCounty$Repair", name := "kept", desc := "()V" } : Jvm.MethodName)) ∈ lw_all := lw_g (lw_at lw_m1 72 rfl) rfl
theorem q126 : (Jvm.Cond.code ({ cls := "HoleCounty$Repair", name := "kept", desc := "()V" } : Jvm.MethodName) prog_9_method_2_code (1 : Nat) (Option.none : Option Jvm.ClassFile.FieldType)) ∈ lw_all := lw_g (lw_at lw_m1 73 rfl) rfl
theorem q127 : (Jvm.Cond.methodLink "HoleCounty$Repair" (48 : Nat) ({ cls := "java/util/ArrayList", name := "size", desc := "()I" } : Jvm.MethodName)) ∈ lw_all := lw_g (lw_at lw_m1 74 rfl) rfl
theorem q131 : (Jvm.Cond.methodLink "HoleCounty$Repair" (54 : Nat) ({ cls := "java/util/ArrayList", name := "remove", desc := "(I)Ljava/lang/Object;" } : Jvm.MethodName)) ∈ lw_all := lw_g (lw_at lw_m1 78 rfl) rfl
theorem q149 : (Jvm.Cond.methodLink "HoleCounty$Repair" (58 : Nat) ({ cls := "java/util/ArrayList", name := "add", desc := "(Ljava/lang/Object;)Z" } : Jvm.MethodName)) ∈ lw_all := lw_g (lw_at lw_m1 96 rfl) rfl
theorem q191 : (Jvm.Cond.selects "HoleCounty$Repair" ({ cls := "java/lang/Object", name := "getClass", desc := "()Ljava/lang/Class;" } : Jvm.MethodName) ({ cls := "java/lang/Object", name := "getClass", desc := "()Ljava/lang/Class;" } : Jvm.MethodName)) ∈ lw_all := lw_g (lw_at lw_m1 138 rfl) rfl
theorem q242 : (Jvm.Cond.instanceMethod ({ cls := "HoleCounty$Repair", name := "undoes", desc := "()V" } : Jvm.MethodName)) ∈ lw_all := lw_g (lw_at lw_m1 189 rfl) rfl
theorem q243 : (Jvm.Cond.selects "HoleCounty$Repair" ({ cls := "HoleCounty$Repair", name := "undoes", desc := "()V" } : Jvm.MethodName) ({ cls := "HoleCounty$Repair", name := "undoes", desc := "()V" } : Jvm.MethodName)) ∈ lw_all := lw_g (lw_at lw_m1 190 rfl) rfl
theorem q244 : (Jvm.Cond.code ({ cls := "HoleCounty$Repair", name := "undoes", desc := "()V" } : Jvm.MethodName) prog_9_method_3_code (1 : Nat) (Option.none : Option Jvm.ClassFile.FieldType)) ∈ lw_all := lw_g (lw_at lw_m1 191 rfl) rfl
theorem q245 : (Jvm.Cond.methodLink "HoleCounty$Repair" (62 : Nat) ({ cls := "HoleCounty$Ground", name := "becomes", desc := "(JI)V" } : Jvm.MethodName)) ∈ lw_all := lw_g (lw_at lw_m1 192 rfl) rfl
theorem q246 : (Jvm.Cond.constantLong "HoleCounty$Repair" (66 : Nat) (-1 : Int64)) ∈ lw_all := lw_g (lw_at lw_m1 193 rfl) rfl
theorem q1079 : (Jvm.Cond.fieldLinkNest "HoleCounty$Repair" (23 : Nat) "HoleCounty$Ground" "depths" "[B" "HoleCounty") ∈ lw_tbl := lw_at lw_m5 66 rfl
theorem q1081 : (Jvm.Cond.fieldLinkNest "HoleCounty$Repair" (32 : Nat) "HoleCounty$Ground" "roofs" "J" "HoleCounty") ∈ lw_tbl := lw_at lw_m5 68 rfl
theorem q1106 : (Jvm.Cond.fieldLinkNest "HoleCounty$Repair" (19 : Nat) "HoleCounty" "ground" "LHoleCounty$Ground;" "HoleCounty") ∈ lw_tbl := lw_at lw_m5 93 rfl
theorem q1110 : (Jvm.Cond.fieldLinkNest "HoleCounty$Repair" (44 : Nat) "HoleCounty" "undos" "Ljava/util/ArrayList;" "HoleCounty") ∈ lw_tbl := lw_at lw_m5 97 rfl
theorem q1624 : (Jvm.Cond.castable "HoleCounty$Repair" "java/lang/Object") ∈ lw_tbl := lw_at lw_m7 131 rfl
theorem in_X4 : ∀ w ∈ wsX40, w ∈ lw_all := lw_in wsX40 [114, 116, 118, 120] (by decide +kernel) (by decide +kernel)
/-! HoleCounty$Pit -/
set_option maxRecDepth 100000
def RX5 : String := "HoleCounty$Pit"
def TX5 : u_T := fun k => match k with
  | 0 => ("HoleCounty$Pit", "cells", "J", true)
  | _ => ("HoleCounty$Pit", "rate", "I", true)
def tyX5 : Nat → FieldType := fun k => match k with
  | 0 => .long
  | _ => .int
abbrev wsX50 : List Cond := u_ws RX5 TX5 2
theorem nmX5 : ∀ a, a < 2 → ∀ b, b < 2 → a ≠ b → (TX5 a).2.1 ≠ (TX5 b).2.1 := by decide +kernel
theorem tyX5_ok : ∀ k, k < 2 → parseFieldDescriptor (TX5 k).2.2.1 = some (tyX5 k) := by decide +kernel
abbrev cX5_init : ByteArray := prog_8_method_1_code
def yX5_init : MethodName := ⟨RX5, "<init>", "(JI)V"⟩
def dkwX5_init_0 : List UInt8 := [42, 183, 0, 3, 42, 31, 181, 0, 9, 42, 29, 181, 0, 15, 177]
abbrev dktX5_init_0 : List UInt8 := dkwX5_init_0 ++ []
theorem dksX5_init_0 : cX5_init.data.toList.drop 0 = dktX5_init_0 := by decide +kernel
theorem dX5_init_0 : decode cX5_init 0 = .ok (.aload_n 0, 1) := dk_42 (dk_at dksX5_init_0 0 rfl rfl)
theorem dX5_init_1 : decode cX5_init 1 = .ok (.invokespecial 3, 3) := dk_183 0 3 (dk_at dksX5_init_0 1 rfl rfl)
theorem dX5_init_4 : decode cX5_init 4 = .ok (.aload_n 0, 1) := dk_42 (dk_at dksX5_init_0 4 rfl rfl)
theorem dX5_init_5 : decode cX5_init 5 = .ok (.lload_n 1, 1) := dk_31 (dk_at dksX5_init_0 5 rfl rfl)
theorem dX5_init_6 : decode cX5_init 6 = .ok (.putfield 9, 3) := dk_181 0 9 (dk_at dksX5_init_0 6 rfl rfl)
theorem dX5_init_9 : decode cX5_init 9 = .ok (.aload_n 0, 1) := dk_42 (dk_at dksX5_init_0 9 rfl rfl)
theorem dX5_init_10 : decode cX5_init 10 = .ok (.iload_n 3, 1) := dk_29 (dk_at dksX5_init_0 10 rfl rfl)
theorem dX5_init_11 : decode cX5_init 11 = .ok (.putfield 15, 3) := dk_181 0 15 (dk_at dksX5_init_0 11 rfl rfl)
theorem dX5_init_14 : decode cX5_init 14 = .ok (.return_, 1) := dk_177 (dk_at dksX5_init_0 14 rfl rfl)
abbrev cX5_fence : ByteArray := prog_8_method_5_code
def yX5_fence : MethodName := ⟨RX5, "fence", "()I"⟩
def dkwX5_fence_4 : List UInt8 := [20, 0, 36, 131, 127, 184, 0, 19, 96, 60, 27, 172]
abbrev dktX5_fence_4 : List UInt8 := dkwX5_fence_4 ++ []
def dkwX5_fence_3 : List UInt8 := [184, 0, 19, 96, 60, 27, 42, 180, 0, 9, 42, 180, 0, 9, 178, 0, 41, 20, 0, 36, 131, 127, 4, 123]
abbrev dktX5_fence_3 : List UInt8 := dkwX5_fence_3 ++ dktX5_fence_4
def dkwX5_fence_2 : List UInt8 := [180, 0, 9, 42, 180, 0, 9, 178, 0, 38, 20, 0, 36, 131, 127, 4, 121, 20, 0, 36, 131, 127]
abbrev dktX5_fence_2 : List UInt8 := dkwX5_fence_2 ++ dktX5_fence_3
def dkwX5_fence_1 : List UInt8 := [27, 42, 180, 0, 9, 42, 180, 0, 9, 16, 6, 123, 20, 0, 36, 131, 127, 184, 0, 19, 96, 60, 27, 42]
abbrev dktX5_fence_1 : List UInt8 := dkwX5_fence_1 ++ dktX5_fence_2
def dkwX5_fence_0 : List UInt8 := [3, 60, 27, 42, 180, 0, 9, 42, 180, 0, 9, 16, 6, 121, 20, 0, 36, 131, 127, 184, 0, 19, 96, 60]
abbrev dktX5_fence_0 : List UInt8 := dkwX5_fence_0 ++ dktX5_fence_1
theorem dksX5_fence_0 : cX5_fence.data.toList.drop 0 = dktX5_fence_0 := by decide +kernel
theorem dksX5_fence_1 : cX5_fence.data.toList.drop 24 = dktX5_fence_1 := dk_seg dksX5_fence_0 24 rfl rfl
theorem dksX5_fence_2 : cX5_fence.data.toList.drop 48 = dktX5_fence_2 := dk_seg dksX5_fence_1 24 rfl rfl
theorem dksX5_fence_3 : cX5_fence.data.toList.drop 70 = dktX5_fence_3 := dk_seg dksX5_fence_2 22 rfl rfl
theorem dksX5_fence_4 : cX5_fence.data.toList.drop 94 = dktX5_fence_4 := dk_seg dksX5_fence_3 24 rfl rfl
theorem dX5_fence_0 : decode cX5_fence 0 = .ok (.iconst 0, 1) := dk_3 (dk_at dksX5_fence_0 0 rfl rfl)
theorem dX5_fence_1 : decode cX5_fence 1 = .ok (.istore_n 1, 1) := dk_60 (dk_at dksX5_fence_0 1 rfl rfl)
theorem dX5_fence_2 : decode cX5_fence 2 = .ok (.iload_n 1, 1) := dk_27 (dk_at dksX5_fence_0 2 rfl rfl)
theorem dX5_fence_3 : decode cX5_fence 3 = .ok (.aload_n 0, 1) := dk_42 (dk_at dksX5_fence_0 3 rfl rfl)
theorem dX5_fence_4 : decode cX5_fence 4 = .ok (.getfield 9, 3) := dk_180 0 9 (dk_at dksX5_fence_0 4 rfl rfl)
theorem dX5_fence_7 : decode cX5_fence 7 = .ok (.aload_n 0, 1) := dk_42 (dk_at dksX5_fence_0 7 rfl rfl)
theorem dX5_fence_8 : decode cX5_fence 8 = .ok (.getfield 9, 3) := dk_180 0 9 (dk_at dksX5_fence_0 8 rfl rfl)
theorem dX5_fence_11 : decode cX5_fence 11 = .ok (.bipush 6, 2) := dk_16 6 (dk_at dksX5_fence_0 11 rfl rfl)
theorem dX5_fence_13 : decode cX5_fence 13 = .ok (.lshl, 1) := dk_121 (dk_at dksX5_fence_0 13 rfl rfl)
theorem dX5_fence_14 : decode cX5_fence 14 = .ok (.ldc2_w 36, 3) := dk_20 0 36 (dk_at dksX5_fence_0 14 rfl rfl)
theorem dX5_fence_17 : decode cX5_fence 17 = .ok (.lxor, 1) := dk_131 (dk_at dksX5_fence_0 17 rfl rfl)
theorem dX5_fence_18 : decode cX5_fence 18 = .ok (.land, 1) := dk_127 (dk_at dksX5_fence_0 18 rfl rfl)
theorem dX5_fence_19 : decode cX5_fence 19 = .ok (.invokestatic 19, 3) := dk_184 0 19 (dk_at dksX5_fence_0 19 rfl rfl)
theorem dX5_fence_22 : decode cX5_fence 22 = .ok (.iadd, 1) := dk_96 (dk_at dksX5_fence_0 22 rfl rfl)
theorem dX5_fence_23 : decode cX5_fence 23 = .ok (.istore_n 1, 1) := dk_60 (dk_at dksX5_fence_0 23 rfl rfl)
theorem dX5_fence_24 : decode cX5_fence 24 = .ok (.iload_n 1, 1) := dk_27 (dk_at dksX5_fence_1 0 rfl rfl)
theorem dX5_fence_25 : decode cX5_fence 25 = .ok (.aload_n 0, 1) := dk_42 (dk_at dksX5_fence_1 1 rfl rfl)
theorem dX5_fence_26 : decode cX5_fence 26 = .ok (.getfield 9, 3) := dk_180 0 9 (dk_at dksX5_fence_1 2 rfl rfl)
theorem dX5_fence_29 : decode cX5_fence 29 = .ok (.aload_n 0, 1) := dk_42 (dk_at dksX5_fence_1 5 rfl rfl)
theorem dX5_fence_30 : decode cX5_fence 30 = .ok (.getfield 9, 3) := dk_180 0 9 (dk_at dksX5_fence_1 6 rfl rfl)
theorem dX5_fence_33 : decode cX5_fence 33 = .ok (.bipush 6, 2) := dk_16 6 (dk_at dksX5_fence_1 9 rfl rfl)
theorem dX5_fence_35 : decode cX5_fence 35 = .ok (.lshr, 1) := dk_123 (dk_at dksX5_fence_1 11 rfl rfl)
theorem dX5_fence_36 : decode cX5_fence 36 = .ok (.ldc2_w 36, 3) := dk_20 0 36 (dk_at dksX5_fence_1 12 rfl rfl)
theorem dX5_fence_39 : decode cX5_fence 39 = .ok (.lxor, 1) := dk_131 (dk_at dksX5_fence_1 15 rfl rfl)
theorem dX5_fence_40 : decode cX5_fence 40 = .ok (.land, 1) := dk_127 (dk_at dksX5_fence_1 16 rfl rfl)
theorem dX5_fence_41 : decode cX5_fence 41 = .ok (.invokestatic 19, 3) := dk_184 0 19 (dk_at dksX5_fence_1 17 rfl rfl)
theorem dX5_fence_44 : decode cX5_fence 44 = .ok (.iadd, 1) := dk_96 (dk_at dksX5_fence_1 20 rfl rfl)
theorem dX5_fence_45 : decode cX5_fence 45 = .ok (.istore_n 1, 1) := dk_60 (dk_at dksX5_fence_1 21 rfl rfl)
theorem dX5_fence_46 : decode cX5_fence 46 = .ok (.iload_n 1, 1) := dk_27 (dk_at dksX5_fence_1 22 rfl rfl)
theorem dX5_fence_47 : decode cX5_fence 47 = .ok (.aload_n 0, 1) := dk_42 (dk_at dksX5_fence_1 23 rfl rfl)
theorem dX5_fence_48 : decode cX5_fence 48 = .ok (.getfield 9, 3) := dk_180 0 9 (dk_at dksX5_fence_2 0 rfl rfl)
theorem dX5_fence_51 : decode cX5_fence 51 = .ok (.aload_n 0, 1) := dk_42 (dk_at dksX5_fence_2 3 rfl rfl)
theorem dX5_fence_52 : decode cX5_fence 52 = .ok (.getfield 9, 3) := dk_180 0 9 (dk_at dksX5_fence_2 4 rfl rfl)
theorem dX5_fence_55 : decode cX5_fence 55 = .ok (.getstatic 38, 3) := dk_178 0 38 (dk_at dksX5_fence_2 7 rfl rfl)
theorem dX5_fence_58 : decode cX5_fence 58 = .ok (.ldc2_w 36, 3) := dk_20 0 36 (dk_at dksX5_fence_2 10 rfl rfl)
theorem dX5_fence_61 : decode cX5_fence 61 = .ok (.lxor, 1) := dk_131 (dk_at dksX5_fence_2 13 rfl rfl)
theorem dX5_fence_62 : decode cX5_fence 62 = .ok (.land, 1) := dk_127 (dk_at dksX5_fence_2 14 rfl rfl)
theorem dX5_fence_63 : decode cX5_fence 63 = .ok (.iconst 1, 1) := dk_4 (dk_at dksX5_fence_2 15 rfl rfl)
theorem dX5_fence_64 : decode cX5_fence 64 = .ok (.lshl, 1) := dk_121 (dk_at dksX5_fence_2 16 rfl rfl)
theorem dX5_fence_65 : decode cX5_fence 65 = .ok (.ldc2_w 36, 3) := dk_20 0 36 (dk_at dksX5_fence_2 17 rfl rfl)
theorem dX5_fence_68 : decode cX5_fence 68 = .ok (.lxor, 1) := dk_131 (dk_at dksX5_fence_2 20 rfl rfl)
theorem dX5_fence_69 : decode cX5_fence 69 = .ok (.land, 1) := dk_127 (dk_at dksX5_fence_2 21 rfl rfl)
theorem dX5_fence_70 : decode cX5_fence 70 = .ok (.invokestatic 19, 3) := dk_184 0 19 (dk_at dksX5_fence_3 0 rfl rfl)
theorem dX5_fence_73 : decode cX5_fence 73 = .ok (.iadd, 1) := dk_96 (dk_at dksX5_fence_3 3 rfl rfl)
theorem dX5_fence_74 : decode cX5_fence 74 = .ok (.istore_n 1, 1) := dk_60 (dk_at dksX5_fence_3 4 rfl rfl)
theorem dX5_fence_75 : decode cX5_fence 75 = .ok (.iload_n 1, 1) := dk_27 (dk_at dksX5_fence_3 5 rfl rfl)
theorem dX5_fence_76 : decode cX5_fence 76 = .ok (.aload_n 0, 1) := dk_42 (dk_at dksX5_fence_3 6 rfl rfl)
theorem dX5_fence_77 : decode cX5_fence 77 = .ok (.getfield 9, 3) := dk_180 0 9 (dk_at dksX5_fence_3 7 rfl rfl)
theorem dX5_fence_80 : decode cX5_fence 80 = .ok (.aload_n 0, 1) := dk_42 (dk_at dksX5_fence_3 10 rfl rfl)
theorem dX5_fence_81 : decode cX5_fence 81 = .ok (.getfield 9, 3) := dk_180 0 9 (dk_at dksX5_fence_3 11 rfl rfl)
theorem dX5_fence_84 : decode cX5_fence 84 = .ok (.getstatic 41, 3) := dk_178 0 41 (dk_at dksX5_fence_3 14 rfl rfl)
theorem dX5_fence_87 : decode cX5_fence 87 = .ok (.ldc2_w 36, 3) := dk_20 0 36 (dk_at dksX5_fence_3 17 rfl rfl)
theorem dX5_fence_90 : decode cX5_fence 90 = .ok (.lxor, 1) := dk_131 (dk_at dksX5_fence_3 20 rfl rfl)
theorem dX5_fence_91 : decode cX5_fence 91 = .ok (.land, 1) := dk_127 (dk_at dksX5_fence_3 21 rfl rfl)
theorem dX5_fence_92 : decode cX5_fence 92 = .ok (.iconst 1, 1) := dk_4 (dk_at dksX5_fence_3 22 rfl rfl)
theorem dX5_fence_93 : decode cX5_fence 93 = .ok (.lshr, 1) := dk_123 (dk_at dksX5_fence_3 23 rfl rfl)
theorem dX5_fence_94 : decode cX5_fence 94 = .ok (.ldc2_w 36, 3) := dk_20 0 36 (dk_at dksX5_fence_4 0 rfl rfl)
theorem dX5_fence_97 : decode cX5_fence 97 = .ok (.lxor, 1) := dk_131 (dk_at dksX5_fence_4 3 rfl rfl)
theorem dX5_fence_98 : decode cX5_fence 98 = .ok (.land, 1) := dk_127 (dk_at dksX5_fence_4 4 rfl rfl)
theorem dX5_fence_99 : decode cX5_fence 99 = .ok (.invokestatic 19, 3) := dk_184 0 19 (dk_at dksX5_fence_4 5 rfl rfl)
theorem dX5_fence_102 : decode cX5_fence 102 = .ok (.iadd, 1) := dk_96 (dk_at dksX5_fence_4 8 rfl rfl)
theorem dX5_fence_103 : decode cX5_fence 103 = .ok (.istore_n 1, 1) := dk_60 (dk_at dksX5_fence_4 9 rfl rfl)
theorem dX5_fence_104 : decode cX5_fence 104 = .ok (.iload_n 1, 1) := dk_27 (dk_at dksX5_fence_4 10 rfl rfl)
theorem dX5_fence_105 : decode cX5_fence 105 = .ok (.ireturn, 1) := dk_172 (dk_at dksX5_fence_4 11 rfl rfl)
abbrev cX5_tax : ByteArray := prog_8_method_3_code
def yX5_tax : MethodName := ⟨RX5, "tax", "()I"⟩
def dkwX5_tax_1 : List UInt8 := [184, 0, 29, 104, 96, 104, 172]
abbrev dktX5_tax_1 : List UInt8 := dkwX5_tax_1 ++ []
def dkwX5_tax_0 : List UInt8 := [42, 180, 0, 9, 184, 0, 19, 60, 42, 180, 0, 15, 27, 6, 184, 0, 23, 5, 3, 27, 6, 100]
abbrev dktX5_tax_0 : List UInt8 := dkwX5_tax_0 ++ dktX5_tax_1
theorem dksX5_tax_0 : cX5_tax.data.toList.drop 0 = dktX5_tax_0 := by decide +kernel
theorem dksX5_tax_1 : cX5_tax.data.toList.drop 22 = dktX5_tax_1 := dk_seg dksX5_tax_0 22 rfl rfl
theorem dX5_tax_0 : decode cX5_tax 0 = .ok (.aload_n 0, 1) := dk_42 (dk_at dksX5_tax_0 0 rfl rfl)
theorem dX5_tax_1 : decode cX5_tax 1 = .ok (.getfield 9, 3) := dk_180 0 9 (dk_at dksX5_tax_0 1 rfl rfl)
theorem dX5_tax_4 : decode cX5_tax 4 = .ok (.invokestatic 19, 3) := dk_184 0 19 (dk_at dksX5_tax_0 4 rfl rfl)
theorem dX5_tax_7 : decode cX5_tax 7 = .ok (.istore_n 1, 1) := dk_60 (dk_at dksX5_tax_0 7 rfl rfl)
theorem dX5_tax_8 : decode cX5_tax 8 = .ok (.aload_n 0, 1) := dk_42 (dk_at dksX5_tax_0 8 rfl rfl)
theorem dX5_tax_9 : decode cX5_tax 9 = .ok (.getfield 15, 3) := dk_180 0 15 (dk_at dksX5_tax_0 9 rfl rfl)
theorem dX5_tax_12 : decode cX5_tax 12 = .ok (.iload_n 1, 1) := dk_27 (dk_at dksX5_tax_0 12 rfl rfl)
theorem dX5_tax_13 : decode cX5_tax 13 = .ok (.iconst 3, 1) := dk_6 (dk_at dksX5_tax_0 13 rfl rfl)
theorem dX5_tax_14 : decode cX5_tax 14 = .ok (.invokestatic 23, 3) := dk_184 0 23 (dk_at dksX5_tax_0 14 rfl rfl)
theorem dX5_tax_17 : decode cX5_tax 17 = .ok (.iconst 2, 1) := dk_5 (dk_at dksX5_tax_0 17 rfl rfl)
theorem dX5_tax_18 : decode cX5_tax 18 = .ok (.iconst 0, 1) := dk_3 (dk_at dksX5_tax_0 18 rfl rfl)
theorem dX5_tax_19 : decode cX5_tax 19 = .ok (.iload_n 1, 1) := dk_27 (dk_at dksX5_tax_0 19 rfl rfl)
theorem dX5_tax_20 : decode cX5_tax 20 = .ok (.iconst 3, 1) := dk_6 (dk_at dksX5_tax_0 20 rfl rfl)
theorem dX5_tax_21 : decode cX5_tax 21 = .ok (.isub, 1) := dk_100 (dk_at dksX5_tax_0 21 rfl rfl)
theorem dX5_tax_22 : decode cX5_tax 22 = .ok (.invokestatic 29, 3) := dk_184 0 29 (dk_at dksX5_tax_1 0 rfl rfl)
theorem dX5_tax_25 : decode cX5_tax 25 = .ok (.imul, 1) := dk_104 (dk_at dksX5_tax_1 3 rfl rfl)
theorem dX5_tax_26 : decode cX5_tax 26 = .ok (.iadd, 1) := dk_96 (dk_at dksX5_tax_1 4 rfl rfl)
theorem dX5_tax_27 : decode cX5_tax 27 = .ok (.imul, 1) := dk_104 (dk_at dksX5_tax_1 5 rfl rfl)
theorem dX5_tax_28 : decode cX5_tax 28 = .ok (.ireturn, 1) := dk_172 (dk_at dksX5_tax_1 6 rfl rfl)
abbrev cX5_kind : ByteArray := prog_8_method_2_code
def yX5_kind : MethodName := ⟨RX5, "kind", "()I"⟩
theorem dX5_kind_0 : decode cX5_kind 0 = .ok (.iconst 0, 1) := by decide +kernel
theorem dX5_kind_1 : decode cX5_kind 1 = .ok (.ireturn, 1) := by decide +kernel
abbrev cX5_rim : ByteArray := prog_8_method_4_code
def yX5_rim : MethodName := ⟨RX5, "rim", "()J"⟩
def dkwX5_rim_0 : List UInt8 := [42, 180, 0, 9, 184, 0, 32, 42, 180, 0, 9, 20, 0, 36, 131, 127, 173]
abbrev dktX5_rim_0 : List UInt8 := dkwX5_rim_0 ++ []
theorem dksX5_rim_0 : cX5_rim.data.toList.drop 0 = dktX5_rim_0 := by decide +kernel
theorem dX5_rim_0 : decode cX5_rim 0 = .ok (.aload_n 0, 1) := dk_42 (dk_at dksX5_rim_0 0 rfl rfl)
theorem dX5_rim_1 : decode cX5_rim 1 = .ok (.getfield 9, 3) := dk_180 0 9 (dk_at dksX5_rim_0 1 rfl rfl)
theorem dX5_rim_4 : decode cX5_rim 4 = .ok (.invokestatic 32, 3) := dk_184 0 32 (dk_at dksX5_rim_0 4 rfl rfl)
theorem dX5_rim_7 : decode cX5_rim 7 = .ok (.aload_n 0, 1) := dk_42 (dk_at dksX5_rim_0 7 rfl rfl)
theorem dX5_rim_8 : decode cX5_rim 8 = .ok (.getfield 9, 3) := dk_180 0 9 (dk_at dksX5_rim_0 8 rfl rfl)
theorem dX5_rim_11 : decode cX5_rim 11 = .ok (.ldc2_w 36, 3) := dk_20 0 36 (dk_at dksX5_rim_0 11 rfl rfl)
theorem dX5_rim_14 : decode cX5_rim 14 = .ok (.lxor, 1) := dk_131 (dk_at dksX5_rim_0 14 rfl rfl)
theorem dX5_rim_15 : decode cX5_rim 15 = .ok (.land, 1) := dk_127 (dk_at dksX5_rim_0 15 rfl rfl)
theorem dX5_rim_16 : decode cX5_rim 16 = .ok (.lreturn, 1) := dk_173 (dk_at dksX5_rim_0 16 rfl rfl)
abbrev cX5_within : ByteArray := prog_8_method_6_code
def yX5_within : MethodName := ⟨RX5, "within", "()J"⟩
def dkwX5_within_1 : List UInt8 := [20, 0, 36, 131, 127, 173]
abbrev dktX5_within_1 : List UInt8 := dkwX5_within_1 ++ []
def dkwX5_within_0 : List UInt8 := [20, 0, 44, 42, 180, 0, 9, 20, 0, 36, 131, 127, 64, 31, 178, 0, 46, 31, 127, 31, 184, 0, 49]
abbrev dktX5_within_0 : List UInt8 := dkwX5_within_0 ++ dktX5_within_1
theorem dksX5_within_0 : cX5_within.data.toList.drop 0 = dktX5_within_0 := by decide +kernel
theorem dksX5_within_1 : cX5_within.data.toList.drop 23 = dktX5_within_1 := dk_seg dksX5_within_0 23 rfl rfl
theorem dX5_within_0 : decode cX5_within 0 = .ok (.ldc2_w 44, 3) := dk_20 0 44 (dk_at dksX5_within_0 0 rfl rfl)
theorem dX5_within_3 : decode cX5_within 3 = .ok (.aload_n 0, 1) := dk_42 (dk_at dksX5_within_0 3 rfl rfl)
theorem dX5_within_4 : decode cX5_within 4 = .ok (.getfield 9, 3) := dk_180 0 9 (dk_at dksX5_within_0 4 rfl rfl)
theorem dX5_within_7 : decode cX5_within 7 = .ok (.ldc2_w 36, 3) := dk_20 0 36 (dk_at dksX5_within_0 7 rfl rfl)
theorem dX5_within_10 : decode cX5_within 10 = .ok (.lxor, 1) := dk_131 (dk_at dksX5_within_0 10 rfl rfl)
theorem dX5_within_11 : decode cX5_within 11 = .ok (.land, 1) := dk_127 (dk_at dksX5_within_0 11 rfl rfl)
theorem dX5_within_12 : decode cX5_within 12 = .ok (.lstore_n 1, 1) := dk_64 (dk_at dksX5_within_0 12 rfl rfl)
theorem dX5_within_13 : decode cX5_within 13 = .ok (.lload_n 1, 1) := dk_31 (dk_at dksX5_within_0 13 rfl rfl)
theorem dX5_within_14 : decode cX5_within 14 = .ok (.getstatic 46, 3) := dk_178 0 46 (dk_at dksX5_within_0 14 rfl rfl)
theorem dX5_within_17 : decode cX5_within 17 = .ok (.lload_n 1, 1) := dk_31 (dk_at dksX5_within_0 17 rfl rfl)
theorem dX5_within_18 : decode cX5_within 18 = .ok (.land, 1) := dk_127 (dk_at dksX5_within_0 18 rfl rfl)
theorem dX5_within_19 : decode cX5_within 19 = .ok (.lload_n 1, 1) := dk_31 (dk_at dksX5_within_0 19 rfl rfl)
theorem dX5_within_20 : decode cX5_within 20 = .ok (.invokestatic 49, 3) := dk_184 0 49 (dk_at dksX5_within_0 20 rfl rfl)
theorem dX5_within_23 : decode cX5_within 23 = .ok (.ldc2_w 36, 3) := dk_20 0 36 (dk_at dksX5_within_1 0 rfl rfl)
theorem dX5_within_26 : decode cX5_within 26 = .ok (.lxor, 1) := dk_131 (dk_at dksX5_within_1 3 rfl rfl)
theorem dX5_within_27 : decode cX5_within 27 = .ok (.land, 1) := dk_127 (dk_at dksX5_within_1 4 rfl rfl)
theorem dX5_within_28 : decode cX5_within 28 = .ok (.lreturn, 1) := dk_173 (dk_at dksX5_within_1 5 rfl rfl)
abbrev cX5_largest : ByteArray := prog_8_method_7_code
def yX5_largest : MethodName := ⟨RX5, "largest", "()I"⟩
def dkwX5_largest_1 : List UInt8 := [20, 0, 36, 131, 127, 127, 65, 32, 32, 16, 6, 123, 127, 65, 167, 255, 226, 27, 172]
abbrev dktX5_largest_1 : List UInt8 := dkwX5_largest_1 ++ []
def dkwX5_largest_0 : List UInt8 := [3, 60, 42, 180, 0, 9, 65, 32, 9, 148, 153, 0, 30, 132, 1, 1, 32, 32, 4, 123, 178, 0, 38]
abbrev dktX5_largest_0 : List UInt8 := dkwX5_largest_0 ++ dktX5_largest_1
theorem dksX5_largest_0 : cX5_largest.data.toList.drop 0 = dktX5_largest_0 := by decide +kernel
theorem dksX5_largest_1 : cX5_largest.data.toList.drop 23 = dktX5_largest_1 := dk_seg dksX5_largest_0 23 rfl rfl
theorem dX5_largest_0 : decode cX5_largest 0 = .ok (.iconst 0, 1) := dk_3 (dk_at dksX5_largest_0 0 rfl rfl)
theorem dX5_largest_1 : decode cX5_largest 1 = .ok (.istore_n 1, 1) := dk_60 (dk_at dksX5_largest_0 1 rfl rfl)
theorem dX5_largest_2 : decode cX5_largest 2 = .ok (.aload_n 0, 1) := dk_42 (dk_at dksX5_largest_0 2 rfl rfl)
theorem dX5_largest_3 : decode cX5_largest 3 = .ok (.getfield 9, 3) := dk_180 0 9 (dk_at dksX5_largest_0 3 rfl rfl)
theorem dX5_largest_6 : decode cX5_largest 6 = .ok (.lstore_n 2, 1) := dk_65 (dk_at dksX5_largest_0 6 rfl rfl)
theorem dX5_largest_7 : decode cX5_largest 7 = .ok (.lload_n 2, 1) := dk_32 (dk_at dksX5_largest_0 7 rfl rfl)
theorem dX5_largest_8 : decode cX5_largest 8 = .ok (.lconst 0, 1) := dk_9 (dk_at dksX5_largest_0 8 rfl rfl)
theorem dX5_largest_9 : decode cX5_largest 9 = .ok (.lcmp, 1) := dk_148 (dk_at dksX5_largest_0 9 rfl rfl)
theorem dX5_largest_10 : decode cX5_largest 10 = .ok (.ifCond .eq 30, 3) := dk_153 0 30 (dk_at dksX5_largest_0 10 rfl rfl)
theorem dX5_largest_13 : decode cX5_largest 13 = .ok (.iinc 1 1, 3) := dk_132 1 1 (dk_at dksX5_largest_0 13 rfl rfl)
theorem dX5_largest_16 : decode cX5_largest 16 = .ok (.lload_n 2, 1) := dk_32 (dk_at dksX5_largest_0 16 rfl rfl)
theorem dX5_largest_17 : decode cX5_largest 17 = .ok (.lload_n 2, 1) := dk_32 (dk_at dksX5_largest_0 17 rfl rfl)
theorem dX5_largest_18 : decode cX5_largest 18 = .ok (.iconst 1, 1) := dk_4 (dk_at dksX5_largest_0 18 rfl rfl)
theorem dX5_largest_19 : decode cX5_largest 19 = .ok (.lshr, 1) := dk_123 (dk_at dksX5_largest_0 19 rfl rfl)
theorem dX5_largest_20 : decode cX5_largest 20 = .ok (.getstatic 38, 3) := dk_178 0 38 (dk_at dksX5_largest_0 20 rfl rfl)
theorem dX5_largest_23 : decode cX5_largest 23 = .ok (.ldc2_w 36, 3) := dk_20 0 36 (dk_at dksX5_largest_1 0 rfl rfl)
theorem dX5_largest_26 : decode cX5_largest 26 = .ok (.lxor, 1) := dk_131 (dk_at dksX5_largest_1 3 rfl rfl)
theorem dX5_largest_27 : decode cX5_largest 27 = .ok (.land, 1) := dk_127 (dk_at dksX5_largest_1 4 rfl rfl)
theorem dX5_largest_28 : decode cX5_largest 28 = .ok (.land, 1) := dk_127 (dk_at dksX5_largest_1 5 rfl rfl)
theorem dX5_largest_29 : decode cX5_largest 29 = .ok (.lstore_n 2, 1) := dk_65 (dk_at dksX5_largest_1 6 rfl rfl)
theorem dX5_largest_30 : decode cX5_largest 30 = .ok (.lload_n 2, 1) := dk_32 (dk_at dksX5_largest_1 7 rfl rfl)
theorem dX5_largest_31 : decode cX5_largest 31 = .ok (.lload_n 2, 1) := dk_32 (dk_at dksX5_largest_1 8 rfl rfl)
theorem dX5_largest_32 : decode cX5_largest 32 = .ok (.bipush 6, 2) := dk_16 6 (dk_at dksX5_largest_1 9 rfl rfl)
theorem dX5_largest_34 : decode cX5_largest 34 = .ok (.lshr, 1) := dk_123 (dk_at dksX5_largest_1 11 rfl rfl)
theorem dX5_largest_35 : decode cX5_largest 35 = .ok (.land, 1) := dk_127 (dk_at dksX5_largest_1 12 rfl rfl)
theorem dX5_largest_36 : decode cX5_largest 36 = .ok (.lstore_n 2, 1) := dk_65 (dk_at dksX5_largest_1 13 rfl rfl)
theorem dX5_largest_37 : decode cX5_largest 37 = .ok (.goto (-30), 3) := dk_167 255 226 (dk_at dksX5_largest_1 14 rfl rfl)
theorem dX5_largest_40 : decode cX5_largest 40 = .ok (.iload_n 1, 1) := dk_27 (dk_at dksX5_largest_1 17 rfl rfl)
theorem dX5_largest_41 : decode cX5_largest 41 = .ok (.ireturn, 1) := dk_172 (dk_at dksX5_largest_1 18 rfl rfl)
theorem q68 : (Jvm.Cond.initialized "HoleCounty$Pit") ∈ lw_all := lw_g (lw_at lw_m1 15 rfl) rfl
theorem q190 : (Jvm.Cond.selects "HoleCounty$Pit" ({ cls := "java/lang/Object", name := "getClass", desc := "()Ljava/lang/Class;" } : Jvm.MethodName) ({ cls := "java/lang/Object", name := "getClass", desc := "()Ljava/lang/Class;" } : Jvm.MethodName)) ∈ lw_all := lw_g (lw_at lw_m1 137 rfl) rfl
theorem q295 : (Jvm.Cond.instanceMethod ({ cls := "HoleCounty$Pit", name := "<init>", desc := "(JI)V" } : Jvm.MethodName)) ∈ lw_all := lw_g (lw_at lw_m2 2 rfl) rfl
theorem q296 : (Jvm.Cond.code ({ cls := "HoleCounty$Pit", name := "<init>", desc := "(JI)V" } : Jvm.MethodName) prog_8_method_1_code (4 : Nat) (Option.none : Option Jvm.ClassFile.FieldType)) ∈ lw_all := lw_g (lw_at lw_m2 3 rfl) rfl
theorem q297 : (Jvm.Cond.methodLink "HoleCounty$Pit" (3 : Nat) ({ cls := "java/lang/Object", name := "<init>", desc := "()V" } : Jvm.MethodName)) ∈ lw_all := lw_g (lw_at lw_m2 4 rfl) rfl
theorem q298 : (Jvm.Cond.fieldLink "HoleCounty$Pit" (9 : Nat) "HoleCounty$Pit" "cells" "J") ∈ lw_all := lw_g (lw_at lw_m2 5 rfl) rfl
theorem q302 : (Jvm.Cond.fieldLink "HoleCounty$Pit" (15 : Nat) "HoleCounty$Pit" "rate" "I") ∈ lw_all := lw_g (lw_at lw_m2 9 rfl) rfl
theorem q304 : (Jvm.Cond.soleField "HoleCounty$Pit" "cells") ∈ lw_all := lw_g (lw_at lw_m2 11 rfl) rfl
theorem q306 : (Jvm.Cond.soleField "HoleCounty$Pit" "rate") ∈ lw_all := lw_g (lw_at lw_m2 13 rfl) rfl
theorem q346 : (Jvm.Cond.instantiable "HoleCounty$Pit" (2 : Nat)) ∈ lw_all := lw_g (lw_at lw_m2 53 rfl) rfl
theorem q348 : (Jvm.Cond.laysFinal "HoleCounty$Pit" "HoleCounty$Pit" "cells" "J") ∈ lw_all := lw_g (lw_at lw_m2 55 rfl) rfl
theorem q349 : (Jvm.Cond.laysFinal "HoleCounty$Pit" "HoleCounty$Pit" "rate" "I") ∈ lw_all := lw_g (lw_at lw_m2 56 rfl) rfl
theorem q350 : (Jvm.Cond.superclass "HoleCounty$Pit" "java/lang/Object") ∈ lw_all := lw_g (lw_at lw_m2 57 rfl) rfl
theorem q406 : (Jvm.Cond.instanceMethod ({ cls := "HoleCounty$Pit", name := "tax", desc := "()I" } : Jvm.MethodName)) ∈ lw_all := lw_g (lw_at lw_m2 113 rfl) rfl
theorem q407 : (Jvm.Cond.selects "HoleCounty$Pit" ({ cls := "HoleCounty$Pit", name := "tax", desc := "()I" } : Jvm.MethodName) ({ cls := "HoleCounty$Pit", name := "tax", desc := "()I" } : Jvm.MethodName)) ∈ lw_all := lw_g (lw_at lw_m2 114 rfl) rfl
theorem q408 : (Jvm.Cond.sameMethod "HoleCounty$Pit" "HoleCounty$Pit" "tax" "()I") ∈ lw_all := lw_g (lw_at lw_m2 115 rfl) rfl
theorem q428 : (Jvm.Cond.declares ({ cls := "HoleCounty$Pit", name := "fence", desc := "()I" } : Jvm.MethodName)) ∈ lw_tbl := lw_at lw_m2 135 rfl
theorem q430 : (Jvm.Cond.instanceMethod ({ cls := "HoleCounty$Pit", name := "fence", desc := "()I" } : Jvm.MethodName)) ∈ lw_all := lw_g (lw_at lw_m2 137 rfl) rfl
theorem q431 : (Jvm.Cond.code ({ cls := "HoleCounty$Pit", name := "fence", desc := "()I" } : Jvm.MethodName) prog_8_method_5_code (2 : Nat) (Option.some Jvm.ClassFile.FieldType.int)) ∈ lw_all := lw_g (lw_at lw_m2 138 rfl) rfl
theorem q432 : (Jvm.Cond.constantLong "HoleCounty$Pit" (36 : Nat) (-1 : Int64)) ∈ lw_all := lw_g (lw_at lw_m2 139 rfl) rfl
theorem q433 : (Jvm.Cond.methodLinkNest "HoleCounty$Pit" (19 : Nat) ({ cls := "HoleCounty", name := "size", desc := "(J)I" } : Jvm.MethodName) "HoleCounty") ∈ lw_tbl := lw_at lw_m2 140 rfl
theorem q434 : (Jvm.Cond.fieldLinkNest "HoleCounty$Pit" (38 : Nat) "HoleCounty" "LAST" "J" "HoleCounty") ∈ lw_tbl := lw_at lw_m2 141 rfl
theorem q435 : (Jvm.Cond.fieldLinkNest "HoleCounty$Pit" (41 : Nat) "HoleCounty" "FIRST" "J" "HoleCounty") ∈ lw_tbl := lw_at lw_m2 142 rfl
theorem q437 : (Jvm.Cond.code ({ cls := "HoleCounty$Pit", name := "tax", desc := "()I" } : Jvm.MethodName) prog_8_method_3_code (2 : Nat) (Option.some Jvm.ClassFile.FieldType.int)) ∈ lw_all := lw_g (lw_at lw_m2 144 rfl) rfl
theorem q438 : (Jvm.Cond.methodLink "HoleCounty$Pit" (23 : Nat) ({ cls := "java/lang/Math", name := "min", desc := "(II)I" } : Jvm.MethodName)) ∈ lw_all := lw_g (lw_at lw_m2 145 rfl) rfl
theorem q439 : (Jvm.Cond.methodLink "HoleCounty$Pit" (29 : Nat) ({ cls := "java/lang/Math", name := "max", desc := "(II)I" } : Jvm.MethodName)) ∈ lw_all := lw_g (lw_at lw_m2 146 rfl) rfl
theorem q446 : (Jvm.Cond.instanceMethod ({ cls := "HoleCounty$Pit", name := "kind", desc := "()I" } : Jvm.MethodName)) ∈ lw_all := lw_g (lw_at lw_m2 153 rfl) rfl
theorem q447 : (Jvm.Cond.selects "HoleCounty$Pit" ({ cls := "HoleCounty$Pit", name := "kind", desc := "()I" } : Jvm.MethodName) ({ cls := "HoleCounty$Pit", name := "kind", desc := "()I" } : Jvm.MethodName)) ∈ lw_all := lw_g (lw_at lw_m2 154 rfl) rfl
theorem q448 : (Jvm.Cond.sameMethod "HoleCounty$Pit" "HoleCounty$Pit" "kind" "()I") ∈ lw_all := lw_g (lw_at lw_m2 155 rfl) rfl
theorem q465 : (Jvm.Cond.code ({ cls := "HoleCounty$Pit", name := "kind", desc := "()I" } : Jvm.MethodName) prog_8_method_2_code (1 : Nat) (Option.some Jvm.ClassFile.FieldType.int)) ∈ lw_all := lw_g (lw_at lw_m2 172 rfl) rfl
theorem q469 : (Jvm.Cond.instanceMethod ({ cls := "HoleCounty$Pit", name := "rim", desc := "()J" } : Jvm.MethodName)) ∈ lw_all := lw_g (lw_at lw_m2 176 rfl) rfl
theorem q470 : (Jvm.Cond.selects "HoleCounty$Pit" ({ cls := "HoleCounty$Pit", name := "rim", desc := "()J" } : Jvm.MethodName) ({ cls := "HoleCounty$Pit", name := "rim", desc := "()J" } : Jvm.MethodName)) ∈ lw_all := lw_g (lw_at lw_m2 177 rfl) rfl
theorem q471 : (Jvm.Cond.sameMethod "HoleCounty$Pit" "HoleCounty$Pit" "rim" "()J") ∈ lw_all := lw_g (lw_at lw_m2 178 rfl) rfl
theorem q476 : (Jvm.Cond.code ({ cls := "HoleCounty$Pit", name := "rim", desc := "()J" } : Jvm.MethodName) prog_8_method_4_code (1 : Nat) (Option.some Jvm.ClassFile.FieldType.long)) ∈ lw_all := lw_g (lw_at lw_m2 183 rfl) rfl
theorem q477 : (Jvm.Cond.methodLinkNest "HoleCounty$Pit" (32 : Nat) ({ cls := "HoleCounty", name := "beside", desc := "(J)J" } : Jvm.MethodName) "HoleCounty") ∈ lw_tbl := lw_at lw_m2 184 rfl
theorem q495 : (Jvm.Cond.instanceMethod ({ cls := "HoleCounty$Pit", name := "within", desc := "()J" } : Jvm.MethodName)) ∈ lw_all := lw_g (lw_at lw_m2 202 rfl) rfl
theorem q496 : (Jvm.Cond.selects "HoleCounty$Pit" ({ cls := "HoleCounty$Pit", name := "within", desc := "()J" } : Jvm.MethodName) ({ cls := "HoleCounty$Pit", name := "within", desc := "()J" } : Jvm.MethodName)) ∈ lw_all := lw_g (lw_at lw_m2 203 rfl) rfl
theorem q497 : (Jvm.Cond.sameMethod "HoleCounty$Pit" "HoleCounty$Pit" "within" "()J") ∈ lw_all := lw_g (lw_at lw_m2 204 rfl) rfl
theorem q502 : (Jvm.Cond.code ({ cls := "HoleCounty$Pit", name := "within", desc := "()J" } : Jvm.MethodName) prog_8_method_6_code (3 : Nat) (Option.some Jvm.ClassFile.FieldType.long)) ∈ lw_all := lw_g (lw_at lw_m2 209 rfl) rfl
theorem q503 : (Jvm.Cond.constantLong "HoleCounty$Pit" (44 : Nat) (68719476735 : Int64)) ∈ lw_all := lw_g (lw_at lw_m2 210 rfl) rfl
theorem q504 : (Jvm.Cond.fieldLinkNest "HoleCounty$Pit" (46 : Nat) "HoleCounty" "EDGE" "J" "HoleCounty") ∈ lw_tbl := lw_at lw_m2 211 rfl
theorem q505 : (Jvm.Cond.methodLinkNest "HoleCounty$Pit" (49 : Nat) ({ cls := "HoleCounty", name := "spread", desc := "(JJ)J" } : Jvm.MethodName) "HoleCounty") ∈ lw_tbl := lw_at lw_m2 212 rfl
theorem q507 : (Jvm.Cond.instanceMethod ({ cls := "HoleCounty$Pit", name := "largest", desc := "()I" } : Jvm.MethodName)) ∈ lw_all := lw_g (lw_at lw_m2 214 rfl) rfl
theorem q508 : (Jvm.Cond.selects "HoleCounty$Pit" ({ cls := "HoleCounty$Pit", name := "largest", desc := "()I" } : Jvm.MethodName) ({ cls := "HoleCounty$Pit", name := "largest", desc := "()I" } : Jvm.MethodName)) ∈ lw_all := lw_g (lw_at lw_m2 215 rfl) rfl
theorem q509 : (Jvm.Cond.sameMethod "HoleCounty$Pit" "HoleCounty$Pit" "largest" "()I") ∈ lw_all := lw_g (lw_at lw_m2 216 rfl) rfl
theorem q514 : (Jvm.Cond.code ({ cls := "HoleCounty$Pit", name := "largest", desc := "()I" } : Jvm.MethodName) prog_8_method_7_code (4 : Nat) (Option.some Jvm.ClassFile.FieldType.int)) ∈ lw_all := lw_g (lw_at lw_m2 221 rfl) rfl
theorem q1607 : (Jvm.Cond.sameMethod "HoleCounty$Pit" "HoleCounty$Pit" "fence" "()I") ∈ lw_all := lw_g (lw_at lw_m7 114 rfl) rfl
theorem q1611 : (Jvm.Cond.selects "HoleCounty$Pit" ({ cls := "HoleCounty$Pit", name := "fence", desc := "()I" } : Jvm.MethodName) ({ cls := "HoleCounty$Pit", name := "fence", desc := "()I" } : Jvm.MethodName)) ∈ lw_all := lw_g (lw_at lw_m7 118 rfl) rfl
theorem q1629 : (Jvm.Cond.castable "HoleCounty$Pit" "java/lang/Object") ∈ lw_tbl := lw_at lw_m7 136 rfl
theorem in_X5 : ∀ w ∈ wsX50, w ∈ lw_all := lw_in wsX50 [348, 349] (by decide +kernel) (by decide +kernel)
/-! HoleCounty$Shaft -/
set_option maxRecDepth 100000
def RX6 : String := "HoleCounty$Shaft"
def TX6 : u_T := fun k => match k with
  | 0 => ("HoleCounty$Pit", "cells", "J", true)
  | _ => ("HoleCounty$Pit", "rate", "I", true)
def tyX6 : Nat → FieldType := fun k => match k with
  | 0 => .long
  | _ => .int
abbrev wsX60 : List Cond := u_ws RX6 TX6 2
theorem nmX6 : ∀ a, a < 2 → ∀ b, b < 2 → a ≠ b → (TX6 a).2.1 ≠ (TX6 b).2.1 := by decide +kernel
theorem tyX6_ok : ∀ k, k < 2 → parseFieldDescriptor (TX6 k).2.2.1 = some (tyX6 k) := by decide +kernel
abbrev cX6_init : ByteArray := prog_10_method_1_code
def yX6_init : MethodName := ⟨RX6, "<init>", "(JI)V"⟩
def dkwX6_init_0 : List UInt8 := [42, 31, 29, 183, 0, 1, 177]
abbrev dktX6_init_0 : List UInt8 := dkwX6_init_0 ++ []
theorem dksX6_init_0 : cX6_init.data.toList.drop 0 = dktX6_init_0 := by decide +kernel
theorem dX6_init_0 : decode cX6_init 0 = .ok (.aload_n 0, 1) := dk_42 (dk_at dksX6_init_0 0 rfl rfl)
theorem dX6_init_1 : decode cX6_init 1 = .ok (.lload_n 1, 1) := dk_31 (dk_at dksX6_init_0 1 rfl rfl)
theorem dX6_init_2 : decode cX6_init 2 = .ok (.iload_n 3, 1) := dk_29 (dk_at dksX6_init_0 2 rfl rfl)
theorem dX6_init_3 : decode cX6_init 3 = .ok (.invokespecial 1, 3) := dk_183 0 1 (dk_at dksX6_init_0 3 rfl rfl)
theorem dX6_init_6 : decode cX6_init 6 = .ok (.return_, 1) := dk_177 (dk_at dksX6_init_0 6 rfl rfl)
abbrev cX6_tax : ByteArray := prog_10_method_3_code
def yX6_tax : MethodName := ⟨RX6, "tax", "()I"⟩
def dkwX6_tax_0 : List UInt8 := [42, 183, 0, 11, 16, 10, 96, 172]
abbrev dktX6_tax_0 : List UInt8 := dkwX6_tax_0 ++ []
theorem dksX6_tax_0 : cX6_tax.data.toList.drop 0 = dktX6_tax_0 := by decide +kernel
theorem dX6_tax_0 : decode cX6_tax 0 = .ok (.aload_n 0, 1) := dk_42 (dk_at dksX6_tax_0 0 rfl rfl)
theorem dX6_tax_1 : decode cX6_tax 1 = .ok (.invokespecial 11, 3) := dk_183 0 11 (dk_at dksX6_tax_0 1 rfl rfl)
theorem dX6_tax_4 : decode cX6_tax 4 = .ok (.bipush 10, 2) := dk_16 10 (dk_at dksX6_tax_0 4 rfl rfl)
theorem dX6_tax_6 : decode cX6_tax 6 = .ok (.iadd, 1) := dk_96 (dk_at dksX6_tax_0 6 rfl rfl)
theorem dX6_tax_7 : decode cX6_tax 7 = .ok (.ireturn, 1) := dk_172 (dk_at dksX6_tax_0 7 rfl rfl)
abbrev cX6_kind : ByteArray := prog_10_method_2_code
def yX6_kind : MethodName := ⟨RX6, "kind", "()I"⟩
def dkwX6_kind_0 : List UInt8 := [42, 183, 0, 7, 5, 96, 172]
abbrev dktX6_kind_0 : List UInt8 := dkwX6_kind_0 ++ []
theorem dksX6_kind_0 : cX6_kind.data.toList.drop 0 = dktX6_kind_0 := by decide +kernel
theorem dX6_kind_0 : decode cX6_kind 0 = .ok (.aload_n 0, 1) := dk_42 (dk_at dksX6_kind_0 0 rfl rfl)
theorem dX6_kind_1 : decode cX6_kind 1 = .ok (.invokespecial 7, 3) := dk_183 0 7 (dk_at dksX6_kind_0 1 rfl rfl)
theorem dX6_kind_4 : decode cX6_kind 4 = .ok (.iconst 2, 1) := dk_5 (dk_at dksX6_kind_0 4 rfl rfl)
theorem dX6_kind_5 : decode cX6_kind 5 = .ok (.iadd, 1) := dk_96 (dk_at dksX6_kind_0 5 rfl rfl)
theorem dX6_kind_6 : decode cX6_kind 6 = .ok (.ireturn, 1) := dk_172 (dk_at dksX6_kind_0 6 rfl rfl)
theorem q69 : (Jvm.Cond.initialized "HoleCounty$Shaft") ∈ lw_all := lw_g (lw_at lw_m1 16 rfl) rfl
theorem q192 : (Jvm.Cond.selects "HoleCounty$Shaft" ({ cls := "java/lang/Object", name := "getClass", desc := "()Ljava/lang/Class;" } : Jvm.MethodName) ({ cls := "java/lang/Object", name := "getClass", desc := "()Ljava/lang/Class;" } : Jvm.MethodName)) ∈ lw_all := lw_g (lw_at lw_m1 139 rfl) rfl
theorem q292 : (Jvm.Cond.instanceMethod ({ cls := "HoleCounty$Shaft", name := "<init>", desc := "(JI)V" } : Jvm.MethodName)) ∈ lw_all := lw_g (lw_at lw_m1 239 rfl) rfl
theorem q293 : (Jvm.Cond.code ({ cls := "HoleCounty$Shaft", name := "<init>", desc := "(JI)V" } : Jvm.MethodName) prog_10_method_1_code (4 : Nat) (Option.none : Option Jvm.ClassFile.FieldType)) ∈ lw_all := lw_g (lw_at lw_m2 0 rfl) rfl
theorem q294 : (Jvm.Cond.methodLink "HoleCounty$Shaft" (1 : Nat) ({ cls := "HoleCounty$Pit", name := "<init>", desc := "(JI)V" } : Jvm.MethodName)) ∈ lw_all := lw_g (lw_at lw_m2 1 rfl) rfl
theorem q340 : (Jvm.Cond.instantiable "HoleCounty$Shaft" (2 : Nat)) ∈ lw_all := lw_g (lw_at lw_m2 47 rfl) rfl
theorem q342 : (Jvm.Cond.laysFinal "HoleCounty$Shaft" "HoleCounty$Pit" "cells" "J") ∈ lw_all := lw_g (lw_at lw_m2 49 rfl) rfl
theorem q343 : (Jvm.Cond.laysFinal "HoleCounty$Shaft" "HoleCounty$Pit" "rate" "I") ∈ lw_all := lw_g (lw_at lw_m2 50 rfl) rfl
theorem q344 : (Jvm.Cond.superclass "HoleCounty$Shaft" "HoleCounty$Pit") ∈ lw_all := lw_g (lw_at lw_m2 51 rfl) rfl
theorem q413 : (Jvm.Cond.instanceMethod ({ cls := "HoleCounty$Shaft", name := "tax", desc := "()I" } : Jvm.MethodName)) ∈ lw_all := lw_g (lw_at lw_m2 120 rfl) rfl
theorem q414 : (Jvm.Cond.code ({ cls := "HoleCounty$Shaft", name := "tax", desc := "()I" } : Jvm.MethodName) prog_10_method_3_code (1 : Nat) (Option.some Jvm.ClassFile.FieldType.int)) ∈ lw_all := lw_g (lw_at lw_m2 121 rfl) rfl
theorem q415 : (Jvm.Cond.methodLink "HoleCounty$Shaft" (11 : Nat) ({ cls := "HoleCounty$Pit", name := "tax", desc := "()I" } : Jvm.MethodName)) ∈ lw_all := lw_g (lw_at lw_m2 122 rfl) rfl
theorem q436 : (Jvm.Cond.selects "HoleCounty$Shaft" ({ cls := "HoleCounty$Pit", name := "tax", desc := "()I" } : Jvm.MethodName) ({ cls := "HoleCounty$Shaft", name := "tax", desc := "()I" } : Jvm.MethodName)) ∈ lw_all := lw_g (lw_at lw_m2 143 rfl) rfl
theorem q453 : (Jvm.Cond.instanceMethod ({ cls := "HoleCounty$Shaft", name := "kind", desc := "()I" } : Jvm.MethodName)) ∈ lw_all := lw_g (lw_at lw_m2 160 rfl) rfl
theorem q454 : (Jvm.Cond.code ({ cls := "HoleCounty$Shaft", name := "kind", desc := "()I" } : Jvm.MethodName) prog_10_method_2_code (1 : Nat) (Option.some Jvm.ClassFile.FieldType.int)) ∈ lw_all := lw_g (lw_at lw_m2 161 rfl) rfl
theorem q455 : (Jvm.Cond.methodLink "HoleCounty$Shaft" (7 : Nat) ({ cls := "HoleCounty$Pit", name := "kind", desc := "()I" } : Jvm.MethodName)) ∈ lw_all := lw_g (lw_at lw_m2 162 rfl) rfl
theorem q464 : (Jvm.Cond.selects "HoleCounty$Shaft" ({ cls := "HoleCounty$Pit", name := "kind", desc := "()I" } : Jvm.MethodName) ({ cls := "HoleCounty$Shaft", name := "kind", desc := "()I" } : Jvm.MethodName)) ∈ lw_all := lw_g (lw_at lw_m2 171 rfl) rfl
theorem q475 : (Jvm.Cond.selects "HoleCounty$Shaft" ({ cls := "HoleCounty$Pit", name := "rim", desc := "()J" } : Jvm.MethodName) ({ cls := "HoleCounty$Pit", name := "rim", desc := "()J" } : Jvm.MethodName)) ∈ lw_all := lw_g (lw_at lw_m2 182 rfl) rfl
theorem q501 : (Jvm.Cond.selects "HoleCounty$Shaft" ({ cls := "HoleCounty$Pit", name := "within", desc := "()J" } : Jvm.MethodName) ({ cls := "HoleCounty$Pit", name := "within", desc := "()J" } : Jvm.MethodName)) ∈ lw_all := lw_g (lw_at lw_m2 208 rfl) rfl
theorem q513 : (Jvm.Cond.selects "HoleCounty$Shaft" ({ cls := "HoleCounty$Pit", name := "largest", desc := "()I" } : Jvm.MethodName) ({ cls := "HoleCounty$Pit", name := "largest", desc := "()I" } : Jvm.MethodName)) ∈ lw_all := lw_g (lw_at lw_m2 220 rfl) rfl
theorem q1603 : (Jvm.Cond.sameMethod "HoleCounty$Shaft" "HoleCounty$Shaft" "tax" "()I") ∈ lw_all := lw_g (lw_at lw_m7 110 rfl) rfl
theorem q1605 : (Jvm.Cond.sameMethod "HoleCounty$Shaft" "HoleCounty$Shaft" "kind" "()I") ∈ lw_all := lw_g (lw_at lw_m7 112 rfl) rfl
theorem q1612 : (Jvm.Cond.selects "HoleCounty$Shaft" ({ cls := "HoleCounty$Pit", name := "fence", desc := "()I" } : Jvm.MethodName) ({ cls := "HoleCounty$Pit", name := "fence", desc := "()I" } : Jvm.MethodName)) ∈ lw_all := lw_g (lw_at lw_m7 119 rfl) rfl
theorem q1618 : (Jvm.Cond.castable "HoleCounty$Shaft" "HoleCounty$Pit") ∈ lw_tbl := lw_at lw_m7 125 rfl
theorem q1628 : (Jvm.Cond.castable "HoleCounty$Shaft" "java/lang/Object") ∈ lw_tbl := lw_at lw_m7 135 rfl
theorem in_X6 : ∀ w ∈ wsX60, w ∈ lw_all := lw_in wsX60 [342, 343] (by decide +kernel) (by decide +kernel)
/-! HoleCounty$Absence -/
set_option maxRecDepth 100000
def RX7 : String := "HoleCounty$Absence"
def TX7 : u_T := fun k => match k with
  | 0 => ("HoleCounty$Pit", "cells", "J", true)
  | _ => ("HoleCounty$Pit", "rate", "I", true)
def tyX7 : Nat → FieldType := fun k => match k with
  | 0 => .long
  | _ => .int
abbrev wsX70 : List Cond := u_ws RX7 TX7 2
theorem nmX7 : ∀ a, a < 2 → ∀ b, b < 2 → a ≠ b → (TX7 a).2.1 ≠ (TX7 b).2.1 := by decide +kernel
theorem tyX7_ok : ∀ k, k < 2 → parseFieldDescriptor (TX7 k).2.2.1 = some (tyX7 k) := by decide +kernel
abbrev cX7_init : ByteArray := prog_2_method_1_code
def yX7_init : MethodName := ⟨RX7, "<init>", "(JI)V"⟩
def dkwX7_init_0 : List UInt8 := [42, 31, 29, 183, 0, 1, 177]
abbrev dktX7_init_0 : List UInt8 := dkwX7_init_0 ++ []
theorem dksX7_init_0 : cX7_init.data.toList.drop 0 = dktX7_init_0 := by decide +kernel
theorem dX7_init_0 : decode cX7_init 0 = .ok (.aload_n 0, 1) := dk_42 (dk_at dksX7_init_0 0 rfl rfl)
theorem dX7_init_1 : decode cX7_init 1 = .ok (.lload_n 1, 1) := dk_31 (dk_at dksX7_init_0 1 rfl rfl)
theorem dX7_init_2 : decode cX7_init 2 = .ok (.iload_n 3, 1) := dk_29 (dk_at dksX7_init_0 2 rfl rfl)
theorem dX7_init_3 : decode cX7_init 3 = .ok (.invokespecial 1, 3) := dk_183 0 1 (dk_at dksX7_init_0 3 rfl rfl)
theorem dX7_init_6 : decode cX7_init 6 = .ok (.return_, 1) := dk_177 (dk_at dksX7_init_0 6 rfl rfl)
abbrev cX7_tax : ByteArray := prog_2_method_3_code
def yX7_tax : MethodName := ⟨RX7, "tax", "()I"⟩
def dkwX7_tax_0 : List UInt8 := [3, 42, 183, 0, 11, 6, 42, 180, 0, 14, 184, 0, 20, 104, 100, 184, 0, 26, 172]
abbrev dktX7_tax_0 : List UInt8 := dkwX7_tax_0 ++ []
theorem dksX7_tax_0 : cX7_tax.data.toList.drop 0 = dktX7_tax_0 := by decide +kernel
theorem dX7_tax_0 : decode cX7_tax 0 = .ok (.iconst 0, 1) := dk_3 (dk_at dksX7_tax_0 0 rfl rfl)
theorem dX7_tax_1 : decode cX7_tax 1 = .ok (.aload_n 0, 1) := dk_42 (dk_at dksX7_tax_0 1 rfl rfl)
theorem dX7_tax_2 : decode cX7_tax 2 = .ok (.invokespecial 11, 3) := dk_183 0 11 (dk_at dksX7_tax_0 2 rfl rfl)
theorem dX7_tax_5 : decode cX7_tax 5 = .ok (.iconst 3, 1) := dk_6 (dk_at dksX7_tax_0 5 rfl rfl)
theorem dX7_tax_6 : decode cX7_tax 6 = .ok (.aload_n 0, 1) := dk_42 (dk_at dksX7_tax_0 6 rfl rfl)
theorem dX7_tax_7 : decode cX7_tax 7 = .ok (.getfield 14, 3) := dk_180 0 14 (dk_at dksX7_tax_0 7 rfl rfl)
theorem dX7_tax_10 : decode cX7_tax 10 = .ok (.invokestatic 20, 3) := dk_184 0 20 (dk_at dksX7_tax_0 10 rfl rfl)
theorem dX7_tax_13 : decode cX7_tax 13 = .ok (.imul, 1) := dk_104 (dk_at dksX7_tax_0 13 rfl rfl)
theorem dX7_tax_14 : decode cX7_tax 14 = .ok (.isub, 1) := dk_100 (dk_at dksX7_tax_0 14 rfl rfl)
theorem dX7_tax_15 : decode cX7_tax 15 = .ok (.invokestatic 26, 3) := dk_184 0 26 (dk_at dksX7_tax_0 15 rfl rfl)
theorem dX7_tax_18 : decode cX7_tax 18 = .ok (.ireturn, 1) := dk_172 (dk_at dksX7_tax_0 18 rfl rfl)
abbrev cX7_kind : ByteArray := prog_2_method_2_code
def yX7_kind : MethodName := ⟨RX7, "kind", "()I"⟩
def dkwX7_kind_0 : List UInt8 := [42, 183, 0, 7, 5, 96, 172]
abbrev dktX7_kind_0 : List UInt8 := dkwX7_kind_0 ++ []
theorem dksX7_kind_0 : cX7_kind.data.toList.drop 0 = dktX7_kind_0 := by decide +kernel
theorem dX7_kind_0 : decode cX7_kind 0 = .ok (.aload_n 0, 1) := dk_42 (dk_at dksX7_kind_0 0 rfl rfl)
theorem dX7_kind_1 : decode cX7_kind 1 = .ok (.invokespecial 7, 3) := dk_183 0 7 (dk_at dksX7_kind_0 1 rfl rfl)
theorem dX7_kind_4 : decode cX7_kind 4 = .ok (.iconst 2, 1) := dk_5 (dk_at dksX7_kind_0 4 rfl rfl)
theorem dX7_kind_5 : decode cX7_kind 5 = .ok (.iadd, 1) := dk_96 (dk_at dksX7_kind_0 5 rfl rfl)
theorem dX7_kind_6 : decode cX7_kind 6 = .ok (.ireturn, 1) := dk_172 (dk_at dksX7_kind_0 6 rfl rfl)
theorem q70 : (Jvm.Cond.initialized "HoleCounty$Absence") ∈ lw_all := lw_g (lw_at lw_m1 17 rfl) rfl
theorem q184 : (Jvm.Cond.selects "HoleCounty$Absence" ({ cls := "java/lang/Object", name := "getClass", desc := "()Ljava/lang/Class;" } : Jvm.MethodName) ({ cls := "java/lang/Object", name := "getClass", desc := "()Ljava/lang/Class;" } : Jvm.MethodName)) ∈ lw_all := lw_g (lw_at lw_m1 131 rfl) rfl
theorem q287 : (Jvm.Cond.instantiable "HoleCounty$Absence" (2 : Nat)) ∈ lw_all := lw_g (lw_at lw_m1 234 rfl) rfl
theorem q289 : (Jvm.Cond.instanceMethod ({ cls := "HoleCounty$Absence", name := "<init>", desc := "(JI)V" } : Jvm.MethodName)) ∈ lw_all := lw_g (lw_at lw_m1 236 rfl) rfl
theorem q290 : (Jvm.Cond.code ({ cls := "HoleCounty$Absence", name := "<init>", desc := "(JI)V" } : Jvm.MethodName) prog_2_method_1_code (4 : Nat) (Option.none : Option Jvm.ClassFile.FieldType)) ∈ lw_all := lw_g (lw_at lw_m1 237 rfl) rfl
theorem q291 : (Jvm.Cond.methodLink "HoleCounty$Absence" (1 : Nat) ({ cls := "HoleCounty$Shaft", name := "<init>", desc := "(JI)V" } : Jvm.MethodName)) ∈ lw_all := lw_g (lw_at lw_m1 238 rfl) rfl
theorem q299 : (Jvm.Cond.fieldLink "HoleCounty$Absence" (14 : Nat) "HoleCounty$Absence" "cells" "J") ∈ lw_all := lw_g (lw_at lw_m2 6 rfl) rfl
theorem q300 : (Jvm.Cond.sameField "HoleCounty$Absence" "HoleCounty$Pit" "cells" "J") ∈ lw_all := lw_g (lw_at lw_m2 7 rfl) rfl
theorem q303 : (Jvm.Cond.laysFinal "HoleCounty$Absence" "HoleCounty$Pit" "cells" "J") ∈ lw_all := lw_g (lw_at lw_m2 10 rfl) rfl
theorem q305 : (Jvm.Cond.laysFinal "HoleCounty$Absence" "HoleCounty$Pit" "rate" "I") ∈ lw_all := lw_g (lw_at lw_m2 12 rfl) rfl
theorem q307 : (Jvm.Cond.superclass "HoleCounty$Absence" "HoleCounty$Shaft") ∈ lw_all := lw_g (lw_at lw_m2 14 rfl) rfl
theorem q409 : (Jvm.Cond.selects "HoleCounty$Absence" ({ cls := "HoleCounty$Pit", name := "tax", desc := "()I" } : Jvm.MethodName) ({ cls := "HoleCounty$Absence", name := "tax", desc := "()I" } : Jvm.MethodName)) ∈ lw_all := lw_g (lw_at lw_m2 116 rfl) rfl
theorem q410 : (Jvm.Cond.instanceMethod ({ cls := "HoleCounty$Absence", name := "tax", desc := "()I" } : Jvm.MethodName)) ∈ lw_all := lw_g (lw_at lw_m2 117 rfl) rfl
theorem q411 : (Jvm.Cond.code ({ cls := "HoleCounty$Absence", name := "tax", desc := "()I" } : Jvm.MethodName) prog_2_method_3_code (1 : Nat) (Option.some Jvm.ClassFile.FieldType.int)) ∈ lw_all := lw_g (lw_at lw_m2 118 rfl) rfl
theorem q412 : (Jvm.Cond.methodLink "HoleCounty$Absence" (11 : Nat) ({ cls := "HoleCounty$Shaft", name := "tax", desc := "()I" } : Jvm.MethodName)) ∈ lw_all := lw_g (lw_at lw_m2 119 rfl) rfl
theorem q416 : (Jvm.Cond.methodLinkNest "HoleCounty$Absence" (20 : Nat) ({ cls := "HoleCounty", name := "size", desc := "(J)I" } : Jvm.MethodName) "HoleCounty") ∈ lw_tbl := lw_at lw_m2 123 rfl
theorem q417 : (Jvm.Cond.methodLink "HoleCounty$Absence" (26 : Nat) ({ cls := "java/lang/Math", name := "max", desc := "(II)I" } : Jvm.MethodName)) ∈ lw_all := lw_g (lw_at lw_m2 124 rfl) rfl
theorem q449 : (Jvm.Cond.selects "HoleCounty$Absence" ({ cls := "HoleCounty$Pit", name := "kind", desc := "()I" } : Jvm.MethodName) ({ cls := "HoleCounty$Absence", name := "kind", desc := "()I" } : Jvm.MethodName)) ∈ lw_all := lw_g (lw_at lw_m2 156 rfl) rfl
theorem q450 : (Jvm.Cond.instanceMethod ({ cls := "HoleCounty$Absence", name := "kind", desc := "()I" } : Jvm.MethodName)) ∈ lw_all := lw_g (lw_at lw_m2 157 rfl) rfl
theorem q451 : (Jvm.Cond.code ({ cls := "HoleCounty$Absence", name := "kind", desc := "()I" } : Jvm.MethodName) prog_2_method_2_code (1 : Nat) (Option.some Jvm.ClassFile.FieldType.int)) ∈ lw_all := lw_g (lw_at lw_m2 158 rfl) rfl
theorem q452 : (Jvm.Cond.methodLink "HoleCounty$Absence" (7 : Nat) ({ cls := "HoleCounty$Shaft", name := "kind", desc := "()I" } : Jvm.MethodName)) ∈ lw_all := lw_g (lw_at lw_m2 159 rfl) rfl
theorem q472 : (Jvm.Cond.selects "HoleCounty$Absence" ({ cls := "HoleCounty$Pit", name := "rim", desc := "()J" } : Jvm.MethodName) ({ cls := "HoleCounty$Pit", name := "rim", desc := "()J" } : Jvm.MethodName)) ∈ lw_all := lw_g (lw_at lw_m2 179 rfl) rfl
theorem q498 : (Jvm.Cond.selects "HoleCounty$Absence" ({ cls := "HoleCounty$Pit", name := "within", desc := "()J" } : Jvm.MethodName) ({ cls := "HoleCounty$Pit", name := "within", desc := "()J" } : Jvm.MethodName)) ∈ lw_all := lw_g (lw_at lw_m2 205 rfl) rfl
theorem q510 : (Jvm.Cond.selects "HoleCounty$Absence" ({ cls := "HoleCounty$Pit", name := "largest", desc := "()I" } : Jvm.MethodName) ({ cls := "HoleCounty$Pit", name := "largest", desc := "()I" } : Jvm.MethodName)) ∈ lw_all := lw_g (lw_at lw_m2 217 rfl) rfl
theorem q1608 : (Jvm.Cond.selects "HoleCounty$Absence" ({ cls := "HoleCounty$Pit", name := "fence", desc := "()I" } : Jvm.MethodName) ({ cls := "HoleCounty$Pit", name := "fence", desc := "()I" } : Jvm.MethodName)) ∈ lw_all := lw_g (lw_at lw_m7 115 rfl) rfl
theorem q1615 : (Jvm.Cond.castable "HoleCounty$Absence" "HoleCounty$Pit") ∈ lw_tbl := lw_at lw_m7 122 rfl
theorem q1625 : (Jvm.Cond.castable "HoleCounty$Absence" "java/lang/Object") ∈ lw_tbl := lw_at lw_m7 132 rfl
theorem in_X7 : ∀ w ∈ wsX70, w ∈ lw_all := lw_in wsX70 [303, 305] (by decide +kernel) (by decide +kernel)
/-! HoleCounty$Gap -/
set_option maxRecDepth 100000
def RX8 : String := "HoleCounty$Gap"
def TX8 : u_T := fun k => match k with
  | 0 => ("HoleCounty$Pit", "cells", "J", true)
  | _ => ("HoleCounty$Pit", "rate", "I", true)
def tyX8 : Nat → FieldType := fun k => match k with
  | 0 => .long
  | _ => .int
abbrev wsX80 : List Cond := u_ws RX8 TX8 2
theorem nmX8 : ∀ a, a < 2 → ∀ b, b < 2 → a ≠ b → (TX8 a).2.1 ≠ (TX8 b).2.1 := by decide +kernel
theorem tyX8_ok : ∀ k, k < 2 → parseFieldDescriptor (TX8 k).2.2.1 = some (tyX8 k) := by decide +kernel
abbrev cX8_init : ByteArray := prog_4_method_1_code
def yX8_init : MethodName := ⟨RX8, "<init>", "(JI)V"⟩
def dkwX8_init_0 : List UInt8 := [42, 31, 29, 183, 0, 1, 177]
abbrev dktX8_init_0 : List UInt8 := dkwX8_init_0 ++ []
theorem dksX8_init_0 : cX8_init.data.toList.drop 0 = dktX8_init_0 := by decide +kernel
theorem dX8_init_0 : decode cX8_init 0 = .ok (.aload_n 0, 1) := dk_42 (dk_at dksX8_init_0 0 rfl rfl)
theorem dX8_init_1 : decode cX8_init 1 = .ok (.lload_n 1, 1) := dk_31 (dk_at dksX8_init_0 1 rfl rfl)
theorem dX8_init_2 : decode cX8_init 2 = .ok (.iload_n 3, 1) := dk_29 (dk_at dksX8_init_0 2 rfl rfl)
theorem dX8_init_3 : decode cX8_init 3 = .ok (.invokespecial 1, 3) := dk_183 0 1 (dk_at dksX8_init_0 3 rfl rfl)
theorem dX8_init_6 : decode cX8_init 6 = .ok (.return_, 1) := dk_177 (dk_at dksX8_init_0 6 rfl rfl)
abbrev cX8_tax : ByteArray := prog_4_method_3_code
def yX8_tax : MethodName := ⟨RX8, "tax", "()I"⟩
def dkwX8_tax_0 : List UInt8 := [42, 183, 0, 11, 5, 108, 172]
abbrev dktX8_tax_0 : List UInt8 := dkwX8_tax_0 ++ []
theorem dksX8_tax_0 : cX8_tax.data.toList.drop 0 = dktX8_tax_0 := by decide +kernel
theorem dX8_tax_0 : decode cX8_tax 0 = .ok (.aload_n 0, 1) := dk_42 (dk_at dksX8_tax_0 0 rfl rfl)
theorem dX8_tax_1 : decode cX8_tax 1 = .ok (.invokespecial 11, 3) := dk_183 0 11 (dk_at dksX8_tax_0 1 rfl rfl)
theorem dX8_tax_4 : decode cX8_tax 4 = .ok (.iconst 2, 1) := dk_5 (dk_at dksX8_tax_0 4 rfl rfl)
theorem dX8_tax_5 : decode cX8_tax 5 = .ok (.idiv, 1) := dk_108 (dk_at dksX8_tax_0 5 rfl rfl)
theorem dX8_tax_6 : decode cX8_tax 6 = .ok (.ireturn, 1) := dk_172 (dk_at dksX8_tax_0 6 rfl rfl)
abbrev cX8_kind : ByteArray := prog_4_method_2_code
def yX8_kind : MethodName := ⟨RX8, "kind", "()I"⟩
def dkwX8_kind_0 : List UInt8 := [42, 183, 0, 7, 4, 96, 172]
abbrev dktX8_kind_0 : List UInt8 := dkwX8_kind_0 ++ []
theorem dksX8_kind_0 : cX8_kind.data.toList.drop 0 = dktX8_kind_0 := by decide +kernel
theorem dX8_kind_0 : decode cX8_kind 0 = .ok (.aload_n 0, 1) := dk_42 (dk_at dksX8_kind_0 0 rfl rfl)
theorem dX8_kind_1 : decode cX8_kind 1 = .ok (.invokespecial 7, 3) := dk_183 0 7 (dk_at dksX8_kind_0 1 rfl rfl)
theorem dX8_kind_4 : decode cX8_kind 4 = .ok (.iconst 1, 1) := dk_4 (dk_at dksX8_kind_0 4 rfl rfl)
theorem dX8_kind_5 : decode cX8_kind 5 = .ok (.iadd, 1) := dk_96 (dk_at dksX8_kind_0 5 rfl rfl)
theorem dX8_kind_6 : decode cX8_kind 6 = .ok (.ireturn, 1) := dk_172 (dk_at dksX8_kind_0 6 rfl rfl)
theorem q71 : (Jvm.Cond.initialized "HoleCounty$Gap") ∈ lw_all := lw_g (lw_at lw_m1 18 rfl) rfl
theorem q186 : (Jvm.Cond.selects "HoleCounty$Gap" ({ cls := "java/lang/Object", name := "getClass", desc := "()Ljava/lang/Class;" } : Jvm.MethodName) ({ cls := "java/lang/Object", name := "getClass", desc := "()Ljava/lang/Class;" } : Jvm.MethodName)) ∈ lw_all := lw_g (lw_at lw_m1 133 rfl) rfl
theorem q320 : (Jvm.Cond.instanceMethod ({ cls := "HoleCounty$Gap", name := "<init>", desc := "(JI)V" } : Jvm.MethodName)) ∈ lw_all := lw_g (lw_at lw_m2 27 rfl) rfl
theorem q321 : (Jvm.Cond.code ({ cls := "HoleCounty$Gap", name := "<init>", desc := "(JI)V" } : Jvm.MethodName) prog_4_method_1_code (4 : Nat) (Option.none : Option Jvm.ClassFile.FieldType)) ∈ lw_all := lw_g (lw_at lw_m2 28 rfl) rfl
theorem q322 : (Jvm.Cond.methodLink "HoleCounty$Gap" (1 : Nat) ({ cls := "HoleCounty$Pit", name := "<init>", desc := "(JI)V" } : Jvm.MethodName)) ∈ lw_all := lw_g (lw_at lw_m2 29 rfl) rfl
theorem q329 : (Jvm.Cond.instantiable "HoleCounty$Gap" (2 : Nat)) ∈ lw_all := lw_g (lw_at lw_m2 36 rfl) rfl
theorem q331 : (Jvm.Cond.laysFinal "HoleCounty$Gap" "HoleCounty$Pit" "cells" "J") ∈ lw_all := lw_g (lw_at lw_m2 38 rfl) rfl
theorem q332 : (Jvm.Cond.laysFinal "HoleCounty$Gap" "HoleCounty$Pit" "rate" "I") ∈ lw_all := lw_g (lw_at lw_m2 39 rfl) rfl
theorem q333 : (Jvm.Cond.superclass "HoleCounty$Gap" "HoleCounty$Pit") ∈ lw_all := lw_g (lw_at lw_m2 40 rfl) rfl
theorem q418 : (Jvm.Cond.selects "HoleCounty$Gap" ({ cls := "HoleCounty$Pit", name := "tax", desc := "()I" } : Jvm.MethodName) ({ cls := "HoleCounty$Gap", name := "tax", desc := "()I" } : Jvm.MethodName)) ∈ lw_all := lw_g (lw_at lw_m2 125 rfl) rfl
theorem q419 : (Jvm.Cond.instanceMethod ({ cls := "HoleCounty$Gap", name := "tax", desc := "()I" } : Jvm.MethodName)) ∈ lw_all := lw_g (lw_at lw_m2 126 rfl) rfl
theorem q420 : (Jvm.Cond.code ({ cls := "HoleCounty$Gap", name := "tax", desc := "()I" } : Jvm.MethodName) prog_4_method_3_code (1 : Nat) (Option.some Jvm.ClassFile.FieldType.int)) ∈ lw_all := lw_g (lw_at lw_m2 127 rfl) rfl
theorem q421 : (Jvm.Cond.methodLink "HoleCounty$Gap" (11 : Nat) ({ cls := "HoleCounty$Pit", name := "tax", desc := "()I" } : Jvm.MethodName)) ∈ lw_all := lw_g (lw_at lw_m2 128 rfl) rfl
theorem q456 : (Jvm.Cond.selects "HoleCounty$Gap" ({ cls := "HoleCounty$Pit", name := "kind", desc := "()I" } : Jvm.MethodName) ({ cls := "HoleCounty$Gap", name := "kind", desc := "()I" } : Jvm.MethodName)) ∈ lw_all := lw_g (lw_at lw_m2 163 rfl) rfl
theorem q457 : (Jvm.Cond.instanceMethod ({ cls := "HoleCounty$Gap", name := "kind", desc := "()I" } : Jvm.MethodName)) ∈ lw_all := lw_g (lw_at lw_m2 164 rfl) rfl
theorem q458 : (Jvm.Cond.code ({ cls := "HoleCounty$Gap", name := "kind", desc := "()I" } : Jvm.MethodName) prog_4_method_2_code (1 : Nat) (Option.some Jvm.ClassFile.FieldType.int)) ∈ lw_all := lw_g (lw_at lw_m2 165 rfl) rfl
theorem q459 : (Jvm.Cond.methodLink "HoleCounty$Gap" (7 : Nat) ({ cls := "HoleCounty$Pit", name := "kind", desc := "()I" } : Jvm.MethodName)) ∈ lw_all := lw_g (lw_at lw_m2 166 rfl) rfl
theorem q473 : (Jvm.Cond.selects "HoleCounty$Gap" ({ cls := "HoleCounty$Pit", name := "rim", desc := "()J" } : Jvm.MethodName) ({ cls := "HoleCounty$Pit", name := "rim", desc := "()J" } : Jvm.MethodName)) ∈ lw_all := lw_g (lw_at lw_m2 180 rfl) rfl
theorem q499 : (Jvm.Cond.selects "HoleCounty$Gap" ({ cls := "HoleCounty$Pit", name := "within", desc := "()J" } : Jvm.MethodName) ({ cls := "HoleCounty$Pit", name := "within", desc := "()J" } : Jvm.MethodName)) ∈ lw_all := lw_g (lw_at lw_m2 206 rfl) rfl
theorem q511 : (Jvm.Cond.selects "HoleCounty$Gap" ({ cls := "HoleCounty$Pit", name := "largest", desc := "()I" } : Jvm.MethodName) ({ cls := "HoleCounty$Pit", name := "largest", desc := "()I" } : Jvm.MethodName)) ∈ lw_all := lw_g (lw_at lw_m2 218 rfl) rfl
theorem q1604 : (Jvm.Cond.sameMethod "HoleCounty$Gap" "HoleCounty$Gap" "tax" "()I") ∈ lw_all := lw_g (lw_at lw_m7 111 rfl) rfl
theorem q1606 : (Jvm.Cond.sameMethod "HoleCounty$Gap" "HoleCounty$Gap" "kind" "()I") ∈ lw_all := lw_g (lw_at lw_m7 113 rfl) rfl
theorem q1609 : (Jvm.Cond.selects "HoleCounty$Gap" ({ cls := "HoleCounty$Pit", name := "fence", desc := "()I" } : Jvm.MethodName) ({ cls := "HoleCounty$Pit", name := "fence", desc := "()I" } : Jvm.MethodName)) ∈ lw_all := lw_g (lw_at lw_m7 116 rfl) rfl
theorem q1616 : (Jvm.Cond.castable "HoleCounty$Gap" "HoleCounty$Pit") ∈ lw_tbl := lw_at lw_m7 123 rfl
theorem q1627 : (Jvm.Cond.castable "HoleCounty$Gap" "java/lang/Object") ∈ lw_tbl := lw_at lw_m7 134 rfl
theorem in_X8 : ∀ w ∈ wsX80, w ∈ lw_all := lw_in wsX80 [331, 332] (by decide +kernel) (by decide +kernel)
/-! HoleCounty$Pass -/
set_option maxRecDepth 100000
def RX9 : String := "HoleCounty$Pass"
def TX9 : u_T := fun k => match k with
  | 0 => ("HoleCounty$Pit", "cells", "J", true)
  | _ => ("HoleCounty$Pit", "rate", "I", true)
def tyX9 : Nat → FieldType := fun k => match k with
  | 0 => .long
  | _ => .int
abbrev wsX90 : List Cond := u_ws RX9 TX9 2
theorem nmX9 : ∀ a, a < 2 → ∀ b, b < 2 → a ≠ b → (TX9 a).2.1 ≠ (TX9 b).2.1 := by decide +kernel
theorem tyX9_ok : ∀ k, k < 2 → parseFieldDescriptor (TX9 k).2.2.1 = some (tyX9 k) := by decide +kernel
abbrev cX9_init : ByteArray := prog_7_method_1_code
def yX9_init : MethodName := ⟨RX9, "<init>", "(JI)V"⟩
def dkwX9_init_0 : List UInt8 := [42, 31, 29, 183, 0, 1, 177]
abbrev dktX9_init_0 : List UInt8 := dkwX9_init_0 ++ []
theorem dksX9_init_0 : cX9_init.data.toList.drop 0 = dktX9_init_0 := by decide +kernel
theorem dX9_init_0 : decode cX9_init 0 = .ok (.aload_n 0, 1) := dk_42 (dk_at dksX9_init_0 0 rfl rfl)
theorem dX9_init_1 : decode cX9_init 1 = .ok (.lload_n 1, 1) := dk_31 (dk_at dksX9_init_0 1 rfl rfl)
theorem dX9_init_2 : decode cX9_init 2 = .ok (.iload_n 3, 1) := dk_29 (dk_at dksX9_init_0 2 rfl rfl)
theorem dX9_init_3 : decode cX9_init 3 = .ok (.invokespecial 1, 3) := dk_183 0 1 (dk_at dksX9_init_0 3 rfl rfl)
theorem dX9_init_6 : decode cX9_init 6 = .ok (.return_, 1) := dk_177 (dk_at dksX9_init_0 6 rfl rfl)
abbrev cX9_tax : ByteArray := prog_7_method_3_code
def yX9_tax : MethodName := ⟨RX9, "tax", "()I"⟩
def dkwX9_tax_0 : List UInt8 := [42, 183, 0, 11, 42, 182, 0, 14, 96, 172]
abbrev dktX9_tax_0 : List UInt8 := dkwX9_tax_0 ++ []
theorem dksX9_tax_0 : cX9_tax.data.toList.drop 0 = dktX9_tax_0 := by decide +kernel
theorem dX9_tax_0 : decode cX9_tax 0 = .ok (.aload_n 0, 1) := dk_42 (dk_at dksX9_tax_0 0 rfl rfl)
theorem dX9_tax_1 : decode cX9_tax 1 = .ok (.invokespecial 11, 3) := dk_183 0 11 (dk_at dksX9_tax_0 1 rfl rfl)
theorem dX9_tax_4 : decode cX9_tax 4 = .ok (.aload_n 0, 1) := dk_42 (dk_at dksX9_tax_0 4 rfl rfl)
theorem dX9_tax_5 : decode cX9_tax 5 = .ok (.invokevirtual 14, 3) := dk_182 0 14 (dk_at dksX9_tax_0 5 rfl rfl)
theorem dX9_tax_8 : decode cX9_tax 8 = .ok (.iadd, 1) := dk_96 (dk_at dksX9_tax_0 8 rfl rfl)
theorem dX9_tax_9 : decode cX9_tax 9 = .ok (.ireturn, 1) := dk_172 (dk_at dksX9_tax_0 9 rfl rfl)
abbrev cX9_kind : ByteArray := prog_7_method_2_code
def yX9_kind : MethodName := ⟨RX9, "kind", "()I"⟩
def dkwX9_kind_0 : List UInt8 := [42, 183, 0, 7, 5, 96, 172]
abbrev dktX9_kind_0 : List UInt8 := dkwX9_kind_0 ++ []
theorem dksX9_kind_0 : cX9_kind.data.toList.drop 0 = dktX9_kind_0 := by decide +kernel
theorem dX9_kind_0 : decode cX9_kind 0 = .ok (.aload_n 0, 1) := dk_42 (dk_at dksX9_kind_0 0 rfl rfl)
theorem dX9_kind_1 : decode cX9_kind 1 = .ok (.invokespecial 7, 3) := dk_183 0 7 (dk_at dksX9_kind_0 1 rfl rfl)
theorem dX9_kind_4 : decode cX9_kind 4 = .ok (.iconst 2, 1) := dk_5 (dk_at dksX9_kind_0 4 rfl rfl)
theorem dX9_kind_5 : decode cX9_kind 5 = .ok (.iadd, 1) := dk_96 (dk_at dksX9_kind_0 5 rfl rfl)
theorem dX9_kind_6 : decode cX9_kind 6 = .ok (.ireturn, 1) := dk_172 (dk_at dksX9_kind_0 6 rfl rfl)
theorem q72 : (Jvm.Cond.initialized "HoleCounty$Pass") ∈ lw_all := lw_g (lw_at lw_m1 19 rfl) rfl
theorem q189 : (Jvm.Cond.selects "HoleCounty$Pass" ({ cls := "java/lang/Object", name := "getClass", desc := "()Ljava/lang/Class;" } : Jvm.MethodName) ({ cls := "java/lang/Object", name := "getClass", desc := "()Ljava/lang/Class;" } : Jvm.MethodName)) ∈ lw_all := lw_g (lw_at lw_m1 136 rfl) rfl
theorem q315 : (Jvm.Cond.instantiable "HoleCounty$Pass" (2 : Nat)) ∈ lw_all := lw_g (lw_at lw_m2 22 rfl) rfl
theorem q317 : (Jvm.Cond.instanceMethod ({ cls := "HoleCounty$Pass", name := "<init>", desc := "(JI)V" } : Jvm.MethodName)) ∈ lw_all := lw_g (lw_at lw_m2 24 rfl) rfl
theorem q318 : (Jvm.Cond.code ({ cls := "HoleCounty$Pass", name := "<init>", desc := "(JI)V" } : Jvm.MethodName) prog_7_method_1_code (4 : Nat) (Option.none : Option Jvm.ClassFile.FieldType)) ∈ lw_all := lw_g (lw_at lw_m2 25 rfl) rfl
theorem q319 : (Jvm.Cond.methodLink "HoleCounty$Pass" (1 : Nat) ({ cls := "HoleCounty$Gap", name := "<init>", desc := "(JI)V" } : Jvm.MethodName)) ∈ lw_all := lw_g (lw_at lw_m2 26 rfl) rfl
theorem q323 : (Jvm.Cond.laysFinal "HoleCounty$Pass" "HoleCounty$Pit" "cells" "J") ∈ lw_all := lw_g (lw_at lw_m2 30 rfl) rfl
theorem q324 : (Jvm.Cond.laysFinal "HoleCounty$Pass" "HoleCounty$Pit" "rate" "I") ∈ lw_all := lw_g (lw_at lw_m2 31 rfl) rfl
theorem q325 : (Jvm.Cond.superclass "HoleCounty$Pass" "HoleCounty$Gap") ∈ lw_all := lw_g (lw_at lw_m2 32 rfl) rfl
theorem q422 : (Jvm.Cond.selects "HoleCounty$Pass" ({ cls := "HoleCounty$Pit", name := "tax", desc := "()I" } : Jvm.MethodName) ({ cls := "HoleCounty$Pass", name := "tax", desc := "()I" } : Jvm.MethodName)) ∈ lw_all := lw_g (lw_at lw_m2 129 rfl) rfl
theorem q423 : (Jvm.Cond.instanceMethod ({ cls := "HoleCounty$Pass", name := "tax", desc := "()I" } : Jvm.MethodName)) ∈ lw_all := lw_g (lw_at lw_m2 130 rfl) rfl
theorem q424 : (Jvm.Cond.code ({ cls := "HoleCounty$Pass", name := "tax", desc := "()I" } : Jvm.MethodName) prog_7_method_3_code (1 : Nat) (Option.some Jvm.ClassFile.FieldType.int)) ∈ lw_all := lw_g (lw_at lw_m2 131 rfl) rfl
theorem q425 : (Jvm.Cond.methodLink "HoleCounty$Pass" (11 : Nat) ({ cls := "HoleCounty$Gap", name := "tax", desc := "()I" } : Jvm.MethodName)) ∈ lw_all := lw_g (lw_at lw_m2 132 rfl) rfl
theorem q426 : (Jvm.Cond.methodLink "HoleCounty$Pass" (14 : Nat) ({ cls := "HoleCounty$Pass", name := "fence", desc := "()I" } : Jvm.MethodName)) ∈ lw_all := lw_g (lw_at lw_m2 133 rfl) rfl
theorem q427 : (Jvm.Cond.sameMethod "HoleCounty$Pass" "HoleCounty$Pit" "fence" "()I") ∈ lw_all := lw_g (lw_at lw_m2 134 rfl) rfl
theorem q429 : (Jvm.Cond.selects "HoleCounty$Pass" ({ cls := "HoleCounty$Pass", name := "fence", desc := "()I" } : Jvm.MethodName) ({ cls := "HoleCounty$Pit", name := "fence", desc := "()I" } : Jvm.MethodName)) ∈ lw_all := lw_g (lw_at lw_m2 136 rfl) rfl
theorem q460 : (Jvm.Cond.selects "HoleCounty$Pass" ({ cls := "HoleCounty$Pit", name := "kind", desc := "()I" } : Jvm.MethodName) ({ cls := "HoleCounty$Pass", name := "kind", desc := "()I" } : Jvm.MethodName)) ∈ lw_all := lw_g (lw_at lw_m2 167 rfl) rfl
theorem q461 : (Jvm.Cond.instanceMethod ({ cls := "HoleCounty$Pass", name := "kind", desc := "()I" } : Jvm.MethodName)) ∈ lw_all := lw_g (lw_at lw_m2 168 rfl) rfl
theorem q462 : (Jvm.Cond.code ({ cls := "HoleCounty$Pass", name := "kind", desc := "()I" } : Jvm.MethodName) prog_7_method_2_code (1 : Nat) (Option.some Jvm.ClassFile.FieldType.int)) ∈ lw_all := lw_g (lw_at lw_m2 169 rfl) rfl
theorem q463 : (Jvm.Cond.methodLink "HoleCounty$Pass" (7 : Nat) ({ cls := "HoleCounty$Gap", name := "kind", desc := "()I" } : Jvm.MethodName)) ∈ lw_all := lw_g (lw_at lw_m2 170 rfl) rfl
theorem q474 : (Jvm.Cond.selects "HoleCounty$Pass" ({ cls := "HoleCounty$Pit", name := "rim", desc := "()J" } : Jvm.MethodName) ({ cls := "HoleCounty$Pit", name := "rim", desc := "()J" } : Jvm.MethodName)) ∈ lw_all := lw_g (lw_at lw_m2 181 rfl) rfl
theorem q500 : (Jvm.Cond.selects "HoleCounty$Pass" ({ cls := "HoleCounty$Pit", name := "within", desc := "()J" } : Jvm.MethodName) ({ cls := "HoleCounty$Pit", name := "within", desc := "()J" } : Jvm.MethodName)) ∈ lw_all := lw_g (lw_at lw_m2 207 rfl) rfl
theorem q512 : (Jvm.Cond.selects "HoleCounty$Pass" ({ cls := "HoleCounty$Pit", name := "largest", desc := "()I" } : Jvm.MethodName) ({ cls := "HoleCounty$Pit", name := "largest", desc := "()I" } : Jvm.MethodName)) ∈ lw_all := lw_g (lw_at lw_m2 219 rfl) rfl
theorem q1610 : (Jvm.Cond.selects "HoleCounty$Pass" ({ cls := "HoleCounty$Pit", name := "fence", desc := "()I" } : Jvm.MethodName) ({ cls := "HoleCounty$Pit", name := "fence", desc := "()I" } : Jvm.MethodName)) ∈ lw_all := lw_g (lw_at lw_m7 117 rfl) rfl
theorem q1617 : (Jvm.Cond.castable "HoleCounty$Pass" "HoleCounty$Pit") ∈ lw_tbl := lw_at lw_m7 124 rfl
theorem q1626 : (Jvm.Cond.castable "HoleCounty$Pass" "java/lang/Object") ∈ lw_tbl := lw_at lw_m7 133 rfl
theorem in_X9 : ∀ w ∈ wsX90, w ∈ lw_all := lw_in wsX90 [323, 324] (by decide +kernel) (by decide +kernel)
/-! HoleCounty$Fault -/
set_option maxRecDepth 100000
def RX10 : String := "HoleCounty$Fault"
def TX10 : u_T := fun k => match k with
  | 0 => ("java/lang/Throwable", "cause", "Ljava/lang/Throwable;", false)
  | 1 => ("java/lang/Throwable", "stackTrace", "[Ljava/lang/StackTraceElement;", false)
  | 2 => ("java/lang/Throwable", "suppressedExceptions", "Ljava/util/List;", false)
  | 3 => ("java/lang/Throwable", "detailMessage", "Ljava/lang/String;", false)
  | 4 => ("java/lang/Throwable", "backtrace", "Ljava/lang/Object;", false)
  | 5 => ("java/lang/Throwable", "depth", "I", false)
  | _ => ("HoleCounty$Fault", "place", "I", true)
def tyX10 : Nat → FieldType := fun k => match k with
  | 0 => .object "java/lang/Throwable"
  | 1 => .array (.object "java/lang/StackTraceElement")
  | 2 => .object "java/util/List"
  | 3 => .object "java/lang/String"
  | 4 => .object "java/lang/Object"
  | 5 => .int
  | _ => .int
abbrev wsX100 : List Cond := u_ws RX10 TX10 7
theorem nmX10 : ∀ a, a < 7 → ∀ b, b < 7 → a ≠ b → (TX10 a).2.1 ≠ (TX10 b).2.1 := by decide +kernel
theorem tyX10_ok : ∀ k, k < 7 → parseFieldDescriptor (TX10 k).2.2.1 = some (tyX10 k) := by decide +kernel
abbrev cX10_init : ByteArray := prog_3_method_1_code
def yX10_init : MethodName := ⟨RX10, "<init>", "(I)V"⟩
def dkwX10_init_0 : List UInt8 := [42, 1, 1, 3, 3, 183, 0, 1, 42, 27, 181, 0, 7, 177]
abbrev dktX10_init_0 : List UInt8 := dkwX10_init_0 ++ []
theorem dksX10_init_0 : cX10_init.data.toList.drop 0 = dktX10_init_0 := by decide +kernel
theorem dX10_init_0 : decode cX10_init 0 = .ok (.aload_n 0, 1) := dk_42 (dk_at dksX10_init_0 0 rfl rfl)
theorem dX10_init_1 : decode cX10_init 1 = .ok (.aconst_null, 1) := dk_1 (dk_at dksX10_init_0 1 rfl rfl)
theorem dX10_init_2 : decode cX10_init 2 = .ok (.aconst_null, 1) := dk_1 (dk_at dksX10_init_0 2 rfl rfl)
theorem dX10_init_3 : decode cX10_init 3 = .ok (.iconst 0, 1) := dk_3 (dk_at dksX10_init_0 3 rfl rfl)
theorem dX10_init_4 : decode cX10_init 4 = .ok (.iconst 0, 1) := dk_3 (dk_at dksX10_init_0 4 rfl rfl)
theorem dX10_init_5 : decode cX10_init 5 = .ok (.invokespecial 1, 3) := dk_183 0 1 (dk_at dksX10_init_0 5 rfl rfl)
theorem dX10_init_8 : decode cX10_init 8 = .ok (.aload_n 0, 1) := dk_42 (dk_at dksX10_init_0 8 rfl rfl)
theorem dX10_init_9 : decode cX10_init 9 = .ok (.iload_n 1, 1) := dk_27 (dk_at dksX10_init_0 9 rfl rfl)
theorem dX10_init_10 : decode cX10_init 10 = .ok (.putfield 7, 3) := dk_181 0 7 (dk_at dksX10_init_0 10 rfl rfl)
theorem dX10_init_13 : decode cX10_init 13 = .ok (.return_, 1) := dk_177 (dk_at dksX10_init_0 13 rfl rfl)
theorem q75 : (Jvm.Cond.initialized "HoleCounty$Fault") ∈ lw_all := lw_g (lw_at lw_m1 22 rfl) rfl
theorem q185 : (Jvm.Cond.selects "HoleCounty$Fault" ({ cls := "java/lang/Object", name := "getClass", desc := "()Ljava/lang/Class;" } : Jvm.MethodName) ({ cls := "java/lang/Object", name := "getClass", desc := "()Ljava/lang/Class;" } : Jvm.MethodName)) ∈ lw_all := lw_g (lw_at lw_m1 132 rfl) rfl
theorem q554 : (Jvm.Cond.selects "HoleCounty$Fault" ({ cls := "java/lang/Throwable", name := "fillInStackTrace", desc := "()Ljava/lang/Throwable;" } : Jvm.MethodName) ({ cls := "java/lang/Throwable", name := "fillInStackTrace", desc := "()Ljava/lang/Throwable;" } : Jvm.MethodName)) ∈ lw_all := lw_g (lw_at lw_m3 21 rfl) rfl
theorem q749 : (Jvm.Cond.instantiable "HoleCounty$Fault" (7 : Nat)) ∈ lw_all := lw_g (lw_at lw_m3 216 rfl) rfl
theorem q750 : (Jvm.Cond.castable "HoleCounty$Fault" "HoleCounty$Fault") ∈ lw_tbl := lw_at lw_m3 217 rfl
theorem q751 : (Jvm.Cond.selects "HoleCounty$Fault" ({ cls := "java/lang/Throwable", name := "fillInStackTrace", desc := "(I)Ljava/lang/Throwable;" } : Jvm.MethodName) ({ cls := "java/lang/Throwable", name := "fillInStackTrace", desc := "(I)Ljava/lang/Throwable;" } : Jvm.MethodName)) ∈ lw_all := lw_g (lw_at lw_m3 218 rfl) rfl
theorem q752 : (Jvm.Cond.lays "HoleCounty$Fault" "java/lang/Throwable" "cause" "Ljava/lang/Throwable;") ∈ lw_all := lw_g (lw_at lw_m3 219 rfl) rfl
theorem q753 : (Jvm.Cond.lays "HoleCounty$Fault" "java/lang/Throwable" "stackTrace" "[Ljava/lang/StackTraceElement;") ∈ lw_all := lw_g (lw_at lw_m3 220 rfl) rfl
theorem q754 : (Jvm.Cond.lays "HoleCounty$Fault" "java/lang/Throwable" "suppressedExceptions" "Ljava/util/List;") ∈ lw_all := lw_g (lw_at lw_m3 221 rfl) rfl
theorem q755 : (Jvm.Cond.lays "HoleCounty$Fault" "java/lang/Throwable" "detailMessage" "Ljava/lang/String;") ∈ lw_all := lw_g (lw_at lw_m3 222 rfl) rfl
theorem q756 : (Jvm.Cond.lays "HoleCounty$Fault" "java/lang/Throwable" "backtrace" "Ljava/lang/Object;") ∈ lw_all := lw_g (lw_at lw_m3 223 rfl) rfl
theorem q758 : (Jvm.Cond.instanceMethod ({ cls := "HoleCounty$Fault", name := "<init>", desc := "(I)V" } : Jvm.MethodName)) ∈ lw_all := lw_g (lw_at lw_m3 225 rfl) rfl
theorem q759 : (Jvm.Cond.code ({ cls := "HoleCounty$Fault", name := "<init>", desc := "(I)V" } : Jvm.MethodName) prog_3_method_1_code (2 : Nat) (Option.none : Option Jvm.ClassFile.FieldType)) ∈ lw_all := lw_g (lw_at lw_m3 226 rfl) rfl
theorem q760 : (Jvm.Cond.methodLink "HoleCounty$Fault" (1 : Nat) ({ cls := "java/lang/Exception", name := "<init>", desc := "(Ljava/lang/String;Ljava/lang/Throwable;ZZ)V" } : Jvm.MethodName)) ∈ lw_all := lw_g (lw_at lw_m3 227 rfl) rfl
theorem q766 : (Jvm.Cond.fieldLink "HoleCounty$Fault" (7 : Nat) "HoleCounty$Fault" "place" "I") ∈ lw_all := lw_g (lw_at lw_m3 233 rfl) rfl
theorem q768 : (Jvm.Cond.laysFinal "HoleCounty$Fault" "HoleCounty$Fault" "place" "I") ∈ lw_all := lw_g (lw_at lw_m3 235 rfl) rfl
theorem q769 : (Jvm.Cond.soleField "HoleCounty$Fault" "place") ∈ lw_all := lw_g (lw_at lw_m3 236 rfl) rfl
theorem q770 : (Jvm.Cond.lays "HoleCounty$Fault" "java/lang/Throwable" "depth" "I") ∈ lw_all := lw_g (lw_at lw_m3 237 rfl) rfl
theorem q771 : (Jvm.Cond.superclass "HoleCounty$Fault" "java/lang/Exception") ∈ lw_all := lw_g (lw_at lw_m3 238 rfl) rfl
theorem q1630 : (Jvm.Cond.castable "HoleCounty$Fault" "java/lang/Object") ∈ lw_tbl := lw_at lw_m7 137 rfl
theorem in_X10 : ∀ w ∈ wsX100, w ∈ lw_all := lw_in wsX100 [752, 753, 754, 755, 756, 770, 768] (by decide +kernel) (by decide +kernel)
