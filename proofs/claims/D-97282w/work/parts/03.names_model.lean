/-! HoleCountyModel -/
set_option maxRecDepth 100000
def RX3 : String := "HoleCountyModel"
def TX3 : u_T := fun k => match k with
  | 0 => ("HoleCountyModel", "depths", "[I", true)
  | 1 => ("HoleCountyModel", "owners", "[I", true)
  | 2 => ("HoleCountyModel", "roofs", "J", false)
  | 3 => ("HoleCountyModel", "rate", "I", false)
  | 4 => ("HoleCountyModel", "undos", "[I", true)
  | 5 => ("HoleCountyModel", "undoMany", "I", false)
  | 6 => ("HoleCountyModel", "drawn", "I", false)
  | 7 => ("HoleCountyModel", "dug", "J", false)
  | 8 => ("HoleCountyModel", "deep", "J", false)
  | 9 => ("HoleCountyModel", "holes", "[J", true)
  | 10 => ("HoleCountyModel", "holeMany", "I", false)
  | 11 => ("HoleCountyModel", "tape", "[I", true)
  | 12 => ("HoleCountyModel", "taped", "I", false)
  | 13 => ("HoleCountyModel", "place", "I", false)
  | 14 => ("HoleCountyModel", "reads", "I", false)
  | 15 => ("HoleCountyModel", "read", "[I", true)
  | 16 => ("HoleCountyModel", "row", "[I", true)
  | 17 => ("HoleCountyModel", "order", "[I", true)
  | 18 => ("HoleCountyModel", "bestOrder", "[I", true)
  | 19 => ("HoleCountyModel", "nears", "[I", true)
  | 20 => ("HoleCountyModel", "isKept", "Z", false)
  | 21 => ("HoleCountyModel", "keptRoofs", "J", false)
  | 22 => ("HoleCountyModel", "kept", "[I", true)
  | 23 => ("HoleCountyModel", "lanes", "[I", true)
  | 24 => ("HoleCountyModel", "rowSizes", "[I", true)
  | 25 => ("HoleCountyModel", "items", "[J", true)
  | _ => ("HoleCountyModel", "moved", "[J", true)
def tyX3 : Nat → FieldType := fun k => match k with
  | 0 => .array .int
  | 1 => .array .int
  | 2 => .long
  | 3 => .int
  | 4 => .array .int
  | 5 => .int
  | 6 => .int
  | 7 => .long
  | 8 => .long
  | 9 => .array .long
  | 10 => .int
  | 11 => .array .int
  | 12 => .int
  | 13 => .int
  | 14 => .int
  | 15 => .array .int
  | 16 => .array .int
  | 17 => .array .int
  | 18 => .array .int
  | 19 => .array .int
  | 20 => .boolean
  | 21 => .long
  | 22 => .array .int
  | 23 => .array .int
  | 24 => .array .int
  | 25 => .array .long
  | _ => .array .long
abbrev wsX30 : List Cond := u_ws RX3 TX3 27
set_option maxRecDepth 100000 in
theorem nmX3 : ∀ a, a < 27 → ∀ b, b < 27 → a ≠ b → (TX3 a).2.1 ≠ (TX3 b).2.1 := by decide +kernel
set_option maxRecDepth 100000 in
theorem tyX3_ok : ∀ k, k < 27 → parseFieldDescriptor (TX3 k).2.2.1 = some (tyX3 k) := by decide +kernel
abbrev cX3_init : ByteArray := prog_12_method_1_code
def yX3_init : MethodName := ⟨RX3, "<init>", "()V"⟩
def dkwX3_init_7 : List UInt8 := [42, 180, 0, 13, 27, 7, 79, 132, 1, 1, 167, 255, 240, 177]
abbrev dktX3_init_7 : List UInt8 := dkwX3_init_7 ++ []
def dkwX3_init_6 : List UInt8 := [162, 0, 16, 42, 180, 0, 51, 27, 2, 79, 132, 1, 1, 167, 255, 241, 3, 60, 27, 16, 36, 162, 0, 16]
abbrev dktX3_init_6 : List UInt8 := dkwX3_init_6 ++ dktX3_init_7
def dkwX3_init_5 : List UInt8 := [181, 0, 54, 42, 17, 0, 144, 188, 11, 181, 0, 57, 42, 16, 36, 188, 11, 181, 0, 60, 3, 60, 27, 7]
abbrev dktX3_init_5 : List UInt8 := dkwX3_init_5 ++ dktX3_init_6
def dkwX3_init_4 : List UInt8 := [188, 10, 181, 0, 45, 42, 16, 106, 188, 10, 181, 0, 48, 42, 7, 188, 10, 181, 0, 51, 42, 7, 188, 10]
abbrev dktX3_init_4 : List UInt8 := dkwX3_init_4 ++ dktX3_init_5
def dkwX3_init_3 : List UInt8 := [181, 0, 36, 42, 16, 8, 188, 10, 181, 0, 39, 42, 16, 8, 188, 10, 181, 0, 42, 42, 17, 1, 32]
abbrev dktX3_init_3 : List UInt8 := dkwX3_init_3 ++ dktX3_init_4
def dkwX3_init_2 : List UInt8 := [42, 17, 0, 160, 188, 10, 181, 0, 30, 42, 16, 80, 188, 10, 181, 0, 33, 42, 16, 10, 188, 10]
abbrev dktX3_init_2 : List UInt8 := dkwX3_init_2 ++ dktX3_init_3
def dkwX3_init_1 : List UInt8 := [181, 0, 16, 42, 16, 30, 188, 10, 181, 0, 20, 42, 4, 181, 0, 23, 42, 16, 36, 188, 11, 181, 0, 26]
abbrev dktX3_init_1 : List UInt8 := dkwX3_init_1 ++ dktX3_init_2
def dkwX3_init_0 : List UInt8 := [42, 183, 0, 1, 42, 16, 36, 188, 10, 181, 0, 7, 42, 16, 36, 188, 10, 181, 0, 13, 42, 5]
abbrev dktX3_init_0 : List UInt8 := dkwX3_init_0 ++ dktX3_init_1
theorem dksX3_init_0 : cX3_init.data.toList.drop 0 = dktX3_init_0 := by decide +kernel
theorem dksX3_init_1 : cX3_init.data.toList.drop 22 = dktX3_init_1 := dk_seg dksX3_init_0 22 rfl rfl
theorem dksX3_init_2 : cX3_init.data.toList.drop 46 = dktX3_init_2 := dk_seg dksX3_init_1 24 rfl rfl
theorem dksX3_init_3 : cX3_init.data.toList.drop 68 = dktX3_init_3 := dk_seg dksX3_init_2 22 rfl rfl
theorem dksX3_init_4 : cX3_init.data.toList.drop 91 = dktX3_init_4 := dk_seg dksX3_init_3 23 rfl rfl
theorem dksX3_init_5 : cX3_init.data.toList.drop 115 = dktX3_init_5 := dk_seg dksX3_init_4 24 rfl rfl
theorem dksX3_init_6 : cX3_init.data.toList.drop 139 = dktX3_init_6 := dk_seg dksX3_init_5 24 rfl rfl
theorem dksX3_init_7 : cX3_init.data.toList.drop 163 = dktX3_init_7 := dk_seg dksX3_init_6 24 rfl rfl
theorem dX3_init_0 : decode cX3_init 0 = .ok (.aload_n 0, 1) := dk_42 (dk_at dksX3_init_0 0 rfl rfl)
theorem dX3_init_1 : decode cX3_init 1 = .ok (.invokespecial 1, 3) := dk_183 0 1 (dk_at dksX3_init_0 1 rfl rfl)
theorem dX3_init_4 : decode cX3_init 4 = .ok (.aload_n 0, 1) := dk_42 (dk_at dksX3_init_0 4 rfl rfl)
theorem dX3_init_5 : decode cX3_init 5 = .ok (.bipush 36, 2) := dk_16 36 (dk_at dksX3_init_0 5 rfl rfl)
theorem dX3_init_7 : decode cX3_init 7 = .ok (.newarray .int, 2) := dk_188_10 (dk_at dksX3_init_0 7 rfl rfl)
theorem dX3_init_9 : decode cX3_init 9 = .ok (.putfield 7, 3) := dk_181 0 7 (dk_at dksX3_init_0 9 rfl rfl)
theorem dX3_init_12 : decode cX3_init 12 = .ok (.aload_n 0, 1) := dk_42 (dk_at dksX3_init_0 12 rfl rfl)
theorem dX3_init_13 : decode cX3_init 13 = .ok (.bipush 36, 2) := dk_16 36 (dk_at dksX3_init_0 13 rfl rfl)
theorem dX3_init_15 : decode cX3_init 15 = .ok (.newarray .int, 2) := dk_188_10 (dk_at dksX3_init_0 15 rfl rfl)
theorem dX3_init_17 : decode cX3_init 17 = .ok (.putfield 13, 3) := dk_181 0 13 (dk_at dksX3_init_0 17 rfl rfl)
theorem dX3_init_20 : decode cX3_init 20 = .ok (.aload_n 0, 1) := dk_42 (dk_at dksX3_init_0 20 rfl rfl)
theorem dX3_init_21 : decode cX3_init 21 = .ok (.iconst 2, 1) := dk_5 (dk_at dksX3_init_0 21 rfl rfl)
theorem dX3_init_22 : decode cX3_init 22 = .ok (.putfield 16, 3) := dk_181 0 16 (dk_at dksX3_init_1 0 rfl rfl)
theorem dX3_init_25 : decode cX3_init 25 = .ok (.aload_n 0, 1) := dk_42 (dk_at dksX3_init_1 3 rfl rfl)
theorem dX3_init_26 : decode cX3_init 26 = .ok (.bipush 30, 2) := dk_16 30 (dk_at dksX3_init_1 4 rfl rfl)
theorem dX3_init_28 : decode cX3_init 28 = .ok (.newarray .int, 2) := dk_188_10 (dk_at dksX3_init_1 6 rfl rfl)
theorem dX3_init_30 : decode cX3_init 30 = .ok (.putfield 20, 3) := dk_181 0 20 (dk_at dksX3_init_1 8 rfl rfl)
theorem dX3_init_33 : decode cX3_init 33 = .ok (.aload_n 0, 1) := dk_42 (dk_at dksX3_init_1 11 rfl rfl)
theorem dX3_init_34 : decode cX3_init 34 = .ok (.iconst 1, 1) := dk_4 (dk_at dksX3_init_1 12 rfl rfl)
theorem dX3_init_35 : decode cX3_init 35 = .ok (.putfield 23, 3) := dk_181 0 23 (dk_at dksX3_init_1 13 rfl rfl)
theorem dX3_init_38 : decode cX3_init 38 = .ok (.aload_n 0, 1) := dk_42 (dk_at dksX3_init_1 16 rfl rfl)
theorem dX3_init_39 : decode cX3_init 39 = .ok (.bipush 36, 2) := dk_16 36 (dk_at dksX3_init_1 17 rfl rfl)
theorem dX3_init_41 : decode cX3_init 41 = .ok (.newarray .long, 2) := dk_188_11 (dk_at dksX3_init_1 19 rfl rfl)
theorem dX3_init_43 : decode cX3_init 43 = .ok (.putfield 26, 3) := dk_181 0 26 (dk_at dksX3_init_1 21 rfl rfl)
theorem dX3_init_46 : decode cX3_init 46 = .ok (.aload_n 0, 1) := dk_42 (dk_at dksX3_init_2 0 rfl rfl)
theorem dX3_init_47 : decode cX3_init 47 = .ok (.sipush 160, 3) := dk_17 0 160 (dk_at dksX3_init_2 1 rfl rfl)
theorem dX3_init_50 : decode cX3_init 50 = .ok (.newarray .int, 2) := dk_188_10 (dk_at dksX3_init_2 4 rfl rfl)
theorem dX3_init_52 : decode cX3_init 52 = .ok (.putfield 30, 3) := dk_181 0 30 (dk_at dksX3_init_2 6 rfl rfl)
theorem dX3_init_55 : decode cX3_init 55 = .ok (.aload_n 0, 1) := dk_42 (dk_at dksX3_init_2 9 rfl rfl)
theorem dX3_init_56 : decode cX3_init 56 = .ok (.bipush 80, 2) := dk_16 80 (dk_at dksX3_init_2 10 rfl rfl)
theorem dX3_init_58 : decode cX3_init 58 = .ok (.newarray .int, 2) := dk_188_10 (dk_at dksX3_init_2 12 rfl rfl)
theorem dX3_init_60 : decode cX3_init 60 = .ok (.putfield 33, 3) := dk_181 0 33 (dk_at dksX3_init_2 14 rfl rfl)
theorem dX3_init_63 : decode cX3_init 63 = .ok (.aload_n 0, 1) := dk_42 (dk_at dksX3_init_2 17 rfl rfl)
theorem dX3_init_64 : decode cX3_init 64 = .ok (.bipush 10, 2) := dk_16 10 (dk_at dksX3_init_2 18 rfl rfl)
theorem dX3_init_66 : decode cX3_init 66 = .ok (.newarray .int, 2) := dk_188_10 (dk_at dksX3_init_2 20 rfl rfl)
theorem dX3_init_68 : decode cX3_init 68 = .ok (.putfield 36, 3) := dk_181 0 36 (dk_at dksX3_init_3 0 rfl rfl)
theorem dX3_init_71 : decode cX3_init 71 = .ok (.aload_n 0, 1) := dk_42 (dk_at dksX3_init_3 3 rfl rfl)
theorem dX3_init_72 : decode cX3_init 72 = .ok (.bipush 8, 2) := dk_16 8 (dk_at dksX3_init_3 4 rfl rfl)
theorem dX3_init_74 : decode cX3_init 74 = .ok (.newarray .int, 2) := dk_188_10 (dk_at dksX3_init_3 6 rfl rfl)
theorem dX3_init_76 : decode cX3_init 76 = .ok (.putfield 39, 3) := dk_181 0 39 (dk_at dksX3_init_3 8 rfl rfl)
theorem dX3_init_79 : decode cX3_init 79 = .ok (.aload_n 0, 1) := dk_42 (dk_at dksX3_init_3 11 rfl rfl)
theorem dX3_init_80 : decode cX3_init 80 = .ok (.bipush 8, 2) := dk_16 8 (dk_at dksX3_init_3 12 rfl rfl)
theorem dX3_init_82 : decode cX3_init 82 = .ok (.newarray .int, 2) := dk_188_10 (dk_at dksX3_init_3 14 rfl rfl)
theorem dX3_init_84 : decode cX3_init 84 = .ok (.putfield 42, 3) := dk_181 0 42 (dk_at dksX3_init_3 16 rfl rfl)
theorem dX3_init_87 : decode cX3_init 87 = .ok (.aload_n 0, 1) := dk_42 (dk_at dksX3_init_3 19 rfl rfl)
theorem dX3_init_88 : decode cX3_init 88 = .ok (.sipush 288, 3) := dk_17 1 32 (dk_at dksX3_init_3 20 rfl rfl)
theorem dX3_init_91 : decode cX3_init 91 = .ok (.newarray .int, 2) := dk_188_10 (dk_at dksX3_init_4 0 rfl rfl)
theorem dX3_init_93 : decode cX3_init 93 = .ok (.putfield 45, 3) := dk_181 0 45 (dk_at dksX3_init_4 2 rfl rfl)
theorem dX3_init_96 : decode cX3_init 96 = .ok (.aload_n 0, 1) := dk_42 (dk_at dksX3_init_4 5 rfl rfl)
theorem dX3_init_97 : decode cX3_init 97 = .ok (.bipush 106, 2) := dk_16 106 (dk_at dksX3_init_4 6 rfl rfl)
theorem dX3_init_99 : decode cX3_init 99 = .ok (.newarray .int, 2) := dk_188_10 (dk_at dksX3_init_4 8 rfl rfl)
theorem dX3_init_101 : decode cX3_init 101 = .ok (.putfield 48, 3) := dk_181 0 48 (dk_at dksX3_init_4 10 rfl rfl)
theorem dX3_init_104 : decode cX3_init 104 = .ok (.aload_n 0, 1) := dk_42 (dk_at dksX3_init_4 13 rfl rfl)
theorem dX3_init_105 : decode cX3_init 105 = .ok (.iconst 4, 1) := dk_7 (dk_at dksX3_init_4 14 rfl rfl)
theorem dX3_init_106 : decode cX3_init 106 = .ok (.newarray .int, 2) := dk_188_10 (dk_at dksX3_init_4 15 rfl rfl)
theorem dX3_init_108 : decode cX3_init 108 = .ok (.putfield 51, 3) := dk_181 0 51 (dk_at dksX3_init_4 17 rfl rfl)
theorem dX3_init_111 : decode cX3_init 111 = .ok (.aload_n 0, 1) := dk_42 (dk_at dksX3_init_4 20 rfl rfl)
theorem dX3_init_112 : decode cX3_init 112 = .ok (.iconst 4, 1) := dk_7 (dk_at dksX3_init_4 21 rfl rfl)
theorem dX3_init_113 : decode cX3_init 113 = .ok (.newarray .int, 2) := dk_188_10 (dk_at dksX3_init_4 22 rfl rfl)
theorem dX3_init_115 : decode cX3_init 115 = .ok (.putfield 54, 3) := dk_181 0 54 (dk_at dksX3_init_5 0 rfl rfl)
theorem dX3_init_118 : decode cX3_init 118 = .ok (.aload_n 0, 1) := dk_42 (dk_at dksX3_init_5 3 rfl rfl)
theorem dX3_init_119 : decode cX3_init 119 = .ok (.sipush 144, 3) := dk_17 0 144 (dk_at dksX3_init_5 4 rfl rfl)
theorem dX3_init_122 : decode cX3_init 122 = .ok (.newarray .long, 2) := dk_188_11 (dk_at dksX3_init_5 7 rfl rfl)
theorem dX3_init_124 : decode cX3_init 124 = .ok (.putfield 57, 3) := dk_181 0 57 (dk_at dksX3_init_5 9 rfl rfl)
theorem dX3_init_127 : decode cX3_init 127 = .ok (.aload_n 0, 1) := dk_42 (dk_at dksX3_init_5 12 rfl rfl)
theorem dX3_init_128 : decode cX3_init 128 = .ok (.bipush 36, 2) := dk_16 36 (dk_at dksX3_init_5 13 rfl rfl)
theorem dX3_init_130 : decode cX3_init 130 = .ok (.newarray .long, 2) := dk_188_11 (dk_at dksX3_init_5 15 rfl rfl)
theorem dX3_init_132 : decode cX3_init 132 = .ok (.putfield 60, 3) := dk_181 0 60 (dk_at dksX3_init_5 17 rfl rfl)
theorem dX3_init_135 : decode cX3_init 135 = .ok (.iconst 0, 1) := dk_3 (dk_at dksX3_init_5 20 rfl rfl)
theorem dX3_init_136 : decode cX3_init 136 = .ok (.istore_n 1, 1) := dk_60 (dk_at dksX3_init_5 21 rfl rfl)
theorem dX3_init_137 : decode cX3_init 137 = .ok (.iload_n 1, 1) := dk_27 (dk_at dksX3_init_5 22 rfl rfl)
theorem dX3_init_138 : decode cX3_init 138 = .ok (.iconst 4, 1) := dk_7 (dk_at dksX3_init_5 23 rfl rfl)
theorem dX3_init_139 : decode cX3_init 139 = .ok (.if_icmp .ge 16, 3) := dk_162 0 16 (dk_at dksX3_init_6 0 rfl rfl)
theorem dX3_init_142 : decode cX3_init 142 = .ok (.aload_n 0, 1) := dk_42 (dk_at dksX3_init_6 3 rfl rfl)
theorem dX3_init_143 : decode cX3_init 143 = .ok (.getfield 51, 3) := dk_180 0 51 (dk_at dksX3_init_6 4 rfl rfl)
theorem dX3_init_146 : decode cX3_init 146 = .ok (.iload_n 1, 1) := dk_27 (dk_at dksX3_init_6 7 rfl rfl)
theorem dX3_init_147 : decode cX3_init 147 = .ok (.iconst (-1), 1) := dk_2 (dk_at dksX3_init_6 8 rfl rfl)
theorem dX3_init_148 : decode cX3_init 148 = .ok (.iastore, 1) := dk_79 (dk_at dksX3_init_6 9 rfl rfl)
theorem dX3_init_149 : decode cX3_init 149 = .ok (.iinc 1 1, 3) := dk_132 1 1 (dk_at dksX3_init_6 10 rfl rfl)
theorem dX3_init_152 : decode cX3_init 152 = .ok (.goto (-15), 3) := dk_167 255 241 (dk_at dksX3_init_6 13 rfl rfl)
theorem dX3_init_155 : decode cX3_init 155 = .ok (.iconst 0, 1) := dk_3 (dk_at dksX3_init_6 16 rfl rfl)
theorem dX3_init_156 : decode cX3_init 156 = .ok (.istore_n 1, 1) := dk_60 (dk_at dksX3_init_6 17 rfl rfl)
theorem dX3_init_157 : decode cX3_init 157 = .ok (.iload_n 1, 1) := dk_27 (dk_at dksX3_init_6 18 rfl rfl)
theorem dX3_init_158 : decode cX3_init 158 = .ok (.bipush 36, 2) := dk_16 36 (dk_at dksX3_init_6 19 rfl rfl)
theorem dX3_init_160 : decode cX3_init 160 = .ok (.if_icmp .ge 16, 3) := dk_162 0 16 (dk_at dksX3_init_6 21 rfl rfl)
theorem dX3_init_163 : decode cX3_init 163 = .ok (.aload_n 0, 1) := dk_42 (dk_at dksX3_init_7 0 rfl rfl)
theorem dX3_init_164 : decode cX3_init 164 = .ok (.getfield 13, 3) := dk_180 0 13 (dk_at dksX3_init_7 1 rfl rfl)
theorem dX3_init_167 : decode cX3_init 167 = .ok (.iload_n 1, 1) := dk_27 (dk_at dksX3_init_7 4 rfl rfl)
theorem dX3_init_168 : decode cX3_init 168 = .ok (.iconst 4, 1) := dk_7 (dk_at dksX3_init_7 5 rfl rfl)
theorem dX3_init_169 : decode cX3_init 169 = .ok (.iastore, 1) := dk_79 (dk_at dksX3_init_7 6 rfl rfl)
theorem dX3_init_170 : decode cX3_init 170 = .ok (.iinc 1 1, 3) := dk_132 1 1 (dk_at dksX3_init_7 7 rfl rfl)
theorem dX3_init_173 : decode cX3_init 173 = .ok (.goto (-16), 3) := dk_167 255 240 (dk_at dksX3_init_7 10 rfl rfl)
theorem dX3_init_176 : decode cX3_init 176 = .ok (.return_, 1) := dk_177 (dk_at dksX3_init_7 13 rfl rfl)
abbrev cX3_dig : ByteArray := prog_12_method_21_code
def yX3_dig : MethodName := ⟨RX3, "dig", "(I)I"⟩
def dkwX3_dig_1 : List UInt8 := [27, 182, 0, 146, 42, 180, 0, 7, 27, 92, 46, 4, 96, 79, 42, 180, 0, 7, 27, 46, 172]
abbrev dktX3_dig_1 : List UInt8 := dkwX3_dig_1 ++ []
def dkwX3_dig_0 : List UInt8 := [27, 184, 0, 142, 154, 0, 5, 2, 172, 42, 180, 0, 7, 27, 46, 16, 9, 160, 0, 6, 16, 253, 172, 42]
abbrev dktX3_dig_0 : List UInt8 := dkwX3_dig_0 ++ dktX3_dig_1
theorem dksX3_dig_0 : cX3_dig.data.toList.drop 0 = dktX3_dig_0 := by decide +kernel
theorem dksX3_dig_1 : cX3_dig.data.toList.drop 24 = dktX3_dig_1 := dk_seg dksX3_dig_0 24 rfl rfl
theorem dX3_dig_0 : decode cX3_dig 0 = .ok (.iload_n 1, 1) := dk_27 (dk_at dksX3_dig_0 0 rfl rfl)
theorem dX3_dig_1 : decode cX3_dig 1 = .ok (.invokestatic 142, 3) := dk_184 0 142 (dk_at dksX3_dig_0 1 rfl rfl)
theorem dX3_dig_4 : decode cX3_dig 4 = .ok (.ifCond .ne 5, 3) := dk_154 0 5 (dk_at dksX3_dig_0 4 rfl rfl)
theorem dX3_dig_7 : decode cX3_dig 7 = .ok (.iconst (-1), 1) := dk_2 (dk_at dksX3_dig_0 7 rfl rfl)
theorem dX3_dig_8 : decode cX3_dig 8 = .ok (.ireturn, 1) := dk_172 (dk_at dksX3_dig_0 8 rfl rfl)
theorem dX3_dig_9 : decode cX3_dig 9 = .ok (.aload_n 0, 1) := dk_42 (dk_at dksX3_dig_0 9 rfl rfl)
theorem dX3_dig_10 : decode cX3_dig 10 = .ok (.getfield 7, 3) := dk_180 0 7 (dk_at dksX3_dig_0 10 rfl rfl)
theorem dX3_dig_13 : decode cX3_dig 13 = .ok (.iload_n 1, 1) := dk_27 (dk_at dksX3_dig_0 13 rfl rfl)
theorem dX3_dig_14 : decode cX3_dig 14 = .ok (.iaload, 1) := dk_46 (dk_at dksX3_dig_0 14 rfl rfl)
theorem dX3_dig_15 : decode cX3_dig 15 = .ok (.bipush 9, 2) := dk_16 9 (dk_at dksX3_dig_0 15 rfl rfl)
theorem dX3_dig_17 : decode cX3_dig 17 = .ok (.if_icmp .ne 6, 3) := dk_160 0 6 (dk_at dksX3_dig_0 17 rfl rfl)
theorem dX3_dig_20 : decode cX3_dig 20 = .ok (.bipush (-3), 2) := dk_16 253 (dk_at dksX3_dig_0 20 rfl rfl)
theorem dX3_dig_22 : decode cX3_dig 22 = .ok (.ireturn, 1) := dk_172 (dk_at dksX3_dig_0 22 rfl rfl)
theorem dX3_dig_23 : decode cX3_dig 23 = .ok (.aload_n 0, 1) := dk_42 (dk_at dksX3_dig_0 23 rfl rfl)
theorem dX3_dig_24 : decode cX3_dig 24 = .ok (.iload_n 1, 1) := dk_27 (dk_at dksX3_dig_1 0 rfl rfl)
theorem dX3_dig_25 : decode cX3_dig 25 = .ok (.invokevirtual 146, 3) := dk_182 0 146 (dk_at dksX3_dig_1 1 rfl rfl)
theorem dX3_dig_28 : decode cX3_dig 28 = .ok (.aload_n 0, 1) := dk_42 (dk_at dksX3_dig_1 4 rfl rfl)
theorem dX3_dig_29 : decode cX3_dig 29 = .ok (.getfield 7, 3) := dk_180 0 7 (dk_at dksX3_dig_1 5 rfl rfl)
theorem dX3_dig_32 : decode cX3_dig 32 = .ok (.iload_n 1, 1) := dk_27 (dk_at dksX3_dig_1 8 rfl rfl)
theorem dX3_dig_33 : decode cX3_dig 33 = .ok (.dup2, 1) := dk_92 (dk_at dksX3_dig_1 9 rfl rfl)
theorem dX3_dig_34 : decode cX3_dig 34 = .ok (.iaload, 1) := dk_46 (dk_at dksX3_dig_1 10 rfl rfl)
theorem dX3_dig_35 : decode cX3_dig 35 = .ok (.iconst 1, 1) := dk_4 (dk_at dksX3_dig_1 11 rfl rfl)
theorem dX3_dig_36 : decode cX3_dig 36 = .ok (.iadd, 1) := dk_96 (dk_at dksX3_dig_1 12 rfl rfl)
theorem dX3_dig_37 : decode cX3_dig 37 = .ok (.iastore, 1) := dk_79 (dk_at dksX3_dig_1 13 rfl rfl)
theorem dX3_dig_38 : decode cX3_dig 38 = .ok (.aload_n 0, 1) := dk_42 (dk_at dksX3_dig_1 14 rfl rfl)
theorem dX3_dig_39 : decode cX3_dig 39 = .ok (.getfield 7, 3) := dk_180 0 7 (dk_at dksX3_dig_1 15 rfl rfl)
theorem dX3_dig_42 : decode cX3_dig 42 = .ok (.iload_n 1, 1) := dk_27 (dk_at dksX3_dig_1 18 rfl rfl)
theorem dX3_dig_43 : decode cX3_dig 43 = .ok (.iaload, 1) := dk_46 (dk_at dksX3_dig_1 19 rfl rfl)
theorem dX3_dig_44 : decode cX3_dig 44 = .ok (.ireturn, 1) := dk_172 (dk_at dksX3_dig_1 20 rfl rfl)
abbrev cX3_isCell : ByteArray := prog_12_method_3_code
def yX3_isCell : MethodName := ⟨RX3, "isCell", "(I)Z"⟩
def dkwX3_isCell_0 : List UInt8 := [26, 133, 9, 20, 0, 63, 184, 0, 65, 172]
abbrev dktX3_isCell_0 : List UInt8 := dkwX3_isCell_0 ++ []
theorem dksX3_isCell_0 : cX3_isCell.data.toList.drop 0 = dktX3_isCell_0 := by decide +kernel
theorem dX3_isCell_0 : decode cX3_isCell 0 = .ok (.iload_n 0, 1) := dk_26 (dk_at dksX3_isCell_0 0 rfl rfl)
theorem dX3_isCell_1 : decode cX3_isCell 1 = .ok (.i2l, 1) := dk_133 (dk_at dksX3_isCell_0 1 rfl rfl)
theorem dX3_isCell_2 : decode cX3_isCell 2 = .ok (.lconst 0, 1) := dk_9 (dk_at dksX3_isCell_0 2 rfl rfl)
theorem dX3_isCell_3 : decode cX3_isCell 3 = .ok (.ldc2_w 63, 3) := dk_20 0 63 (dk_at dksX3_isCell_0 3 rfl rfl)
theorem dX3_isCell_6 : decode cX3_isCell 6 = .ok (.invokestatic 65, 3) := dk_184 0 65 (dk_at dksX3_isCell_0 6 rfl rfl)
theorem dX3_isCell_9 : decode cX3_isCell 9 = .ok (.ireturn, 1) := dk_172 (dk_at dksX3_isCell_0 9 rfl rfl)
abbrev cX3_in : ByteArray := prog_12_method_2_code
def yX3_in : MethodName := ⟨RX3, "in", "(JJJ)Z"⟩
def dkwX3_in_0 : List UInt8 := [30, 32, 148, 155, 0, 14, 30, 22, 4, 148, 157, 0, 7, 4, 167, 0, 4, 3, 172]
abbrev dktX3_in_0 : List UInt8 := dkwX3_in_0 ++ []
theorem dksX3_in_0 : cX3_in.data.toList.drop 0 = dktX3_in_0 := by decide +kernel
theorem dX3_in_0 : decode cX3_in 0 = .ok (.lload_n 0, 1) := dk_30 (dk_at dksX3_in_0 0 rfl rfl)
theorem dX3_in_1 : decode cX3_in 1 = .ok (.lload_n 2, 1) := dk_32 (dk_at dksX3_in_0 1 rfl rfl)
theorem dX3_in_2 : decode cX3_in 2 = .ok (.lcmp, 1) := dk_148 (dk_at dksX3_in_0 2 rfl rfl)
theorem dX3_in_3 : decode cX3_in 3 = .ok (.ifCond .lt 14, 3) := dk_155 0 14 (dk_at dksX3_in_0 3 rfl rfl)
theorem dX3_in_6 : decode cX3_in 6 = .ok (.lload_n 0, 1) := dk_30 (dk_at dksX3_in_0 6 rfl rfl)
theorem dX3_in_7 : decode cX3_in 7 = .ok (.lload 4, 2) := dk_22 4 (dk_at dksX3_in_0 7 rfl rfl)
theorem dX3_in_9 : decode cX3_in 9 = .ok (.lcmp, 1) := dk_148 (dk_at dksX3_in_0 9 rfl rfl)
theorem dX3_in_10 : decode cX3_in 10 = .ok (.ifCond .gt 7, 3) := dk_157 0 7 (dk_at dksX3_in_0 10 rfl rfl)
theorem dX3_in_13 : decode cX3_in 13 = .ok (.iconst 1, 1) := dk_4 (dk_at dksX3_in_0 13 rfl rfl)
theorem dX3_in_14 : decode cX3_in 14 = .ok (.goto 4, 3) := dk_167 0 4 (dk_at dksX3_in_0 14 rfl rfl)
theorem dX3_in_17 : decode cX3_in 17 = .ok (.iconst 0, 1) := dk_3 (dk_at dksX3_in_0 17 rfl rfl)
theorem dX3_in_18 : decode cX3_in 18 = .ok (.ireturn, 1) := dk_172 (dk_at dksX3_in_0 18 rfl rfl)
abbrev cX3_note : ByteArray := prog_12_method_19_code
def yX3_note : MethodName := ⟨RX3, "note", "(I)V"⟩
def dkwX3_note_4 : List UInt8 := [184, 0, 69, 153, 0, 7, 4, 167, 0, 4, 3, 79, 42, 89, 180, 0, 139, 4, 96, 181, 0, 139, 177]
abbrev dktX3_note_4 : List UInt8 := dkwX3_note_4 ++ []
def dkwX3_note_3 : List UInt8 := [42, 180, 0, 7, 27, 46, 79, 42, 180, 0, 20, 6, 42, 180, 0, 139, 104, 5, 96, 42, 180, 0, 114, 27]
abbrev dktX3_note_3 : List UInt8 := dkwX3_note_3 ++ dktX3_note_4
def dkwX3_note_2 : List UInt8 := [42, 180, 0, 20, 6, 42, 180, 0, 139, 104, 27, 79, 42, 180, 0, 20, 6, 42, 180, 0, 139, 104, 4, 96]
abbrev dktX3_note_2 : List UInt8 := dkwX3_note_2 ++ dktX3_note_3
def dkwX3_note_1 : List UInt8 := [180, 0, 20, 28, 6, 96, 46, 79, 132, 2, 1, 167, 255, 233, 42, 89, 180, 0, 139, 4, 100, 181, 0, 139]
abbrev dktX3_note_1 : List UInt8 := dkwX3_note_1 ++ dktX3_note_2
def dkwX3_note_0 : List UInt8 := [42, 180, 0, 139, 16, 10, 160, 0, 41, 3, 61, 28, 16, 27, 162, 0, 23, 42, 180, 0, 20, 28, 42]
abbrev dktX3_note_0 : List UInt8 := dkwX3_note_0 ++ dktX3_note_1
theorem dksX3_note_0 : cX3_note.data.toList.drop 0 = dktX3_note_0 := by decide +kernel
theorem dksX3_note_1 : cX3_note.data.toList.drop 23 = dktX3_note_1 := dk_seg dksX3_note_0 23 rfl rfl
theorem dksX3_note_2 : cX3_note.data.toList.drop 47 = dktX3_note_2 := dk_seg dksX3_note_1 24 rfl rfl
theorem dksX3_note_3 : cX3_note.data.toList.drop 71 = dktX3_note_3 := dk_seg dksX3_note_2 24 rfl rfl
theorem dksX3_note_4 : cX3_note.data.toList.drop 95 = dktX3_note_4 := dk_seg dksX3_note_3 24 rfl rfl
theorem dX3_note_0 : decode cX3_note 0 = .ok (.aload_n 0, 1) := dk_42 (dk_at dksX3_note_0 0 rfl rfl)
theorem dX3_note_1 : decode cX3_note 1 = .ok (.getfield 139, 3) := dk_180 0 139 (dk_at dksX3_note_0 1 rfl rfl)
theorem dX3_note_4 : decode cX3_note 4 = .ok (.bipush 10, 2) := dk_16 10 (dk_at dksX3_note_0 4 rfl rfl)
theorem dX3_note_6 : decode cX3_note 6 = .ok (.if_icmp .ne 41, 3) := dk_160 0 41 (dk_at dksX3_note_0 6 rfl rfl)
theorem dX3_note_9 : decode cX3_note 9 = .ok (.iconst 0, 1) := dk_3 (dk_at dksX3_note_0 9 rfl rfl)
theorem dX3_note_10 : decode cX3_note 10 = .ok (.istore_n 2, 1) := dk_61 (dk_at dksX3_note_0 10 rfl rfl)
theorem dX3_note_11 : decode cX3_note 11 = .ok (.iload_n 2, 1) := dk_28 (dk_at dksX3_note_0 11 rfl rfl)
theorem dX3_note_12 : decode cX3_note 12 = .ok (.bipush 27, 2) := dk_16 27 (dk_at dksX3_note_0 12 rfl rfl)
theorem dX3_note_14 : decode cX3_note 14 = .ok (.if_icmp .ge 23, 3) := dk_162 0 23 (dk_at dksX3_note_0 14 rfl rfl)
theorem dX3_note_17 : decode cX3_note 17 = .ok (.aload_n 0, 1) := dk_42 (dk_at dksX3_note_0 17 rfl rfl)
theorem dX3_note_18 : decode cX3_note 18 = .ok (.getfield 20, 3) := dk_180 0 20 (dk_at dksX3_note_0 18 rfl rfl)
theorem dX3_note_21 : decode cX3_note 21 = .ok (.iload_n 2, 1) := dk_28 (dk_at dksX3_note_0 21 rfl rfl)
theorem dX3_note_22 : decode cX3_note 22 = .ok (.aload_n 0, 1) := dk_42 (dk_at dksX3_note_0 22 rfl rfl)
theorem dX3_note_23 : decode cX3_note 23 = .ok (.getfield 20, 3) := dk_180 0 20 (dk_at dksX3_note_1 0 rfl rfl)
theorem dX3_note_26 : decode cX3_note 26 = .ok (.iload_n 2, 1) := dk_28 (dk_at dksX3_note_1 3 rfl rfl)
theorem dX3_note_27 : decode cX3_note 27 = .ok (.iconst 3, 1) := dk_6 (dk_at dksX3_note_1 4 rfl rfl)
theorem dX3_note_28 : decode cX3_note 28 = .ok (.iadd, 1) := dk_96 (dk_at dksX3_note_1 5 rfl rfl)
theorem dX3_note_29 : decode cX3_note 29 = .ok (.iaload, 1) := dk_46 (dk_at dksX3_note_1 6 rfl rfl)
theorem dX3_note_30 : decode cX3_note 30 = .ok (.iastore, 1) := dk_79 (dk_at dksX3_note_1 7 rfl rfl)
theorem dX3_note_31 : decode cX3_note 31 = .ok (.iinc 2 1, 3) := dk_132 2 1 (dk_at dksX3_note_1 8 rfl rfl)
theorem dX3_note_34 : decode cX3_note 34 = .ok (.goto (-23), 3) := dk_167 255 233 (dk_at dksX3_note_1 11 rfl rfl)
theorem dX3_note_37 : decode cX3_note 37 = .ok (.aload_n 0, 1) := dk_42 (dk_at dksX3_note_1 14 rfl rfl)
theorem dX3_note_38 : decode cX3_note 38 = .ok (.dup, 1) := dk_89 (dk_at dksX3_note_1 15 rfl rfl)
theorem dX3_note_39 : decode cX3_note 39 = .ok (.getfield 139, 3) := dk_180 0 139 (dk_at dksX3_note_1 16 rfl rfl)
theorem dX3_note_42 : decode cX3_note 42 = .ok (.iconst 1, 1) := dk_4 (dk_at dksX3_note_1 19 rfl rfl)
theorem dX3_note_43 : decode cX3_note 43 = .ok (.isub, 1) := dk_100 (dk_at dksX3_note_1 20 rfl rfl)
theorem dX3_note_44 : decode cX3_note 44 = .ok (.putfield 139, 3) := dk_181 0 139 (dk_at dksX3_note_1 21 rfl rfl)
theorem dX3_note_47 : decode cX3_note 47 = .ok (.aload_n 0, 1) := dk_42 (dk_at dksX3_note_2 0 rfl rfl)
theorem dX3_note_48 : decode cX3_note 48 = .ok (.getfield 20, 3) := dk_180 0 20 (dk_at dksX3_note_2 1 rfl rfl)
theorem dX3_note_51 : decode cX3_note 51 = .ok (.iconst 3, 1) := dk_6 (dk_at dksX3_note_2 4 rfl rfl)
theorem dX3_note_52 : decode cX3_note 52 = .ok (.aload_n 0, 1) := dk_42 (dk_at dksX3_note_2 5 rfl rfl)
theorem dX3_note_53 : decode cX3_note 53 = .ok (.getfield 139, 3) := dk_180 0 139 (dk_at dksX3_note_2 6 rfl rfl)
theorem dX3_note_56 : decode cX3_note 56 = .ok (.imul, 1) := dk_104 (dk_at dksX3_note_2 9 rfl rfl)
theorem dX3_note_57 : decode cX3_note 57 = .ok (.iload_n 1, 1) := dk_27 (dk_at dksX3_note_2 10 rfl rfl)
theorem dX3_note_58 : decode cX3_note 58 = .ok (.iastore, 1) := dk_79 (dk_at dksX3_note_2 11 rfl rfl)
theorem dX3_note_59 : decode cX3_note 59 = .ok (.aload_n 0, 1) := dk_42 (dk_at dksX3_note_2 12 rfl rfl)
theorem dX3_note_60 : decode cX3_note 60 = .ok (.getfield 20, 3) := dk_180 0 20 (dk_at dksX3_note_2 13 rfl rfl)
theorem dX3_note_63 : decode cX3_note 63 = .ok (.iconst 3, 1) := dk_6 (dk_at dksX3_note_2 16 rfl rfl)
theorem dX3_note_64 : decode cX3_note 64 = .ok (.aload_n 0, 1) := dk_42 (dk_at dksX3_note_2 17 rfl rfl)
theorem dX3_note_65 : decode cX3_note 65 = .ok (.getfield 139, 3) := dk_180 0 139 (dk_at dksX3_note_2 18 rfl rfl)
theorem dX3_note_68 : decode cX3_note 68 = .ok (.imul, 1) := dk_104 (dk_at dksX3_note_2 21 rfl rfl)
theorem dX3_note_69 : decode cX3_note 69 = .ok (.iconst 1, 1) := dk_4 (dk_at dksX3_note_2 22 rfl rfl)
theorem dX3_note_70 : decode cX3_note 70 = .ok (.iadd, 1) := dk_96 (dk_at dksX3_note_2 23 rfl rfl)
theorem dX3_note_71 : decode cX3_note 71 = .ok (.aload_n 0, 1) := dk_42 (dk_at dksX3_note_3 0 rfl rfl)
theorem dX3_note_72 : decode cX3_note 72 = .ok (.getfield 7, 3) := dk_180 0 7 (dk_at dksX3_note_3 1 rfl rfl)
theorem dX3_note_75 : decode cX3_note 75 = .ok (.iload_n 1, 1) := dk_27 (dk_at dksX3_note_3 4 rfl rfl)
theorem dX3_note_76 : decode cX3_note 76 = .ok (.iaload, 1) := dk_46 (dk_at dksX3_note_3 5 rfl rfl)
theorem dX3_note_77 : decode cX3_note 77 = .ok (.iastore, 1) := dk_79 (dk_at dksX3_note_3 6 rfl rfl)
theorem dX3_note_78 : decode cX3_note 78 = .ok (.aload_n 0, 1) := dk_42 (dk_at dksX3_note_3 7 rfl rfl)
theorem dX3_note_79 : decode cX3_note 79 = .ok (.getfield 20, 3) := dk_180 0 20 (dk_at dksX3_note_3 8 rfl rfl)
theorem dX3_note_82 : decode cX3_note 82 = .ok (.iconst 3, 1) := dk_6 (dk_at dksX3_note_3 11 rfl rfl)
theorem dX3_note_83 : decode cX3_note 83 = .ok (.aload_n 0, 1) := dk_42 (dk_at dksX3_note_3 12 rfl rfl)
theorem dX3_note_84 : decode cX3_note 84 = .ok (.getfield 139, 3) := dk_180 0 139 (dk_at dksX3_note_3 13 rfl rfl)
theorem dX3_note_87 : decode cX3_note 87 = .ok (.imul, 1) := dk_104 (dk_at dksX3_note_3 16 rfl rfl)
theorem dX3_note_88 : decode cX3_note 88 = .ok (.iconst 2, 1) := dk_5 (dk_at dksX3_note_3 17 rfl rfl)
theorem dX3_note_89 : decode cX3_note 89 = .ok (.iadd, 1) := dk_96 (dk_at dksX3_note_3 18 rfl rfl)
theorem dX3_note_90 : decode cX3_note 90 = .ok (.aload_n 0, 1) := dk_42 (dk_at dksX3_note_3 19 rfl rfl)
theorem dX3_note_91 : decode cX3_note 91 = .ok (.getfield 114, 3) := dk_180 0 114 (dk_at dksX3_note_3 20 rfl rfl)
theorem dX3_note_94 : decode cX3_note 94 = .ok (.iload_n 1, 1) := dk_27 (dk_at dksX3_note_3 23 rfl rfl)
theorem dX3_note_95 : decode cX3_note 95 = .ok (.invokestatic 69, 3) := dk_184 0 69 (dk_at dksX3_note_4 0 rfl rfl)
theorem dX3_note_98 : decode cX3_note 98 = .ok (.ifCond .eq 7, 3) := dk_153 0 7 (dk_at dksX3_note_4 3 rfl rfl)
theorem dX3_note_101 : decode cX3_note 101 = .ok (.iconst 1, 1) := dk_4 (dk_at dksX3_note_4 6 rfl rfl)
theorem dX3_note_102 : decode cX3_note 102 = .ok (.goto 4, 3) := dk_167 0 4 (dk_at dksX3_note_4 7 rfl rfl)
theorem dX3_note_105 : decode cX3_note 105 = .ok (.iconst 0, 1) := dk_3 (dk_at dksX3_note_4 10 rfl rfl)
theorem dX3_note_106 : decode cX3_note 106 = .ok (.iastore, 1) := dk_79 (dk_at dksX3_note_4 11 rfl rfl)
theorem dX3_note_107 : decode cX3_note 107 = .ok (.aload_n 0, 1) := dk_42 (dk_at dksX3_note_4 12 rfl rfl)
theorem dX3_note_108 : decode cX3_note 108 = .ok (.dup, 1) := dk_89 (dk_at dksX3_note_4 13 rfl rfl)
theorem dX3_note_109 : decode cX3_note 109 = .ok (.getfield 139, 3) := dk_180 0 139 (dk_at dksX3_note_4 14 rfl rfl)
theorem dX3_note_112 : decode cX3_note 112 = .ok (.iconst 1, 1) := dk_4 (dk_at dksX3_note_4 17 rfl rfl)
theorem dX3_note_113 : decode cX3_note 113 = .ok (.iadd, 1) := dk_96 (dk_at dksX3_note_4 18 rfl rfl)
theorem dX3_note_114 : decode cX3_note 114 = .ok (.putfield 139, 3) := dk_181 0 139 (dk_at dksX3_note_4 19 rfl rfl)
theorem dX3_note_117 : decode cX3_note 117 = .ok (.return_, 1) := dk_177 (dk_at dksX3_note_4 22 rfl rfl)
abbrev cX3_has : ByteArray := prog_12_method_4_code
def yX3_has : MethodName := ⟨RX3, "has", "(JI)Z"⟩
def dkwX3_has_0 : List UInt8 := [30, 28, 123, 10, 127, 10, 148, 154, 0, 7, 4, 167, 0, 4, 3, 172]
abbrev dktX3_has_0 : List UInt8 := dkwX3_has_0 ++ []
theorem dksX3_has_0 : cX3_has.data.toList.drop 0 = dktX3_has_0 := by decide +kernel
theorem dX3_has_0 : decode cX3_has 0 = .ok (.lload_n 0, 1) := dk_30 (dk_at dksX3_has_0 0 rfl rfl)
theorem dX3_has_1 : decode cX3_has 1 = .ok (.iload_n 2, 1) := dk_28 (dk_at dksX3_has_0 1 rfl rfl)
theorem dX3_has_2 : decode cX3_has 2 = .ok (.lshr, 1) := dk_123 (dk_at dksX3_has_0 2 rfl rfl)
theorem dX3_has_3 : decode cX3_has 3 = .ok (.lconst 1, 1) := dk_10 (dk_at dksX3_has_0 3 rfl rfl)
theorem dX3_has_4 : decode cX3_has 4 = .ok (.land, 1) := dk_127 (dk_at dksX3_has_0 4 rfl rfl)
theorem dX3_has_5 : decode cX3_has 5 = .ok (.lconst 1, 1) := dk_10 (dk_at dksX3_has_0 5 rfl rfl)
theorem dX3_has_6 : decode cX3_has 6 = .ok (.lcmp, 1) := dk_148 (dk_at dksX3_has_0 6 rfl rfl)
theorem dX3_has_7 : decode cX3_has 7 = .ok (.ifCond .ne 7, 3) := dk_154 0 7 (dk_at dksX3_has_0 7 rfl rfl)
theorem dX3_has_10 : decode cX3_has 10 = .ok (.iconst 1, 1) := dk_4 (dk_at dksX3_has_0 10 rfl rfl)
theorem dX3_has_11 : decode cX3_has 11 = .ok (.goto 4, 3) := dk_167 0 4 (dk_at dksX3_has_0 11 rfl rfl)
theorem dX3_has_14 : decode cX3_has 14 = .ok (.iconst 0, 1) := dk_3 (dk_at dksX3_has_0 14 rfl rfl)
theorem dX3_has_15 : decode cX3_has 15 = .ok (.ireturn, 1) := dk_172 (dk_at dksX3_has_0 15 rfl rfl)
abbrev cX3_fill : ByteArray := prog_12_method_22_code
def yX3_fill : MethodName := ⟨RX3, "fill", "(I)I"⟩
def dkwX3_fill_1 : List UInt8 := [27, 182, 0, 146, 42, 27, 3, 3, 182, 0, 150, 28, 172]
abbrev dktX3_fill_1 : List UInt8 := dkwX3_fill_1 ++ []
def dkwX3_fill_0 : List UInt8 := [27, 184, 0, 142, 154, 0, 5, 2, 172, 42, 180, 0, 7, 27, 46, 61, 28, 154, 0, 6, 16, 254, 172, 42]
abbrev dktX3_fill_0 : List UInt8 := dkwX3_fill_0 ++ dktX3_fill_1
theorem dksX3_fill_0 : cX3_fill.data.toList.drop 0 = dktX3_fill_0 := by decide +kernel
theorem dksX3_fill_1 : cX3_fill.data.toList.drop 24 = dktX3_fill_1 := dk_seg dksX3_fill_0 24 rfl rfl
theorem dX3_fill_0 : decode cX3_fill 0 = .ok (.iload_n 1, 1) := dk_27 (dk_at dksX3_fill_0 0 rfl rfl)
theorem dX3_fill_1 : decode cX3_fill 1 = .ok (.invokestatic 142, 3) := dk_184 0 142 (dk_at dksX3_fill_0 1 rfl rfl)
theorem dX3_fill_4 : decode cX3_fill 4 = .ok (.ifCond .ne 5, 3) := dk_154 0 5 (dk_at dksX3_fill_0 4 rfl rfl)
theorem dX3_fill_7 : decode cX3_fill 7 = .ok (.iconst (-1), 1) := dk_2 (dk_at dksX3_fill_0 7 rfl rfl)
theorem dX3_fill_8 : decode cX3_fill 8 = .ok (.ireturn, 1) := dk_172 (dk_at dksX3_fill_0 8 rfl rfl)
theorem dX3_fill_9 : decode cX3_fill 9 = .ok (.aload_n 0, 1) := dk_42 (dk_at dksX3_fill_0 9 rfl rfl)
theorem dX3_fill_10 : decode cX3_fill 10 = .ok (.getfield 7, 3) := dk_180 0 7 (dk_at dksX3_fill_0 10 rfl rfl)
theorem dX3_fill_13 : decode cX3_fill 13 = .ok (.iload_n 1, 1) := dk_27 (dk_at dksX3_fill_0 13 rfl rfl)
theorem dX3_fill_14 : decode cX3_fill 14 = .ok (.iaload, 1) := dk_46 (dk_at dksX3_fill_0 14 rfl rfl)
theorem dX3_fill_15 : decode cX3_fill 15 = .ok (.istore_n 2, 1) := dk_61 (dk_at dksX3_fill_0 15 rfl rfl)
theorem dX3_fill_16 : decode cX3_fill 16 = .ok (.iload_n 2, 1) := dk_28 (dk_at dksX3_fill_0 16 rfl rfl)
theorem dX3_fill_17 : decode cX3_fill 17 = .ok (.ifCond .ne 6, 3) := dk_154 0 6 (dk_at dksX3_fill_0 17 rfl rfl)
theorem dX3_fill_20 : decode cX3_fill 20 = .ok (.bipush (-2), 2) := dk_16 254 (dk_at dksX3_fill_0 20 rfl rfl)
theorem dX3_fill_22 : decode cX3_fill 22 = .ok (.ireturn, 1) := dk_172 (dk_at dksX3_fill_0 22 rfl rfl)
theorem dX3_fill_23 : decode cX3_fill 23 = .ok (.aload_n 0, 1) := dk_42 (dk_at dksX3_fill_0 23 rfl rfl)
theorem dX3_fill_24 : decode cX3_fill 24 = .ok (.iload_n 1, 1) := dk_27 (dk_at dksX3_fill_1 0 rfl rfl)
theorem dX3_fill_25 : decode cX3_fill 25 = .ok (.invokevirtual 146, 3) := dk_182 0 146 (dk_at dksX3_fill_1 1 rfl rfl)
theorem dX3_fill_28 : decode cX3_fill 28 = .ok (.aload_n 0, 1) := dk_42 (dk_at dksX3_fill_1 4 rfl rfl)
theorem dX3_fill_29 : decode cX3_fill 29 = .ok (.iload_n 1, 1) := dk_27 (dk_at dksX3_fill_1 5 rfl rfl)
theorem dX3_fill_30 : decode cX3_fill 30 = .ok (.iconst 0, 1) := dk_3 (dk_at dksX3_fill_1 6 rfl rfl)
theorem dX3_fill_31 : decode cX3_fill 31 = .ok (.iconst 0, 1) := dk_3 (dk_at dksX3_fill_1 7 rfl rfl)
theorem dX3_fill_32 : decode cX3_fill 32 = .ok (.invokevirtual 150, 3) := dk_182 0 150 (dk_at dksX3_fill_1 8 rfl rfl)
theorem dX3_fill_35 : decode cX3_fill 35 = .ok (.iload_n 2, 1) := dk_28 (dk_at dksX3_fill_1 11 rfl rfl)
theorem dX3_fill_36 : decode cX3_fill 36 = .ok (.ireturn, 1) := dk_172 (dk_at dksX3_fill_1 12 rfl rfl)
abbrev cX3_put : ByteArray := prog_12_method_20_code
def yX3_put : MethodName := ⟨RX3, "put", "(IIZ)V"⟩
def dkwX3_put_1 : List UInt8 := [180, 0, 114, 10, 27, 121, 20, 0, 94, 131, 127, 181, 0, 114, 177]
abbrev dktX3_put_1 : List UInt8 := dkwX3_put_1 ++ []
def dkwX3_put_0 : List UInt8 := [42, 180, 0, 7, 27, 28, 79, 42, 29, 153, 0, 14, 42, 180, 0, 114, 10, 27, 121, 129, 167, 0, 15, 42]
abbrev dktX3_put_0 : List UInt8 := dkwX3_put_0 ++ dktX3_put_1
theorem dksX3_put_0 : cX3_put.data.toList.drop 0 = dktX3_put_0 := by decide +kernel
theorem dksX3_put_1 : cX3_put.data.toList.drop 24 = dktX3_put_1 := dk_seg dksX3_put_0 24 rfl rfl
theorem dX3_put_0 : decode cX3_put 0 = .ok (.aload_n 0, 1) := dk_42 (dk_at dksX3_put_0 0 rfl rfl)
theorem dX3_put_1 : decode cX3_put 1 = .ok (.getfield 7, 3) := dk_180 0 7 (dk_at dksX3_put_0 1 rfl rfl)
theorem dX3_put_4 : decode cX3_put 4 = .ok (.iload_n 1, 1) := dk_27 (dk_at dksX3_put_0 4 rfl rfl)
theorem dX3_put_5 : decode cX3_put 5 = .ok (.iload_n 2, 1) := dk_28 (dk_at dksX3_put_0 5 rfl rfl)
theorem dX3_put_6 : decode cX3_put 6 = .ok (.iastore, 1) := dk_79 (dk_at dksX3_put_0 6 rfl rfl)
theorem dX3_put_7 : decode cX3_put 7 = .ok (.aload_n 0, 1) := dk_42 (dk_at dksX3_put_0 7 rfl rfl)
theorem dX3_put_8 : decode cX3_put 8 = .ok (.iload_n 3, 1) := dk_29 (dk_at dksX3_put_0 8 rfl rfl)
theorem dX3_put_9 : decode cX3_put 9 = .ok (.ifCond .eq 14, 3) := dk_153 0 14 (dk_at dksX3_put_0 9 rfl rfl)
theorem dX3_put_12 : decode cX3_put 12 = .ok (.aload_n 0, 1) := dk_42 (dk_at dksX3_put_0 12 rfl rfl)
theorem dX3_put_13 : decode cX3_put 13 = .ok (.getfield 114, 3) := dk_180 0 114 (dk_at dksX3_put_0 13 rfl rfl)
theorem dX3_put_16 : decode cX3_put 16 = .ok (.lconst 1, 1) := dk_10 (dk_at dksX3_put_0 16 rfl rfl)
theorem dX3_put_17 : decode cX3_put 17 = .ok (.iload_n 1, 1) := dk_27 (dk_at dksX3_put_0 17 rfl rfl)
theorem dX3_put_18 : decode cX3_put 18 = .ok (.lshl, 1) := dk_121 (dk_at dksX3_put_0 18 rfl rfl)
theorem dX3_put_19 : decode cX3_put 19 = .ok (.lor, 1) := dk_129 (dk_at dksX3_put_0 19 rfl rfl)
theorem dX3_put_20 : decode cX3_put 20 = .ok (.goto 15, 3) := dk_167 0 15 (dk_at dksX3_put_0 20 rfl rfl)
theorem dX3_put_23 : decode cX3_put 23 = .ok (.aload_n 0, 1) := dk_42 (dk_at dksX3_put_0 23 rfl rfl)
theorem dX3_put_24 : decode cX3_put 24 = .ok (.getfield 114, 3) := dk_180 0 114 (dk_at dksX3_put_1 0 rfl rfl)
theorem dX3_put_27 : decode cX3_put 27 = .ok (.lconst 1, 1) := dk_10 (dk_at dksX3_put_1 3 rfl rfl)
theorem dX3_put_28 : decode cX3_put 28 = .ok (.iload_n 1, 1) := dk_27 (dk_at dksX3_put_1 4 rfl rfl)
theorem dX3_put_29 : decode cX3_put 29 = .ok (.lshl, 1) := dk_121 (dk_at dksX3_put_1 5 rfl rfl)
theorem dX3_put_30 : decode cX3_put 30 = .ok (.ldc2_w 94, 3) := dk_20 0 94 (dk_at dksX3_put_1 6 rfl rfl)
theorem dX3_put_33 : decode cX3_put 33 = .ok (.lxor, 1) := dk_131 (dk_at dksX3_put_1 9 rfl rfl)
theorem dX3_put_34 : decode cX3_put 34 = .ok (.land, 1) := dk_127 (dk_at dksX3_put_1 10 rfl rfl)
theorem dX3_put_35 : decode cX3_put 35 = .ok (.putfield 114, 3) := dk_181 0 114 (dk_at dksX3_put_1 11 rfl rfl)
theorem dX3_put_38 : decode cX3_put 38 = .ok (.return_, 1) := dk_177 (dk_at dksX3_put_1 14 rfl rfl)
abbrev cX3_roof : ByteArray := prog_12_method_23_code
def yX3_roof : MethodName := ⟨RX3, "roof", "(I)I"⟩
def dkwX3_roof_2 : List UInt8 := [153, 0, 7, 4, 167, 0, 4, 3, 172]
abbrev dktX3_roof_2 : List UInt8 := dkwX3_roof_2 ++ []
def dkwX3_roof_1 : List UInt8 := [182, 0, 146, 42, 89, 180, 0, 114, 10, 27, 121, 131, 181, 0, 114, 42, 180, 0, 114, 27, 184, 0, 69]
abbrev dktX3_roof_1 : List UInt8 := dkwX3_roof_1 ++ dktX3_roof_2
def dkwX3_roof_0 : List UInt8 := [27, 184, 0, 142, 154, 0, 5, 2, 172, 42, 180, 0, 7, 27, 46, 154, 0, 6, 16, 254, 172, 42, 27]
abbrev dktX3_roof_0 : List UInt8 := dkwX3_roof_0 ++ dktX3_roof_1
theorem dksX3_roof_0 : cX3_roof.data.toList.drop 0 = dktX3_roof_0 := by decide +kernel
theorem dksX3_roof_1 : cX3_roof.data.toList.drop 23 = dktX3_roof_1 := dk_seg dksX3_roof_0 23 rfl rfl
theorem dksX3_roof_2 : cX3_roof.data.toList.drop 46 = dktX3_roof_2 := dk_seg dksX3_roof_1 23 rfl rfl
theorem dX3_roof_0 : decode cX3_roof 0 = .ok (.iload_n 1, 1) := dk_27 (dk_at dksX3_roof_0 0 rfl rfl)
theorem dX3_roof_1 : decode cX3_roof 1 = .ok (.invokestatic 142, 3) := dk_184 0 142 (dk_at dksX3_roof_0 1 rfl rfl)
theorem dX3_roof_4 : decode cX3_roof 4 = .ok (.ifCond .ne 5, 3) := dk_154 0 5 (dk_at dksX3_roof_0 4 rfl rfl)
theorem dX3_roof_7 : decode cX3_roof 7 = .ok (.iconst (-1), 1) := dk_2 (dk_at dksX3_roof_0 7 rfl rfl)
theorem dX3_roof_8 : decode cX3_roof 8 = .ok (.ireturn, 1) := dk_172 (dk_at dksX3_roof_0 8 rfl rfl)
theorem dX3_roof_9 : decode cX3_roof 9 = .ok (.aload_n 0, 1) := dk_42 (dk_at dksX3_roof_0 9 rfl rfl)
theorem dX3_roof_10 : decode cX3_roof 10 = .ok (.getfield 7, 3) := dk_180 0 7 (dk_at dksX3_roof_0 10 rfl rfl)
theorem dX3_roof_13 : decode cX3_roof 13 = .ok (.iload_n 1, 1) := dk_27 (dk_at dksX3_roof_0 13 rfl rfl)
theorem dX3_roof_14 : decode cX3_roof 14 = .ok (.iaload, 1) := dk_46 (dk_at dksX3_roof_0 14 rfl rfl)
theorem dX3_roof_15 : decode cX3_roof 15 = .ok (.ifCond .ne 6, 3) := dk_154 0 6 (dk_at dksX3_roof_0 15 rfl rfl)
theorem dX3_roof_18 : decode cX3_roof 18 = .ok (.bipush (-2), 2) := dk_16 254 (dk_at dksX3_roof_0 18 rfl rfl)
theorem dX3_roof_20 : decode cX3_roof 20 = .ok (.ireturn, 1) := dk_172 (dk_at dksX3_roof_0 20 rfl rfl)
theorem dX3_roof_21 : decode cX3_roof 21 = .ok (.aload_n 0, 1) := dk_42 (dk_at dksX3_roof_0 21 rfl rfl)
theorem dX3_roof_22 : decode cX3_roof 22 = .ok (.iload_n 1, 1) := dk_27 (dk_at dksX3_roof_0 22 rfl rfl)
theorem dX3_roof_23 : decode cX3_roof 23 = .ok (.invokevirtual 146, 3) := dk_182 0 146 (dk_at dksX3_roof_1 0 rfl rfl)
theorem dX3_roof_26 : decode cX3_roof 26 = .ok (.aload_n 0, 1) := dk_42 (dk_at dksX3_roof_1 3 rfl rfl)
theorem dX3_roof_27 : decode cX3_roof 27 = .ok (.dup, 1) := dk_89 (dk_at dksX3_roof_1 4 rfl rfl)
theorem dX3_roof_28 : decode cX3_roof 28 = .ok (.getfield 114, 3) := dk_180 0 114 (dk_at dksX3_roof_1 5 rfl rfl)
theorem dX3_roof_31 : decode cX3_roof 31 = .ok (.lconst 1, 1) := dk_10 (dk_at dksX3_roof_1 8 rfl rfl)
theorem dX3_roof_32 : decode cX3_roof 32 = .ok (.iload_n 1, 1) := dk_27 (dk_at dksX3_roof_1 9 rfl rfl)
theorem dX3_roof_33 : decode cX3_roof 33 = .ok (.lshl, 1) := dk_121 (dk_at dksX3_roof_1 10 rfl rfl)
theorem dX3_roof_34 : decode cX3_roof 34 = .ok (.lxor, 1) := dk_131 (dk_at dksX3_roof_1 11 rfl rfl)
theorem dX3_roof_35 : decode cX3_roof 35 = .ok (.putfield 114, 3) := dk_181 0 114 (dk_at dksX3_roof_1 12 rfl rfl)
theorem dX3_roof_38 : decode cX3_roof 38 = .ok (.aload_n 0, 1) := dk_42 (dk_at dksX3_roof_1 15 rfl rfl)
theorem dX3_roof_39 : decode cX3_roof 39 = .ok (.getfield 114, 3) := dk_180 0 114 (dk_at dksX3_roof_1 16 rfl rfl)
theorem dX3_roof_42 : decode cX3_roof 42 = .ok (.iload_n 1, 1) := dk_27 (dk_at dksX3_roof_1 19 rfl rfl)
theorem dX3_roof_43 : decode cX3_roof 43 = .ok (.invokestatic 69, 3) := dk_184 0 69 (dk_at dksX3_roof_1 20 rfl rfl)
theorem dX3_roof_46 : decode cX3_roof 46 = .ok (.ifCond .eq 7, 3) := dk_153 0 7 (dk_at dksX3_roof_2 0 rfl rfl)
theorem dX3_roof_49 : decode cX3_roof 49 = .ok (.iconst 1, 1) := dk_4 (dk_at dksX3_roof_2 3 rfl rfl)
theorem dX3_roof_50 : decode cX3_roof 50 = .ok (.goto 4, 3) := dk_167 0 4 (dk_at dksX3_roof_2 4 rfl rfl)
theorem dX3_roof_53 : decode cX3_roof 53 = .ok (.iconst 0, 1) := dk_3 (dk_at dksX3_roof_2 7 rfl rfl)
theorem dX3_roof_54 : decode cX3_roof 54 = .ok (.ireturn, 1) := dk_172 (dk_at dksX3_roof_2 8 rfl rfl)
abbrev cX3_undo : ByteArray := prog_12_method_24_code
def yX3_undo : MethodName := ⟨RX3, "undo", "()I"⟩
def dkwX3_undo_3 : List UInt8 := [42, 180, 0, 139, 172]
abbrev dktX3_undo_3 : List UInt8 := dkwX3_undo_3 ++ []
def dkwX3_undo_2 : List UInt8 := [180, 0, 20, 6, 42, 180, 0, 139, 104, 5, 96, 46, 4, 160, 0, 7, 4, 167, 0, 4, 3, 182, 0, 150]
abbrev dktX3_undo_2 : List UInt8 := dkwX3_undo_2 ++ dktX3_undo_3
def dkwX3_undo_1 : List UInt8 := [180, 0, 20, 6, 42, 180, 0, 139, 104, 46, 42, 180, 0, 20, 6, 42, 180, 0, 139, 104, 4, 96, 46, 42]
abbrev dktX3_undo_1 : List UInt8 := dkwX3_undo_1 ++ dktX3_undo_2
def dkwX3_undo_0 : List UInt8 := [42, 180, 0, 139, 154, 0, 6, 16, 252, 172, 42, 89, 180, 0, 139, 4, 100, 181, 0, 139, 42, 42]
abbrev dktX3_undo_0 : List UInt8 := dkwX3_undo_0 ++ dktX3_undo_1
theorem dksX3_undo_0 : cX3_undo.data.toList.drop 0 = dktX3_undo_0 := by decide +kernel
theorem dksX3_undo_1 : cX3_undo.data.toList.drop 22 = dktX3_undo_1 := dk_seg dksX3_undo_0 22 rfl rfl
theorem dksX3_undo_2 : cX3_undo.data.toList.drop 46 = dktX3_undo_2 := dk_seg dksX3_undo_1 24 rfl rfl
theorem dksX3_undo_3 : cX3_undo.data.toList.drop 70 = dktX3_undo_3 := dk_seg dksX3_undo_2 24 rfl rfl
theorem dX3_undo_0 : decode cX3_undo 0 = .ok (.aload_n 0, 1) := dk_42 (dk_at dksX3_undo_0 0 rfl rfl)
theorem dX3_undo_1 : decode cX3_undo 1 = .ok (.getfield 139, 3) := dk_180 0 139 (dk_at dksX3_undo_0 1 rfl rfl)
theorem dX3_undo_4 : decode cX3_undo 4 = .ok (.ifCond .ne 6, 3) := dk_154 0 6 (dk_at dksX3_undo_0 4 rfl rfl)
theorem dX3_undo_7 : decode cX3_undo 7 = .ok (.bipush (-4), 2) := dk_16 252 (dk_at dksX3_undo_0 7 rfl rfl)
theorem dX3_undo_9 : decode cX3_undo 9 = .ok (.ireturn, 1) := dk_172 (dk_at dksX3_undo_0 9 rfl rfl)
theorem dX3_undo_10 : decode cX3_undo 10 = .ok (.aload_n 0, 1) := dk_42 (dk_at dksX3_undo_0 10 rfl rfl)
theorem dX3_undo_11 : decode cX3_undo 11 = .ok (.dup, 1) := dk_89 (dk_at dksX3_undo_0 11 rfl rfl)
theorem dX3_undo_12 : decode cX3_undo 12 = .ok (.getfield 139, 3) := dk_180 0 139 (dk_at dksX3_undo_0 12 rfl rfl)
theorem dX3_undo_15 : decode cX3_undo 15 = .ok (.iconst 1, 1) := dk_4 (dk_at dksX3_undo_0 15 rfl rfl)
theorem dX3_undo_16 : decode cX3_undo 16 = .ok (.isub, 1) := dk_100 (dk_at dksX3_undo_0 16 rfl rfl)
theorem dX3_undo_17 : decode cX3_undo 17 = .ok (.putfield 139, 3) := dk_181 0 139 (dk_at dksX3_undo_0 17 rfl rfl)
theorem dX3_undo_20 : decode cX3_undo 20 = .ok (.aload_n 0, 1) := dk_42 (dk_at dksX3_undo_0 20 rfl rfl)
theorem dX3_undo_21 : decode cX3_undo 21 = .ok (.aload_n 0, 1) := dk_42 (dk_at dksX3_undo_0 21 rfl rfl)
theorem dX3_undo_22 : decode cX3_undo 22 = .ok (.getfield 20, 3) := dk_180 0 20 (dk_at dksX3_undo_1 0 rfl rfl)
theorem dX3_undo_25 : decode cX3_undo 25 = .ok (.iconst 3, 1) := dk_6 (dk_at dksX3_undo_1 3 rfl rfl)
theorem dX3_undo_26 : decode cX3_undo 26 = .ok (.aload_n 0, 1) := dk_42 (dk_at dksX3_undo_1 4 rfl rfl)
theorem dX3_undo_27 : decode cX3_undo 27 = .ok (.getfield 139, 3) := dk_180 0 139 (dk_at dksX3_undo_1 5 rfl rfl)
theorem dX3_undo_30 : decode cX3_undo 30 = .ok (.imul, 1) := dk_104 (dk_at dksX3_undo_1 8 rfl rfl)
theorem dX3_undo_31 : decode cX3_undo 31 = .ok (.iaload, 1) := dk_46 (dk_at dksX3_undo_1 9 rfl rfl)
theorem dX3_undo_32 : decode cX3_undo 32 = .ok (.aload_n 0, 1) := dk_42 (dk_at dksX3_undo_1 10 rfl rfl)
theorem dX3_undo_33 : decode cX3_undo 33 = .ok (.getfield 20, 3) := dk_180 0 20 (dk_at dksX3_undo_1 11 rfl rfl)
theorem dX3_undo_36 : decode cX3_undo 36 = .ok (.iconst 3, 1) := dk_6 (dk_at dksX3_undo_1 14 rfl rfl)
theorem dX3_undo_37 : decode cX3_undo 37 = .ok (.aload_n 0, 1) := dk_42 (dk_at dksX3_undo_1 15 rfl rfl)
theorem dX3_undo_38 : decode cX3_undo 38 = .ok (.getfield 139, 3) := dk_180 0 139 (dk_at dksX3_undo_1 16 rfl rfl)
theorem dX3_undo_41 : decode cX3_undo 41 = .ok (.imul, 1) := dk_104 (dk_at dksX3_undo_1 19 rfl rfl)
theorem dX3_undo_42 : decode cX3_undo 42 = .ok (.iconst 1, 1) := dk_4 (dk_at dksX3_undo_1 20 rfl rfl)
theorem dX3_undo_43 : decode cX3_undo 43 = .ok (.iadd, 1) := dk_96 (dk_at dksX3_undo_1 21 rfl rfl)
theorem dX3_undo_44 : decode cX3_undo 44 = .ok (.iaload, 1) := dk_46 (dk_at dksX3_undo_1 22 rfl rfl)
theorem dX3_undo_45 : decode cX3_undo 45 = .ok (.aload_n 0, 1) := dk_42 (dk_at dksX3_undo_1 23 rfl rfl)
theorem dX3_undo_46 : decode cX3_undo 46 = .ok (.getfield 20, 3) := dk_180 0 20 (dk_at dksX3_undo_2 0 rfl rfl)
theorem dX3_undo_49 : decode cX3_undo 49 = .ok (.iconst 3, 1) := dk_6 (dk_at dksX3_undo_2 3 rfl rfl)
theorem dX3_undo_50 : decode cX3_undo 50 = .ok (.aload_n 0, 1) := dk_42 (dk_at dksX3_undo_2 4 rfl rfl)
theorem dX3_undo_51 : decode cX3_undo 51 = .ok (.getfield 139, 3) := dk_180 0 139 (dk_at dksX3_undo_2 5 rfl rfl)
theorem dX3_undo_54 : decode cX3_undo 54 = .ok (.imul, 1) := dk_104 (dk_at dksX3_undo_2 8 rfl rfl)
theorem dX3_undo_55 : decode cX3_undo 55 = .ok (.iconst 2, 1) := dk_5 (dk_at dksX3_undo_2 9 rfl rfl)
theorem dX3_undo_56 : decode cX3_undo 56 = .ok (.iadd, 1) := dk_96 (dk_at dksX3_undo_2 10 rfl rfl)
theorem dX3_undo_57 : decode cX3_undo 57 = .ok (.iaload, 1) := dk_46 (dk_at dksX3_undo_2 11 rfl rfl)
theorem dX3_undo_58 : decode cX3_undo 58 = .ok (.iconst 1, 1) := dk_4 (dk_at dksX3_undo_2 12 rfl rfl)
theorem dX3_undo_59 : decode cX3_undo 59 = .ok (.if_icmp .ne 7, 3) := dk_160 0 7 (dk_at dksX3_undo_2 13 rfl rfl)
theorem dX3_undo_62 : decode cX3_undo 62 = .ok (.iconst 1, 1) := dk_4 (dk_at dksX3_undo_2 16 rfl rfl)
theorem dX3_undo_63 : decode cX3_undo 63 = .ok (.goto 4, 3) := dk_167 0 4 (dk_at dksX3_undo_2 17 rfl rfl)
theorem dX3_undo_66 : decode cX3_undo 66 = .ok (.iconst 0, 1) := dk_3 (dk_at dksX3_undo_2 20 rfl rfl)
theorem dX3_undo_67 : decode cX3_undo 67 = .ok (.invokevirtual 150, 3) := dk_182 0 150 (dk_at dksX3_undo_2 21 rfl rfl)
theorem dX3_undo_70 : decode cX3_undo 70 = .ok (.aload_n 0, 1) := dk_42 (dk_at dksX3_undo_3 0 rfl rfl)
theorem dX3_undo_71 : decode cX3_undo 71 = .ok (.getfield 139, 3) := dk_180 0 139 (dk_at dksX3_undo_3 1 rfl rfl)
theorem dX3_undo_74 : decode cX3_undo 74 = .ok (.ireturn, 1) := dk_172 (dk_at dksX3_undo_3 4 rfl rfl)
abbrev cX3_own : ByteArray := prog_12_method_25_code
def yX3_own : MethodName := ⟨RX3, "own", "(II)I"⟩
def dkwX3_own_1 : List UInt8 := [180, 0, 13, 27, 46, 62, 42, 180, 0, 13, 27, 28, 79, 29, 172]
abbrev dktX3_own_1 : List UInt8 := dkwX3_own_1 ++ []
def dkwX3_own_0 : List UInt8 := [27, 184, 0, 142, 153, 0, 15, 28, 133, 9, 20, 0, 154, 184, 0, 65, 154, 0, 5, 2, 172, 42]
abbrev dktX3_own_0 : List UInt8 := dkwX3_own_0 ++ dktX3_own_1
theorem dksX3_own_0 : cX3_own.data.toList.drop 0 = dktX3_own_0 := by decide +kernel
theorem dksX3_own_1 : cX3_own.data.toList.drop 22 = dktX3_own_1 := dk_seg dksX3_own_0 22 rfl rfl
theorem dX3_own_0 : decode cX3_own 0 = .ok (.iload_n 1, 1) := dk_27 (dk_at dksX3_own_0 0 rfl rfl)
theorem dX3_own_1 : decode cX3_own 1 = .ok (.invokestatic 142, 3) := dk_184 0 142 (dk_at dksX3_own_0 1 rfl rfl)
theorem dX3_own_4 : decode cX3_own 4 = .ok (.ifCond .eq 15, 3) := dk_153 0 15 (dk_at dksX3_own_0 4 rfl rfl)
theorem dX3_own_7 : decode cX3_own 7 = .ok (.iload_n 2, 1) := dk_28 (dk_at dksX3_own_0 7 rfl rfl)
theorem dX3_own_8 : decode cX3_own 8 = .ok (.i2l, 1) := dk_133 (dk_at dksX3_own_0 8 rfl rfl)
theorem dX3_own_9 : decode cX3_own 9 = .ok (.lconst 0, 1) := dk_9 (dk_at dksX3_own_0 9 rfl rfl)
theorem dX3_own_10 : decode cX3_own 10 = .ok (.ldc2_w 154, 3) := dk_20 0 154 (dk_at dksX3_own_0 10 rfl rfl)
theorem dX3_own_13 : decode cX3_own 13 = .ok (.invokestatic 65, 3) := dk_184 0 65 (dk_at dksX3_own_0 13 rfl rfl)
theorem dX3_own_16 : decode cX3_own 16 = .ok (.ifCond .ne 5, 3) := dk_154 0 5 (dk_at dksX3_own_0 16 rfl rfl)
theorem dX3_own_19 : decode cX3_own 19 = .ok (.iconst (-1), 1) := dk_2 (dk_at dksX3_own_0 19 rfl rfl)
theorem dX3_own_20 : decode cX3_own 20 = .ok (.ireturn, 1) := dk_172 (dk_at dksX3_own_0 20 rfl rfl)
theorem dX3_own_21 : decode cX3_own 21 = .ok (.aload_n 0, 1) := dk_42 (dk_at dksX3_own_0 21 rfl rfl)
theorem dX3_own_22 : decode cX3_own 22 = .ok (.getfield 13, 3) := dk_180 0 13 (dk_at dksX3_own_1 0 rfl rfl)
theorem dX3_own_25 : decode cX3_own 25 = .ok (.iload_n 1, 1) := dk_27 (dk_at dksX3_own_1 3 rfl rfl)
theorem dX3_own_26 : decode cX3_own 26 = .ok (.iaload, 1) := dk_46 (dk_at dksX3_own_1 4 rfl rfl)
theorem dX3_own_27 : decode cX3_own 27 = .ok (.istore_n 3, 1) := dk_62 (dk_at dksX3_own_1 5 rfl rfl)
theorem dX3_own_28 : decode cX3_own 28 = .ok (.aload_n 0, 1) := dk_42 (dk_at dksX3_own_1 6 rfl rfl)
theorem dX3_own_29 : decode cX3_own 29 = .ok (.getfield 13, 3) := dk_180 0 13 (dk_at dksX3_own_1 7 rfl rfl)
theorem dX3_own_32 : decode cX3_own 32 = .ok (.iload_n 1, 1) := dk_27 (dk_at dksX3_own_1 10 rfl rfl)
theorem dX3_own_33 : decode cX3_own 33 = .ok (.iload_n 2, 1) := dk_28 (dk_at dksX3_own_1 11 rfl rfl)
theorem dX3_own_34 : decode cX3_own 34 = .ok (.iastore, 1) := dk_79 (dk_at dksX3_own_1 12 rfl rfl)
theorem dX3_own_35 : decode cX3_own 35 = .ok (.iload_n 3, 1) := dk_29 (dk_at dksX3_own_1 13 rfl rfl)
theorem dX3_own_36 : decode cX3_own 36 = .ok (.ireturn, 1) := dk_172 (dk_at dksX3_own_1 14 rfl rfl)
abbrev cX3_rate : ByteArray := prog_12_method_26_code
def yX3_rate : MethodName := ⟨RX3, "rate", "(I)I"⟩
def dkwX3_rate_1 : List UInt8 := [28, 172]
abbrev dktX3_rate_1 : List UInt8 := dkwX3_rate_1 ++ []
def dkwX3_rate_0 : List UInt8 := [27, 133, 9, 20, 0, 156, 184, 0, 65, 154, 0, 5, 2, 172, 42, 180, 0, 16, 61, 42, 27, 181, 0, 16]
abbrev dktX3_rate_0 : List UInt8 := dkwX3_rate_0 ++ dktX3_rate_1
theorem dksX3_rate_0 : cX3_rate.data.toList.drop 0 = dktX3_rate_0 := by decide +kernel
theorem dksX3_rate_1 : cX3_rate.data.toList.drop 24 = dktX3_rate_1 := dk_seg dksX3_rate_0 24 rfl rfl
theorem dX3_rate_0 : decode cX3_rate 0 = .ok (.iload_n 1, 1) := dk_27 (dk_at dksX3_rate_0 0 rfl rfl)
theorem dX3_rate_1 : decode cX3_rate 1 = .ok (.i2l, 1) := dk_133 (dk_at dksX3_rate_0 1 rfl rfl)
theorem dX3_rate_2 : decode cX3_rate 2 = .ok (.lconst 0, 1) := dk_9 (dk_at dksX3_rate_0 2 rfl rfl)
theorem dX3_rate_3 : decode cX3_rate 3 = .ok (.ldc2_w 156, 3) := dk_20 0 156 (dk_at dksX3_rate_0 3 rfl rfl)
theorem dX3_rate_6 : decode cX3_rate 6 = .ok (.invokestatic 65, 3) := dk_184 0 65 (dk_at dksX3_rate_0 6 rfl rfl)
theorem dX3_rate_9 : decode cX3_rate 9 = .ok (.ifCond .ne 5, 3) := dk_154 0 5 (dk_at dksX3_rate_0 9 rfl rfl)
theorem dX3_rate_12 : decode cX3_rate 12 = .ok (.iconst (-1), 1) := dk_2 (dk_at dksX3_rate_0 12 rfl rfl)
theorem dX3_rate_13 : decode cX3_rate 13 = .ok (.ireturn, 1) := dk_172 (dk_at dksX3_rate_0 13 rfl rfl)
theorem dX3_rate_14 : decode cX3_rate 14 = .ok (.aload_n 0, 1) := dk_42 (dk_at dksX3_rate_0 14 rfl rfl)
theorem dX3_rate_15 : decode cX3_rate 15 = .ok (.getfield 16, 3) := dk_180 0 16 (dk_at dksX3_rate_0 15 rfl rfl)
theorem dX3_rate_18 : decode cX3_rate 18 = .ok (.istore_n 2, 1) := dk_61 (dk_at dksX3_rate_0 18 rfl rfl)
theorem dX3_rate_19 : decode cX3_rate 19 = .ok (.aload_n 0, 1) := dk_42 (dk_at dksX3_rate_0 19 rfl rfl)
theorem dX3_rate_20 : decode cX3_rate 20 = .ok (.iload_n 1, 1) := dk_27 (dk_at dksX3_rate_0 20 rfl rfl)
theorem dX3_rate_21 : decode cX3_rate 21 = .ok (.putfield 16, 3) := dk_181 0 16 (dk_at dksX3_rate_0 21 rfl rfl)
theorem dX3_rate_24 : decode cX3_rate 24 = .ok (.iload_n 2, 1) := dk_28 (dk_at dksX3_rate_1 0 rfl rfl)
theorem dX3_rate_25 : decode cX3_rate 25 = .ok (.ireturn, 1) := dk_172 (dk_at dksX3_rate_1 1 rfl rfl)
abbrev cX3_told : ByteArray := prog_12_method_27_code
def yX3_told : MethodName := ⟨RX3, "told", "(II)I"⟩
def dkwX3_told_4 : List UInt8 := [184, 0, 126, 167, 0, 5, 16, 252, 172, 2, 172]
abbrev dktX3_told_4 : List UInt8 := dkwX3_told_4 ++ []
def dkwX3_told_3 : List UInt8 := [42, 180, 0, 13, 27, 46, 172, 42, 180, 0, 73, 27, 184, 0, 69, 153, 0, 14, 42, 27, 182, 0, 129]
abbrev dktX3_told_3 : List UInt8 := dkwX3_told_3 ++ dktX3_told_4
def dkwX3_told_2 : List UInt8 := [42, 180, 0, 7, 27, 46, 172, 42, 180, 0, 114, 27, 184, 0, 69, 153, 0, 7, 4, 167, 0, 4, 3, 172]
abbrev dktX3_told_2 : List UInt8 := dkwX3_told_2 ++ dktX3_told_3
def dkwX3_told_1 : List UInt8 := [170, 0, 0, 0, 0, 86, 0, 0, 0, 0, 0, 0, 0, 3, 0, 0, 0, 30, 0, 0, 0, 37, 0, 0, 0, 54, 0, 0, 0, 61]
abbrev dktX3_told_1 : List UInt8 := dkwX3_told_1 ++ dktX3_told_2
def dkwX3_told_0 : List UInt8 := [27, 184, 0, 142, 154, 0, 5, 2, 172, 42, 182, 0, 158, 28]
abbrev dktX3_told_0 : List UInt8 := dkwX3_told_0 ++ dktX3_told_1
theorem dksX3_told_0 : cX3_told.data.toList.drop 0 = dktX3_told_0 := by decide +kernel
theorem dksX3_told_1 : cX3_told.data.toList.drop 14 = dktX3_told_1 := dk_seg dksX3_told_0 14 rfl rfl
theorem dksX3_told_2 : cX3_told.data.toList.drop 44 = dktX3_told_2 := dk_seg dksX3_told_1 30 rfl rfl
theorem dksX3_told_3 : cX3_told.data.toList.drop 68 = dktX3_told_3 := dk_seg dksX3_told_2 24 rfl rfl
theorem dksX3_told_4 : cX3_told.data.toList.drop 91 = dktX3_told_4 := dk_seg dksX3_told_3 23 rfl rfl
theorem dX3_told_0 : decode cX3_told 0 = .ok (.iload_n 1, 1) := dk_27 (dk_at dksX3_told_0 0 rfl rfl)
theorem dX3_told_1 : decode cX3_told 1 = .ok (.invokestatic 142, 3) := dk_184 0 142 (dk_at dksX3_told_0 1 rfl rfl)
theorem dX3_told_4 : decode cX3_told 4 = .ok (.ifCond .ne 5, 3) := dk_154 0 5 (dk_at dksX3_told_0 4 rfl rfl)
theorem dX3_told_7 : decode cX3_told 7 = .ok (.iconst (-1), 1) := dk_2 (dk_at dksX3_told_0 7 rfl rfl)
theorem dX3_told_8 : decode cX3_told 8 = .ok (.ireturn, 1) := dk_172 (dk_at dksX3_told_0 8 rfl rfl)
theorem dX3_told_9 : decode cX3_told 9 = .ok (.aload_n 0, 1) := dk_42 (dk_at dksX3_told_0 9 rfl rfl)
theorem dX3_told_10 : decode cX3_told 10 = .ok (.invokevirtual 158, 3) := dk_182 0 158 (dk_at dksX3_told_0 10 rfl rfl)
theorem dX3_told_13 : decode cX3_told 13 = .ok (.iload_n 2, 1) := dk_28 (dk_at dksX3_told_0 13 rfl rfl)
theorem dX3_told_14 : decode cX3_told 14 = .ok (.tableswitch 86 0 3 #[30, 37, 54, 61], 30) := by decide +kernel
theorem dX3_told_44 : decode cX3_told 44 = .ok (.aload_n 0, 1) := dk_42 (dk_at dksX3_told_2 0 rfl rfl)
theorem dX3_told_45 : decode cX3_told 45 = .ok (.getfield 7, 3) := dk_180 0 7 (dk_at dksX3_told_2 1 rfl rfl)
theorem dX3_told_48 : decode cX3_told 48 = .ok (.iload_n 1, 1) := dk_27 (dk_at dksX3_told_2 4 rfl rfl)
theorem dX3_told_49 : decode cX3_told 49 = .ok (.iaload, 1) := dk_46 (dk_at dksX3_told_2 5 rfl rfl)
theorem dX3_told_50 : decode cX3_told 50 = .ok (.ireturn, 1) := dk_172 (dk_at dksX3_told_2 6 rfl rfl)
theorem dX3_told_51 : decode cX3_told 51 = .ok (.aload_n 0, 1) := dk_42 (dk_at dksX3_told_2 7 rfl rfl)
theorem dX3_told_52 : decode cX3_told 52 = .ok (.getfield 114, 3) := dk_180 0 114 (dk_at dksX3_told_2 8 rfl rfl)
theorem dX3_told_55 : decode cX3_told 55 = .ok (.iload_n 1, 1) := dk_27 (dk_at dksX3_told_2 11 rfl rfl)
theorem dX3_told_56 : decode cX3_told 56 = .ok (.invokestatic 69, 3) := dk_184 0 69 (dk_at dksX3_told_2 12 rfl rfl)
theorem dX3_told_59 : decode cX3_told 59 = .ok (.ifCond .eq 7, 3) := dk_153 0 7 (dk_at dksX3_told_2 15 rfl rfl)
theorem dX3_told_62 : decode cX3_told 62 = .ok (.iconst 1, 1) := dk_4 (dk_at dksX3_told_2 18 rfl rfl)
theorem dX3_told_63 : decode cX3_told 63 = .ok (.goto 4, 3) := dk_167 0 4 (dk_at dksX3_told_2 19 rfl rfl)
theorem dX3_told_66 : decode cX3_told 66 = .ok (.iconst 0, 1) := dk_3 (dk_at dksX3_told_2 22 rfl rfl)
theorem dX3_told_67 : decode cX3_told 67 = .ok (.ireturn, 1) := dk_172 (dk_at dksX3_told_2 23 rfl rfl)
theorem dX3_told_68 : decode cX3_told 68 = .ok (.aload_n 0, 1) := dk_42 (dk_at dksX3_told_3 0 rfl rfl)
theorem dX3_told_69 : decode cX3_told 69 = .ok (.getfield 13, 3) := dk_180 0 13 (dk_at dksX3_told_3 1 rfl rfl)
theorem dX3_told_72 : decode cX3_told 72 = .ok (.iload_n 1, 1) := dk_27 (dk_at dksX3_told_3 4 rfl rfl)
theorem dX3_told_73 : decode cX3_told 73 = .ok (.iaload, 1) := dk_46 (dk_at dksX3_told_3 5 rfl rfl)
theorem dX3_told_74 : decode cX3_told 74 = .ok (.ireturn, 1) := dk_172 (dk_at dksX3_told_3 6 rfl rfl)
theorem dX3_told_75 : decode cX3_told 75 = .ok (.aload_n 0, 1) := dk_42 (dk_at dksX3_told_3 7 rfl rfl)
theorem dX3_told_76 : decode cX3_told 76 = .ok (.getfield 73, 3) := dk_180 0 73 (dk_at dksX3_told_3 8 rfl rfl)
theorem dX3_told_79 : decode cX3_told 79 = .ok (.iload_n 1, 1) := dk_27 (dk_at dksX3_told_3 11 rfl rfl)
theorem dX3_told_80 : decode cX3_told 80 = .ok (.invokestatic 69, 3) := dk_184 0 69 (dk_at dksX3_told_3 12 rfl rfl)
theorem dX3_told_83 : decode cX3_told 83 = .ok (.ifCond .eq 14, 3) := dk_153 0 14 (dk_at dksX3_told_3 15 rfl rfl)
theorem dX3_told_86 : decode cX3_told 86 = .ok (.aload_n 0, 1) := dk_42 (dk_at dksX3_told_3 18 rfl rfl)
theorem dX3_told_87 : decode cX3_told 87 = .ok (.iload_n 1, 1) := dk_27 (dk_at dksX3_told_3 19 rfl rfl)
theorem dX3_told_88 : decode cX3_told 88 = .ok (.invokevirtual 129, 3) := dk_182 0 129 (dk_at dksX3_told_3 20 rfl rfl)
theorem dX3_told_91 : decode cX3_told 91 = .ok (.invokestatic 126, 3) := dk_184 0 126 (dk_at dksX3_told_4 0 rfl rfl)
theorem dX3_told_94 : decode cX3_told 94 = .ok (.goto 5, 3) := dk_167 0 5 (dk_at dksX3_told_4 3 rfl rfl)
theorem dX3_told_97 : decode cX3_told 97 = .ok (.bipush (-4), 2) := dk_16 252 (dk_at dksX3_told_4 6 rfl rfl)
theorem dX3_told_99 : decode cX3_told 99 = .ok (.ireturn, 1) := dk_172 (dk_at dksX3_told_4 8 rfl rfl)
theorem dX3_told_100 : decode cX3_told 100 = .ok (.iconst (-1), 1) := dk_2 (dk_at dksX3_told_4 9 rfl rfl)
theorem dX3_told_101 : decode cX3_told 101 = .ok (.ireturn, 1) := dk_172 (dk_at dksX3_told_4 10 rfl rfl)
abbrev cX3_look : ByteArray := prog_12_method_7_code
def yX3_look : MethodName := ⟨RX3, "look", "()V"⟩
def dkwX3_look_3 : List UInt8 := [132, 1, 1, 167, 255, 195, 177]
abbrev dktX3_look_3 : List UInt8 := dkwX3_look_3 ++ []
def dkwX3_look_2 : List UInt8 := [42, 180, 0, 7, 27, 46, 16, 9, 160, 0, 9, 10, 27, 121, 167, 0, 4, 9, 129, 181, 0, 77]
abbrev dktX3_look_2 : List UInt8 := dkwX3_look_2 ++ dktX3_look_3
def dkwX3_look_1 : List UInt8 := [180, 0, 7, 27, 46, 158, 0, 9, 10, 27, 121, 167, 0, 4, 9, 129, 181, 0, 73, 42, 89, 180, 0, 77]
abbrev dktX3_look_1 : List UInt8 := dkwX3_look_1 ++ dktX3_look_2
def dkwX3_look_0 : List UInt8 := [42, 9, 181, 0, 73, 42, 9, 181, 0, 77, 3, 60, 27, 16, 36, 162, 0, 61, 42, 89, 180, 0, 73, 42]
abbrev dktX3_look_0 : List UInt8 := dkwX3_look_0 ++ dktX3_look_1
theorem dksX3_look_0 : cX3_look.data.toList.drop 0 = dktX3_look_0 := by decide +kernel
theorem dksX3_look_1 : cX3_look.data.toList.drop 24 = dktX3_look_1 := dk_seg dksX3_look_0 24 rfl rfl
theorem dksX3_look_2 : cX3_look.data.toList.drop 48 = dktX3_look_2 := dk_seg dksX3_look_1 24 rfl rfl
theorem dksX3_look_3 : cX3_look.data.toList.drop 70 = dktX3_look_3 := dk_seg dksX3_look_2 22 rfl rfl
theorem dX3_look_0 : decode cX3_look 0 = .ok (.aload_n 0, 1) := dk_42 (dk_at dksX3_look_0 0 rfl rfl)
theorem dX3_look_1 : decode cX3_look 1 = .ok (.lconst 0, 1) := dk_9 (dk_at dksX3_look_0 1 rfl rfl)
theorem dX3_look_2 : decode cX3_look 2 = .ok (.putfield 73, 3) := dk_181 0 73 (dk_at dksX3_look_0 2 rfl rfl)
theorem dX3_look_5 : decode cX3_look 5 = .ok (.aload_n 0, 1) := dk_42 (dk_at dksX3_look_0 5 rfl rfl)
theorem dX3_look_6 : decode cX3_look 6 = .ok (.lconst 0, 1) := dk_9 (dk_at dksX3_look_0 6 rfl rfl)
theorem dX3_look_7 : decode cX3_look 7 = .ok (.putfield 77, 3) := dk_181 0 77 (dk_at dksX3_look_0 7 rfl rfl)
theorem dX3_look_10 : decode cX3_look 10 = .ok (.iconst 0, 1) := dk_3 (dk_at dksX3_look_0 10 rfl rfl)
theorem dX3_look_11 : decode cX3_look 11 = .ok (.istore_n 1, 1) := dk_60 (dk_at dksX3_look_0 11 rfl rfl)
theorem dX3_look_12 : decode cX3_look 12 = .ok (.iload_n 1, 1) := dk_27 (dk_at dksX3_look_0 12 rfl rfl)
theorem dX3_look_13 : decode cX3_look 13 = .ok (.bipush 36, 2) := dk_16 36 (dk_at dksX3_look_0 13 rfl rfl)
theorem dX3_look_15 : decode cX3_look 15 = .ok (.if_icmp .ge 61, 3) := dk_162 0 61 (dk_at dksX3_look_0 15 rfl rfl)
theorem dX3_look_18 : decode cX3_look 18 = .ok (.aload_n 0, 1) := dk_42 (dk_at dksX3_look_0 18 rfl rfl)
theorem dX3_look_19 : decode cX3_look 19 = .ok (.dup, 1) := dk_89 (dk_at dksX3_look_0 19 rfl rfl)
theorem dX3_look_20 : decode cX3_look 20 = .ok (.getfield 73, 3) := dk_180 0 73 (dk_at dksX3_look_0 20 rfl rfl)
theorem dX3_look_23 : decode cX3_look 23 = .ok (.aload_n 0, 1) := dk_42 (dk_at dksX3_look_0 23 rfl rfl)
theorem dX3_look_24 : decode cX3_look 24 = .ok (.getfield 7, 3) := dk_180 0 7 (dk_at dksX3_look_1 0 rfl rfl)
theorem dX3_look_27 : decode cX3_look 27 = .ok (.iload_n 1, 1) := dk_27 (dk_at dksX3_look_1 3 rfl rfl)
theorem dX3_look_28 : decode cX3_look 28 = .ok (.iaload, 1) := dk_46 (dk_at dksX3_look_1 4 rfl rfl)
theorem dX3_look_29 : decode cX3_look 29 = .ok (.ifCond .le 9, 3) := dk_158 0 9 (dk_at dksX3_look_1 5 rfl rfl)
theorem dX3_look_32 : decode cX3_look 32 = .ok (.lconst 1, 1) := dk_10 (dk_at dksX3_look_1 8 rfl rfl)
theorem dX3_look_33 : decode cX3_look 33 = .ok (.iload_n 1, 1) := dk_27 (dk_at dksX3_look_1 9 rfl rfl)
theorem dX3_look_34 : decode cX3_look 34 = .ok (.lshl, 1) := dk_121 (dk_at dksX3_look_1 10 rfl rfl)
theorem dX3_look_35 : decode cX3_look 35 = .ok (.goto 4, 3) := dk_167 0 4 (dk_at dksX3_look_1 11 rfl rfl)
theorem dX3_look_38 : decode cX3_look 38 = .ok (.lconst 0, 1) := dk_9 (dk_at dksX3_look_1 14 rfl rfl)
theorem dX3_look_39 : decode cX3_look 39 = .ok (.lor, 1) := dk_129 (dk_at dksX3_look_1 15 rfl rfl)
theorem dX3_look_40 : decode cX3_look 40 = .ok (.putfield 73, 3) := dk_181 0 73 (dk_at dksX3_look_1 16 rfl rfl)
theorem dX3_look_43 : decode cX3_look 43 = .ok (.aload_n 0, 1) := dk_42 (dk_at dksX3_look_1 19 rfl rfl)
theorem dX3_look_44 : decode cX3_look 44 = .ok (.dup, 1) := dk_89 (dk_at dksX3_look_1 20 rfl rfl)
theorem dX3_look_45 : decode cX3_look 45 = .ok (.getfield 77, 3) := dk_180 0 77 (dk_at dksX3_look_1 21 rfl rfl)
theorem dX3_look_48 : decode cX3_look 48 = .ok (.aload_n 0, 1) := dk_42 (dk_at dksX3_look_2 0 rfl rfl)
theorem dX3_look_49 : decode cX3_look 49 = .ok (.getfield 7, 3) := dk_180 0 7 (dk_at dksX3_look_2 1 rfl rfl)
theorem dX3_look_52 : decode cX3_look 52 = .ok (.iload_n 1, 1) := dk_27 (dk_at dksX3_look_2 4 rfl rfl)
theorem dX3_look_53 : decode cX3_look 53 = .ok (.iaload, 1) := dk_46 (dk_at dksX3_look_2 5 rfl rfl)
theorem dX3_look_54 : decode cX3_look 54 = .ok (.bipush 9, 2) := dk_16 9 (dk_at dksX3_look_2 6 rfl rfl)
theorem dX3_look_56 : decode cX3_look 56 = .ok (.if_icmp .ne 9, 3) := dk_160 0 9 (dk_at dksX3_look_2 8 rfl rfl)
theorem dX3_look_59 : decode cX3_look 59 = .ok (.lconst 1, 1) := dk_10 (dk_at dksX3_look_2 11 rfl rfl)
theorem dX3_look_60 : decode cX3_look 60 = .ok (.iload_n 1, 1) := dk_27 (dk_at dksX3_look_2 12 rfl rfl)
theorem dX3_look_61 : decode cX3_look 61 = .ok (.lshl, 1) := dk_121 (dk_at dksX3_look_2 13 rfl rfl)
theorem dX3_look_62 : decode cX3_look 62 = .ok (.goto 4, 3) := dk_167 0 4 (dk_at dksX3_look_2 14 rfl rfl)
theorem dX3_look_65 : decode cX3_look 65 = .ok (.lconst 0, 1) := dk_9 (dk_at dksX3_look_2 17 rfl rfl)
theorem dX3_look_66 : decode cX3_look 66 = .ok (.lor, 1) := dk_129 (dk_at dksX3_look_2 18 rfl rfl)
theorem dX3_look_67 : decode cX3_look 67 = .ok (.putfield 77, 3) := dk_181 0 77 (dk_at dksX3_look_2 19 rfl rfl)
theorem dX3_look_70 : decode cX3_look 70 = .ok (.iinc 1 1, 3) := dk_132 1 1 (dk_at dksX3_look_3 0 rfl rfl)
theorem dX3_look_73 : decode cX3_look 73 = .ok (.goto (-61), 3) := dk_167 255 195 (dk_at dksX3_look_3 3 rfl rfl)
theorem dX3_look_76 : decode cX3_look 76 = .ok (.return_, 1) := dk_177 (dk_at dksX3_look_3 6 rfl rfl)
abbrev cX3_holeAt : ByteArray := prog_12_method_10_code
def yX3_holeAt : MethodName := ⟨RX3, "holeAt", "(I)J"⟩
def dkwX3_holeAt_0 : List UInt8 := [10, 27, 121, 42, 180, 0, 73, 184, 0, 90, 173]
abbrev dktX3_holeAt_0 : List UInt8 := dkwX3_holeAt_0 ++ []
theorem dksX3_holeAt_0 : cX3_holeAt.data.toList.drop 0 = dktX3_holeAt_0 := by decide +kernel
theorem dX3_holeAt_0 : decode cX3_holeAt 0 = .ok (.lconst 1, 1) := dk_10 (dk_at dksX3_holeAt_0 0 rfl rfl)
theorem dX3_holeAt_1 : decode cX3_holeAt 1 = .ok (.iload_n 1, 1) := dk_27 (dk_at dksX3_holeAt_0 1 rfl rfl)
theorem dX3_holeAt_2 : decode cX3_holeAt 2 = .ok (.lshl, 1) := dk_121 (dk_at dksX3_holeAt_0 2 rfl rfl)
theorem dX3_holeAt_3 : decode cX3_holeAt 3 = .ok (.aload_n 0, 1) := dk_42 (dk_at dksX3_holeAt_0 3 rfl rfl)
theorem dX3_holeAt_4 : decode cX3_holeAt 4 = .ok (.getfield 73, 3) := dk_180 0 73 (dk_at dksX3_holeAt_0 4 rfl rfl)
theorem dX3_holeAt_7 : decode cX3_holeAt 7 = .ok (.invokestatic 90, 3) := dk_184 0 90 (dk_at dksX3_holeAt_0 7 rfl rfl)
theorem dX3_holeAt_10 : decode cX3_holeAt 10 = .ok (.lreturn, 1) := dk_173 (dk_at dksX3_holeAt_0 10 rfl rfl)
abbrev cX3_grown : ByteArray := prog_12_method_9_code
def yX3_grown : MethodName := ⟨RX3, "grown", "(JJ)J"⟩
def dkwX3_grown_2 : List UInt8 := [173]
abbrev dktX3_grown_2 : List UInt8 := dkwX3_grown_2 ++ []
def dkwX3_grown_1 : List UInt8 := [153, 0, 22, 22, 6, 55, 4, 22, 4, 22, 4, 184, 0, 86, 129, 32, 127, 55, 6, 167, 255, 232, 22, 4]
abbrev dktX3_grown_1 : List UInt8 := dkwX3_grown_1 ++ dktX3_grown_2
def dkwX3_grown_0 : List UInt8 := [30, 32, 127, 55, 4, 22, 4, 22, 4, 184, 0, 86, 129, 32, 127, 55, 6, 22, 6, 22, 4, 148]
abbrev dktX3_grown_0 : List UInt8 := dkwX3_grown_0 ++ dktX3_grown_1
theorem dksX3_grown_0 : cX3_grown.data.toList.drop 0 = dktX3_grown_0 := by decide +kernel
theorem dksX3_grown_1 : cX3_grown.data.toList.drop 22 = dktX3_grown_1 := dk_seg dksX3_grown_0 22 rfl rfl
theorem dksX3_grown_2 : cX3_grown.data.toList.drop 46 = dktX3_grown_2 := dk_seg dksX3_grown_1 24 rfl rfl
theorem dX3_grown_0 : decode cX3_grown 0 = .ok (.lload_n 0, 1) := dk_30 (dk_at dksX3_grown_0 0 rfl rfl)
theorem dX3_grown_1 : decode cX3_grown 1 = .ok (.lload_n 2, 1) := dk_32 (dk_at dksX3_grown_0 1 rfl rfl)
theorem dX3_grown_2 : decode cX3_grown 2 = .ok (.land, 1) := dk_127 (dk_at dksX3_grown_0 2 rfl rfl)
theorem dX3_grown_3 : decode cX3_grown 3 = .ok (.lstore 4, 2) := dk_55 4 (dk_at dksX3_grown_0 3 rfl rfl)
theorem dX3_grown_5 : decode cX3_grown 5 = .ok (.lload 4, 2) := dk_22 4 (dk_at dksX3_grown_0 5 rfl rfl)
theorem dX3_grown_7 : decode cX3_grown 7 = .ok (.lload 4, 2) := dk_22 4 (dk_at dksX3_grown_0 7 rfl rfl)
theorem dX3_grown_9 : decode cX3_grown 9 = .ok (.invokestatic 86, 3) := dk_184 0 86 (dk_at dksX3_grown_0 9 rfl rfl)
theorem dX3_grown_12 : decode cX3_grown 12 = .ok (.lor, 1) := dk_129 (dk_at dksX3_grown_0 12 rfl rfl)
theorem dX3_grown_13 : decode cX3_grown 13 = .ok (.lload_n 2, 1) := dk_32 (dk_at dksX3_grown_0 13 rfl rfl)
theorem dX3_grown_14 : decode cX3_grown 14 = .ok (.land, 1) := dk_127 (dk_at dksX3_grown_0 14 rfl rfl)
theorem dX3_grown_15 : decode cX3_grown 15 = .ok (.lstore 6, 2) := dk_55 6 (dk_at dksX3_grown_0 15 rfl rfl)
theorem dX3_grown_17 : decode cX3_grown 17 = .ok (.lload 6, 2) := dk_22 6 (dk_at dksX3_grown_0 17 rfl rfl)
theorem dX3_grown_19 : decode cX3_grown 19 = .ok (.lload 4, 2) := dk_22 4 (dk_at dksX3_grown_0 19 rfl rfl)
theorem dX3_grown_21 : decode cX3_grown 21 = .ok (.lcmp, 1) := dk_148 (dk_at dksX3_grown_0 21 rfl rfl)
theorem dX3_grown_22 : decode cX3_grown 22 = .ok (.ifCond .eq 22, 3) := dk_153 0 22 (dk_at dksX3_grown_1 0 rfl rfl)
theorem dX3_grown_25 : decode cX3_grown 25 = .ok (.lload 6, 2) := dk_22 6 (dk_at dksX3_grown_1 3 rfl rfl)
theorem dX3_grown_27 : decode cX3_grown 27 = .ok (.lstore 4, 2) := dk_55 4 (dk_at dksX3_grown_1 5 rfl rfl)
theorem dX3_grown_29 : decode cX3_grown 29 = .ok (.lload 4, 2) := dk_22 4 (dk_at dksX3_grown_1 7 rfl rfl)
theorem dX3_grown_31 : decode cX3_grown 31 = .ok (.lload 4, 2) := dk_22 4 (dk_at dksX3_grown_1 9 rfl rfl)
theorem dX3_grown_33 : decode cX3_grown 33 = .ok (.invokestatic 86, 3) := dk_184 0 86 (dk_at dksX3_grown_1 11 rfl rfl)
theorem dX3_grown_36 : decode cX3_grown 36 = .ok (.lor, 1) := dk_129 (dk_at dksX3_grown_1 14 rfl rfl)
theorem dX3_grown_37 : decode cX3_grown 37 = .ok (.lload_n 2, 1) := dk_32 (dk_at dksX3_grown_1 15 rfl rfl)
theorem dX3_grown_38 : decode cX3_grown 38 = .ok (.land, 1) := dk_127 (dk_at dksX3_grown_1 16 rfl rfl)
theorem dX3_grown_39 : decode cX3_grown 39 = .ok (.lstore 6, 2) := dk_55 6 (dk_at dksX3_grown_1 17 rfl rfl)
theorem dX3_grown_41 : decode cX3_grown 41 = .ok (.goto (-24), 3) := dk_167 255 232 (dk_at dksX3_grown_1 19 rfl rfl)
theorem dX3_grown_44 : decode cX3_grown 44 = .ok (.lload 4, 2) := dk_22 4 (dk_at dksX3_grown_1 22 rfl rfl)
theorem dX3_grown_46 : decode cX3_grown 46 = .ok (.lreturn, 1) := dk_173 (dk_at dksX3_grown_2 0 rfl rfl)
abbrev cX3_beside : ByteArray := prog_12_method_8_code
def yX3_beside : MethodName := ⟨RX3, "beside", "(J)J"⟩
def dkwX3_beside_1 : List UInt8 := [16, 6, 121, 129, 20, 0, 84, 127, 173]
abbrev dktX3_beside_1 : List UInt8 := dkwX3_beside_1 ++ []
def dkwX3_beside_0 : List UInt8 := [30, 20, 0, 80, 127, 4, 123, 30, 20, 0, 82, 127, 4, 121, 129, 65, 32, 30, 16, 6, 123, 129, 30]
abbrev dktX3_beside_0 : List UInt8 := dkwX3_beside_0 ++ dktX3_beside_1
theorem dksX3_beside_0 : cX3_beside.data.toList.drop 0 = dktX3_beside_0 := by decide +kernel
theorem dksX3_beside_1 : cX3_beside.data.toList.drop 23 = dktX3_beside_1 := dk_seg dksX3_beside_0 23 rfl rfl
theorem dX3_beside_0 : decode cX3_beside 0 = .ok (.lload_n 0, 1) := dk_30 (dk_at dksX3_beside_0 0 rfl rfl)
theorem dX3_beside_1 : decode cX3_beside 1 = .ok (.ldc2_w 80, 3) := dk_20 0 80 (dk_at dksX3_beside_0 1 rfl rfl)
theorem dX3_beside_4 : decode cX3_beside 4 = .ok (.land, 1) := dk_127 (dk_at dksX3_beside_0 4 rfl rfl)
theorem dX3_beside_5 : decode cX3_beside 5 = .ok (.iconst 1, 1) := dk_4 (dk_at dksX3_beside_0 5 rfl rfl)
theorem dX3_beside_6 : decode cX3_beside 6 = .ok (.lshr, 1) := dk_123 (dk_at dksX3_beside_0 6 rfl rfl)
theorem dX3_beside_7 : decode cX3_beside 7 = .ok (.lload_n 0, 1) := dk_30 (dk_at dksX3_beside_0 7 rfl rfl)
theorem dX3_beside_8 : decode cX3_beside 8 = .ok (.ldc2_w 82, 3) := dk_20 0 82 (dk_at dksX3_beside_0 8 rfl rfl)
theorem dX3_beside_11 : decode cX3_beside 11 = .ok (.land, 1) := dk_127 (dk_at dksX3_beside_0 11 rfl rfl)
theorem dX3_beside_12 : decode cX3_beside 12 = .ok (.iconst 1, 1) := dk_4 (dk_at dksX3_beside_0 12 rfl rfl)
theorem dX3_beside_13 : decode cX3_beside 13 = .ok (.lshl, 1) := dk_121 (dk_at dksX3_beside_0 13 rfl rfl)
theorem dX3_beside_14 : decode cX3_beside 14 = .ok (.lor, 1) := dk_129 (dk_at dksX3_beside_0 14 rfl rfl)
theorem dX3_beside_15 : decode cX3_beside 15 = .ok (.lstore_n 2, 1) := dk_65 (dk_at dksX3_beside_0 15 rfl rfl)
theorem dX3_beside_16 : decode cX3_beside 16 = .ok (.lload_n 2, 1) := dk_32 (dk_at dksX3_beside_0 16 rfl rfl)
theorem dX3_beside_17 : decode cX3_beside 17 = .ok (.lload_n 0, 1) := dk_30 (dk_at dksX3_beside_0 17 rfl rfl)
theorem dX3_beside_18 : decode cX3_beside 18 = .ok (.bipush 6, 2) := dk_16 6 (dk_at dksX3_beside_0 18 rfl rfl)
theorem dX3_beside_20 : decode cX3_beside 20 = .ok (.lshr, 1) := dk_123 (dk_at dksX3_beside_0 20 rfl rfl)
theorem dX3_beside_21 : decode cX3_beside 21 = .ok (.lor, 1) := dk_129 (dk_at dksX3_beside_0 21 rfl rfl)
theorem dX3_beside_22 : decode cX3_beside 22 = .ok (.lload_n 0, 1) := dk_30 (dk_at dksX3_beside_0 22 rfl rfl)
theorem dX3_beside_23 : decode cX3_beside 23 = .ok (.bipush 6, 2) := dk_16 6 (dk_at dksX3_beside_1 0 rfl rfl)
theorem dX3_beside_25 : decode cX3_beside 25 = .ok (.lshl, 1) := dk_121 (dk_at dksX3_beside_1 2 rfl rfl)
theorem dX3_beside_26 : decode cX3_beside 26 = .ok (.lor, 1) := dk_129 (dk_at dksX3_beside_1 3 rfl rfl)
theorem dX3_beside_27 : decode cX3_beside 27 = .ok (.ldc2_w 84, 3) := dk_20 0 84 (dk_at dksX3_beside_1 4 rfl rfl)
theorem dX3_beside_30 : decode cX3_beside 30 = .ok (.land, 1) := dk_127 (dk_at dksX3_beside_1 7 rfl rfl)
theorem dX3_beside_31 : decode cX3_beside 31 = .ok (.lreturn, 1) := dk_173 (dk_at dksX3_beside_1 8 rfl rfl)
abbrev cX3_least : ByteArray := prog_12_method_6_code
def yX3_least : MethodName := ⟨RX3, "least", "(J)I"⟩
def dkwX3_least_0 : List UInt8 := [3, 61, 30, 28, 184, 0, 69, 154, 0, 9, 132, 2, 1, 167, 255, 245, 28, 172]
abbrev dktX3_least_0 : List UInt8 := dkwX3_least_0 ++ []
theorem dksX3_least_0 : cX3_least.data.toList.drop 0 = dktX3_least_0 := by decide +kernel
theorem dX3_least_0 : decode cX3_least 0 = .ok (.iconst 0, 1) := dk_3 (dk_at dksX3_least_0 0 rfl rfl)
theorem dX3_least_1 : decode cX3_least 1 = .ok (.istore_n 2, 1) := dk_61 (dk_at dksX3_least_0 1 rfl rfl)
theorem dX3_least_2 : decode cX3_least 2 = .ok (.lload_n 0, 1) := dk_30 (dk_at dksX3_least_0 2 rfl rfl)
theorem dX3_least_3 : decode cX3_least 3 = .ok (.iload_n 2, 1) := dk_28 (dk_at dksX3_least_0 3 rfl rfl)
theorem dX3_least_4 : decode cX3_least 4 = .ok (.invokestatic 69, 3) := dk_184 0 69 (dk_at dksX3_least_0 4 rfl rfl)
theorem dX3_least_7 : decode cX3_least 7 = .ok (.ifCond .ne 9, 3) := dk_154 0 9 (dk_at dksX3_least_0 7 rfl rfl)
theorem dX3_least_10 : decode cX3_least 10 = .ok (.iinc 2 1, 3) := dk_132 2 1 (dk_at dksX3_least_0 10 rfl rfl)
theorem dX3_least_13 : decode cX3_least 13 = .ok (.goto (-11), 3) := dk_167 255 245 (dk_at dksX3_least_0 13 rfl rfl)
theorem dX3_least_16 : decode cX3_least 16 = .ok (.iload_n 2, 1) := dk_28 (dk_at dksX3_least_0 16 rfl rfl)
theorem dX3_least_17 : decode cX3_least 17 = .ok (.ireturn, 1) := dk_172 (dk_at dksX3_least_0 17 rfl rfl)
abbrev cX3_type : ByteArray := prog_12_method_28_code
def yX3_type : MethodName := ⟨RX3, "type", "(I)I"⟩
def dkwX3_type_2 : List UInt8 := [181, 0, 165, 42, 180, 0, 165, 172]
abbrev dktX3_type_2 : List UInt8 := dkwX3_type_2 ++ []
def dkwX3_type_1 : List UInt8 := [160, 0, 6, 16, 253, 172, 42, 180, 0, 30, 42, 180, 0, 165, 27, 79, 42, 89, 180, 0, 165, 4, 96]
abbrev dktX3_type_1 : List UInt8 := dkwX3_type_1 ++ dktX3_type_2
def dkwX3_type_0 : List UInt8 := [27, 133, 20, 0, 161, 20, 0, 163, 184, 0, 65, 154, 0, 5, 2, 172, 42, 180, 0, 165, 17, 0, 160]
abbrev dktX3_type_0 : List UInt8 := dkwX3_type_0 ++ dktX3_type_1
theorem dksX3_type_0 : cX3_type.data.toList.drop 0 = dktX3_type_0 := by decide +kernel
theorem dksX3_type_1 : cX3_type.data.toList.drop 23 = dktX3_type_1 := dk_seg dksX3_type_0 23 rfl rfl
theorem dksX3_type_2 : cX3_type.data.toList.drop 46 = dktX3_type_2 := dk_seg dksX3_type_1 23 rfl rfl
theorem dX3_type_0 : decode cX3_type 0 = .ok (.iload_n 1, 1) := dk_27 (dk_at dksX3_type_0 0 rfl rfl)
theorem dX3_type_1 : decode cX3_type 1 = .ok (.i2l, 1) := dk_133 (dk_at dksX3_type_0 1 rfl rfl)
theorem dX3_type_2 : decode cX3_type 2 = .ok (.ldc2_w 161, 3) := dk_20 0 161 (dk_at dksX3_type_0 2 rfl rfl)
theorem dX3_type_5 : decode cX3_type 5 = .ok (.ldc2_w 163, 3) := dk_20 0 163 (dk_at dksX3_type_0 5 rfl rfl)
theorem dX3_type_8 : decode cX3_type 8 = .ok (.invokestatic 65, 3) := dk_184 0 65 (dk_at dksX3_type_0 8 rfl rfl)
theorem dX3_type_11 : decode cX3_type 11 = .ok (.ifCond .ne 5, 3) := dk_154 0 5 (dk_at dksX3_type_0 11 rfl rfl)
theorem dX3_type_14 : decode cX3_type 14 = .ok (.iconst (-1), 1) := dk_2 (dk_at dksX3_type_0 14 rfl rfl)
theorem dX3_type_15 : decode cX3_type 15 = .ok (.ireturn, 1) := dk_172 (dk_at dksX3_type_0 15 rfl rfl)
theorem dX3_type_16 : decode cX3_type 16 = .ok (.aload_n 0, 1) := dk_42 (dk_at dksX3_type_0 16 rfl rfl)
theorem dX3_type_17 : decode cX3_type 17 = .ok (.getfield 165, 3) := dk_180 0 165 (dk_at dksX3_type_0 17 rfl rfl)
theorem dX3_type_20 : decode cX3_type 20 = .ok (.sipush 160, 3) := dk_17 0 160 (dk_at dksX3_type_0 20 rfl rfl)
theorem dX3_type_23 : decode cX3_type 23 = .ok (.if_icmp .ne 6, 3) := dk_160 0 6 (dk_at dksX3_type_1 0 rfl rfl)
theorem dX3_type_26 : decode cX3_type 26 = .ok (.bipush (-3), 2) := dk_16 253 (dk_at dksX3_type_1 3 rfl rfl)
theorem dX3_type_28 : decode cX3_type 28 = .ok (.ireturn, 1) := dk_172 (dk_at dksX3_type_1 5 rfl rfl)
theorem dX3_type_29 : decode cX3_type 29 = .ok (.aload_n 0, 1) := dk_42 (dk_at dksX3_type_1 6 rfl rfl)
theorem dX3_type_30 : decode cX3_type 30 = .ok (.getfield 30, 3) := dk_180 0 30 (dk_at dksX3_type_1 7 rfl rfl)
theorem dX3_type_33 : decode cX3_type 33 = .ok (.aload_n 0, 1) := dk_42 (dk_at dksX3_type_1 10 rfl rfl)
theorem dX3_type_34 : decode cX3_type 34 = .ok (.getfield 165, 3) := dk_180 0 165 (dk_at dksX3_type_1 11 rfl rfl)
theorem dX3_type_37 : decode cX3_type 37 = .ok (.iload_n 1, 1) := dk_27 (dk_at dksX3_type_1 14 rfl rfl)
theorem dX3_type_38 : decode cX3_type 38 = .ok (.iastore, 1) := dk_79 (dk_at dksX3_type_1 15 rfl rfl)
theorem dX3_type_39 : decode cX3_type 39 = .ok (.aload_n 0, 1) := dk_42 (dk_at dksX3_type_1 16 rfl rfl)
theorem dX3_type_40 : decode cX3_type 40 = .ok (.dup, 1) := dk_89 (dk_at dksX3_type_1 17 rfl rfl)
theorem dX3_type_41 : decode cX3_type 41 = .ok (.getfield 165, 3) := dk_180 0 165 (dk_at dksX3_type_1 18 rfl rfl)
theorem dX3_type_44 : decode cX3_type 44 = .ok (.iconst 1, 1) := dk_4 (dk_at dksX3_type_1 21 rfl rfl)
theorem dX3_type_45 : decode cX3_type 45 = .ok (.iadd, 1) := dk_96 (dk_at dksX3_type_1 22 rfl rfl)
theorem dX3_type_46 : decode cX3_type 46 = .ok (.putfield 165, 3) := dk_181 0 165 (dk_at dksX3_type_2 0 rfl rfl)
theorem dX3_type_49 : decode cX3_type 49 = .ok (.aload_n 0, 1) := dk_42 (dk_at dksX3_type_2 3 rfl rfl)
theorem dX3_type_50 : decode cX3_type 50 = .ok (.getfield 165, 3) := dk_180 0 165 (dk_at dksX3_type_2 4 rfl rfl)
theorem dX3_type_53 : decode cX3_type 53 = .ok (.ireturn, 1) := dk_172 (dk_at dksX3_type_2 7 rfl rfl)
abbrev cX3_ground : ByteArray := prog_12_method_33_code
def yX3_ground : MethodName := ⟨RX3, "ground", "()I"⟩
def dkwX3_ground_3 : List UInt8 := [182, 0, 133, 42, 180, 0, 123, 172]
abbrev dktX3_ground_3 : List UInt8 := dkwX3_ground_3 ++ []
def dkwX3_ground_2 : List UInt8 := [167, 0, 4, 3, 182, 0, 150, 132, 2, 1, 167, 255, 217, 42, 3, 181, 0, 139, 42, 182, 0, 158, 42]
abbrev dktX3_ground_2 : List UInt8 := dkwX3_ground_2 ++ dktX3_ground_3
def dkwX3_ground_1 : List UInt8 := [28, 42, 180, 0, 33, 28, 46, 16, 100, 112, 42, 180, 0, 33, 28, 46, 16, 99, 164, 0, 7, 4]
abbrev dktX3_ground_1 : List UInt8 := dkwX3_ground_1 ++ dktX3_ground_2
def dkwX3_ground_0 : List UInt8 := [42, 42, 182, 0, 180, 182, 0, 184, 60, 27, 156, 0, 5, 27, 172, 3, 61, 28, 16, 36, 162, 0, 39, 42]
abbrev dktX3_ground_0 : List UInt8 := dkwX3_ground_0 ++ dktX3_ground_1
theorem dksX3_ground_0 : cX3_ground.data.toList.drop 0 = dktX3_ground_0 := by decide +kernel
theorem dksX3_ground_1 : cX3_ground.data.toList.drop 24 = dktX3_ground_1 := dk_seg dksX3_ground_0 24 rfl rfl
theorem dksX3_ground_2 : cX3_ground.data.toList.drop 46 = dktX3_ground_2 := dk_seg dksX3_ground_1 22 rfl rfl
theorem dksX3_ground_3 : cX3_ground.data.toList.drop 69 = dktX3_ground_3 := dk_seg dksX3_ground_2 23 rfl rfl
theorem dX3_ground_0 : decode cX3_ground 0 = .ok (.aload_n 0, 1) := dk_42 (dk_at dksX3_ground_0 0 rfl rfl)
theorem dX3_ground_1 : decode cX3_ground 1 = .ok (.aload_n 0, 1) := dk_42 (dk_at dksX3_ground_0 1 rfl rfl)
theorem dX3_ground_2 : decode cX3_ground 2 = .ok (.invokevirtual 180, 3) := dk_182 0 180 (dk_at dksX3_ground_0 2 rfl rfl)
theorem dX3_ground_5 : decode cX3_ground 5 = .ok (.invokevirtual 184, 3) := dk_182 0 184 (dk_at dksX3_ground_0 5 rfl rfl)
theorem dX3_ground_8 : decode cX3_ground 8 = .ok (.istore_n 1, 1) := dk_60 (dk_at dksX3_ground_0 8 rfl rfl)
theorem dX3_ground_9 : decode cX3_ground 9 = .ok (.iload_n 1, 1) := dk_27 (dk_at dksX3_ground_0 9 rfl rfl)
theorem dX3_ground_10 : decode cX3_ground 10 = .ok (.ifCond .ge 5, 3) := dk_156 0 5 (dk_at dksX3_ground_0 10 rfl rfl)
theorem dX3_ground_13 : decode cX3_ground 13 = .ok (.iload_n 1, 1) := dk_27 (dk_at dksX3_ground_0 13 rfl rfl)
theorem dX3_ground_14 : decode cX3_ground 14 = .ok (.ireturn, 1) := dk_172 (dk_at dksX3_ground_0 14 rfl rfl)
theorem dX3_ground_15 : decode cX3_ground 15 = .ok (.iconst 0, 1) := dk_3 (dk_at dksX3_ground_0 15 rfl rfl)
theorem dX3_ground_16 : decode cX3_ground 16 = .ok (.istore_n 2, 1) := dk_61 (dk_at dksX3_ground_0 16 rfl rfl)
theorem dX3_ground_17 : decode cX3_ground 17 = .ok (.iload_n 2, 1) := dk_28 (dk_at dksX3_ground_0 17 rfl rfl)
theorem dX3_ground_18 : decode cX3_ground 18 = .ok (.bipush 36, 2) := dk_16 36 (dk_at dksX3_ground_0 18 rfl rfl)
theorem dX3_ground_20 : decode cX3_ground 20 = .ok (.if_icmp .ge 39, 3) := dk_162 0 39 (dk_at dksX3_ground_0 20 rfl rfl)
theorem dX3_ground_23 : decode cX3_ground 23 = .ok (.aload_n 0, 1) := dk_42 (dk_at dksX3_ground_0 23 rfl rfl)
theorem dX3_ground_24 : decode cX3_ground 24 = .ok (.iload_n 2, 1) := dk_28 (dk_at dksX3_ground_1 0 rfl rfl)
theorem dX3_ground_25 : decode cX3_ground 25 = .ok (.aload_n 0, 1) := dk_42 (dk_at dksX3_ground_1 1 rfl rfl)
theorem dX3_ground_26 : decode cX3_ground 26 = .ok (.getfield 33, 3) := dk_180 0 33 (dk_at dksX3_ground_1 2 rfl rfl)
theorem dX3_ground_29 : decode cX3_ground 29 = .ok (.iload_n 2, 1) := dk_28 (dk_at dksX3_ground_1 5 rfl rfl)
theorem dX3_ground_30 : decode cX3_ground 30 = .ok (.iaload, 1) := dk_46 (dk_at dksX3_ground_1 6 rfl rfl)
theorem dX3_ground_31 : decode cX3_ground 31 = .ok (.bipush 100, 2) := dk_16 100 (dk_at dksX3_ground_1 7 rfl rfl)
theorem dX3_ground_33 : decode cX3_ground 33 = .ok (.irem, 1) := dk_112 (dk_at dksX3_ground_1 9 rfl rfl)
theorem dX3_ground_34 : decode cX3_ground 34 = .ok (.aload_n 0, 1) := dk_42 (dk_at dksX3_ground_1 10 rfl rfl)
theorem dX3_ground_35 : decode cX3_ground 35 = .ok (.getfield 33, 3) := dk_180 0 33 (dk_at dksX3_ground_1 11 rfl rfl)
theorem dX3_ground_38 : decode cX3_ground 38 = .ok (.iload_n 2, 1) := dk_28 (dk_at dksX3_ground_1 14 rfl rfl)
theorem dX3_ground_39 : decode cX3_ground 39 = .ok (.iaload, 1) := dk_46 (dk_at dksX3_ground_1 15 rfl rfl)
theorem dX3_ground_40 : decode cX3_ground 40 = .ok (.bipush 99, 2) := dk_16 99 (dk_at dksX3_ground_1 16 rfl rfl)
theorem dX3_ground_42 : decode cX3_ground 42 = .ok (.if_icmp .le 7, 3) := dk_164 0 7 (dk_at dksX3_ground_1 18 rfl rfl)
theorem dX3_ground_45 : decode cX3_ground 45 = .ok (.iconst 1, 1) := dk_4 (dk_at dksX3_ground_1 21 rfl rfl)
theorem dX3_ground_46 : decode cX3_ground 46 = .ok (.goto 4, 3) := dk_167 0 4 (dk_at dksX3_ground_2 0 rfl rfl)
theorem dX3_ground_49 : decode cX3_ground 49 = .ok (.iconst 0, 1) := dk_3 (dk_at dksX3_ground_2 3 rfl rfl)
theorem dX3_ground_50 : decode cX3_ground 50 = .ok (.invokevirtual 150, 3) := dk_182 0 150 (dk_at dksX3_ground_2 4 rfl rfl)
theorem dX3_ground_53 : decode cX3_ground 53 = .ok (.iinc 2 1, 3) := dk_132 2 1 (dk_at dksX3_ground_2 7 rfl rfl)
theorem dX3_ground_56 : decode cX3_ground 56 = .ok (.goto (-39), 3) := dk_167 255 217 (dk_at dksX3_ground_2 10 rfl rfl)
theorem dX3_ground_59 : decode cX3_ground 59 = .ok (.aload_n 0, 1) := dk_42 (dk_at dksX3_ground_2 13 rfl rfl)
theorem dX3_ground_60 : decode cX3_ground 60 = .ok (.iconst 0, 1) := dk_3 (dk_at dksX3_ground_2 14 rfl rfl)
theorem dX3_ground_61 : decode cX3_ground 61 = .ok (.putfield 139, 3) := dk_181 0 139 (dk_at dksX3_ground_2 15 rfl rfl)
theorem dX3_ground_64 : decode cX3_ground 64 = .ok (.aload_n 0, 1) := dk_42 (dk_at dksX3_ground_2 18 rfl rfl)
theorem dX3_ground_65 : decode cX3_ground 65 = .ok (.invokevirtual 158, 3) := dk_182 0 158 (dk_at dksX3_ground_2 19 rfl rfl)
theorem dX3_ground_68 : decode cX3_ground 68 = .ok (.aload_n 0, 1) := dk_42 (dk_at dksX3_ground_2 22 rfl rfl)
theorem dX3_ground_69 : decode cX3_ground 69 = .ok (.invokevirtual 133, 3) := dk_182 0 133 (dk_at dksX3_ground_3 0 rfl rfl)
theorem dX3_ground_72 : decode cX3_ground 72 = .ok (.aload_n 0, 1) := dk_42 (dk_at dksX3_ground_3 3 rfl rfl)
theorem dX3_ground_73 : decode cX3_ground 73 = .ok (.getfield 123, 3) := dk_180 0 123 (dk_at dksX3_ground_3 4 rfl rfl)
theorem dX3_ground_76 : decode cX3_ground 76 = .ok (.ireturn, 1) := dk_172 (dk_at dksX3_ground_3 7 rfl rfl)
abbrev cX3_readGround : ByteArray := prog_12_method_32_code
def yX3_readGround : MethodName := ⟨RX3, "readGround", "()Z"⟩
def dkwX3_readGround_4 : List UInt8 := [28, 79, 132, 1, 1, 167, 255, 166, 42, 182, 0, 171, 156, 0, 7, 4, 167, 0, 4, 3, 172]
abbrev dktX3_readGround_4 : List UInt8 := dkwX3_readGround_4 ++ []
def dkwX3_readGround_3 : List UInt8 := [180, 0, 33, 27, 28, 158, 0, 19, 42, 16, 94, 182, 0, 175, 153, 0, 10, 16, 100, 28, 96, 167, 0, 4]
abbrev dktX3_readGround_3 : List UInt8 := dkwX3_readGround_3 ++ dktX3_readGround_4
def dkwX3_readGround_2 : List UInt8 := [20, 0, 178, 184, 0, 65, 154, 0, 5, 3, 172, 42, 89, 180, 0, 168, 4, 96, 181, 0, 168, 42]
abbrev dktX3_readGround_2 : List UInt8 := dkwX3_readGround_2 ++ dktX3_readGround_3
def dkwX3_readGround_1 : List UInt8 := [42, 16, 47, 182, 0, 175, 154, 0, 5, 3, 172, 42, 182, 0, 171, 16, 48, 100, 61, 28, 133, 9]
abbrev dktX3_readGround_1 : List UInt8 := dkwX3_readGround_1 ++ dktX3_readGround_2
def dkwX3_readGround_0 : List UInt8 := [42, 3, 181, 0, 168, 3, 60, 27, 16, 36, 162, 0, 90, 27, 158, 0, 21, 27, 16, 6, 112, 154, 0, 14]
abbrev dktX3_readGround_0 : List UInt8 := dkwX3_readGround_0 ++ dktX3_readGround_1
theorem dksX3_readGround_0 : cX3_readGround.data.toList.drop 0 = dktX3_readGround_0 := by decide +kernel
theorem dksX3_readGround_1 : cX3_readGround.data.toList.drop 24 = dktX3_readGround_1 := dk_seg dksX3_readGround_0 24 rfl rfl
theorem dksX3_readGround_2 : cX3_readGround.data.toList.drop 46 = dktX3_readGround_2 := dk_seg dksX3_readGround_1 22 rfl rfl
theorem dksX3_readGround_3 : cX3_readGround.data.toList.drop 68 = dktX3_readGround_3 := dk_seg dksX3_readGround_2 22 rfl rfl
theorem dksX3_readGround_4 : cX3_readGround.data.toList.drop 92 = dktX3_readGround_4 := dk_seg dksX3_readGround_3 24 rfl rfl
theorem dX3_readGround_0 : decode cX3_readGround 0 = .ok (.aload_n 0, 1) := dk_42 (dk_at dksX3_readGround_0 0 rfl rfl)
theorem dX3_readGround_1 : decode cX3_readGround 1 = .ok (.iconst 0, 1) := dk_3 (dk_at dksX3_readGround_0 1 rfl rfl)
theorem dX3_readGround_2 : decode cX3_readGround 2 = .ok (.putfield 168, 3) := dk_181 0 168 (dk_at dksX3_readGround_0 2 rfl rfl)
theorem dX3_readGround_5 : decode cX3_readGround 5 = .ok (.iconst 0, 1) := dk_3 (dk_at dksX3_readGround_0 5 rfl rfl)
theorem dX3_readGround_6 : decode cX3_readGround 6 = .ok (.istore_n 1, 1) := dk_60 (dk_at dksX3_readGround_0 6 rfl rfl)
theorem dX3_readGround_7 : decode cX3_readGround 7 = .ok (.iload_n 1, 1) := dk_27 (dk_at dksX3_readGround_0 7 rfl rfl)
theorem dX3_readGround_8 : decode cX3_readGround 8 = .ok (.bipush 36, 2) := dk_16 36 (dk_at dksX3_readGround_0 8 rfl rfl)
theorem dX3_readGround_10 : decode cX3_readGround 10 = .ok (.if_icmp .ge 90, 3) := dk_162 0 90 (dk_at dksX3_readGround_0 10 rfl rfl)
theorem dX3_readGround_13 : decode cX3_readGround 13 = .ok (.iload_n 1, 1) := dk_27 (dk_at dksX3_readGround_0 13 rfl rfl)
theorem dX3_readGround_14 : decode cX3_readGround 14 = .ok (.ifCond .le 21, 3) := dk_158 0 21 (dk_at dksX3_readGround_0 14 rfl rfl)
theorem dX3_readGround_17 : decode cX3_readGround 17 = .ok (.iload_n 1, 1) := dk_27 (dk_at dksX3_readGround_0 17 rfl rfl)
theorem dX3_readGround_18 : decode cX3_readGround 18 = .ok (.bipush 6, 2) := dk_16 6 (dk_at dksX3_readGround_0 18 rfl rfl)
theorem dX3_readGround_20 : decode cX3_readGround 20 = .ok (.irem, 1) := dk_112 (dk_at dksX3_readGround_0 20 rfl rfl)
theorem dX3_readGround_21 : decode cX3_readGround 21 = .ok (.ifCond .ne 14, 3) := dk_154 0 14 (dk_at dksX3_readGround_0 21 rfl rfl)
theorem dX3_readGround_24 : decode cX3_readGround 24 = .ok (.aload_n 0, 1) := dk_42 (dk_at dksX3_readGround_1 0 rfl rfl)
theorem dX3_readGround_25 : decode cX3_readGround 25 = .ok (.bipush 47, 2) := dk_16 47 (dk_at dksX3_readGround_1 1 rfl rfl)
theorem dX3_readGround_27 : decode cX3_readGround 27 = .ok (.invokevirtual 175, 3) := dk_182 0 175 (dk_at dksX3_readGround_1 3 rfl rfl)
theorem dX3_readGround_30 : decode cX3_readGround 30 = .ok (.ifCond .ne 5, 3) := dk_154 0 5 (dk_at dksX3_readGround_1 6 rfl rfl)
theorem dX3_readGround_33 : decode cX3_readGround 33 = .ok (.iconst 0, 1) := dk_3 (dk_at dksX3_readGround_1 9 rfl rfl)
theorem dX3_readGround_34 : decode cX3_readGround 34 = .ok (.ireturn, 1) := dk_172 (dk_at dksX3_readGround_1 10 rfl rfl)
theorem dX3_readGround_35 : decode cX3_readGround 35 = .ok (.aload_n 0, 1) := dk_42 (dk_at dksX3_readGround_1 11 rfl rfl)
theorem dX3_readGround_36 : decode cX3_readGround 36 = .ok (.invokevirtual 171, 3) := dk_182 0 171 (dk_at dksX3_readGround_1 12 rfl rfl)
theorem dX3_readGround_39 : decode cX3_readGround 39 = .ok (.bipush 48, 2) := dk_16 48 (dk_at dksX3_readGround_1 15 rfl rfl)
theorem dX3_readGround_41 : decode cX3_readGround 41 = .ok (.isub, 1) := dk_100 (dk_at dksX3_readGround_1 17 rfl rfl)
theorem dX3_readGround_42 : decode cX3_readGround 42 = .ok (.istore_n 2, 1) := dk_61 (dk_at dksX3_readGround_1 18 rfl rfl)
theorem dX3_readGround_43 : decode cX3_readGround 43 = .ok (.iload_n 2, 1) := dk_28 (dk_at dksX3_readGround_1 19 rfl rfl)
theorem dX3_readGround_44 : decode cX3_readGround 44 = .ok (.i2l, 1) := dk_133 (dk_at dksX3_readGround_1 20 rfl rfl)
theorem dX3_readGround_45 : decode cX3_readGround 45 = .ok (.lconst 0, 1) := dk_9 (dk_at dksX3_readGround_1 21 rfl rfl)
theorem dX3_readGround_46 : decode cX3_readGround 46 = .ok (.ldc2_w 178, 3) := dk_20 0 178 (dk_at dksX3_readGround_2 0 rfl rfl)
theorem dX3_readGround_49 : decode cX3_readGround 49 = .ok (.invokestatic 65, 3) := dk_184 0 65 (dk_at dksX3_readGround_2 3 rfl rfl)
theorem dX3_readGround_52 : decode cX3_readGround 52 = .ok (.ifCond .ne 5, 3) := dk_154 0 5 (dk_at dksX3_readGround_2 6 rfl rfl)
theorem dX3_readGround_55 : decode cX3_readGround 55 = .ok (.iconst 0, 1) := dk_3 (dk_at dksX3_readGround_2 9 rfl rfl)
theorem dX3_readGround_56 : decode cX3_readGround 56 = .ok (.ireturn, 1) := dk_172 (dk_at dksX3_readGround_2 10 rfl rfl)
theorem dX3_readGround_57 : decode cX3_readGround 57 = .ok (.aload_n 0, 1) := dk_42 (dk_at dksX3_readGround_2 11 rfl rfl)
theorem dX3_readGround_58 : decode cX3_readGround 58 = .ok (.dup, 1) := dk_89 (dk_at dksX3_readGround_2 12 rfl rfl)
theorem dX3_readGround_59 : decode cX3_readGround 59 = .ok (.getfield 168, 3) := dk_180 0 168 (dk_at dksX3_readGround_2 13 rfl rfl)
theorem dX3_readGround_62 : decode cX3_readGround 62 = .ok (.iconst 1, 1) := dk_4 (dk_at dksX3_readGround_2 16 rfl rfl)
theorem dX3_readGround_63 : decode cX3_readGround 63 = .ok (.iadd, 1) := dk_96 (dk_at dksX3_readGround_2 17 rfl rfl)
theorem dX3_readGround_64 : decode cX3_readGround 64 = .ok (.putfield 168, 3) := dk_181 0 168 (dk_at dksX3_readGround_2 18 rfl rfl)
theorem dX3_readGround_67 : decode cX3_readGround 67 = .ok (.aload_n 0, 1) := dk_42 (dk_at dksX3_readGround_2 21 rfl rfl)
theorem dX3_readGround_68 : decode cX3_readGround 68 = .ok (.getfield 33, 3) := dk_180 0 33 (dk_at dksX3_readGround_3 0 rfl rfl)
theorem dX3_readGround_71 : decode cX3_readGround 71 = .ok (.iload_n 1, 1) := dk_27 (dk_at dksX3_readGround_3 3 rfl rfl)
theorem dX3_readGround_72 : decode cX3_readGround 72 = .ok (.iload_n 2, 1) := dk_28 (dk_at dksX3_readGround_3 4 rfl rfl)
theorem dX3_readGround_73 : decode cX3_readGround 73 = .ok (.ifCond .le 19, 3) := dk_158 0 19 (dk_at dksX3_readGround_3 5 rfl rfl)
theorem dX3_readGround_76 : decode cX3_readGround 76 = .ok (.aload_n 0, 1) := dk_42 (dk_at dksX3_readGround_3 8 rfl rfl)
theorem dX3_readGround_77 : decode cX3_readGround 77 = .ok (.bipush 94, 2) := dk_16 94 (dk_at dksX3_readGround_3 9 rfl rfl)
theorem dX3_readGround_79 : decode cX3_readGround 79 = .ok (.invokevirtual 175, 3) := dk_182 0 175 (dk_at dksX3_readGround_3 11 rfl rfl)
theorem dX3_readGround_82 : decode cX3_readGround 82 = .ok (.ifCond .eq 10, 3) := dk_153 0 10 (dk_at dksX3_readGround_3 14 rfl rfl)
theorem dX3_readGround_85 : decode cX3_readGround 85 = .ok (.bipush 100, 2) := dk_16 100 (dk_at dksX3_readGround_3 17 rfl rfl)
theorem dX3_readGround_87 : decode cX3_readGround 87 = .ok (.iload_n 2, 1) := dk_28 (dk_at dksX3_readGround_3 19 rfl rfl)
theorem dX3_readGround_88 : decode cX3_readGround 88 = .ok (.iadd, 1) := dk_96 (dk_at dksX3_readGround_3 20 rfl rfl)
theorem dX3_readGround_89 : decode cX3_readGround 89 = .ok (.goto 4, 3) := dk_167 0 4 (dk_at dksX3_readGround_3 21 rfl rfl)
theorem dX3_readGround_92 : decode cX3_readGround 92 = .ok (.iload_n 2, 1) := dk_28 (dk_at dksX3_readGround_4 0 rfl rfl)
theorem dX3_readGround_93 : decode cX3_readGround 93 = .ok (.iastore, 1) := dk_79 (dk_at dksX3_readGround_4 1 rfl rfl)
theorem dX3_readGround_94 : decode cX3_readGround 94 = .ok (.iinc 1 1, 3) := dk_132 1 1 (dk_at dksX3_readGround_4 2 rfl rfl)
theorem dX3_readGround_97 : decode cX3_readGround 97 = .ok (.goto (-90), 3) := dk_167 255 166 (dk_at dksX3_readGround_4 5 rfl rfl)
theorem dX3_readGround_100 : decode cX3_readGround 100 = .ok (.aload_n 0, 1) := dk_42 (dk_at dksX3_readGround_4 8 rfl rfl)
theorem dX3_readGround_101 : decode cX3_readGround 101 = .ok (.invokevirtual 171, 3) := dk_182 0 171 (dk_at dksX3_readGround_4 9 rfl rfl)
theorem dX3_readGround_104 : decode cX3_readGround 104 = .ok (.ifCond .ge 7, 3) := dk_156 0 7 (dk_at dksX3_readGround_4 12 rfl rfl)
theorem dX3_readGround_107 : decode cX3_readGround 107 = .ok (.iconst 1, 1) := dk_4 (dk_at dksX3_readGround_4 15 rfl rfl)
theorem dX3_readGround_108 : decode cX3_readGround 108 = .ok (.goto 4, 3) := dk_167 0 4 (dk_at dksX3_readGround_4 16 rfl rfl)
theorem dX3_readGround_111 : decode cX3_readGround 111 = .ok (.iconst 0, 1) := dk_3 (dk_at dksX3_readGround_4 19 rfl rfl)
theorem dX3_readGround_112 : decode cX3_readGround 112 = .ok (.ireturn, 1) := dk_172 (dk_at dksX3_readGround_4 20 rfl rfl)
abbrev cX3_takes : ByteArray := prog_12_method_30_code
def yX3_takes : MethodName := ⟨RX3, "takes", "(I)Z"⟩
def dkwX3_takes_1 : List UInt8 := [167, 0, 4, 3, 96, 181, 0, 168, 28, 172]
abbrev dktX3_takes_1 : List UInt8 := dkwX3_takes_1 ++ []
def dkwX3_takes_0 : List UInt8 := [42, 182, 0, 171, 27, 160, 0, 7, 4, 167, 0, 4, 3, 61, 42, 89, 180, 0, 168, 28, 153, 0, 7, 4]
abbrev dktX3_takes_0 : List UInt8 := dkwX3_takes_0 ++ dktX3_takes_1
theorem dksX3_takes_0 : cX3_takes.data.toList.drop 0 = dktX3_takes_0 := by decide +kernel
theorem dksX3_takes_1 : cX3_takes.data.toList.drop 24 = dktX3_takes_1 := dk_seg dksX3_takes_0 24 rfl rfl
theorem dX3_takes_0 : decode cX3_takes 0 = .ok (.aload_n 0, 1) := dk_42 (dk_at dksX3_takes_0 0 rfl rfl)
theorem dX3_takes_1 : decode cX3_takes 1 = .ok (.invokevirtual 171, 3) := dk_182 0 171 (dk_at dksX3_takes_0 1 rfl rfl)
theorem dX3_takes_4 : decode cX3_takes 4 = .ok (.iload_n 1, 1) := dk_27 (dk_at dksX3_takes_0 4 rfl rfl)
theorem dX3_takes_5 : decode cX3_takes 5 = .ok (.if_icmp .ne 7, 3) := dk_160 0 7 (dk_at dksX3_takes_0 5 rfl rfl)
theorem dX3_takes_8 : decode cX3_takes 8 = .ok (.iconst 1, 1) := dk_4 (dk_at dksX3_takes_0 8 rfl rfl)
theorem dX3_takes_9 : decode cX3_takes 9 = .ok (.goto 4, 3) := dk_167 0 4 (dk_at dksX3_takes_0 9 rfl rfl)
theorem dX3_takes_12 : decode cX3_takes 12 = .ok (.iconst 0, 1) := dk_3 (dk_at dksX3_takes_0 12 rfl rfl)
theorem dX3_takes_13 : decode cX3_takes 13 = .ok (.istore_n 2, 1) := dk_61 (dk_at dksX3_takes_0 13 rfl rfl)
theorem dX3_takes_14 : decode cX3_takes 14 = .ok (.aload_n 0, 1) := dk_42 (dk_at dksX3_takes_0 14 rfl rfl)
theorem dX3_takes_15 : decode cX3_takes 15 = .ok (.dup, 1) := dk_89 (dk_at dksX3_takes_0 15 rfl rfl)
theorem dX3_takes_16 : decode cX3_takes 16 = .ok (.getfield 168, 3) := dk_180 0 168 (dk_at dksX3_takes_0 16 rfl rfl)
theorem dX3_takes_19 : decode cX3_takes 19 = .ok (.iload_n 2, 1) := dk_28 (dk_at dksX3_takes_0 19 rfl rfl)
theorem dX3_takes_20 : decode cX3_takes 20 = .ok (.ifCond .eq 7, 3) := dk_153 0 7 (dk_at dksX3_takes_0 20 rfl rfl)
theorem dX3_takes_23 : decode cX3_takes 23 = .ok (.iconst 1, 1) := dk_4 (dk_at dksX3_takes_0 23 rfl rfl)
theorem dX3_takes_24 : decode cX3_takes 24 = .ok (.goto 4, 3) := dk_167 0 4 (dk_at dksX3_takes_1 0 rfl rfl)
theorem dX3_takes_27 : decode cX3_takes 27 = .ok (.iconst 0, 1) := dk_3 (dk_at dksX3_takes_1 3 rfl rfl)
theorem dX3_takes_28 : decode cX3_takes 28 = .ok (.iadd, 1) := dk_96 (dk_at dksX3_takes_1 4 rfl rfl)
theorem dX3_takes_29 : decode cX3_takes 29 = .ok (.putfield 168, 3) := dk_181 0 168 (dk_at dksX3_takes_1 5 rfl rfl)
theorem dX3_takes_32 : decode cX3_takes 32 = .ok (.iload_n 2, 1) := dk_28 (dk_at dksX3_takes_1 8 rfl rfl)
theorem dX3_takes_33 : decode cX3_takes 33 = .ok (.ireturn, 1) := dk_172 (dk_at dksX3_takes_1 9 rfl rfl)
abbrev cX3_nextLetter : ByteArray := prog_12_method_29_code
def yX3_nextLetter : MethodName := ⟨RX3, "nextLetter", "()I"⟩
def dkwX3_nextLetter_2 : List UInt8 := [162, 0, 15, 42, 180, 0, 30, 42, 180, 0, 168, 46, 167, 0, 4, 2, 172]
abbrev dktX3_nextLetter_2 : List UInt8 := dkwX3_nextLetter_2 ++ []
def dkwX3_nextLetter_1 : List UInt8 := [160, 0, 16, 42, 89, 180, 0, 168, 4, 96, 181, 0, 168, 167, 255, 221, 42, 180, 0, 168, 42, 180, 0, 165]
abbrev dktX3_nextLetter_1 : List UInt8 := dkwX3_nextLetter_1 ++ dktX3_nextLetter_2
def dkwX3_nextLetter_0 : List UInt8 := [42, 180, 0, 168, 42, 180, 0, 165, 162, 0, 30, 42, 180, 0, 30, 42, 180, 0, 168, 46, 16, 32]
abbrev dktX3_nextLetter_0 : List UInt8 := dkwX3_nextLetter_0 ++ dktX3_nextLetter_1
theorem dksX3_nextLetter_0 : cX3_nextLetter.data.toList.drop 0 = dktX3_nextLetter_0 := by decide +kernel
theorem dksX3_nextLetter_1 : cX3_nextLetter.data.toList.drop 22 = dktX3_nextLetter_1 := dk_seg dksX3_nextLetter_0 22 rfl rfl
theorem dksX3_nextLetter_2 : cX3_nextLetter.data.toList.drop 46 = dktX3_nextLetter_2 := dk_seg dksX3_nextLetter_1 24 rfl rfl
theorem dX3_nextLetter_0 : decode cX3_nextLetter 0 = .ok (.aload_n 0, 1) := dk_42 (dk_at dksX3_nextLetter_0 0 rfl rfl)
theorem dX3_nextLetter_1 : decode cX3_nextLetter 1 = .ok (.getfield 168, 3) := dk_180 0 168 (dk_at dksX3_nextLetter_0 1 rfl rfl)
theorem dX3_nextLetter_4 : decode cX3_nextLetter 4 = .ok (.aload_n 0, 1) := dk_42 (dk_at dksX3_nextLetter_0 4 rfl rfl)
theorem dX3_nextLetter_5 : decode cX3_nextLetter 5 = .ok (.getfield 165, 3) := dk_180 0 165 (dk_at dksX3_nextLetter_0 5 rfl rfl)
theorem dX3_nextLetter_8 : decode cX3_nextLetter 8 = .ok (.if_icmp .ge 30, 3) := dk_162 0 30 (dk_at dksX3_nextLetter_0 8 rfl rfl)
theorem dX3_nextLetter_11 : decode cX3_nextLetter 11 = .ok (.aload_n 0, 1) := dk_42 (dk_at dksX3_nextLetter_0 11 rfl rfl)
theorem dX3_nextLetter_12 : decode cX3_nextLetter 12 = .ok (.getfield 30, 3) := dk_180 0 30 (dk_at dksX3_nextLetter_0 12 rfl rfl)
theorem dX3_nextLetter_15 : decode cX3_nextLetter 15 = .ok (.aload_n 0, 1) := dk_42 (dk_at dksX3_nextLetter_0 15 rfl rfl)
theorem dX3_nextLetter_16 : decode cX3_nextLetter 16 = .ok (.getfield 168, 3) := dk_180 0 168 (dk_at dksX3_nextLetter_0 16 rfl rfl)
theorem dX3_nextLetter_19 : decode cX3_nextLetter 19 = .ok (.iaload, 1) := dk_46 (dk_at dksX3_nextLetter_0 19 rfl rfl)
theorem dX3_nextLetter_20 : decode cX3_nextLetter 20 = .ok (.bipush 32, 2) := dk_16 32 (dk_at dksX3_nextLetter_0 20 rfl rfl)
theorem dX3_nextLetter_22 : decode cX3_nextLetter 22 = .ok (.if_icmp .ne 16, 3) := dk_160 0 16 (dk_at dksX3_nextLetter_1 0 rfl rfl)
theorem dX3_nextLetter_25 : decode cX3_nextLetter 25 = .ok (.aload_n 0, 1) := dk_42 (dk_at dksX3_nextLetter_1 3 rfl rfl)
theorem dX3_nextLetter_26 : decode cX3_nextLetter 26 = .ok (.dup, 1) := dk_89 (dk_at dksX3_nextLetter_1 4 rfl rfl)
theorem dX3_nextLetter_27 : decode cX3_nextLetter 27 = .ok (.getfield 168, 3) := dk_180 0 168 (dk_at dksX3_nextLetter_1 5 rfl rfl)
theorem dX3_nextLetter_30 : decode cX3_nextLetter 30 = .ok (.iconst 1, 1) := dk_4 (dk_at dksX3_nextLetter_1 8 rfl rfl)
theorem dX3_nextLetter_31 : decode cX3_nextLetter 31 = .ok (.iadd, 1) := dk_96 (dk_at dksX3_nextLetter_1 9 rfl rfl)
theorem dX3_nextLetter_32 : decode cX3_nextLetter 32 = .ok (.putfield 168, 3) := dk_181 0 168 (dk_at dksX3_nextLetter_1 10 rfl rfl)
theorem dX3_nextLetter_35 : decode cX3_nextLetter 35 = .ok (.goto (-35), 3) := dk_167 255 221 (dk_at dksX3_nextLetter_1 13 rfl rfl)
theorem dX3_nextLetter_38 : decode cX3_nextLetter 38 = .ok (.aload_n 0, 1) := dk_42 (dk_at dksX3_nextLetter_1 16 rfl rfl)
theorem dX3_nextLetter_39 : decode cX3_nextLetter 39 = .ok (.getfield 168, 3) := dk_180 0 168 (dk_at dksX3_nextLetter_1 17 rfl rfl)
theorem dX3_nextLetter_42 : decode cX3_nextLetter 42 = .ok (.aload_n 0, 1) := dk_42 (dk_at dksX3_nextLetter_1 20 rfl rfl)
theorem dX3_nextLetter_43 : decode cX3_nextLetter 43 = .ok (.getfield 165, 3) := dk_180 0 165 (dk_at dksX3_nextLetter_1 21 rfl rfl)
theorem dX3_nextLetter_46 : decode cX3_nextLetter 46 = .ok (.if_icmp .ge 15, 3) := dk_162 0 15 (dk_at dksX3_nextLetter_2 0 rfl rfl)
theorem dX3_nextLetter_49 : decode cX3_nextLetter 49 = .ok (.aload_n 0, 1) := dk_42 (dk_at dksX3_nextLetter_2 3 rfl rfl)
theorem dX3_nextLetter_50 : decode cX3_nextLetter 50 = .ok (.getfield 30, 3) := dk_180 0 30 (dk_at dksX3_nextLetter_2 4 rfl rfl)
theorem dX3_nextLetter_53 : decode cX3_nextLetter 53 = .ok (.aload_n 0, 1) := dk_42 (dk_at dksX3_nextLetter_2 7 rfl rfl)
theorem dX3_nextLetter_54 : decode cX3_nextLetter 54 = .ok (.getfield 168, 3) := dk_180 0 168 (dk_at dksX3_nextLetter_2 8 rfl rfl)
theorem dX3_nextLetter_57 : decode cX3_nextLetter 57 = .ok (.iaload, 1) := dk_46 (dk_at dksX3_nextLetter_2 11 rfl rfl)
theorem dX3_nextLetter_58 : decode cX3_nextLetter 58 = .ok (.goto 4, 3) := dk_167 0 4 (dk_at dksX3_nextLetter_2 12 rfl rfl)
theorem dX3_nextLetter_61 : decode cX3_nextLetter 61 = .ok (.iconst (-1), 1) := dk_2 (dk_at dksX3_nextLetter_2 15 rfl rfl)
theorem dX3_nextLetter_62 : decode cX3_nextLetter 62 = .ok (.ireturn, 1) := dk_172 (dk_at dksX3_nextLetter_2 16 rfl rfl)
abbrev cX3_end : ByteArray := prog_12_method_31_code
def yX3_end : MethodName := ⟨RX3, "end", "(Z)I"⟩
def dkwX3_end_1 : List UInt8 := [42, 180, 0, 168, 100, 172]
abbrev dktX3_end_1 : List UInt8 := dkwX3_end_1 ++ []
def dkwX3_end_0 : List UInt8 := [27, 154, 0, 8, 42, 182, 0, 171, 87, 42, 3, 181, 0, 165, 27, 153, 0, 7, 3, 167, 0, 10, 16, 236]
abbrev dktX3_end_0 : List UInt8 := dkwX3_end_0 ++ dktX3_end_1
theorem dksX3_end_0 : cX3_end.data.toList.drop 0 = dktX3_end_0 := by decide +kernel
theorem dksX3_end_1 : cX3_end.data.toList.drop 24 = dktX3_end_1 := dk_seg dksX3_end_0 24 rfl rfl
theorem dX3_end_0 : decode cX3_end 0 = .ok (.iload_n 1, 1) := dk_27 (dk_at dksX3_end_0 0 rfl rfl)
theorem dX3_end_1 : decode cX3_end 1 = .ok (.ifCond .ne 8, 3) := dk_154 0 8 (dk_at dksX3_end_0 1 rfl rfl)
theorem dX3_end_4 : decode cX3_end 4 = .ok (.aload_n 0, 1) := dk_42 (dk_at dksX3_end_0 4 rfl rfl)
theorem dX3_end_5 : decode cX3_end 5 = .ok (.invokevirtual 171, 3) := dk_182 0 171 (dk_at dksX3_end_0 5 rfl rfl)
theorem dX3_end_8 : decode cX3_end 8 = .ok (.pop, 1) := dk_87 (dk_at dksX3_end_0 8 rfl rfl)
theorem dX3_end_9 : decode cX3_end 9 = .ok (.aload_n 0, 1) := dk_42 (dk_at dksX3_end_0 9 rfl rfl)
theorem dX3_end_10 : decode cX3_end 10 = .ok (.iconst 0, 1) := dk_3 (dk_at dksX3_end_0 10 rfl rfl)
theorem dX3_end_11 : decode cX3_end 11 = .ok (.putfield 165, 3) := dk_181 0 165 (dk_at dksX3_end_0 11 rfl rfl)
theorem dX3_end_14 : decode cX3_end 14 = .ok (.iload_n 1, 1) := dk_27 (dk_at dksX3_end_0 14 rfl rfl)
theorem dX3_end_15 : decode cX3_end 15 = .ok (.ifCond .eq 7, 3) := dk_153 0 7 (dk_at dksX3_end_0 15 rfl rfl)
theorem dX3_end_18 : decode cX3_end 18 = .ok (.iconst 0, 1) := dk_3 (dk_at dksX3_end_0 18 rfl rfl)
theorem dX3_end_19 : decode cX3_end 19 = .ok (.goto 10, 3) := dk_167 0 10 (dk_at dksX3_end_0 19 rfl rfl)
theorem dX3_end_22 : decode cX3_end 22 = .ok (.bipush (-20), 2) := dk_16 236 (dk_at dksX3_end_0 22 rfl rfl)
theorem dX3_end_24 : decode cX3_end 24 = .ok (.aload_n 0, 1) := dk_42 (dk_at dksX3_end_1 0 rfl rfl)
theorem dX3_end_25 : decode cX3_end 25 = .ok (.getfield 168, 3) := dk_180 0 168 (dk_at dksX3_end_1 1 rfl rfl)
theorem dX3_end_28 : decode cX3_end 28 = .ok (.isub, 1) := dk_100 (dk_at dksX3_end_1 4 rfl rfl)
theorem dX3_end_29 : decode cX3_end 29 = .ok (.ireturn, 1) := dk_172 (dk_at dksX3_end_1 5 rfl rfl)
abbrev cX3_findHoles : ByteArray := prog_12_method_17_code
def yX3_findHoles : MethodName := ⟨RX3, "findHoles", "()V"⟩
def dkwX3_findHoles_2 : List UInt8 := [42, 180, 0, 123, 4, 100, 47, 20, 0, 94, 131, 127, 64, 167, 255, 205, 177]
abbrev dktX3_findHoles_2 : List UInt8 := dkwX3_findHoles_2 ++ []
def dkwX3_findHoles_1 : List UInt8 := [42, 31, 184, 0, 126, 182, 0, 129, 80, 42, 89, 180, 0, 123, 4, 96, 181, 0, 123, 31, 42, 180, 0, 26]
abbrev dktX3_findHoles_1 : List UInt8 := dkwX3_findHoles_1 ++ dktX3_findHoles_2
def dkwX3_findHoles_0 : List UInt8 := [42, 3, 181, 0, 123, 42, 180, 0, 73, 64, 31, 9, 148, 153, 0, 51, 42, 180, 0, 26, 42, 180, 0, 123]
abbrev dktX3_findHoles_0 : List UInt8 := dkwX3_findHoles_0 ++ dktX3_findHoles_1
theorem dksX3_findHoles_0 : cX3_findHoles.data.toList.drop 0 = dktX3_findHoles_0 := by decide +kernel
theorem dksX3_findHoles_1 : cX3_findHoles.data.toList.drop 24 = dktX3_findHoles_1 := dk_seg dksX3_findHoles_0 24 rfl rfl
theorem dksX3_findHoles_2 : cX3_findHoles.data.toList.drop 48 = dktX3_findHoles_2 := dk_seg dksX3_findHoles_1 24 rfl rfl
theorem dX3_findHoles_0 : decode cX3_findHoles 0 = .ok (.aload_n 0, 1) := dk_42 (dk_at dksX3_findHoles_0 0 rfl rfl)
theorem dX3_findHoles_1 : decode cX3_findHoles 1 = .ok (.iconst 0, 1) := dk_3 (dk_at dksX3_findHoles_0 1 rfl rfl)
theorem dX3_findHoles_2 : decode cX3_findHoles 2 = .ok (.putfield 123, 3) := dk_181 0 123 (dk_at dksX3_findHoles_0 2 rfl rfl)
theorem dX3_findHoles_5 : decode cX3_findHoles 5 = .ok (.aload_n 0, 1) := dk_42 (dk_at dksX3_findHoles_0 5 rfl rfl)
theorem dX3_findHoles_6 : decode cX3_findHoles 6 = .ok (.getfield 73, 3) := dk_180 0 73 (dk_at dksX3_findHoles_0 6 rfl rfl)
theorem dX3_findHoles_9 : decode cX3_findHoles 9 = .ok (.lstore_n 1, 1) := dk_64 (dk_at dksX3_findHoles_0 9 rfl rfl)
theorem dX3_findHoles_10 : decode cX3_findHoles 10 = .ok (.lload_n 1, 1) := dk_31 (dk_at dksX3_findHoles_0 10 rfl rfl)
theorem dX3_findHoles_11 : decode cX3_findHoles 11 = .ok (.lconst 0, 1) := dk_9 (dk_at dksX3_findHoles_0 11 rfl rfl)
theorem dX3_findHoles_12 : decode cX3_findHoles 12 = .ok (.lcmp, 1) := dk_148 (dk_at dksX3_findHoles_0 12 rfl rfl)
theorem dX3_findHoles_13 : decode cX3_findHoles 13 = .ok (.ifCond .eq 51, 3) := dk_153 0 51 (dk_at dksX3_findHoles_0 13 rfl rfl)
theorem dX3_findHoles_16 : decode cX3_findHoles 16 = .ok (.aload_n 0, 1) := dk_42 (dk_at dksX3_findHoles_0 16 rfl rfl)
theorem dX3_findHoles_17 : decode cX3_findHoles 17 = .ok (.getfield 26, 3) := dk_180 0 26 (dk_at dksX3_findHoles_0 17 rfl rfl)
theorem dX3_findHoles_20 : decode cX3_findHoles 20 = .ok (.aload_n 0, 1) := dk_42 (dk_at dksX3_findHoles_0 20 rfl rfl)
theorem dX3_findHoles_21 : decode cX3_findHoles 21 = .ok (.getfield 123, 3) := dk_180 0 123 (dk_at dksX3_findHoles_0 21 rfl rfl)
theorem dX3_findHoles_24 : decode cX3_findHoles 24 = .ok (.aload_n 0, 1) := dk_42 (dk_at dksX3_findHoles_1 0 rfl rfl)
theorem dX3_findHoles_25 : decode cX3_findHoles 25 = .ok (.lload_n 1, 1) := dk_31 (dk_at dksX3_findHoles_1 1 rfl rfl)
theorem dX3_findHoles_26 : decode cX3_findHoles 26 = .ok (.invokestatic 126, 3) := dk_184 0 126 (dk_at dksX3_findHoles_1 2 rfl rfl)
theorem dX3_findHoles_29 : decode cX3_findHoles 29 = .ok (.invokevirtual 129, 3) := dk_182 0 129 (dk_at dksX3_findHoles_1 5 rfl rfl)
theorem dX3_findHoles_32 : decode cX3_findHoles 32 = .ok (.lastore, 1) := dk_80 (dk_at dksX3_findHoles_1 8 rfl rfl)
theorem dX3_findHoles_33 : decode cX3_findHoles 33 = .ok (.aload_n 0, 1) := dk_42 (dk_at dksX3_findHoles_1 9 rfl rfl)
theorem dX3_findHoles_34 : decode cX3_findHoles 34 = .ok (.dup, 1) := dk_89 (dk_at dksX3_findHoles_1 10 rfl rfl)
theorem dX3_findHoles_35 : decode cX3_findHoles 35 = .ok (.getfield 123, 3) := dk_180 0 123 (dk_at dksX3_findHoles_1 11 rfl rfl)
theorem dX3_findHoles_38 : decode cX3_findHoles 38 = .ok (.iconst 1, 1) := dk_4 (dk_at dksX3_findHoles_1 14 rfl rfl)
theorem dX3_findHoles_39 : decode cX3_findHoles 39 = .ok (.iadd, 1) := dk_96 (dk_at dksX3_findHoles_1 15 rfl rfl)
theorem dX3_findHoles_40 : decode cX3_findHoles 40 = .ok (.putfield 123, 3) := dk_181 0 123 (dk_at dksX3_findHoles_1 16 rfl rfl)
theorem dX3_findHoles_43 : decode cX3_findHoles 43 = .ok (.lload_n 1, 1) := dk_31 (dk_at dksX3_findHoles_1 19 rfl rfl)
theorem dX3_findHoles_44 : decode cX3_findHoles 44 = .ok (.aload_n 0, 1) := dk_42 (dk_at dksX3_findHoles_1 20 rfl rfl)
theorem dX3_findHoles_45 : decode cX3_findHoles 45 = .ok (.getfield 26, 3) := dk_180 0 26 (dk_at dksX3_findHoles_1 21 rfl rfl)
theorem dX3_findHoles_48 : decode cX3_findHoles 48 = .ok (.aload_n 0, 1) := dk_42 (dk_at dksX3_findHoles_2 0 rfl rfl)
theorem dX3_findHoles_49 : decode cX3_findHoles 49 = .ok (.getfield 123, 3) := dk_180 0 123 (dk_at dksX3_findHoles_2 1 rfl rfl)
theorem dX3_findHoles_52 : decode cX3_findHoles 52 = .ok (.iconst 1, 1) := dk_4 (dk_at dksX3_findHoles_2 4 rfl rfl)
theorem dX3_findHoles_53 : decode cX3_findHoles 53 = .ok (.isub, 1) := dk_100 (dk_at dksX3_findHoles_2 5 rfl rfl)
theorem dX3_findHoles_54 : decode cX3_findHoles 54 = .ok (.laload, 1) := dk_47 (dk_at dksX3_findHoles_2 6 rfl rfl)
theorem dX3_findHoles_55 : decode cX3_findHoles 55 = .ok (.ldc2_w 94, 3) := dk_20 0 94 (dk_at dksX3_findHoles_2 7 rfl rfl)
theorem dX3_findHoles_58 : decode cX3_findHoles 58 = .ok (.lxor, 1) := dk_131 (dk_at dksX3_findHoles_2 10 rfl rfl)
theorem dX3_findHoles_59 : decode cX3_findHoles 59 = .ok (.land, 1) := dk_127 (dk_at dksX3_findHoles_2 11 rfl rfl)
theorem dX3_findHoles_60 : decode cX3_findHoles 60 = .ok (.lstore_n 1, 1) := dk_64 (dk_at dksX3_findHoles_2 12 rfl rfl)
theorem dX3_findHoles_61 : decode cX3_findHoles 61 = .ok (.goto (-51), 3) := dk_167 255 205 (dk_at dksX3_findHoles_2 13 rfl rfl)
theorem dX3_findHoles_64 : decode cX3_findHoles 64 = .ok (.return_, 1) := dk_177 (dk_at dksX3_findHoles_2 16 rfl rfl)
abbrev cX3_owners : ByteArray := prog_12_method_35_code
def yX3_owners : MethodName := ⟨RX3, "owners", "()I"⟩
def dkwX3_owners_2 : List UInt8 := [162, 0, 7, 4, 167, 0, 4, 3, 96, 61, 132, 3, 1, 167, 255, 217, 28, 172]
abbrev dktX3_owners_2 : List UInt8 := dkwX3_owners_2 ++ []
def dkwX3_owners_1 : List UInt8 := [162, 0, 39, 42, 180, 0, 13, 29, 42, 180, 0, 33, 29, 46, 79, 28, 42, 180, 0, 33, 29, 46, 7]
abbrev dktX3_owners_1 : List UInt8 := dkwX3_owners_1 ++ dktX3_owners_2
def dkwX3_owners_0 : List UInt8 := [42, 42, 182, 0, 192, 182, 0, 184, 60, 27, 156, 0, 5, 27, 172, 3, 61, 3, 62, 29, 16, 36]
abbrev dktX3_owners_0 : List UInt8 := dkwX3_owners_0 ++ dktX3_owners_1
theorem dksX3_owners_0 : cX3_owners.data.toList.drop 0 = dktX3_owners_0 := by decide +kernel
theorem dksX3_owners_1 : cX3_owners.data.toList.drop 22 = dktX3_owners_1 := dk_seg dksX3_owners_0 22 rfl rfl
theorem dksX3_owners_2 : cX3_owners.data.toList.drop 45 = dktX3_owners_2 := dk_seg dksX3_owners_1 23 rfl rfl
theorem dX3_owners_0 : decode cX3_owners 0 = .ok (.aload_n 0, 1) := dk_42 (dk_at dksX3_owners_0 0 rfl rfl)
theorem dX3_owners_1 : decode cX3_owners 1 = .ok (.aload_n 0, 1) := dk_42 (dk_at dksX3_owners_0 1 rfl rfl)
theorem dX3_owners_2 : decode cX3_owners 2 = .ok (.invokevirtual 192, 3) := dk_182 0 192 (dk_at dksX3_owners_0 2 rfl rfl)
theorem dX3_owners_5 : decode cX3_owners 5 = .ok (.invokevirtual 184, 3) := dk_182 0 184 (dk_at dksX3_owners_0 5 rfl rfl)
theorem dX3_owners_8 : decode cX3_owners 8 = .ok (.istore_n 1, 1) := dk_60 (dk_at dksX3_owners_0 8 rfl rfl)
theorem dX3_owners_9 : decode cX3_owners 9 = .ok (.iload_n 1, 1) := dk_27 (dk_at dksX3_owners_0 9 rfl rfl)
theorem dX3_owners_10 : decode cX3_owners 10 = .ok (.ifCond .ge 5, 3) := dk_156 0 5 (dk_at dksX3_owners_0 10 rfl rfl)
theorem dX3_owners_13 : decode cX3_owners 13 = .ok (.iload_n 1, 1) := dk_27 (dk_at dksX3_owners_0 13 rfl rfl)
theorem dX3_owners_14 : decode cX3_owners 14 = .ok (.ireturn, 1) := dk_172 (dk_at dksX3_owners_0 14 rfl rfl)
theorem dX3_owners_15 : decode cX3_owners 15 = .ok (.iconst 0, 1) := dk_3 (dk_at dksX3_owners_0 15 rfl rfl)
theorem dX3_owners_16 : decode cX3_owners 16 = .ok (.istore_n 2, 1) := dk_61 (dk_at dksX3_owners_0 16 rfl rfl)
theorem dX3_owners_17 : decode cX3_owners 17 = .ok (.iconst 0, 1) := dk_3 (dk_at dksX3_owners_0 17 rfl rfl)
theorem dX3_owners_18 : decode cX3_owners 18 = .ok (.istore_n 3, 1) := dk_62 (dk_at dksX3_owners_0 18 rfl rfl)
theorem dX3_owners_19 : decode cX3_owners 19 = .ok (.iload_n 3, 1) := dk_29 (dk_at dksX3_owners_0 19 rfl rfl)
theorem dX3_owners_20 : decode cX3_owners 20 = .ok (.bipush 36, 2) := dk_16 36 (dk_at dksX3_owners_0 20 rfl rfl)
theorem dX3_owners_22 : decode cX3_owners 22 = .ok (.if_icmp .ge 39, 3) := dk_162 0 39 (dk_at dksX3_owners_1 0 rfl rfl)
theorem dX3_owners_25 : decode cX3_owners 25 = .ok (.aload_n 0, 1) := dk_42 (dk_at dksX3_owners_1 3 rfl rfl)
theorem dX3_owners_26 : decode cX3_owners 26 = .ok (.getfield 13, 3) := dk_180 0 13 (dk_at dksX3_owners_1 4 rfl rfl)
theorem dX3_owners_29 : decode cX3_owners 29 = .ok (.iload_n 3, 1) := dk_29 (dk_at dksX3_owners_1 7 rfl rfl)
theorem dX3_owners_30 : decode cX3_owners 30 = .ok (.aload_n 0, 1) := dk_42 (dk_at dksX3_owners_1 8 rfl rfl)
theorem dX3_owners_31 : decode cX3_owners 31 = .ok (.getfield 33, 3) := dk_180 0 33 (dk_at dksX3_owners_1 9 rfl rfl)
theorem dX3_owners_34 : decode cX3_owners 34 = .ok (.iload_n 3, 1) := dk_29 (dk_at dksX3_owners_1 12 rfl rfl)
theorem dX3_owners_35 : decode cX3_owners 35 = .ok (.iaload, 1) := dk_46 (dk_at dksX3_owners_1 13 rfl rfl)
theorem dX3_owners_36 : decode cX3_owners 36 = .ok (.iastore, 1) := dk_79 (dk_at dksX3_owners_1 14 rfl rfl)
theorem dX3_owners_37 : decode cX3_owners 37 = .ok (.iload_n 2, 1) := dk_28 (dk_at dksX3_owners_1 15 rfl rfl)
theorem dX3_owners_38 : decode cX3_owners 38 = .ok (.aload_n 0, 1) := dk_42 (dk_at dksX3_owners_1 16 rfl rfl)
theorem dX3_owners_39 : decode cX3_owners 39 = .ok (.getfield 33, 3) := dk_180 0 33 (dk_at dksX3_owners_1 17 rfl rfl)
theorem dX3_owners_42 : decode cX3_owners 42 = .ok (.iload_n 3, 1) := dk_29 (dk_at dksX3_owners_1 20 rfl rfl)
theorem dX3_owners_43 : decode cX3_owners 43 = .ok (.iaload, 1) := dk_46 (dk_at dksX3_owners_1 21 rfl rfl)
theorem dX3_owners_44 : decode cX3_owners 44 = .ok (.iconst 4, 1) := dk_7 (dk_at dksX3_owners_1 22 rfl rfl)
theorem dX3_owners_45 : decode cX3_owners 45 = .ok (.if_icmp .ge 7, 3) := dk_162 0 7 (dk_at dksX3_owners_2 0 rfl rfl)
theorem dX3_owners_48 : decode cX3_owners 48 = .ok (.iconst 1, 1) := dk_4 (dk_at dksX3_owners_2 3 rfl rfl)
theorem dX3_owners_49 : decode cX3_owners 49 = .ok (.goto 4, 3) := dk_167 0 4 (dk_at dksX3_owners_2 4 rfl rfl)
theorem dX3_owners_52 : decode cX3_owners 52 = .ok (.iconst 0, 1) := dk_3 (dk_at dksX3_owners_2 7 rfl rfl)
theorem dX3_owners_53 : decode cX3_owners 53 = .ok (.iadd, 1) := dk_96 (dk_at dksX3_owners_2 8 rfl rfl)
theorem dX3_owners_54 : decode cX3_owners 54 = .ok (.istore_n 2, 1) := dk_61 (dk_at dksX3_owners_2 9 rfl rfl)
theorem dX3_owners_55 : decode cX3_owners 55 = .ok (.iinc 3 1, 3) := dk_132 3 1 (dk_at dksX3_owners_2 10 rfl rfl)
theorem dX3_owners_58 : decode cX3_owners 58 = .ok (.goto (-39), 3) := dk_167 255 217 (dk_at dksX3_owners_2 13 rfl rfl)
theorem dX3_owners_61 : decode cX3_owners 61 = .ok (.iload_n 2, 1) := dk_28 (dk_at dksX3_owners_2 16 rfl rfl)
theorem dX3_owners_62 : decode cX3_owners 62 = .ok (.ireturn, 1) := dk_172 (dk_at dksX3_owners_2 17 rfl rfl)
abbrev cX3_readOwners : ByteArray := prog_12_method_34_code
def yX3_readOwners : MethodName := ⟨RX3, "readOwners", "()Z"⟩
def dkwX3_readOwners_4 : List UInt8 := [167, 255, 172, 42, 182, 0, 171, 156, 0, 7, 4, 167, 0, 4, 3, 172]
abbrev dktX3_readOwners_4 : List UInt8 := dkwX3_readOwners_4 ++ []
def dkwX3_readOwners_3 : List UInt8 := [180, 0, 33, 27, 28, 16, 45, 160, 0, 7, 7, 167, 0, 7, 28, 16, 48, 100, 79, 132, 1, 1]
abbrev dktX3_readOwners_3 : List UInt8 := dkwX3_readOwners_3 ++ dktX3_readOwners_4
def dkwX3_readOwners_2 : List UInt8 := [20, 0, 190, 184, 0, 65, 154, 0, 5, 3, 172, 42, 89, 180, 0, 168, 4, 96, 181, 0, 168, 42]
abbrev dktX3_readOwners_2 : List UInt8 := dkwX3_readOwners_2 ++ dktX3_readOwners_3
def dkwX3_readOwners_1 : List UInt8 := [42, 16, 47, 182, 0, 175, 87, 42, 182, 0, 171, 61, 28, 16, 45, 159, 0, 19, 28, 133, 20, 0, 188]
abbrev dktX3_readOwners_1 : List UInt8 := dkwX3_readOwners_1 ++ dktX3_readOwners_2
def dkwX3_readOwners_0 : List UInt8 := [42, 3, 181, 0, 168, 3, 60, 27, 16, 36, 162, 0, 84, 27, 158, 0, 17, 27, 16, 6, 112, 154, 0, 10]
abbrev dktX3_readOwners_0 : List UInt8 := dkwX3_readOwners_0 ++ dktX3_readOwners_1
theorem dksX3_readOwners_0 : cX3_readOwners.data.toList.drop 0 = dktX3_readOwners_0 := by decide +kernel
theorem dksX3_readOwners_1 : cX3_readOwners.data.toList.drop 24 = dktX3_readOwners_1 := dk_seg dksX3_readOwners_0 24 rfl rfl
theorem dksX3_readOwners_2 : cX3_readOwners.data.toList.drop 47 = dktX3_readOwners_2 := dk_seg dksX3_readOwners_1 23 rfl rfl
theorem dksX3_readOwners_3 : cX3_readOwners.data.toList.drop 69 = dktX3_readOwners_3 := dk_seg dksX3_readOwners_2 22 rfl rfl
theorem dksX3_readOwners_4 : cX3_readOwners.data.toList.drop 91 = dktX3_readOwners_4 := dk_seg dksX3_readOwners_3 22 rfl rfl
theorem dX3_readOwners_0 : decode cX3_readOwners 0 = .ok (.aload_n 0, 1) := dk_42 (dk_at dksX3_readOwners_0 0 rfl rfl)
theorem dX3_readOwners_1 : decode cX3_readOwners 1 = .ok (.iconst 0, 1) := dk_3 (dk_at dksX3_readOwners_0 1 rfl rfl)
theorem dX3_readOwners_2 : decode cX3_readOwners 2 = .ok (.putfield 168, 3) := dk_181 0 168 (dk_at dksX3_readOwners_0 2 rfl rfl)
theorem dX3_readOwners_5 : decode cX3_readOwners 5 = .ok (.iconst 0, 1) := dk_3 (dk_at dksX3_readOwners_0 5 rfl rfl)
theorem dX3_readOwners_6 : decode cX3_readOwners 6 = .ok (.istore_n 1, 1) := dk_60 (dk_at dksX3_readOwners_0 6 rfl rfl)
theorem dX3_readOwners_7 : decode cX3_readOwners 7 = .ok (.iload_n 1, 1) := dk_27 (dk_at dksX3_readOwners_0 7 rfl rfl)
theorem dX3_readOwners_8 : decode cX3_readOwners 8 = .ok (.bipush 36, 2) := dk_16 36 (dk_at dksX3_readOwners_0 8 rfl rfl)
theorem dX3_readOwners_10 : decode cX3_readOwners 10 = .ok (.if_icmp .ge 84, 3) := dk_162 0 84 (dk_at dksX3_readOwners_0 10 rfl rfl)
theorem dX3_readOwners_13 : decode cX3_readOwners 13 = .ok (.iload_n 1, 1) := dk_27 (dk_at dksX3_readOwners_0 13 rfl rfl)
theorem dX3_readOwners_14 : decode cX3_readOwners 14 = .ok (.ifCond .le 17, 3) := dk_158 0 17 (dk_at dksX3_readOwners_0 14 rfl rfl)
theorem dX3_readOwners_17 : decode cX3_readOwners 17 = .ok (.iload_n 1, 1) := dk_27 (dk_at dksX3_readOwners_0 17 rfl rfl)
theorem dX3_readOwners_18 : decode cX3_readOwners 18 = .ok (.bipush 6, 2) := dk_16 6 (dk_at dksX3_readOwners_0 18 rfl rfl)
theorem dX3_readOwners_20 : decode cX3_readOwners 20 = .ok (.irem, 1) := dk_112 (dk_at dksX3_readOwners_0 20 rfl rfl)
theorem dX3_readOwners_21 : decode cX3_readOwners 21 = .ok (.ifCond .ne 10, 3) := dk_154 0 10 (dk_at dksX3_readOwners_0 21 rfl rfl)
theorem dX3_readOwners_24 : decode cX3_readOwners 24 = .ok (.aload_n 0, 1) := dk_42 (dk_at dksX3_readOwners_1 0 rfl rfl)
theorem dX3_readOwners_25 : decode cX3_readOwners 25 = .ok (.bipush 47, 2) := dk_16 47 (dk_at dksX3_readOwners_1 1 rfl rfl)
theorem dX3_readOwners_27 : decode cX3_readOwners 27 = .ok (.invokevirtual 175, 3) := dk_182 0 175 (dk_at dksX3_readOwners_1 3 rfl rfl)
theorem dX3_readOwners_30 : decode cX3_readOwners 30 = .ok (.pop, 1) := dk_87 (dk_at dksX3_readOwners_1 6 rfl rfl)
theorem dX3_readOwners_31 : decode cX3_readOwners 31 = .ok (.aload_n 0, 1) := dk_42 (dk_at dksX3_readOwners_1 7 rfl rfl)
theorem dX3_readOwners_32 : decode cX3_readOwners 32 = .ok (.invokevirtual 171, 3) := dk_182 0 171 (dk_at dksX3_readOwners_1 8 rfl rfl)
theorem dX3_readOwners_35 : decode cX3_readOwners 35 = .ok (.istore_n 2, 1) := dk_61 (dk_at dksX3_readOwners_1 11 rfl rfl)
theorem dX3_readOwners_36 : decode cX3_readOwners 36 = .ok (.iload_n 2, 1) := dk_28 (dk_at dksX3_readOwners_1 12 rfl rfl)
theorem dX3_readOwners_37 : decode cX3_readOwners 37 = .ok (.bipush 45, 2) := dk_16 45 (dk_at dksX3_readOwners_1 13 rfl rfl)
theorem dX3_readOwners_39 : decode cX3_readOwners 39 = .ok (.if_icmp .eq 19, 3) := dk_159 0 19 (dk_at dksX3_readOwners_1 15 rfl rfl)
theorem dX3_readOwners_42 : decode cX3_readOwners 42 = .ok (.iload_n 2, 1) := dk_28 (dk_at dksX3_readOwners_1 18 rfl rfl)
theorem dX3_readOwners_43 : decode cX3_readOwners 43 = .ok (.i2l, 1) := dk_133 (dk_at dksX3_readOwners_1 19 rfl rfl)
theorem dX3_readOwners_44 : decode cX3_readOwners 44 = .ok (.ldc2_w 188, 3) := dk_20 0 188 (dk_at dksX3_readOwners_1 20 rfl rfl)
theorem dX3_readOwners_47 : decode cX3_readOwners 47 = .ok (.ldc2_w 190, 3) := dk_20 0 190 (dk_at dksX3_readOwners_2 0 rfl rfl)
theorem dX3_readOwners_50 : decode cX3_readOwners 50 = .ok (.invokestatic 65, 3) := dk_184 0 65 (dk_at dksX3_readOwners_2 3 rfl rfl)
theorem dX3_readOwners_53 : decode cX3_readOwners 53 = .ok (.ifCond .ne 5, 3) := dk_154 0 5 (dk_at dksX3_readOwners_2 6 rfl rfl)
theorem dX3_readOwners_56 : decode cX3_readOwners 56 = .ok (.iconst 0, 1) := dk_3 (dk_at dksX3_readOwners_2 9 rfl rfl)
theorem dX3_readOwners_57 : decode cX3_readOwners 57 = .ok (.ireturn, 1) := dk_172 (dk_at dksX3_readOwners_2 10 rfl rfl)
theorem dX3_readOwners_58 : decode cX3_readOwners 58 = .ok (.aload_n 0, 1) := dk_42 (dk_at dksX3_readOwners_2 11 rfl rfl)
theorem dX3_readOwners_59 : decode cX3_readOwners 59 = .ok (.dup, 1) := dk_89 (dk_at dksX3_readOwners_2 12 rfl rfl)
theorem dX3_readOwners_60 : decode cX3_readOwners 60 = .ok (.getfield 168, 3) := dk_180 0 168 (dk_at dksX3_readOwners_2 13 rfl rfl)
theorem dX3_readOwners_63 : decode cX3_readOwners 63 = .ok (.iconst 1, 1) := dk_4 (dk_at dksX3_readOwners_2 16 rfl rfl)
theorem dX3_readOwners_64 : decode cX3_readOwners 64 = .ok (.iadd, 1) := dk_96 (dk_at dksX3_readOwners_2 17 rfl rfl)
theorem dX3_readOwners_65 : decode cX3_readOwners 65 = .ok (.putfield 168, 3) := dk_181 0 168 (dk_at dksX3_readOwners_2 18 rfl rfl)
theorem dX3_readOwners_68 : decode cX3_readOwners 68 = .ok (.aload_n 0, 1) := dk_42 (dk_at dksX3_readOwners_2 21 rfl rfl)
theorem dX3_readOwners_69 : decode cX3_readOwners 69 = .ok (.getfield 33, 3) := dk_180 0 33 (dk_at dksX3_readOwners_3 0 rfl rfl)
theorem dX3_readOwners_72 : decode cX3_readOwners 72 = .ok (.iload_n 1, 1) := dk_27 (dk_at dksX3_readOwners_3 3 rfl rfl)
theorem dX3_readOwners_73 : decode cX3_readOwners 73 = .ok (.iload_n 2, 1) := dk_28 (dk_at dksX3_readOwners_3 4 rfl rfl)
theorem dX3_readOwners_74 : decode cX3_readOwners 74 = .ok (.bipush 45, 2) := dk_16 45 (dk_at dksX3_readOwners_3 5 rfl rfl)
theorem dX3_readOwners_76 : decode cX3_readOwners 76 = .ok (.if_icmp .ne 7, 3) := dk_160 0 7 (dk_at dksX3_readOwners_3 7 rfl rfl)
theorem dX3_readOwners_79 : decode cX3_readOwners 79 = .ok (.iconst 4, 1) := dk_7 (dk_at dksX3_readOwners_3 10 rfl rfl)
theorem dX3_readOwners_80 : decode cX3_readOwners 80 = .ok (.goto 7, 3) := dk_167 0 7 (dk_at dksX3_readOwners_3 11 rfl rfl)
theorem dX3_readOwners_83 : decode cX3_readOwners 83 = .ok (.iload_n 2, 1) := dk_28 (dk_at dksX3_readOwners_3 14 rfl rfl)
theorem dX3_readOwners_84 : decode cX3_readOwners 84 = .ok (.bipush 48, 2) := dk_16 48 (dk_at dksX3_readOwners_3 15 rfl rfl)
theorem dX3_readOwners_86 : decode cX3_readOwners 86 = .ok (.isub, 1) := dk_100 (dk_at dksX3_readOwners_3 17 rfl rfl)
theorem dX3_readOwners_87 : decode cX3_readOwners 87 = .ok (.iastore, 1) := dk_79 (dk_at dksX3_readOwners_3 18 rfl rfl)
theorem dX3_readOwners_88 : decode cX3_readOwners 88 = .ok (.iinc 1 1, 3) := dk_132 1 1 (dk_at dksX3_readOwners_3 19 rfl rfl)
theorem dX3_readOwners_91 : decode cX3_readOwners 91 = .ok (.goto (-84), 3) := dk_167 255 172 (dk_at dksX3_readOwners_4 0 rfl rfl)
theorem dX3_readOwners_94 : decode cX3_readOwners 94 = .ok (.aload_n 0, 1) := dk_42 (dk_at dksX3_readOwners_4 3 rfl rfl)
theorem dX3_readOwners_95 : decode cX3_readOwners 95 = .ok (.invokevirtual 171, 3) := dk_182 0 171 (dk_at dksX3_readOwners_4 4 rfl rfl)
theorem dX3_readOwners_98 : decode cX3_readOwners 98 = .ok (.ifCond .ge 7, 3) := dk_156 0 7 (dk_at dksX3_readOwners_4 7 rfl rfl)
theorem dX3_readOwners_101 : decode cX3_readOwners 101 = .ok (.iconst 1, 1) := dk_4 (dk_at dksX3_readOwners_4 10 rfl rfl)
theorem dX3_readOwners_102 : decode cX3_readOwners 102 = .ok (.goto 4, 3) := dk_167 0 4 (dk_at dksX3_readOwners_4 11 rfl rfl)
theorem dX3_readOwners_105 : decode cX3_readOwners 105 = .ok (.iconst 0, 1) := dk_3 (dk_at dksX3_readOwners_4 14 rfl rfl)
theorem dX3_readOwners_106 : decode cX3_readOwners 106 = .ok (.ireturn, 1) := dk_172 (dk_at dksX3_readOwners_4 15 rfl rfl)
abbrev cX3_day : ByteArray := prog_12_method_38_code
def yX3_day : MethodName := ⟨RX3, "day", "()I"⟩
def dkwX3_day_4 : List UInt8 := [167, 255, 179, 42, 180, 0, 197, 172]
abbrev dktX3_day_4 : List UInt8 := dkwX3_day_4 ++ []
def dkwX3_day_3 : List UInt8 := [182, 0, 210, 167, 0, 9, 42, 21, 4, 182, 0, 213, 54, 5, 21, 5, 156, 0, 5, 28, 172, 132, 2, 1]
abbrev dktX3_day_3 : List UInt8 := dkwX3_day_3 ++ dktX3_day_4
def dkwX3_day_2 : List UInt8 := [29, 16, 100, 160, 0, 12, 42, 21, 4, 182, 0, 206, 167, 0, 24, 29, 16, 102, 160, 0, 12, 42, 21, 4]
abbrev dktX3_day_2 : List UInt8 := dkwX3_day_2 ++ dktX3_day_3
def dkwX3_day_1 : List UInt8 := [162, 0, 75, 42, 180, 0, 33, 28, 46, 16, 100, 108, 62, 42, 180, 0, 33, 28, 46, 16, 100, 112, 54, 4]
abbrev dktX3_day_1 : List UInt8 := dkwX3_day_1 ++ dktX3_day_2
def dkwX3_day_0 : List UInt8 := [42, 42, 182, 0, 203, 182, 0, 184, 60, 27, 156, 0, 5, 27, 172, 3, 61, 28, 42, 180, 0, 197]
abbrev dktX3_day_0 : List UInt8 := dkwX3_day_0 ++ dktX3_day_1
theorem dksX3_day_0 : cX3_day.data.toList.drop 0 = dktX3_day_0 := by decide +kernel
theorem dksX3_day_1 : cX3_day.data.toList.drop 22 = dktX3_day_1 := dk_seg dksX3_day_0 22 rfl rfl
theorem dksX3_day_2 : cX3_day.data.toList.drop 46 = dktX3_day_2 := dk_seg dksX3_day_1 24 rfl rfl
theorem dksX3_day_3 : cX3_day.data.toList.drop 70 = dktX3_day_3 := dk_seg dksX3_day_2 24 rfl rfl
theorem dksX3_day_4 : cX3_day.data.toList.drop 94 = dktX3_day_4 := dk_seg dksX3_day_3 24 rfl rfl
theorem dX3_day_0 : decode cX3_day 0 = .ok (.aload_n 0, 1) := dk_42 (dk_at dksX3_day_0 0 rfl rfl)
theorem dX3_day_1 : decode cX3_day 1 = .ok (.aload_n 0, 1) := dk_42 (dk_at dksX3_day_0 1 rfl rfl)
theorem dX3_day_2 : decode cX3_day 2 = .ok (.invokevirtual 203, 3) := dk_182 0 203 (dk_at dksX3_day_0 2 rfl rfl)
theorem dX3_day_5 : decode cX3_day 5 = .ok (.invokevirtual 184, 3) := dk_182 0 184 (dk_at dksX3_day_0 5 rfl rfl)
theorem dX3_day_8 : decode cX3_day 8 = .ok (.istore_n 1, 1) := dk_60 (dk_at dksX3_day_0 8 rfl rfl)
theorem dX3_day_9 : decode cX3_day 9 = .ok (.iload_n 1, 1) := dk_27 (dk_at dksX3_day_0 9 rfl rfl)
theorem dX3_day_10 : decode cX3_day 10 = .ok (.ifCond .ge 5, 3) := dk_156 0 5 (dk_at dksX3_day_0 10 rfl rfl)
theorem dX3_day_13 : decode cX3_day 13 = .ok (.iload_n 1, 1) := dk_27 (dk_at dksX3_day_0 13 rfl rfl)
theorem dX3_day_14 : decode cX3_day 14 = .ok (.ireturn, 1) := dk_172 (dk_at dksX3_day_0 14 rfl rfl)
theorem dX3_day_15 : decode cX3_day 15 = .ok (.iconst 0, 1) := dk_3 (dk_at dksX3_day_0 15 rfl rfl)
theorem dX3_day_16 : decode cX3_day 16 = .ok (.istore_n 2, 1) := dk_61 (dk_at dksX3_day_0 16 rfl rfl)
theorem dX3_day_17 : decode cX3_day 17 = .ok (.iload_n 2, 1) := dk_28 (dk_at dksX3_day_0 17 rfl rfl)
theorem dX3_day_18 : decode cX3_day 18 = .ok (.aload_n 0, 1) := dk_42 (dk_at dksX3_day_0 18 rfl rfl)
theorem dX3_day_19 : decode cX3_day 19 = .ok (.getfield 197, 3) := dk_180 0 197 (dk_at dksX3_day_0 19 rfl rfl)
theorem dX3_day_22 : decode cX3_day 22 = .ok (.if_icmp .ge 75, 3) := dk_162 0 75 (dk_at dksX3_day_1 0 rfl rfl)
theorem dX3_day_25 : decode cX3_day 25 = .ok (.aload_n 0, 1) := dk_42 (dk_at dksX3_day_1 3 rfl rfl)
theorem dX3_day_26 : decode cX3_day 26 = .ok (.getfield 33, 3) := dk_180 0 33 (dk_at dksX3_day_1 4 rfl rfl)
theorem dX3_day_29 : decode cX3_day 29 = .ok (.iload_n 2, 1) := dk_28 (dk_at dksX3_day_1 7 rfl rfl)
theorem dX3_day_30 : decode cX3_day 30 = .ok (.iaload, 1) := dk_46 (dk_at dksX3_day_1 8 rfl rfl)
theorem dX3_day_31 : decode cX3_day 31 = .ok (.bipush 100, 2) := dk_16 100 (dk_at dksX3_day_1 9 rfl rfl)
theorem dX3_day_33 : decode cX3_day 33 = .ok (.idiv, 1) := dk_108 (dk_at dksX3_day_1 11 rfl rfl)
theorem dX3_day_34 : decode cX3_day 34 = .ok (.istore_n 3, 1) := dk_62 (dk_at dksX3_day_1 12 rfl rfl)
theorem dX3_day_35 : decode cX3_day 35 = .ok (.aload_n 0, 1) := dk_42 (dk_at dksX3_day_1 13 rfl rfl)
theorem dX3_day_36 : decode cX3_day 36 = .ok (.getfield 33, 3) := dk_180 0 33 (dk_at dksX3_day_1 14 rfl rfl)
theorem dX3_day_39 : decode cX3_day 39 = .ok (.iload_n 2, 1) := dk_28 (dk_at dksX3_day_1 17 rfl rfl)
theorem dX3_day_40 : decode cX3_day 40 = .ok (.iaload, 1) := dk_46 (dk_at dksX3_day_1 18 rfl rfl)
theorem dX3_day_41 : decode cX3_day 41 = .ok (.bipush 100, 2) := dk_16 100 (dk_at dksX3_day_1 19 rfl rfl)
theorem dX3_day_43 : decode cX3_day 43 = .ok (.irem, 1) := dk_112 (dk_at dksX3_day_1 21 rfl rfl)
theorem dX3_day_44 : decode cX3_day 44 = .ok (.istore 4, 2) := dk_54 4 (dk_at dksX3_day_1 22 rfl rfl)
theorem dX3_day_46 : decode cX3_day 46 = .ok (.iload_n 3, 1) := dk_29 (dk_at dksX3_day_2 0 rfl rfl)
theorem dX3_day_47 : decode cX3_day 47 = .ok (.bipush 100, 2) := dk_16 100 (dk_at dksX3_day_2 1 rfl rfl)
theorem dX3_day_49 : decode cX3_day 49 = .ok (.if_icmp .ne 12, 3) := dk_160 0 12 (dk_at dksX3_day_2 3 rfl rfl)
theorem dX3_day_52 : decode cX3_day 52 = .ok (.aload_n 0, 1) := dk_42 (dk_at dksX3_day_2 6 rfl rfl)
theorem dX3_day_53 : decode cX3_day 53 = .ok (.iload 4, 2) := dk_21 4 (dk_at dksX3_day_2 7 rfl rfl)
theorem dX3_day_55 : decode cX3_day 55 = .ok (.invokevirtual 206, 3) := dk_182 0 206 (dk_at dksX3_day_2 9 rfl rfl)
theorem dX3_day_58 : decode cX3_day 58 = .ok (.goto 24, 3) := dk_167 0 24 (dk_at dksX3_day_2 12 rfl rfl)
theorem dX3_day_61 : decode cX3_day 61 = .ok (.iload_n 3, 1) := dk_29 (dk_at dksX3_day_2 15 rfl rfl)
theorem dX3_day_62 : decode cX3_day 62 = .ok (.bipush 102, 2) := dk_16 102 (dk_at dksX3_day_2 16 rfl rfl)
theorem dX3_day_64 : decode cX3_day 64 = .ok (.if_icmp .ne 12, 3) := dk_160 0 12 (dk_at dksX3_day_2 18 rfl rfl)
theorem dX3_day_67 : decode cX3_day 67 = .ok (.aload_n 0, 1) := dk_42 (dk_at dksX3_day_2 21 rfl rfl)
theorem dX3_day_68 : decode cX3_day 68 = .ok (.iload 4, 2) := dk_21 4 (dk_at dksX3_day_2 22 rfl rfl)
theorem dX3_day_70 : decode cX3_day 70 = .ok (.invokevirtual 210, 3) := dk_182 0 210 (dk_at dksX3_day_3 0 rfl rfl)
theorem dX3_day_73 : decode cX3_day 73 = .ok (.goto 9, 3) := dk_167 0 9 (dk_at dksX3_day_3 3 rfl rfl)
theorem dX3_day_76 : decode cX3_day 76 = .ok (.aload_n 0, 1) := dk_42 (dk_at dksX3_day_3 6 rfl rfl)
theorem dX3_day_77 : decode cX3_day 77 = .ok (.iload 4, 2) := dk_21 4 (dk_at dksX3_day_3 7 rfl rfl)
theorem dX3_day_79 : decode cX3_day 79 = .ok (.invokevirtual 213, 3) := dk_182 0 213 (dk_at dksX3_day_3 9 rfl rfl)
theorem dX3_day_82 : decode cX3_day 82 = .ok (.istore 5, 2) := dk_54 5 (dk_at dksX3_day_3 12 rfl rfl)
theorem dX3_day_84 : decode cX3_day 84 = .ok (.iload 5, 2) := dk_21 5 (dk_at dksX3_day_3 14 rfl rfl)
theorem dX3_day_86 : decode cX3_day 86 = .ok (.ifCond .ge 5, 3) := dk_156 0 5 (dk_at dksX3_day_3 16 rfl rfl)
theorem dX3_day_89 : decode cX3_day 89 = .ok (.iload_n 2, 1) := dk_28 (dk_at dksX3_day_3 19 rfl rfl)
theorem dX3_day_90 : decode cX3_day 90 = .ok (.ireturn, 1) := dk_172 (dk_at dksX3_day_3 20 rfl rfl)
theorem dX3_day_91 : decode cX3_day 91 = .ok (.iinc 2 1, 3) := dk_132 2 1 (dk_at dksX3_day_3 21 rfl rfl)
theorem dX3_day_94 : decode cX3_day 94 = .ok (.goto (-77), 3) := dk_167 255 179 (dk_at dksX3_day_4 0 rfl rfl)
theorem dX3_day_97 : decode cX3_day 97 = .ok (.aload_n 0, 1) := dk_42 (dk_at dksX3_day_4 3 rfl rfl)
theorem dX3_day_98 : decode cX3_day 98 = .ok (.getfield 197, 3) := dk_180 0 197 (dk_at dksX3_day_4 4 rfl rfl)
theorem dX3_day_101 : decode cX3_day 101 = .ok (.ireturn, 1) := dk_172 (dk_at dksX3_day_4 7 rfl rfl)
abbrev cX3_readDay : ByteArray := prog_12_method_37_code
def yX3_readDay : MethodName := ⟨RX3, "readDay", "()Z"⟩
def dkwX3_readDay_2 : List UInt8 := [182, 0, 171, 156, 0, 7, 4, 167, 0, 4, 3, 172]
abbrev dktX3_readDay_2 : List UInt8 := dkwX3_readDay_2 ++ []
def dkwX3_readDay_1 : List UInt8 := [172, 42, 89, 180, 0, 197, 4, 96, 181, 0, 197, 42, 16, 59, 182, 0, 175, 60, 167, 255, 226, 42]
abbrev dktX3_readDay_1 : List UInt8 := dkwX3_readDay_1 ++ dktX3_readDay_2
def dkwX3_readDay_0 : List UInt8 := [42, 3, 181, 0, 168, 42, 3, 181, 0, 197, 4, 60, 27, 153, 0, 32, 42, 182, 0, 200, 154, 0, 5, 3]
abbrev dktX3_readDay_0 : List UInt8 := dkwX3_readDay_0 ++ dktX3_readDay_1
theorem dksX3_readDay_0 : cX3_readDay.data.toList.drop 0 = dktX3_readDay_0 := by decide +kernel
theorem dksX3_readDay_1 : cX3_readDay.data.toList.drop 24 = dktX3_readDay_1 := dk_seg dksX3_readDay_0 24 rfl rfl
theorem dksX3_readDay_2 : cX3_readDay.data.toList.drop 46 = dktX3_readDay_2 := dk_seg dksX3_readDay_1 22 rfl rfl
theorem dX3_readDay_0 : decode cX3_readDay 0 = .ok (.aload_n 0, 1) := dk_42 (dk_at dksX3_readDay_0 0 rfl rfl)
theorem dX3_readDay_1 : decode cX3_readDay 1 = .ok (.iconst 0, 1) := dk_3 (dk_at dksX3_readDay_0 1 rfl rfl)
theorem dX3_readDay_2 : decode cX3_readDay 2 = .ok (.putfield 168, 3) := dk_181 0 168 (dk_at dksX3_readDay_0 2 rfl rfl)
theorem dX3_readDay_5 : decode cX3_readDay 5 = .ok (.aload_n 0, 1) := dk_42 (dk_at dksX3_readDay_0 5 rfl rfl)
theorem dX3_readDay_6 : decode cX3_readDay 6 = .ok (.iconst 0, 1) := dk_3 (dk_at dksX3_readDay_0 6 rfl rfl)
theorem dX3_readDay_7 : decode cX3_readDay 7 = .ok (.putfield 197, 3) := dk_181 0 197 (dk_at dksX3_readDay_0 7 rfl rfl)
theorem dX3_readDay_10 : decode cX3_readDay 10 = .ok (.iconst 1, 1) := dk_4 (dk_at dksX3_readDay_0 10 rfl rfl)
theorem dX3_readDay_11 : decode cX3_readDay 11 = .ok (.istore_n 1, 1) := dk_60 (dk_at dksX3_readDay_0 11 rfl rfl)
theorem dX3_readDay_12 : decode cX3_readDay 12 = .ok (.iload_n 1, 1) := dk_27 (dk_at dksX3_readDay_0 12 rfl rfl)
theorem dX3_readDay_13 : decode cX3_readDay 13 = .ok (.ifCond .eq 32, 3) := dk_153 0 32 (dk_at dksX3_readDay_0 13 rfl rfl)
theorem dX3_readDay_16 : decode cX3_readDay 16 = .ok (.aload_n 0, 1) := dk_42 (dk_at dksX3_readDay_0 16 rfl rfl)
theorem dX3_readDay_17 : decode cX3_readDay 17 = .ok (.invokevirtual 200, 3) := dk_182 0 200 (dk_at dksX3_readDay_0 17 rfl rfl)
theorem dX3_readDay_20 : decode cX3_readDay 20 = .ok (.ifCond .ne 5, 3) := dk_154 0 5 (dk_at dksX3_readDay_0 20 rfl rfl)
theorem dX3_readDay_23 : decode cX3_readDay 23 = .ok (.iconst 0, 1) := dk_3 (dk_at dksX3_readDay_0 23 rfl rfl)
theorem dX3_readDay_24 : decode cX3_readDay 24 = .ok (.ireturn, 1) := dk_172 (dk_at dksX3_readDay_1 0 rfl rfl)
theorem dX3_readDay_25 : decode cX3_readDay 25 = .ok (.aload_n 0, 1) := dk_42 (dk_at dksX3_readDay_1 1 rfl rfl)
theorem dX3_readDay_26 : decode cX3_readDay 26 = .ok (.dup, 1) := dk_89 (dk_at dksX3_readDay_1 2 rfl rfl)
theorem dX3_readDay_27 : decode cX3_readDay 27 = .ok (.getfield 197, 3) := dk_180 0 197 (dk_at dksX3_readDay_1 3 rfl rfl)
theorem dX3_readDay_30 : decode cX3_readDay 30 = .ok (.iconst 1, 1) := dk_4 (dk_at dksX3_readDay_1 6 rfl rfl)
theorem dX3_readDay_31 : decode cX3_readDay 31 = .ok (.iadd, 1) := dk_96 (dk_at dksX3_readDay_1 7 rfl rfl)
theorem dX3_readDay_32 : decode cX3_readDay 32 = .ok (.putfield 197, 3) := dk_181 0 197 (dk_at dksX3_readDay_1 8 rfl rfl)
theorem dX3_readDay_35 : decode cX3_readDay 35 = .ok (.aload_n 0, 1) := dk_42 (dk_at dksX3_readDay_1 11 rfl rfl)
theorem dX3_readDay_36 : decode cX3_readDay 36 = .ok (.bipush 59, 2) := dk_16 59 (dk_at dksX3_readDay_1 12 rfl rfl)
theorem dX3_readDay_38 : decode cX3_readDay 38 = .ok (.invokevirtual 175, 3) := dk_182 0 175 (dk_at dksX3_readDay_1 14 rfl rfl)
theorem dX3_readDay_41 : decode cX3_readDay 41 = .ok (.istore_n 1, 1) := dk_60 (dk_at dksX3_readDay_1 17 rfl rfl)
theorem dX3_readDay_42 : decode cX3_readDay 42 = .ok (.goto (-30), 3) := dk_167 255 226 (dk_at dksX3_readDay_1 18 rfl rfl)
theorem dX3_readDay_45 : decode cX3_readDay 45 = .ok (.aload_n 0, 1) := dk_42 (dk_at dksX3_readDay_1 21 rfl rfl)
theorem dX3_readDay_46 : decode cX3_readDay 46 = .ok (.invokevirtual 171, 3) := dk_182 0 171 (dk_at dksX3_readDay_2 0 rfl rfl)
theorem dX3_readDay_49 : decode cX3_readDay 49 = .ok (.ifCond .ge 7, 3) := dk_156 0 7 (dk_at dksX3_readDay_2 3 rfl rfl)
theorem dX3_readDay_52 : decode cX3_readDay 52 = .ok (.iconst 1, 1) := dk_4 (dk_at dksX3_readDay_2 6 rfl rfl)
theorem dX3_readDay_53 : decode cX3_readDay 53 = .ok (.goto 4, 3) := dk_167 0 4 (dk_at dksX3_readDay_2 7 rfl rfl)
theorem dX3_readDay_56 : decode cX3_readDay 56 = .ok (.iconst 0, 1) := dk_3 (dk_at dksX3_readDay_2 10 rfl rfl)
theorem dX3_readDay_57 : decode cX3_readDay 57 = .ok (.ireturn, 1) := dk_172 (dk_at dksX3_readDay_2 11 rfl rfl)
abbrev cX3_readAct : ByteArray := prog_12_method_36_code
def yX3_readAct : MethodName := ⟨RX3, "readAct", "()Z"⟩
def dkwX3_readAct_5 : List UInt8 := [96, 29, 96, 79, 4, 172]
abbrev dktX3_readAct_5 : List UInt8 := dkwX3_readAct_5 ++ []
def dkwX3_readAct_4 : List UInt8 := [180, 0, 168, 4, 96, 181, 0, 168, 42, 180, 0, 33, 42, 180, 0, 197, 16, 100, 27, 104, 16, 6, 28, 104]
abbrev dktX3_readAct_4 : List UInt8 := dkwX3_readAct_4 ++ dktX3_readAct_5
def dkwX3_readAct_3 : List UInt8 := [182, 0, 171, 16, 48, 100, 62, 29, 133, 9, 20, 0, 195, 184, 0, 65, 154, 0, 5, 3, 172, 42, 89]
abbrev dktX3_readAct_3 : List UInt8 := dkwX3_readAct_3 ++ dktX3_readAct_4
def dkwX3_readAct_2 : List UInt8 := [20, 0, 195, 184, 0, 65, 154, 0, 5, 3, 172, 42, 89, 180, 0, 168, 4, 96, 181, 0, 168, 42]
abbrev dktX3_readAct_2 : List UInt8 := dkwX3_readAct_2 ++ dktX3_readAct_3
def dkwX3_readAct_1 : List UInt8 := [172, 42, 89, 180, 0, 168, 4, 96, 181, 0, 168, 42, 182, 0, 171, 16, 48, 100, 61, 28, 133, 9]
abbrev dktX3_readAct_1 : List UInt8 := dkwX3_readAct_1 ++ dktX3_readAct_2
def dkwX3_readAct_0 : List UInt8 := [42, 182, 0, 171, 60, 27, 16, 100, 159, 0, 17, 27, 16, 102, 159, 0, 11, 27, 16, 114, 159, 0, 5, 3]
abbrev dktX3_readAct_0 : List UInt8 := dkwX3_readAct_0 ++ dktX3_readAct_1
theorem dksX3_readAct_0 : cX3_readAct.data.toList.drop 0 = dktX3_readAct_0 := by decide +kernel
theorem dksX3_readAct_1 : cX3_readAct.data.toList.drop 24 = dktX3_readAct_1 := dk_seg dksX3_readAct_0 24 rfl rfl
theorem dksX3_readAct_2 : cX3_readAct.data.toList.drop 46 = dktX3_readAct_2 := dk_seg dksX3_readAct_1 22 rfl rfl
theorem dksX3_readAct_3 : cX3_readAct.data.toList.drop 68 = dktX3_readAct_3 := dk_seg dksX3_readAct_2 22 rfl rfl
theorem dksX3_readAct_4 : cX3_readAct.data.toList.drop 91 = dktX3_readAct_4 := dk_seg dksX3_readAct_3 23 rfl rfl
theorem dksX3_readAct_5 : cX3_readAct.data.toList.drop 115 = dktX3_readAct_5 := dk_seg dksX3_readAct_4 24 rfl rfl
theorem dX3_readAct_0 : decode cX3_readAct 0 = .ok (.aload_n 0, 1) := dk_42 (dk_at dksX3_readAct_0 0 rfl rfl)
theorem dX3_readAct_1 : decode cX3_readAct 1 = .ok (.invokevirtual 171, 3) := dk_182 0 171 (dk_at dksX3_readAct_0 1 rfl rfl)
theorem dX3_readAct_4 : decode cX3_readAct 4 = .ok (.istore_n 1, 1) := dk_60 (dk_at dksX3_readAct_0 4 rfl rfl)
theorem dX3_readAct_5 : decode cX3_readAct 5 = .ok (.iload_n 1, 1) := dk_27 (dk_at dksX3_readAct_0 5 rfl rfl)
theorem dX3_readAct_6 : decode cX3_readAct 6 = .ok (.bipush 100, 2) := dk_16 100 (dk_at dksX3_readAct_0 6 rfl rfl)
theorem dX3_readAct_8 : decode cX3_readAct 8 = .ok (.if_icmp .eq 17, 3) := dk_159 0 17 (dk_at dksX3_readAct_0 8 rfl rfl)
theorem dX3_readAct_11 : decode cX3_readAct 11 = .ok (.iload_n 1, 1) := dk_27 (dk_at dksX3_readAct_0 11 rfl rfl)
theorem dX3_readAct_12 : decode cX3_readAct 12 = .ok (.bipush 102, 2) := dk_16 102 (dk_at dksX3_readAct_0 12 rfl rfl)
theorem dX3_readAct_14 : decode cX3_readAct 14 = .ok (.if_icmp .eq 11, 3) := dk_159 0 11 (dk_at dksX3_readAct_0 14 rfl rfl)
theorem dX3_readAct_17 : decode cX3_readAct 17 = .ok (.iload_n 1, 1) := dk_27 (dk_at dksX3_readAct_0 17 rfl rfl)
theorem dX3_readAct_18 : decode cX3_readAct 18 = .ok (.bipush 114, 2) := dk_16 114 (dk_at dksX3_readAct_0 18 rfl rfl)
theorem dX3_readAct_20 : decode cX3_readAct 20 = .ok (.if_icmp .eq 5, 3) := dk_159 0 5 (dk_at dksX3_readAct_0 20 rfl rfl)
theorem dX3_readAct_23 : decode cX3_readAct 23 = .ok (.iconst 0, 1) := dk_3 (dk_at dksX3_readAct_0 23 rfl rfl)
theorem dX3_readAct_24 : decode cX3_readAct 24 = .ok (.ireturn, 1) := dk_172 (dk_at dksX3_readAct_1 0 rfl rfl)
theorem dX3_readAct_25 : decode cX3_readAct 25 = .ok (.aload_n 0, 1) := dk_42 (dk_at dksX3_readAct_1 1 rfl rfl)
theorem dX3_readAct_26 : decode cX3_readAct 26 = .ok (.dup, 1) := dk_89 (dk_at dksX3_readAct_1 2 rfl rfl)
theorem dX3_readAct_27 : decode cX3_readAct 27 = .ok (.getfield 168, 3) := dk_180 0 168 (dk_at dksX3_readAct_1 3 rfl rfl)
theorem dX3_readAct_30 : decode cX3_readAct 30 = .ok (.iconst 1, 1) := dk_4 (dk_at dksX3_readAct_1 6 rfl rfl)
theorem dX3_readAct_31 : decode cX3_readAct 31 = .ok (.iadd, 1) := dk_96 (dk_at dksX3_readAct_1 7 rfl rfl)
theorem dX3_readAct_32 : decode cX3_readAct 32 = .ok (.putfield 168, 3) := dk_181 0 168 (dk_at dksX3_readAct_1 8 rfl rfl)
theorem dX3_readAct_35 : decode cX3_readAct 35 = .ok (.aload_n 0, 1) := dk_42 (dk_at dksX3_readAct_1 11 rfl rfl)
theorem dX3_readAct_36 : decode cX3_readAct 36 = .ok (.invokevirtual 171, 3) := dk_182 0 171 (dk_at dksX3_readAct_1 12 rfl rfl)
theorem dX3_readAct_39 : decode cX3_readAct 39 = .ok (.bipush 48, 2) := dk_16 48 (dk_at dksX3_readAct_1 15 rfl rfl)
theorem dX3_readAct_41 : decode cX3_readAct 41 = .ok (.isub, 1) := dk_100 (dk_at dksX3_readAct_1 17 rfl rfl)
theorem dX3_readAct_42 : decode cX3_readAct 42 = .ok (.istore_n 2, 1) := dk_61 (dk_at dksX3_readAct_1 18 rfl rfl)
theorem dX3_readAct_43 : decode cX3_readAct 43 = .ok (.iload_n 2, 1) := dk_28 (dk_at dksX3_readAct_1 19 rfl rfl)
theorem dX3_readAct_44 : decode cX3_readAct 44 = .ok (.i2l, 1) := dk_133 (dk_at dksX3_readAct_1 20 rfl rfl)
theorem dX3_readAct_45 : decode cX3_readAct 45 = .ok (.lconst 0, 1) := dk_9 (dk_at dksX3_readAct_1 21 rfl rfl)
theorem dX3_readAct_46 : decode cX3_readAct 46 = .ok (.ldc2_w 195, 3) := dk_20 0 195 (dk_at dksX3_readAct_2 0 rfl rfl)
theorem dX3_readAct_49 : decode cX3_readAct 49 = .ok (.invokestatic 65, 3) := dk_184 0 65 (dk_at dksX3_readAct_2 3 rfl rfl)
theorem dX3_readAct_52 : decode cX3_readAct 52 = .ok (.ifCond .ne 5, 3) := dk_154 0 5 (dk_at dksX3_readAct_2 6 rfl rfl)
theorem dX3_readAct_55 : decode cX3_readAct 55 = .ok (.iconst 0, 1) := dk_3 (dk_at dksX3_readAct_2 9 rfl rfl)
theorem dX3_readAct_56 : decode cX3_readAct 56 = .ok (.ireturn, 1) := dk_172 (dk_at dksX3_readAct_2 10 rfl rfl)
theorem dX3_readAct_57 : decode cX3_readAct 57 = .ok (.aload_n 0, 1) := dk_42 (dk_at dksX3_readAct_2 11 rfl rfl)
theorem dX3_readAct_58 : decode cX3_readAct 58 = .ok (.dup, 1) := dk_89 (dk_at dksX3_readAct_2 12 rfl rfl)
theorem dX3_readAct_59 : decode cX3_readAct 59 = .ok (.getfield 168, 3) := dk_180 0 168 (dk_at dksX3_readAct_2 13 rfl rfl)
theorem dX3_readAct_62 : decode cX3_readAct 62 = .ok (.iconst 1, 1) := dk_4 (dk_at dksX3_readAct_2 16 rfl rfl)
theorem dX3_readAct_63 : decode cX3_readAct 63 = .ok (.iadd, 1) := dk_96 (dk_at dksX3_readAct_2 17 rfl rfl)
theorem dX3_readAct_64 : decode cX3_readAct 64 = .ok (.putfield 168, 3) := dk_181 0 168 (dk_at dksX3_readAct_2 18 rfl rfl)
theorem dX3_readAct_67 : decode cX3_readAct 67 = .ok (.aload_n 0, 1) := dk_42 (dk_at dksX3_readAct_2 21 rfl rfl)
theorem dX3_readAct_68 : decode cX3_readAct 68 = .ok (.invokevirtual 171, 3) := dk_182 0 171 (dk_at dksX3_readAct_3 0 rfl rfl)
theorem dX3_readAct_71 : decode cX3_readAct 71 = .ok (.bipush 48, 2) := dk_16 48 (dk_at dksX3_readAct_3 3 rfl rfl)
theorem dX3_readAct_73 : decode cX3_readAct 73 = .ok (.isub, 1) := dk_100 (dk_at dksX3_readAct_3 5 rfl rfl)
theorem dX3_readAct_74 : decode cX3_readAct 74 = .ok (.istore_n 3, 1) := dk_62 (dk_at dksX3_readAct_3 6 rfl rfl)
theorem dX3_readAct_75 : decode cX3_readAct 75 = .ok (.iload_n 3, 1) := dk_29 (dk_at dksX3_readAct_3 7 rfl rfl)
theorem dX3_readAct_76 : decode cX3_readAct 76 = .ok (.i2l, 1) := dk_133 (dk_at dksX3_readAct_3 8 rfl rfl)
theorem dX3_readAct_77 : decode cX3_readAct 77 = .ok (.lconst 0, 1) := dk_9 (dk_at dksX3_readAct_3 9 rfl rfl)
theorem dX3_readAct_78 : decode cX3_readAct 78 = .ok (.ldc2_w 195, 3) := dk_20 0 195 (dk_at dksX3_readAct_3 10 rfl rfl)
theorem dX3_readAct_81 : decode cX3_readAct 81 = .ok (.invokestatic 65, 3) := dk_184 0 65 (dk_at dksX3_readAct_3 13 rfl rfl)
theorem dX3_readAct_84 : decode cX3_readAct 84 = .ok (.ifCond .ne 5, 3) := dk_154 0 5 (dk_at dksX3_readAct_3 16 rfl rfl)
theorem dX3_readAct_87 : decode cX3_readAct 87 = .ok (.iconst 0, 1) := dk_3 (dk_at dksX3_readAct_3 19 rfl rfl)
theorem dX3_readAct_88 : decode cX3_readAct 88 = .ok (.ireturn, 1) := dk_172 (dk_at dksX3_readAct_3 20 rfl rfl)
theorem dX3_readAct_89 : decode cX3_readAct 89 = .ok (.aload_n 0, 1) := dk_42 (dk_at dksX3_readAct_3 21 rfl rfl)
theorem dX3_readAct_90 : decode cX3_readAct 90 = .ok (.dup, 1) := dk_89 (dk_at dksX3_readAct_3 22 rfl rfl)
theorem dX3_readAct_91 : decode cX3_readAct 91 = .ok (.getfield 168, 3) := dk_180 0 168 (dk_at dksX3_readAct_4 0 rfl rfl)
theorem dX3_readAct_94 : decode cX3_readAct 94 = .ok (.iconst 1, 1) := dk_4 (dk_at dksX3_readAct_4 3 rfl rfl)
theorem dX3_readAct_95 : decode cX3_readAct 95 = .ok (.iadd, 1) := dk_96 (dk_at dksX3_readAct_4 4 rfl rfl)
theorem dX3_readAct_96 : decode cX3_readAct 96 = .ok (.putfield 168, 3) := dk_181 0 168 (dk_at dksX3_readAct_4 5 rfl rfl)
theorem dX3_readAct_99 : decode cX3_readAct 99 = .ok (.aload_n 0, 1) := dk_42 (dk_at dksX3_readAct_4 8 rfl rfl)
theorem dX3_readAct_100 : decode cX3_readAct 100 = .ok (.getfield 33, 3) := dk_180 0 33 (dk_at dksX3_readAct_4 9 rfl rfl)
theorem dX3_readAct_103 : decode cX3_readAct 103 = .ok (.aload_n 0, 1) := dk_42 (dk_at dksX3_readAct_4 12 rfl rfl)
theorem dX3_readAct_104 : decode cX3_readAct 104 = .ok (.getfield 197, 3) := dk_180 0 197 (dk_at dksX3_readAct_4 13 rfl rfl)
theorem dX3_readAct_107 : decode cX3_readAct 107 = .ok (.bipush 100, 2) := dk_16 100 (dk_at dksX3_readAct_4 16 rfl rfl)
theorem dX3_readAct_109 : decode cX3_readAct 109 = .ok (.iload_n 1, 1) := dk_27 (dk_at dksX3_readAct_4 18 rfl rfl)
theorem dX3_readAct_110 : decode cX3_readAct 110 = .ok (.imul, 1) := dk_104 (dk_at dksX3_readAct_4 19 rfl rfl)
theorem dX3_readAct_111 : decode cX3_readAct 111 = .ok (.bipush 6, 2) := dk_16 6 (dk_at dksX3_readAct_4 20 rfl rfl)
theorem dX3_readAct_113 : decode cX3_readAct 113 = .ok (.iload_n 2, 1) := dk_28 (dk_at dksX3_readAct_4 22 rfl rfl)
theorem dX3_readAct_114 : decode cX3_readAct 114 = .ok (.imul, 1) := dk_104 (dk_at dksX3_readAct_4 23 rfl rfl)
theorem dX3_readAct_115 : decode cX3_readAct 115 = .ok (.iadd, 1) := dk_96 (dk_at dksX3_readAct_5 0 rfl rfl)
theorem dX3_readAct_116 : decode cX3_readAct 116 = .ok (.iload_n 3, 1) := dk_29 (dk_at dksX3_readAct_5 1 rfl rfl)
theorem dX3_readAct_117 : decode cX3_readAct 117 = .ok (.iadd, 1) := dk_96 (dk_at dksX3_readAct_5 2 rfl rfl)
theorem dX3_readAct_118 : decode cX3_readAct 118 = .ok (.iastore, 1) := dk_79 (dk_at dksX3_readAct_5 3 rfl rfl)
theorem dX3_readAct_119 : decode cX3_readAct 119 = .ok (.iconst 1, 1) := dk_4 (dk_at dksX3_readAct_5 4 rfl rfl)
theorem dX3_readAct_120 : decode cX3_readAct 120 = .ok (.ireturn, 1) := dk_172 (dk_at dksX3_readAct_5 5 rfl rfl)
abbrev cX3_count : ByteArray := prog_12_method_39_code
def yX3_count : MethodName := ⟨RX3, "count", "(I)I"⟩
def dkwX3_count_4 : List UInt8 := [180, 0, 16, 172, 42, 180, 0, 114, 184, 0, 96, 172, 28, 172, 2, 172]
abbrev dktX3_count_4 : List UInt8 := dkwX3_count_4 ++ []
def dkwX3_count_3 : List UInt8 := [42, 180, 0, 123, 172, 42, 180, 0, 73, 184, 0, 96, 172, 42, 182, 0, 216, 172, 42, 180, 0, 139, 172, 42]
abbrev dktX3_count_3 : List UInt8 := dkwX3_count_3 ++ dktX3_count_4
def dkwX3_count_2 : List UInt8 := [170, 0, 0, 0, 0, 80, 0, 0, 0, 0, 0, 0, 0, 6, 0, 0, 0, 42, 0, 0, 0, 47, 0, 0, 0, 55, 0, 0, 0, 60, 0, 0, 0, 65, 0, 0, 0, 70, 0, 0, 0, 78]
abbrev dktX3_count_2 : List UInt8 := dkwX3_count_2 ++ dktX3_count_3
def dkwX3_count_1 : List UInt8 := [132, 3, 1, 167, 255, 238, 42, 182, 0, 133, 27]
abbrev dktX3_count_1 : List UInt8 := dkwX3_count_1 ++ dktX3_count_2
def dkwX3_count_0 : List UInt8 := [42, 182, 0, 158, 3, 61, 3, 62, 29, 16, 36, 162, 0, 18, 28, 42, 180, 0, 7, 29, 46, 96, 61]
abbrev dktX3_count_0 : List UInt8 := dkwX3_count_0 ++ dktX3_count_1
theorem dksX3_count_0 : cX3_count.data.toList.drop 0 = dktX3_count_0 := by decide +kernel
theorem dksX3_count_1 : cX3_count.data.toList.drop 23 = dktX3_count_1 := dk_seg dksX3_count_0 23 rfl rfl
theorem dksX3_count_2 : cX3_count.data.toList.drop 34 = dktX3_count_2 := dk_seg dksX3_count_1 11 rfl rfl
theorem dksX3_count_3 : cX3_count.data.toList.drop 76 = dktX3_count_3 := dk_seg dksX3_count_2 42 rfl rfl
theorem dksX3_count_4 : cX3_count.data.toList.drop 100 = dktX3_count_4 := dk_seg dksX3_count_3 24 rfl rfl
theorem dX3_count_0 : decode cX3_count 0 = .ok (.aload_n 0, 1) := dk_42 (dk_at dksX3_count_0 0 rfl rfl)
theorem dX3_count_1 : decode cX3_count 1 = .ok (.invokevirtual 158, 3) := dk_182 0 158 (dk_at dksX3_count_0 1 rfl rfl)
theorem dX3_count_4 : decode cX3_count 4 = .ok (.iconst 0, 1) := dk_3 (dk_at dksX3_count_0 4 rfl rfl)
theorem dX3_count_5 : decode cX3_count 5 = .ok (.istore_n 2, 1) := dk_61 (dk_at dksX3_count_0 5 rfl rfl)
theorem dX3_count_6 : decode cX3_count 6 = .ok (.iconst 0, 1) := dk_3 (dk_at dksX3_count_0 6 rfl rfl)
theorem dX3_count_7 : decode cX3_count 7 = .ok (.istore_n 3, 1) := dk_62 (dk_at dksX3_count_0 7 rfl rfl)
theorem dX3_count_8 : decode cX3_count 8 = .ok (.iload_n 3, 1) := dk_29 (dk_at dksX3_count_0 8 rfl rfl)
theorem dX3_count_9 : decode cX3_count 9 = .ok (.bipush 36, 2) := dk_16 36 (dk_at dksX3_count_0 9 rfl rfl)
theorem dX3_count_11 : decode cX3_count 11 = .ok (.if_icmp .ge 18, 3) := dk_162 0 18 (dk_at dksX3_count_0 11 rfl rfl)
theorem dX3_count_14 : decode cX3_count 14 = .ok (.iload_n 2, 1) := dk_28 (dk_at dksX3_count_0 14 rfl rfl)
theorem dX3_count_15 : decode cX3_count 15 = .ok (.aload_n 0, 1) := dk_42 (dk_at dksX3_count_0 15 rfl rfl)
theorem dX3_count_16 : decode cX3_count 16 = .ok (.getfield 7, 3) := dk_180 0 7 (dk_at dksX3_count_0 16 rfl rfl)
theorem dX3_count_19 : decode cX3_count 19 = .ok (.iload_n 3, 1) := dk_29 (dk_at dksX3_count_0 19 rfl rfl)
theorem dX3_count_20 : decode cX3_count 20 = .ok (.iaload, 1) := dk_46 (dk_at dksX3_count_0 20 rfl rfl)
theorem dX3_count_21 : decode cX3_count 21 = .ok (.iadd, 1) := dk_96 (dk_at dksX3_count_0 21 rfl rfl)
theorem dX3_count_22 : decode cX3_count 22 = .ok (.istore_n 2, 1) := dk_61 (dk_at dksX3_count_0 22 rfl rfl)
theorem dX3_count_23 : decode cX3_count 23 = .ok (.iinc 3 1, 3) := dk_132 3 1 (dk_at dksX3_count_1 0 rfl rfl)
theorem dX3_count_26 : decode cX3_count 26 = .ok (.goto (-18), 3) := dk_167 255 238 (dk_at dksX3_count_1 3 rfl rfl)
theorem dX3_count_29 : decode cX3_count 29 = .ok (.aload_n 0, 1) := dk_42 (dk_at dksX3_count_1 6 rfl rfl)
theorem dX3_count_30 : decode cX3_count 30 = .ok (.invokevirtual 133, 3) := dk_182 0 133 (dk_at dksX3_count_1 7 rfl rfl)
theorem dX3_count_33 : decode cX3_count 33 = .ok (.iload_n 1, 1) := dk_27 (dk_at dksX3_count_1 10 rfl rfl)
theorem dX3_count_34 : decode cX3_count 34 = .ok (.tableswitch 80 0 6 #[42, 47, 55, 60, 65, 70, 78], 42) := by decide +kernel
theorem dX3_count_76 : decode cX3_count 76 = .ok (.aload_n 0, 1) := dk_42 (dk_at dksX3_count_3 0 rfl rfl)
theorem dX3_count_77 : decode cX3_count 77 = .ok (.getfield 123, 3) := dk_180 0 123 (dk_at dksX3_count_3 1 rfl rfl)
theorem dX3_count_80 : decode cX3_count 80 = .ok (.ireturn, 1) := dk_172 (dk_at dksX3_count_3 4 rfl rfl)
theorem dX3_count_81 : decode cX3_count 81 = .ok (.aload_n 0, 1) := dk_42 (dk_at dksX3_count_3 5 rfl rfl)
theorem dX3_count_82 : decode cX3_count 82 = .ok (.getfield 73, 3) := dk_180 0 73 (dk_at dksX3_count_3 6 rfl rfl)
theorem dX3_count_85 : decode cX3_count 85 = .ok (.invokestatic 96, 3) := dk_184 0 96 (dk_at dksX3_count_3 9 rfl rfl)
theorem dX3_count_88 : decode cX3_count 88 = .ok (.ireturn, 1) := dk_172 (dk_at dksX3_count_3 12 rfl rfl)
theorem dX3_count_89 : decode cX3_count 89 = .ok (.aload_n 0, 1) := dk_42 (dk_at dksX3_count_3 13 rfl rfl)
theorem dX3_count_90 : decode cX3_count 90 = .ok (.invokevirtual 216, 3) := dk_182 0 216 (dk_at dksX3_count_3 14 rfl rfl)
theorem dX3_count_93 : decode cX3_count 93 = .ok (.ireturn, 1) := dk_172 (dk_at dksX3_count_3 17 rfl rfl)
theorem dX3_count_94 : decode cX3_count 94 = .ok (.aload_n 0, 1) := dk_42 (dk_at dksX3_count_3 18 rfl rfl)
theorem dX3_count_95 : decode cX3_count 95 = .ok (.getfield 139, 3) := dk_180 0 139 (dk_at dksX3_count_3 19 rfl rfl)
theorem dX3_count_98 : decode cX3_count 98 = .ok (.ireturn, 1) := dk_172 (dk_at dksX3_count_3 22 rfl rfl)
theorem dX3_count_99 : decode cX3_count 99 = .ok (.aload_n 0, 1) := dk_42 (dk_at dksX3_count_3 23 rfl rfl)
theorem dX3_count_100 : decode cX3_count 100 = .ok (.getfield 16, 3) := dk_180 0 16 (dk_at dksX3_count_4 0 rfl rfl)
theorem dX3_count_103 : decode cX3_count 103 = .ok (.ireturn, 1) := dk_172 (dk_at dksX3_count_4 3 rfl rfl)
theorem dX3_count_104 : decode cX3_count 104 = .ok (.aload_n 0, 1) := dk_42 (dk_at dksX3_count_4 4 rfl rfl)
theorem dX3_count_105 : decode cX3_count 105 = .ok (.getfield 114, 3) := dk_180 0 114 (dk_at dksX3_count_4 5 rfl rfl)
theorem dX3_count_108 : decode cX3_count 108 = .ok (.invokestatic 96, 3) := dk_184 0 96 (dk_at dksX3_count_4 8 rfl rfl)
theorem dX3_count_111 : decode cX3_count 111 = .ok (.ireturn, 1) := dk_172 (dk_at dksX3_count_4 11 rfl rfl)
theorem dX3_count_112 : decode cX3_count 112 = .ok (.iload_n 2, 1) := dk_28 (dk_at dksX3_count_4 12 rfl rfl)
theorem dX3_count_113 : decode cX3_count 113 = .ok (.ireturn, 1) := dk_172 (dk_at dksX3_count_4 13 rfl rfl)
theorem dX3_count_114 : decode cX3_count 114 = .ok (.iconst (-1), 1) := dk_2 (dk_at dksX3_count_4 14 rfl rfl)
theorem dX3_count_115 : decode cX3_count 115 = .ok (.ireturn, 1) := dk_172 (dk_at dksX3_count_4 15 rfl rfl)
abbrev cX3_ones : ByteArray := prog_12_method_5_code
def yX3_ones : MethodName := ⟨RX3, "ones", "(J)I"⟩
def dkwX3_ones_0 : List UInt8 := [3, 61, 30, 66, 33, 9, 148, 153, 0, 15, 132, 2, 1, 33, 33, 10, 101, 127, 66, 167, 255, 241, 28, 172]
abbrev dktX3_ones_0 : List UInt8 := dkwX3_ones_0 ++ []
theorem dksX3_ones_0 : cX3_ones.data.toList.drop 0 = dktX3_ones_0 := by decide +kernel
theorem dX3_ones_0 : decode cX3_ones 0 = .ok (.iconst 0, 1) := dk_3 (dk_at dksX3_ones_0 0 rfl rfl)
theorem dX3_ones_1 : decode cX3_ones 1 = .ok (.istore_n 2, 1) := dk_61 (dk_at dksX3_ones_0 1 rfl rfl)
theorem dX3_ones_2 : decode cX3_ones 2 = .ok (.lload_n 0, 1) := dk_30 (dk_at dksX3_ones_0 2 rfl rfl)
theorem dX3_ones_3 : decode cX3_ones 3 = .ok (.lstore_n 3, 1) := dk_66 (dk_at dksX3_ones_0 3 rfl rfl)
theorem dX3_ones_4 : decode cX3_ones 4 = .ok (.lload_n 3, 1) := dk_33 (dk_at dksX3_ones_0 4 rfl rfl)
theorem dX3_ones_5 : decode cX3_ones 5 = .ok (.lconst 0, 1) := dk_9 (dk_at dksX3_ones_0 5 rfl rfl)
theorem dX3_ones_6 : decode cX3_ones 6 = .ok (.lcmp, 1) := dk_148 (dk_at dksX3_ones_0 6 rfl rfl)
theorem dX3_ones_7 : decode cX3_ones 7 = .ok (.ifCond .eq 15, 3) := dk_153 0 15 (dk_at dksX3_ones_0 7 rfl rfl)
theorem dX3_ones_10 : decode cX3_ones 10 = .ok (.iinc 2 1, 3) := dk_132 2 1 (dk_at dksX3_ones_0 10 rfl rfl)
theorem dX3_ones_13 : decode cX3_ones 13 = .ok (.lload_n 3, 1) := dk_33 (dk_at dksX3_ones_0 13 rfl rfl)
theorem dX3_ones_14 : decode cX3_ones 14 = .ok (.lload_n 3, 1) := dk_33 (dk_at dksX3_ones_0 14 rfl rfl)
theorem dX3_ones_15 : decode cX3_ones 15 = .ok (.lconst 1, 1) := dk_10 (dk_at dksX3_ones_0 15 rfl rfl)
theorem dX3_ones_16 : decode cX3_ones 16 = .ok (.lsub, 1) := dk_101 (dk_at dksX3_ones_0 16 rfl rfl)
theorem dX3_ones_17 : decode cX3_ones 17 = .ok (.land, 1) := dk_127 (dk_at dksX3_ones_0 17 rfl rfl)
theorem dX3_ones_18 : decode cX3_ones 18 = .ok (.lstore_n 3, 1) := dk_66 (dk_at dksX3_ones_0 18 rfl rfl)
theorem dX3_ones_19 : decode cX3_ones 19 = .ok (.goto (-15), 3) := dk_167 255 241 (dk_at dksX3_ones_0 19 rfl rfl)
theorem dX3_ones_22 : decode cX3_ones 22 = .ok (.iload_n 2, 1) := dk_28 (dk_at dksX3_ones_0 22 rfl rfl)
theorem dX3_ones_23 : decode cX3_ones 23 = .ok (.ireturn, 1) := dk_172 (dk_at dksX3_ones_0 23 rfl rfl)
abbrev cX3_taxOfAll : ByteArray := prog_12_method_18_code
def yX3_taxOfAll : MethodName := ⟨RX3, "taxOfAll", "()I"⟩
def dkwX3_taxOfAll_1 : List UInt8 := [182, 0, 136, 96, 60, 132, 2, 1, 167, 255, 232, 27, 172]
abbrev dktX3_taxOfAll_1 : List UInt8 := dkwX3_taxOfAll_1 ++ []
def dkwX3_taxOfAll_0 : List UInt8 := [42, 182, 0, 133, 3, 60, 3, 61, 28, 42, 180, 0, 123, 162, 0, 22, 27, 42, 42, 180, 0, 26, 28, 47]
abbrev dktX3_taxOfAll_0 : List UInt8 := dkwX3_taxOfAll_0 ++ dktX3_taxOfAll_1
theorem dksX3_taxOfAll_0 : cX3_taxOfAll.data.toList.drop 0 = dktX3_taxOfAll_0 := by decide +kernel
theorem dksX3_taxOfAll_1 : cX3_taxOfAll.data.toList.drop 24 = dktX3_taxOfAll_1 := dk_seg dksX3_taxOfAll_0 24 rfl rfl
theorem dX3_taxOfAll_0 : decode cX3_taxOfAll 0 = .ok (.aload_n 0, 1) := dk_42 (dk_at dksX3_taxOfAll_0 0 rfl rfl)
theorem dX3_taxOfAll_1 : decode cX3_taxOfAll 1 = .ok (.invokevirtual 133, 3) := dk_182 0 133 (dk_at dksX3_taxOfAll_0 1 rfl rfl)
theorem dX3_taxOfAll_4 : decode cX3_taxOfAll 4 = .ok (.iconst 0, 1) := dk_3 (dk_at dksX3_taxOfAll_0 4 rfl rfl)
theorem dX3_taxOfAll_5 : decode cX3_taxOfAll 5 = .ok (.istore_n 1, 1) := dk_60 (dk_at dksX3_taxOfAll_0 5 rfl rfl)
theorem dX3_taxOfAll_6 : decode cX3_taxOfAll 6 = .ok (.iconst 0, 1) := dk_3 (dk_at dksX3_taxOfAll_0 6 rfl rfl)
theorem dX3_taxOfAll_7 : decode cX3_taxOfAll 7 = .ok (.istore_n 2, 1) := dk_61 (dk_at dksX3_taxOfAll_0 7 rfl rfl)
theorem dX3_taxOfAll_8 : decode cX3_taxOfAll 8 = .ok (.iload_n 2, 1) := dk_28 (dk_at dksX3_taxOfAll_0 8 rfl rfl)
theorem dX3_taxOfAll_9 : decode cX3_taxOfAll 9 = .ok (.aload_n 0, 1) := dk_42 (dk_at dksX3_taxOfAll_0 9 rfl rfl)
theorem dX3_taxOfAll_10 : decode cX3_taxOfAll 10 = .ok (.getfield 123, 3) := dk_180 0 123 (dk_at dksX3_taxOfAll_0 10 rfl rfl)
theorem dX3_taxOfAll_13 : decode cX3_taxOfAll 13 = .ok (.if_icmp .ge 22, 3) := dk_162 0 22 (dk_at dksX3_taxOfAll_0 13 rfl rfl)
theorem dX3_taxOfAll_16 : decode cX3_taxOfAll 16 = .ok (.iload_n 1, 1) := dk_27 (dk_at dksX3_taxOfAll_0 16 rfl rfl)
theorem dX3_taxOfAll_17 : decode cX3_taxOfAll 17 = .ok (.aload_n 0, 1) := dk_42 (dk_at dksX3_taxOfAll_0 17 rfl rfl)
theorem dX3_taxOfAll_18 : decode cX3_taxOfAll 18 = .ok (.aload_n 0, 1) := dk_42 (dk_at dksX3_taxOfAll_0 18 rfl rfl)
theorem dX3_taxOfAll_19 : decode cX3_taxOfAll 19 = .ok (.getfield 26, 3) := dk_180 0 26 (dk_at dksX3_taxOfAll_0 19 rfl rfl)
theorem dX3_taxOfAll_22 : decode cX3_taxOfAll 22 = .ok (.iload_n 2, 1) := dk_28 (dk_at dksX3_taxOfAll_0 22 rfl rfl)
theorem dX3_taxOfAll_23 : decode cX3_taxOfAll 23 = .ok (.laload, 1) := dk_47 (dk_at dksX3_taxOfAll_0 23 rfl rfl)
theorem dX3_taxOfAll_24 : decode cX3_taxOfAll 24 = .ok (.invokevirtual 136, 3) := dk_182 0 136 (dk_at dksX3_taxOfAll_1 0 rfl rfl)
theorem dX3_taxOfAll_27 : decode cX3_taxOfAll 27 = .ok (.iadd, 1) := dk_96 (dk_at dksX3_taxOfAll_1 3 rfl rfl)
theorem dX3_taxOfAll_28 : decode cX3_taxOfAll 28 = .ok (.istore_n 1, 1) := dk_60 (dk_at dksX3_taxOfAll_1 4 rfl rfl)
theorem dX3_taxOfAll_29 : decode cX3_taxOfAll 29 = .ok (.iinc 2 1, 3) := dk_132 2 1 (dk_at dksX3_taxOfAll_1 5 rfl rfl)
theorem dX3_taxOfAll_32 : decode cX3_taxOfAll 32 = .ok (.goto (-24), 3) := dk_167 255 232 (dk_at dksX3_taxOfAll_1 8 rfl rfl)
theorem dX3_taxOfAll_35 : decode cX3_taxOfAll 35 = .ok (.iload_n 1, 1) := dk_27 (dk_at dksX3_taxOfAll_1 11 rfl rfl)
theorem dX3_taxOfAll_36 : decode cX3_taxOfAll 36 = .ok (.ireturn, 1) := dk_172 (dk_at dksX3_taxOfAll_1 12 rfl rfl)
abbrev cX3_taxOf : ByteArray := prog_12_method_16_code
def yX3_taxOf : MethodName := ⟨RX3, "taxOf", "(J)I"⟩
def dkwX3_taxOf_4 : List UInt8 := [184, 0, 120, 96, 167, 0, 14, 21, 6, 156, 0, 7, 3, 167, 0, 5, 21, 6, 172]
abbrev dktX3_taxOf_4 : List UInt8 := dkwX3_taxOf_4 ++ []
def dkwX3_taxOf_3 : List UInt8 := [160, 0, 11, 21, 4, 16, 10, 96, 167, 0, 32, 21, 5, 6, 160, 0, 15, 21, 4, 5, 108, 31]
abbrev dktX3_taxOf_3 : List UInt8 := dkwX3_taxOf_3 ++ dktX3_taxOf_4
def dkwX3_taxOf_2 : List UInt8 := [154, 0, 8, 21, 4, 167, 0, 59, 21, 5, 4, 160, 0, 10, 21, 4, 5, 108, 167, 0, 46, 21, 5, 5]
abbrev dktX3_taxOf_2 : List UInt8 := dkwX3_taxOf_2 ++ dktX3_taxOf_3
def dkwX3_taxOf_1 : List UInt8 := [54, 4, 42, 31, 182, 0, 117, 54, 5, 21, 4, 16, 10, 96, 6, 29, 104, 100, 54, 6, 21, 5]
abbrev dktX3_taxOf_1 : List UInt8 := dkwX3_taxOf_1 ++ dktX3_taxOf_2
def dkwX3_taxOf_0 : List UInt8 := [31, 184, 0, 96, 62, 42, 180, 0, 16, 29, 6, 162, 0, 7, 29, 167, 0, 8, 5, 29, 104, 6, 100, 104]
abbrev dktX3_taxOf_0 : List UInt8 := dkwX3_taxOf_0 ++ dktX3_taxOf_1
theorem dksX3_taxOf_0 : cX3_taxOf.data.toList.drop 0 = dktX3_taxOf_0 := by decide +kernel
theorem dksX3_taxOf_1 : cX3_taxOf.data.toList.drop 24 = dktX3_taxOf_1 := dk_seg dksX3_taxOf_0 24 rfl rfl
theorem dksX3_taxOf_2 : cX3_taxOf.data.toList.drop 46 = dktX3_taxOf_2 := dk_seg dksX3_taxOf_1 22 rfl rfl
theorem dksX3_taxOf_3 : cX3_taxOf.data.toList.drop 70 = dktX3_taxOf_3 := dk_seg dksX3_taxOf_2 24 rfl rfl
theorem dksX3_taxOf_4 : cX3_taxOf.data.toList.drop 92 = dktX3_taxOf_4 := dk_seg dksX3_taxOf_3 22 rfl rfl
theorem dX3_taxOf_0 : decode cX3_taxOf 0 = .ok (.lload_n 1, 1) := dk_31 (dk_at dksX3_taxOf_0 0 rfl rfl)
theorem dX3_taxOf_1 : decode cX3_taxOf 1 = .ok (.invokestatic 96, 3) := dk_184 0 96 (dk_at dksX3_taxOf_0 1 rfl rfl)
theorem dX3_taxOf_4 : decode cX3_taxOf 4 = .ok (.istore_n 3, 1) := dk_62 (dk_at dksX3_taxOf_0 4 rfl rfl)
theorem dX3_taxOf_5 : decode cX3_taxOf 5 = .ok (.aload_n 0, 1) := dk_42 (dk_at dksX3_taxOf_0 5 rfl rfl)
theorem dX3_taxOf_6 : decode cX3_taxOf 6 = .ok (.getfield 16, 3) := dk_180 0 16 (dk_at dksX3_taxOf_0 6 rfl rfl)
theorem dX3_taxOf_9 : decode cX3_taxOf 9 = .ok (.iload_n 3, 1) := dk_29 (dk_at dksX3_taxOf_0 9 rfl rfl)
theorem dX3_taxOf_10 : decode cX3_taxOf 10 = .ok (.iconst 3, 1) := dk_6 (dk_at dksX3_taxOf_0 10 rfl rfl)
theorem dX3_taxOf_11 : decode cX3_taxOf 11 = .ok (.if_icmp .ge 7, 3) := dk_162 0 7 (dk_at dksX3_taxOf_0 11 rfl rfl)
theorem dX3_taxOf_14 : decode cX3_taxOf 14 = .ok (.iload_n 3, 1) := dk_29 (dk_at dksX3_taxOf_0 14 rfl rfl)
theorem dX3_taxOf_15 : decode cX3_taxOf 15 = .ok (.goto 8, 3) := dk_167 0 8 (dk_at dksX3_taxOf_0 15 rfl rfl)
theorem dX3_taxOf_18 : decode cX3_taxOf 18 = .ok (.iconst 2, 1) := dk_5 (dk_at dksX3_taxOf_0 18 rfl rfl)
theorem dX3_taxOf_19 : decode cX3_taxOf 19 = .ok (.iload_n 3, 1) := dk_29 (dk_at dksX3_taxOf_0 19 rfl rfl)
theorem dX3_taxOf_20 : decode cX3_taxOf 20 = .ok (.imul, 1) := dk_104 (dk_at dksX3_taxOf_0 20 rfl rfl)
theorem dX3_taxOf_21 : decode cX3_taxOf 21 = .ok (.iconst 3, 1) := dk_6 (dk_at dksX3_taxOf_0 21 rfl rfl)
theorem dX3_taxOf_22 : decode cX3_taxOf 22 = .ok (.isub, 1) := dk_100 (dk_at dksX3_taxOf_0 22 rfl rfl)
theorem dX3_taxOf_23 : decode cX3_taxOf 23 = .ok (.imul, 1) := dk_104 (dk_at dksX3_taxOf_0 23 rfl rfl)
theorem dX3_taxOf_24 : decode cX3_taxOf 24 = .ok (.istore 4, 2) := dk_54 4 (dk_at dksX3_taxOf_1 0 rfl rfl)
theorem dX3_taxOf_26 : decode cX3_taxOf 26 = .ok (.aload_n 0, 1) := dk_42 (dk_at dksX3_taxOf_1 2 rfl rfl)
theorem dX3_taxOf_27 : decode cX3_taxOf 27 = .ok (.lload_n 1, 1) := dk_31 (dk_at dksX3_taxOf_1 3 rfl rfl)
theorem dX3_taxOf_28 : decode cX3_taxOf 28 = .ok (.invokevirtual 117, 3) := dk_182 0 117 (dk_at dksX3_taxOf_1 4 rfl rfl)
theorem dX3_taxOf_31 : decode cX3_taxOf 31 = .ok (.istore 5, 2) := dk_54 5 (dk_at dksX3_taxOf_1 7 rfl rfl)
theorem dX3_taxOf_33 : decode cX3_taxOf 33 = .ok (.iload 4, 2) := dk_21 4 (dk_at dksX3_taxOf_1 9 rfl rfl)
theorem dX3_taxOf_35 : decode cX3_taxOf 35 = .ok (.bipush 10, 2) := dk_16 10 (dk_at dksX3_taxOf_1 11 rfl rfl)
theorem dX3_taxOf_37 : decode cX3_taxOf 37 = .ok (.iadd, 1) := dk_96 (dk_at dksX3_taxOf_1 13 rfl rfl)
theorem dX3_taxOf_38 : decode cX3_taxOf 38 = .ok (.iconst 3, 1) := dk_6 (dk_at dksX3_taxOf_1 14 rfl rfl)
theorem dX3_taxOf_39 : decode cX3_taxOf 39 = .ok (.iload_n 3, 1) := dk_29 (dk_at dksX3_taxOf_1 15 rfl rfl)
theorem dX3_taxOf_40 : decode cX3_taxOf 40 = .ok (.imul, 1) := dk_104 (dk_at dksX3_taxOf_1 16 rfl rfl)
theorem dX3_taxOf_41 : decode cX3_taxOf 41 = .ok (.isub, 1) := dk_100 (dk_at dksX3_taxOf_1 17 rfl rfl)
theorem dX3_taxOf_42 : decode cX3_taxOf 42 = .ok (.istore 6, 2) := dk_54 6 (dk_at dksX3_taxOf_1 18 rfl rfl)
theorem dX3_taxOf_44 : decode cX3_taxOf 44 = .ok (.iload 5, 2) := dk_21 5 (dk_at dksX3_taxOf_1 20 rfl rfl)
theorem dX3_taxOf_46 : decode cX3_taxOf 46 = .ok (.ifCond .ne 8, 3) := dk_154 0 8 (dk_at dksX3_taxOf_2 0 rfl rfl)
theorem dX3_taxOf_49 : decode cX3_taxOf 49 = .ok (.iload 4, 2) := dk_21 4 (dk_at dksX3_taxOf_2 3 rfl rfl)
theorem dX3_taxOf_51 : decode cX3_taxOf 51 = .ok (.goto 59, 3) := dk_167 0 59 (dk_at dksX3_taxOf_2 5 rfl rfl)
theorem dX3_taxOf_54 : decode cX3_taxOf 54 = .ok (.iload 5, 2) := dk_21 5 (dk_at dksX3_taxOf_2 8 rfl rfl)
theorem dX3_taxOf_56 : decode cX3_taxOf 56 = .ok (.iconst 1, 1) := dk_4 (dk_at dksX3_taxOf_2 10 rfl rfl)
theorem dX3_taxOf_57 : decode cX3_taxOf 57 = .ok (.if_icmp .ne 10, 3) := dk_160 0 10 (dk_at dksX3_taxOf_2 11 rfl rfl)
theorem dX3_taxOf_60 : decode cX3_taxOf 60 = .ok (.iload 4, 2) := dk_21 4 (dk_at dksX3_taxOf_2 14 rfl rfl)
theorem dX3_taxOf_62 : decode cX3_taxOf 62 = .ok (.iconst 2, 1) := dk_5 (dk_at dksX3_taxOf_2 16 rfl rfl)
theorem dX3_taxOf_63 : decode cX3_taxOf 63 = .ok (.idiv, 1) := dk_108 (dk_at dksX3_taxOf_2 17 rfl rfl)
theorem dX3_taxOf_64 : decode cX3_taxOf 64 = .ok (.goto 46, 3) := dk_167 0 46 (dk_at dksX3_taxOf_2 18 rfl rfl)
theorem dX3_taxOf_67 : decode cX3_taxOf 67 = .ok (.iload 5, 2) := dk_21 5 (dk_at dksX3_taxOf_2 21 rfl rfl)
theorem dX3_taxOf_69 : decode cX3_taxOf 69 = .ok (.iconst 2, 1) := dk_5 (dk_at dksX3_taxOf_2 23 rfl rfl)
theorem dX3_taxOf_70 : decode cX3_taxOf 70 = .ok (.if_icmp .ne 11, 3) := dk_160 0 11 (dk_at dksX3_taxOf_3 0 rfl rfl)
theorem dX3_taxOf_73 : decode cX3_taxOf 73 = .ok (.iload 4, 2) := dk_21 4 (dk_at dksX3_taxOf_3 3 rfl rfl)
theorem dX3_taxOf_75 : decode cX3_taxOf 75 = .ok (.bipush 10, 2) := dk_16 10 (dk_at dksX3_taxOf_3 5 rfl rfl)
theorem dX3_taxOf_77 : decode cX3_taxOf 77 = .ok (.iadd, 1) := dk_96 (dk_at dksX3_taxOf_3 7 rfl rfl)
theorem dX3_taxOf_78 : decode cX3_taxOf 78 = .ok (.goto 32, 3) := dk_167 0 32 (dk_at dksX3_taxOf_3 8 rfl rfl)
theorem dX3_taxOf_81 : decode cX3_taxOf 81 = .ok (.iload 5, 2) := dk_21 5 (dk_at dksX3_taxOf_3 11 rfl rfl)
theorem dX3_taxOf_83 : decode cX3_taxOf 83 = .ok (.iconst 3, 1) := dk_6 (dk_at dksX3_taxOf_3 13 rfl rfl)
theorem dX3_taxOf_84 : decode cX3_taxOf 84 = .ok (.if_icmp .ne 15, 3) := dk_160 0 15 (dk_at dksX3_taxOf_3 14 rfl rfl)
theorem dX3_taxOf_87 : decode cX3_taxOf 87 = .ok (.iload 4, 2) := dk_21 4 (dk_at dksX3_taxOf_3 17 rfl rfl)
theorem dX3_taxOf_89 : decode cX3_taxOf 89 = .ok (.iconst 2, 1) := dk_5 (dk_at dksX3_taxOf_3 19 rfl rfl)
theorem dX3_taxOf_90 : decode cX3_taxOf 90 = .ok (.idiv, 1) := dk_108 (dk_at dksX3_taxOf_3 20 rfl rfl)
theorem dX3_taxOf_91 : decode cX3_taxOf 91 = .ok (.lload_n 1, 1) := dk_31 (dk_at dksX3_taxOf_3 21 rfl rfl)
theorem dX3_taxOf_92 : decode cX3_taxOf 92 = .ok (.invokestatic 120, 3) := dk_184 0 120 (dk_at dksX3_taxOf_4 0 rfl rfl)
theorem dX3_taxOf_95 : decode cX3_taxOf 95 = .ok (.iadd, 1) := dk_96 (dk_at dksX3_taxOf_4 3 rfl rfl)
theorem dX3_taxOf_96 : decode cX3_taxOf 96 = .ok (.goto 14, 3) := dk_167 0 14 (dk_at dksX3_taxOf_4 4 rfl rfl)
theorem dX3_taxOf_99 : decode cX3_taxOf 99 = .ok (.iload 6, 2) := dk_21 6 (dk_at dksX3_taxOf_4 7 rfl rfl)
theorem dX3_taxOf_101 : decode cX3_taxOf 101 = .ok (.ifCond .ge 7, 3) := dk_156 0 7 (dk_at dksX3_taxOf_4 9 rfl rfl)
theorem dX3_taxOf_104 : decode cX3_taxOf 104 = .ok (.iconst 0, 1) := dk_3 (dk_at dksX3_taxOf_4 12 rfl rfl)
theorem dX3_taxOf_105 : decode cX3_taxOf 105 = .ok (.goto 5, 3) := dk_167 0 5 (dk_at dksX3_taxOf_4 13 rfl rfl)
theorem dX3_taxOf_108 : decode cX3_taxOf 108 = .ok (.iload 6, 2) := dk_21 6 (dk_at dksX3_taxOf_4 16 rfl rfl)
theorem dX3_taxOf_110 : decode cX3_taxOf 110 = .ok (.ireturn, 1) := dk_172 (dk_at dksX3_taxOf_4 18 rfl rfl)
abbrev cX3_kindOf : ByteArray := prog_12_method_15_code
def yX3_kindOf : MethodName := ⟨RX3, "kindOf", "(J)I"⟩
def dkwX3_kindOf_5 : List UInt8 := [3, 172]
abbrev dktX3_kindOf_5 : List UInt8 := dkwX3_kindOf_5 ++ []
def dkwX3_kindOf_4 : List UInt8 := [31, 42, 180, 0, 77, 127, 9, 148, 153, 0, 7, 5, 167, 0, 13, 21, 4, 153, 0, 7, 4, 167, 0, 4]
abbrev dktX3_kindOf_4 : List UInt8 := dkwX3_kindOf_4 ++ dktX3_kindOf_5
def dkwX3_kindOf_3 : List UInt8 := [131, 127, 9, 148, 154, 0, 7, 7, 167, 0, 41, 29, 153, 0, 7, 6, 167, 0, 33, 21, 4, 154, 0, 18]
abbrev dktX3_kindOf_3 : List UInt8 := dkwX3_kindOf_3 ++ dktX3_kindOf_4
def dkwX3_kindOf_2 : List UInt8 := [184, 0, 102, 127, 9, 148, 153, 0, 7, 4, 167, 0, 4, 3, 54, 4, 31, 42, 180, 0, 114, 20, 0, 94]
abbrev dktX3_kindOf_2 : List UInt8 := dkwX3_kindOf_2 ++ dktX3_kindOf_3
def dkwX3_kindOf_1 : List UInt8 := [127, 9, 148, 153, 0, 17, 31, 20, 0, 112, 127, 9, 148, 153, 0, 7, 4, 167, 0, 4, 3, 62, 31]
abbrev dktX3_kindOf_1 : List UInt8 := dkwX3_kindOf_1 ++ dktX3_kindOf_2
def dkwX3_kindOf_0 : List UInt8 := [31, 20, 0, 106, 127, 9, 148, 153, 0, 13, 31, 20, 0, 108, 127, 9, 148, 154, 0, 23, 31, 20, 0, 110]
abbrev dktX3_kindOf_0 : List UInt8 := dkwX3_kindOf_0 ++ dktX3_kindOf_1
theorem dksX3_kindOf_0 : cX3_kindOf.data.toList.drop 0 = dktX3_kindOf_0 := by decide +kernel
theorem dksX3_kindOf_1 : cX3_kindOf.data.toList.drop 24 = dktX3_kindOf_1 := dk_seg dksX3_kindOf_0 24 rfl rfl
theorem dksX3_kindOf_2 : cX3_kindOf.data.toList.drop 47 = dktX3_kindOf_2 := dk_seg dksX3_kindOf_1 23 rfl rfl
theorem dksX3_kindOf_3 : cX3_kindOf.data.toList.drop 71 = dktX3_kindOf_3 := dk_seg dksX3_kindOf_2 24 rfl rfl
theorem dksX3_kindOf_4 : cX3_kindOf.data.toList.drop 95 = dktX3_kindOf_4 := dk_seg dksX3_kindOf_3 24 rfl rfl
theorem dksX3_kindOf_5 : cX3_kindOf.data.toList.drop 119 = dktX3_kindOf_5 := dk_seg dksX3_kindOf_4 24 rfl rfl
theorem dX3_kindOf_0 : decode cX3_kindOf 0 = .ok (.lload_n 1, 1) := dk_31 (dk_at dksX3_kindOf_0 0 rfl rfl)
theorem dX3_kindOf_1 : decode cX3_kindOf 1 = .ok (.ldc2_w 106, 3) := dk_20 0 106 (dk_at dksX3_kindOf_0 1 rfl rfl)
theorem dX3_kindOf_4 : decode cX3_kindOf 4 = .ok (.land, 1) := dk_127 (dk_at dksX3_kindOf_0 4 rfl rfl)
theorem dX3_kindOf_5 : decode cX3_kindOf 5 = .ok (.lconst 0, 1) := dk_9 (dk_at dksX3_kindOf_0 5 rfl rfl)
theorem dX3_kindOf_6 : decode cX3_kindOf 6 = .ok (.lcmp, 1) := dk_148 (dk_at dksX3_kindOf_0 6 rfl rfl)
theorem dX3_kindOf_7 : decode cX3_kindOf 7 = .ok (.ifCond .eq 13, 3) := dk_153 0 13 (dk_at dksX3_kindOf_0 7 rfl rfl)
theorem dX3_kindOf_10 : decode cX3_kindOf 10 = .ok (.lload_n 1, 1) := dk_31 (dk_at dksX3_kindOf_0 10 rfl rfl)
theorem dX3_kindOf_11 : decode cX3_kindOf 11 = .ok (.ldc2_w 108, 3) := dk_20 0 108 (dk_at dksX3_kindOf_0 11 rfl rfl)
theorem dX3_kindOf_14 : decode cX3_kindOf 14 = .ok (.land, 1) := dk_127 (dk_at dksX3_kindOf_0 14 rfl rfl)
theorem dX3_kindOf_15 : decode cX3_kindOf 15 = .ok (.lconst 0, 1) := dk_9 (dk_at dksX3_kindOf_0 15 rfl rfl)
theorem dX3_kindOf_16 : decode cX3_kindOf 16 = .ok (.lcmp, 1) := dk_148 (dk_at dksX3_kindOf_0 16 rfl rfl)
theorem dX3_kindOf_17 : decode cX3_kindOf 17 = .ok (.ifCond .ne 23, 3) := dk_154 0 23 (dk_at dksX3_kindOf_0 17 rfl rfl)
theorem dX3_kindOf_20 : decode cX3_kindOf 20 = .ok (.lload_n 1, 1) := dk_31 (dk_at dksX3_kindOf_0 20 rfl rfl)
theorem dX3_kindOf_21 : decode cX3_kindOf 21 = .ok (.ldc2_w 110, 3) := dk_20 0 110 (dk_at dksX3_kindOf_0 21 rfl rfl)
theorem dX3_kindOf_24 : decode cX3_kindOf 24 = .ok (.land, 1) := dk_127 (dk_at dksX3_kindOf_1 0 rfl rfl)
theorem dX3_kindOf_25 : decode cX3_kindOf 25 = .ok (.lconst 0, 1) := dk_9 (dk_at dksX3_kindOf_1 1 rfl rfl)
theorem dX3_kindOf_26 : decode cX3_kindOf 26 = .ok (.lcmp, 1) := dk_148 (dk_at dksX3_kindOf_1 2 rfl rfl)
theorem dX3_kindOf_27 : decode cX3_kindOf 27 = .ok (.ifCond .eq 17, 3) := dk_153 0 17 (dk_at dksX3_kindOf_1 3 rfl rfl)
theorem dX3_kindOf_30 : decode cX3_kindOf 30 = .ok (.lload_n 1, 1) := dk_31 (dk_at dksX3_kindOf_1 6 rfl rfl)
theorem dX3_kindOf_31 : decode cX3_kindOf 31 = .ok (.ldc2_w 112, 3) := dk_20 0 112 (dk_at dksX3_kindOf_1 7 rfl rfl)
theorem dX3_kindOf_34 : decode cX3_kindOf 34 = .ok (.land, 1) := dk_127 (dk_at dksX3_kindOf_1 10 rfl rfl)
theorem dX3_kindOf_35 : decode cX3_kindOf 35 = .ok (.lconst 0, 1) := dk_9 (dk_at dksX3_kindOf_1 11 rfl rfl)
theorem dX3_kindOf_36 : decode cX3_kindOf 36 = .ok (.lcmp, 1) := dk_148 (dk_at dksX3_kindOf_1 12 rfl rfl)
theorem dX3_kindOf_37 : decode cX3_kindOf 37 = .ok (.ifCond .eq 7, 3) := dk_153 0 7 (dk_at dksX3_kindOf_1 13 rfl rfl)
theorem dX3_kindOf_40 : decode cX3_kindOf 40 = .ok (.iconst 1, 1) := dk_4 (dk_at dksX3_kindOf_1 16 rfl rfl)
theorem dX3_kindOf_41 : decode cX3_kindOf 41 = .ok (.goto 4, 3) := dk_167 0 4 (dk_at dksX3_kindOf_1 17 rfl rfl)
theorem dX3_kindOf_44 : decode cX3_kindOf 44 = .ok (.iconst 0, 1) := dk_3 (dk_at dksX3_kindOf_1 20 rfl rfl)
theorem dX3_kindOf_45 : decode cX3_kindOf 45 = .ok (.istore_n 3, 1) := dk_62 (dk_at dksX3_kindOf_1 21 rfl rfl)
theorem dX3_kindOf_46 : decode cX3_kindOf 46 = .ok (.lload_n 1, 1) := dk_31 (dk_at dksX3_kindOf_1 22 rfl rfl)
theorem dX3_kindOf_47 : decode cX3_kindOf 47 = .ok (.invokestatic 102, 3) := dk_184 0 102 (dk_at dksX3_kindOf_2 0 rfl rfl)
theorem dX3_kindOf_50 : decode cX3_kindOf 50 = .ok (.land, 1) := dk_127 (dk_at dksX3_kindOf_2 3 rfl rfl)
theorem dX3_kindOf_51 : decode cX3_kindOf 51 = .ok (.lconst 0, 1) := dk_9 (dk_at dksX3_kindOf_2 4 rfl rfl)
theorem dX3_kindOf_52 : decode cX3_kindOf 52 = .ok (.lcmp, 1) := dk_148 (dk_at dksX3_kindOf_2 5 rfl rfl)
theorem dX3_kindOf_53 : decode cX3_kindOf 53 = .ok (.ifCond .eq 7, 3) := dk_153 0 7 (dk_at dksX3_kindOf_2 6 rfl rfl)
theorem dX3_kindOf_56 : decode cX3_kindOf 56 = .ok (.iconst 1, 1) := dk_4 (dk_at dksX3_kindOf_2 9 rfl rfl)
theorem dX3_kindOf_57 : decode cX3_kindOf 57 = .ok (.goto 4, 3) := dk_167 0 4 (dk_at dksX3_kindOf_2 10 rfl rfl)
theorem dX3_kindOf_60 : decode cX3_kindOf 60 = .ok (.iconst 0, 1) := dk_3 (dk_at dksX3_kindOf_2 13 rfl rfl)
theorem dX3_kindOf_61 : decode cX3_kindOf 61 = .ok (.istore 4, 2) := dk_54 4 (dk_at dksX3_kindOf_2 14 rfl rfl)
theorem dX3_kindOf_63 : decode cX3_kindOf 63 = .ok (.lload_n 1, 1) := dk_31 (dk_at dksX3_kindOf_2 16 rfl rfl)
theorem dX3_kindOf_64 : decode cX3_kindOf 64 = .ok (.aload_n 0, 1) := dk_42 (dk_at dksX3_kindOf_2 17 rfl rfl)
theorem dX3_kindOf_65 : decode cX3_kindOf 65 = .ok (.getfield 114, 3) := dk_180 0 114 (dk_at dksX3_kindOf_2 18 rfl rfl)
theorem dX3_kindOf_68 : decode cX3_kindOf 68 = .ok (.ldc2_w 94, 3) := dk_20 0 94 (dk_at dksX3_kindOf_2 21 rfl rfl)
theorem dX3_kindOf_71 : decode cX3_kindOf 71 = .ok (.lxor, 1) := dk_131 (dk_at dksX3_kindOf_3 0 rfl rfl)
theorem dX3_kindOf_72 : decode cX3_kindOf 72 = .ok (.land, 1) := dk_127 (dk_at dksX3_kindOf_3 1 rfl rfl)
theorem dX3_kindOf_73 : decode cX3_kindOf 73 = .ok (.lconst 0, 1) := dk_9 (dk_at dksX3_kindOf_3 2 rfl rfl)
theorem dX3_kindOf_74 : decode cX3_kindOf 74 = .ok (.lcmp, 1) := dk_148 (dk_at dksX3_kindOf_3 3 rfl rfl)
theorem dX3_kindOf_75 : decode cX3_kindOf 75 = .ok (.ifCond .ne 7, 3) := dk_154 0 7 (dk_at dksX3_kindOf_3 4 rfl rfl)
theorem dX3_kindOf_78 : decode cX3_kindOf 78 = .ok (.iconst 4, 1) := dk_7 (dk_at dksX3_kindOf_3 7 rfl rfl)
theorem dX3_kindOf_79 : decode cX3_kindOf 79 = .ok (.goto 41, 3) := dk_167 0 41 (dk_at dksX3_kindOf_3 8 rfl rfl)
theorem dX3_kindOf_82 : decode cX3_kindOf 82 = .ok (.iload_n 3, 1) := dk_29 (dk_at dksX3_kindOf_3 11 rfl rfl)
theorem dX3_kindOf_83 : decode cX3_kindOf 83 = .ok (.ifCond .eq 7, 3) := dk_153 0 7 (dk_at dksX3_kindOf_3 12 rfl rfl)
theorem dX3_kindOf_86 : decode cX3_kindOf 86 = .ok (.iconst 3, 1) := dk_6 (dk_at dksX3_kindOf_3 15 rfl rfl)
theorem dX3_kindOf_87 : decode cX3_kindOf 87 = .ok (.goto 33, 3) := dk_167 0 33 (dk_at dksX3_kindOf_3 16 rfl rfl)
theorem dX3_kindOf_90 : decode cX3_kindOf 90 = .ok (.iload 4, 2) := dk_21 4 (dk_at dksX3_kindOf_3 19 rfl rfl)
theorem dX3_kindOf_92 : decode cX3_kindOf 92 = .ok (.ifCond .ne 18, 3) := dk_154 0 18 (dk_at dksX3_kindOf_3 21 rfl rfl)
theorem dX3_kindOf_95 : decode cX3_kindOf 95 = .ok (.lload_n 1, 1) := dk_31 (dk_at dksX3_kindOf_4 0 rfl rfl)
theorem dX3_kindOf_96 : decode cX3_kindOf 96 = .ok (.aload_n 0, 1) := dk_42 (dk_at dksX3_kindOf_4 1 rfl rfl)
theorem dX3_kindOf_97 : decode cX3_kindOf 97 = .ok (.getfield 77, 3) := dk_180 0 77 (dk_at dksX3_kindOf_4 2 rfl rfl)
theorem dX3_kindOf_100 : decode cX3_kindOf 100 = .ok (.land, 1) := dk_127 (dk_at dksX3_kindOf_4 5 rfl rfl)
theorem dX3_kindOf_101 : decode cX3_kindOf 101 = .ok (.lconst 0, 1) := dk_9 (dk_at dksX3_kindOf_4 6 rfl rfl)
theorem dX3_kindOf_102 : decode cX3_kindOf 102 = .ok (.lcmp, 1) := dk_148 (dk_at dksX3_kindOf_4 7 rfl rfl)
theorem dX3_kindOf_103 : decode cX3_kindOf 103 = .ok (.ifCond .eq 7, 3) := dk_153 0 7 (dk_at dksX3_kindOf_4 8 rfl rfl)
theorem dX3_kindOf_106 : decode cX3_kindOf 106 = .ok (.iconst 2, 1) := dk_5 (dk_at dksX3_kindOf_4 11 rfl rfl)
theorem dX3_kindOf_107 : decode cX3_kindOf 107 = .ok (.goto 13, 3) := dk_167 0 13 (dk_at dksX3_kindOf_4 12 rfl rfl)
theorem dX3_kindOf_110 : decode cX3_kindOf 110 = .ok (.iload 4, 2) := dk_21 4 (dk_at dksX3_kindOf_4 15 rfl rfl)
theorem dX3_kindOf_112 : decode cX3_kindOf 112 = .ok (.ifCond .eq 7, 3) := dk_153 0 7 (dk_at dksX3_kindOf_4 17 rfl rfl)
theorem dX3_kindOf_115 : decode cX3_kindOf 115 = .ok (.iconst 1, 1) := dk_4 (dk_at dksX3_kindOf_4 20 rfl rfl)
theorem dX3_kindOf_116 : decode cX3_kindOf 116 = .ok (.goto 4, 3) := dk_167 0 4 (dk_at dksX3_kindOf_4 21 rfl rfl)
theorem dX3_kindOf_119 : decode cX3_kindOf 119 = .ok (.iconst 0, 1) := dk_3 (dk_at dksX3_kindOf_5 0 rfl rfl)
theorem dX3_kindOf_120 : decode cX3_kindOf 120 = .ok (.ireturn, 1) := dk_172 (dk_at dksX3_kindOf_5 1 rfl rfl)
abbrev cX3_edge : ByteArray := prog_12_method_13_code
def yX3_edge : MethodName := ⟨RX3, "edge", "()J"⟩
theorem dX3_edge_0 : decode cX3_edge 0 = .ok (.ldc2_w 100, 3) := by decide +kernel
theorem dX3_edge_3 : decode cX3_edge 3 = .ok (.lreturn, 1) := by decide +kernel
abbrev cX3_fenceOf : ByteArray := prog_12_method_12_code
def yX3_fenceOf : MethodName := ⟨RX3, "fenceOf", "(J)I"⟩
def dkwX3_fenceOf_1 : List UInt8 := [30, 184, 0, 96, 104, 5, 28, 104, 100, 172]
abbrev dktX3_fenceOf_1 : List UInt8 := dkwX3_fenceOf_1 ++ []
def dkwX3_fenceOf_0 : List UInt8 := [30, 30, 20, 0, 80, 127, 4, 123, 127, 184, 0, 96, 30, 30, 16, 6, 123, 127, 184, 0, 96, 96, 61, 7]
abbrev dktX3_fenceOf_0 : List UInt8 := dkwX3_fenceOf_0 ++ dktX3_fenceOf_1
theorem dksX3_fenceOf_0 : cX3_fenceOf.data.toList.drop 0 = dktX3_fenceOf_0 := by decide +kernel
theorem dksX3_fenceOf_1 : cX3_fenceOf.data.toList.drop 24 = dktX3_fenceOf_1 := dk_seg dksX3_fenceOf_0 24 rfl rfl
theorem dX3_fenceOf_0 : decode cX3_fenceOf 0 = .ok (.lload_n 0, 1) := dk_30 (dk_at dksX3_fenceOf_0 0 rfl rfl)
theorem dX3_fenceOf_1 : decode cX3_fenceOf 1 = .ok (.lload_n 0, 1) := dk_30 (dk_at dksX3_fenceOf_0 1 rfl rfl)
theorem dX3_fenceOf_2 : decode cX3_fenceOf 2 = .ok (.ldc2_w 80, 3) := dk_20 0 80 (dk_at dksX3_fenceOf_0 2 rfl rfl)
theorem dX3_fenceOf_5 : decode cX3_fenceOf 5 = .ok (.land, 1) := dk_127 (dk_at dksX3_fenceOf_0 5 rfl rfl)
theorem dX3_fenceOf_6 : decode cX3_fenceOf 6 = .ok (.iconst 1, 1) := dk_4 (dk_at dksX3_fenceOf_0 6 rfl rfl)
theorem dX3_fenceOf_7 : decode cX3_fenceOf 7 = .ok (.lshr, 1) := dk_123 (dk_at dksX3_fenceOf_0 7 rfl rfl)
theorem dX3_fenceOf_8 : decode cX3_fenceOf 8 = .ok (.land, 1) := dk_127 (dk_at dksX3_fenceOf_0 8 rfl rfl)
theorem dX3_fenceOf_9 : decode cX3_fenceOf 9 = .ok (.invokestatic 96, 3) := dk_184 0 96 (dk_at dksX3_fenceOf_0 9 rfl rfl)
theorem dX3_fenceOf_12 : decode cX3_fenceOf 12 = .ok (.lload_n 0, 1) := dk_30 (dk_at dksX3_fenceOf_0 12 rfl rfl)
theorem dX3_fenceOf_13 : decode cX3_fenceOf 13 = .ok (.lload_n 0, 1) := dk_30 (dk_at dksX3_fenceOf_0 13 rfl rfl)
theorem dX3_fenceOf_14 : decode cX3_fenceOf 14 = .ok (.bipush 6, 2) := dk_16 6 (dk_at dksX3_fenceOf_0 14 rfl rfl)
theorem dX3_fenceOf_16 : decode cX3_fenceOf 16 = .ok (.lshr, 1) := dk_123 (dk_at dksX3_fenceOf_0 16 rfl rfl)
theorem dX3_fenceOf_17 : decode cX3_fenceOf 17 = .ok (.land, 1) := dk_127 (dk_at dksX3_fenceOf_0 17 rfl rfl)
theorem dX3_fenceOf_18 : decode cX3_fenceOf 18 = .ok (.invokestatic 96, 3) := dk_184 0 96 (dk_at dksX3_fenceOf_0 18 rfl rfl)
theorem dX3_fenceOf_21 : decode cX3_fenceOf 21 = .ok (.iadd, 1) := dk_96 (dk_at dksX3_fenceOf_0 21 rfl rfl)
theorem dX3_fenceOf_22 : decode cX3_fenceOf 22 = .ok (.istore_n 2, 1) := dk_61 (dk_at dksX3_fenceOf_0 22 rfl rfl)
theorem dX3_fenceOf_23 : decode cX3_fenceOf 23 = .ok (.iconst 4, 1) := dk_7 (dk_at dksX3_fenceOf_0 23 rfl rfl)
theorem dX3_fenceOf_24 : decode cX3_fenceOf 24 = .ok (.lload_n 0, 1) := dk_30 (dk_at dksX3_fenceOf_1 0 rfl rfl)
theorem dX3_fenceOf_25 : decode cX3_fenceOf 25 = .ok (.invokestatic 96, 3) := dk_184 0 96 (dk_at dksX3_fenceOf_1 1 rfl rfl)
theorem dX3_fenceOf_28 : decode cX3_fenceOf 28 = .ok (.imul, 1) := dk_104 (dk_at dksX3_fenceOf_1 4 rfl rfl)
theorem dX3_fenceOf_29 : decode cX3_fenceOf 29 = .ok (.iconst 2, 1) := dk_5 (dk_at dksX3_fenceOf_1 5 rfl rfl)
theorem dX3_fenceOf_30 : decode cX3_fenceOf 30 = .ok (.iload_n 2, 1) := dk_28 (dk_at dksX3_fenceOf_1 6 rfl rfl)
theorem dX3_fenceOf_31 : decode cX3_fenceOf 31 = .ok (.imul, 1) := dk_104 (dk_at dksX3_fenceOf_1 7 rfl rfl)
theorem dX3_fenceOf_32 : decode cX3_fenceOf 32 = .ok (.isub, 1) := dk_100 (dk_at dksX3_fenceOf_1 8 rfl rfl)
theorem dX3_fenceOf_33 : decode cX3_fenceOf 33 = .ok (.ireturn, 1) := dk_172 (dk_at dksX3_fenceOf_1 9 rfl rfl)
abbrev cX3_hole : ByteArray := prog_12_method_44_code
def yX3_hole : MethodName := ⟨RX3, "hole", "(II)I"⟩
def dkwX3_hole_4 : List UInt8 := [182, 0, 219, 184, 0, 96, 172, 42, 33, 182, 0, 230, 172, 42, 33, 182, 0, 233, 172, 33, 184, 0, 236, 172]
abbrev dktX3_hole_4 : List UInt8 := dkwX3_hole_4 ++ []
def dkwX3_hole_3 : List UInt8 := [33, 184, 0, 96, 172, 42, 33, 182, 0, 117, 172, 42, 33, 182, 0, 136, 172, 33, 184, 0, 120, 172, 42, 33]
abbrev dktX3_hole_3 : List UInt8 := dkwX3_hole_3 ++ dktX3_hole_4
def dkwX3_hole_2 : List UInt8 := [170, 0, 0, 0, 0, 85, 0, 0, 0, 0, 0, 0, 0, 6, 0, 0, 0, 42, 0, 0, 0, 47, 0, 0, 0, 53, 0, 0, 0, 59, 0, 0, 0, 64, 0, 0, 0, 73, 0, 0, 0, 79]
abbrev dktX3_hole_2 : List UInt8 := dkwX3_hole_2 ++ dktX3_hole_3
def dkwX3_hole_1 : List UInt8 := [182, 0, 158, 42, 180, 0, 73, 27, 184, 0, 69, 154, 0, 6, 16, 254, 172, 42, 27, 182, 0, 129, 66, 28]
abbrev dktX3_hole_1 : List UInt8 := dkwX3_hole_1 ++ dktX3_hole_2
def dkwX3_hole_0 : List UInt8 := [27, 184, 0, 142, 153, 0, 15, 28, 133, 9, 20, 0, 228, 184, 0, 65, 154, 0, 5, 2, 172, 42]
abbrev dktX3_hole_0 : List UInt8 := dkwX3_hole_0 ++ dktX3_hole_1
theorem dksX3_hole_0 : cX3_hole.data.toList.drop 0 = dktX3_hole_0 := by decide +kernel
theorem dksX3_hole_1 : cX3_hole.data.toList.drop 22 = dktX3_hole_1 := dk_seg dksX3_hole_0 22 rfl rfl
theorem dksX3_hole_2 : cX3_hole.data.toList.drop 46 = dktX3_hole_2 := dk_seg dksX3_hole_1 24 rfl rfl
theorem dksX3_hole_3 : cX3_hole.data.toList.drop 88 = dktX3_hole_3 := dk_seg dksX3_hole_2 42 rfl rfl
theorem dksX3_hole_4 : cX3_hole.data.toList.drop 112 = dktX3_hole_4 := dk_seg dksX3_hole_3 24 rfl rfl
theorem dX3_hole_0 : decode cX3_hole 0 = .ok (.iload_n 1, 1) := dk_27 (dk_at dksX3_hole_0 0 rfl rfl)
theorem dX3_hole_1 : decode cX3_hole 1 = .ok (.invokestatic 142, 3) := dk_184 0 142 (dk_at dksX3_hole_0 1 rfl rfl)
theorem dX3_hole_4 : decode cX3_hole 4 = .ok (.ifCond .eq 15, 3) := dk_153 0 15 (dk_at dksX3_hole_0 4 rfl rfl)
theorem dX3_hole_7 : decode cX3_hole 7 = .ok (.iload_n 2, 1) := dk_28 (dk_at dksX3_hole_0 7 rfl rfl)
theorem dX3_hole_8 : decode cX3_hole 8 = .ok (.i2l, 1) := dk_133 (dk_at dksX3_hole_0 8 rfl rfl)
theorem dX3_hole_9 : decode cX3_hole 9 = .ok (.lconst 0, 1) := dk_9 (dk_at dksX3_hole_0 9 rfl rfl)
theorem dX3_hole_10 : decode cX3_hole 10 = .ok (.ldc2_w 228, 3) := dk_20 0 228 (dk_at dksX3_hole_0 10 rfl rfl)
theorem dX3_hole_13 : decode cX3_hole 13 = .ok (.invokestatic 65, 3) := dk_184 0 65 (dk_at dksX3_hole_0 13 rfl rfl)
theorem dX3_hole_16 : decode cX3_hole 16 = .ok (.ifCond .ne 5, 3) := dk_154 0 5 (dk_at dksX3_hole_0 16 rfl rfl)
theorem dX3_hole_19 : decode cX3_hole 19 = .ok (.iconst (-1), 1) := dk_2 (dk_at dksX3_hole_0 19 rfl rfl)
theorem dX3_hole_20 : decode cX3_hole 20 = .ok (.ireturn, 1) := dk_172 (dk_at dksX3_hole_0 20 rfl rfl)
theorem dX3_hole_21 : decode cX3_hole 21 = .ok (.aload_n 0, 1) := dk_42 (dk_at dksX3_hole_0 21 rfl rfl)
theorem dX3_hole_22 : decode cX3_hole 22 = .ok (.invokevirtual 158, 3) := dk_182 0 158 (dk_at dksX3_hole_1 0 rfl rfl)
theorem dX3_hole_25 : decode cX3_hole 25 = .ok (.aload_n 0, 1) := dk_42 (dk_at dksX3_hole_1 3 rfl rfl)
theorem dX3_hole_26 : decode cX3_hole 26 = .ok (.getfield 73, 3) := dk_180 0 73 (dk_at dksX3_hole_1 4 rfl rfl)
theorem dX3_hole_29 : decode cX3_hole 29 = .ok (.iload_n 1, 1) := dk_27 (dk_at dksX3_hole_1 7 rfl rfl)
theorem dX3_hole_30 : decode cX3_hole 30 = .ok (.invokestatic 69, 3) := dk_184 0 69 (dk_at dksX3_hole_1 8 rfl rfl)
theorem dX3_hole_33 : decode cX3_hole 33 = .ok (.ifCond .ne 6, 3) := dk_154 0 6 (dk_at dksX3_hole_1 11 rfl rfl)
theorem dX3_hole_36 : decode cX3_hole 36 = .ok (.bipush (-2), 2) := dk_16 254 (dk_at dksX3_hole_1 14 rfl rfl)
theorem dX3_hole_38 : decode cX3_hole 38 = .ok (.ireturn, 1) := dk_172 (dk_at dksX3_hole_1 16 rfl rfl)
theorem dX3_hole_39 : decode cX3_hole 39 = .ok (.aload_n 0, 1) := dk_42 (dk_at dksX3_hole_1 17 rfl rfl)
theorem dX3_hole_40 : decode cX3_hole 40 = .ok (.iload_n 1, 1) := dk_27 (dk_at dksX3_hole_1 18 rfl rfl)
theorem dX3_hole_41 : decode cX3_hole 41 = .ok (.invokevirtual 129, 3) := dk_182 0 129 (dk_at dksX3_hole_1 19 rfl rfl)
theorem dX3_hole_44 : decode cX3_hole 44 = .ok (.lstore_n 3, 1) := dk_66 (dk_at dksX3_hole_1 22 rfl rfl)
theorem dX3_hole_45 : decode cX3_hole 45 = .ok (.iload_n 2, 1) := dk_28 (dk_at dksX3_hole_1 23 rfl rfl)
theorem dX3_hole_46 : decode cX3_hole 46 = .ok (.tableswitch 85 0 6 #[42, 47, 53, 59, 64, 73, 79], 42) := by decide +kernel
theorem dX3_hole_88 : decode cX3_hole 88 = .ok (.lload_n 3, 1) := dk_33 (dk_at dksX3_hole_3 0 rfl rfl)
theorem dX3_hole_89 : decode cX3_hole 89 = .ok (.invokestatic 96, 3) := dk_184 0 96 (dk_at dksX3_hole_3 1 rfl rfl)
theorem dX3_hole_92 : decode cX3_hole 92 = .ok (.ireturn, 1) := dk_172 (dk_at dksX3_hole_3 4 rfl rfl)
theorem dX3_hole_93 : decode cX3_hole 93 = .ok (.aload_n 0, 1) := dk_42 (dk_at dksX3_hole_3 5 rfl rfl)
theorem dX3_hole_94 : decode cX3_hole 94 = .ok (.lload_n 3, 1) := dk_33 (dk_at dksX3_hole_3 6 rfl rfl)
theorem dX3_hole_95 : decode cX3_hole 95 = .ok (.invokevirtual 117, 3) := dk_182 0 117 (dk_at dksX3_hole_3 7 rfl rfl)
theorem dX3_hole_98 : decode cX3_hole 98 = .ok (.ireturn, 1) := dk_172 (dk_at dksX3_hole_3 10 rfl rfl)
theorem dX3_hole_99 : decode cX3_hole 99 = .ok (.aload_n 0, 1) := dk_42 (dk_at dksX3_hole_3 11 rfl rfl)
theorem dX3_hole_100 : decode cX3_hole 100 = .ok (.lload_n 3, 1) := dk_33 (dk_at dksX3_hole_3 12 rfl rfl)
theorem dX3_hole_101 : decode cX3_hole 101 = .ok (.invokevirtual 136, 3) := dk_182 0 136 (dk_at dksX3_hole_3 13 rfl rfl)
theorem dX3_hole_104 : decode cX3_hole 104 = .ok (.ireturn, 1) := dk_172 (dk_at dksX3_hole_3 16 rfl rfl)
theorem dX3_hole_105 : decode cX3_hole 105 = .ok (.lload_n 3, 1) := dk_33 (dk_at dksX3_hole_3 17 rfl rfl)
theorem dX3_hole_106 : decode cX3_hole 106 = .ok (.invokestatic 120, 3) := dk_184 0 120 (dk_at dksX3_hole_3 18 rfl rfl)
theorem dX3_hole_109 : decode cX3_hole 109 = .ok (.ireturn, 1) := dk_172 (dk_at dksX3_hole_3 21 rfl rfl)
theorem dX3_hole_110 : decode cX3_hole 110 = .ok (.aload_n 0, 1) := dk_42 (dk_at dksX3_hole_3 22 rfl rfl)
theorem dX3_hole_111 : decode cX3_hole 111 = .ok (.lload_n 3, 1) := dk_33 (dk_at dksX3_hole_3 23 rfl rfl)
theorem dX3_hole_112 : decode cX3_hole 112 = .ok (.invokevirtual 219, 3) := dk_182 0 219 (dk_at dksX3_hole_4 0 rfl rfl)
theorem dX3_hole_115 : decode cX3_hole 115 = .ok (.invokestatic 96, 3) := dk_184 0 96 (dk_at dksX3_hole_4 3 rfl rfl)
theorem dX3_hole_118 : decode cX3_hole 118 = .ok (.ireturn, 1) := dk_172 (dk_at dksX3_hole_4 6 rfl rfl)
theorem dX3_hole_119 : decode cX3_hole 119 = .ok (.aload_n 0, 1) := dk_42 (dk_at dksX3_hole_4 7 rfl rfl)
theorem dX3_hole_120 : decode cX3_hole 120 = .ok (.lload_n 3, 1) := dk_33 (dk_at dksX3_hole_4 8 rfl rfl)
theorem dX3_hole_121 : decode cX3_hole 121 = .ok (.invokevirtual 230, 3) := dk_182 0 230 (dk_at dksX3_hole_4 9 rfl rfl)
theorem dX3_hole_124 : decode cX3_hole 124 = .ok (.ireturn, 1) := dk_172 (dk_at dksX3_hole_4 12 rfl rfl)
theorem dX3_hole_125 : decode cX3_hole 125 = .ok (.aload_n 0, 1) := dk_42 (dk_at dksX3_hole_4 13 rfl rfl)
theorem dX3_hole_126 : decode cX3_hole 126 = .ok (.lload_n 3, 1) := dk_33 (dk_at dksX3_hole_4 14 rfl rfl)
theorem dX3_hole_127 : decode cX3_hole 127 = .ok (.invokevirtual 233, 3) := dk_182 0 233 (dk_at dksX3_hole_4 15 rfl rfl)
theorem dX3_hole_130 : decode cX3_hole 130 = .ok (.ireturn, 1) := dk_172 (dk_at dksX3_hole_4 18 rfl rfl)
theorem dX3_hole_131 : decode cX3_hole 131 = .ok (.lload_n 3, 1) := dk_33 (dk_at dksX3_hole_4 19 rfl rfl)
theorem dX3_hole_132 : decode cX3_hole 132 = .ok (.invokestatic 236, 3) := dk_184 0 236 (dk_at dksX3_hole_4 20 rfl rfl)
theorem dX3_hole_135 : decode cX3_hole 135 = .ok (.ireturn, 1) := dk_172 (dk_at dksX3_hole_4 23 rfl rfl)
abbrev cX3_rimOf : ByteArray := prog_12_method_11_code
def yX3_rimOf : MethodName := ⟨RX3, "rimOf", "(J)J"⟩
def dkwX3_rimOf_0 : List UInt8 := [31, 184, 0, 86, 42, 180, 0, 73, 20, 0, 94, 131, 127, 173]
abbrev dktX3_rimOf_0 : List UInt8 := dkwX3_rimOf_0 ++ []
theorem dksX3_rimOf_0 : cX3_rimOf.data.toList.drop 0 = dktX3_rimOf_0 := by decide +kernel
theorem dX3_rimOf_0 : decode cX3_rimOf 0 = .ok (.lload_n 1, 1) := dk_31 (dk_at dksX3_rimOf_0 0 rfl rfl)
theorem dX3_rimOf_1 : decode cX3_rimOf 1 = .ok (.invokestatic 86, 3) := dk_184 0 86 (dk_at dksX3_rimOf_0 1 rfl rfl)
theorem dX3_rimOf_4 : decode cX3_rimOf 4 = .ok (.aload_n 0, 1) := dk_42 (dk_at dksX3_rimOf_0 4 rfl rfl)
theorem dX3_rimOf_5 : decode cX3_rimOf 5 = .ok (.getfield 73, 3) := dk_180 0 73 (dk_at dksX3_rimOf_0 5 rfl rfl)
theorem dX3_rimOf_8 : decode cX3_rimOf 8 = .ok (.ldc2_w 94, 3) := dk_20 0 94 (dk_at dksX3_rimOf_0 8 rfl rfl)
theorem dX3_rimOf_11 : decode cX3_rimOf 11 = .ok (.lxor, 1) := dk_131 (dk_at dksX3_rimOf_0 11 rfl rfl)
theorem dX3_rimOf_12 : decode cX3_rimOf 12 = .ok (.land, 1) := dk_127 (dk_at dksX3_rimOf_0 12 rfl rfl)
theorem dX3_rimOf_13 : decode cX3_rimOf 13 = .ok (.lreturn, 1) := dk_173 (dk_at dksX3_rimOf_0 13 rfl rfl)
abbrev cX3_ownerOf : ByteArray := prog_12_method_41_code
def yX3_ownerOf : MethodName := ⟨RX3, "ownerOf", "(J)I"⟩
def dkwX3_ownerOf_2 : List UInt8 := [21, 6, 21, 4, 164, 0, 8, 21, 6, 167, 0, 5, 21, 4, 54, 4, 132, 5, 1, 167, 255, 200, 29, 172]
abbrev dktX3_ownerOf_2 : List UInt8 := dkwX3_ownerOf_2 ++ []
def dkwX3_ownerOf_1 : List UInt8 := [182, 0, 222, 127, 184, 0, 96, 54, 6, 21, 6, 21, 4, 164, 0, 8, 21, 5, 167, 0, 4, 29, 62]
abbrev dktX3_ownerOf_1 : List UInt8 := dkwX3_ownerOf_1 ++ dktX3_ownerOf_2
def dkwX3_ownerOf_0 : List UInt8 := [7, 62, 3, 54, 4, 3, 54, 5, 21, 5, 7, 162, 0, 56, 42, 31, 182, 0, 219, 42, 21, 5]
abbrev dktX3_ownerOf_0 : List UInt8 := dkwX3_ownerOf_0 ++ dktX3_ownerOf_1
theorem dksX3_ownerOf_0 : cX3_ownerOf.data.toList.drop 0 = dktX3_ownerOf_0 := by decide +kernel
theorem dksX3_ownerOf_1 : cX3_ownerOf.data.toList.drop 22 = dktX3_ownerOf_1 := dk_seg dksX3_ownerOf_0 22 rfl rfl
theorem dksX3_ownerOf_2 : cX3_ownerOf.data.toList.drop 45 = dktX3_ownerOf_2 := dk_seg dksX3_ownerOf_1 23 rfl rfl
theorem dX3_ownerOf_0 : decode cX3_ownerOf 0 = .ok (.iconst 4, 1) := dk_7 (dk_at dksX3_ownerOf_0 0 rfl rfl)
theorem dX3_ownerOf_1 : decode cX3_ownerOf 1 = .ok (.istore_n 3, 1) := dk_62 (dk_at dksX3_ownerOf_0 1 rfl rfl)
theorem dX3_ownerOf_2 : decode cX3_ownerOf 2 = .ok (.iconst 0, 1) := dk_3 (dk_at dksX3_ownerOf_0 2 rfl rfl)
theorem dX3_ownerOf_3 : decode cX3_ownerOf 3 = .ok (.istore 4, 2) := dk_54 4 (dk_at dksX3_ownerOf_0 3 rfl rfl)
theorem dX3_ownerOf_5 : decode cX3_ownerOf 5 = .ok (.iconst 0, 1) := dk_3 (dk_at dksX3_ownerOf_0 5 rfl rfl)
theorem dX3_ownerOf_6 : decode cX3_ownerOf 6 = .ok (.istore 5, 2) := dk_54 5 (dk_at dksX3_ownerOf_0 6 rfl rfl)
theorem dX3_ownerOf_8 : decode cX3_ownerOf 8 = .ok (.iload 5, 2) := dk_21 5 (dk_at dksX3_ownerOf_0 8 rfl rfl)
theorem dX3_ownerOf_10 : decode cX3_ownerOf 10 = .ok (.iconst 4, 1) := dk_7 (dk_at dksX3_ownerOf_0 10 rfl rfl)
theorem dX3_ownerOf_11 : decode cX3_ownerOf 11 = .ok (.if_icmp .ge 56, 3) := dk_162 0 56 (dk_at dksX3_ownerOf_0 11 rfl rfl)
theorem dX3_ownerOf_14 : decode cX3_ownerOf 14 = .ok (.aload_n 0, 1) := dk_42 (dk_at dksX3_ownerOf_0 14 rfl rfl)
theorem dX3_ownerOf_15 : decode cX3_ownerOf 15 = .ok (.lload_n 1, 1) := dk_31 (dk_at dksX3_ownerOf_0 15 rfl rfl)
theorem dX3_ownerOf_16 : decode cX3_ownerOf 16 = .ok (.invokevirtual 219, 3) := dk_182 0 219 (dk_at dksX3_ownerOf_0 16 rfl rfl)
theorem dX3_ownerOf_19 : decode cX3_ownerOf 19 = .ok (.aload_n 0, 1) := dk_42 (dk_at dksX3_ownerOf_0 19 rfl rfl)
theorem dX3_ownerOf_20 : decode cX3_ownerOf 20 = .ok (.iload 5, 2) := dk_21 5 (dk_at dksX3_ownerOf_0 20 rfl rfl)
theorem dX3_ownerOf_22 : decode cX3_ownerOf 22 = .ok (.invokevirtual 222, 3) := dk_182 0 222 (dk_at dksX3_ownerOf_1 0 rfl rfl)
theorem dX3_ownerOf_25 : decode cX3_ownerOf 25 = .ok (.land, 1) := dk_127 (dk_at dksX3_ownerOf_1 3 rfl rfl)
theorem dX3_ownerOf_26 : decode cX3_ownerOf 26 = .ok (.invokestatic 96, 3) := dk_184 0 96 (dk_at dksX3_ownerOf_1 4 rfl rfl)
theorem dX3_ownerOf_29 : decode cX3_ownerOf 29 = .ok (.istore 6, 2) := dk_54 6 (dk_at dksX3_ownerOf_1 7 rfl rfl)
theorem dX3_ownerOf_31 : decode cX3_ownerOf 31 = .ok (.iload 6, 2) := dk_21 6 (dk_at dksX3_ownerOf_1 9 rfl rfl)
theorem dX3_ownerOf_33 : decode cX3_ownerOf 33 = .ok (.iload 4, 2) := dk_21 4 (dk_at dksX3_ownerOf_1 11 rfl rfl)
theorem dX3_ownerOf_35 : decode cX3_ownerOf 35 = .ok (.if_icmp .le 8, 3) := dk_164 0 8 (dk_at dksX3_ownerOf_1 13 rfl rfl)
theorem dX3_ownerOf_38 : decode cX3_ownerOf 38 = .ok (.iload 5, 2) := dk_21 5 (dk_at dksX3_ownerOf_1 16 rfl rfl)
theorem dX3_ownerOf_40 : decode cX3_ownerOf 40 = .ok (.goto 4, 3) := dk_167 0 4 (dk_at dksX3_ownerOf_1 18 rfl rfl)
theorem dX3_ownerOf_43 : decode cX3_ownerOf 43 = .ok (.iload_n 3, 1) := dk_29 (dk_at dksX3_ownerOf_1 21 rfl rfl)
theorem dX3_ownerOf_44 : decode cX3_ownerOf 44 = .ok (.istore_n 3, 1) := dk_62 (dk_at dksX3_ownerOf_1 22 rfl rfl)
theorem dX3_ownerOf_45 : decode cX3_ownerOf 45 = .ok (.iload 6, 2) := dk_21 6 (dk_at dksX3_ownerOf_2 0 rfl rfl)
theorem dX3_ownerOf_47 : decode cX3_ownerOf 47 = .ok (.iload 4, 2) := dk_21 4 (dk_at dksX3_ownerOf_2 2 rfl rfl)
theorem dX3_ownerOf_49 : decode cX3_ownerOf 49 = .ok (.if_icmp .le 8, 3) := dk_164 0 8 (dk_at dksX3_ownerOf_2 4 rfl rfl)
theorem dX3_ownerOf_52 : decode cX3_ownerOf 52 = .ok (.iload 6, 2) := dk_21 6 (dk_at dksX3_ownerOf_2 7 rfl rfl)
theorem dX3_ownerOf_54 : decode cX3_ownerOf 54 = .ok (.goto 5, 3) := dk_167 0 5 (dk_at dksX3_ownerOf_2 9 rfl rfl)
theorem dX3_ownerOf_57 : decode cX3_ownerOf 57 = .ok (.iload 4, 2) := dk_21 4 (dk_at dksX3_ownerOf_2 12 rfl rfl)
theorem dX3_ownerOf_59 : decode cX3_ownerOf 59 = .ok (.istore 4, 2) := dk_54 4 (dk_at dksX3_ownerOf_2 14 rfl rfl)
theorem dX3_ownerOf_61 : decode cX3_ownerOf 61 = .ok (.iinc 5 1, 3) := dk_132 5 1 (dk_at dksX3_ownerOf_2 16 rfl rfl)
theorem dX3_ownerOf_64 : decode cX3_ownerOf 64 = .ok (.goto (-56), 3) := dk_167 255 200 (dk_at dksX3_ownerOf_2 19 rfl rfl)
theorem dX3_ownerOf_67 : decode cX3_ownerOf 67 = .ok (.iload_n 3, 1) := dk_29 (dk_at dksX3_ownerOf_2 22 rfl rfl)
theorem dX3_ownerOf_68 : decode cX3_ownerOf 68 = .ok (.ireturn, 1) := dk_172 (dk_at dksX3_ownerOf_2 23 rfl rfl)
abbrev cX3_owned : ByteArray := prog_12_method_40_code
def yX3_owned : MethodName := ⟨RX3, "owned", "(I)J"⟩
def dkwX3_owned_1 : List UInt8 := [10, 21, 4, 121, 167, 0, 4, 9, 129, 65, 132, 4, 1, 167, 255, 224, 32, 173]
abbrev dktX3_owned_1 : List UInt8 := dkwX3_owned_1 ++ []
def dkwX3_owned_0 : List UInt8 := [9, 65, 3, 54, 4, 21, 4, 16, 36, 162, 0, 31, 32, 42, 180, 0, 13, 21, 4, 46, 27, 160, 0, 10]
abbrev dktX3_owned_0 : List UInt8 := dkwX3_owned_0 ++ dktX3_owned_1
theorem dksX3_owned_0 : cX3_owned.data.toList.drop 0 = dktX3_owned_0 := by decide +kernel
theorem dksX3_owned_1 : cX3_owned.data.toList.drop 24 = dktX3_owned_1 := dk_seg dksX3_owned_0 24 rfl rfl
theorem dX3_owned_0 : decode cX3_owned 0 = .ok (.lconst 0, 1) := dk_9 (dk_at dksX3_owned_0 0 rfl rfl)
theorem dX3_owned_1 : decode cX3_owned 1 = .ok (.lstore_n 2, 1) := dk_65 (dk_at dksX3_owned_0 1 rfl rfl)
theorem dX3_owned_2 : decode cX3_owned 2 = .ok (.iconst 0, 1) := dk_3 (dk_at dksX3_owned_0 2 rfl rfl)
theorem dX3_owned_3 : decode cX3_owned 3 = .ok (.istore 4, 2) := dk_54 4 (dk_at dksX3_owned_0 3 rfl rfl)
theorem dX3_owned_5 : decode cX3_owned 5 = .ok (.iload 4, 2) := dk_21 4 (dk_at dksX3_owned_0 5 rfl rfl)
theorem dX3_owned_7 : decode cX3_owned 7 = .ok (.bipush 36, 2) := dk_16 36 (dk_at dksX3_owned_0 7 rfl rfl)
theorem dX3_owned_9 : decode cX3_owned 9 = .ok (.if_icmp .ge 31, 3) := dk_162 0 31 (dk_at dksX3_owned_0 9 rfl rfl)
theorem dX3_owned_12 : decode cX3_owned 12 = .ok (.lload_n 2, 1) := dk_32 (dk_at dksX3_owned_0 12 rfl rfl)
theorem dX3_owned_13 : decode cX3_owned 13 = .ok (.aload_n 0, 1) := dk_42 (dk_at dksX3_owned_0 13 rfl rfl)
theorem dX3_owned_14 : decode cX3_owned 14 = .ok (.getfield 13, 3) := dk_180 0 13 (dk_at dksX3_owned_0 14 rfl rfl)
theorem dX3_owned_17 : decode cX3_owned 17 = .ok (.iload 4, 2) := dk_21 4 (dk_at dksX3_owned_0 17 rfl rfl)
theorem dX3_owned_19 : decode cX3_owned 19 = .ok (.iaload, 1) := dk_46 (dk_at dksX3_owned_0 19 rfl rfl)
theorem dX3_owned_20 : decode cX3_owned 20 = .ok (.iload_n 1, 1) := dk_27 (dk_at dksX3_owned_0 20 rfl rfl)
theorem dX3_owned_21 : decode cX3_owned 21 = .ok (.if_icmp .ne 10, 3) := dk_160 0 10 (dk_at dksX3_owned_0 21 rfl rfl)
theorem dX3_owned_24 : decode cX3_owned 24 = .ok (.lconst 1, 1) := dk_10 (dk_at dksX3_owned_1 0 rfl rfl)
theorem dX3_owned_25 : decode cX3_owned 25 = .ok (.iload 4, 2) := dk_21 4 (dk_at dksX3_owned_1 1 rfl rfl)
theorem dX3_owned_27 : decode cX3_owned 27 = .ok (.lshl, 1) := dk_121 (dk_at dksX3_owned_1 3 rfl rfl)
theorem dX3_owned_28 : decode cX3_owned 28 = .ok (.goto 4, 3) := dk_167 0 4 (dk_at dksX3_owned_1 4 rfl rfl)
theorem dX3_owned_31 : decode cX3_owned 31 = .ok (.lconst 0, 1) := dk_9 (dk_at dksX3_owned_1 7 rfl rfl)
theorem dX3_owned_32 : decode cX3_owned 32 = .ok (.lor, 1) := dk_129 (dk_at dksX3_owned_1 8 rfl rfl)
theorem dX3_owned_33 : decode cX3_owned 33 = .ok (.lstore_n 2, 1) := dk_65 (dk_at dksX3_owned_1 9 rfl rfl)
theorem dX3_owned_34 : decode cX3_owned 34 = .ok (.iinc 4 1, 3) := dk_132 4 1 (dk_at dksX3_owned_1 10 rfl rfl)
theorem dX3_owned_37 : decode cX3_owned 37 = .ok (.goto (-32), 3) := dk_167 255 224 (dk_at dksX3_owned_1 13 rfl rfl)
theorem dX3_owned_40 : decode cX3_owned 40 = .ok (.lload_n 2, 1) := dk_32 (dk_at dksX3_owned_1 16 rfl rfl)
theorem dX3_owned_41 : decode cX3_owned 41 = .ok (.lreturn, 1) := dk_173 (dk_at dksX3_owned_1 17 rfl rfl)
abbrev cX3_nestedOf : ByteArray := prog_12_method_42_code
def yX3_nestedOf : MethodName := ⟨RX3, "nestedOf", "(J)I"⟩
def dkwX3_nestedOf_2 : List UInt8 := [9, 148, 154, 0, 7, 4, 167, 0, 4, 3, 96, 62, 132, 4, 1, 167, 255, 203, 29, 172]
abbrev dktX3_nestedOf_2 : List UInt8 := dkwX3_nestedOf_2 ++ []
def dkwX3_nestedOf_1 : List UInt8 := [21, 4, 47, 31, 148, 153, 0, 28, 31, 42, 180, 0, 26, 21, 4, 47, 184, 0, 225, 20, 0, 94, 131, 127]
abbrev dktX3_nestedOf_1 : List UInt8 := dkwX3_nestedOf_1 ++ dktX3_nestedOf_2
def dkwX3_nestedOf_0 : List UInt8 := [42, 182, 0, 133, 3, 62, 3, 54, 4, 21, 4, 42, 180, 0, 123, 162, 0, 50, 29, 42, 180, 0, 26]
abbrev dktX3_nestedOf_0 : List UInt8 := dkwX3_nestedOf_0 ++ dktX3_nestedOf_1
theorem dksX3_nestedOf_0 : cX3_nestedOf.data.toList.drop 0 = dktX3_nestedOf_0 := by decide +kernel
theorem dksX3_nestedOf_1 : cX3_nestedOf.data.toList.drop 23 = dktX3_nestedOf_1 := dk_seg dksX3_nestedOf_0 23 rfl rfl
theorem dksX3_nestedOf_2 : cX3_nestedOf.data.toList.drop 47 = dktX3_nestedOf_2 := dk_seg dksX3_nestedOf_1 24 rfl rfl
theorem dX3_nestedOf_0 : decode cX3_nestedOf 0 = .ok (.aload_n 0, 1) := dk_42 (dk_at dksX3_nestedOf_0 0 rfl rfl)
theorem dX3_nestedOf_1 : decode cX3_nestedOf 1 = .ok (.invokevirtual 133, 3) := dk_182 0 133 (dk_at dksX3_nestedOf_0 1 rfl rfl)
theorem dX3_nestedOf_4 : decode cX3_nestedOf 4 = .ok (.iconst 0, 1) := dk_3 (dk_at dksX3_nestedOf_0 4 rfl rfl)
theorem dX3_nestedOf_5 : decode cX3_nestedOf 5 = .ok (.istore_n 3, 1) := dk_62 (dk_at dksX3_nestedOf_0 5 rfl rfl)
theorem dX3_nestedOf_6 : decode cX3_nestedOf 6 = .ok (.iconst 0, 1) := dk_3 (dk_at dksX3_nestedOf_0 6 rfl rfl)
theorem dX3_nestedOf_7 : decode cX3_nestedOf 7 = .ok (.istore 4, 2) := dk_54 4 (dk_at dksX3_nestedOf_0 7 rfl rfl)
theorem dX3_nestedOf_9 : decode cX3_nestedOf 9 = .ok (.iload 4, 2) := dk_21 4 (dk_at dksX3_nestedOf_0 9 rfl rfl)
theorem dX3_nestedOf_11 : decode cX3_nestedOf 11 = .ok (.aload_n 0, 1) := dk_42 (dk_at dksX3_nestedOf_0 11 rfl rfl)
theorem dX3_nestedOf_12 : decode cX3_nestedOf 12 = .ok (.getfield 123, 3) := dk_180 0 123 (dk_at dksX3_nestedOf_0 12 rfl rfl)
theorem dX3_nestedOf_15 : decode cX3_nestedOf 15 = .ok (.if_icmp .ge 50, 3) := dk_162 0 50 (dk_at dksX3_nestedOf_0 15 rfl rfl)
theorem dX3_nestedOf_18 : decode cX3_nestedOf 18 = .ok (.iload_n 3, 1) := dk_29 (dk_at dksX3_nestedOf_0 18 rfl rfl)
theorem dX3_nestedOf_19 : decode cX3_nestedOf 19 = .ok (.aload_n 0, 1) := dk_42 (dk_at dksX3_nestedOf_0 19 rfl rfl)
theorem dX3_nestedOf_20 : decode cX3_nestedOf 20 = .ok (.getfield 26, 3) := dk_180 0 26 (dk_at dksX3_nestedOf_0 20 rfl rfl)
theorem dX3_nestedOf_23 : decode cX3_nestedOf 23 = .ok (.iload 4, 2) := dk_21 4 (dk_at dksX3_nestedOf_1 0 rfl rfl)
theorem dX3_nestedOf_25 : decode cX3_nestedOf 25 = .ok (.laload, 1) := dk_47 (dk_at dksX3_nestedOf_1 2 rfl rfl)
theorem dX3_nestedOf_26 : decode cX3_nestedOf 26 = .ok (.lload_n 1, 1) := dk_31 (dk_at dksX3_nestedOf_1 3 rfl rfl)
theorem dX3_nestedOf_27 : decode cX3_nestedOf 27 = .ok (.lcmp, 1) := dk_148 (dk_at dksX3_nestedOf_1 4 rfl rfl)
theorem dX3_nestedOf_28 : decode cX3_nestedOf 28 = .ok (.ifCond .eq 28, 3) := dk_153 0 28 (dk_at dksX3_nestedOf_1 5 rfl rfl)
theorem dX3_nestedOf_31 : decode cX3_nestedOf 31 = .ok (.lload_n 1, 1) := dk_31 (dk_at dksX3_nestedOf_1 8 rfl rfl)
theorem dX3_nestedOf_32 : decode cX3_nestedOf 32 = .ok (.aload_n 0, 1) := dk_42 (dk_at dksX3_nestedOf_1 9 rfl rfl)
theorem dX3_nestedOf_33 : decode cX3_nestedOf 33 = .ok (.getfield 26, 3) := dk_180 0 26 (dk_at dksX3_nestedOf_1 10 rfl rfl)
theorem dX3_nestedOf_36 : decode cX3_nestedOf 36 = .ok (.iload 4, 2) := dk_21 4 (dk_at dksX3_nestedOf_1 13 rfl rfl)
theorem dX3_nestedOf_38 : decode cX3_nestedOf 38 = .ok (.laload, 1) := dk_47 (dk_at dksX3_nestedOf_1 15 rfl rfl)
theorem dX3_nestedOf_39 : decode cX3_nestedOf 39 = .ok (.invokestatic 225, 3) := dk_184 0 225 (dk_at dksX3_nestedOf_1 16 rfl rfl)
theorem dX3_nestedOf_42 : decode cX3_nestedOf 42 = .ok (.ldc2_w 94, 3) := dk_20 0 94 (dk_at dksX3_nestedOf_1 19 rfl rfl)
theorem dX3_nestedOf_45 : decode cX3_nestedOf 45 = .ok (.lxor, 1) := dk_131 (dk_at dksX3_nestedOf_1 22 rfl rfl)
theorem dX3_nestedOf_46 : decode cX3_nestedOf 46 = .ok (.land, 1) := dk_127 (dk_at dksX3_nestedOf_1 23 rfl rfl)
theorem dX3_nestedOf_47 : decode cX3_nestedOf 47 = .ok (.lconst 0, 1) := dk_9 (dk_at dksX3_nestedOf_2 0 rfl rfl)
theorem dX3_nestedOf_48 : decode cX3_nestedOf 48 = .ok (.lcmp, 1) := dk_148 (dk_at dksX3_nestedOf_2 1 rfl rfl)
theorem dX3_nestedOf_49 : decode cX3_nestedOf 49 = .ok (.ifCond .ne 7, 3) := dk_154 0 7 (dk_at dksX3_nestedOf_2 2 rfl rfl)
theorem dX3_nestedOf_52 : decode cX3_nestedOf 52 = .ok (.iconst 1, 1) := dk_4 (dk_at dksX3_nestedOf_2 5 rfl rfl)
theorem dX3_nestedOf_53 : decode cX3_nestedOf 53 = .ok (.goto 4, 3) := dk_167 0 4 (dk_at dksX3_nestedOf_2 6 rfl rfl)
theorem dX3_nestedOf_56 : decode cX3_nestedOf 56 = .ok (.iconst 0, 1) := dk_3 (dk_at dksX3_nestedOf_2 9 rfl rfl)
theorem dX3_nestedOf_57 : decode cX3_nestedOf 57 = .ok (.iadd, 1) := dk_96 (dk_at dksX3_nestedOf_2 10 rfl rfl)
theorem dX3_nestedOf_58 : decode cX3_nestedOf 58 = .ok (.istore_n 3, 1) := dk_62 (dk_at dksX3_nestedOf_2 11 rfl rfl)
theorem dX3_nestedOf_59 : decode cX3_nestedOf 59 = .ok (.iinc 4 1, 3) := dk_132 4 1 (dk_at dksX3_nestedOf_2 12 rfl rfl)
theorem dX3_nestedOf_62 : decode cX3_nestedOf 62 = .ok (.goto (-53), 3) := dk_167 255 203 (dk_at dksX3_nestedOf_2 15 rfl rfl)
theorem dX3_nestedOf_65 : decode cX3_nestedOf 65 = .ok (.iload_n 3, 1) := dk_29 (dk_at dksX3_nestedOf_2 18 rfl rfl)
theorem dX3_nestedOf_66 : decode cX3_nestedOf 66 = .ok (.ireturn, 1) := dk_172 (dk_at dksX3_nestedOf_2 19 rfl rfl)
abbrev cX3_withinOf : ByteArray := prog_12_method_14_code
def yX3_withinOf : MethodName := ⟨RX3, "withinOf", "(J)J"⟩
def dkwX3_withinOf_0 : List UInt8 := [20, 0, 84, 30, 20, 0, 94, 131, 127, 65, 32, 184, 0, 102, 32, 184, 0, 90, 20, 0, 94, 131, 127, 173]
abbrev dktX3_withinOf_0 : List UInt8 := dkwX3_withinOf_0 ++ []
theorem dksX3_withinOf_0 : cX3_withinOf.data.toList.drop 0 = dktX3_withinOf_0 := by decide +kernel
theorem dX3_withinOf_0 : decode cX3_withinOf 0 = .ok (.ldc2_w 84, 3) := dk_20 0 84 (dk_at dksX3_withinOf_0 0 rfl rfl)
theorem dX3_withinOf_3 : decode cX3_withinOf 3 = .ok (.lload_n 0, 1) := dk_30 (dk_at dksX3_withinOf_0 3 rfl rfl)
theorem dX3_withinOf_4 : decode cX3_withinOf 4 = .ok (.ldc2_w 94, 3) := dk_20 0 94 (dk_at dksX3_withinOf_0 4 rfl rfl)
theorem dX3_withinOf_7 : decode cX3_withinOf 7 = .ok (.lxor, 1) := dk_131 (dk_at dksX3_withinOf_0 7 rfl rfl)
theorem dX3_withinOf_8 : decode cX3_withinOf 8 = .ok (.land, 1) := dk_127 (dk_at dksX3_withinOf_0 8 rfl rfl)
theorem dX3_withinOf_9 : decode cX3_withinOf 9 = .ok (.lstore_n 2, 1) := dk_65 (dk_at dksX3_withinOf_0 9 rfl rfl)
theorem dX3_withinOf_10 : decode cX3_withinOf 10 = .ok (.lload_n 2, 1) := dk_32 (dk_at dksX3_withinOf_0 10 rfl rfl)
theorem dX3_withinOf_11 : decode cX3_withinOf 11 = .ok (.invokestatic 102, 3) := dk_184 0 102 (dk_at dksX3_withinOf_0 11 rfl rfl)
theorem dX3_withinOf_14 : decode cX3_withinOf 14 = .ok (.lload_n 2, 1) := dk_32 (dk_at dksX3_withinOf_0 14 rfl rfl)
theorem dX3_withinOf_15 : decode cX3_withinOf 15 = .ok (.invokestatic 90, 3) := dk_184 0 90 (dk_at dksX3_withinOf_0 15 rfl rfl)
theorem dX3_withinOf_18 : decode cX3_withinOf 18 = .ok (.ldc2_w 94, 3) := dk_20 0 94 (dk_at dksX3_withinOf_0 18 rfl rfl)
theorem dX3_withinOf_21 : decode cX3_withinOf 21 = .ok (.lxor, 1) := dk_131 (dk_at dksX3_withinOf_0 21 rfl rfl)
theorem dX3_withinOf_22 : decode cX3_withinOf 22 = .ok (.land, 1) := dk_127 (dk_at dksX3_withinOf_0 22 rfl rfl)
theorem dX3_withinOf_23 : decode cX3_withinOf 23 = .ok (.lreturn, 1) := dk_173 (dk_at dksX3_withinOf_0 23 rfl rfl)
abbrev cX3_largestOf : ByteArray := prog_12_method_43_code
def yX3_largestOf : MethodName := ⟨RX3, "largestOf", "(J)I"⟩
def dkwX3_largestOf_2 : List UInt8 := [28, 172]
abbrev dktX3_largestOf_2 : List UInt8 := dkwX3_largestOf_2 ++ []
def dkwX3_largestOf_1 : List UInt8 := [55, 6, 33, 22, 6, 127, 33, 16, 6, 123, 127, 22, 6, 16, 6, 123, 127, 66, 132, 5, 1, 167, 255, 219]
abbrev dktX3_largestOf_1 : List UInt8 := dkwX3_largestOf_1 ++ dktX3_largestOf_2
def dkwX3_largestOf_0 : List UInt8 := [3, 61, 30, 66, 4, 54, 5, 33, 9, 148, 153, 0, 37, 21, 5, 61, 33, 20, 0, 80, 127, 4, 123]
abbrev dktX3_largestOf_0 : List UInt8 := dkwX3_largestOf_0 ++ dktX3_largestOf_1
theorem dksX3_largestOf_0 : cX3_largestOf.data.toList.drop 0 = dktX3_largestOf_0 := by decide +kernel
theorem dksX3_largestOf_1 : cX3_largestOf.data.toList.drop 23 = dktX3_largestOf_1 := dk_seg dksX3_largestOf_0 23 rfl rfl
theorem dksX3_largestOf_2 : cX3_largestOf.data.toList.drop 47 = dktX3_largestOf_2 := dk_seg dksX3_largestOf_1 24 rfl rfl
theorem dX3_largestOf_0 : decode cX3_largestOf 0 = .ok (.iconst 0, 1) := dk_3 (dk_at dksX3_largestOf_0 0 rfl rfl)
theorem dX3_largestOf_1 : decode cX3_largestOf 1 = .ok (.istore_n 2, 1) := dk_61 (dk_at dksX3_largestOf_0 1 rfl rfl)
theorem dX3_largestOf_2 : decode cX3_largestOf 2 = .ok (.lload_n 0, 1) := dk_30 (dk_at dksX3_largestOf_0 2 rfl rfl)
theorem dX3_largestOf_3 : decode cX3_largestOf 3 = .ok (.lstore_n 3, 1) := dk_66 (dk_at dksX3_largestOf_0 3 rfl rfl)
theorem dX3_largestOf_4 : decode cX3_largestOf 4 = .ok (.iconst 1, 1) := dk_4 (dk_at dksX3_largestOf_0 4 rfl rfl)
theorem dX3_largestOf_5 : decode cX3_largestOf 5 = .ok (.istore 5, 2) := dk_54 5 (dk_at dksX3_largestOf_0 5 rfl rfl)
theorem dX3_largestOf_7 : decode cX3_largestOf 7 = .ok (.lload_n 3, 1) := dk_33 (dk_at dksX3_largestOf_0 7 rfl rfl)
theorem dX3_largestOf_8 : decode cX3_largestOf 8 = .ok (.lconst 0, 1) := dk_9 (dk_at dksX3_largestOf_0 8 rfl rfl)
theorem dX3_largestOf_9 : decode cX3_largestOf 9 = .ok (.lcmp, 1) := dk_148 (dk_at dksX3_largestOf_0 9 rfl rfl)
theorem dX3_largestOf_10 : decode cX3_largestOf 10 = .ok (.ifCond .eq 37, 3) := dk_153 0 37 (dk_at dksX3_largestOf_0 10 rfl rfl)
theorem dX3_largestOf_13 : decode cX3_largestOf 13 = .ok (.iload 5, 2) := dk_21 5 (dk_at dksX3_largestOf_0 13 rfl rfl)
theorem dX3_largestOf_15 : decode cX3_largestOf 15 = .ok (.istore_n 2, 1) := dk_61 (dk_at dksX3_largestOf_0 15 rfl rfl)
theorem dX3_largestOf_16 : decode cX3_largestOf 16 = .ok (.lload_n 3, 1) := dk_33 (dk_at dksX3_largestOf_0 16 rfl rfl)
theorem dX3_largestOf_17 : decode cX3_largestOf 17 = .ok (.ldc2_w 80, 3) := dk_20 0 80 (dk_at dksX3_largestOf_0 17 rfl rfl)
theorem dX3_largestOf_20 : decode cX3_largestOf 20 = .ok (.land, 1) := dk_127 (dk_at dksX3_largestOf_0 20 rfl rfl)
theorem dX3_largestOf_21 : decode cX3_largestOf 21 = .ok (.iconst 1, 1) := dk_4 (dk_at dksX3_largestOf_0 21 rfl rfl)
theorem dX3_largestOf_22 : decode cX3_largestOf 22 = .ok (.lshr, 1) := dk_123 (dk_at dksX3_largestOf_0 22 rfl rfl)
theorem dX3_largestOf_23 : decode cX3_largestOf 23 = .ok (.lstore 6, 2) := dk_55 6 (dk_at dksX3_largestOf_1 0 rfl rfl)
theorem dX3_largestOf_25 : decode cX3_largestOf 25 = .ok (.lload_n 3, 1) := dk_33 (dk_at dksX3_largestOf_1 2 rfl rfl)
theorem dX3_largestOf_26 : decode cX3_largestOf 26 = .ok (.lload 6, 2) := dk_22 6 (dk_at dksX3_largestOf_1 3 rfl rfl)
theorem dX3_largestOf_28 : decode cX3_largestOf 28 = .ok (.land, 1) := dk_127 (dk_at dksX3_largestOf_1 5 rfl rfl)
theorem dX3_largestOf_29 : decode cX3_largestOf 29 = .ok (.lload_n 3, 1) := dk_33 (dk_at dksX3_largestOf_1 6 rfl rfl)
theorem dX3_largestOf_30 : decode cX3_largestOf 30 = .ok (.bipush 6, 2) := dk_16 6 (dk_at dksX3_largestOf_1 7 rfl rfl)
theorem dX3_largestOf_32 : decode cX3_largestOf 32 = .ok (.lshr, 1) := dk_123 (dk_at dksX3_largestOf_1 9 rfl rfl)
theorem dX3_largestOf_33 : decode cX3_largestOf 33 = .ok (.land, 1) := dk_127 (dk_at dksX3_largestOf_1 10 rfl rfl)
theorem dX3_largestOf_34 : decode cX3_largestOf 34 = .ok (.lload 6, 2) := dk_22 6 (dk_at dksX3_largestOf_1 11 rfl rfl)
theorem dX3_largestOf_36 : decode cX3_largestOf 36 = .ok (.bipush 6, 2) := dk_16 6 (dk_at dksX3_largestOf_1 13 rfl rfl)
theorem dX3_largestOf_38 : decode cX3_largestOf 38 = .ok (.lshr, 1) := dk_123 (dk_at dksX3_largestOf_1 15 rfl rfl)
theorem dX3_largestOf_39 : decode cX3_largestOf 39 = .ok (.land, 1) := dk_127 (dk_at dksX3_largestOf_1 16 rfl rfl)
theorem dX3_largestOf_40 : decode cX3_largestOf 40 = .ok (.lstore_n 3, 1) := dk_66 (dk_at dksX3_largestOf_1 17 rfl rfl)
theorem dX3_largestOf_41 : decode cX3_largestOf 41 = .ok (.iinc 5 1, 3) := dk_132 5 1 (dk_at dksX3_largestOf_1 18 rfl rfl)
theorem dX3_largestOf_44 : decode cX3_largestOf 44 = .ok (.goto (-37), 3) := dk_167 255 219 (dk_at dksX3_largestOf_1 21 rfl rfl)
theorem dX3_largestOf_47 : decode cX3_largestOf 47 = .ok (.iload_n 2, 1) := dk_28 (dk_at dksX3_largestOf_2 0 rfl rfl)
theorem dX3_largestOf_48 : decode cX3_largestOf 48 = .ok (.ireturn, 1) := dk_172 (dk_at dksX3_largestOf_2 1 rfl rfl)
abbrev cX3_cells : ByteArray := prog_12_method_45_code
def yX3_cells : MethodName := ⟨RX3, "cells", "(II)J"⟩
def dkwX3_cells_3 : List UInt8 := [184, 0, 225, 173]
abbrev dktX3_cells_3 : List UInt8 := dkwX3_cells_3 ++ []
def dkwX3_cells_2 : List UInt8 := [28, 154, 0, 7, 33, 167, 0, 20, 28, 4, 160, 0, 11, 42, 33, 182, 0, 219, 167, 0, 7, 33]
abbrev dktX3_cells_2 : List UInt8 := dkwX3_cells_2 ++ dktX3_cells_3
def dkwX3_cells_1 : List UInt8 := [182, 0, 158, 42, 180, 0, 73, 27, 184, 0, 69, 154, 0, 7, 20, 0, 241, 173, 42, 27, 182, 0, 129, 66]
abbrev dktX3_cells_1 : List UInt8 := dkwX3_cells_1 ++ dktX3_cells_2
def dkwX3_cells_0 : List UInt8 := [27, 184, 0, 142, 153, 0, 15, 28, 133, 9, 20, 0, 239, 184, 0, 65, 154, 0, 7, 20, 0, 94, 173, 42]
abbrev dktX3_cells_0 : List UInt8 := dkwX3_cells_0 ++ dktX3_cells_1
theorem dksX3_cells_0 : cX3_cells.data.toList.drop 0 = dktX3_cells_0 := by decide +kernel
theorem dksX3_cells_1 : cX3_cells.data.toList.drop 24 = dktX3_cells_1 := dk_seg dksX3_cells_0 24 rfl rfl
theorem dksX3_cells_2 : cX3_cells.data.toList.drop 48 = dktX3_cells_2 := dk_seg dksX3_cells_1 24 rfl rfl
theorem dksX3_cells_3 : cX3_cells.data.toList.drop 70 = dktX3_cells_3 := dk_seg dksX3_cells_2 22 rfl rfl
theorem dX3_cells_0 : decode cX3_cells 0 = .ok (.iload_n 1, 1) := dk_27 (dk_at dksX3_cells_0 0 rfl rfl)
theorem dX3_cells_1 : decode cX3_cells 1 = .ok (.invokestatic 142, 3) := dk_184 0 142 (dk_at dksX3_cells_0 1 rfl rfl)
theorem dX3_cells_4 : decode cX3_cells 4 = .ok (.ifCond .eq 15, 3) := dk_153 0 15 (dk_at dksX3_cells_0 4 rfl rfl)
theorem dX3_cells_7 : decode cX3_cells 7 = .ok (.iload_n 2, 1) := dk_28 (dk_at dksX3_cells_0 7 rfl rfl)
theorem dX3_cells_8 : decode cX3_cells 8 = .ok (.i2l, 1) := dk_133 (dk_at dksX3_cells_0 8 rfl rfl)
theorem dX3_cells_9 : decode cX3_cells 9 = .ok (.lconst 0, 1) := dk_9 (dk_at dksX3_cells_0 9 rfl rfl)
theorem dX3_cells_10 : decode cX3_cells 10 = .ok (.ldc2_w 239, 3) := dk_20 0 239 (dk_at dksX3_cells_0 10 rfl rfl)
theorem dX3_cells_13 : decode cX3_cells 13 = .ok (.invokestatic 65, 3) := dk_184 0 65 (dk_at dksX3_cells_0 13 rfl rfl)
theorem dX3_cells_16 : decode cX3_cells 16 = .ok (.ifCond .ne 7, 3) := dk_154 0 7 (dk_at dksX3_cells_0 16 rfl rfl)
theorem dX3_cells_19 : decode cX3_cells 19 = .ok (.ldc2_w 94, 3) := dk_20 0 94 (dk_at dksX3_cells_0 19 rfl rfl)
theorem dX3_cells_22 : decode cX3_cells 22 = .ok (.lreturn, 1) := dk_173 (dk_at dksX3_cells_0 22 rfl rfl)
theorem dX3_cells_23 : decode cX3_cells 23 = .ok (.aload_n 0, 1) := dk_42 (dk_at dksX3_cells_0 23 rfl rfl)
theorem dX3_cells_24 : decode cX3_cells 24 = .ok (.invokevirtual 158, 3) := dk_182 0 158 (dk_at dksX3_cells_1 0 rfl rfl)
theorem dX3_cells_27 : decode cX3_cells 27 = .ok (.aload_n 0, 1) := dk_42 (dk_at dksX3_cells_1 3 rfl rfl)
theorem dX3_cells_28 : decode cX3_cells 28 = .ok (.getfield 73, 3) := dk_180 0 73 (dk_at dksX3_cells_1 4 rfl rfl)
theorem dX3_cells_31 : decode cX3_cells 31 = .ok (.iload_n 1, 1) := dk_27 (dk_at dksX3_cells_1 7 rfl rfl)
theorem dX3_cells_32 : decode cX3_cells 32 = .ok (.invokestatic 69, 3) := dk_184 0 69 (dk_at dksX3_cells_1 8 rfl rfl)
theorem dX3_cells_35 : decode cX3_cells 35 = .ok (.ifCond .ne 7, 3) := dk_154 0 7 (dk_at dksX3_cells_1 11 rfl rfl)
theorem dX3_cells_38 : decode cX3_cells 38 = .ok (.ldc2_w 241, 3) := dk_20 0 241 (dk_at dksX3_cells_1 14 rfl rfl)
theorem dX3_cells_41 : decode cX3_cells 41 = .ok (.lreturn, 1) := dk_173 (dk_at dksX3_cells_1 17 rfl rfl)
theorem dX3_cells_42 : decode cX3_cells 42 = .ok (.aload_n 0, 1) := dk_42 (dk_at dksX3_cells_1 18 rfl rfl)
theorem dX3_cells_43 : decode cX3_cells 43 = .ok (.iload_n 1, 1) := dk_27 (dk_at dksX3_cells_1 19 rfl rfl)
theorem dX3_cells_44 : decode cX3_cells 44 = .ok (.invokevirtual 129, 3) := dk_182 0 129 (dk_at dksX3_cells_1 20 rfl rfl)
theorem dX3_cells_47 : decode cX3_cells 47 = .ok (.lstore_n 3, 1) := dk_66 (dk_at dksX3_cells_1 23 rfl rfl)
theorem dX3_cells_48 : decode cX3_cells 48 = .ok (.iload_n 2, 1) := dk_28 (dk_at dksX3_cells_2 0 rfl rfl)
theorem dX3_cells_49 : decode cX3_cells 49 = .ok (.ifCond .ne 7, 3) := dk_154 0 7 (dk_at dksX3_cells_2 1 rfl rfl)
theorem dX3_cells_52 : decode cX3_cells 52 = .ok (.lload_n 3, 1) := dk_33 (dk_at dksX3_cells_2 4 rfl rfl)
theorem dX3_cells_53 : decode cX3_cells 53 = .ok (.goto 20, 3) := dk_167 0 20 (dk_at dksX3_cells_2 5 rfl rfl)
theorem dX3_cells_56 : decode cX3_cells 56 = .ok (.iload_n 2, 1) := dk_28 (dk_at dksX3_cells_2 8 rfl rfl)
theorem dX3_cells_57 : decode cX3_cells 57 = .ok (.iconst 1, 1) := dk_4 (dk_at dksX3_cells_2 9 rfl rfl)
theorem dX3_cells_58 : decode cX3_cells 58 = .ok (.if_icmp .ne 11, 3) := dk_160 0 11 (dk_at dksX3_cells_2 10 rfl rfl)
theorem dX3_cells_61 : decode cX3_cells 61 = .ok (.aload_n 0, 1) := dk_42 (dk_at dksX3_cells_2 13 rfl rfl)
theorem dX3_cells_62 : decode cX3_cells 62 = .ok (.lload_n 3, 1) := dk_33 (dk_at dksX3_cells_2 14 rfl rfl)
theorem dX3_cells_63 : decode cX3_cells 63 = .ok (.invokevirtual 219, 3) := dk_182 0 219 (dk_at dksX3_cells_2 15 rfl rfl)
theorem dX3_cells_66 : decode cX3_cells 66 = .ok (.goto 7, 3) := dk_167 0 7 (dk_at dksX3_cells_2 18 rfl rfl)
theorem dX3_cells_69 : decode cX3_cells 69 = .ok (.lload_n 3, 1) := dk_33 (dk_at dksX3_cells_2 21 rfl rfl)
theorem dX3_cells_70 : decode cX3_cells 70 = .ok (.invokestatic 225, 3) := dk_184 0 225 (dk_at dksX3_cells_3 0 rfl rfl)
theorem dX3_cells_73 : decode cX3_cells 73 = .ok (.lreturn, 1) := dk_173 (dk_at dksX3_cells_3 3 rfl rfl)
abbrev cX3_part : ByteArray := prog_12_method_47_code
def yX3_part : MethodName := ⟨RX3, "part", "(II)I"⟩
def dkwX3_part_2 : List UInt8 := [167, 0, 5, 16, 254, 172]
abbrev dktX3_part_2 : List UInt8 := dkwX3_part_2 ++ []
def dkwX3_part_1 : List UInt8 := [182, 0, 158, 42, 180, 0, 73, 27, 184, 0, 69, 153, 0, 16, 42, 42, 27, 182, 0, 129, 28, 182, 0, 245]
abbrev dktX3_part_1 : List UInt8 := dkwX3_part_1 ++ dktX3_part_2
def dkwX3_part_0 : List UInt8 := [27, 184, 0, 142, 153, 0, 15, 28, 133, 9, 20, 0, 243, 184, 0, 65, 154, 0, 5, 2, 172, 42]
abbrev dktX3_part_0 : List UInt8 := dkwX3_part_0 ++ dktX3_part_1
theorem dksX3_part_0 : cX3_part.data.toList.drop 0 = dktX3_part_0 := by decide +kernel
theorem dksX3_part_1 : cX3_part.data.toList.drop 22 = dktX3_part_1 := dk_seg dksX3_part_0 22 rfl rfl
theorem dksX3_part_2 : cX3_part.data.toList.drop 46 = dktX3_part_2 := dk_seg dksX3_part_1 24 rfl rfl
theorem dX3_part_0 : decode cX3_part 0 = .ok (.iload_n 1, 1) := dk_27 (dk_at dksX3_part_0 0 rfl rfl)
theorem dX3_part_1 : decode cX3_part 1 = .ok (.invokestatic 142, 3) := dk_184 0 142 (dk_at dksX3_part_0 1 rfl rfl)
theorem dX3_part_4 : decode cX3_part 4 = .ok (.ifCond .eq 15, 3) := dk_153 0 15 (dk_at dksX3_part_0 4 rfl rfl)
theorem dX3_part_7 : decode cX3_part 7 = .ok (.iload_n 2, 1) := dk_28 (dk_at dksX3_part_0 7 rfl rfl)
theorem dX3_part_8 : decode cX3_part 8 = .ok (.i2l, 1) := dk_133 (dk_at dksX3_part_0 8 rfl rfl)
theorem dX3_part_9 : decode cX3_part 9 = .ok (.lconst 0, 1) := dk_9 (dk_at dksX3_part_0 9 rfl rfl)
theorem dX3_part_10 : decode cX3_part 10 = .ok (.ldc2_w 243, 3) := dk_20 0 243 (dk_at dksX3_part_0 10 rfl rfl)
theorem dX3_part_13 : decode cX3_part 13 = .ok (.invokestatic 65, 3) := dk_184 0 65 (dk_at dksX3_part_0 13 rfl rfl)
theorem dX3_part_16 : decode cX3_part 16 = .ok (.ifCond .ne 5, 3) := dk_154 0 5 (dk_at dksX3_part_0 16 rfl rfl)
theorem dX3_part_19 : decode cX3_part 19 = .ok (.iconst (-1), 1) := dk_2 (dk_at dksX3_part_0 19 rfl rfl)
theorem dX3_part_20 : decode cX3_part 20 = .ok (.ireturn, 1) := dk_172 (dk_at dksX3_part_0 20 rfl rfl)
theorem dX3_part_21 : decode cX3_part 21 = .ok (.aload_n 0, 1) := dk_42 (dk_at dksX3_part_0 21 rfl rfl)
theorem dX3_part_22 : decode cX3_part 22 = .ok (.invokevirtual 158, 3) := dk_182 0 158 (dk_at dksX3_part_1 0 rfl rfl)
theorem dX3_part_25 : decode cX3_part 25 = .ok (.aload_n 0, 1) := dk_42 (dk_at dksX3_part_1 3 rfl rfl)
theorem dX3_part_26 : decode cX3_part 26 = .ok (.getfield 73, 3) := dk_180 0 73 (dk_at dksX3_part_1 4 rfl rfl)
theorem dX3_part_29 : decode cX3_part 29 = .ok (.iload_n 1, 1) := dk_27 (dk_at dksX3_part_1 7 rfl rfl)
theorem dX3_part_30 : decode cX3_part 30 = .ok (.invokestatic 69, 3) := dk_184 0 69 (dk_at dksX3_part_1 8 rfl rfl)
theorem dX3_part_33 : decode cX3_part 33 = .ok (.ifCond .eq 16, 3) := dk_153 0 16 (dk_at dksX3_part_1 11 rfl rfl)
theorem dX3_part_36 : decode cX3_part 36 = .ok (.aload_n 0, 1) := dk_42 (dk_at dksX3_part_1 14 rfl rfl)
theorem dX3_part_37 : decode cX3_part 37 = .ok (.aload_n 0, 1) := dk_42 (dk_at dksX3_part_1 15 rfl rfl)
theorem dX3_part_38 : decode cX3_part 38 = .ok (.iload_n 1, 1) := dk_27 (dk_at dksX3_part_1 16 rfl rfl)
theorem dX3_part_39 : decode cX3_part 39 = .ok (.invokevirtual 129, 3) := dk_182 0 129 (dk_at dksX3_part_1 17 rfl rfl)
theorem dX3_part_42 : decode cX3_part 42 = .ok (.iload_n 2, 1) := dk_28 (dk_at dksX3_part_1 20 rfl rfl)
theorem dX3_part_43 : decode cX3_part 43 = .ok (.invokevirtual 245, 3) := dk_182 0 245 (dk_at dksX3_part_1 21 rfl rfl)
theorem dX3_part_46 : decode cX3_part 46 = .ok (.goto 5, 3) := dk_167 0 5 (dk_at dksX3_part_2 0 rfl rfl)
theorem dX3_part_49 : decode cX3_part 49 = .ok (.bipush (-2), 2) := dk_16 254 (dk_at dksX3_part_2 3 rfl rfl)
theorem dX3_part_51 : decode cX3_part 51 = .ok (.ireturn, 1) := dk_172 (dk_at dksX3_part_2 5 rfl rfl)
abbrev cX3_partOf : ByteArray := prog_12_method_46_code
def yX3_partOf : MethodName := ⟨RX3, "partOf", "(JI)I"⟩
def dkwX3_partOf_2 : List UInt8 := [184, 0, 96, 104, 21, 6, 108, 172]
abbrev dktX3_partOf_2 : List UInt8 := dkwX3_partOf_2 ++ []
def dkwX3_partOf_1 : List UInt8 := [21, 6, 154, 0, 7, 3, 167, 0, 23, 42, 31, 182, 0, 136, 22, 4, 42, 29, 182, 0, 222, 127]
abbrev dktX3_partOf_1 : List UInt8 := dkwX3_partOf_1 ++ dktX3_partOf_2
def dkwX3_partOf_0 : List UInt8 := [42, 31, 182, 0, 219, 55, 4, 22, 4, 42, 7, 182, 0, 222, 20, 0, 94, 131, 127, 184, 0, 96, 54, 6]
abbrev dktX3_partOf_0 : List UInt8 := dkwX3_partOf_0 ++ dktX3_partOf_1
theorem dksX3_partOf_0 : cX3_partOf.data.toList.drop 0 = dktX3_partOf_0 := by decide +kernel
theorem dksX3_partOf_1 : cX3_partOf.data.toList.drop 24 = dktX3_partOf_1 := dk_seg dksX3_partOf_0 24 rfl rfl
theorem dksX3_partOf_2 : cX3_partOf.data.toList.drop 46 = dktX3_partOf_2 := dk_seg dksX3_partOf_1 22 rfl rfl
theorem dX3_partOf_0 : decode cX3_partOf 0 = .ok (.aload_n 0, 1) := dk_42 (dk_at dksX3_partOf_0 0 rfl rfl)
theorem dX3_partOf_1 : decode cX3_partOf 1 = .ok (.lload_n 1, 1) := dk_31 (dk_at dksX3_partOf_0 1 rfl rfl)
theorem dX3_partOf_2 : decode cX3_partOf 2 = .ok (.invokevirtual 219, 3) := dk_182 0 219 (dk_at dksX3_partOf_0 2 rfl rfl)
theorem dX3_partOf_5 : decode cX3_partOf 5 = .ok (.lstore 4, 2) := dk_55 4 (dk_at dksX3_partOf_0 5 rfl rfl)
theorem dX3_partOf_7 : decode cX3_partOf 7 = .ok (.lload 4, 2) := dk_22 4 (dk_at dksX3_partOf_0 7 rfl rfl)
theorem dX3_partOf_9 : decode cX3_partOf 9 = .ok (.aload_n 0, 1) := dk_42 (dk_at dksX3_partOf_0 9 rfl rfl)
theorem dX3_partOf_10 : decode cX3_partOf 10 = .ok (.iconst 4, 1) := dk_7 (dk_at dksX3_partOf_0 10 rfl rfl)
theorem dX3_partOf_11 : decode cX3_partOf 11 = .ok (.invokevirtual 222, 3) := dk_182 0 222 (dk_at dksX3_partOf_0 11 rfl rfl)
theorem dX3_partOf_14 : decode cX3_partOf 14 = .ok (.ldc2_w 94, 3) := dk_20 0 94 (dk_at dksX3_partOf_0 14 rfl rfl)
theorem dX3_partOf_17 : decode cX3_partOf 17 = .ok (.lxor, 1) := dk_131 (dk_at dksX3_partOf_0 17 rfl rfl)
theorem dX3_partOf_18 : decode cX3_partOf 18 = .ok (.land, 1) := dk_127 (dk_at dksX3_partOf_0 18 rfl rfl)
theorem dX3_partOf_19 : decode cX3_partOf 19 = .ok (.invokestatic 96, 3) := dk_184 0 96 (dk_at dksX3_partOf_0 19 rfl rfl)
theorem dX3_partOf_22 : decode cX3_partOf 22 = .ok (.istore 6, 2) := dk_54 6 (dk_at dksX3_partOf_0 22 rfl rfl)
theorem dX3_partOf_24 : decode cX3_partOf 24 = .ok (.iload 6, 2) := dk_21 6 (dk_at dksX3_partOf_1 0 rfl rfl)
theorem dX3_partOf_26 : decode cX3_partOf 26 = .ok (.ifCond .ne 7, 3) := dk_154 0 7 (dk_at dksX3_partOf_1 2 rfl rfl)
theorem dX3_partOf_29 : decode cX3_partOf 29 = .ok (.iconst 0, 1) := dk_3 (dk_at dksX3_partOf_1 5 rfl rfl)
theorem dX3_partOf_30 : decode cX3_partOf 30 = .ok (.goto 23, 3) := dk_167 0 23 (dk_at dksX3_partOf_1 6 rfl rfl)
theorem dX3_partOf_33 : decode cX3_partOf 33 = .ok (.aload_n 0, 1) := dk_42 (dk_at dksX3_partOf_1 9 rfl rfl)
theorem dX3_partOf_34 : decode cX3_partOf 34 = .ok (.lload_n 1, 1) := dk_31 (dk_at dksX3_partOf_1 10 rfl rfl)
theorem dX3_partOf_35 : decode cX3_partOf 35 = .ok (.invokevirtual 136, 3) := dk_182 0 136 (dk_at dksX3_partOf_1 11 rfl rfl)
theorem dX3_partOf_38 : decode cX3_partOf 38 = .ok (.lload 4, 2) := dk_22 4 (dk_at dksX3_partOf_1 14 rfl rfl)
theorem dX3_partOf_40 : decode cX3_partOf 40 = .ok (.aload_n 0, 1) := dk_42 (dk_at dksX3_partOf_1 16 rfl rfl)
theorem dX3_partOf_41 : decode cX3_partOf 41 = .ok (.iload_n 3, 1) := dk_29 (dk_at dksX3_partOf_1 17 rfl rfl)
theorem dX3_partOf_42 : decode cX3_partOf 42 = .ok (.invokevirtual 222, 3) := dk_182 0 222 (dk_at dksX3_partOf_1 18 rfl rfl)
theorem dX3_partOf_45 : decode cX3_partOf 45 = .ok (.land, 1) := dk_127 (dk_at dksX3_partOf_1 21 rfl rfl)
theorem dX3_partOf_46 : decode cX3_partOf 46 = .ok (.invokestatic 96, 3) := dk_184 0 96 (dk_at dksX3_partOf_2 0 rfl rfl)
theorem dX3_partOf_49 : decode cX3_partOf 49 = .ok (.imul, 1) := dk_104 (dk_at dksX3_partOf_2 3 rfl rfl)
theorem dX3_partOf_50 : decode cX3_partOf 50 = .ok (.iload 6, 2) := dk_21 6 (dk_at dksX3_partOf_2 4 rfl rfl)
theorem dX3_partOf_52 : decode cX3_partOf 52 = .ok (.idiv, 1) := dk_108 (dk_at dksX3_partOf_2 6 rfl rfl)
theorem dX3_partOf_53 : decode cX3_partOf 53 = .ok (.ireturn, 1) := dk_172 (dk_at dksX3_partOf_2 7 rfl rfl)
abbrev cX3_pays : ByteArray := prog_12_method_48_code
def yX3_pays : MethodName := ⟨RX3, "pays", "(I)I"⟩
def dkwX3_pays_2 : List UInt8 := [132, 3, 1, 167, 255, 231, 28, 172]
abbrev dktX3_pays_2 : List UInt8 := dkwX3_pays_2 ++ []
def dkwX3_pays_1 : List UInt8 := [3, 62, 29, 42, 180, 0, 123, 162, 0, 23, 28, 42, 42, 180, 0, 26, 29, 47, 27, 182, 0, 245, 96, 61]
abbrev dktX3_pays_1 : List UInt8 := dkwX3_pays_1 ++ dktX3_pays_2
def dkwX3_pays_0 : List UInt8 := [27, 133, 9, 20, 0, 243, 184, 0, 65, 154, 0, 5, 2, 172, 42, 182, 0, 158, 42, 182, 0, 133, 3, 61]
abbrev dktX3_pays_0 : List UInt8 := dkwX3_pays_0 ++ dktX3_pays_1
theorem dksX3_pays_0 : cX3_pays.data.toList.drop 0 = dktX3_pays_0 := by decide +kernel
theorem dksX3_pays_1 : cX3_pays.data.toList.drop 24 = dktX3_pays_1 := dk_seg dksX3_pays_0 24 rfl rfl
theorem dksX3_pays_2 : cX3_pays.data.toList.drop 48 = dktX3_pays_2 := dk_seg dksX3_pays_1 24 rfl rfl
theorem dX3_pays_0 : decode cX3_pays 0 = .ok (.iload_n 1, 1) := dk_27 (dk_at dksX3_pays_0 0 rfl rfl)
theorem dX3_pays_1 : decode cX3_pays 1 = .ok (.i2l, 1) := dk_133 (dk_at dksX3_pays_0 1 rfl rfl)
theorem dX3_pays_2 : decode cX3_pays 2 = .ok (.lconst 0, 1) := dk_9 (dk_at dksX3_pays_0 2 rfl rfl)
theorem dX3_pays_3 : decode cX3_pays 3 = .ok (.ldc2_w 243, 3) := dk_20 0 243 (dk_at dksX3_pays_0 3 rfl rfl)
theorem dX3_pays_6 : decode cX3_pays 6 = .ok (.invokestatic 65, 3) := dk_184 0 65 (dk_at dksX3_pays_0 6 rfl rfl)
theorem dX3_pays_9 : decode cX3_pays 9 = .ok (.ifCond .ne 5, 3) := dk_154 0 5 (dk_at dksX3_pays_0 9 rfl rfl)
theorem dX3_pays_12 : decode cX3_pays 12 = .ok (.iconst (-1), 1) := dk_2 (dk_at dksX3_pays_0 12 rfl rfl)
theorem dX3_pays_13 : decode cX3_pays 13 = .ok (.ireturn, 1) := dk_172 (dk_at dksX3_pays_0 13 rfl rfl)
theorem dX3_pays_14 : decode cX3_pays 14 = .ok (.aload_n 0, 1) := dk_42 (dk_at dksX3_pays_0 14 rfl rfl)
theorem dX3_pays_15 : decode cX3_pays 15 = .ok (.invokevirtual 158, 3) := dk_182 0 158 (dk_at dksX3_pays_0 15 rfl rfl)
theorem dX3_pays_18 : decode cX3_pays 18 = .ok (.aload_n 0, 1) := dk_42 (dk_at dksX3_pays_0 18 rfl rfl)
theorem dX3_pays_19 : decode cX3_pays 19 = .ok (.invokevirtual 133, 3) := dk_182 0 133 (dk_at dksX3_pays_0 19 rfl rfl)
theorem dX3_pays_22 : decode cX3_pays 22 = .ok (.iconst 0, 1) := dk_3 (dk_at dksX3_pays_0 22 rfl rfl)
theorem dX3_pays_23 : decode cX3_pays 23 = .ok (.istore_n 2, 1) := dk_61 (dk_at dksX3_pays_0 23 rfl rfl)
theorem dX3_pays_24 : decode cX3_pays 24 = .ok (.iconst 0, 1) := dk_3 (dk_at dksX3_pays_1 0 rfl rfl)
theorem dX3_pays_25 : decode cX3_pays 25 = .ok (.istore_n 3, 1) := dk_62 (dk_at dksX3_pays_1 1 rfl rfl)
theorem dX3_pays_26 : decode cX3_pays 26 = .ok (.iload_n 3, 1) := dk_29 (dk_at dksX3_pays_1 2 rfl rfl)
theorem dX3_pays_27 : decode cX3_pays 27 = .ok (.aload_n 0, 1) := dk_42 (dk_at dksX3_pays_1 3 rfl rfl)
theorem dX3_pays_28 : decode cX3_pays 28 = .ok (.getfield 123, 3) := dk_180 0 123 (dk_at dksX3_pays_1 4 rfl rfl)
theorem dX3_pays_31 : decode cX3_pays 31 = .ok (.if_icmp .ge 23, 3) := dk_162 0 23 (dk_at dksX3_pays_1 7 rfl rfl)
theorem dX3_pays_34 : decode cX3_pays 34 = .ok (.iload_n 2, 1) := dk_28 (dk_at dksX3_pays_1 10 rfl rfl)
theorem dX3_pays_35 : decode cX3_pays 35 = .ok (.aload_n 0, 1) := dk_42 (dk_at dksX3_pays_1 11 rfl rfl)
theorem dX3_pays_36 : decode cX3_pays 36 = .ok (.aload_n 0, 1) := dk_42 (dk_at dksX3_pays_1 12 rfl rfl)
theorem dX3_pays_37 : decode cX3_pays 37 = .ok (.getfield 26, 3) := dk_180 0 26 (dk_at dksX3_pays_1 13 rfl rfl)
theorem dX3_pays_40 : decode cX3_pays 40 = .ok (.iload_n 3, 1) := dk_29 (dk_at dksX3_pays_1 16 rfl rfl)
theorem dX3_pays_41 : decode cX3_pays 41 = .ok (.laload, 1) := dk_47 (dk_at dksX3_pays_1 17 rfl rfl)
theorem dX3_pays_42 : decode cX3_pays 42 = .ok (.iload_n 1, 1) := dk_27 (dk_at dksX3_pays_1 18 rfl rfl)
theorem dX3_pays_43 : decode cX3_pays 43 = .ok (.invokevirtual 245, 3) := dk_182 0 245 (dk_at dksX3_pays_1 19 rfl rfl)
theorem dX3_pays_46 : decode cX3_pays 46 = .ok (.iadd, 1) := dk_96 (dk_at dksX3_pays_1 22 rfl rfl)
theorem dX3_pays_47 : decode cX3_pays 47 = .ok (.istore_n 2, 1) := dk_61 (dk_at dksX3_pays_1 23 rfl rfl)
theorem dX3_pays_48 : decode cX3_pays 48 = .ok (.iinc 3 1, 3) := dk_132 3 1 (dk_at dksX3_pays_2 0 rfl rfl)
theorem dX3_pays_51 : decode cX3_pays 51 = .ok (.goto (-25), 3) := dk_167 255 231 (dk_at dksX3_pays_2 3 rfl rfl)
theorem dX3_pays_54 : decode cX3_pays 54 = .ok (.iload_n 2, 1) := dk_28 (dk_at dksX3_pays_2 6 rfl rfl)
theorem dX3_pays_55 : decode cX3_pays 55 = .ok (.ireturn, 1) := dk_172 (dk_at dksX3_pays_2 7 rfl rfl)
abbrev cX3_worth : ByteArray := prog_12_method_49_code
def yX3_worth : MethodName := ⟨RX3, "worth", "(I)I"⟩
def dkwX3_worth_2 : List UInt8 := [172]
abbrev dktX3_worth_2 : List UInt8 := dkwX3_worth_2 ++ []
def dkwX3_worth_1 : List UInt8 := [42, 89, 180, 0, 73, 42, 27, 182, 0, 222, 20, 0, 94, 131, 127, 181, 0, 73, 28, 42, 182, 0, 216, 100]
abbrev dktX3_worth_1 : List UInt8 := dkwX3_worth_1 ++ dktX3_worth_2
def dkwX3_worth_0 : List UInt8 := [27, 133, 9, 20, 0, 243, 184, 0, 65, 154, 0, 6, 18, 249, 172, 42, 182, 0, 158, 42, 182, 0, 216, 61]
abbrev dktX3_worth_0 : List UInt8 := dkwX3_worth_0 ++ dktX3_worth_1
theorem dksX3_worth_0 : cX3_worth.data.toList.drop 0 = dktX3_worth_0 := by decide +kernel
theorem dksX3_worth_1 : cX3_worth.data.toList.drop 24 = dktX3_worth_1 := dk_seg dksX3_worth_0 24 rfl rfl
theorem dksX3_worth_2 : cX3_worth.data.toList.drop 48 = dktX3_worth_2 := dk_seg dksX3_worth_1 24 rfl rfl
theorem dX3_worth_0 : decode cX3_worth 0 = .ok (.iload_n 1, 1) := dk_27 (dk_at dksX3_worth_0 0 rfl rfl)
theorem dX3_worth_1 : decode cX3_worth 1 = .ok (.i2l, 1) := dk_133 (dk_at dksX3_worth_0 1 rfl rfl)
theorem dX3_worth_2 : decode cX3_worth 2 = .ok (.lconst 0, 1) := dk_9 (dk_at dksX3_worth_0 2 rfl rfl)
theorem dX3_worth_3 : decode cX3_worth 3 = .ok (.ldc2_w 243, 3) := dk_20 0 243 (dk_at dksX3_worth_0 3 rfl rfl)
theorem dX3_worth_6 : decode cX3_worth 6 = .ok (.invokestatic 65, 3) := dk_184 0 65 (dk_at dksX3_worth_0 6 rfl rfl)
theorem dX3_worth_9 : decode cX3_worth 9 = .ok (.ifCond .ne 6, 3) := dk_154 0 6 (dk_at dksX3_worth_0 9 rfl rfl)
theorem dX3_worth_12 : decode cX3_worth 12 = .ok (.ldc 249, 2) := dk_18 249 (dk_at dksX3_worth_0 12 rfl rfl)
theorem dX3_worth_14 : decode cX3_worth 14 = .ok (.ireturn, 1) := dk_172 (dk_at dksX3_worth_0 14 rfl rfl)
theorem dX3_worth_15 : decode cX3_worth 15 = .ok (.aload_n 0, 1) := dk_42 (dk_at dksX3_worth_0 15 rfl rfl)
theorem dX3_worth_16 : decode cX3_worth 16 = .ok (.invokevirtual 158, 3) := dk_182 0 158 (dk_at dksX3_worth_0 16 rfl rfl)
theorem dX3_worth_19 : decode cX3_worth 19 = .ok (.aload_n 0, 1) := dk_42 (dk_at dksX3_worth_0 19 rfl rfl)
theorem dX3_worth_20 : decode cX3_worth 20 = .ok (.invokevirtual 216, 3) := dk_182 0 216 (dk_at dksX3_worth_0 20 rfl rfl)
theorem dX3_worth_23 : decode cX3_worth 23 = .ok (.istore_n 2, 1) := dk_61 (dk_at dksX3_worth_0 23 rfl rfl)
theorem dX3_worth_24 : decode cX3_worth 24 = .ok (.aload_n 0, 1) := dk_42 (dk_at dksX3_worth_1 0 rfl rfl)
theorem dX3_worth_25 : decode cX3_worth 25 = .ok (.dup, 1) := dk_89 (dk_at dksX3_worth_1 1 rfl rfl)
theorem dX3_worth_26 : decode cX3_worth 26 = .ok (.getfield 73, 3) := dk_180 0 73 (dk_at dksX3_worth_1 2 rfl rfl)
theorem dX3_worth_29 : decode cX3_worth 29 = .ok (.aload_n 0, 1) := dk_42 (dk_at dksX3_worth_1 5 rfl rfl)
theorem dX3_worth_30 : decode cX3_worth 30 = .ok (.iload_n 1, 1) := dk_27 (dk_at dksX3_worth_1 6 rfl rfl)
theorem dX3_worth_31 : decode cX3_worth 31 = .ok (.invokevirtual 222, 3) := dk_182 0 222 (dk_at dksX3_worth_1 7 rfl rfl)
theorem dX3_worth_34 : decode cX3_worth 34 = .ok (.ldc2_w 94, 3) := dk_20 0 94 (dk_at dksX3_worth_1 10 rfl rfl)
theorem dX3_worth_37 : decode cX3_worth 37 = .ok (.lxor, 1) := dk_131 (dk_at dksX3_worth_1 13 rfl rfl)
theorem dX3_worth_38 : decode cX3_worth 38 = .ok (.land, 1) := dk_127 (dk_at dksX3_worth_1 14 rfl rfl)
theorem dX3_worth_39 : decode cX3_worth 39 = .ok (.putfield 73, 3) := dk_181 0 73 (dk_at dksX3_worth_1 15 rfl rfl)
theorem dX3_worth_42 : decode cX3_worth 42 = .ok (.iload_n 2, 1) := dk_28 (dk_at dksX3_worth_1 18 rfl rfl)
theorem dX3_worth_43 : decode cX3_worth 43 = .ok (.aload_n 0, 1) := dk_42 (dk_at dksX3_worth_1 19 rfl rfl)
theorem dX3_worth_44 : decode cX3_worth 44 = .ok (.invokevirtual 216, 3) := dk_182 0 216 (dk_at dksX3_worth_1 20 rfl rfl)
theorem dX3_worth_47 : decode cX3_worth 47 = .ok (.isub, 1) := dk_100 (dk_at dksX3_worth_1 23 rfl rfl)
theorem dX3_worth_48 : decode cX3_worth 48 = .ok (.ireturn, 1) := dk_172 (dk_at dksX3_worth_2 0 rfl rfl)
abbrev cX3_filled : ByteArray := prog_12_method_50_code
def yX3_filled : MethodName := ⟨RX3, "filled", "(II)I"⟩
def dkwX3_filled_2 : List UInt8 := [167, 0, 19, 28, 29, 162, 0, 12, 42, 180, 0, 36, 28, 46, 167, 0, 5, 16, 252, 172]
abbrev dktX3_filled_2 : List UInt8 := dkwX3_filled_2 ++ []
def dkwX3_filled_1 : List UInt8 := [2, 172, 42, 182, 0, 158, 42, 27, 9, 182, 0, 252, 62, 29, 155, 0, 7, 28, 156, 0, 7, 29]
abbrev dktX3_filled_1 : List UInt8 := dkwX3_filled_1 ++ dktX3_filled_2
def dkwX3_filled_0 : List UInt8 := [27, 133, 9, 20, 0, 250, 184, 0, 65, 153, 0, 15, 28, 133, 20, 0, 94, 10, 184, 0, 65, 154, 0, 5]
abbrev dktX3_filled_0 : List UInt8 := dkwX3_filled_0 ++ dktX3_filled_1
theorem dksX3_filled_0 : cX3_filled.data.toList.drop 0 = dktX3_filled_0 := by decide +kernel
theorem dksX3_filled_1 : cX3_filled.data.toList.drop 24 = dktX3_filled_1 := dk_seg dksX3_filled_0 24 rfl rfl
theorem dksX3_filled_2 : cX3_filled.data.toList.drop 46 = dktX3_filled_2 := dk_seg dksX3_filled_1 22 rfl rfl
theorem dX3_filled_0 : decode cX3_filled 0 = .ok (.iload_n 1, 1) := dk_27 (dk_at dksX3_filled_0 0 rfl rfl)
theorem dX3_filled_1 : decode cX3_filled 1 = .ok (.i2l, 1) := dk_133 (dk_at dksX3_filled_0 1 rfl rfl)
theorem dX3_filled_2 : decode cX3_filled 2 = .ok (.lconst 0, 1) := dk_9 (dk_at dksX3_filled_0 2 rfl rfl)
theorem dX3_filled_3 : decode cX3_filled 3 = .ok (.ldc2_w 250, 3) := dk_20 0 250 (dk_at dksX3_filled_0 3 rfl rfl)
theorem dX3_filled_6 : decode cX3_filled 6 = .ok (.invokestatic 65, 3) := dk_184 0 65 (dk_at dksX3_filled_0 6 rfl rfl)
theorem dX3_filled_9 : decode cX3_filled 9 = .ok (.ifCond .eq 15, 3) := dk_153 0 15 (dk_at dksX3_filled_0 9 rfl rfl)
theorem dX3_filled_12 : decode cX3_filled 12 = .ok (.iload_n 2, 1) := dk_28 (dk_at dksX3_filled_0 12 rfl rfl)
theorem dX3_filled_13 : decode cX3_filled 13 = .ok (.i2l, 1) := dk_133 (dk_at dksX3_filled_0 13 rfl rfl)
theorem dX3_filled_14 : decode cX3_filled 14 = .ok (.ldc2_w 94, 3) := dk_20 0 94 (dk_at dksX3_filled_0 14 rfl rfl)
theorem dX3_filled_17 : decode cX3_filled 17 = .ok (.lconst 1, 1) := dk_10 (dk_at dksX3_filled_0 17 rfl rfl)
theorem dX3_filled_18 : decode cX3_filled 18 = .ok (.invokestatic 65, 3) := dk_184 0 65 (dk_at dksX3_filled_0 18 rfl rfl)
theorem dX3_filled_21 : decode cX3_filled 21 = .ok (.ifCond .ne 5, 3) := dk_154 0 5 (dk_at dksX3_filled_0 21 rfl rfl)
theorem dX3_filled_24 : decode cX3_filled 24 = .ok (.iconst (-1), 1) := dk_2 (dk_at dksX3_filled_1 0 rfl rfl)
theorem dX3_filled_25 : decode cX3_filled 25 = .ok (.ireturn, 1) := dk_172 (dk_at dksX3_filled_1 1 rfl rfl)
theorem dX3_filled_26 : decode cX3_filled 26 = .ok (.aload_n 0, 1) := dk_42 (dk_at dksX3_filled_1 2 rfl rfl)
theorem dX3_filled_27 : decode cX3_filled 27 = .ok (.invokevirtual 158, 3) := dk_182 0 158 (dk_at dksX3_filled_1 3 rfl rfl)
theorem dX3_filled_30 : decode cX3_filled 30 = .ok (.aload_n 0, 1) := dk_42 (dk_at dksX3_filled_1 6 rfl rfl)
theorem dX3_filled_31 : decode cX3_filled 31 = .ok (.iload_n 1, 1) := dk_27 (dk_at dksX3_filled_1 7 rfl rfl)
theorem dX3_filled_32 : decode cX3_filled 32 = .ok (.lconst 0, 1) := dk_9 (dk_at dksX3_filled_1 8 rfl rfl)
theorem dX3_filled_33 : decode cX3_filled 33 = .ok (.invokevirtual 252, 3) := dk_182 0 252 (dk_at dksX3_filled_1 9 rfl rfl)
theorem dX3_filled_36 : decode cX3_filled 36 = .ok (.istore_n 3, 1) := dk_62 (dk_at dksX3_filled_1 12 rfl rfl)
theorem dX3_filled_37 : decode cX3_filled 37 = .ok (.iload_n 3, 1) := dk_29 (dk_at dksX3_filled_1 13 rfl rfl)
theorem dX3_filled_38 : decode cX3_filled 38 = .ok (.ifCond .lt 7, 3) := dk_155 0 7 (dk_at dksX3_filled_1 14 rfl rfl)
theorem dX3_filled_41 : decode cX3_filled 41 = .ok (.iload_n 2, 1) := dk_28 (dk_at dksX3_filled_1 17 rfl rfl)
theorem dX3_filled_42 : decode cX3_filled 42 = .ok (.ifCond .ge 7, 3) := dk_156 0 7 (dk_at dksX3_filled_1 18 rfl rfl)
theorem dX3_filled_45 : decode cX3_filled 45 = .ok (.iload_n 3, 1) := dk_29 (dk_at dksX3_filled_1 21 rfl rfl)
theorem dX3_filled_46 : decode cX3_filled 46 = .ok (.goto 19, 3) := dk_167 0 19 (dk_at dksX3_filled_2 0 rfl rfl)
theorem dX3_filled_49 : decode cX3_filled 49 = .ok (.iload_n 2, 1) := dk_28 (dk_at dksX3_filled_2 3 rfl rfl)
theorem dX3_filled_50 : decode cX3_filled 50 = .ok (.iload_n 3, 1) := dk_29 (dk_at dksX3_filled_2 4 rfl rfl)
theorem dX3_filled_51 : decode cX3_filled 51 = .ok (.if_icmp .ge 12, 3) := dk_162 0 12 (dk_at dksX3_filled_2 5 rfl rfl)
theorem dX3_filled_54 : decode cX3_filled 54 = .ok (.aload_n 0, 1) := dk_42 (dk_at dksX3_filled_2 8 rfl rfl)
theorem dX3_filled_55 : decode cX3_filled 55 = .ok (.getfield 36, 3) := dk_180 0 36 (dk_at dksX3_filled_2 9 rfl rfl)
theorem dX3_filled_58 : decode cX3_filled 58 = .ok (.iload_n 2, 1) := dk_28 (dk_at dksX3_filled_2 12 rfl rfl)
theorem dX3_filled_59 : decode cX3_filled 59 = .ok (.iaload, 1) := dk_46 (dk_at dksX3_filled_2 13 rfl rfl)
theorem dX3_filled_60 : decode cX3_filled 60 = .ok (.goto 5, 3) := dk_167 0 5 (dk_at dksX3_filled_2 14 rfl rfl)
theorem dX3_filled_63 : decode cX3_filled 63 = .ok (.bipush (-4), 2) := dk_16 252 (dk_at dksX3_filled_2 17 rfl rfl)
theorem dX3_filled_65 : decode cX3_filled 65 = .ok (.ireturn, 1) := dk_172 (dk_at dksX3_filled_2 19 rfl rfl)
abbrev cX3_fewestFilled : ByteArray := prog_12_method_51_code
def yX3_fewestFilled : MethodName := ⟨RX3, "fewestFilled", "(IJ)I"⟩
def dkwX3_fewestFilled_7 : List UInt8 := [132, 6, 1, 167, 255, 171, 16, 252, 172]
abbrev dktX3_fewestFilled_7 : List UInt8 := dkwX3_fewestFilled_7 ++ []
def dkwX3_fewestFilled_6 : List UInt8 := [180, 0, 36, 3, 21, 6, 79, 42, 180, 0, 36, 4, 21, 7, 79, 5, 172, 132, 7, 1, 167, 255, 190]
abbrev dktX3_fewestFilled_6 : List UInt8 := dkwX3_fewestFilled_6 ++ dktX3_fewestFilled_7
def dkwX3_fewestFilled_5 : List UInt8 := [153, 0, 39, 42, 10, 21, 6, 121, 10, 21, 7, 121, 129, 27, 32, 182, 1, 0, 153, 0, 21, 42]
abbrev dktX3_fewestFilled_5 : List UInt8 := dkwX3_fewestFilled_5 ++ dktX3_fewestFilled_6
def dkwX3_fewestFilled_4 : List UInt8 := [21, 7, 16, 36, 162, 0, 65, 22, 4, 21, 6, 184, 0, 69, 153, 0, 49, 22, 4, 21, 7, 184, 0, 69]
abbrev dktX3_fewestFilled_4 : List UInt8 := dkwX3_fewestFilled_4 ++ dktX3_fewestFilled_5
def dkwX3_fewestFilled_3 : List UInt8 := [4, 172, 132, 6, 1, 167, 255, 213, 3, 54, 6, 21, 6, 16, 36, 162, 0, 84, 21, 6, 4, 96, 54, 7]
abbrev dktX3_fewestFilled_3 : List UInt8 := dkwX3_fewestFilled_3 ++ dktX3_fewestFilled_4
def dkwX3_fewestFilled_2 : List UInt8 := [153, 0, 26, 42, 10, 21, 6, 121, 27, 32, 182, 1, 0, 153, 0, 13, 42, 180, 0, 36, 3, 21, 6, 79]
abbrev dktX3_fewestFilled_2 : List UInt8 := dkwX3_fewestFilled_2 ++ dktX3_fewestFilled_3
def dkwX3_fewestFilled_1 : List UInt8 := [167, 0, 4, 32, 55, 4, 3, 54, 6, 21, 6, 16, 36, 162, 0, 42, 22, 4, 21, 6, 184, 0, 69]
abbrev dktX3_fewestFilled_1 : List UInt8 := dkwX3_fewestFilled_1 ++ dktX3_fewestFilled_2
def dkwX3_fewestFilled_0 : List UInt8 := [42, 9, 27, 32, 182, 1, 0, 153, 0, 5, 3, 172, 32, 9, 148, 154, 0, 10, 42, 180, 0, 73]
abbrev dktX3_fewestFilled_0 : List UInt8 := dkwX3_fewestFilled_0 ++ dktX3_fewestFilled_1
theorem dksX3_fewestFilled_0 : cX3_fewestFilled.data.toList.drop 0 = dktX3_fewestFilled_0 := by decide +kernel
theorem dksX3_fewestFilled_1 : cX3_fewestFilled.data.toList.drop 22 = dktX3_fewestFilled_1 := dk_seg dksX3_fewestFilled_0 22 rfl rfl
theorem dksX3_fewestFilled_2 : cX3_fewestFilled.data.toList.drop 45 = dktX3_fewestFilled_2 := dk_seg dksX3_fewestFilled_1 23 rfl rfl
theorem dksX3_fewestFilled_3 : cX3_fewestFilled.data.toList.drop 69 = dktX3_fewestFilled_3 := dk_seg dksX3_fewestFilled_2 24 rfl rfl
theorem dksX3_fewestFilled_4 : cX3_fewestFilled.data.toList.drop 93 = dktX3_fewestFilled_4 := dk_seg dksX3_fewestFilled_3 24 rfl rfl
theorem dksX3_fewestFilled_5 : cX3_fewestFilled.data.toList.drop 117 = dktX3_fewestFilled_5 := dk_seg dksX3_fewestFilled_4 24 rfl rfl
theorem dksX3_fewestFilled_6 : cX3_fewestFilled.data.toList.drop 139 = dktX3_fewestFilled_6 := dk_seg dksX3_fewestFilled_5 22 rfl rfl
theorem dksX3_fewestFilled_7 : cX3_fewestFilled.data.toList.drop 162 = dktX3_fewestFilled_7 := dk_seg dksX3_fewestFilled_6 23 rfl rfl
theorem dX3_fewestFilled_0 : decode cX3_fewestFilled 0 = .ok (.aload_n 0, 1) := dk_42 (dk_at dksX3_fewestFilled_0 0 rfl rfl)
theorem dX3_fewestFilled_1 : decode cX3_fewestFilled 1 = .ok (.lconst 0, 1) := dk_9 (dk_at dksX3_fewestFilled_0 1 rfl rfl)
theorem dX3_fewestFilled_2 : decode cX3_fewestFilled 2 = .ok (.iload_n 1, 1) := dk_27 (dk_at dksX3_fewestFilled_0 2 rfl rfl)
theorem dX3_fewestFilled_3 : decode cX3_fewestFilled 3 = .ok (.lload_n 2, 1) := dk_32 (dk_at dksX3_fewestFilled_0 3 rfl rfl)
theorem dX3_fewestFilled_4 : decode cX3_fewestFilled 4 = .ok (.invokevirtual 256, 3) := dk_182 1 0 (dk_at dksX3_fewestFilled_0 4 rfl rfl)
theorem dX3_fewestFilled_7 : decode cX3_fewestFilled 7 = .ok (.ifCond .eq 5, 3) := dk_153 0 5 (dk_at dksX3_fewestFilled_0 7 rfl rfl)
theorem dX3_fewestFilled_10 : decode cX3_fewestFilled 10 = .ok (.iconst 0, 1) := dk_3 (dk_at dksX3_fewestFilled_0 10 rfl rfl)
theorem dX3_fewestFilled_11 : decode cX3_fewestFilled 11 = .ok (.ireturn, 1) := dk_172 (dk_at dksX3_fewestFilled_0 11 rfl rfl)
theorem dX3_fewestFilled_12 : decode cX3_fewestFilled 12 = .ok (.lload_n 2, 1) := dk_32 (dk_at dksX3_fewestFilled_0 12 rfl rfl)
theorem dX3_fewestFilled_13 : decode cX3_fewestFilled 13 = .ok (.lconst 0, 1) := dk_9 (dk_at dksX3_fewestFilled_0 13 rfl rfl)
theorem dX3_fewestFilled_14 : decode cX3_fewestFilled 14 = .ok (.lcmp, 1) := dk_148 (dk_at dksX3_fewestFilled_0 14 rfl rfl)
theorem dX3_fewestFilled_15 : decode cX3_fewestFilled 15 = .ok (.ifCond .ne 10, 3) := dk_154 0 10 (dk_at dksX3_fewestFilled_0 15 rfl rfl)
theorem dX3_fewestFilled_18 : decode cX3_fewestFilled 18 = .ok (.aload_n 0, 1) := dk_42 (dk_at dksX3_fewestFilled_0 18 rfl rfl)
theorem dX3_fewestFilled_19 : decode cX3_fewestFilled 19 = .ok (.getfield 73, 3) := dk_180 0 73 (dk_at dksX3_fewestFilled_0 19 rfl rfl)
theorem dX3_fewestFilled_22 : decode cX3_fewestFilled 22 = .ok (.goto 4, 3) := dk_167 0 4 (dk_at dksX3_fewestFilled_1 0 rfl rfl)
theorem dX3_fewestFilled_25 : decode cX3_fewestFilled 25 = .ok (.lload_n 2, 1) := dk_32 (dk_at dksX3_fewestFilled_1 3 rfl rfl)
theorem dX3_fewestFilled_26 : decode cX3_fewestFilled 26 = .ok (.lstore 4, 2) := dk_55 4 (dk_at dksX3_fewestFilled_1 4 rfl rfl)
theorem dX3_fewestFilled_28 : decode cX3_fewestFilled 28 = .ok (.iconst 0, 1) := dk_3 (dk_at dksX3_fewestFilled_1 6 rfl rfl)
theorem dX3_fewestFilled_29 : decode cX3_fewestFilled 29 = .ok (.istore 6, 2) := dk_54 6 (dk_at dksX3_fewestFilled_1 7 rfl rfl)
theorem dX3_fewestFilled_31 : decode cX3_fewestFilled 31 = .ok (.iload 6, 2) := dk_21 6 (dk_at dksX3_fewestFilled_1 9 rfl rfl)
theorem dX3_fewestFilled_33 : decode cX3_fewestFilled 33 = .ok (.bipush 36, 2) := dk_16 36 (dk_at dksX3_fewestFilled_1 11 rfl rfl)
theorem dX3_fewestFilled_35 : decode cX3_fewestFilled 35 = .ok (.if_icmp .ge 42, 3) := dk_162 0 42 (dk_at dksX3_fewestFilled_1 13 rfl rfl)
theorem dX3_fewestFilled_38 : decode cX3_fewestFilled 38 = .ok (.lload 4, 2) := dk_22 4 (dk_at dksX3_fewestFilled_1 16 rfl rfl)
theorem dX3_fewestFilled_40 : decode cX3_fewestFilled 40 = .ok (.iload 6, 2) := dk_21 6 (dk_at dksX3_fewestFilled_1 18 rfl rfl)
theorem dX3_fewestFilled_42 : decode cX3_fewestFilled 42 = .ok (.invokestatic 69, 3) := dk_184 0 69 (dk_at dksX3_fewestFilled_1 20 rfl rfl)
theorem dX3_fewestFilled_45 : decode cX3_fewestFilled 45 = .ok (.ifCond .eq 26, 3) := dk_153 0 26 (dk_at dksX3_fewestFilled_2 0 rfl rfl)
theorem dX3_fewestFilled_48 : decode cX3_fewestFilled 48 = .ok (.aload_n 0, 1) := dk_42 (dk_at dksX3_fewestFilled_2 3 rfl rfl)
theorem dX3_fewestFilled_49 : decode cX3_fewestFilled 49 = .ok (.lconst 1, 1) := dk_10 (dk_at dksX3_fewestFilled_2 4 rfl rfl)
theorem dX3_fewestFilled_50 : decode cX3_fewestFilled 50 = .ok (.iload 6, 2) := dk_21 6 (dk_at dksX3_fewestFilled_2 5 rfl rfl)
theorem dX3_fewestFilled_52 : decode cX3_fewestFilled 52 = .ok (.lshl, 1) := dk_121 (dk_at dksX3_fewestFilled_2 7 rfl rfl)
theorem dX3_fewestFilled_53 : decode cX3_fewestFilled 53 = .ok (.iload_n 1, 1) := dk_27 (dk_at dksX3_fewestFilled_2 8 rfl rfl)
theorem dX3_fewestFilled_54 : decode cX3_fewestFilled 54 = .ok (.lload_n 2, 1) := dk_32 (dk_at dksX3_fewestFilled_2 9 rfl rfl)
theorem dX3_fewestFilled_55 : decode cX3_fewestFilled 55 = .ok (.invokevirtual 256, 3) := dk_182 1 0 (dk_at dksX3_fewestFilled_2 10 rfl rfl)
theorem dX3_fewestFilled_58 : decode cX3_fewestFilled 58 = .ok (.ifCond .eq 13, 3) := dk_153 0 13 (dk_at dksX3_fewestFilled_2 13 rfl rfl)
theorem dX3_fewestFilled_61 : decode cX3_fewestFilled 61 = .ok (.aload_n 0, 1) := dk_42 (dk_at dksX3_fewestFilled_2 16 rfl rfl)
theorem dX3_fewestFilled_62 : decode cX3_fewestFilled 62 = .ok (.getfield 36, 3) := dk_180 0 36 (dk_at dksX3_fewestFilled_2 17 rfl rfl)
theorem dX3_fewestFilled_65 : decode cX3_fewestFilled 65 = .ok (.iconst 0, 1) := dk_3 (dk_at dksX3_fewestFilled_2 20 rfl rfl)
theorem dX3_fewestFilled_66 : decode cX3_fewestFilled 66 = .ok (.iload 6, 2) := dk_21 6 (dk_at dksX3_fewestFilled_2 21 rfl rfl)
theorem dX3_fewestFilled_68 : decode cX3_fewestFilled 68 = .ok (.iastore, 1) := dk_79 (dk_at dksX3_fewestFilled_2 23 rfl rfl)
theorem dX3_fewestFilled_69 : decode cX3_fewestFilled 69 = .ok (.iconst 1, 1) := dk_4 (dk_at dksX3_fewestFilled_3 0 rfl rfl)
theorem dX3_fewestFilled_70 : decode cX3_fewestFilled 70 = .ok (.ireturn, 1) := dk_172 (dk_at dksX3_fewestFilled_3 1 rfl rfl)
theorem dX3_fewestFilled_71 : decode cX3_fewestFilled 71 = .ok (.iinc 6 1, 3) := dk_132 6 1 (dk_at dksX3_fewestFilled_3 2 rfl rfl)
theorem dX3_fewestFilled_74 : decode cX3_fewestFilled 74 = .ok (.goto (-43), 3) := dk_167 255 213 (dk_at dksX3_fewestFilled_3 5 rfl rfl)
theorem dX3_fewestFilled_77 : decode cX3_fewestFilled 77 = .ok (.iconst 0, 1) := dk_3 (dk_at dksX3_fewestFilled_3 8 rfl rfl)
theorem dX3_fewestFilled_78 : decode cX3_fewestFilled 78 = .ok (.istore 6, 2) := dk_54 6 (dk_at dksX3_fewestFilled_3 9 rfl rfl)
theorem dX3_fewestFilled_80 : decode cX3_fewestFilled 80 = .ok (.iload 6, 2) := dk_21 6 (dk_at dksX3_fewestFilled_3 11 rfl rfl)
theorem dX3_fewestFilled_82 : decode cX3_fewestFilled 82 = .ok (.bipush 36, 2) := dk_16 36 (dk_at dksX3_fewestFilled_3 13 rfl rfl)
theorem dX3_fewestFilled_84 : decode cX3_fewestFilled 84 = .ok (.if_icmp .ge 84, 3) := dk_162 0 84 (dk_at dksX3_fewestFilled_3 15 rfl rfl)
theorem dX3_fewestFilled_87 : decode cX3_fewestFilled 87 = .ok (.iload 6, 2) := dk_21 6 (dk_at dksX3_fewestFilled_3 18 rfl rfl)
theorem dX3_fewestFilled_89 : decode cX3_fewestFilled 89 = .ok (.iconst 1, 1) := dk_4 (dk_at dksX3_fewestFilled_3 20 rfl rfl)
theorem dX3_fewestFilled_90 : decode cX3_fewestFilled 90 = .ok (.iadd, 1) := dk_96 (dk_at dksX3_fewestFilled_3 21 rfl rfl)
theorem dX3_fewestFilled_91 : decode cX3_fewestFilled 91 = .ok (.istore 7, 2) := dk_54 7 (dk_at dksX3_fewestFilled_3 22 rfl rfl)
theorem dX3_fewestFilled_93 : decode cX3_fewestFilled 93 = .ok (.iload 7, 2) := dk_21 7 (dk_at dksX3_fewestFilled_4 0 rfl rfl)
theorem dX3_fewestFilled_95 : decode cX3_fewestFilled 95 = .ok (.bipush 36, 2) := dk_16 36 (dk_at dksX3_fewestFilled_4 2 rfl rfl)
theorem dX3_fewestFilled_97 : decode cX3_fewestFilled 97 = .ok (.if_icmp .ge 65, 3) := dk_162 0 65 (dk_at dksX3_fewestFilled_4 4 rfl rfl)
theorem dX3_fewestFilled_100 : decode cX3_fewestFilled 100 = .ok (.lload 4, 2) := dk_22 4 (dk_at dksX3_fewestFilled_4 7 rfl rfl)
theorem dX3_fewestFilled_102 : decode cX3_fewestFilled 102 = .ok (.iload 6, 2) := dk_21 6 (dk_at dksX3_fewestFilled_4 9 rfl rfl)
theorem dX3_fewestFilled_104 : decode cX3_fewestFilled 104 = .ok (.invokestatic 69, 3) := dk_184 0 69 (dk_at dksX3_fewestFilled_4 11 rfl rfl)
theorem dX3_fewestFilled_107 : decode cX3_fewestFilled 107 = .ok (.ifCond .eq 49, 3) := dk_153 0 49 (dk_at dksX3_fewestFilled_4 14 rfl rfl)
theorem dX3_fewestFilled_110 : decode cX3_fewestFilled 110 = .ok (.lload 4, 2) := dk_22 4 (dk_at dksX3_fewestFilled_4 17 rfl rfl)
theorem dX3_fewestFilled_112 : decode cX3_fewestFilled 112 = .ok (.iload 7, 2) := dk_21 7 (dk_at dksX3_fewestFilled_4 19 rfl rfl)
theorem dX3_fewestFilled_114 : decode cX3_fewestFilled 114 = .ok (.invokestatic 69, 3) := dk_184 0 69 (dk_at dksX3_fewestFilled_4 21 rfl rfl)
theorem dX3_fewestFilled_117 : decode cX3_fewestFilled 117 = .ok (.ifCond .eq 39, 3) := dk_153 0 39 (dk_at dksX3_fewestFilled_5 0 rfl rfl)
theorem dX3_fewestFilled_120 : decode cX3_fewestFilled 120 = .ok (.aload_n 0, 1) := dk_42 (dk_at dksX3_fewestFilled_5 3 rfl rfl)
theorem dX3_fewestFilled_121 : decode cX3_fewestFilled 121 = .ok (.lconst 1, 1) := dk_10 (dk_at dksX3_fewestFilled_5 4 rfl rfl)
theorem dX3_fewestFilled_122 : decode cX3_fewestFilled 122 = .ok (.iload 6, 2) := dk_21 6 (dk_at dksX3_fewestFilled_5 5 rfl rfl)
theorem dX3_fewestFilled_124 : decode cX3_fewestFilled 124 = .ok (.lshl, 1) := dk_121 (dk_at dksX3_fewestFilled_5 7 rfl rfl)
theorem dX3_fewestFilled_125 : decode cX3_fewestFilled 125 = .ok (.lconst 1, 1) := dk_10 (dk_at dksX3_fewestFilled_5 8 rfl rfl)
theorem dX3_fewestFilled_126 : decode cX3_fewestFilled 126 = .ok (.iload 7, 2) := dk_21 7 (dk_at dksX3_fewestFilled_5 9 rfl rfl)
theorem dX3_fewestFilled_128 : decode cX3_fewestFilled 128 = .ok (.lshl, 1) := dk_121 (dk_at dksX3_fewestFilled_5 11 rfl rfl)
theorem dX3_fewestFilled_129 : decode cX3_fewestFilled 129 = .ok (.lor, 1) := dk_129 (dk_at dksX3_fewestFilled_5 12 rfl rfl)
theorem dX3_fewestFilled_130 : decode cX3_fewestFilled 130 = .ok (.iload_n 1, 1) := dk_27 (dk_at dksX3_fewestFilled_5 13 rfl rfl)
theorem dX3_fewestFilled_131 : decode cX3_fewestFilled 131 = .ok (.lload_n 2, 1) := dk_32 (dk_at dksX3_fewestFilled_5 14 rfl rfl)
theorem dX3_fewestFilled_132 : decode cX3_fewestFilled 132 = .ok (.invokevirtual 256, 3) := dk_182 1 0 (dk_at dksX3_fewestFilled_5 15 rfl rfl)
theorem dX3_fewestFilled_135 : decode cX3_fewestFilled 135 = .ok (.ifCond .eq 21, 3) := dk_153 0 21 (dk_at dksX3_fewestFilled_5 18 rfl rfl)
theorem dX3_fewestFilled_138 : decode cX3_fewestFilled 138 = .ok (.aload_n 0, 1) := dk_42 (dk_at dksX3_fewestFilled_5 21 rfl rfl)
theorem dX3_fewestFilled_139 : decode cX3_fewestFilled 139 = .ok (.getfield 36, 3) := dk_180 0 36 (dk_at dksX3_fewestFilled_6 0 rfl rfl)
theorem dX3_fewestFilled_142 : decode cX3_fewestFilled 142 = .ok (.iconst 0, 1) := dk_3 (dk_at dksX3_fewestFilled_6 3 rfl rfl)
theorem dX3_fewestFilled_143 : decode cX3_fewestFilled 143 = .ok (.iload 6, 2) := dk_21 6 (dk_at dksX3_fewestFilled_6 4 rfl rfl)
theorem dX3_fewestFilled_145 : decode cX3_fewestFilled 145 = .ok (.iastore, 1) := dk_79 (dk_at dksX3_fewestFilled_6 6 rfl rfl)
theorem dX3_fewestFilled_146 : decode cX3_fewestFilled 146 = .ok (.aload_n 0, 1) := dk_42 (dk_at dksX3_fewestFilled_6 7 rfl rfl)
theorem dX3_fewestFilled_147 : decode cX3_fewestFilled 147 = .ok (.getfield 36, 3) := dk_180 0 36 (dk_at dksX3_fewestFilled_6 8 rfl rfl)
theorem dX3_fewestFilled_150 : decode cX3_fewestFilled 150 = .ok (.iconst 1, 1) := dk_4 (dk_at dksX3_fewestFilled_6 11 rfl rfl)
theorem dX3_fewestFilled_151 : decode cX3_fewestFilled 151 = .ok (.iload 7, 2) := dk_21 7 (dk_at dksX3_fewestFilled_6 12 rfl rfl)
theorem dX3_fewestFilled_153 : decode cX3_fewestFilled 153 = .ok (.iastore, 1) := dk_79 (dk_at dksX3_fewestFilled_6 14 rfl rfl)
theorem dX3_fewestFilled_154 : decode cX3_fewestFilled 154 = .ok (.iconst 2, 1) := dk_5 (dk_at dksX3_fewestFilled_6 15 rfl rfl)
theorem dX3_fewestFilled_155 : decode cX3_fewestFilled 155 = .ok (.ireturn, 1) := dk_172 (dk_at dksX3_fewestFilled_6 16 rfl rfl)
theorem dX3_fewestFilled_156 : decode cX3_fewestFilled 156 = .ok (.iinc 7 1, 3) := dk_132 7 1 (dk_at dksX3_fewestFilled_6 17 rfl rfl)
theorem dX3_fewestFilled_159 : decode cX3_fewestFilled 159 = .ok (.goto (-66), 3) := dk_167 255 190 (dk_at dksX3_fewestFilled_6 20 rfl rfl)
theorem dX3_fewestFilled_162 : decode cX3_fewestFilled 162 = .ok (.iinc 6 1, 3) := dk_132 6 1 (dk_at dksX3_fewestFilled_7 0 rfl rfl)
theorem dX3_fewestFilled_165 : decode cX3_fewestFilled 165 = .ok (.goto (-85), 3) := dk_167 255 171 (dk_at dksX3_fewestFilled_7 3 rfl rfl)
theorem dX3_fewestFilled_168 : decode cX3_fewestFilled 168 = .ok (.bipush (-4), 2) := dk_16 252 (dk_at dksX3_fewestFilled_7 6 rfl rfl)
theorem dX3_fewestFilled_170 : decode cX3_fewestFilled 170 = .ok (.ireturn, 1) := dk_172 (dk_at dksX3_fewestFilled_7 8 rfl rfl)
abbrev cX3_does : ByteArray := prog_12_method_52_code
def yX3_does : MethodName := ⟨RX3, "does", "(JIJ)Z"⟩
def dkwX3_does_3 : List UInt8 := [29, 163, 0, 7, 4, 167, 0, 4, 3, 54, 8, 42, 22, 6, 181, 0, 73, 21, 8, 172]
abbrev dktX3_does_3 : List UInt8 := dkwX3_does_3 ++ []
def dkwX3_does_2 : List UInt8 := [42, 180, 0, 73, 55, 6, 42, 89, 180, 0, 73, 31, 20, 0, 94, 131, 127, 181, 0, 73, 42, 182, 0, 216]
abbrev dktX3_does_2 : List UInt8 := dkwX3_does_2 ++ dktX3_does_3
def dkwX3_does_1 : List UInt8 := [10, 22, 6, 184, 0, 126, 121, 22, 6, 184, 0, 90, 22, 6, 148, 153, 0, 7, 4, 167, 0, 4, 3, 172]
abbrev dktX3_does_1 : List UInt8 := dkwX3_does_1 ++ dktX3_does_2
def dkwX3_does_0 : List UInt8 := [22, 4, 9, 148, 153, 0, 44, 22, 4, 31, 20, 0, 94, 131, 127, 55, 6, 22, 6, 9, 148, 153, 0, 25]
abbrev dktX3_does_0 : List UInt8 := dkwX3_does_0 ++ dktX3_does_1
theorem dksX3_does_0 : cX3_does.data.toList.drop 0 = dktX3_does_0 := by decide +kernel
theorem dksX3_does_1 : cX3_does.data.toList.drop 24 = dktX3_does_1 := dk_seg dksX3_does_0 24 rfl rfl
theorem dksX3_does_2 : cX3_does.data.toList.drop 48 = dktX3_does_2 := dk_seg dksX3_does_1 24 rfl rfl
theorem dksX3_does_3 : cX3_does.data.toList.drop 72 = dktX3_does_3 := dk_seg dksX3_does_2 24 rfl rfl
theorem dX3_does_0 : decode cX3_does 0 = .ok (.lload 4, 2) := dk_22 4 (dk_at dksX3_does_0 0 rfl rfl)
theorem dX3_does_2 : decode cX3_does 2 = .ok (.lconst 0, 1) := dk_9 (dk_at dksX3_does_0 2 rfl rfl)
theorem dX3_does_3 : decode cX3_does 3 = .ok (.lcmp, 1) := dk_148 (dk_at dksX3_does_0 3 rfl rfl)
theorem dX3_does_4 : decode cX3_does 4 = .ok (.ifCond .eq 44, 3) := dk_153 0 44 (dk_at dksX3_does_0 4 rfl rfl)
theorem dX3_does_7 : decode cX3_does 7 = .ok (.lload 4, 2) := dk_22 4 (dk_at dksX3_does_0 7 rfl rfl)
theorem dX3_does_9 : decode cX3_does 9 = .ok (.lload_n 1, 1) := dk_31 (dk_at dksX3_does_0 9 rfl rfl)
theorem dX3_does_10 : decode cX3_does 10 = .ok (.ldc2_w 94, 3) := dk_20 0 94 (dk_at dksX3_does_0 10 rfl rfl)
theorem dX3_does_13 : decode cX3_does 13 = .ok (.lxor, 1) := dk_131 (dk_at dksX3_does_0 13 rfl rfl)
theorem dX3_does_14 : decode cX3_does 14 = .ok (.land, 1) := dk_127 (dk_at dksX3_does_0 14 rfl rfl)
theorem dX3_does_15 : decode cX3_does 15 = .ok (.lstore 6, 2) := dk_55 6 (dk_at dksX3_does_0 15 rfl rfl)
theorem dX3_does_17 : decode cX3_does 17 = .ok (.lload 6, 2) := dk_22 6 (dk_at dksX3_does_0 17 rfl rfl)
theorem dX3_does_19 : decode cX3_does 19 = .ok (.lconst 0, 1) := dk_9 (dk_at dksX3_does_0 19 rfl rfl)
theorem dX3_does_20 : decode cX3_does 20 = .ok (.lcmp, 1) := dk_148 (dk_at dksX3_does_0 20 rfl rfl)
theorem dX3_does_21 : decode cX3_does 21 = .ok (.ifCond .eq 25, 3) := dk_153 0 25 (dk_at dksX3_does_0 21 rfl rfl)
theorem dX3_does_24 : decode cX3_does 24 = .ok (.lconst 1, 1) := dk_10 (dk_at dksX3_does_1 0 rfl rfl)
theorem dX3_does_25 : decode cX3_does 25 = .ok (.lload 6, 2) := dk_22 6 (dk_at dksX3_does_1 1 rfl rfl)
theorem dX3_does_27 : decode cX3_does 27 = .ok (.invokestatic 126, 3) := dk_184 0 126 (dk_at dksX3_does_1 3 rfl rfl)
theorem dX3_does_30 : decode cX3_does 30 = .ok (.lshl, 1) := dk_121 (dk_at dksX3_does_1 6 rfl rfl)
theorem dX3_does_31 : decode cX3_does 31 = .ok (.lload 6, 2) := dk_22 6 (dk_at dksX3_does_1 7 rfl rfl)
theorem dX3_does_33 : decode cX3_does 33 = .ok (.invokestatic 90, 3) := dk_184 0 90 (dk_at dksX3_does_1 9 rfl rfl)
theorem dX3_does_36 : decode cX3_does 36 = .ok (.lload 6, 2) := dk_22 6 (dk_at dksX3_does_1 12 rfl rfl)
theorem dX3_does_38 : decode cX3_does 38 = .ok (.lcmp, 1) := dk_148 (dk_at dksX3_does_1 14 rfl rfl)
theorem dX3_does_39 : decode cX3_does 39 = .ok (.ifCond .eq 7, 3) := dk_153 0 7 (dk_at dksX3_does_1 15 rfl rfl)
theorem dX3_does_42 : decode cX3_does 42 = .ok (.iconst 1, 1) := dk_4 (dk_at dksX3_does_1 18 rfl rfl)
theorem dX3_does_43 : decode cX3_does 43 = .ok (.goto 4, 3) := dk_167 0 4 (dk_at dksX3_does_1 19 rfl rfl)
theorem dX3_does_46 : decode cX3_does 46 = .ok (.iconst 0, 1) := dk_3 (dk_at dksX3_does_1 22 rfl rfl)
theorem dX3_does_47 : decode cX3_does 47 = .ok (.ireturn, 1) := dk_172 (dk_at dksX3_does_1 23 rfl rfl)
theorem dX3_does_48 : decode cX3_does 48 = .ok (.aload_n 0, 1) := dk_42 (dk_at dksX3_does_2 0 rfl rfl)
theorem dX3_does_49 : decode cX3_does 49 = .ok (.getfield 73, 3) := dk_180 0 73 (dk_at dksX3_does_2 1 rfl rfl)
theorem dX3_does_52 : decode cX3_does 52 = .ok (.lstore 6, 2) := dk_55 6 (dk_at dksX3_does_2 4 rfl rfl)
theorem dX3_does_54 : decode cX3_does 54 = .ok (.aload_n 0, 1) := dk_42 (dk_at dksX3_does_2 6 rfl rfl)
theorem dX3_does_55 : decode cX3_does 55 = .ok (.dup, 1) := dk_89 (dk_at dksX3_does_2 7 rfl rfl)
theorem dX3_does_56 : decode cX3_does 56 = .ok (.getfield 73, 3) := dk_180 0 73 (dk_at dksX3_does_2 8 rfl rfl)
theorem dX3_does_59 : decode cX3_does 59 = .ok (.lload_n 1, 1) := dk_31 (dk_at dksX3_does_2 11 rfl rfl)
theorem dX3_does_60 : decode cX3_does 60 = .ok (.ldc2_w 94, 3) := dk_20 0 94 (dk_at dksX3_does_2 12 rfl rfl)
theorem dX3_does_63 : decode cX3_does 63 = .ok (.lxor, 1) := dk_131 (dk_at dksX3_does_2 15 rfl rfl)
theorem dX3_does_64 : decode cX3_does 64 = .ok (.land, 1) := dk_127 (dk_at dksX3_does_2 16 rfl rfl)
theorem dX3_does_65 : decode cX3_does 65 = .ok (.putfield 73, 3) := dk_181 0 73 (dk_at dksX3_does_2 17 rfl rfl)
theorem dX3_does_68 : decode cX3_does 68 = .ok (.aload_n 0, 1) := dk_42 (dk_at dksX3_does_2 20 rfl rfl)
theorem dX3_does_69 : decode cX3_does 69 = .ok (.invokevirtual 216, 3) := dk_182 0 216 (dk_at dksX3_does_2 21 rfl rfl)
theorem dX3_does_72 : decode cX3_does 72 = .ok (.iload_n 3, 1) := dk_29 (dk_at dksX3_does_3 0 rfl rfl)
theorem dX3_does_73 : decode cX3_does 73 = .ok (.if_icmp .gt 7, 3) := dk_163 0 7 (dk_at dksX3_does_3 1 rfl rfl)
theorem dX3_does_76 : decode cX3_does 76 = .ok (.iconst 1, 1) := dk_4 (dk_at dksX3_does_3 4 rfl rfl)
theorem dX3_does_77 : decode cX3_does 77 = .ok (.goto 4, 3) := dk_167 0 4 (dk_at dksX3_does_3 5 rfl rfl)
theorem dX3_does_80 : decode cX3_does 80 = .ok (.iconst 0, 1) := dk_3 (dk_at dksX3_does_3 8 rfl rfl)
theorem dX3_does_81 : decode cX3_does 81 = .ok (.istore 8, 2) := dk_54 8 (dk_at dksX3_does_3 9 rfl rfl)
theorem dX3_does_83 : decode cX3_does 83 = .ok (.aload_n 0, 1) := dk_42 (dk_at dksX3_does_3 11 rfl rfl)
theorem dX3_does_84 : decode cX3_does 84 = .ok (.lload 6, 2) := dk_22 6 (dk_at dksX3_does_3 12 rfl rfl)
theorem dX3_does_86 : decode cX3_does 86 = .ok (.putfield 73, 3) := dk_181 0 73 (dk_at dksX3_does_3 14 rfl rfl)
theorem dX3_does_89 : decode cX3_does 89 = .ok (.iload 8, 2) := dk_21 8 (dk_at dksX3_does_3 17 rfl rfl)
theorem dX3_does_91 : decode cX3_does 91 = .ok (.ireturn, 1) := dk_172 (dk_at dksX3_does_3 19 rfl rfl)
abbrev cX3_split : ByteArray := prog_12_method_53_code
def yX3_split : MethodName := ⟨RX3, "split", "(II)I"⟩
def dkwX3_split_3 : List UInt8 := [180, 0, 36, 28, 46, 167, 0, 5, 16, 252, 172]
abbrev dktX3_split_3 : List UInt8 := dkwX3_split_3 ++ []
def dkwX3_split_2 : List UInt8 := [182, 0, 252, 62, 29, 155, 0, 7, 28, 156, 0, 7, 29, 167, 0, 19, 28, 29, 162, 0, 12, 42]
abbrev dktX3_split_2 : List UInt8 := dkwX3_split_2 ++ dktX3_split_3
def dkwX3_split_1 : List UInt8 := [182, 0, 158, 42, 180, 0, 73, 27, 184, 0, 69, 154, 0, 6, 16, 254, 172, 42, 3, 42, 27, 182, 0, 129]
abbrev dktX3_split_1 : List UInt8 := dkwX3_split_1 ++ dktX3_split_2
def dkwX3_split_0 : List UInt8 := [27, 184, 0, 142, 153, 0, 15, 28, 133, 20, 0, 94, 10, 184, 0, 65, 154, 0, 5, 2, 172, 42]
abbrev dktX3_split_0 : List UInt8 := dkwX3_split_0 ++ dktX3_split_1
theorem dksX3_split_0 : cX3_split.data.toList.drop 0 = dktX3_split_0 := by decide +kernel
theorem dksX3_split_1 : cX3_split.data.toList.drop 22 = dktX3_split_1 := dk_seg dksX3_split_0 22 rfl rfl
theorem dksX3_split_2 : cX3_split.data.toList.drop 46 = dktX3_split_2 := dk_seg dksX3_split_1 24 rfl rfl
theorem dksX3_split_3 : cX3_split.data.toList.drop 68 = dktX3_split_3 := dk_seg dksX3_split_2 22 rfl rfl
theorem dX3_split_0 : decode cX3_split 0 = .ok (.iload_n 1, 1) := dk_27 (dk_at dksX3_split_0 0 rfl rfl)
theorem dX3_split_1 : decode cX3_split 1 = .ok (.invokestatic 142, 3) := dk_184 0 142 (dk_at dksX3_split_0 1 rfl rfl)
theorem dX3_split_4 : decode cX3_split 4 = .ok (.ifCond .eq 15, 3) := dk_153 0 15 (dk_at dksX3_split_0 4 rfl rfl)
theorem dX3_split_7 : decode cX3_split 7 = .ok (.iload_n 2, 1) := dk_28 (dk_at dksX3_split_0 7 rfl rfl)
theorem dX3_split_8 : decode cX3_split 8 = .ok (.i2l, 1) := dk_133 (dk_at dksX3_split_0 8 rfl rfl)
theorem dX3_split_9 : decode cX3_split 9 = .ok (.ldc2_w 94, 3) := dk_20 0 94 (dk_at dksX3_split_0 9 rfl rfl)
theorem dX3_split_12 : decode cX3_split 12 = .ok (.lconst 1, 1) := dk_10 (dk_at dksX3_split_0 12 rfl rfl)
theorem dX3_split_13 : decode cX3_split 13 = .ok (.invokestatic 65, 3) := dk_184 0 65 (dk_at dksX3_split_0 13 rfl rfl)
theorem dX3_split_16 : decode cX3_split 16 = .ok (.ifCond .ne 5, 3) := dk_154 0 5 (dk_at dksX3_split_0 16 rfl rfl)
theorem dX3_split_19 : decode cX3_split 19 = .ok (.iconst (-1), 1) := dk_2 (dk_at dksX3_split_0 19 rfl rfl)
theorem dX3_split_20 : decode cX3_split 20 = .ok (.ireturn, 1) := dk_172 (dk_at dksX3_split_0 20 rfl rfl)
theorem dX3_split_21 : decode cX3_split 21 = .ok (.aload_n 0, 1) := dk_42 (dk_at dksX3_split_0 21 rfl rfl)
theorem dX3_split_22 : decode cX3_split 22 = .ok (.invokevirtual 158, 3) := dk_182 0 158 (dk_at dksX3_split_1 0 rfl rfl)
theorem dX3_split_25 : decode cX3_split 25 = .ok (.aload_n 0, 1) := dk_42 (dk_at dksX3_split_1 3 rfl rfl)
theorem dX3_split_26 : decode cX3_split 26 = .ok (.getfield 73, 3) := dk_180 0 73 (dk_at dksX3_split_1 4 rfl rfl)
theorem dX3_split_29 : decode cX3_split 29 = .ok (.iload_n 1, 1) := dk_27 (dk_at dksX3_split_1 7 rfl rfl)
theorem dX3_split_30 : decode cX3_split 30 = .ok (.invokestatic 69, 3) := dk_184 0 69 (dk_at dksX3_split_1 8 rfl rfl)
theorem dX3_split_33 : decode cX3_split 33 = .ok (.ifCond .ne 6, 3) := dk_154 0 6 (dk_at dksX3_split_1 11 rfl rfl)
theorem dX3_split_36 : decode cX3_split 36 = .ok (.bipush (-2), 2) := dk_16 254 (dk_at dksX3_split_1 14 rfl rfl)
theorem dX3_split_38 : decode cX3_split 38 = .ok (.ireturn, 1) := dk_172 (dk_at dksX3_split_1 16 rfl rfl)
theorem dX3_split_39 : decode cX3_split 39 = .ok (.aload_n 0, 1) := dk_42 (dk_at dksX3_split_1 17 rfl rfl)
theorem dX3_split_40 : decode cX3_split 40 = .ok (.iconst 0, 1) := dk_3 (dk_at dksX3_split_1 18 rfl rfl)
theorem dX3_split_41 : decode cX3_split 41 = .ok (.aload_n 0, 1) := dk_42 (dk_at dksX3_split_1 19 rfl rfl)
theorem dX3_split_42 : decode cX3_split 42 = .ok (.iload_n 1, 1) := dk_27 (dk_at dksX3_split_1 20 rfl rfl)
theorem dX3_split_43 : decode cX3_split 43 = .ok (.invokevirtual 129, 3) := dk_182 0 129 (dk_at dksX3_split_1 21 rfl rfl)
theorem dX3_split_46 : decode cX3_split 46 = .ok (.invokevirtual 252, 3) := dk_182 0 252 (dk_at dksX3_split_2 0 rfl rfl)
theorem dX3_split_49 : decode cX3_split 49 = .ok (.istore_n 3, 1) := dk_62 (dk_at dksX3_split_2 3 rfl rfl)
theorem dX3_split_50 : decode cX3_split 50 = .ok (.iload_n 3, 1) := dk_29 (dk_at dksX3_split_2 4 rfl rfl)
theorem dX3_split_51 : decode cX3_split 51 = .ok (.ifCond .lt 7, 3) := dk_155 0 7 (dk_at dksX3_split_2 5 rfl rfl)
theorem dX3_split_54 : decode cX3_split 54 = .ok (.iload_n 2, 1) := dk_28 (dk_at dksX3_split_2 8 rfl rfl)
theorem dX3_split_55 : decode cX3_split 55 = .ok (.ifCond .ge 7, 3) := dk_156 0 7 (dk_at dksX3_split_2 9 rfl rfl)
theorem dX3_split_58 : decode cX3_split 58 = .ok (.iload_n 3, 1) := dk_29 (dk_at dksX3_split_2 12 rfl rfl)
theorem dX3_split_59 : decode cX3_split 59 = .ok (.goto 19, 3) := dk_167 0 19 (dk_at dksX3_split_2 13 rfl rfl)
theorem dX3_split_62 : decode cX3_split 62 = .ok (.iload_n 2, 1) := dk_28 (dk_at dksX3_split_2 16 rfl rfl)
theorem dX3_split_63 : decode cX3_split 63 = .ok (.iload_n 3, 1) := dk_29 (dk_at dksX3_split_2 17 rfl rfl)
theorem dX3_split_64 : decode cX3_split 64 = .ok (.if_icmp .ge 12, 3) := dk_162 0 12 (dk_at dksX3_split_2 18 rfl rfl)
theorem dX3_split_67 : decode cX3_split 67 = .ok (.aload_n 0, 1) := dk_42 (dk_at dksX3_split_2 21 rfl rfl)
theorem dX3_split_68 : decode cX3_split 68 = .ok (.getfield 36, 3) := dk_180 0 36 (dk_at dksX3_split_3 0 rfl rfl)
theorem dX3_split_71 : decode cX3_split 71 = .ok (.iload_n 2, 1) := dk_28 (dk_at dksX3_split_3 3 rfl rfl)
theorem dX3_split_72 : decode cX3_split 72 = .ok (.iaload, 1) := dk_46 (dk_at dksX3_split_3 4 rfl rfl)
theorem dX3_split_73 : decode cX3_split 73 = .ok (.goto 5, 3) := dk_167 0 5 (dk_at dksX3_split_3 5 rfl rfl)
theorem dX3_split_76 : decode cX3_split 76 = .ok (.bipush (-4), 2) := dk_16 252 (dk_at dksX3_split_3 8 rfl rfl)
theorem dX3_split_78 : decode cX3_split 78 = .ok (.ireturn, 1) := dk_172 (dk_at dksX3_split_3 10 rfl rfl)
abbrev cX3_dug : ByteArray := prog_12_method_55_code
def yX3_dug : MethodName := ⟨RX3, "dug", "(III)I"⟩
def dkwX3_dug_11 : List UInt8 := [29, 21, 8, 162, 0, 12, 42, 180, 0, 36, 29, 46, 167, 0, 5, 16, 252, 172]
abbrev dktX3_dug_11 : List UInt8 := dkwX3_dug_11 ++ []
def dkwX3_dug_10 : List UInt8 := [21, 11, 79, 132, 11, 1, 167, 255, 144, 132, 12, 1, 167, 255, 122, 29, 156, 0, 8, 21, 8, 167, 0, 20]
abbrev dktX3_dug_10 : List UInt8 := dkwX3_dug_10 ++ dktX3_dug_11
def dkwX3_dug_9 : List UInt8 := [42, 21, 13, 153, 0, 10, 42, 180, 0, 73, 167, 0, 5, 22, 16, 181, 0, 73, 42, 180, 0, 36, 21, 12]
abbrev dktX3_dug_9 : List UInt8 := dkwX3_dug_9 ++ dktX3_dug_10
def dkwX3_dug_8 : List UInt8 := [22, 6, 22, 14, 182, 1, 4, 21, 8, 21, 12, 100, 4, 100, 160, 0, 7, 4, 167, 0, 4, 3, 54, 13]
abbrev dktX3_dug_8 : List UInt8 := dkwX3_dug_8 ++ dktX3_dug_9
def dkwX3_dug_7 : List UInt8 := [54, 13, 42, 89, 180, 0, 73, 10, 21, 11, 121, 129, 181, 0, 73, 21, 13, 153, 0, 27, 42, 22, 4]
abbrev dktX3_dug_7 : List UInt8 := dkwX3_dug_7 ++ dktX3_dug_8
def dkwX3_dug_6 : List UInt8 := [121, 10, 101, 20, 0, 94, 131, 127, 55, 14, 42, 180, 0, 73, 55, 16, 22, 9, 21, 11, 184, 0, 69]
abbrev dktX3_dug_6 : List UInt8 := dkwX3_dug_6 ++ dktX3_dug_7
def dkwX3_dug_5 : List UInt8 := [162, 0, 133, 21, 12, 29, 163, 0, 127, 3, 54, 13, 21, 13, 154, 0, 113, 22, 9, 10, 21, 11, 4, 96]
abbrev dktX3_dug_5 : List UInt8 := dkwX3_dug_5 ++ dktX3_dug_6
def dkwX3_dug_4 : List UInt8 := [20, 0, 84, 42, 180, 0, 73, 20, 0, 94, 131, 127, 55, 9, 3, 54, 11, 3, 54, 12, 21, 12, 21, 8]
abbrev dktX3_dug_4 : List UInt8 := dkwX3_dug_4 ++ dktX3_dug_5
def dkwX3_dug_3 : List UInt8 := [172, 10, 27, 121, 55, 4, 10, 28, 121, 55, 6, 42, 22, 4, 22, 6, 20, 0, 84, 182, 1, 4, 54, 8]
abbrev dktX3_dug_3 : List UInt8 := dkwX3_dug_3 ++ dktX3_dug_4
def dkwX3_dug_2 : List UInt8 := [180, 0, 73, 28, 184, 0, 69, 153, 0, 15, 42, 27, 182, 0, 129, 28, 184, 0, 69, 153, 0, 6, 16, 254]
abbrev dktX3_dug_2 : List UInt8 := dkwX3_dug_2 ++ dktX3_dug_3
def dkwX3_dug_1 : List UInt8 := [184, 0, 65, 154, 0, 5, 2, 172, 42, 182, 0, 158, 42, 180, 0, 73, 27, 184, 0, 69, 153, 0, 26, 42]
abbrev dktX3_dug_1 : List UInt8 := dkwX3_dug_1 ++ dktX3_dug_2
def dkwX3_dug_0 : List UInt8 := [27, 184, 0, 142, 153, 0, 24, 28, 184, 0, 142, 153, 0, 17, 29, 133, 20, 0, 94, 20, 0, 178]
abbrev dktX3_dug_0 : List UInt8 := dkwX3_dug_0 ++ dktX3_dug_1
theorem dksX3_dug_0 : cX3_dug.data.toList.drop 0 = dktX3_dug_0 := by decide +kernel
theorem dksX3_dug_1 : cX3_dug.data.toList.drop 22 = dktX3_dug_1 := dk_seg dksX3_dug_0 22 rfl rfl
theorem dksX3_dug_2 : cX3_dug.data.toList.drop 46 = dktX3_dug_2 := dk_seg dksX3_dug_1 24 rfl rfl
theorem dksX3_dug_3 : cX3_dug.data.toList.drop 70 = dktX3_dug_3 := dk_seg dksX3_dug_2 24 rfl rfl
theorem dksX3_dug_4 : cX3_dug.data.toList.drop 94 = dktX3_dug_4 := dk_seg dksX3_dug_3 24 rfl rfl
theorem dksX3_dug_5 : cX3_dug.data.toList.drop 118 = dktX3_dug_5 := dk_seg dksX3_dug_4 24 rfl rfl
theorem dksX3_dug_6 : cX3_dug.data.toList.drop 142 = dktX3_dug_6 := dk_seg dksX3_dug_5 24 rfl rfl
theorem dksX3_dug_7 : cX3_dug.data.toList.drop 165 = dktX3_dug_7 := dk_seg dksX3_dug_6 23 rfl rfl
theorem dksX3_dug_8 : cX3_dug.data.toList.drop 188 = dktX3_dug_8 := dk_seg dksX3_dug_7 23 rfl rfl
theorem dksX3_dug_9 : cX3_dug.data.toList.drop 212 = dktX3_dug_9 := dk_seg dksX3_dug_8 24 rfl rfl
theorem dksX3_dug_10 : cX3_dug.data.toList.drop 236 = dktX3_dug_10 := dk_seg dksX3_dug_9 24 rfl rfl
theorem dksX3_dug_11 : cX3_dug.data.toList.drop 260 = dktX3_dug_11 := dk_seg dksX3_dug_10 24 rfl rfl
theorem dX3_dug_0 : decode cX3_dug 0 = .ok (.iload_n 1, 1) := dk_27 (dk_at dksX3_dug_0 0 rfl rfl)
theorem dX3_dug_1 : decode cX3_dug 1 = .ok (.invokestatic 142, 3) := dk_184 0 142 (dk_at dksX3_dug_0 1 rfl rfl)
theorem dX3_dug_4 : decode cX3_dug 4 = .ok (.ifCond .eq 24, 3) := dk_153 0 24 (dk_at dksX3_dug_0 4 rfl rfl)
theorem dX3_dug_7 : decode cX3_dug 7 = .ok (.iload_n 2, 1) := dk_28 (dk_at dksX3_dug_0 7 rfl rfl)
theorem dX3_dug_8 : decode cX3_dug 8 = .ok (.invokestatic 142, 3) := dk_184 0 142 (dk_at dksX3_dug_0 8 rfl rfl)
theorem dX3_dug_11 : decode cX3_dug 11 = .ok (.ifCond .eq 17, 3) := dk_153 0 17 (dk_at dksX3_dug_0 11 rfl rfl)
theorem dX3_dug_14 : decode cX3_dug 14 = .ok (.iload_n 3, 1) := dk_29 (dk_at dksX3_dug_0 14 rfl rfl)
theorem dX3_dug_15 : decode cX3_dug 15 = .ok (.i2l, 1) := dk_133 (dk_at dksX3_dug_0 15 rfl rfl)
theorem dX3_dug_16 : decode cX3_dug 16 = .ok (.ldc2_w 94, 3) := dk_20 0 94 (dk_at dksX3_dug_0 16 rfl rfl)
theorem dX3_dug_19 : decode cX3_dug 19 = .ok (.ldc2_w 178, 3) := dk_20 0 178 (dk_at dksX3_dug_0 19 rfl rfl)
theorem dX3_dug_22 : decode cX3_dug 22 = .ok (.invokestatic 65, 3) := dk_184 0 65 (dk_at dksX3_dug_1 0 rfl rfl)
theorem dX3_dug_25 : decode cX3_dug 25 = .ok (.ifCond .ne 5, 3) := dk_154 0 5 (dk_at dksX3_dug_1 3 rfl rfl)
theorem dX3_dug_28 : decode cX3_dug 28 = .ok (.iconst (-1), 1) := dk_2 (dk_at dksX3_dug_1 6 rfl rfl)
theorem dX3_dug_29 : decode cX3_dug 29 = .ok (.ireturn, 1) := dk_172 (dk_at dksX3_dug_1 7 rfl rfl)
theorem dX3_dug_30 : decode cX3_dug 30 = .ok (.aload_n 0, 1) := dk_42 (dk_at dksX3_dug_1 8 rfl rfl)
theorem dX3_dug_31 : decode cX3_dug 31 = .ok (.invokevirtual 158, 3) := dk_182 0 158 (dk_at dksX3_dug_1 9 rfl rfl)
theorem dX3_dug_34 : decode cX3_dug 34 = .ok (.aload_n 0, 1) := dk_42 (dk_at dksX3_dug_1 12 rfl rfl)
theorem dX3_dug_35 : decode cX3_dug 35 = .ok (.getfield 73, 3) := dk_180 0 73 (dk_at dksX3_dug_1 13 rfl rfl)
theorem dX3_dug_38 : decode cX3_dug 38 = .ok (.iload_n 1, 1) := dk_27 (dk_at dksX3_dug_1 16 rfl rfl)
theorem dX3_dug_39 : decode cX3_dug 39 = .ok (.invokestatic 69, 3) := dk_184 0 69 (dk_at dksX3_dug_1 17 rfl rfl)
theorem dX3_dug_42 : decode cX3_dug 42 = .ok (.ifCond .eq 26, 3) := dk_153 0 26 (dk_at dksX3_dug_1 20 rfl rfl)
theorem dX3_dug_45 : decode cX3_dug 45 = .ok (.aload_n 0, 1) := dk_42 (dk_at dksX3_dug_1 23 rfl rfl)
theorem dX3_dug_46 : decode cX3_dug 46 = .ok (.getfield 73, 3) := dk_180 0 73 (dk_at dksX3_dug_2 0 rfl rfl)
theorem dX3_dug_49 : decode cX3_dug 49 = .ok (.iload_n 2, 1) := dk_28 (dk_at dksX3_dug_2 3 rfl rfl)
theorem dX3_dug_50 : decode cX3_dug 50 = .ok (.invokestatic 69, 3) := dk_184 0 69 (dk_at dksX3_dug_2 4 rfl rfl)
theorem dX3_dug_53 : decode cX3_dug 53 = .ok (.ifCond .eq 15, 3) := dk_153 0 15 (dk_at dksX3_dug_2 7 rfl rfl)
theorem dX3_dug_56 : decode cX3_dug 56 = .ok (.aload_n 0, 1) := dk_42 (dk_at dksX3_dug_2 10 rfl rfl)
theorem dX3_dug_57 : decode cX3_dug 57 = .ok (.iload_n 1, 1) := dk_27 (dk_at dksX3_dug_2 11 rfl rfl)
theorem dX3_dug_58 : decode cX3_dug 58 = .ok (.invokevirtual 129, 3) := dk_182 0 129 (dk_at dksX3_dug_2 12 rfl rfl)
theorem dX3_dug_61 : decode cX3_dug 61 = .ok (.iload_n 2, 1) := dk_28 (dk_at dksX3_dug_2 15 rfl rfl)
theorem dX3_dug_62 : decode cX3_dug 62 = .ok (.invokestatic 69, 3) := dk_184 0 69 (dk_at dksX3_dug_2 16 rfl rfl)
theorem dX3_dug_65 : decode cX3_dug 65 = .ok (.ifCond .eq 6, 3) := dk_153 0 6 (dk_at dksX3_dug_2 19 rfl rfl)
theorem dX3_dug_68 : decode cX3_dug 68 = .ok (.bipush (-2), 2) := dk_16 254 (dk_at dksX3_dug_2 22 rfl rfl)
theorem dX3_dug_70 : decode cX3_dug 70 = .ok (.ireturn, 1) := dk_172 (dk_at dksX3_dug_3 0 rfl rfl)
theorem dX3_dug_71 : decode cX3_dug 71 = .ok (.lconst 1, 1) := dk_10 (dk_at dksX3_dug_3 1 rfl rfl)
theorem dX3_dug_72 : decode cX3_dug 72 = .ok (.iload_n 1, 1) := dk_27 (dk_at dksX3_dug_3 2 rfl rfl)
theorem dX3_dug_73 : decode cX3_dug 73 = .ok (.lshl, 1) := dk_121 (dk_at dksX3_dug_3 3 rfl rfl)
theorem dX3_dug_74 : decode cX3_dug 74 = .ok (.lstore 4, 2) := dk_55 4 (dk_at dksX3_dug_3 4 rfl rfl)
theorem dX3_dug_76 : decode cX3_dug 76 = .ok (.lconst 1, 1) := dk_10 (dk_at dksX3_dug_3 6 rfl rfl)
theorem dX3_dug_77 : decode cX3_dug 77 = .ok (.iload_n 2, 1) := dk_28 (dk_at dksX3_dug_3 7 rfl rfl)
theorem dX3_dug_78 : decode cX3_dug 78 = .ok (.lshl, 1) := dk_121 (dk_at dksX3_dug_3 8 rfl rfl)
theorem dX3_dug_79 : decode cX3_dug 79 = .ok (.lstore 6, 2) := dk_55 6 (dk_at dksX3_dug_3 9 rfl rfl)
theorem dX3_dug_81 : decode cX3_dug 81 = .ok (.aload_n 0, 1) := dk_42 (dk_at dksX3_dug_3 11 rfl rfl)
theorem dX3_dug_82 : decode cX3_dug 82 = .ok (.lload 4, 2) := dk_22 4 (dk_at dksX3_dug_3 12 rfl rfl)
theorem dX3_dug_84 : decode cX3_dug 84 = .ok (.lload 6, 2) := dk_22 6 (dk_at dksX3_dug_3 14 rfl rfl)
theorem dX3_dug_86 : decode cX3_dug 86 = .ok (.ldc2_w 84, 3) := dk_20 0 84 (dk_at dksX3_dug_3 16 rfl rfl)
theorem dX3_dug_89 : decode cX3_dug 89 = .ok (.invokevirtual 260, 3) := dk_182 1 4 (dk_at dksX3_dug_3 19 rfl rfl)
theorem dX3_dug_92 : decode cX3_dug 92 = .ok (.istore 8, 2) := dk_54 8 (dk_at dksX3_dug_3 22 rfl rfl)
theorem dX3_dug_94 : decode cX3_dug 94 = .ok (.ldc2_w 84, 3) := dk_20 0 84 (dk_at dksX3_dug_4 0 rfl rfl)
theorem dX3_dug_97 : decode cX3_dug 97 = .ok (.aload_n 0, 1) := dk_42 (dk_at dksX3_dug_4 3 rfl rfl)
theorem dX3_dug_98 : decode cX3_dug 98 = .ok (.getfield 73, 3) := dk_180 0 73 (dk_at dksX3_dug_4 4 rfl rfl)
theorem dX3_dug_101 : decode cX3_dug 101 = .ok (.ldc2_w 94, 3) := dk_20 0 94 (dk_at dksX3_dug_4 7 rfl rfl)
theorem dX3_dug_104 : decode cX3_dug 104 = .ok (.lxor, 1) := dk_131 (dk_at dksX3_dug_4 10 rfl rfl)
theorem dX3_dug_105 : decode cX3_dug 105 = .ok (.land, 1) := dk_127 (dk_at dksX3_dug_4 11 rfl rfl)
theorem dX3_dug_106 : decode cX3_dug 106 = .ok (.lstore 9, 2) := dk_55 9 (dk_at dksX3_dug_4 12 rfl rfl)
theorem dX3_dug_108 : decode cX3_dug 108 = .ok (.iconst 0, 1) := dk_3 (dk_at dksX3_dug_4 14 rfl rfl)
theorem dX3_dug_109 : decode cX3_dug 109 = .ok (.istore 11, 2) := dk_54 11 (dk_at dksX3_dug_4 15 rfl rfl)
theorem dX3_dug_111 : decode cX3_dug 111 = .ok (.iconst 0, 1) := dk_3 (dk_at dksX3_dug_4 17 rfl rfl)
theorem dX3_dug_112 : decode cX3_dug 112 = .ok (.istore 12, 2) := dk_54 12 (dk_at dksX3_dug_4 18 rfl rfl)
theorem dX3_dug_114 : decode cX3_dug 114 = .ok (.iload 12, 2) := dk_21 12 (dk_at dksX3_dug_4 20 rfl rfl)
theorem dX3_dug_116 : decode cX3_dug 116 = .ok (.iload 8, 2) := dk_21 8 (dk_at dksX3_dug_4 22 rfl rfl)
theorem dX3_dug_118 : decode cX3_dug 118 = .ok (.if_icmp .ge 133, 3) := dk_162 0 133 (dk_at dksX3_dug_5 0 rfl rfl)
theorem dX3_dug_121 : decode cX3_dug 121 = .ok (.iload 12, 2) := dk_21 12 (dk_at dksX3_dug_5 3 rfl rfl)
theorem dX3_dug_123 : decode cX3_dug 123 = .ok (.iload_n 3, 1) := dk_29 (dk_at dksX3_dug_5 5 rfl rfl)
theorem dX3_dug_124 : decode cX3_dug 124 = .ok (.if_icmp .gt 127, 3) := dk_163 0 127 (dk_at dksX3_dug_5 6 rfl rfl)
theorem dX3_dug_127 : decode cX3_dug 127 = .ok (.iconst 0, 1) := dk_3 (dk_at dksX3_dug_5 9 rfl rfl)
theorem dX3_dug_128 : decode cX3_dug 128 = .ok (.istore 13, 2) := dk_54 13 (dk_at dksX3_dug_5 10 rfl rfl)
theorem dX3_dug_130 : decode cX3_dug 130 = .ok (.iload 13, 2) := dk_21 13 (dk_at dksX3_dug_5 12 rfl rfl)
theorem dX3_dug_132 : decode cX3_dug 132 = .ok (.ifCond .ne 113, 3) := dk_154 0 113 (dk_at dksX3_dug_5 14 rfl rfl)
theorem dX3_dug_135 : decode cX3_dug 135 = .ok (.lload 9, 2) := dk_22 9 (dk_at dksX3_dug_5 17 rfl rfl)
theorem dX3_dug_137 : decode cX3_dug 137 = .ok (.lconst 1, 1) := dk_10 (dk_at dksX3_dug_5 19 rfl rfl)
theorem dX3_dug_138 : decode cX3_dug 138 = .ok (.iload 11, 2) := dk_21 11 (dk_at dksX3_dug_5 20 rfl rfl)
theorem dX3_dug_140 : decode cX3_dug 140 = .ok (.iconst 1, 1) := dk_4 (dk_at dksX3_dug_5 22 rfl rfl)
theorem dX3_dug_141 : decode cX3_dug 141 = .ok (.iadd, 1) := dk_96 (dk_at dksX3_dug_5 23 rfl rfl)
theorem dX3_dug_142 : decode cX3_dug 142 = .ok (.lshl, 1) := dk_121 (dk_at dksX3_dug_6 0 rfl rfl)
theorem dX3_dug_143 : decode cX3_dug 143 = .ok (.lconst 1, 1) := dk_10 (dk_at dksX3_dug_6 1 rfl rfl)
theorem dX3_dug_144 : decode cX3_dug 144 = .ok (.lsub, 1) := dk_101 (dk_at dksX3_dug_6 2 rfl rfl)
theorem dX3_dug_145 : decode cX3_dug 145 = .ok (.ldc2_w 94, 3) := dk_20 0 94 (dk_at dksX3_dug_6 3 rfl rfl)
theorem dX3_dug_148 : decode cX3_dug 148 = .ok (.lxor, 1) := dk_131 (dk_at dksX3_dug_6 6 rfl rfl)
theorem dX3_dug_149 : decode cX3_dug 149 = .ok (.land, 1) := dk_127 (dk_at dksX3_dug_6 7 rfl rfl)
theorem dX3_dug_150 : decode cX3_dug 150 = .ok (.lstore 14, 2) := dk_55 14 (dk_at dksX3_dug_6 8 rfl rfl)
theorem dX3_dug_152 : decode cX3_dug 152 = .ok (.aload_n 0, 1) := dk_42 (dk_at dksX3_dug_6 10 rfl rfl)
theorem dX3_dug_153 : decode cX3_dug 153 = .ok (.getfield 73, 3) := dk_180 0 73 (dk_at dksX3_dug_6 11 rfl rfl)
theorem dX3_dug_156 : decode cX3_dug 156 = .ok (.lstore 16, 2) := dk_55 16 (dk_at dksX3_dug_6 14 rfl rfl)
theorem dX3_dug_158 : decode cX3_dug 158 = .ok (.lload 9, 2) := dk_22 9 (dk_at dksX3_dug_6 16 rfl rfl)
theorem dX3_dug_160 : decode cX3_dug 160 = .ok (.iload 11, 2) := dk_21 11 (dk_at dksX3_dug_6 18 rfl rfl)
theorem dX3_dug_162 : decode cX3_dug 162 = .ok (.invokestatic 69, 3) := dk_184 0 69 (dk_at dksX3_dug_6 20 rfl rfl)
theorem dX3_dug_165 : decode cX3_dug 165 = .ok (.istore 13, 2) := dk_54 13 (dk_at dksX3_dug_7 0 rfl rfl)
theorem dX3_dug_167 : decode cX3_dug 167 = .ok (.aload_n 0, 1) := dk_42 (dk_at dksX3_dug_7 2 rfl rfl)
theorem dX3_dug_168 : decode cX3_dug 168 = .ok (.dup, 1) := dk_89 (dk_at dksX3_dug_7 3 rfl rfl)
theorem dX3_dug_169 : decode cX3_dug 169 = .ok (.getfield 73, 3) := dk_180 0 73 (dk_at dksX3_dug_7 4 rfl rfl)
theorem dX3_dug_172 : decode cX3_dug 172 = .ok (.lconst 1, 1) := dk_10 (dk_at dksX3_dug_7 7 rfl rfl)
theorem dX3_dug_173 : decode cX3_dug 173 = .ok (.iload 11, 2) := dk_21 11 (dk_at dksX3_dug_7 8 rfl rfl)
theorem dX3_dug_175 : decode cX3_dug 175 = .ok (.lshl, 1) := dk_121 (dk_at dksX3_dug_7 10 rfl rfl)
theorem dX3_dug_176 : decode cX3_dug 176 = .ok (.lor, 1) := dk_129 (dk_at dksX3_dug_7 11 rfl rfl)
theorem dX3_dug_177 : decode cX3_dug 177 = .ok (.putfield 73, 3) := dk_181 0 73 (dk_at dksX3_dug_7 12 rfl rfl)
theorem dX3_dug_180 : decode cX3_dug 180 = .ok (.iload 13, 2) := dk_21 13 (dk_at dksX3_dug_7 15 rfl rfl)
theorem dX3_dug_182 : decode cX3_dug 182 = .ok (.ifCond .eq 27, 3) := dk_153 0 27 (dk_at dksX3_dug_7 17 rfl rfl)
theorem dX3_dug_185 : decode cX3_dug 185 = .ok (.aload_n 0, 1) := dk_42 (dk_at dksX3_dug_7 20 rfl rfl)
theorem dX3_dug_186 : decode cX3_dug 186 = .ok (.lload 4, 2) := dk_22 4 (dk_at dksX3_dug_7 21 rfl rfl)
theorem dX3_dug_188 : decode cX3_dug 188 = .ok (.lload 6, 2) := dk_22 6 (dk_at dksX3_dug_8 0 rfl rfl)
theorem dX3_dug_190 : decode cX3_dug 190 = .ok (.lload 14, 2) := dk_22 14 (dk_at dksX3_dug_8 2 rfl rfl)
theorem dX3_dug_192 : decode cX3_dug 192 = .ok (.invokevirtual 260, 3) := dk_182 1 4 (dk_at dksX3_dug_8 4 rfl rfl)
theorem dX3_dug_195 : decode cX3_dug 195 = .ok (.iload 8, 2) := dk_21 8 (dk_at dksX3_dug_8 7 rfl rfl)
theorem dX3_dug_197 : decode cX3_dug 197 = .ok (.iload 12, 2) := dk_21 12 (dk_at dksX3_dug_8 9 rfl rfl)
theorem dX3_dug_199 : decode cX3_dug 199 = .ok (.isub, 1) := dk_100 (dk_at dksX3_dug_8 11 rfl rfl)
theorem dX3_dug_200 : decode cX3_dug 200 = .ok (.iconst 1, 1) := dk_4 (dk_at dksX3_dug_8 12 rfl rfl)
theorem dX3_dug_201 : decode cX3_dug 201 = .ok (.isub, 1) := dk_100 (dk_at dksX3_dug_8 13 rfl rfl)
theorem dX3_dug_202 : decode cX3_dug 202 = .ok (.if_icmp .ne 7, 3) := dk_160 0 7 (dk_at dksX3_dug_8 14 rfl rfl)
theorem dX3_dug_205 : decode cX3_dug 205 = .ok (.iconst 1, 1) := dk_4 (dk_at dksX3_dug_8 17 rfl rfl)
theorem dX3_dug_206 : decode cX3_dug 206 = .ok (.goto 4, 3) := dk_167 0 4 (dk_at dksX3_dug_8 18 rfl rfl)
theorem dX3_dug_209 : decode cX3_dug 209 = .ok (.iconst 0, 1) := dk_3 (dk_at dksX3_dug_8 21 rfl rfl)
theorem dX3_dug_210 : decode cX3_dug 210 = .ok (.istore 13, 2) := dk_54 13 (dk_at dksX3_dug_8 22 rfl rfl)
theorem dX3_dug_212 : decode cX3_dug 212 = .ok (.aload_n 0, 1) := dk_42 (dk_at dksX3_dug_9 0 rfl rfl)
theorem dX3_dug_213 : decode cX3_dug 213 = .ok (.iload 13, 2) := dk_21 13 (dk_at dksX3_dug_9 1 rfl rfl)
theorem dX3_dug_215 : decode cX3_dug 215 = .ok (.ifCond .eq 10, 3) := dk_153 0 10 (dk_at dksX3_dug_9 3 rfl rfl)
theorem dX3_dug_218 : decode cX3_dug 218 = .ok (.aload_n 0, 1) := dk_42 (dk_at dksX3_dug_9 6 rfl rfl)
theorem dX3_dug_219 : decode cX3_dug 219 = .ok (.getfield 73, 3) := dk_180 0 73 (dk_at dksX3_dug_9 7 rfl rfl)
theorem dX3_dug_222 : decode cX3_dug 222 = .ok (.goto 5, 3) := dk_167 0 5 (dk_at dksX3_dug_9 10 rfl rfl)
theorem dX3_dug_225 : decode cX3_dug 225 = .ok (.lload 16, 2) := dk_22 16 (dk_at dksX3_dug_9 13 rfl rfl)
theorem dX3_dug_227 : decode cX3_dug 227 = .ok (.putfield 73, 3) := dk_181 0 73 (dk_at dksX3_dug_9 15 rfl rfl)
theorem dX3_dug_230 : decode cX3_dug 230 = .ok (.aload_n 0, 1) := dk_42 (dk_at dksX3_dug_9 18 rfl rfl)
theorem dX3_dug_231 : decode cX3_dug 231 = .ok (.getfield 36, 3) := dk_180 0 36 (dk_at dksX3_dug_9 19 rfl rfl)
theorem dX3_dug_234 : decode cX3_dug 234 = .ok (.iload 12, 2) := dk_21 12 (dk_at dksX3_dug_9 22 rfl rfl)
theorem dX3_dug_236 : decode cX3_dug 236 = .ok (.iload 11, 2) := dk_21 11 (dk_at dksX3_dug_10 0 rfl rfl)
theorem dX3_dug_238 : decode cX3_dug 238 = .ok (.iastore, 1) := dk_79 (dk_at dksX3_dug_10 2 rfl rfl)
theorem dX3_dug_239 : decode cX3_dug 239 = .ok (.iinc 11 1, 3) := dk_132 11 1 (dk_at dksX3_dug_10 3 rfl rfl)
theorem dX3_dug_242 : decode cX3_dug 242 = .ok (.goto (-112), 3) := dk_167 255 144 (dk_at dksX3_dug_10 6 rfl rfl)
theorem dX3_dug_245 : decode cX3_dug 245 = .ok (.iinc 12 1, 3) := dk_132 12 1 (dk_at dksX3_dug_10 9 rfl rfl)
theorem dX3_dug_248 : decode cX3_dug 248 = .ok (.goto (-134), 3) := dk_167 255 122 (dk_at dksX3_dug_10 12 rfl rfl)
theorem dX3_dug_251 : decode cX3_dug 251 = .ok (.iload_n 3, 1) := dk_29 (dk_at dksX3_dug_10 15 rfl rfl)
theorem dX3_dug_252 : decode cX3_dug 252 = .ok (.ifCond .ge 8, 3) := dk_156 0 8 (dk_at dksX3_dug_10 16 rfl rfl)
theorem dX3_dug_255 : decode cX3_dug 255 = .ok (.iload 8, 2) := dk_21 8 (dk_at dksX3_dug_10 19 rfl rfl)
theorem dX3_dug_257 : decode cX3_dug 257 = .ok (.goto 20, 3) := dk_167 0 20 (dk_at dksX3_dug_10 21 rfl rfl)
theorem dX3_dug_260 : decode cX3_dug 260 = .ok (.iload_n 3, 1) := dk_29 (dk_at dksX3_dug_11 0 rfl rfl)
theorem dX3_dug_261 : decode cX3_dug 261 = .ok (.iload 8, 2) := dk_21 8 (dk_at dksX3_dug_11 1 rfl rfl)
theorem dX3_dug_263 : decode cX3_dug 263 = .ok (.if_icmp .ge 12, 3) := dk_162 0 12 (dk_at dksX3_dug_11 3 rfl rfl)
theorem dX3_dug_266 : decode cX3_dug 266 = .ok (.aload_n 0, 1) := dk_42 (dk_at dksX3_dug_11 6 rfl rfl)
theorem dX3_dug_267 : decode cX3_dug 267 = .ok (.getfield 36, 3) := dk_180 0 36 (dk_at dksX3_dug_11 7 rfl rfl)
theorem dX3_dug_270 : decode cX3_dug 270 = .ok (.iload_n 3, 1) := dk_29 (dk_at dksX3_dug_11 10 rfl rfl)
theorem dX3_dug_271 : decode cX3_dug 271 = .ok (.iaload, 1) := dk_46 (dk_at dksX3_dug_11 11 rfl rfl)
theorem dX3_dug_272 : decode cX3_dug 272 = .ok (.goto 5, 3) := dk_167 0 5 (dk_at dksX3_dug_11 12 rfl rfl)
theorem dX3_dug_275 : decode cX3_dug 275 = .ok (.bipush (-4), 2) := dk_16 252 (dk_at dksX3_dug_11 15 rfl rfl)
theorem dX3_dug_277 : decode cX3_dug 277 = .ok (.ireturn, 1) := dk_172 (dk_at dksX3_dug_11 17 rfl rfl)
abbrev cX3_fewestDug : ByteArray := prog_12_method_54_code
def yX3_fewestDug : MethodName := ⟨RX3, "fewestDug", "(JJJ)I"⟩
def dkwX3_fewestDug_2 : List UInt8 := [22, 10, 129, 184, 0, 90, 55, 7, 132, 9, 1, 167, 255, 210, 21, 9, 172]
abbrev dktX3_fewestDug_2 : List UInt8 := dkwX3_fewestDug_2 ++ []
def dkwX3_fewestDug_1 : List UInt8 := [16, 40, 162, 0, 36, 22, 7, 22, 7, 184, 0, 86, 22, 5, 127, 129, 55, 10, 22, 10, 42, 180, 0, 73]
abbrev dktX3_fewestDug_1 : List UInt8 := dkwX3_fewestDug_1 ++ dktX3_fewestDug_2
def dkwX3_fewestDug_0 : List UInt8 := [31, 42, 180, 0, 73, 184, 0, 90, 55, 7, 3, 54, 9, 22, 7, 33, 127, 9, 148, 154, 0, 43, 21, 9]
abbrev dktX3_fewestDug_0 : List UInt8 := dkwX3_fewestDug_0 ++ dktX3_fewestDug_1
theorem dksX3_fewestDug_0 : cX3_fewestDug.data.toList.drop 0 = dktX3_fewestDug_0 := by decide +kernel
theorem dksX3_fewestDug_1 : cX3_fewestDug.data.toList.drop 24 = dktX3_fewestDug_1 := dk_seg dksX3_fewestDug_0 24 rfl rfl
theorem dksX3_fewestDug_2 : cX3_fewestDug.data.toList.drop 48 = dktX3_fewestDug_2 := dk_seg dksX3_fewestDug_1 24 rfl rfl
theorem dX3_fewestDug_0 : decode cX3_fewestDug 0 = .ok (.lload_n 1, 1) := dk_31 (dk_at dksX3_fewestDug_0 0 rfl rfl)
theorem dX3_fewestDug_1 : decode cX3_fewestDug 1 = .ok (.aload_n 0, 1) := dk_42 (dk_at dksX3_fewestDug_0 1 rfl rfl)
theorem dX3_fewestDug_2 : decode cX3_fewestDug 2 = .ok (.getfield 73, 3) := dk_180 0 73 (dk_at dksX3_fewestDug_0 2 rfl rfl)
theorem dX3_fewestDug_5 : decode cX3_fewestDug 5 = .ok (.invokestatic 90, 3) := dk_184 0 90 (dk_at dksX3_fewestDug_0 5 rfl rfl)
theorem dX3_fewestDug_8 : decode cX3_fewestDug 8 = .ok (.lstore 7, 2) := dk_55 7 (dk_at dksX3_fewestDug_0 8 rfl rfl)
theorem dX3_fewestDug_10 : decode cX3_fewestDug 10 = .ok (.iconst 0, 1) := dk_3 (dk_at dksX3_fewestDug_0 10 rfl rfl)
theorem dX3_fewestDug_11 : decode cX3_fewestDug 11 = .ok (.istore 9, 2) := dk_54 9 (dk_at dksX3_fewestDug_0 11 rfl rfl)
theorem dX3_fewestDug_13 : decode cX3_fewestDug 13 = .ok (.lload 7, 2) := dk_22 7 (dk_at dksX3_fewestDug_0 13 rfl rfl)
theorem dX3_fewestDug_15 : decode cX3_fewestDug 15 = .ok (.lload_n 3, 1) := dk_33 (dk_at dksX3_fewestDug_0 15 rfl rfl)
theorem dX3_fewestDug_16 : decode cX3_fewestDug 16 = .ok (.land, 1) := dk_127 (dk_at dksX3_fewestDug_0 16 rfl rfl)
theorem dX3_fewestDug_17 : decode cX3_fewestDug 17 = .ok (.lconst 0, 1) := dk_9 (dk_at dksX3_fewestDug_0 17 rfl rfl)
theorem dX3_fewestDug_18 : decode cX3_fewestDug 18 = .ok (.lcmp, 1) := dk_148 (dk_at dksX3_fewestDug_0 18 rfl rfl)
theorem dX3_fewestDug_19 : decode cX3_fewestDug 19 = .ok (.ifCond .ne 43, 3) := dk_154 0 43 (dk_at dksX3_fewestDug_0 19 rfl rfl)
theorem dX3_fewestDug_22 : decode cX3_fewestDug 22 = .ok (.iload 9, 2) := dk_21 9 (dk_at dksX3_fewestDug_0 22 rfl rfl)
theorem dX3_fewestDug_24 : decode cX3_fewestDug 24 = .ok (.bipush 40, 2) := dk_16 40 (dk_at dksX3_fewestDug_1 0 rfl rfl)
theorem dX3_fewestDug_26 : decode cX3_fewestDug 26 = .ok (.if_icmp .ge 36, 3) := dk_162 0 36 (dk_at dksX3_fewestDug_1 2 rfl rfl)
theorem dX3_fewestDug_29 : decode cX3_fewestDug 29 = .ok (.lload 7, 2) := dk_22 7 (dk_at dksX3_fewestDug_1 5 rfl rfl)
theorem dX3_fewestDug_31 : decode cX3_fewestDug 31 = .ok (.lload 7, 2) := dk_22 7 (dk_at dksX3_fewestDug_1 7 rfl rfl)
theorem dX3_fewestDug_33 : decode cX3_fewestDug 33 = .ok (.invokestatic 86, 3) := dk_184 0 86 (dk_at dksX3_fewestDug_1 9 rfl rfl)
theorem dX3_fewestDug_36 : decode cX3_fewestDug 36 = .ok (.lload 5, 2) := dk_22 5 (dk_at dksX3_fewestDug_1 12 rfl rfl)
theorem dX3_fewestDug_38 : decode cX3_fewestDug 38 = .ok (.land, 1) := dk_127 (dk_at dksX3_fewestDug_1 14 rfl rfl)
theorem dX3_fewestDug_39 : decode cX3_fewestDug 39 = .ok (.lor, 1) := dk_129 (dk_at dksX3_fewestDug_1 15 rfl rfl)
theorem dX3_fewestDug_40 : decode cX3_fewestDug 40 = .ok (.lstore 10, 2) := dk_55 10 (dk_at dksX3_fewestDug_1 16 rfl rfl)
theorem dX3_fewestDug_42 : decode cX3_fewestDug 42 = .ok (.lload 10, 2) := dk_22 10 (dk_at dksX3_fewestDug_1 18 rfl rfl)
theorem dX3_fewestDug_44 : decode cX3_fewestDug 44 = .ok (.aload_n 0, 1) := dk_42 (dk_at dksX3_fewestDug_1 20 rfl rfl)
theorem dX3_fewestDug_45 : decode cX3_fewestDug 45 = .ok (.getfield 73, 3) := dk_180 0 73 (dk_at dksX3_fewestDug_1 21 rfl rfl)
theorem dX3_fewestDug_48 : decode cX3_fewestDug 48 = .ok (.lload 10, 2) := dk_22 10 (dk_at dksX3_fewestDug_2 0 rfl rfl)
theorem dX3_fewestDug_50 : decode cX3_fewestDug 50 = .ok (.lor, 1) := dk_129 (dk_at dksX3_fewestDug_2 2 rfl rfl)
theorem dX3_fewestDug_51 : decode cX3_fewestDug 51 = .ok (.invokestatic 90, 3) := dk_184 0 90 (dk_at dksX3_fewestDug_2 3 rfl rfl)
theorem dX3_fewestDug_54 : decode cX3_fewestDug 54 = .ok (.lstore 7, 2) := dk_55 7 (dk_at dksX3_fewestDug_2 6 rfl rfl)
theorem dX3_fewestDug_56 : decode cX3_fewestDug 56 = .ok (.iinc 9 1, 3) := dk_132 9 1 (dk_at dksX3_fewestDug_2 8 rfl rfl)
theorem dX3_fewestDug_59 : decode cX3_fewestDug 59 = .ok (.goto (-46), 3) := dk_167 255 210 (dk_at dksX3_fewestDug_2 11 rfl rfl)
theorem dX3_fewestDug_62 : decode cX3_fewestDug 62 = .ok (.iload 9, 2) := dk_21 9 (dk_at dksX3_fewestDug_2 14 rfl rfl)
theorem dX3_fewestDug_64 : decode cX3_fewestDug 64 = .ok (.ireturn, 1) := dk_172 (dk_at dksX3_fewestDug_2 16 rfl rfl)
abbrev cX3_loophole : ByteArray := prog_12_method_56_code
def yX3_loophole : MethodName := ⟨RX3, "loophole", "()I"⟩
def dkwX3_loophole_4 : List UInt8 := [28, 172]
abbrev dktX3_loophole_4 : List UInt8 := dkwX3_loophole_4 ++ []
def dkwX3_loophole_3 : List UInt8 := [167, 0, 4, 28, 61, 21, 4, 27, 162, 0, 8, 21, 4, 167, 0, 4, 27, 60, 132, 3, 1, 167, 255, 179]
abbrev dktX3_loophole_3 : List UInt8 := dkwX3_loophole_3 ++ dktX3_loophole_4
def dkwX3_loophole_2 : List UInt8 := [89, 180, 0, 73, 10, 29, 121, 20, 0, 94, 131, 127, 181, 0, 73, 21, 4, 27, 162, 0, 7, 29]
abbrev dktX3_loophole_2 : List UInt8 := dkwX3_loophole_2 ++ dktX3_loophole_3
def dkwX3_loophole_1 : List UInt8 := [29, 46, 154, 0, 62, 42, 89, 180, 0, 73, 10, 29, 121, 129, 181, 0, 73, 42, 182, 0, 216, 54, 4, 42]
abbrev dktX3_loophole_1 : List UInt8 := dkwX3_loophole_1 ++ dktX3_loophole_2
def dkwX3_loophole_0 : List UInt8 := [42, 182, 0, 158, 42, 182, 0, 216, 60, 16, 252, 61, 3, 62, 29, 16, 36, 162, 0, 77, 42, 180, 0, 7]
abbrev dktX3_loophole_0 : List UInt8 := dkwX3_loophole_0 ++ dktX3_loophole_1
theorem dksX3_loophole_0 : cX3_loophole.data.toList.drop 0 = dktX3_loophole_0 := by decide +kernel
theorem dksX3_loophole_1 : cX3_loophole.data.toList.drop 24 = dktX3_loophole_1 := dk_seg dksX3_loophole_0 24 rfl rfl
theorem dksX3_loophole_2 : cX3_loophole.data.toList.drop 48 = dktX3_loophole_2 := dk_seg dksX3_loophole_1 24 rfl rfl
theorem dksX3_loophole_3 : cX3_loophole.data.toList.drop 70 = dktX3_loophole_3 := dk_seg dksX3_loophole_2 22 rfl rfl
theorem dksX3_loophole_4 : cX3_loophole.data.toList.drop 94 = dktX3_loophole_4 := dk_seg dksX3_loophole_3 24 rfl rfl
theorem dX3_loophole_0 : decode cX3_loophole 0 = .ok (.aload_n 0, 1) := dk_42 (dk_at dksX3_loophole_0 0 rfl rfl)
theorem dX3_loophole_1 : decode cX3_loophole 1 = .ok (.invokevirtual 158, 3) := dk_182 0 158 (dk_at dksX3_loophole_0 1 rfl rfl)
theorem dX3_loophole_4 : decode cX3_loophole 4 = .ok (.aload_n 0, 1) := dk_42 (dk_at dksX3_loophole_0 4 rfl rfl)
theorem dX3_loophole_5 : decode cX3_loophole 5 = .ok (.invokevirtual 216, 3) := dk_182 0 216 (dk_at dksX3_loophole_0 5 rfl rfl)
theorem dX3_loophole_8 : decode cX3_loophole 8 = .ok (.istore_n 1, 1) := dk_60 (dk_at dksX3_loophole_0 8 rfl rfl)
theorem dX3_loophole_9 : decode cX3_loophole 9 = .ok (.bipush (-4), 2) := dk_16 252 (dk_at dksX3_loophole_0 9 rfl rfl)
theorem dX3_loophole_11 : decode cX3_loophole 11 = .ok (.istore_n 2, 1) := dk_61 (dk_at dksX3_loophole_0 11 rfl rfl)
theorem dX3_loophole_12 : decode cX3_loophole 12 = .ok (.iconst 0, 1) := dk_3 (dk_at dksX3_loophole_0 12 rfl rfl)
theorem dX3_loophole_13 : decode cX3_loophole 13 = .ok (.istore_n 3, 1) := dk_62 (dk_at dksX3_loophole_0 13 rfl rfl)
theorem dX3_loophole_14 : decode cX3_loophole 14 = .ok (.iload_n 3, 1) := dk_29 (dk_at dksX3_loophole_0 14 rfl rfl)
theorem dX3_loophole_15 : decode cX3_loophole 15 = .ok (.bipush 36, 2) := dk_16 36 (dk_at dksX3_loophole_0 15 rfl rfl)
theorem dX3_loophole_17 : decode cX3_loophole 17 = .ok (.if_icmp .ge 77, 3) := dk_162 0 77 (dk_at dksX3_loophole_0 17 rfl rfl)
theorem dX3_loophole_20 : decode cX3_loophole 20 = .ok (.aload_n 0, 1) := dk_42 (dk_at dksX3_loophole_0 20 rfl rfl)
theorem dX3_loophole_21 : decode cX3_loophole 21 = .ok (.getfield 7, 3) := dk_180 0 7 (dk_at dksX3_loophole_0 21 rfl rfl)
theorem dX3_loophole_24 : decode cX3_loophole 24 = .ok (.iload_n 3, 1) := dk_29 (dk_at dksX3_loophole_1 0 rfl rfl)
theorem dX3_loophole_25 : decode cX3_loophole 25 = .ok (.iaload, 1) := dk_46 (dk_at dksX3_loophole_1 1 rfl rfl)
theorem dX3_loophole_26 : decode cX3_loophole 26 = .ok (.ifCond .ne 62, 3) := dk_154 0 62 (dk_at dksX3_loophole_1 2 rfl rfl)
theorem dX3_loophole_29 : decode cX3_loophole 29 = .ok (.aload_n 0, 1) := dk_42 (dk_at dksX3_loophole_1 5 rfl rfl)
theorem dX3_loophole_30 : decode cX3_loophole 30 = .ok (.dup, 1) := dk_89 (dk_at dksX3_loophole_1 6 rfl rfl)
theorem dX3_loophole_31 : decode cX3_loophole 31 = .ok (.getfield 73, 3) := dk_180 0 73 (dk_at dksX3_loophole_1 7 rfl rfl)
theorem dX3_loophole_34 : decode cX3_loophole 34 = .ok (.lconst 1, 1) := dk_10 (dk_at dksX3_loophole_1 10 rfl rfl)
theorem dX3_loophole_35 : decode cX3_loophole 35 = .ok (.iload_n 3, 1) := dk_29 (dk_at dksX3_loophole_1 11 rfl rfl)
theorem dX3_loophole_36 : decode cX3_loophole 36 = .ok (.lshl, 1) := dk_121 (dk_at dksX3_loophole_1 12 rfl rfl)
theorem dX3_loophole_37 : decode cX3_loophole 37 = .ok (.lor, 1) := dk_129 (dk_at dksX3_loophole_1 13 rfl rfl)
theorem dX3_loophole_38 : decode cX3_loophole 38 = .ok (.putfield 73, 3) := dk_181 0 73 (dk_at dksX3_loophole_1 14 rfl rfl)
theorem dX3_loophole_41 : decode cX3_loophole 41 = .ok (.aload_n 0, 1) := dk_42 (dk_at dksX3_loophole_1 17 rfl rfl)
theorem dX3_loophole_42 : decode cX3_loophole 42 = .ok (.invokevirtual 216, 3) := dk_182 0 216 (dk_at dksX3_loophole_1 18 rfl rfl)
theorem dX3_loophole_45 : decode cX3_loophole 45 = .ok (.istore 4, 2) := dk_54 4 (dk_at dksX3_loophole_1 21 rfl rfl)
theorem dX3_loophole_47 : decode cX3_loophole 47 = .ok (.aload_n 0, 1) := dk_42 (dk_at dksX3_loophole_1 23 rfl rfl)
theorem dX3_loophole_48 : decode cX3_loophole 48 = .ok (.dup, 1) := dk_89 (dk_at dksX3_loophole_2 0 rfl rfl)
theorem dX3_loophole_49 : decode cX3_loophole 49 = .ok (.getfield 73, 3) := dk_180 0 73 (dk_at dksX3_loophole_2 1 rfl rfl)
theorem dX3_loophole_52 : decode cX3_loophole 52 = .ok (.lconst 1, 1) := dk_10 (dk_at dksX3_loophole_2 4 rfl rfl)
theorem dX3_loophole_53 : decode cX3_loophole 53 = .ok (.iload_n 3, 1) := dk_29 (dk_at dksX3_loophole_2 5 rfl rfl)
theorem dX3_loophole_54 : decode cX3_loophole 54 = .ok (.lshl, 1) := dk_121 (dk_at dksX3_loophole_2 6 rfl rfl)
theorem dX3_loophole_55 : decode cX3_loophole 55 = .ok (.ldc2_w 94, 3) := dk_20 0 94 (dk_at dksX3_loophole_2 7 rfl rfl)
theorem dX3_loophole_58 : decode cX3_loophole 58 = .ok (.lxor, 1) := dk_131 (dk_at dksX3_loophole_2 10 rfl rfl)
theorem dX3_loophole_59 : decode cX3_loophole 59 = .ok (.land, 1) := dk_127 (dk_at dksX3_loophole_2 11 rfl rfl)
theorem dX3_loophole_60 : decode cX3_loophole 60 = .ok (.putfield 73, 3) := dk_181 0 73 (dk_at dksX3_loophole_2 12 rfl rfl)
theorem dX3_loophole_63 : decode cX3_loophole 63 = .ok (.iload 4, 2) := dk_21 4 (dk_at dksX3_loophole_2 15 rfl rfl)
theorem dX3_loophole_65 : decode cX3_loophole 65 = .ok (.iload_n 1, 1) := dk_27 (dk_at dksX3_loophole_2 17 rfl rfl)
theorem dX3_loophole_66 : decode cX3_loophole 66 = .ok (.if_icmp .ge 7, 3) := dk_162 0 7 (dk_at dksX3_loophole_2 18 rfl rfl)
theorem dX3_loophole_69 : decode cX3_loophole 69 = .ok (.iload_n 3, 1) := dk_29 (dk_at dksX3_loophole_2 21 rfl rfl)
theorem dX3_loophole_70 : decode cX3_loophole 70 = .ok (.goto 4, 3) := dk_167 0 4 (dk_at dksX3_loophole_3 0 rfl rfl)
theorem dX3_loophole_73 : decode cX3_loophole 73 = .ok (.iload_n 2, 1) := dk_28 (dk_at dksX3_loophole_3 3 rfl rfl)
theorem dX3_loophole_74 : decode cX3_loophole 74 = .ok (.istore_n 2, 1) := dk_61 (dk_at dksX3_loophole_3 4 rfl rfl)
theorem dX3_loophole_75 : decode cX3_loophole 75 = .ok (.iload 4, 2) := dk_21 4 (dk_at dksX3_loophole_3 5 rfl rfl)
theorem dX3_loophole_77 : decode cX3_loophole 77 = .ok (.iload_n 1, 1) := dk_27 (dk_at dksX3_loophole_3 7 rfl rfl)
theorem dX3_loophole_78 : decode cX3_loophole 78 = .ok (.if_icmp .ge 8, 3) := dk_162 0 8 (dk_at dksX3_loophole_3 8 rfl rfl)
theorem dX3_loophole_81 : decode cX3_loophole 81 = .ok (.iload 4, 2) := dk_21 4 (dk_at dksX3_loophole_3 11 rfl rfl)
theorem dX3_loophole_83 : decode cX3_loophole 83 = .ok (.goto 4, 3) := dk_167 0 4 (dk_at dksX3_loophole_3 13 rfl rfl)
theorem dX3_loophole_86 : decode cX3_loophole 86 = .ok (.iload_n 1, 1) := dk_27 (dk_at dksX3_loophole_3 16 rfl rfl)
theorem dX3_loophole_87 : decode cX3_loophole 87 = .ok (.istore_n 1, 1) := dk_60 (dk_at dksX3_loophole_3 17 rfl rfl)
theorem dX3_loophole_88 : decode cX3_loophole 88 = .ok (.iinc 3 1, 3) := dk_132 3 1 (dk_at dksX3_loophole_3 18 rfl rfl)
theorem dX3_loophole_91 : decode cX3_loophole 91 = .ok (.goto (-77), 3) := dk_167 255 179 (dk_at dksX3_loophole_3 21 rfl rfl)
theorem dX3_loophole_94 : decode cX3_loophole 94 = .ok (.iload_n 2, 1) := dk_28 (dk_at dksX3_loophole_4 0 rfl rfl)
theorem dX3_loophole_95 : decode cX3_loophole 95 = .ok (.ireturn, 1) := dk_172 (dk_at dksX3_loophole_4 1 rfl rfl)
abbrev cX3_roofs : ByteArray := prog_12_method_57_code
def yX3_roofs : MethodName := ⟨RX3, "roofs", "(I)I"⟩
def dkwX3_roofs_1 : List UInt8 := [42, 27, 182, 0, 129, 42, 180, 0, 114, 20, 0, 94, 131, 127, 184, 0, 96, 167, 0, 5, 16, 254, 172]
abbrev dktX3_roofs_1 : List UInt8 := dkwX3_roofs_1 ++ []
def dkwX3_roofs_0 : List UInt8 := [27, 184, 0, 142, 154, 0, 5, 2, 172, 42, 182, 0, 158, 42, 180, 0, 73, 27, 184, 0, 69, 153, 0, 23]
abbrev dktX3_roofs_0 : List UInt8 := dkwX3_roofs_0 ++ dktX3_roofs_1
theorem dksX3_roofs_0 : cX3_roofs.data.toList.drop 0 = dktX3_roofs_0 := by decide +kernel
theorem dksX3_roofs_1 : cX3_roofs.data.toList.drop 24 = dktX3_roofs_1 := dk_seg dksX3_roofs_0 24 rfl rfl
theorem dX3_roofs_0 : decode cX3_roofs 0 = .ok (.iload_n 1, 1) := dk_27 (dk_at dksX3_roofs_0 0 rfl rfl)
theorem dX3_roofs_1 : decode cX3_roofs 1 = .ok (.invokestatic 142, 3) := dk_184 0 142 (dk_at dksX3_roofs_0 1 rfl rfl)
theorem dX3_roofs_4 : decode cX3_roofs 4 = .ok (.ifCond .ne 5, 3) := dk_154 0 5 (dk_at dksX3_roofs_0 4 rfl rfl)
theorem dX3_roofs_7 : decode cX3_roofs 7 = .ok (.iconst (-1), 1) := dk_2 (dk_at dksX3_roofs_0 7 rfl rfl)
theorem dX3_roofs_8 : decode cX3_roofs 8 = .ok (.ireturn, 1) := dk_172 (dk_at dksX3_roofs_0 8 rfl rfl)
theorem dX3_roofs_9 : decode cX3_roofs 9 = .ok (.aload_n 0, 1) := dk_42 (dk_at dksX3_roofs_0 9 rfl rfl)
theorem dX3_roofs_10 : decode cX3_roofs 10 = .ok (.invokevirtual 158, 3) := dk_182 0 158 (dk_at dksX3_roofs_0 10 rfl rfl)
theorem dX3_roofs_13 : decode cX3_roofs 13 = .ok (.aload_n 0, 1) := dk_42 (dk_at dksX3_roofs_0 13 rfl rfl)
theorem dX3_roofs_14 : decode cX3_roofs 14 = .ok (.getfield 73, 3) := dk_180 0 73 (dk_at dksX3_roofs_0 14 rfl rfl)
theorem dX3_roofs_17 : decode cX3_roofs 17 = .ok (.iload_n 1, 1) := dk_27 (dk_at dksX3_roofs_0 17 rfl rfl)
theorem dX3_roofs_18 : decode cX3_roofs 18 = .ok (.invokestatic 69, 3) := dk_184 0 69 (dk_at dksX3_roofs_0 18 rfl rfl)
theorem dX3_roofs_21 : decode cX3_roofs 21 = .ok (.ifCond .eq 23, 3) := dk_153 0 23 (dk_at dksX3_roofs_0 21 rfl rfl)
theorem dX3_roofs_24 : decode cX3_roofs 24 = .ok (.aload_n 0, 1) := dk_42 (dk_at dksX3_roofs_1 0 rfl rfl)
theorem dX3_roofs_25 : decode cX3_roofs 25 = .ok (.iload_n 1, 1) := dk_27 (dk_at dksX3_roofs_1 1 rfl rfl)
theorem dX3_roofs_26 : decode cX3_roofs 26 = .ok (.invokevirtual 129, 3) := dk_182 0 129 (dk_at dksX3_roofs_1 2 rfl rfl)
theorem dX3_roofs_29 : decode cX3_roofs 29 = .ok (.aload_n 0, 1) := dk_42 (dk_at dksX3_roofs_1 5 rfl rfl)
theorem dX3_roofs_30 : decode cX3_roofs 30 = .ok (.getfield 114, 3) := dk_180 0 114 (dk_at dksX3_roofs_1 6 rfl rfl)
theorem dX3_roofs_33 : decode cX3_roofs 33 = .ok (.ldc2_w 94, 3) := dk_20 0 94 (dk_at dksX3_roofs_1 9 rfl rfl)
theorem dX3_roofs_36 : decode cX3_roofs 36 = .ok (.lxor, 1) := dk_131 (dk_at dksX3_roofs_1 12 rfl rfl)
theorem dX3_roofs_37 : decode cX3_roofs 37 = .ok (.land, 1) := dk_127 (dk_at dksX3_roofs_1 13 rfl rfl)
theorem dX3_roofs_38 : decode cX3_roofs 38 = .ok (.invokestatic 96, 3) := dk_184 0 96 (dk_at dksX3_roofs_1 14 rfl rfl)
theorem dX3_roofs_41 : decode cX3_roofs 41 = .ok (.goto 5, 3) := dk_167 0 5 (dk_at dksX3_roofs_1 17 rfl rfl)
theorem dX3_roofs_44 : decode cX3_roofs 44 = .ok (.bipush (-2), 2) := dk_16 254 (dk_at dksX3_roofs_1 20 rfl rfl)
theorem dX3_roofs_46 : decode cX3_roofs 46 = .ok (.ireturn, 1) := dk_172 (dk_at dksX3_roofs_1 22 rfl rfl)
abbrev cX3_round : ByteArray := prog_12_method_63_code
def yX3_round : MethodName := ⟨RX3, "round", "(II)I"⟩
def dkwX3_round_9 : List UInt8 := [180, 0, 26, 42, 180, 0, 42, 28, 46, 47, 184, 0, 126, 167, 0, 5, 16, 252, 172]
abbrev dktX3_round_9 : List UInt8 := dkwX3_round_9 ++ []
def dkwX3_round_8 : List UInt8 := [29, 182, 1, 21, 54, 5, 167, 255, 191, 28, 156, 0, 8, 21, 4, 167, 0, 27, 28, 29, 162, 0, 20, 42]
abbrev dktX3_round_8 : List UInt8 := dkwX3_round_8 ++ dktX3_round_9
def dkwX3_round_7 : List UInt8 := [162, 0, 23, 42, 180, 0, 42, 21, 7, 42, 180, 0, 39, 21, 7, 46, 79, 132, 7, 1, 167, 255, 233, 42]
abbrev dktX3_round_7 : List UInt8 := dkwX3_round_7 ++ dktX3_round_8
def dkwX3_round_6 : List UInt8 := [54, 6, 21, 4, 155, 0, 10, 21, 6, 21, 4, 162, 0, 36, 21, 6, 54, 4, 3, 54, 7, 21, 7, 29]
abbrev dktX3_round_6 : List UInt8 := dkwX3_round_6 ++ dktX3_round_7
def dkwX3_round_5 : List UInt8 := [132, 4, 1, 167, 255, 238, 2, 54, 4, 4, 54, 5, 21, 5, 153, 0, 66, 42, 27, 29, 182, 1, 18]
abbrev dktX3_round_5 : List UInt8 := dkwX3_round_5 ++ dktX3_round_6
def dkwX3_round_4 : List UInt8 := [132, 4, 1, 167, 255, 211, 3, 54, 4, 21, 4, 29, 162, 0, 18, 42, 180, 0, 39, 21, 4, 21, 4, 79]
abbrev dktX3_round_4 : List UInt8 := dkwX3_round_4 ++ dktX3_round_5
def dkwX3_round_3 : List UInt8 := [21, 4, 29, 112, 96, 42, 180, 0, 26, 21, 4, 29, 112, 47, 21, 4, 29, 108, 184, 1, 15, 79]
abbrev dktX3_round_3 : List UInt8 := dkwX3_round_3 ++ dktX3_round_4
def dkwX3_round_2 : List UInt8 := [3, 54, 4, 21, 4, 16, 36, 29, 104, 162, 0, 42, 42, 180, 0, 45, 16, 8, 21, 4, 29, 108, 104]
abbrev dktX3_round_2 : List UInt8 := dkwX3_round_2 ++ dktX3_round_3
def dkwX3_round_1 : List UInt8 := [182, 0, 158, 42, 182, 0, 133, 42, 180, 0, 123, 16, 8, 164, 0, 6, 16, 253, 172, 42, 180, 0, 123, 62]
abbrev dktX3_round_1 : List UInt8 := dkwX3_round_1 ++ dktX3_round_2
def dkwX3_round_0 : List UInt8 := [27, 184, 0, 142, 153, 0, 17, 28, 133, 20, 0, 94, 20, 0, 228, 184, 0, 65, 154, 0, 5, 2, 172, 42]
abbrev dktX3_round_0 : List UInt8 := dkwX3_round_0 ++ dktX3_round_1
theorem dksX3_round_0 : cX3_round.data.toList.drop 0 = dktX3_round_0 := by decide +kernel
theorem dksX3_round_1 : cX3_round.data.toList.drop 24 = dktX3_round_1 := dk_seg dksX3_round_0 24 rfl rfl
theorem dksX3_round_2 : cX3_round.data.toList.drop 48 = dktX3_round_2 := dk_seg dksX3_round_1 24 rfl rfl
theorem dksX3_round_3 : cX3_round.data.toList.drop 71 = dktX3_round_3 := dk_seg dksX3_round_2 23 rfl rfl
theorem dksX3_round_4 : cX3_round.data.toList.drop 93 = dktX3_round_4 := dk_seg dksX3_round_3 22 rfl rfl
theorem dksX3_round_5 : cX3_round.data.toList.drop 117 = dktX3_round_5 := dk_seg dksX3_round_4 24 rfl rfl
theorem dksX3_round_6 : cX3_round.data.toList.drop 140 = dktX3_round_6 := dk_seg dksX3_round_5 23 rfl rfl
theorem dksX3_round_7 : cX3_round.data.toList.drop 164 = dktX3_round_7 := dk_seg dksX3_round_6 24 rfl rfl
theorem dksX3_round_8 : cX3_round.data.toList.drop 188 = dktX3_round_8 := dk_seg dksX3_round_7 24 rfl rfl
theorem dksX3_round_9 : cX3_round.data.toList.drop 212 = dktX3_round_9 := dk_seg dksX3_round_8 24 rfl rfl
theorem dX3_round_0 : decode cX3_round 0 = .ok (.iload_n 1, 1) := dk_27 (dk_at dksX3_round_0 0 rfl rfl)
theorem dX3_round_1 : decode cX3_round 1 = .ok (.invokestatic 142, 3) := dk_184 0 142 (dk_at dksX3_round_0 1 rfl rfl)
theorem dX3_round_4 : decode cX3_round 4 = .ok (.ifCond .eq 17, 3) := dk_153 0 17 (dk_at dksX3_round_0 4 rfl rfl)
theorem dX3_round_7 : decode cX3_round 7 = .ok (.iload_n 2, 1) := dk_28 (dk_at dksX3_round_0 7 rfl rfl)
theorem dX3_round_8 : decode cX3_round 8 = .ok (.i2l, 1) := dk_133 (dk_at dksX3_round_0 8 rfl rfl)
theorem dX3_round_9 : decode cX3_round 9 = .ok (.ldc2_w 94, 3) := dk_20 0 94 (dk_at dksX3_round_0 9 rfl rfl)
theorem dX3_round_12 : decode cX3_round 12 = .ok (.ldc2_w 228, 3) := dk_20 0 228 (dk_at dksX3_round_0 12 rfl rfl)
theorem dX3_round_15 : decode cX3_round 15 = .ok (.invokestatic 65, 3) := dk_184 0 65 (dk_at dksX3_round_0 15 rfl rfl)
theorem dX3_round_18 : decode cX3_round 18 = .ok (.ifCond .ne 5, 3) := dk_154 0 5 (dk_at dksX3_round_0 18 rfl rfl)
theorem dX3_round_21 : decode cX3_round 21 = .ok (.iconst (-1), 1) := dk_2 (dk_at dksX3_round_0 21 rfl rfl)
theorem dX3_round_22 : decode cX3_round 22 = .ok (.ireturn, 1) := dk_172 (dk_at dksX3_round_0 22 rfl rfl)
theorem dX3_round_23 : decode cX3_round 23 = .ok (.aload_n 0, 1) := dk_42 (dk_at dksX3_round_0 23 rfl rfl)
theorem dX3_round_24 : decode cX3_round 24 = .ok (.invokevirtual 158, 3) := dk_182 0 158 (dk_at dksX3_round_1 0 rfl rfl)
theorem dX3_round_27 : decode cX3_round 27 = .ok (.aload_n 0, 1) := dk_42 (dk_at dksX3_round_1 3 rfl rfl)
theorem dX3_round_28 : decode cX3_round 28 = .ok (.invokevirtual 133, 3) := dk_182 0 133 (dk_at dksX3_round_1 4 rfl rfl)
theorem dX3_round_31 : decode cX3_round 31 = .ok (.aload_n 0, 1) := dk_42 (dk_at dksX3_round_1 7 rfl rfl)
theorem dX3_round_32 : decode cX3_round 32 = .ok (.getfield 123, 3) := dk_180 0 123 (dk_at dksX3_round_1 8 rfl rfl)
theorem dX3_round_35 : decode cX3_round 35 = .ok (.bipush 8, 2) := dk_16 8 (dk_at dksX3_round_1 11 rfl rfl)
theorem dX3_round_37 : decode cX3_round 37 = .ok (.if_icmp .le 6, 3) := dk_164 0 6 (dk_at dksX3_round_1 13 rfl rfl)
theorem dX3_round_40 : decode cX3_round 40 = .ok (.bipush (-3), 2) := dk_16 253 (dk_at dksX3_round_1 16 rfl rfl)
theorem dX3_round_42 : decode cX3_round 42 = .ok (.ireturn, 1) := dk_172 (dk_at dksX3_round_1 18 rfl rfl)
theorem dX3_round_43 : decode cX3_round 43 = .ok (.aload_n 0, 1) := dk_42 (dk_at dksX3_round_1 19 rfl rfl)
theorem dX3_round_44 : decode cX3_round 44 = .ok (.getfield 123, 3) := dk_180 0 123 (dk_at dksX3_round_1 20 rfl rfl)
theorem dX3_round_47 : decode cX3_round 47 = .ok (.istore_n 3, 1) := dk_62 (dk_at dksX3_round_1 23 rfl rfl)
theorem dX3_round_48 : decode cX3_round 48 = .ok (.iconst 0, 1) := dk_3 (dk_at dksX3_round_2 0 rfl rfl)
theorem dX3_round_49 : decode cX3_round 49 = .ok (.istore 4, 2) := dk_54 4 (dk_at dksX3_round_2 1 rfl rfl)
theorem dX3_round_51 : decode cX3_round 51 = .ok (.iload 4, 2) := dk_21 4 (dk_at dksX3_round_2 3 rfl rfl)
theorem dX3_round_53 : decode cX3_round 53 = .ok (.bipush 36, 2) := dk_16 36 (dk_at dksX3_round_2 5 rfl rfl)
theorem dX3_round_55 : decode cX3_round 55 = .ok (.iload_n 3, 1) := dk_29 (dk_at dksX3_round_2 7 rfl rfl)
theorem dX3_round_56 : decode cX3_round 56 = .ok (.imul, 1) := dk_104 (dk_at dksX3_round_2 8 rfl rfl)
theorem dX3_round_57 : decode cX3_round 57 = .ok (.if_icmp .ge 42, 3) := dk_162 0 42 (dk_at dksX3_round_2 9 rfl rfl)
theorem dX3_round_60 : decode cX3_round 60 = .ok (.aload_n 0, 1) := dk_42 (dk_at dksX3_round_2 12 rfl rfl)
theorem dX3_round_61 : decode cX3_round 61 = .ok (.getfield 45, 3) := dk_180 0 45 (dk_at dksX3_round_2 13 rfl rfl)
theorem dX3_round_64 : decode cX3_round 64 = .ok (.bipush 8, 2) := dk_16 8 (dk_at dksX3_round_2 16 rfl rfl)
theorem dX3_round_66 : decode cX3_round 66 = .ok (.iload 4, 2) := dk_21 4 (dk_at dksX3_round_2 18 rfl rfl)
theorem dX3_round_68 : decode cX3_round 68 = .ok (.iload_n 3, 1) := dk_29 (dk_at dksX3_round_2 20 rfl rfl)
theorem dX3_round_69 : decode cX3_round 69 = .ok (.idiv, 1) := dk_108 (dk_at dksX3_round_2 21 rfl rfl)
theorem dX3_round_70 : decode cX3_round 70 = .ok (.imul, 1) := dk_104 (dk_at dksX3_round_2 22 rfl rfl)
theorem dX3_round_71 : decode cX3_round 71 = .ok (.iload 4, 2) := dk_21 4 (dk_at dksX3_round_3 0 rfl rfl)
theorem dX3_round_73 : decode cX3_round 73 = .ok (.iload_n 3, 1) := dk_29 (dk_at dksX3_round_3 2 rfl rfl)
theorem dX3_round_74 : decode cX3_round 74 = .ok (.irem, 1) := dk_112 (dk_at dksX3_round_3 3 rfl rfl)
theorem dX3_round_75 : decode cX3_round 75 = .ok (.iadd, 1) := dk_96 (dk_at dksX3_round_3 4 rfl rfl)
theorem dX3_round_76 : decode cX3_round 76 = .ok (.aload_n 0, 1) := dk_42 (dk_at dksX3_round_3 5 rfl rfl)
theorem dX3_round_77 : decode cX3_round 77 = .ok (.getfield 26, 3) := dk_180 0 26 (dk_at dksX3_round_3 6 rfl rfl)
theorem dX3_round_80 : decode cX3_round 80 = .ok (.iload 4, 2) := dk_21 4 (dk_at dksX3_round_3 9 rfl rfl)
theorem dX3_round_82 : decode cX3_round 82 = .ok (.iload_n 3, 1) := dk_29 (dk_at dksX3_round_3 11 rfl rfl)
theorem dX3_round_83 : decode cX3_round 83 = .ok (.irem, 1) := dk_112 (dk_at dksX3_round_3 12 rfl rfl)
theorem dX3_round_84 : decode cX3_round 84 = .ok (.laload, 1) := dk_47 (dk_at dksX3_round_3 13 rfl rfl)
theorem dX3_round_85 : decode cX3_round 85 = .ok (.iload 4, 2) := dk_21 4 (dk_at dksX3_round_3 14 rfl rfl)
theorem dX3_round_87 : decode cX3_round 87 = .ok (.iload_n 3, 1) := dk_29 (dk_at dksX3_round_3 16 rfl rfl)
theorem dX3_round_88 : decode cX3_round 88 = .ok (.idiv, 1) := dk_108 (dk_at dksX3_round_3 17 rfl rfl)
theorem dX3_round_89 : decode cX3_round 89 = .ok (.invokestatic 271, 3) := dk_184 1 15 (dk_at dksX3_round_3 18 rfl rfl)
theorem dX3_round_92 : decode cX3_round 92 = .ok (.iastore, 1) := dk_79 (dk_at dksX3_round_3 21 rfl rfl)
theorem dX3_round_93 : decode cX3_round 93 = .ok (.iinc 4 1, 3) := dk_132 4 1 (dk_at dksX3_round_4 0 rfl rfl)
theorem dX3_round_96 : decode cX3_round 96 = .ok (.goto (-45), 3) := dk_167 255 211 (dk_at dksX3_round_4 3 rfl rfl)
theorem dX3_round_99 : decode cX3_round 99 = .ok (.iconst 0, 1) := dk_3 (dk_at dksX3_round_4 6 rfl rfl)
theorem dX3_round_100 : decode cX3_round 100 = .ok (.istore 4, 2) := dk_54 4 (dk_at dksX3_round_4 7 rfl rfl)
theorem dX3_round_102 : decode cX3_round 102 = .ok (.iload 4, 2) := dk_21 4 (dk_at dksX3_round_4 9 rfl rfl)
theorem dX3_round_104 : decode cX3_round 104 = .ok (.iload_n 3, 1) := dk_29 (dk_at dksX3_round_4 11 rfl rfl)
theorem dX3_round_105 : decode cX3_round 105 = .ok (.if_icmp .ge 18, 3) := dk_162 0 18 (dk_at dksX3_round_4 12 rfl rfl)
theorem dX3_round_108 : decode cX3_round 108 = .ok (.aload_n 0, 1) := dk_42 (dk_at dksX3_round_4 15 rfl rfl)
theorem dX3_round_109 : decode cX3_round 109 = .ok (.getfield 39, 3) := dk_180 0 39 (dk_at dksX3_round_4 16 rfl rfl)
theorem dX3_round_112 : decode cX3_round 112 = .ok (.iload 4, 2) := dk_21 4 (dk_at dksX3_round_4 19 rfl rfl)
theorem dX3_round_114 : decode cX3_round 114 = .ok (.iload 4, 2) := dk_21 4 (dk_at dksX3_round_4 21 rfl rfl)
theorem dX3_round_116 : decode cX3_round 116 = .ok (.iastore, 1) := dk_79 (dk_at dksX3_round_4 23 rfl rfl)
theorem dX3_round_117 : decode cX3_round 117 = .ok (.iinc 4 1, 3) := dk_132 4 1 (dk_at dksX3_round_5 0 rfl rfl)
theorem dX3_round_120 : decode cX3_round 120 = .ok (.goto (-18), 3) := dk_167 255 238 (dk_at dksX3_round_5 3 rfl rfl)
theorem dX3_round_123 : decode cX3_round 123 = .ok (.iconst (-1), 1) := dk_2 (dk_at dksX3_round_5 6 rfl rfl)
theorem dX3_round_124 : decode cX3_round 124 = .ok (.istore 4, 2) := dk_54 4 (dk_at dksX3_round_5 7 rfl rfl)
theorem dX3_round_126 : decode cX3_round 126 = .ok (.iconst 1, 1) := dk_4 (dk_at dksX3_round_5 9 rfl rfl)
theorem dX3_round_127 : decode cX3_round 127 = .ok (.istore 5, 2) := dk_54 5 (dk_at dksX3_round_5 10 rfl rfl)
theorem dX3_round_129 : decode cX3_round 129 = .ok (.iload 5, 2) := dk_21 5 (dk_at dksX3_round_5 12 rfl rfl)
theorem dX3_round_131 : decode cX3_round 131 = .ok (.ifCond .eq 66, 3) := dk_153 0 66 (dk_at dksX3_round_5 14 rfl rfl)
theorem dX3_round_134 : decode cX3_round 134 = .ok (.aload_n 0, 1) := dk_42 (dk_at dksX3_round_5 17 rfl rfl)
theorem dX3_round_135 : decode cX3_round 135 = .ok (.iload_n 1, 1) := dk_27 (dk_at dksX3_round_5 18 rfl rfl)
theorem dX3_round_136 : decode cX3_round 136 = .ok (.iload_n 3, 1) := dk_29 (dk_at dksX3_round_5 19 rfl rfl)
theorem dX3_round_137 : decode cX3_round 137 = .ok (.invokevirtual 274, 3) := dk_182 1 18 (dk_at dksX3_round_5 20 rfl rfl)
theorem dX3_round_140 : decode cX3_round 140 = .ok (.istore 6, 2) := dk_54 6 (dk_at dksX3_round_6 0 rfl rfl)
theorem dX3_round_142 : decode cX3_round 142 = .ok (.iload 4, 2) := dk_21 4 (dk_at dksX3_round_6 2 rfl rfl)
theorem dX3_round_144 : decode cX3_round 144 = .ok (.ifCond .lt 10, 3) := dk_155 0 10 (dk_at dksX3_round_6 4 rfl rfl)
theorem dX3_round_147 : decode cX3_round 147 = .ok (.iload 6, 2) := dk_21 6 (dk_at dksX3_round_6 7 rfl rfl)
theorem dX3_round_149 : decode cX3_round 149 = .ok (.iload 4, 2) := dk_21 4 (dk_at dksX3_round_6 9 rfl rfl)
theorem dX3_round_151 : decode cX3_round 151 = .ok (.if_icmp .ge 36, 3) := dk_162 0 36 (dk_at dksX3_round_6 11 rfl rfl)
theorem dX3_round_154 : decode cX3_round 154 = .ok (.iload 6, 2) := dk_21 6 (dk_at dksX3_round_6 14 rfl rfl)
theorem dX3_round_156 : decode cX3_round 156 = .ok (.istore 4, 2) := dk_54 4 (dk_at dksX3_round_6 16 rfl rfl)
theorem dX3_round_158 : decode cX3_round 158 = .ok (.iconst 0, 1) := dk_3 (dk_at dksX3_round_6 18 rfl rfl)
theorem dX3_round_159 : decode cX3_round 159 = .ok (.istore 7, 2) := dk_54 7 (dk_at dksX3_round_6 19 rfl rfl)
theorem dX3_round_161 : decode cX3_round 161 = .ok (.iload 7, 2) := dk_21 7 (dk_at dksX3_round_6 21 rfl rfl)
theorem dX3_round_163 : decode cX3_round 163 = .ok (.iload_n 3, 1) := dk_29 (dk_at dksX3_round_6 23 rfl rfl)
theorem dX3_round_164 : decode cX3_round 164 = .ok (.if_icmp .ge 23, 3) := dk_162 0 23 (dk_at dksX3_round_7 0 rfl rfl)
theorem dX3_round_167 : decode cX3_round 167 = .ok (.aload_n 0, 1) := dk_42 (dk_at dksX3_round_7 3 rfl rfl)
theorem dX3_round_168 : decode cX3_round 168 = .ok (.getfield 42, 3) := dk_180 0 42 (dk_at dksX3_round_7 4 rfl rfl)
theorem dX3_round_171 : decode cX3_round 171 = .ok (.iload 7, 2) := dk_21 7 (dk_at dksX3_round_7 7 rfl rfl)
theorem dX3_round_173 : decode cX3_round 173 = .ok (.aload_n 0, 1) := dk_42 (dk_at dksX3_round_7 9 rfl rfl)
theorem dX3_round_174 : decode cX3_round 174 = .ok (.getfield 39, 3) := dk_180 0 39 (dk_at dksX3_round_7 10 rfl rfl)
theorem dX3_round_177 : decode cX3_round 177 = .ok (.iload 7, 2) := dk_21 7 (dk_at dksX3_round_7 13 rfl rfl)
theorem dX3_round_179 : decode cX3_round 179 = .ok (.iaload, 1) := dk_46 (dk_at dksX3_round_7 15 rfl rfl)
theorem dX3_round_180 : decode cX3_round 180 = .ok (.iastore, 1) := dk_79 (dk_at dksX3_round_7 16 rfl rfl)
theorem dX3_round_181 : decode cX3_round 181 = .ok (.iinc 7 1, 3) := dk_132 7 1 (dk_at dksX3_round_7 17 rfl rfl)
theorem dX3_round_184 : decode cX3_round 184 = .ok (.goto (-23), 3) := dk_167 255 233 (dk_at dksX3_round_7 20 rfl rfl)
theorem dX3_round_187 : decode cX3_round 187 = .ok (.aload_n 0, 1) := dk_42 (dk_at dksX3_round_7 23 rfl rfl)
theorem dX3_round_188 : decode cX3_round 188 = .ok (.iload_n 3, 1) := dk_29 (dk_at dksX3_round_8 0 rfl rfl)
theorem dX3_round_189 : decode cX3_round 189 = .ok (.invokevirtual 277, 3) := dk_182 1 21 (dk_at dksX3_round_8 1 rfl rfl)
theorem dX3_round_192 : decode cX3_round 192 = .ok (.istore 5, 2) := dk_54 5 (dk_at dksX3_round_8 4 rfl rfl)
theorem dX3_round_194 : decode cX3_round 194 = .ok (.goto (-65), 3) := dk_167 255 191 (dk_at dksX3_round_8 6 rfl rfl)
theorem dX3_round_197 : decode cX3_round 197 = .ok (.iload_n 2, 1) := dk_28 (dk_at dksX3_round_8 9 rfl rfl)
theorem dX3_round_198 : decode cX3_round 198 = .ok (.ifCond .ge 8, 3) := dk_156 0 8 (dk_at dksX3_round_8 10 rfl rfl)
theorem dX3_round_201 : decode cX3_round 201 = .ok (.iload 4, 2) := dk_21 4 (dk_at dksX3_round_8 13 rfl rfl)
theorem dX3_round_203 : decode cX3_round 203 = .ok (.goto 27, 3) := dk_167 0 27 (dk_at dksX3_round_8 15 rfl rfl)
theorem dX3_round_206 : decode cX3_round 206 = .ok (.iload_n 2, 1) := dk_28 (dk_at dksX3_round_8 18 rfl rfl)
theorem dX3_round_207 : decode cX3_round 207 = .ok (.iload_n 3, 1) := dk_29 (dk_at dksX3_round_8 19 rfl rfl)
theorem dX3_round_208 : decode cX3_round 208 = .ok (.if_icmp .ge 20, 3) := dk_162 0 20 (dk_at dksX3_round_8 20 rfl rfl)
theorem dX3_round_211 : decode cX3_round 211 = .ok (.aload_n 0, 1) := dk_42 (dk_at dksX3_round_8 23 rfl rfl)
theorem dX3_round_212 : decode cX3_round 212 = .ok (.getfield 26, 3) := dk_180 0 26 (dk_at dksX3_round_9 0 rfl rfl)
theorem dX3_round_215 : decode cX3_round 215 = .ok (.aload_n 0, 1) := dk_42 (dk_at dksX3_round_9 3 rfl rfl)
theorem dX3_round_216 : decode cX3_round 216 = .ok (.getfield 42, 3) := dk_180 0 42 (dk_at dksX3_round_9 4 rfl rfl)
theorem dX3_round_219 : decode cX3_round 219 = .ok (.iload_n 2, 1) := dk_28 (dk_at dksX3_round_9 7 rfl rfl)
theorem dX3_round_220 : decode cX3_round 220 = .ok (.iaload, 1) := dk_46 (dk_at dksX3_round_9 8 rfl rfl)
theorem dX3_round_221 : decode cX3_round 221 = .ok (.laload, 1) := dk_47 (dk_at dksX3_round_9 9 rfl rfl)
theorem dX3_round_222 : decode cX3_round 222 = .ok (.invokestatic 126, 3) := dk_184 0 126 (dk_at dksX3_round_9 10 rfl rfl)
theorem dX3_round_225 : decode cX3_round 225 = .ok (.goto 5, 3) := dk_167 0 5 (dk_at dksX3_round_9 13 rfl rfl)
theorem dX3_round_228 : decode cX3_round 228 = .ok (.bipush (-4), 2) := dk_16 252 (dk_at dksX3_round_9 16 rfl rfl)
theorem dX3_round_230 : decode cX3_round 230 = .ok (.ireturn, 1) := dk_172 (dk_at dksX3_round_9 18 rfl rfl)
abbrev cX3_nearest : ByteArray := prog_12_method_61_code
def yX3_nearest : MethodName := ⟨RX3, "nearest", "(JI)I"⟩
def dkwX3_nearest_2 : List UInt8 := [167, 255, 216, 29, 172]
abbrev dktX3_nearest_2 : List UInt8 := dkwX3_nearest_2 ++ []
def dkwX3_nearest_1 : List UInt8 := [21, 4, 28, 184, 1, 12, 29, 28, 184, 1, 12, 162, 0, 8, 21, 4, 167, 0, 4, 29, 62, 132, 4, 1]
abbrev dktX3_nearest_1 : List UInt8 := dkwX3_nearest_1 ++ dktX3_nearest_2
def dkwX3_nearest_0 : List UInt8 := [30, 184, 0, 126, 62, 3, 54, 4, 21, 4, 16, 36, 162, 0, 39, 30, 21, 4, 184, 0, 69, 153, 0, 22]
abbrev dktX3_nearest_0 : List UInt8 := dkwX3_nearest_0 ++ dktX3_nearest_1
theorem dksX3_nearest_0 : cX3_nearest.data.toList.drop 0 = dktX3_nearest_0 := by decide +kernel
theorem dksX3_nearest_1 : cX3_nearest.data.toList.drop 24 = dktX3_nearest_1 := dk_seg dksX3_nearest_0 24 rfl rfl
theorem dksX3_nearest_2 : cX3_nearest.data.toList.drop 48 = dktX3_nearest_2 := dk_seg dksX3_nearest_1 24 rfl rfl
theorem dX3_nearest_0 : decode cX3_nearest 0 = .ok (.lload_n 0, 1) := dk_30 (dk_at dksX3_nearest_0 0 rfl rfl)
theorem dX3_nearest_1 : decode cX3_nearest 1 = .ok (.invokestatic 126, 3) := dk_184 0 126 (dk_at dksX3_nearest_0 1 rfl rfl)
theorem dX3_nearest_4 : decode cX3_nearest 4 = .ok (.istore_n 3, 1) := dk_62 (dk_at dksX3_nearest_0 4 rfl rfl)
theorem dX3_nearest_5 : decode cX3_nearest 5 = .ok (.iconst 0, 1) := dk_3 (dk_at dksX3_nearest_0 5 rfl rfl)
theorem dX3_nearest_6 : decode cX3_nearest 6 = .ok (.istore 4, 2) := dk_54 4 (dk_at dksX3_nearest_0 6 rfl rfl)
theorem dX3_nearest_8 : decode cX3_nearest 8 = .ok (.iload 4, 2) := dk_21 4 (dk_at dksX3_nearest_0 8 rfl rfl)
theorem dX3_nearest_10 : decode cX3_nearest 10 = .ok (.bipush 36, 2) := dk_16 36 (dk_at dksX3_nearest_0 10 rfl rfl)
theorem dX3_nearest_12 : decode cX3_nearest 12 = .ok (.if_icmp .ge 39, 3) := dk_162 0 39 (dk_at dksX3_nearest_0 12 rfl rfl)
theorem dX3_nearest_15 : decode cX3_nearest 15 = .ok (.lload_n 0, 1) := dk_30 (dk_at dksX3_nearest_0 15 rfl rfl)
theorem dX3_nearest_16 : decode cX3_nearest 16 = .ok (.iload 4, 2) := dk_21 4 (dk_at dksX3_nearest_0 16 rfl rfl)
theorem dX3_nearest_18 : decode cX3_nearest 18 = .ok (.invokestatic 69, 3) := dk_184 0 69 (dk_at dksX3_nearest_0 18 rfl rfl)
theorem dX3_nearest_21 : decode cX3_nearest 21 = .ok (.ifCond .eq 22, 3) := dk_153 0 22 (dk_at dksX3_nearest_0 21 rfl rfl)
theorem dX3_nearest_24 : decode cX3_nearest 24 = .ok (.iload 4, 2) := dk_21 4 (dk_at dksX3_nearest_1 0 rfl rfl)
theorem dX3_nearest_26 : decode cX3_nearest 26 = .ok (.iload_n 2, 1) := dk_28 (dk_at dksX3_nearest_1 2 rfl rfl)
theorem dX3_nearest_27 : decode cX3_nearest 27 = .ok (.invokestatic 268, 3) := dk_184 1 12 (dk_at dksX3_nearest_1 3 rfl rfl)
theorem dX3_nearest_30 : decode cX3_nearest 30 = .ok (.iload_n 3, 1) := dk_29 (dk_at dksX3_nearest_1 6 rfl rfl)
theorem dX3_nearest_31 : decode cX3_nearest 31 = .ok (.iload_n 2, 1) := dk_28 (dk_at dksX3_nearest_1 7 rfl rfl)
theorem dX3_nearest_32 : decode cX3_nearest 32 = .ok (.invokestatic 268, 3) := dk_184 1 12 (dk_at dksX3_nearest_1 8 rfl rfl)
theorem dX3_nearest_35 : decode cX3_nearest 35 = .ok (.if_icmp .ge 8, 3) := dk_162 0 8 (dk_at dksX3_nearest_1 11 rfl rfl)
theorem dX3_nearest_38 : decode cX3_nearest 38 = .ok (.iload 4, 2) := dk_21 4 (dk_at dksX3_nearest_1 14 rfl rfl)
theorem dX3_nearest_40 : decode cX3_nearest 40 = .ok (.goto 4, 3) := dk_167 0 4 (dk_at dksX3_nearest_1 16 rfl rfl)
theorem dX3_nearest_43 : decode cX3_nearest 43 = .ok (.iload_n 3, 1) := dk_29 (dk_at dksX3_nearest_1 19 rfl rfl)
theorem dX3_nearest_44 : decode cX3_nearest 44 = .ok (.istore_n 3, 1) := dk_62 (dk_at dksX3_nearest_1 20 rfl rfl)
theorem dX3_nearest_45 : decode cX3_nearest 45 = .ok (.iinc 4 1, 3) := dk_132 4 1 (dk_at dksX3_nearest_1 21 rfl rfl)
theorem dX3_nearest_48 : decode cX3_nearest 48 = .ok (.goto (-40), 3) := dk_167 255 216 (dk_at dksX3_nearest_2 0 rfl rfl)
theorem dX3_nearest_51 : decode cX3_nearest 51 = .ok (.iload_n 3, 1) := dk_29 (dk_at dksX3_nearest_2 3 rfl rfl)
theorem dX3_nearest_52 : decode cX3_nearest 52 = .ok (.ireturn, 1) := dk_172 (dk_at dksX3_nearest_2 4 rfl rfl)
abbrev cX3_apart : ByteArray := prog_12_method_60_code
def yX3_apart : MethodName := ⟨RX3, "apart", "(II)I"⟩
def dkwX3_apart_0 : List UInt8 := [26, 16, 6, 108, 27, 16, 6, 108, 184, 1, 8, 26, 16, 6, 112, 27, 16, 6, 112, 184, 1, 8, 96, 172]
abbrev dktX3_apart_0 : List UInt8 := dkwX3_apart_0 ++ []
theorem dksX3_apart_0 : cX3_apart.data.toList.drop 0 = dktX3_apart_0 := by decide +kernel
theorem dX3_apart_0 : decode cX3_apart 0 = .ok (.iload_n 0, 1) := dk_26 (dk_at dksX3_apart_0 0 rfl rfl)
theorem dX3_apart_1 : decode cX3_apart 1 = .ok (.bipush 6, 2) := dk_16 6 (dk_at dksX3_apart_0 1 rfl rfl)
theorem dX3_apart_3 : decode cX3_apart 3 = .ok (.idiv, 1) := dk_108 (dk_at dksX3_apart_0 3 rfl rfl)
theorem dX3_apart_4 : decode cX3_apart 4 = .ok (.iload_n 1, 1) := dk_27 (dk_at dksX3_apart_0 4 rfl rfl)
theorem dX3_apart_5 : decode cX3_apart 5 = .ok (.bipush 6, 2) := dk_16 6 (dk_at dksX3_apart_0 5 rfl rfl)
theorem dX3_apart_7 : decode cX3_apart 7 = .ok (.idiv, 1) := dk_108 (dk_at dksX3_apart_0 7 rfl rfl)
theorem dX3_apart_8 : decode cX3_apart 8 = .ok (.invokestatic 264, 3) := dk_184 1 8 (dk_at dksX3_apart_0 8 rfl rfl)
theorem dX3_apart_11 : decode cX3_apart 11 = .ok (.iload_n 0, 1) := dk_26 (dk_at dksX3_apart_0 11 rfl rfl)
theorem dX3_apart_12 : decode cX3_apart 12 = .ok (.bipush 6, 2) := dk_16 6 (dk_at dksX3_apart_0 12 rfl rfl)
theorem dX3_apart_14 : decode cX3_apart 14 = .ok (.irem, 1) := dk_112 (dk_at dksX3_apart_0 14 rfl rfl)
theorem dX3_apart_15 : decode cX3_apart 15 = .ok (.iload_n 1, 1) := dk_27 (dk_at dksX3_apart_0 15 rfl rfl)
theorem dX3_apart_16 : decode cX3_apart 16 = .ok (.bipush 6, 2) := dk_16 6 (dk_at dksX3_apart_0 16 rfl rfl)
theorem dX3_apart_18 : decode cX3_apart 18 = .ok (.irem, 1) := dk_112 (dk_at dksX3_apart_0 18 rfl rfl)
theorem dX3_apart_19 : decode cX3_apart 19 = .ok (.invokestatic 264, 3) := dk_184 1 8 (dk_at dksX3_apart_0 19 rfl rfl)
theorem dX3_apart_22 : decode cX3_apart 22 = .ok (.iadd, 1) := dk_96 (dk_at dksX3_apart_0 22 rfl rfl)
theorem dX3_apart_23 : decode cX3_apart 23 = .ok (.ireturn, 1) := dk_172 (dk_at dksX3_apart_0 23 rfl rfl)
abbrev cX3_off : ByteArray := prog_12_method_59_code
def yX3_off : MethodName := ⟨RX3, "off", "(II)I"⟩
def dkwX3_off_0 : List UInt8 := [26, 27, 164, 0, 9, 26, 27, 100, 167, 0, 6, 27, 26, 100, 172]
abbrev dktX3_off_0 : List UInt8 := dkwX3_off_0 ++ []
theorem dksX3_off_0 : cX3_off.data.toList.drop 0 = dktX3_off_0 := by decide +kernel
theorem dX3_off_0 : decode cX3_off 0 = .ok (.iload_n 0, 1) := dk_26 (dk_at dksX3_off_0 0 rfl rfl)
theorem dX3_off_1 : decode cX3_off 1 = .ok (.iload_n 1, 1) := dk_27 (dk_at dksX3_off_0 1 rfl rfl)
theorem dX3_off_2 : decode cX3_off 2 = .ok (.if_icmp .le 9, 3) := dk_164 0 9 (dk_at dksX3_off_0 2 rfl rfl)
theorem dX3_off_5 : decode cX3_off 5 = .ok (.iload_n 0, 1) := dk_26 (dk_at dksX3_off_0 5 rfl rfl)
theorem dX3_off_6 : decode cX3_off 6 = .ok (.iload_n 1, 1) := dk_27 (dk_at dksX3_off_0 6 rfl rfl)
theorem dX3_off_7 : decode cX3_off 7 = .ok (.isub, 1) := dk_100 (dk_at dksX3_off_0 7 rfl rfl)
theorem dX3_off_8 : decode cX3_off 8 = .ok (.goto 6, 3) := dk_167 0 6 (dk_at dksX3_off_0 8 rfl rfl)
theorem dX3_off_11 : decode cX3_off 11 = .ok (.iload_n 1, 1) := dk_27 (dk_at dksX3_off_0 11 rfl rfl)
theorem dX3_off_12 : decode cX3_off 12 = .ok (.iload_n 0, 1) := dk_26 (dk_at dksX3_off_0 12 rfl rfl)
theorem dX3_off_13 : decode cX3_off 13 = .ok (.isub, 1) := dk_100 (dk_at dksX3_off_0 13 rfl rfl)
theorem dX3_off_14 : decode cX3_off 14 = .ok (.ireturn, 1) := dk_172 (dk_at dksX3_off_0 14 rfl rfl)
abbrev cX3_stepsOf : ByteArray := prog_12_method_62_code
def yX3_stepsOf : MethodName := ⟨RX3, "stepsOf", "(II)I"⟩
def dkwX3_stepsOf_2 : List UInt8 := [132, 5, 1, 167, 255, 214, 21, 4, 172]
abbrev dktX3_stepsOf_2 : List UInt8 := dkwX3_stepsOf_2 ++ []
def dkwX3_stepsOf_1 : List UInt8 := [180, 0, 39, 21, 5, 46, 96, 46, 54, 6, 21, 4, 29, 21, 6, 184, 1, 12, 96, 54, 4, 21, 6, 62]
abbrev dktX3_stepsOf_1 : List UInt8 := dkwX3_stepsOf_1 ++ dktX3_stepsOf_2
def dkwX3_stepsOf_0 : List UInt8 := [27, 62, 3, 54, 4, 3, 54, 5, 21, 5, 28, 162, 0, 42, 42, 180, 0, 45, 16, 8, 29, 104, 42]
abbrev dktX3_stepsOf_0 : List UInt8 := dkwX3_stepsOf_0 ++ dktX3_stepsOf_1
theorem dksX3_stepsOf_0 : cX3_stepsOf.data.toList.drop 0 = dktX3_stepsOf_0 := by decide +kernel
theorem dksX3_stepsOf_1 : cX3_stepsOf.data.toList.drop 23 = dktX3_stepsOf_1 := dk_seg dksX3_stepsOf_0 23 rfl rfl
theorem dksX3_stepsOf_2 : cX3_stepsOf.data.toList.drop 47 = dktX3_stepsOf_2 := dk_seg dksX3_stepsOf_1 24 rfl rfl
theorem dX3_stepsOf_0 : decode cX3_stepsOf 0 = .ok (.iload_n 1, 1) := dk_27 (dk_at dksX3_stepsOf_0 0 rfl rfl)
theorem dX3_stepsOf_1 : decode cX3_stepsOf 1 = .ok (.istore_n 3, 1) := dk_62 (dk_at dksX3_stepsOf_0 1 rfl rfl)
theorem dX3_stepsOf_2 : decode cX3_stepsOf 2 = .ok (.iconst 0, 1) := dk_3 (dk_at dksX3_stepsOf_0 2 rfl rfl)
theorem dX3_stepsOf_3 : decode cX3_stepsOf 3 = .ok (.istore 4, 2) := dk_54 4 (dk_at dksX3_stepsOf_0 3 rfl rfl)
theorem dX3_stepsOf_5 : decode cX3_stepsOf 5 = .ok (.iconst 0, 1) := dk_3 (dk_at dksX3_stepsOf_0 5 rfl rfl)
theorem dX3_stepsOf_6 : decode cX3_stepsOf 6 = .ok (.istore 5, 2) := dk_54 5 (dk_at dksX3_stepsOf_0 6 rfl rfl)
theorem dX3_stepsOf_8 : decode cX3_stepsOf 8 = .ok (.iload 5, 2) := dk_21 5 (dk_at dksX3_stepsOf_0 8 rfl rfl)
theorem dX3_stepsOf_10 : decode cX3_stepsOf 10 = .ok (.iload_n 2, 1) := dk_28 (dk_at dksX3_stepsOf_0 10 rfl rfl)
theorem dX3_stepsOf_11 : decode cX3_stepsOf 11 = .ok (.if_icmp .ge 42, 3) := dk_162 0 42 (dk_at dksX3_stepsOf_0 11 rfl rfl)
theorem dX3_stepsOf_14 : decode cX3_stepsOf 14 = .ok (.aload_n 0, 1) := dk_42 (dk_at dksX3_stepsOf_0 14 rfl rfl)
theorem dX3_stepsOf_15 : decode cX3_stepsOf 15 = .ok (.getfield 45, 3) := dk_180 0 45 (dk_at dksX3_stepsOf_0 15 rfl rfl)
theorem dX3_stepsOf_18 : decode cX3_stepsOf 18 = .ok (.bipush 8, 2) := dk_16 8 (dk_at dksX3_stepsOf_0 18 rfl rfl)
theorem dX3_stepsOf_20 : decode cX3_stepsOf 20 = .ok (.iload_n 3, 1) := dk_29 (dk_at dksX3_stepsOf_0 20 rfl rfl)
theorem dX3_stepsOf_21 : decode cX3_stepsOf 21 = .ok (.imul, 1) := dk_104 (dk_at dksX3_stepsOf_0 21 rfl rfl)
theorem dX3_stepsOf_22 : decode cX3_stepsOf 22 = .ok (.aload_n 0, 1) := dk_42 (dk_at dksX3_stepsOf_0 22 rfl rfl)
theorem dX3_stepsOf_23 : decode cX3_stepsOf 23 = .ok (.getfield 39, 3) := dk_180 0 39 (dk_at dksX3_stepsOf_1 0 rfl rfl)
theorem dX3_stepsOf_26 : decode cX3_stepsOf 26 = .ok (.iload 5, 2) := dk_21 5 (dk_at dksX3_stepsOf_1 3 rfl rfl)
theorem dX3_stepsOf_28 : decode cX3_stepsOf 28 = .ok (.iaload, 1) := dk_46 (dk_at dksX3_stepsOf_1 5 rfl rfl)
theorem dX3_stepsOf_29 : decode cX3_stepsOf 29 = .ok (.iadd, 1) := dk_96 (dk_at dksX3_stepsOf_1 6 rfl rfl)
theorem dX3_stepsOf_30 : decode cX3_stepsOf 30 = .ok (.iaload, 1) := dk_46 (dk_at dksX3_stepsOf_1 7 rfl rfl)
theorem dX3_stepsOf_31 : decode cX3_stepsOf 31 = .ok (.istore 6, 2) := dk_54 6 (dk_at dksX3_stepsOf_1 8 rfl rfl)
theorem dX3_stepsOf_33 : decode cX3_stepsOf 33 = .ok (.iload 4, 2) := dk_21 4 (dk_at dksX3_stepsOf_1 10 rfl rfl)
theorem dX3_stepsOf_35 : decode cX3_stepsOf 35 = .ok (.iload_n 3, 1) := dk_29 (dk_at dksX3_stepsOf_1 12 rfl rfl)
theorem dX3_stepsOf_36 : decode cX3_stepsOf 36 = .ok (.iload 6, 2) := dk_21 6 (dk_at dksX3_stepsOf_1 13 rfl rfl)
theorem dX3_stepsOf_38 : decode cX3_stepsOf 38 = .ok (.invokestatic 268, 3) := dk_184 1 12 (dk_at dksX3_stepsOf_1 15 rfl rfl)
theorem dX3_stepsOf_41 : decode cX3_stepsOf 41 = .ok (.iadd, 1) := dk_96 (dk_at dksX3_stepsOf_1 18 rfl rfl)
theorem dX3_stepsOf_42 : decode cX3_stepsOf 42 = .ok (.istore 4, 2) := dk_54 4 (dk_at dksX3_stepsOf_1 19 rfl rfl)
theorem dX3_stepsOf_44 : decode cX3_stepsOf 44 = .ok (.iload 6, 2) := dk_21 6 (dk_at dksX3_stepsOf_1 21 rfl rfl)
theorem dX3_stepsOf_46 : decode cX3_stepsOf 46 = .ok (.istore_n 3, 1) := dk_62 (dk_at dksX3_stepsOf_1 23 rfl rfl)
theorem dX3_stepsOf_47 : decode cX3_stepsOf 47 = .ok (.iinc 5 1, 3) := dk_132 5 1 (dk_at dksX3_stepsOf_2 0 rfl rfl)
theorem dX3_stepsOf_50 : decode cX3_stepsOf 50 = .ok (.goto (-42), 3) := dk_167 255 214 (dk_at dksX3_stepsOf_2 3 rfl rfl)
theorem dX3_stepsOf_53 : decode cX3_stepsOf 53 = .ok (.iload 4, 2) := dk_21 4 (dk_at dksX3_stepsOf_2 6 rfl rfl)
theorem dX3_stepsOf_55 : decode cX3_stepsOf 55 = .ok (.ireturn, 1) := dk_172 (dk_at dksX3_stepsOf_2 8 rfl rfl)
abbrev cX3_nextOrder : ByteArray := prog_12_method_58_code
def yX3_nextOrder : MethodName := ⟨RX3, "nextOrder", "(I)Z"⟩
def dkwX3_nextOrder_6 : List UInt8 := [132, 5, 255, 132, 6, 1, 167, 255, 211, 4, 172]
abbrev dktX3_nextOrder_6 : List UInt8 := dkwX3_nextOrder_6 ++ []
def dkwX3_nextOrder_5 : List UInt8 := [180, 0, 39, 21, 6, 42, 180, 0, 39, 21, 5, 46, 79, 42, 180, 0, 39, 21, 5, 21, 4, 79]
abbrev dktX3_nextOrder_5 : List UInt8 := dkwX3_nextOrder_5 ++ dktX3_nextOrder_6
def dkwX3_nextOrder_4 : List UInt8 := [54, 5, 28, 4, 96, 54, 6, 21, 6, 21, 5, 162, 0, 44, 42, 180, 0, 39, 21, 6, 46, 54, 4, 42]
abbrev dktX3_nextOrder_4 : List UInt8 := dkwX3_nextOrder_4 ++ dktX3_nextOrder_5
def dkwX3_nextOrder_3 : List UInt8 := [42, 180, 0, 39, 28, 42, 180, 0, 39, 29, 46, 79, 42, 180, 0, 39, 29, 21, 4, 79, 27, 4, 100]
abbrev dktX3_nextOrder_3 : List UInt8 := dkwX3_nextOrder_3 ++ dktX3_nextOrder_4
def dkwX3_nextOrder_2 : List UInt8 := [46, 42, 180, 0, 39, 28, 46, 162, 0, 9, 132, 3, 255, 167, 255, 238, 42, 180, 0, 39, 28, 46, 54, 4]
abbrev dktX3_nextOrder_2 : List UInt8 := dkwX3_nextOrder_2 ++ dktX3_nextOrder_3
def dkwX3_nextOrder_1 : List UInt8 := [164, 0, 9, 132, 2, 255, 167, 255, 232, 28, 156, 0, 5, 3, 172, 27, 4, 100, 62, 42, 180, 0, 39, 29]
abbrev dktX3_nextOrder_1 : List UInt8 := dkwX3_nextOrder_1 ++ dktX3_nextOrder_2
def dkwX3_nextOrder_0 : List UInt8 := [27, 5, 100, 61, 28, 155, 0, 26, 42, 180, 0, 39, 28, 46, 42, 180, 0, 39, 28, 4, 96, 46]
abbrev dktX3_nextOrder_0 : List UInt8 := dkwX3_nextOrder_0 ++ dktX3_nextOrder_1
theorem dksX3_nextOrder_0 : cX3_nextOrder.data.toList.drop 0 = dktX3_nextOrder_0 := by decide +kernel
theorem dksX3_nextOrder_1 : cX3_nextOrder.data.toList.drop 22 = dktX3_nextOrder_1 := dk_seg dksX3_nextOrder_0 22 rfl rfl
theorem dksX3_nextOrder_2 : cX3_nextOrder.data.toList.drop 46 = dktX3_nextOrder_2 := dk_seg dksX3_nextOrder_1 24 rfl rfl
theorem dksX3_nextOrder_3 : cX3_nextOrder.data.toList.drop 70 = dktX3_nextOrder_3 := dk_seg dksX3_nextOrder_2 24 rfl rfl
theorem dksX3_nextOrder_4 : cX3_nextOrder.data.toList.drop 93 = dktX3_nextOrder_4 := dk_seg dksX3_nextOrder_3 23 rfl rfl
theorem dksX3_nextOrder_5 : cX3_nextOrder.data.toList.drop 117 = dktX3_nextOrder_5 := dk_seg dksX3_nextOrder_4 24 rfl rfl
theorem dksX3_nextOrder_6 : cX3_nextOrder.data.toList.drop 139 = dktX3_nextOrder_6 := dk_seg dksX3_nextOrder_5 22 rfl rfl
theorem dX3_nextOrder_0 : decode cX3_nextOrder 0 = .ok (.iload_n 1, 1) := dk_27 (dk_at dksX3_nextOrder_0 0 rfl rfl)
theorem dX3_nextOrder_1 : decode cX3_nextOrder 1 = .ok (.iconst 2, 1) := dk_5 (dk_at dksX3_nextOrder_0 1 rfl rfl)
theorem dX3_nextOrder_2 : decode cX3_nextOrder 2 = .ok (.isub, 1) := dk_100 (dk_at dksX3_nextOrder_0 2 rfl rfl)
theorem dX3_nextOrder_3 : decode cX3_nextOrder 3 = .ok (.istore_n 2, 1) := dk_61 (dk_at dksX3_nextOrder_0 3 rfl rfl)
theorem dX3_nextOrder_4 : decode cX3_nextOrder 4 = .ok (.iload_n 2, 1) := dk_28 (dk_at dksX3_nextOrder_0 4 rfl rfl)
theorem dX3_nextOrder_5 : decode cX3_nextOrder 5 = .ok (.ifCond .lt 26, 3) := dk_155 0 26 (dk_at dksX3_nextOrder_0 5 rfl rfl)
theorem dX3_nextOrder_8 : decode cX3_nextOrder 8 = .ok (.aload_n 0, 1) := dk_42 (dk_at dksX3_nextOrder_0 8 rfl rfl)
theorem dX3_nextOrder_9 : decode cX3_nextOrder 9 = .ok (.getfield 39, 3) := dk_180 0 39 (dk_at dksX3_nextOrder_0 9 rfl rfl)
theorem dX3_nextOrder_12 : decode cX3_nextOrder 12 = .ok (.iload_n 2, 1) := dk_28 (dk_at dksX3_nextOrder_0 12 rfl rfl)
theorem dX3_nextOrder_13 : decode cX3_nextOrder 13 = .ok (.iaload, 1) := dk_46 (dk_at dksX3_nextOrder_0 13 rfl rfl)
theorem dX3_nextOrder_14 : decode cX3_nextOrder 14 = .ok (.aload_n 0, 1) := dk_42 (dk_at dksX3_nextOrder_0 14 rfl rfl)
theorem dX3_nextOrder_15 : decode cX3_nextOrder 15 = .ok (.getfield 39, 3) := dk_180 0 39 (dk_at dksX3_nextOrder_0 15 rfl rfl)
theorem dX3_nextOrder_18 : decode cX3_nextOrder 18 = .ok (.iload_n 2, 1) := dk_28 (dk_at dksX3_nextOrder_0 18 rfl rfl)
theorem dX3_nextOrder_19 : decode cX3_nextOrder 19 = .ok (.iconst 1, 1) := dk_4 (dk_at dksX3_nextOrder_0 19 rfl rfl)
theorem dX3_nextOrder_20 : decode cX3_nextOrder 20 = .ok (.iadd, 1) := dk_96 (dk_at dksX3_nextOrder_0 20 rfl rfl)
theorem dX3_nextOrder_21 : decode cX3_nextOrder 21 = .ok (.iaload, 1) := dk_46 (dk_at dksX3_nextOrder_0 21 rfl rfl)
theorem dX3_nextOrder_22 : decode cX3_nextOrder 22 = .ok (.if_icmp .le 9, 3) := dk_164 0 9 (dk_at dksX3_nextOrder_1 0 rfl rfl)
theorem dX3_nextOrder_25 : decode cX3_nextOrder 25 = .ok (.iinc 2 (-1), 3) := dk_132 2 255 (dk_at dksX3_nextOrder_1 3 rfl rfl)
theorem dX3_nextOrder_28 : decode cX3_nextOrder 28 = .ok (.goto (-24), 3) := dk_167 255 232 (dk_at dksX3_nextOrder_1 6 rfl rfl)
theorem dX3_nextOrder_31 : decode cX3_nextOrder 31 = .ok (.iload_n 2, 1) := dk_28 (dk_at dksX3_nextOrder_1 9 rfl rfl)
theorem dX3_nextOrder_32 : decode cX3_nextOrder 32 = .ok (.ifCond .ge 5, 3) := dk_156 0 5 (dk_at dksX3_nextOrder_1 10 rfl rfl)
theorem dX3_nextOrder_35 : decode cX3_nextOrder 35 = .ok (.iconst 0, 1) := dk_3 (dk_at dksX3_nextOrder_1 13 rfl rfl)
theorem dX3_nextOrder_36 : decode cX3_nextOrder 36 = .ok (.ireturn, 1) := dk_172 (dk_at dksX3_nextOrder_1 14 rfl rfl)
theorem dX3_nextOrder_37 : decode cX3_nextOrder 37 = .ok (.iload_n 1, 1) := dk_27 (dk_at dksX3_nextOrder_1 15 rfl rfl)
theorem dX3_nextOrder_38 : decode cX3_nextOrder 38 = .ok (.iconst 1, 1) := dk_4 (dk_at dksX3_nextOrder_1 16 rfl rfl)
theorem dX3_nextOrder_39 : decode cX3_nextOrder 39 = .ok (.isub, 1) := dk_100 (dk_at dksX3_nextOrder_1 17 rfl rfl)
theorem dX3_nextOrder_40 : decode cX3_nextOrder 40 = .ok (.istore_n 3, 1) := dk_62 (dk_at dksX3_nextOrder_1 18 rfl rfl)
theorem dX3_nextOrder_41 : decode cX3_nextOrder 41 = .ok (.aload_n 0, 1) := dk_42 (dk_at dksX3_nextOrder_1 19 rfl rfl)
theorem dX3_nextOrder_42 : decode cX3_nextOrder 42 = .ok (.getfield 39, 3) := dk_180 0 39 (dk_at dksX3_nextOrder_1 20 rfl rfl)
theorem dX3_nextOrder_45 : decode cX3_nextOrder 45 = .ok (.iload_n 3, 1) := dk_29 (dk_at dksX3_nextOrder_1 23 rfl rfl)
theorem dX3_nextOrder_46 : decode cX3_nextOrder 46 = .ok (.iaload, 1) := dk_46 (dk_at dksX3_nextOrder_2 0 rfl rfl)
theorem dX3_nextOrder_47 : decode cX3_nextOrder 47 = .ok (.aload_n 0, 1) := dk_42 (dk_at dksX3_nextOrder_2 1 rfl rfl)
theorem dX3_nextOrder_48 : decode cX3_nextOrder 48 = .ok (.getfield 39, 3) := dk_180 0 39 (dk_at dksX3_nextOrder_2 2 rfl rfl)
theorem dX3_nextOrder_51 : decode cX3_nextOrder 51 = .ok (.iload_n 2, 1) := dk_28 (dk_at dksX3_nextOrder_2 5 rfl rfl)
theorem dX3_nextOrder_52 : decode cX3_nextOrder 52 = .ok (.iaload, 1) := dk_46 (dk_at dksX3_nextOrder_2 6 rfl rfl)
theorem dX3_nextOrder_53 : decode cX3_nextOrder 53 = .ok (.if_icmp .ge 9, 3) := dk_162 0 9 (dk_at dksX3_nextOrder_2 7 rfl rfl)
theorem dX3_nextOrder_56 : decode cX3_nextOrder 56 = .ok (.iinc 3 (-1), 3) := dk_132 3 255 (dk_at dksX3_nextOrder_2 10 rfl rfl)
theorem dX3_nextOrder_59 : decode cX3_nextOrder 59 = .ok (.goto (-18), 3) := dk_167 255 238 (dk_at dksX3_nextOrder_2 13 rfl rfl)
theorem dX3_nextOrder_62 : decode cX3_nextOrder 62 = .ok (.aload_n 0, 1) := dk_42 (dk_at dksX3_nextOrder_2 16 rfl rfl)
theorem dX3_nextOrder_63 : decode cX3_nextOrder 63 = .ok (.getfield 39, 3) := dk_180 0 39 (dk_at dksX3_nextOrder_2 17 rfl rfl)
theorem dX3_nextOrder_66 : decode cX3_nextOrder 66 = .ok (.iload_n 2, 1) := dk_28 (dk_at dksX3_nextOrder_2 20 rfl rfl)
theorem dX3_nextOrder_67 : decode cX3_nextOrder 67 = .ok (.iaload, 1) := dk_46 (dk_at dksX3_nextOrder_2 21 rfl rfl)
theorem dX3_nextOrder_68 : decode cX3_nextOrder 68 = .ok (.istore 4, 2) := dk_54 4 (dk_at dksX3_nextOrder_2 22 rfl rfl)
theorem dX3_nextOrder_70 : decode cX3_nextOrder 70 = .ok (.aload_n 0, 1) := dk_42 (dk_at dksX3_nextOrder_3 0 rfl rfl)
theorem dX3_nextOrder_71 : decode cX3_nextOrder 71 = .ok (.getfield 39, 3) := dk_180 0 39 (dk_at dksX3_nextOrder_3 1 rfl rfl)
theorem dX3_nextOrder_74 : decode cX3_nextOrder 74 = .ok (.iload_n 2, 1) := dk_28 (dk_at dksX3_nextOrder_3 4 rfl rfl)
theorem dX3_nextOrder_75 : decode cX3_nextOrder 75 = .ok (.aload_n 0, 1) := dk_42 (dk_at dksX3_nextOrder_3 5 rfl rfl)
theorem dX3_nextOrder_76 : decode cX3_nextOrder 76 = .ok (.getfield 39, 3) := dk_180 0 39 (dk_at dksX3_nextOrder_3 6 rfl rfl)
theorem dX3_nextOrder_79 : decode cX3_nextOrder 79 = .ok (.iload_n 3, 1) := dk_29 (dk_at dksX3_nextOrder_3 9 rfl rfl)
theorem dX3_nextOrder_80 : decode cX3_nextOrder 80 = .ok (.iaload, 1) := dk_46 (dk_at dksX3_nextOrder_3 10 rfl rfl)
theorem dX3_nextOrder_81 : decode cX3_nextOrder 81 = .ok (.iastore, 1) := dk_79 (dk_at dksX3_nextOrder_3 11 rfl rfl)
theorem dX3_nextOrder_82 : decode cX3_nextOrder 82 = .ok (.aload_n 0, 1) := dk_42 (dk_at dksX3_nextOrder_3 12 rfl rfl)
theorem dX3_nextOrder_83 : decode cX3_nextOrder 83 = .ok (.getfield 39, 3) := dk_180 0 39 (dk_at dksX3_nextOrder_3 13 rfl rfl)
theorem dX3_nextOrder_86 : decode cX3_nextOrder 86 = .ok (.iload_n 3, 1) := dk_29 (dk_at dksX3_nextOrder_3 16 rfl rfl)
theorem dX3_nextOrder_87 : decode cX3_nextOrder 87 = .ok (.iload 4, 2) := dk_21 4 (dk_at dksX3_nextOrder_3 17 rfl rfl)
theorem dX3_nextOrder_89 : decode cX3_nextOrder 89 = .ok (.iastore, 1) := dk_79 (dk_at dksX3_nextOrder_3 19 rfl rfl)
theorem dX3_nextOrder_90 : decode cX3_nextOrder 90 = .ok (.iload_n 1, 1) := dk_27 (dk_at dksX3_nextOrder_3 20 rfl rfl)
theorem dX3_nextOrder_91 : decode cX3_nextOrder 91 = .ok (.iconst 1, 1) := dk_4 (dk_at dksX3_nextOrder_3 21 rfl rfl)
theorem dX3_nextOrder_92 : decode cX3_nextOrder 92 = .ok (.isub, 1) := dk_100 (dk_at dksX3_nextOrder_3 22 rfl rfl)
theorem dX3_nextOrder_93 : decode cX3_nextOrder 93 = .ok (.istore 5, 2) := dk_54 5 (dk_at dksX3_nextOrder_4 0 rfl rfl)
theorem dX3_nextOrder_95 : decode cX3_nextOrder 95 = .ok (.iload_n 2, 1) := dk_28 (dk_at dksX3_nextOrder_4 2 rfl rfl)
theorem dX3_nextOrder_96 : decode cX3_nextOrder 96 = .ok (.iconst 1, 1) := dk_4 (dk_at dksX3_nextOrder_4 3 rfl rfl)
theorem dX3_nextOrder_97 : decode cX3_nextOrder 97 = .ok (.iadd, 1) := dk_96 (dk_at dksX3_nextOrder_4 4 rfl rfl)
theorem dX3_nextOrder_98 : decode cX3_nextOrder 98 = .ok (.istore 6, 2) := dk_54 6 (dk_at dksX3_nextOrder_4 5 rfl rfl)
theorem dX3_nextOrder_100 : decode cX3_nextOrder 100 = .ok (.iload 6, 2) := dk_21 6 (dk_at dksX3_nextOrder_4 7 rfl rfl)
theorem dX3_nextOrder_102 : decode cX3_nextOrder 102 = .ok (.iload 5, 2) := dk_21 5 (dk_at dksX3_nextOrder_4 9 rfl rfl)
theorem dX3_nextOrder_104 : decode cX3_nextOrder 104 = .ok (.if_icmp .ge 44, 3) := dk_162 0 44 (dk_at dksX3_nextOrder_4 11 rfl rfl)
theorem dX3_nextOrder_107 : decode cX3_nextOrder 107 = .ok (.aload_n 0, 1) := dk_42 (dk_at dksX3_nextOrder_4 14 rfl rfl)
theorem dX3_nextOrder_108 : decode cX3_nextOrder 108 = .ok (.getfield 39, 3) := dk_180 0 39 (dk_at dksX3_nextOrder_4 15 rfl rfl)
theorem dX3_nextOrder_111 : decode cX3_nextOrder 111 = .ok (.iload 6, 2) := dk_21 6 (dk_at dksX3_nextOrder_4 18 rfl rfl)
theorem dX3_nextOrder_113 : decode cX3_nextOrder 113 = .ok (.iaload, 1) := dk_46 (dk_at dksX3_nextOrder_4 20 rfl rfl)
theorem dX3_nextOrder_114 : decode cX3_nextOrder 114 = .ok (.istore 4, 2) := dk_54 4 (dk_at dksX3_nextOrder_4 21 rfl rfl)
theorem dX3_nextOrder_116 : decode cX3_nextOrder 116 = .ok (.aload_n 0, 1) := dk_42 (dk_at dksX3_nextOrder_4 23 rfl rfl)
theorem dX3_nextOrder_117 : decode cX3_nextOrder 117 = .ok (.getfield 39, 3) := dk_180 0 39 (dk_at dksX3_nextOrder_5 0 rfl rfl)
theorem dX3_nextOrder_120 : decode cX3_nextOrder 120 = .ok (.iload 6, 2) := dk_21 6 (dk_at dksX3_nextOrder_5 3 rfl rfl)
theorem dX3_nextOrder_122 : decode cX3_nextOrder 122 = .ok (.aload_n 0, 1) := dk_42 (dk_at dksX3_nextOrder_5 5 rfl rfl)
theorem dX3_nextOrder_123 : decode cX3_nextOrder 123 = .ok (.getfield 39, 3) := dk_180 0 39 (dk_at dksX3_nextOrder_5 6 rfl rfl)
theorem dX3_nextOrder_126 : decode cX3_nextOrder 126 = .ok (.iload 5, 2) := dk_21 5 (dk_at dksX3_nextOrder_5 9 rfl rfl)
theorem dX3_nextOrder_128 : decode cX3_nextOrder 128 = .ok (.iaload, 1) := dk_46 (dk_at dksX3_nextOrder_5 11 rfl rfl)
theorem dX3_nextOrder_129 : decode cX3_nextOrder 129 = .ok (.iastore, 1) := dk_79 (dk_at dksX3_nextOrder_5 12 rfl rfl)
theorem dX3_nextOrder_130 : decode cX3_nextOrder 130 = .ok (.aload_n 0, 1) := dk_42 (dk_at dksX3_nextOrder_5 13 rfl rfl)
theorem dX3_nextOrder_131 : decode cX3_nextOrder 131 = .ok (.getfield 39, 3) := dk_180 0 39 (dk_at dksX3_nextOrder_5 14 rfl rfl)
theorem dX3_nextOrder_134 : decode cX3_nextOrder 134 = .ok (.iload 5, 2) := dk_21 5 (dk_at dksX3_nextOrder_5 17 rfl rfl)
theorem dX3_nextOrder_136 : decode cX3_nextOrder 136 = .ok (.iload 4, 2) := dk_21 4 (dk_at dksX3_nextOrder_5 19 rfl rfl)
theorem dX3_nextOrder_138 : decode cX3_nextOrder 138 = .ok (.iastore, 1) := dk_79 (dk_at dksX3_nextOrder_5 21 rfl rfl)
theorem dX3_nextOrder_139 : decode cX3_nextOrder 139 = .ok (.iinc 5 (-1), 3) := dk_132 5 255 (dk_at dksX3_nextOrder_6 0 rfl rfl)
theorem dX3_nextOrder_142 : decode cX3_nextOrder 142 = .ok (.iinc 6 1, 3) := dk_132 6 1 (dk_at dksX3_nextOrder_6 3 rfl rfl)
theorem dX3_nextOrder_145 : decode cX3_nextOrder 145 = .ok (.goto (-45), 3) := dk_167 255 211 (dk_at dksX3_nextOrder_6 6 rfl rfl)
theorem dX3_nextOrder_148 : decode cX3_nextOrder 148 = .ok (.iconst 1, 1) := dk_4 (dk_at dksX3_nextOrder_6 9 rfl rfl)
theorem dX3_nextOrder_149 : decode cX3_nextOrder 149 = .ok (.ireturn, 1) := dk_172 (dk_at dksX3_nextOrder_6 10 rfl rfl)
abbrev cX3_border : ByteArray := prog_12_method_64_code
def yX3_border : MethodName := ⟨RX3, "border", "(I)I"⟩
def dkwX3_border_4 : List UInt8 := [42, 180, 0, 26, 28, 47, 184, 0, 120, 172]
abbrev dktX3_border_4 : List UInt8 := dkwX3_border_4 ++ []
def dkwX3_border_3 : List UInt8 := [156, 0, 8, 16, 252, 167, 0, 28, 27, 154, 0, 15, 42, 180, 0, 26, 28, 47, 184, 0, 126, 167, 0, 12]
abbrev dktX3_border_3 : List UInt8 := dkwX3_border_3 ++ dktX3_border_4
def dkwX3_border_2 : List UInt8 := [180, 0, 26, 28, 47, 184, 0, 96, 164, 0, 7, 29, 167, 0, 4, 28, 61, 132, 3, 1, 167, 255, 214, 28]
abbrev dktX3_border_2 : List UInt8 := dkwX3_border_2 ++ dktX3_border_3
def dkwX3_border_1 : List UInt8 := [29, 42, 180, 0, 123, 162, 0, 40, 28, 155, 0, 24, 42, 180, 0, 26, 29, 47, 184, 0, 96, 42]
abbrev dktX3_border_1 : List UInt8 := dkwX3_border_1 ++ dktX3_border_2
def dkwX3_border_0 : List UInt8 := [27, 133, 9, 10, 184, 0, 65, 154, 0, 5, 2, 172, 42, 182, 0, 158, 42, 182, 0, 133, 2, 61, 3, 62]
abbrev dktX3_border_0 : List UInt8 := dkwX3_border_0 ++ dktX3_border_1
theorem dksX3_border_0 : cX3_border.data.toList.drop 0 = dktX3_border_0 := by decide +kernel
theorem dksX3_border_1 : cX3_border.data.toList.drop 24 = dktX3_border_1 := dk_seg dksX3_border_0 24 rfl rfl
theorem dksX3_border_2 : cX3_border.data.toList.drop 46 = dktX3_border_2 := dk_seg dksX3_border_1 22 rfl rfl
theorem dksX3_border_3 : cX3_border.data.toList.drop 70 = dktX3_border_3 := dk_seg dksX3_border_2 24 rfl rfl
theorem dksX3_border_4 : cX3_border.data.toList.drop 94 = dktX3_border_4 := dk_seg dksX3_border_3 24 rfl rfl
theorem dX3_border_0 : decode cX3_border 0 = .ok (.iload_n 1, 1) := dk_27 (dk_at dksX3_border_0 0 rfl rfl)
theorem dX3_border_1 : decode cX3_border 1 = .ok (.i2l, 1) := dk_133 (dk_at dksX3_border_0 1 rfl rfl)
theorem dX3_border_2 : decode cX3_border 2 = .ok (.lconst 0, 1) := dk_9 (dk_at dksX3_border_0 2 rfl rfl)
theorem dX3_border_3 : decode cX3_border 3 = .ok (.lconst 1, 1) := dk_10 (dk_at dksX3_border_0 3 rfl rfl)
theorem dX3_border_4 : decode cX3_border 4 = .ok (.invokestatic 65, 3) := dk_184 0 65 (dk_at dksX3_border_0 4 rfl rfl)
theorem dX3_border_7 : decode cX3_border 7 = .ok (.ifCond .ne 5, 3) := dk_154 0 5 (dk_at dksX3_border_0 7 rfl rfl)
theorem dX3_border_10 : decode cX3_border 10 = .ok (.iconst (-1), 1) := dk_2 (dk_at dksX3_border_0 10 rfl rfl)
theorem dX3_border_11 : decode cX3_border 11 = .ok (.ireturn, 1) := dk_172 (dk_at dksX3_border_0 11 rfl rfl)
theorem dX3_border_12 : decode cX3_border 12 = .ok (.aload_n 0, 1) := dk_42 (dk_at dksX3_border_0 12 rfl rfl)
theorem dX3_border_13 : decode cX3_border 13 = .ok (.invokevirtual 158, 3) := dk_182 0 158 (dk_at dksX3_border_0 13 rfl rfl)
theorem dX3_border_16 : decode cX3_border 16 = .ok (.aload_n 0, 1) := dk_42 (dk_at dksX3_border_0 16 rfl rfl)
theorem dX3_border_17 : decode cX3_border 17 = .ok (.invokevirtual 133, 3) := dk_182 0 133 (dk_at dksX3_border_0 17 rfl rfl)
theorem dX3_border_20 : decode cX3_border 20 = .ok (.iconst (-1), 1) := dk_2 (dk_at dksX3_border_0 20 rfl rfl)
theorem dX3_border_21 : decode cX3_border 21 = .ok (.istore_n 2, 1) := dk_61 (dk_at dksX3_border_0 21 rfl rfl)
theorem dX3_border_22 : decode cX3_border 22 = .ok (.iconst 0, 1) := dk_3 (dk_at dksX3_border_0 22 rfl rfl)
theorem dX3_border_23 : decode cX3_border 23 = .ok (.istore_n 3, 1) := dk_62 (dk_at dksX3_border_0 23 rfl rfl)
theorem dX3_border_24 : decode cX3_border 24 = .ok (.iload_n 3, 1) := dk_29 (dk_at dksX3_border_1 0 rfl rfl)
theorem dX3_border_25 : decode cX3_border 25 = .ok (.aload_n 0, 1) := dk_42 (dk_at dksX3_border_1 1 rfl rfl)
theorem dX3_border_26 : decode cX3_border 26 = .ok (.getfield 123, 3) := dk_180 0 123 (dk_at dksX3_border_1 2 rfl rfl)
theorem dX3_border_29 : decode cX3_border 29 = .ok (.if_icmp .ge 40, 3) := dk_162 0 40 (dk_at dksX3_border_1 5 rfl rfl)
theorem dX3_border_32 : decode cX3_border 32 = .ok (.iload_n 2, 1) := dk_28 (dk_at dksX3_border_1 8 rfl rfl)
theorem dX3_border_33 : decode cX3_border 33 = .ok (.ifCond .lt 24, 3) := dk_155 0 24 (dk_at dksX3_border_1 9 rfl rfl)
theorem dX3_border_36 : decode cX3_border 36 = .ok (.aload_n 0, 1) := dk_42 (dk_at dksX3_border_1 12 rfl rfl)
theorem dX3_border_37 : decode cX3_border 37 = .ok (.getfield 26, 3) := dk_180 0 26 (dk_at dksX3_border_1 13 rfl rfl)
theorem dX3_border_40 : decode cX3_border 40 = .ok (.iload_n 3, 1) := dk_29 (dk_at dksX3_border_1 16 rfl rfl)
theorem dX3_border_41 : decode cX3_border 41 = .ok (.laload, 1) := dk_47 (dk_at dksX3_border_1 17 rfl rfl)
theorem dX3_border_42 : decode cX3_border 42 = .ok (.invokestatic 96, 3) := dk_184 0 96 (dk_at dksX3_border_1 18 rfl rfl)
theorem dX3_border_45 : decode cX3_border 45 = .ok (.aload_n 0, 1) := dk_42 (dk_at dksX3_border_1 21 rfl rfl)
theorem dX3_border_46 : decode cX3_border 46 = .ok (.getfield 26, 3) := dk_180 0 26 (dk_at dksX3_border_2 0 rfl rfl)
theorem dX3_border_49 : decode cX3_border 49 = .ok (.iload_n 2, 1) := dk_28 (dk_at dksX3_border_2 3 rfl rfl)
theorem dX3_border_50 : decode cX3_border 50 = .ok (.laload, 1) := dk_47 (dk_at dksX3_border_2 4 rfl rfl)
theorem dX3_border_51 : decode cX3_border 51 = .ok (.invokestatic 96, 3) := dk_184 0 96 (dk_at dksX3_border_2 5 rfl rfl)
theorem dX3_border_54 : decode cX3_border 54 = .ok (.if_icmp .le 7, 3) := dk_164 0 7 (dk_at dksX3_border_2 8 rfl rfl)
theorem dX3_border_57 : decode cX3_border 57 = .ok (.iload_n 3, 1) := dk_29 (dk_at dksX3_border_2 11 rfl rfl)
theorem dX3_border_58 : decode cX3_border 58 = .ok (.goto 4, 3) := dk_167 0 4 (dk_at dksX3_border_2 12 rfl rfl)
theorem dX3_border_61 : decode cX3_border 61 = .ok (.iload_n 2, 1) := dk_28 (dk_at dksX3_border_2 15 rfl rfl)
theorem dX3_border_62 : decode cX3_border 62 = .ok (.istore_n 2, 1) := dk_61 (dk_at dksX3_border_2 16 rfl rfl)
theorem dX3_border_63 : decode cX3_border 63 = .ok (.iinc 3 1, 3) := dk_132 3 1 (dk_at dksX3_border_2 17 rfl rfl)
theorem dX3_border_66 : decode cX3_border 66 = .ok (.goto (-42), 3) := dk_167 255 214 (dk_at dksX3_border_2 20 rfl rfl)
theorem dX3_border_69 : decode cX3_border 69 = .ok (.iload_n 2, 1) := dk_28 (dk_at dksX3_border_2 23 rfl rfl)
theorem dX3_border_70 : decode cX3_border 70 = .ok (.ifCond .ge 8, 3) := dk_156 0 8 (dk_at dksX3_border_3 0 rfl rfl)
theorem dX3_border_73 : decode cX3_border 73 = .ok (.bipush (-4), 2) := dk_16 252 (dk_at dksX3_border_3 3 rfl rfl)
theorem dX3_border_75 : decode cX3_border 75 = .ok (.goto 28, 3) := dk_167 0 28 (dk_at dksX3_border_3 5 rfl rfl)
theorem dX3_border_78 : decode cX3_border 78 = .ok (.iload_n 1, 1) := dk_27 (dk_at dksX3_border_3 8 rfl rfl)
theorem dX3_border_79 : decode cX3_border 79 = .ok (.ifCond .ne 15, 3) := dk_154 0 15 (dk_at dksX3_border_3 9 rfl rfl)
theorem dX3_border_82 : decode cX3_border 82 = .ok (.aload_n 0, 1) := dk_42 (dk_at dksX3_border_3 12 rfl rfl)
theorem dX3_border_83 : decode cX3_border 83 = .ok (.getfield 26, 3) := dk_180 0 26 (dk_at dksX3_border_3 13 rfl rfl)
theorem dX3_border_86 : decode cX3_border 86 = .ok (.iload_n 2, 1) := dk_28 (dk_at dksX3_border_3 16 rfl rfl)
theorem dX3_border_87 : decode cX3_border 87 = .ok (.laload, 1) := dk_47 (dk_at dksX3_border_3 17 rfl rfl)
theorem dX3_border_88 : decode cX3_border 88 = .ok (.invokestatic 126, 3) := dk_184 0 126 (dk_at dksX3_border_3 18 rfl rfl)
theorem dX3_border_91 : decode cX3_border 91 = .ok (.goto 12, 3) := dk_167 0 12 (dk_at dksX3_border_3 21 rfl rfl)
theorem dX3_border_94 : decode cX3_border 94 = .ok (.aload_n 0, 1) := dk_42 (dk_at dksX3_border_4 0 rfl rfl)
theorem dX3_border_95 : decode cX3_border 95 = .ok (.getfield 26, 3) := dk_180 0 26 (dk_at dksX3_border_4 1 rfl rfl)
theorem dX3_border_98 : decode cX3_border 98 = .ok (.iload_n 2, 1) := dk_28 (dk_at dksX3_border_4 4 rfl rfl)
theorem dX3_border_99 : decode cX3_border 99 = .ok (.laload, 1) := dk_47 (dk_at dksX3_border_4 5 rfl rfl)
theorem dX3_border_100 : decode cX3_border 100 = .ok (.invokestatic 120, 3) := dk_184 0 120 (dk_at dksX3_border_4 6 rfl rfl)
theorem dX3_border_103 : decode cX3_border 103 = .ok (.ireturn, 1) := dk_172 (dk_at dksX3_border_4 9 rfl rfl)
abbrev cX3_cut : ByteArray := prog_12_method_65_code
def yX3_cut : MethodName := ⟨RX3, "cut", "(I)I"⟩
def dkwX3_cut_4 : List UInt8 := [132, 7, 1, 167, 255, 209, 16, 252, 172]
abbrev dktX3_cut_4 : List UInt8 := dkwX3_cut_4 ++ []
def dkwX3_cut_3 : List UInt8 := [180, 0, 73, 10, 21, 7, 121, 129, 184, 0, 90, 184, 0, 236, 21, 6, 164, 0, 6, 21, 7, 172]
abbrev dktX3_cut_3 : List UInt8 := dkwX3_cut_3 ++ dktX3_cut_4
def dkwX3_cut_2 : List UInt8 := [54, 7, 21, 7, 16, 36, 162, 0, 46, 22, 4, 21, 7, 184, 0, 69, 153, 0, 30, 10, 21, 7, 121, 42]
abbrev dktX3_cut_2 : List UInt8 := dkwX3_cut_2 ++ dktX3_cut_3
def dkwX3_cut_1 : List UInt8 := [16, 254, 172, 42, 27, 182, 0, 129, 65, 42, 32, 182, 0, 219, 55, 4, 32, 184, 0, 236, 54, 6, 3]
abbrev dktX3_cut_1 : List UInt8 := dkwX3_cut_1 ++ dktX3_cut_2
def dkwX3_cut_0 : List UInt8 := [27, 184, 0, 142, 154, 0, 5, 2, 172, 42, 182, 0, 158, 42, 180, 0, 73, 27, 184, 0, 69, 154, 0, 6]
abbrev dktX3_cut_0 : List UInt8 := dkwX3_cut_0 ++ dktX3_cut_1
theorem dksX3_cut_0 : cX3_cut.data.toList.drop 0 = dktX3_cut_0 := by decide +kernel
theorem dksX3_cut_1 : cX3_cut.data.toList.drop 24 = dktX3_cut_1 := dk_seg dksX3_cut_0 24 rfl rfl
theorem dksX3_cut_2 : cX3_cut.data.toList.drop 47 = dktX3_cut_2 := dk_seg dksX3_cut_1 23 rfl rfl
theorem dksX3_cut_3 : cX3_cut.data.toList.drop 71 = dktX3_cut_3 := dk_seg dksX3_cut_2 24 rfl rfl
theorem dksX3_cut_4 : cX3_cut.data.toList.drop 93 = dktX3_cut_4 := dk_seg dksX3_cut_3 22 rfl rfl
theorem dX3_cut_0 : decode cX3_cut 0 = .ok (.iload_n 1, 1) := dk_27 (dk_at dksX3_cut_0 0 rfl rfl)
theorem dX3_cut_1 : decode cX3_cut 1 = .ok (.invokestatic 142, 3) := dk_184 0 142 (dk_at dksX3_cut_0 1 rfl rfl)
theorem dX3_cut_4 : decode cX3_cut 4 = .ok (.ifCond .ne 5, 3) := dk_154 0 5 (dk_at dksX3_cut_0 4 rfl rfl)
theorem dX3_cut_7 : decode cX3_cut 7 = .ok (.iconst (-1), 1) := dk_2 (dk_at dksX3_cut_0 7 rfl rfl)
theorem dX3_cut_8 : decode cX3_cut 8 = .ok (.ireturn, 1) := dk_172 (dk_at dksX3_cut_0 8 rfl rfl)
theorem dX3_cut_9 : decode cX3_cut 9 = .ok (.aload_n 0, 1) := dk_42 (dk_at dksX3_cut_0 9 rfl rfl)
theorem dX3_cut_10 : decode cX3_cut 10 = .ok (.invokevirtual 158, 3) := dk_182 0 158 (dk_at dksX3_cut_0 10 rfl rfl)
theorem dX3_cut_13 : decode cX3_cut 13 = .ok (.aload_n 0, 1) := dk_42 (dk_at dksX3_cut_0 13 rfl rfl)
theorem dX3_cut_14 : decode cX3_cut 14 = .ok (.getfield 73, 3) := dk_180 0 73 (dk_at dksX3_cut_0 14 rfl rfl)
theorem dX3_cut_17 : decode cX3_cut 17 = .ok (.iload_n 1, 1) := dk_27 (dk_at dksX3_cut_0 17 rfl rfl)
theorem dX3_cut_18 : decode cX3_cut 18 = .ok (.invokestatic 69, 3) := dk_184 0 69 (dk_at dksX3_cut_0 18 rfl rfl)
theorem dX3_cut_21 : decode cX3_cut 21 = .ok (.ifCond .ne 6, 3) := dk_154 0 6 (dk_at dksX3_cut_0 21 rfl rfl)
theorem dX3_cut_24 : decode cX3_cut 24 = .ok (.bipush (-2), 2) := dk_16 254 (dk_at dksX3_cut_1 0 rfl rfl)
theorem dX3_cut_26 : decode cX3_cut 26 = .ok (.ireturn, 1) := dk_172 (dk_at dksX3_cut_1 2 rfl rfl)
theorem dX3_cut_27 : decode cX3_cut 27 = .ok (.aload_n 0, 1) := dk_42 (dk_at dksX3_cut_1 3 rfl rfl)
theorem dX3_cut_28 : decode cX3_cut 28 = .ok (.iload_n 1, 1) := dk_27 (dk_at dksX3_cut_1 4 rfl rfl)
theorem dX3_cut_29 : decode cX3_cut 29 = .ok (.invokevirtual 129, 3) := dk_182 0 129 (dk_at dksX3_cut_1 5 rfl rfl)
theorem dX3_cut_32 : decode cX3_cut 32 = .ok (.lstore_n 2, 1) := dk_65 (dk_at dksX3_cut_1 8 rfl rfl)
theorem dX3_cut_33 : decode cX3_cut 33 = .ok (.aload_n 0, 1) := dk_42 (dk_at dksX3_cut_1 9 rfl rfl)
theorem dX3_cut_34 : decode cX3_cut 34 = .ok (.lload_n 2, 1) := dk_32 (dk_at dksX3_cut_1 10 rfl rfl)
theorem dX3_cut_35 : decode cX3_cut 35 = .ok (.invokevirtual 219, 3) := dk_182 0 219 (dk_at dksX3_cut_1 11 rfl rfl)
theorem dX3_cut_38 : decode cX3_cut 38 = .ok (.lstore 4, 2) := dk_55 4 (dk_at dksX3_cut_1 14 rfl rfl)
theorem dX3_cut_40 : decode cX3_cut 40 = .ok (.lload_n 2, 1) := dk_32 (dk_at dksX3_cut_1 16 rfl rfl)
theorem dX3_cut_41 : decode cX3_cut 41 = .ok (.invokestatic 236, 3) := dk_184 0 236 (dk_at dksX3_cut_1 17 rfl rfl)
theorem dX3_cut_44 : decode cX3_cut 44 = .ok (.istore 6, 2) := dk_54 6 (dk_at dksX3_cut_1 20 rfl rfl)
theorem dX3_cut_46 : decode cX3_cut 46 = .ok (.iconst 0, 1) := dk_3 (dk_at dksX3_cut_1 22 rfl rfl)
theorem dX3_cut_47 : decode cX3_cut 47 = .ok (.istore 7, 2) := dk_54 7 (dk_at dksX3_cut_2 0 rfl rfl)
theorem dX3_cut_49 : decode cX3_cut 49 = .ok (.iload 7, 2) := dk_21 7 (dk_at dksX3_cut_2 2 rfl rfl)
theorem dX3_cut_51 : decode cX3_cut 51 = .ok (.bipush 36, 2) := dk_16 36 (dk_at dksX3_cut_2 4 rfl rfl)
theorem dX3_cut_53 : decode cX3_cut 53 = .ok (.if_icmp .ge 46, 3) := dk_162 0 46 (dk_at dksX3_cut_2 6 rfl rfl)
theorem dX3_cut_56 : decode cX3_cut 56 = .ok (.lload 4, 2) := dk_22 4 (dk_at dksX3_cut_2 9 rfl rfl)
theorem dX3_cut_58 : decode cX3_cut 58 = .ok (.iload 7, 2) := dk_21 7 (dk_at dksX3_cut_2 11 rfl rfl)
theorem dX3_cut_60 : decode cX3_cut 60 = .ok (.invokestatic 69, 3) := dk_184 0 69 (dk_at dksX3_cut_2 13 rfl rfl)
theorem dX3_cut_63 : decode cX3_cut 63 = .ok (.ifCond .eq 30, 3) := dk_153 0 30 (dk_at dksX3_cut_2 16 rfl rfl)
theorem dX3_cut_66 : decode cX3_cut 66 = .ok (.lconst 1, 1) := dk_10 (dk_at dksX3_cut_2 19 rfl rfl)
theorem dX3_cut_67 : decode cX3_cut 67 = .ok (.iload 7, 2) := dk_21 7 (dk_at dksX3_cut_2 20 rfl rfl)
theorem dX3_cut_69 : decode cX3_cut 69 = .ok (.lshl, 1) := dk_121 (dk_at dksX3_cut_2 22 rfl rfl)
theorem dX3_cut_70 : decode cX3_cut 70 = .ok (.aload_n 0, 1) := dk_42 (dk_at dksX3_cut_2 23 rfl rfl)
theorem dX3_cut_71 : decode cX3_cut 71 = .ok (.getfield 73, 3) := dk_180 0 73 (dk_at dksX3_cut_3 0 rfl rfl)
theorem dX3_cut_74 : decode cX3_cut 74 = .ok (.lconst 1, 1) := dk_10 (dk_at dksX3_cut_3 3 rfl rfl)
theorem dX3_cut_75 : decode cX3_cut 75 = .ok (.iload 7, 2) := dk_21 7 (dk_at dksX3_cut_3 4 rfl rfl)
theorem dX3_cut_77 : decode cX3_cut 77 = .ok (.lshl, 1) := dk_121 (dk_at dksX3_cut_3 6 rfl rfl)
theorem dX3_cut_78 : decode cX3_cut 78 = .ok (.lor, 1) := dk_129 (dk_at dksX3_cut_3 7 rfl rfl)
theorem dX3_cut_79 : decode cX3_cut 79 = .ok (.invokestatic 90, 3) := dk_184 0 90 (dk_at dksX3_cut_3 8 rfl rfl)
theorem dX3_cut_82 : decode cX3_cut 82 = .ok (.invokestatic 236, 3) := dk_184 0 236 (dk_at dksX3_cut_3 11 rfl rfl)
theorem dX3_cut_85 : decode cX3_cut 85 = .ok (.iload 6, 2) := dk_21 6 (dk_at dksX3_cut_3 14 rfl rfl)
theorem dX3_cut_87 : decode cX3_cut 87 = .ok (.if_icmp .le 6, 3) := dk_164 0 6 (dk_at dksX3_cut_3 16 rfl rfl)
theorem dX3_cut_90 : decode cX3_cut 90 = .ok (.iload 7, 2) := dk_21 7 (dk_at dksX3_cut_3 19 rfl rfl)
theorem dX3_cut_92 : decode cX3_cut 92 = .ok (.ireturn, 1) := dk_172 (dk_at dksX3_cut_3 21 rfl rfl)
theorem dX3_cut_93 : decode cX3_cut 93 = .ok (.iinc 7 1, 3) := dk_132 7 1 (dk_at dksX3_cut_4 0 rfl rfl)
theorem dX3_cut_96 : decode cX3_cut 96 = .ok (.goto (-47), 3) := dk_167 255 209 (dk_at dksX3_cut_4 3 rfl rfl)
theorem dX3_cut_99 : decode cX3_cut 99 = .ok (.bipush (-4), 2) := dk_16 252 (dk_at dksX3_cut_4 6 rfl rfl)
theorem dX3_cut_101 : decode cX3_cut 101 = .ok (.ireturn, 1) := dk_172 (dk_at dksX3_cut_4 8 rfl rfl)
abbrev cX3_books : ByteArray := prog_12_method_66_code
def yX3_books : MethodName := ⟨RX3, "books", "(JIII)J"⟩
def dkwX3_books_10 : List UInt8 := [160, 0, 8, 22, 9, 167, 0, 16, 21, 5, 5, 160, 0, 8, 22, 11, 167, 0, 5, 22, 13, 173]
abbrev dktX3_books_10 : List UInt8 := dkwX3_books_10 ++ []
def dkwX3_books_9 : List UInt8 := [154, 0, 9, 21, 8, 133, 167, 0, 38, 21, 8, 154, 0, 9, 20, 1, 26, 167, 0, 27, 21, 5, 4]
abbrev dktX3_books_9 : List UInt8 := dkwX3_books_9 ++ dktX3_books_10
def dkwX3_books_8 : List UInt8 := [153, 0, 7, 4, 167, 0, 4, 3, 54, 15, 22, 16, 10, 101, 31, 127, 55, 16, 167, 255, 165, 21, 5]
abbrev dktX3_books_8 : List UInt8 := dkwX3_books_8 ++ dktX3_books_9
def dkwX3_books_7 : List UInt8 := [55, 9, 22, 11, 22, 16, 127, 55, 11, 22, 13, 22, 16, 20, 0, 94, 131, 127, 55, 13, 22, 16, 9, 148]
abbrev dktX3_books_7 : List UInt8 := dkwX3_books_7 ++ dktX3_books_8
def dkwX3_books_6 : List UInt8 := [180, 0, 123, 29, 160, 0, 40, 21, 4, 155, 0, 10, 21, 18, 21, 4, 160, 0, 28, 132, 8, 1, 22, 16]
abbrev dktX3_books_6 : List UInt8 := dkwX3_books_6 ++ dktX3_books_7
def dkwX3_books_5 : List UInt8 := [153, 0, 92, 42, 22, 6, 22, 16, 129, 181, 0, 73, 42, 182, 0, 216, 54, 18, 29, 155, 0, 11, 42]
abbrev dktX3_books_5 : List UInt8 := dkwX3_books_5 ++ dktX3_books_6
def dkwX3_books_4 : List UInt8 := [181, 0, 77, 3, 54, 8, 9, 55, 9, 31, 55, 11, 31, 55, 13, 4, 54, 15, 31, 55, 16, 21, 15]
abbrev dktX3_books_4 : List UInt8 := dkwX3_books_4 ++ dktX3_books_5
def dkwX3_books_3 : List UInt8 := [42, 180, 0, 73, 31, 20, 0, 94, 131, 127, 55, 6, 42, 89, 180, 0, 77, 31, 20, 0, 94, 131, 127]
abbrev dktX3_books_3 : List UInt8 := dkwX3_books_3 ++ dktX3_books_4
def dkwX3_books_2 : List UInt8 := [153, 0, 16, 21, 5, 133, 9, 20, 0, 243, 184, 0, 65, 154, 0, 7, 20, 0, 94, 173, 42, 182, 0, 158]
abbrev dktX3_books_2 : List UInt8 := dkwX3_books_2 ++ dktX3_books_3
def dkwX3_books_1 : List UInt8 := [20, 0, 94, 20, 1, 24, 184, 0, 65, 153, 0, 31, 21, 4, 133, 20, 0, 94, 20, 0, 250, 184, 0, 65]
abbrev dktX3_books_1 : List UInt8 := dkwX3_books_1 ++ dktX3_books_2
def dkwX3_books_0 : List UInt8 := [31, 9, 20, 0, 84, 184, 0, 65, 153, 0, 54, 31, 184, 0, 96, 16, 6, 163, 0, 45, 29, 133]
abbrev dktX3_books_0 : List UInt8 := dkwX3_books_0 ++ dktX3_books_1
theorem dksX3_books_0 : cX3_books.data.toList.drop 0 = dktX3_books_0 := by decide +kernel
theorem dksX3_books_1 : cX3_books.data.toList.drop 22 = dktX3_books_1 := dk_seg dksX3_books_0 22 rfl rfl
theorem dksX3_books_2 : cX3_books.data.toList.drop 46 = dktX3_books_2 := dk_seg dksX3_books_1 24 rfl rfl
theorem dksX3_books_3 : cX3_books.data.toList.drop 70 = dktX3_books_3 := dk_seg dksX3_books_2 24 rfl rfl
theorem dksX3_books_4 : cX3_books.data.toList.drop 93 = dktX3_books_4 := dk_seg dksX3_books_3 23 rfl rfl
theorem dksX3_books_5 : cX3_books.data.toList.drop 116 = dktX3_books_5 := dk_seg dksX3_books_4 23 rfl rfl
theorem dksX3_books_6 : cX3_books.data.toList.drop 139 = dktX3_books_6 := dk_seg dksX3_books_5 23 rfl rfl
theorem dksX3_books_7 : cX3_books.data.toList.drop 163 = dktX3_books_7 := dk_seg dksX3_books_6 24 rfl rfl
theorem dksX3_books_8 : cX3_books.data.toList.drop 187 = dktX3_books_8 := dk_seg dksX3_books_7 24 rfl rfl
theorem dksX3_books_9 : cX3_books.data.toList.drop 210 = dktX3_books_9 := dk_seg dksX3_books_8 23 rfl rfl
theorem dksX3_books_10 : cX3_books.data.toList.drop 233 = dktX3_books_10 := dk_seg dksX3_books_9 23 rfl rfl
theorem dX3_books_0 : decode cX3_books 0 = .ok (.lload_n 1, 1) := dk_31 (dk_at dksX3_books_0 0 rfl rfl)
theorem dX3_books_1 : decode cX3_books 1 = .ok (.lconst 0, 1) := dk_9 (dk_at dksX3_books_0 1 rfl rfl)
theorem dX3_books_2 : decode cX3_books 2 = .ok (.ldc2_w 84, 3) := dk_20 0 84 (dk_at dksX3_books_0 2 rfl rfl)
theorem dX3_books_5 : decode cX3_books 5 = .ok (.invokestatic 65, 3) := dk_184 0 65 (dk_at dksX3_books_0 5 rfl rfl)
theorem dX3_books_8 : decode cX3_books 8 = .ok (.ifCond .eq 54, 3) := dk_153 0 54 (dk_at dksX3_books_0 8 rfl rfl)
theorem dX3_books_11 : decode cX3_books 11 = .ok (.lload_n 1, 1) := dk_31 (dk_at dksX3_books_0 11 rfl rfl)
theorem dX3_books_12 : decode cX3_books 12 = .ok (.invokestatic 96, 3) := dk_184 0 96 (dk_at dksX3_books_0 12 rfl rfl)
theorem dX3_books_15 : decode cX3_books 15 = .ok (.bipush 6, 2) := dk_16 6 (dk_at dksX3_books_0 15 rfl rfl)
theorem dX3_books_17 : decode cX3_books 17 = .ok (.if_icmp .gt 45, 3) := dk_163 0 45 (dk_at dksX3_books_0 17 rfl rfl)
theorem dX3_books_20 : decode cX3_books 20 = .ok (.iload_n 3, 1) := dk_29 (dk_at dksX3_books_0 20 rfl rfl)
theorem dX3_books_21 : decode cX3_books 21 = .ok (.i2l, 1) := dk_133 (dk_at dksX3_books_0 21 rfl rfl)
theorem dX3_books_22 : decode cX3_books 22 = .ok (.ldc2_w 94, 3) := dk_20 0 94 (dk_at dksX3_books_1 0 rfl rfl)
theorem dX3_books_25 : decode cX3_books 25 = .ok (.ldc2_w 280, 3) := dk_20 1 24 (dk_at dksX3_books_1 3 rfl rfl)
theorem dX3_books_28 : decode cX3_books 28 = .ok (.invokestatic 65, 3) := dk_184 0 65 (dk_at dksX3_books_1 6 rfl rfl)
theorem dX3_books_31 : decode cX3_books 31 = .ok (.ifCond .eq 31, 3) := dk_153 0 31 (dk_at dksX3_books_1 9 rfl rfl)
theorem dX3_books_34 : decode cX3_books 34 = .ok (.iload 4, 2) := dk_21 4 (dk_at dksX3_books_1 12 rfl rfl)
theorem dX3_books_36 : decode cX3_books 36 = .ok (.i2l, 1) := dk_133 (dk_at dksX3_books_1 14 rfl rfl)
theorem dX3_books_37 : decode cX3_books 37 = .ok (.ldc2_w 94, 3) := dk_20 0 94 (dk_at dksX3_books_1 15 rfl rfl)
theorem dX3_books_40 : decode cX3_books 40 = .ok (.ldc2_w 250, 3) := dk_20 0 250 (dk_at dksX3_books_1 18 rfl rfl)
theorem dX3_books_43 : decode cX3_books 43 = .ok (.invokestatic 65, 3) := dk_184 0 65 (dk_at dksX3_books_1 21 rfl rfl)
theorem dX3_books_46 : decode cX3_books 46 = .ok (.ifCond .eq 16, 3) := dk_153 0 16 (dk_at dksX3_books_2 0 rfl rfl)
theorem dX3_books_49 : decode cX3_books 49 = .ok (.iload 5, 2) := dk_21 5 (dk_at dksX3_books_2 3 rfl rfl)
theorem dX3_books_51 : decode cX3_books 51 = .ok (.i2l, 1) := dk_133 (dk_at dksX3_books_2 5 rfl rfl)
theorem dX3_books_52 : decode cX3_books 52 = .ok (.lconst 0, 1) := dk_9 (dk_at dksX3_books_2 6 rfl rfl)
theorem dX3_books_53 : decode cX3_books 53 = .ok (.ldc2_w 243, 3) := dk_20 0 243 (dk_at dksX3_books_2 7 rfl rfl)
theorem dX3_books_56 : decode cX3_books 56 = .ok (.invokestatic 65, 3) := dk_184 0 65 (dk_at dksX3_books_2 10 rfl rfl)
theorem dX3_books_59 : decode cX3_books 59 = .ok (.ifCond .ne 7, 3) := dk_154 0 7 (dk_at dksX3_books_2 13 rfl rfl)
theorem dX3_books_62 : decode cX3_books 62 = .ok (.ldc2_w 94, 3) := dk_20 0 94 (dk_at dksX3_books_2 16 rfl rfl)
theorem dX3_books_65 : decode cX3_books 65 = .ok (.lreturn, 1) := dk_173 (dk_at dksX3_books_2 19 rfl rfl)
theorem dX3_books_66 : decode cX3_books 66 = .ok (.aload_n 0, 1) := dk_42 (dk_at dksX3_books_2 20 rfl rfl)
theorem dX3_books_67 : decode cX3_books 67 = .ok (.invokevirtual 158, 3) := dk_182 0 158 (dk_at dksX3_books_2 21 rfl rfl)
theorem dX3_books_70 : decode cX3_books 70 = .ok (.aload_n 0, 1) := dk_42 (dk_at dksX3_books_3 0 rfl rfl)
theorem dX3_books_71 : decode cX3_books 71 = .ok (.getfield 73, 3) := dk_180 0 73 (dk_at dksX3_books_3 1 rfl rfl)
theorem dX3_books_74 : decode cX3_books 74 = .ok (.lload_n 1, 1) := dk_31 (dk_at dksX3_books_3 4 rfl rfl)
theorem dX3_books_75 : decode cX3_books 75 = .ok (.ldc2_w 94, 3) := dk_20 0 94 (dk_at dksX3_books_3 5 rfl rfl)
theorem dX3_books_78 : decode cX3_books 78 = .ok (.lxor, 1) := dk_131 (dk_at dksX3_books_3 8 rfl rfl)
theorem dX3_books_79 : decode cX3_books 79 = .ok (.land, 1) := dk_127 (dk_at dksX3_books_3 9 rfl rfl)
theorem dX3_books_80 : decode cX3_books 80 = .ok (.lstore 6, 2) := dk_55 6 (dk_at dksX3_books_3 10 rfl rfl)
theorem dX3_books_82 : decode cX3_books 82 = .ok (.aload_n 0, 1) := dk_42 (dk_at dksX3_books_3 12 rfl rfl)
theorem dX3_books_83 : decode cX3_books 83 = .ok (.dup, 1) := dk_89 (dk_at dksX3_books_3 13 rfl rfl)
theorem dX3_books_84 : decode cX3_books 84 = .ok (.getfield 77, 3) := dk_180 0 77 (dk_at dksX3_books_3 14 rfl rfl)
theorem dX3_books_87 : decode cX3_books 87 = .ok (.lload_n 1, 1) := dk_31 (dk_at dksX3_books_3 17 rfl rfl)
theorem dX3_books_88 : decode cX3_books 88 = .ok (.ldc2_w 94, 3) := dk_20 0 94 (dk_at dksX3_books_3 18 rfl rfl)
theorem dX3_books_91 : decode cX3_books 91 = .ok (.lxor, 1) := dk_131 (dk_at dksX3_books_3 21 rfl rfl)
theorem dX3_books_92 : decode cX3_books 92 = .ok (.land, 1) := dk_127 (dk_at dksX3_books_3 22 rfl rfl)
theorem dX3_books_93 : decode cX3_books 93 = .ok (.putfield 77, 3) := dk_181 0 77 (dk_at dksX3_books_4 0 rfl rfl)
theorem dX3_books_96 : decode cX3_books 96 = .ok (.iconst 0, 1) := dk_3 (dk_at dksX3_books_4 3 rfl rfl)
theorem dX3_books_97 : decode cX3_books 97 = .ok (.istore 8, 2) := dk_54 8 (dk_at dksX3_books_4 4 rfl rfl)
theorem dX3_books_99 : decode cX3_books 99 = .ok (.lconst 0, 1) := dk_9 (dk_at dksX3_books_4 6 rfl rfl)
theorem dX3_books_100 : decode cX3_books 100 = .ok (.lstore 9, 2) := dk_55 9 (dk_at dksX3_books_4 7 rfl rfl)
theorem dX3_books_102 : decode cX3_books 102 = .ok (.lload_n 1, 1) := dk_31 (dk_at dksX3_books_4 9 rfl rfl)
theorem dX3_books_103 : decode cX3_books 103 = .ok (.lstore 11, 2) := dk_55 11 (dk_at dksX3_books_4 10 rfl rfl)
theorem dX3_books_105 : decode cX3_books 105 = .ok (.lload_n 1, 1) := dk_31 (dk_at dksX3_books_4 12 rfl rfl)
theorem dX3_books_106 : decode cX3_books 106 = .ok (.lstore 13, 2) := dk_55 13 (dk_at dksX3_books_4 13 rfl rfl)
theorem dX3_books_108 : decode cX3_books 108 = .ok (.iconst 1, 1) := dk_4 (dk_at dksX3_books_4 15 rfl rfl)
theorem dX3_books_109 : decode cX3_books 109 = .ok (.istore 15, 2) := dk_54 15 (dk_at dksX3_books_4 16 rfl rfl)
theorem dX3_books_111 : decode cX3_books 111 = .ok (.lload_n 1, 1) := dk_31 (dk_at dksX3_books_4 18 rfl rfl)
theorem dX3_books_112 : decode cX3_books 112 = .ok (.lstore 16, 2) := dk_55 16 (dk_at dksX3_books_4 19 rfl rfl)
theorem dX3_books_114 : decode cX3_books 114 = .ok (.iload 15, 2) := dk_21 15 (dk_at dksX3_books_4 21 rfl rfl)
theorem dX3_books_116 : decode cX3_books 116 = .ok (.ifCond .eq 92, 3) := dk_153 0 92 (dk_at dksX3_books_5 0 rfl rfl)
theorem dX3_books_119 : decode cX3_books 119 = .ok (.aload_n 0, 1) := dk_42 (dk_at dksX3_books_5 3 rfl rfl)
theorem dX3_books_120 : decode cX3_books 120 = .ok (.lload 6, 2) := dk_22 6 (dk_at dksX3_books_5 4 rfl rfl)
theorem dX3_books_122 : decode cX3_books 122 = .ok (.lload 16, 2) := dk_22 16 (dk_at dksX3_books_5 6 rfl rfl)
theorem dX3_books_124 : decode cX3_books 124 = .ok (.lor, 1) := dk_129 (dk_at dksX3_books_5 8 rfl rfl)
theorem dX3_books_125 : decode cX3_books 125 = .ok (.putfield 73, 3) := dk_181 0 73 (dk_at dksX3_books_5 9 rfl rfl)
theorem dX3_books_128 : decode cX3_books 128 = .ok (.aload_n 0, 1) := dk_42 (dk_at dksX3_books_5 12 rfl rfl)
theorem dX3_books_129 : decode cX3_books 129 = .ok (.invokevirtual 216, 3) := dk_182 0 216 (dk_at dksX3_books_5 13 rfl rfl)
theorem dX3_books_132 : decode cX3_books 132 = .ok (.istore 18, 2) := dk_54 18 (dk_at dksX3_books_5 16 rfl rfl)
theorem dX3_books_134 : decode cX3_books 134 = .ok (.iload_n 3, 1) := dk_29 (dk_at dksX3_books_5 18 rfl rfl)
theorem dX3_books_135 : decode cX3_books 135 = .ok (.ifCond .lt 11, 3) := dk_155 0 11 (dk_at dksX3_books_5 19 rfl rfl)
theorem dX3_books_138 : decode cX3_books 138 = .ok (.aload_n 0, 1) := dk_42 (dk_at dksX3_books_5 22 rfl rfl)
theorem dX3_books_139 : decode cX3_books 139 = .ok (.getfield 123, 3) := dk_180 0 123 (dk_at dksX3_books_6 0 rfl rfl)
theorem dX3_books_142 : decode cX3_books 142 = .ok (.iload_n 3, 1) := dk_29 (dk_at dksX3_books_6 3 rfl rfl)
theorem dX3_books_143 : decode cX3_books 143 = .ok (.if_icmp .ne 40, 3) := dk_160 0 40 (dk_at dksX3_books_6 4 rfl rfl)
theorem dX3_books_146 : decode cX3_books 146 = .ok (.iload 4, 2) := dk_21 4 (dk_at dksX3_books_6 7 rfl rfl)
theorem dX3_books_148 : decode cX3_books 148 = .ok (.ifCond .lt 10, 3) := dk_155 0 10 (dk_at dksX3_books_6 9 rfl rfl)
theorem dX3_books_151 : decode cX3_books 151 = .ok (.iload 18, 2) := dk_21 18 (dk_at dksX3_books_6 12 rfl rfl)
theorem dX3_books_153 : decode cX3_books 153 = .ok (.iload 4, 2) := dk_21 4 (dk_at dksX3_books_6 14 rfl rfl)
theorem dX3_books_155 : decode cX3_books 155 = .ok (.if_icmp .ne 28, 3) := dk_160 0 28 (dk_at dksX3_books_6 16 rfl rfl)
theorem dX3_books_158 : decode cX3_books 158 = .ok (.iinc 8 1, 3) := dk_132 8 1 (dk_at dksX3_books_6 19 rfl rfl)
theorem dX3_books_161 : decode cX3_books 161 = .ok (.lload 16, 2) := dk_22 16 (dk_at dksX3_books_6 22 rfl rfl)
theorem dX3_books_163 : decode cX3_books 163 = .ok (.lstore 9, 2) := dk_55 9 (dk_at dksX3_books_7 0 rfl rfl)
theorem dX3_books_165 : decode cX3_books 165 = .ok (.lload 11, 2) := dk_22 11 (dk_at dksX3_books_7 2 rfl rfl)
theorem dX3_books_167 : decode cX3_books 167 = .ok (.lload 16, 2) := dk_22 16 (dk_at dksX3_books_7 4 rfl rfl)
theorem dX3_books_169 : decode cX3_books 169 = .ok (.land, 1) := dk_127 (dk_at dksX3_books_7 6 rfl rfl)
theorem dX3_books_170 : decode cX3_books 170 = .ok (.lstore 11, 2) := dk_55 11 (dk_at dksX3_books_7 7 rfl rfl)
theorem dX3_books_172 : decode cX3_books 172 = .ok (.lload 13, 2) := dk_22 13 (dk_at dksX3_books_7 9 rfl rfl)
theorem dX3_books_174 : decode cX3_books 174 = .ok (.lload 16, 2) := dk_22 16 (dk_at dksX3_books_7 11 rfl rfl)
theorem dX3_books_176 : decode cX3_books 176 = .ok (.ldc2_w 94, 3) := dk_20 0 94 (dk_at dksX3_books_7 13 rfl rfl)
theorem dX3_books_179 : decode cX3_books 179 = .ok (.lxor, 1) := dk_131 (dk_at dksX3_books_7 16 rfl rfl)
theorem dX3_books_180 : decode cX3_books 180 = .ok (.land, 1) := dk_127 (dk_at dksX3_books_7 17 rfl rfl)
theorem dX3_books_181 : decode cX3_books 181 = .ok (.lstore 13, 2) := dk_55 13 (dk_at dksX3_books_7 18 rfl rfl)
theorem dX3_books_183 : decode cX3_books 183 = .ok (.lload 16, 2) := dk_22 16 (dk_at dksX3_books_7 20 rfl rfl)
theorem dX3_books_185 : decode cX3_books 185 = .ok (.lconst 0, 1) := dk_9 (dk_at dksX3_books_7 22 rfl rfl)
theorem dX3_books_186 : decode cX3_books 186 = .ok (.lcmp, 1) := dk_148 (dk_at dksX3_books_7 23 rfl rfl)
theorem dX3_books_187 : decode cX3_books 187 = .ok (.ifCond .eq 7, 3) := dk_153 0 7 (dk_at dksX3_books_8 0 rfl rfl)
theorem dX3_books_190 : decode cX3_books 190 = .ok (.iconst 1, 1) := dk_4 (dk_at dksX3_books_8 3 rfl rfl)
theorem dX3_books_191 : decode cX3_books 191 = .ok (.goto 4, 3) := dk_167 0 4 (dk_at dksX3_books_8 4 rfl rfl)
theorem dX3_books_194 : decode cX3_books 194 = .ok (.iconst 0, 1) := dk_3 (dk_at dksX3_books_8 7 rfl rfl)
theorem dX3_books_195 : decode cX3_books 195 = .ok (.istore 15, 2) := dk_54 15 (dk_at dksX3_books_8 8 rfl rfl)
theorem dX3_books_197 : decode cX3_books 197 = .ok (.lload 16, 2) := dk_22 16 (dk_at dksX3_books_8 10 rfl rfl)
theorem dX3_books_199 : decode cX3_books 199 = .ok (.lconst 1, 1) := dk_10 (dk_at dksX3_books_8 12 rfl rfl)
theorem dX3_books_200 : decode cX3_books 200 = .ok (.lsub, 1) := dk_101 (dk_at dksX3_books_8 13 rfl rfl)
theorem dX3_books_201 : decode cX3_books 201 = .ok (.lload_n 1, 1) := dk_31 (dk_at dksX3_books_8 14 rfl rfl)
theorem dX3_books_202 : decode cX3_books 202 = .ok (.land, 1) := dk_127 (dk_at dksX3_books_8 15 rfl rfl)
theorem dX3_books_203 : decode cX3_books 203 = .ok (.lstore 16, 2) := dk_55 16 (dk_at dksX3_books_8 16 rfl rfl)
theorem dX3_books_205 : decode cX3_books 205 = .ok (.goto (-91), 3) := dk_167 255 165 (dk_at dksX3_books_8 18 rfl rfl)
theorem dX3_books_208 : decode cX3_books 208 = .ok (.iload 5, 2) := dk_21 5 (dk_at dksX3_books_8 21 rfl rfl)
theorem dX3_books_210 : decode cX3_books 210 = .ok (.ifCond .ne 9, 3) := dk_154 0 9 (dk_at dksX3_books_9 0 rfl rfl)
theorem dX3_books_213 : decode cX3_books 213 = .ok (.iload 8, 2) := dk_21 8 (dk_at dksX3_books_9 3 rfl rfl)
theorem dX3_books_215 : decode cX3_books 215 = .ok (.i2l, 1) := dk_133 (dk_at dksX3_books_9 5 rfl rfl)
theorem dX3_books_216 : decode cX3_books 216 = .ok (.goto 38, 3) := dk_167 0 38 (dk_at dksX3_books_9 6 rfl rfl)
theorem dX3_books_219 : decode cX3_books 219 = .ok (.iload 8, 2) := dk_21 8 (dk_at dksX3_books_9 9 rfl rfl)
theorem dX3_books_221 : decode cX3_books 221 = .ok (.ifCond .ne 9, 3) := dk_154 0 9 (dk_at dksX3_books_9 11 rfl rfl)
theorem dX3_books_224 : decode cX3_books 224 = .ok (.ldc2_w 282, 3) := dk_20 1 26 (dk_at dksX3_books_9 14 rfl rfl)
theorem dX3_books_227 : decode cX3_books 227 = .ok (.goto 27, 3) := dk_167 0 27 (dk_at dksX3_books_9 17 rfl rfl)
theorem dX3_books_230 : decode cX3_books 230 = .ok (.iload 5, 2) := dk_21 5 (dk_at dksX3_books_9 20 rfl rfl)
theorem dX3_books_232 : decode cX3_books 232 = .ok (.iconst 1, 1) := dk_4 (dk_at dksX3_books_9 22 rfl rfl)
theorem dX3_books_233 : decode cX3_books 233 = .ok (.if_icmp .ne 8, 3) := dk_160 0 8 (dk_at dksX3_books_10 0 rfl rfl)
theorem dX3_books_236 : decode cX3_books 236 = .ok (.lload 9, 2) := dk_22 9 (dk_at dksX3_books_10 3 rfl rfl)
theorem dX3_books_238 : decode cX3_books 238 = .ok (.goto 16, 3) := dk_167 0 16 (dk_at dksX3_books_10 5 rfl rfl)
theorem dX3_books_241 : decode cX3_books 241 = .ok (.iload 5, 2) := dk_21 5 (dk_at dksX3_books_10 8 rfl rfl)
theorem dX3_books_243 : decode cX3_books 243 = .ok (.iconst 2, 1) := dk_5 (dk_at dksX3_books_10 10 rfl rfl)
theorem dX3_books_244 : decode cX3_books 244 = .ok (.if_icmp .ne 8, 3) := dk_160 0 8 (dk_at dksX3_books_10 11 rfl rfl)
theorem dX3_books_247 : decode cX3_books 247 = .ok (.lload 11, 2) := dk_22 11 (dk_at dksX3_books_10 14 rfl rfl)
theorem dX3_books_249 : decode cX3_books 249 = .ok (.goto 5, 3) := dk_167 0 5 (dk_at dksX3_books_10 16 rfl rfl)
theorem dX3_books_252 : decode cX3_books 252 = .ok (.lload 13, 2) := dk_22 13 (dk_at dksX3_books_10 19 rfl rfl)
theorem dX3_books_254 : decode cX3_books 254 = .ok (.lreturn, 1) := dk_173 (dk_at dksX3_books_10 21 rfl rfl)
abbrev cX3_lots : ByteArray := prog_12_method_68_code
def yX3_lots : MethodName := ⟨RX3, "lots", "(I)I"⟩
def dkwX3_lots_4 : List UInt8 := [46, 4, 96, 79, 132, 2, 1, 132, 3, 1, 167, 255, 168, 42, 3, 181, 0, 139, 28, 172]
abbrev dktX3_lots_4 : List UInt8 := dkwX3_lots_4 ++ []
def dkwX3_lots_3 : List UInt8 := [21, 5, 154, 0, 29, 42, 180, 0, 7, 21, 4, 46, 16, 9, 162, 0, 17, 42, 180, 0, 7, 21, 4, 92]
abbrev dktX3_lots_3 : List UInt8 := dkwX3_lots_3 ++ dktX3_lots_4
def dkwX3_lots_2 : List UInt8 := [153, 0, 24, 42, 180, 0, 7, 21, 4, 46, 158, 0, 14, 42, 21, 4, 3, 3, 182, 0, 150, 132, 2, 100]
abbrev dktX3_lots_2 : List UInt8 := dkwX3_lots_2 ++ dktX3_lots_3
def dkwX3_lots_1 : List UInt8 := [16, 36, 182, 1, 35, 54, 4, 42, 7, 182, 1, 35, 154, 0, 7, 4, 167, 0, 4, 3, 54, 5, 21, 5]
abbrev dktX3_lots_1 : List UInt8 := dkwX3_lots_1 ++ dktX3_lots_2
def dkwX3_lots_0 : List UInt8 := [27, 133, 10, 20, 0, 156, 184, 0, 65, 154, 0, 5, 2, 172, 3, 61, 3, 62, 29, 27, 162, 0, 89, 42]
abbrev dktX3_lots_0 : List UInt8 := dkwX3_lots_0 ++ dktX3_lots_1
theorem dksX3_lots_0 : cX3_lots.data.toList.drop 0 = dktX3_lots_0 := by decide +kernel
theorem dksX3_lots_1 : cX3_lots.data.toList.drop 24 = dktX3_lots_1 := dk_seg dksX3_lots_0 24 rfl rfl
theorem dksX3_lots_2 : cX3_lots.data.toList.drop 48 = dktX3_lots_2 := dk_seg dksX3_lots_1 24 rfl rfl
theorem dksX3_lots_3 : cX3_lots.data.toList.drop 72 = dktX3_lots_3 := dk_seg dksX3_lots_2 24 rfl rfl
theorem dksX3_lots_4 : cX3_lots.data.toList.drop 96 = dktX3_lots_4 := dk_seg dksX3_lots_3 24 rfl rfl
theorem dX3_lots_0 : decode cX3_lots 0 = .ok (.iload_n 1, 1) := dk_27 (dk_at dksX3_lots_0 0 rfl rfl)
theorem dX3_lots_1 : decode cX3_lots 1 = .ok (.i2l, 1) := dk_133 (dk_at dksX3_lots_0 1 rfl rfl)
theorem dX3_lots_2 : decode cX3_lots 2 = .ok (.lconst 1, 1) := dk_10 (dk_at dksX3_lots_0 2 rfl rfl)
theorem dX3_lots_3 : decode cX3_lots 3 = .ok (.ldc2_w 156, 3) := dk_20 0 156 (dk_at dksX3_lots_0 3 rfl rfl)
theorem dX3_lots_6 : decode cX3_lots 6 = .ok (.invokestatic 65, 3) := dk_184 0 65 (dk_at dksX3_lots_0 6 rfl rfl)
theorem dX3_lots_9 : decode cX3_lots 9 = .ok (.ifCond .ne 5, 3) := dk_154 0 5 (dk_at dksX3_lots_0 9 rfl rfl)
theorem dX3_lots_12 : decode cX3_lots 12 = .ok (.iconst (-1), 1) := dk_2 (dk_at dksX3_lots_0 12 rfl rfl)
theorem dX3_lots_13 : decode cX3_lots 13 = .ok (.ireturn, 1) := dk_172 (dk_at dksX3_lots_0 13 rfl rfl)
theorem dX3_lots_14 : decode cX3_lots 14 = .ok (.iconst 0, 1) := dk_3 (dk_at dksX3_lots_0 14 rfl rfl)
theorem dX3_lots_15 : decode cX3_lots 15 = .ok (.istore_n 2, 1) := dk_61 (dk_at dksX3_lots_0 15 rfl rfl)
theorem dX3_lots_16 : decode cX3_lots 16 = .ok (.iconst 0, 1) := dk_3 (dk_at dksX3_lots_0 16 rfl rfl)
theorem dX3_lots_17 : decode cX3_lots 17 = .ok (.istore_n 3, 1) := dk_62 (dk_at dksX3_lots_0 17 rfl rfl)
theorem dX3_lots_18 : decode cX3_lots 18 = .ok (.iload_n 3, 1) := dk_29 (dk_at dksX3_lots_0 18 rfl rfl)
theorem dX3_lots_19 : decode cX3_lots 19 = .ok (.iload_n 1, 1) := dk_27 (dk_at dksX3_lots_0 19 rfl rfl)
theorem dX3_lots_20 : decode cX3_lots 20 = .ok (.if_icmp .ge 89, 3) := dk_162 0 89 (dk_at dksX3_lots_0 20 rfl rfl)
theorem dX3_lots_23 : decode cX3_lots 23 = .ok (.aload_n 0, 1) := dk_42 (dk_at dksX3_lots_0 23 rfl rfl)
theorem dX3_lots_24 : decode cX3_lots 24 = .ok (.bipush 36, 2) := dk_16 36 (dk_at dksX3_lots_1 0 rfl rfl)
theorem dX3_lots_26 : decode cX3_lots 26 = .ok (.invokevirtual 291, 3) := dk_182 1 35 (dk_at dksX3_lots_1 2 rfl rfl)
theorem dX3_lots_29 : decode cX3_lots 29 = .ok (.istore 4, 2) := dk_54 4 (dk_at dksX3_lots_1 5 rfl rfl)
theorem dX3_lots_31 : decode cX3_lots 31 = .ok (.aload_n 0, 1) := dk_42 (dk_at dksX3_lots_1 7 rfl rfl)
theorem dX3_lots_32 : decode cX3_lots 32 = .ok (.iconst 4, 1) := dk_7 (dk_at dksX3_lots_1 8 rfl rfl)
theorem dX3_lots_33 : decode cX3_lots 33 = .ok (.invokevirtual 291, 3) := dk_182 1 35 (dk_at dksX3_lots_1 9 rfl rfl)
theorem dX3_lots_36 : decode cX3_lots 36 = .ok (.ifCond .ne 7, 3) := dk_154 0 7 (dk_at dksX3_lots_1 12 rfl rfl)
theorem dX3_lots_39 : decode cX3_lots 39 = .ok (.iconst 1, 1) := dk_4 (dk_at dksX3_lots_1 15 rfl rfl)
theorem dX3_lots_40 : decode cX3_lots 40 = .ok (.goto 4, 3) := dk_167 0 4 (dk_at dksX3_lots_1 16 rfl rfl)
theorem dX3_lots_43 : decode cX3_lots 43 = .ok (.iconst 0, 1) := dk_3 (dk_at dksX3_lots_1 19 rfl rfl)
theorem dX3_lots_44 : decode cX3_lots 44 = .ok (.istore 5, 2) := dk_54 5 (dk_at dksX3_lots_1 20 rfl rfl)
theorem dX3_lots_46 : decode cX3_lots 46 = .ok (.iload 5, 2) := dk_21 5 (dk_at dksX3_lots_1 22 rfl rfl)
theorem dX3_lots_48 : decode cX3_lots 48 = .ok (.ifCond .eq 24, 3) := dk_153 0 24 (dk_at dksX3_lots_2 0 rfl rfl)
theorem dX3_lots_51 : decode cX3_lots 51 = .ok (.aload_n 0, 1) := dk_42 (dk_at dksX3_lots_2 3 rfl rfl)
theorem dX3_lots_52 : decode cX3_lots 52 = .ok (.getfield 7, 3) := dk_180 0 7 (dk_at dksX3_lots_2 4 rfl rfl)
theorem dX3_lots_55 : decode cX3_lots 55 = .ok (.iload 4, 2) := dk_21 4 (dk_at dksX3_lots_2 7 rfl rfl)
theorem dX3_lots_57 : decode cX3_lots 57 = .ok (.iaload, 1) := dk_46 (dk_at dksX3_lots_2 9 rfl rfl)
theorem dX3_lots_58 : decode cX3_lots 58 = .ok (.ifCond .le 14, 3) := dk_158 0 14 (dk_at dksX3_lots_2 10 rfl rfl)
theorem dX3_lots_61 : decode cX3_lots 61 = .ok (.aload_n 0, 1) := dk_42 (dk_at dksX3_lots_2 13 rfl rfl)
theorem dX3_lots_62 : decode cX3_lots 62 = .ok (.iload 4, 2) := dk_21 4 (dk_at dksX3_lots_2 14 rfl rfl)
theorem dX3_lots_64 : decode cX3_lots 64 = .ok (.iconst 0, 1) := dk_3 (dk_at dksX3_lots_2 16 rfl rfl)
theorem dX3_lots_65 : decode cX3_lots 65 = .ok (.iconst 0, 1) := dk_3 (dk_at dksX3_lots_2 17 rfl rfl)
theorem dX3_lots_66 : decode cX3_lots 66 = .ok (.invokevirtual 150, 3) := dk_182 0 150 (dk_at dksX3_lots_2 18 rfl rfl)
theorem dX3_lots_69 : decode cX3_lots 69 = .ok (.iinc 2 100, 3) := dk_132 2 100 (dk_at dksX3_lots_2 21 rfl rfl)
theorem dX3_lots_72 : decode cX3_lots 72 = .ok (.iload 5, 2) := dk_21 5 (dk_at dksX3_lots_3 0 rfl rfl)
theorem dX3_lots_74 : decode cX3_lots 74 = .ok (.ifCond .ne 29, 3) := dk_154 0 29 (dk_at dksX3_lots_3 2 rfl rfl)
theorem dX3_lots_77 : decode cX3_lots 77 = .ok (.aload_n 0, 1) := dk_42 (dk_at dksX3_lots_3 5 rfl rfl)
theorem dX3_lots_78 : decode cX3_lots 78 = .ok (.getfield 7, 3) := dk_180 0 7 (dk_at dksX3_lots_3 6 rfl rfl)
theorem dX3_lots_81 : decode cX3_lots 81 = .ok (.iload 4, 2) := dk_21 4 (dk_at dksX3_lots_3 9 rfl rfl)
theorem dX3_lots_83 : decode cX3_lots 83 = .ok (.iaload, 1) := dk_46 (dk_at dksX3_lots_3 11 rfl rfl)
theorem dX3_lots_84 : decode cX3_lots 84 = .ok (.bipush 9, 2) := dk_16 9 (dk_at dksX3_lots_3 12 rfl rfl)
theorem dX3_lots_86 : decode cX3_lots 86 = .ok (.if_icmp .ge 17, 3) := dk_162 0 17 (dk_at dksX3_lots_3 14 rfl rfl)
theorem dX3_lots_89 : decode cX3_lots 89 = .ok (.aload_n 0, 1) := dk_42 (dk_at dksX3_lots_3 17 rfl rfl)
theorem dX3_lots_90 : decode cX3_lots 90 = .ok (.getfield 7, 3) := dk_180 0 7 (dk_at dksX3_lots_3 18 rfl rfl)
theorem dX3_lots_93 : decode cX3_lots 93 = .ok (.iload 4, 2) := dk_21 4 (dk_at dksX3_lots_3 21 rfl rfl)
theorem dX3_lots_95 : decode cX3_lots 95 = .ok (.dup2, 1) := dk_92 (dk_at dksX3_lots_3 23 rfl rfl)
theorem dX3_lots_96 : decode cX3_lots 96 = .ok (.iaload, 1) := dk_46 (dk_at dksX3_lots_4 0 rfl rfl)
theorem dX3_lots_97 : decode cX3_lots 97 = .ok (.iconst 1, 1) := dk_4 (dk_at dksX3_lots_4 1 rfl rfl)
theorem dX3_lots_98 : decode cX3_lots 98 = .ok (.iadd, 1) := dk_96 (dk_at dksX3_lots_4 2 rfl rfl)
theorem dX3_lots_99 : decode cX3_lots 99 = .ok (.iastore, 1) := dk_79 (dk_at dksX3_lots_4 3 rfl rfl)
theorem dX3_lots_100 : decode cX3_lots 100 = .ok (.iinc 2 1, 3) := dk_132 2 1 (dk_at dksX3_lots_4 4 rfl rfl)
theorem dX3_lots_103 : decode cX3_lots 103 = .ok (.iinc 3 1, 3) := dk_132 3 1 (dk_at dksX3_lots_4 7 rfl rfl)
theorem dX3_lots_106 : decode cX3_lots 106 = .ok (.goto (-88), 3) := dk_167 255 168 (dk_at dksX3_lots_4 10 rfl rfl)
theorem dX3_lots_109 : decode cX3_lots 109 = .ok (.aload_n 0, 1) := dk_42 (dk_at dksX3_lots_4 13 rfl rfl)
theorem dX3_lots_110 : decode cX3_lots 110 = .ok (.iconst 0, 1) := dk_3 (dk_at dksX3_lots_4 14 rfl rfl)
theorem dX3_lots_111 : decode cX3_lots 111 = .ok (.putfield 139, 3) := dk_181 0 139 (dk_at dksX3_lots_4 15 rfl rfl)
theorem dX3_lots_114 : decode cX3_lots 114 = .ok (.iload_n 2, 1) := dk_28 (dk_at dksX3_lots_4 18 rfl rfl)
theorem dX3_lots_115 : decode cX3_lots 115 = .ok (.ireturn, 1) := dk_172 (dk_at dksX3_lots_4 19 rfl rfl)
abbrev cX3_nextDraw : ByteArray := prog_12_method_67_code
def yX3_nextDraw : MethodName := ⟨RX3, "nextDraw", "(I)I"⟩
def dkwX3_nextDraw_1 : List UInt8 := [180, 0, 23, 19, 1, 34, 108, 27, 112, 172]
abbrev dktX3_nextDraw_1 : List UInt8 := dkwX3_nextDraw_1 ++ []
def dkwX3_nextDraw_0 : List UInt8 := [42, 42, 180, 0, 23, 133, 20, 1, 28, 105, 20, 1, 30, 97, 20, 1, 32, 127, 136, 181, 0, 23, 42]
abbrev dktX3_nextDraw_0 : List UInt8 := dkwX3_nextDraw_0 ++ dktX3_nextDraw_1
theorem dksX3_nextDraw_0 : cX3_nextDraw.data.toList.drop 0 = dktX3_nextDraw_0 := by decide +kernel
theorem dksX3_nextDraw_1 : cX3_nextDraw.data.toList.drop 23 = dktX3_nextDraw_1 := dk_seg dksX3_nextDraw_0 23 rfl rfl
theorem dX3_nextDraw_0 : decode cX3_nextDraw 0 = .ok (.aload_n 0, 1) := dk_42 (dk_at dksX3_nextDraw_0 0 rfl rfl)
theorem dX3_nextDraw_1 : decode cX3_nextDraw 1 = .ok (.aload_n 0, 1) := dk_42 (dk_at dksX3_nextDraw_0 1 rfl rfl)
theorem dX3_nextDraw_2 : decode cX3_nextDraw 2 = .ok (.getfield 23, 3) := dk_180 0 23 (dk_at dksX3_nextDraw_0 2 rfl rfl)
theorem dX3_nextDraw_5 : decode cX3_nextDraw 5 = .ok (.i2l, 1) := dk_133 (dk_at dksX3_nextDraw_0 5 rfl rfl)
theorem dX3_nextDraw_6 : decode cX3_nextDraw 6 = .ok (.ldc2_w 284, 3) := dk_20 1 28 (dk_at dksX3_nextDraw_0 6 rfl rfl)
theorem dX3_nextDraw_9 : decode cX3_nextDraw 9 = .ok (.lmul, 1) := dk_105 (dk_at dksX3_nextDraw_0 9 rfl rfl)
theorem dX3_nextDraw_10 : decode cX3_nextDraw 10 = .ok (.ldc2_w 286, 3) := dk_20 1 30 (dk_at dksX3_nextDraw_0 10 rfl rfl)
theorem dX3_nextDraw_13 : decode cX3_nextDraw 13 = .ok (.ladd, 1) := dk_97 (dk_at dksX3_nextDraw_0 13 rfl rfl)
theorem dX3_nextDraw_14 : decode cX3_nextDraw 14 = .ok (.ldc2_w 288, 3) := dk_20 1 32 (dk_at dksX3_nextDraw_0 14 rfl rfl)
theorem dX3_nextDraw_17 : decode cX3_nextDraw 17 = .ok (.land, 1) := dk_127 (dk_at dksX3_nextDraw_0 17 rfl rfl)
theorem dX3_nextDraw_18 : decode cX3_nextDraw 18 = .ok (.l2i, 1) := dk_136 (dk_at dksX3_nextDraw_0 18 rfl rfl)
theorem dX3_nextDraw_19 : decode cX3_nextDraw 19 = .ok (.putfield 23, 3) := dk_181 0 23 (dk_at dksX3_nextDraw_0 19 rfl rfl)
theorem dX3_nextDraw_22 : decode cX3_nextDraw 22 = .ok (.aload_n 0, 1) := dk_42 (dk_at dksX3_nextDraw_0 22 rfl rfl)
theorem dX3_nextDraw_23 : decode cX3_nextDraw 23 = .ok (.getfield 23, 3) := dk_180 0 23 (dk_at dksX3_nextDraw_1 0 rfl rfl)
theorem dX3_nextDraw_26 : decode cX3_nextDraw 26 = .ok (.ldc_w 290, 3) := dk_19 1 34 (dk_at dksX3_nextDraw_1 3 rfl rfl)
theorem dX3_nextDraw_29 : decode cX3_nextDraw 29 = .ok (.idiv, 1) := dk_108 (dk_at dksX3_nextDraw_1 6 rfl rfl)
theorem dX3_nextDraw_30 : decode cX3_nextDraw 30 = .ok (.iload_n 1, 1) := dk_27 (dk_at dksX3_nextDraw_1 7 rfl rfl)
theorem dX3_nextDraw_31 : decode cX3_nextDraw 31 = .ok (.irem, 1) := dk_112 (dk_at dksX3_nextDraw_1 8 rfl rfl)
theorem dX3_nextDraw_32 : decode cX3_nextDraw 32 = .ok (.ireturn, 1) := dk_172 (dk_at dksX3_nextDraw_1 9 rfl rfl)
abbrev cX3_seed : ByteArray := prog_12_method_69_code
def yX3_seed : MethodName := ⟨RX3, "seed", "(I)I"⟩
def dkwX3_seed_0 : List UInt8 := [27, 156, 0, 5, 2, 172, 42, 180, 0, 23, 61, 42, 27, 181, 0, 23, 28, 172]
abbrev dktX3_seed_0 : List UInt8 := dkwX3_seed_0 ++ []
theorem dksX3_seed_0 : cX3_seed.data.toList.drop 0 = dktX3_seed_0 := by decide +kernel
theorem dX3_seed_0 : decode cX3_seed 0 = .ok (.iload_n 1, 1) := dk_27 (dk_at dksX3_seed_0 0 rfl rfl)
theorem dX3_seed_1 : decode cX3_seed 1 = .ok (.ifCond .ge 5, 3) := dk_156 0 5 (dk_at dksX3_seed_0 1 rfl rfl)
theorem dX3_seed_4 : decode cX3_seed 4 = .ok (.iconst (-1), 1) := dk_2 (dk_at dksX3_seed_0 4 rfl rfl)
theorem dX3_seed_5 : decode cX3_seed 5 = .ok (.ireturn, 1) := dk_172 (dk_at dksX3_seed_0 5 rfl rfl)
theorem dX3_seed_6 : decode cX3_seed 6 = .ok (.aload_n 0, 1) := dk_42 (dk_at dksX3_seed_0 6 rfl rfl)
theorem dX3_seed_7 : decode cX3_seed 7 = .ok (.getfield 23, 3) := dk_180 0 23 (dk_at dksX3_seed_0 7 rfl rfl)
theorem dX3_seed_10 : decode cX3_seed 10 = .ok (.istore_n 2, 1) := dk_61 (dk_at dksX3_seed_0 10 rfl rfl)
theorem dX3_seed_11 : decode cX3_seed 11 = .ok (.aload_n 0, 1) := dk_42 (dk_at dksX3_seed_0 11 rfl rfl)
theorem dX3_seed_12 : decode cX3_seed 12 = .ok (.iload_n 1, 1) := dk_27 (dk_at dksX3_seed_0 12 rfl rfl)
theorem dX3_seed_13 : decode cX3_seed 13 = .ok (.putfield 23, 3) := dk_181 0 23 (dk_at dksX3_seed_0 13 rfl rfl)
theorem dX3_seed_16 : decode cX3_seed 16 = .ok (.iload_n 2, 1) := dk_28 (dk_at dksX3_seed_0 16 rfl rfl)
theorem dX3_seed_17 : decode cX3_seed 17 = .ok (.ireturn, 1) := dk_172 (dk_at dksX3_seed_0 17 rfl rfl)
abbrev cX3_image : ByteArray := prog_12_method_71_code
def yX3_image : MethodName := ⟨RX3, "image", "()I"⟩
def dkwX3_image_1 : List UInt8 := [167, 255, 234, 42, 42, 180, 0, 114, 181, 1, 42, 42, 4, 181, 1, 45, 4, 172]
abbrev dktX3_image_1 : List UInt8 := dkwX3_image_1 ++ []
def dkwX3_image_0 : List UInt8 := [3, 60, 27, 16, 105, 162, 0, 22, 42, 180, 0, 48, 27, 42, 27, 3, 3, 182, 1, 38, 79, 132, 1, 1]
abbrev dktX3_image_0 : List UInt8 := dkwX3_image_0 ++ dktX3_image_1
theorem dksX3_image_0 : cX3_image.data.toList.drop 0 = dktX3_image_0 := by decide +kernel
theorem dksX3_image_1 : cX3_image.data.toList.drop 24 = dktX3_image_1 := dk_seg dksX3_image_0 24 rfl rfl
theorem dX3_image_0 : decode cX3_image 0 = .ok (.iconst 0, 1) := dk_3 (dk_at dksX3_image_0 0 rfl rfl)
theorem dX3_image_1 : decode cX3_image 1 = .ok (.istore_n 1, 1) := dk_60 (dk_at dksX3_image_0 1 rfl rfl)
theorem dX3_image_2 : decode cX3_image 2 = .ok (.iload_n 1, 1) := dk_27 (dk_at dksX3_image_0 2 rfl rfl)
theorem dX3_image_3 : decode cX3_image 3 = .ok (.bipush 105, 2) := dk_16 105 (dk_at dksX3_image_0 3 rfl rfl)
theorem dX3_image_5 : decode cX3_image 5 = .ok (.if_icmp .ge 22, 3) := dk_162 0 22 (dk_at dksX3_image_0 5 rfl rfl)
theorem dX3_image_8 : decode cX3_image 8 = .ok (.aload_n 0, 1) := dk_42 (dk_at dksX3_image_0 8 rfl rfl)
theorem dX3_image_9 : decode cX3_image 9 = .ok (.getfield 48, 3) := dk_180 0 48 (dk_at dksX3_image_0 9 rfl rfl)
theorem dX3_image_12 : decode cX3_image 12 = .ok (.iload_n 1, 1) := dk_27 (dk_at dksX3_image_0 12 rfl rfl)
theorem dX3_image_13 : decode cX3_image 13 = .ok (.aload_n 0, 1) := dk_42 (dk_at dksX3_image_0 13 rfl rfl)
theorem dX3_image_14 : decode cX3_image 14 = .ok (.iload_n 1, 1) := dk_27 (dk_at dksX3_image_0 14 rfl rfl)
theorem dX3_image_15 : decode cX3_image 15 = .ok (.iconst 0, 1) := dk_3 (dk_at dksX3_image_0 15 rfl rfl)
theorem dX3_image_16 : decode cX3_image 16 = .ok (.iconst 0, 1) := dk_3 (dk_at dksX3_image_0 16 rfl rfl)
theorem dX3_image_17 : decode cX3_image 17 = .ok (.invokevirtual 294, 3) := dk_182 1 38 (dk_at dksX3_image_0 17 rfl rfl)
theorem dX3_image_20 : decode cX3_image 20 = .ok (.iastore, 1) := dk_79 (dk_at dksX3_image_0 20 rfl rfl)
theorem dX3_image_21 : decode cX3_image 21 = .ok (.iinc 1 1, 3) := dk_132 1 1 (dk_at dksX3_image_0 21 rfl rfl)
theorem dX3_image_24 : decode cX3_image 24 = .ok (.goto (-22), 3) := dk_167 255 234 (dk_at dksX3_image_1 0 rfl rfl)
theorem dX3_image_27 : decode cX3_image 27 = .ok (.aload_n 0, 1) := dk_42 (dk_at dksX3_image_1 3 rfl rfl)
theorem dX3_image_28 : decode cX3_image 28 = .ok (.aload_n 0, 1) := dk_42 (dk_at dksX3_image_1 4 rfl rfl)
theorem dX3_image_29 : decode cX3_image 29 = .ok (.getfield 114, 3) := dk_180 0 114 (dk_at dksX3_image_1 5 rfl rfl)
theorem dX3_image_32 : decode cX3_image 32 = .ok (.putfield 298, 3) := dk_181 1 42 (dk_at dksX3_image_1 8 rfl rfl)
theorem dX3_image_35 : decode cX3_image 35 = .ok (.aload_n 0, 1) := dk_42 (dk_at dksX3_image_1 11 rfl rfl)
theorem dX3_image_36 : decode cX3_image 36 = .ok (.iconst 1, 1) := dk_4 (dk_at dksX3_image_1 12 rfl rfl)
theorem dX3_image_37 : decode cX3_image 37 = .ok (.putfield 301, 3) := dk_181 1 45 (dk_at dksX3_image_1 13 rfl rfl)
theorem dX3_image_40 : decode cX3_image 40 = .ok (.iconst 1, 1) := dk_4 (dk_at dksX3_image_1 16 rfl rfl)
theorem dX3_image_41 : decode cX3_image 41 = .ok (.ireturn, 1) := dk_172 (dk_at dksX3_image_1 17 rfl rfl)
abbrev cX3_carried : ByteArray := prog_12_method_70_code
def yX3_carried : MethodName := ⟨RX3, "carried", "(IIZ)I"⟩
def dkwX3_carried_9 : List UInt8 := [167, 0, 20, 27, 16, 103, 160, 0, 10, 42, 180, 0, 139, 167, 0, 7, 42, 180, 0, 23, 172]
abbrev dktX3_carried_9 : List UInt8 := dkwX3_carried_9 ++ []
def dkwX3_carried_8 : List UInt8 := [160, 0, 7, 28, 167, 0, 7, 42, 180, 0, 23, 181, 0, 23, 27, 16, 102, 160, 0, 10, 42, 180, 0, 16]
abbrev dktX3_carried_8 : List UInt8 := dkwX3_carried_8 ++ dktX3_carried_9
def dkwX3_carried_7 : List UInt8 := [160, 0, 7, 28, 167, 0, 7, 42, 180, 0, 139, 181, 0, 139, 42, 29, 153, 0, 13, 27, 16, 104]
abbrev dktX3_carried_7 : List UInt8 := dkwX3_carried_7 ++ dktX3_carried_8
def dkwX3_carried_6 : List UInt8 := [160, 0, 7, 28, 167, 0, 7, 42, 180, 0, 16, 181, 0, 16, 42, 29, 153, 0, 13, 27, 16, 103]
abbrev dktX3_carried_6 : List UInt8 := dkwX3_carried_6 ++ dktX3_carried_7
def dkwX3_carried_5 : List UInt8 := [16, 72, 100, 46, 79, 42, 180, 0, 20, 27, 16, 72, 100, 46, 172, 42, 29, 153, 0, 13, 27, 16, 102]
abbrev dktX3_carried_5 : List UInt8 := dkwX3_carried_5 ++ dktX3_carried_6
def dkwX3_carried_4 : List UInt8 := [162, 0, 39, 42, 180, 0, 20, 27, 16, 72, 100, 29, 153, 0, 7, 28, 167, 0, 12, 42, 180, 0, 20, 27]
abbrev dktX3_carried_4 : List UInt8 := dkwX3_carried_4 ++ dktX3_carried_5
def dkwX3_carried_3 : List UInt8 := [162, 0, 13, 42, 180, 0, 7, 21, 4, 46, 167, 0, 10, 42, 180, 0, 13, 21, 4, 46, 172, 27, 16, 102]
abbrev dktX3_carried_3 : List UInt8 := dkwX3_carried_3 ++ dktX3_carried_4
def dkwX3_carried_2 : List UInt8 := [153, 0, 13, 27, 16, 36, 161, 0, 7, 28, 167, 0, 10, 42, 180, 0, 13, 21, 4, 46, 79, 27, 16, 36]
abbrev dktX3_carried_2 : List UInt8 := dkwX3_carried_2 ++ dktX3_carried_3
def dkwX3_carried_1 : List UInt8 := [16, 36, 162, 0, 7, 28, 167, 0, 10, 42, 180, 0, 7, 21, 4, 46, 79, 42, 180, 0, 13, 21, 4, 29]
abbrev dktX3_carried_1 : List UInt8 := dkwX3_carried_1 ++ dktX3_carried_2
def dkwX3_carried_0 : List UInt8 := [27, 16, 72, 162, 0, 89, 27, 16, 36, 112, 54, 4, 42, 180, 0, 7, 21, 4, 29, 153, 0, 13, 27]
abbrev dktX3_carried_0 : List UInt8 := dkwX3_carried_0 ++ dktX3_carried_1
theorem dksX3_carried_0 : cX3_carried.data.toList.drop 0 = dktX3_carried_0 := by decide +kernel
theorem dksX3_carried_1 : cX3_carried.data.toList.drop 23 = dktX3_carried_1 := dk_seg dksX3_carried_0 23 rfl rfl
theorem dksX3_carried_2 : cX3_carried.data.toList.drop 47 = dktX3_carried_2 := dk_seg dksX3_carried_1 24 rfl rfl
theorem dksX3_carried_3 : cX3_carried.data.toList.drop 71 = dktX3_carried_3 := dk_seg dksX3_carried_2 24 rfl rfl
theorem dksX3_carried_4 : cX3_carried.data.toList.drop 95 = dktX3_carried_4 := dk_seg dksX3_carried_3 24 rfl rfl
theorem dksX3_carried_5 : cX3_carried.data.toList.drop 119 = dktX3_carried_5 := dk_seg dksX3_carried_4 24 rfl rfl
theorem dksX3_carried_6 : cX3_carried.data.toList.drop 142 = dktX3_carried_6 := dk_seg dksX3_carried_5 23 rfl rfl
theorem dksX3_carried_7 : cX3_carried.data.toList.drop 164 = dktX3_carried_7 := dk_seg dksX3_carried_6 22 rfl rfl
theorem dksX3_carried_8 : cX3_carried.data.toList.drop 186 = dktX3_carried_8 := dk_seg dksX3_carried_7 22 rfl rfl
theorem dksX3_carried_9 : cX3_carried.data.toList.drop 210 = dktX3_carried_9 := dk_seg dksX3_carried_8 24 rfl rfl
theorem dX3_carried_0 : decode cX3_carried 0 = .ok (.iload_n 1, 1) := dk_27 (dk_at dksX3_carried_0 0 rfl rfl)
theorem dX3_carried_1 : decode cX3_carried 1 = .ok (.bipush 72, 2) := dk_16 72 (dk_at dksX3_carried_0 1 rfl rfl)
theorem dX3_carried_3 : decode cX3_carried 3 = .ok (.if_icmp .ge 89, 3) := dk_162 0 89 (dk_at dksX3_carried_0 3 rfl rfl)
theorem dX3_carried_6 : decode cX3_carried 6 = .ok (.iload_n 1, 1) := dk_27 (dk_at dksX3_carried_0 6 rfl rfl)
theorem dX3_carried_7 : decode cX3_carried 7 = .ok (.bipush 36, 2) := dk_16 36 (dk_at dksX3_carried_0 7 rfl rfl)
theorem dX3_carried_9 : decode cX3_carried 9 = .ok (.irem, 1) := dk_112 (dk_at dksX3_carried_0 9 rfl rfl)
theorem dX3_carried_10 : decode cX3_carried 10 = .ok (.istore 4, 2) := dk_54 4 (dk_at dksX3_carried_0 10 rfl rfl)
theorem dX3_carried_12 : decode cX3_carried 12 = .ok (.aload_n 0, 1) := dk_42 (dk_at dksX3_carried_0 12 rfl rfl)
theorem dX3_carried_13 : decode cX3_carried 13 = .ok (.getfield 7, 3) := dk_180 0 7 (dk_at dksX3_carried_0 13 rfl rfl)
theorem dX3_carried_16 : decode cX3_carried 16 = .ok (.iload 4, 2) := dk_21 4 (dk_at dksX3_carried_0 16 rfl rfl)
theorem dX3_carried_18 : decode cX3_carried 18 = .ok (.iload_n 3, 1) := dk_29 (dk_at dksX3_carried_0 18 rfl rfl)
theorem dX3_carried_19 : decode cX3_carried 19 = .ok (.ifCond .eq 13, 3) := dk_153 0 13 (dk_at dksX3_carried_0 19 rfl rfl)
theorem dX3_carried_22 : decode cX3_carried 22 = .ok (.iload_n 1, 1) := dk_27 (dk_at dksX3_carried_0 22 rfl rfl)
theorem dX3_carried_23 : decode cX3_carried 23 = .ok (.bipush 36, 2) := dk_16 36 (dk_at dksX3_carried_1 0 rfl rfl)
theorem dX3_carried_25 : decode cX3_carried 25 = .ok (.if_icmp .ge 7, 3) := dk_162 0 7 (dk_at dksX3_carried_1 2 rfl rfl)
theorem dX3_carried_28 : decode cX3_carried 28 = .ok (.iload_n 2, 1) := dk_28 (dk_at dksX3_carried_1 5 rfl rfl)
theorem dX3_carried_29 : decode cX3_carried 29 = .ok (.goto 10, 3) := dk_167 0 10 (dk_at dksX3_carried_1 6 rfl rfl)
theorem dX3_carried_32 : decode cX3_carried 32 = .ok (.aload_n 0, 1) := dk_42 (dk_at dksX3_carried_1 9 rfl rfl)
theorem dX3_carried_33 : decode cX3_carried 33 = .ok (.getfield 7, 3) := dk_180 0 7 (dk_at dksX3_carried_1 10 rfl rfl)
theorem dX3_carried_36 : decode cX3_carried 36 = .ok (.iload 4, 2) := dk_21 4 (dk_at dksX3_carried_1 13 rfl rfl)
theorem dX3_carried_38 : decode cX3_carried 38 = .ok (.iaload, 1) := dk_46 (dk_at dksX3_carried_1 15 rfl rfl)
theorem dX3_carried_39 : decode cX3_carried 39 = .ok (.iastore, 1) := dk_79 (dk_at dksX3_carried_1 16 rfl rfl)
theorem dX3_carried_40 : decode cX3_carried 40 = .ok (.aload_n 0, 1) := dk_42 (dk_at dksX3_carried_1 17 rfl rfl)
theorem dX3_carried_41 : decode cX3_carried 41 = .ok (.getfield 13, 3) := dk_180 0 13 (dk_at dksX3_carried_1 18 rfl rfl)
theorem dX3_carried_44 : decode cX3_carried 44 = .ok (.iload 4, 2) := dk_21 4 (dk_at dksX3_carried_1 21 rfl rfl)
theorem dX3_carried_46 : decode cX3_carried 46 = .ok (.iload_n 3, 1) := dk_29 (dk_at dksX3_carried_1 23 rfl rfl)
theorem dX3_carried_47 : decode cX3_carried 47 = .ok (.ifCond .eq 13, 3) := dk_153 0 13 (dk_at dksX3_carried_2 0 rfl rfl)
theorem dX3_carried_50 : decode cX3_carried 50 = .ok (.iload_n 1, 1) := dk_27 (dk_at dksX3_carried_2 3 rfl rfl)
theorem dX3_carried_51 : decode cX3_carried 51 = .ok (.bipush 36, 2) := dk_16 36 (dk_at dksX3_carried_2 4 rfl rfl)
theorem dX3_carried_53 : decode cX3_carried 53 = .ok (.if_icmp .lt 7, 3) := dk_161 0 7 (dk_at dksX3_carried_2 6 rfl rfl)
theorem dX3_carried_56 : decode cX3_carried 56 = .ok (.iload_n 2, 1) := dk_28 (dk_at dksX3_carried_2 9 rfl rfl)
theorem dX3_carried_57 : decode cX3_carried 57 = .ok (.goto 10, 3) := dk_167 0 10 (dk_at dksX3_carried_2 10 rfl rfl)
theorem dX3_carried_60 : decode cX3_carried 60 = .ok (.aload_n 0, 1) := dk_42 (dk_at dksX3_carried_2 13 rfl rfl)
theorem dX3_carried_61 : decode cX3_carried 61 = .ok (.getfield 13, 3) := dk_180 0 13 (dk_at dksX3_carried_2 14 rfl rfl)
theorem dX3_carried_64 : decode cX3_carried 64 = .ok (.iload 4, 2) := dk_21 4 (dk_at dksX3_carried_2 17 rfl rfl)
theorem dX3_carried_66 : decode cX3_carried 66 = .ok (.iaload, 1) := dk_46 (dk_at dksX3_carried_2 19 rfl rfl)
theorem dX3_carried_67 : decode cX3_carried 67 = .ok (.iastore, 1) := dk_79 (dk_at dksX3_carried_2 20 rfl rfl)
theorem dX3_carried_68 : decode cX3_carried 68 = .ok (.iload_n 1, 1) := dk_27 (dk_at dksX3_carried_2 21 rfl rfl)
theorem dX3_carried_69 : decode cX3_carried 69 = .ok (.bipush 36, 2) := dk_16 36 (dk_at dksX3_carried_2 22 rfl rfl)
theorem dX3_carried_71 : decode cX3_carried 71 = .ok (.if_icmp .ge 13, 3) := dk_162 0 13 (dk_at dksX3_carried_3 0 rfl rfl)
theorem dX3_carried_74 : decode cX3_carried 74 = .ok (.aload_n 0, 1) := dk_42 (dk_at dksX3_carried_3 3 rfl rfl)
theorem dX3_carried_75 : decode cX3_carried 75 = .ok (.getfield 7, 3) := dk_180 0 7 (dk_at dksX3_carried_3 4 rfl rfl)
theorem dX3_carried_78 : decode cX3_carried 78 = .ok (.iload 4, 2) := dk_21 4 (dk_at dksX3_carried_3 7 rfl rfl)
theorem dX3_carried_80 : decode cX3_carried 80 = .ok (.iaload, 1) := dk_46 (dk_at dksX3_carried_3 9 rfl rfl)
theorem dX3_carried_81 : decode cX3_carried 81 = .ok (.goto 10, 3) := dk_167 0 10 (dk_at dksX3_carried_3 10 rfl rfl)
theorem dX3_carried_84 : decode cX3_carried 84 = .ok (.aload_n 0, 1) := dk_42 (dk_at dksX3_carried_3 13 rfl rfl)
theorem dX3_carried_85 : decode cX3_carried 85 = .ok (.getfield 13, 3) := dk_180 0 13 (dk_at dksX3_carried_3 14 rfl rfl)
theorem dX3_carried_88 : decode cX3_carried 88 = .ok (.iload 4, 2) := dk_21 4 (dk_at dksX3_carried_3 17 rfl rfl)
theorem dX3_carried_90 : decode cX3_carried 90 = .ok (.iaload, 1) := dk_46 (dk_at dksX3_carried_3 19 rfl rfl)
theorem dX3_carried_91 : decode cX3_carried 91 = .ok (.ireturn, 1) := dk_172 (dk_at dksX3_carried_3 20 rfl rfl)
theorem dX3_carried_92 : decode cX3_carried 92 = .ok (.iload_n 1, 1) := dk_27 (dk_at dksX3_carried_3 21 rfl rfl)
theorem dX3_carried_93 : decode cX3_carried 93 = .ok (.bipush 102, 2) := dk_16 102 (dk_at dksX3_carried_3 22 rfl rfl)
theorem dX3_carried_95 : decode cX3_carried 95 = .ok (.if_icmp .ge 39, 3) := dk_162 0 39 (dk_at dksX3_carried_4 0 rfl rfl)
theorem dX3_carried_98 : decode cX3_carried 98 = .ok (.aload_n 0, 1) := dk_42 (dk_at dksX3_carried_4 3 rfl rfl)
theorem dX3_carried_99 : decode cX3_carried 99 = .ok (.getfield 20, 3) := dk_180 0 20 (dk_at dksX3_carried_4 4 rfl rfl)
theorem dX3_carried_102 : decode cX3_carried 102 = .ok (.iload_n 1, 1) := dk_27 (dk_at dksX3_carried_4 7 rfl rfl)
theorem dX3_carried_103 : decode cX3_carried 103 = .ok (.bipush 72, 2) := dk_16 72 (dk_at dksX3_carried_4 8 rfl rfl)
theorem dX3_carried_105 : decode cX3_carried 105 = .ok (.isub, 1) := dk_100 (dk_at dksX3_carried_4 10 rfl rfl)
theorem dX3_carried_106 : decode cX3_carried 106 = .ok (.iload_n 3, 1) := dk_29 (dk_at dksX3_carried_4 11 rfl rfl)
theorem dX3_carried_107 : decode cX3_carried 107 = .ok (.ifCond .eq 7, 3) := dk_153 0 7 (dk_at dksX3_carried_4 12 rfl rfl)
theorem dX3_carried_110 : decode cX3_carried 110 = .ok (.iload_n 2, 1) := dk_28 (dk_at dksX3_carried_4 15 rfl rfl)
theorem dX3_carried_111 : decode cX3_carried 111 = .ok (.goto 12, 3) := dk_167 0 12 (dk_at dksX3_carried_4 16 rfl rfl)
theorem dX3_carried_114 : decode cX3_carried 114 = .ok (.aload_n 0, 1) := dk_42 (dk_at dksX3_carried_4 19 rfl rfl)
theorem dX3_carried_115 : decode cX3_carried 115 = .ok (.getfield 20, 3) := dk_180 0 20 (dk_at dksX3_carried_4 20 rfl rfl)
theorem dX3_carried_118 : decode cX3_carried 118 = .ok (.iload_n 1, 1) := dk_27 (dk_at dksX3_carried_4 23 rfl rfl)
theorem dX3_carried_119 : decode cX3_carried 119 = .ok (.bipush 72, 2) := dk_16 72 (dk_at dksX3_carried_5 0 rfl rfl)
theorem dX3_carried_121 : decode cX3_carried 121 = .ok (.isub, 1) := dk_100 (dk_at dksX3_carried_5 2 rfl rfl)
theorem dX3_carried_122 : decode cX3_carried 122 = .ok (.iaload, 1) := dk_46 (dk_at dksX3_carried_5 3 rfl rfl)
theorem dX3_carried_123 : decode cX3_carried 123 = .ok (.iastore, 1) := dk_79 (dk_at dksX3_carried_5 4 rfl rfl)
theorem dX3_carried_124 : decode cX3_carried 124 = .ok (.aload_n 0, 1) := dk_42 (dk_at dksX3_carried_5 5 rfl rfl)
theorem dX3_carried_125 : decode cX3_carried 125 = .ok (.getfield 20, 3) := dk_180 0 20 (dk_at dksX3_carried_5 6 rfl rfl)
theorem dX3_carried_128 : decode cX3_carried 128 = .ok (.iload_n 1, 1) := dk_27 (dk_at dksX3_carried_5 9 rfl rfl)
theorem dX3_carried_129 : decode cX3_carried 129 = .ok (.bipush 72, 2) := dk_16 72 (dk_at dksX3_carried_5 10 rfl rfl)
theorem dX3_carried_131 : decode cX3_carried 131 = .ok (.isub, 1) := dk_100 (dk_at dksX3_carried_5 12 rfl rfl)
theorem dX3_carried_132 : decode cX3_carried 132 = .ok (.iaload, 1) := dk_46 (dk_at dksX3_carried_5 13 rfl rfl)
theorem dX3_carried_133 : decode cX3_carried 133 = .ok (.ireturn, 1) := dk_172 (dk_at dksX3_carried_5 14 rfl rfl)
theorem dX3_carried_134 : decode cX3_carried 134 = .ok (.aload_n 0, 1) := dk_42 (dk_at dksX3_carried_5 15 rfl rfl)
theorem dX3_carried_135 : decode cX3_carried 135 = .ok (.iload_n 3, 1) := dk_29 (dk_at dksX3_carried_5 16 rfl rfl)
theorem dX3_carried_136 : decode cX3_carried 136 = .ok (.ifCond .eq 13, 3) := dk_153 0 13 (dk_at dksX3_carried_5 17 rfl rfl)
theorem dX3_carried_139 : decode cX3_carried 139 = .ok (.iload_n 1, 1) := dk_27 (dk_at dksX3_carried_5 20 rfl rfl)
theorem dX3_carried_140 : decode cX3_carried 140 = .ok (.bipush 102, 2) := dk_16 102 (dk_at dksX3_carried_5 21 rfl rfl)
theorem dX3_carried_142 : decode cX3_carried 142 = .ok (.if_icmp .ne 7, 3) := dk_160 0 7 (dk_at dksX3_carried_6 0 rfl rfl)
theorem dX3_carried_145 : decode cX3_carried 145 = .ok (.iload_n 2, 1) := dk_28 (dk_at dksX3_carried_6 3 rfl rfl)
theorem dX3_carried_146 : decode cX3_carried 146 = .ok (.goto 7, 3) := dk_167 0 7 (dk_at dksX3_carried_6 4 rfl rfl)
theorem dX3_carried_149 : decode cX3_carried 149 = .ok (.aload_n 0, 1) := dk_42 (dk_at dksX3_carried_6 7 rfl rfl)
theorem dX3_carried_150 : decode cX3_carried 150 = .ok (.getfield 16, 3) := dk_180 0 16 (dk_at dksX3_carried_6 8 rfl rfl)
theorem dX3_carried_153 : decode cX3_carried 153 = .ok (.putfield 16, 3) := dk_181 0 16 (dk_at dksX3_carried_6 11 rfl rfl)
theorem dX3_carried_156 : decode cX3_carried 156 = .ok (.aload_n 0, 1) := dk_42 (dk_at dksX3_carried_6 14 rfl rfl)
theorem dX3_carried_157 : decode cX3_carried 157 = .ok (.iload_n 3, 1) := dk_29 (dk_at dksX3_carried_6 15 rfl rfl)
theorem dX3_carried_158 : decode cX3_carried 158 = .ok (.ifCond .eq 13, 3) := dk_153 0 13 (dk_at dksX3_carried_6 16 rfl rfl)
theorem dX3_carried_161 : decode cX3_carried 161 = .ok (.iload_n 1, 1) := dk_27 (dk_at dksX3_carried_6 19 rfl rfl)
theorem dX3_carried_162 : decode cX3_carried 162 = .ok (.bipush 103, 2) := dk_16 103 (dk_at dksX3_carried_6 20 rfl rfl)
theorem dX3_carried_164 : decode cX3_carried 164 = .ok (.if_icmp .ne 7, 3) := dk_160 0 7 (dk_at dksX3_carried_7 0 rfl rfl)
theorem dX3_carried_167 : decode cX3_carried 167 = .ok (.iload_n 2, 1) := dk_28 (dk_at dksX3_carried_7 3 rfl rfl)
theorem dX3_carried_168 : decode cX3_carried 168 = .ok (.goto 7, 3) := dk_167 0 7 (dk_at dksX3_carried_7 4 rfl rfl)
theorem dX3_carried_171 : decode cX3_carried 171 = .ok (.aload_n 0, 1) := dk_42 (dk_at dksX3_carried_7 7 rfl rfl)
theorem dX3_carried_172 : decode cX3_carried 172 = .ok (.getfield 139, 3) := dk_180 0 139 (dk_at dksX3_carried_7 8 rfl rfl)
theorem dX3_carried_175 : decode cX3_carried 175 = .ok (.putfield 139, 3) := dk_181 0 139 (dk_at dksX3_carried_7 11 rfl rfl)
theorem dX3_carried_178 : decode cX3_carried 178 = .ok (.aload_n 0, 1) := dk_42 (dk_at dksX3_carried_7 14 rfl rfl)
theorem dX3_carried_179 : decode cX3_carried 179 = .ok (.iload_n 3, 1) := dk_29 (dk_at dksX3_carried_7 15 rfl rfl)
theorem dX3_carried_180 : decode cX3_carried 180 = .ok (.ifCond .eq 13, 3) := dk_153 0 13 (dk_at dksX3_carried_7 16 rfl rfl)
theorem dX3_carried_183 : decode cX3_carried 183 = .ok (.iload_n 1, 1) := dk_27 (dk_at dksX3_carried_7 19 rfl rfl)
theorem dX3_carried_184 : decode cX3_carried 184 = .ok (.bipush 104, 2) := dk_16 104 (dk_at dksX3_carried_7 20 rfl rfl)
theorem dX3_carried_186 : decode cX3_carried 186 = .ok (.if_icmp .ne 7, 3) := dk_160 0 7 (dk_at dksX3_carried_8 0 rfl rfl)
theorem dX3_carried_189 : decode cX3_carried 189 = .ok (.iload_n 2, 1) := dk_28 (dk_at dksX3_carried_8 3 rfl rfl)
theorem dX3_carried_190 : decode cX3_carried 190 = .ok (.goto 7, 3) := dk_167 0 7 (dk_at dksX3_carried_8 4 rfl rfl)
theorem dX3_carried_193 : decode cX3_carried 193 = .ok (.aload_n 0, 1) := dk_42 (dk_at dksX3_carried_8 7 rfl rfl)
theorem dX3_carried_194 : decode cX3_carried 194 = .ok (.getfield 23, 3) := dk_180 0 23 (dk_at dksX3_carried_8 8 rfl rfl)
theorem dX3_carried_197 : decode cX3_carried 197 = .ok (.putfield 23, 3) := dk_181 0 23 (dk_at dksX3_carried_8 11 rfl rfl)
theorem dX3_carried_200 : decode cX3_carried 200 = .ok (.iload_n 1, 1) := dk_27 (dk_at dksX3_carried_8 14 rfl rfl)
theorem dX3_carried_201 : decode cX3_carried 201 = .ok (.bipush 102, 2) := dk_16 102 (dk_at dksX3_carried_8 15 rfl rfl)
theorem dX3_carried_203 : decode cX3_carried 203 = .ok (.if_icmp .ne 10, 3) := dk_160 0 10 (dk_at dksX3_carried_8 17 rfl rfl)
theorem dX3_carried_206 : decode cX3_carried 206 = .ok (.aload_n 0, 1) := dk_42 (dk_at dksX3_carried_8 20 rfl rfl)
theorem dX3_carried_207 : decode cX3_carried 207 = .ok (.getfield 16, 3) := dk_180 0 16 (dk_at dksX3_carried_8 21 rfl rfl)
theorem dX3_carried_210 : decode cX3_carried 210 = .ok (.goto 20, 3) := dk_167 0 20 (dk_at dksX3_carried_9 0 rfl rfl)
theorem dX3_carried_213 : decode cX3_carried 213 = .ok (.iload_n 1, 1) := dk_27 (dk_at dksX3_carried_9 3 rfl rfl)
theorem dX3_carried_214 : decode cX3_carried 214 = .ok (.bipush 103, 2) := dk_16 103 (dk_at dksX3_carried_9 4 rfl rfl)
theorem dX3_carried_216 : decode cX3_carried 216 = .ok (.if_icmp .ne 10, 3) := dk_160 0 10 (dk_at dksX3_carried_9 6 rfl rfl)
theorem dX3_carried_219 : decode cX3_carried 219 = .ok (.aload_n 0, 1) := dk_42 (dk_at dksX3_carried_9 9 rfl rfl)
theorem dX3_carried_220 : decode cX3_carried 220 = .ok (.getfield 139, 3) := dk_180 0 139 (dk_at dksX3_carried_9 10 rfl rfl)
theorem dX3_carried_223 : decode cX3_carried 223 = .ok (.goto 7, 3) := dk_167 0 7 (dk_at dksX3_carried_9 13 rfl rfl)
theorem dX3_carried_226 : decode cX3_carried 226 = .ok (.aload_n 0, 1) := dk_42 (dk_at dksX3_carried_9 16 rfl rfl)
theorem dX3_carried_227 : decode cX3_carried 227 = .ok (.getfield 23, 3) := dk_180 0 23 (dk_at dksX3_carried_9 17 rfl rfl)
theorem dX3_carried_230 : decode cX3_carried 230 = .ok (.ireturn, 1) := dk_172 (dk_at dksX3_carried_9 20 rfl rfl)
abbrev cX3_restore : ByteArray := prog_12_method_72_code
def yX3_restore : MethodName := ⟨RX3, "restore", "()I"⟩
def dkwX3_restore_1 : List UInt8 := [27, 46, 4, 182, 1, 38, 87, 132, 1, 1, 167, 255, 234, 42, 42, 180, 1, 42, 181, 0, 114, 4, 172]
abbrev dktX3_restore_1 : List UInt8 := dkwX3_restore_1 ++ []
def dkwX3_restore_0 : List UInt8 := [42, 180, 1, 45, 154, 0, 6, 16, 252, 172, 3, 60, 27, 16, 105, 162, 0, 22, 42, 27, 42, 180, 0, 48]
abbrev dktX3_restore_0 : List UInt8 := dkwX3_restore_0 ++ dktX3_restore_1
theorem dksX3_restore_0 : cX3_restore.data.toList.drop 0 = dktX3_restore_0 := by decide +kernel
theorem dksX3_restore_1 : cX3_restore.data.toList.drop 24 = dktX3_restore_1 := dk_seg dksX3_restore_0 24 rfl rfl
theorem dX3_restore_0 : decode cX3_restore 0 = .ok (.aload_n 0, 1) := dk_42 (dk_at dksX3_restore_0 0 rfl rfl)
theorem dX3_restore_1 : decode cX3_restore 1 = .ok (.getfield 301, 3) := dk_180 1 45 (dk_at dksX3_restore_0 1 rfl rfl)
theorem dX3_restore_4 : decode cX3_restore 4 = .ok (.ifCond .ne 6, 3) := dk_154 0 6 (dk_at dksX3_restore_0 4 rfl rfl)
theorem dX3_restore_7 : decode cX3_restore 7 = .ok (.bipush (-4), 2) := dk_16 252 (dk_at dksX3_restore_0 7 rfl rfl)
theorem dX3_restore_9 : decode cX3_restore 9 = .ok (.ireturn, 1) := dk_172 (dk_at dksX3_restore_0 9 rfl rfl)
theorem dX3_restore_10 : decode cX3_restore 10 = .ok (.iconst 0, 1) := dk_3 (dk_at dksX3_restore_0 10 rfl rfl)
theorem dX3_restore_11 : decode cX3_restore 11 = .ok (.istore_n 1, 1) := dk_60 (dk_at dksX3_restore_0 11 rfl rfl)
theorem dX3_restore_12 : decode cX3_restore 12 = .ok (.iload_n 1, 1) := dk_27 (dk_at dksX3_restore_0 12 rfl rfl)
theorem dX3_restore_13 : decode cX3_restore 13 = .ok (.bipush 105, 2) := dk_16 105 (dk_at dksX3_restore_0 13 rfl rfl)
theorem dX3_restore_15 : decode cX3_restore 15 = .ok (.if_icmp .ge 22, 3) := dk_162 0 22 (dk_at dksX3_restore_0 15 rfl rfl)
theorem dX3_restore_18 : decode cX3_restore 18 = .ok (.aload_n 0, 1) := dk_42 (dk_at dksX3_restore_0 18 rfl rfl)
theorem dX3_restore_19 : decode cX3_restore 19 = .ok (.iload_n 1, 1) := dk_27 (dk_at dksX3_restore_0 19 rfl rfl)
theorem dX3_restore_20 : decode cX3_restore 20 = .ok (.aload_n 0, 1) := dk_42 (dk_at dksX3_restore_0 20 rfl rfl)
theorem dX3_restore_21 : decode cX3_restore 21 = .ok (.getfield 48, 3) := dk_180 0 48 (dk_at dksX3_restore_0 21 rfl rfl)
theorem dX3_restore_24 : decode cX3_restore 24 = .ok (.iload_n 1, 1) := dk_27 (dk_at dksX3_restore_1 0 rfl rfl)
theorem dX3_restore_25 : decode cX3_restore 25 = .ok (.iaload, 1) := dk_46 (dk_at dksX3_restore_1 1 rfl rfl)
theorem dX3_restore_26 : decode cX3_restore 26 = .ok (.iconst 1, 1) := dk_4 (dk_at dksX3_restore_1 2 rfl rfl)
theorem dX3_restore_27 : decode cX3_restore 27 = .ok (.invokevirtual 294, 3) := dk_182 1 38 (dk_at dksX3_restore_1 3 rfl rfl)
theorem dX3_restore_30 : decode cX3_restore 30 = .ok (.pop, 1) := dk_87 (dk_at dksX3_restore_1 6 rfl rfl)
theorem dX3_restore_31 : decode cX3_restore 31 = .ok (.iinc 1 1, 3) := dk_132 1 1 (dk_at dksX3_restore_1 7 rfl rfl)
theorem dX3_restore_34 : decode cX3_restore 34 = .ok (.goto (-22), 3) := dk_167 255 234 (dk_at dksX3_restore_1 10 rfl rfl)
theorem dX3_restore_37 : decode cX3_restore 37 = .ok (.aload_n 0, 1) := dk_42 (dk_at dksX3_restore_1 13 rfl rfl)
theorem dX3_restore_38 : decode cX3_restore 38 = .ok (.aload_n 0, 1) := dk_42 (dk_at dksX3_restore_1 14 rfl rfl)
theorem dX3_restore_39 : decode cX3_restore 39 = .ok (.getfield 298, 3) := dk_180 1 42 (dk_at dksX3_restore_1 15 rfl rfl)
theorem dX3_restore_42 : decode cX3_restore 42 = .ok (.putfield 114, 3) := dk_181 0 114 (dk_at dksX3_restore_1 18 rfl rfl)
theorem dX3_restore_45 : decode cX3_restore 45 = .ok (.iconst 1, 1) := dk_4 (dk_at dksX3_restore_1 21 rfl rfl)
theorem dX3_restore_46 : decode cX3_restore 46 = .ok (.ireturn, 1) := dk_172 (dk_at dksX3_restore_1 22 rfl rfl)
abbrev cX3_sheet : ByteArray := prog_12_method_75_code
def yX3_sheet : MethodName := ⟨RX3, "sheet", "(III)I"⟩
def dkwX3_sheet_2 : List UInt8 := [180, 0, 57, 16, 36, 27, 104, 21, 4, 96, 9, 80, 132, 4, 1, 167, 255, 233, 29, 172]
abbrev dktX3_sheet_2 : List UInt8 := dkwX3_sheet_2 ++ []
def dkwX3_sheet_1 : List UInt8 := [180, 0, 51, 27, 28, 79, 42, 180, 0, 54, 27, 29, 79, 3, 54, 4, 21, 4, 16, 36, 162, 0, 22, 42]
abbrev dktX3_sheet_1 : List UInt8 := dkwX3_sheet_1 ++ dktX3_sheet_2
def dkwX3_sheet_0 : List UInt8 := [27, 28, 184, 1, 49, 153, 0, 9, 29, 16, 36, 164, 0, 5, 2, 172, 29, 156, 0, 6, 16, 242, 172, 42]
abbrev dktX3_sheet_0 : List UInt8 := dkwX3_sheet_0 ++ dktX3_sheet_1
theorem dksX3_sheet_0 : cX3_sheet.data.toList.drop 0 = dktX3_sheet_0 := by decide +kernel
theorem dksX3_sheet_1 : cX3_sheet.data.toList.drop 24 = dktX3_sheet_1 := dk_seg dksX3_sheet_0 24 rfl rfl
theorem dksX3_sheet_2 : cX3_sheet.data.toList.drop 48 = dktX3_sheet_2 := dk_seg dksX3_sheet_1 24 rfl rfl
theorem dX3_sheet_0 : decode cX3_sheet 0 = .ok (.iload_n 1, 1) := dk_27 (dk_at dksX3_sheet_0 0 rfl rfl)
theorem dX3_sheet_1 : decode cX3_sheet 1 = .ok (.iload_n 2, 1) := dk_28 (dk_at dksX3_sheet_0 1 rfl rfl)
theorem dX3_sheet_2 : decode cX3_sheet 2 = .ok (.invokestatic 305, 3) := dk_184 1 49 (dk_at dksX3_sheet_0 2 rfl rfl)
theorem dX3_sheet_5 : decode cX3_sheet 5 = .ok (.ifCond .eq 9, 3) := dk_153 0 9 (dk_at dksX3_sheet_0 5 rfl rfl)
theorem dX3_sheet_8 : decode cX3_sheet 8 = .ok (.iload_n 3, 1) := dk_29 (dk_at dksX3_sheet_0 8 rfl rfl)
theorem dX3_sheet_9 : decode cX3_sheet 9 = .ok (.bipush 36, 2) := dk_16 36 (dk_at dksX3_sheet_0 9 rfl rfl)
theorem dX3_sheet_11 : decode cX3_sheet 11 = .ok (.if_icmp .le 5, 3) := dk_164 0 5 (dk_at dksX3_sheet_0 11 rfl rfl)
theorem dX3_sheet_14 : decode cX3_sheet 14 = .ok (.iconst (-1), 1) := dk_2 (dk_at dksX3_sheet_0 14 rfl rfl)
theorem dX3_sheet_15 : decode cX3_sheet 15 = .ok (.ireturn, 1) := dk_172 (dk_at dksX3_sheet_0 15 rfl rfl)
theorem dX3_sheet_16 : decode cX3_sheet 16 = .ok (.iload_n 3, 1) := dk_29 (dk_at dksX3_sheet_0 16 rfl rfl)
theorem dX3_sheet_17 : decode cX3_sheet 17 = .ok (.ifCond .ge 6, 3) := dk_156 0 6 (dk_at dksX3_sheet_0 17 rfl rfl)
theorem dX3_sheet_20 : decode cX3_sheet 20 = .ok (.bipush (-14), 2) := dk_16 242 (dk_at dksX3_sheet_0 20 rfl rfl)
theorem dX3_sheet_22 : decode cX3_sheet 22 = .ok (.ireturn, 1) := dk_172 (dk_at dksX3_sheet_0 22 rfl rfl)
theorem dX3_sheet_23 : decode cX3_sheet 23 = .ok (.aload_n 0, 1) := dk_42 (dk_at dksX3_sheet_0 23 rfl rfl)
theorem dX3_sheet_24 : decode cX3_sheet 24 = .ok (.getfield 51, 3) := dk_180 0 51 (dk_at dksX3_sheet_1 0 rfl rfl)
theorem dX3_sheet_27 : decode cX3_sheet 27 = .ok (.iload_n 1, 1) := dk_27 (dk_at dksX3_sheet_1 3 rfl rfl)
theorem dX3_sheet_28 : decode cX3_sheet 28 = .ok (.iload_n 2, 1) := dk_28 (dk_at dksX3_sheet_1 4 rfl rfl)
theorem dX3_sheet_29 : decode cX3_sheet 29 = .ok (.iastore, 1) := dk_79 (dk_at dksX3_sheet_1 5 rfl rfl)
theorem dX3_sheet_30 : decode cX3_sheet 30 = .ok (.aload_n 0, 1) := dk_42 (dk_at dksX3_sheet_1 6 rfl rfl)
theorem dX3_sheet_31 : decode cX3_sheet 31 = .ok (.getfield 54, 3) := dk_180 0 54 (dk_at dksX3_sheet_1 7 rfl rfl)
theorem dX3_sheet_34 : decode cX3_sheet 34 = .ok (.iload_n 1, 1) := dk_27 (dk_at dksX3_sheet_1 10 rfl rfl)
theorem dX3_sheet_35 : decode cX3_sheet 35 = .ok (.iload_n 3, 1) := dk_29 (dk_at dksX3_sheet_1 11 rfl rfl)
theorem dX3_sheet_36 : decode cX3_sheet 36 = .ok (.iastore, 1) := dk_79 (dk_at dksX3_sheet_1 12 rfl rfl)
theorem dX3_sheet_37 : decode cX3_sheet 37 = .ok (.iconst 0, 1) := dk_3 (dk_at dksX3_sheet_1 13 rfl rfl)
theorem dX3_sheet_38 : decode cX3_sheet 38 = .ok (.istore 4, 2) := dk_54 4 (dk_at dksX3_sheet_1 14 rfl rfl)
theorem dX3_sheet_40 : decode cX3_sheet 40 = .ok (.iload 4, 2) := dk_21 4 (dk_at dksX3_sheet_1 16 rfl rfl)
theorem dX3_sheet_42 : decode cX3_sheet 42 = .ok (.bipush 36, 2) := dk_16 36 (dk_at dksX3_sheet_1 18 rfl rfl)
theorem dX3_sheet_44 : decode cX3_sheet 44 = .ok (.if_icmp .ge 22, 3) := dk_162 0 22 (dk_at dksX3_sheet_1 20 rfl rfl)
theorem dX3_sheet_47 : decode cX3_sheet 47 = .ok (.aload_n 0, 1) := dk_42 (dk_at dksX3_sheet_1 23 rfl rfl)
theorem dX3_sheet_48 : decode cX3_sheet 48 = .ok (.getfield 57, 3) := dk_180 0 57 (dk_at dksX3_sheet_2 0 rfl rfl)
theorem dX3_sheet_51 : decode cX3_sheet 51 = .ok (.bipush 36, 2) := dk_16 36 (dk_at dksX3_sheet_2 3 rfl rfl)
theorem dX3_sheet_53 : decode cX3_sheet 53 = .ok (.iload_n 1, 1) := dk_27 (dk_at dksX3_sheet_2 5 rfl rfl)
theorem dX3_sheet_54 : decode cX3_sheet 54 = .ok (.imul, 1) := dk_104 (dk_at dksX3_sheet_2 6 rfl rfl)
theorem dX3_sheet_55 : decode cX3_sheet 55 = .ok (.iload 4, 2) := dk_21 4 (dk_at dksX3_sheet_2 7 rfl rfl)
theorem dX3_sheet_57 : decode cX3_sheet 57 = .ok (.iadd, 1) := dk_96 (dk_at dksX3_sheet_2 9 rfl rfl)
theorem dX3_sheet_58 : decode cX3_sheet 58 = .ok (.lconst 0, 1) := dk_9 (dk_at dksX3_sheet_2 10 rfl rfl)
theorem dX3_sheet_59 : decode cX3_sheet 59 = .ok (.lastore, 1) := dk_80 (dk_at dksX3_sheet_2 11 rfl rfl)
theorem dX3_sheet_60 : decode cX3_sheet 60 = .ok (.iinc 4 1, 3) := dk_132 4 1 (dk_at dksX3_sheet_2 12 rfl rfl)
theorem dX3_sheet_63 : decode cX3_sheet 63 = .ok (.goto (-23), 3) := dk_167 255 233 (dk_at dksX3_sheet_2 15 rfl rfl)
theorem dX3_sheet_66 : decode cX3_sheet 66 = .ok (.iload_n 3, 1) := dk_29 (dk_at dksX3_sheet_2 18 rfl rfl)
theorem dX3_sheet_67 : decode cX3_sheet 67 = .ok (.ireturn, 1) := dk_172 (dk_at dksX3_sheet_2 19 rfl rfl)
abbrev cX3_isSheet : ByteArray := prog_12_method_73_code
def yX3_isSheet : MethodName := ⟨RX3, "isSheet", "(II)Z"⟩
def dkwX3_isSheet_1 : List UInt8 := [4, 167, 0, 4, 3, 172]
abbrev dktX3_isSheet_1 : List UInt8 := dkwX3_isSheet_1 ++ []
def dkwX3_isSheet_0 : List UInt8 := [26, 133, 9, 20, 0, 243, 184, 0, 65, 153, 0, 19, 27, 133, 9, 20, 0, 243, 184, 0, 65, 153, 0, 7]
abbrev dktX3_isSheet_0 : List UInt8 := dkwX3_isSheet_0 ++ dktX3_isSheet_1
theorem dksX3_isSheet_0 : cX3_isSheet.data.toList.drop 0 = dktX3_isSheet_0 := by decide +kernel
theorem dksX3_isSheet_1 : cX3_isSheet.data.toList.drop 24 = dktX3_isSheet_1 := dk_seg dksX3_isSheet_0 24 rfl rfl
theorem dX3_isSheet_0 : decode cX3_isSheet 0 = .ok (.iload_n 0, 1) := dk_26 (dk_at dksX3_isSheet_0 0 rfl rfl)
theorem dX3_isSheet_1 : decode cX3_isSheet 1 = .ok (.i2l, 1) := dk_133 (dk_at dksX3_isSheet_0 1 rfl rfl)
theorem dX3_isSheet_2 : decode cX3_isSheet 2 = .ok (.lconst 0, 1) := dk_9 (dk_at dksX3_isSheet_0 2 rfl rfl)
theorem dX3_isSheet_3 : decode cX3_isSheet 3 = .ok (.ldc2_w 243, 3) := dk_20 0 243 (dk_at dksX3_isSheet_0 3 rfl rfl)
theorem dX3_isSheet_6 : decode cX3_isSheet 6 = .ok (.invokestatic 65, 3) := dk_184 0 65 (dk_at dksX3_isSheet_0 6 rfl rfl)
theorem dX3_isSheet_9 : decode cX3_isSheet 9 = .ok (.ifCond .eq 19, 3) := dk_153 0 19 (dk_at dksX3_isSheet_0 9 rfl rfl)
theorem dX3_isSheet_12 : decode cX3_isSheet 12 = .ok (.iload_n 1, 1) := dk_27 (dk_at dksX3_isSheet_0 12 rfl rfl)
theorem dX3_isSheet_13 : decode cX3_isSheet 13 = .ok (.i2l, 1) := dk_133 (dk_at dksX3_isSheet_0 13 rfl rfl)
theorem dX3_isSheet_14 : decode cX3_isSheet 14 = .ok (.lconst 0, 1) := dk_9 (dk_at dksX3_isSheet_0 14 rfl rfl)
theorem dX3_isSheet_15 : decode cX3_isSheet 15 = .ok (.ldc2_w 243, 3) := dk_20 0 243 (dk_at dksX3_isSheet_0 15 rfl rfl)
theorem dX3_isSheet_18 : decode cX3_isSheet 18 = .ok (.invokestatic 65, 3) := dk_184 0 65 (dk_at dksX3_isSheet_0 18 rfl rfl)
theorem dX3_isSheet_21 : decode cX3_isSheet 21 = .ok (.ifCond .eq 7, 3) := dk_153 0 7 (dk_at dksX3_isSheet_0 21 rfl rfl)
theorem dX3_isSheet_24 : decode cX3_isSheet 24 = .ok (.iconst 1, 1) := dk_4 (dk_at dksX3_isSheet_1 0 rfl rfl)
theorem dX3_isSheet_25 : decode cX3_isSheet 25 = .ok (.goto 4, 3) := dk_167 0 4 (dk_at dksX3_isSheet_1 1 rfl rfl)
theorem dX3_isSheet_28 : decode cX3_isSheet 28 = .ok (.iconst 0, 1) := dk_3 (dk_at dksX3_isSheet_1 4 rfl rfl)
theorem dX3_isSheet_29 : decode cX3_isSheet 29 = .ok (.ireturn, 1) := dk_172 (dk_at dksX3_isSheet_1 5 rfl rfl)
abbrev cX3_drop : ByteArray := prog_12_method_76_code
def yX3_drop : MethodName := ⟨RX3, "drop", "(I)I"⟩
def dkwX3_drop_1 : List UInt8 := [16, 245, 172, 42, 180, 0, 51, 27, 2, 79, 42, 180, 0, 54, 27, 46, 172]
abbrev dktX3_drop_1 : List UInt8 := dkwX3_drop_1 ++ []
def dkwX3_drop_0 : List UInt8 := [27, 133, 9, 20, 0, 243, 184, 0, 65, 154, 0, 5, 2, 172, 42, 180, 0, 51, 27, 46, 156, 0, 6]
abbrev dktX3_drop_0 : List UInt8 := dkwX3_drop_0 ++ dktX3_drop_1
theorem dksX3_drop_0 : cX3_drop.data.toList.drop 0 = dktX3_drop_0 := by decide +kernel
theorem dksX3_drop_1 : cX3_drop.data.toList.drop 23 = dktX3_drop_1 := dk_seg dksX3_drop_0 23 rfl rfl
theorem dX3_drop_0 : decode cX3_drop 0 = .ok (.iload_n 1, 1) := dk_27 (dk_at dksX3_drop_0 0 rfl rfl)
theorem dX3_drop_1 : decode cX3_drop 1 = .ok (.i2l, 1) := dk_133 (dk_at dksX3_drop_0 1 rfl rfl)
theorem dX3_drop_2 : decode cX3_drop 2 = .ok (.lconst 0, 1) := dk_9 (dk_at dksX3_drop_0 2 rfl rfl)
theorem dX3_drop_3 : decode cX3_drop 3 = .ok (.ldc2_w 243, 3) := dk_20 0 243 (dk_at dksX3_drop_0 3 rfl rfl)
theorem dX3_drop_6 : decode cX3_drop 6 = .ok (.invokestatic 65, 3) := dk_184 0 65 (dk_at dksX3_drop_0 6 rfl rfl)
theorem dX3_drop_9 : decode cX3_drop 9 = .ok (.ifCond .ne 5, 3) := dk_154 0 5 (dk_at dksX3_drop_0 9 rfl rfl)
theorem dX3_drop_12 : decode cX3_drop 12 = .ok (.iconst (-1), 1) := dk_2 (dk_at dksX3_drop_0 12 rfl rfl)
theorem dX3_drop_13 : decode cX3_drop 13 = .ok (.ireturn, 1) := dk_172 (dk_at dksX3_drop_0 13 rfl rfl)
theorem dX3_drop_14 : decode cX3_drop 14 = .ok (.aload_n 0, 1) := dk_42 (dk_at dksX3_drop_0 14 rfl rfl)
theorem dX3_drop_15 : decode cX3_drop 15 = .ok (.getfield 51, 3) := dk_180 0 51 (dk_at dksX3_drop_0 15 rfl rfl)
theorem dX3_drop_18 : decode cX3_drop 18 = .ok (.iload_n 1, 1) := dk_27 (dk_at dksX3_drop_0 18 rfl rfl)
theorem dX3_drop_19 : decode cX3_drop 19 = .ok (.iaload, 1) := dk_46 (dk_at dksX3_drop_0 19 rfl rfl)
theorem dX3_drop_20 : decode cX3_drop 20 = .ok (.ifCond .ge 6, 3) := dk_156 0 6 (dk_at dksX3_drop_0 20 rfl rfl)
theorem dX3_drop_23 : decode cX3_drop 23 = .ok (.bipush (-11), 2) := dk_16 245 (dk_at dksX3_drop_1 0 rfl rfl)
theorem dX3_drop_25 : decode cX3_drop 25 = .ok (.ireturn, 1) := dk_172 (dk_at dksX3_drop_1 2 rfl rfl)
theorem dX3_drop_26 : decode cX3_drop 26 = .ok (.aload_n 0, 1) := dk_42 (dk_at dksX3_drop_1 3 rfl rfl)
theorem dX3_drop_27 : decode cX3_drop 27 = .ok (.getfield 51, 3) := dk_180 0 51 (dk_at dksX3_drop_1 4 rfl rfl)
theorem dX3_drop_30 : decode cX3_drop 30 = .ok (.iload_n 1, 1) := dk_27 (dk_at dksX3_drop_1 7 rfl rfl)
theorem dX3_drop_31 : decode cX3_drop 31 = .ok (.iconst (-1), 1) := dk_2 (dk_at dksX3_drop_1 8 rfl rfl)
theorem dX3_drop_32 : decode cX3_drop 32 = .ok (.iastore, 1) := dk_79 (dk_at dksX3_drop_1 9 rfl rfl)
theorem dX3_drop_33 : decode cX3_drop 33 = .ok (.aload_n 0, 1) := dk_42 (dk_at dksX3_drop_1 10 rfl rfl)
theorem dX3_drop_34 : decode cX3_drop 34 = .ok (.getfield 54, 3) := dk_180 0 54 (dk_at dksX3_drop_1 11 rfl rfl)
theorem dX3_drop_37 : decode cX3_drop 37 = .ok (.iload_n 1, 1) := dk_27 (dk_at dksX3_drop_1 14 rfl rfl)
theorem dX3_drop_38 : decode cX3_drop 38 = .ok (.iaload, 1) := dk_46 (dk_at dksX3_drop_1 15 rfl rfl)
theorem dX3_drop_39 : decode cX3_drop 39 = .ok (.ireturn, 1) := dk_172 (dk_at dksX3_drop_1 16 rfl rfl)
abbrev cX3_item : ByteArray := prog_12_method_78_code
def yX3_item : MethodName := ⟨RX3, "item", "(IIIJ)I"⟩
def dkwX3_item_2 : List UInt8 := [172]
abbrev dktX3_item_2 : List UInt8 := dkwX3_item_2 ++ []
def dkwX3_item_1 : List UInt8 := [156, 0, 6, 21, 6, 172, 42, 180, 0, 57, 16, 36, 27, 104, 29, 96, 28, 22, 4, 184, 1, 57, 80, 4]
abbrev dktX3_item_1 : List UInt8 := dkwX3_item_1 ++ dktX3_item_2
def dkwX3_item_0 : List UInt8 := [27, 28, 184, 1, 49, 154, 0, 5, 2, 172, 42, 27, 28, 29, 4, 182, 1, 53, 54, 6, 21, 6]
abbrev dktX3_item_0 : List UInt8 := dkwX3_item_0 ++ dktX3_item_1
theorem dksX3_item_0 : cX3_item.data.toList.drop 0 = dktX3_item_0 := by decide +kernel
theorem dksX3_item_1 : cX3_item.data.toList.drop 22 = dktX3_item_1 := dk_seg dksX3_item_0 22 rfl rfl
theorem dksX3_item_2 : cX3_item.data.toList.drop 46 = dktX3_item_2 := dk_seg dksX3_item_1 24 rfl rfl
theorem dX3_item_0 : decode cX3_item 0 = .ok (.iload_n 1, 1) := dk_27 (dk_at dksX3_item_0 0 rfl rfl)
theorem dX3_item_1 : decode cX3_item 1 = .ok (.iload_n 2, 1) := dk_28 (dk_at dksX3_item_0 1 rfl rfl)
theorem dX3_item_2 : decode cX3_item 2 = .ok (.invokestatic 305, 3) := dk_184 1 49 (dk_at dksX3_item_0 2 rfl rfl)
theorem dX3_item_5 : decode cX3_item 5 = .ok (.ifCond .ne 5, 3) := dk_154 0 5 (dk_at dksX3_item_0 5 rfl rfl)
theorem dX3_item_8 : decode cX3_item 8 = .ok (.iconst (-1), 1) := dk_2 (dk_at dksX3_item_0 8 rfl rfl)
theorem dX3_item_9 : decode cX3_item 9 = .ok (.ireturn, 1) := dk_172 (dk_at dksX3_item_0 9 rfl rfl)
theorem dX3_item_10 : decode cX3_item 10 = .ok (.aload_n 0, 1) := dk_42 (dk_at dksX3_item_0 10 rfl rfl)
theorem dX3_item_11 : decode cX3_item 11 = .ok (.iload_n 1, 1) := dk_27 (dk_at dksX3_item_0 11 rfl rfl)
theorem dX3_item_12 : decode cX3_item 12 = .ok (.iload_n 2, 1) := dk_28 (dk_at dksX3_item_0 12 rfl rfl)
theorem dX3_item_13 : decode cX3_item 13 = .ok (.iload_n 3, 1) := dk_29 (dk_at dksX3_item_0 13 rfl rfl)
theorem dX3_item_14 : decode cX3_item 14 = .ok (.iconst 1, 1) := dk_4 (dk_at dksX3_item_0 14 rfl rfl)
theorem dX3_item_15 : decode cX3_item 15 = .ok (.invokevirtual 309, 3) := dk_182 1 53 (dk_at dksX3_item_0 15 rfl rfl)
theorem dX3_item_18 : decode cX3_item 18 = .ok (.istore 6, 2) := dk_54 6 (dk_at dksX3_item_0 18 rfl rfl)
theorem dX3_item_20 : decode cX3_item 20 = .ok (.iload 6, 2) := dk_21 6 (dk_at dksX3_item_0 20 rfl rfl)
theorem dX3_item_22 : decode cX3_item 22 = .ok (.ifCond .ge 6, 3) := dk_156 0 6 (dk_at dksX3_item_1 0 rfl rfl)
theorem dX3_item_25 : decode cX3_item 25 = .ok (.iload 6, 2) := dk_21 6 (dk_at dksX3_item_1 3 rfl rfl)
theorem dX3_item_27 : decode cX3_item 27 = .ok (.ireturn, 1) := dk_172 (dk_at dksX3_item_1 5 rfl rfl)
theorem dX3_item_28 : decode cX3_item 28 = .ok (.aload_n 0, 1) := dk_42 (dk_at dksX3_item_1 6 rfl rfl)
theorem dX3_item_29 : decode cX3_item 29 = .ok (.getfield 57, 3) := dk_180 0 57 (dk_at dksX3_item_1 7 rfl rfl)
theorem dX3_item_32 : decode cX3_item 32 = .ok (.bipush 36, 2) := dk_16 36 (dk_at dksX3_item_1 10 rfl rfl)
theorem dX3_item_34 : decode cX3_item 34 = .ok (.iload_n 1, 1) := dk_27 (dk_at dksX3_item_1 12 rfl rfl)
theorem dX3_item_35 : decode cX3_item 35 = .ok (.imul, 1) := dk_104 (dk_at dksX3_item_1 13 rfl rfl)
theorem dX3_item_36 : decode cX3_item 36 = .ok (.iload_n 3, 1) := dk_29 (dk_at dksX3_item_1 14 rfl rfl)
theorem dX3_item_37 : decode cX3_item 37 = .ok (.iadd, 1) := dk_96 (dk_at dksX3_item_1 15 rfl rfl)
theorem dX3_item_38 : decode cX3_item 38 = .ok (.iload_n 2, 1) := dk_28 (dk_at dksX3_item_1 16 rfl rfl)
theorem dX3_item_39 : decode cX3_item 39 = .ok (.lload 4, 2) := dk_22 4 (dk_at dksX3_item_1 17 rfl rfl)
theorem dX3_item_41 : decode cX3_item 41 = .ok (.invokestatic 313, 3) := dk_184 1 57 (dk_at dksX3_item_1 19 rfl rfl)
theorem dX3_item_44 : decode cX3_item 44 = .ok (.lastore, 1) := dk_80 (dk_at dksX3_item_1 22 rfl rfl)
theorem dX3_item_45 : decode cX3_item 45 = .ok (.iconst 1, 1) := dk_4 (dk_at dksX3_item_1 23 rfl rfl)
theorem dX3_item_46 : decode cX3_item 46 = .ok (.ireturn, 1) := dk_172 (dk_at dksX3_item_2 0 rfl rfl)
abbrev cX3_lacksRow : ByteArray := prog_12_method_77_code
def yX3_lacksRow : MethodName := ⟨RX3, "lacksRow", "(IIII)I"⟩
def dkwX3_lacksRow_2 : List UInt8 := [167, 0, 5, 16, 243, 172]
abbrev dktX3_lacksRow_2 : List UInt8 := dkwX3_lacksRow_2 ++ []
def dkwX3_lacksRow_1 : List UInt8 := [16, 244, 172, 29, 133, 9, 42, 180, 0, 54, 27, 46, 21, 4, 100, 133, 184, 0, 65, 153, 0, 7, 3]
abbrev dktX3_lacksRow_1 : List UInt8 := dkwX3_lacksRow_1 ++ dktX3_lacksRow_2
def dkwX3_lacksRow_0 : List UInt8 := [42, 180, 0, 51, 27, 46, 28, 159, 0, 20, 42, 180, 0, 51, 27, 46, 156, 0, 8, 16, 245, 167, 0, 5]
abbrev dktX3_lacksRow_0 : List UInt8 := dkwX3_lacksRow_0 ++ dktX3_lacksRow_1
theorem dksX3_lacksRow_0 : cX3_lacksRow.data.toList.drop 0 = dktX3_lacksRow_0 := by decide +kernel
theorem dksX3_lacksRow_1 : cX3_lacksRow.data.toList.drop 24 = dktX3_lacksRow_1 := dk_seg dksX3_lacksRow_0 24 rfl rfl
theorem dksX3_lacksRow_2 : cX3_lacksRow.data.toList.drop 47 = dktX3_lacksRow_2 := dk_seg dksX3_lacksRow_1 23 rfl rfl
theorem dX3_lacksRow_0 : decode cX3_lacksRow 0 = .ok (.aload_n 0, 1) := dk_42 (dk_at dksX3_lacksRow_0 0 rfl rfl)
theorem dX3_lacksRow_1 : decode cX3_lacksRow 1 = .ok (.getfield 51, 3) := dk_180 0 51 (dk_at dksX3_lacksRow_0 1 rfl rfl)
theorem dX3_lacksRow_4 : decode cX3_lacksRow 4 = .ok (.iload_n 1, 1) := dk_27 (dk_at dksX3_lacksRow_0 4 rfl rfl)
theorem dX3_lacksRow_5 : decode cX3_lacksRow 5 = .ok (.iaload, 1) := dk_46 (dk_at dksX3_lacksRow_0 5 rfl rfl)
theorem dX3_lacksRow_6 : decode cX3_lacksRow 6 = .ok (.iload_n 2, 1) := dk_28 (dk_at dksX3_lacksRow_0 6 rfl rfl)
theorem dX3_lacksRow_7 : decode cX3_lacksRow 7 = .ok (.if_icmp .eq 20, 3) := dk_159 0 20 (dk_at dksX3_lacksRow_0 7 rfl rfl)
theorem dX3_lacksRow_10 : decode cX3_lacksRow 10 = .ok (.aload_n 0, 1) := dk_42 (dk_at dksX3_lacksRow_0 10 rfl rfl)
theorem dX3_lacksRow_11 : decode cX3_lacksRow 11 = .ok (.getfield 51, 3) := dk_180 0 51 (dk_at dksX3_lacksRow_0 11 rfl rfl)
theorem dX3_lacksRow_14 : decode cX3_lacksRow 14 = .ok (.iload_n 1, 1) := dk_27 (dk_at dksX3_lacksRow_0 14 rfl rfl)
theorem dX3_lacksRow_15 : decode cX3_lacksRow 15 = .ok (.iaload, 1) := dk_46 (dk_at dksX3_lacksRow_0 15 rfl rfl)
theorem dX3_lacksRow_16 : decode cX3_lacksRow 16 = .ok (.ifCond .ge 8, 3) := dk_156 0 8 (dk_at dksX3_lacksRow_0 16 rfl rfl)
theorem dX3_lacksRow_19 : decode cX3_lacksRow 19 = .ok (.bipush (-11), 2) := dk_16 245 (dk_at dksX3_lacksRow_0 19 rfl rfl)
theorem dX3_lacksRow_21 : decode cX3_lacksRow 21 = .ok (.goto 5, 3) := dk_167 0 5 (dk_at dksX3_lacksRow_0 21 rfl rfl)
theorem dX3_lacksRow_24 : decode cX3_lacksRow 24 = .ok (.bipush (-12), 2) := dk_16 244 (dk_at dksX3_lacksRow_1 0 rfl rfl)
theorem dX3_lacksRow_26 : decode cX3_lacksRow 26 = .ok (.ireturn, 1) := dk_172 (dk_at dksX3_lacksRow_1 2 rfl rfl)
theorem dX3_lacksRow_27 : decode cX3_lacksRow 27 = .ok (.iload_n 3, 1) := dk_29 (dk_at dksX3_lacksRow_1 3 rfl rfl)
theorem dX3_lacksRow_28 : decode cX3_lacksRow 28 = .ok (.i2l, 1) := dk_133 (dk_at dksX3_lacksRow_1 4 rfl rfl)
theorem dX3_lacksRow_29 : decode cX3_lacksRow 29 = .ok (.lconst 0, 1) := dk_9 (dk_at dksX3_lacksRow_1 5 rfl rfl)
theorem dX3_lacksRow_30 : decode cX3_lacksRow 30 = .ok (.aload_n 0, 1) := dk_42 (dk_at dksX3_lacksRow_1 6 rfl rfl)
theorem dX3_lacksRow_31 : decode cX3_lacksRow 31 = .ok (.getfield 54, 3) := dk_180 0 54 (dk_at dksX3_lacksRow_1 7 rfl rfl)
theorem dX3_lacksRow_34 : decode cX3_lacksRow 34 = .ok (.iload_n 1, 1) := dk_27 (dk_at dksX3_lacksRow_1 10 rfl rfl)
theorem dX3_lacksRow_35 : decode cX3_lacksRow 35 = .ok (.iaload, 1) := dk_46 (dk_at dksX3_lacksRow_1 11 rfl rfl)
theorem dX3_lacksRow_36 : decode cX3_lacksRow 36 = .ok (.iload 4, 2) := dk_21 4 (dk_at dksX3_lacksRow_1 12 rfl rfl)
theorem dX3_lacksRow_38 : decode cX3_lacksRow 38 = .ok (.isub, 1) := dk_100 (dk_at dksX3_lacksRow_1 14 rfl rfl)
theorem dX3_lacksRow_39 : decode cX3_lacksRow 39 = .ok (.i2l, 1) := dk_133 (dk_at dksX3_lacksRow_1 15 rfl rfl)
theorem dX3_lacksRow_40 : decode cX3_lacksRow 40 = .ok (.invokestatic 65, 3) := dk_184 0 65 (dk_at dksX3_lacksRow_1 16 rfl rfl)
theorem dX3_lacksRow_43 : decode cX3_lacksRow 43 = .ok (.ifCond .eq 7, 3) := dk_153 0 7 (dk_at dksX3_lacksRow_1 19 rfl rfl)
theorem dX3_lacksRow_46 : decode cX3_lacksRow 46 = .ok (.iconst 0, 1) := dk_3 (dk_at dksX3_lacksRow_1 22 rfl rfl)
theorem dX3_lacksRow_47 : decode cX3_lacksRow 47 = .ok (.goto 5, 3) := dk_167 0 5 (dk_at dksX3_lacksRow_2 0 rfl rfl)
theorem dX3_lacksRow_50 : decode cX3_lacksRow 50 = .ok (.bipush (-13), 2) := dk_16 243 (dk_at dksX3_lacksRow_2 3 rfl rfl)
theorem dX3_lacksRow_52 : decode cX3_lacksRow 52 = .ok (.ireturn, 1) := dk_172 (dk_at dksX3_lacksRow_2 5 rfl rfl)
abbrev cX3_asLane : ByteArray := prog_12_method_74_code
def yX3_asLane : MethodName := ⟨RX3, "asLane", "(IJ)J"⟩
def dkwX3_asLane_1 : List UInt8 := [16, 48, 123, 167, 0, 19, 26, 5, 160, 0, 13, 31, 16, 32, 121, 16, 32, 123, 167, 0, 4, 31, 173]
abbrev dktX3_asLane_1 : List UInt8 := dkwX3_asLane_1 ++ []
def dkwX3_asLane_0 : List UInt8 := [26, 154, 0, 13, 31, 16, 56, 121, 16, 56, 123, 167, 0, 34, 26, 4, 160, 0, 13, 31, 16, 48, 121]
abbrev dktX3_asLane_0 : List UInt8 := dkwX3_asLane_0 ++ dktX3_asLane_1
theorem dksX3_asLane_0 : cX3_asLane.data.toList.drop 0 = dktX3_asLane_0 := by decide +kernel
theorem dksX3_asLane_1 : cX3_asLane.data.toList.drop 23 = dktX3_asLane_1 := dk_seg dksX3_asLane_0 23 rfl rfl
theorem dX3_asLane_0 : decode cX3_asLane 0 = .ok (.iload_n 0, 1) := dk_26 (dk_at dksX3_asLane_0 0 rfl rfl)
theorem dX3_asLane_1 : decode cX3_asLane 1 = .ok (.ifCond .ne 13, 3) := dk_154 0 13 (dk_at dksX3_asLane_0 1 rfl rfl)
theorem dX3_asLane_4 : decode cX3_asLane 4 = .ok (.lload_n 1, 1) := dk_31 (dk_at dksX3_asLane_0 4 rfl rfl)
theorem dX3_asLane_5 : decode cX3_asLane 5 = .ok (.bipush 56, 2) := dk_16 56 (dk_at dksX3_asLane_0 5 rfl rfl)
theorem dX3_asLane_7 : decode cX3_asLane 7 = .ok (.lshl, 1) := dk_121 (dk_at dksX3_asLane_0 7 rfl rfl)
theorem dX3_asLane_8 : decode cX3_asLane 8 = .ok (.bipush 56, 2) := dk_16 56 (dk_at dksX3_asLane_0 8 rfl rfl)
theorem dX3_asLane_10 : decode cX3_asLane 10 = .ok (.lshr, 1) := dk_123 (dk_at dksX3_asLane_0 10 rfl rfl)
theorem dX3_asLane_11 : decode cX3_asLane 11 = .ok (.goto 34, 3) := dk_167 0 34 (dk_at dksX3_asLane_0 11 rfl rfl)
theorem dX3_asLane_14 : decode cX3_asLane 14 = .ok (.iload_n 0, 1) := dk_26 (dk_at dksX3_asLane_0 14 rfl rfl)
theorem dX3_asLane_15 : decode cX3_asLane 15 = .ok (.iconst 1, 1) := dk_4 (dk_at dksX3_asLane_0 15 rfl rfl)
theorem dX3_asLane_16 : decode cX3_asLane 16 = .ok (.if_icmp .ne 13, 3) := dk_160 0 13 (dk_at dksX3_asLane_0 16 rfl rfl)
theorem dX3_asLane_19 : decode cX3_asLane 19 = .ok (.lload_n 1, 1) := dk_31 (dk_at dksX3_asLane_0 19 rfl rfl)
theorem dX3_asLane_20 : decode cX3_asLane 20 = .ok (.bipush 48, 2) := dk_16 48 (dk_at dksX3_asLane_0 20 rfl rfl)
theorem dX3_asLane_22 : decode cX3_asLane 22 = .ok (.lshl, 1) := dk_121 (dk_at dksX3_asLane_0 22 rfl rfl)
theorem dX3_asLane_23 : decode cX3_asLane 23 = .ok (.bipush 48, 2) := dk_16 48 (dk_at dksX3_asLane_1 0 rfl rfl)
theorem dX3_asLane_25 : decode cX3_asLane 25 = .ok (.lshr, 1) := dk_123 (dk_at dksX3_asLane_1 2 rfl rfl)
theorem dX3_asLane_26 : decode cX3_asLane 26 = .ok (.goto 19, 3) := dk_167 0 19 (dk_at dksX3_asLane_1 3 rfl rfl)
theorem dX3_asLane_29 : decode cX3_asLane 29 = .ok (.iload_n 0, 1) := dk_26 (dk_at dksX3_asLane_1 6 rfl rfl)
theorem dX3_asLane_30 : decode cX3_asLane 30 = .ok (.iconst 2, 1) := dk_5 (dk_at dksX3_asLane_1 7 rfl rfl)
theorem dX3_asLane_31 : decode cX3_asLane 31 = .ok (.if_icmp .ne 13, 3) := dk_160 0 13 (dk_at dksX3_asLane_1 8 rfl rfl)
theorem dX3_asLane_34 : decode cX3_asLane 34 = .ok (.lload_n 1, 1) := dk_31 (dk_at dksX3_asLane_1 11 rfl rfl)
theorem dX3_asLane_35 : decode cX3_asLane 35 = .ok (.bipush 32, 2) := dk_16 32 (dk_at dksX3_asLane_1 12 rfl rfl)
theorem dX3_asLane_37 : decode cX3_asLane 37 = .ok (.lshl, 1) := dk_121 (dk_at dksX3_asLane_1 14 rfl rfl)
theorem dX3_asLane_38 : decode cX3_asLane 38 = .ok (.bipush 32, 2) := dk_16 32 (dk_at dksX3_asLane_1 15 rfl rfl)
theorem dX3_asLane_40 : decode cX3_asLane 40 = .ok (.lshr, 1) := dk_123 (dk_at dksX3_asLane_1 17 rfl rfl)
theorem dX3_asLane_41 : decode cX3_asLane 41 = .ok (.goto 4, 3) := dk_167 0 4 (dk_at dksX3_asLane_1 18 rfl rfl)
theorem dX3_asLane_44 : decode cX3_asLane 44 = .ok (.lload_n 1, 1) := dk_31 (dk_at dksX3_asLane_1 21 rfl rfl)
theorem dX3_asLane_45 : decode cX3_asLane 45 = .ok (.lreturn, 1) := dk_173 (dk_at dksX3_asLane_1 22 rfl rfl)
abbrev cX3_lay : ByteArray := prog_12_method_79_code
def yX3_lay : MethodName := ⟨RX3, "lay", "(IIIII)I"⟩
def dkwX3_lay_7 : List UInt8 := [182, 0, 150, 132, 8, 1, 167, 255, 199, 42, 3, 181, 0, 139, 21, 5, 172]
abbrev dktX3_lay_7 : List UInt8 := dkwX3_lay_7 ++ []
def dkwX3_lay_6 : List UInt8 := [158, 0, 21, 42, 180, 0, 114, 27, 21, 8, 96, 184, 0, 69, 153, 0, 7, 4, 167, 0, 4, 3]
abbrev dktX3_lay_6 : List UInt8 := dkwX3_lay_6 ++ dktX3_lay_7
def dkwX3_lay_5 : List UInt8 := [42, 180, 0, 57, 21, 7, 21, 8, 96, 47, 136, 54, 9, 42, 27, 21, 8, 96, 21, 9, 21, 9]
abbrev dktX3_lay_5 : List UInt8 := dkwX3_lay_5 ++ dktX3_lay_6
def dkwX3_lay_4 : List UInt8 := [132, 8, 1, 167, 255, 213, 21, 6, 156, 0, 6, 21, 6, 172, 3, 54, 8, 21, 8, 21, 5, 162, 0, 56]
abbrev dktX3_lay_4 : List UInt8 := dkwX3_lay_4 ++ dktX3_lay_5
def dkwX3_lay_3 : List UInt8 := [21, 7, 21, 8, 96, 47, 9, 20, 0, 178, 184, 0, 65, 153, 0, 7, 3, 167, 0, 5, 16, 254, 54, 6]
abbrev dktX3_lay_3 : List UInt8 := dkwX3_lay_3 ++ dktX3_lay_4
def dkwX3_lay_2 : List UInt8 := [21, 4, 96, 54, 7, 3, 54, 8, 21, 8, 21, 5, 162, 0, 42, 21, 6, 154, 0, 37, 42, 180, 0, 57]
abbrev dktX3_lay_2 : List UInt8 := dkwX3_lay_2 ++ dktX3_lay_3
def dkwX3_lay_1 : List UInt8 := [184, 0, 65, 154, 0, 5, 2, 172, 42, 28, 29, 21, 4, 21, 5, 182, 1, 53, 54, 6, 16, 36, 28, 104]
abbrev dktX3_lay_1 : List UInt8 := dkwX3_lay_1 ++ dktX3_lay_2
def dkwX3_lay_0 : List UInt8 := [27, 184, 0, 142, 153, 0, 26, 28, 29, 184, 1, 49, 153, 0, 18, 21, 5, 133, 10, 16, 36, 27, 100, 133]
abbrev dktX3_lay_0 : List UInt8 := dkwX3_lay_0 ++ dktX3_lay_1
theorem dksX3_lay_0 : cX3_lay.data.toList.drop 0 = dktX3_lay_0 := by decide +kernel
theorem dksX3_lay_1 : cX3_lay.data.toList.drop 24 = dktX3_lay_1 := dk_seg dksX3_lay_0 24 rfl rfl
theorem dksX3_lay_2 : cX3_lay.data.toList.drop 48 = dktX3_lay_2 := dk_seg dksX3_lay_1 24 rfl rfl
theorem dksX3_lay_3 : cX3_lay.data.toList.drop 72 = dktX3_lay_3 := dk_seg dksX3_lay_2 24 rfl rfl
theorem dksX3_lay_4 : cX3_lay.data.toList.drop 96 = dktX3_lay_4 := dk_seg dksX3_lay_3 24 rfl rfl
theorem dksX3_lay_5 : cX3_lay.data.toList.drop 120 = dktX3_lay_5 := dk_seg dksX3_lay_4 24 rfl rfl
theorem dksX3_lay_6 : cX3_lay.data.toList.drop 142 = dktX3_lay_6 := dk_seg dksX3_lay_5 22 rfl rfl
theorem dksX3_lay_7 : cX3_lay.data.toList.drop 164 = dktX3_lay_7 := dk_seg dksX3_lay_6 22 rfl rfl
theorem dX3_lay_0 : decode cX3_lay 0 = .ok (.iload_n 1, 1) := dk_27 (dk_at dksX3_lay_0 0 rfl rfl)
theorem dX3_lay_1 : decode cX3_lay 1 = .ok (.invokestatic 142, 3) := dk_184 0 142 (dk_at dksX3_lay_0 1 rfl rfl)
theorem dX3_lay_4 : decode cX3_lay 4 = .ok (.ifCond .eq 26, 3) := dk_153 0 26 (dk_at dksX3_lay_0 4 rfl rfl)
theorem dX3_lay_7 : decode cX3_lay 7 = .ok (.iload_n 2, 1) := dk_28 (dk_at dksX3_lay_0 7 rfl rfl)
theorem dX3_lay_8 : decode cX3_lay 8 = .ok (.iload_n 3, 1) := dk_29 (dk_at dksX3_lay_0 8 rfl rfl)
theorem dX3_lay_9 : decode cX3_lay 9 = .ok (.invokestatic 305, 3) := dk_184 1 49 (dk_at dksX3_lay_0 9 rfl rfl)
theorem dX3_lay_12 : decode cX3_lay 12 = .ok (.ifCond .eq 18, 3) := dk_153 0 18 (dk_at dksX3_lay_0 12 rfl rfl)
theorem dX3_lay_15 : decode cX3_lay 15 = .ok (.iload 5, 2) := dk_21 5 (dk_at dksX3_lay_0 15 rfl rfl)
theorem dX3_lay_17 : decode cX3_lay 17 = .ok (.i2l, 1) := dk_133 (dk_at dksX3_lay_0 17 rfl rfl)
theorem dX3_lay_18 : decode cX3_lay 18 = .ok (.lconst 1, 1) := dk_10 (dk_at dksX3_lay_0 18 rfl rfl)
theorem dX3_lay_19 : decode cX3_lay 19 = .ok (.bipush 36, 2) := dk_16 36 (dk_at dksX3_lay_0 19 rfl rfl)
theorem dX3_lay_21 : decode cX3_lay 21 = .ok (.iload_n 1, 1) := dk_27 (dk_at dksX3_lay_0 21 rfl rfl)
theorem dX3_lay_22 : decode cX3_lay 22 = .ok (.isub, 1) := dk_100 (dk_at dksX3_lay_0 22 rfl rfl)
theorem dX3_lay_23 : decode cX3_lay 23 = .ok (.i2l, 1) := dk_133 (dk_at dksX3_lay_0 23 rfl rfl)
theorem dX3_lay_24 : decode cX3_lay 24 = .ok (.invokestatic 65, 3) := dk_184 0 65 (dk_at dksX3_lay_1 0 rfl rfl)
theorem dX3_lay_27 : decode cX3_lay 27 = .ok (.ifCond .ne 5, 3) := dk_154 0 5 (dk_at dksX3_lay_1 3 rfl rfl)
theorem dX3_lay_30 : decode cX3_lay 30 = .ok (.iconst (-1), 1) := dk_2 (dk_at dksX3_lay_1 6 rfl rfl)
theorem dX3_lay_31 : decode cX3_lay 31 = .ok (.ireturn, 1) := dk_172 (dk_at dksX3_lay_1 7 rfl rfl)
theorem dX3_lay_32 : decode cX3_lay 32 = .ok (.aload_n 0, 1) := dk_42 (dk_at dksX3_lay_1 8 rfl rfl)
theorem dX3_lay_33 : decode cX3_lay 33 = .ok (.iload_n 2, 1) := dk_28 (dk_at dksX3_lay_1 9 rfl rfl)
theorem dX3_lay_34 : decode cX3_lay 34 = .ok (.iload_n 3, 1) := dk_29 (dk_at dksX3_lay_1 10 rfl rfl)
theorem dX3_lay_35 : decode cX3_lay 35 = .ok (.iload 4, 2) := dk_21 4 (dk_at dksX3_lay_1 11 rfl rfl)
theorem dX3_lay_37 : decode cX3_lay 37 = .ok (.iload 5, 2) := dk_21 5 (dk_at dksX3_lay_1 13 rfl rfl)
theorem dX3_lay_39 : decode cX3_lay 39 = .ok (.invokevirtual 309, 3) := dk_182 1 53 (dk_at dksX3_lay_1 15 rfl rfl)
theorem dX3_lay_42 : decode cX3_lay 42 = .ok (.istore 6, 2) := dk_54 6 (dk_at dksX3_lay_1 18 rfl rfl)
theorem dX3_lay_44 : decode cX3_lay 44 = .ok (.bipush 36, 2) := dk_16 36 (dk_at dksX3_lay_1 20 rfl rfl)
theorem dX3_lay_46 : decode cX3_lay 46 = .ok (.iload_n 2, 1) := dk_28 (dk_at dksX3_lay_1 22 rfl rfl)
theorem dX3_lay_47 : decode cX3_lay 47 = .ok (.imul, 1) := dk_104 (dk_at dksX3_lay_1 23 rfl rfl)
theorem dX3_lay_48 : decode cX3_lay 48 = .ok (.iload 4, 2) := dk_21 4 (dk_at dksX3_lay_2 0 rfl rfl)
theorem dX3_lay_50 : decode cX3_lay 50 = .ok (.iadd, 1) := dk_96 (dk_at dksX3_lay_2 2 rfl rfl)
theorem dX3_lay_51 : decode cX3_lay 51 = .ok (.istore 7, 2) := dk_54 7 (dk_at dksX3_lay_2 3 rfl rfl)
theorem dX3_lay_53 : decode cX3_lay 53 = .ok (.iconst 0, 1) := dk_3 (dk_at dksX3_lay_2 5 rfl rfl)
theorem dX3_lay_54 : decode cX3_lay 54 = .ok (.istore 8, 2) := dk_54 8 (dk_at dksX3_lay_2 6 rfl rfl)
theorem dX3_lay_56 : decode cX3_lay 56 = .ok (.iload 8, 2) := dk_21 8 (dk_at dksX3_lay_2 8 rfl rfl)
theorem dX3_lay_58 : decode cX3_lay 58 = .ok (.iload 5, 2) := dk_21 5 (dk_at dksX3_lay_2 10 rfl rfl)
theorem dX3_lay_60 : decode cX3_lay 60 = .ok (.if_icmp .ge 42, 3) := dk_162 0 42 (dk_at dksX3_lay_2 12 rfl rfl)
theorem dX3_lay_63 : decode cX3_lay 63 = .ok (.iload 6, 2) := dk_21 6 (dk_at dksX3_lay_2 15 rfl rfl)
theorem dX3_lay_65 : decode cX3_lay 65 = .ok (.ifCond .ne 37, 3) := dk_154 0 37 (dk_at dksX3_lay_2 17 rfl rfl)
theorem dX3_lay_68 : decode cX3_lay 68 = .ok (.aload_n 0, 1) := dk_42 (dk_at dksX3_lay_2 20 rfl rfl)
theorem dX3_lay_69 : decode cX3_lay 69 = .ok (.getfield 57, 3) := dk_180 0 57 (dk_at dksX3_lay_2 21 rfl rfl)
theorem dX3_lay_72 : decode cX3_lay 72 = .ok (.iload 7, 2) := dk_21 7 (dk_at dksX3_lay_3 0 rfl rfl)
theorem dX3_lay_74 : decode cX3_lay 74 = .ok (.iload 8, 2) := dk_21 8 (dk_at dksX3_lay_3 2 rfl rfl)
theorem dX3_lay_76 : decode cX3_lay 76 = .ok (.iadd, 1) := dk_96 (dk_at dksX3_lay_3 4 rfl rfl)
theorem dX3_lay_77 : decode cX3_lay 77 = .ok (.laload, 1) := dk_47 (dk_at dksX3_lay_3 5 rfl rfl)
theorem dX3_lay_78 : decode cX3_lay 78 = .ok (.lconst 0, 1) := dk_9 (dk_at dksX3_lay_3 6 rfl rfl)
theorem dX3_lay_79 : decode cX3_lay 79 = .ok (.ldc2_w 178, 3) := dk_20 0 178 (dk_at dksX3_lay_3 7 rfl rfl)
theorem dX3_lay_82 : decode cX3_lay 82 = .ok (.invokestatic 65, 3) := dk_184 0 65 (dk_at dksX3_lay_3 10 rfl rfl)
theorem dX3_lay_85 : decode cX3_lay 85 = .ok (.ifCond .eq 7, 3) := dk_153 0 7 (dk_at dksX3_lay_3 13 rfl rfl)
theorem dX3_lay_88 : decode cX3_lay 88 = .ok (.iconst 0, 1) := dk_3 (dk_at dksX3_lay_3 16 rfl rfl)
theorem dX3_lay_89 : decode cX3_lay 89 = .ok (.goto 5, 3) := dk_167 0 5 (dk_at dksX3_lay_3 17 rfl rfl)
theorem dX3_lay_92 : decode cX3_lay 92 = .ok (.bipush (-2), 2) := dk_16 254 (dk_at dksX3_lay_3 20 rfl rfl)
theorem dX3_lay_94 : decode cX3_lay 94 = .ok (.istore 6, 2) := dk_54 6 (dk_at dksX3_lay_3 22 rfl rfl)
theorem dX3_lay_96 : decode cX3_lay 96 = .ok (.iinc 8 1, 3) := dk_132 8 1 (dk_at dksX3_lay_4 0 rfl rfl)
theorem dX3_lay_99 : decode cX3_lay 99 = .ok (.goto (-43), 3) := dk_167 255 213 (dk_at dksX3_lay_4 3 rfl rfl)
theorem dX3_lay_102 : decode cX3_lay 102 = .ok (.iload 6, 2) := dk_21 6 (dk_at dksX3_lay_4 6 rfl rfl)
theorem dX3_lay_104 : decode cX3_lay 104 = .ok (.ifCond .ge 6, 3) := dk_156 0 6 (dk_at dksX3_lay_4 8 rfl rfl)
theorem dX3_lay_107 : decode cX3_lay 107 = .ok (.iload 6, 2) := dk_21 6 (dk_at dksX3_lay_4 11 rfl rfl)
theorem dX3_lay_109 : decode cX3_lay 109 = .ok (.ireturn, 1) := dk_172 (dk_at dksX3_lay_4 13 rfl rfl)
theorem dX3_lay_110 : decode cX3_lay 110 = .ok (.iconst 0, 1) := dk_3 (dk_at dksX3_lay_4 14 rfl rfl)
theorem dX3_lay_111 : decode cX3_lay 111 = .ok (.istore 8, 2) := dk_54 8 (dk_at dksX3_lay_4 15 rfl rfl)
theorem dX3_lay_113 : decode cX3_lay 113 = .ok (.iload 8, 2) := dk_21 8 (dk_at dksX3_lay_4 17 rfl rfl)
theorem dX3_lay_115 : decode cX3_lay 115 = .ok (.iload 5, 2) := dk_21 5 (dk_at dksX3_lay_4 19 rfl rfl)
theorem dX3_lay_117 : decode cX3_lay 117 = .ok (.if_icmp .ge 56, 3) := dk_162 0 56 (dk_at dksX3_lay_4 21 rfl rfl)
theorem dX3_lay_120 : decode cX3_lay 120 = .ok (.aload_n 0, 1) := dk_42 (dk_at dksX3_lay_5 0 rfl rfl)
theorem dX3_lay_121 : decode cX3_lay 121 = .ok (.getfield 57, 3) := dk_180 0 57 (dk_at dksX3_lay_5 1 rfl rfl)
theorem dX3_lay_124 : decode cX3_lay 124 = .ok (.iload 7, 2) := dk_21 7 (dk_at dksX3_lay_5 4 rfl rfl)
theorem dX3_lay_126 : decode cX3_lay 126 = .ok (.iload 8, 2) := dk_21 8 (dk_at dksX3_lay_5 6 rfl rfl)
theorem dX3_lay_128 : decode cX3_lay 128 = .ok (.iadd, 1) := dk_96 (dk_at dksX3_lay_5 8 rfl rfl)
theorem dX3_lay_129 : decode cX3_lay 129 = .ok (.laload, 1) := dk_47 (dk_at dksX3_lay_5 9 rfl rfl)
theorem dX3_lay_130 : decode cX3_lay 130 = .ok (.l2i, 1) := dk_136 (dk_at dksX3_lay_5 10 rfl rfl)
theorem dX3_lay_131 : decode cX3_lay 131 = .ok (.istore 9, 2) := dk_54 9 (dk_at dksX3_lay_5 11 rfl rfl)
theorem dX3_lay_133 : decode cX3_lay 133 = .ok (.aload_n 0, 1) := dk_42 (dk_at dksX3_lay_5 13 rfl rfl)
theorem dX3_lay_134 : decode cX3_lay 134 = .ok (.iload_n 1, 1) := dk_27 (dk_at dksX3_lay_5 14 rfl rfl)
theorem dX3_lay_135 : decode cX3_lay 135 = .ok (.iload 8, 2) := dk_21 8 (dk_at dksX3_lay_5 15 rfl rfl)
theorem dX3_lay_137 : decode cX3_lay 137 = .ok (.iadd, 1) := dk_96 (dk_at dksX3_lay_5 17 rfl rfl)
theorem dX3_lay_138 : decode cX3_lay 138 = .ok (.iload 9, 2) := dk_21 9 (dk_at dksX3_lay_5 18 rfl rfl)
theorem dX3_lay_140 : decode cX3_lay 140 = .ok (.iload 9, 2) := dk_21 9 (dk_at dksX3_lay_5 20 rfl rfl)
theorem dX3_lay_142 : decode cX3_lay 142 = .ok (.ifCond .le 21, 3) := dk_158 0 21 (dk_at dksX3_lay_6 0 rfl rfl)
theorem dX3_lay_145 : decode cX3_lay 145 = .ok (.aload_n 0, 1) := dk_42 (dk_at dksX3_lay_6 3 rfl rfl)
theorem dX3_lay_146 : decode cX3_lay 146 = .ok (.getfield 114, 3) := dk_180 0 114 (dk_at dksX3_lay_6 4 rfl rfl)
theorem dX3_lay_149 : decode cX3_lay 149 = .ok (.iload_n 1, 1) := dk_27 (dk_at dksX3_lay_6 7 rfl rfl)
theorem dX3_lay_150 : decode cX3_lay 150 = .ok (.iload 8, 2) := dk_21 8 (dk_at dksX3_lay_6 8 rfl rfl)
theorem dX3_lay_152 : decode cX3_lay 152 = .ok (.iadd, 1) := dk_96 (dk_at dksX3_lay_6 10 rfl rfl)
theorem dX3_lay_153 : decode cX3_lay 153 = .ok (.invokestatic 69, 3) := dk_184 0 69 (dk_at dksX3_lay_6 11 rfl rfl)
theorem dX3_lay_156 : decode cX3_lay 156 = .ok (.ifCond .eq 7, 3) := dk_153 0 7 (dk_at dksX3_lay_6 14 rfl rfl)
theorem dX3_lay_159 : decode cX3_lay 159 = .ok (.iconst 1, 1) := dk_4 (dk_at dksX3_lay_6 17 rfl rfl)
theorem dX3_lay_160 : decode cX3_lay 160 = .ok (.goto 4, 3) := dk_167 0 4 (dk_at dksX3_lay_6 18 rfl rfl)
theorem dX3_lay_163 : decode cX3_lay 163 = .ok (.iconst 0, 1) := dk_3 (dk_at dksX3_lay_6 21 rfl rfl)
theorem dX3_lay_164 : decode cX3_lay 164 = .ok (.invokevirtual 150, 3) := dk_182 0 150 (dk_at dksX3_lay_7 0 rfl rfl)
theorem dX3_lay_167 : decode cX3_lay 167 = .ok (.iinc 8 1, 3) := dk_132 8 1 (dk_at dksX3_lay_7 3 rfl rfl)
theorem dX3_lay_170 : decode cX3_lay 170 = .ok (.goto (-57), 3) := dk_167 255 199 (dk_at dksX3_lay_7 6 rfl rfl)
theorem dX3_lay_173 : decode cX3_lay 173 = .ok (.aload_n 0, 1) := dk_42 (dk_at dksX3_lay_7 9 rfl rfl)
theorem dX3_lay_174 : decode cX3_lay 174 = .ok (.iconst 0, 1) := dk_3 (dk_at dksX3_lay_7 10 rfl rfl)
theorem dX3_lay_175 : decode cX3_lay 175 = .ok (.putfield 139, 3) := dk_181 0 139 (dk_at dksX3_lay_7 11 rfl rfl)
theorem dX3_lay_178 : decode cX3_lay 178 = .ok (.iload 5, 2) := dk_21 5 (dk_at dksX3_lay_7 14 rfl rfl)
theorem dX3_lay_180 : decode cX3_lay 180 = .ok (.ireturn, 1) := dk_172 (dk_at dksX3_lay_7 16 rfl rfl)
abbrev cX3_film : ByteArray := prog_12_method_80_code
def yX3_film : MethodName := ⟨RX3, "film", "(III)I"⟩
def dkwX3_film_4 : List UInt8 := [172]
abbrev dktX3_film_4 : List UInt8 := dkwX3_film_4 ++ []
def dkwX3_film_3 : List UInt8 := [180, 0, 26, 21, 5, 47, 182, 0, 136, 133, 184, 1, 57, 80, 132, 5, 1, 167, 255, 214, 42, 180, 0, 123]
abbrev dktX3_film_3 : List UInt8 := dkwX3_film_3 ++ dktX3_film_4
def dkwX3_film_2 : List UInt8 := [180, 0, 123, 162, 0, 39, 42, 180, 0, 57, 16, 36, 27, 104, 29, 96, 21, 5, 96, 28, 42, 42]
abbrev dktX3_film_2 : List UInt8 := dkwX3_film_2 ++ dktX3_film_3
def dkwX3_film_1 : List UInt8 := [180, 0, 123, 182, 1, 53, 54, 4, 21, 4, 156, 0, 6, 21, 4, 172, 3, 54, 5, 21, 5, 42]
abbrev dktX3_film_1 : List UInt8 := dkwX3_film_1 ++ dktX3_film_2
def dkwX3_film_0 : List UInt8 := [27, 28, 184, 1, 49, 154, 0, 5, 2, 172, 42, 182, 0, 158, 42, 182, 0, 133, 42, 27, 28, 29, 42]
abbrev dktX3_film_0 : List UInt8 := dkwX3_film_0 ++ dktX3_film_1
theorem dksX3_film_0 : cX3_film.data.toList.drop 0 = dktX3_film_0 := by decide +kernel
theorem dksX3_film_1 : cX3_film.data.toList.drop 23 = dktX3_film_1 := dk_seg dksX3_film_0 23 rfl rfl
theorem dksX3_film_2 : cX3_film.data.toList.drop 45 = dktX3_film_2 := dk_seg dksX3_film_1 22 rfl rfl
theorem dksX3_film_3 : cX3_film.data.toList.drop 67 = dktX3_film_3 := dk_seg dksX3_film_2 22 rfl rfl
theorem dksX3_film_4 : cX3_film.data.toList.drop 91 = dktX3_film_4 := dk_seg dksX3_film_3 24 rfl rfl
theorem dX3_film_0 : decode cX3_film 0 = .ok (.iload_n 1, 1) := dk_27 (dk_at dksX3_film_0 0 rfl rfl)
theorem dX3_film_1 : decode cX3_film 1 = .ok (.iload_n 2, 1) := dk_28 (dk_at dksX3_film_0 1 rfl rfl)
theorem dX3_film_2 : decode cX3_film 2 = .ok (.invokestatic 305, 3) := dk_184 1 49 (dk_at dksX3_film_0 2 rfl rfl)
theorem dX3_film_5 : decode cX3_film 5 = .ok (.ifCond .ne 5, 3) := dk_154 0 5 (dk_at dksX3_film_0 5 rfl rfl)
theorem dX3_film_8 : decode cX3_film 8 = .ok (.iconst (-1), 1) := dk_2 (dk_at dksX3_film_0 8 rfl rfl)
theorem dX3_film_9 : decode cX3_film 9 = .ok (.ireturn, 1) := dk_172 (dk_at dksX3_film_0 9 rfl rfl)
theorem dX3_film_10 : decode cX3_film 10 = .ok (.aload_n 0, 1) := dk_42 (dk_at dksX3_film_0 10 rfl rfl)
theorem dX3_film_11 : decode cX3_film 11 = .ok (.invokevirtual 158, 3) := dk_182 0 158 (dk_at dksX3_film_0 11 rfl rfl)
theorem dX3_film_14 : decode cX3_film 14 = .ok (.aload_n 0, 1) := dk_42 (dk_at dksX3_film_0 14 rfl rfl)
theorem dX3_film_15 : decode cX3_film 15 = .ok (.invokevirtual 133, 3) := dk_182 0 133 (dk_at dksX3_film_0 15 rfl rfl)
theorem dX3_film_18 : decode cX3_film 18 = .ok (.aload_n 0, 1) := dk_42 (dk_at dksX3_film_0 18 rfl rfl)
theorem dX3_film_19 : decode cX3_film 19 = .ok (.iload_n 1, 1) := dk_27 (dk_at dksX3_film_0 19 rfl rfl)
theorem dX3_film_20 : decode cX3_film 20 = .ok (.iload_n 2, 1) := dk_28 (dk_at dksX3_film_0 20 rfl rfl)
theorem dX3_film_21 : decode cX3_film 21 = .ok (.iload_n 3, 1) := dk_29 (dk_at dksX3_film_0 21 rfl rfl)
theorem dX3_film_22 : decode cX3_film 22 = .ok (.aload_n 0, 1) := dk_42 (dk_at dksX3_film_0 22 rfl rfl)
theorem dX3_film_23 : decode cX3_film 23 = .ok (.getfield 123, 3) := dk_180 0 123 (dk_at dksX3_film_1 0 rfl rfl)
theorem dX3_film_26 : decode cX3_film 26 = .ok (.invokevirtual 309, 3) := dk_182 1 53 (dk_at dksX3_film_1 3 rfl rfl)
theorem dX3_film_29 : decode cX3_film 29 = .ok (.istore 4, 2) := dk_54 4 (dk_at dksX3_film_1 6 rfl rfl)
theorem dX3_film_31 : decode cX3_film 31 = .ok (.iload 4, 2) := dk_21 4 (dk_at dksX3_film_1 8 rfl rfl)
theorem dX3_film_33 : decode cX3_film 33 = .ok (.ifCond .ge 6, 3) := dk_156 0 6 (dk_at dksX3_film_1 10 rfl rfl)
theorem dX3_film_36 : decode cX3_film 36 = .ok (.iload 4, 2) := dk_21 4 (dk_at dksX3_film_1 13 rfl rfl)
theorem dX3_film_38 : decode cX3_film 38 = .ok (.ireturn, 1) := dk_172 (dk_at dksX3_film_1 15 rfl rfl)
theorem dX3_film_39 : decode cX3_film 39 = .ok (.iconst 0, 1) := dk_3 (dk_at dksX3_film_1 16 rfl rfl)
theorem dX3_film_40 : decode cX3_film 40 = .ok (.istore 5, 2) := dk_54 5 (dk_at dksX3_film_1 17 rfl rfl)
theorem dX3_film_42 : decode cX3_film 42 = .ok (.iload 5, 2) := dk_21 5 (dk_at dksX3_film_1 19 rfl rfl)
theorem dX3_film_44 : decode cX3_film 44 = .ok (.aload_n 0, 1) := dk_42 (dk_at dksX3_film_1 21 rfl rfl)
theorem dX3_film_45 : decode cX3_film 45 = .ok (.getfield 123, 3) := dk_180 0 123 (dk_at dksX3_film_2 0 rfl rfl)
theorem dX3_film_48 : decode cX3_film 48 = .ok (.if_icmp .ge 39, 3) := dk_162 0 39 (dk_at dksX3_film_2 3 rfl rfl)
theorem dX3_film_51 : decode cX3_film 51 = .ok (.aload_n 0, 1) := dk_42 (dk_at dksX3_film_2 6 rfl rfl)
theorem dX3_film_52 : decode cX3_film 52 = .ok (.getfield 57, 3) := dk_180 0 57 (dk_at dksX3_film_2 7 rfl rfl)
theorem dX3_film_55 : decode cX3_film 55 = .ok (.bipush 36, 2) := dk_16 36 (dk_at dksX3_film_2 10 rfl rfl)
theorem dX3_film_57 : decode cX3_film 57 = .ok (.iload_n 1, 1) := dk_27 (dk_at dksX3_film_2 12 rfl rfl)
theorem dX3_film_58 : decode cX3_film 58 = .ok (.imul, 1) := dk_104 (dk_at dksX3_film_2 13 rfl rfl)
theorem dX3_film_59 : decode cX3_film 59 = .ok (.iload_n 3, 1) := dk_29 (dk_at dksX3_film_2 14 rfl rfl)
theorem dX3_film_60 : decode cX3_film 60 = .ok (.iadd, 1) := dk_96 (dk_at dksX3_film_2 15 rfl rfl)
theorem dX3_film_61 : decode cX3_film 61 = .ok (.iload 5, 2) := dk_21 5 (dk_at dksX3_film_2 16 rfl rfl)
theorem dX3_film_63 : decode cX3_film 63 = .ok (.iadd, 1) := dk_96 (dk_at dksX3_film_2 18 rfl rfl)
theorem dX3_film_64 : decode cX3_film 64 = .ok (.iload_n 2, 1) := dk_28 (dk_at dksX3_film_2 19 rfl rfl)
theorem dX3_film_65 : decode cX3_film 65 = .ok (.aload_n 0, 1) := dk_42 (dk_at dksX3_film_2 20 rfl rfl)
theorem dX3_film_66 : decode cX3_film 66 = .ok (.aload_n 0, 1) := dk_42 (dk_at dksX3_film_2 21 rfl rfl)
theorem dX3_film_67 : decode cX3_film 67 = .ok (.getfield 26, 3) := dk_180 0 26 (dk_at dksX3_film_3 0 rfl rfl)
theorem dX3_film_70 : decode cX3_film 70 = .ok (.iload 5, 2) := dk_21 5 (dk_at dksX3_film_3 3 rfl rfl)
theorem dX3_film_72 : decode cX3_film 72 = .ok (.laload, 1) := dk_47 (dk_at dksX3_film_3 5 rfl rfl)
theorem dX3_film_73 : decode cX3_film 73 = .ok (.invokevirtual 136, 3) := dk_182 0 136 (dk_at dksX3_film_3 6 rfl rfl)
theorem dX3_film_76 : decode cX3_film 76 = .ok (.i2l, 1) := dk_133 (dk_at dksX3_film_3 9 rfl rfl)
theorem dX3_film_77 : decode cX3_film 77 = .ok (.invokestatic 313, 3) := dk_184 1 57 (dk_at dksX3_film_3 10 rfl rfl)
theorem dX3_film_80 : decode cX3_film 80 = .ok (.lastore, 1) := dk_80 (dk_at dksX3_film_3 13 rfl rfl)
theorem dX3_film_81 : decode cX3_film 81 = .ok (.iinc 5 1, 3) := dk_132 5 1 (dk_at dksX3_film_3 14 rfl rfl)
theorem dX3_film_84 : decode cX3_film 84 = .ok (.goto (-42), 3) := dk_167 255 214 (dk_at dksX3_film_3 17 rfl rfl)
theorem dX3_film_87 : decode cX3_film 87 = .ok (.aload_n 0, 1) := dk_42 (dk_at dksX3_film_3 20 rfl rfl)
theorem dX3_film_88 : decode cX3_film 88 = .ok (.getfield 123, 3) := dk_180 0 123 (dk_at dksX3_film_3 21 rfl rfl)
theorem dX3_film_91 : decode cX3_film 91 = .ok (.ireturn, 1) := dk_172 (dk_at dksX3_film_4 0 rfl rfl)
abbrev cX3_miscounted : ByteArray := prog_12_method_81_code
def yX3_miscounted : MethodName := ⟨RX3, "miscounted", "(IIII)I"⟩
def dkwX3_miscounted_6 : List UInt8 := [3, 54, 11, 21, 11, 154, 0, 6, 21, 6, 172, 132, 6, 1, 167, 255, 151, 16, 252, 172]
abbrev dktX3_miscounted_6 : List UInt8 := dkwX3_miscounted_6 ++ []
def dkwX3_miscounted_5 : List UInt8 := [153, 0, 24, 42, 22, 7, 136, 182, 0, 129, 184, 0, 96, 133, 22, 9, 148, 154, 0, 7, 4, 167, 0, 4]
abbrev dktX3_miscounted_5 : List UInt8 := dkwX3_miscounted_5 ++ dktX3_miscounted_6
def dkwX3_miscounted_4 : List UInt8 := [22, 7, 9, 20, 0, 63, 184, 0, 65, 153, 0, 37, 42, 180, 0, 73, 22, 7, 136, 184, 0, 69]
abbrev dktX3_miscounted_4 : List UInt8 := dkwX3_miscounted_4 ++ dktX3_miscounted_5
def dkwX3_miscounted_3 : List UInt8 := [96, 47, 55, 7, 42, 180, 0, 57, 16, 36, 27, 104, 29, 96, 5, 21, 6, 104, 96, 4, 96, 47, 55, 9]
abbrev dktX3_miscounted_3 : List UInt8 := dkwX3_miscounted_3 ++ dktX3_miscounted_4
def dkwX3_miscounted_2 : List UInt8 := [3, 54, 6, 21, 6, 21, 4, 162, 0, 104, 42, 180, 0, 57, 16, 36, 27, 104, 29, 96, 5, 21, 6, 104]
abbrev dktX3_miscounted_2 : List UInt8 := dkwX3_miscounted_2 ++ dktX3_miscounted_3
def dkwX3_miscounted_1 : List UInt8 := [27, 28, 29, 5, 21, 4, 104, 182, 1, 53, 54, 5, 21, 5, 156, 0, 6, 21, 5, 172, 42, 182, 0, 158]
abbrev dktX3_miscounted_1 : List UInt8 := dkwX3_miscounted_1 ++ dktX3_miscounted_2
def dkwX3_miscounted_0 : List UInt8 := [27, 28, 184, 1, 49, 153, 0, 16, 21, 4, 133, 10, 20, 1, 61, 184, 0, 65, 154, 0, 5, 2, 172, 42]
abbrev dktX3_miscounted_0 : List UInt8 := dkwX3_miscounted_0 ++ dktX3_miscounted_1
theorem dksX3_miscounted_0 : cX3_miscounted.data.toList.drop 0 = dktX3_miscounted_0 := by decide +kernel
theorem dksX3_miscounted_1 : cX3_miscounted.data.toList.drop 24 = dktX3_miscounted_1 := dk_seg dksX3_miscounted_0 24 rfl rfl
theorem dksX3_miscounted_2 : cX3_miscounted.data.toList.drop 48 = dktX3_miscounted_2 := dk_seg dksX3_miscounted_1 24 rfl rfl
theorem dksX3_miscounted_3 : cX3_miscounted.data.toList.drop 72 = dktX3_miscounted_3 := dk_seg dksX3_miscounted_2 24 rfl rfl
theorem dksX3_miscounted_4 : cX3_miscounted.data.toList.drop 96 = dktX3_miscounted_4 := dk_seg dksX3_miscounted_3 24 rfl rfl
theorem dksX3_miscounted_5 : cX3_miscounted.data.toList.drop 118 = dktX3_miscounted_5 := dk_seg dksX3_miscounted_4 22 rfl rfl
theorem dksX3_miscounted_6 : cX3_miscounted.data.toList.drop 142 = dktX3_miscounted_6 := dk_seg dksX3_miscounted_5 24 rfl rfl
theorem dX3_miscounted_0 : decode cX3_miscounted 0 = .ok (.iload_n 1, 1) := dk_27 (dk_at dksX3_miscounted_0 0 rfl rfl)
theorem dX3_miscounted_1 : decode cX3_miscounted 1 = .ok (.iload_n 2, 1) := dk_28 (dk_at dksX3_miscounted_0 1 rfl rfl)
theorem dX3_miscounted_2 : decode cX3_miscounted 2 = .ok (.invokestatic 305, 3) := dk_184 1 49 (dk_at dksX3_miscounted_0 2 rfl rfl)
theorem dX3_miscounted_5 : decode cX3_miscounted 5 = .ok (.ifCond .eq 16, 3) := dk_153 0 16 (dk_at dksX3_miscounted_0 5 rfl rfl)
theorem dX3_miscounted_8 : decode cX3_miscounted 8 = .ok (.iload 4, 2) := dk_21 4 (dk_at dksX3_miscounted_0 8 rfl rfl)
theorem dX3_miscounted_10 : decode cX3_miscounted 10 = .ok (.i2l, 1) := dk_133 (dk_at dksX3_miscounted_0 10 rfl rfl)
theorem dX3_miscounted_11 : decode cX3_miscounted 11 = .ok (.lconst 1, 1) := dk_10 (dk_at dksX3_miscounted_0 11 rfl rfl)
theorem dX3_miscounted_12 : decode cX3_miscounted 12 = .ok (.ldc2_w 317, 3) := dk_20 1 61 (dk_at dksX3_miscounted_0 12 rfl rfl)
theorem dX3_miscounted_15 : decode cX3_miscounted 15 = .ok (.invokestatic 65, 3) := dk_184 0 65 (dk_at dksX3_miscounted_0 15 rfl rfl)
theorem dX3_miscounted_18 : decode cX3_miscounted 18 = .ok (.ifCond .ne 5, 3) := dk_154 0 5 (dk_at dksX3_miscounted_0 18 rfl rfl)
theorem dX3_miscounted_21 : decode cX3_miscounted 21 = .ok (.iconst (-1), 1) := dk_2 (dk_at dksX3_miscounted_0 21 rfl rfl)
theorem dX3_miscounted_22 : decode cX3_miscounted 22 = .ok (.ireturn, 1) := dk_172 (dk_at dksX3_miscounted_0 22 rfl rfl)
theorem dX3_miscounted_23 : decode cX3_miscounted 23 = .ok (.aload_n 0, 1) := dk_42 (dk_at dksX3_miscounted_0 23 rfl rfl)
theorem dX3_miscounted_24 : decode cX3_miscounted 24 = .ok (.iload_n 1, 1) := dk_27 (dk_at dksX3_miscounted_1 0 rfl rfl)
theorem dX3_miscounted_25 : decode cX3_miscounted 25 = .ok (.iload_n 2, 1) := dk_28 (dk_at dksX3_miscounted_1 1 rfl rfl)
theorem dX3_miscounted_26 : decode cX3_miscounted 26 = .ok (.iload_n 3, 1) := dk_29 (dk_at dksX3_miscounted_1 2 rfl rfl)
theorem dX3_miscounted_27 : decode cX3_miscounted 27 = .ok (.iconst 2, 1) := dk_5 (dk_at dksX3_miscounted_1 3 rfl rfl)
theorem dX3_miscounted_28 : decode cX3_miscounted 28 = .ok (.iload 4, 2) := dk_21 4 (dk_at dksX3_miscounted_1 4 rfl rfl)
theorem dX3_miscounted_30 : decode cX3_miscounted 30 = .ok (.imul, 1) := dk_104 (dk_at dksX3_miscounted_1 6 rfl rfl)
theorem dX3_miscounted_31 : decode cX3_miscounted 31 = .ok (.invokevirtual 309, 3) := dk_182 1 53 (dk_at dksX3_miscounted_1 7 rfl rfl)
theorem dX3_miscounted_34 : decode cX3_miscounted 34 = .ok (.istore 5, 2) := dk_54 5 (dk_at dksX3_miscounted_1 10 rfl rfl)
theorem dX3_miscounted_36 : decode cX3_miscounted 36 = .ok (.iload 5, 2) := dk_21 5 (dk_at dksX3_miscounted_1 12 rfl rfl)
theorem dX3_miscounted_38 : decode cX3_miscounted 38 = .ok (.ifCond .ge 6, 3) := dk_156 0 6 (dk_at dksX3_miscounted_1 14 rfl rfl)
theorem dX3_miscounted_41 : decode cX3_miscounted 41 = .ok (.iload 5, 2) := dk_21 5 (dk_at dksX3_miscounted_1 17 rfl rfl)
theorem dX3_miscounted_43 : decode cX3_miscounted 43 = .ok (.ireturn, 1) := dk_172 (dk_at dksX3_miscounted_1 19 rfl rfl)
theorem dX3_miscounted_44 : decode cX3_miscounted 44 = .ok (.aload_n 0, 1) := dk_42 (dk_at dksX3_miscounted_1 20 rfl rfl)
theorem dX3_miscounted_45 : decode cX3_miscounted 45 = .ok (.invokevirtual 158, 3) := dk_182 0 158 (dk_at dksX3_miscounted_1 21 rfl rfl)
theorem dX3_miscounted_48 : decode cX3_miscounted 48 = .ok (.iconst 0, 1) := dk_3 (dk_at dksX3_miscounted_2 0 rfl rfl)
theorem dX3_miscounted_49 : decode cX3_miscounted 49 = .ok (.istore 6, 2) := dk_54 6 (dk_at dksX3_miscounted_2 1 rfl rfl)
theorem dX3_miscounted_51 : decode cX3_miscounted 51 = .ok (.iload 6, 2) := dk_21 6 (dk_at dksX3_miscounted_2 3 rfl rfl)
theorem dX3_miscounted_53 : decode cX3_miscounted 53 = .ok (.iload 4, 2) := dk_21 4 (dk_at dksX3_miscounted_2 5 rfl rfl)
theorem dX3_miscounted_55 : decode cX3_miscounted 55 = .ok (.if_icmp .ge 104, 3) := dk_162 0 104 (dk_at dksX3_miscounted_2 7 rfl rfl)
theorem dX3_miscounted_58 : decode cX3_miscounted 58 = .ok (.aload_n 0, 1) := dk_42 (dk_at dksX3_miscounted_2 10 rfl rfl)
theorem dX3_miscounted_59 : decode cX3_miscounted 59 = .ok (.getfield 57, 3) := dk_180 0 57 (dk_at dksX3_miscounted_2 11 rfl rfl)
theorem dX3_miscounted_62 : decode cX3_miscounted 62 = .ok (.bipush 36, 2) := dk_16 36 (dk_at dksX3_miscounted_2 14 rfl rfl)
theorem dX3_miscounted_64 : decode cX3_miscounted 64 = .ok (.iload_n 1, 1) := dk_27 (dk_at dksX3_miscounted_2 16 rfl rfl)
theorem dX3_miscounted_65 : decode cX3_miscounted 65 = .ok (.imul, 1) := dk_104 (dk_at dksX3_miscounted_2 17 rfl rfl)
theorem dX3_miscounted_66 : decode cX3_miscounted 66 = .ok (.iload_n 3, 1) := dk_29 (dk_at dksX3_miscounted_2 18 rfl rfl)
theorem dX3_miscounted_67 : decode cX3_miscounted 67 = .ok (.iadd, 1) := dk_96 (dk_at dksX3_miscounted_2 19 rfl rfl)
theorem dX3_miscounted_68 : decode cX3_miscounted 68 = .ok (.iconst 2, 1) := dk_5 (dk_at dksX3_miscounted_2 20 rfl rfl)
theorem dX3_miscounted_69 : decode cX3_miscounted 69 = .ok (.iload 6, 2) := dk_21 6 (dk_at dksX3_miscounted_2 21 rfl rfl)
theorem dX3_miscounted_71 : decode cX3_miscounted 71 = .ok (.imul, 1) := dk_104 (dk_at dksX3_miscounted_2 23 rfl rfl)
theorem dX3_miscounted_72 : decode cX3_miscounted 72 = .ok (.iadd, 1) := dk_96 (dk_at dksX3_miscounted_3 0 rfl rfl)
theorem dX3_miscounted_73 : decode cX3_miscounted 73 = .ok (.laload, 1) := dk_47 (dk_at dksX3_miscounted_3 1 rfl rfl)
theorem dX3_miscounted_74 : decode cX3_miscounted 74 = .ok (.lstore 7, 2) := dk_55 7 (dk_at dksX3_miscounted_3 2 rfl rfl)
theorem dX3_miscounted_76 : decode cX3_miscounted 76 = .ok (.aload_n 0, 1) := dk_42 (dk_at dksX3_miscounted_3 4 rfl rfl)
theorem dX3_miscounted_77 : decode cX3_miscounted 77 = .ok (.getfield 57, 3) := dk_180 0 57 (dk_at dksX3_miscounted_3 5 rfl rfl)
theorem dX3_miscounted_80 : decode cX3_miscounted 80 = .ok (.bipush 36, 2) := dk_16 36 (dk_at dksX3_miscounted_3 8 rfl rfl)
theorem dX3_miscounted_82 : decode cX3_miscounted 82 = .ok (.iload_n 1, 1) := dk_27 (dk_at dksX3_miscounted_3 10 rfl rfl)
theorem dX3_miscounted_83 : decode cX3_miscounted 83 = .ok (.imul, 1) := dk_104 (dk_at dksX3_miscounted_3 11 rfl rfl)
theorem dX3_miscounted_84 : decode cX3_miscounted 84 = .ok (.iload_n 3, 1) := dk_29 (dk_at dksX3_miscounted_3 12 rfl rfl)
theorem dX3_miscounted_85 : decode cX3_miscounted 85 = .ok (.iadd, 1) := dk_96 (dk_at dksX3_miscounted_3 13 rfl rfl)
theorem dX3_miscounted_86 : decode cX3_miscounted 86 = .ok (.iconst 2, 1) := dk_5 (dk_at dksX3_miscounted_3 14 rfl rfl)
theorem dX3_miscounted_87 : decode cX3_miscounted 87 = .ok (.iload 6, 2) := dk_21 6 (dk_at dksX3_miscounted_3 15 rfl rfl)
theorem dX3_miscounted_89 : decode cX3_miscounted 89 = .ok (.imul, 1) := dk_104 (dk_at dksX3_miscounted_3 17 rfl rfl)
theorem dX3_miscounted_90 : decode cX3_miscounted 90 = .ok (.iadd, 1) := dk_96 (dk_at dksX3_miscounted_3 18 rfl rfl)
theorem dX3_miscounted_91 : decode cX3_miscounted 91 = .ok (.iconst 1, 1) := dk_4 (dk_at dksX3_miscounted_3 19 rfl rfl)
theorem dX3_miscounted_92 : decode cX3_miscounted 92 = .ok (.iadd, 1) := dk_96 (dk_at dksX3_miscounted_3 20 rfl rfl)
theorem dX3_miscounted_93 : decode cX3_miscounted 93 = .ok (.laload, 1) := dk_47 (dk_at dksX3_miscounted_3 21 rfl rfl)
theorem dX3_miscounted_94 : decode cX3_miscounted 94 = .ok (.lstore 9, 2) := dk_55 9 (dk_at dksX3_miscounted_3 22 rfl rfl)
theorem dX3_miscounted_96 : decode cX3_miscounted 96 = .ok (.lload 7, 2) := dk_22 7 (dk_at dksX3_miscounted_4 0 rfl rfl)
theorem dX3_miscounted_98 : decode cX3_miscounted 98 = .ok (.lconst 0, 1) := dk_9 (dk_at dksX3_miscounted_4 2 rfl rfl)
theorem dX3_miscounted_99 : decode cX3_miscounted 99 = .ok (.ldc2_w 63, 3) := dk_20 0 63 (dk_at dksX3_miscounted_4 3 rfl rfl)
theorem dX3_miscounted_102 : decode cX3_miscounted 102 = .ok (.invokestatic 65, 3) := dk_184 0 65 (dk_at dksX3_miscounted_4 6 rfl rfl)
theorem dX3_miscounted_105 : decode cX3_miscounted 105 = .ok (.ifCond .eq 37, 3) := dk_153 0 37 (dk_at dksX3_miscounted_4 9 rfl rfl)
theorem dX3_miscounted_108 : decode cX3_miscounted 108 = .ok (.aload_n 0, 1) := dk_42 (dk_at dksX3_miscounted_4 12 rfl rfl)
theorem dX3_miscounted_109 : decode cX3_miscounted 109 = .ok (.getfield 73, 3) := dk_180 0 73 (dk_at dksX3_miscounted_4 13 rfl rfl)
theorem dX3_miscounted_112 : decode cX3_miscounted 112 = .ok (.lload 7, 2) := dk_22 7 (dk_at dksX3_miscounted_4 16 rfl rfl)
theorem dX3_miscounted_114 : decode cX3_miscounted 114 = .ok (.l2i, 1) := dk_136 (dk_at dksX3_miscounted_4 18 rfl rfl)
theorem dX3_miscounted_115 : decode cX3_miscounted 115 = .ok (.invokestatic 69, 3) := dk_184 0 69 (dk_at dksX3_miscounted_4 19 rfl rfl)
theorem dX3_miscounted_118 : decode cX3_miscounted 118 = .ok (.ifCond .eq 24, 3) := dk_153 0 24 (dk_at dksX3_miscounted_5 0 rfl rfl)
theorem dX3_miscounted_121 : decode cX3_miscounted 121 = .ok (.aload_n 0, 1) := dk_42 (dk_at dksX3_miscounted_5 3 rfl rfl)
theorem dX3_miscounted_122 : decode cX3_miscounted 122 = .ok (.lload 7, 2) := dk_22 7 (dk_at dksX3_miscounted_5 4 rfl rfl)
theorem dX3_miscounted_124 : decode cX3_miscounted 124 = .ok (.l2i, 1) := dk_136 (dk_at dksX3_miscounted_5 6 rfl rfl)
theorem dX3_miscounted_125 : decode cX3_miscounted 125 = .ok (.invokevirtual 129, 3) := dk_182 0 129 (dk_at dksX3_miscounted_5 7 rfl rfl)
theorem dX3_miscounted_128 : decode cX3_miscounted 128 = .ok (.invokestatic 96, 3) := dk_184 0 96 (dk_at dksX3_miscounted_5 10 rfl rfl)
theorem dX3_miscounted_131 : decode cX3_miscounted 131 = .ok (.i2l, 1) := dk_133 (dk_at dksX3_miscounted_5 13 rfl rfl)
theorem dX3_miscounted_132 : decode cX3_miscounted 132 = .ok (.lload 9, 2) := dk_22 9 (dk_at dksX3_miscounted_5 14 rfl rfl)
theorem dX3_miscounted_134 : decode cX3_miscounted 134 = .ok (.lcmp, 1) := dk_148 (dk_at dksX3_miscounted_5 16 rfl rfl)
theorem dX3_miscounted_135 : decode cX3_miscounted 135 = .ok (.ifCond .ne 7, 3) := dk_154 0 7 (dk_at dksX3_miscounted_5 17 rfl rfl)
theorem dX3_miscounted_138 : decode cX3_miscounted 138 = .ok (.iconst 1, 1) := dk_4 (dk_at dksX3_miscounted_5 20 rfl rfl)
theorem dX3_miscounted_139 : decode cX3_miscounted 139 = .ok (.goto 4, 3) := dk_167 0 4 (dk_at dksX3_miscounted_5 21 rfl rfl)
theorem dX3_miscounted_142 : decode cX3_miscounted 142 = .ok (.iconst 0, 1) := dk_3 (dk_at dksX3_miscounted_6 0 rfl rfl)
theorem dX3_miscounted_143 : decode cX3_miscounted 143 = .ok (.istore 11, 2) := dk_54 11 (dk_at dksX3_miscounted_6 1 rfl rfl)
theorem dX3_miscounted_145 : decode cX3_miscounted 145 = .ok (.iload 11, 2) := dk_21 11 (dk_at dksX3_miscounted_6 3 rfl rfl)
theorem dX3_miscounted_147 : decode cX3_miscounted 147 = .ok (.ifCond .ne 6, 3) := dk_154 0 6 (dk_at dksX3_miscounted_6 5 rfl rfl)
theorem dX3_miscounted_150 : decode cX3_miscounted 150 = .ok (.iload 6, 2) := dk_21 6 (dk_at dksX3_miscounted_6 8 rfl rfl)
theorem dX3_miscounted_152 : decode cX3_miscounted 152 = .ok (.ireturn, 1) := dk_172 (dk_at dksX3_miscounted_6 10 rfl rfl)
theorem dX3_miscounted_153 : decode cX3_miscounted 153 = .ok (.iinc 6 1, 3) := dk_132 6 1 (dk_at dksX3_miscounted_6 11 rfl rfl)
theorem dX3_miscounted_156 : decode cX3_miscounted 156 = .ok (.goto (-105), 3) := dk_167 255 151 (dk_at dksX3_miscounted_6 14 rfl rfl)
theorem dX3_miscounted_159 : decode cX3_miscounted 159 = .ok (.bipush (-4), 2) := dk_16 252 (dk_at dksX3_miscounted_6 17 rfl rfl)
theorem dX3_miscounted_161 : decode cX3_miscounted 161 = .ok (.ireturn, 1) := dk_172 (dk_at dksX3_miscounted_6 19 rfl rfl)
abbrev cX3_copy : ByteArray := prog_12_method_82_code
def yX3_copy : MethodName := ⟨RX3, "copy", "(IIIII)I"⟩
def dkwX3_copy_8 : List UInt8 := [172]
abbrev dktX3_copy_8 : List UInt8 := dkwX3_copy_8 ++ []
def dkwX3_copy_7 : List UInt8 := [29, 104, 21, 4, 96, 21, 6, 96, 42, 180, 0, 60, 21, 6, 47, 80, 132, 6, 1, 167, 255, 224, 21, 5]
abbrev dktX3_copy_7 : List UInt8 := dkwX3_copy_7 ++ dktX3_copy_8
def dkwX3_copy_6 : List UInt8 := [47, 80, 132, 6, 1, 167, 255, 225, 3, 54, 6, 21, 6, 21, 5, 162, 0, 31, 42, 180, 0, 57, 16, 36]
abbrev dktX3_copy_6 : List UInt8 := dkwX3_copy_6 ++ dktX3_copy_7
def dkwX3_copy_5 : List UInt8 := [21, 5, 162, 0, 30, 42, 180, 0, 60, 21, 6, 42, 180, 0, 57, 16, 36, 27, 104, 28, 96, 21, 6, 96]
abbrev dktX3_copy_5 : List UInt8 := dkwX3_copy_5 ++ dktX3_copy_6
def dkwX3_copy_4 : List UInt8 := [180, 0, 54, 29, 46, 133, 21, 5, 133, 101, 184, 0, 65, 154, 0, 6, 16, 243, 172, 3, 54, 6, 21, 6]
abbrev dktX3_copy_4 : List UInt8 := dkwX3_copy_4 ++ dktX3_copy_5
def dkwX3_copy_3 : List UInt8 := [9, 42, 180, 0, 54, 27, 46, 133, 21, 5, 133, 101, 184, 0, 65, 153, 0, 24, 21, 4, 133, 9, 42]
abbrev dktX3_copy_3 : List UInt8 := dkwX3_copy_3 ++ dktX3_copy_4
def dkwX3_copy_2 : List UInt8 := [180, 0, 51, 27, 46, 42, 180, 0, 51, 29, 46, 159, 0, 6, 16, 244, 172, 21, 5, 155, 0, 44, 28, 133]
abbrev dktX3_copy_2 : List UInt8 := dkwX3_copy_2 ++ dktX3_copy_3
def dkwX3_copy_1 : List UInt8 := [2, 172, 42, 180, 0, 51, 27, 46, 155, 0, 12, 42, 180, 0, 51, 29, 46, 156, 0, 6, 16, 245, 172, 42]
abbrev dktX3_copy_1 : List UInt8 := dkwX3_copy_1 ++ dktX3_copy_2
def dkwX3_copy_0 : List UInt8 := [27, 133, 9, 20, 0, 243, 184, 0, 65, 153, 0, 15, 29, 133, 9, 20, 0, 243, 184, 0, 65, 154, 0, 5]
abbrev dktX3_copy_0 : List UInt8 := dkwX3_copy_0 ++ dktX3_copy_1
theorem dksX3_copy_0 : cX3_copy.data.toList.drop 0 = dktX3_copy_0 := by decide +kernel
theorem dksX3_copy_1 : cX3_copy.data.toList.drop 24 = dktX3_copy_1 := dk_seg dksX3_copy_0 24 rfl rfl
theorem dksX3_copy_2 : cX3_copy.data.toList.drop 48 = dktX3_copy_2 := dk_seg dksX3_copy_1 24 rfl rfl
theorem dksX3_copy_3 : cX3_copy.data.toList.drop 72 = dktX3_copy_3 := dk_seg dksX3_copy_2 24 rfl rfl
theorem dksX3_copy_4 : cX3_copy.data.toList.drop 95 = dktX3_copy_4 := dk_seg dksX3_copy_3 23 rfl rfl
theorem dksX3_copy_5 : cX3_copy.data.toList.drop 119 = dktX3_copy_5 := dk_seg dksX3_copy_4 24 rfl rfl
theorem dksX3_copy_6 : cX3_copy.data.toList.drop 143 = dktX3_copy_6 := dk_seg dksX3_copy_5 24 rfl rfl
theorem dksX3_copy_7 : cX3_copy.data.toList.drop 167 = dktX3_copy_7 := dk_seg dksX3_copy_6 24 rfl rfl
theorem dksX3_copy_8 : cX3_copy.data.toList.drop 191 = dktX3_copy_8 := dk_seg dksX3_copy_7 24 rfl rfl
theorem dX3_copy_0 : decode cX3_copy 0 = .ok (.iload_n 1, 1) := dk_27 (dk_at dksX3_copy_0 0 rfl rfl)
theorem dX3_copy_1 : decode cX3_copy 1 = .ok (.i2l, 1) := dk_133 (dk_at dksX3_copy_0 1 rfl rfl)
theorem dX3_copy_2 : decode cX3_copy 2 = .ok (.lconst 0, 1) := dk_9 (dk_at dksX3_copy_0 2 rfl rfl)
theorem dX3_copy_3 : decode cX3_copy 3 = .ok (.ldc2_w 243, 3) := dk_20 0 243 (dk_at dksX3_copy_0 3 rfl rfl)
theorem dX3_copy_6 : decode cX3_copy 6 = .ok (.invokestatic 65, 3) := dk_184 0 65 (dk_at dksX3_copy_0 6 rfl rfl)
theorem dX3_copy_9 : decode cX3_copy 9 = .ok (.ifCond .eq 15, 3) := dk_153 0 15 (dk_at dksX3_copy_0 9 rfl rfl)
theorem dX3_copy_12 : decode cX3_copy 12 = .ok (.iload_n 3, 1) := dk_29 (dk_at dksX3_copy_0 12 rfl rfl)
theorem dX3_copy_13 : decode cX3_copy 13 = .ok (.i2l, 1) := dk_133 (dk_at dksX3_copy_0 13 rfl rfl)
theorem dX3_copy_14 : decode cX3_copy 14 = .ok (.lconst 0, 1) := dk_9 (dk_at dksX3_copy_0 14 rfl rfl)
theorem dX3_copy_15 : decode cX3_copy 15 = .ok (.ldc2_w 243, 3) := dk_20 0 243 (dk_at dksX3_copy_0 15 rfl rfl)
theorem dX3_copy_18 : decode cX3_copy 18 = .ok (.invokestatic 65, 3) := dk_184 0 65 (dk_at dksX3_copy_0 18 rfl rfl)
theorem dX3_copy_21 : decode cX3_copy 21 = .ok (.ifCond .ne 5, 3) := dk_154 0 5 (dk_at dksX3_copy_0 21 rfl rfl)
theorem dX3_copy_24 : decode cX3_copy 24 = .ok (.iconst (-1), 1) := dk_2 (dk_at dksX3_copy_1 0 rfl rfl)
theorem dX3_copy_25 : decode cX3_copy 25 = .ok (.ireturn, 1) := dk_172 (dk_at dksX3_copy_1 1 rfl rfl)
theorem dX3_copy_26 : decode cX3_copy 26 = .ok (.aload_n 0, 1) := dk_42 (dk_at dksX3_copy_1 2 rfl rfl)
theorem dX3_copy_27 : decode cX3_copy 27 = .ok (.getfield 51, 3) := dk_180 0 51 (dk_at dksX3_copy_1 3 rfl rfl)
theorem dX3_copy_30 : decode cX3_copy 30 = .ok (.iload_n 1, 1) := dk_27 (dk_at dksX3_copy_1 6 rfl rfl)
theorem dX3_copy_31 : decode cX3_copy 31 = .ok (.iaload, 1) := dk_46 (dk_at dksX3_copy_1 7 rfl rfl)
theorem dX3_copy_32 : decode cX3_copy 32 = .ok (.ifCond .lt 12, 3) := dk_155 0 12 (dk_at dksX3_copy_1 8 rfl rfl)
theorem dX3_copy_35 : decode cX3_copy 35 = .ok (.aload_n 0, 1) := dk_42 (dk_at dksX3_copy_1 11 rfl rfl)
theorem dX3_copy_36 : decode cX3_copy 36 = .ok (.getfield 51, 3) := dk_180 0 51 (dk_at dksX3_copy_1 12 rfl rfl)
theorem dX3_copy_39 : decode cX3_copy 39 = .ok (.iload_n 3, 1) := dk_29 (dk_at dksX3_copy_1 15 rfl rfl)
theorem dX3_copy_40 : decode cX3_copy 40 = .ok (.iaload, 1) := dk_46 (dk_at dksX3_copy_1 16 rfl rfl)
theorem dX3_copy_41 : decode cX3_copy 41 = .ok (.ifCond .ge 6, 3) := dk_156 0 6 (dk_at dksX3_copy_1 17 rfl rfl)
theorem dX3_copy_44 : decode cX3_copy 44 = .ok (.bipush (-11), 2) := dk_16 245 (dk_at dksX3_copy_1 20 rfl rfl)
theorem dX3_copy_46 : decode cX3_copy 46 = .ok (.ireturn, 1) := dk_172 (dk_at dksX3_copy_1 22 rfl rfl)
theorem dX3_copy_47 : decode cX3_copy 47 = .ok (.aload_n 0, 1) := dk_42 (dk_at dksX3_copy_1 23 rfl rfl)
theorem dX3_copy_48 : decode cX3_copy 48 = .ok (.getfield 51, 3) := dk_180 0 51 (dk_at dksX3_copy_2 0 rfl rfl)
theorem dX3_copy_51 : decode cX3_copy 51 = .ok (.iload_n 1, 1) := dk_27 (dk_at dksX3_copy_2 3 rfl rfl)
theorem dX3_copy_52 : decode cX3_copy 52 = .ok (.iaload, 1) := dk_46 (dk_at dksX3_copy_2 4 rfl rfl)
theorem dX3_copy_53 : decode cX3_copy 53 = .ok (.aload_n 0, 1) := dk_42 (dk_at dksX3_copy_2 5 rfl rfl)
theorem dX3_copy_54 : decode cX3_copy 54 = .ok (.getfield 51, 3) := dk_180 0 51 (dk_at dksX3_copy_2 6 rfl rfl)
theorem dX3_copy_57 : decode cX3_copy 57 = .ok (.iload_n 3, 1) := dk_29 (dk_at dksX3_copy_2 9 rfl rfl)
theorem dX3_copy_58 : decode cX3_copy 58 = .ok (.iaload, 1) := dk_46 (dk_at dksX3_copy_2 10 rfl rfl)
theorem dX3_copy_59 : decode cX3_copy 59 = .ok (.if_icmp .eq 6, 3) := dk_159 0 6 (dk_at dksX3_copy_2 11 rfl rfl)
theorem dX3_copy_62 : decode cX3_copy 62 = .ok (.bipush (-12), 2) := dk_16 244 (dk_at dksX3_copy_2 14 rfl rfl)
theorem dX3_copy_64 : decode cX3_copy 64 = .ok (.ireturn, 1) := dk_172 (dk_at dksX3_copy_2 16 rfl rfl)
theorem dX3_copy_65 : decode cX3_copy 65 = .ok (.iload 5, 2) := dk_21 5 (dk_at dksX3_copy_2 17 rfl rfl)
theorem dX3_copy_67 : decode cX3_copy 67 = .ok (.ifCond .lt 44, 3) := dk_155 0 44 (dk_at dksX3_copy_2 19 rfl rfl)
theorem dX3_copy_70 : decode cX3_copy 70 = .ok (.iload_n 2, 1) := dk_28 (dk_at dksX3_copy_2 22 rfl rfl)
theorem dX3_copy_71 : decode cX3_copy 71 = .ok (.i2l, 1) := dk_133 (dk_at dksX3_copy_2 23 rfl rfl)
theorem dX3_copy_72 : decode cX3_copy 72 = .ok (.lconst 0, 1) := dk_9 (dk_at dksX3_copy_3 0 rfl rfl)
theorem dX3_copy_73 : decode cX3_copy 73 = .ok (.aload_n 0, 1) := dk_42 (dk_at dksX3_copy_3 1 rfl rfl)
theorem dX3_copy_74 : decode cX3_copy 74 = .ok (.getfield 54, 3) := dk_180 0 54 (dk_at dksX3_copy_3 2 rfl rfl)
theorem dX3_copy_77 : decode cX3_copy 77 = .ok (.iload_n 1, 1) := dk_27 (dk_at dksX3_copy_3 5 rfl rfl)
theorem dX3_copy_78 : decode cX3_copy 78 = .ok (.iaload, 1) := dk_46 (dk_at dksX3_copy_3 6 rfl rfl)
theorem dX3_copy_79 : decode cX3_copy 79 = .ok (.i2l, 1) := dk_133 (dk_at dksX3_copy_3 7 rfl rfl)
theorem dX3_copy_80 : decode cX3_copy 80 = .ok (.iload 5, 2) := dk_21 5 (dk_at dksX3_copy_3 8 rfl rfl)
theorem dX3_copy_82 : decode cX3_copy 82 = .ok (.i2l, 1) := dk_133 (dk_at dksX3_copy_3 10 rfl rfl)
theorem dX3_copy_83 : decode cX3_copy 83 = .ok (.lsub, 1) := dk_101 (dk_at dksX3_copy_3 11 rfl rfl)
theorem dX3_copy_84 : decode cX3_copy 84 = .ok (.invokestatic 65, 3) := dk_184 0 65 (dk_at dksX3_copy_3 12 rfl rfl)
theorem dX3_copy_87 : decode cX3_copy 87 = .ok (.ifCond .eq 24, 3) := dk_153 0 24 (dk_at dksX3_copy_3 15 rfl rfl)
theorem dX3_copy_90 : decode cX3_copy 90 = .ok (.iload 4, 2) := dk_21 4 (dk_at dksX3_copy_3 18 rfl rfl)
theorem dX3_copy_92 : decode cX3_copy 92 = .ok (.i2l, 1) := dk_133 (dk_at dksX3_copy_3 20 rfl rfl)
theorem dX3_copy_93 : decode cX3_copy 93 = .ok (.lconst 0, 1) := dk_9 (dk_at dksX3_copy_3 21 rfl rfl)
theorem dX3_copy_94 : decode cX3_copy 94 = .ok (.aload_n 0, 1) := dk_42 (dk_at dksX3_copy_3 22 rfl rfl)
theorem dX3_copy_95 : decode cX3_copy 95 = .ok (.getfield 54, 3) := dk_180 0 54 (dk_at dksX3_copy_4 0 rfl rfl)
theorem dX3_copy_98 : decode cX3_copy 98 = .ok (.iload_n 3, 1) := dk_29 (dk_at dksX3_copy_4 3 rfl rfl)
theorem dX3_copy_99 : decode cX3_copy 99 = .ok (.iaload, 1) := dk_46 (dk_at dksX3_copy_4 4 rfl rfl)
theorem dX3_copy_100 : decode cX3_copy 100 = .ok (.i2l, 1) := dk_133 (dk_at dksX3_copy_4 5 rfl rfl)
theorem dX3_copy_101 : decode cX3_copy 101 = .ok (.iload 5, 2) := dk_21 5 (dk_at dksX3_copy_4 6 rfl rfl)
theorem dX3_copy_103 : decode cX3_copy 103 = .ok (.i2l, 1) := dk_133 (dk_at dksX3_copy_4 8 rfl rfl)
theorem dX3_copy_104 : decode cX3_copy 104 = .ok (.lsub, 1) := dk_101 (dk_at dksX3_copy_4 9 rfl rfl)
theorem dX3_copy_105 : decode cX3_copy 105 = .ok (.invokestatic 65, 3) := dk_184 0 65 (dk_at dksX3_copy_4 10 rfl rfl)
theorem dX3_copy_108 : decode cX3_copy 108 = .ok (.ifCond .ne 6, 3) := dk_154 0 6 (dk_at dksX3_copy_4 13 rfl rfl)
theorem dX3_copy_111 : decode cX3_copy 111 = .ok (.bipush (-13), 2) := dk_16 243 (dk_at dksX3_copy_4 16 rfl rfl)
theorem dX3_copy_113 : decode cX3_copy 113 = .ok (.ireturn, 1) := dk_172 (dk_at dksX3_copy_4 18 rfl rfl)
theorem dX3_copy_114 : decode cX3_copy 114 = .ok (.iconst 0, 1) := dk_3 (dk_at dksX3_copy_4 19 rfl rfl)
theorem dX3_copy_115 : decode cX3_copy 115 = .ok (.istore 6, 2) := dk_54 6 (dk_at dksX3_copy_4 20 rfl rfl)
theorem dX3_copy_117 : decode cX3_copy 117 = .ok (.iload 6, 2) := dk_21 6 (dk_at dksX3_copy_4 22 rfl rfl)
theorem dX3_copy_119 : decode cX3_copy 119 = .ok (.iload 5, 2) := dk_21 5 (dk_at dksX3_copy_5 0 rfl rfl)
theorem dX3_copy_121 : decode cX3_copy 121 = .ok (.if_icmp .ge 30, 3) := dk_162 0 30 (dk_at dksX3_copy_5 2 rfl rfl)
theorem dX3_copy_124 : decode cX3_copy 124 = .ok (.aload_n 0, 1) := dk_42 (dk_at dksX3_copy_5 5 rfl rfl)
theorem dX3_copy_125 : decode cX3_copy 125 = .ok (.getfield 60, 3) := dk_180 0 60 (dk_at dksX3_copy_5 6 rfl rfl)
theorem dX3_copy_128 : decode cX3_copy 128 = .ok (.iload 6, 2) := dk_21 6 (dk_at dksX3_copy_5 9 rfl rfl)
theorem dX3_copy_130 : decode cX3_copy 130 = .ok (.aload_n 0, 1) := dk_42 (dk_at dksX3_copy_5 11 rfl rfl)
theorem dX3_copy_131 : decode cX3_copy 131 = .ok (.getfield 57, 3) := dk_180 0 57 (dk_at dksX3_copy_5 12 rfl rfl)
theorem dX3_copy_134 : decode cX3_copy 134 = .ok (.bipush 36, 2) := dk_16 36 (dk_at dksX3_copy_5 15 rfl rfl)
theorem dX3_copy_136 : decode cX3_copy 136 = .ok (.iload_n 1, 1) := dk_27 (dk_at dksX3_copy_5 17 rfl rfl)
theorem dX3_copy_137 : decode cX3_copy 137 = .ok (.imul, 1) := dk_104 (dk_at dksX3_copy_5 18 rfl rfl)
theorem dX3_copy_138 : decode cX3_copy 138 = .ok (.iload_n 2, 1) := dk_28 (dk_at dksX3_copy_5 19 rfl rfl)
theorem dX3_copy_139 : decode cX3_copy 139 = .ok (.iadd, 1) := dk_96 (dk_at dksX3_copy_5 20 rfl rfl)
theorem dX3_copy_140 : decode cX3_copy 140 = .ok (.iload 6, 2) := dk_21 6 (dk_at dksX3_copy_5 21 rfl rfl)
theorem dX3_copy_142 : decode cX3_copy 142 = .ok (.iadd, 1) := dk_96 (dk_at dksX3_copy_5 23 rfl rfl)
theorem dX3_copy_143 : decode cX3_copy 143 = .ok (.laload, 1) := dk_47 (dk_at dksX3_copy_6 0 rfl rfl)
theorem dX3_copy_144 : decode cX3_copy 144 = .ok (.lastore, 1) := dk_80 (dk_at dksX3_copy_6 1 rfl rfl)
theorem dX3_copy_145 : decode cX3_copy 145 = .ok (.iinc 6 1, 3) := dk_132 6 1 (dk_at dksX3_copy_6 2 rfl rfl)
theorem dX3_copy_148 : decode cX3_copy 148 = .ok (.goto (-31), 3) := dk_167 255 225 (dk_at dksX3_copy_6 5 rfl rfl)
theorem dX3_copy_151 : decode cX3_copy 151 = .ok (.iconst 0, 1) := dk_3 (dk_at dksX3_copy_6 8 rfl rfl)
theorem dX3_copy_152 : decode cX3_copy 152 = .ok (.istore 6, 2) := dk_54 6 (dk_at dksX3_copy_6 9 rfl rfl)
theorem dX3_copy_154 : decode cX3_copy 154 = .ok (.iload 6, 2) := dk_21 6 (dk_at dksX3_copy_6 11 rfl rfl)
theorem dX3_copy_156 : decode cX3_copy 156 = .ok (.iload 5, 2) := dk_21 5 (dk_at dksX3_copy_6 13 rfl rfl)
theorem dX3_copy_158 : decode cX3_copy 158 = .ok (.if_icmp .ge 31, 3) := dk_162 0 31 (dk_at dksX3_copy_6 15 rfl rfl)
theorem dX3_copy_161 : decode cX3_copy 161 = .ok (.aload_n 0, 1) := dk_42 (dk_at dksX3_copy_6 18 rfl rfl)
theorem dX3_copy_162 : decode cX3_copy 162 = .ok (.getfield 57, 3) := dk_180 0 57 (dk_at dksX3_copy_6 19 rfl rfl)
theorem dX3_copy_165 : decode cX3_copy 165 = .ok (.bipush 36, 2) := dk_16 36 (dk_at dksX3_copy_6 22 rfl rfl)
theorem dX3_copy_167 : decode cX3_copy 167 = .ok (.iload_n 3, 1) := dk_29 (dk_at dksX3_copy_7 0 rfl rfl)
theorem dX3_copy_168 : decode cX3_copy 168 = .ok (.imul, 1) := dk_104 (dk_at dksX3_copy_7 1 rfl rfl)
theorem dX3_copy_169 : decode cX3_copy 169 = .ok (.iload 4, 2) := dk_21 4 (dk_at dksX3_copy_7 2 rfl rfl)
theorem dX3_copy_171 : decode cX3_copy 171 = .ok (.iadd, 1) := dk_96 (dk_at dksX3_copy_7 4 rfl rfl)
theorem dX3_copy_172 : decode cX3_copy 172 = .ok (.iload 6, 2) := dk_21 6 (dk_at dksX3_copy_7 5 rfl rfl)
theorem dX3_copy_174 : decode cX3_copy 174 = .ok (.iadd, 1) := dk_96 (dk_at dksX3_copy_7 7 rfl rfl)
theorem dX3_copy_175 : decode cX3_copy 175 = .ok (.aload_n 0, 1) := dk_42 (dk_at dksX3_copy_7 8 rfl rfl)
theorem dX3_copy_176 : decode cX3_copy 176 = .ok (.getfield 60, 3) := dk_180 0 60 (dk_at dksX3_copy_7 9 rfl rfl)
theorem dX3_copy_179 : decode cX3_copy 179 = .ok (.iload 6, 2) := dk_21 6 (dk_at dksX3_copy_7 12 rfl rfl)
theorem dX3_copy_181 : decode cX3_copy 181 = .ok (.laload, 1) := dk_47 (dk_at dksX3_copy_7 14 rfl rfl)
theorem dX3_copy_182 : decode cX3_copy 182 = .ok (.lastore, 1) := dk_80 (dk_at dksX3_copy_7 15 rfl rfl)
theorem dX3_copy_183 : decode cX3_copy 183 = .ok (.iinc 6 1, 3) := dk_132 6 1 (dk_at dksX3_copy_7 16 rfl rfl)
theorem dX3_copy_186 : decode cX3_copy 186 = .ok (.goto (-32), 3) := dk_167 255 224 (dk_at dksX3_copy_7 19 rfl rfl)
theorem dX3_copy_189 : decode cX3_copy 189 = .ok (.iload 5, 2) := dk_21 5 (dk_at dksX3_copy_7 22 rfl rfl)
theorem dX3_copy_191 : decode cX3_copy 191 = .ok (.ireturn, 1) := dk_172 (dk_at dksX3_copy_8 0 rfl rfl)
theorem q60 : (Jvm.Cond.initialized "HoleCountyModel") ∈ lw_all := lw_g (lw_at lw_m1 7 rfl) rfl
theorem q193 : (Jvm.Cond.selects "HoleCountyModel" ({ cls := "java/lang/Object", name := "getClass", desc := "()Ljava/lang/Class;" } : Jvm.MethodName) ({ cls := "java/lang/Object", name := "getClass", desc := "()Ljava/lang/Class;" } : Jvm.MethodName)) ∈ lw_all := lw_g (lw_at lw_m1 140 rfl) rfl
theorem q1173 : (Jvm.Cond.instantiable "HoleCountyModel" (27 : Nat)) ∈ lw_all := lw_g (lw_at lw_m5 160 rfl) rfl
theorem q1175 : (Jvm.Cond.instanceMethod ({ cls := "HoleCountyModel", name := "<init>", desc := "()V" } : Jvm.MethodName)) ∈ lw_all := lw_g (lw_at lw_m5 162 rfl) rfl
theorem q1176 : (Jvm.Cond.code ({ cls := "HoleCountyModel", name := "<init>", desc := "()V" } : Jvm.MethodName) prog_12_method_1_code (2 : Nat) (Option.none : Option Jvm.ClassFile.FieldType)) ∈ lw_all := lw_g (lw_at lw_m5 163 rfl) rfl
theorem q1177 : (Jvm.Cond.methodLink "HoleCountyModel" (1 : Nat) ({ cls := "java/lang/Object", name := "<init>", desc := "()V" } : Jvm.MethodName)) ∈ lw_all := lw_g (lw_at lw_m5 164 rfl) rfl
theorem q1178 : (Jvm.Cond.fieldLink "HoleCountyModel" (7 : Nat) "HoleCountyModel" "depths" "[I") ∈ lw_all := lw_g (lw_at lw_m5 165 rfl) rfl
theorem q1179 : (Jvm.Cond.fieldLink "HoleCountyModel" (13 : Nat) "HoleCountyModel" "owners" "[I") ∈ lw_all := lw_g (lw_at lw_m5 166 rfl) rfl
theorem q1180 : (Jvm.Cond.fieldLink "HoleCountyModel" (114 : Nat) "HoleCountyModel" "roofs" "J") ∈ lw_all := lw_g (lw_at lw_m5 167 rfl) rfl
theorem q1181 : (Jvm.Cond.fieldLink "HoleCountyModel" (16 : Nat) "HoleCountyModel" "rate" "I") ∈ lw_all := lw_g (lw_at lw_m5 168 rfl) rfl
theorem q1182 : (Jvm.Cond.fieldLink "HoleCountyModel" (20 : Nat) "HoleCountyModel" "undos" "[I") ∈ lw_all := lw_g (lw_at lw_m5 169 rfl) rfl
theorem q1183 : (Jvm.Cond.fieldLink "HoleCountyModel" (139 : Nat) "HoleCountyModel" "undoMany" "I") ∈ lw_all := lw_g (lw_at lw_m5 170 rfl) rfl
theorem q1184 : (Jvm.Cond.fieldLink "HoleCountyModel" (23 : Nat) "HoleCountyModel" "drawn" "I") ∈ lw_all := lw_g (lw_at lw_m5 171 rfl) rfl
theorem q1185 : (Jvm.Cond.fieldLink "HoleCountyModel" (73 : Nat) "HoleCountyModel" "dug" "J") ∈ lw_all := lw_g (lw_at lw_m5 172 rfl) rfl
theorem q1186 : (Jvm.Cond.fieldLink "HoleCountyModel" (77 : Nat) "HoleCountyModel" "deep" "J") ∈ lw_all := lw_g (lw_at lw_m5 173 rfl) rfl
theorem q1187 : (Jvm.Cond.fieldLink "HoleCountyModel" (26 : Nat) "HoleCountyModel" "holes" "[J") ∈ lw_all := lw_g (lw_at lw_m5 174 rfl) rfl
theorem q1188 : (Jvm.Cond.fieldLink "HoleCountyModel" (123 : Nat) "HoleCountyModel" "holeMany" "I") ∈ lw_all := lw_g (lw_at lw_m5 175 rfl) rfl
theorem q1189 : (Jvm.Cond.fieldLink "HoleCountyModel" (30 : Nat) "HoleCountyModel" "tape" "[I") ∈ lw_all := lw_g (lw_at lw_m5 176 rfl) rfl
theorem q1190 : (Jvm.Cond.fieldLink "HoleCountyModel" (165 : Nat) "HoleCountyModel" "taped" "I") ∈ lw_all := lw_g (lw_at lw_m5 177 rfl) rfl
theorem q1191 : (Jvm.Cond.fieldLink "HoleCountyModel" (168 : Nat) "HoleCountyModel" "place" "I") ∈ lw_all := lw_g (lw_at lw_m5 178 rfl) rfl
theorem q1192 : (Jvm.Cond.fieldLink "HoleCountyModel" (197 : Nat) "HoleCountyModel" "reads" "I") ∈ lw_all := lw_g (lw_at lw_m5 179 rfl) rfl
theorem q1193 : (Jvm.Cond.fieldLink "HoleCountyModel" (33 : Nat) "HoleCountyModel" "read" "[I") ∈ lw_all := lw_g (lw_at lw_m5 180 rfl) rfl
theorem q1194 : (Jvm.Cond.fieldLink "HoleCountyModel" (36 : Nat) "HoleCountyModel" "row" "[I") ∈ lw_all := lw_g (lw_at lw_m5 181 rfl) rfl
theorem q1195 : (Jvm.Cond.fieldLink "HoleCountyModel" (39 : Nat) "HoleCountyModel" "order" "[I") ∈ lw_all := lw_g (lw_at lw_m5 182 rfl) rfl
theorem q1196 : (Jvm.Cond.fieldLink "HoleCountyModel" (42 : Nat) "HoleCountyModel" "bestOrder" "[I") ∈ lw_all := lw_g (lw_at lw_m5 183 rfl) rfl
theorem q1197 : (Jvm.Cond.fieldLink "HoleCountyModel" (45 : Nat) "HoleCountyModel" "nears" "[I") ∈ lw_all := lw_g (lw_at lw_m5 184 rfl) rfl
theorem q1198 : (Jvm.Cond.fieldLink "HoleCountyModel" (301 : Nat) "HoleCountyModel" "isKept" "Z") ∈ lw_all := lw_g (lw_at lw_m5 185 rfl) rfl
theorem q1199 : (Jvm.Cond.fieldLink "HoleCountyModel" (298 : Nat) "HoleCountyModel" "keptRoofs" "J") ∈ lw_all := lw_g (lw_at lw_m5 186 rfl) rfl
theorem q1200 : (Jvm.Cond.fieldLink "HoleCountyModel" (48 : Nat) "HoleCountyModel" "kept" "[I") ∈ lw_all := lw_g (lw_at lw_m5 187 rfl) rfl
theorem q1201 : (Jvm.Cond.fieldLink "HoleCountyModel" (51 : Nat) "HoleCountyModel" "lanes" "[I") ∈ lw_all := lw_g (lw_at lw_m5 188 rfl) rfl
theorem q1202 : (Jvm.Cond.fieldLink "HoleCountyModel" (54 : Nat) "HoleCountyModel" "rowSizes" "[I") ∈ lw_all := lw_g (lw_at lw_m5 189 rfl) rfl
theorem q1203 : (Jvm.Cond.fieldLink "HoleCountyModel" (57 : Nat) "HoleCountyModel" "items" "[J") ∈ lw_all := lw_g (lw_at lw_m5 190 rfl) rfl
theorem q1204 : (Jvm.Cond.fieldLink "HoleCountyModel" (60 : Nat) "HoleCountyModel" "moved" "[J") ∈ lw_all := lw_g (lw_at lw_m5 191 rfl) rfl
theorem q1205 : (Jvm.Cond.laysFinal "HoleCountyModel" "HoleCountyModel" "depths" "[I") ∈ lw_all := lw_g (lw_at lw_m5 192 rfl) rfl
theorem q1206 : (Jvm.Cond.soleField "HoleCountyModel" "depths") ∈ lw_all := lw_g (lw_at lw_m5 193 rfl) rfl
theorem q1207 : (Jvm.Cond.laysFinal "HoleCountyModel" "HoleCountyModel" "owners" "[I") ∈ lw_all := lw_g (lw_at lw_m5 194 rfl) rfl
theorem q1208 : (Jvm.Cond.soleField "HoleCountyModel" "owners") ∈ lw_all := lw_g (lw_at lw_m5 195 rfl) rfl
theorem q1209 : (Jvm.Cond.lays "HoleCountyModel" "HoleCountyModel" "roofs" "J") ∈ lw_all := lw_g (lw_at lw_m5 196 rfl) rfl
theorem q1210 : (Jvm.Cond.soleField "HoleCountyModel" "roofs") ∈ lw_all := lw_g (lw_at lw_m5 197 rfl) rfl
theorem q1211 : (Jvm.Cond.lays "HoleCountyModel" "HoleCountyModel" "rate" "I") ∈ lw_all := lw_g (lw_at lw_m5 198 rfl) rfl
theorem q1212 : (Jvm.Cond.soleField "HoleCountyModel" "rate") ∈ lw_all := lw_g (lw_at lw_m5 199 rfl) rfl
theorem q1213 : (Jvm.Cond.laysFinal "HoleCountyModel" "HoleCountyModel" "undos" "[I") ∈ lw_all := lw_g (lw_at lw_m5 200 rfl) rfl
theorem q1214 : (Jvm.Cond.soleField "HoleCountyModel" "undos") ∈ lw_all := lw_g (lw_at lw_m5 201 rfl) rfl
theorem q1215 : (Jvm.Cond.lays "HoleCountyModel" "HoleCountyModel" "undoMany" "I") ∈ lw_all := lw_g (lw_at lw_m5 202 rfl) rfl
theorem q1216 : (Jvm.Cond.soleField "HoleCountyModel" "undoMany") ∈ lw_all := lw_g (lw_at lw_m5 203 rfl) rfl
theorem q1217 : (Jvm.Cond.lays "HoleCountyModel" "HoleCountyModel" "drawn" "I") ∈ lw_all := lw_g (lw_at lw_m5 204 rfl) rfl
theorem q1218 : (Jvm.Cond.soleField "HoleCountyModel" "drawn") ∈ lw_all := lw_g (lw_at lw_m5 205 rfl) rfl
theorem q1219 : (Jvm.Cond.lays "HoleCountyModel" "HoleCountyModel" "dug" "J") ∈ lw_all := lw_g (lw_at lw_m5 206 rfl) rfl
theorem q1220 : (Jvm.Cond.soleField "HoleCountyModel" "dug") ∈ lw_all := lw_g (lw_at lw_m5 207 rfl) rfl
theorem q1221 : (Jvm.Cond.lays "HoleCountyModel" "HoleCountyModel" "deep" "J") ∈ lw_all := lw_g (lw_at lw_m5 208 rfl) rfl
theorem q1222 : (Jvm.Cond.soleField "HoleCountyModel" "deep") ∈ lw_all := lw_g (lw_at lw_m5 209 rfl) rfl
theorem q1223 : (Jvm.Cond.laysFinal "HoleCountyModel" "HoleCountyModel" "holes" "[J") ∈ lw_all := lw_g (lw_at lw_m5 210 rfl) rfl
theorem q1224 : (Jvm.Cond.soleField "HoleCountyModel" "holes") ∈ lw_all := lw_g (lw_at lw_m5 211 rfl) rfl
theorem q1225 : (Jvm.Cond.lays "HoleCountyModel" "HoleCountyModel" "holeMany" "I") ∈ lw_all := lw_g (lw_at lw_m5 212 rfl) rfl
theorem q1226 : (Jvm.Cond.soleField "HoleCountyModel" "holeMany") ∈ lw_all := lw_g (lw_at lw_m5 213 rfl) rfl
theorem q1227 : (Jvm.Cond.laysFinal "HoleCountyModel" "HoleCountyModel" "tape" "[I") ∈ lw_all := lw_g (lw_at lw_m5 214 rfl) rfl
theorem q1228 : (Jvm.Cond.soleField "HoleCountyModel" "tape") ∈ lw_all := lw_g (lw_at lw_m5 215 rfl) rfl
theorem q1229 : (Jvm.Cond.lays "HoleCountyModel" "HoleCountyModel" "taped" "I") ∈ lw_all := lw_g (lw_at lw_m5 216 rfl) rfl
theorem q1230 : (Jvm.Cond.soleField "HoleCountyModel" "taped") ∈ lw_all := lw_g (lw_at lw_m5 217 rfl) rfl
theorem q1231 : (Jvm.Cond.lays "HoleCountyModel" "HoleCountyModel" "place" "I") ∈ lw_all := lw_g (lw_at lw_m5 218 rfl) rfl
theorem q1232 : (Jvm.Cond.soleField "HoleCountyModel" "place") ∈ lw_all := lw_g (lw_at lw_m5 219 rfl) rfl
theorem q1233 : (Jvm.Cond.lays "HoleCountyModel" "HoleCountyModel" "reads" "I") ∈ lw_all := lw_g (lw_at lw_m5 220 rfl) rfl
theorem q1234 : (Jvm.Cond.soleField "HoleCountyModel" "reads") ∈ lw_all := lw_g (lw_at lw_m5 221 rfl) rfl
theorem q1235 : (Jvm.Cond.laysFinal "HoleCountyModel" "HoleCountyModel" "read" "[I") ∈ lw_all := lw_g (lw_at lw_m5 222 rfl) rfl
theorem q1236 : (Jvm.Cond.soleField "HoleCountyModel" "read") ∈ lw_all := lw_g (lw_at lw_m5 223 rfl) rfl
theorem q1237 : (Jvm.Cond.laysFinal "HoleCountyModel" "HoleCountyModel" "row" "[I") ∈ lw_all := lw_g (lw_at lw_m5 224 rfl) rfl
theorem q1238 : (Jvm.Cond.soleField "HoleCountyModel" "row") ∈ lw_all := lw_g (lw_at lw_m5 225 rfl) rfl
theorem q1239 : (Jvm.Cond.laysFinal "HoleCountyModel" "HoleCountyModel" "order" "[I") ∈ lw_all := lw_g (lw_at lw_m5 226 rfl) rfl
theorem q1240 : (Jvm.Cond.soleField "HoleCountyModel" "order") ∈ lw_all := lw_g (lw_at lw_m5 227 rfl) rfl
theorem q1241 : (Jvm.Cond.laysFinal "HoleCountyModel" "HoleCountyModel" "bestOrder" "[I") ∈ lw_all := lw_g (lw_at lw_m5 228 rfl) rfl
theorem q1242 : (Jvm.Cond.soleField "HoleCountyModel" "bestOrder") ∈ lw_all := lw_g (lw_at lw_m5 229 rfl) rfl
theorem q1243 : (Jvm.Cond.laysFinal "HoleCountyModel" "HoleCountyModel" "nears" "[I") ∈ lw_all := lw_g (lw_at lw_m5 230 rfl) rfl
theorem q1244 : (Jvm.Cond.soleField "HoleCountyModel" "nears") ∈ lw_all := lw_g (lw_at lw_m5 231 rfl) rfl
theorem q1245 : (Jvm.Cond.lays "HoleCountyModel" "HoleCountyModel" "isKept" "Z") ∈ lw_all := lw_g (lw_at lw_m5 232 rfl) rfl
theorem q1246 : (Jvm.Cond.soleField "HoleCountyModel" "isKept") ∈ lw_all := lw_g (lw_at lw_m5 233 rfl) rfl
theorem q1247 : (Jvm.Cond.lays "HoleCountyModel" "HoleCountyModel" "keptRoofs" "J") ∈ lw_all := lw_g (lw_at lw_m5 234 rfl) rfl
theorem q1248 : (Jvm.Cond.soleField "HoleCountyModel" "keptRoofs") ∈ lw_all := lw_g (lw_at lw_m5 235 rfl) rfl
theorem q1249 : (Jvm.Cond.laysFinal "HoleCountyModel" "HoleCountyModel" "kept" "[I") ∈ lw_all := lw_g (lw_at lw_m5 236 rfl) rfl
theorem q1250 : (Jvm.Cond.soleField "HoleCountyModel" "kept") ∈ lw_all := lw_g (lw_at lw_m5 237 rfl) rfl
theorem q1251 : (Jvm.Cond.laysFinal "HoleCountyModel" "HoleCountyModel" "lanes" "[I") ∈ lw_all := lw_g (lw_at lw_m5 238 rfl) rfl
theorem q1252 : (Jvm.Cond.soleField "HoleCountyModel" "lanes") ∈ lw_all := lw_g (lw_at lw_m5 239 rfl) rfl
theorem q1253 : (Jvm.Cond.laysFinal "HoleCountyModel" "HoleCountyModel" "rowSizes" "[I") ∈ lw_all := lw_g (lw_at lw_m6 0 rfl) rfl
theorem q1254 : (Jvm.Cond.soleField "HoleCountyModel" "rowSizes") ∈ lw_all := lw_g (lw_at lw_m6 1 rfl) rfl
theorem q1255 : (Jvm.Cond.laysFinal "HoleCountyModel" "HoleCountyModel" "items" "[J") ∈ lw_all := lw_g (lw_at lw_m6 2 rfl) rfl
theorem q1256 : (Jvm.Cond.soleField "HoleCountyModel" "items") ∈ lw_all := lw_g (lw_at lw_m6 3 rfl) rfl
theorem q1257 : (Jvm.Cond.laysFinal "HoleCountyModel" "HoleCountyModel" "moved" "[J") ∈ lw_all := lw_g (lw_at lw_m6 4 rfl) rfl
theorem q1258 : (Jvm.Cond.soleField "HoleCountyModel" "moved") ∈ lw_all := lw_g (lw_at lw_m6 5 rfl) rfl
theorem q1259 : (Jvm.Cond.superclass "HoleCountyModel" "java/lang/Object") ∈ lw_all := lw_g (lw_at lw_m6 6 rfl) rfl
theorem q1261 : (Jvm.Cond.instanceMethod ({ cls := "HoleCountyModel", name := "dig", desc := "(I)I" } : Jvm.MethodName)) ∈ lw_all := lw_g (lw_at lw_m6 8 rfl) rfl
theorem q1262 : (Jvm.Cond.selects "HoleCountyModel" ({ cls := "HoleCountyModel", name := "dig", desc := "(I)I" } : Jvm.MethodName) ({ cls := "HoleCountyModel", name := "dig", desc := "(I)I" } : Jvm.MethodName)) ∈ lw_all := lw_g (lw_at lw_m6 9 rfl) rfl
theorem q1263 : (Jvm.Cond.code ({ cls := "HoleCountyModel", name := "dig", desc := "(I)I" } : Jvm.MethodName) prog_12_method_21_code (2 : Nat) (Option.some Jvm.ClassFile.FieldType.int)) ∈ lw_all := lw_g (lw_at lw_m6 10 rfl) rfl
theorem q1264 : (Jvm.Cond.methodLink "HoleCountyModel" (142 : Nat) ({ cls := "HoleCountyModel", name := "isCell", desc := "(I)Z" } : Jvm.MethodName)) ∈ lw_all := lw_g (lw_at lw_m6 11 rfl) rfl
theorem q1265 : (Jvm.Cond.static ({ cls := "HoleCountyModel", name := "isCell", desc := "(I)Z" } : Jvm.MethodName)) ∈ lw_all := lw_g (lw_at lw_m6 12 rfl) rfl
theorem q1266 : (Jvm.Cond.code ({ cls := "HoleCountyModel", name := "isCell", desc := "(I)Z" } : Jvm.MethodName) prog_12_method_3_code (1 : Nat) (Option.some Jvm.ClassFile.FieldType.boolean)) ∈ lw_all := lw_g (lw_at lw_m6 13 rfl) rfl
theorem q1267 : (Jvm.Cond.constantLong "HoleCountyModel" (63 : Nat) (35 : Int64)) ∈ lw_all := lw_g (lw_at lw_m6 14 rfl) rfl
theorem q1268 : (Jvm.Cond.methodLink "HoleCountyModel" (65 : Nat) ({ cls := "HoleCountyModel", name := "in", desc := "(JJJ)Z" } : Jvm.MethodName)) ∈ lw_all := lw_g (lw_at lw_m6 15 rfl) rfl
theorem q1269 : (Jvm.Cond.static ({ cls := "HoleCountyModel", name := "in", desc := "(JJJ)Z" } : Jvm.MethodName)) ∈ lw_all := lw_g (lw_at lw_m6 16 rfl) rfl
theorem q1270 : (Jvm.Cond.code ({ cls := "HoleCountyModel", name := "in", desc := "(JJJ)Z" } : Jvm.MethodName) prog_12_method_2_code (6 : Nat) (Option.some Jvm.ClassFile.FieldType.boolean)) ∈ lw_all := lw_g (lw_at lw_m6 17 rfl) rfl
theorem q1271 : (Jvm.Cond.methodLink "HoleCountyModel" (146 : Nat) ({ cls := "HoleCountyModel", name := "note", desc := "(I)V" } : Jvm.MethodName)) ∈ lw_all := lw_g (lw_at lw_m6 18 rfl) rfl
theorem q1272 : (Jvm.Cond.privateMethod ({ cls := "HoleCountyModel", name := "note", desc := "(I)V" } : Jvm.MethodName)) ∈ lw_tbl := lw_at lw_m6 19 rfl
theorem q1273 : (Jvm.Cond.instanceMethod ({ cls := "HoleCountyModel", name := "note", desc := "(I)V" } : Jvm.MethodName)) ∈ lw_all := lw_g (lw_at lw_m6 20 rfl) rfl
theorem q1274 : (Jvm.Cond.code ({ cls := "HoleCountyModel", name := "note", desc := "(I)V" } : Jvm.MethodName) prog_12_method_19_code (3 : Nat) (Option.none : Option Jvm.ClassFile.FieldType)) ∈ lw_all := lw_g (lw_at lw_m6 21 rfl) rfl
theorem q1275 : (Jvm.Cond.methodLink "HoleCountyModel" (69 : Nat) ({ cls := "HoleCountyModel", name := "has", desc := "(JI)Z" } : Jvm.MethodName)) ∈ lw_all := lw_g (lw_at lw_m6 22 rfl) rfl
theorem q1276 : (Jvm.Cond.static ({ cls := "HoleCountyModel", name := "has", desc := "(JI)Z" } : Jvm.MethodName)) ∈ lw_all := lw_g (lw_at lw_m6 23 rfl) rfl
theorem q1277 : (Jvm.Cond.code ({ cls := "HoleCountyModel", name := "has", desc := "(JI)Z" } : Jvm.MethodName) prog_12_method_4_code (3 : Nat) (Option.some Jvm.ClassFile.FieldType.boolean)) ∈ lw_all := lw_g (lw_at lw_m6 24 rfl) rfl
theorem q1279 : (Jvm.Cond.instanceMethod ({ cls := "HoleCountyModel", name := "fill", desc := "(I)I" } : Jvm.MethodName)) ∈ lw_all := lw_g (lw_at lw_m6 26 rfl) rfl
theorem q1280 : (Jvm.Cond.selects "HoleCountyModel" ({ cls := "HoleCountyModel", name := "fill", desc := "(I)I" } : Jvm.MethodName) ({ cls := "HoleCountyModel", name := "fill", desc := "(I)I" } : Jvm.MethodName)) ∈ lw_all := lw_g (lw_at lw_m6 27 rfl) rfl
theorem q1281 : (Jvm.Cond.code ({ cls := "HoleCountyModel", name := "fill", desc := "(I)I" } : Jvm.MethodName) prog_12_method_22_code (3 : Nat) (Option.some Jvm.ClassFile.FieldType.int)) ∈ lw_all := lw_g (lw_at lw_m6 28 rfl) rfl
theorem q1282 : (Jvm.Cond.methodLink "HoleCountyModel" (150 : Nat) ({ cls := "HoleCountyModel", name := "put", desc := "(IIZ)V" } : Jvm.MethodName)) ∈ lw_all := lw_g (lw_at lw_m6 29 rfl) rfl
theorem q1283 : (Jvm.Cond.privateMethod ({ cls := "HoleCountyModel", name := "put", desc := "(IIZ)V" } : Jvm.MethodName)) ∈ lw_tbl := lw_at lw_m6 30 rfl
theorem q1284 : (Jvm.Cond.instanceMethod ({ cls := "HoleCountyModel", name := "put", desc := "(IIZ)V" } : Jvm.MethodName)) ∈ lw_all := lw_g (lw_at lw_m6 31 rfl) rfl
theorem q1285 : (Jvm.Cond.code ({ cls := "HoleCountyModel", name := "put", desc := "(IIZ)V" } : Jvm.MethodName) prog_12_method_20_code (4 : Nat) (Option.none : Option Jvm.ClassFile.FieldType)) ∈ lw_all := lw_g (lw_at lw_m6 32 rfl) rfl
theorem q1286 : (Jvm.Cond.constantLong "HoleCountyModel" (94 : Nat) (-1 : Int64)) ∈ lw_all := lw_g (lw_at lw_m6 33 rfl) rfl
theorem q1288 : (Jvm.Cond.instanceMethod ({ cls := "HoleCountyModel", name := "roof", desc := "(I)I" } : Jvm.MethodName)) ∈ lw_all := lw_g (lw_at lw_m6 35 rfl) rfl
theorem q1289 : (Jvm.Cond.selects "HoleCountyModel" ({ cls := "HoleCountyModel", name := "roof", desc := "(I)I" } : Jvm.MethodName) ({ cls := "HoleCountyModel", name := "roof", desc := "(I)I" } : Jvm.MethodName)) ∈ lw_all := lw_g (lw_at lw_m6 36 rfl) rfl
theorem q1290 : (Jvm.Cond.code ({ cls := "HoleCountyModel", name := "roof", desc := "(I)I" } : Jvm.MethodName) prog_12_method_23_code (2 : Nat) (Option.some Jvm.ClassFile.FieldType.int)) ∈ lw_all := lw_g (lw_at lw_m6 37 rfl) rfl
theorem q1292 : (Jvm.Cond.instanceMethod ({ cls := "HoleCountyModel", name := "undo", desc := "()I" } : Jvm.MethodName)) ∈ lw_all := lw_g (lw_at lw_m6 39 rfl) rfl
theorem q1293 : (Jvm.Cond.selects "HoleCountyModel" ({ cls := "HoleCountyModel", name := "undo", desc := "()I" } : Jvm.MethodName) ({ cls := "HoleCountyModel", name := "undo", desc := "()I" } : Jvm.MethodName)) ∈ lw_all := lw_g (lw_at lw_m6 40 rfl) rfl
theorem q1294 : (Jvm.Cond.code ({ cls := "HoleCountyModel", name := "undo", desc := "()I" } : Jvm.MethodName) prog_12_method_24_code (1 : Nat) (Option.some Jvm.ClassFile.FieldType.int)) ∈ lw_all := lw_g (lw_at lw_m6 41 rfl) rfl
theorem q1296 : (Jvm.Cond.instanceMethod ({ cls := "HoleCountyModel", name := "own", desc := "(II)I" } : Jvm.MethodName)) ∈ lw_all := lw_g (lw_at lw_m6 43 rfl) rfl
theorem q1297 : (Jvm.Cond.selects "HoleCountyModel" ({ cls := "HoleCountyModel", name := "own", desc := "(II)I" } : Jvm.MethodName) ({ cls := "HoleCountyModel", name := "own", desc := "(II)I" } : Jvm.MethodName)) ∈ lw_all := lw_g (lw_at lw_m6 44 rfl) rfl
theorem q1298 : (Jvm.Cond.code ({ cls := "HoleCountyModel", name := "own", desc := "(II)I" } : Jvm.MethodName) prog_12_method_25_code (4 : Nat) (Option.some Jvm.ClassFile.FieldType.int)) ∈ lw_all := lw_g (lw_at lw_m6 45 rfl) rfl
theorem q1299 : (Jvm.Cond.constantLong "HoleCountyModel" (154 : Nat) (4 : Int64)) ∈ lw_all := lw_g (lw_at lw_m6 46 rfl) rfl
theorem q1301 : (Jvm.Cond.instanceMethod ({ cls := "HoleCountyModel", name := "rate", desc := "(I)I" } : Jvm.MethodName)) ∈ lw_all := lw_g (lw_at lw_m6 48 rfl) rfl
theorem q1302 : (Jvm.Cond.selects "HoleCountyModel" ({ cls := "HoleCountyModel", name := "rate", desc := "(I)I" } : Jvm.MethodName) ({ cls := "HoleCountyModel", name := "rate", desc := "(I)I" } : Jvm.MethodName)) ∈ lw_all := lw_g (lw_at lw_m6 49 rfl) rfl
theorem q1303 : (Jvm.Cond.code ({ cls := "HoleCountyModel", name := "rate", desc := "(I)I" } : Jvm.MethodName) prog_12_method_26_code (3 : Nat) (Option.some Jvm.ClassFile.FieldType.int)) ∈ lw_all := lw_g (lw_at lw_m6 50 rfl) rfl
theorem q1304 : (Jvm.Cond.constantLong "HoleCountyModel" (156 : Nat) (99 : Int64)) ∈ lw_all := lw_g (lw_at lw_m6 51 rfl) rfl
theorem q1306 : (Jvm.Cond.instanceMethod ({ cls := "HoleCountyModel", name := "told", desc := "(II)I" } : Jvm.MethodName)) ∈ lw_all := lw_g (lw_at lw_m6 53 rfl) rfl
theorem q1307 : (Jvm.Cond.selects "HoleCountyModel" ({ cls := "HoleCountyModel", name := "told", desc := "(II)I" } : Jvm.MethodName) ({ cls := "HoleCountyModel", name := "told", desc := "(II)I" } : Jvm.MethodName)) ∈ lw_all := lw_g (lw_at lw_m6 54 rfl) rfl
theorem q1308 : (Jvm.Cond.code ({ cls := "HoleCountyModel", name := "told", desc := "(II)I" } : Jvm.MethodName) prog_12_method_27_code (3 : Nat) (Option.some Jvm.ClassFile.FieldType.int)) ∈ lw_all := lw_g (lw_at lw_m6 55 rfl) rfl
theorem q1309 : (Jvm.Cond.methodLink "HoleCountyModel" (158 : Nat) ({ cls := "HoleCountyModel", name := "look", desc := "()V" } : Jvm.MethodName)) ∈ lw_all := lw_g (lw_at lw_m6 56 rfl) rfl
theorem q1310 : (Jvm.Cond.privateMethod ({ cls := "HoleCountyModel", name := "look", desc := "()V" } : Jvm.MethodName)) ∈ lw_tbl := lw_at lw_m6 57 rfl
theorem q1311 : (Jvm.Cond.instanceMethod ({ cls := "HoleCountyModel", name := "look", desc := "()V" } : Jvm.MethodName)) ∈ lw_all := lw_g (lw_at lw_m6 58 rfl) rfl
theorem q1312 : (Jvm.Cond.code ({ cls := "HoleCountyModel", name := "look", desc := "()V" } : Jvm.MethodName) prog_12_method_7_code (2 : Nat) (Option.none : Option Jvm.ClassFile.FieldType)) ∈ lw_all := lw_g (lw_at lw_m6 59 rfl) rfl
theorem q1313 : (Jvm.Cond.methodLink "HoleCountyModel" (129 : Nat) ({ cls := "HoleCountyModel", name := "holeAt", desc := "(I)J" } : Jvm.MethodName)) ∈ lw_all := lw_g (lw_at lw_m6 60 rfl) rfl
theorem q1314 : (Jvm.Cond.privateMethod ({ cls := "HoleCountyModel", name := "holeAt", desc := "(I)J" } : Jvm.MethodName)) ∈ lw_tbl := lw_at lw_m6 61 rfl
theorem q1315 : (Jvm.Cond.instanceMethod ({ cls := "HoleCountyModel", name := "holeAt", desc := "(I)J" } : Jvm.MethodName)) ∈ lw_all := lw_g (lw_at lw_m6 62 rfl) rfl
theorem q1316 : (Jvm.Cond.code ({ cls := "HoleCountyModel", name := "holeAt", desc := "(I)J" } : Jvm.MethodName) prog_12_method_10_code (2 : Nat) (Option.some Jvm.ClassFile.FieldType.long)) ∈ lw_all := lw_g (lw_at lw_m6 63 rfl) rfl
theorem q1317 : (Jvm.Cond.methodLink "HoleCountyModel" (90 : Nat) ({ cls := "HoleCountyModel", name := "grown", desc := "(JJ)J" } : Jvm.MethodName)) ∈ lw_all := lw_g (lw_at lw_m6 64 rfl) rfl
theorem q1318 : (Jvm.Cond.static ({ cls := "HoleCountyModel", name := "grown", desc := "(JJ)J" } : Jvm.MethodName)) ∈ lw_all := lw_g (lw_at lw_m6 65 rfl) rfl
theorem q1319 : (Jvm.Cond.code ({ cls := "HoleCountyModel", name := "grown", desc := "(JJ)J" } : Jvm.MethodName) prog_12_method_9_code (8 : Nat) (Option.some Jvm.ClassFile.FieldType.long)) ∈ lw_all := lw_g (lw_at lw_m6 66 rfl) rfl
theorem q1320 : (Jvm.Cond.methodLink "HoleCountyModel" (86 : Nat) ({ cls := "HoleCountyModel", name := "beside", desc := "(J)J" } : Jvm.MethodName)) ∈ lw_all := lw_g (lw_at lw_m6 67 rfl) rfl
theorem q1321 : (Jvm.Cond.static ({ cls := "HoleCountyModel", name := "beside", desc := "(J)J" } : Jvm.MethodName)) ∈ lw_all := lw_g (lw_at lw_m6 68 rfl) rfl
theorem q1322 : (Jvm.Cond.code ({ cls := "HoleCountyModel", name := "beside", desc := "(J)J" } : Jvm.MethodName) prog_12_method_8_code (4 : Nat) (Option.some Jvm.ClassFile.FieldType.long)) ∈ lw_all := lw_g (lw_at lw_m6 69 rfl) rfl
theorem q1323 : (Jvm.Cond.constantLong "HoleCountyModel" (80 : Nat) (-1090785346 : Int64)) ∈ lw_all := lw_g (lw_at lw_m6 70 rfl) rfl
theorem q1324 : (Jvm.Cond.constantLong "HoleCountyModel" (82 : Nat) (-34905131041 : Int64)) ∈ lw_all := lw_g (lw_at lw_m6 71 rfl) rfl
theorem q1325 : (Jvm.Cond.constantLong "HoleCountyModel" (84 : Nat) (68719476735 : Int64)) ∈ lw_all := lw_g (lw_at lw_m6 72 rfl) rfl
theorem q1326 : (Jvm.Cond.methodLink "HoleCountyModel" (126 : Nat) ({ cls := "HoleCountyModel", name := "least", desc := "(J)I" } : Jvm.MethodName)) ∈ lw_all := lw_g (lw_at lw_m6 73 rfl) rfl
theorem q1327 : (Jvm.Cond.static ({ cls := "HoleCountyModel", name := "least", desc := "(J)I" } : Jvm.MethodName)) ∈ lw_all := lw_g (lw_at lw_m6 74 rfl) rfl
theorem q1328 : (Jvm.Cond.code ({ cls := "HoleCountyModel", name := "least", desc := "(J)I" } : Jvm.MethodName) prog_12_method_6_code (3 : Nat) (Option.some Jvm.ClassFile.FieldType.int)) ∈ lw_all := lw_g (lw_at lw_m6 75 rfl) rfl
theorem q1330 : (Jvm.Cond.instanceMethod ({ cls := "HoleCountyModel", name := "type", desc := "(I)I" } : Jvm.MethodName)) ∈ lw_all := lw_g (lw_at lw_m6 77 rfl) rfl
theorem q1331 : (Jvm.Cond.selects "HoleCountyModel" ({ cls := "HoleCountyModel", name := "type", desc := "(I)I" } : Jvm.MethodName) ({ cls := "HoleCountyModel", name := "type", desc := "(I)I" } : Jvm.MethodName)) ∈ lw_all := lw_g (lw_at lw_m6 78 rfl) rfl
theorem q1332 : (Jvm.Cond.code ({ cls := "HoleCountyModel", name := "type", desc := "(I)I" } : Jvm.MethodName) prog_12_method_28_code (2 : Nat) (Option.some Jvm.ClassFile.FieldType.int)) ∈ lw_all := lw_g (lw_at lw_m6 79 rfl) rfl
theorem q1333 : (Jvm.Cond.constantLong "HoleCountyModel" (161 : Nat) (32 : Int64)) ∈ lw_all := lw_g (lw_at lw_m6 80 rfl) rfl
theorem q1334 : (Jvm.Cond.constantLong "HoleCountyModel" (163 : Nat) (126 : Int64)) ∈ lw_all := lw_g (lw_at lw_m6 81 rfl) rfl
theorem q1336 : (Jvm.Cond.instanceMethod ({ cls := "HoleCountyModel", name := "ground", desc := "()I" } : Jvm.MethodName)) ∈ lw_all := lw_g (lw_at lw_m6 83 rfl) rfl
theorem q1337 : (Jvm.Cond.selects "HoleCountyModel" ({ cls := "HoleCountyModel", name := "ground", desc := "()I" } : Jvm.MethodName) ({ cls := "HoleCountyModel", name := "ground", desc := "()I" } : Jvm.MethodName)) ∈ lw_all := lw_g (lw_at lw_m6 84 rfl) rfl
theorem q1338 : (Jvm.Cond.code ({ cls := "HoleCountyModel", name := "ground", desc := "()I" } : Jvm.MethodName) prog_12_method_33_code (3 : Nat) (Option.some Jvm.ClassFile.FieldType.int)) ∈ lw_all := lw_g (lw_at lw_m6 85 rfl) rfl
theorem q1339 : (Jvm.Cond.methodLink "HoleCountyModel" (180 : Nat) ({ cls := "HoleCountyModel", name := "readGround", desc := "()Z" } : Jvm.MethodName)) ∈ lw_all := lw_g (lw_at lw_m6 86 rfl) rfl
theorem q1340 : (Jvm.Cond.privateMethod ({ cls := "HoleCountyModel", name := "readGround", desc := "()Z" } : Jvm.MethodName)) ∈ lw_tbl := lw_at lw_m6 87 rfl
theorem q1341 : (Jvm.Cond.instanceMethod ({ cls := "HoleCountyModel", name := "readGround", desc := "()Z" } : Jvm.MethodName)) ∈ lw_all := lw_g (lw_at lw_m6 88 rfl) rfl
theorem q1342 : (Jvm.Cond.code ({ cls := "HoleCountyModel", name := "readGround", desc := "()Z" } : Jvm.MethodName) prog_12_method_32_code (3 : Nat) (Option.some Jvm.ClassFile.FieldType.boolean)) ∈ lw_all := lw_g (lw_at lw_m6 89 rfl) rfl
theorem q1343 : (Jvm.Cond.methodLink "HoleCountyModel" (175 : Nat) ({ cls := "HoleCountyModel", name := "takes", desc := "(I)Z" } : Jvm.MethodName)) ∈ lw_all := lw_g (lw_at lw_m6 90 rfl) rfl
theorem q1344 : (Jvm.Cond.privateMethod ({ cls := "HoleCountyModel", name := "takes", desc := "(I)Z" } : Jvm.MethodName)) ∈ lw_tbl := lw_at lw_m6 91 rfl
theorem q1345 : (Jvm.Cond.instanceMethod ({ cls := "HoleCountyModel", name := "takes", desc := "(I)Z" } : Jvm.MethodName)) ∈ lw_all := lw_g (lw_at lw_m6 92 rfl) rfl
theorem q1346 : (Jvm.Cond.code ({ cls := "HoleCountyModel", name := "takes", desc := "(I)Z" } : Jvm.MethodName) prog_12_method_30_code (3 : Nat) (Option.some Jvm.ClassFile.FieldType.boolean)) ∈ lw_all := lw_g (lw_at lw_m6 93 rfl) rfl
theorem q1347 : (Jvm.Cond.methodLink "HoleCountyModel" (171 : Nat) ({ cls := "HoleCountyModel", name := "nextLetter", desc := "()I" } : Jvm.MethodName)) ∈ lw_all := lw_g (lw_at lw_m6 94 rfl) rfl
theorem q1348 : (Jvm.Cond.privateMethod ({ cls := "HoleCountyModel", name := "nextLetter", desc := "()I" } : Jvm.MethodName)) ∈ lw_tbl := lw_at lw_m6 95 rfl
theorem q1349 : (Jvm.Cond.instanceMethod ({ cls := "HoleCountyModel", name := "nextLetter", desc := "()I" } : Jvm.MethodName)) ∈ lw_all := lw_g (lw_at lw_m6 96 rfl) rfl
theorem q1350 : (Jvm.Cond.code ({ cls := "HoleCountyModel", name := "nextLetter", desc := "()I" } : Jvm.MethodName) prog_12_method_29_code (1 : Nat) (Option.some Jvm.ClassFile.FieldType.int)) ∈ lw_all := lw_g (lw_at lw_m6 97 rfl) rfl
theorem q1351 : (Jvm.Cond.constantLong "HoleCountyModel" (178 : Nat) (9 : Int64)) ∈ lw_all := lw_g (lw_at lw_m6 98 rfl) rfl
theorem q1352 : (Jvm.Cond.methodLink "HoleCountyModel" (184 : Nat) ({ cls := "HoleCountyModel", name := "end", desc := "(Z)I" } : Jvm.MethodName)) ∈ lw_all := lw_g (lw_at lw_m6 99 rfl) rfl
theorem q1353 : (Jvm.Cond.privateMethod ({ cls := "HoleCountyModel", name := "end", desc := "(Z)I" } : Jvm.MethodName)) ∈ lw_tbl := lw_at lw_m6 100 rfl
theorem q1354 : (Jvm.Cond.instanceMethod ({ cls := "HoleCountyModel", name := "end", desc := "(Z)I" } : Jvm.MethodName)) ∈ lw_all := lw_g (lw_at lw_m6 101 rfl) rfl
theorem q1355 : (Jvm.Cond.code ({ cls := "HoleCountyModel", name := "end", desc := "(Z)I" } : Jvm.MethodName) prog_12_method_31_code (2 : Nat) (Option.some Jvm.ClassFile.FieldType.int)) ∈ lw_all := lw_g (lw_at lw_m6 102 rfl) rfl
theorem q1356 : (Jvm.Cond.methodLink "HoleCountyModel" (133 : Nat) ({ cls := "HoleCountyModel", name := "findHoles", desc := "()V" } : Jvm.MethodName)) ∈ lw_all := lw_g (lw_at lw_m6 103 rfl) rfl
theorem q1357 : (Jvm.Cond.privateMethod ({ cls := "HoleCountyModel", name := "findHoles", desc := "()V" } : Jvm.MethodName)) ∈ lw_tbl := lw_at lw_m6 104 rfl
theorem q1358 : (Jvm.Cond.instanceMethod ({ cls := "HoleCountyModel", name := "findHoles", desc := "()V" } : Jvm.MethodName)) ∈ lw_all := lw_g (lw_at lw_m6 105 rfl) rfl
theorem q1359 : (Jvm.Cond.code ({ cls := "HoleCountyModel", name := "findHoles", desc := "()V" } : Jvm.MethodName) prog_12_method_17_code (3 : Nat) (Option.none : Option Jvm.ClassFile.FieldType)) ∈ lw_all := lw_g (lw_at lw_m6 106 rfl) rfl
theorem q1361 : (Jvm.Cond.instanceMethod ({ cls := "HoleCountyModel", name := "owners", desc := "()I" } : Jvm.MethodName)) ∈ lw_all := lw_g (lw_at lw_m6 108 rfl) rfl
theorem q1362 : (Jvm.Cond.selects "HoleCountyModel" ({ cls := "HoleCountyModel", name := "owners", desc := "()I" } : Jvm.MethodName) ({ cls := "HoleCountyModel", name := "owners", desc := "()I" } : Jvm.MethodName)) ∈ lw_all := lw_g (lw_at lw_m6 109 rfl) rfl
theorem q1363 : (Jvm.Cond.code ({ cls := "HoleCountyModel", name := "owners", desc := "()I" } : Jvm.MethodName) prog_12_method_35_code (4 : Nat) (Option.some Jvm.ClassFile.FieldType.int)) ∈ lw_all := lw_g (lw_at lw_m6 110 rfl) rfl
theorem q1364 : (Jvm.Cond.methodLink "HoleCountyModel" (192 : Nat) ({ cls := "HoleCountyModel", name := "readOwners", desc := "()Z" } : Jvm.MethodName)) ∈ lw_all := lw_g (lw_at lw_m6 111 rfl) rfl
theorem q1365 : (Jvm.Cond.privateMethod ({ cls := "HoleCountyModel", name := "readOwners", desc := "()Z" } : Jvm.MethodName)) ∈ lw_tbl := lw_at lw_m6 112 rfl
theorem q1366 : (Jvm.Cond.instanceMethod ({ cls := "HoleCountyModel", name := "readOwners", desc := "()Z" } : Jvm.MethodName)) ∈ lw_all := lw_g (lw_at lw_m6 113 rfl) rfl
theorem q1367 : (Jvm.Cond.code ({ cls := "HoleCountyModel", name := "readOwners", desc := "()Z" } : Jvm.MethodName) prog_12_method_34_code (3 : Nat) (Option.some Jvm.ClassFile.FieldType.boolean)) ∈ lw_all := lw_g (lw_at lw_m6 114 rfl) rfl
theorem q1368 : (Jvm.Cond.constantLong "HoleCountyModel" (188 : Nat) (48 : Int64)) ∈ lw_all := lw_g (lw_at lw_m6 115 rfl) rfl
theorem q1369 : (Jvm.Cond.constantLong "HoleCountyModel" (190 : Nat) (51 : Int64)) ∈ lw_all := lw_g (lw_at lw_m6 116 rfl) rfl
theorem q1371 : (Jvm.Cond.instanceMethod ({ cls := "HoleCountyModel", name := "day", desc := "()I" } : Jvm.MethodName)) ∈ lw_all := lw_g (lw_at lw_m6 118 rfl) rfl
theorem q1372 : (Jvm.Cond.selects "HoleCountyModel" ({ cls := "HoleCountyModel", name := "day", desc := "()I" } : Jvm.MethodName) ({ cls := "HoleCountyModel", name := "day", desc := "()I" } : Jvm.MethodName)) ∈ lw_all := lw_g (lw_at lw_m6 119 rfl) rfl
theorem q1373 : (Jvm.Cond.code ({ cls := "HoleCountyModel", name := "day", desc := "()I" } : Jvm.MethodName) prog_12_method_38_code (6 : Nat) (Option.some Jvm.ClassFile.FieldType.int)) ∈ lw_all := lw_g (lw_at lw_m6 120 rfl) rfl
theorem q1374 : (Jvm.Cond.methodLink "HoleCountyModel" (203 : Nat) ({ cls := "HoleCountyModel", name := "readDay", desc := "()Z" } : Jvm.MethodName)) ∈ lw_all := lw_g (lw_at lw_m6 121 rfl) rfl
theorem q1375 : (Jvm.Cond.privateMethod ({ cls := "HoleCountyModel", name := "readDay", desc := "()Z" } : Jvm.MethodName)) ∈ lw_tbl := lw_at lw_m6 122 rfl
theorem q1376 : (Jvm.Cond.instanceMethod ({ cls := "HoleCountyModel", name := "readDay", desc := "()Z" } : Jvm.MethodName)) ∈ lw_all := lw_g (lw_at lw_m6 123 rfl) rfl
theorem q1377 : (Jvm.Cond.code ({ cls := "HoleCountyModel", name := "readDay", desc := "()Z" } : Jvm.MethodName) prog_12_method_37_code (2 : Nat) (Option.some Jvm.ClassFile.FieldType.boolean)) ∈ lw_all := lw_g (lw_at lw_m6 124 rfl) rfl
theorem q1378 : (Jvm.Cond.methodLink "HoleCountyModel" (200 : Nat) ({ cls := "HoleCountyModel", name := "readAct", desc := "()Z" } : Jvm.MethodName)) ∈ lw_all := lw_g (lw_at lw_m6 125 rfl) rfl
theorem q1379 : (Jvm.Cond.privateMethod ({ cls := "HoleCountyModel", name := "readAct", desc := "()Z" } : Jvm.MethodName)) ∈ lw_tbl := lw_at lw_m6 126 rfl
theorem q1380 : (Jvm.Cond.instanceMethod ({ cls := "HoleCountyModel", name := "readAct", desc := "()Z" } : Jvm.MethodName)) ∈ lw_all := lw_g (lw_at lw_m6 127 rfl) rfl
theorem q1381 : (Jvm.Cond.code ({ cls := "HoleCountyModel", name := "readAct", desc := "()Z" } : Jvm.MethodName) prog_12_method_36_code (4 : Nat) (Option.some Jvm.ClassFile.FieldType.boolean)) ∈ lw_all := lw_g (lw_at lw_m6 128 rfl) rfl
theorem q1382 : (Jvm.Cond.constantLong "HoleCountyModel" (195 : Nat) (5 : Int64)) ∈ lw_all := lw_g (lw_at lw_m6 129 rfl) rfl
theorem q1383 : (Jvm.Cond.methodLink "HoleCountyModel" (206 : Nat) ({ cls := "HoleCountyModel", name := "dig", desc := "(I)I" } : Jvm.MethodName)) ∈ lw_all := lw_g (lw_at lw_m6 130 rfl) rfl
theorem q1384 : (Jvm.Cond.methodLink "HoleCountyModel" (210 : Nat) ({ cls := "HoleCountyModel", name := "fill", desc := "(I)I" } : Jvm.MethodName)) ∈ lw_all := lw_g (lw_at lw_m6 131 rfl) rfl
theorem q1385 : (Jvm.Cond.methodLink "HoleCountyModel" (213 : Nat) ({ cls := "HoleCountyModel", name := "roof", desc := "(I)I" } : Jvm.MethodName)) ∈ lw_all := lw_g (lw_at lw_m6 132 rfl) rfl
theorem q1387 : (Jvm.Cond.instanceMethod ({ cls := "HoleCountyModel", name := "count", desc := "(I)I" } : Jvm.MethodName)) ∈ lw_all := lw_g (lw_at lw_m6 134 rfl) rfl
theorem q1388 : (Jvm.Cond.selects "HoleCountyModel" ({ cls := "HoleCountyModel", name := "count", desc := "(I)I" } : Jvm.MethodName) ({ cls := "HoleCountyModel", name := "count", desc := "(I)I" } : Jvm.MethodName)) ∈ lw_all := lw_g (lw_at lw_m6 135 rfl) rfl
theorem q1389 : (Jvm.Cond.code ({ cls := "HoleCountyModel", name := "count", desc := "(I)I" } : Jvm.MethodName) prog_12_method_39_code (4 : Nat) (Option.some Jvm.ClassFile.FieldType.int)) ∈ lw_all := lw_g (lw_at lw_m6 136 rfl) rfl
theorem q1390 : (Jvm.Cond.methodLink "HoleCountyModel" (96 : Nat) ({ cls := "HoleCountyModel", name := "ones", desc := "(J)I" } : Jvm.MethodName)) ∈ lw_all := lw_g (lw_at lw_m6 137 rfl) rfl
theorem q1391 : (Jvm.Cond.static ({ cls := "HoleCountyModel", name := "ones", desc := "(J)I" } : Jvm.MethodName)) ∈ lw_all := lw_g (lw_at lw_m6 138 rfl) rfl
theorem q1392 : (Jvm.Cond.code ({ cls := "HoleCountyModel", name := "ones", desc := "(J)I" } : Jvm.MethodName) prog_12_method_5_code (5 : Nat) (Option.some Jvm.ClassFile.FieldType.int)) ∈ lw_all := lw_g (lw_at lw_m6 139 rfl) rfl
theorem q1393 : (Jvm.Cond.methodLink "HoleCountyModel" (216 : Nat) ({ cls := "HoleCountyModel", name := "taxOfAll", desc := "()I" } : Jvm.MethodName)) ∈ lw_all := lw_g (lw_at lw_m6 140 rfl) rfl
theorem q1394 : (Jvm.Cond.privateMethod ({ cls := "HoleCountyModel", name := "taxOfAll", desc := "()I" } : Jvm.MethodName)) ∈ lw_tbl := lw_at lw_m6 141 rfl
theorem q1395 : (Jvm.Cond.instanceMethod ({ cls := "HoleCountyModel", name := "taxOfAll", desc := "()I" } : Jvm.MethodName)) ∈ lw_all := lw_g (lw_at lw_m6 142 rfl) rfl
theorem q1396 : (Jvm.Cond.code ({ cls := "HoleCountyModel", name := "taxOfAll", desc := "()I" } : Jvm.MethodName) prog_12_method_18_code (3 : Nat) (Option.some Jvm.ClassFile.FieldType.int)) ∈ lw_all := lw_g (lw_at lw_m6 143 rfl) rfl
theorem q1397 : (Jvm.Cond.methodLink "HoleCountyModel" (136 : Nat) ({ cls := "HoleCountyModel", name := "taxOf", desc := "(J)I" } : Jvm.MethodName)) ∈ lw_all := lw_g (lw_at lw_m6 144 rfl) rfl
theorem q1398 : (Jvm.Cond.privateMethod ({ cls := "HoleCountyModel", name := "taxOf", desc := "(J)I" } : Jvm.MethodName)) ∈ lw_tbl := lw_at lw_m6 145 rfl
theorem q1399 : (Jvm.Cond.instanceMethod ({ cls := "HoleCountyModel", name := "taxOf", desc := "(J)I" } : Jvm.MethodName)) ∈ lw_all := lw_g (lw_at lw_m6 146 rfl) rfl
theorem q1400 : (Jvm.Cond.code ({ cls := "HoleCountyModel", name := "taxOf", desc := "(J)I" } : Jvm.MethodName) prog_12_method_16_code (7 : Nat) (Option.some Jvm.ClassFile.FieldType.int)) ∈ lw_all := lw_g (lw_at lw_m6 147 rfl) rfl
theorem q1401 : (Jvm.Cond.methodLink "HoleCountyModel" (117 : Nat) ({ cls := "HoleCountyModel", name := "kindOf", desc := "(J)I" } : Jvm.MethodName)) ∈ lw_all := lw_g (lw_at lw_m6 148 rfl) rfl
theorem q1402 : (Jvm.Cond.privateMethod ({ cls := "HoleCountyModel", name := "kindOf", desc := "(J)I" } : Jvm.MethodName)) ∈ lw_tbl := lw_at lw_m6 149 rfl
theorem q1403 : (Jvm.Cond.instanceMethod ({ cls := "HoleCountyModel", name := "kindOf", desc := "(J)I" } : Jvm.MethodName)) ∈ lw_all := lw_g (lw_at lw_m6 150 rfl) rfl
theorem q1404 : (Jvm.Cond.code ({ cls := "HoleCountyModel", name := "kindOf", desc := "(J)I" } : Jvm.MethodName) prog_12_method_15_code (5 : Nat) (Option.some Jvm.ClassFile.FieldType.int)) ∈ lw_all := lw_g (lw_at lw_m6 151 rfl) rfl
theorem q1405 : (Jvm.Cond.constantLong "HoleCountyModel" (106 : Nat) (1090785345 : Int64)) ∈ lw_all := lw_g (lw_at lw_m6 152 rfl) rfl
theorem q1406 : (Jvm.Cond.constantLong "HoleCountyModel" (108 : Nat) (34905131040 : Int64)) ∈ lw_all := lw_g (lw_at lw_m6 153 rfl) rfl
theorem q1407 : (Jvm.Cond.constantLong "HoleCountyModel" (110 : Nat) (63 : Int64)) ∈ lw_all := lw_g (lw_at lw_m6 154 rfl) rfl
theorem q1408 : (Jvm.Cond.constantLong "HoleCountyModel" (112 : Nat) (67645734912 : Int64)) ∈ lw_all := lw_g (lw_at lw_m6 155 rfl) rfl
theorem q1409 : (Jvm.Cond.methodLink "HoleCountyModel" (102 : Nat) ({ cls := "HoleCountyModel", name := "edge", desc := "()J" } : Jvm.MethodName)) ∈ lw_all := lw_g (lw_at lw_m6 156 rfl) rfl
theorem q1410 : (Jvm.Cond.static ({ cls := "HoleCountyModel", name := "edge", desc := "()J" } : Jvm.MethodName)) ∈ lw_all := lw_g (lw_at lw_m6 157 rfl) rfl
theorem q1411 : (Jvm.Cond.code ({ cls := "HoleCountyModel", name := "edge", desc := "()J" } : Jvm.MethodName) prog_12_method_13_code (0 : Nat) (Option.some Jvm.ClassFile.FieldType.long)) ∈ lw_all := lw_g (lw_at lw_m6 158 rfl) rfl
theorem q1412 : (Jvm.Cond.constantLong "HoleCountyModel" (100 : Nat) (68208171135 : Int64)) ∈ lw_all := lw_g (lw_at lw_m6 159 rfl) rfl
theorem q1413 : (Jvm.Cond.methodLink "HoleCountyModel" (120 : Nat) ({ cls := "HoleCountyModel", name := "fenceOf", desc := "(J)I" } : Jvm.MethodName)) ∈ lw_all := lw_g (lw_at lw_m6 160 rfl) rfl
theorem q1414 : (Jvm.Cond.static ({ cls := "HoleCountyModel", name := "fenceOf", desc := "(J)I" } : Jvm.MethodName)) ∈ lw_all := lw_g (lw_at lw_m6 161 rfl) rfl
theorem q1415 : (Jvm.Cond.code ({ cls := "HoleCountyModel", name := "fenceOf", desc := "(J)I" } : Jvm.MethodName) prog_12_method_12_code (3 : Nat) (Option.some Jvm.ClassFile.FieldType.int)) ∈ lw_all := lw_g (lw_at lw_m6 162 rfl) rfl
theorem q1417 : (Jvm.Cond.instanceMethod ({ cls := "HoleCountyModel", name := "hole", desc := "(II)I" } : Jvm.MethodName)) ∈ lw_all := lw_g (lw_at lw_m6 164 rfl) rfl
theorem q1418 : (Jvm.Cond.selects "HoleCountyModel" ({ cls := "HoleCountyModel", name := "hole", desc := "(II)I" } : Jvm.MethodName) ({ cls := "HoleCountyModel", name := "hole", desc := "(II)I" } : Jvm.MethodName)) ∈ lw_all := lw_g (lw_at lw_m6 165 rfl) rfl
theorem q1419 : (Jvm.Cond.code ({ cls := "HoleCountyModel", name := "hole", desc := "(II)I" } : Jvm.MethodName) prog_12_method_44_code (5 : Nat) (Option.some Jvm.ClassFile.FieldType.int)) ∈ lw_all := lw_g (lw_at lw_m6 166 rfl) rfl
theorem q1420 : (Jvm.Cond.constantLong "HoleCountyModel" (228 : Nat) (7 : Int64)) ∈ lw_all := lw_g (lw_at lw_m6 167 rfl) rfl
theorem q1421 : (Jvm.Cond.methodLink "HoleCountyModel" (219 : Nat) ({ cls := "HoleCountyModel", name := "rimOf", desc := "(J)J" } : Jvm.MethodName)) ∈ lw_all := lw_g (lw_at lw_m6 168 rfl) rfl
theorem q1422 : (Jvm.Cond.privateMethod ({ cls := "HoleCountyModel", name := "rimOf", desc := "(J)J" } : Jvm.MethodName)) ∈ lw_tbl := lw_at lw_m6 169 rfl
theorem q1423 : (Jvm.Cond.instanceMethod ({ cls := "HoleCountyModel", name := "rimOf", desc := "(J)J" } : Jvm.MethodName)) ∈ lw_all := lw_g (lw_at lw_m6 170 rfl) rfl
theorem q1424 : (Jvm.Cond.code ({ cls := "HoleCountyModel", name := "rimOf", desc := "(J)J" } : Jvm.MethodName) prog_12_method_11_code (3 : Nat) (Option.some Jvm.ClassFile.FieldType.long)) ∈ lw_all := lw_g (lw_at lw_m6 171 rfl) rfl
theorem q1425 : (Jvm.Cond.methodLink "HoleCountyModel" (230 : Nat) ({ cls := "HoleCountyModel", name := "ownerOf", desc := "(J)I" } : Jvm.MethodName)) ∈ lw_all := lw_g (lw_at lw_m6 172 rfl) rfl
theorem q1426 : (Jvm.Cond.privateMethod ({ cls := "HoleCountyModel", name := "ownerOf", desc := "(J)I" } : Jvm.MethodName)) ∈ lw_tbl := lw_at lw_m6 173 rfl
theorem q1427 : (Jvm.Cond.instanceMethod ({ cls := "HoleCountyModel", name := "ownerOf", desc := "(J)I" } : Jvm.MethodName)) ∈ lw_all := lw_g (lw_at lw_m6 174 rfl) rfl
theorem q1428 : (Jvm.Cond.code ({ cls := "HoleCountyModel", name := "ownerOf", desc := "(J)I" } : Jvm.MethodName) prog_12_method_41_code (7 : Nat) (Option.some Jvm.ClassFile.FieldType.int)) ∈ lw_all := lw_g (lw_at lw_m6 175 rfl) rfl
theorem q1429 : (Jvm.Cond.methodLink "HoleCountyModel" (222 : Nat) ({ cls := "HoleCountyModel", name := "owned", desc := "(I)J" } : Jvm.MethodName)) ∈ lw_all := lw_g (lw_at lw_m6 176 rfl) rfl
theorem q1430 : (Jvm.Cond.privateMethod ({ cls := "HoleCountyModel", name := "owned", desc := "(I)J" } : Jvm.MethodName)) ∈ lw_tbl := lw_at lw_m6 177 rfl
theorem q1431 : (Jvm.Cond.instanceMethod ({ cls := "HoleCountyModel", name := "owned", desc := "(I)J" } : Jvm.MethodName)) ∈ lw_all := lw_g (lw_at lw_m6 178 rfl) rfl
theorem q1432 : (Jvm.Cond.code ({ cls := "HoleCountyModel", name := "owned", desc := "(I)J" } : Jvm.MethodName) prog_12_method_40_code (5 : Nat) (Option.some Jvm.ClassFile.FieldType.long)) ∈ lw_all := lw_g (lw_at lw_m6 179 rfl) rfl
theorem q1433 : (Jvm.Cond.methodLink "HoleCountyModel" (233 : Nat) ({ cls := "HoleCountyModel", name := "nestedOf", desc := "(J)I" } : Jvm.MethodName)) ∈ lw_all := lw_g (lw_at lw_m6 180 rfl) rfl
theorem q1434 : (Jvm.Cond.privateMethod ({ cls := "HoleCountyModel", name := "nestedOf", desc := "(J)I" } : Jvm.MethodName)) ∈ lw_tbl := lw_at lw_m6 181 rfl
theorem q1435 : (Jvm.Cond.instanceMethod ({ cls := "HoleCountyModel", name := "nestedOf", desc := "(J)I" } : Jvm.MethodName)) ∈ lw_all := lw_g (lw_at lw_m6 182 rfl) rfl
theorem q1436 : (Jvm.Cond.code ({ cls := "HoleCountyModel", name := "nestedOf", desc := "(J)I" } : Jvm.MethodName) prog_12_method_42_code (5 : Nat) (Option.some Jvm.ClassFile.FieldType.int)) ∈ lw_all := lw_g (lw_at lw_m6 183 rfl) rfl
theorem q1437 : (Jvm.Cond.methodLink "HoleCountyModel" (225 : Nat) ({ cls := "HoleCountyModel", name := "withinOf", desc := "(J)J" } : Jvm.MethodName)) ∈ lw_all := lw_g (lw_at lw_m6 184 rfl) rfl
theorem q1438 : (Jvm.Cond.static ({ cls := "HoleCountyModel", name := "withinOf", desc := "(J)J" } : Jvm.MethodName)) ∈ lw_all := lw_g (lw_at lw_m6 185 rfl) rfl
theorem q1439 : (Jvm.Cond.code ({ cls := "HoleCountyModel", name := "withinOf", desc := "(J)J" } : Jvm.MethodName) prog_12_method_14_code (4 : Nat) (Option.some Jvm.ClassFile.FieldType.long)) ∈ lw_all := lw_g (lw_at lw_m6 186 rfl) rfl
theorem q1440 : (Jvm.Cond.methodLink "HoleCountyModel" (236 : Nat) ({ cls := "HoleCountyModel", name := "largestOf", desc := "(J)I" } : Jvm.MethodName)) ∈ lw_all := lw_g (lw_at lw_m6 187 rfl) rfl
theorem q1441 : (Jvm.Cond.static ({ cls := "HoleCountyModel", name := "largestOf", desc := "(J)I" } : Jvm.MethodName)) ∈ lw_all := lw_g (lw_at lw_m6 188 rfl) rfl
theorem q1442 : (Jvm.Cond.code ({ cls := "HoleCountyModel", name := "largestOf", desc := "(J)I" } : Jvm.MethodName) prog_12_method_43_code (8 : Nat) (Option.some Jvm.ClassFile.FieldType.int)) ∈ lw_all := lw_g (lw_at lw_m6 189 rfl) rfl
theorem q1444 : (Jvm.Cond.instanceMethod ({ cls := "HoleCountyModel", name := "cells", desc := "(II)J" } : Jvm.MethodName)) ∈ lw_all := lw_g (lw_at lw_m6 191 rfl) rfl
theorem q1445 : (Jvm.Cond.selects "HoleCountyModel" ({ cls := "HoleCountyModel", name := "cells", desc := "(II)J" } : Jvm.MethodName) ({ cls := "HoleCountyModel", name := "cells", desc := "(II)J" } : Jvm.MethodName)) ∈ lw_all := lw_g (lw_at lw_m6 192 rfl) rfl
theorem q1446 : (Jvm.Cond.code ({ cls := "HoleCountyModel", name := "cells", desc := "(II)J" } : Jvm.MethodName) prog_12_method_45_code (5 : Nat) (Option.some Jvm.ClassFile.FieldType.long)) ∈ lw_all := lw_g (lw_at lw_m6 193 rfl) rfl
theorem q1447 : (Jvm.Cond.constantLong "HoleCountyModel" (239 : Nat) (2 : Int64)) ∈ lw_all := lw_g (lw_at lw_m6 194 rfl) rfl
theorem q1448 : (Jvm.Cond.constantLong "HoleCountyModel" (241 : Nat) (-2 : Int64)) ∈ lw_all := lw_g (lw_at lw_m6 195 rfl) rfl
theorem q1450 : (Jvm.Cond.instanceMethod ({ cls := "HoleCountyModel", name := "part", desc := "(II)I" } : Jvm.MethodName)) ∈ lw_all := lw_g (lw_at lw_m6 197 rfl) rfl
theorem q1451 : (Jvm.Cond.selects "HoleCountyModel" ({ cls := "HoleCountyModel", name := "part", desc := "(II)I" } : Jvm.MethodName) ({ cls := "HoleCountyModel", name := "part", desc := "(II)I" } : Jvm.MethodName)) ∈ lw_all := lw_g (lw_at lw_m6 198 rfl) rfl
theorem q1452 : (Jvm.Cond.code ({ cls := "HoleCountyModel", name := "part", desc := "(II)I" } : Jvm.MethodName) prog_12_method_47_code (3 : Nat) (Option.some Jvm.ClassFile.FieldType.int)) ∈ lw_all := lw_g (lw_at lw_m6 199 rfl) rfl
theorem q1453 : (Jvm.Cond.constantLong "HoleCountyModel" (243 : Nat) (3 : Int64)) ∈ lw_all := lw_g (lw_at lw_m6 200 rfl) rfl
theorem q1454 : (Jvm.Cond.methodLink "HoleCountyModel" (245 : Nat) ({ cls := "HoleCountyModel", name := "partOf", desc := "(JI)I" } : Jvm.MethodName)) ∈ lw_all := lw_g (lw_at lw_m6 201 rfl) rfl
theorem q1455 : (Jvm.Cond.privateMethod ({ cls := "HoleCountyModel", name := "partOf", desc := "(JI)I" } : Jvm.MethodName)) ∈ lw_tbl := lw_at lw_m6 202 rfl
theorem q1456 : (Jvm.Cond.instanceMethod ({ cls := "HoleCountyModel", name := "partOf", desc := "(JI)I" } : Jvm.MethodName)) ∈ lw_all := lw_g (lw_at lw_m6 203 rfl) rfl
theorem q1457 : (Jvm.Cond.code ({ cls := "HoleCountyModel", name := "partOf", desc := "(JI)I" } : Jvm.MethodName) prog_12_method_46_code (7 : Nat) (Option.some Jvm.ClassFile.FieldType.int)) ∈ lw_all := lw_g (lw_at lw_m6 204 rfl) rfl
theorem q1459 : (Jvm.Cond.instanceMethod ({ cls := "HoleCountyModel", name := "pays", desc := "(I)I" } : Jvm.MethodName)) ∈ lw_all := lw_g (lw_at lw_m6 206 rfl) rfl
theorem q1460 : (Jvm.Cond.selects "HoleCountyModel" ({ cls := "HoleCountyModel", name := "pays", desc := "(I)I" } : Jvm.MethodName) ({ cls := "HoleCountyModel", name := "pays", desc := "(I)I" } : Jvm.MethodName)) ∈ lw_all := lw_g (lw_at lw_m6 207 rfl) rfl
theorem q1461 : (Jvm.Cond.code ({ cls := "HoleCountyModel", name := "pays", desc := "(I)I" } : Jvm.MethodName) prog_12_method_48_code (4 : Nat) (Option.some Jvm.ClassFile.FieldType.int)) ∈ lw_all := lw_g (lw_at lw_m6 208 rfl) rfl
theorem q1463 : (Jvm.Cond.instanceMethod ({ cls := "HoleCountyModel", name := "worth", desc := "(I)I" } : Jvm.MethodName)) ∈ lw_all := lw_g (lw_at lw_m6 210 rfl) rfl
theorem q1464 : (Jvm.Cond.selects "HoleCountyModel" ({ cls := "HoleCountyModel", name := "worth", desc := "(I)I" } : Jvm.MethodName) ({ cls := "HoleCountyModel", name := "worth", desc := "(I)I" } : Jvm.MethodName)) ∈ lw_all := lw_g (lw_at lw_m6 211 rfl) rfl
theorem q1465 : (Jvm.Cond.code ({ cls := "HoleCountyModel", name := "worth", desc := "(I)I" } : Jvm.MethodName) prog_12_method_49_code (3 : Nat) (Option.some Jvm.ClassFile.FieldType.int)) ∈ lw_all := lw_g (lw_at lw_m6 212 rfl) rfl
theorem q1466 : (Jvm.Cond.constant "HoleCountyModel" (249 : Nat) (-100001 : Int32)) ∈ lw_all := lw_g (lw_at lw_m6 213 rfl) rfl
theorem q1468 : (Jvm.Cond.instanceMethod ({ cls := "HoleCountyModel", name := "filled", desc := "(II)I" } : Jvm.MethodName)) ∈ lw_all := lw_g (lw_at lw_m6 215 rfl) rfl
theorem q1469 : (Jvm.Cond.selects "HoleCountyModel" ({ cls := "HoleCountyModel", name := "filled", desc := "(II)I" } : Jvm.MethodName) ({ cls := "HoleCountyModel", name := "filled", desc := "(II)I" } : Jvm.MethodName)) ∈ lw_all := lw_g (lw_at lw_m6 216 rfl) rfl
theorem q1470 : (Jvm.Cond.code ({ cls := "HoleCountyModel", name := "filled", desc := "(II)I" } : Jvm.MethodName) prog_12_method_50_code (4 : Nat) (Option.some Jvm.ClassFile.FieldType.int)) ∈ lw_all := lw_g (lw_at lw_m6 217 rfl) rfl
theorem q1471 : (Jvm.Cond.constantLong "HoleCountyModel" (250 : Nat) (9999 : Int64)) ∈ lw_all := lw_g (lw_at lw_m6 218 rfl) rfl
theorem q1472 : (Jvm.Cond.methodLink "HoleCountyModel" (252 : Nat) ({ cls := "HoleCountyModel", name := "fewestFilled", desc := "(IJ)I" } : Jvm.MethodName)) ∈ lw_all := lw_g (lw_at lw_m6 219 rfl) rfl
theorem q1473 : (Jvm.Cond.privateMethod ({ cls := "HoleCountyModel", name := "fewestFilled", desc := "(IJ)I" } : Jvm.MethodName)) ∈ lw_tbl := lw_at lw_m6 220 rfl
theorem q1474 : (Jvm.Cond.instanceMethod ({ cls := "HoleCountyModel", name := "fewestFilled", desc := "(IJ)I" } : Jvm.MethodName)) ∈ lw_all := lw_g (lw_at lw_m6 221 rfl) rfl
theorem q1475 : (Jvm.Cond.code ({ cls := "HoleCountyModel", name := "fewestFilled", desc := "(IJ)I" } : Jvm.MethodName) prog_12_method_51_code (8 : Nat) (Option.some Jvm.ClassFile.FieldType.int)) ∈ lw_all := lw_g (lw_at lw_m6 222 rfl) rfl
theorem q1476 : (Jvm.Cond.methodLink "HoleCountyModel" (256 : Nat) ({ cls := "HoleCountyModel", name := "does", desc := "(JIJ)Z" } : Jvm.MethodName)) ∈ lw_all := lw_g (lw_at lw_m6 223 rfl) rfl
theorem q1477 : (Jvm.Cond.privateMethod ({ cls := "HoleCountyModel", name := "does", desc := "(JIJ)Z" } : Jvm.MethodName)) ∈ lw_tbl := lw_at lw_m6 224 rfl
theorem q1478 : (Jvm.Cond.instanceMethod ({ cls := "HoleCountyModel", name := "does", desc := "(JIJ)Z" } : Jvm.MethodName)) ∈ lw_all := lw_g (lw_at lw_m6 225 rfl) rfl
theorem q1479 : (Jvm.Cond.code ({ cls := "HoleCountyModel", name := "does", desc := "(JIJ)Z" } : Jvm.MethodName) prog_12_method_52_code (9 : Nat) (Option.some Jvm.ClassFile.FieldType.boolean)) ∈ lw_all := lw_g (lw_at lw_m6 226 rfl) rfl
theorem q1481 : (Jvm.Cond.instanceMethod ({ cls := "HoleCountyModel", name := "split", desc := "(II)I" } : Jvm.MethodName)) ∈ lw_all := lw_g (lw_at lw_m6 228 rfl) rfl
theorem q1482 : (Jvm.Cond.selects "HoleCountyModel" ({ cls := "HoleCountyModel", name := "split", desc := "(II)I" } : Jvm.MethodName) ({ cls := "HoleCountyModel", name := "split", desc := "(II)I" } : Jvm.MethodName)) ∈ lw_all := lw_g (lw_at lw_m6 229 rfl) rfl
theorem q1483 : (Jvm.Cond.code ({ cls := "HoleCountyModel", name := "split", desc := "(II)I" } : Jvm.MethodName) prog_12_method_53_code (4 : Nat) (Option.some Jvm.ClassFile.FieldType.int)) ∈ lw_all := lw_g (lw_at lw_m6 230 rfl) rfl
theorem q1485 : (Jvm.Cond.instanceMethod ({ cls := "HoleCountyModel", name := "dug", desc := "(III)I" } : Jvm.MethodName)) ∈ lw_all := lw_g (lw_at lw_m6 232 rfl) rfl
theorem q1486 : (Jvm.Cond.selects "HoleCountyModel" ({ cls := "HoleCountyModel", name := "dug", desc := "(III)I" } : Jvm.MethodName) ({ cls := "HoleCountyModel", name := "dug", desc := "(III)I" } : Jvm.MethodName)) ∈ lw_all := lw_g (lw_at lw_m6 233 rfl) rfl
theorem q1487 : (Jvm.Cond.code ({ cls := "HoleCountyModel", name := "dug", desc := "(III)I" } : Jvm.MethodName) prog_12_method_55_code (18 : Nat) (Option.some Jvm.ClassFile.FieldType.int)) ∈ lw_all := lw_g (lw_at lw_m6 234 rfl) rfl
theorem q1488 : (Jvm.Cond.methodLink "HoleCountyModel" (260 : Nat) ({ cls := "HoleCountyModel", name := "fewestDug", desc := "(JJJ)I" } : Jvm.MethodName)) ∈ lw_all := lw_g (lw_at lw_m6 235 rfl) rfl
theorem q1489 : (Jvm.Cond.privateMethod ({ cls := "HoleCountyModel", name := "fewestDug", desc := "(JJJ)I" } : Jvm.MethodName)) ∈ lw_tbl := lw_at lw_m6 236 rfl
theorem q1490 : (Jvm.Cond.instanceMethod ({ cls := "HoleCountyModel", name := "fewestDug", desc := "(JJJ)I" } : Jvm.MethodName)) ∈ lw_all := lw_g (lw_at lw_m6 237 rfl) rfl
theorem q1491 : (Jvm.Cond.code ({ cls := "HoleCountyModel", name := "fewestDug", desc := "(JJJ)I" } : Jvm.MethodName) prog_12_method_54_code (12 : Nat) (Option.some Jvm.ClassFile.FieldType.int)) ∈ lw_all := lw_g (lw_at lw_m6 238 rfl) rfl
theorem q1493 : (Jvm.Cond.instanceMethod ({ cls := "HoleCountyModel", name := "loophole", desc := "()I" } : Jvm.MethodName)) ∈ lw_all := lw_g (lw_at lw_m7 0 rfl) rfl
theorem q1494 : (Jvm.Cond.selects "HoleCountyModel" ({ cls := "HoleCountyModel", name := "loophole", desc := "()I" } : Jvm.MethodName) ({ cls := "HoleCountyModel", name := "loophole", desc := "()I" } : Jvm.MethodName)) ∈ lw_all := lw_g (lw_at lw_m7 1 rfl) rfl
theorem q1495 : (Jvm.Cond.code ({ cls := "HoleCountyModel", name := "loophole", desc := "()I" } : Jvm.MethodName) prog_12_method_56_code (5 : Nat) (Option.some Jvm.ClassFile.FieldType.int)) ∈ lw_all := lw_g (lw_at lw_m7 2 rfl) rfl
theorem q1497 : (Jvm.Cond.instanceMethod ({ cls := "HoleCountyModel", name := "roofs", desc := "(I)I" } : Jvm.MethodName)) ∈ lw_all := lw_g (lw_at lw_m7 4 rfl) rfl
theorem q1498 : (Jvm.Cond.selects "HoleCountyModel" ({ cls := "HoleCountyModel", name := "roofs", desc := "(I)I" } : Jvm.MethodName) ({ cls := "HoleCountyModel", name := "roofs", desc := "(I)I" } : Jvm.MethodName)) ∈ lw_all := lw_g (lw_at lw_m7 5 rfl) rfl
theorem q1499 : (Jvm.Cond.code ({ cls := "HoleCountyModel", name := "roofs", desc := "(I)I" } : Jvm.MethodName) prog_12_method_57_code (2 : Nat) (Option.some Jvm.ClassFile.FieldType.int)) ∈ lw_all := lw_g (lw_at lw_m7 6 rfl) rfl
theorem q1501 : (Jvm.Cond.instanceMethod ({ cls := "HoleCountyModel", name := "round", desc := "(II)I" } : Jvm.MethodName)) ∈ lw_all := lw_g (lw_at lw_m7 8 rfl) rfl
theorem q1502 : (Jvm.Cond.selects "HoleCountyModel" ({ cls := "HoleCountyModel", name := "round", desc := "(II)I" } : Jvm.MethodName) ({ cls := "HoleCountyModel", name := "round", desc := "(II)I" } : Jvm.MethodName)) ∈ lw_all := lw_g (lw_at lw_m7 9 rfl) rfl
theorem q1503 : (Jvm.Cond.code ({ cls := "HoleCountyModel", name := "round", desc := "(II)I" } : Jvm.MethodName) prog_12_method_63_code (8 : Nat) (Option.some Jvm.ClassFile.FieldType.int)) ∈ lw_all := lw_g (lw_at lw_m7 10 rfl) rfl
theorem q1504 : (Jvm.Cond.methodLink "HoleCountyModel" (271 : Nat) ({ cls := "HoleCountyModel", name := "nearest", desc := "(JI)I" } : Jvm.MethodName)) ∈ lw_all := lw_g (lw_at lw_m7 11 rfl) rfl
theorem q1505 : (Jvm.Cond.static ({ cls := "HoleCountyModel", name := "nearest", desc := "(JI)I" } : Jvm.MethodName)) ∈ lw_all := lw_g (lw_at lw_m7 12 rfl) rfl
theorem q1506 : (Jvm.Cond.code ({ cls := "HoleCountyModel", name := "nearest", desc := "(JI)I" } : Jvm.MethodName) prog_12_method_61_code (5 : Nat) (Option.some Jvm.ClassFile.FieldType.int)) ∈ lw_all := lw_g (lw_at lw_m7 13 rfl) rfl
theorem q1507 : (Jvm.Cond.methodLink "HoleCountyModel" (268 : Nat) ({ cls := "HoleCountyModel", name := "apart", desc := "(II)I" } : Jvm.MethodName)) ∈ lw_all := lw_g (lw_at lw_m7 14 rfl) rfl
theorem q1508 : (Jvm.Cond.static ({ cls := "HoleCountyModel", name := "apart", desc := "(II)I" } : Jvm.MethodName)) ∈ lw_all := lw_g (lw_at lw_m7 15 rfl) rfl
theorem q1509 : (Jvm.Cond.code ({ cls := "HoleCountyModel", name := "apart", desc := "(II)I" } : Jvm.MethodName) prog_12_method_60_code (2 : Nat) (Option.some Jvm.ClassFile.FieldType.int)) ∈ lw_all := lw_g (lw_at lw_m7 16 rfl) rfl
theorem q1510 : (Jvm.Cond.methodLink "HoleCountyModel" (264 : Nat) ({ cls := "HoleCountyModel", name := "off", desc := "(II)I" } : Jvm.MethodName)) ∈ lw_all := lw_g (lw_at lw_m7 17 rfl) rfl
theorem q1511 : (Jvm.Cond.static ({ cls := "HoleCountyModel", name := "off", desc := "(II)I" } : Jvm.MethodName)) ∈ lw_all := lw_g (lw_at lw_m7 18 rfl) rfl
theorem q1512 : (Jvm.Cond.code ({ cls := "HoleCountyModel", name := "off", desc := "(II)I" } : Jvm.MethodName) prog_12_method_59_code (2 : Nat) (Option.some Jvm.ClassFile.FieldType.int)) ∈ lw_all := lw_g (lw_at lw_m7 19 rfl) rfl
theorem q1513 : (Jvm.Cond.methodLink "HoleCountyModel" (274 : Nat) ({ cls := "HoleCountyModel", name := "stepsOf", desc := "(II)I" } : Jvm.MethodName)) ∈ lw_all := lw_g (lw_at lw_m7 20 rfl) rfl
theorem q1514 : (Jvm.Cond.privateMethod ({ cls := "HoleCountyModel", name := "stepsOf", desc := "(II)I" } : Jvm.MethodName)) ∈ lw_tbl := lw_at lw_m7 21 rfl
theorem q1515 : (Jvm.Cond.instanceMethod ({ cls := "HoleCountyModel", name := "stepsOf", desc := "(II)I" } : Jvm.MethodName)) ∈ lw_all := lw_g (lw_at lw_m7 22 rfl) rfl
theorem q1516 : (Jvm.Cond.code ({ cls := "HoleCountyModel", name := "stepsOf", desc := "(II)I" } : Jvm.MethodName) prog_12_method_62_code (7 : Nat) (Option.some Jvm.ClassFile.FieldType.int)) ∈ lw_all := lw_g (lw_at lw_m7 23 rfl) rfl
theorem q1517 : (Jvm.Cond.methodLink "HoleCountyModel" (277 : Nat) ({ cls := "HoleCountyModel", name := "nextOrder", desc := "(I)Z" } : Jvm.MethodName)) ∈ lw_all := lw_g (lw_at lw_m7 24 rfl) rfl
theorem q1518 : (Jvm.Cond.privateMethod ({ cls := "HoleCountyModel", name := "nextOrder", desc := "(I)Z" } : Jvm.MethodName)) ∈ lw_tbl := lw_at lw_m7 25 rfl
theorem q1519 : (Jvm.Cond.instanceMethod ({ cls := "HoleCountyModel", name := "nextOrder", desc := "(I)Z" } : Jvm.MethodName)) ∈ lw_all := lw_g (lw_at lw_m7 26 rfl) rfl
theorem q1520 : (Jvm.Cond.code ({ cls := "HoleCountyModel", name := "nextOrder", desc := "(I)Z" } : Jvm.MethodName) prog_12_method_58_code (7 : Nat) (Option.some Jvm.ClassFile.FieldType.boolean)) ∈ lw_all := lw_g (lw_at lw_m7 27 rfl) rfl
theorem q1522 : (Jvm.Cond.instanceMethod ({ cls := "HoleCountyModel", name := "border", desc := "(I)I" } : Jvm.MethodName)) ∈ lw_all := lw_g (lw_at lw_m7 29 rfl) rfl
theorem q1523 : (Jvm.Cond.selects "HoleCountyModel" ({ cls := "HoleCountyModel", name := "border", desc := "(I)I" } : Jvm.MethodName) ({ cls := "HoleCountyModel", name := "border", desc := "(I)I" } : Jvm.MethodName)) ∈ lw_all := lw_g (lw_at lw_m7 30 rfl) rfl
theorem q1524 : (Jvm.Cond.code ({ cls := "HoleCountyModel", name := "border", desc := "(I)I" } : Jvm.MethodName) prog_12_method_64_code (4 : Nat) (Option.some Jvm.ClassFile.FieldType.int)) ∈ lw_all := lw_g (lw_at lw_m7 31 rfl) rfl
theorem q1526 : (Jvm.Cond.instanceMethod ({ cls := "HoleCountyModel", name := "cut", desc := "(I)I" } : Jvm.MethodName)) ∈ lw_all := lw_g (lw_at lw_m7 33 rfl) rfl
theorem q1527 : (Jvm.Cond.selects "HoleCountyModel" ({ cls := "HoleCountyModel", name := "cut", desc := "(I)I" } : Jvm.MethodName) ({ cls := "HoleCountyModel", name := "cut", desc := "(I)I" } : Jvm.MethodName)) ∈ lw_all := lw_g (lw_at lw_m7 34 rfl) rfl
theorem q1528 : (Jvm.Cond.code ({ cls := "HoleCountyModel", name := "cut", desc := "(I)I" } : Jvm.MethodName) prog_12_method_65_code (8 : Nat) (Option.some Jvm.ClassFile.FieldType.int)) ∈ lw_all := lw_g (lw_at lw_m7 35 rfl) rfl
theorem q1530 : (Jvm.Cond.instanceMethod ({ cls := "HoleCountyModel", name := "books", desc := "(JIII)J" } : Jvm.MethodName)) ∈ lw_all := lw_g (lw_at lw_m7 37 rfl) rfl
theorem q1531 : (Jvm.Cond.selects "HoleCountyModel" ({ cls := "HoleCountyModel", name := "books", desc := "(JIII)J" } : Jvm.MethodName) ({ cls := "HoleCountyModel", name := "books", desc := "(JIII)J" } : Jvm.MethodName)) ∈ lw_all := lw_g (lw_at lw_m7 38 rfl) rfl
theorem q1532 : (Jvm.Cond.code ({ cls := "HoleCountyModel", name := "books", desc := "(JIII)J" } : Jvm.MethodName) prog_12_method_66_code (19 : Nat) (Option.some Jvm.ClassFile.FieldType.long)) ∈ lw_all := lw_g (lw_at lw_m7 39 rfl) rfl
theorem q1533 : (Jvm.Cond.constantLong "HoleCountyModel" (280 : Nat) (36 : Int64)) ∈ lw_all := lw_g (lw_at lw_m7 40 rfl) rfl
theorem q1534 : (Jvm.Cond.constantLong "HoleCountyModel" (282 : Nat) (-4 : Int64)) ∈ lw_all := lw_g (lw_at lw_m7 41 rfl) rfl
theorem q1536 : (Jvm.Cond.instanceMethod ({ cls := "HoleCountyModel", name := "lots", desc := "(I)I" } : Jvm.MethodName)) ∈ lw_all := lw_g (lw_at lw_m7 43 rfl) rfl
theorem q1537 : (Jvm.Cond.selects "HoleCountyModel" ({ cls := "HoleCountyModel", name := "lots", desc := "(I)I" } : Jvm.MethodName) ({ cls := "HoleCountyModel", name := "lots", desc := "(I)I" } : Jvm.MethodName)) ∈ lw_all := lw_g (lw_at lw_m7 44 rfl) rfl
theorem q1538 : (Jvm.Cond.code ({ cls := "HoleCountyModel", name := "lots", desc := "(I)I" } : Jvm.MethodName) prog_12_method_68_code (6 : Nat) (Option.some Jvm.ClassFile.FieldType.int)) ∈ lw_all := lw_g (lw_at lw_m7 45 rfl) rfl
theorem q1539 : (Jvm.Cond.methodLink "HoleCountyModel" (291 : Nat) ({ cls := "HoleCountyModel", name := "nextDraw", desc := "(I)I" } : Jvm.MethodName)) ∈ lw_all := lw_g (lw_at lw_m7 46 rfl) rfl
theorem q1540 : (Jvm.Cond.privateMethod ({ cls := "HoleCountyModel", name := "nextDraw", desc := "(I)I" } : Jvm.MethodName)) ∈ lw_tbl := lw_at lw_m7 47 rfl
theorem q1541 : (Jvm.Cond.instanceMethod ({ cls := "HoleCountyModel", name := "nextDraw", desc := "(I)I" } : Jvm.MethodName)) ∈ lw_all := lw_g (lw_at lw_m7 48 rfl) rfl
theorem q1542 : (Jvm.Cond.code ({ cls := "HoleCountyModel", name := "nextDraw", desc := "(I)I" } : Jvm.MethodName) prog_12_method_67_code (2 : Nat) (Option.some Jvm.ClassFile.FieldType.int)) ∈ lw_all := lw_g (lw_at lw_m7 49 rfl) rfl
theorem q1543 : (Jvm.Cond.constantLong "HoleCountyModel" (284 : Nat) (1103515245 : Int64)) ∈ lw_all := lw_g (lw_at lw_m7 50 rfl) rfl
theorem q1544 : (Jvm.Cond.constantLong "HoleCountyModel" (286 : Nat) (12345 : Int64)) ∈ lw_all := lw_g (lw_at lw_m7 51 rfl) rfl
theorem q1545 : (Jvm.Cond.constantLong "HoleCountyModel" (288 : Nat) (2147483647 : Int64)) ∈ lw_all := lw_g (lw_at lw_m7 52 rfl) rfl
theorem q1546 : (Jvm.Cond.constant "HoleCountyModel" (290 : Nat) (65536 : Int32)) ∈ lw_all := lw_g (lw_at lw_m7 53 rfl) rfl
theorem q1548 : (Jvm.Cond.instanceMethod ({ cls := "HoleCountyModel", name := "seed", desc := "(I)I" } : Jvm.MethodName)) ∈ lw_all := lw_g (lw_at lw_m7 55 rfl) rfl
theorem q1549 : (Jvm.Cond.selects "HoleCountyModel" ({ cls := "HoleCountyModel", name := "seed", desc := "(I)I" } : Jvm.MethodName) ({ cls := "HoleCountyModel", name := "seed", desc := "(I)I" } : Jvm.MethodName)) ∈ lw_all := lw_g (lw_at lw_m7 56 rfl) rfl
theorem q1550 : (Jvm.Cond.code ({ cls := "HoleCountyModel", name := "seed", desc := "(I)I" } : Jvm.MethodName) prog_12_method_69_code (3 : Nat) (Option.some Jvm.ClassFile.FieldType.int)) ∈ lw_all := lw_g (lw_at lw_m7 57 rfl) rfl
theorem q1552 : (Jvm.Cond.instanceMethod ({ cls := "HoleCountyModel", name := "image", desc := "()I" } : Jvm.MethodName)) ∈ lw_all := lw_g (lw_at lw_m7 59 rfl) rfl
theorem q1553 : (Jvm.Cond.selects "HoleCountyModel" ({ cls := "HoleCountyModel", name := "image", desc := "()I" } : Jvm.MethodName) ({ cls := "HoleCountyModel", name := "image", desc := "()I" } : Jvm.MethodName)) ∈ lw_all := lw_g (lw_at lw_m7 60 rfl) rfl
theorem q1554 : (Jvm.Cond.code ({ cls := "HoleCountyModel", name := "image", desc := "()I" } : Jvm.MethodName) prog_12_method_71_code (2 : Nat) (Option.some Jvm.ClassFile.FieldType.int)) ∈ lw_all := lw_g (lw_at lw_m7 61 rfl) rfl
theorem q1555 : (Jvm.Cond.methodLink "HoleCountyModel" (294 : Nat) ({ cls := "HoleCountyModel", name := "carried", desc := "(IIZ)I" } : Jvm.MethodName)) ∈ lw_all := lw_g (lw_at lw_m7 62 rfl) rfl
theorem q1556 : (Jvm.Cond.privateMethod ({ cls := "HoleCountyModel", name := "carried", desc := "(IIZ)I" } : Jvm.MethodName)) ∈ lw_tbl := lw_at lw_m7 63 rfl
theorem q1557 : (Jvm.Cond.instanceMethod ({ cls := "HoleCountyModel", name := "carried", desc := "(IIZ)I" } : Jvm.MethodName)) ∈ lw_all := lw_g (lw_at lw_m7 64 rfl) rfl
theorem q1558 : (Jvm.Cond.code ({ cls := "HoleCountyModel", name := "carried", desc := "(IIZ)I" } : Jvm.MethodName) prog_12_method_70_code (5 : Nat) (Option.some Jvm.ClassFile.FieldType.int)) ∈ lw_all := lw_g (lw_at lw_m7 65 rfl) rfl
theorem q1560 : (Jvm.Cond.instanceMethod ({ cls := "HoleCountyModel", name := "restore", desc := "()I" } : Jvm.MethodName)) ∈ lw_all := lw_g (lw_at lw_m7 67 rfl) rfl
theorem q1561 : (Jvm.Cond.selects "HoleCountyModel" ({ cls := "HoleCountyModel", name := "restore", desc := "()I" } : Jvm.MethodName) ({ cls := "HoleCountyModel", name := "restore", desc := "()I" } : Jvm.MethodName)) ∈ lw_all := lw_g (lw_at lw_m7 68 rfl) rfl
theorem q1562 : (Jvm.Cond.code ({ cls := "HoleCountyModel", name := "restore", desc := "()I" } : Jvm.MethodName) prog_12_method_72_code (2 : Nat) (Option.some Jvm.ClassFile.FieldType.int)) ∈ lw_all := lw_g (lw_at lw_m7 69 rfl) rfl
theorem q1564 : (Jvm.Cond.instanceMethod ({ cls := "HoleCountyModel", name := "sheet", desc := "(III)I" } : Jvm.MethodName)) ∈ lw_all := lw_g (lw_at lw_m7 71 rfl) rfl
theorem q1565 : (Jvm.Cond.selects "HoleCountyModel" ({ cls := "HoleCountyModel", name := "sheet", desc := "(III)I" } : Jvm.MethodName) ({ cls := "HoleCountyModel", name := "sheet", desc := "(III)I" } : Jvm.MethodName)) ∈ lw_all := lw_g (lw_at lw_m7 72 rfl) rfl
theorem q1566 : (Jvm.Cond.code ({ cls := "HoleCountyModel", name := "sheet", desc := "(III)I" } : Jvm.MethodName) prog_12_method_75_code (5 : Nat) (Option.some Jvm.ClassFile.FieldType.int)) ∈ lw_all := lw_g (lw_at lw_m7 73 rfl) rfl
theorem q1567 : (Jvm.Cond.methodLink "HoleCountyModel" (305 : Nat) ({ cls := "HoleCountyModel", name := "isSheet", desc := "(II)Z" } : Jvm.MethodName)) ∈ lw_all := lw_g (lw_at lw_m7 74 rfl) rfl
theorem q1568 : (Jvm.Cond.static ({ cls := "HoleCountyModel", name := "isSheet", desc := "(II)Z" } : Jvm.MethodName)) ∈ lw_all := lw_g (lw_at lw_m7 75 rfl) rfl
theorem q1569 : (Jvm.Cond.code ({ cls := "HoleCountyModel", name := "isSheet", desc := "(II)Z" } : Jvm.MethodName) prog_12_method_73_code (2 : Nat) (Option.some Jvm.ClassFile.FieldType.boolean)) ∈ lw_all := lw_g (lw_at lw_m7 76 rfl) rfl
theorem q1571 : (Jvm.Cond.instanceMethod ({ cls := "HoleCountyModel", name := "drop", desc := "(I)I" } : Jvm.MethodName)) ∈ lw_all := lw_g (lw_at lw_m7 78 rfl) rfl
theorem q1572 : (Jvm.Cond.selects "HoleCountyModel" ({ cls := "HoleCountyModel", name := "drop", desc := "(I)I" } : Jvm.MethodName) ({ cls := "HoleCountyModel", name := "drop", desc := "(I)I" } : Jvm.MethodName)) ∈ lw_all := lw_g (lw_at lw_m7 79 rfl) rfl
theorem q1573 : (Jvm.Cond.code ({ cls := "HoleCountyModel", name := "drop", desc := "(I)I" } : Jvm.MethodName) prog_12_method_76_code (2 : Nat) (Option.some Jvm.ClassFile.FieldType.int)) ∈ lw_all := lw_g (lw_at lw_m7 80 rfl) rfl
theorem q1575 : (Jvm.Cond.instanceMethod ({ cls := "HoleCountyModel", name := "item", desc := "(IIIJ)I" } : Jvm.MethodName)) ∈ lw_all := lw_g (lw_at lw_m7 82 rfl) rfl
theorem q1576 : (Jvm.Cond.selects "HoleCountyModel" ({ cls := "HoleCountyModel", name := "item", desc := "(IIIJ)I" } : Jvm.MethodName) ({ cls := "HoleCountyModel", name := "item", desc := "(IIIJ)I" } : Jvm.MethodName)) ∈ lw_all := lw_g (lw_at lw_m7 83 rfl) rfl
theorem q1577 : (Jvm.Cond.code ({ cls := "HoleCountyModel", name := "item", desc := "(IIIJ)I" } : Jvm.MethodName) prog_12_method_78_code (7 : Nat) (Option.some Jvm.ClassFile.FieldType.int)) ∈ lw_all := lw_g (lw_at lw_m7 84 rfl) rfl
theorem q1578 : (Jvm.Cond.methodLink "HoleCountyModel" (309 : Nat) ({ cls := "HoleCountyModel", name := "lacksRow", desc := "(IIII)I" } : Jvm.MethodName)) ∈ lw_all := lw_g (lw_at lw_m7 85 rfl) rfl
theorem q1579 : (Jvm.Cond.privateMethod ({ cls := "HoleCountyModel", name := "lacksRow", desc := "(IIII)I" } : Jvm.MethodName)) ∈ lw_tbl := lw_at lw_m7 86 rfl
theorem q1580 : (Jvm.Cond.instanceMethod ({ cls := "HoleCountyModel", name := "lacksRow", desc := "(IIII)I" } : Jvm.MethodName)) ∈ lw_all := lw_g (lw_at lw_m7 87 rfl) rfl
theorem q1581 : (Jvm.Cond.code ({ cls := "HoleCountyModel", name := "lacksRow", desc := "(IIII)I" } : Jvm.MethodName) prog_12_method_77_code (5 : Nat) (Option.some Jvm.ClassFile.FieldType.int)) ∈ lw_all := lw_g (lw_at lw_m7 88 rfl) rfl
theorem q1582 : (Jvm.Cond.methodLink "HoleCountyModel" (313 : Nat) ({ cls := "HoleCountyModel", name := "asLane", desc := "(IJ)J" } : Jvm.MethodName)) ∈ lw_all := lw_g (lw_at lw_m7 89 rfl) rfl
theorem q1583 : (Jvm.Cond.static ({ cls := "HoleCountyModel", name := "asLane", desc := "(IJ)J" } : Jvm.MethodName)) ∈ lw_all := lw_g (lw_at lw_m7 90 rfl) rfl
theorem q1584 : (Jvm.Cond.code ({ cls := "HoleCountyModel", name := "asLane", desc := "(IJ)J" } : Jvm.MethodName) prog_12_method_74_code (3 : Nat) (Option.some Jvm.ClassFile.FieldType.long)) ∈ lw_all := lw_g (lw_at lw_m7 91 rfl) rfl
theorem q1586 : (Jvm.Cond.instanceMethod ({ cls := "HoleCountyModel", name := "lay", desc := "(IIIII)I" } : Jvm.MethodName)) ∈ lw_all := lw_g (lw_at lw_m7 93 rfl) rfl
theorem q1587 : (Jvm.Cond.selects "HoleCountyModel" ({ cls := "HoleCountyModel", name := "lay", desc := "(IIIII)I" } : Jvm.MethodName) ({ cls := "HoleCountyModel", name := "lay", desc := "(IIIII)I" } : Jvm.MethodName)) ∈ lw_all := lw_g (lw_at lw_m7 94 rfl) rfl
theorem q1588 : (Jvm.Cond.code ({ cls := "HoleCountyModel", name := "lay", desc := "(IIIII)I" } : Jvm.MethodName) prog_12_method_79_code (10 : Nat) (Option.some Jvm.ClassFile.FieldType.int)) ∈ lw_all := lw_g (lw_at lw_m7 95 rfl) rfl
theorem q1590 : (Jvm.Cond.instanceMethod ({ cls := "HoleCountyModel", name := "film", desc := "(III)I" } : Jvm.MethodName)) ∈ lw_all := lw_g (lw_at lw_m7 97 rfl) rfl
theorem q1591 : (Jvm.Cond.selects "HoleCountyModel" ({ cls := "HoleCountyModel", name := "film", desc := "(III)I" } : Jvm.MethodName) ({ cls := "HoleCountyModel", name := "film", desc := "(III)I" } : Jvm.MethodName)) ∈ lw_all := lw_g (lw_at lw_m7 98 rfl) rfl
theorem q1592 : (Jvm.Cond.code ({ cls := "HoleCountyModel", name := "film", desc := "(III)I" } : Jvm.MethodName) prog_12_method_80_code (6 : Nat) (Option.some Jvm.ClassFile.FieldType.int)) ∈ lw_all := lw_g (lw_at lw_m7 99 rfl) rfl
theorem q1594 : (Jvm.Cond.instanceMethod ({ cls := "HoleCountyModel", name := "miscounted", desc := "(IIII)I" } : Jvm.MethodName)) ∈ lw_all := lw_g (lw_at lw_m7 101 rfl) rfl
theorem q1595 : (Jvm.Cond.selects "HoleCountyModel" ({ cls := "HoleCountyModel", name := "miscounted", desc := "(IIII)I" } : Jvm.MethodName) ({ cls := "HoleCountyModel", name := "miscounted", desc := "(IIII)I" } : Jvm.MethodName)) ∈ lw_all := lw_g (lw_at lw_m7 102 rfl) rfl
theorem q1596 : (Jvm.Cond.code ({ cls := "HoleCountyModel", name := "miscounted", desc := "(IIII)I" } : Jvm.MethodName) prog_12_method_81_code (12 : Nat) (Option.some Jvm.ClassFile.FieldType.int)) ∈ lw_all := lw_g (lw_at lw_m7 103 rfl) rfl
theorem q1597 : (Jvm.Cond.constantLong "HoleCountyModel" (317 : Nat) (12 : Int64)) ∈ lw_all := lw_g (lw_at lw_m7 104 rfl) rfl
theorem q1599 : (Jvm.Cond.instanceMethod ({ cls := "HoleCountyModel", name := "copy", desc := "(IIIII)I" } : Jvm.MethodName)) ∈ lw_all := lw_g (lw_at lw_m7 106 rfl) rfl
theorem q1600 : (Jvm.Cond.selects "HoleCountyModel" ({ cls := "HoleCountyModel", name := "copy", desc := "(IIIII)I" } : Jvm.MethodName) ({ cls := "HoleCountyModel", name := "copy", desc := "(IIIII)I" } : Jvm.MethodName)) ∈ lw_all := lw_g (lw_at lw_m7 107 rfl) rfl
theorem q1601 : (Jvm.Cond.code ({ cls := "HoleCountyModel", name := "copy", desc := "(IIIII)I" } : Jvm.MethodName) prog_12_method_82_code (7 : Nat) (Option.some Jvm.ClassFile.FieldType.int)) ∈ lw_all := lw_g (lw_at lw_m7 108 rfl) rfl
theorem q1623 : (Jvm.Cond.castable "HoleCountyModel" "java/lang/Object") ∈ lw_tbl := lw_at lw_m7 130 rfl
theorem in_X3 : ∀ w ∈ wsX30, w ∈ lw_all := lw_in wsX30 [1205, 1207, 1209, 1211, 1213, 1215, 1217, 1219, 1221, 1223, 1225, 1227, 1229, 1231, 1233, 1235, 1237, 1239, 1241, 1243, 1245, 1247, 1249, 1251, 1253, 1255, 1257] (by decide +kernel) (by decide +kernel)
