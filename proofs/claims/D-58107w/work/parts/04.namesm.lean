/-! CoastTilesModel -/
set_option maxRecDepth 100000
def RX4 : String := "CoastTilesModel"
def TX4 : u_T := fun k => match k with
  | 0 => ("CoastTilesModel", "z", "[I", true)
  | 1 => ("CoastTilesModel", "past", "[I", true)
  | 2 => ("CoastTilesModel", "pastMany", "I", false)
  | 3 => ("CoastTilesModel", "kept", "[I", true)
  | 4 => ("CoastTilesModel", "isKept", "Z", false)
  | 5 => ("CoastTilesModel", "buffer", "[C", true)
  | 6 => ("CoastTilesModel", "typed", "I", false)
  | 7 => ("CoastTilesModel", "masks", "[I", true)
  | 8 => ("CoastTilesModel", "shapes", "[I", true)
  | 9 => ("CoastTilesModel", "before", "[I", true)
  | 10 => ("CoastTilesModel", "found", "[I", true)
  | 11 => ("CoastTilesModel", "steps", "[I", true)
  | 12 => ("CoastTilesModel", "foundMany", "I", false)
  | 13 => ("CoastTilesModel", "sums", "[I", true)
  | 14 => ("CoastTilesModel", "newTiles", "[I", true)
  | 15 => ("CoastTilesModel", "newPins", "[I", true)
  | 16 => ("CoastTilesModel", "isSeen", "[Z", true)
  | 17 => ("CoastTilesModel", "read", "[I", true)
  | 18 => ("CoastTilesModel", "readRows", "I", false)
  | 19 => ("CoastTilesModel", "readColumns", "I", false)
  | 20 => ("CoastTilesModel", "inRow", "I", false)
  | _ => ("CoastTilesModel", "number", "I", false)
def tyX4 : Nat → FieldType := fun k => match k with
  | 0 => .array .int
  | 1 => .array .int
  | 2 => .int
  | 3 => .array .int
  | 4 => .boolean
  | 5 => .array .char
  | 6 => .int
  | 7 => .array .int
  | 8 => .array .int
  | 9 => .array .int
  | 10 => .array .int
  | 11 => .array .int
  | 12 => .int
  | 13 => .array .int
  | 14 => .array .int
  | 15 => .array .int
  | 16 => .array .boolean
  | 17 => .array .int
  | 18 => .int
  | 19 => .int
  | 20 => .int
  | _ => .int
abbrev wsX40 : List Cond := u_ws RX4 TX4 22
set_option maxRecDepth 100000 in
theorem nmX4 : ∀ a, a < 22 → ∀ b, b < 22 → a ≠ b → (TX4 a).2.1 ≠ (TX4 b).2.1 := by decide +kernel
set_option maxRecDepth 100000 in
theorem tyX4_ok : ∀ k, k < 22 → parseFieldDescriptor (TX4 k).2.2.1 = some (tyX4 k) := by decide +kernel
abbrev cX4_init : ByteArray := prog_12_method_1_code
def yX4_init : MethodName := ⟨RX4, "<init>", "()V"⟩
def dkwX4_init_8 : List UInt8 := [180, 0, 7, 4, 16, 8, 79, 42, 182, 0, 58, 177]
abbrev dktX4_init_8 : List UInt8 := dkwX4_init_8 ++ []
def dkwX4_init_7 : List UInt8 := [180, 0, 26, 28, 27, 79, 132, 1, 1, 132, 2, 1, 167, 255, 213, 42, 180, 0, 7, 3, 16, 8, 79, 42]
abbrev dktX4_init_7 : List UInt8 := dkwX4_init_7 ++ dktX4_init_8
def dkwX4_init_6 : List UInt8 := [180, 0, 26, 28, 16, 250, 79, 28, 184, 0, 54, 28, 160, 0, 20, 42, 180, 0, 23, 27, 28, 79, 42]
abbrev dktX4_init_6 : List UInt8 := dkwX4_init_6 ++ dktX4_init_7
def dkwX4_init_5 : List UInt8 := [181, 0, 47, 42, 17, 0, 144, 188, 10, 181, 0, 51, 3, 60, 3, 61, 28, 17, 1, 0, 162, 0, 42, 42]
abbrev dktX4_init_5 : List UInt8 := dkwX4_init_5 ++ dktX4_init_6
def dkwX4_init_4 : List UInt8 := [17, 0, 144, 188, 10, 181, 0, 41, 42, 17, 0, 144, 188, 10, 181, 0, 44, 42, 17, 0, 144, 188, 4]
abbrev dktX4_init_4 : List UInt8 := dkwX4_init_4 ++ dktX4_init_5
def dkwX4_init_3 : List UInt8 := [181, 0, 32, 42, 17, 0, 144, 188, 10, 181, 0, 35, 42, 17, 0, 144, 188, 10, 181, 0, 38, 42]
abbrev dktX4_init_3 : List UInt8 := dkwX4_init_3 ++ dktX4_init_4
def dkwX4_init_2 : List UInt8 := [42, 17, 1, 0, 188, 10, 181, 0, 26, 42, 17, 0, 144, 188, 10, 181, 0, 29, 42, 17, 0, 144, 188, 10]
abbrev dktX4_init_2 : List UInt8 := dkwX4_init_2 ++ dktX4_init_3
def dkwX4_init_1 : List UInt8 := [17, 1, 35, 188, 10, 181, 0, 16, 42, 16, 80, 188, 5, 181, 0, 19, 42, 16, 47, 188, 10, 181, 0, 23]
abbrev dktX4_init_1 : List UInt8 := dkwX4_init_1 ++ dktX4_init_2
def dkwX4_init_0 : List UInt8 := [42, 183, 0, 1, 42, 17, 1, 35, 188, 10, 181, 0, 7, 42, 17, 5, 175, 188, 10, 181, 0, 13, 42]
abbrev dktX4_init_0 : List UInt8 := dkwX4_init_0 ++ dktX4_init_1
theorem dksX4_init_0 : cX4_init.data.toList.drop 0 = dktX4_init_0 := by decide +kernel
theorem dksX4_init_1 : cX4_init.data.toList.drop 23 = dktX4_init_1 := dk_seg dksX4_init_0 23 rfl rfl
theorem dksX4_init_2 : cX4_init.data.toList.drop 47 = dktX4_init_2 := dk_seg dksX4_init_1 24 rfl rfl
theorem dksX4_init_3 : cX4_init.data.toList.drop 71 = dktX4_init_3 := dk_seg dksX4_init_2 24 rfl rfl
theorem dksX4_init_4 : cX4_init.data.toList.drop 93 = dktX4_init_4 := dk_seg dksX4_init_3 22 rfl rfl
theorem dksX4_init_5 : cX4_init.data.toList.drop 116 = dktX4_init_5 := dk_seg dksX4_init_4 23 rfl rfl
theorem dksX4_init_6 : cX4_init.data.toList.drop 140 = dktX4_init_6 := dk_seg dksX4_init_5 24 rfl rfl
theorem dksX4_init_7 : cX4_init.data.toList.drop 163 = dktX4_init_7 := dk_seg dksX4_init_6 23 rfl rfl
theorem dksX4_init_8 : cX4_init.data.toList.drop 187 = dktX4_init_8 := dk_seg dksX4_init_7 24 rfl rfl
theorem dX4_init_0 : decode cX4_init 0 = .ok (.aload_n 0, 1) := dk_42 (dk_at dksX4_init_0 0 rfl rfl)
theorem dX4_init_1 : decode cX4_init 1 = .ok (.invokespecial 1, 3) := dk_183 0 1 (dk_at dksX4_init_0 1 rfl rfl)
theorem dX4_init_4 : decode cX4_init 4 = .ok (.aload_n 0, 1) := dk_42 (dk_at dksX4_init_0 4 rfl rfl)
theorem dX4_init_5 : decode cX4_init 5 = .ok (.sipush 291, 3) := dk_17 1 35 (dk_at dksX4_init_0 5 rfl rfl)
theorem dX4_init_8 : decode cX4_init 8 = .ok (.newarray .int, 2) := dk_188_10 (dk_at dksX4_init_0 8 rfl rfl)
theorem dX4_init_10 : decode cX4_init 10 = .ok (.putfield 7, 3) := dk_181 0 7 (dk_at dksX4_init_0 10 rfl rfl)
theorem dX4_init_13 : decode cX4_init 13 = .ok (.aload_n 0, 1) := dk_42 (dk_at dksX4_init_0 13 rfl rfl)
theorem dX4_init_14 : decode cX4_init 14 = .ok (.sipush 1455, 3) := dk_17 5 175 (dk_at dksX4_init_0 14 rfl rfl)
theorem dX4_init_17 : decode cX4_init 17 = .ok (.newarray .int, 2) := dk_188_10 (dk_at dksX4_init_0 17 rfl rfl)
theorem dX4_init_19 : decode cX4_init 19 = .ok (.putfield 13, 3) := dk_181 0 13 (dk_at dksX4_init_0 19 rfl rfl)
theorem dX4_init_22 : decode cX4_init 22 = .ok (.aload_n 0, 1) := dk_42 (dk_at dksX4_init_0 22 rfl rfl)
theorem dX4_init_23 : decode cX4_init 23 = .ok (.sipush 291, 3) := dk_17 1 35 (dk_at dksX4_init_1 0 rfl rfl)
theorem dX4_init_26 : decode cX4_init 26 = .ok (.newarray .int, 2) := dk_188_10 (dk_at dksX4_init_1 3 rfl rfl)
theorem dX4_init_28 : decode cX4_init 28 = .ok (.putfield 16, 3) := dk_181 0 16 (dk_at dksX4_init_1 5 rfl rfl)
theorem dX4_init_31 : decode cX4_init 31 = .ok (.aload_n 0, 1) := dk_42 (dk_at dksX4_init_1 8 rfl rfl)
theorem dX4_init_32 : decode cX4_init 32 = .ok (.bipush 80, 2) := dk_16 80 (dk_at dksX4_init_1 9 rfl rfl)
theorem dX4_init_34 : decode cX4_init 34 = .ok (.newarray .char, 2) := dk_188_5 (dk_at dksX4_init_1 11 rfl rfl)
theorem dX4_init_36 : decode cX4_init 36 = .ok (.putfield 19, 3) := dk_181 0 19 (dk_at dksX4_init_1 13 rfl rfl)
theorem dX4_init_39 : decode cX4_init 39 = .ok (.aload_n 0, 1) := dk_42 (dk_at dksX4_init_1 16 rfl rfl)
theorem dX4_init_40 : decode cX4_init 40 = .ok (.bipush 47, 2) := dk_16 47 (dk_at dksX4_init_1 17 rfl rfl)
theorem dX4_init_42 : decode cX4_init 42 = .ok (.newarray .int, 2) := dk_188_10 (dk_at dksX4_init_1 19 rfl rfl)
theorem dX4_init_44 : decode cX4_init 44 = .ok (.putfield 23, 3) := dk_181 0 23 (dk_at dksX4_init_1 21 rfl rfl)
theorem dX4_init_47 : decode cX4_init 47 = .ok (.aload_n 0, 1) := dk_42 (dk_at dksX4_init_2 0 rfl rfl)
theorem dX4_init_48 : decode cX4_init 48 = .ok (.sipush 256, 3) := dk_17 1 0 (dk_at dksX4_init_2 1 rfl rfl)
theorem dX4_init_51 : decode cX4_init 51 = .ok (.newarray .int, 2) := dk_188_10 (dk_at dksX4_init_2 4 rfl rfl)
theorem dX4_init_53 : decode cX4_init 53 = .ok (.putfield 26, 3) := dk_181 0 26 (dk_at dksX4_init_2 6 rfl rfl)
theorem dX4_init_56 : decode cX4_init 56 = .ok (.aload_n 0, 1) := dk_42 (dk_at dksX4_init_2 9 rfl rfl)
theorem dX4_init_57 : decode cX4_init 57 = .ok (.sipush 144, 3) := dk_17 0 144 (dk_at dksX4_init_2 10 rfl rfl)
theorem dX4_init_60 : decode cX4_init 60 = .ok (.newarray .int, 2) := dk_188_10 (dk_at dksX4_init_2 13 rfl rfl)
theorem dX4_init_62 : decode cX4_init 62 = .ok (.putfield 29, 3) := dk_181 0 29 (dk_at dksX4_init_2 15 rfl rfl)
theorem dX4_init_65 : decode cX4_init 65 = .ok (.aload_n 0, 1) := dk_42 (dk_at dksX4_init_2 18 rfl rfl)
theorem dX4_init_66 : decode cX4_init 66 = .ok (.sipush 144, 3) := dk_17 0 144 (dk_at dksX4_init_2 19 rfl rfl)
theorem dX4_init_69 : decode cX4_init 69 = .ok (.newarray .int, 2) := dk_188_10 (dk_at dksX4_init_2 22 rfl rfl)
theorem dX4_init_71 : decode cX4_init 71 = .ok (.putfield 32, 3) := dk_181 0 32 (dk_at dksX4_init_3 0 rfl rfl)
theorem dX4_init_74 : decode cX4_init 74 = .ok (.aload_n 0, 1) := dk_42 (dk_at dksX4_init_3 3 rfl rfl)
theorem dX4_init_75 : decode cX4_init 75 = .ok (.sipush 144, 3) := dk_17 0 144 (dk_at dksX4_init_3 4 rfl rfl)
theorem dX4_init_78 : decode cX4_init 78 = .ok (.newarray .int, 2) := dk_188_10 (dk_at dksX4_init_3 7 rfl rfl)
theorem dX4_init_80 : decode cX4_init 80 = .ok (.putfield 35, 3) := dk_181 0 35 (dk_at dksX4_init_3 9 rfl rfl)
theorem dX4_init_83 : decode cX4_init 83 = .ok (.aload_n 0, 1) := dk_42 (dk_at dksX4_init_3 12 rfl rfl)
theorem dX4_init_84 : decode cX4_init 84 = .ok (.sipush 144, 3) := dk_17 0 144 (dk_at dksX4_init_3 13 rfl rfl)
theorem dX4_init_87 : decode cX4_init 87 = .ok (.newarray .int, 2) := dk_188_10 (dk_at dksX4_init_3 16 rfl rfl)
theorem dX4_init_89 : decode cX4_init 89 = .ok (.putfield 38, 3) := dk_181 0 38 (dk_at dksX4_init_3 18 rfl rfl)
theorem dX4_init_92 : decode cX4_init 92 = .ok (.aload_n 0, 1) := dk_42 (dk_at dksX4_init_3 21 rfl rfl)
theorem dX4_init_93 : decode cX4_init 93 = .ok (.sipush 144, 3) := dk_17 0 144 (dk_at dksX4_init_4 0 rfl rfl)
theorem dX4_init_96 : decode cX4_init 96 = .ok (.newarray .int, 2) := dk_188_10 (dk_at dksX4_init_4 3 rfl rfl)
theorem dX4_init_98 : decode cX4_init 98 = .ok (.putfield 41, 3) := dk_181 0 41 (dk_at dksX4_init_4 5 rfl rfl)
theorem dX4_init_101 : decode cX4_init 101 = .ok (.aload_n 0, 1) := dk_42 (dk_at dksX4_init_4 8 rfl rfl)
theorem dX4_init_102 : decode cX4_init 102 = .ok (.sipush 144, 3) := dk_17 0 144 (dk_at dksX4_init_4 9 rfl rfl)
theorem dX4_init_105 : decode cX4_init 105 = .ok (.newarray .int, 2) := dk_188_10 (dk_at dksX4_init_4 12 rfl rfl)
theorem dX4_init_107 : decode cX4_init 107 = .ok (.putfield 44, 3) := dk_181 0 44 (dk_at dksX4_init_4 14 rfl rfl)
theorem dX4_init_110 : decode cX4_init 110 = .ok (.aload_n 0, 1) := dk_42 (dk_at dksX4_init_4 17 rfl rfl)
theorem dX4_init_111 : decode cX4_init 111 = .ok (.sipush 144, 3) := dk_17 0 144 (dk_at dksX4_init_4 18 rfl rfl)
theorem dX4_init_114 : decode cX4_init 114 = .ok (.newarray .boolean, 2) := dk_188_4 (dk_at dksX4_init_4 21 rfl rfl)
theorem dX4_init_116 : decode cX4_init 116 = .ok (.putfield 47, 3) := dk_181 0 47 (dk_at dksX4_init_5 0 rfl rfl)
theorem dX4_init_119 : decode cX4_init 119 = .ok (.aload_n 0, 1) := dk_42 (dk_at dksX4_init_5 3 rfl rfl)
theorem dX4_init_120 : decode cX4_init 120 = .ok (.sipush 144, 3) := dk_17 0 144 (dk_at dksX4_init_5 4 rfl rfl)
theorem dX4_init_123 : decode cX4_init 123 = .ok (.newarray .int, 2) := dk_188_10 (dk_at dksX4_init_5 7 rfl rfl)
theorem dX4_init_125 : decode cX4_init 125 = .ok (.putfield 51, 3) := dk_181 0 51 (dk_at dksX4_init_5 9 rfl rfl)
theorem dX4_init_128 : decode cX4_init 128 = .ok (.iconst 0, 1) := dk_3 (dk_at dksX4_init_5 12 rfl rfl)
theorem dX4_init_129 : decode cX4_init 129 = .ok (.istore_n 1, 1) := dk_60 (dk_at dksX4_init_5 13 rfl rfl)
theorem dX4_init_130 : decode cX4_init 130 = .ok (.iconst 0, 1) := dk_3 (dk_at dksX4_init_5 14 rfl rfl)
theorem dX4_init_131 : decode cX4_init 131 = .ok (.istore_n 2, 1) := dk_61 (dk_at dksX4_init_5 15 rfl rfl)
theorem dX4_init_132 : decode cX4_init 132 = .ok (.iload_n 2, 1) := dk_28 (dk_at dksX4_init_5 16 rfl rfl)
theorem dX4_init_133 : decode cX4_init 133 = .ok (.sipush 256, 3) := dk_17 1 0 (dk_at dksX4_init_5 17 rfl rfl)
theorem dX4_init_136 : decode cX4_init 136 = .ok (.if_icmp .ge 42, 3) := dk_162 0 42 (dk_at dksX4_init_5 20 rfl rfl)
theorem dX4_init_139 : decode cX4_init 139 = .ok (.aload_n 0, 1) := dk_42 (dk_at dksX4_init_5 23 rfl rfl)
theorem dX4_init_140 : decode cX4_init 140 = .ok (.getfield 26, 3) := dk_180 0 26 (dk_at dksX4_init_6 0 rfl rfl)
theorem dX4_init_143 : decode cX4_init 143 = .ok (.iload_n 2, 1) := dk_28 (dk_at dksX4_init_6 3 rfl rfl)
theorem dX4_init_144 : decode cX4_init 144 = .ok (.bipush (-6), 2) := dk_16 250 (dk_at dksX4_init_6 4 rfl rfl)
theorem dX4_init_146 : decode cX4_init 146 = .ok (.iastore, 1) := dk_79 (dk_at dksX4_init_6 6 rfl rfl)
theorem dX4_init_147 : decode cX4_init 147 = .ok (.iload_n 2, 1) := dk_28 (dk_at dksX4_init_6 7 rfl rfl)
theorem dX4_init_148 : decode cX4_init 148 = .ok (.invokestatic 54, 3) := dk_184 0 54 (dk_at dksX4_init_6 8 rfl rfl)
theorem dX4_init_151 : decode cX4_init 151 = .ok (.iload_n 2, 1) := dk_28 (dk_at dksX4_init_6 11 rfl rfl)
theorem dX4_init_152 : decode cX4_init 152 = .ok (.if_icmp .ne 20, 3) := dk_160 0 20 (dk_at dksX4_init_6 12 rfl rfl)
theorem dX4_init_155 : decode cX4_init 155 = .ok (.aload_n 0, 1) := dk_42 (dk_at dksX4_init_6 15 rfl rfl)
theorem dX4_init_156 : decode cX4_init 156 = .ok (.getfield 23, 3) := dk_180 0 23 (dk_at dksX4_init_6 16 rfl rfl)
theorem dX4_init_159 : decode cX4_init 159 = .ok (.iload_n 1, 1) := dk_27 (dk_at dksX4_init_6 19 rfl rfl)
theorem dX4_init_160 : decode cX4_init 160 = .ok (.iload_n 2, 1) := dk_28 (dk_at dksX4_init_6 20 rfl rfl)
theorem dX4_init_161 : decode cX4_init 161 = .ok (.iastore, 1) := dk_79 (dk_at dksX4_init_6 21 rfl rfl)
theorem dX4_init_162 : decode cX4_init 162 = .ok (.aload_n 0, 1) := dk_42 (dk_at dksX4_init_6 22 rfl rfl)
theorem dX4_init_163 : decode cX4_init 163 = .ok (.getfield 26, 3) := dk_180 0 26 (dk_at dksX4_init_7 0 rfl rfl)
theorem dX4_init_166 : decode cX4_init 166 = .ok (.iload_n 2, 1) := dk_28 (dk_at dksX4_init_7 3 rfl rfl)
theorem dX4_init_167 : decode cX4_init 167 = .ok (.iload_n 1, 1) := dk_27 (dk_at dksX4_init_7 4 rfl rfl)
theorem dX4_init_168 : decode cX4_init 168 = .ok (.iastore, 1) := dk_79 (dk_at dksX4_init_7 5 rfl rfl)
theorem dX4_init_169 : decode cX4_init 169 = .ok (.iinc 1 1, 3) := dk_132 1 1 (dk_at dksX4_init_7 6 rfl rfl)
theorem dX4_init_172 : decode cX4_init 172 = .ok (.iinc 2 1, 3) := dk_132 2 1 (dk_at dksX4_init_7 9 rfl rfl)
theorem dX4_init_175 : decode cX4_init 175 = .ok (.goto (-43), 3) := dk_167 255 213 (dk_at dksX4_init_7 12 rfl rfl)
theorem dX4_init_178 : decode cX4_init 178 = .ok (.aload_n 0, 1) := dk_42 (dk_at dksX4_init_7 15 rfl rfl)
theorem dX4_init_179 : decode cX4_init 179 = .ok (.getfield 7, 3) := dk_180 0 7 (dk_at dksX4_init_7 16 rfl rfl)
theorem dX4_init_182 : decode cX4_init 182 = .ok (.iconst 0, 1) := dk_3 (dk_at dksX4_init_7 19 rfl rfl)
theorem dX4_init_183 : decode cX4_init 183 = .ok (.bipush 8, 2) := dk_16 8 (dk_at dksX4_init_7 20 rfl rfl)
theorem dX4_init_185 : decode cX4_init 185 = .ok (.iastore, 1) := dk_79 (dk_at dksX4_init_7 22 rfl rfl)
theorem dX4_init_186 : decode cX4_init 186 = .ok (.aload_n 0, 1) := dk_42 (dk_at dksX4_init_7 23 rfl rfl)
theorem dX4_init_187 : decode cX4_init 187 = .ok (.getfield 7, 3) := dk_180 0 7 (dk_at dksX4_init_8 0 rfl rfl)
theorem dX4_init_190 : decode cX4_init 190 = .ok (.iconst 1, 1) := dk_4 (dk_at dksX4_init_8 3 rfl rfl)
theorem dX4_init_191 : decode cX4_init 191 = .ok (.bipush 8, 2) := dk_16 8 (dk_at dksX4_init_8 4 rfl rfl)
theorem dX4_init_193 : decode cX4_init 193 = .ok (.iastore, 1) := dk_79 (dk_at dksX4_init_8 6 rfl rfl)
theorem dX4_init_194 : decode cX4_init 194 = .ok (.aload_n 0, 1) := dk_42 (dk_at dksX4_init_8 7 rfl rfl)
theorem dX4_init_195 : decode cX4_init 195 = .ok (.invokevirtual 58, 3) := dk_182 0 58 (dk_at dksX4_init_8 8 rfl rfl)
theorem dX4_init_198 : decode cX4_init 198 = .ok (.return_, 1) := dk_177 (dk_at dksX4_init_8 11 rfl rfl)
abbrev cX4_reduced : ByteArray := prog_12_method_15_code
def yX4_reduced : MethodName := ⟨RX4, "reduced", "(I)I"⟩
def dkwX4_reduced_2 : List UInt8 := [172]
abbrev dktX4_reduced_2 : List UInt8 := dkwX4_reduced_2 ++ []
def dkwX4_reduced_1 : List UInt8 := [96, 5, 160, 0, 7, 27, 167, 0, 10, 27, 4, 28, 120, 2, 130, 126, 60, 132, 2, 2, 167, 255, 216, 27]
abbrev dktX4_reduced_1 : List UInt8 := dkwX4_reduced_1 ++ dktX4_reduced_2
def dkwX4_reduced_0 : List UInt8 := [26, 60, 4, 61, 28, 16, 8, 162, 0, 40, 26, 28, 4, 100, 184, 0, 80, 26, 28, 4, 96, 184, 0, 80]
abbrev dktX4_reduced_0 : List UInt8 := dkwX4_reduced_0 ++ dktX4_reduced_1
theorem dksX4_reduced_0 : cX4_reduced.data.toList.drop 0 = dktX4_reduced_0 := by decide +kernel
theorem dksX4_reduced_1 : cX4_reduced.data.toList.drop 24 = dktX4_reduced_1 := dk_seg dksX4_reduced_0 24 rfl rfl
theorem dksX4_reduced_2 : cX4_reduced.data.toList.drop 48 = dktX4_reduced_2 := dk_seg dksX4_reduced_1 24 rfl rfl
theorem dX4_reduced_0 : decode cX4_reduced 0 = .ok (.iload_n 0, 1) := dk_26 (dk_at dksX4_reduced_0 0 rfl rfl)
theorem dX4_reduced_1 : decode cX4_reduced 1 = .ok (.istore_n 1, 1) := dk_60 (dk_at dksX4_reduced_0 1 rfl rfl)
theorem dX4_reduced_2 : decode cX4_reduced 2 = .ok (.iconst 1, 1) := dk_4 (dk_at dksX4_reduced_0 2 rfl rfl)
theorem dX4_reduced_3 : decode cX4_reduced 3 = .ok (.istore_n 2, 1) := dk_61 (dk_at dksX4_reduced_0 3 rfl rfl)
theorem dX4_reduced_4 : decode cX4_reduced 4 = .ok (.iload_n 2, 1) := dk_28 (dk_at dksX4_reduced_0 4 rfl rfl)
theorem dX4_reduced_5 : decode cX4_reduced 5 = .ok (.bipush 8, 2) := dk_16 8 (dk_at dksX4_reduced_0 5 rfl rfl)
theorem dX4_reduced_7 : decode cX4_reduced 7 = .ok (.if_icmp .ge 40, 3) := dk_162 0 40 (dk_at dksX4_reduced_0 7 rfl rfl)
theorem dX4_reduced_10 : decode cX4_reduced 10 = .ok (.iload_n 0, 1) := dk_26 (dk_at dksX4_reduced_0 10 rfl rfl)
theorem dX4_reduced_11 : decode cX4_reduced 11 = .ok (.iload_n 2, 1) := dk_28 (dk_at dksX4_reduced_0 11 rfl rfl)
theorem dX4_reduced_12 : decode cX4_reduced 12 = .ok (.iconst 1, 1) := dk_4 (dk_at dksX4_reduced_0 12 rfl rfl)
theorem dX4_reduced_13 : decode cX4_reduced 13 = .ok (.isub, 1) := dk_100 (dk_at dksX4_reduced_0 13 rfl rfl)
theorem dX4_reduced_14 : decode cX4_reduced 14 = .ok (.invokestatic 80, 3) := dk_184 0 80 (dk_at dksX4_reduced_0 14 rfl rfl)
theorem dX4_reduced_17 : decode cX4_reduced 17 = .ok (.iload_n 0, 1) := dk_26 (dk_at dksX4_reduced_0 17 rfl rfl)
theorem dX4_reduced_18 : decode cX4_reduced 18 = .ok (.iload_n 2, 1) := dk_28 (dk_at dksX4_reduced_0 18 rfl rfl)
theorem dX4_reduced_19 : decode cX4_reduced 19 = .ok (.iconst 1, 1) := dk_4 (dk_at dksX4_reduced_0 19 rfl rfl)
theorem dX4_reduced_20 : decode cX4_reduced 20 = .ok (.iadd, 1) := dk_96 (dk_at dksX4_reduced_0 20 rfl rfl)
theorem dX4_reduced_21 : decode cX4_reduced 21 = .ok (.invokestatic 80, 3) := dk_184 0 80 (dk_at dksX4_reduced_0 21 rfl rfl)
theorem dX4_reduced_24 : decode cX4_reduced 24 = .ok (.iadd, 1) := dk_96 (dk_at dksX4_reduced_1 0 rfl rfl)
theorem dX4_reduced_25 : decode cX4_reduced 25 = .ok (.iconst 2, 1) := dk_5 (dk_at dksX4_reduced_1 1 rfl rfl)
theorem dX4_reduced_26 : decode cX4_reduced 26 = .ok (.if_icmp .ne 7, 3) := dk_160 0 7 (dk_at dksX4_reduced_1 2 rfl rfl)
theorem dX4_reduced_29 : decode cX4_reduced 29 = .ok (.iload_n 1, 1) := dk_27 (dk_at dksX4_reduced_1 5 rfl rfl)
theorem dX4_reduced_30 : decode cX4_reduced 30 = .ok (.goto 10, 3) := dk_167 0 10 (dk_at dksX4_reduced_1 6 rfl rfl)
theorem dX4_reduced_33 : decode cX4_reduced 33 = .ok (.iload_n 1, 1) := dk_27 (dk_at dksX4_reduced_1 9 rfl rfl)
theorem dX4_reduced_34 : decode cX4_reduced 34 = .ok (.iconst 1, 1) := dk_4 (dk_at dksX4_reduced_1 10 rfl rfl)
theorem dX4_reduced_35 : decode cX4_reduced 35 = .ok (.iload_n 2, 1) := dk_28 (dk_at dksX4_reduced_1 11 rfl rfl)
theorem dX4_reduced_36 : decode cX4_reduced 36 = .ok (.ishl, 1) := dk_120 (dk_at dksX4_reduced_1 12 rfl rfl)
theorem dX4_reduced_37 : decode cX4_reduced 37 = .ok (.iconst (-1), 1) := dk_2 (dk_at dksX4_reduced_1 13 rfl rfl)
theorem dX4_reduced_38 : decode cX4_reduced 38 = .ok (.ixor, 1) := dk_130 (dk_at dksX4_reduced_1 14 rfl rfl)
theorem dX4_reduced_39 : decode cX4_reduced 39 = .ok (.iand, 1) := dk_126 (dk_at dksX4_reduced_1 15 rfl rfl)
theorem dX4_reduced_40 : decode cX4_reduced 40 = .ok (.istore_n 1, 1) := dk_60 (dk_at dksX4_reduced_1 16 rfl rfl)
theorem dX4_reduced_41 : decode cX4_reduced 41 = .ok (.iinc 2 2, 3) := dk_132 2 2 (dk_at dksX4_reduced_1 17 rfl rfl)
theorem dX4_reduced_44 : decode cX4_reduced 44 = .ok (.goto (-40), 3) := dk_167 255 216 (dk_at dksX4_reduced_1 20 rfl rfl)
theorem dX4_reduced_47 : decode cX4_reduced 47 = .ok (.iload_n 1, 1) := dk_27 (dk_at dksX4_reduced_1 23 rfl rfl)
theorem dX4_reduced_48 : decode cX4_reduced 48 = .ok (.ireturn, 1) := dk_172 (dk_at dksX4_reduced_2 0 rfl rfl)
abbrev cX4_bit : ByteArray := prog_12_method_14_code
def yX4_bit : MethodName := ⟨RX4, "bit", "(II)I"⟩
def dkwX4_bit_0 : List UInt8 := [26, 27, 16, 7, 126, 122, 4, 126, 172]
abbrev dktX4_bit_0 : List UInt8 := dkwX4_bit_0 ++ []
theorem dksX4_bit_0 : cX4_bit.data.toList.drop 0 = dktX4_bit_0 := by decide +kernel
theorem dX4_bit_0 : decode cX4_bit 0 = .ok (.iload_n 0, 1) := dk_26 (dk_at dksX4_bit_0 0 rfl rfl)
theorem dX4_bit_1 : decode cX4_bit 1 = .ok (.iload_n 1, 1) := dk_27 (dk_at dksX4_bit_0 1 rfl rfl)
theorem dX4_bit_2 : decode cX4_bit 2 = .ok (.bipush 7, 2) := dk_16 7 (dk_at dksX4_bit_0 2 rfl rfl)
theorem dX4_bit_4 : decode cX4_bit 4 = .ok (.iand, 1) := dk_126 (dk_at dksX4_bit_0 4 rfl rfl)
theorem dX4_bit_5 : decode cX4_bit 5 = .ok (.ishr, 1) := dk_122 (dk_at dksX4_bit_0 5 rfl rfl)
theorem dX4_bit_6 : decode cX4_bit 6 = .ok (.iconst 1, 1) := dk_4 (dk_at dksX4_bit_0 6 rfl rfl)
theorem dX4_bit_7 : decode cX4_bit 7 = .ok (.iand, 1) := dk_126 (dk_at dksX4_bit_0 7 rfl rfl)
theorem dX4_bit_8 : decode cX4_bit 8 = .ok (.ireturn, 1) := dk_172 (dk_at dksX4_bit_0 8 rfl rfl)
abbrev cX4_water : ByteArray := prog_12_method_3_code
def yX4_water : MethodName := ⟨RX4, "water", "()V"⟩
def dkwX4_water_1 : List UInt8 := [17, 0, 147, 27, 96, 16, 250, 79, 132, 1, 1, 167, 255, 225, 177]
abbrev dktX4_water_1 : List UInt8 := dkwX4_water_1 ++ []
def dkwX4_water_0 : List UInt8 := [3, 60, 27, 17, 0, 144, 162, 0, 30, 42, 180, 0, 7, 6, 27, 96, 3, 79, 42, 180, 0, 7]
abbrev dktX4_water_0 : List UInt8 := dkwX4_water_0 ++ dktX4_water_1
theorem dksX4_water_0 : cX4_water.data.toList.drop 0 = dktX4_water_0 := by decide +kernel
theorem dksX4_water_1 : cX4_water.data.toList.drop 22 = dktX4_water_1 := dk_seg dksX4_water_0 22 rfl rfl
theorem dX4_water_0 : decode cX4_water 0 = .ok (.iconst 0, 1) := dk_3 (dk_at dksX4_water_0 0 rfl rfl)
theorem dX4_water_1 : decode cX4_water 1 = .ok (.istore_n 1, 1) := dk_60 (dk_at dksX4_water_0 1 rfl rfl)
theorem dX4_water_2 : decode cX4_water 2 = .ok (.iload_n 1, 1) := dk_27 (dk_at dksX4_water_0 2 rfl rfl)
theorem dX4_water_3 : decode cX4_water 3 = .ok (.sipush 144, 3) := dk_17 0 144 (dk_at dksX4_water_0 3 rfl rfl)
theorem dX4_water_6 : decode cX4_water 6 = .ok (.if_icmp .ge 30, 3) := dk_162 0 30 (dk_at dksX4_water_0 6 rfl rfl)
theorem dX4_water_9 : decode cX4_water 9 = .ok (.aload_n 0, 1) := dk_42 (dk_at dksX4_water_0 9 rfl rfl)
theorem dX4_water_10 : decode cX4_water 10 = .ok (.getfield 7, 3) := dk_180 0 7 (dk_at dksX4_water_0 10 rfl rfl)
theorem dX4_water_13 : decode cX4_water 13 = .ok (.iconst 3, 1) := dk_6 (dk_at dksX4_water_0 13 rfl rfl)
theorem dX4_water_14 : decode cX4_water 14 = .ok (.iload_n 1, 1) := dk_27 (dk_at dksX4_water_0 14 rfl rfl)
theorem dX4_water_15 : decode cX4_water 15 = .ok (.iadd, 1) := dk_96 (dk_at dksX4_water_0 15 rfl rfl)
theorem dX4_water_16 : decode cX4_water 16 = .ok (.iconst 0, 1) := dk_3 (dk_at dksX4_water_0 16 rfl rfl)
theorem dX4_water_17 : decode cX4_water 17 = .ok (.iastore, 1) := dk_79 (dk_at dksX4_water_0 17 rfl rfl)
theorem dX4_water_18 : decode cX4_water 18 = .ok (.aload_n 0, 1) := dk_42 (dk_at dksX4_water_0 18 rfl rfl)
theorem dX4_water_19 : decode cX4_water 19 = .ok (.getfield 7, 3) := dk_180 0 7 (dk_at dksX4_water_0 19 rfl rfl)
theorem dX4_water_22 : decode cX4_water 22 = .ok (.sipush 147, 3) := dk_17 0 147 (dk_at dksX4_water_1 0 rfl rfl)
theorem dX4_water_25 : decode cX4_water 25 = .ok (.iload_n 1, 1) := dk_27 (dk_at dksX4_water_1 3 rfl rfl)
theorem dX4_water_26 : decode cX4_water 26 = .ok (.iadd, 1) := dk_96 (dk_at dksX4_water_1 4 rfl rfl)
theorem dX4_water_27 : decode cX4_water 27 = .ok (.bipush (-6), 2) := dk_16 250 (dk_at dksX4_water_1 5 rfl rfl)
theorem dX4_water_29 : decode cX4_water 29 = .ok (.iastore, 1) := dk_79 (dk_at dksX4_water_1 7 rfl rfl)
theorem dX4_water_30 : decode cX4_water 30 = .ok (.iinc 1 1, 3) := dk_132 1 1 (dk_at dksX4_water_1 8 rfl rfl)
theorem dX4_water_33 : decode cX4_water 33 = .ok (.goto (-31), 3) := dk_167 255 225 (dk_at dksX4_water_1 11 rfl rfl)
theorem dX4_water_36 : decode cX4_water 36 = .ok (.return_, 1) := dk_177 (dk_at dksX4_water_1 14 rfl rfl)
abbrev cX4_undo : ByteArray := prog_12_method_9_code
def yX4_undo : MethodName := ⟨RX4, "undo", "()I"⟩
def dkwX4_undo_2 : List UInt8 := [96, 46, 79, 132, 1, 1, 167, 255, 225, 42, 180, 0, 65, 172]
abbrev dktX4_undo_2 : List UInt8 := dkwX4_undo_2 ++ []
def dkwX4_undo_1 : List UInt8 := [17, 1, 35, 162, 0, 30, 42, 180, 0, 7, 27, 42, 180, 0, 13, 42, 180, 0, 65, 17, 1, 35, 104, 27]
abbrev dktX4_undo_1 : List UInt8 := dkwX4_undo_1 ++ dktX4_undo_2
def dkwX4_undo_0 : List UInt8 := [42, 180, 0, 65, 154, 0, 6, 16, 253, 172, 42, 89, 180, 0, 65, 4, 100, 181, 0, 65, 3, 60, 27]
abbrev dktX4_undo_0 : List UInt8 := dkwX4_undo_0 ++ dktX4_undo_1
theorem dksX4_undo_0 : cX4_undo.data.toList.drop 0 = dktX4_undo_0 := by decide +kernel
theorem dksX4_undo_1 : cX4_undo.data.toList.drop 23 = dktX4_undo_1 := dk_seg dksX4_undo_0 23 rfl rfl
theorem dksX4_undo_2 : cX4_undo.data.toList.drop 47 = dktX4_undo_2 := dk_seg dksX4_undo_1 24 rfl rfl
theorem dX4_undo_0 : decode cX4_undo 0 = .ok (.aload_n 0, 1) := dk_42 (dk_at dksX4_undo_0 0 rfl rfl)
theorem dX4_undo_1 : decode cX4_undo 1 = .ok (.getfield 65, 3) := dk_180 0 65 (dk_at dksX4_undo_0 1 rfl rfl)
theorem dX4_undo_4 : decode cX4_undo 4 = .ok (.ifCond .ne 6, 3) := dk_154 0 6 (dk_at dksX4_undo_0 4 rfl rfl)
theorem dX4_undo_7 : decode cX4_undo 7 = .ok (.bipush (-3), 2) := dk_16 253 (dk_at dksX4_undo_0 7 rfl rfl)
theorem dX4_undo_9 : decode cX4_undo 9 = .ok (.ireturn, 1) := dk_172 (dk_at dksX4_undo_0 9 rfl rfl)
theorem dX4_undo_10 : decode cX4_undo 10 = .ok (.aload_n 0, 1) := dk_42 (dk_at dksX4_undo_0 10 rfl rfl)
theorem dX4_undo_11 : decode cX4_undo 11 = .ok (.dup, 1) := dk_89 (dk_at dksX4_undo_0 11 rfl rfl)
theorem dX4_undo_12 : decode cX4_undo 12 = .ok (.getfield 65, 3) := dk_180 0 65 (dk_at dksX4_undo_0 12 rfl rfl)
theorem dX4_undo_15 : decode cX4_undo 15 = .ok (.iconst 1, 1) := dk_4 (dk_at dksX4_undo_0 15 rfl rfl)
theorem dX4_undo_16 : decode cX4_undo 16 = .ok (.isub, 1) := dk_100 (dk_at dksX4_undo_0 16 rfl rfl)
theorem dX4_undo_17 : decode cX4_undo 17 = .ok (.putfield 65, 3) := dk_181 0 65 (dk_at dksX4_undo_0 17 rfl rfl)
theorem dX4_undo_20 : decode cX4_undo 20 = .ok (.iconst 0, 1) := dk_3 (dk_at dksX4_undo_0 20 rfl rfl)
theorem dX4_undo_21 : decode cX4_undo 21 = .ok (.istore_n 1, 1) := dk_60 (dk_at dksX4_undo_0 21 rfl rfl)
theorem dX4_undo_22 : decode cX4_undo 22 = .ok (.iload_n 1, 1) := dk_27 (dk_at dksX4_undo_0 22 rfl rfl)
theorem dX4_undo_23 : decode cX4_undo 23 = .ok (.sipush 291, 3) := dk_17 1 35 (dk_at dksX4_undo_1 0 rfl rfl)
theorem dX4_undo_26 : decode cX4_undo 26 = .ok (.if_icmp .ge 30, 3) := dk_162 0 30 (dk_at dksX4_undo_1 3 rfl rfl)
theorem dX4_undo_29 : decode cX4_undo 29 = .ok (.aload_n 0, 1) := dk_42 (dk_at dksX4_undo_1 6 rfl rfl)
theorem dX4_undo_30 : decode cX4_undo 30 = .ok (.getfield 7, 3) := dk_180 0 7 (dk_at dksX4_undo_1 7 rfl rfl)
theorem dX4_undo_33 : decode cX4_undo 33 = .ok (.iload_n 1, 1) := dk_27 (dk_at dksX4_undo_1 10 rfl rfl)
theorem dX4_undo_34 : decode cX4_undo 34 = .ok (.aload_n 0, 1) := dk_42 (dk_at dksX4_undo_1 11 rfl rfl)
theorem dX4_undo_35 : decode cX4_undo 35 = .ok (.getfield 13, 3) := dk_180 0 13 (dk_at dksX4_undo_1 12 rfl rfl)
theorem dX4_undo_38 : decode cX4_undo 38 = .ok (.aload_n 0, 1) := dk_42 (dk_at dksX4_undo_1 15 rfl rfl)
theorem dX4_undo_39 : decode cX4_undo 39 = .ok (.getfield 65, 3) := dk_180 0 65 (dk_at dksX4_undo_1 16 rfl rfl)
theorem dX4_undo_42 : decode cX4_undo 42 = .ok (.sipush 291, 3) := dk_17 1 35 (dk_at dksX4_undo_1 19 rfl rfl)
theorem dX4_undo_45 : decode cX4_undo 45 = .ok (.imul, 1) := dk_104 (dk_at dksX4_undo_1 22 rfl rfl)
theorem dX4_undo_46 : decode cX4_undo 46 = .ok (.iload_n 1, 1) := dk_27 (dk_at dksX4_undo_1 23 rfl rfl)
theorem dX4_undo_47 : decode cX4_undo 47 = .ok (.iadd, 1) := dk_96 (dk_at dksX4_undo_2 0 rfl rfl)
theorem dX4_undo_48 : decode cX4_undo 48 = .ok (.iaload, 1) := dk_46 (dk_at dksX4_undo_2 1 rfl rfl)
theorem dX4_undo_49 : decode cX4_undo 49 = .ok (.iastore, 1) := dk_79 (dk_at dksX4_undo_2 2 rfl rfl)
theorem dX4_undo_50 : decode cX4_undo 50 = .ok (.iinc 1 1, 3) := dk_132 1 1 (dk_at dksX4_undo_2 3 rfl rfl)
theorem dX4_undo_53 : decode cX4_undo 53 = .ok (.goto (-31), 3) := dk_167 255 225 (dk_at dksX4_undo_2 6 rfl rfl)
theorem dX4_undo_56 : decode cX4_undo 56 = .ok (.aload_n 0, 1) := dk_42 (dk_at dksX4_undo_2 9 rfl rfl)
theorem dX4_undo_57 : decode cX4_undo 57 = .ok (.getfield 65, 3) := dk_180 0 65 (dk_at dksX4_undo_2 10 rfl rfl)
theorem dX4_undo_60 : decode cX4_undo 60 = .ok (.ireturn, 1) := dk_172 (dk_at dksX4_undo_2 13 rfl rfl)
abbrev cX4_save : ByteArray := prog_12_method_10_code
def yX4_save : MethodName := ⟨RX4, "save", "()I"⟩
def dkwX4_save_1 : List UInt8 := [46, 79, 132, 1, 1, 167, 255, 234, 42, 182, 0, 73, 172]
abbrev dktX4_save_1 : List UInt8 := dkwX4_save_1 ++ []
def dkwX4_save_0 : List UInt8 := [42, 4, 181, 0, 69, 3, 60, 27, 17, 1, 35, 162, 0, 21, 42, 180, 0, 16, 27, 42, 180, 0, 7, 27]
abbrev dktX4_save_0 : List UInt8 := dkwX4_save_0 ++ dktX4_save_1
theorem dksX4_save_0 : cX4_save.data.toList.drop 0 = dktX4_save_0 := by decide +kernel
theorem dksX4_save_1 : cX4_save.data.toList.drop 24 = dktX4_save_1 := dk_seg dksX4_save_0 24 rfl rfl
theorem dX4_save_0 : decode cX4_save 0 = .ok (.aload_n 0, 1) := dk_42 (dk_at dksX4_save_0 0 rfl rfl)
theorem dX4_save_1 : decode cX4_save 1 = .ok (.iconst 1, 1) := dk_4 (dk_at dksX4_save_0 1 rfl rfl)
theorem dX4_save_2 : decode cX4_save 2 = .ok (.putfield 69, 3) := dk_181 0 69 (dk_at dksX4_save_0 2 rfl rfl)
theorem dX4_save_5 : decode cX4_save 5 = .ok (.iconst 0, 1) := dk_3 (dk_at dksX4_save_0 5 rfl rfl)
theorem dX4_save_6 : decode cX4_save 6 = .ok (.istore_n 1, 1) := dk_60 (dk_at dksX4_save_0 6 rfl rfl)
theorem dX4_save_7 : decode cX4_save 7 = .ok (.iload_n 1, 1) := dk_27 (dk_at dksX4_save_0 7 rfl rfl)
theorem dX4_save_8 : decode cX4_save 8 = .ok (.sipush 291, 3) := dk_17 1 35 (dk_at dksX4_save_0 8 rfl rfl)
theorem dX4_save_11 : decode cX4_save 11 = .ok (.if_icmp .ge 21, 3) := dk_162 0 21 (dk_at dksX4_save_0 11 rfl rfl)
theorem dX4_save_14 : decode cX4_save 14 = .ok (.aload_n 0, 1) := dk_42 (dk_at dksX4_save_0 14 rfl rfl)
theorem dX4_save_15 : decode cX4_save 15 = .ok (.getfield 16, 3) := dk_180 0 16 (dk_at dksX4_save_0 15 rfl rfl)
theorem dX4_save_18 : decode cX4_save 18 = .ok (.iload_n 1, 1) := dk_27 (dk_at dksX4_save_0 18 rfl rfl)
theorem dX4_save_19 : decode cX4_save 19 = .ok (.aload_n 0, 1) := dk_42 (dk_at dksX4_save_0 19 rfl rfl)
theorem dX4_save_20 : decode cX4_save 20 = .ok (.getfield 7, 3) := dk_180 0 7 (dk_at dksX4_save_0 20 rfl rfl)
theorem dX4_save_23 : decode cX4_save 23 = .ok (.iload_n 1, 1) := dk_27 (dk_at dksX4_save_0 23 rfl rfl)
theorem dX4_save_24 : decode cX4_save 24 = .ok (.iaload, 1) := dk_46 (dk_at dksX4_save_1 0 rfl rfl)
theorem dX4_save_25 : decode cX4_save 25 = .ok (.iastore, 1) := dk_79 (dk_at dksX4_save_1 1 rfl rfl)
theorem dX4_save_26 : decode cX4_save 26 = .ok (.iinc 1 1, 3) := dk_132 1 1 (dk_at dksX4_save_1 2 rfl rfl)
theorem dX4_save_29 : decode cX4_save 29 = .ok (.goto (-22), 3) := dk_167 255 234 (dk_at dksX4_save_1 5 rfl rfl)
theorem dX4_save_32 : decode cX4_save 32 = .ok (.aload_n 0, 1) := dk_42 (dk_at dksX4_save_1 8 rfl rfl)
theorem dX4_save_33 : decode cX4_save 33 = .ok (.invokevirtual 73, 3) := dk_182 0 73 (dk_at dksX4_save_1 9 rfl rfl)
theorem dX4_save_36 : decode cX4_save 36 = .ok (.ireturn, 1) := dk_172 (dk_at dksX4_save_1 12 rfl rfl)
abbrev cX4_land : ByteArray := prog_12_method_51_code
def yX4_land : MethodName := ⟨RX4, "land", "()I"⟩
def dkwX4_land_1 : List UInt8 := [132, 2, 1, 167, 255, 234, 27, 172]
abbrev dktX4_land_1 : List UInt8 := dkwX4_land_1 ++ []
def dkwX4_land_0 : List UInt8 := [3, 60, 3, 61, 28, 42, 182, 0, 116, 162, 0, 20, 27, 42, 180, 0, 7, 6, 28, 96, 46, 96, 60]
abbrev dktX4_land_0 : List UInt8 := dkwX4_land_0 ++ dktX4_land_1
theorem dksX4_land_0 : cX4_land.data.toList.drop 0 = dktX4_land_0 := by decide +kernel
theorem dksX4_land_1 : cX4_land.data.toList.drop 23 = dktX4_land_1 := dk_seg dksX4_land_0 23 rfl rfl
theorem dX4_land_0 : decode cX4_land 0 = .ok (.iconst 0, 1) := dk_3 (dk_at dksX4_land_0 0 rfl rfl)
theorem dX4_land_1 : decode cX4_land 1 = .ok (.istore_n 1, 1) := dk_60 (dk_at dksX4_land_0 1 rfl rfl)
theorem dX4_land_2 : decode cX4_land 2 = .ok (.iconst 0, 1) := dk_3 (dk_at dksX4_land_0 2 rfl rfl)
theorem dX4_land_3 : decode cX4_land 3 = .ok (.istore_n 2, 1) := dk_61 (dk_at dksX4_land_0 3 rfl rfl)
theorem dX4_land_4 : decode cX4_land 4 = .ok (.iload_n 2, 1) := dk_28 (dk_at dksX4_land_0 4 rfl rfl)
theorem dX4_land_5 : decode cX4_land 5 = .ok (.aload_n 0, 1) := dk_42 (dk_at dksX4_land_0 5 rfl rfl)
theorem dX4_land_6 : decode cX4_land 6 = .ok (.invokevirtual 116, 3) := dk_182 0 116 (dk_at dksX4_land_0 6 rfl rfl)
theorem dX4_land_9 : decode cX4_land 9 = .ok (.if_icmp .ge 20, 3) := dk_162 0 20 (dk_at dksX4_land_0 9 rfl rfl)
theorem dX4_land_12 : decode cX4_land 12 = .ok (.iload_n 1, 1) := dk_27 (dk_at dksX4_land_0 12 rfl rfl)
theorem dX4_land_13 : decode cX4_land 13 = .ok (.aload_n 0, 1) := dk_42 (dk_at dksX4_land_0 13 rfl rfl)
theorem dX4_land_14 : decode cX4_land 14 = .ok (.getfield 7, 3) := dk_180 0 7 (dk_at dksX4_land_0 14 rfl rfl)
theorem dX4_land_17 : decode cX4_land 17 = .ok (.iconst 3, 1) := dk_6 (dk_at dksX4_land_0 17 rfl rfl)
theorem dX4_land_18 : decode cX4_land 18 = .ok (.iload_n 2, 1) := dk_28 (dk_at dksX4_land_0 18 rfl rfl)
theorem dX4_land_19 : decode cX4_land 19 = .ok (.iadd, 1) := dk_96 (dk_at dksX4_land_0 19 rfl rfl)
theorem dX4_land_20 : decode cX4_land 20 = .ok (.iaload, 1) := dk_46 (dk_at dksX4_land_0 20 rfl rfl)
theorem dX4_land_21 : decode cX4_land 21 = .ok (.iadd, 1) := dk_96 (dk_at dksX4_land_0 21 rfl rfl)
theorem dX4_land_22 : decode cX4_land 22 = .ok (.istore_n 1, 1) := dk_60 (dk_at dksX4_land_0 22 rfl rfl)
theorem dX4_land_23 : decode cX4_land 23 = .ok (.iinc 2 1, 3) := dk_132 2 1 (dk_at dksX4_land_1 0 rfl rfl)
theorem dX4_land_26 : decode cX4_land 26 = .ok (.goto (-22), 3) := dk_167 255 234 (dk_at dksX4_land_1 3 rfl rfl)
theorem dX4_land_29 : decode cX4_land 29 = .ok (.iload_n 1, 1) := dk_27 (dk_at dksX4_land_1 6 rfl rfl)
theorem dX4_land_30 : decode cX4_land 30 = .ok (.ireturn, 1) := dk_172 (dk_at dksX4_land_1 7 rfl rfl)
abbrev cX4_tiles : ByteArray := prog_12_method_4_code
def yX4_tiles : MethodName := ⟨RX4, "tiles", "()I"⟩
def dkwX4_tiles_0 : List UInt8 := [42, 180, 0, 7, 3, 46, 42, 180, 0, 7, 4, 46, 104, 172]
abbrev dktX4_tiles_0 : List UInt8 := dkwX4_tiles_0 ++ []
theorem dksX4_tiles_0 : cX4_tiles.data.toList.drop 0 = dktX4_tiles_0 := by decide +kernel
theorem dX4_tiles_0 : decode cX4_tiles 0 = .ok (.aload_n 0, 1) := dk_42 (dk_at dksX4_tiles_0 0 rfl rfl)
theorem dX4_tiles_1 : decode cX4_tiles 1 = .ok (.getfield 7, 3) := dk_180 0 7 (dk_at dksX4_tiles_0 1 rfl rfl)
theorem dX4_tiles_4 : decode cX4_tiles 4 = .ok (.iconst 0, 1) := dk_3 (dk_at dksX4_tiles_0 4 rfl rfl)
theorem dX4_tiles_5 : decode cX4_tiles 5 = .ok (.iaload, 1) := dk_46 (dk_at dksX4_tiles_0 5 rfl rfl)
theorem dX4_tiles_6 : decode cX4_tiles 6 = .ok (.aload_n 0, 1) := dk_42 (dk_at dksX4_tiles_0 6 rfl rfl)
theorem dX4_tiles_7 : decode cX4_tiles 7 = .ok (.getfield 7, 3) := dk_180 0 7 (dk_at dksX4_tiles_0 7 rfl rfl)
theorem dX4_tiles_10 : decode cX4_tiles 10 = .ok (.iconst 1, 1) := dk_4 (dk_at dksX4_tiles_0 10 rfl rfl)
theorem dX4_tiles_11 : decode cX4_tiles 11 = .ok (.iaload, 1) := dk_46 (dk_at dksX4_tiles_0 11 rfl rfl)
theorem dX4_tiles_12 : decode cX4_tiles 12 = .ok (.imul, 1) := dk_104 (dk_at dksX4_tiles_0 12 rfl rfl)
theorem dX4_tiles_13 : decode cX4_tiles 13 = .ok (.ireturn, 1) := dk_172 (dk_at dksX4_tiles_0 13 rfl rfl)
abbrev cX4_restore : ByteArray := prog_12_method_11_code
def yX4_restore : MethodName := ⟨RX4, "restore", "()I"⟩
def dkwX4_restore_1 : List UInt8 := [180, 0, 7, 27, 42, 180, 0, 16, 27, 46, 79, 132, 1, 1, 167, 255, 234, 42, 182, 0, 73, 172]
abbrev dktX4_restore_1 : List UInt8 := dkwX4_restore_1 ++ []
def dkwX4_restore_0 : List UInt8 := [42, 180, 0, 69, 154, 0, 6, 16, 253, 172, 42, 182, 0, 77, 3, 60, 27, 17, 1, 35, 162, 0, 21, 42]
abbrev dktX4_restore_0 : List UInt8 := dkwX4_restore_0 ++ dktX4_restore_1
theorem dksX4_restore_0 : cX4_restore.data.toList.drop 0 = dktX4_restore_0 := by decide +kernel
theorem dksX4_restore_1 : cX4_restore.data.toList.drop 24 = dktX4_restore_1 := dk_seg dksX4_restore_0 24 rfl rfl
theorem dX4_restore_0 : decode cX4_restore 0 = .ok (.aload_n 0, 1) := dk_42 (dk_at dksX4_restore_0 0 rfl rfl)
theorem dX4_restore_1 : decode cX4_restore 1 = .ok (.getfield 69, 3) := dk_180 0 69 (dk_at dksX4_restore_0 1 rfl rfl)
theorem dX4_restore_4 : decode cX4_restore 4 = .ok (.ifCond .ne 6, 3) := dk_154 0 6 (dk_at dksX4_restore_0 4 rfl rfl)
theorem dX4_restore_7 : decode cX4_restore 7 = .ok (.bipush (-3), 2) := dk_16 253 (dk_at dksX4_restore_0 7 rfl rfl)
theorem dX4_restore_9 : decode cX4_restore 9 = .ok (.ireturn, 1) := dk_172 (dk_at dksX4_restore_0 9 rfl rfl)
theorem dX4_restore_10 : decode cX4_restore 10 = .ok (.aload_n 0, 1) := dk_42 (dk_at dksX4_restore_0 10 rfl rfl)
theorem dX4_restore_11 : decode cX4_restore 11 = .ok (.invokevirtual 77, 3) := dk_182 0 77 (dk_at dksX4_restore_0 11 rfl rfl)
theorem dX4_restore_14 : decode cX4_restore 14 = .ok (.iconst 0, 1) := dk_3 (dk_at dksX4_restore_0 14 rfl rfl)
theorem dX4_restore_15 : decode cX4_restore 15 = .ok (.istore_n 1, 1) := dk_60 (dk_at dksX4_restore_0 15 rfl rfl)
theorem dX4_restore_16 : decode cX4_restore 16 = .ok (.iload_n 1, 1) := dk_27 (dk_at dksX4_restore_0 16 rfl rfl)
theorem dX4_restore_17 : decode cX4_restore 17 = .ok (.sipush 291, 3) := dk_17 1 35 (dk_at dksX4_restore_0 17 rfl rfl)
theorem dX4_restore_20 : decode cX4_restore 20 = .ok (.if_icmp .ge 21, 3) := dk_162 0 21 (dk_at dksX4_restore_0 20 rfl rfl)
theorem dX4_restore_23 : decode cX4_restore 23 = .ok (.aload_n 0, 1) := dk_42 (dk_at dksX4_restore_0 23 rfl rfl)
theorem dX4_restore_24 : decode cX4_restore 24 = .ok (.getfield 7, 3) := dk_180 0 7 (dk_at dksX4_restore_1 0 rfl rfl)
theorem dX4_restore_27 : decode cX4_restore 27 = .ok (.iload_n 1, 1) := dk_27 (dk_at dksX4_restore_1 3 rfl rfl)
theorem dX4_restore_28 : decode cX4_restore 28 = .ok (.aload_n 0, 1) := dk_42 (dk_at dksX4_restore_1 4 rfl rfl)
theorem dX4_restore_29 : decode cX4_restore 29 = .ok (.getfield 16, 3) := dk_180 0 16 (dk_at dksX4_restore_1 5 rfl rfl)
theorem dX4_restore_32 : decode cX4_restore 32 = .ok (.iload_n 1, 1) := dk_27 (dk_at dksX4_restore_1 8 rfl rfl)
theorem dX4_restore_33 : decode cX4_restore 33 = .ok (.iaload, 1) := dk_46 (dk_at dksX4_restore_1 9 rfl rfl)
theorem dX4_restore_34 : decode cX4_restore 34 = .ok (.iastore, 1) := dk_79 (dk_at dksX4_restore_1 10 rfl rfl)
theorem dX4_restore_35 : decode cX4_restore 35 = .ok (.iinc 1 1, 3) := dk_132 1 1 (dk_at dksX4_restore_1 11 rfl rfl)
theorem dX4_restore_38 : decode cX4_restore 38 = .ok (.goto (-22), 3) := dk_167 255 234 (dk_at dksX4_restore_1 14 rfl rfl)
theorem dX4_restore_41 : decode cX4_restore 41 = .ok (.aload_n 0, 1) := dk_42 (dk_at dksX4_restore_1 17 rfl rfl)
theorem dX4_restore_42 : decode cX4_restore 42 = .ok (.invokevirtual 73, 3) := dk_182 0 73 (dk_at dksX4_restore_1 18 rfl rfl)
theorem dX4_restore_45 : decode cX4_restore 45 = .ok (.ireturn, 1) := dk_172 (dk_at dksX4_restore_1 21 rfl rfl)
abbrev cX4_record : ByteArray := prog_12_method_8_code
def yX4_record : MethodName := ⟨RX4, "record", "()V"⟩
def dkwX4_record_4 : List UInt8 := [181, 0, 65, 177]
abbrev dktX4_record_4 : List UInt8 := dkwX4_record_4 ++ []
def dkwX4_record_3 : List UInt8 := [27, 96, 42, 180, 0, 7, 27, 46, 79, 132, 1, 1, 167, 255, 225, 42, 89, 180, 0, 65, 4, 96]
abbrev dktX4_record_3 : List UInt8 := dkwX4_record_3 ++ dktX4_record_4
def dkwX4_record_2 : List UInt8 := [181, 0, 65, 3, 60, 27, 17, 1, 35, 162, 0, 30, 42, 180, 0, 13, 42, 180, 0, 65, 17, 1, 35, 104]
abbrev dktX4_record_2 : List UInt8 := dkwX4_record_2 ++ dktX4_record_3
def dkwX4_record_1 : List UInt8 := [180, 0, 13, 27, 17, 1, 35, 96, 46, 79, 132, 1, 1, 167, 255, 230, 42, 89, 180, 0, 65, 4, 100]
abbrev dktX4_record_1 : List UInt8 := dkwX4_record_1 ++ dktX4_record_2
def dkwX4_record_0 : List UInt8 := [42, 180, 0, 65, 8, 160, 0, 44, 3, 60, 27, 17, 4, 140, 162, 0, 25, 42, 180, 0, 13, 27, 42]
abbrev dktX4_record_0 : List UInt8 := dkwX4_record_0 ++ dktX4_record_1
theorem dksX4_record_0 : cX4_record.data.toList.drop 0 = dktX4_record_0 := by decide +kernel
theorem dksX4_record_1 : cX4_record.data.toList.drop 23 = dktX4_record_1 := dk_seg dksX4_record_0 23 rfl rfl
theorem dksX4_record_2 : cX4_record.data.toList.drop 46 = dktX4_record_2 := dk_seg dksX4_record_1 23 rfl rfl
theorem dksX4_record_3 : cX4_record.data.toList.drop 70 = dktX4_record_3 := dk_seg dksX4_record_2 24 rfl rfl
theorem dksX4_record_4 : cX4_record.data.toList.drop 92 = dktX4_record_4 := dk_seg dksX4_record_3 22 rfl rfl
theorem dX4_record_0 : decode cX4_record 0 = .ok (.aload_n 0, 1) := dk_42 (dk_at dksX4_record_0 0 rfl rfl)
theorem dX4_record_1 : decode cX4_record 1 = .ok (.getfield 65, 3) := dk_180 0 65 (dk_at dksX4_record_0 1 rfl rfl)
theorem dX4_record_4 : decode cX4_record 4 = .ok (.iconst 5, 1) := dk_8 (dk_at dksX4_record_0 4 rfl rfl)
theorem dX4_record_5 : decode cX4_record 5 = .ok (.if_icmp .ne 44, 3) := dk_160 0 44 (dk_at dksX4_record_0 5 rfl rfl)
theorem dX4_record_8 : decode cX4_record 8 = .ok (.iconst 0, 1) := dk_3 (dk_at dksX4_record_0 8 rfl rfl)
theorem dX4_record_9 : decode cX4_record 9 = .ok (.istore_n 1, 1) := dk_60 (dk_at dksX4_record_0 9 rfl rfl)
theorem dX4_record_10 : decode cX4_record 10 = .ok (.iload_n 1, 1) := dk_27 (dk_at dksX4_record_0 10 rfl rfl)
theorem dX4_record_11 : decode cX4_record 11 = .ok (.sipush 1164, 3) := dk_17 4 140 (dk_at dksX4_record_0 11 rfl rfl)
theorem dX4_record_14 : decode cX4_record 14 = .ok (.if_icmp .ge 25, 3) := dk_162 0 25 (dk_at dksX4_record_0 14 rfl rfl)
theorem dX4_record_17 : decode cX4_record 17 = .ok (.aload_n 0, 1) := dk_42 (dk_at dksX4_record_0 17 rfl rfl)
theorem dX4_record_18 : decode cX4_record 18 = .ok (.getfield 13, 3) := dk_180 0 13 (dk_at dksX4_record_0 18 rfl rfl)
theorem dX4_record_21 : decode cX4_record 21 = .ok (.iload_n 1, 1) := dk_27 (dk_at dksX4_record_0 21 rfl rfl)
theorem dX4_record_22 : decode cX4_record 22 = .ok (.aload_n 0, 1) := dk_42 (dk_at dksX4_record_0 22 rfl rfl)
theorem dX4_record_23 : decode cX4_record 23 = .ok (.getfield 13, 3) := dk_180 0 13 (dk_at dksX4_record_1 0 rfl rfl)
theorem dX4_record_26 : decode cX4_record 26 = .ok (.iload_n 1, 1) := dk_27 (dk_at dksX4_record_1 3 rfl rfl)
theorem dX4_record_27 : decode cX4_record 27 = .ok (.sipush 291, 3) := dk_17 1 35 (dk_at dksX4_record_1 4 rfl rfl)
theorem dX4_record_30 : decode cX4_record 30 = .ok (.iadd, 1) := dk_96 (dk_at dksX4_record_1 7 rfl rfl)
theorem dX4_record_31 : decode cX4_record 31 = .ok (.iaload, 1) := dk_46 (dk_at dksX4_record_1 8 rfl rfl)
theorem dX4_record_32 : decode cX4_record 32 = .ok (.iastore, 1) := dk_79 (dk_at dksX4_record_1 9 rfl rfl)
theorem dX4_record_33 : decode cX4_record 33 = .ok (.iinc 1 1, 3) := dk_132 1 1 (dk_at dksX4_record_1 10 rfl rfl)
theorem dX4_record_36 : decode cX4_record 36 = .ok (.goto (-26), 3) := dk_167 255 230 (dk_at dksX4_record_1 13 rfl rfl)
theorem dX4_record_39 : decode cX4_record 39 = .ok (.aload_n 0, 1) := dk_42 (dk_at dksX4_record_1 16 rfl rfl)
theorem dX4_record_40 : decode cX4_record 40 = .ok (.dup, 1) := dk_89 (dk_at dksX4_record_1 17 rfl rfl)
theorem dX4_record_41 : decode cX4_record 41 = .ok (.getfield 65, 3) := dk_180 0 65 (dk_at dksX4_record_1 18 rfl rfl)
theorem dX4_record_44 : decode cX4_record 44 = .ok (.iconst 1, 1) := dk_4 (dk_at dksX4_record_1 21 rfl rfl)
theorem dX4_record_45 : decode cX4_record 45 = .ok (.isub, 1) := dk_100 (dk_at dksX4_record_1 22 rfl rfl)
theorem dX4_record_46 : decode cX4_record 46 = .ok (.putfield 65, 3) := dk_181 0 65 (dk_at dksX4_record_2 0 rfl rfl)
theorem dX4_record_49 : decode cX4_record 49 = .ok (.iconst 0, 1) := dk_3 (dk_at dksX4_record_2 3 rfl rfl)
theorem dX4_record_50 : decode cX4_record 50 = .ok (.istore_n 1, 1) := dk_60 (dk_at dksX4_record_2 4 rfl rfl)
theorem dX4_record_51 : decode cX4_record 51 = .ok (.iload_n 1, 1) := dk_27 (dk_at dksX4_record_2 5 rfl rfl)
theorem dX4_record_52 : decode cX4_record 52 = .ok (.sipush 291, 3) := dk_17 1 35 (dk_at dksX4_record_2 6 rfl rfl)
theorem dX4_record_55 : decode cX4_record 55 = .ok (.if_icmp .ge 30, 3) := dk_162 0 30 (dk_at dksX4_record_2 9 rfl rfl)
theorem dX4_record_58 : decode cX4_record 58 = .ok (.aload_n 0, 1) := dk_42 (dk_at dksX4_record_2 12 rfl rfl)
theorem dX4_record_59 : decode cX4_record 59 = .ok (.getfield 13, 3) := dk_180 0 13 (dk_at dksX4_record_2 13 rfl rfl)
theorem dX4_record_62 : decode cX4_record 62 = .ok (.aload_n 0, 1) := dk_42 (dk_at dksX4_record_2 16 rfl rfl)
theorem dX4_record_63 : decode cX4_record 63 = .ok (.getfield 65, 3) := dk_180 0 65 (dk_at dksX4_record_2 17 rfl rfl)
theorem dX4_record_66 : decode cX4_record 66 = .ok (.sipush 291, 3) := dk_17 1 35 (dk_at dksX4_record_2 20 rfl rfl)
theorem dX4_record_69 : decode cX4_record 69 = .ok (.imul, 1) := dk_104 (dk_at dksX4_record_2 23 rfl rfl)
theorem dX4_record_70 : decode cX4_record 70 = .ok (.iload_n 1, 1) := dk_27 (dk_at dksX4_record_3 0 rfl rfl)
theorem dX4_record_71 : decode cX4_record 71 = .ok (.iadd, 1) := dk_96 (dk_at dksX4_record_3 1 rfl rfl)
theorem dX4_record_72 : decode cX4_record 72 = .ok (.aload_n 0, 1) := dk_42 (dk_at dksX4_record_3 2 rfl rfl)
theorem dX4_record_73 : decode cX4_record 73 = .ok (.getfield 7, 3) := dk_180 0 7 (dk_at dksX4_record_3 3 rfl rfl)
theorem dX4_record_76 : decode cX4_record 76 = .ok (.iload_n 1, 1) := dk_27 (dk_at dksX4_record_3 6 rfl rfl)
theorem dX4_record_77 : decode cX4_record 77 = .ok (.iaload, 1) := dk_46 (dk_at dksX4_record_3 7 rfl rfl)
theorem dX4_record_78 : decode cX4_record 78 = .ok (.iastore, 1) := dk_79 (dk_at dksX4_record_3 8 rfl rfl)
theorem dX4_record_79 : decode cX4_record 79 = .ok (.iinc 1 1, 3) := dk_132 1 1 (dk_at dksX4_record_3 9 rfl rfl)
theorem dX4_record_82 : decode cX4_record 82 = .ok (.goto (-31), 3) := dk_167 255 225 (dk_at dksX4_record_3 12 rfl rfl)
theorem dX4_record_85 : decode cX4_record 85 = .ok (.aload_n 0, 1) := dk_42 (dk_at dksX4_record_3 15 rfl rfl)
theorem dX4_record_86 : decode cX4_record 86 = .ok (.dup, 1) := dk_89 (dk_at dksX4_record_3 16 rfl rfl)
theorem dX4_record_87 : decode cX4_record 87 = .ok (.getfield 65, 3) := dk_180 0 65 (dk_at dksX4_record_3 17 rfl rfl)
theorem dX4_record_90 : decode cX4_record 90 = .ok (.iconst 1, 1) := dk_4 (dk_at dksX4_record_3 20 rfl rfl)
theorem dX4_record_91 : decode cX4_record 91 = .ok (.iadd, 1) := dk_96 (dk_at dksX4_record_3 21 rfl rfl)
theorem dX4_record_92 : decode cX4_record 92 = .ok (.putfield 65, 3) := dk_181 0 65 (dk_at dksX4_record_4 0 rfl rfl)
theorem dX4_record_95 : decode cX4_record 95 = .ok (.return_, 1) := dk_177 (dk_at dksX4_record_4 3 rfl rfl)
abbrev cX4_begin : ByteArray := prog_12_method_22_code
def yX4_begin : MethodName := ⟨RX4, "begin", "(II)I"⟩
def dkwX4_begin_2 : List UInt8 := [182, 0, 116, 172]
abbrev dktX4_begin_2 : List UInt8 := dkwX4_begin_2 ++ []
def dkwX4_begin_1 : List UInt8 := [182, 0, 77, 42, 180, 0, 7, 3, 27, 79, 42, 180, 0, 7, 4, 28, 79, 42, 182, 0, 58, 42]
abbrev dktX4_begin_1 : List UInt8 := dkwX4_begin_1 ++ dktX4_begin_2
def dkwX4_begin_0 : List UInt8 := [27, 4, 16, 12, 184, 0, 61, 153, 0, 13, 28, 4, 16, 12, 184, 0, 61, 154, 0, 6, 16, 254, 172, 42]
abbrev dktX4_begin_0 : List UInt8 := dkwX4_begin_0 ++ dktX4_begin_1
theorem dksX4_begin_0 : cX4_begin.data.toList.drop 0 = dktX4_begin_0 := by decide +kernel
theorem dksX4_begin_1 : cX4_begin.data.toList.drop 24 = dktX4_begin_1 := dk_seg dksX4_begin_0 24 rfl rfl
theorem dksX4_begin_2 : cX4_begin.data.toList.drop 46 = dktX4_begin_2 := dk_seg dksX4_begin_1 22 rfl rfl
theorem dX4_begin_0 : decode cX4_begin 0 = .ok (.iload_n 1, 1) := dk_27 (dk_at dksX4_begin_0 0 rfl rfl)
theorem dX4_begin_1 : decode cX4_begin 1 = .ok (.iconst 1, 1) := dk_4 (dk_at dksX4_begin_0 1 rfl rfl)
theorem dX4_begin_2 : decode cX4_begin 2 = .ok (.bipush 12, 2) := dk_16 12 (dk_at dksX4_begin_0 2 rfl rfl)
theorem dX4_begin_4 : decode cX4_begin 4 = .ok (.invokestatic 61, 3) := dk_184 0 61 (dk_at dksX4_begin_0 4 rfl rfl)
theorem dX4_begin_7 : decode cX4_begin 7 = .ok (.ifCond .eq 13, 3) := dk_153 0 13 (dk_at dksX4_begin_0 7 rfl rfl)
theorem dX4_begin_10 : decode cX4_begin 10 = .ok (.iload_n 2, 1) := dk_28 (dk_at dksX4_begin_0 10 rfl rfl)
theorem dX4_begin_11 : decode cX4_begin 11 = .ok (.iconst 1, 1) := dk_4 (dk_at dksX4_begin_0 11 rfl rfl)
theorem dX4_begin_12 : decode cX4_begin 12 = .ok (.bipush 12, 2) := dk_16 12 (dk_at dksX4_begin_0 12 rfl rfl)
theorem dX4_begin_14 : decode cX4_begin 14 = .ok (.invokestatic 61, 3) := dk_184 0 61 (dk_at dksX4_begin_0 14 rfl rfl)
theorem dX4_begin_17 : decode cX4_begin 17 = .ok (.ifCond .ne 6, 3) := dk_154 0 6 (dk_at dksX4_begin_0 17 rfl rfl)
theorem dX4_begin_20 : decode cX4_begin 20 = .ok (.bipush (-2), 2) := dk_16 254 (dk_at dksX4_begin_0 20 rfl rfl)
theorem dX4_begin_22 : decode cX4_begin 22 = .ok (.ireturn, 1) := dk_172 (dk_at dksX4_begin_0 22 rfl rfl)
theorem dX4_begin_23 : decode cX4_begin 23 = .ok (.aload_n 0, 1) := dk_42 (dk_at dksX4_begin_0 23 rfl rfl)
theorem dX4_begin_24 : decode cX4_begin 24 = .ok (.invokevirtual 77, 3) := dk_182 0 77 (dk_at dksX4_begin_1 0 rfl rfl)
theorem dX4_begin_27 : decode cX4_begin 27 = .ok (.aload_n 0, 1) := dk_42 (dk_at dksX4_begin_1 3 rfl rfl)
theorem dX4_begin_28 : decode cX4_begin 28 = .ok (.getfield 7, 3) := dk_180 0 7 (dk_at dksX4_begin_1 4 rfl rfl)
theorem dX4_begin_31 : decode cX4_begin 31 = .ok (.iconst 0, 1) := dk_3 (dk_at dksX4_begin_1 7 rfl rfl)
theorem dX4_begin_32 : decode cX4_begin 32 = .ok (.iload_n 1, 1) := dk_27 (dk_at dksX4_begin_1 8 rfl rfl)
theorem dX4_begin_33 : decode cX4_begin 33 = .ok (.iastore, 1) := dk_79 (dk_at dksX4_begin_1 9 rfl rfl)
theorem dX4_begin_34 : decode cX4_begin 34 = .ok (.aload_n 0, 1) := dk_42 (dk_at dksX4_begin_1 10 rfl rfl)
theorem dX4_begin_35 : decode cX4_begin 35 = .ok (.getfield 7, 3) := dk_180 0 7 (dk_at dksX4_begin_1 11 rfl rfl)
theorem dX4_begin_38 : decode cX4_begin 38 = .ok (.iconst 1, 1) := dk_4 (dk_at dksX4_begin_1 14 rfl rfl)
theorem dX4_begin_39 : decode cX4_begin 39 = .ok (.iload_n 2, 1) := dk_28 (dk_at dksX4_begin_1 15 rfl rfl)
theorem dX4_begin_40 : decode cX4_begin 40 = .ok (.iastore, 1) := dk_79 (dk_at dksX4_begin_1 16 rfl rfl)
theorem dX4_begin_41 : decode cX4_begin 41 = .ok (.aload_n 0, 1) := dk_42 (dk_at dksX4_begin_1 17 rfl rfl)
theorem dX4_begin_42 : decode cX4_begin 42 = .ok (.invokevirtual 58, 3) := dk_182 0 58 (dk_at dksX4_begin_1 18 rfl rfl)
theorem dX4_begin_45 : decode cX4_begin 45 = .ok (.aload_n 0, 1) := dk_42 (dk_at dksX4_begin_1 21 rfl rfl)
theorem dX4_begin_46 : decode cX4_begin 46 = .ok (.invokevirtual 116, 3) := dk_182 0 116 (dk_at dksX4_begin_2 0 rfl rfl)
theorem dX4_begin_49 : decode cX4_begin 49 = .ok (.ireturn, 1) := dk_172 (dk_at dksX4_begin_2 3 rfl rfl)
abbrev cX4_in : ByteArray := prog_12_method_2_code
def yX4_in : MethodName := ⟨RX4, "in", "(III)Z"⟩
def dkwX4_in_0 : List UInt8 := [26, 27, 161, 0, 12, 26, 28, 163, 0, 7, 4, 167, 0, 4, 3, 172]
abbrev dktX4_in_0 : List UInt8 := dkwX4_in_0 ++ []
theorem dksX4_in_0 : cX4_in.data.toList.drop 0 = dktX4_in_0 := by decide +kernel
theorem dX4_in_0 : decode cX4_in 0 = .ok (.iload_n 0, 1) := dk_26 (dk_at dksX4_in_0 0 rfl rfl)
theorem dX4_in_1 : decode cX4_in 1 = .ok (.iload_n 1, 1) := dk_27 (dk_at dksX4_in_0 1 rfl rfl)
theorem dX4_in_2 : decode cX4_in 2 = .ok (.if_icmp .lt 12, 3) := dk_161 0 12 (dk_at dksX4_in_0 2 rfl rfl)
theorem dX4_in_5 : decode cX4_in 5 = .ok (.iload_n 0, 1) := dk_26 (dk_at dksX4_in_0 5 rfl rfl)
theorem dX4_in_6 : decode cX4_in 6 = .ok (.iload_n 2, 1) := dk_28 (dk_at dksX4_in_0 6 rfl rfl)
theorem dX4_in_7 : decode cX4_in 7 = .ok (.if_icmp .gt 7, 3) := dk_163 0 7 (dk_at dksX4_in_0 7 rfl rfl)
theorem dX4_in_10 : decode cX4_in 10 = .ok (.iconst 1, 1) := dk_4 (dk_at dksX4_in_0 10 rfl rfl)
theorem dX4_in_11 : decode cX4_in 11 = .ok (.goto 4, 3) := dk_167 0 4 (dk_at dksX4_in_0 11 rfl rfl)
theorem dX4_in_14 : decode cX4_in 14 = .ok (.iconst 0, 1) := dk_3 (dk_at dksX4_in_0 14 rfl rfl)
theorem dX4_in_15 : decode cX4_in 15 = .ok (.ireturn, 1) := dk_172 (dk_at dksX4_in_0 15 rfl rfl)
abbrev cX4_setOutside : ByteArray := prog_12_method_25_code
def yX4_setOutside : MethodName := ⟨RX4, "setOutside", "(Z)I"⟩
def dkwX4_setOutside_1 : List UInt8 := [182, 0, 122, 172]
abbrev dktX4_setOutside_1 : List UInt8 := dkwX4_setOutside_1 ++ []
def dkwX4_setOutside_0 : List UInt8 := [42, 182, 0, 77, 42, 182, 0, 119, 42, 180, 0, 7, 5, 27, 153, 0, 7, 4, 167, 0, 4, 3, 79, 42]
abbrev dktX4_setOutside_0 : List UInt8 := dkwX4_setOutside_0 ++ dktX4_setOutside_1
theorem dksX4_setOutside_0 : cX4_setOutside.data.toList.drop 0 = dktX4_setOutside_0 := by decide +kernel
theorem dksX4_setOutside_1 : cX4_setOutside.data.toList.drop 24 = dktX4_setOutside_1 := dk_seg dksX4_setOutside_0 24 rfl rfl
theorem dX4_setOutside_0 : decode cX4_setOutside 0 = .ok (.aload_n 0, 1) := dk_42 (dk_at dksX4_setOutside_0 0 rfl rfl)
theorem dX4_setOutside_1 : decode cX4_setOutside 1 = .ok (.invokevirtual 77, 3) := dk_182 0 77 (dk_at dksX4_setOutside_0 1 rfl rfl)
theorem dX4_setOutside_4 : decode cX4_setOutside 4 = .ok (.aload_n 0, 1) := dk_42 (dk_at dksX4_setOutside_0 4 rfl rfl)
theorem dX4_setOutside_5 : decode cX4_setOutside 5 = .ok (.invokevirtual 119, 3) := dk_182 0 119 (dk_at dksX4_setOutside_0 5 rfl rfl)
theorem dX4_setOutside_8 : decode cX4_setOutside 8 = .ok (.aload_n 0, 1) := dk_42 (dk_at dksX4_setOutside_0 8 rfl rfl)
theorem dX4_setOutside_9 : decode cX4_setOutside 9 = .ok (.getfield 7, 3) := dk_180 0 7 (dk_at dksX4_setOutside_0 9 rfl rfl)
theorem dX4_setOutside_12 : decode cX4_setOutside 12 = .ok (.iconst 2, 1) := dk_5 (dk_at dksX4_setOutside_0 12 rfl rfl)
theorem dX4_setOutside_13 : decode cX4_setOutside 13 = .ok (.iload_n 1, 1) := dk_27 (dk_at dksX4_setOutside_0 13 rfl rfl)
theorem dX4_setOutside_14 : decode cX4_setOutside 14 = .ok (.ifCond .eq 7, 3) := dk_153 0 7 (dk_at dksX4_setOutside_0 14 rfl rfl)
theorem dX4_setOutside_17 : decode cX4_setOutside 17 = .ok (.iconst 1, 1) := dk_4 (dk_at dksX4_setOutside_0 17 rfl rfl)
theorem dX4_setOutside_18 : decode cX4_setOutside 18 = .ok (.goto 4, 3) := dk_167 0 4 (dk_at dksX4_setOutside_0 18 rfl rfl)
theorem dX4_setOutside_21 : decode cX4_setOutside 21 = .ok (.iconst 0, 1) := dk_3 (dk_at dksX4_setOutside_0 21 rfl rfl)
theorem dX4_setOutside_22 : decode cX4_setOutside 22 = .ok (.iastore, 1) := dk_79 (dk_at dksX4_setOutside_0 22 rfl rfl)
theorem dX4_setOutside_23 : decode cX4_setOutside 23 = .ok (.aload_n 0, 1) := dk_42 (dk_at dksX4_setOutside_0 23 rfl rfl)
theorem dX4_setOutside_24 : decode cX4_setOutside 24 = .ok (.invokevirtual 122, 3) := dk_182 0 122 (dk_at dksX4_setOutside_1 0 rfl rfl)
theorem dX4_setOutside_27 : decode cX4_setOutside 27 = .ok (.ireturn, 1) := dk_172 (dk_at dksX4_setOutside_1 3 rfl rfl)
abbrev cX4_lookShapes : ByteArray := prog_12_method_23_code
def yX4_lookShapes : MethodName := ⟨RX4, "lookShapes", "()V"⟩
def dkwX4_lookShapes_1 : List UInt8 := [167, 255, 234, 177]
abbrev dktX4_lookShapes_1 : List UInt8 := dkwX4_lookShapes_1 ++ []
def dkwX4_lookShapes_0 : List UInt8 := [3, 60, 27, 42, 182, 0, 116, 162, 0, 20, 42, 180, 0, 29, 27, 42, 27, 182, 0, 110, 79, 132, 1, 1]
abbrev dktX4_lookShapes_0 : List UInt8 := dkwX4_lookShapes_0 ++ dktX4_lookShapes_1
theorem dksX4_lookShapes_0 : cX4_lookShapes.data.toList.drop 0 = dktX4_lookShapes_0 := by decide +kernel
theorem dksX4_lookShapes_1 : cX4_lookShapes.data.toList.drop 24 = dktX4_lookShapes_1 := dk_seg dksX4_lookShapes_0 24 rfl rfl
theorem dX4_lookShapes_0 : decode cX4_lookShapes 0 = .ok (.iconst 0, 1) := dk_3 (dk_at dksX4_lookShapes_0 0 rfl rfl)
theorem dX4_lookShapes_1 : decode cX4_lookShapes 1 = .ok (.istore_n 1, 1) := dk_60 (dk_at dksX4_lookShapes_0 1 rfl rfl)
theorem dX4_lookShapes_2 : decode cX4_lookShapes 2 = .ok (.iload_n 1, 1) := dk_27 (dk_at dksX4_lookShapes_0 2 rfl rfl)
theorem dX4_lookShapes_3 : decode cX4_lookShapes 3 = .ok (.aload_n 0, 1) := dk_42 (dk_at dksX4_lookShapes_0 3 rfl rfl)
theorem dX4_lookShapes_4 : decode cX4_lookShapes 4 = .ok (.invokevirtual 116, 3) := dk_182 0 116 (dk_at dksX4_lookShapes_0 4 rfl rfl)
theorem dX4_lookShapes_7 : decode cX4_lookShapes 7 = .ok (.if_icmp .ge 20, 3) := dk_162 0 20 (dk_at dksX4_lookShapes_0 7 rfl rfl)
theorem dX4_lookShapes_10 : decode cX4_lookShapes 10 = .ok (.aload_n 0, 1) := dk_42 (dk_at dksX4_lookShapes_0 10 rfl rfl)
theorem dX4_lookShapes_11 : decode cX4_lookShapes 11 = .ok (.getfield 29, 3) := dk_180 0 29 (dk_at dksX4_lookShapes_0 11 rfl rfl)
theorem dX4_lookShapes_14 : decode cX4_lookShapes 14 = .ok (.iload_n 1, 1) := dk_27 (dk_at dksX4_lookShapes_0 14 rfl rfl)
theorem dX4_lookShapes_15 : decode cX4_lookShapes 15 = .ok (.aload_n 0, 1) := dk_42 (dk_at dksX4_lookShapes_0 15 rfl rfl)
theorem dX4_lookShapes_16 : decode cX4_lookShapes 16 = .ok (.iload_n 1, 1) := dk_27 (dk_at dksX4_lookShapes_0 16 rfl rfl)
theorem dX4_lookShapes_17 : decode cX4_lookShapes 17 = .ok (.invokevirtual 110, 3) := dk_182 0 110 (dk_at dksX4_lookShapes_0 17 rfl rfl)
theorem dX4_lookShapes_20 : decode cX4_lookShapes 20 = .ok (.iastore, 1) := dk_79 (dk_at dksX4_lookShapes_0 20 rfl rfl)
theorem dX4_lookShapes_21 : decode cX4_lookShapes 21 = .ok (.iinc 1 1, 3) := dk_132 1 1 (dk_at dksX4_lookShapes_0 21 rfl rfl)
theorem dX4_lookShapes_24 : decode cX4_lookShapes 24 = .ok (.goto (-22), 3) := dk_167 255 234 (dk_at dksX4_lookShapes_1 0 rfl rfl)
theorem dX4_lookShapes_27 : decode cX4_lookShapes 27 = .ok (.return_, 1) := dk_177 (dk_at dksX4_lookShapes_1 3 rfl rfl)
abbrev cX4_shapeAt : ByteArray := prog_12_method_19_code
def yX4_shapeAt : MethodName := ⟨RX4, "shapeAt", "(I)I"⟩
def dkwX4_shapeAt_1 : List UInt8 := [16, 250, 159, 0, 16, 42, 180, 0, 7, 17, 0, 147, 27, 96, 46, 167, 0, 8, 42, 27, 182, 0, 107, 172]
abbrev dktX4_shapeAt_1 : List UInt8 := dkwX4_shapeAt_1 ++ []
def dkwX4_shapeAt_0 : List UInt8 := [42, 27, 182, 0, 97, 154, 0, 8, 16, 250, 167, 0, 36, 42, 180, 0, 7, 17, 0, 147, 27, 96, 46]
abbrev dktX4_shapeAt_0 : List UInt8 := dkwX4_shapeAt_0 ++ dktX4_shapeAt_1
theorem dksX4_shapeAt_0 : cX4_shapeAt.data.toList.drop 0 = dktX4_shapeAt_0 := by decide +kernel
theorem dksX4_shapeAt_1 : cX4_shapeAt.data.toList.drop 23 = dktX4_shapeAt_1 := dk_seg dksX4_shapeAt_0 23 rfl rfl
theorem dX4_shapeAt_0 : decode cX4_shapeAt 0 = .ok (.aload_n 0, 1) := dk_42 (dk_at dksX4_shapeAt_0 0 rfl rfl)
theorem dX4_shapeAt_1 : decode cX4_shapeAt 1 = .ok (.iload_n 1, 1) := dk_27 (dk_at dksX4_shapeAt_0 1 rfl rfl)
theorem dX4_shapeAt_2 : decode cX4_shapeAt 2 = .ok (.invokevirtual 97, 3) := dk_182 0 97 (dk_at dksX4_shapeAt_0 2 rfl rfl)
theorem dX4_shapeAt_5 : decode cX4_shapeAt 5 = .ok (.ifCond .ne 8, 3) := dk_154 0 8 (dk_at dksX4_shapeAt_0 5 rfl rfl)
theorem dX4_shapeAt_8 : decode cX4_shapeAt 8 = .ok (.bipush (-6), 2) := dk_16 250 (dk_at dksX4_shapeAt_0 8 rfl rfl)
theorem dX4_shapeAt_10 : decode cX4_shapeAt 10 = .ok (.goto 36, 3) := dk_167 0 36 (dk_at dksX4_shapeAt_0 10 rfl rfl)
theorem dX4_shapeAt_13 : decode cX4_shapeAt 13 = .ok (.aload_n 0, 1) := dk_42 (dk_at dksX4_shapeAt_0 13 rfl rfl)
theorem dX4_shapeAt_14 : decode cX4_shapeAt 14 = .ok (.getfield 7, 3) := dk_180 0 7 (dk_at dksX4_shapeAt_0 14 rfl rfl)
theorem dX4_shapeAt_17 : decode cX4_shapeAt 17 = .ok (.sipush 147, 3) := dk_17 0 147 (dk_at dksX4_shapeAt_0 17 rfl rfl)
theorem dX4_shapeAt_20 : decode cX4_shapeAt 20 = .ok (.iload_n 1, 1) := dk_27 (dk_at dksX4_shapeAt_0 20 rfl rfl)
theorem dX4_shapeAt_21 : decode cX4_shapeAt 21 = .ok (.iadd, 1) := dk_96 (dk_at dksX4_shapeAt_0 21 rfl rfl)
theorem dX4_shapeAt_22 : decode cX4_shapeAt 22 = .ok (.iaload, 1) := dk_46 (dk_at dksX4_shapeAt_0 22 rfl rfl)
theorem dX4_shapeAt_23 : decode cX4_shapeAt 23 = .ok (.bipush (-6), 2) := dk_16 250 (dk_at dksX4_shapeAt_1 0 rfl rfl)
theorem dX4_shapeAt_25 : decode cX4_shapeAt 25 = .ok (.if_icmp .eq 16, 3) := dk_159 0 16 (dk_at dksX4_shapeAt_1 2 rfl rfl)
theorem dX4_shapeAt_28 : decode cX4_shapeAt 28 = .ok (.aload_n 0, 1) := dk_42 (dk_at dksX4_shapeAt_1 5 rfl rfl)
theorem dX4_shapeAt_29 : decode cX4_shapeAt 29 = .ok (.getfield 7, 3) := dk_180 0 7 (dk_at dksX4_shapeAt_1 6 rfl rfl)
theorem dX4_shapeAt_32 : decode cX4_shapeAt 32 = .ok (.sipush 147, 3) := dk_17 0 147 (dk_at dksX4_shapeAt_1 9 rfl rfl)
theorem dX4_shapeAt_35 : decode cX4_shapeAt 35 = .ok (.iload_n 1, 1) := dk_27 (dk_at dksX4_shapeAt_1 12 rfl rfl)
theorem dX4_shapeAt_36 : decode cX4_shapeAt 36 = .ok (.iadd, 1) := dk_96 (dk_at dksX4_shapeAt_1 13 rfl rfl)
theorem dX4_shapeAt_37 : decode cX4_shapeAt 37 = .ok (.iaload, 1) := dk_46 (dk_at dksX4_shapeAt_1 14 rfl rfl)
theorem dX4_shapeAt_38 : decode cX4_shapeAt 38 = .ok (.goto 8, 3) := dk_167 0 8 (dk_at dksX4_shapeAt_1 15 rfl rfl)
theorem dX4_shapeAt_41 : decode cX4_shapeAt 41 = .ok (.aload_n 0, 1) := dk_42 (dk_at dksX4_shapeAt_1 18 rfl rfl)
theorem dX4_shapeAt_42 : decode cX4_shapeAt 42 = .ok (.iload_n 1, 1) := dk_27 (dk_at dksX4_shapeAt_1 19 rfl rfl)
theorem dX4_shapeAt_43 : decode cX4_shapeAt 43 = .ok (.invokevirtual 107, 3) := dk_182 0 107 (dk_at dksX4_shapeAt_1 20 rfl rfl)
theorem dX4_shapeAt_46 : decode cX4_shapeAt 46 = .ok (.ireturn, 1) := dk_172 (dk_at dksX4_shapeAt_1 23 rfl rfl)
abbrev cX4_isLandAt : ByteArray := prog_12_method_7_code
def yX4_isLandAt : MethodName := ⟨RX4, "isLandAt", "(I)Z"⟩
def dkwX4_isLandAt_0 : List UInt8 := [42, 180, 0, 7, 6, 27, 96, 46, 4, 160, 0, 7, 4, 167, 0, 4, 3, 172]
abbrev dktX4_isLandAt_0 : List UInt8 := dkwX4_isLandAt_0 ++ []
theorem dksX4_isLandAt_0 : cX4_isLandAt.data.toList.drop 0 = dktX4_isLandAt_0 := by decide +kernel
theorem dX4_isLandAt_0 : decode cX4_isLandAt 0 = .ok (.aload_n 0, 1) := dk_42 (dk_at dksX4_isLandAt_0 0 rfl rfl)
theorem dX4_isLandAt_1 : decode cX4_isLandAt 1 = .ok (.getfield 7, 3) := dk_180 0 7 (dk_at dksX4_isLandAt_0 1 rfl rfl)
theorem dX4_isLandAt_4 : decode cX4_isLandAt 4 = .ok (.iconst 3, 1) := dk_6 (dk_at dksX4_isLandAt_0 4 rfl rfl)
theorem dX4_isLandAt_5 : decode cX4_isLandAt 5 = .ok (.iload_n 1, 1) := dk_27 (dk_at dksX4_isLandAt_0 5 rfl rfl)
theorem dX4_isLandAt_6 : decode cX4_isLandAt 6 = .ok (.iadd, 1) := dk_96 (dk_at dksX4_isLandAt_0 6 rfl rfl)
theorem dX4_isLandAt_7 : decode cX4_isLandAt 7 = .ok (.iaload, 1) := dk_46 (dk_at dksX4_isLandAt_0 7 rfl rfl)
theorem dX4_isLandAt_8 : decode cX4_isLandAt 8 = .ok (.iconst 1, 1) := dk_4 (dk_at dksX4_isLandAt_0 8 rfl rfl)
theorem dX4_isLandAt_9 : decode cX4_isLandAt 9 = .ok (.if_icmp .ne 7, 3) := dk_160 0 7 (dk_at dksX4_isLandAt_0 9 rfl rfl)
theorem dX4_isLandAt_12 : decode cX4_isLandAt 12 = .ok (.iconst 1, 1) := dk_4 (dk_at dksX4_isLandAt_0 12 rfl rfl)
theorem dX4_isLandAt_13 : decode cX4_isLandAt 13 = .ok (.goto 4, 3) := dk_167 0 4 (dk_at dksX4_isLandAt_0 13 rfl rfl)
theorem dX4_isLandAt_16 : decode cX4_isLandAt 16 = .ok (.iconst 0, 1) := dk_3 (dk_at dksX4_isLandAt_0 16 rfl rfl)
theorem dX4_isLandAt_17 : decode cX4_isLandAt 17 = .ok (.ireturn, 1) := dk_172 (dk_at dksX4_isLandAt_0 17 rfl rfl)
abbrev cX4_right : ByteArray := prog_12_method_18_code
def yX4_right : MethodName := ⟨RX4, "right", "(I)I"⟩
def dkwX4_right_1 : List UInt8 := [184, 0, 54, 46, 172]
abbrev dktX4_right_1 : List UInt8 := dkwX4_right_1 ++ []
def dkwX4_right_0 : List UInt8 := [42, 180, 0, 26, 42, 27, 42, 180, 0, 7, 4, 46, 108, 27, 42, 180, 0, 7, 4, 46, 112, 182, 0, 104]
abbrev dktX4_right_0 : List UInt8 := dkwX4_right_0 ++ dktX4_right_1
theorem dksX4_right_0 : cX4_right.data.toList.drop 0 = dktX4_right_0 := by decide +kernel
theorem dksX4_right_1 : cX4_right.data.toList.drop 24 = dktX4_right_1 := dk_seg dksX4_right_0 24 rfl rfl
theorem dX4_right_0 : decode cX4_right 0 = .ok (.aload_n 0, 1) := dk_42 (dk_at dksX4_right_0 0 rfl rfl)
theorem dX4_right_1 : decode cX4_right 1 = .ok (.getfield 26, 3) := dk_180 0 26 (dk_at dksX4_right_0 1 rfl rfl)
theorem dX4_right_4 : decode cX4_right 4 = .ok (.aload_n 0, 1) := dk_42 (dk_at dksX4_right_0 4 rfl rfl)
theorem dX4_right_5 : decode cX4_right 5 = .ok (.iload_n 1, 1) := dk_27 (dk_at dksX4_right_0 5 rfl rfl)
theorem dX4_right_6 : decode cX4_right 6 = .ok (.aload_n 0, 1) := dk_42 (dk_at dksX4_right_0 6 rfl rfl)
theorem dX4_right_7 : decode cX4_right 7 = .ok (.getfield 7, 3) := dk_180 0 7 (dk_at dksX4_right_0 7 rfl rfl)
theorem dX4_right_10 : decode cX4_right 10 = .ok (.iconst 1, 1) := dk_4 (dk_at dksX4_right_0 10 rfl rfl)
theorem dX4_right_11 : decode cX4_right 11 = .ok (.iaload, 1) := dk_46 (dk_at dksX4_right_0 11 rfl rfl)
theorem dX4_right_12 : decode cX4_right 12 = .ok (.idiv, 1) := dk_108 (dk_at dksX4_right_0 12 rfl rfl)
theorem dX4_right_13 : decode cX4_right 13 = .ok (.iload_n 1, 1) := dk_27 (dk_at dksX4_right_0 13 rfl rfl)
theorem dX4_right_14 : decode cX4_right 14 = .ok (.aload_n 0, 1) := dk_42 (dk_at dksX4_right_0 14 rfl rfl)
theorem dX4_right_15 : decode cX4_right 15 = .ok (.getfield 7, 3) := dk_180 0 7 (dk_at dksX4_right_0 15 rfl rfl)
theorem dX4_right_18 : decode cX4_right 18 = .ok (.iconst 1, 1) := dk_4 (dk_at dksX4_right_0 18 rfl rfl)
theorem dX4_right_19 : decode cX4_right 19 = .ok (.iaload, 1) := dk_46 (dk_at dksX4_right_0 19 rfl rfl)
theorem dX4_right_20 : decode cX4_right 20 = .ok (.irem, 1) := dk_112 (dk_at dksX4_right_0 20 rfl rfl)
theorem dX4_right_21 : decode cX4_right 21 = .ok (.invokevirtual 104, 3) := dk_182 0 104 (dk_at dksX4_right_0 21 rfl rfl)
theorem dX4_right_24 : decode cX4_right 24 = .ok (.invokestatic 54, 3) := dk_184 0 54 (dk_at dksX4_right_1 0 rfl rfl)
theorem dX4_right_27 : decode cX4_right 27 = .ok (.iaload, 1) := dk_46 (dk_at dksX4_right_1 3 rfl rfl)
theorem dX4_right_28 : decode cX4_right 28 = .ok (.ireturn, 1) := dk_172 (dk_at dksX4_right_1 4 rfl rfl)
abbrev cX4_around : ByteArray := prog_12_method_17_code
def yX4_around : MethodName := ⟨RX4, "around", "(II)I"⟩
def dkwX4_around_1 : List UInt8 := [4, 21, 4, 120, 167, 0, 4, 3, 128, 62, 132, 4, 1, 167, 255, 224, 29, 172]
abbrev dktX4_around_1 : List UInt8 := dkwX4_around_1 ++ []
def dkwX4_around_0 : List UInt8 := [3, 62, 3, 54, 4, 21, 4, 16, 8, 162, 0, 31, 29, 42, 27, 28, 21, 4, 182, 0, 101, 153, 0, 10]
abbrev dktX4_around_0 : List UInt8 := dkwX4_around_0 ++ dktX4_around_1
theorem dksX4_around_0 : cX4_around.data.toList.drop 0 = dktX4_around_0 := by decide +kernel
theorem dksX4_around_1 : cX4_around.data.toList.drop 24 = dktX4_around_1 := dk_seg dksX4_around_0 24 rfl rfl
theorem dX4_around_0 : decode cX4_around 0 = .ok (.iconst 0, 1) := dk_3 (dk_at dksX4_around_0 0 rfl rfl)
theorem dX4_around_1 : decode cX4_around 1 = .ok (.istore_n 3, 1) := dk_62 (dk_at dksX4_around_0 1 rfl rfl)
theorem dX4_around_2 : decode cX4_around 2 = .ok (.iconst 0, 1) := dk_3 (dk_at dksX4_around_0 2 rfl rfl)
theorem dX4_around_3 : decode cX4_around 3 = .ok (.istore 4, 2) := dk_54 4 (dk_at dksX4_around_0 3 rfl rfl)
theorem dX4_around_5 : decode cX4_around 5 = .ok (.iload 4, 2) := dk_21 4 (dk_at dksX4_around_0 5 rfl rfl)
theorem dX4_around_7 : decode cX4_around 7 = .ok (.bipush 8, 2) := dk_16 8 (dk_at dksX4_around_0 7 rfl rfl)
theorem dX4_around_9 : decode cX4_around 9 = .ok (.if_icmp .ge 31, 3) := dk_162 0 31 (dk_at dksX4_around_0 9 rfl rfl)
theorem dX4_around_12 : decode cX4_around 12 = .ok (.iload_n 3, 1) := dk_29 (dk_at dksX4_around_0 12 rfl rfl)
theorem dX4_around_13 : decode cX4_around 13 = .ok (.aload_n 0, 1) := dk_42 (dk_at dksX4_around_0 13 rfl rfl)
theorem dX4_around_14 : decode cX4_around 14 = .ok (.iload_n 1, 1) := dk_27 (dk_at dksX4_around_0 14 rfl rfl)
theorem dX4_around_15 : decode cX4_around 15 = .ok (.iload_n 2, 1) := dk_28 (dk_at dksX4_around_0 15 rfl rfl)
theorem dX4_around_16 : decode cX4_around 16 = .ok (.iload 4, 2) := dk_21 4 (dk_at dksX4_around_0 16 rfl rfl)
theorem dX4_around_18 : decode cX4_around 18 = .ok (.invokevirtual 101, 3) := dk_182 0 101 (dk_at dksX4_around_0 18 rfl rfl)
theorem dX4_around_21 : decode cX4_around 21 = .ok (.ifCond .eq 10, 3) := dk_153 0 10 (dk_at dksX4_around_0 21 rfl rfl)
theorem dX4_around_24 : decode cX4_around 24 = .ok (.iconst 1, 1) := dk_4 (dk_at dksX4_around_1 0 rfl rfl)
theorem dX4_around_25 : decode cX4_around 25 = .ok (.iload 4, 2) := dk_21 4 (dk_at dksX4_around_1 1 rfl rfl)
theorem dX4_around_27 : decode cX4_around 27 = .ok (.ishl, 1) := dk_120 (dk_at dksX4_around_1 3 rfl rfl)
theorem dX4_around_28 : decode cX4_around 28 = .ok (.goto 4, 3) := dk_167 0 4 (dk_at dksX4_around_1 4 rfl rfl)
theorem dX4_around_31 : decode cX4_around 31 = .ok (.iconst 0, 1) := dk_3 (dk_at dksX4_around_1 7 rfl rfl)
theorem dX4_around_32 : decode cX4_around 32 = .ok (.ior, 1) := dk_128 (dk_at dksX4_around_1 8 rfl rfl)
theorem dX4_around_33 : decode cX4_around 33 = .ok (.istore_n 3, 1) := dk_62 (dk_at dksX4_around_1 9 rfl rfl)
theorem dX4_around_34 : decode cX4_around 34 = .ok (.iinc 4 1, 3) := dk_132 4 1 (dk_at dksX4_around_1 10 rfl rfl)
theorem dX4_around_37 : decode cX4_around 37 = .ok (.goto (-32), 3) := dk_167 255 224 (dk_at dksX4_around_1 13 rfl rfl)
theorem dX4_around_40 : decode cX4_around 40 = .ok (.iload_n 3, 1) := dk_29 (dk_at dksX4_around_1 16 rfl rfl)
theorem dX4_around_41 : decode cX4_around 41 = .ok (.ireturn, 1) := dk_172 (dk_at dksX4_around_1 17 rfl rfl)
abbrev cX4_isLandBeside : ByteArray := prog_12_method_16_code
def yX4_isLandBeside : MethodName := ⟨RX4, "isLandBeside", "(III)Z"⟩
def dkwX4_isLandBeside_2 : List UInt8 := [4, 160, 0, 7, 4, 167, 0, 4, 3, 172]
abbrev dktX4_isLandBeside_2 : List UInt8 := dkwX4_isLandBeside_2 ++ []
def dkwX4_isLandBeside_1 : List UInt8 := [153, 0, 18, 42, 42, 21, 4, 21, 5, 182, 0, 94, 182, 0, 97, 167, 0, 18, 42, 180, 0, 7, 5, 46]
abbrev dktX4_isLandBeside_1 : List UInt8 := dkwX4_isLandBeside_1 ++ dktX4_isLandBeside_2
def dkwX4_isLandBeside_0 : List UInt8 := [27, 29, 184, 0, 84, 96, 54, 4, 28, 29, 184, 0, 87, 96, 54, 5, 42, 21, 4, 21, 5, 182, 0, 90]
abbrev dktX4_isLandBeside_0 : List UInt8 := dkwX4_isLandBeside_0 ++ dktX4_isLandBeside_1
theorem dksX4_isLandBeside_0 : cX4_isLandBeside.data.toList.drop 0 = dktX4_isLandBeside_0 := by decide +kernel
theorem dksX4_isLandBeside_1 : cX4_isLandBeside.data.toList.drop 24 = dktX4_isLandBeside_1 := dk_seg dksX4_isLandBeside_0 24 rfl rfl
theorem dksX4_isLandBeside_2 : cX4_isLandBeside.data.toList.drop 48 = dktX4_isLandBeside_2 := dk_seg dksX4_isLandBeside_1 24 rfl rfl
theorem dX4_isLandBeside_0 : decode cX4_isLandBeside 0 = .ok (.iload_n 1, 1) := dk_27 (dk_at dksX4_isLandBeside_0 0 rfl rfl)
theorem dX4_isLandBeside_1 : decode cX4_isLandBeside 1 = .ok (.iload_n 3, 1) := dk_29 (dk_at dksX4_isLandBeside_0 1 rfl rfl)
theorem dX4_isLandBeside_2 : decode cX4_isLandBeside 2 = .ok (.invokestatic 84, 3) := dk_184 0 84 (dk_at dksX4_isLandBeside_0 2 rfl rfl)
theorem dX4_isLandBeside_5 : decode cX4_isLandBeside 5 = .ok (.iadd, 1) := dk_96 (dk_at dksX4_isLandBeside_0 5 rfl rfl)
theorem dX4_isLandBeside_6 : decode cX4_isLandBeside 6 = .ok (.istore 4, 2) := dk_54 4 (dk_at dksX4_isLandBeside_0 6 rfl rfl)
theorem dX4_isLandBeside_8 : decode cX4_isLandBeside 8 = .ok (.iload_n 2, 1) := dk_28 (dk_at dksX4_isLandBeside_0 8 rfl rfl)
theorem dX4_isLandBeside_9 : decode cX4_isLandBeside 9 = .ok (.iload_n 3, 1) := dk_29 (dk_at dksX4_isLandBeside_0 9 rfl rfl)
theorem dX4_isLandBeside_10 : decode cX4_isLandBeside 10 = .ok (.invokestatic 87, 3) := dk_184 0 87 (dk_at dksX4_isLandBeside_0 10 rfl rfl)
theorem dX4_isLandBeside_13 : decode cX4_isLandBeside 13 = .ok (.iadd, 1) := dk_96 (dk_at dksX4_isLandBeside_0 13 rfl rfl)
theorem dX4_isLandBeside_14 : decode cX4_isLandBeside 14 = .ok (.istore 5, 2) := dk_54 5 (dk_at dksX4_isLandBeside_0 14 rfl rfl)
theorem dX4_isLandBeside_16 : decode cX4_isLandBeside 16 = .ok (.aload_n 0, 1) := dk_42 (dk_at dksX4_isLandBeside_0 16 rfl rfl)
theorem dX4_isLandBeside_17 : decode cX4_isLandBeside 17 = .ok (.iload 4, 2) := dk_21 4 (dk_at dksX4_isLandBeside_0 17 rfl rfl)
theorem dX4_isLandBeside_19 : decode cX4_isLandBeside 19 = .ok (.iload 5, 2) := dk_21 5 (dk_at dksX4_isLandBeside_0 19 rfl rfl)
theorem dX4_isLandBeside_21 : decode cX4_isLandBeside 21 = .ok (.invokevirtual 90, 3) := dk_182 0 90 (dk_at dksX4_isLandBeside_0 21 rfl rfl)
theorem dX4_isLandBeside_24 : decode cX4_isLandBeside 24 = .ok (.ifCond .eq 18, 3) := dk_153 0 18 (dk_at dksX4_isLandBeside_1 0 rfl rfl)
theorem dX4_isLandBeside_27 : decode cX4_isLandBeside 27 = .ok (.aload_n 0, 1) := dk_42 (dk_at dksX4_isLandBeside_1 3 rfl rfl)
theorem dX4_isLandBeside_28 : decode cX4_isLandBeside 28 = .ok (.aload_n 0, 1) := dk_42 (dk_at dksX4_isLandBeside_1 4 rfl rfl)
theorem dX4_isLandBeside_29 : decode cX4_isLandBeside 29 = .ok (.iload 4, 2) := dk_21 4 (dk_at dksX4_isLandBeside_1 5 rfl rfl)
theorem dX4_isLandBeside_31 : decode cX4_isLandBeside 31 = .ok (.iload 5, 2) := dk_21 5 (dk_at dksX4_isLandBeside_1 7 rfl rfl)
theorem dX4_isLandBeside_33 : decode cX4_isLandBeside 33 = .ok (.invokevirtual 94, 3) := dk_182 0 94 (dk_at dksX4_isLandBeside_1 9 rfl rfl)
theorem dX4_isLandBeside_36 : decode cX4_isLandBeside 36 = .ok (.invokevirtual 97, 3) := dk_182 0 97 (dk_at dksX4_isLandBeside_1 12 rfl rfl)
theorem dX4_isLandBeside_39 : decode cX4_isLandBeside 39 = .ok (.goto 18, 3) := dk_167 0 18 (dk_at dksX4_isLandBeside_1 15 rfl rfl)
theorem dX4_isLandBeside_42 : decode cX4_isLandBeside 42 = .ok (.aload_n 0, 1) := dk_42 (dk_at dksX4_isLandBeside_1 18 rfl rfl)
theorem dX4_isLandBeside_43 : decode cX4_isLandBeside 43 = .ok (.getfield 7, 3) := dk_180 0 7 (dk_at dksX4_isLandBeside_1 19 rfl rfl)
theorem dX4_isLandBeside_46 : decode cX4_isLandBeside 46 = .ok (.iconst 2, 1) := dk_5 (dk_at dksX4_isLandBeside_1 22 rfl rfl)
theorem dX4_isLandBeside_47 : decode cX4_isLandBeside 47 = .ok (.iaload, 1) := dk_46 (dk_at dksX4_isLandBeside_1 23 rfl rfl)
theorem dX4_isLandBeside_48 : decode cX4_isLandBeside 48 = .ok (.iconst 1, 1) := dk_4 (dk_at dksX4_isLandBeside_2 0 rfl rfl)
theorem dX4_isLandBeside_49 : decode cX4_isLandBeside 49 = .ok (.if_icmp .ne 7, 3) := dk_160 0 7 (dk_at dksX4_isLandBeside_2 1 rfl rfl)
theorem dX4_isLandBeside_52 : decode cX4_isLandBeside 52 = .ok (.iconst 1, 1) := dk_4 (dk_at dksX4_isLandBeside_2 4 rfl rfl)
theorem dX4_isLandBeside_53 : decode cX4_isLandBeside 53 = .ok (.goto 4, 3) := dk_167 0 4 (dk_at dksX4_isLandBeside_2 5 rfl rfl)
theorem dX4_isLandBeside_56 : decode cX4_isLandBeside 56 = .ok (.iconst 0, 1) := dk_3 (dk_at dksX4_isLandBeside_2 8 rfl rfl)
theorem dX4_isLandBeside_57 : decode cX4_isLandBeside 57 = .ok (.ireturn, 1) := dk_172 (dk_at dksX4_isLandBeside_2 9 rfl rfl)
abbrev cX4_rowBy : ByteArray := prog_12_method_12_code
def yX4_rowBy : MethodName := ⟨RX4, "rowBy", "(I)I"⟩
def dkwX4_rowBy_1 : List UInt8 := [4, 167, 0, 4, 3, 172]
abbrev dktX4_rowBy_1 : List UInt8 := dkwX4_rowBy_1 ++ []
def dkwX4_rowBy_0 : List UInt8 := [26, 16, 7, 159, 0, 8, 26, 5, 162, 0, 7, 2, 167, 0, 17, 26, 6, 8, 184, 0, 61, 153, 0, 7]
abbrev dktX4_rowBy_0 : List UInt8 := dkwX4_rowBy_0 ++ dktX4_rowBy_1
theorem dksX4_rowBy_0 : cX4_rowBy.data.toList.drop 0 = dktX4_rowBy_0 := by decide +kernel
theorem dksX4_rowBy_1 : cX4_rowBy.data.toList.drop 24 = dktX4_rowBy_1 := dk_seg dksX4_rowBy_0 24 rfl rfl
theorem dX4_rowBy_0 : decode cX4_rowBy 0 = .ok (.iload_n 0, 1) := dk_26 (dk_at dksX4_rowBy_0 0 rfl rfl)
theorem dX4_rowBy_1 : decode cX4_rowBy 1 = .ok (.bipush 7, 2) := dk_16 7 (dk_at dksX4_rowBy_0 1 rfl rfl)
theorem dX4_rowBy_3 : decode cX4_rowBy 3 = .ok (.if_icmp .eq 8, 3) := dk_159 0 8 (dk_at dksX4_rowBy_0 3 rfl rfl)
theorem dX4_rowBy_6 : decode cX4_rowBy 6 = .ok (.iload_n 0, 1) := dk_26 (dk_at dksX4_rowBy_0 6 rfl rfl)
theorem dX4_rowBy_7 : decode cX4_rowBy 7 = .ok (.iconst 2, 1) := dk_5 (dk_at dksX4_rowBy_0 7 rfl rfl)
theorem dX4_rowBy_8 : decode cX4_rowBy 8 = .ok (.if_icmp .ge 7, 3) := dk_162 0 7 (dk_at dksX4_rowBy_0 8 rfl rfl)
theorem dX4_rowBy_11 : decode cX4_rowBy 11 = .ok (.iconst (-1), 1) := dk_2 (dk_at dksX4_rowBy_0 11 rfl rfl)
theorem dX4_rowBy_12 : decode cX4_rowBy 12 = .ok (.goto 17, 3) := dk_167 0 17 (dk_at dksX4_rowBy_0 12 rfl rfl)
theorem dX4_rowBy_15 : decode cX4_rowBy 15 = .ok (.iload_n 0, 1) := dk_26 (dk_at dksX4_rowBy_0 15 rfl rfl)
theorem dX4_rowBy_16 : decode cX4_rowBy 16 = .ok (.iconst 3, 1) := dk_6 (dk_at dksX4_rowBy_0 16 rfl rfl)
theorem dX4_rowBy_17 : decode cX4_rowBy 17 = .ok (.iconst 5, 1) := dk_8 (dk_at dksX4_rowBy_0 17 rfl rfl)
theorem dX4_rowBy_18 : decode cX4_rowBy 18 = .ok (.invokestatic 61, 3) := dk_184 0 61 (dk_at dksX4_rowBy_0 18 rfl rfl)
theorem dX4_rowBy_21 : decode cX4_rowBy 21 = .ok (.ifCond .eq 7, 3) := dk_153 0 7 (dk_at dksX4_rowBy_0 21 rfl rfl)
theorem dX4_rowBy_24 : decode cX4_rowBy 24 = .ok (.iconst 1, 1) := dk_4 (dk_at dksX4_rowBy_1 0 rfl rfl)
theorem dX4_rowBy_25 : decode cX4_rowBy 25 = .ok (.goto 4, 3) := dk_167 0 4 (dk_at dksX4_rowBy_1 1 rfl rfl)
theorem dX4_rowBy_28 : decode cX4_rowBy 28 = .ok (.iconst 0, 1) := dk_3 (dk_at dksX4_rowBy_1 4 rfl rfl)
theorem dX4_rowBy_29 : decode cX4_rowBy 29 = .ok (.ireturn, 1) := dk_172 (dk_at dksX4_rowBy_1 5 rfl rfl)
abbrev cX4_columnBy : ByteArray := prog_12_method_13_code
def yX4_columnBy : MethodName := ⟨RX4, "columnBy", "(I)I"⟩
def dkwX4_columnBy_1 : List UInt8 := [167, 0, 4, 3, 172]
abbrev dktX4_columnBy_1 : List UInt8 := dkwX4_columnBy_1 ++ []
def dkwX4_columnBy_0 : List UInt8 := [26, 4, 6, 184, 0, 61, 153, 0, 7, 4, 167, 0, 18, 26, 8, 16, 7, 184, 0, 61, 153, 0, 7, 2]
abbrev dktX4_columnBy_0 : List UInt8 := dkwX4_columnBy_0 ++ dktX4_columnBy_1
theorem dksX4_columnBy_0 : cX4_columnBy.data.toList.drop 0 = dktX4_columnBy_0 := by decide +kernel
theorem dksX4_columnBy_1 : cX4_columnBy.data.toList.drop 24 = dktX4_columnBy_1 := dk_seg dksX4_columnBy_0 24 rfl rfl
theorem dX4_columnBy_0 : decode cX4_columnBy 0 = .ok (.iload_n 0, 1) := dk_26 (dk_at dksX4_columnBy_0 0 rfl rfl)
theorem dX4_columnBy_1 : decode cX4_columnBy 1 = .ok (.iconst 1, 1) := dk_4 (dk_at dksX4_columnBy_0 1 rfl rfl)
theorem dX4_columnBy_2 : decode cX4_columnBy 2 = .ok (.iconst 3, 1) := dk_6 (dk_at dksX4_columnBy_0 2 rfl rfl)
theorem dX4_columnBy_3 : decode cX4_columnBy 3 = .ok (.invokestatic 61, 3) := dk_184 0 61 (dk_at dksX4_columnBy_0 3 rfl rfl)
theorem dX4_columnBy_6 : decode cX4_columnBy 6 = .ok (.ifCond .eq 7, 3) := dk_153 0 7 (dk_at dksX4_columnBy_0 6 rfl rfl)
theorem dX4_columnBy_9 : decode cX4_columnBy 9 = .ok (.iconst 1, 1) := dk_4 (dk_at dksX4_columnBy_0 9 rfl rfl)
theorem dX4_columnBy_10 : decode cX4_columnBy 10 = .ok (.goto 18, 3) := dk_167 0 18 (dk_at dksX4_columnBy_0 10 rfl rfl)
theorem dX4_columnBy_13 : decode cX4_columnBy 13 = .ok (.iload_n 0, 1) := dk_26 (dk_at dksX4_columnBy_0 13 rfl rfl)
theorem dX4_columnBy_14 : decode cX4_columnBy 14 = .ok (.iconst 5, 1) := dk_8 (dk_at dksX4_columnBy_0 14 rfl rfl)
theorem dX4_columnBy_15 : decode cX4_columnBy 15 = .ok (.bipush 7, 2) := dk_16 7 (dk_at dksX4_columnBy_0 15 rfl rfl)
theorem dX4_columnBy_17 : decode cX4_columnBy 17 = .ok (.invokestatic 61, 3) := dk_184 0 61 (dk_at dksX4_columnBy_0 17 rfl rfl)
theorem dX4_columnBy_20 : decode cX4_columnBy 20 = .ok (.ifCond .eq 7, 3) := dk_153 0 7 (dk_at dksX4_columnBy_0 20 rfl rfl)
theorem dX4_columnBy_23 : decode cX4_columnBy 23 = .ok (.iconst (-1), 1) := dk_2 (dk_at dksX4_columnBy_0 23 rfl rfl)
theorem dX4_columnBy_24 : decode cX4_columnBy 24 = .ok (.goto 4, 3) := dk_167 0 4 (dk_at dksX4_columnBy_1 0 rfl rfl)
theorem dX4_columnBy_27 : decode cX4_columnBy 27 = .ok (.iconst 0, 1) := dk_3 (dk_at dksX4_columnBy_1 3 rfl rfl)
theorem dX4_columnBy_28 : decode cX4_columnBy 28 = .ok (.ireturn, 1) := dk_172 (dk_at dksX4_columnBy_1 4 rfl rfl)
abbrev cX4_isTile : ByteArray := prog_12_method_5_code
def yX4_isTile : MethodName := ⟨RX4, "isTile", "(II)Z"⟩
def dkwX4_isTile_1 : List UInt8 := [4, 100, 184, 0, 61, 153, 0, 7, 4, 167, 0, 4, 3, 172]
abbrev dktX4_isTile_1 : List UInt8 := dkwX4_isTile_1 ++ []
def dkwX4_isTile_0 : List UInt8 := [27, 3, 42, 180, 0, 7, 3, 46, 4, 100, 184, 0, 61, 153, 0, 23, 28, 3, 42, 180, 0, 7, 4, 46]
abbrev dktX4_isTile_0 : List UInt8 := dkwX4_isTile_0 ++ dktX4_isTile_1
theorem dksX4_isTile_0 : cX4_isTile.data.toList.drop 0 = dktX4_isTile_0 := by decide +kernel
theorem dksX4_isTile_1 : cX4_isTile.data.toList.drop 24 = dktX4_isTile_1 := dk_seg dksX4_isTile_0 24 rfl rfl
theorem dX4_isTile_0 : decode cX4_isTile 0 = .ok (.iload_n 1, 1) := dk_27 (dk_at dksX4_isTile_0 0 rfl rfl)
theorem dX4_isTile_1 : decode cX4_isTile 1 = .ok (.iconst 0, 1) := dk_3 (dk_at dksX4_isTile_0 1 rfl rfl)
theorem dX4_isTile_2 : decode cX4_isTile 2 = .ok (.aload_n 0, 1) := dk_42 (dk_at dksX4_isTile_0 2 rfl rfl)
theorem dX4_isTile_3 : decode cX4_isTile 3 = .ok (.getfield 7, 3) := dk_180 0 7 (dk_at dksX4_isTile_0 3 rfl rfl)
theorem dX4_isTile_6 : decode cX4_isTile 6 = .ok (.iconst 0, 1) := dk_3 (dk_at dksX4_isTile_0 6 rfl rfl)
theorem dX4_isTile_7 : decode cX4_isTile 7 = .ok (.iaload, 1) := dk_46 (dk_at dksX4_isTile_0 7 rfl rfl)
theorem dX4_isTile_8 : decode cX4_isTile 8 = .ok (.iconst 1, 1) := dk_4 (dk_at dksX4_isTile_0 8 rfl rfl)
theorem dX4_isTile_9 : decode cX4_isTile 9 = .ok (.isub, 1) := dk_100 (dk_at dksX4_isTile_0 9 rfl rfl)
theorem dX4_isTile_10 : decode cX4_isTile 10 = .ok (.invokestatic 61, 3) := dk_184 0 61 (dk_at dksX4_isTile_0 10 rfl rfl)
theorem dX4_isTile_13 : decode cX4_isTile 13 = .ok (.ifCond .eq 23, 3) := dk_153 0 23 (dk_at dksX4_isTile_0 13 rfl rfl)
theorem dX4_isTile_16 : decode cX4_isTile 16 = .ok (.iload_n 2, 1) := dk_28 (dk_at dksX4_isTile_0 16 rfl rfl)
theorem dX4_isTile_17 : decode cX4_isTile 17 = .ok (.iconst 0, 1) := dk_3 (dk_at dksX4_isTile_0 17 rfl rfl)
theorem dX4_isTile_18 : decode cX4_isTile 18 = .ok (.aload_n 0, 1) := dk_42 (dk_at dksX4_isTile_0 18 rfl rfl)
theorem dX4_isTile_19 : decode cX4_isTile 19 = .ok (.getfield 7, 3) := dk_180 0 7 (dk_at dksX4_isTile_0 19 rfl rfl)
theorem dX4_isTile_22 : decode cX4_isTile 22 = .ok (.iconst 1, 1) := dk_4 (dk_at dksX4_isTile_0 22 rfl rfl)
theorem dX4_isTile_23 : decode cX4_isTile 23 = .ok (.iaload, 1) := dk_46 (dk_at dksX4_isTile_0 23 rfl rfl)
theorem dX4_isTile_24 : decode cX4_isTile 24 = .ok (.iconst 1, 1) := dk_4 (dk_at dksX4_isTile_1 0 rfl rfl)
theorem dX4_isTile_25 : decode cX4_isTile 25 = .ok (.isub, 1) := dk_100 (dk_at dksX4_isTile_1 1 rfl rfl)
theorem dX4_isTile_26 : decode cX4_isTile 26 = .ok (.invokestatic 61, 3) := dk_184 0 61 (dk_at dksX4_isTile_1 2 rfl rfl)
theorem dX4_isTile_29 : decode cX4_isTile 29 = .ok (.ifCond .eq 7, 3) := dk_153 0 7 (dk_at dksX4_isTile_1 5 rfl rfl)
theorem dX4_isTile_32 : decode cX4_isTile 32 = .ok (.iconst 1, 1) := dk_4 (dk_at dksX4_isTile_1 8 rfl rfl)
theorem dX4_isTile_33 : decode cX4_isTile 33 = .ok (.goto 4, 3) := dk_167 0 4 (dk_at dksX4_isTile_1 9 rfl rfl)
theorem dX4_isTile_36 : decode cX4_isTile 36 = .ok (.iconst 0, 1) := dk_3 (dk_at dksX4_isTile_1 12 rfl rfl)
theorem dX4_isTile_37 : decode cX4_isTile 37 = .ok (.ireturn, 1) := dk_172 (dk_at dksX4_isTile_1 13 rfl rfl)
abbrev cX4_at : ByteArray := prog_12_method_6_code
def yX4_at : MethodName := ⟨RX4, "at", "(II)I"⟩
def dkwX4_at_0 : List UInt8 := [42, 180, 0, 7, 4, 46, 27, 104, 28, 96, 172]
abbrev dktX4_at_0 : List UInt8 := dkwX4_at_0 ++ []
theorem dksX4_at_0 : cX4_at.data.toList.drop 0 = dktX4_at_0 := by decide +kernel
theorem dX4_at_0 : decode cX4_at 0 = .ok (.aload_n 0, 1) := dk_42 (dk_at dksX4_at_0 0 rfl rfl)
theorem dX4_at_1 : decode cX4_at 1 = .ok (.getfield 7, 3) := dk_180 0 7 (dk_at dksX4_at_0 1 rfl rfl)
theorem dX4_at_4 : decode cX4_at 4 = .ok (.iconst 1, 1) := dk_4 (dk_at dksX4_at_0 4 rfl rfl)
theorem dX4_at_5 : decode cX4_at 5 = .ok (.iaload, 1) := dk_46 (dk_at dksX4_at_0 5 rfl rfl)
theorem dX4_at_6 : decode cX4_at 6 = .ok (.iload_n 1, 1) := dk_27 (dk_at dksX4_at_0 6 rfl rfl)
theorem dX4_at_7 : decode cX4_at 7 = .ok (.imul, 1) := dk_104 (dk_at dksX4_at_0 7 rfl rfl)
theorem dX4_at_8 : decode cX4_at 8 = .ok (.iload_n 2, 1) := dk_28 (dk_at dksX4_at_0 8 rfl rfl)
theorem dX4_at_9 : decode cX4_at 9 = .ok (.iadd, 1) := dk_96 (dk_at dksX4_at_0 9 rfl rfl)
theorem dX4_at_10 : decode cX4_at 10 = .ok (.ireturn, 1) := dk_172 (dk_at dksX4_at_0 10 rfl rfl)
abbrev cX4_reshaped : ByteArray := prog_12_method_24_code
def yX4_reshaped : MethodName := ⟨RX4, "reshaped", "()I"⟩
def dkwX4_reshaped_2 : List UInt8 := [167, 0, 4, 3, 96, 60, 132, 2, 1, 167, 255, 204, 27, 172]
abbrev dktX4_reshaped_2 : List UInt8 := dkwX4_reshaped_2 ++ []
def dkwX4_reshaped_1 : List UInt8 := [42, 28, 182, 0, 97, 153, 0, 21, 42, 28, 182, 0, 110, 42, 180, 0, 29, 28, 46, 159, 0, 7, 4]
abbrev dktX4_reshaped_1 : List UInt8 := dkwX4_reshaped_1 ++ dktX4_reshaped_2
def dkwX4_reshaped_0 : List UInt8 := [3, 60, 3, 61, 28, 42, 182, 0, 116, 162, 0, 50, 27, 42, 180, 0, 29, 28, 46, 16, 250, 159, 0, 29]
abbrev dktX4_reshaped_0 : List UInt8 := dkwX4_reshaped_0 ++ dktX4_reshaped_1
theorem dksX4_reshaped_0 : cX4_reshaped.data.toList.drop 0 = dktX4_reshaped_0 := by decide +kernel
theorem dksX4_reshaped_1 : cX4_reshaped.data.toList.drop 24 = dktX4_reshaped_1 := dk_seg dksX4_reshaped_0 24 rfl rfl
theorem dksX4_reshaped_2 : cX4_reshaped.data.toList.drop 47 = dktX4_reshaped_2 := dk_seg dksX4_reshaped_1 23 rfl rfl
theorem dX4_reshaped_0 : decode cX4_reshaped 0 = .ok (.iconst 0, 1) := dk_3 (dk_at dksX4_reshaped_0 0 rfl rfl)
theorem dX4_reshaped_1 : decode cX4_reshaped 1 = .ok (.istore_n 1, 1) := dk_60 (dk_at dksX4_reshaped_0 1 rfl rfl)
theorem dX4_reshaped_2 : decode cX4_reshaped 2 = .ok (.iconst 0, 1) := dk_3 (dk_at dksX4_reshaped_0 2 rfl rfl)
theorem dX4_reshaped_3 : decode cX4_reshaped 3 = .ok (.istore_n 2, 1) := dk_61 (dk_at dksX4_reshaped_0 3 rfl rfl)
theorem dX4_reshaped_4 : decode cX4_reshaped 4 = .ok (.iload_n 2, 1) := dk_28 (dk_at dksX4_reshaped_0 4 rfl rfl)
theorem dX4_reshaped_5 : decode cX4_reshaped 5 = .ok (.aload_n 0, 1) := dk_42 (dk_at dksX4_reshaped_0 5 rfl rfl)
theorem dX4_reshaped_6 : decode cX4_reshaped 6 = .ok (.invokevirtual 116, 3) := dk_182 0 116 (dk_at dksX4_reshaped_0 6 rfl rfl)
theorem dX4_reshaped_9 : decode cX4_reshaped 9 = .ok (.if_icmp .ge 50, 3) := dk_162 0 50 (dk_at dksX4_reshaped_0 9 rfl rfl)
theorem dX4_reshaped_12 : decode cX4_reshaped 12 = .ok (.iload_n 1, 1) := dk_27 (dk_at dksX4_reshaped_0 12 rfl rfl)
theorem dX4_reshaped_13 : decode cX4_reshaped 13 = .ok (.aload_n 0, 1) := dk_42 (dk_at dksX4_reshaped_0 13 rfl rfl)
theorem dX4_reshaped_14 : decode cX4_reshaped 14 = .ok (.getfield 29, 3) := dk_180 0 29 (dk_at dksX4_reshaped_0 14 rfl rfl)
theorem dX4_reshaped_17 : decode cX4_reshaped 17 = .ok (.iload_n 2, 1) := dk_28 (dk_at dksX4_reshaped_0 17 rfl rfl)
theorem dX4_reshaped_18 : decode cX4_reshaped 18 = .ok (.iaload, 1) := dk_46 (dk_at dksX4_reshaped_0 18 rfl rfl)
theorem dX4_reshaped_19 : decode cX4_reshaped 19 = .ok (.bipush (-6), 2) := dk_16 250 (dk_at dksX4_reshaped_0 19 rfl rfl)
theorem dX4_reshaped_21 : decode cX4_reshaped 21 = .ok (.if_icmp .eq 29, 3) := dk_159 0 29 (dk_at dksX4_reshaped_0 21 rfl rfl)
theorem dX4_reshaped_24 : decode cX4_reshaped 24 = .ok (.aload_n 0, 1) := dk_42 (dk_at dksX4_reshaped_1 0 rfl rfl)
theorem dX4_reshaped_25 : decode cX4_reshaped 25 = .ok (.iload_n 2, 1) := dk_28 (dk_at dksX4_reshaped_1 1 rfl rfl)
theorem dX4_reshaped_26 : decode cX4_reshaped 26 = .ok (.invokevirtual 97, 3) := dk_182 0 97 (dk_at dksX4_reshaped_1 2 rfl rfl)
theorem dX4_reshaped_29 : decode cX4_reshaped 29 = .ok (.ifCond .eq 21, 3) := dk_153 0 21 (dk_at dksX4_reshaped_1 5 rfl rfl)
theorem dX4_reshaped_32 : decode cX4_reshaped 32 = .ok (.aload_n 0, 1) := dk_42 (dk_at dksX4_reshaped_1 8 rfl rfl)
theorem dX4_reshaped_33 : decode cX4_reshaped 33 = .ok (.iload_n 2, 1) := dk_28 (dk_at dksX4_reshaped_1 9 rfl rfl)
theorem dX4_reshaped_34 : decode cX4_reshaped 34 = .ok (.invokevirtual 110, 3) := dk_182 0 110 (dk_at dksX4_reshaped_1 10 rfl rfl)
theorem dX4_reshaped_37 : decode cX4_reshaped 37 = .ok (.aload_n 0, 1) := dk_42 (dk_at dksX4_reshaped_1 13 rfl rfl)
theorem dX4_reshaped_38 : decode cX4_reshaped 38 = .ok (.getfield 29, 3) := dk_180 0 29 (dk_at dksX4_reshaped_1 14 rfl rfl)
theorem dX4_reshaped_41 : decode cX4_reshaped 41 = .ok (.iload_n 2, 1) := dk_28 (dk_at dksX4_reshaped_1 17 rfl rfl)
theorem dX4_reshaped_42 : decode cX4_reshaped 42 = .ok (.iaload, 1) := dk_46 (dk_at dksX4_reshaped_1 18 rfl rfl)
theorem dX4_reshaped_43 : decode cX4_reshaped 43 = .ok (.if_icmp .eq 7, 3) := dk_159 0 7 (dk_at dksX4_reshaped_1 19 rfl rfl)
theorem dX4_reshaped_46 : decode cX4_reshaped 46 = .ok (.iconst 1, 1) := dk_4 (dk_at dksX4_reshaped_1 22 rfl rfl)
theorem dX4_reshaped_47 : decode cX4_reshaped 47 = .ok (.goto 4, 3) := dk_167 0 4 (dk_at dksX4_reshaped_2 0 rfl rfl)
theorem dX4_reshaped_50 : decode cX4_reshaped 50 = .ok (.iconst 0, 1) := dk_3 (dk_at dksX4_reshaped_2 3 rfl rfl)
theorem dX4_reshaped_51 : decode cX4_reshaped 51 = .ok (.iadd, 1) := dk_96 (dk_at dksX4_reshaped_2 4 rfl rfl)
theorem dX4_reshaped_52 : decode cX4_reshaped 52 = .ok (.istore_n 1, 1) := dk_60 (dk_at dksX4_reshaped_2 5 rfl rfl)
theorem dX4_reshaped_53 : decode cX4_reshaped 53 = .ok (.iinc 2 1, 3) := dk_132 2 1 (dk_at dksX4_reshaped_2 6 rfl rfl)
theorem dX4_reshaped_56 : decode cX4_reshaped 56 = .ok (.goto (-52), 3) := dk_167 255 204 (dk_at dksX4_reshaped_2 9 rfl rfl)
theorem dX4_reshaped_59 : decode cX4_reshaped 59 = .ok (.iload_n 1, 1) := dk_27 (dk_at dksX4_reshaped_2 12 rfl rfl)
theorem dX4_reshaped_60 : decode cX4_reshaped 60 = .ok (.ireturn, 1) := dk_172 (dk_at dksX4_reshaped_2 13 rfl rfl)
abbrev cX4_set : ByteArray := prog_12_method_27_code
def yX4_set : MethodName := ⟨RX4, "set", "(IIZ)I"⟩
def dkwX4_set_1 : List UInt8 := [182, 0, 94, 29, 182, 0, 125, 87, 42, 182, 0, 122, 172]
abbrev dktX4_set_1 : List UInt8 := dkwX4_set_1 ++ []
def dkwX4_set_0 : List UInt8 := [42, 27, 28, 182, 0, 90, 154, 0, 5, 2, 172, 42, 182, 0, 77, 42, 182, 0, 119, 42, 42, 27, 28]
abbrev dktX4_set_0 : List UInt8 := dkwX4_set_0 ++ dktX4_set_1
theorem dksX4_set_0 : cX4_set.data.toList.drop 0 = dktX4_set_0 := by decide +kernel
theorem dksX4_set_1 : cX4_set.data.toList.drop 23 = dktX4_set_1 := dk_seg dksX4_set_0 23 rfl rfl
theorem dX4_set_0 : decode cX4_set 0 = .ok (.aload_n 0, 1) := dk_42 (dk_at dksX4_set_0 0 rfl rfl)
theorem dX4_set_1 : decode cX4_set 1 = .ok (.iload_n 1, 1) := dk_27 (dk_at dksX4_set_0 1 rfl rfl)
theorem dX4_set_2 : decode cX4_set 2 = .ok (.iload_n 2, 1) := dk_28 (dk_at dksX4_set_0 2 rfl rfl)
theorem dX4_set_3 : decode cX4_set 3 = .ok (.invokevirtual 90, 3) := dk_182 0 90 (dk_at dksX4_set_0 3 rfl rfl)
theorem dX4_set_6 : decode cX4_set 6 = .ok (.ifCond .ne 5, 3) := dk_154 0 5 (dk_at dksX4_set_0 6 rfl rfl)
theorem dX4_set_9 : decode cX4_set 9 = .ok (.iconst (-1), 1) := dk_2 (dk_at dksX4_set_0 9 rfl rfl)
theorem dX4_set_10 : decode cX4_set 10 = .ok (.ireturn, 1) := dk_172 (dk_at dksX4_set_0 10 rfl rfl)
theorem dX4_set_11 : decode cX4_set 11 = .ok (.aload_n 0, 1) := dk_42 (dk_at dksX4_set_0 11 rfl rfl)
theorem dX4_set_12 : decode cX4_set 12 = .ok (.invokevirtual 77, 3) := dk_182 0 77 (dk_at dksX4_set_0 12 rfl rfl)
theorem dX4_set_15 : decode cX4_set 15 = .ok (.aload_n 0, 1) := dk_42 (dk_at dksX4_set_0 15 rfl rfl)
theorem dX4_set_16 : decode cX4_set 16 = .ok (.invokevirtual 119, 3) := dk_182 0 119 (dk_at dksX4_set_0 16 rfl rfl)
theorem dX4_set_19 : decode cX4_set 19 = .ok (.aload_n 0, 1) := dk_42 (dk_at dksX4_set_0 19 rfl rfl)
theorem dX4_set_20 : decode cX4_set 20 = .ok (.aload_n 0, 1) := dk_42 (dk_at dksX4_set_0 20 rfl rfl)
theorem dX4_set_21 : decode cX4_set 21 = .ok (.iload_n 1, 1) := dk_27 (dk_at dksX4_set_0 21 rfl rfl)
theorem dX4_set_22 : decode cX4_set 22 = .ok (.iload_n 2, 1) := dk_28 (dk_at dksX4_set_0 22 rfl rfl)
theorem dX4_set_23 : decode cX4_set 23 = .ok (.invokevirtual 94, 3) := dk_182 0 94 (dk_at dksX4_set_1 0 rfl rfl)
theorem dX4_set_26 : decode cX4_set 26 = .ok (.iload_n 3, 1) := dk_29 (dk_at dksX4_set_1 3 rfl rfl)
theorem dX4_set_27 : decode cX4_set 27 = .ok (.invokevirtual 125, 3) := dk_182 0 125 (dk_at dksX4_set_1 4 rfl rfl)
theorem dX4_set_30 : decode cX4_set 30 = .ok (.pop, 1) := dk_87 (dk_at dksX4_set_1 7 rfl rfl)
theorem dX4_set_31 : decode cX4_set 31 = .ok (.aload_n 0, 1) := dk_42 (dk_at dksX4_set_1 8 rfl rfl)
theorem dX4_set_32 : decode cX4_set 32 = .ok (.invokevirtual 122, 3) := dk_182 0 122 (dk_at dksX4_set_1 9 rfl rfl)
theorem dX4_set_35 : decode cX4_set 35 = .ok (.ireturn, 1) := dk_172 (dk_at dksX4_set_1 12 rfl rfl)
abbrev cX4_becomes : ByteArray := prog_12_method_26_code
def yX4_becomes : MethodName := ⟨RX4, "becomes", "(IZ)Z"⟩
def dkwX4_becomes_2 : List UInt8 := [180, 0, 7, 17, 0, 147, 27, 96, 46, 167, 0, 5, 16, 250, 79, 29, 172]
abbrev dktX4_becomes_2 : List UInt8 := dkwX4_becomes_2 ++ []
def dkwX4_becomes_1 : List UInt8 := [153, 0, 7, 4, 167, 0, 4, 3, 79, 42, 180, 0, 7, 17, 0, 147, 27, 96, 28, 153, 0, 16, 42]
abbrev dktX4_becomes_1 : List UInt8 := dkwX4_becomes_1 ++ dktX4_becomes_2
def dkwX4_becomes_0 : List UInt8 := [42, 27, 182, 0, 97, 28, 159, 0, 7, 4, 167, 0, 4, 3, 62, 42, 180, 0, 7, 6, 27, 96, 28]
abbrev dktX4_becomes_0 : List UInt8 := dkwX4_becomes_0 ++ dktX4_becomes_1
theorem dksX4_becomes_0 : cX4_becomes.data.toList.drop 0 = dktX4_becomes_0 := by decide +kernel
theorem dksX4_becomes_1 : cX4_becomes.data.toList.drop 23 = dktX4_becomes_1 := dk_seg dksX4_becomes_0 23 rfl rfl
theorem dksX4_becomes_2 : cX4_becomes.data.toList.drop 46 = dktX4_becomes_2 := dk_seg dksX4_becomes_1 23 rfl rfl
theorem dX4_becomes_0 : decode cX4_becomes 0 = .ok (.aload_n 0, 1) := dk_42 (dk_at dksX4_becomes_0 0 rfl rfl)
theorem dX4_becomes_1 : decode cX4_becomes 1 = .ok (.iload_n 1, 1) := dk_27 (dk_at dksX4_becomes_0 1 rfl rfl)
theorem dX4_becomes_2 : decode cX4_becomes 2 = .ok (.invokevirtual 97, 3) := dk_182 0 97 (dk_at dksX4_becomes_0 2 rfl rfl)
theorem dX4_becomes_5 : decode cX4_becomes 5 = .ok (.iload_n 2, 1) := dk_28 (dk_at dksX4_becomes_0 5 rfl rfl)
theorem dX4_becomes_6 : decode cX4_becomes 6 = .ok (.if_icmp .eq 7, 3) := dk_159 0 7 (dk_at dksX4_becomes_0 6 rfl rfl)
theorem dX4_becomes_9 : decode cX4_becomes 9 = .ok (.iconst 1, 1) := dk_4 (dk_at dksX4_becomes_0 9 rfl rfl)
theorem dX4_becomes_10 : decode cX4_becomes 10 = .ok (.goto 4, 3) := dk_167 0 4 (dk_at dksX4_becomes_0 10 rfl rfl)
theorem dX4_becomes_13 : decode cX4_becomes 13 = .ok (.iconst 0, 1) := dk_3 (dk_at dksX4_becomes_0 13 rfl rfl)
theorem dX4_becomes_14 : decode cX4_becomes 14 = .ok (.istore_n 3, 1) := dk_62 (dk_at dksX4_becomes_0 14 rfl rfl)
theorem dX4_becomes_15 : decode cX4_becomes 15 = .ok (.aload_n 0, 1) := dk_42 (dk_at dksX4_becomes_0 15 rfl rfl)
theorem dX4_becomes_16 : decode cX4_becomes 16 = .ok (.getfield 7, 3) := dk_180 0 7 (dk_at dksX4_becomes_0 16 rfl rfl)
theorem dX4_becomes_19 : decode cX4_becomes 19 = .ok (.iconst 3, 1) := dk_6 (dk_at dksX4_becomes_0 19 rfl rfl)
theorem dX4_becomes_20 : decode cX4_becomes 20 = .ok (.iload_n 1, 1) := dk_27 (dk_at dksX4_becomes_0 20 rfl rfl)
theorem dX4_becomes_21 : decode cX4_becomes 21 = .ok (.iadd, 1) := dk_96 (dk_at dksX4_becomes_0 21 rfl rfl)
theorem dX4_becomes_22 : decode cX4_becomes 22 = .ok (.iload_n 2, 1) := dk_28 (dk_at dksX4_becomes_0 22 rfl rfl)
theorem dX4_becomes_23 : decode cX4_becomes 23 = .ok (.ifCond .eq 7, 3) := dk_153 0 7 (dk_at dksX4_becomes_1 0 rfl rfl)
theorem dX4_becomes_26 : decode cX4_becomes 26 = .ok (.iconst 1, 1) := dk_4 (dk_at dksX4_becomes_1 3 rfl rfl)
theorem dX4_becomes_27 : decode cX4_becomes 27 = .ok (.goto 4, 3) := dk_167 0 4 (dk_at dksX4_becomes_1 4 rfl rfl)
theorem dX4_becomes_30 : decode cX4_becomes 30 = .ok (.iconst 0, 1) := dk_3 (dk_at dksX4_becomes_1 7 rfl rfl)
theorem dX4_becomes_31 : decode cX4_becomes 31 = .ok (.iastore, 1) := dk_79 (dk_at dksX4_becomes_1 8 rfl rfl)
theorem dX4_becomes_32 : decode cX4_becomes 32 = .ok (.aload_n 0, 1) := dk_42 (dk_at dksX4_becomes_1 9 rfl rfl)
theorem dX4_becomes_33 : decode cX4_becomes 33 = .ok (.getfield 7, 3) := dk_180 0 7 (dk_at dksX4_becomes_1 10 rfl rfl)
theorem dX4_becomes_36 : decode cX4_becomes 36 = .ok (.sipush 147, 3) := dk_17 0 147 (dk_at dksX4_becomes_1 13 rfl rfl)
theorem dX4_becomes_39 : decode cX4_becomes 39 = .ok (.iload_n 1, 1) := dk_27 (dk_at dksX4_becomes_1 16 rfl rfl)
theorem dX4_becomes_40 : decode cX4_becomes 40 = .ok (.iadd, 1) := dk_96 (dk_at dksX4_becomes_1 17 rfl rfl)
theorem dX4_becomes_41 : decode cX4_becomes 41 = .ok (.iload_n 2, 1) := dk_28 (dk_at dksX4_becomes_1 18 rfl rfl)
theorem dX4_becomes_42 : decode cX4_becomes 42 = .ok (.ifCond .eq 16, 3) := dk_153 0 16 (dk_at dksX4_becomes_1 19 rfl rfl)
theorem dX4_becomes_45 : decode cX4_becomes 45 = .ok (.aload_n 0, 1) := dk_42 (dk_at dksX4_becomes_1 22 rfl rfl)
theorem dX4_becomes_46 : decode cX4_becomes 46 = .ok (.getfield 7, 3) := dk_180 0 7 (dk_at dksX4_becomes_2 0 rfl rfl)
theorem dX4_becomes_49 : decode cX4_becomes 49 = .ok (.sipush 147, 3) := dk_17 0 147 (dk_at dksX4_becomes_2 3 rfl rfl)
theorem dX4_becomes_52 : decode cX4_becomes 52 = .ok (.iload_n 1, 1) := dk_27 (dk_at dksX4_becomes_2 6 rfl rfl)
theorem dX4_becomes_53 : decode cX4_becomes 53 = .ok (.iadd, 1) := dk_96 (dk_at dksX4_becomes_2 7 rfl rfl)
theorem dX4_becomes_54 : decode cX4_becomes 54 = .ok (.iaload, 1) := dk_46 (dk_at dksX4_becomes_2 8 rfl rfl)
theorem dX4_becomes_55 : decode cX4_becomes 55 = .ok (.goto 5, 3) := dk_167 0 5 (dk_at dksX4_becomes_2 9 rfl rfl)
theorem dX4_becomes_58 : decode cX4_becomes 58 = .ok (.bipush (-6), 2) := dk_16 250 (dk_at dksX4_becomes_2 12 rfl rfl)
theorem dX4_becomes_60 : decode cX4_becomes 60 = .ok (.iastore, 1) := dk_79 (dk_at dksX4_becomes_2 14 rfl rfl)
theorem dX4_becomes_61 : decode cX4_becomes 61 = .ok (.iload_n 3, 1) := dk_29 (dk_at dksX4_becomes_2 15 rfl rfl)
theorem dX4_becomes_62 : decode cX4_becomes 62 = .ok (.ireturn, 1) := dk_172 (dk_at dksX4_becomes_2 16 rfl rfl)
abbrev cX4_fill : ByteArray := prog_12_method_29_code
def yX4_fill : MethodName := ⟨RX4, "fill", "(IIZ)I"⟩
def dkwX4_fill_3 : List UInt8 := [167, 255, 219, 21, 4, 172]
abbrev dktX4_fill_3 : List UInt8 := dkwX4_fill_3 ++ []
def dkwX4_fill_2 : List UInt8 := [180, 0, 32, 21, 5, 46, 29, 182, 0, 125, 153, 0, 7, 4, 167, 0, 4, 3, 96, 54, 4, 132, 5, 1]
abbrev dktX4_fill_2 : List UInt8 := dkwX4_fill_2 ++ dktX4_fill_3
def dkwX4_fill_1 : List UInt8 := [182, 0, 132, 3, 54, 4, 3, 54, 5, 21, 5, 42, 180, 0, 129, 162, 0, 34, 21, 4, 42, 42]
abbrev dktX4_fill_1 : List UInt8 := dkwX4_fill_1 ++ dktX4_fill_2
def dkwX4_fill_0 : List UInt8 := [42, 27, 28, 182, 0, 90, 154, 0, 5, 2, 172, 42, 182, 0, 77, 42, 42, 27, 28, 182, 0, 94, 3]
abbrev dktX4_fill_0 : List UInt8 := dkwX4_fill_0 ++ dktX4_fill_1
theorem dksX4_fill_0 : cX4_fill.data.toList.drop 0 = dktX4_fill_0 := by decide +kernel
theorem dksX4_fill_1 : cX4_fill.data.toList.drop 23 = dktX4_fill_1 := dk_seg dksX4_fill_0 23 rfl rfl
theorem dksX4_fill_2 : cX4_fill.data.toList.drop 45 = dktX4_fill_2 := dk_seg dksX4_fill_1 22 rfl rfl
theorem dksX4_fill_3 : cX4_fill.data.toList.drop 69 = dktX4_fill_3 := dk_seg dksX4_fill_2 24 rfl rfl
theorem dX4_fill_0 : decode cX4_fill 0 = .ok (.aload_n 0, 1) := dk_42 (dk_at dksX4_fill_0 0 rfl rfl)
theorem dX4_fill_1 : decode cX4_fill 1 = .ok (.iload_n 1, 1) := dk_27 (dk_at dksX4_fill_0 1 rfl rfl)
theorem dX4_fill_2 : decode cX4_fill 2 = .ok (.iload_n 2, 1) := dk_28 (dk_at dksX4_fill_0 2 rfl rfl)
theorem dX4_fill_3 : decode cX4_fill 3 = .ok (.invokevirtual 90, 3) := dk_182 0 90 (dk_at dksX4_fill_0 3 rfl rfl)
theorem dX4_fill_6 : decode cX4_fill 6 = .ok (.ifCond .ne 5, 3) := dk_154 0 5 (dk_at dksX4_fill_0 6 rfl rfl)
theorem dX4_fill_9 : decode cX4_fill 9 = .ok (.iconst (-1), 1) := dk_2 (dk_at dksX4_fill_0 9 rfl rfl)
theorem dX4_fill_10 : decode cX4_fill 10 = .ok (.ireturn, 1) := dk_172 (dk_at dksX4_fill_0 10 rfl rfl)
theorem dX4_fill_11 : decode cX4_fill 11 = .ok (.aload_n 0, 1) := dk_42 (dk_at dksX4_fill_0 11 rfl rfl)
theorem dX4_fill_12 : decode cX4_fill 12 = .ok (.invokevirtual 77, 3) := dk_182 0 77 (dk_at dksX4_fill_0 12 rfl rfl)
theorem dX4_fill_15 : decode cX4_fill 15 = .ok (.aload_n 0, 1) := dk_42 (dk_at dksX4_fill_0 15 rfl rfl)
theorem dX4_fill_16 : decode cX4_fill 16 = .ok (.aload_n 0, 1) := dk_42 (dk_at dksX4_fill_0 16 rfl rfl)
theorem dX4_fill_17 : decode cX4_fill 17 = .ok (.iload_n 1, 1) := dk_27 (dk_at dksX4_fill_0 17 rfl rfl)
theorem dX4_fill_18 : decode cX4_fill 18 = .ok (.iload_n 2, 1) := dk_28 (dk_at dksX4_fill_0 18 rfl rfl)
theorem dX4_fill_19 : decode cX4_fill 19 = .ok (.invokevirtual 94, 3) := dk_182 0 94 (dk_at dksX4_fill_0 19 rfl rfl)
theorem dX4_fill_22 : decode cX4_fill 22 = .ok (.iconst 0, 1) := dk_3 (dk_at dksX4_fill_0 22 rfl rfl)
theorem dX4_fill_23 : decode cX4_fill 23 = .ok (.invokevirtual 132, 3) := dk_182 0 132 (dk_at dksX4_fill_1 0 rfl rfl)
theorem dX4_fill_26 : decode cX4_fill 26 = .ok (.iconst 0, 1) := dk_3 (dk_at dksX4_fill_1 3 rfl rfl)
theorem dX4_fill_27 : decode cX4_fill 27 = .ok (.istore 4, 2) := dk_54 4 (dk_at dksX4_fill_1 4 rfl rfl)
theorem dX4_fill_29 : decode cX4_fill 29 = .ok (.iconst 0, 1) := dk_3 (dk_at dksX4_fill_1 6 rfl rfl)
theorem dX4_fill_30 : decode cX4_fill 30 = .ok (.istore 5, 2) := dk_54 5 (dk_at dksX4_fill_1 7 rfl rfl)
theorem dX4_fill_32 : decode cX4_fill 32 = .ok (.iload 5, 2) := dk_21 5 (dk_at dksX4_fill_1 9 rfl rfl)
theorem dX4_fill_34 : decode cX4_fill 34 = .ok (.aload_n 0, 1) := dk_42 (dk_at dksX4_fill_1 11 rfl rfl)
theorem dX4_fill_35 : decode cX4_fill 35 = .ok (.getfield 129, 3) := dk_180 0 129 (dk_at dksX4_fill_1 12 rfl rfl)
theorem dX4_fill_38 : decode cX4_fill 38 = .ok (.if_icmp .ge 34, 3) := dk_162 0 34 (dk_at dksX4_fill_1 15 rfl rfl)
theorem dX4_fill_41 : decode cX4_fill 41 = .ok (.iload 4, 2) := dk_21 4 (dk_at dksX4_fill_1 18 rfl rfl)
theorem dX4_fill_43 : decode cX4_fill 43 = .ok (.aload_n 0, 1) := dk_42 (dk_at dksX4_fill_1 20 rfl rfl)
theorem dX4_fill_44 : decode cX4_fill 44 = .ok (.aload_n 0, 1) := dk_42 (dk_at dksX4_fill_1 21 rfl rfl)
theorem dX4_fill_45 : decode cX4_fill 45 = .ok (.getfield 32, 3) := dk_180 0 32 (dk_at dksX4_fill_2 0 rfl rfl)
theorem dX4_fill_48 : decode cX4_fill 48 = .ok (.iload 5, 2) := dk_21 5 (dk_at dksX4_fill_2 3 rfl rfl)
theorem dX4_fill_50 : decode cX4_fill 50 = .ok (.iaload, 1) := dk_46 (dk_at dksX4_fill_2 5 rfl rfl)
theorem dX4_fill_51 : decode cX4_fill 51 = .ok (.iload_n 3, 1) := dk_29 (dk_at dksX4_fill_2 6 rfl rfl)
theorem dX4_fill_52 : decode cX4_fill 52 = .ok (.invokevirtual 125, 3) := dk_182 0 125 (dk_at dksX4_fill_2 7 rfl rfl)
theorem dX4_fill_55 : decode cX4_fill 55 = .ok (.ifCond .eq 7, 3) := dk_153 0 7 (dk_at dksX4_fill_2 10 rfl rfl)
theorem dX4_fill_58 : decode cX4_fill 58 = .ok (.iconst 1, 1) := dk_4 (dk_at dksX4_fill_2 13 rfl rfl)
theorem dX4_fill_59 : decode cX4_fill 59 = .ok (.goto 4, 3) := dk_167 0 4 (dk_at dksX4_fill_2 14 rfl rfl)
theorem dX4_fill_62 : decode cX4_fill 62 = .ok (.iconst 0, 1) := dk_3 (dk_at dksX4_fill_2 17 rfl rfl)
theorem dX4_fill_63 : decode cX4_fill 63 = .ok (.iadd, 1) := dk_96 (dk_at dksX4_fill_2 18 rfl rfl)
theorem dX4_fill_64 : decode cX4_fill 64 = .ok (.istore 4, 2) := dk_54 4 (dk_at dksX4_fill_2 19 rfl rfl)
theorem dX4_fill_66 : decode cX4_fill 66 = .ok (.iinc 5 1, 3) := dk_132 5 1 (dk_at dksX4_fill_2 21 rfl rfl)
theorem dX4_fill_69 : decode cX4_fill 69 = .ok (.goto (-37), 3) := dk_167 255 219 (dk_at dksX4_fill_3 0 rfl rfl)
theorem dX4_fill_72 : decode cX4_fill 72 = .ok (.iload 4, 2) := dk_21 4 (dk_at dksX4_fill_3 3 rfl rfl)
theorem dX4_fill_74 : decode cX4_fill 74 = .ok (.ireturn, 1) := dk_172 (dk_at dksX4_fill_3 5 rfl rfl)
abbrev cX4_findRegion : ByteArray := prog_12_method_28_code
def yX4_findRegion : MethodName := ⟨RX4, "findRegion", "(IZ)V"⟩
def dkwX4_findRegion_10 : List UInt8 := [167, 255, 66, 177]
abbrev dktX4_findRegion_10 : List UInt8 := dkwX4_findRegion_10 ++ []
def dkwX4_findRegion_9 : List UInt8 := [96, 181, 0, 129, 21, 6, 28, 153, 0, 7, 4, 167, 0, 4, 5, 96, 54, 6, 167, 255, 113, 132, 3, 1]
abbrev dktX4_findRegion_9 : List UInt8 := dkwX4_findRegion_9 ++ dktX4_findRegion_10
def dkwX4_findRegion_8 : List UInt8 := [79, 42, 180, 0, 32, 42, 180, 0, 129, 42, 21, 7, 21, 8, 182, 0, 94, 79, 42, 89, 180, 0, 129, 4]
abbrev dktX4_findRegion_8 : List UInt8 := dkwX4_findRegion_8 ++ dktX4_findRegion_9
def dkwX4_findRegion_7 : List UInt8 := [180, 0, 35, 42, 21, 7, 21, 8, 182, 0, 94, 42, 180, 0, 35, 42, 180, 0, 32, 29, 46, 46, 4, 96]
abbrev dktX4_findRegion_7 : List UInt8 := dkwX4_findRegion_7 ++ dktX4_findRegion_8
def dkwX4_findRegion_6 : List UInt8 := [160, 0, 76, 42, 42, 21, 7, 21, 8, 182, 0, 94, 182, 0, 97, 42, 27, 182, 0, 97, 160, 0, 56, 42]
abbrev dktX4_findRegion_6 : List UInt8 := dkwX4_findRegion_6 ++ dktX4_findRegion_7
def dkwX4_findRegion_5 : List UInt8 := [21, 8, 182, 0, 90, 153, 0, 94, 42, 180, 0, 35, 42, 21, 7, 21, 8, 182, 0, 94, 46, 16, 250]
abbrev dktX4_findRegion_5 : List UInt8 := dkwX4_findRegion_5 ++ dktX4_findRegion_6
def dkwX4_findRegion_4 : List UInt8 := [21, 4, 21, 6, 184, 0, 84, 96, 54, 7, 21, 5, 21, 6, 184, 0, 87, 96, 54, 8, 42, 21, 7]
abbrev dktX4_findRegion_4 : List UInt8 := dkwX4_findRegion_4 ++ dktX4_findRegion_5
def dkwX4_findRegion_3 : List UInt8 := [180, 0, 32, 29, 46, 42, 180, 0, 7, 4, 46, 112, 54, 5, 3, 54, 6, 21, 6, 16, 8, 162, 0, 142]
abbrev dktX4_findRegion_3 : List UInt8 := dkwX4_findRegion_3 ++ dktX4_findRegion_4
def dkwX4_findRegion_2 : List UInt8 := [180, 0, 129, 162, 0, 188, 42, 180, 0, 32, 29, 46, 42, 180, 0, 7, 4, 46, 108, 54, 4, 42]
abbrev dktX4_findRegion_2 : List UInt8 := dkwX4_findRegion_2 ++ dktX4_findRegion_3
def dkwX4_findRegion_1 : List UInt8 := [180, 0, 35, 27, 3, 79, 42, 180, 0, 32, 3, 27, 79, 42, 4, 181, 0, 129, 3, 62, 29, 42]
abbrev dktX4_findRegion_1 : List UInt8 := dkwX4_findRegion_1 ++ dktX4_findRegion_2
def dkwX4_findRegion_0 : List UInt8 := [3, 62, 29, 17, 0, 144, 162, 0, 17, 42, 180, 0, 35, 29, 16, 250, 79, 132, 3, 1, 167, 255, 238, 42]
abbrev dktX4_findRegion_0 : List UInt8 := dkwX4_findRegion_0 ++ dktX4_findRegion_1
theorem dksX4_findRegion_0 : cX4_findRegion.data.toList.drop 0 = dktX4_findRegion_0 := by decide +kernel
theorem dksX4_findRegion_1 : cX4_findRegion.data.toList.drop 24 = dktX4_findRegion_1 := dk_seg dksX4_findRegion_0 24 rfl rfl
theorem dksX4_findRegion_2 : cX4_findRegion.data.toList.drop 46 = dktX4_findRegion_2 := dk_seg dksX4_findRegion_1 22 rfl rfl
theorem dksX4_findRegion_3 : cX4_findRegion.data.toList.drop 68 = dktX4_findRegion_3 := dk_seg dksX4_findRegion_2 22 rfl rfl
theorem dksX4_findRegion_4 : cX4_findRegion.data.toList.drop 92 = dktX4_findRegion_4 := dk_seg dksX4_findRegion_3 24 rfl rfl
theorem dksX4_findRegion_5 : cX4_findRegion.data.toList.drop 115 = dktX4_findRegion_5 := dk_seg dksX4_findRegion_4 23 rfl rfl
theorem dksX4_findRegion_6 : cX4_findRegion.data.toList.drop 138 = dktX4_findRegion_6 := dk_seg dksX4_findRegion_5 23 rfl rfl
theorem dksX4_findRegion_7 : cX4_findRegion.data.toList.drop 162 = dktX4_findRegion_7 := dk_seg dksX4_findRegion_6 24 rfl rfl
theorem dksX4_findRegion_8 : cX4_findRegion.data.toList.drop 186 = dktX4_findRegion_8 := dk_seg dksX4_findRegion_7 24 rfl rfl
theorem dksX4_findRegion_9 : cX4_findRegion.data.toList.drop 210 = dktX4_findRegion_9 := dk_seg dksX4_findRegion_8 24 rfl rfl
theorem dksX4_findRegion_10 : cX4_findRegion.data.toList.drop 234 = dktX4_findRegion_10 := dk_seg dksX4_findRegion_9 24 rfl rfl
theorem dX4_findRegion_0 : decode cX4_findRegion 0 = .ok (.iconst 0, 1) := dk_3 (dk_at dksX4_findRegion_0 0 rfl rfl)
theorem dX4_findRegion_1 : decode cX4_findRegion 1 = .ok (.istore_n 3, 1) := dk_62 (dk_at dksX4_findRegion_0 1 rfl rfl)
theorem dX4_findRegion_2 : decode cX4_findRegion 2 = .ok (.iload_n 3, 1) := dk_29 (dk_at dksX4_findRegion_0 2 rfl rfl)
theorem dX4_findRegion_3 : decode cX4_findRegion 3 = .ok (.sipush 144, 3) := dk_17 0 144 (dk_at dksX4_findRegion_0 3 rfl rfl)
theorem dX4_findRegion_6 : decode cX4_findRegion 6 = .ok (.if_icmp .ge 17, 3) := dk_162 0 17 (dk_at dksX4_findRegion_0 6 rfl rfl)
theorem dX4_findRegion_9 : decode cX4_findRegion 9 = .ok (.aload_n 0, 1) := dk_42 (dk_at dksX4_findRegion_0 9 rfl rfl)
theorem dX4_findRegion_10 : decode cX4_findRegion 10 = .ok (.getfield 35, 3) := dk_180 0 35 (dk_at dksX4_findRegion_0 10 rfl rfl)
theorem dX4_findRegion_13 : decode cX4_findRegion 13 = .ok (.iload_n 3, 1) := dk_29 (dk_at dksX4_findRegion_0 13 rfl rfl)
theorem dX4_findRegion_14 : decode cX4_findRegion 14 = .ok (.bipush (-6), 2) := dk_16 250 (dk_at dksX4_findRegion_0 14 rfl rfl)
theorem dX4_findRegion_16 : decode cX4_findRegion 16 = .ok (.iastore, 1) := dk_79 (dk_at dksX4_findRegion_0 16 rfl rfl)
theorem dX4_findRegion_17 : decode cX4_findRegion 17 = .ok (.iinc 3 1, 3) := dk_132 3 1 (dk_at dksX4_findRegion_0 17 rfl rfl)
theorem dX4_findRegion_20 : decode cX4_findRegion 20 = .ok (.goto (-18), 3) := dk_167 255 238 (dk_at dksX4_findRegion_0 20 rfl rfl)
theorem dX4_findRegion_23 : decode cX4_findRegion 23 = .ok (.aload_n 0, 1) := dk_42 (dk_at dksX4_findRegion_0 23 rfl rfl)
theorem dX4_findRegion_24 : decode cX4_findRegion 24 = .ok (.getfield 35, 3) := dk_180 0 35 (dk_at dksX4_findRegion_1 0 rfl rfl)
theorem dX4_findRegion_27 : decode cX4_findRegion 27 = .ok (.iload_n 1, 1) := dk_27 (dk_at dksX4_findRegion_1 3 rfl rfl)
theorem dX4_findRegion_28 : decode cX4_findRegion 28 = .ok (.iconst 0, 1) := dk_3 (dk_at dksX4_findRegion_1 4 rfl rfl)
theorem dX4_findRegion_29 : decode cX4_findRegion 29 = .ok (.iastore, 1) := dk_79 (dk_at dksX4_findRegion_1 5 rfl rfl)
theorem dX4_findRegion_30 : decode cX4_findRegion 30 = .ok (.aload_n 0, 1) := dk_42 (dk_at dksX4_findRegion_1 6 rfl rfl)
theorem dX4_findRegion_31 : decode cX4_findRegion 31 = .ok (.getfield 32, 3) := dk_180 0 32 (dk_at dksX4_findRegion_1 7 rfl rfl)
theorem dX4_findRegion_34 : decode cX4_findRegion 34 = .ok (.iconst 0, 1) := dk_3 (dk_at dksX4_findRegion_1 10 rfl rfl)
theorem dX4_findRegion_35 : decode cX4_findRegion 35 = .ok (.iload_n 1, 1) := dk_27 (dk_at dksX4_findRegion_1 11 rfl rfl)
theorem dX4_findRegion_36 : decode cX4_findRegion 36 = .ok (.iastore, 1) := dk_79 (dk_at dksX4_findRegion_1 12 rfl rfl)
theorem dX4_findRegion_37 : decode cX4_findRegion 37 = .ok (.aload_n 0, 1) := dk_42 (dk_at dksX4_findRegion_1 13 rfl rfl)
theorem dX4_findRegion_38 : decode cX4_findRegion 38 = .ok (.iconst 1, 1) := dk_4 (dk_at dksX4_findRegion_1 14 rfl rfl)
theorem dX4_findRegion_39 : decode cX4_findRegion 39 = .ok (.putfield 129, 3) := dk_181 0 129 (dk_at dksX4_findRegion_1 15 rfl rfl)
theorem dX4_findRegion_42 : decode cX4_findRegion 42 = .ok (.iconst 0, 1) := dk_3 (dk_at dksX4_findRegion_1 18 rfl rfl)
theorem dX4_findRegion_43 : decode cX4_findRegion 43 = .ok (.istore_n 3, 1) := dk_62 (dk_at dksX4_findRegion_1 19 rfl rfl)
theorem dX4_findRegion_44 : decode cX4_findRegion 44 = .ok (.iload_n 3, 1) := dk_29 (dk_at dksX4_findRegion_1 20 rfl rfl)
theorem dX4_findRegion_45 : decode cX4_findRegion 45 = .ok (.aload_n 0, 1) := dk_42 (dk_at dksX4_findRegion_1 21 rfl rfl)
theorem dX4_findRegion_46 : decode cX4_findRegion 46 = .ok (.getfield 129, 3) := dk_180 0 129 (dk_at dksX4_findRegion_2 0 rfl rfl)
theorem dX4_findRegion_49 : decode cX4_findRegion 49 = .ok (.if_icmp .ge 188, 3) := dk_162 0 188 (dk_at dksX4_findRegion_2 3 rfl rfl)
theorem dX4_findRegion_52 : decode cX4_findRegion 52 = .ok (.aload_n 0, 1) := dk_42 (dk_at dksX4_findRegion_2 6 rfl rfl)
theorem dX4_findRegion_53 : decode cX4_findRegion 53 = .ok (.getfield 32, 3) := dk_180 0 32 (dk_at dksX4_findRegion_2 7 rfl rfl)
theorem dX4_findRegion_56 : decode cX4_findRegion 56 = .ok (.iload_n 3, 1) := dk_29 (dk_at dksX4_findRegion_2 10 rfl rfl)
theorem dX4_findRegion_57 : decode cX4_findRegion 57 = .ok (.iaload, 1) := dk_46 (dk_at dksX4_findRegion_2 11 rfl rfl)
theorem dX4_findRegion_58 : decode cX4_findRegion 58 = .ok (.aload_n 0, 1) := dk_42 (dk_at dksX4_findRegion_2 12 rfl rfl)
theorem dX4_findRegion_59 : decode cX4_findRegion 59 = .ok (.getfield 7, 3) := dk_180 0 7 (dk_at dksX4_findRegion_2 13 rfl rfl)
theorem dX4_findRegion_62 : decode cX4_findRegion 62 = .ok (.iconst 1, 1) := dk_4 (dk_at dksX4_findRegion_2 16 rfl rfl)
theorem dX4_findRegion_63 : decode cX4_findRegion 63 = .ok (.iaload, 1) := dk_46 (dk_at dksX4_findRegion_2 17 rfl rfl)
theorem dX4_findRegion_64 : decode cX4_findRegion 64 = .ok (.idiv, 1) := dk_108 (dk_at dksX4_findRegion_2 18 rfl rfl)
theorem dX4_findRegion_65 : decode cX4_findRegion 65 = .ok (.istore 4, 2) := dk_54 4 (dk_at dksX4_findRegion_2 19 rfl rfl)
theorem dX4_findRegion_67 : decode cX4_findRegion 67 = .ok (.aload_n 0, 1) := dk_42 (dk_at dksX4_findRegion_2 21 rfl rfl)
theorem dX4_findRegion_68 : decode cX4_findRegion 68 = .ok (.getfield 32, 3) := dk_180 0 32 (dk_at dksX4_findRegion_3 0 rfl rfl)
theorem dX4_findRegion_71 : decode cX4_findRegion 71 = .ok (.iload_n 3, 1) := dk_29 (dk_at dksX4_findRegion_3 3 rfl rfl)
theorem dX4_findRegion_72 : decode cX4_findRegion 72 = .ok (.iaload, 1) := dk_46 (dk_at dksX4_findRegion_3 4 rfl rfl)
theorem dX4_findRegion_73 : decode cX4_findRegion 73 = .ok (.aload_n 0, 1) := dk_42 (dk_at dksX4_findRegion_3 5 rfl rfl)
theorem dX4_findRegion_74 : decode cX4_findRegion 74 = .ok (.getfield 7, 3) := dk_180 0 7 (dk_at dksX4_findRegion_3 6 rfl rfl)
theorem dX4_findRegion_77 : decode cX4_findRegion 77 = .ok (.iconst 1, 1) := dk_4 (dk_at dksX4_findRegion_3 9 rfl rfl)
theorem dX4_findRegion_78 : decode cX4_findRegion 78 = .ok (.iaload, 1) := dk_46 (dk_at dksX4_findRegion_3 10 rfl rfl)
theorem dX4_findRegion_79 : decode cX4_findRegion 79 = .ok (.irem, 1) := dk_112 (dk_at dksX4_findRegion_3 11 rfl rfl)
theorem dX4_findRegion_80 : decode cX4_findRegion 80 = .ok (.istore 5, 2) := dk_54 5 (dk_at dksX4_findRegion_3 12 rfl rfl)
theorem dX4_findRegion_82 : decode cX4_findRegion 82 = .ok (.iconst 0, 1) := dk_3 (dk_at dksX4_findRegion_3 14 rfl rfl)
theorem dX4_findRegion_83 : decode cX4_findRegion 83 = .ok (.istore 6, 2) := dk_54 6 (dk_at dksX4_findRegion_3 15 rfl rfl)
theorem dX4_findRegion_85 : decode cX4_findRegion 85 = .ok (.iload 6, 2) := dk_21 6 (dk_at dksX4_findRegion_3 17 rfl rfl)
theorem dX4_findRegion_87 : decode cX4_findRegion 87 = .ok (.bipush 8, 2) := dk_16 8 (dk_at dksX4_findRegion_3 19 rfl rfl)
theorem dX4_findRegion_89 : decode cX4_findRegion 89 = .ok (.if_icmp .ge 142, 3) := dk_162 0 142 (dk_at dksX4_findRegion_3 21 rfl rfl)
theorem dX4_findRegion_92 : decode cX4_findRegion 92 = .ok (.iload 4, 2) := dk_21 4 (dk_at dksX4_findRegion_4 0 rfl rfl)
theorem dX4_findRegion_94 : decode cX4_findRegion 94 = .ok (.iload 6, 2) := dk_21 6 (dk_at dksX4_findRegion_4 2 rfl rfl)
theorem dX4_findRegion_96 : decode cX4_findRegion 96 = .ok (.invokestatic 84, 3) := dk_184 0 84 (dk_at dksX4_findRegion_4 4 rfl rfl)
theorem dX4_findRegion_99 : decode cX4_findRegion 99 = .ok (.iadd, 1) := dk_96 (dk_at dksX4_findRegion_4 7 rfl rfl)
theorem dX4_findRegion_100 : decode cX4_findRegion 100 = .ok (.istore 7, 2) := dk_54 7 (dk_at dksX4_findRegion_4 8 rfl rfl)
theorem dX4_findRegion_102 : decode cX4_findRegion 102 = .ok (.iload 5, 2) := dk_21 5 (dk_at dksX4_findRegion_4 10 rfl rfl)
theorem dX4_findRegion_104 : decode cX4_findRegion 104 = .ok (.iload 6, 2) := dk_21 6 (dk_at dksX4_findRegion_4 12 rfl rfl)
theorem dX4_findRegion_106 : decode cX4_findRegion 106 = .ok (.invokestatic 87, 3) := dk_184 0 87 (dk_at dksX4_findRegion_4 14 rfl rfl)
theorem dX4_findRegion_109 : decode cX4_findRegion 109 = .ok (.iadd, 1) := dk_96 (dk_at dksX4_findRegion_4 17 rfl rfl)
theorem dX4_findRegion_110 : decode cX4_findRegion 110 = .ok (.istore 8, 2) := dk_54 8 (dk_at dksX4_findRegion_4 18 rfl rfl)
theorem dX4_findRegion_112 : decode cX4_findRegion 112 = .ok (.aload_n 0, 1) := dk_42 (dk_at dksX4_findRegion_4 20 rfl rfl)
theorem dX4_findRegion_113 : decode cX4_findRegion 113 = .ok (.iload 7, 2) := dk_21 7 (dk_at dksX4_findRegion_4 21 rfl rfl)
theorem dX4_findRegion_115 : decode cX4_findRegion 115 = .ok (.iload 8, 2) := dk_21 8 (dk_at dksX4_findRegion_5 0 rfl rfl)
theorem dX4_findRegion_117 : decode cX4_findRegion 117 = .ok (.invokevirtual 90, 3) := dk_182 0 90 (dk_at dksX4_findRegion_5 2 rfl rfl)
theorem dX4_findRegion_120 : decode cX4_findRegion 120 = .ok (.ifCond .eq 94, 3) := dk_153 0 94 (dk_at dksX4_findRegion_5 5 rfl rfl)
theorem dX4_findRegion_123 : decode cX4_findRegion 123 = .ok (.aload_n 0, 1) := dk_42 (dk_at dksX4_findRegion_5 8 rfl rfl)
theorem dX4_findRegion_124 : decode cX4_findRegion 124 = .ok (.getfield 35, 3) := dk_180 0 35 (dk_at dksX4_findRegion_5 9 rfl rfl)
theorem dX4_findRegion_127 : decode cX4_findRegion 127 = .ok (.aload_n 0, 1) := dk_42 (dk_at dksX4_findRegion_5 12 rfl rfl)
theorem dX4_findRegion_128 : decode cX4_findRegion 128 = .ok (.iload 7, 2) := dk_21 7 (dk_at dksX4_findRegion_5 13 rfl rfl)
theorem dX4_findRegion_130 : decode cX4_findRegion 130 = .ok (.iload 8, 2) := dk_21 8 (dk_at dksX4_findRegion_5 15 rfl rfl)
theorem dX4_findRegion_132 : decode cX4_findRegion 132 = .ok (.invokevirtual 94, 3) := dk_182 0 94 (dk_at dksX4_findRegion_5 17 rfl rfl)
theorem dX4_findRegion_135 : decode cX4_findRegion 135 = .ok (.iaload, 1) := dk_46 (dk_at dksX4_findRegion_5 20 rfl rfl)
theorem dX4_findRegion_136 : decode cX4_findRegion 136 = .ok (.bipush (-6), 2) := dk_16 250 (dk_at dksX4_findRegion_5 21 rfl rfl)
theorem dX4_findRegion_138 : decode cX4_findRegion 138 = .ok (.if_icmp .ne 76, 3) := dk_160 0 76 (dk_at dksX4_findRegion_6 0 rfl rfl)
theorem dX4_findRegion_141 : decode cX4_findRegion 141 = .ok (.aload_n 0, 1) := dk_42 (dk_at dksX4_findRegion_6 3 rfl rfl)
theorem dX4_findRegion_142 : decode cX4_findRegion 142 = .ok (.aload_n 0, 1) := dk_42 (dk_at dksX4_findRegion_6 4 rfl rfl)
theorem dX4_findRegion_143 : decode cX4_findRegion 143 = .ok (.iload 7, 2) := dk_21 7 (dk_at dksX4_findRegion_6 5 rfl rfl)
theorem dX4_findRegion_145 : decode cX4_findRegion 145 = .ok (.iload 8, 2) := dk_21 8 (dk_at dksX4_findRegion_6 7 rfl rfl)
theorem dX4_findRegion_147 : decode cX4_findRegion 147 = .ok (.invokevirtual 94, 3) := dk_182 0 94 (dk_at dksX4_findRegion_6 9 rfl rfl)
theorem dX4_findRegion_150 : decode cX4_findRegion 150 = .ok (.invokevirtual 97, 3) := dk_182 0 97 (dk_at dksX4_findRegion_6 12 rfl rfl)
theorem dX4_findRegion_153 : decode cX4_findRegion 153 = .ok (.aload_n 0, 1) := dk_42 (dk_at dksX4_findRegion_6 15 rfl rfl)
theorem dX4_findRegion_154 : decode cX4_findRegion 154 = .ok (.iload_n 1, 1) := dk_27 (dk_at dksX4_findRegion_6 16 rfl rfl)
theorem dX4_findRegion_155 : decode cX4_findRegion 155 = .ok (.invokevirtual 97, 3) := dk_182 0 97 (dk_at dksX4_findRegion_6 17 rfl rfl)
theorem dX4_findRegion_158 : decode cX4_findRegion 158 = .ok (.if_icmp .ne 56, 3) := dk_160 0 56 (dk_at dksX4_findRegion_6 20 rfl rfl)
theorem dX4_findRegion_161 : decode cX4_findRegion 161 = .ok (.aload_n 0, 1) := dk_42 (dk_at dksX4_findRegion_6 23 rfl rfl)
theorem dX4_findRegion_162 : decode cX4_findRegion 162 = .ok (.getfield 35, 3) := dk_180 0 35 (dk_at dksX4_findRegion_7 0 rfl rfl)
theorem dX4_findRegion_165 : decode cX4_findRegion 165 = .ok (.aload_n 0, 1) := dk_42 (dk_at dksX4_findRegion_7 3 rfl rfl)
theorem dX4_findRegion_166 : decode cX4_findRegion 166 = .ok (.iload 7, 2) := dk_21 7 (dk_at dksX4_findRegion_7 4 rfl rfl)
theorem dX4_findRegion_168 : decode cX4_findRegion 168 = .ok (.iload 8, 2) := dk_21 8 (dk_at dksX4_findRegion_7 6 rfl rfl)
theorem dX4_findRegion_170 : decode cX4_findRegion 170 = .ok (.invokevirtual 94, 3) := dk_182 0 94 (dk_at dksX4_findRegion_7 8 rfl rfl)
theorem dX4_findRegion_173 : decode cX4_findRegion 173 = .ok (.aload_n 0, 1) := dk_42 (dk_at dksX4_findRegion_7 11 rfl rfl)
theorem dX4_findRegion_174 : decode cX4_findRegion 174 = .ok (.getfield 35, 3) := dk_180 0 35 (dk_at dksX4_findRegion_7 12 rfl rfl)
theorem dX4_findRegion_177 : decode cX4_findRegion 177 = .ok (.aload_n 0, 1) := dk_42 (dk_at dksX4_findRegion_7 15 rfl rfl)
theorem dX4_findRegion_178 : decode cX4_findRegion 178 = .ok (.getfield 32, 3) := dk_180 0 32 (dk_at dksX4_findRegion_7 16 rfl rfl)
theorem dX4_findRegion_181 : decode cX4_findRegion 181 = .ok (.iload_n 3, 1) := dk_29 (dk_at dksX4_findRegion_7 19 rfl rfl)
theorem dX4_findRegion_182 : decode cX4_findRegion 182 = .ok (.iaload, 1) := dk_46 (dk_at dksX4_findRegion_7 20 rfl rfl)
theorem dX4_findRegion_183 : decode cX4_findRegion 183 = .ok (.iaload, 1) := dk_46 (dk_at dksX4_findRegion_7 21 rfl rfl)
theorem dX4_findRegion_184 : decode cX4_findRegion 184 = .ok (.iconst 1, 1) := dk_4 (dk_at dksX4_findRegion_7 22 rfl rfl)
theorem dX4_findRegion_185 : decode cX4_findRegion 185 = .ok (.iadd, 1) := dk_96 (dk_at dksX4_findRegion_7 23 rfl rfl)
theorem dX4_findRegion_186 : decode cX4_findRegion 186 = .ok (.iastore, 1) := dk_79 (dk_at dksX4_findRegion_8 0 rfl rfl)
theorem dX4_findRegion_187 : decode cX4_findRegion 187 = .ok (.aload_n 0, 1) := dk_42 (dk_at dksX4_findRegion_8 1 rfl rfl)
theorem dX4_findRegion_188 : decode cX4_findRegion 188 = .ok (.getfield 32, 3) := dk_180 0 32 (dk_at dksX4_findRegion_8 2 rfl rfl)
theorem dX4_findRegion_191 : decode cX4_findRegion 191 = .ok (.aload_n 0, 1) := dk_42 (dk_at dksX4_findRegion_8 5 rfl rfl)
theorem dX4_findRegion_192 : decode cX4_findRegion 192 = .ok (.getfield 129, 3) := dk_180 0 129 (dk_at dksX4_findRegion_8 6 rfl rfl)
theorem dX4_findRegion_195 : decode cX4_findRegion 195 = .ok (.aload_n 0, 1) := dk_42 (dk_at dksX4_findRegion_8 9 rfl rfl)
theorem dX4_findRegion_196 : decode cX4_findRegion 196 = .ok (.iload 7, 2) := dk_21 7 (dk_at dksX4_findRegion_8 10 rfl rfl)
theorem dX4_findRegion_198 : decode cX4_findRegion 198 = .ok (.iload 8, 2) := dk_21 8 (dk_at dksX4_findRegion_8 12 rfl rfl)
theorem dX4_findRegion_200 : decode cX4_findRegion 200 = .ok (.invokevirtual 94, 3) := dk_182 0 94 (dk_at dksX4_findRegion_8 14 rfl rfl)
theorem dX4_findRegion_203 : decode cX4_findRegion 203 = .ok (.iastore, 1) := dk_79 (dk_at dksX4_findRegion_8 17 rfl rfl)
theorem dX4_findRegion_204 : decode cX4_findRegion 204 = .ok (.aload_n 0, 1) := dk_42 (dk_at dksX4_findRegion_8 18 rfl rfl)
theorem dX4_findRegion_205 : decode cX4_findRegion 205 = .ok (.dup, 1) := dk_89 (dk_at dksX4_findRegion_8 19 rfl rfl)
theorem dX4_findRegion_206 : decode cX4_findRegion 206 = .ok (.getfield 129, 3) := dk_180 0 129 (dk_at dksX4_findRegion_8 20 rfl rfl)
theorem dX4_findRegion_209 : decode cX4_findRegion 209 = .ok (.iconst 1, 1) := dk_4 (dk_at dksX4_findRegion_8 23 rfl rfl)
theorem dX4_findRegion_210 : decode cX4_findRegion 210 = .ok (.iadd, 1) := dk_96 (dk_at dksX4_findRegion_9 0 rfl rfl)
theorem dX4_findRegion_211 : decode cX4_findRegion 211 = .ok (.putfield 129, 3) := dk_181 0 129 (dk_at dksX4_findRegion_9 1 rfl rfl)
theorem dX4_findRegion_214 : decode cX4_findRegion 214 = .ok (.iload 6, 2) := dk_21 6 (dk_at dksX4_findRegion_9 4 rfl rfl)
theorem dX4_findRegion_216 : decode cX4_findRegion 216 = .ok (.iload_n 2, 1) := dk_28 (dk_at dksX4_findRegion_9 6 rfl rfl)
theorem dX4_findRegion_217 : decode cX4_findRegion 217 = .ok (.ifCond .eq 7, 3) := dk_153 0 7 (dk_at dksX4_findRegion_9 7 rfl rfl)
theorem dX4_findRegion_220 : decode cX4_findRegion 220 = .ok (.iconst 1, 1) := dk_4 (dk_at dksX4_findRegion_9 10 rfl rfl)
theorem dX4_findRegion_221 : decode cX4_findRegion 221 = .ok (.goto 4, 3) := dk_167 0 4 (dk_at dksX4_findRegion_9 11 rfl rfl)
theorem dX4_findRegion_224 : decode cX4_findRegion 224 = .ok (.iconst 2, 1) := dk_5 (dk_at dksX4_findRegion_9 14 rfl rfl)
theorem dX4_findRegion_225 : decode cX4_findRegion 225 = .ok (.iadd, 1) := dk_96 (dk_at dksX4_findRegion_9 15 rfl rfl)
theorem dX4_findRegion_226 : decode cX4_findRegion 226 = .ok (.istore 6, 2) := dk_54 6 (dk_at dksX4_findRegion_9 16 rfl rfl)
theorem dX4_findRegion_228 : decode cX4_findRegion 228 = .ok (.goto (-143), 3) := dk_167 255 113 (dk_at dksX4_findRegion_9 18 rfl rfl)
theorem dX4_findRegion_231 : decode cX4_findRegion 231 = .ok (.iinc 3 1, 3) := dk_132 3 1 (dk_at dksX4_findRegion_9 21 rfl rfl)
theorem dX4_findRegion_234 : decode cX4_findRegion 234 = .ok (.goto (-190), 3) := dk_167 255 66 (dk_at dksX4_findRegion_10 0 rfl rfl)
theorem dX4_findRegion_237 : decode cX4_findRegion 237 = .ok (.return_, 1) := dk_177 (dk_at dksX4_findRegion_10 3 rfl rfl)
abbrev cX4_brush : ByteArray := prog_12_method_30_code
def yX4_brush : MethodName := ⟨RX4, "brush", "(IIIZ)I"⟩
def dkwX4_brush_4 : List UInt8 := [153, 0, 7, 4, 167, 0, 4, 3, 96, 54, 5, 132, 6, 1, 167, 255, 180, 21, 5, 172]
abbrev dktX4_brush_4 : List UInt8 := dkwX4_brush_4 ++ []
def dkwX4_brush_3 : List UInt8 := [21, 7, 104, 21, 8, 21, 8, 104, 96, 29, 29, 104, 163, 0, 18, 42, 21, 6, 21, 4, 182, 0, 125]
abbrev dktX4_brush_3 : List UInt8 := dkwX4_brush_3 ++ dktX4_brush_4
def dkwX4_brush_2 : List UInt8 := [4, 46, 108, 27, 100, 54, 7, 21, 6, 42, 180, 0, 7, 4, 46, 112, 28, 100, 54, 8, 21, 5, 21, 7]
abbrev dktX4_brush_2 : List UInt8 := dkwX4_brush_2 ++ dktX4_brush_3
def dkwX4_brush_1 : List UInt8 := [182, 0, 77, 3, 54, 5, 3, 54, 6, 21, 6, 42, 182, 0, 116, 162, 0, 73, 21, 6, 42, 180, 0, 7]
abbrev dktX4_brush_1 : List UInt8 := dkwX4_brush_1 ++ dktX4_brush_2
def dkwX4_brush_0 : List UInt8 := [42, 27, 28, 182, 0, 90, 154, 0, 5, 2, 172, 29, 3, 8, 184, 0, 61, 154, 0, 6, 16, 254, 172, 42]
abbrev dktX4_brush_0 : List UInt8 := dkwX4_brush_0 ++ dktX4_brush_1
theorem dksX4_brush_0 : cX4_brush.data.toList.drop 0 = dktX4_brush_0 := by decide +kernel
theorem dksX4_brush_1 : cX4_brush.data.toList.drop 24 = dktX4_brush_1 := dk_seg dksX4_brush_0 24 rfl rfl
theorem dksX4_brush_2 : cX4_brush.data.toList.drop 48 = dktX4_brush_2 := dk_seg dksX4_brush_1 24 rfl rfl
theorem dksX4_brush_3 : cX4_brush.data.toList.drop 72 = dktX4_brush_3 := dk_seg dksX4_brush_2 24 rfl rfl
theorem dksX4_brush_4 : cX4_brush.data.toList.drop 95 = dktX4_brush_4 := dk_seg dksX4_brush_3 23 rfl rfl
theorem dX4_brush_0 : decode cX4_brush 0 = .ok (.aload_n 0, 1) := dk_42 (dk_at dksX4_brush_0 0 rfl rfl)
theorem dX4_brush_1 : decode cX4_brush 1 = .ok (.iload_n 1, 1) := dk_27 (dk_at dksX4_brush_0 1 rfl rfl)
theorem dX4_brush_2 : decode cX4_brush 2 = .ok (.iload_n 2, 1) := dk_28 (dk_at dksX4_brush_0 2 rfl rfl)
theorem dX4_brush_3 : decode cX4_brush 3 = .ok (.invokevirtual 90, 3) := dk_182 0 90 (dk_at dksX4_brush_0 3 rfl rfl)
theorem dX4_brush_6 : decode cX4_brush 6 = .ok (.ifCond .ne 5, 3) := dk_154 0 5 (dk_at dksX4_brush_0 6 rfl rfl)
theorem dX4_brush_9 : decode cX4_brush 9 = .ok (.iconst (-1), 1) := dk_2 (dk_at dksX4_brush_0 9 rfl rfl)
theorem dX4_brush_10 : decode cX4_brush 10 = .ok (.ireturn, 1) := dk_172 (dk_at dksX4_brush_0 10 rfl rfl)
theorem dX4_brush_11 : decode cX4_brush 11 = .ok (.iload_n 3, 1) := dk_29 (dk_at dksX4_brush_0 11 rfl rfl)
theorem dX4_brush_12 : decode cX4_brush 12 = .ok (.iconst 0, 1) := dk_3 (dk_at dksX4_brush_0 12 rfl rfl)
theorem dX4_brush_13 : decode cX4_brush 13 = .ok (.iconst 5, 1) := dk_8 (dk_at dksX4_brush_0 13 rfl rfl)
theorem dX4_brush_14 : decode cX4_brush 14 = .ok (.invokestatic 61, 3) := dk_184 0 61 (dk_at dksX4_brush_0 14 rfl rfl)
theorem dX4_brush_17 : decode cX4_brush 17 = .ok (.ifCond .ne 6, 3) := dk_154 0 6 (dk_at dksX4_brush_0 17 rfl rfl)
theorem dX4_brush_20 : decode cX4_brush 20 = .ok (.bipush (-2), 2) := dk_16 254 (dk_at dksX4_brush_0 20 rfl rfl)
theorem dX4_brush_22 : decode cX4_brush 22 = .ok (.ireturn, 1) := dk_172 (dk_at dksX4_brush_0 22 rfl rfl)
theorem dX4_brush_23 : decode cX4_brush 23 = .ok (.aload_n 0, 1) := dk_42 (dk_at dksX4_brush_0 23 rfl rfl)
theorem dX4_brush_24 : decode cX4_brush 24 = .ok (.invokevirtual 77, 3) := dk_182 0 77 (dk_at dksX4_brush_1 0 rfl rfl)
theorem dX4_brush_27 : decode cX4_brush 27 = .ok (.iconst 0, 1) := dk_3 (dk_at dksX4_brush_1 3 rfl rfl)
theorem dX4_brush_28 : decode cX4_brush 28 = .ok (.istore 5, 2) := dk_54 5 (dk_at dksX4_brush_1 4 rfl rfl)
theorem dX4_brush_30 : decode cX4_brush 30 = .ok (.iconst 0, 1) := dk_3 (dk_at dksX4_brush_1 6 rfl rfl)
theorem dX4_brush_31 : decode cX4_brush 31 = .ok (.istore 6, 2) := dk_54 6 (dk_at dksX4_brush_1 7 rfl rfl)
theorem dX4_brush_33 : decode cX4_brush 33 = .ok (.iload 6, 2) := dk_21 6 (dk_at dksX4_brush_1 9 rfl rfl)
theorem dX4_brush_35 : decode cX4_brush 35 = .ok (.aload_n 0, 1) := dk_42 (dk_at dksX4_brush_1 11 rfl rfl)
theorem dX4_brush_36 : decode cX4_brush 36 = .ok (.invokevirtual 116, 3) := dk_182 0 116 (dk_at dksX4_brush_1 12 rfl rfl)
theorem dX4_brush_39 : decode cX4_brush 39 = .ok (.if_icmp .ge 73, 3) := dk_162 0 73 (dk_at dksX4_brush_1 15 rfl rfl)
theorem dX4_brush_42 : decode cX4_brush 42 = .ok (.iload 6, 2) := dk_21 6 (dk_at dksX4_brush_1 18 rfl rfl)
theorem dX4_brush_44 : decode cX4_brush 44 = .ok (.aload_n 0, 1) := dk_42 (dk_at dksX4_brush_1 20 rfl rfl)
theorem dX4_brush_45 : decode cX4_brush 45 = .ok (.getfield 7, 3) := dk_180 0 7 (dk_at dksX4_brush_1 21 rfl rfl)
theorem dX4_brush_48 : decode cX4_brush 48 = .ok (.iconst 1, 1) := dk_4 (dk_at dksX4_brush_2 0 rfl rfl)
theorem dX4_brush_49 : decode cX4_brush 49 = .ok (.iaload, 1) := dk_46 (dk_at dksX4_brush_2 1 rfl rfl)
theorem dX4_brush_50 : decode cX4_brush 50 = .ok (.idiv, 1) := dk_108 (dk_at dksX4_brush_2 2 rfl rfl)
theorem dX4_brush_51 : decode cX4_brush 51 = .ok (.iload_n 1, 1) := dk_27 (dk_at dksX4_brush_2 3 rfl rfl)
theorem dX4_brush_52 : decode cX4_brush 52 = .ok (.isub, 1) := dk_100 (dk_at dksX4_brush_2 4 rfl rfl)
theorem dX4_brush_53 : decode cX4_brush 53 = .ok (.istore 7, 2) := dk_54 7 (dk_at dksX4_brush_2 5 rfl rfl)
theorem dX4_brush_55 : decode cX4_brush 55 = .ok (.iload 6, 2) := dk_21 6 (dk_at dksX4_brush_2 7 rfl rfl)
theorem dX4_brush_57 : decode cX4_brush 57 = .ok (.aload_n 0, 1) := dk_42 (dk_at dksX4_brush_2 9 rfl rfl)
theorem dX4_brush_58 : decode cX4_brush 58 = .ok (.getfield 7, 3) := dk_180 0 7 (dk_at dksX4_brush_2 10 rfl rfl)
theorem dX4_brush_61 : decode cX4_brush 61 = .ok (.iconst 1, 1) := dk_4 (dk_at dksX4_brush_2 13 rfl rfl)
theorem dX4_brush_62 : decode cX4_brush 62 = .ok (.iaload, 1) := dk_46 (dk_at dksX4_brush_2 14 rfl rfl)
theorem dX4_brush_63 : decode cX4_brush 63 = .ok (.irem, 1) := dk_112 (dk_at dksX4_brush_2 15 rfl rfl)
theorem dX4_brush_64 : decode cX4_brush 64 = .ok (.iload_n 2, 1) := dk_28 (dk_at dksX4_brush_2 16 rfl rfl)
theorem dX4_brush_65 : decode cX4_brush 65 = .ok (.isub, 1) := dk_100 (dk_at dksX4_brush_2 17 rfl rfl)
theorem dX4_brush_66 : decode cX4_brush 66 = .ok (.istore 8, 2) := dk_54 8 (dk_at dksX4_brush_2 18 rfl rfl)
theorem dX4_brush_68 : decode cX4_brush 68 = .ok (.iload 5, 2) := dk_21 5 (dk_at dksX4_brush_2 20 rfl rfl)
theorem dX4_brush_70 : decode cX4_brush 70 = .ok (.iload 7, 2) := dk_21 7 (dk_at dksX4_brush_2 22 rfl rfl)
theorem dX4_brush_72 : decode cX4_brush 72 = .ok (.iload 7, 2) := dk_21 7 (dk_at dksX4_brush_3 0 rfl rfl)
theorem dX4_brush_74 : decode cX4_brush 74 = .ok (.imul, 1) := dk_104 (dk_at dksX4_brush_3 2 rfl rfl)
theorem dX4_brush_75 : decode cX4_brush 75 = .ok (.iload 8, 2) := dk_21 8 (dk_at dksX4_brush_3 3 rfl rfl)
theorem dX4_brush_77 : decode cX4_brush 77 = .ok (.iload 8, 2) := dk_21 8 (dk_at dksX4_brush_3 5 rfl rfl)
theorem dX4_brush_79 : decode cX4_brush 79 = .ok (.imul, 1) := dk_104 (dk_at dksX4_brush_3 7 rfl rfl)
theorem dX4_brush_80 : decode cX4_brush 80 = .ok (.iadd, 1) := dk_96 (dk_at dksX4_brush_3 8 rfl rfl)
theorem dX4_brush_81 : decode cX4_brush 81 = .ok (.iload_n 3, 1) := dk_29 (dk_at dksX4_brush_3 9 rfl rfl)
theorem dX4_brush_82 : decode cX4_brush 82 = .ok (.iload_n 3, 1) := dk_29 (dk_at dksX4_brush_3 10 rfl rfl)
theorem dX4_brush_83 : decode cX4_brush 83 = .ok (.imul, 1) := dk_104 (dk_at dksX4_brush_3 11 rfl rfl)
theorem dX4_brush_84 : decode cX4_brush 84 = .ok (.if_icmp .gt 18, 3) := dk_163 0 18 (dk_at dksX4_brush_3 12 rfl rfl)
theorem dX4_brush_87 : decode cX4_brush 87 = .ok (.aload_n 0, 1) := dk_42 (dk_at dksX4_brush_3 15 rfl rfl)
theorem dX4_brush_88 : decode cX4_brush 88 = .ok (.iload 6, 2) := dk_21 6 (dk_at dksX4_brush_3 16 rfl rfl)
theorem dX4_brush_90 : decode cX4_brush 90 = .ok (.iload 4, 2) := dk_21 4 (dk_at dksX4_brush_3 18 rfl rfl)
theorem dX4_brush_92 : decode cX4_brush 92 = .ok (.invokevirtual 125, 3) := dk_182 0 125 (dk_at dksX4_brush_3 20 rfl rfl)
theorem dX4_brush_95 : decode cX4_brush 95 = .ok (.ifCond .eq 7, 3) := dk_153 0 7 (dk_at dksX4_brush_4 0 rfl rfl)
theorem dX4_brush_98 : decode cX4_brush 98 = .ok (.iconst 1, 1) := dk_4 (dk_at dksX4_brush_4 3 rfl rfl)
theorem dX4_brush_99 : decode cX4_brush 99 = .ok (.goto 4, 3) := dk_167 0 4 (dk_at dksX4_brush_4 4 rfl rfl)
theorem dX4_brush_102 : decode cX4_brush 102 = .ok (.iconst 0, 1) := dk_3 (dk_at dksX4_brush_4 7 rfl rfl)
theorem dX4_brush_103 : decode cX4_brush 103 = .ok (.iadd, 1) := dk_96 (dk_at dksX4_brush_4 8 rfl rfl)
theorem dX4_brush_104 : decode cX4_brush 104 = .ok (.istore 5, 2) := dk_54 5 (dk_at dksX4_brush_4 9 rfl rfl)
theorem dX4_brush_106 : decode cX4_brush 106 = .ok (.iinc 6 1, 3) := dk_132 6 1 (dk_at dksX4_brush_4 11 rfl rfl)
theorem dX4_brush_109 : decode cX4_brush 109 = .ok (.goto (-76), 3) := dk_167 255 180 (dk_at dksX4_brush_4 14 rfl rfl)
theorem dX4_brush_112 : decode cX4_brush 112 = .ok (.iload 5, 2) := dk_21 5 (dk_at dksX4_brush_4 17 rfl rfl)
theorem dX4_brush_114 : decode cX4_brush 114 = .ok (.ireturn, 1) := dk_172 (dk_at dksX4_brush_4 19 rfl rfl)
abbrev cX4_smooth : ByteArray := prog_12_method_31_code
def yX4_smooth : MethodName := ⟨RX4, "smooth", "(I)I"⟩
def dkwX4_smooth_5 : List UInt8 := [28, 172]
abbrev dktX4_smooth_5 : List UInt8 := dkwX4_smooth_5 ++ []
def dkwX4_smooth_4 : List UInt8 := [4, 167, 0, 4, 3, 182, 0, 125, 153, 0, 7, 4, 167, 0, 4, 3, 96, 61, 132, 3, 1, 167, 255, 214]
abbrev dktX4_smooth_4 : List UInt8 := dkwX4_smooth_4 ++ dktX4_smooth_5
def dkwX4_smooth_3 : List UInt8 := [61, 3, 62, 29, 42, 182, 0, 116, 162, 0, 40, 28, 42, 29, 42, 180, 0, 38, 29, 46, 27, 161, 0, 7]
abbrev dktX4_smooth_3 : List UInt8 := dkwX4_smooth_3 ++ dktX4_smooth_4
def dkwX4_smooth_2 : List UInt8 := [112, 182, 0, 104, 184, 0, 113, 42, 180, 0, 7, 6, 28, 96, 46, 96, 79, 132, 2, 1, 167, 255, 207, 3]
abbrev dktX4_smooth_2 : List UInt8 := dkwX4_smooth_2 ++ dktX4_smooth_3
def dkwX4_smooth_1 : List UInt8 := [162, 0, 47, 42, 180, 0, 38, 28, 42, 28, 42, 180, 0, 7, 4, 46, 108, 28, 42, 180, 0, 7, 4, 46]
abbrev dktX4_smooth_1 : List UInt8 := dkwX4_smooth_1 ++ dktX4_smooth_2
def dkwX4_smooth_0 : List UInt8 := [27, 4, 16, 9, 184, 0, 61, 154, 0, 6, 16, 254, 172, 42, 182, 0, 77, 3, 61, 28, 42, 182, 0, 116]
abbrev dktX4_smooth_0 : List UInt8 := dkwX4_smooth_0 ++ dktX4_smooth_1
theorem dksX4_smooth_0 : cX4_smooth.data.toList.drop 0 = dktX4_smooth_0 := by decide +kernel
theorem dksX4_smooth_1 : cX4_smooth.data.toList.drop 24 = dktX4_smooth_1 := dk_seg dksX4_smooth_0 24 rfl rfl
theorem dksX4_smooth_2 : cX4_smooth.data.toList.drop 48 = dktX4_smooth_2 := dk_seg dksX4_smooth_1 24 rfl rfl
theorem dksX4_smooth_3 : cX4_smooth.data.toList.drop 72 = dktX4_smooth_3 := dk_seg dksX4_smooth_2 24 rfl rfl
theorem dksX4_smooth_4 : cX4_smooth.data.toList.drop 96 = dktX4_smooth_4 := dk_seg dksX4_smooth_3 24 rfl rfl
theorem dksX4_smooth_5 : cX4_smooth.data.toList.drop 120 = dktX4_smooth_5 := dk_seg dksX4_smooth_4 24 rfl rfl
theorem dX4_smooth_0 : decode cX4_smooth 0 = .ok (.iload_n 1, 1) := dk_27 (dk_at dksX4_smooth_0 0 rfl rfl)
theorem dX4_smooth_1 : decode cX4_smooth 1 = .ok (.iconst 1, 1) := dk_4 (dk_at dksX4_smooth_0 1 rfl rfl)
theorem dX4_smooth_2 : decode cX4_smooth 2 = .ok (.bipush 9, 2) := dk_16 9 (dk_at dksX4_smooth_0 2 rfl rfl)
theorem dX4_smooth_4 : decode cX4_smooth 4 = .ok (.invokestatic 61, 3) := dk_184 0 61 (dk_at dksX4_smooth_0 4 rfl rfl)
theorem dX4_smooth_7 : decode cX4_smooth 7 = .ok (.ifCond .ne 6, 3) := dk_154 0 6 (dk_at dksX4_smooth_0 7 rfl rfl)
theorem dX4_smooth_10 : decode cX4_smooth 10 = .ok (.bipush (-2), 2) := dk_16 254 (dk_at dksX4_smooth_0 10 rfl rfl)
theorem dX4_smooth_12 : decode cX4_smooth 12 = .ok (.ireturn, 1) := dk_172 (dk_at dksX4_smooth_0 12 rfl rfl)
theorem dX4_smooth_13 : decode cX4_smooth 13 = .ok (.aload_n 0, 1) := dk_42 (dk_at dksX4_smooth_0 13 rfl rfl)
theorem dX4_smooth_14 : decode cX4_smooth 14 = .ok (.invokevirtual 77, 3) := dk_182 0 77 (dk_at dksX4_smooth_0 14 rfl rfl)
theorem dX4_smooth_17 : decode cX4_smooth 17 = .ok (.iconst 0, 1) := dk_3 (dk_at dksX4_smooth_0 17 rfl rfl)
theorem dX4_smooth_18 : decode cX4_smooth 18 = .ok (.istore_n 2, 1) := dk_61 (dk_at dksX4_smooth_0 18 rfl rfl)
theorem dX4_smooth_19 : decode cX4_smooth 19 = .ok (.iload_n 2, 1) := dk_28 (dk_at dksX4_smooth_0 19 rfl rfl)
theorem dX4_smooth_20 : decode cX4_smooth 20 = .ok (.aload_n 0, 1) := dk_42 (dk_at dksX4_smooth_0 20 rfl rfl)
theorem dX4_smooth_21 : decode cX4_smooth 21 = .ok (.invokevirtual 116, 3) := dk_182 0 116 (dk_at dksX4_smooth_0 21 rfl rfl)
theorem dX4_smooth_24 : decode cX4_smooth 24 = .ok (.if_icmp .ge 47, 3) := dk_162 0 47 (dk_at dksX4_smooth_1 0 rfl rfl)
theorem dX4_smooth_27 : decode cX4_smooth 27 = .ok (.aload_n 0, 1) := dk_42 (dk_at dksX4_smooth_1 3 rfl rfl)
theorem dX4_smooth_28 : decode cX4_smooth 28 = .ok (.getfield 38, 3) := dk_180 0 38 (dk_at dksX4_smooth_1 4 rfl rfl)
theorem dX4_smooth_31 : decode cX4_smooth 31 = .ok (.iload_n 2, 1) := dk_28 (dk_at dksX4_smooth_1 7 rfl rfl)
theorem dX4_smooth_32 : decode cX4_smooth 32 = .ok (.aload_n 0, 1) := dk_42 (dk_at dksX4_smooth_1 8 rfl rfl)
theorem dX4_smooth_33 : decode cX4_smooth 33 = .ok (.iload_n 2, 1) := dk_28 (dk_at dksX4_smooth_1 9 rfl rfl)
theorem dX4_smooth_34 : decode cX4_smooth 34 = .ok (.aload_n 0, 1) := dk_42 (dk_at dksX4_smooth_1 10 rfl rfl)
theorem dX4_smooth_35 : decode cX4_smooth 35 = .ok (.getfield 7, 3) := dk_180 0 7 (dk_at dksX4_smooth_1 11 rfl rfl)
theorem dX4_smooth_38 : decode cX4_smooth 38 = .ok (.iconst 1, 1) := dk_4 (dk_at dksX4_smooth_1 14 rfl rfl)
theorem dX4_smooth_39 : decode cX4_smooth 39 = .ok (.iaload, 1) := dk_46 (dk_at dksX4_smooth_1 15 rfl rfl)
theorem dX4_smooth_40 : decode cX4_smooth 40 = .ok (.idiv, 1) := dk_108 (dk_at dksX4_smooth_1 16 rfl rfl)
theorem dX4_smooth_41 : decode cX4_smooth 41 = .ok (.iload_n 2, 1) := dk_28 (dk_at dksX4_smooth_1 17 rfl rfl)
theorem dX4_smooth_42 : decode cX4_smooth 42 = .ok (.aload_n 0, 1) := dk_42 (dk_at dksX4_smooth_1 18 rfl rfl)
theorem dX4_smooth_43 : decode cX4_smooth 43 = .ok (.getfield 7, 3) := dk_180 0 7 (dk_at dksX4_smooth_1 19 rfl rfl)
theorem dX4_smooth_46 : decode cX4_smooth 46 = .ok (.iconst 1, 1) := dk_4 (dk_at dksX4_smooth_1 22 rfl rfl)
theorem dX4_smooth_47 : decode cX4_smooth 47 = .ok (.iaload, 1) := dk_46 (dk_at dksX4_smooth_1 23 rfl rfl)
theorem dX4_smooth_48 : decode cX4_smooth 48 = .ok (.irem, 1) := dk_112 (dk_at dksX4_smooth_2 0 rfl rfl)
theorem dX4_smooth_49 : decode cX4_smooth 49 = .ok (.invokevirtual 104, 3) := dk_182 0 104 (dk_at dksX4_smooth_2 1 rfl rfl)
theorem dX4_smooth_52 : decode cX4_smooth 52 = .ok (.invokestatic 113, 3) := dk_184 0 113 (dk_at dksX4_smooth_2 4 rfl rfl)
theorem dX4_smooth_55 : decode cX4_smooth 55 = .ok (.aload_n 0, 1) := dk_42 (dk_at dksX4_smooth_2 7 rfl rfl)
theorem dX4_smooth_56 : decode cX4_smooth 56 = .ok (.getfield 7, 3) := dk_180 0 7 (dk_at dksX4_smooth_2 8 rfl rfl)
theorem dX4_smooth_59 : decode cX4_smooth 59 = .ok (.iconst 3, 1) := dk_6 (dk_at dksX4_smooth_2 11 rfl rfl)
theorem dX4_smooth_60 : decode cX4_smooth 60 = .ok (.iload_n 2, 1) := dk_28 (dk_at dksX4_smooth_2 12 rfl rfl)
theorem dX4_smooth_61 : decode cX4_smooth 61 = .ok (.iadd, 1) := dk_96 (dk_at dksX4_smooth_2 13 rfl rfl)
theorem dX4_smooth_62 : decode cX4_smooth 62 = .ok (.iaload, 1) := dk_46 (dk_at dksX4_smooth_2 14 rfl rfl)
theorem dX4_smooth_63 : decode cX4_smooth 63 = .ok (.iadd, 1) := dk_96 (dk_at dksX4_smooth_2 15 rfl rfl)
theorem dX4_smooth_64 : decode cX4_smooth 64 = .ok (.iastore, 1) := dk_79 (dk_at dksX4_smooth_2 16 rfl rfl)
theorem dX4_smooth_65 : decode cX4_smooth 65 = .ok (.iinc 2 1, 3) := dk_132 2 1 (dk_at dksX4_smooth_2 17 rfl rfl)
theorem dX4_smooth_68 : decode cX4_smooth 68 = .ok (.goto (-49), 3) := dk_167 255 207 (dk_at dksX4_smooth_2 20 rfl rfl)
theorem dX4_smooth_71 : decode cX4_smooth 71 = .ok (.iconst 0, 1) := dk_3 (dk_at dksX4_smooth_2 23 rfl rfl)
theorem dX4_smooth_72 : decode cX4_smooth 72 = .ok (.istore_n 2, 1) := dk_61 (dk_at dksX4_smooth_3 0 rfl rfl)
theorem dX4_smooth_73 : decode cX4_smooth 73 = .ok (.iconst 0, 1) := dk_3 (dk_at dksX4_smooth_3 1 rfl rfl)
theorem dX4_smooth_74 : decode cX4_smooth 74 = .ok (.istore_n 3, 1) := dk_62 (dk_at dksX4_smooth_3 2 rfl rfl)
theorem dX4_smooth_75 : decode cX4_smooth 75 = .ok (.iload_n 3, 1) := dk_29 (dk_at dksX4_smooth_3 3 rfl rfl)
theorem dX4_smooth_76 : decode cX4_smooth 76 = .ok (.aload_n 0, 1) := dk_42 (dk_at dksX4_smooth_3 4 rfl rfl)
theorem dX4_smooth_77 : decode cX4_smooth 77 = .ok (.invokevirtual 116, 3) := dk_182 0 116 (dk_at dksX4_smooth_3 5 rfl rfl)
theorem dX4_smooth_80 : decode cX4_smooth 80 = .ok (.if_icmp .ge 40, 3) := dk_162 0 40 (dk_at dksX4_smooth_3 8 rfl rfl)
theorem dX4_smooth_83 : decode cX4_smooth 83 = .ok (.iload_n 2, 1) := dk_28 (dk_at dksX4_smooth_3 11 rfl rfl)
theorem dX4_smooth_84 : decode cX4_smooth 84 = .ok (.aload_n 0, 1) := dk_42 (dk_at dksX4_smooth_3 12 rfl rfl)
theorem dX4_smooth_85 : decode cX4_smooth 85 = .ok (.iload_n 3, 1) := dk_29 (dk_at dksX4_smooth_3 13 rfl rfl)
theorem dX4_smooth_86 : decode cX4_smooth 86 = .ok (.aload_n 0, 1) := dk_42 (dk_at dksX4_smooth_3 14 rfl rfl)
theorem dX4_smooth_87 : decode cX4_smooth 87 = .ok (.getfield 38, 3) := dk_180 0 38 (dk_at dksX4_smooth_3 15 rfl rfl)
theorem dX4_smooth_90 : decode cX4_smooth 90 = .ok (.iload_n 3, 1) := dk_29 (dk_at dksX4_smooth_3 18 rfl rfl)
theorem dX4_smooth_91 : decode cX4_smooth 91 = .ok (.iaload, 1) := dk_46 (dk_at dksX4_smooth_3 19 rfl rfl)
theorem dX4_smooth_92 : decode cX4_smooth 92 = .ok (.iload_n 1, 1) := dk_27 (dk_at dksX4_smooth_3 20 rfl rfl)
theorem dX4_smooth_93 : decode cX4_smooth 93 = .ok (.if_icmp .lt 7, 3) := dk_161 0 7 (dk_at dksX4_smooth_3 21 rfl rfl)
theorem dX4_smooth_96 : decode cX4_smooth 96 = .ok (.iconst 1, 1) := dk_4 (dk_at dksX4_smooth_4 0 rfl rfl)
theorem dX4_smooth_97 : decode cX4_smooth 97 = .ok (.goto 4, 3) := dk_167 0 4 (dk_at dksX4_smooth_4 1 rfl rfl)
theorem dX4_smooth_100 : decode cX4_smooth 100 = .ok (.iconst 0, 1) := dk_3 (dk_at dksX4_smooth_4 4 rfl rfl)
theorem dX4_smooth_101 : decode cX4_smooth 101 = .ok (.invokevirtual 125, 3) := dk_182 0 125 (dk_at dksX4_smooth_4 5 rfl rfl)
theorem dX4_smooth_104 : decode cX4_smooth 104 = .ok (.ifCond .eq 7, 3) := dk_153 0 7 (dk_at dksX4_smooth_4 8 rfl rfl)
theorem dX4_smooth_107 : decode cX4_smooth 107 = .ok (.iconst 1, 1) := dk_4 (dk_at dksX4_smooth_4 11 rfl rfl)
theorem dX4_smooth_108 : decode cX4_smooth 108 = .ok (.goto 4, 3) := dk_167 0 4 (dk_at dksX4_smooth_4 12 rfl rfl)
theorem dX4_smooth_111 : decode cX4_smooth 111 = .ok (.iconst 0, 1) := dk_3 (dk_at dksX4_smooth_4 15 rfl rfl)
theorem dX4_smooth_112 : decode cX4_smooth 112 = .ok (.iadd, 1) := dk_96 (dk_at dksX4_smooth_4 16 rfl rfl)
theorem dX4_smooth_113 : decode cX4_smooth 113 = .ok (.istore_n 2, 1) := dk_61 (dk_at dksX4_smooth_4 17 rfl rfl)
theorem dX4_smooth_114 : decode cX4_smooth 114 = .ok (.iinc 3 1, 3) := dk_132 3 1 (dk_at dksX4_smooth_4 18 rfl rfl)
theorem dX4_smooth_117 : decode cX4_smooth 117 = .ok (.goto (-42), 3) := dk_167 255 214 (dk_at dksX4_smooth_4 21 rfl rfl)
theorem dX4_smooth_120 : decode cX4_smooth 120 = .ok (.iload_n 2, 1) := dk_28 (dk_at dksX4_smooth_5 0 rfl rfl)
theorem dX4_smooth_121 : decode cX4_smooth 121 = .ok (.ireturn, 1) := dk_172 (dk_at dksX4_smooth_5 1 rfl rfl)
abbrev cX4_bits : ByteArray := prog_12_method_20_code
def yX4_bits : MethodName := ⟨RX4, "bits", "(I)I"⟩
def dkwX4_bits_1 : List UInt8 := [27, 172]
abbrev dktX4_bits_1 : List UInt8 := dkwX4_bits_1 ++ []
def dkwX4_bits_0 : List UInt8 := [3, 60, 3, 61, 28, 16, 8, 162, 0, 17, 27, 26, 28, 122, 4, 126, 96, 60, 132, 2, 1, 167, 255, 239]
abbrev dktX4_bits_0 : List UInt8 := dkwX4_bits_0 ++ dktX4_bits_1
theorem dksX4_bits_0 : cX4_bits.data.toList.drop 0 = dktX4_bits_0 := by decide +kernel
theorem dksX4_bits_1 : cX4_bits.data.toList.drop 24 = dktX4_bits_1 := dk_seg dksX4_bits_0 24 rfl rfl
theorem dX4_bits_0 : decode cX4_bits 0 = .ok (.iconst 0, 1) := dk_3 (dk_at dksX4_bits_0 0 rfl rfl)
theorem dX4_bits_1 : decode cX4_bits 1 = .ok (.istore_n 1, 1) := dk_60 (dk_at dksX4_bits_0 1 rfl rfl)
theorem dX4_bits_2 : decode cX4_bits 2 = .ok (.iconst 0, 1) := dk_3 (dk_at dksX4_bits_0 2 rfl rfl)
theorem dX4_bits_3 : decode cX4_bits 3 = .ok (.istore_n 2, 1) := dk_61 (dk_at dksX4_bits_0 3 rfl rfl)
theorem dX4_bits_4 : decode cX4_bits 4 = .ok (.iload_n 2, 1) := dk_28 (dk_at dksX4_bits_0 4 rfl rfl)
theorem dX4_bits_5 : decode cX4_bits 5 = .ok (.bipush 8, 2) := dk_16 8 (dk_at dksX4_bits_0 5 rfl rfl)
theorem dX4_bits_7 : decode cX4_bits 7 = .ok (.if_icmp .ge 17, 3) := dk_162 0 17 (dk_at dksX4_bits_0 7 rfl rfl)
theorem dX4_bits_10 : decode cX4_bits 10 = .ok (.iload_n 1, 1) := dk_27 (dk_at dksX4_bits_0 10 rfl rfl)
theorem dX4_bits_11 : decode cX4_bits 11 = .ok (.iload_n 0, 1) := dk_26 (dk_at dksX4_bits_0 11 rfl rfl)
theorem dX4_bits_12 : decode cX4_bits 12 = .ok (.iload_n 2, 1) := dk_28 (dk_at dksX4_bits_0 12 rfl rfl)
theorem dX4_bits_13 : decode cX4_bits 13 = .ok (.ishr, 1) := dk_122 (dk_at dksX4_bits_0 13 rfl rfl)
theorem dX4_bits_14 : decode cX4_bits 14 = .ok (.iconst 1, 1) := dk_4 (dk_at dksX4_bits_0 14 rfl rfl)
theorem dX4_bits_15 : decode cX4_bits 15 = .ok (.iand, 1) := dk_126 (dk_at dksX4_bits_0 15 rfl rfl)
theorem dX4_bits_16 : decode cX4_bits 16 = .ok (.iadd, 1) := dk_96 (dk_at dksX4_bits_0 16 rfl rfl)
theorem dX4_bits_17 : decode cX4_bits 17 = .ok (.istore_n 1, 1) := dk_60 (dk_at dksX4_bits_0 17 rfl rfl)
theorem dX4_bits_18 : decode cX4_bits 18 = .ok (.iinc 2 1, 3) := dk_132 2 1 (dk_at dksX4_bits_0 18 rfl rfl)
theorem dX4_bits_21 : decode cX4_bits 21 = .ok (.goto (-17), 3) := dk_167 255 239 (dk_at dksX4_bits_0 21 rfl rfl)
theorem dX4_bits_24 : decode cX4_bits 24 = .ok (.iload_n 1, 1) := dk_27 (dk_at dksX4_bits_1 0 rfl rfl)
theorem dX4_bits_25 : decode cX4_bits 25 = .ok (.ireturn, 1) := dk_172 (dk_at dksX4_bits_1 1 rfl rfl)
abbrev cX4_turn : ByteArray := prog_12_method_34_code
def yX4_turn : MethodName := ⟨RX4, "turn", "(I)I"⟩
def dkwX4_turn_1 : List UInt8 := [182, 0, 139, 132, 2, 1, 167, 255, 244, 42, 180, 0, 7, 3, 46, 172]
abbrev dktX4_turn_1 : List UInt8 := dkwX4_turn_1 ++ []
def dkwX4_turn_0 : List UInt8 := [27, 4, 6, 184, 0, 61, 154, 0, 6, 16, 254, 172, 42, 182, 0, 77, 3, 61, 28, 27, 162, 0, 13, 42]
abbrev dktX4_turn_0 : List UInt8 := dkwX4_turn_0 ++ dktX4_turn_1
theorem dksX4_turn_0 : cX4_turn.data.toList.drop 0 = dktX4_turn_0 := by decide +kernel
theorem dksX4_turn_1 : cX4_turn.data.toList.drop 24 = dktX4_turn_1 := dk_seg dksX4_turn_0 24 rfl rfl
theorem dX4_turn_0 : decode cX4_turn 0 = .ok (.iload_n 1, 1) := dk_27 (dk_at dksX4_turn_0 0 rfl rfl)
theorem dX4_turn_1 : decode cX4_turn 1 = .ok (.iconst 1, 1) := dk_4 (dk_at dksX4_turn_0 1 rfl rfl)
theorem dX4_turn_2 : decode cX4_turn 2 = .ok (.iconst 3, 1) := dk_6 (dk_at dksX4_turn_0 2 rfl rfl)
theorem dX4_turn_3 : decode cX4_turn 3 = .ok (.invokestatic 61, 3) := dk_184 0 61 (dk_at dksX4_turn_0 3 rfl rfl)
theorem dX4_turn_6 : decode cX4_turn 6 = .ok (.ifCond .ne 6, 3) := dk_154 0 6 (dk_at dksX4_turn_0 6 rfl rfl)
theorem dX4_turn_9 : decode cX4_turn 9 = .ok (.bipush (-2), 2) := dk_16 254 (dk_at dksX4_turn_0 9 rfl rfl)
theorem dX4_turn_11 : decode cX4_turn 11 = .ok (.ireturn, 1) := dk_172 (dk_at dksX4_turn_0 11 rfl rfl)
theorem dX4_turn_12 : decode cX4_turn 12 = .ok (.aload_n 0, 1) := dk_42 (dk_at dksX4_turn_0 12 rfl rfl)
theorem dX4_turn_13 : decode cX4_turn 13 = .ok (.invokevirtual 77, 3) := dk_182 0 77 (dk_at dksX4_turn_0 13 rfl rfl)
theorem dX4_turn_16 : decode cX4_turn 16 = .ok (.iconst 0, 1) := dk_3 (dk_at dksX4_turn_0 16 rfl rfl)
theorem dX4_turn_17 : decode cX4_turn 17 = .ok (.istore_n 2, 1) := dk_61 (dk_at dksX4_turn_0 17 rfl rfl)
theorem dX4_turn_18 : decode cX4_turn 18 = .ok (.iload_n 2, 1) := dk_28 (dk_at dksX4_turn_0 18 rfl rfl)
theorem dX4_turn_19 : decode cX4_turn 19 = .ok (.iload_n 1, 1) := dk_27 (dk_at dksX4_turn_0 19 rfl rfl)
theorem dX4_turn_20 : decode cX4_turn 20 = .ok (.if_icmp .ge 13, 3) := dk_162 0 13 (dk_at dksX4_turn_0 20 rfl rfl)
theorem dX4_turn_23 : decode cX4_turn 23 = .ok (.aload_n 0, 1) := dk_42 (dk_at dksX4_turn_0 23 rfl rfl)
theorem dX4_turn_24 : decode cX4_turn 24 = .ok (.invokevirtual 139, 3) := dk_182 0 139 (dk_at dksX4_turn_1 0 rfl rfl)
theorem dX4_turn_27 : decode cX4_turn 27 = .ok (.iinc 2 1, 3) := dk_132 2 1 (dk_at dksX4_turn_1 3 rfl rfl)
theorem dX4_turn_30 : decode cX4_turn 30 = .ok (.goto (-12), 3) := dk_167 255 244 (dk_at dksX4_turn_1 6 rfl rfl)
theorem dX4_turn_33 : decode cX4_turn 33 = .ok (.aload_n 0, 1) := dk_42 (dk_at dksX4_turn_1 9 rfl rfl)
theorem dX4_turn_34 : decode cX4_turn 34 = .ok (.getfield 7, 3) := dk_180 0 7 (dk_at dksX4_turn_1 10 rfl rfl)
theorem dX4_turn_37 : decode cX4_turn 37 = .ok (.iconst 0, 1) := dk_3 (dk_at dksX4_turn_1 13 rfl rfl)
theorem dX4_turn_38 : decode cX4_turn 38 = .ok (.iaload, 1) := dk_46 (dk_at dksX4_turn_1 14 rfl rfl)
theorem dX4_turn_39 : decode cX4_turn 39 = .ok (.ireturn, 1) := dk_172 (dk_at dksX4_turn_1 15 rfl rfl)
abbrev cX4_turnOnce : ByteArray := prog_12_method_33_code
def yX4_turnOnce : MethodName := ⟨RX4, "turnOnce", "()V"⟩
def dkwX4_turnOnce_6 : List UInt8 := [17, 0, 147, 29, 96, 42, 180, 0, 44, 29, 46, 79, 132, 3, 1, 167, 255, 216, 177]
abbrev dktX4_turnOnce_6 : List UInt8 := dkwX4_turnOnce_6 ++ []
def dkwX4_turnOnce_5 : List UInt8 := [28, 104, 162, 0, 39, 42, 180, 0, 7, 6, 29, 96, 42, 180, 0, 41, 29, 46, 79, 42, 180, 0, 7]
abbrev dktX4_turnOnce_5 : List UInt8 := dkwX4_turnOnce_5 ++ dktX4_turnOnce_6
def dkwX4_turnOnce_4 : List UInt8 := [132, 3, 1, 167, 255, 174, 42, 180, 0, 7, 3, 28, 79, 42, 180, 0, 7, 4, 27, 79, 3, 62, 29, 27]
abbrev dktX4_turnOnce_4 : List UInt8 := dkwX4_turnOnce_4 ++ dktX4_turnOnce_5
def dkwX4_turnOnce_3 : List UInt8 := [160, 0, 8, 16, 250, 167, 0, 18, 42, 42, 180, 0, 7, 17, 0, 147, 29, 96, 46, 4, 182, 0, 136, 79]
abbrev dktX4_turnOnce_3 : List UInt8 := dkwX4_turnOnce_3 ++ dktX4_turnOnce_4
def dkwX4_turnOnce_2 : List UInt8 := [6, 29, 96, 46, 79, 42, 180, 0, 44, 21, 4, 42, 180, 0, 7, 17, 0, 147, 29, 96, 46, 16, 250]
abbrev dktX4_turnOnce_2 : List UInt8 := dkwX4_turnOnce_2 ++ dktX4_turnOnce_3
def dkwX4_turnOnce_1 : List UInt8 := [29, 28, 112, 104, 27, 96, 4, 100, 29, 28, 108, 100, 54, 4, 42, 180, 0, 41, 21, 4, 42, 180, 0, 7]
abbrev dktX4_turnOnce_1 : List UInt8 := dkwX4_turnOnce_1 ++ dktX4_turnOnce_2
def dkwX4_turnOnce_0 : List UInt8 := [42, 180, 0, 7, 3, 46, 60, 42, 180, 0, 7, 4, 46, 61, 3, 62, 29, 27, 28, 104, 162, 0, 81, 27]
abbrev dktX4_turnOnce_0 : List UInt8 := dkwX4_turnOnce_0 ++ dktX4_turnOnce_1
theorem dksX4_turnOnce_0 : cX4_turnOnce.data.toList.drop 0 = dktX4_turnOnce_0 := by decide +kernel
theorem dksX4_turnOnce_1 : cX4_turnOnce.data.toList.drop 24 = dktX4_turnOnce_1 := dk_seg dksX4_turnOnce_0 24 rfl rfl
theorem dksX4_turnOnce_2 : cX4_turnOnce.data.toList.drop 48 = dktX4_turnOnce_2 := dk_seg dksX4_turnOnce_1 24 rfl rfl
theorem dksX4_turnOnce_3 : cX4_turnOnce.data.toList.drop 71 = dktX4_turnOnce_3 := dk_seg dksX4_turnOnce_2 23 rfl rfl
theorem dksX4_turnOnce_4 : cX4_turnOnce.data.toList.drop 95 = dktX4_turnOnce_4 := dk_seg dksX4_turnOnce_3 24 rfl rfl
theorem dksX4_turnOnce_5 : cX4_turnOnce.data.toList.drop 119 = dktX4_turnOnce_5 := dk_seg dksX4_turnOnce_4 24 rfl rfl
theorem dksX4_turnOnce_6 : cX4_turnOnce.data.toList.drop 142 = dktX4_turnOnce_6 := dk_seg dksX4_turnOnce_5 23 rfl rfl
theorem dX4_turnOnce_0 : decode cX4_turnOnce 0 = .ok (.aload_n 0, 1) := dk_42 (dk_at dksX4_turnOnce_0 0 rfl rfl)
theorem dX4_turnOnce_1 : decode cX4_turnOnce 1 = .ok (.getfield 7, 3) := dk_180 0 7 (dk_at dksX4_turnOnce_0 1 rfl rfl)
theorem dX4_turnOnce_4 : decode cX4_turnOnce 4 = .ok (.iconst 0, 1) := dk_3 (dk_at dksX4_turnOnce_0 4 rfl rfl)
theorem dX4_turnOnce_5 : decode cX4_turnOnce 5 = .ok (.iaload, 1) := dk_46 (dk_at dksX4_turnOnce_0 5 rfl rfl)
theorem dX4_turnOnce_6 : decode cX4_turnOnce 6 = .ok (.istore_n 1, 1) := dk_60 (dk_at dksX4_turnOnce_0 6 rfl rfl)
theorem dX4_turnOnce_7 : decode cX4_turnOnce 7 = .ok (.aload_n 0, 1) := dk_42 (dk_at dksX4_turnOnce_0 7 rfl rfl)
theorem dX4_turnOnce_8 : decode cX4_turnOnce 8 = .ok (.getfield 7, 3) := dk_180 0 7 (dk_at dksX4_turnOnce_0 8 rfl rfl)
theorem dX4_turnOnce_11 : decode cX4_turnOnce 11 = .ok (.iconst 1, 1) := dk_4 (dk_at dksX4_turnOnce_0 11 rfl rfl)
theorem dX4_turnOnce_12 : decode cX4_turnOnce 12 = .ok (.iaload, 1) := dk_46 (dk_at dksX4_turnOnce_0 12 rfl rfl)
theorem dX4_turnOnce_13 : decode cX4_turnOnce 13 = .ok (.istore_n 2, 1) := dk_61 (dk_at dksX4_turnOnce_0 13 rfl rfl)
theorem dX4_turnOnce_14 : decode cX4_turnOnce 14 = .ok (.iconst 0, 1) := dk_3 (dk_at dksX4_turnOnce_0 14 rfl rfl)
theorem dX4_turnOnce_15 : decode cX4_turnOnce 15 = .ok (.istore_n 3, 1) := dk_62 (dk_at dksX4_turnOnce_0 15 rfl rfl)
theorem dX4_turnOnce_16 : decode cX4_turnOnce 16 = .ok (.iload_n 3, 1) := dk_29 (dk_at dksX4_turnOnce_0 16 rfl rfl)
theorem dX4_turnOnce_17 : decode cX4_turnOnce 17 = .ok (.iload_n 1, 1) := dk_27 (dk_at dksX4_turnOnce_0 17 rfl rfl)
theorem dX4_turnOnce_18 : decode cX4_turnOnce 18 = .ok (.iload_n 2, 1) := dk_28 (dk_at dksX4_turnOnce_0 18 rfl rfl)
theorem dX4_turnOnce_19 : decode cX4_turnOnce 19 = .ok (.imul, 1) := dk_104 (dk_at dksX4_turnOnce_0 19 rfl rfl)
theorem dX4_turnOnce_20 : decode cX4_turnOnce 20 = .ok (.if_icmp .ge 81, 3) := dk_162 0 81 (dk_at dksX4_turnOnce_0 20 rfl rfl)
theorem dX4_turnOnce_23 : decode cX4_turnOnce 23 = .ok (.iload_n 1, 1) := dk_27 (dk_at dksX4_turnOnce_0 23 rfl rfl)
theorem dX4_turnOnce_24 : decode cX4_turnOnce 24 = .ok (.iload_n 3, 1) := dk_29 (dk_at dksX4_turnOnce_1 0 rfl rfl)
theorem dX4_turnOnce_25 : decode cX4_turnOnce 25 = .ok (.iload_n 2, 1) := dk_28 (dk_at dksX4_turnOnce_1 1 rfl rfl)
theorem dX4_turnOnce_26 : decode cX4_turnOnce 26 = .ok (.irem, 1) := dk_112 (dk_at dksX4_turnOnce_1 2 rfl rfl)
theorem dX4_turnOnce_27 : decode cX4_turnOnce 27 = .ok (.imul, 1) := dk_104 (dk_at dksX4_turnOnce_1 3 rfl rfl)
theorem dX4_turnOnce_28 : decode cX4_turnOnce 28 = .ok (.iload_n 1, 1) := dk_27 (dk_at dksX4_turnOnce_1 4 rfl rfl)
theorem dX4_turnOnce_29 : decode cX4_turnOnce 29 = .ok (.iadd, 1) := dk_96 (dk_at dksX4_turnOnce_1 5 rfl rfl)
theorem dX4_turnOnce_30 : decode cX4_turnOnce 30 = .ok (.iconst 1, 1) := dk_4 (dk_at dksX4_turnOnce_1 6 rfl rfl)
theorem dX4_turnOnce_31 : decode cX4_turnOnce 31 = .ok (.isub, 1) := dk_100 (dk_at dksX4_turnOnce_1 7 rfl rfl)
theorem dX4_turnOnce_32 : decode cX4_turnOnce 32 = .ok (.iload_n 3, 1) := dk_29 (dk_at dksX4_turnOnce_1 8 rfl rfl)
theorem dX4_turnOnce_33 : decode cX4_turnOnce 33 = .ok (.iload_n 2, 1) := dk_28 (dk_at dksX4_turnOnce_1 9 rfl rfl)
theorem dX4_turnOnce_34 : decode cX4_turnOnce 34 = .ok (.idiv, 1) := dk_108 (dk_at dksX4_turnOnce_1 10 rfl rfl)
theorem dX4_turnOnce_35 : decode cX4_turnOnce 35 = .ok (.isub, 1) := dk_100 (dk_at dksX4_turnOnce_1 11 rfl rfl)
theorem dX4_turnOnce_36 : decode cX4_turnOnce 36 = .ok (.istore 4, 2) := dk_54 4 (dk_at dksX4_turnOnce_1 12 rfl rfl)
theorem dX4_turnOnce_38 : decode cX4_turnOnce 38 = .ok (.aload_n 0, 1) := dk_42 (dk_at dksX4_turnOnce_1 14 rfl rfl)
theorem dX4_turnOnce_39 : decode cX4_turnOnce 39 = .ok (.getfield 41, 3) := dk_180 0 41 (dk_at dksX4_turnOnce_1 15 rfl rfl)
theorem dX4_turnOnce_42 : decode cX4_turnOnce 42 = .ok (.iload 4, 2) := dk_21 4 (dk_at dksX4_turnOnce_1 18 rfl rfl)
theorem dX4_turnOnce_44 : decode cX4_turnOnce 44 = .ok (.aload_n 0, 1) := dk_42 (dk_at dksX4_turnOnce_1 20 rfl rfl)
theorem dX4_turnOnce_45 : decode cX4_turnOnce 45 = .ok (.getfield 7, 3) := dk_180 0 7 (dk_at dksX4_turnOnce_1 21 rfl rfl)
theorem dX4_turnOnce_48 : decode cX4_turnOnce 48 = .ok (.iconst 3, 1) := dk_6 (dk_at dksX4_turnOnce_2 0 rfl rfl)
theorem dX4_turnOnce_49 : decode cX4_turnOnce 49 = .ok (.iload_n 3, 1) := dk_29 (dk_at dksX4_turnOnce_2 1 rfl rfl)
theorem dX4_turnOnce_50 : decode cX4_turnOnce 50 = .ok (.iadd, 1) := dk_96 (dk_at dksX4_turnOnce_2 2 rfl rfl)
theorem dX4_turnOnce_51 : decode cX4_turnOnce 51 = .ok (.iaload, 1) := dk_46 (dk_at dksX4_turnOnce_2 3 rfl rfl)
theorem dX4_turnOnce_52 : decode cX4_turnOnce 52 = .ok (.iastore, 1) := dk_79 (dk_at dksX4_turnOnce_2 4 rfl rfl)
theorem dX4_turnOnce_53 : decode cX4_turnOnce 53 = .ok (.aload_n 0, 1) := dk_42 (dk_at dksX4_turnOnce_2 5 rfl rfl)
theorem dX4_turnOnce_54 : decode cX4_turnOnce 54 = .ok (.getfield 44, 3) := dk_180 0 44 (dk_at dksX4_turnOnce_2 6 rfl rfl)
theorem dX4_turnOnce_57 : decode cX4_turnOnce 57 = .ok (.iload 4, 2) := dk_21 4 (dk_at dksX4_turnOnce_2 9 rfl rfl)
theorem dX4_turnOnce_59 : decode cX4_turnOnce 59 = .ok (.aload_n 0, 1) := dk_42 (dk_at dksX4_turnOnce_2 11 rfl rfl)
theorem dX4_turnOnce_60 : decode cX4_turnOnce 60 = .ok (.getfield 7, 3) := dk_180 0 7 (dk_at dksX4_turnOnce_2 12 rfl rfl)
theorem dX4_turnOnce_63 : decode cX4_turnOnce 63 = .ok (.sipush 147, 3) := dk_17 0 147 (dk_at dksX4_turnOnce_2 15 rfl rfl)
theorem dX4_turnOnce_66 : decode cX4_turnOnce 66 = .ok (.iload_n 3, 1) := dk_29 (dk_at dksX4_turnOnce_2 18 rfl rfl)
theorem dX4_turnOnce_67 : decode cX4_turnOnce 67 = .ok (.iadd, 1) := dk_96 (dk_at dksX4_turnOnce_2 19 rfl rfl)
theorem dX4_turnOnce_68 : decode cX4_turnOnce 68 = .ok (.iaload, 1) := dk_46 (dk_at dksX4_turnOnce_2 20 rfl rfl)
theorem dX4_turnOnce_69 : decode cX4_turnOnce 69 = .ok (.bipush (-6), 2) := dk_16 250 (dk_at dksX4_turnOnce_2 21 rfl rfl)
theorem dX4_turnOnce_71 : decode cX4_turnOnce 71 = .ok (.if_icmp .ne 8, 3) := dk_160 0 8 (dk_at dksX4_turnOnce_3 0 rfl rfl)
theorem dX4_turnOnce_74 : decode cX4_turnOnce 74 = .ok (.bipush (-6), 2) := dk_16 250 (dk_at dksX4_turnOnce_3 3 rfl rfl)
theorem dX4_turnOnce_76 : decode cX4_turnOnce 76 = .ok (.goto 18, 3) := dk_167 0 18 (dk_at dksX4_turnOnce_3 5 rfl rfl)
theorem dX4_turnOnce_79 : decode cX4_turnOnce 79 = .ok (.aload_n 0, 1) := dk_42 (dk_at dksX4_turnOnce_3 8 rfl rfl)
theorem dX4_turnOnce_80 : decode cX4_turnOnce 80 = .ok (.aload_n 0, 1) := dk_42 (dk_at dksX4_turnOnce_3 9 rfl rfl)
theorem dX4_turnOnce_81 : decode cX4_turnOnce 81 = .ok (.getfield 7, 3) := dk_180 0 7 (dk_at dksX4_turnOnce_3 10 rfl rfl)
theorem dX4_turnOnce_84 : decode cX4_turnOnce 84 = .ok (.sipush 147, 3) := dk_17 0 147 (dk_at dksX4_turnOnce_3 13 rfl rfl)
theorem dX4_turnOnce_87 : decode cX4_turnOnce 87 = .ok (.iload_n 3, 1) := dk_29 (dk_at dksX4_turnOnce_3 16 rfl rfl)
theorem dX4_turnOnce_88 : decode cX4_turnOnce 88 = .ok (.iadd, 1) := dk_96 (dk_at dksX4_turnOnce_3 17 rfl rfl)
theorem dX4_turnOnce_89 : decode cX4_turnOnce 89 = .ok (.iaload, 1) := dk_46 (dk_at dksX4_turnOnce_3 18 rfl rfl)
theorem dX4_turnOnce_90 : decode cX4_turnOnce 90 = .ok (.iconst 1, 1) := dk_4 (dk_at dksX4_turnOnce_3 19 rfl rfl)
theorem dX4_turnOnce_91 : decode cX4_turnOnce 91 = .ok (.invokevirtual 136, 3) := dk_182 0 136 (dk_at dksX4_turnOnce_3 20 rfl rfl)
theorem dX4_turnOnce_94 : decode cX4_turnOnce 94 = .ok (.iastore, 1) := dk_79 (dk_at dksX4_turnOnce_3 23 rfl rfl)
theorem dX4_turnOnce_95 : decode cX4_turnOnce 95 = .ok (.iinc 3 1, 3) := dk_132 3 1 (dk_at dksX4_turnOnce_4 0 rfl rfl)
theorem dX4_turnOnce_98 : decode cX4_turnOnce 98 = .ok (.goto (-82), 3) := dk_167 255 174 (dk_at dksX4_turnOnce_4 3 rfl rfl)
theorem dX4_turnOnce_101 : decode cX4_turnOnce 101 = .ok (.aload_n 0, 1) := dk_42 (dk_at dksX4_turnOnce_4 6 rfl rfl)
theorem dX4_turnOnce_102 : decode cX4_turnOnce 102 = .ok (.getfield 7, 3) := dk_180 0 7 (dk_at dksX4_turnOnce_4 7 rfl rfl)
theorem dX4_turnOnce_105 : decode cX4_turnOnce 105 = .ok (.iconst 0, 1) := dk_3 (dk_at dksX4_turnOnce_4 10 rfl rfl)
theorem dX4_turnOnce_106 : decode cX4_turnOnce 106 = .ok (.iload_n 2, 1) := dk_28 (dk_at dksX4_turnOnce_4 11 rfl rfl)
theorem dX4_turnOnce_107 : decode cX4_turnOnce 107 = .ok (.iastore, 1) := dk_79 (dk_at dksX4_turnOnce_4 12 rfl rfl)
theorem dX4_turnOnce_108 : decode cX4_turnOnce 108 = .ok (.aload_n 0, 1) := dk_42 (dk_at dksX4_turnOnce_4 13 rfl rfl)
theorem dX4_turnOnce_109 : decode cX4_turnOnce 109 = .ok (.getfield 7, 3) := dk_180 0 7 (dk_at dksX4_turnOnce_4 14 rfl rfl)
theorem dX4_turnOnce_112 : decode cX4_turnOnce 112 = .ok (.iconst 1, 1) := dk_4 (dk_at dksX4_turnOnce_4 17 rfl rfl)
theorem dX4_turnOnce_113 : decode cX4_turnOnce 113 = .ok (.iload_n 1, 1) := dk_27 (dk_at dksX4_turnOnce_4 18 rfl rfl)
theorem dX4_turnOnce_114 : decode cX4_turnOnce 114 = .ok (.iastore, 1) := dk_79 (dk_at dksX4_turnOnce_4 19 rfl rfl)
theorem dX4_turnOnce_115 : decode cX4_turnOnce 115 = .ok (.iconst 0, 1) := dk_3 (dk_at dksX4_turnOnce_4 20 rfl rfl)
theorem dX4_turnOnce_116 : decode cX4_turnOnce 116 = .ok (.istore_n 3, 1) := dk_62 (dk_at dksX4_turnOnce_4 21 rfl rfl)
theorem dX4_turnOnce_117 : decode cX4_turnOnce 117 = .ok (.iload_n 3, 1) := dk_29 (dk_at dksX4_turnOnce_4 22 rfl rfl)
theorem dX4_turnOnce_118 : decode cX4_turnOnce 118 = .ok (.iload_n 1, 1) := dk_27 (dk_at dksX4_turnOnce_4 23 rfl rfl)
theorem dX4_turnOnce_119 : decode cX4_turnOnce 119 = .ok (.iload_n 2, 1) := dk_28 (dk_at dksX4_turnOnce_5 0 rfl rfl)
theorem dX4_turnOnce_120 : decode cX4_turnOnce 120 = .ok (.imul, 1) := dk_104 (dk_at dksX4_turnOnce_5 1 rfl rfl)
theorem dX4_turnOnce_121 : decode cX4_turnOnce 121 = .ok (.if_icmp .ge 39, 3) := dk_162 0 39 (dk_at dksX4_turnOnce_5 2 rfl rfl)
theorem dX4_turnOnce_124 : decode cX4_turnOnce 124 = .ok (.aload_n 0, 1) := dk_42 (dk_at dksX4_turnOnce_5 5 rfl rfl)
theorem dX4_turnOnce_125 : decode cX4_turnOnce 125 = .ok (.getfield 7, 3) := dk_180 0 7 (dk_at dksX4_turnOnce_5 6 rfl rfl)
theorem dX4_turnOnce_128 : decode cX4_turnOnce 128 = .ok (.iconst 3, 1) := dk_6 (dk_at dksX4_turnOnce_5 9 rfl rfl)
theorem dX4_turnOnce_129 : decode cX4_turnOnce 129 = .ok (.iload_n 3, 1) := dk_29 (dk_at dksX4_turnOnce_5 10 rfl rfl)
theorem dX4_turnOnce_130 : decode cX4_turnOnce 130 = .ok (.iadd, 1) := dk_96 (dk_at dksX4_turnOnce_5 11 rfl rfl)
theorem dX4_turnOnce_131 : decode cX4_turnOnce 131 = .ok (.aload_n 0, 1) := dk_42 (dk_at dksX4_turnOnce_5 12 rfl rfl)
theorem dX4_turnOnce_132 : decode cX4_turnOnce 132 = .ok (.getfield 41, 3) := dk_180 0 41 (dk_at dksX4_turnOnce_5 13 rfl rfl)
theorem dX4_turnOnce_135 : decode cX4_turnOnce 135 = .ok (.iload_n 3, 1) := dk_29 (dk_at dksX4_turnOnce_5 16 rfl rfl)
theorem dX4_turnOnce_136 : decode cX4_turnOnce 136 = .ok (.iaload, 1) := dk_46 (dk_at dksX4_turnOnce_5 17 rfl rfl)
theorem dX4_turnOnce_137 : decode cX4_turnOnce 137 = .ok (.iastore, 1) := dk_79 (dk_at dksX4_turnOnce_5 18 rfl rfl)
theorem dX4_turnOnce_138 : decode cX4_turnOnce 138 = .ok (.aload_n 0, 1) := dk_42 (dk_at dksX4_turnOnce_5 19 rfl rfl)
theorem dX4_turnOnce_139 : decode cX4_turnOnce 139 = .ok (.getfield 7, 3) := dk_180 0 7 (dk_at dksX4_turnOnce_5 20 rfl rfl)
theorem dX4_turnOnce_142 : decode cX4_turnOnce 142 = .ok (.sipush 147, 3) := dk_17 0 147 (dk_at dksX4_turnOnce_6 0 rfl rfl)
theorem dX4_turnOnce_145 : decode cX4_turnOnce 145 = .ok (.iload_n 3, 1) := dk_29 (dk_at dksX4_turnOnce_6 3 rfl rfl)
theorem dX4_turnOnce_146 : decode cX4_turnOnce 146 = .ok (.iadd, 1) := dk_96 (dk_at dksX4_turnOnce_6 4 rfl rfl)
theorem dX4_turnOnce_147 : decode cX4_turnOnce 147 = .ok (.aload_n 0, 1) := dk_42 (dk_at dksX4_turnOnce_6 5 rfl rfl)
theorem dX4_turnOnce_148 : decode cX4_turnOnce 148 = .ok (.getfield 44, 3) := dk_180 0 44 (dk_at dksX4_turnOnce_6 6 rfl rfl)
theorem dX4_turnOnce_151 : decode cX4_turnOnce 151 = .ok (.iload_n 3, 1) := dk_29 (dk_at dksX4_turnOnce_6 9 rfl rfl)
theorem dX4_turnOnce_152 : decode cX4_turnOnce 152 = .ok (.iaload, 1) := dk_46 (dk_at dksX4_turnOnce_6 10 rfl rfl)
theorem dX4_turnOnce_153 : decode cX4_turnOnce 153 = .ok (.iastore, 1) := dk_79 (dk_at dksX4_turnOnce_6 11 rfl rfl)
theorem dX4_turnOnce_154 : decode cX4_turnOnce 154 = .ok (.iinc 3 1, 3) := dk_132 3 1 (dk_at dksX4_turnOnce_6 12 rfl rfl)
theorem dX4_turnOnce_157 : decode cX4_turnOnce 157 = .ok (.goto (-40), 3) := dk_167 255 216 (dk_at dksX4_turnOnce_6 15 rfl rfl)
theorem dX4_turnOnce_160 : decode cX4_turnOnce 160 = .ok (.return_, 1) := dk_177 (dk_at dksX4_turnOnce_6 18 rfl rfl)
abbrev cX4_turnedBy : ByteArray := prog_12_method_32_code
def yX4_turnedBy : MethodName := ⟨RX4, "turnedBy", "(II)I"⟩
def dkwX4_turnedBy_1 : List UInt8 := [128, 46, 172]
abbrev dktX4_turnedBy_1 : List UInt8 := dkwX4_turnedBy_1 ++ []
def dkwX4_turnedBy_0 : List UInt8 := [42, 180, 0, 23, 27, 46, 5, 28, 104, 120, 62, 42, 180, 0, 26, 29, 17, 0, 255, 126, 29, 16, 8, 122]
abbrev dktX4_turnedBy_0 : List UInt8 := dkwX4_turnedBy_0 ++ dktX4_turnedBy_1
theorem dksX4_turnedBy_0 : cX4_turnedBy.data.toList.drop 0 = dktX4_turnedBy_0 := by decide +kernel
theorem dksX4_turnedBy_1 : cX4_turnedBy.data.toList.drop 24 = dktX4_turnedBy_1 := dk_seg dksX4_turnedBy_0 24 rfl rfl
theorem dX4_turnedBy_0 : decode cX4_turnedBy 0 = .ok (.aload_n 0, 1) := dk_42 (dk_at dksX4_turnedBy_0 0 rfl rfl)
theorem dX4_turnedBy_1 : decode cX4_turnedBy 1 = .ok (.getfield 23, 3) := dk_180 0 23 (dk_at dksX4_turnedBy_0 1 rfl rfl)
theorem dX4_turnedBy_4 : decode cX4_turnedBy 4 = .ok (.iload_n 1, 1) := dk_27 (dk_at dksX4_turnedBy_0 4 rfl rfl)
theorem dX4_turnedBy_5 : decode cX4_turnedBy 5 = .ok (.iaload, 1) := dk_46 (dk_at dksX4_turnedBy_0 5 rfl rfl)
theorem dX4_turnedBy_6 : decode cX4_turnedBy 6 = .ok (.iconst 2, 1) := dk_5 (dk_at dksX4_turnedBy_0 6 rfl rfl)
theorem dX4_turnedBy_7 : decode cX4_turnedBy 7 = .ok (.iload_n 2, 1) := dk_28 (dk_at dksX4_turnedBy_0 7 rfl rfl)
theorem dX4_turnedBy_8 : decode cX4_turnedBy 8 = .ok (.imul, 1) := dk_104 (dk_at dksX4_turnedBy_0 8 rfl rfl)
theorem dX4_turnedBy_9 : decode cX4_turnedBy 9 = .ok (.ishl, 1) := dk_120 (dk_at dksX4_turnedBy_0 9 rfl rfl)
theorem dX4_turnedBy_10 : decode cX4_turnedBy 10 = .ok (.istore_n 3, 1) := dk_62 (dk_at dksX4_turnedBy_0 10 rfl rfl)
theorem dX4_turnedBy_11 : decode cX4_turnedBy 11 = .ok (.aload_n 0, 1) := dk_42 (dk_at dksX4_turnedBy_0 11 rfl rfl)
theorem dX4_turnedBy_12 : decode cX4_turnedBy 12 = .ok (.getfield 26, 3) := dk_180 0 26 (dk_at dksX4_turnedBy_0 12 rfl rfl)
theorem dX4_turnedBy_15 : decode cX4_turnedBy 15 = .ok (.iload_n 3, 1) := dk_29 (dk_at dksX4_turnedBy_0 15 rfl rfl)
theorem dX4_turnedBy_16 : decode cX4_turnedBy 16 = .ok (.sipush 255, 3) := dk_17 0 255 (dk_at dksX4_turnedBy_0 16 rfl rfl)
theorem dX4_turnedBy_19 : decode cX4_turnedBy 19 = .ok (.iand, 1) := dk_126 (dk_at dksX4_turnedBy_0 19 rfl rfl)
theorem dX4_turnedBy_20 : decode cX4_turnedBy 20 = .ok (.iload_n 3, 1) := dk_29 (dk_at dksX4_turnedBy_0 20 rfl rfl)
theorem dX4_turnedBy_21 : decode cX4_turnedBy 21 = .ok (.bipush 8, 2) := dk_16 8 (dk_at dksX4_turnedBy_0 21 rfl rfl)
theorem dX4_turnedBy_23 : decode cX4_turnedBy 23 = .ok (.ishr, 1) := dk_122 (dk_at dksX4_turnedBy_0 23 rfl rfl)
theorem dX4_turnedBy_24 : decode cX4_turnedBy 24 = .ok (.ior, 1) := dk_128 (dk_at dksX4_turnedBy_1 0 rfl rfl)
theorem dX4_turnedBy_25 : decode cX4_turnedBy 25 = .ok (.iaload, 1) := dk_46 (dk_at dksX4_turnedBy_1 1 rfl rfl)
theorem dX4_turnedBy_26 : decode cX4_turnedBy 26 = .ok (.ireturn, 1) := dk_172 (dk_at dksX4_turnedBy_1 2 rfl rfl)
abbrev cX4_rows : ByteArray := prog_12_method_35_code
def yX4_rows : MethodName := ⟨RX4, "rows", "()I"⟩
def dkwX4_rows_0 : List UInt8 := [42, 180, 0, 7, 3, 46, 172]
abbrev dktX4_rows_0 : List UInt8 := dkwX4_rows_0 ++ []
theorem dksX4_rows_0 : cX4_rows.data.toList.drop 0 = dktX4_rows_0 := by decide +kernel
theorem dX4_rows_0 : decode cX4_rows 0 = .ok (.aload_n 0, 1) := dk_42 (dk_at dksX4_rows_0 0 rfl rfl)
theorem dX4_rows_1 : decode cX4_rows 1 = .ok (.getfield 7, 3) := dk_180 0 7 (dk_at dksX4_rows_0 1 rfl rfl)
theorem dX4_rows_4 : decode cX4_rows 4 = .ok (.iconst 0, 1) := dk_3 (dk_at dksX4_rows_0 4 rfl rfl)
theorem dX4_rows_5 : decode cX4_rows 5 = .ok (.iaload, 1) := dk_46 (dk_at dksX4_rows_0 5 rfl rfl)
theorem dX4_rows_6 : decode cX4_rows 6 = .ok (.ireturn, 1) := dk_172 (dk_at dksX4_rows_0 6 rfl rfl)
abbrev cX4_columns : ByteArray := prog_12_method_36_code
def yX4_columns : MethodName := ⟨RX4, "columns", "()I"⟩
def dkwX4_columns_0 : List UInt8 := [42, 180, 0, 7, 4, 46, 172]
abbrev dktX4_columns_0 : List UInt8 := dkwX4_columns_0 ++ []
theorem dksX4_columns_0 : cX4_columns.data.toList.drop 0 = dktX4_columns_0 := by decide +kernel
theorem dX4_columns_0 : decode cX4_columns 0 = .ok (.aload_n 0, 1) := dk_42 (dk_at dksX4_columns_0 0 rfl rfl)
theorem dX4_columns_1 : decode cX4_columns 1 = .ok (.getfield 7, 3) := dk_180 0 7 (dk_at dksX4_columns_0 1 rfl rfl)
theorem dX4_columns_4 : decode cX4_columns 4 = .ok (.iconst 1, 1) := dk_4 (dk_at dksX4_columns_0 4 rfl rfl)
theorem dX4_columns_5 : decode cX4_columns 5 = .ok (.iaload, 1) := dk_46 (dk_at dksX4_columns_0 5 rfl rfl)
theorem dX4_columns_6 : decode cX4_columns 6 = .ok (.ireturn, 1) := dk_172 (dk_at dksX4_columns_0 6 rfl rfl)
abbrev cX4_tile : ByteArray := prog_12_method_37_code
def yX4_tile : MethodName := ⟨RX4, "tile", "(III)I"⟩
def dkwX4_tile_4 : List UInt8 := [167, 0, 4, 4, 172, 42, 21, 4, 182, 0, 142, 172, 16, 254, 172]
abbrev dktX4_tile_4 : List UInt8 := dkwX4_tile_4 ++ []
def dkwX4_tile_3 : List UInt8 := [42, 21, 4, 182, 0, 110, 172, 42, 180, 0, 7, 17, 0, 147, 21, 4, 96, 46, 16, 250, 160, 0, 7, 3]
abbrev dktX4_tile_3 : List UInt8 := dkwX4_tile_3 ++ dktX4_tile_4
def dkwX4_tile_2 : List UInt8 := [42, 180, 0, 7, 6, 21, 4, 96, 46, 172, 42, 27, 28, 182, 0, 104, 172, 42, 21, 4, 182, 0, 107, 172]
abbrev dktX4_tile_2 : List UInt8 := dkwX4_tile_2 ++ dktX4_tile_3
def dkwX4_tile_1 : List UInt8 := [170, 0, 0, 0, 0, 0, 0, 100, 0, 0, 0, 0, 0, 0, 0, 5, 0, 0, 0, 40, 0, 0, 0, 50, 0, 0, 0, 57, 0, 0, 0, 64, 0, 0, 0, 71, 0, 0, 0, 93]
abbrev dktX4_tile_1 : List UInt8 := dkwX4_tile_1 ++ dktX4_tile_2
def dkwX4_tile_0 : List UInt8 := [42, 27, 28, 182, 0, 90, 154, 0, 5, 2, 172, 42, 27, 28, 182, 0, 94, 54, 4, 29]
abbrev dktX4_tile_0 : List UInt8 := dkwX4_tile_0 ++ dktX4_tile_1
theorem dksX4_tile_0 : cX4_tile.data.toList.drop 0 = dktX4_tile_0 := by decide +kernel
theorem dksX4_tile_1 : cX4_tile.data.toList.drop 20 = dktX4_tile_1 := dk_seg dksX4_tile_0 20 rfl rfl
theorem dksX4_tile_2 : cX4_tile.data.toList.drop 60 = dktX4_tile_2 := dk_seg dksX4_tile_1 40 rfl rfl
theorem dksX4_tile_3 : cX4_tile.data.toList.drop 84 = dktX4_tile_3 := dk_seg dksX4_tile_2 24 rfl rfl
theorem dksX4_tile_4 : cX4_tile.data.toList.drop 108 = dktX4_tile_4 := dk_seg dksX4_tile_3 24 rfl rfl
theorem dX4_tile_0 : decode cX4_tile 0 = .ok (.aload_n 0, 1) := dk_42 (dk_at dksX4_tile_0 0 rfl rfl)
theorem dX4_tile_1 : decode cX4_tile 1 = .ok (.iload_n 1, 1) := dk_27 (dk_at dksX4_tile_0 1 rfl rfl)
theorem dX4_tile_2 : decode cX4_tile 2 = .ok (.iload_n 2, 1) := dk_28 (dk_at dksX4_tile_0 2 rfl rfl)
theorem dX4_tile_3 : decode cX4_tile 3 = .ok (.invokevirtual 90, 3) := dk_182 0 90 (dk_at dksX4_tile_0 3 rfl rfl)
theorem dX4_tile_6 : decode cX4_tile 6 = .ok (.ifCond .ne 5, 3) := dk_154 0 5 (dk_at dksX4_tile_0 6 rfl rfl)
theorem dX4_tile_9 : decode cX4_tile 9 = .ok (.iconst (-1), 1) := dk_2 (dk_at dksX4_tile_0 9 rfl rfl)
theorem dX4_tile_10 : decode cX4_tile 10 = .ok (.ireturn, 1) := dk_172 (dk_at dksX4_tile_0 10 rfl rfl)
theorem dX4_tile_11 : decode cX4_tile 11 = .ok (.aload_n 0, 1) := dk_42 (dk_at dksX4_tile_0 11 rfl rfl)
theorem dX4_tile_12 : decode cX4_tile 12 = .ok (.iload_n 1, 1) := dk_27 (dk_at dksX4_tile_0 12 rfl rfl)
theorem dX4_tile_13 : decode cX4_tile 13 = .ok (.iload_n 2, 1) := dk_28 (dk_at dksX4_tile_0 13 rfl rfl)
theorem dX4_tile_14 : decode cX4_tile 14 = .ok (.invokevirtual 94, 3) := dk_182 0 94 (dk_at dksX4_tile_0 14 rfl rfl)
theorem dX4_tile_17 : decode cX4_tile 17 = .ok (.istore 4, 2) := dk_54 4 (dk_at dksX4_tile_0 17 rfl rfl)
theorem dX4_tile_19 : decode cX4_tile 19 = .ok (.iload_n 3, 1) := dk_29 (dk_at dksX4_tile_0 19 rfl rfl)
theorem dX4_tile_20 : decode cX4_tile 20 = .ok (.tableswitch 100 0 5 #[40, 50, 57, 64, 71, 93], 40) := by decide +kernel
theorem dX4_tile_60 : decode cX4_tile 60 = .ok (.aload_n 0, 1) := dk_42 (dk_at dksX4_tile_2 0 rfl rfl)
theorem dX4_tile_61 : decode cX4_tile 61 = .ok (.getfield 7, 3) := dk_180 0 7 (dk_at dksX4_tile_2 1 rfl rfl)
theorem dX4_tile_64 : decode cX4_tile 64 = .ok (.iconst 3, 1) := dk_6 (dk_at dksX4_tile_2 4 rfl rfl)
theorem dX4_tile_65 : decode cX4_tile 65 = .ok (.iload 4, 2) := dk_21 4 (dk_at dksX4_tile_2 5 rfl rfl)
theorem dX4_tile_67 : decode cX4_tile 67 = .ok (.iadd, 1) := dk_96 (dk_at dksX4_tile_2 7 rfl rfl)
theorem dX4_tile_68 : decode cX4_tile 68 = .ok (.iaload, 1) := dk_46 (dk_at dksX4_tile_2 8 rfl rfl)
theorem dX4_tile_69 : decode cX4_tile 69 = .ok (.ireturn, 1) := dk_172 (dk_at dksX4_tile_2 9 rfl rfl)
theorem dX4_tile_70 : decode cX4_tile 70 = .ok (.aload_n 0, 1) := dk_42 (dk_at dksX4_tile_2 10 rfl rfl)
theorem dX4_tile_71 : decode cX4_tile 71 = .ok (.iload_n 1, 1) := dk_27 (dk_at dksX4_tile_2 11 rfl rfl)
theorem dX4_tile_72 : decode cX4_tile 72 = .ok (.iload_n 2, 1) := dk_28 (dk_at dksX4_tile_2 12 rfl rfl)
theorem dX4_tile_73 : decode cX4_tile 73 = .ok (.invokevirtual 104, 3) := dk_182 0 104 (dk_at dksX4_tile_2 13 rfl rfl)
theorem dX4_tile_76 : decode cX4_tile 76 = .ok (.ireturn, 1) := dk_172 (dk_at dksX4_tile_2 16 rfl rfl)
theorem dX4_tile_77 : decode cX4_tile 77 = .ok (.aload_n 0, 1) := dk_42 (dk_at dksX4_tile_2 17 rfl rfl)
theorem dX4_tile_78 : decode cX4_tile 78 = .ok (.iload 4, 2) := dk_21 4 (dk_at dksX4_tile_2 18 rfl rfl)
theorem dX4_tile_80 : decode cX4_tile 80 = .ok (.invokevirtual 107, 3) := dk_182 0 107 (dk_at dksX4_tile_2 20 rfl rfl)
theorem dX4_tile_83 : decode cX4_tile 83 = .ok (.ireturn, 1) := dk_172 (dk_at dksX4_tile_2 23 rfl rfl)
theorem dX4_tile_84 : decode cX4_tile 84 = .ok (.aload_n 0, 1) := dk_42 (dk_at dksX4_tile_3 0 rfl rfl)
theorem dX4_tile_85 : decode cX4_tile 85 = .ok (.iload 4, 2) := dk_21 4 (dk_at dksX4_tile_3 1 rfl rfl)
theorem dX4_tile_87 : decode cX4_tile 87 = .ok (.invokevirtual 110, 3) := dk_182 0 110 (dk_at dksX4_tile_3 3 rfl rfl)
theorem dX4_tile_90 : decode cX4_tile 90 = .ok (.ireturn, 1) := dk_172 (dk_at dksX4_tile_3 6 rfl rfl)
theorem dX4_tile_91 : decode cX4_tile 91 = .ok (.aload_n 0, 1) := dk_42 (dk_at dksX4_tile_3 7 rfl rfl)
theorem dX4_tile_92 : decode cX4_tile 92 = .ok (.getfield 7, 3) := dk_180 0 7 (dk_at dksX4_tile_3 8 rfl rfl)
theorem dX4_tile_95 : decode cX4_tile 95 = .ok (.sipush 147, 3) := dk_17 0 147 (dk_at dksX4_tile_3 11 rfl rfl)
theorem dX4_tile_98 : decode cX4_tile 98 = .ok (.iload 4, 2) := dk_21 4 (dk_at dksX4_tile_3 14 rfl rfl)
theorem dX4_tile_100 : decode cX4_tile 100 = .ok (.iadd, 1) := dk_96 (dk_at dksX4_tile_3 16 rfl rfl)
theorem dX4_tile_101 : decode cX4_tile 101 = .ok (.iaload, 1) := dk_46 (dk_at dksX4_tile_3 17 rfl rfl)
theorem dX4_tile_102 : decode cX4_tile 102 = .ok (.bipush (-6), 2) := dk_16 250 (dk_at dksX4_tile_3 18 rfl rfl)
theorem dX4_tile_104 : decode cX4_tile 104 = .ok (.if_icmp .ne 7, 3) := dk_160 0 7 (dk_at dksX4_tile_3 20 rfl rfl)
theorem dX4_tile_107 : decode cX4_tile 107 = .ok (.iconst 0, 1) := dk_3 (dk_at dksX4_tile_3 23 rfl rfl)
theorem dX4_tile_108 : decode cX4_tile 108 = .ok (.goto 4, 3) := dk_167 0 4 (dk_at dksX4_tile_4 0 rfl rfl)
theorem dX4_tile_111 : decode cX4_tile 111 = .ok (.iconst 1, 1) := dk_4 (dk_at dksX4_tile_4 3 rfl rfl)
theorem dX4_tile_112 : decode cX4_tile 112 = .ok (.ireturn, 1) := dk_172 (dk_at dksX4_tile_4 4 rfl rfl)
theorem dX4_tile_113 : decode cX4_tile 113 = .ok (.aload_n 0, 1) := dk_42 (dk_at dksX4_tile_4 5 rfl rfl)
theorem dX4_tile_114 : decode cX4_tile 114 = .ok (.iload 4, 2) := dk_21 4 (dk_at dksX4_tile_4 6 rfl rfl)
theorem dX4_tile_116 : decode cX4_tile 116 = .ok (.invokevirtual 142, 3) := dk_182 0 142 (dk_at dksX4_tile_4 8 rfl rfl)
theorem dX4_tile_119 : decode cX4_tile 119 = .ok (.ireturn, 1) := dk_172 (dk_at dksX4_tile_4 11 rfl rfl)
theorem dX4_tile_120 : decode cX4_tile 120 = .ok (.bipush (-2), 2) := dk_16 254 (dk_at dksX4_tile_4 12 rfl rfl)
theorem dX4_tile_122 : decode cX4_tile 122 = .ok (.ireturn, 1) := dk_172 (dk_at dksX4_tile_4 14 rfl rfl)
abbrev cX4_faultsAt : ByteArray := prog_12_method_21_code
def yX4_faultsAt : MethodName := ⟨RX4, "faultsAt", "(I)I"⟩
def dkwX4_faultsAt_1 : List UInt8 := [182, 0, 107, 46, 130, 184, 0, 113, 167, 0, 4, 3, 172]
abbrev dktX4_faultsAt_1 : List UInt8 := dkwX4_faultsAt_1 ++ []
def dkwX4_faultsAt_0 : List UInt8 := [42, 27, 182, 0, 97, 153, 0, 30, 42, 180, 0, 23, 42, 27, 182, 0, 110, 46, 42, 180, 0, 23, 42, 27]
abbrev dktX4_faultsAt_0 : List UInt8 := dkwX4_faultsAt_0 ++ dktX4_faultsAt_1
theorem dksX4_faultsAt_0 : cX4_faultsAt.data.toList.drop 0 = dktX4_faultsAt_0 := by decide +kernel
theorem dksX4_faultsAt_1 : cX4_faultsAt.data.toList.drop 24 = dktX4_faultsAt_1 := dk_seg dksX4_faultsAt_0 24 rfl rfl
theorem dX4_faultsAt_0 : decode cX4_faultsAt 0 = .ok (.aload_n 0, 1) := dk_42 (dk_at dksX4_faultsAt_0 0 rfl rfl)
theorem dX4_faultsAt_1 : decode cX4_faultsAt 1 = .ok (.iload_n 1, 1) := dk_27 (dk_at dksX4_faultsAt_0 1 rfl rfl)
theorem dX4_faultsAt_2 : decode cX4_faultsAt 2 = .ok (.invokevirtual 97, 3) := dk_182 0 97 (dk_at dksX4_faultsAt_0 2 rfl rfl)
theorem dX4_faultsAt_5 : decode cX4_faultsAt 5 = .ok (.ifCond .eq 30, 3) := dk_153 0 30 (dk_at dksX4_faultsAt_0 5 rfl rfl)
theorem dX4_faultsAt_8 : decode cX4_faultsAt 8 = .ok (.aload_n 0, 1) := dk_42 (dk_at dksX4_faultsAt_0 8 rfl rfl)
theorem dX4_faultsAt_9 : decode cX4_faultsAt 9 = .ok (.getfield 23, 3) := dk_180 0 23 (dk_at dksX4_faultsAt_0 9 rfl rfl)
theorem dX4_faultsAt_12 : decode cX4_faultsAt 12 = .ok (.aload_n 0, 1) := dk_42 (dk_at dksX4_faultsAt_0 12 rfl rfl)
theorem dX4_faultsAt_13 : decode cX4_faultsAt 13 = .ok (.iload_n 1, 1) := dk_27 (dk_at dksX4_faultsAt_0 13 rfl rfl)
theorem dX4_faultsAt_14 : decode cX4_faultsAt 14 = .ok (.invokevirtual 110, 3) := dk_182 0 110 (dk_at dksX4_faultsAt_0 14 rfl rfl)
theorem dX4_faultsAt_17 : decode cX4_faultsAt 17 = .ok (.iaload, 1) := dk_46 (dk_at dksX4_faultsAt_0 17 rfl rfl)
theorem dX4_faultsAt_18 : decode cX4_faultsAt 18 = .ok (.aload_n 0, 1) := dk_42 (dk_at dksX4_faultsAt_0 18 rfl rfl)
theorem dX4_faultsAt_19 : decode cX4_faultsAt 19 = .ok (.getfield 23, 3) := dk_180 0 23 (dk_at dksX4_faultsAt_0 19 rfl rfl)
theorem dX4_faultsAt_22 : decode cX4_faultsAt 22 = .ok (.aload_n 0, 1) := dk_42 (dk_at dksX4_faultsAt_0 22 rfl rfl)
theorem dX4_faultsAt_23 : decode cX4_faultsAt 23 = .ok (.iload_n 1, 1) := dk_27 (dk_at dksX4_faultsAt_0 23 rfl rfl)
theorem dX4_faultsAt_24 : decode cX4_faultsAt 24 = .ok (.invokevirtual 107, 3) := dk_182 0 107 (dk_at dksX4_faultsAt_1 0 rfl rfl)
theorem dX4_faultsAt_27 : decode cX4_faultsAt 27 = .ok (.iaload, 1) := dk_46 (dk_at dksX4_faultsAt_1 3 rfl rfl)
theorem dX4_faultsAt_28 : decode cX4_faultsAt 28 = .ok (.ixor, 1) := dk_130 (dk_at dksX4_faultsAt_1 4 rfl rfl)
theorem dX4_faultsAt_29 : decode cX4_faultsAt 29 = .ok (.invokestatic 113, 3) := dk_184 0 113 (dk_at dksX4_faultsAt_1 5 rfl rfl)
theorem dX4_faultsAt_32 : decode cX4_faultsAt 32 = .ok (.goto 4, 3) := dk_167 0 4 (dk_at dksX4_faultsAt_1 8 rfl rfl)
theorem dX4_faultsAt_35 : decode cX4_faultsAt 35 = .ok (.iconst 0, 1) := dk_3 (dk_at dksX4_faultsAt_1 11 rfl rfl)
theorem dX4_faultsAt_36 : decode cX4_faultsAt 36 = .ok (.ireturn, 1) := dk_172 (dk_at dksX4_faultsAt_1 12 rfl rfl)
abbrev cX4_pin : ByteArray := prog_12_method_39_code
def yX4_pin : MethodName := ⟨RX4, "pin", "(III)I"⟩
def dkwX4_pin_2 : List UInt8 := [17, 0, 147, 21, 4, 96, 29, 79, 42, 21, 4, 182, 0, 142, 172]
abbrev dktX4_pin_2 : List UInt8 := dkwX4_pin_2 ++ []
def dkwX4_pin_1 : List UInt8 := [54, 4, 42, 21, 4, 182, 0, 97, 154, 0, 6, 16, 253, 172, 42, 182, 0, 77, 42, 180, 0, 7]
abbrev dktX4_pin_1 : List UInt8 := dkwX4_pin_1 ++ dktX4_pin_2
def dkwX4_pin_0 : List UInt8 := [42, 27, 28, 182, 0, 90, 153, 0, 10, 29, 184, 0, 145, 154, 0, 5, 2, 172, 42, 27, 28, 182, 0, 94]
abbrev dktX4_pin_0 : List UInt8 := dkwX4_pin_0 ++ dktX4_pin_1
theorem dksX4_pin_0 : cX4_pin.data.toList.drop 0 = dktX4_pin_0 := by decide +kernel
theorem dksX4_pin_1 : cX4_pin.data.toList.drop 24 = dktX4_pin_1 := dk_seg dksX4_pin_0 24 rfl rfl
theorem dksX4_pin_2 : cX4_pin.data.toList.drop 46 = dktX4_pin_2 := dk_seg dksX4_pin_1 22 rfl rfl
theorem dX4_pin_0 : decode cX4_pin 0 = .ok (.aload_n 0, 1) := dk_42 (dk_at dksX4_pin_0 0 rfl rfl)
theorem dX4_pin_1 : decode cX4_pin 1 = .ok (.iload_n 1, 1) := dk_27 (dk_at dksX4_pin_0 1 rfl rfl)
theorem dX4_pin_2 : decode cX4_pin 2 = .ok (.iload_n 2, 1) := dk_28 (dk_at dksX4_pin_0 2 rfl rfl)
theorem dX4_pin_3 : decode cX4_pin 3 = .ok (.invokevirtual 90, 3) := dk_182 0 90 (dk_at dksX4_pin_0 3 rfl rfl)
theorem dX4_pin_6 : decode cX4_pin 6 = .ok (.ifCond .eq 10, 3) := dk_153 0 10 (dk_at dksX4_pin_0 6 rfl rfl)
theorem dX4_pin_9 : decode cX4_pin 9 = .ok (.iload_n 3, 1) := dk_29 (dk_at dksX4_pin_0 9 rfl rfl)
theorem dX4_pin_10 : decode cX4_pin 10 = .ok (.invokestatic 145, 3) := dk_184 0 145 (dk_at dksX4_pin_0 10 rfl rfl)
theorem dX4_pin_13 : decode cX4_pin 13 = .ok (.ifCond .ne 5, 3) := dk_154 0 5 (dk_at dksX4_pin_0 13 rfl rfl)
theorem dX4_pin_16 : decode cX4_pin 16 = .ok (.iconst (-1), 1) := dk_2 (dk_at dksX4_pin_0 16 rfl rfl)
theorem dX4_pin_17 : decode cX4_pin 17 = .ok (.ireturn, 1) := dk_172 (dk_at dksX4_pin_0 17 rfl rfl)
theorem dX4_pin_18 : decode cX4_pin 18 = .ok (.aload_n 0, 1) := dk_42 (dk_at dksX4_pin_0 18 rfl rfl)
theorem dX4_pin_19 : decode cX4_pin 19 = .ok (.iload_n 1, 1) := dk_27 (dk_at dksX4_pin_0 19 rfl rfl)
theorem dX4_pin_20 : decode cX4_pin 20 = .ok (.iload_n 2, 1) := dk_28 (dk_at dksX4_pin_0 20 rfl rfl)
theorem dX4_pin_21 : decode cX4_pin 21 = .ok (.invokevirtual 94, 3) := dk_182 0 94 (dk_at dksX4_pin_0 21 rfl rfl)
theorem dX4_pin_24 : decode cX4_pin 24 = .ok (.istore 4, 2) := dk_54 4 (dk_at dksX4_pin_1 0 rfl rfl)
theorem dX4_pin_26 : decode cX4_pin 26 = .ok (.aload_n 0, 1) := dk_42 (dk_at dksX4_pin_1 2 rfl rfl)
theorem dX4_pin_27 : decode cX4_pin 27 = .ok (.iload 4, 2) := dk_21 4 (dk_at dksX4_pin_1 3 rfl rfl)
theorem dX4_pin_29 : decode cX4_pin 29 = .ok (.invokevirtual 97, 3) := dk_182 0 97 (dk_at dksX4_pin_1 5 rfl rfl)
theorem dX4_pin_32 : decode cX4_pin 32 = .ok (.ifCond .ne 6, 3) := dk_154 0 6 (dk_at dksX4_pin_1 8 rfl rfl)
theorem dX4_pin_35 : decode cX4_pin 35 = .ok (.bipush (-3), 2) := dk_16 253 (dk_at dksX4_pin_1 11 rfl rfl)
theorem dX4_pin_37 : decode cX4_pin 37 = .ok (.ireturn, 1) := dk_172 (dk_at dksX4_pin_1 13 rfl rfl)
theorem dX4_pin_38 : decode cX4_pin 38 = .ok (.aload_n 0, 1) := dk_42 (dk_at dksX4_pin_1 14 rfl rfl)
theorem dX4_pin_39 : decode cX4_pin 39 = .ok (.invokevirtual 77, 3) := dk_182 0 77 (dk_at dksX4_pin_1 15 rfl rfl)
theorem dX4_pin_42 : decode cX4_pin 42 = .ok (.aload_n 0, 1) := dk_42 (dk_at dksX4_pin_1 18 rfl rfl)
theorem dX4_pin_43 : decode cX4_pin 43 = .ok (.getfield 7, 3) := dk_180 0 7 (dk_at dksX4_pin_1 19 rfl rfl)
theorem dX4_pin_46 : decode cX4_pin 46 = .ok (.sipush 147, 3) := dk_17 0 147 (dk_at dksX4_pin_2 0 rfl rfl)
theorem dX4_pin_49 : decode cX4_pin 49 = .ok (.iload 4, 2) := dk_21 4 (dk_at dksX4_pin_2 3 rfl rfl)
theorem dX4_pin_51 : decode cX4_pin 51 = .ok (.iadd, 1) := dk_96 (dk_at dksX4_pin_2 5 rfl rfl)
theorem dX4_pin_52 : decode cX4_pin 52 = .ok (.iload_n 3, 1) := dk_29 (dk_at dksX4_pin_2 6 rfl rfl)
theorem dX4_pin_53 : decode cX4_pin 53 = .ok (.iastore, 1) := dk_79 (dk_at dksX4_pin_2 7 rfl rfl)
theorem dX4_pin_54 : decode cX4_pin 54 = .ok (.aload_n 0, 1) := dk_42 (dk_at dksX4_pin_2 8 rfl rfl)
theorem dX4_pin_55 : decode cX4_pin 55 = .ok (.iload 4, 2) := dk_21 4 (dk_at dksX4_pin_2 9 rfl rfl)
theorem dX4_pin_57 : decode cX4_pin 57 = .ok (.invokevirtual 142, 3) := dk_182 0 142 (dk_at dksX4_pin_2 11 rfl rfl)
theorem dX4_pin_60 : decode cX4_pin 60 = .ok (.ireturn, 1) := dk_172 (dk_at dksX4_pin_2 14 rfl rfl)
abbrev cX4_isShape : ByteArray := prog_12_method_38_code
def yX4_isShape : MethodName := ⟨RX4, "isShape", "(I)Z"⟩
def dkwX4_isShape_0 : List UInt8 := [26, 3, 16, 46, 184, 0, 61, 172]
abbrev dktX4_isShape_0 : List UInt8 := dkwX4_isShape_0 ++ []
theorem dksX4_isShape_0 : cX4_isShape.data.toList.drop 0 = dktX4_isShape_0 := by decide +kernel
theorem dX4_isShape_0 : decode cX4_isShape 0 = .ok (.iload_n 0, 1) := dk_26 (dk_at dksX4_isShape_0 0 rfl rfl)
theorem dX4_isShape_1 : decode cX4_isShape 1 = .ok (.iconst 0, 1) := dk_3 (dk_at dksX4_isShape_0 1 rfl rfl)
theorem dX4_isShape_2 : decode cX4_isShape 2 = .ok (.bipush 46, 2) := dk_16 46 (dk_at dksX4_isShape_0 2 rfl rfl)
theorem dX4_isShape_4 : decode cX4_isShape 4 = .ok (.invokestatic 61, 3) := dk_184 0 61 (dk_at dksX4_isShape_0 4 rfl rfl)
theorem dX4_isShape_7 : decode cX4_isShape 7 = .ok (.ireturn, 1) := dk_172 (dk_at dksX4_isShape_0 7 rfl rfl)
abbrev cX4_unpin : ByteArray := prog_12_method_40_code
def yX4_unpin : MethodName := ⟨RX4, "unpin", "(II)I"⟩
def dkwX4_unpin_2 : List UInt8 := [27, 28, 182, 0, 94, 96, 16, 250, 79, 29, 172]
abbrev dktX4_unpin_2 : List UInt8 := dkwX4_unpin_2 ++ []
def dkwX4_unpin_1 : List UInt8 := [96, 46, 62, 29, 16, 250, 160, 0, 6, 16, 253, 172, 42, 182, 0, 77, 42, 180, 0, 7, 17, 0, 147, 42]
abbrev dktX4_unpin_1 : List UInt8 := dkwX4_unpin_1 ++ dktX4_unpin_2
def dkwX4_unpin_0 : List UInt8 := [42, 27, 28, 182, 0, 90, 154, 0, 5, 2, 172, 42, 180, 0, 7, 17, 0, 147, 42, 27, 28, 182, 0, 94]
abbrev dktX4_unpin_0 : List UInt8 := dkwX4_unpin_0 ++ dktX4_unpin_1
theorem dksX4_unpin_0 : cX4_unpin.data.toList.drop 0 = dktX4_unpin_0 := by decide +kernel
theorem dksX4_unpin_1 : cX4_unpin.data.toList.drop 24 = dktX4_unpin_1 := dk_seg dksX4_unpin_0 24 rfl rfl
theorem dksX4_unpin_2 : cX4_unpin.data.toList.drop 48 = dktX4_unpin_2 := dk_seg dksX4_unpin_1 24 rfl rfl
theorem dX4_unpin_0 : decode cX4_unpin 0 = .ok (.aload_n 0, 1) := dk_42 (dk_at dksX4_unpin_0 0 rfl rfl)
theorem dX4_unpin_1 : decode cX4_unpin 1 = .ok (.iload_n 1, 1) := dk_27 (dk_at dksX4_unpin_0 1 rfl rfl)
theorem dX4_unpin_2 : decode cX4_unpin 2 = .ok (.iload_n 2, 1) := dk_28 (dk_at dksX4_unpin_0 2 rfl rfl)
theorem dX4_unpin_3 : decode cX4_unpin 3 = .ok (.invokevirtual 90, 3) := dk_182 0 90 (dk_at dksX4_unpin_0 3 rfl rfl)
theorem dX4_unpin_6 : decode cX4_unpin 6 = .ok (.ifCond .ne 5, 3) := dk_154 0 5 (dk_at dksX4_unpin_0 6 rfl rfl)
theorem dX4_unpin_9 : decode cX4_unpin 9 = .ok (.iconst (-1), 1) := dk_2 (dk_at dksX4_unpin_0 9 rfl rfl)
theorem dX4_unpin_10 : decode cX4_unpin 10 = .ok (.ireturn, 1) := dk_172 (dk_at dksX4_unpin_0 10 rfl rfl)
theorem dX4_unpin_11 : decode cX4_unpin 11 = .ok (.aload_n 0, 1) := dk_42 (dk_at dksX4_unpin_0 11 rfl rfl)
theorem dX4_unpin_12 : decode cX4_unpin 12 = .ok (.getfield 7, 3) := dk_180 0 7 (dk_at dksX4_unpin_0 12 rfl rfl)
theorem dX4_unpin_15 : decode cX4_unpin 15 = .ok (.sipush 147, 3) := dk_17 0 147 (dk_at dksX4_unpin_0 15 rfl rfl)
theorem dX4_unpin_18 : decode cX4_unpin 18 = .ok (.aload_n 0, 1) := dk_42 (dk_at dksX4_unpin_0 18 rfl rfl)
theorem dX4_unpin_19 : decode cX4_unpin 19 = .ok (.iload_n 1, 1) := dk_27 (dk_at dksX4_unpin_0 19 rfl rfl)
theorem dX4_unpin_20 : decode cX4_unpin 20 = .ok (.iload_n 2, 1) := dk_28 (dk_at dksX4_unpin_0 20 rfl rfl)
theorem dX4_unpin_21 : decode cX4_unpin 21 = .ok (.invokevirtual 94, 3) := dk_182 0 94 (dk_at dksX4_unpin_0 21 rfl rfl)
theorem dX4_unpin_24 : decode cX4_unpin 24 = .ok (.iadd, 1) := dk_96 (dk_at dksX4_unpin_1 0 rfl rfl)
theorem dX4_unpin_25 : decode cX4_unpin 25 = .ok (.iaload, 1) := dk_46 (dk_at dksX4_unpin_1 1 rfl rfl)
theorem dX4_unpin_26 : decode cX4_unpin 26 = .ok (.istore_n 3, 1) := dk_62 (dk_at dksX4_unpin_1 2 rfl rfl)
theorem dX4_unpin_27 : decode cX4_unpin 27 = .ok (.iload_n 3, 1) := dk_29 (dk_at dksX4_unpin_1 3 rfl rfl)
theorem dX4_unpin_28 : decode cX4_unpin 28 = .ok (.bipush (-6), 2) := dk_16 250 (dk_at dksX4_unpin_1 4 rfl rfl)
theorem dX4_unpin_30 : decode cX4_unpin 30 = .ok (.if_icmp .ne 6, 3) := dk_160 0 6 (dk_at dksX4_unpin_1 6 rfl rfl)
theorem dX4_unpin_33 : decode cX4_unpin 33 = .ok (.bipush (-3), 2) := dk_16 253 (dk_at dksX4_unpin_1 9 rfl rfl)
theorem dX4_unpin_35 : decode cX4_unpin 35 = .ok (.ireturn, 1) := dk_172 (dk_at dksX4_unpin_1 11 rfl rfl)
theorem dX4_unpin_36 : decode cX4_unpin 36 = .ok (.aload_n 0, 1) := dk_42 (dk_at dksX4_unpin_1 12 rfl rfl)
theorem dX4_unpin_37 : decode cX4_unpin 37 = .ok (.invokevirtual 77, 3) := dk_182 0 77 (dk_at dksX4_unpin_1 13 rfl rfl)
theorem dX4_unpin_40 : decode cX4_unpin 40 = .ok (.aload_n 0, 1) := dk_42 (dk_at dksX4_unpin_1 16 rfl rfl)
theorem dX4_unpin_41 : decode cX4_unpin 41 = .ok (.getfield 7, 3) := dk_180 0 7 (dk_at dksX4_unpin_1 17 rfl rfl)
theorem dX4_unpin_44 : decode cX4_unpin 44 = .ok (.sipush 147, 3) := dk_17 0 147 (dk_at dksX4_unpin_1 20 rfl rfl)
theorem dX4_unpin_47 : decode cX4_unpin 47 = .ok (.aload_n 0, 1) := dk_42 (dk_at dksX4_unpin_1 23 rfl rfl)
theorem dX4_unpin_48 : decode cX4_unpin 48 = .ok (.iload_n 1, 1) := dk_27 (dk_at dksX4_unpin_2 0 rfl rfl)
theorem dX4_unpin_49 : decode cX4_unpin 49 = .ok (.iload_n 2, 1) := dk_28 (dk_at dksX4_unpin_2 1 rfl rfl)
theorem dX4_unpin_50 : decode cX4_unpin 50 = .ok (.invokevirtual 94, 3) := dk_182 0 94 (dk_at dksX4_unpin_2 2 rfl rfl)
theorem dX4_unpin_53 : decode cX4_unpin 53 = .ok (.iadd, 1) := dk_96 (dk_at dksX4_unpin_2 5 rfl rfl)
theorem dX4_unpin_54 : decode cX4_unpin 54 = .ok (.bipush (-6), 2) := dk_16 250 (dk_at dksX4_unpin_2 6 rfl rfl)
theorem dX4_unpin_56 : decode cX4_unpin 56 = .ok (.iastore, 1) := dk_79 (dk_at dksX4_unpin_2 8 rfl rfl)
theorem dX4_unpin_57 : decode cX4_unpin 57 = .ok (.iload_n 3, 1) := dk_29 (dk_at dksX4_unpin_2 9 rfl rfl)
theorem dX4_unpin_58 : decode cX4_unpin 58 = .ok (.ireturn, 1) := dk_172 (dk_at dksX4_unpin_2 10 rfl rfl)
abbrev cX4_faults : ByteArray := prog_12_method_41_code
def yX4_faults : MethodName := ⟨RX4, "faults", "()I"⟩
def dkwX4_faults_1 : List UInt8 := [167, 255, 237, 27, 172]
abbrev dktX4_faults_1 : List UInt8 := dkwX4_faults_1 ++ []
def dkwX4_faults_0 : List UInt8 := [3, 60, 3, 61, 28, 42, 182, 0, 116, 162, 0, 17, 27, 42, 28, 182, 0, 142, 96, 60, 132, 2, 1]
abbrev dktX4_faults_0 : List UInt8 := dkwX4_faults_0 ++ dktX4_faults_1
theorem dksX4_faults_0 : cX4_faults.data.toList.drop 0 = dktX4_faults_0 := by decide +kernel
theorem dksX4_faults_1 : cX4_faults.data.toList.drop 23 = dktX4_faults_1 := dk_seg dksX4_faults_0 23 rfl rfl
theorem dX4_faults_0 : decode cX4_faults 0 = .ok (.iconst 0, 1) := dk_3 (dk_at dksX4_faults_0 0 rfl rfl)
theorem dX4_faults_1 : decode cX4_faults 1 = .ok (.istore_n 1, 1) := dk_60 (dk_at dksX4_faults_0 1 rfl rfl)
theorem dX4_faults_2 : decode cX4_faults 2 = .ok (.iconst 0, 1) := dk_3 (dk_at dksX4_faults_0 2 rfl rfl)
theorem dX4_faults_3 : decode cX4_faults 3 = .ok (.istore_n 2, 1) := dk_61 (dk_at dksX4_faults_0 3 rfl rfl)
theorem dX4_faults_4 : decode cX4_faults 4 = .ok (.iload_n 2, 1) := dk_28 (dk_at dksX4_faults_0 4 rfl rfl)
theorem dX4_faults_5 : decode cX4_faults 5 = .ok (.aload_n 0, 1) := dk_42 (dk_at dksX4_faults_0 5 rfl rfl)
theorem dX4_faults_6 : decode cX4_faults 6 = .ok (.invokevirtual 116, 3) := dk_182 0 116 (dk_at dksX4_faults_0 6 rfl rfl)
theorem dX4_faults_9 : decode cX4_faults 9 = .ok (.if_icmp .ge 17, 3) := dk_162 0 17 (dk_at dksX4_faults_0 9 rfl rfl)
theorem dX4_faults_12 : decode cX4_faults 12 = .ok (.iload_n 1, 1) := dk_27 (dk_at dksX4_faults_0 12 rfl rfl)
theorem dX4_faults_13 : decode cX4_faults 13 = .ok (.aload_n 0, 1) := dk_42 (dk_at dksX4_faults_0 13 rfl rfl)
theorem dX4_faults_14 : decode cX4_faults 14 = .ok (.iload_n 2, 1) := dk_28 (dk_at dksX4_faults_0 14 rfl rfl)
theorem dX4_faults_15 : decode cX4_faults 15 = .ok (.invokevirtual 142, 3) := dk_182 0 142 (dk_at dksX4_faults_0 15 rfl rfl)
theorem dX4_faults_18 : decode cX4_faults 18 = .ok (.iadd, 1) := dk_96 (dk_at dksX4_faults_0 18 rfl rfl)
theorem dX4_faults_19 : decode cX4_faults 19 = .ok (.istore_n 1, 1) := dk_60 (dk_at dksX4_faults_0 19 rfl rfl)
theorem dX4_faults_20 : decode cX4_faults 20 = .ok (.iinc 2 1, 3) := dk_132 2 1 (dk_at dksX4_faults_0 20 rfl rfl)
theorem dX4_faults_23 : decode cX4_faults 23 = .ok (.goto (-19), 3) := dk_167 255 237 (dk_at dksX4_faults_1 0 rfl rfl)
theorem dX4_faults_26 : decode cX4_faults 26 = .ok (.iload_n 1, 1) := dk_27 (dk_at dksX4_faults_1 3 rfl rfl)
theorem dX4_faults_27 : decode cX4_faults 27 = .ok (.ireturn, 1) := dk_172 (dk_at dksX4_faults_1 4 rfl rfl)
abbrev cX4_firstFault : ByteArray := prog_12_method_43_code
def yX4_firstFault : MethodName := ⟨RX4, "firstFault", "()I"⟩
def dkwX4_firstFault_1 : List UInt8 := [132, 1, 1, 167, 255, 231, 16, 250, 172]
abbrev dktX4_firstFault_1 : List UInt8 := dkwX4_firstFault_1 ++ []
def dkwX4_firstFault_0 : List UInt8 := [3, 60, 27, 42, 182, 0, 116, 162, 0, 23, 42, 27, 182, 0, 142, 158, 0, 9, 42, 27, 182, 0, 148, 172]
abbrev dktX4_firstFault_0 : List UInt8 := dkwX4_firstFault_0 ++ dktX4_firstFault_1
theorem dksX4_firstFault_0 : cX4_firstFault.data.toList.drop 0 = dktX4_firstFault_0 := by decide +kernel
theorem dksX4_firstFault_1 : cX4_firstFault.data.toList.drop 24 = dktX4_firstFault_1 := dk_seg dksX4_firstFault_0 24 rfl rfl
theorem dX4_firstFault_0 : decode cX4_firstFault 0 = .ok (.iconst 0, 1) := dk_3 (dk_at dksX4_firstFault_0 0 rfl rfl)
theorem dX4_firstFault_1 : decode cX4_firstFault 1 = .ok (.istore_n 1, 1) := dk_60 (dk_at dksX4_firstFault_0 1 rfl rfl)
theorem dX4_firstFault_2 : decode cX4_firstFault 2 = .ok (.iload_n 1, 1) := dk_27 (dk_at dksX4_firstFault_0 2 rfl rfl)
theorem dX4_firstFault_3 : decode cX4_firstFault 3 = .ok (.aload_n 0, 1) := dk_42 (dk_at dksX4_firstFault_0 3 rfl rfl)
theorem dX4_firstFault_4 : decode cX4_firstFault 4 = .ok (.invokevirtual 116, 3) := dk_182 0 116 (dk_at dksX4_firstFault_0 4 rfl rfl)
theorem dX4_firstFault_7 : decode cX4_firstFault 7 = .ok (.if_icmp .ge 23, 3) := dk_162 0 23 (dk_at dksX4_firstFault_0 7 rfl rfl)
theorem dX4_firstFault_10 : decode cX4_firstFault 10 = .ok (.aload_n 0, 1) := dk_42 (dk_at dksX4_firstFault_0 10 rfl rfl)
theorem dX4_firstFault_11 : decode cX4_firstFault 11 = .ok (.iload_n 1, 1) := dk_27 (dk_at dksX4_firstFault_0 11 rfl rfl)
theorem dX4_firstFault_12 : decode cX4_firstFault 12 = .ok (.invokevirtual 142, 3) := dk_182 0 142 (dk_at dksX4_firstFault_0 12 rfl rfl)
theorem dX4_firstFault_15 : decode cX4_firstFault 15 = .ok (.ifCond .le 9, 3) := dk_158 0 9 (dk_at dksX4_firstFault_0 15 rfl rfl)
theorem dX4_firstFault_18 : decode cX4_firstFault 18 = .ok (.aload_n 0, 1) := dk_42 (dk_at dksX4_firstFault_0 18 rfl rfl)
theorem dX4_firstFault_19 : decode cX4_firstFault 19 = .ok (.iload_n 1, 1) := dk_27 (dk_at dksX4_firstFault_0 19 rfl rfl)
theorem dX4_firstFault_20 : decode cX4_firstFault 20 = .ok (.invokevirtual 148, 3) := dk_182 0 148 (dk_at dksX4_firstFault_0 20 rfl rfl)
theorem dX4_firstFault_23 : decode cX4_firstFault 23 = .ok (.ireturn, 1) := dk_172 (dk_at dksX4_firstFault_0 23 rfl rfl)
theorem dX4_firstFault_24 : decode cX4_firstFault 24 = .ok (.iinc 1 1, 3) := dk_132 1 1 (dk_at dksX4_firstFault_1 0 rfl rfl)
theorem dX4_firstFault_27 : decode cX4_firstFault 27 = .ok (.goto (-25), 3) := dk_167 255 231 (dk_at dksX4_firstFault_1 3 rfl rfl)
theorem dX4_firstFault_30 : decode cX4_firstFault 30 = .ok (.bipush (-6), 2) := dk_16 250 (dk_at dksX4_firstFault_1 6 rfl rfl)
theorem dX4_firstFault_32 : decode cX4_firstFault 32 = .ok (.ireturn, 1) := dk_172 (dk_at dksX4_firstFault_1 8 rfl rfl)
abbrev cX4_told : ByteArray := prog_12_method_42_code
def yX4_told : MethodName := ⟨RX4, "told", "(I)I"⟩
def dkwX4_told_0 : List UInt8 := [16, 100, 27, 42, 180, 0, 7, 4, 46, 108, 104, 27, 42, 180, 0, 7, 4, 46, 112, 96, 172]
abbrev dktX4_told_0 : List UInt8 := dkwX4_told_0 ++ []
theorem dksX4_told_0 : cX4_told.data.toList.drop 0 = dktX4_told_0 := by decide +kernel
theorem dX4_told_0 : decode cX4_told 0 = .ok (.bipush 100, 2) := dk_16 100 (dk_at dksX4_told_0 0 rfl rfl)
theorem dX4_told_2 : decode cX4_told 2 = .ok (.iload_n 1, 1) := dk_27 (dk_at dksX4_told_0 2 rfl rfl)
theorem dX4_told_3 : decode cX4_told 3 = .ok (.aload_n 0, 1) := dk_42 (dk_at dksX4_told_0 3 rfl rfl)
theorem dX4_told_4 : decode cX4_told 4 = .ok (.getfield 7, 3) := dk_180 0 7 (dk_at dksX4_told_0 4 rfl rfl)
theorem dX4_told_7 : decode cX4_told 7 = .ok (.iconst 1, 1) := dk_4 (dk_at dksX4_told_0 7 rfl rfl)
theorem dX4_told_8 : decode cX4_told 8 = .ok (.iaload, 1) := dk_46 (dk_at dksX4_told_0 8 rfl rfl)
theorem dX4_told_9 : decode cX4_told 9 = .ok (.idiv, 1) := dk_108 (dk_at dksX4_told_0 9 rfl rfl)
theorem dX4_told_10 : decode cX4_told 10 = .ok (.imul, 1) := dk_104 (dk_at dksX4_told_0 10 rfl rfl)
theorem dX4_told_11 : decode cX4_told 11 = .ok (.iload_n 1, 1) := dk_27 (dk_at dksX4_told_0 11 rfl rfl)
theorem dX4_told_12 : decode cX4_told 12 = .ok (.aload_n 0, 1) := dk_42 (dk_at dksX4_told_0 12 rfl rfl)
theorem dX4_told_13 : decode cX4_told 13 = .ok (.getfield 7, 3) := dk_180 0 7 (dk_at dksX4_told_0 13 rfl rfl)
theorem dX4_told_16 : decode cX4_told 16 = .ok (.iconst 1, 1) := dk_4 (dk_at dksX4_told_0 16 rfl rfl)
theorem dX4_told_17 : decode cX4_told 17 = .ok (.iaload, 1) := dk_46 (dk_at dksX4_told_0 17 rfl rfl)
theorem dX4_told_18 : decode cX4_told 18 = .ok (.irem, 1) := dk_112 (dk_at dksX4_told_0 18 rfl rfl)
theorem dX4_told_19 : decode cX4_told 19 = .ok (.iadd, 1) := dk_96 (dk_at dksX4_told_0 19 rfl rfl)
theorem dX4_told_20 : decode cX4_told 20 = .ok (.ireturn, 1) := dk_172 (dk_at dksX4_told_0 20 rfl rfl)
abbrev cX4_maskOf : ByteArray := prog_12_method_44_code
def yX4_maskOf : MethodName := ⟨RX4, "maskOf", "(I)I"⟩
def dkwX4_maskOf_0 : List UInt8 := [27, 184, 0, 145, 153, 0, 12, 42, 180, 0, 23, 27, 46, 167, 0, 4, 2, 172]
abbrev dktX4_maskOf_0 : List UInt8 := dkwX4_maskOf_0 ++ []
theorem dksX4_maskOf_0 : cX4_maskOf.data.toList.drop 0 = dktX4_maskOf_0 := by decide +kernel
theorem dX4_maskOf_0 : decode cX4_maskOf 0 = .ok (.iload_n 1, 1) := dk_27 (dk_at dksX4_maskOf_0 0 rfl rfl)
theorem dX4_maskOf_1 : decode cX4_maskOf 1 = .ok (.invokestatic 145, 3) := dk_184 0 145 (dk_at dksX4_maskOf_0 1 rfl rfl)
theorem dX4_maskOf_4 : decode cX4_maskOf 4 = .ok (.ifCond .eq 12, 3) := dk_153 0 12 (dk_at dksX4_maskOf_0 4 rfl rfl)
theorem dX4_maskOf_7 : decode cX4_maskOf 7 = .ok (.aload_n 0, 1) := dk_42 (dk_at dksX4_maskOf_0 7 rfl rfl)
theorem dX4_maskOf_8 : decode cX4_maskOf 8 = .ok (.getfield 23, 3) := dk_180 0 23 (dk_at dksX4_maskOf_0 8 rfl rfl)
theorem dX4_maskOf_11 : decode cX4_maskOf 11 = .ok (.iload_n 1, 1) := dk_27 (dk_at dksX4_maskOf_0 11 rfl rfl)
theorem dX4_maskOf_12 : decode cX4_maskOf 12 = .ok (.iaload, 1) := dk_46 (dk_at dksX4_maskOf_0 12 rfl rfl)
theorem dX4_maskOf_13 : decode cX4_maskOf 13 = .ok (.goto 4, 3) := dk_167 0 4 (dk_at dksX4_maskOf_0 13 rfl rfl)
theorem dX4_maskOf_16 : decode cX4_maskOf 16 = .ok (.iconst (-1), 1) := dk_2 (dk_at dksX4_maskOf_0 16 rfl rfl)
theorem dX4_maskOf_17 : decode cX4_maskOf 17 = .ok (.ireturn, 1) := dk_172 (dk_at dksX4_maskOf_0 17 rfl rfl)
abbrev cX4_shapeOf : ByteArray := prog_12_method_45_code
def yX4_shapeOf : MethodName := ⟨RX4, "shapeOf", "(I)I"⟩
def dkwX4_shapeOf_0 : List UInt8 := [27, 3, 17, 0, 255, 184, 0, 61, 153, 0, 12, 42, 180, 0, 26, 27, 46, 167, 0, 5, 16, 254, 172]
abbrev dktX4_shapeOf_0 : List UInt8 := dkwX4_shapeOf_0 ++ []
theorem dksX4_shapeOf_0 : cX4_shapeOf.data.toList.drop 0 = dktX4_shapeOf_0 := by decide +kernel
theorem dX4_shapeOf_0 : decode cX4_shapeOf 0 = .ok (.iload_n 1, 1) := dk_27 (dk_at dksX4_shapeOf_0 0 rfl rfl)
theorem dX4_shapeOf_1 : decode cX4_shapeOf 1 = .ok (.iconst 0, 1) := dk_3 (dk_at dksX4_shapeOf_0 1 rfl rfl)
theorem dX4_shapeOf_2 : decode cX4_shapeOf 2 = .ok (.sipush 255, 3) := dk_17 0 255 (dk_at dksX4_shapeOf_0 2 rfl rfl)
theorem dX4_shapeOf_5 : decode cX4_shapeOf 5 = .ok (.invokestatic 61, 3) := dk_184 0 61 (dk_at dksX4_shapeOf_0 5 rfl rfl)
theorem dX4_shapeOf_8 : decode cX4_shapeOf 8 = .ok (.ifCond .eq 12, 3) := dk_153 0 12 (dk_at dksX4_shapeOf_0 8 rfl rfl)
theorem dX4_shapeOf_11 : decode cX4_shapeOf 11 = .ok (.aload_n 0, 1) := dk_42 (dk_at dksX4_shapeOf_0 11 rfl rfl)
theorem dX4_shapeOf_12 : decode cX4_shapeOf 12 = .ok (.getfield 26, 3) := dk_180 0 26 (dk_at dksX4_shapeOf_0 12 rfl rfl)
theorem dX4_shapeOf_15 : decode cX4_shapeOf 15 = .ok (.iload_n 1, 1) := dk_27 (dk_at dksX4_shapeOf_0 15 rfl rfl)
theorem dX4_shapeOf_16 : decode cX4_shapeOf 16 = .ok (.iaload, 1) := dk_46 (dk_at dksX4_shapeOf_0 16 rfl rfl)
theorem dX4_shapeOf_17 : decode cX4_shapeOf 17 = .ok (.goto 5, 3) := dk_167 0 5 (dk_at dksX4_shapeOf_0 17 rfl rfl)
theorem dX4_shapeOf_20 : decode cX4_shapeOf 20 = .ok (.bipush (-2), 2) := dk_16 254 (dk_at dksX4_shapeOf_0 20 rfl rfl)
theorem dX4_shapeOf_22 : decode cX4_shapeOf 22 = .ok (.ireturn, 1) := dk_172 (dk_at dksX4_shapeOf_0 22 rfl rfl)
abbrev cX4_turned : ByteArray := prog_12_method_46_code
def yX4_turned : MethodName := ⟨RX4, "turned", "(II)I"⟩
def dkwX4_turned_1 : List UInt8 := [167, 0, 5, 16, 254, 172]
abbrev dktX4_turned_1 : List UInt8 := dkwX4_turned_1 ++ []
def dkwX4_turned_0 : List UInt8 := [27, 184, 0, 145, 154, 0, 5, 2, 172, 28, 3, 6, 184, 0, 61, 153, 0, 12, 42, 27, 28, 182, 0, 136]
abbrev dktX4_turned_0 : List UInt8 := dkwX4_turned_0 ++ dktX4_turned_1
theorem dksX4_turned_0 : cX4_turned.data.toList.drop 0 = dktX4_turned_0 := by decide +kernel
theorem dksX4_turned_1 : cX4_turned.data.toList.drop 24 = dktX4_turned_1 := dk_seg dksX4_turned_0 24 rfl rfl
theorem dX4_turned_0 : decode cX4_turned 0 = .ok (.iload_n 1, 1) := dk_27 (dk_at dksX4_turned_0 0 rfl rfl)
theorem dX4_turned_1 : decode cX4_turned 1 = .ok (.invokestatic 145, 3) := dk_184 0 145 (dk_at dksX4_turned_0 1 rfl rfl)
theorem dX4_turned_4 : decode cX4_turned 4 = .ok (.ifCond .ne 5, 3) := dk_154 0 5 (dk_at dksX4_turned_0 4 rfl rfl)
theorem dX4_turned_7 : decode cX4_turned 7 = .ok (.iconst (-1), 1) := dk_2 (dk_at dksX4_turned_0 7 rfl rfl)
theorem dX4_turned_8 : decode cX4_turned 8 = .ok (.ireturn, 1) := dk_172 (dk_at dksX4_turned_0 8 rfl rfl)
theorem dX4_turned_9 : decode cX4_turned 9 = .ok (.iload_n 2, 1) := dk_28 (dk_at dksX4_turned_0 9 rfl rfl)
theorem dX4_turned_10 : decode cX4_turned 10 = .ok (.iconst 0, 1) := dk_3 (dk_at dksX4_turned_0 10 rfl rfl)
theorem dX4_turned_11 : decode cX4_turned 11 = .ok (.iconst 3, 1) := dk_6 (dk_at dksX4_turned_0 11 rfl rfl)
theorem dX4_turned_12 : decode cX4_turned 12 = .ok (.invokestatic 61, 3) := dk_184 0 61 (dk_at dksX4_turned_0 12 rfl rfl)
theorem dX4_turned_15 : decode cX4_turned 15 = .ok (.ifCond .eq 12, 3) := dk_153 0 12 (dk_at dksX4_turned_0 15 rfl rfl)
theorem dX4_turned_18 : decode cX4_turned 18 = .ok (.aload_n 0, 1) := dk_42 (dk_at dksX4_turned_0 18 rfl rfl)
theorem dX4_turned_19 : decode cX4_turned 19 = .ok (.iload_n 1, 1) := dk_27 (dk_at dksX4_turned_0 19 rfl rfl)
theorem dX4_turned_20 : decode cX4_turned 20 = .ok (.iload_n 2, 1) := dk_28 (dk_at dksX4_turned_0 20 rfl rfl)
theorem dX4_turned_21 : decode cX4_turned 21 = .ok (.invokevirtual 136, 3) := dk_182 0 136 (dk_at dksX4_turned_0 21 rfl rfl)
theorem dX4_turned_24 : decode cX4_turned 24 = .ok (.goto 5, 3) := dk_167 0 5 (dk_at dksX4_turned_1 0 rfl rfl)
theorem dX4_turned_27 : decode cX4_turned 27 = .ok (.bipush (-2), 2) := dk_16 254 (dk_at dksX4_turned_1 3 rfl rfl)
theorem dX4_turned_29 : decode cX4_turned 29 = .ok (.ireturn, 1) := dk_172 (dk_at dksX4_turned_1 5 rfl rfl)
abbrev cX4_mirrored : ByteArray := prog_12_method_47_code
def yX4_mirrored : MethodName := ⟨RX4, "mirrored", "(I)I"⟩
def dkwX4_mirrored_2 : List UInt8 := [46, 172]
abbrev dktX4_mirrored_2 : List UInt8 := dkwX4_mirrored_2 ++ []
def dkwX4_mirrored_1 : List UInt8 := [27, 46, 16, 8, 29, 100, 184, 0, 80, 29, 120, 128, 61, 132, 3, 1, 167, 255, 229, 42, 180, 0, 26, 28]
abbrev dktX4_mirrored_1 : List UInt8 := dkwX4_mirrored_1 ++ dktX4_mirrored_2
def dkwX4_mirrored_0 : List UInt8 := [27, 184, 0, 145, 154, 0, 5, 2, 172, 3, 61, 3, 62, 29, 16, 8, 162, 0, 27, 28, 42, 180, 0, 23]
abbrev dktX4_mirrored_0 : List UInt8 := dkwX4_mirrored_0 ++ dktX4_mirrored_1
theorem dksX4_mirrored_0 : cX4_mirrored.data.toList.drop 0 = dktX4_mirrored_0 := by decide +kernel
theorem dksX4_mirrored_1 : cX4_mirrored.data.toList.drop 24 = dktX4_mirrored_1 := dk_seg dksX4_mirrored_0 24 rfl rfl
theorem dksX4_mirrored_2 : cX4_mirrored.data.toList.drop 48 = dktX4_mirrored_2 := dk_seg dksX4_mirrored_1 24 rfl rfl
theorem dX4_mirrored_0 : decode cX4_mirrored 0 = .ok (.iload_n 1, 1) := dk_27 (dk_at dksX4_mirrored_0 0 rfl rfl)
theorem dX4_mirrored_1 : decode cX4_mirrored 1 = .ok (.invokestatic 145, 3) := dk_184 0 145 (dk_at dksX4_mirrored_0 1 rfl rfl)
theorem dX4_mirrored_4 : decode cX4_mirrored 4 = .ok (.ifCond .ne 5, 3) := dk_154 0 5 (dk_at dksX4_mirrored_0 4 rfl rfl)
theorem dX4_mirrored_7 : decode cX4_mirrored 7 = .ok (.iconst (-1), 1) := dk_2 (dk_at dksX4_mirrored_0 7 rfl rfl)
theorem dX4_mirrored_8 : decode cX4_mirrored 8 = .ok (.ireturn, 1) := dk_172 (dk_at dksX4_mirrored_0 8 rfl rfl)
theorem dX4_mirrored_9 : decode cX4_mirrored 9 = .ok (.iconst 0, 1) := dk_3 (dk_at dksX4_mirrored_0 9 rfl rfl)
theorem dX4_mirrored_10 : decode cX4_mirrored 10 = .ok (.istore_n 2, 1) := dk_61 (dk_at dksX4_mirrored_0 10 rfl rfl)
theorem dX4_mirrored_11 : decode cX4_mirrored 11 = .ok (.iconst 0, 1) := dk_3 (dk_at dksX4_mirrored_0 11 rfl rfl)
theorem dX4_mirrored_12 : decode cX4_mirrored 12 = .ok (.istore_n 3, 1) := dk_62 (dk_at dksX4_mirrored_0 12 rfl rfl)
theorem dX4_mirrored_13 : decode cX4_mirrored 13 = .ok (.iload_n 3, 1) := dk_29 (dk_at dksX4_mirrored_0 13 rfl rfl)
theorem dX4_mirrored_14 : decode cX4_mirrored 14 = .ok (.bipush 8, 2) := dk_16 8 (dk_at dksX4_mirrored_0 14 rfl rfl)
theorem dX4_mirrored_16 : decode cX4_mirrored 16 = .ok (.if_icmp .ge 27, 3) := dk_162 0 27 (dk_at dksX4_mirrored_0 16 rfl rfl)
theorem dX4_mirrored_19 : decode cX4_mirrored 19 = .ok (.iload_n 2, 1) := dk_28 (dk_at dksX4_mirrored_0 19 rfl rfl)
theorem dX4_mirrored_20 : decode cX4_mirrored 20 = .ok (.aload_n 0, 1) := dk_42 (dk_at dksX4_mirrored_0 20 rfl rfl)
theorem dX4_mirrored_21 : decode cX4_mirrored 21 = .ok (.getfield 23, 3) := dk_180 0 23 (dk_at dksX4_mirrored_0 21 rfl rfl)
theorem dX4_mirrored_24 : decode cX4_mirrored 24 = .ok (.iload_n 1, 1) := dk_27 (dk_at dksX4_mirrored_1 0 rfl rfl)
theorem dX4_mirrored_25 : decode cX4_mirrored 25 = .ok (.iaload, 1) := dk_46 (dk_at dksX4_mirrored_1 1 rfl rfl)
theorem dX4_mirrored_26 : decode cX4_mirrored 26 = .ok (.bipush 8, 2) := dk_16 8 (dk_at dksX4_mirrored_1 2 rfl rfl)
theorem dX4_mirrored_28 : decode cX4_mirrored 28 = .ok (.iload_n 3, 1) := dk_29 (dk_at dksX4_mirrored_1 4 rfl rfl)
theorem dX4_mirrored_29 : decode cX4_mirrored 29 = .ok (.isub, 1) := dk_100 (dk_at dksX4_mirrored_1 5 rfl rfl)
theorem dX4_mirrored_30 : decode cX4_mirrored 30 = .ok (.invokestatic 80, 3) := dk_184 0 80 (dk_at dksX4_mirrored_1 6 rfl rfl)
theorem dX4_mirrored_33 : decode cX4_mirrored 33 = .ok (.iload_n 3, 1) := dk_29 (dk_at dksX4_mirrored_1 9 rfl rfl)
theorem dX4_mirrored_34 : decode cX4_mirrored 34 = .ok (.ishl, 1) := dk_120 (dk_at dksX4_mirrored_1 10 rfl rfl)
theorem dX4_mirrored_35 : decode cX4_mirrored 35 = .ok (.ior, 1) := dk_128 (dk_at dksX4_mirrored_1 11 rfl rfl)
theorem dX4_mirrored_36 : decode cX4_mirrored 36 = .ok (.istore_n 2, 1) := dk_61 (dk_at dksX4_mirrored_1 12 rfl rfl)
theorem dX4_mirrored_37 : decode cX4_mirrored 37 = .ok (.iinc 3 1, 3) := dk_132 3 1 (dk_at dksX4_mirrored_1 13 rfl rfl)
theorem dX4_mirrored_40 : decode cX4_mirrored 40 = .ok (.goto (-27), 3) := dk_167 255 229 (dk_at dksX4_mirrored_1 16 rfl rfl)
theorem dX4_mirrored_43 : decode cX4_mirrored 43 = .ok (.aload_n 0, 1) := dk_42 (dk_at dksX4_mirrored_1 19 rfl rfl)
theorem dX4_mirrored_44 : decode cX4_mirrored 44 = .ok (.getfield 26, 3) := dk_180 0 26 (dk_at dksX4_mirrored_1 20 rfl rfl)
theorem dX4_mirrored_47 : decode cX4_mirrored 47 = .ok (.iload_n 2, 1) := dk_28 (dk_at dksX4_mirrored_1 23 rfl rfl)
theorem dX4_mirrored_48 : decode cX4_mirrored 48 = .ok (.iaload, 1) := dk_46 (dk_at dksX4_mirrored_2 0 rfl rfl)
theorem dX4_mirrored_49 : decode cX4_mirrored 49 = .ok (.ireturn, 1) := dk_172 (dk_at dksX4_mirrored_2 1 rfl rfl)
abbrev cX4_count : ByteArray := prog_12_method_49_code
def yX4_count : MethodName := ⟨RX4, "count", "(I)I"⟩
def dkwX4_count_0 : List UInt8 := [27, 184, 0, 145, 153, 0, 11, 42, 27, 182, 0, 151, 167, 0, 4, 2, 172]
abbrev dktX4_count_0 : List UInt8 := dkwX4_count_0 ++ []
theorem dksX4_count_0 : cX4_count.data.toList.drop 0 = dktX4_count_0 := by decide +kernel
theorem dX4_count_0 : decode cX4_count 0 = .ok (.iload_n 1, 1) := dk_27 (dk_at dksX4_count_0 0 rfl rfl)
theorem dX4_count_1 : decode cX4_count 1 = .ok (.invokestatic 145, 3) := dk_184 0 145 (dk_at dksX4_count_0 1 rfl rfl)
theorem dX4_count_4 : decode cX4_count 4 = .ok (.ifCond .eq 11, 3) := dk_153 0 11 (dk_at dksX4_count_0 4 rfl rfl)
theorem dX4_count_7 : decode cX4_count 7 = .ok (.aload_n 0, 1) := dk_42 (dk_at dksX4_count_0 7 rfl rfl)
theorem dX4_count_8 : decode cX4_count 8 = .ok (.iload_n 1, 1) := dk_27 (dk_at dksX4_count_0 8 rfl rfl)
theorem dX4_count_9 : decode cX4_count 9 = .ok (.invokevirtual 151, 3) := dk_182 0 151 (dk_at dksX4_count_0 9 rfl rfl)
theorem dX4_count_12 : decode cX4_count 12 = .ok (.goto 4, 3) := dk_167 0 4 (dk_at dksX4_count_0 12 rfl rfl)
theorem dX4_count_15 : decode cX4_count 15 = .ok (.iconst (-1), 1) := dk_2 (dk_at dksX4_count_0 15 rfl rfl)
theorem dX4_count_16 : decode cX4_count 16 = .ok (.ireturn, 1) := dk_172 (dk_at dksX4_count_0 16 rfl rfl)
abbrev cX4_counted : ByteArray := prog_12_method_48_code
def yX4_counted : MethodName := ⟨RX4, "counted", "(I)I"⟩
def dkwX4_counted_1 : List UInt8 := [167, 0, 4, 3, 96, 61, 132, 3, 1, 167, 255, 228, 28, 172]
abbrev dktX4_counted_1 : List UInt8 := dkwX4_counted_1 ++ []
def dkwX4_counted_0 : List UInt8 := [3, 61, 3, 62, 29, 42, 182, 0, 116, 162, 0, 26, 28, 42, 29, 182, 0, 110, 27, 160, 0, 7, 4]
abbrev dktX4_counted_0 : List UInt8 := dkwX4_counted_0 ++ dktX4_counted_1
theorem dksX4_counted_0 : cX4_counted.data.toList.drop 0 = dktX4_counted_0 := by decide +kernel
theorem dksX4_counted_1 : cX4_counted.data.toList.drop 23 = dktX4_counted_1 := dk_seg dksX4_counted_0 23 rfl rfl
theorem dX4_counted_0 : decode cX4_counted 0 = .ok (.iconst 0, 1) := dk_3 (dk_at dksX4_counted_0 0 rfl rfl)
theorem dX4_counted_1 : decode cX4_counted 1 = .ok (.istore_n 2, 1) := dk_61 (dk_at dksX4_counted_0 1 rfl rfl)
theorem dX4_counted_2 : decode cX4_counted 2 = .ok (.iconst 0, 1) := dk_3 (dk_at dksX4_counted_0 2 rfl rfl)
theorem dX4_counted_3 : decode cX4_counted 3 = .ok (.istore_n 3, 1) := dk_62 (dk_at dksX4_counted_0 3 rfl rfl)
theorem dX4_counted_4 : decode cX4_counted 4 = .ok (.iload_n 3, 1) := dk_29 (dk_at dksX4_counted_0 4 rfl rfl)
theorem dX4_counted_5 : decode cX4_counted 5 = .ok (.aload_n 0, 1) := dk_42 (dk_at dksX4_counted_0 5 rfl rfl)
theorem dX4_counted_6 : decode cX4_counted 6 = .ok (.invokevirtual 116, 3) := dk_182 0 116 (dk_at dksX4_counted_0 6 rfl rfl)
theorem dX4_counted_9 : decode cX4_counted 9 = .ok (.if_icmp .ge 26, 3) := dk_162 0 26 (dk_at dksX4_counted_0 9 rfl rfl)
theorem dX4_counted_12 : decode cX4_counted 12 = .ok (.iload_n 2, 1) := dk_28 (dk_at dksX4_counted_0 12 rfl rfl)
theorem dX4_counted_13 : decode cX4_counted 13 = .ok (.aload_n 0, 1) := dk_42 (dk_at dksX4_counted_0 13 rfl rfl)
theorem dX4_counted_14 : decode cX4_counted 14 = .ok (.iload_n 3, 1) := dk_29 (dk_at dksX4_counted_0 14 rfl rfl)
theorem dX4_counted_15 : decode cX4_counted 15 = .ok (.invokevirtual 110, 3) := dk_182 0 110 (dk_at dksX4_counted_0 15 rfl rfl)
theorem dX4_counted_18 : decode cX4_counted 18 = .ok (.iload_n 1, 1) := dk_27 (dk_at dksX4_counted_0 18 rfl rfl)
theorem dX4_counted_19 : decode cX4_counted 19 = .ok (.if_icmp .ne 7, 3) := dk_160 0 7 (dk_at dksX4_counted_0 19 rfl rfl)
theorem dX4_counted_22 : decode cX4_counted 22 = .ok (.iconst 1, 1) := dk_4 (dk_at dksX4_counted_0 22 rfl rfl)
theorem dX4_counted_23 : decode cX4_counted 23 = .ok (.goto 4, 3) := dk_167 0 4 (dk_at dksX4_counted_1 0 rfl rfl)
theorem dX4_counted_26 : decode cX4_counted 26 = .ok (.iconst 0, 1) := dk_3 (dk_at dksX4_counted_1 3 rfl rfl)
theorem dX4_counted_27 : decode cX4_counted 27 = .ok (.iadd, 1) := dk_96 (dk_at dksX4_counted_1 4 rfl rfl)
theorem dX4_counted_28 : decode cX4_counted 28 = .ok (.istore_n 2, 1) := dk_61 (dk_at dksX4_counted_1 5 rfl rfl)
theorem dX4_counted_29 : decode cX4_counted 29 = .ok (.iinc 3 1, 3) := dk_132 3 1 (dk_at dksX4_counted_1 6 rfl rfl)
theorem dX4_counted_32 : decode cX4_counted 32 = .ok (.goto (-28), 3) := dk_167 255 228 (dk_at dksX4_counted_1 9 rfl rfl)
theorem dX4_counted_35 : decode cX4_counted 35 = .ok (.iload_n 2, 1) := dk_28 (dk_at dksX4_counted_1 12 rfl rfl)
theorem dX4_counted_36 : decode cX4_counted 36 = .ok (.ireturn, 1) := dk_172 (dk_at dksX4_counted_1 13 rfl rfl)
abbrev cX4_shapes : ByteArray := prog_12_method_50_code
def yX4_shapes : MethodName := ⟨RX4, "shapes", "()I"⟩
def dkwX4_shapes_1 : List UInt8 := [96, 60, 132, 2, 1, 167, 255, 231, 27, 172]
abbrev dktX4_shapes_1 : List UInt8 := dkwX4_shapes_1 ++ []
def dkwX4_shapes_0 : List UInt8 := [3, 60, 3, 61, 28, 16, 47, 162, 0, 25, 27, 42, 28, 182, 0, 151, 158, 0, 7, 4, 167, 0, 4, 3]
abbrev dktX4_shapes_0 : List UInt8 := dkwX4_shapes_0 ++ dktX4_shapes_1
theorem dksX4_shapes_0 : cX4_shapes.data.toList.drop 0 = dktX4_shapes_0 := by decide +kernel
theorem dksX4_shapes_1 : cX4_shapes.data.toList.drop 24 = dktX4_shapes_1 := dk_seg dksX4_shapes_0 24 rfl rfl
theorem dX4_shapes_0 : decode cX4_shapes 0 = .ok (.iconst 0, 1) := dk_3 (dk_at dksX4_shapes_0 0 rfl rfl)
theorem dX4_shapes_1 : decode cX4_shapes 1 = .ok (.istore_n 1, 1) := dk_60 (dk_at dksX4_shapes_0 1 rfl rfl)
theorem dX4_shapes_2 : decode cX4_shapes 2 = .ok (.iconst 0, 1) := dk_3 (dk_at dksX4_shapes_0 2 rfl rfl)
theorem dX4_shapes_3 : decode cX4_shapes 3 = .ok (.istore_n 2, 1) := dk_61 (dk_at dksX4_shapes_0 3 rfl rfl)
theorem dX4_shapes_4 : decode cX4_shapes 4 = .ok (.iload_n 2, 1) := dk_28 (dk_at dksX4_shapes_0 4 rfl rfl)
theorem dX4_shapes_5 : decode cX4_shapes 5 = .ok (.bipush 47, 2) := dk_16 47 (dk_at dksX4_shapes_0 5 rfl rfl)
theorem dX4_shapes_7 : decode cX4_shapes 7 = .ok (.if_icmp .ge 25, 3) := dk_162 0 25 (dk_at dksX4_shapes_0 7 rfl rfl)
theorem dX4_shapes_10 : decode cX4_shapes 10 = .ok (.iload_n 1, 1) := dk_27 (dk_at dksX4_shapes_0 10 rfl rfl)
theorem dX4_shapes_11 : decode cX4_shapes 11 = .ok (.aload_n 0, 1) := dk_42 (dk_at dksX4_shapes_0 11 rfl rfl)
theorem dX4_shapes_12 : decode cX4_shapes 12 = .ok (.iload_n 2, 1) := dk_28 (dk_at dksX4_shapes_0 12 rfl rfl)
theorem dX4_shapes_13 : decode cX4_shapes 13 = .ok (.invokevirtual 151, 3) := dk_182 0 151 (dk_at dksX4_shapes_0 13 rfl rfl)
theorem dX4_shapes_16 : decode cX4_shapes 16 = .ok (.ifCond .le 7, 3) := dk_158 0 7 (dk_at dksX4_shapes_0 16 rfl rfl)
theorem dX4_shapes_19 : decode cX4_shapes 19 = .ok (.iconst 1, 1) := dk_4 (dk_at dksX4_shapes_0 19 rfl rfl)
theorem dX4_shapes_20 : decode cX4_shapes 20 = .ok (.goto 4, 3) := dk_167 0 4 (dk_at dksX4_shapes_0 20 rfl rfl)
theorem dX4_shapes_23 : decode cX4_shapes 23 = .ok (.iconst 0, 1) := dk_3 (dk_at dksX4_shapes_0 23 rfl rfl)
theorem dX4_shapes_24 : decode cX4_shapes 24 = .ok (.iadd, 1) := dk_96 (dk_at dksX4_shapes_1 0 rfl rfl)
theorem dX4_shapes_25 : decode cX4_shapes 25 = .ok (.istore_n 1, 1) := dk_60 (dk_at dksX4_shapes_1 1 rfl rfl)
theorem dX4_shapes_26 : decode cX4_shapes 26 = .ok (.iinc 2 1, 3) := dk_132 2 1 (dk_at dksX4_shapes_1 2 rfl rfl)
theorem dX4_shapes_29 : decode cX4_shapes 29 = .ok (.goto (-25), 3) := dk_167 255 231 (dk_at dksX4_shapes_1 5 rfl rfl)
theorem dX4_shapes_32 : decode cX4_shapes 32 = .ok (.iload_n 1, 1) := dk_27 (dk_at dksX4_shapes_1 8 rfl rfl)
theorem dX4_shapes_33 : decode cX4_shapes 33 = .ok (.ireturn, 1) := dk_172 (dk_at dksX4_shapes_1 9 rfl rfl)
abbrev cX4_landShare : ByteArray := prog_12_method_53_code
def yX4_landShare : MethodName := ⟨RX4, "landShare", "()I"⟩
def dkwX4_landShare_0 : List UInt8 := [42, 182, 0, 73, 134, 42, 182, 0, 116, 134, 110, 184, 0, 156, 172]
abbrev dktX4_landShare_0 : List UInt8 := dkwX4_landShare_0 ++ []
theorem dksX4_landShare_0 : cX4_landShare.data.toList.drop 0 = dktX4_landShare_0 := by decide +kernel
theorem dX4_landShare_0 : decode cX4_landShare 0 = .ok (.aload_n 0, 1) := dk_42 (dk_at dksX4_landShare_0 0 rfl rfl)
theorem dX4_landShare_1 : decode cX4_landShare 1 = .ok (.invokevirtual 73, 3) := dk_182 0 73 (dk_at dksX4_landShare_0 1 rfl rfl)
theorem dX4_landShare_4 : decode cX4_landShare 4 = .ok (.i2f, 1) := dk_134 (dk_at dksX4_landShare_0 4 rfl rfl)
theorem dX4_landShare_5 : decode cX4_landShare 5 = .ok (.aload_n 0, 1) := dk_42 (dk_at dksX4_landShare_0 5 rfl rfl)
theorem dX4_landShare_6 : decode cX4_landShare 6 = .ok (.invokevirtual 116, 3) := dk_182 0 116 (dk_at dksX4_landShare_0 6 rfl rfl)
theorem dX4_landShare_9 : decode cX4_landShare 9 = .ok (.i2f, 1) := dk_134 (dk_at dksX4_landShare_0 9 rfl rfl)
theorem dX4_landShare_10 : decode cX4_landShare 10 = .ok (.fdiv, 1) := dk_110 (dk_at dksX4_landShare_0 10 rfl rfl)
theorem dX4_landShare_11 : decode cX4_landShare 11 = .ok (.invokestatic 156, 3) := dk_184 0 156 (dk_at dksX4_landShare_0 11 rfl rfl)
theorem dX4_landShare_14 : decode cX4_landShare 14 = .ok (.ireturn, 1) := dk_172 (dk_at dksX4_landShare_0 14 rfl rfl)
abbrev cX4_bitsOfFloat : ByteArray := prog_12_method_52_code
def yX4_bitsOfFloat : MethodName := ⟨RX4, "bitsOfFloat", "(F)I"⟩
def dkwX4_bitsOfFloat_1 : List UInt8 := [132, 2, 255, 167, 255, 243, 28, 16, 23, 120, 35, 18, 154, 106, 139, 96, 18, 155, 100, 172]
abbrev dktX4_bitsOfFloat_1 : List UInt8 := dkwX4_bitsOfFloat_1 ++ []
def dkwX4_bitsOfFloat_0 : List UInt8 := [34, 11, 149, 154, 0, 5, 3, 172, 34, 68, 16, 127, 61, 35, 12, 150, 156, 0, 13, 35, 13, 106, 68]
abbrev dktX4_bitsOfFloat_0 : List UInt8 := dkwX4_bitsOfFloat_0 ++ dktX4_bitsOfFloat_1
theorem dksX4_bitsOfFloat_0 : cX4_bitsOfFloat.data.toList.drop 0 = dktX4_bitsOfFloat_0 := by decide +kernel
theorem dksX4_bitsOfFloat_1 : cX4_bitsOfFloat.data.toList.drop 23 = dktX4_bitsOfFloat_1 := dk_seg dksX4_bitsOfFloat_0 23 rfl rfl
theorem dX4_bitsOfFloat_0 : decode cX4_bitsOfFloat 0 = .ok (.fload_n 0, 1) := dk_34 (dk_at dksX4_bitsOfFloat_0 0 rfl rfl)
theorem dX4_bitsOfFloat_1 : decode cX4_bitsOfFloat 1 = .ok (.fconst 0, 1) := dk_11 (dk_at dksX4_bitsOfFloat_0 1 rfl rfl)
theorem dX4_bitsOfFloat_2 : decode cX4_bitsOfFloat 2 = .ok (.fcmp .l, 1) := dk_149 (dk_at dksX4_bitsOfFloat_0 2 rfl rfl)
theorem dX4_bitsOfFloat_3 : decode cX4_bitsOfFloat 3 = .ok (.ifCond .ne 5, 3) := dk_154 0 5 (dk_at dksX4_bitsOfFloat_0 3 rfl rfl)
theorem dX4_bitsOfFloat_6 : decode cX4_bitsOfFloat 6 = .ok (.iconst 0, 1) := dk_3 (dk_at dksX4_bitsOfFloat_0 6 rfl rfl)
theorem dX4_bitsOfFloat_7 : decode cX4_bitsOfFloat 7 = .ok (.ireturn, 1) := dk_172 (dk_at dksX4_bitsOfFloat_0 7 rfl rfl)
theorem dX4_bitsOfFloat_8 : decode cX4_bitsOfFloat 8 = .ok (.fload_n 0, 1) := dk_34 (dk_at dksX4_bitsOfFloat_0 8 rfl rfl)
theorem dX4_bitsOfFloat_9 : decode cX4_bitsOfFloat 9 = .ok (.fstore_n 1, 1) := dk_68 (dk_at dksX4_bitsOfFloat_0 9 rfl rfl)
theorem dX4_bitsOfFloat_10 : decode cX4_bitsOfFloat 10 = .ok (.bipush 127, 2) := dk_16 127 (dk_at dksX4_bitsOfFloat_0 10 rfl rfl)
theorem dX4_bitsOfFloat_12 : decode cX4_bitsOfFloat 12 = .ok (.istore_n 2, 1) := dk_61 (dk_at dksX4_bitsOfFloat_0 12 rfl rfl)
theorem dX4_bitsOfFloat_13 : decode cX4_bitsOfFloat 13 = .ok (.fload_n 1, 1) := dk_35 (dk_at dksX4_bitsOfFloat_0 13 rfl rfl)
theorem dX4_bitsOfFloat_14 : decode cX4_bitsOfFloat 14 = .ok (.fconst 1, 1) := dk_12 (dk_at dksX4_bitsOfFloat_0 14 rfl rfl)
theorem dX4_bitsOfFloat_15 : decode cX4_bitsOfFloat 15 = .ok (.fcmp .g, 1) := dk_150 (dk_at dksX4_bitsOfFloat_0 15 rfl rfl)
theorem dX4_bitsOfFloat_16 : decode cX4_bitsOfFloat 16 = .ok (.ifCond .ge 13, 3) := dk_156 0 13 (dk_at dksX4_bitsOfFloat_0 16 rfl rfl)
theorem dX4_bitsOfFloat_19 : decode cX4_bitsOfFloat 19 = .ok (.fload_n 1, 1) := dk_35 (dk_at dksX4_bitsOfFloat_0 19 rfl rfl)
theorem dX4_bitsOfFloat_20 : decode cX4_bitsOfFloat 20 = .ok (.fconst 2, 1) := dk_13 (dk_at dksX4_bitsOfFloat_0 20 rfl rfl)
theorem dX4_bitsOfFloat_21 : decode cX4_bitsOfFloat 21 = .ok (.fmul, 1) := dk_106 (dk_at dksX4_bitsOfFloat_0 21 rfl rfl)
theorem dX4_bitsOfFloat_22 : decode cX4_bitsOfFloat 22 = .ok (.fstore_n 1, 1) := dk_68 (dk_at dksX4_bitsOfFloat_0 22 rfl rfl)
theorem dX4_bitsOfFloat_23 : decode cX4_bitsOfFloat 23 = .ok (.iinc 2 (-1), 3) := dk_132 2 255 (dk_at dksX4_bitsOfFloat_1 0 rfl rfl)
theorem dX4_bitsOfFloat_26 : decode cX4_bitsOfFloat 26 = .ok (.goto (-13), 3) := dk_167 255 243 (dk_at dksX4_bitsOfFloat_1 3 rfl rfl)
theorem dX4_bitsOfFloat_29 : decode cX4_bitsOfFloat 29 = .ok (.iload_n 2, 1) := dk_28 (dk_at dksX4_bitsOfFloat_1 6 rfl rfl)
theorem dX4_bitsOfFloat_30 : decode cX4_bitsOfFloat 30 = .ok (.bipush 23, 2) := dk_16 23 (dk_at dksX4_bitsOfFloat_1 7 rfl rfl)
theorem dX4_bitsOfFloat_32 : decode cX4_bitsOfFloat 32 = .ok (.ishl, 1) := dk_120 (dk_at dksX4_bitsOfFloat_1 9 rfl rfl)
theorem dX4_bitsOfFloat_33 : decode cX4_bitsOfFloat 33 = .ok (.fload_n 1, 1) := dk_35 (dk_at dksX4_bitsOfFloat_1 10 rfl rfl)
theorem dX4_bitsOfFloat_34 : decode cX4_bitsOfFloat 34 = .ok (.ldc 154, 2) := dk_18 154 (dk_at dksX4_bitsOfFloat_1 11 rfl rfl)
theorem dX4_bitsOfFloat_36 : decode cX4_bitsOfFloat 36 = .ok (.fmul, 1) := dk_106 (dk_at dksX4_bitsOfFloat_1 13 rfl rfl)
theorem dX4_bitsOfFloat_37 : decode cX4_bitsOfFloat 37 = .ok (.f2i, 1) := dk_139 (dk_at dksX4_bitsOfFloat_1 14 rfl rfl)
theorem dX4_bitsOfFloat_38 : decode cX4_bitsOfFloat 38 = .ok (.iadd, 1) := dk_96 (dk_at dksX4_bitsOfFloat_1 15 rfl rfl)
theorem dX4_bitsOfFloat_39 : decode cX4_bitsOfFloat 39 = .ok (.ldc 155, 2) := dk_18 155 (dk_at dksX4_bitsOfFloat_1 16 rfl rfl)
theorem dX4_bitsOfFloat_41 : decode cX4_bitsOfFloat 41 = .ok (.isub, 1) := dk_100 (dk_at dksX4_bitsOfFloat_1 18 rfl rfl)
theorem dX4_bitsOfFloat_42 : decode cX4_bitsOfFloat 42 = .ok (.ireturn, 1) := dk_172 (dk_at dksX4_bitsOfFloat_1 19 rfl rfl)
abbrev cX4_coast : ByteArray := prog_12_method_55_code
def yX4_coast : MethodName := ⟨RX4, "coast", "()I"⟩
def dkwX4_coast_1 : List UInt8 := [167, 255, 237, 27, 172]
abbrev dktX4_coast_1 : List UInt8 := dkwX4_coast_1 ++ []
def dkwX4_coast_0 : List UInt8 := [3, 60, 3, 61, 28, 42, 182, 0, 116, 162, 0, 17, 27, 42, 28, 182, 0, 160, 96, 60, 132, 2, 1]
abbrev dktX4_coast_0 : List UInt8 := dkwX4_coast_0 ++ dktX4_coast_1
theorem dksX4_coast_0 : cX4_coast.data.toList.drop 0 = dktX4_coast_0 := by decide +kernel
theorem dksX4_coast_1 : cX4_coast.data.toList.drop 23 = dktX4_coast_1 := dk_seg dksX4_coast_0 23 rfl rfl
theorem dX4_coast_0 : decode cX4_coast 0 = .ok (.iconst 0, 1) := dk_3 (dk_at dksX4_coast_0 0 rfl rfl)
theorem dX4_coast_1 : decode cX4_coast 1 = .ok (.istore_n 1, 1) := dk_60 (dk_at dksX4_coast_0 1 rfl rfl)
theorem dX4_coast_2 : decode cX4_coast 2 = .ok (.iconst 0, 1) := dk_3 (dk_at dksX4_coast_0 2 rfl rfl)
theorem dX4_coast_3 : decode cX4_coast 3 = .ok (.istore_n 2, 1) := dk_61 (dk_at dksX4_coast_0 3 rfl rfl)
theorem dX4_coast_4 : decode cX4_coast 4 = .ok (.iload_n 2, 1) := dk_28 (dk_at dksX4_coast_0 4 rfl rfl)
theorem dX4_coast_5 : decode cX4_coast 5 = .ok (.aload_n 0, 1) := dk_42 (dk_at dksX4_coast_0 5 rfl rfl)
theorem dX4_coast_6 : decode cX4_coast 6 = .ok (.invokevirtual 116, 3) := dk_182 0 116 (dk_at dksX4_coast_0 6 rfl rfl)
theorem dX4_coast_9 : decode cX4_coast 9 = .ok (.if_icmp .ge 17, 3) := dk_162 0 17 (dk_at dksX4_coast_0 9 rfl rfl)
theorem dX4_coast_12 : decode cX4_coast 12 = .ok (.iload_n 1, 1) := dk_27 (dk_at dksX4_coast_0 12 rfl rfl)
theorem dX4_coast_13 : decode cX4_coast 13 = .ok (.aload_n 0, 1) := dk_42 (dk_at dksX4_coast_0 13 rfl rfl)
theorem dX4_coast_14 : decode cX4_coast 14 = .ok (.iload_n 2, 1) := dk_28 (dk_at dksX4_coast_0 14 rfl rfl)
theorem dX4_coast_15 : decode cX4_coast 15 = .ok (.invokevirtual 160, 3) := dk_182 0 160 (dk_at dksX4_coast_0 15 rfl rfl)
theorem dX4_coast_18 : decode cX4_coast 18 = .ok (.iadd, 1) := dk_96 (dk_at dksX4_coast_0 18 rfl rfl)
theorem dX4_coast_19 : decode cX4_coast 19 = .ok (.istore_n 1, 1) := dk_60 (dk_at dksX4_coast_0 19 rfl rfl)
theorem dX4_coast_20 : decode cX4_coast 20 = .ok (.iinc 2 1, 3) := dk_132 2 1 (dk_at dksX4_coast_0 20 rfl rfl)
theorem dX4_coast_23 : decode cX4_coast 23 = .ok (.goto (-19), 3) := dk_167 255 237 (dk_at dksX4_coast_1 0 rfl rfl)
theorem dX4_coast_26 : decode cX4_coast 26 = .ok (.iload_n 1, 1) := dk_27 (dk_at dksX4_coast_1 3 rfl rfl)
theorem dX4_coast_27 : decode cX4_coast 27 = .ok (.ireturn, 1) := dk_172 (dk_at dksX4_coast_1 4 rfl rfl)
abbrev cX4_coastAt : ByteArray := prog_12_method_54_code
def yX4_coastAt : MethodName := ⟨RX4, "coastAt", "(I)I"⟩
def dkwX4_coastAt_2 : List UInt8 := [167, 0, 4, 4, 96, 61, 132, 3, 2, 167, 255, 207, 28, 172]
abbrev dktX4_coastAt_2 : List UInt8 := dkwX4_coastAt_2 ++ []
def dkwX4_coastAt_1 : List UInt8 := [180, 0, 7, 4, 46, 108, 27, 42, 180, 0, 7, 4, 46, 112, 29, 182, 0, 101, 153, 0, 7, 3]
abbrev dktX4_coastAt_1 : List UInt8 := dkwX4_coastAt_1 ++ dktX4_coastAt_2
def dkwX4_coastAt_0 : List UInt8 := [3, 61, 3, 62, 29, 16, 8, 162, 0, 49, 42, 27, 182, 0, 97, 153, 0, 41, 28, 42, 27, 42]
abbrev dktX4_coastAt_0 : List UInt8 := dkwX4_coastAt_0 ++ dktX4_coastAt_1
theorem dksX4_coastAt_0 : cX4_coastAt.data.toList.drop 0 = dktX4_coastAt_0 := by decide +kernel
theorem dksX4_coastAt_1 : cX4_coastAt.data.toList.drop 22 = dktX4_coastAt_1 := dk_seg dksX4_coastAt_0 22 rfl rfl
theorem dksX4_coastAt_2 : cX4_coastAt.data.toList.drop 44 = dktX4_coastAt_2 := dk_seg dksX4_coastAt_1 22 rfl rfl
theorem dX4_coastAt_0 : decode cX4_coastAt 0 = .ok (.iconst 0, 1) := dk_3 (dk_at dksX4_coastAt_0 0 rfl rfl)
theorem dX4_coastAt_1 : decode cX4_coastAt 1 = .ok (.istore_n 2, 1) := dk_61 (dk_at dksX4_coastAt_0 1 rfl rfl)
theorem dX4_coastAt_2 : decode cX4_coastAt 2 = .ok (.iconst 0, 1) := dk_3 (dk_at dksX4_coastAt_0 2 rfl rfl)
theorem dX4_coastAt_3 : decode cX4_coastAt 3 = .ok (.istore_n 3, 1) := dk_62 (dk_at dksX4_coastAt_0 3 rfl rfl)
theorem dX4_coastAt_4 : decode cX4_coastAt 4 = .ok (.iload_n 3, 1) := dk_29 (dk_at dksX4_coastAt_0 4 rfl rfl)
theorem dX4_coastAt_5 : decode cX4_coastAt 5 = .ok (.bipush 8, 2) := dk_16 8 (dk_at dksX4_coastAt_0 5 rfl rfl)
theorem dX4_coastAt_7 : decode cX4_coastAt 7 = .ok (.if_icmp .ge 49, 3) := dk_162 0 49 (dk_at dksX4_coastAt_0 7 rfl rfl)
theorem dX4_coastAt_10 : decode cX4_coastAt 10 = .ok (.aload_n 0, 1) := dk_42 (dk_at dksX4_coastAt_0 10 rfl rfl)
theorem dX4_coastAt_11 : decode cX4_coastAt 11 = .ok (.iload_n 1, 1) := dk_27 (dk_at dksX4_coastAt_0 11 rfl rfl)
theorem dX4_coastAt_12 : decode cX4_coastAt 12 = .ok (.invokevirtual 97, 3) := dk_182 0 97 (dk_at dksX4_coastAt_0 12 rfl rfl)
theorem dX4_coastAt_15 : decode cX4_coastAt 15 = .ok (.ifCond .eq 41, 3) := dk_153 0 41 (dk_at dksX4_coastAt_0 15 rfl rfl)
theorem dX4_coastAt_18 : decode cX4_coastAt 18 = .ok (.iload_n 2, 1) := dk_28 (dk_at dksX4_coastAt_0 18 rfl rfl)
theorem dX4_coastAt_19 : decode cX4_coastAt 19 = .ok (.aload_n 0, 1) := dk_42 (dk_at dksX4_coastAt_0 19 rfl rfl)
theorem dX4_coastAt_20 : decode cX4_coastAt 20 = .ok (.iload_n 1, 1) := dk_27 (dk_at dksX4_coastAt_0 20 rfl rfl)
theorem dX4_coastAt_21 : decode cX4_coastAt 21 = .ok (.aload_n 0, 1) := dk_42 (dk_at dksX4_coastAt_0 21 rfl rfl)
theorem dX4_coastAt_22 : decode cX4_coastAt 22 = .ok (.getfield 7, 3) := dk_180 0 7 (dk_at dksX4_coastAt_1 0 rfl rfl)
theorem dX4_coastAt_25 : decode cX4_coastAt 25 = .ok (.iconst 1, 1) := dk_4 (dk_at dksX4_coastAt_1 3 rfl rfl)
theorem dX4_coastAt_26 : decode cX4_coastAt 26 = .ok (.iaload, 1) := dk_46 (dk_at dksX4_coastAt_1 4 rfl rfl)
theorem dX4_coastAt_27 : decode cX4_coastAt 27 = .ok (.idiv, 1) := dk_108 (dk_at dksX4_coastAt_1 5 rfl rfl)
theorem dX4_coastAt_28 : decode cX4_coastAt 28 = .ok (.iload_n 1, 1) := dk_27 (dk_at dksX4_coastAt_1 6 rfl rfl)
theorem dX4_coastAt_29 : decode cX4_coastAt 29 = .ok (.aload_n 0, 1) := dk_42 (dk_at dksX4_coastAt_1 7 rfl rfl)
theorem dX4_coastAt_30 : decode cX4_coastAt 30 = .ok (.getfield 7, 3) := dk_180 0 7 (dk_at dksX4_coastAt_1 8 rfl rfl)
theorem dX4_coastAt_33 : decode cX4_coastAt 33 = .ok (.iconst 1, 1) := dk_4 (dk_at dksX4_coastAt_1 11 rfl rfl)
theorem dX4_coastAt_34 : decode cX4_coastAt 34 = .ok (.iaload, 1) := dk_46 (dk_at dksX4_coastAt_1 12 rfl rfl)
theorem dX4_coastAt_35 : decode cX4_coastAt 35 = .ok (.irem, 1) := dk_112 (dk_at dksX4_coastAt_1 13 rfl rfl)
theorem dX4_coastAt_36 : decode cX4_coastAt 36 = .ok (.iload_n 3, 1) := dk_29 (dk_at dksX4_coastAt_1 14 rfl rfl)
theorem dX4_coastAt_37 : decode cX4_coastAt 37 = .ok (.invokevirtual 101, 3) := dk_182 0 101 (dk_at dksX4_coastAt_1 15 rfl rfl)
theorem dX4_coastAt_40 : decode cX4_coastAt 40 = .ok (.ifCond .eq 7, 3) := dk_153 0 7 (dk_at dksX4_coastAt_1 18 rfl rfl)
theorem dX4_coastAt_43 : decode cX4_coastAt 43 = .ok (.iconst 0, 1) := dk_3 (dk_at dksX4_coastAt_1 21 rfl rfl)
theorem dX4_coastAt_44 : decode cX4_coastAt 44 = .ok (.goto 4, 3) := dk_167 0 4 (dk_at dksX4_coastAt_2 0 rfl rfl)
theorem dX4_coastAt_47 : decode cX4_coastAt 47 = .ok (.iconst 1, 1) := dk_4 (dk_at dksX4_coastAt_2 3 rfl rfl)
theorem dX4_coastAt_48 : decode cX4_coastAt 48 = .ok (.iadd, 1) := dk_96 (dk_at dksX4_coastAt_2 4 rfl rfl)
theorem dX4_coastAt_49 : decode cX4_coastAt 49 = .ok (.istore_n 2, 1) := dk_61 (dk_at dksX4_coastAt_2 5 rfl rfl)
theorem dX4_coastAt_50 : decode cX4_coastAt 50 = .ok (.iinc 3 2, 3) := dk_132 3 2 (dk_at dksX4_coastAt_2 6 rfl rfl)
theorem dX4_coastAt_53 : decode cX4_coastAt 53 = .ok (.goto (-49), 3) := dk_167 255 207 (dk_at dksX4_coastAt_2 9 rfl rfl)
theorem dX4_coastAt_56 : decode cX4_coastAt 56 = .ok (.iload_n 2, 1) := dk_28 (dk_at dksX4_coastAt_2 12 rfl rfl)
theorem dX4_coastAt_57 : decode cX4_coastAt 57 = .ok (.ireturn, 1) := dk_172 (dk_at dksX4_coastAt_2 13 rfl rfl)
abbrev cX4_islands : ByteArray := prog_12_method_58_code
def yX4_islands : MethodName := ⟨RX4, "islands", "()I"⟩
def dkwX4_islands_2 : List UInt8 := [132, 2, 1, 167, 255, 215, 27, 172]
abbrev dktX4_islands_2 : List UInt8 := dkwX4_islands_2 ++ []
def dkwX4_islands_1 : List UInt8 := [42, 180, 0, 47, 28, 51, 154, 0, 16, 42, 28, 4, 182, 0, 132, 42, 182, 0, 166, 132, 1, 1]
abbrev dktX4_islands_1 : List UInt8 := dkwX4_islands_1 ++ dktX4_islands_2
def dkwX4_islands_0 : List UInt8 := [42, 182, 0, 163, 3, 60, 3, 61, 28, 42, 182, 0, 116, 162, 0, 39, 42, 28, 182, 0, 97, 153, 0, 25]
abbrev dktX4_islands_0 : List UInt8 := dkwX4_islands_0 ++ dktX4_islands_1
theorem dksX4_islands_0 : cX4_islands.data.toList.drop 0 = dktX4_islands_0 := by decide +kernel
theorem dksX4_islands_1 : cX4_islands.data.toList.drop 24 = dktX4_islands_1 := dk_seg dksX4_islands_0 24 rfl rfl
theorem dksX4_islands_2 : cX4_islands.data.toList.drop 46 = dktX4_islands_2 := dk_seg dksX4_islands_1 22 rfl rfl
theorem dX4_islands_0 : decode cX4_islands 0 = .ok (.aload_n 0, 1) := dk_42 (dk_at dksX4_islands_0 0 rfl rfl)
theorem dX4_islands_1 : decode cX4_islands 1 = .ok (.invokevirtual 163, 3) := dk_182 0 163 (dk_at dksX4_islands_0 1 rfl rfl)
theorem dX4_islands_4 : decode cX4_islands 4 = .ok (.iconst 0, 1) := dk_3 (dk_at dksX4_islands_0 4 rfl rfl)
theorem dX4_islands_5 : decode cX4_islands 5 = .ok (.istore_n 1, 1) := dk_60 (dk_at dksX4_islands_0 5 rfl rfl)
theorem dX4_islands_6 : decode cX4_islands 6 = .ok (.iconst 0, 1) := dk_3 (dk_at dksX4_islands_0 6 rfl rfl)
theorem dX4_islands_7 : decode cX4_islands 7 = .ok (.istore_n 2, 1) := dk_61 (dk_at dksX4_islands_0 7 rfl rfl)
theorem dX4_islands_8 : decode cX4_islands 8 = .ok (.iload_n 2, 1) := dk_28 (dk_at dksX4_islands_0 8 rfl rfl)
theorem dX4_islands_9 : decode cX4_islands 9 = .ok (.aload_n 0, 1) := dk_42 (dk_at dksX4_islands_0 9 rfl rfl)
theorem dX4_islands_10 : decode cX4_islands 10 = .ok (.invokevirtual 116, 3) := dk_182 0 116 (dk_at dksX4_islands_0 10 rfl rfl)
theorem dX4_islands_13 : decode cX4_islands 13 = .ok (.if_icmp .ge 39, 3) := dk_162 0 39 (dk_at dksX4_islands_0 13 rfl rfl)
theorem dX4_islands_16 : decode cX4_islands 16 = .ok (.aload_n 0, 1) := dk_42 (dk_at dksX4_islands_0 16 rfl rfl)
theorem dX4_islands_17 : decode cX4_islands 17 = .ok (.iload_n 2, 1) := dk_28 (dk_at dksX4_islands_0 17 rfl rfl)
theorem dX4_islands_18 : decode cX4_islands 18 = .ok (.invokevirtual 97, 3) := dk_182 0 97 (dk_at dksX4_islands_0 18 rfl rfl)
theorem dX4_islands_21 : decode cX4_islands 21 = .ok (.ifCond .eq 25, 3) := dk_153 0 25 (dk_at dksX4_islands_0 21 rfl rfl)
theorem dX4_islands_24 : decode cX4_islands 24 = .ok (.aload_n 0, 1) := dk_42 (dk_at dksX4_islands_1 0 rfl rfl)
theorem dX4_islands_25 : decode cX4_islands 25 = .ok (.getfield 47, 3) := dk_180 0 47 (dk_at dksX4_islands_1 1 rfl rfl)
theorem dX4_islands_28 : decode cX4_islands 28 = .ok (.iload_n 2, 1) := dk_28 (dk_at dksX4_islands_1 4 rfl rfl)
theorem dX4_islands_29 : decode cX4_islands 29 = .ok (.baload, 1) := dk_51 (dk_at dksX4_islands_1 5 rfl rfl)
theorem dX4_islands_30 : decode cX4_islands 30 = .ok (.ifCond .ne 16, 3) := dk_154 0 16 (dk_at dksX4_islands_1 6 rfl rfl)
theorem dX4_islands_33 : decode cX4_islands 33 = .ok (.aload_n 0, 1) := dk_42 (dk_at dksX4_islands_1 9 rfl rfl)
theorem dX4_islands_34 : decode cX4_islands 34 = .ok (.iload_n 2, 1) := dk_28 (dk_at dksX4_islands_1 10 rfl rfl)
theorem dX4_islands_35 : decode cX4_islands 35 = .ok (.iconst 1, 1) := dk_4 (dk_at dksX4_islands_1 11 rfl rfl)
theorem dX4_islands_36 : decode cX4_islands 36 = .ok (.invokevirtual 132, 3) := dk_182 0 132 (dk_at dksX4_islands_1 12 rfl rfl)
theorem dX4_islands_39 : decode cX4_islands 39 = .ok (.aload_n 0, 1) := dk_42 (dk_at dksX4_islands_1 15 rfl rfl)
theorem dX4_islands_40 : decode cX4_islands 40 = .ok (.invokevirtual 166, 3) := dk_182 0 166 (dk_at dksX4_islands_1 16 rfl rfl)
theorem dX4_islands_43 : decode cX4_islands 43 = .ok (.iinc 1 1, 3) := dk_132 1 1 (dk_at dksX4_islands_1 19 rfl rfl)
theorem dX4_islands_46 : decode cX4_islands 46 = .ok (.iinc 2 1, 3) := dk_132 2 1 (dk_at dksX4_islands_2 0 rfl rfl)
theorem dX4_islands_49 : decode cX4_islands 49 = .ok (.goto (-41), 3) := dk_167 255 215 (dk_at dksX4_islands_2 3 rfl rfl)
theorem dX4_islands_52 : decode cX4_islands 52 = .ok (.iload_n 1, 1) := dk_27 (dk_at dksX4_islands_2 6 rfl rfl)
theorem dX4_islands_53 : decode cX4_islands 53 = .ok (.ireturn, 1) := dk_172 (dk_at dksX4_islands_2 7 rfl rfl)
abbrev cX4_seeNone : ByteArray := prog_12_method_56_code
def yX4_seeNone : MethodName := ⟨RX4, "seeNone", "()V"⟩
def dkwX4_seeNone_0 : List UInt8 := [3, 60, 27, 17, 0, 144, 162, 0, 16, 42, 180, 0, 47, 27, 3, 84, 132, 1, 1, 167, 255, 239, 177]
abbrev dktX4_seeNone_0 : List UInt8 := dkwX4_seeNone_0 ++ []
theorem dksX4_seeNone_0 : cX4_seeNone.data.toList.drop 0 = dktX4_seeNone_0 := by decide +kernel
theorem dX4_seeNone_0 : decode cX4_seeNone 0 = .ok (.iconst 0, 1) := dk_3 (dk_at dksX4_seeNone_0 0 rfl rfl)
theorem dX4_seeNone_1 : decode cX4_seeNone 1 = .ok (.istore_n 1, 1) := dk_60 (dk_at dksX4_seeNone_0 1 rfl rfl)
theorem dX4_seeNone_2 : decode cX4_seeNone 2 = .ok (.iload_n 1, 1) := dk_27 (dk_at dksX4_seeNone_0 2 rfl rfl)
theorem dX4_seeNone_3 : decode cX4_seeNone 3 = .ok (.sipush 144, 3) := dk_17 0 144 (dk_at dksX4_seeNone_0 3 rfl rfl)
theorem dX4_seeNone_6 : decode cX4_seeNone 6 = .ok (.if_icmp .ge 16, 3) := dk_162 0 16 (dk_at dksX4_seeNone_0 6 rfl rfl)
theorem dX4_seeNone_9 : decode cX4_seeNone 9 = .ok (.aload_n 0, 1) := dk_42 (dk_at dksX4_seeNone_0 9 rfl rfl)
theorem dX4_seeNone_10 : decode cX4_seeNone 10 = .ok (.getfield 47, 3) := dk_180 0 47 (dk_at dksX4_seeNone_0 10 rfl rfl)
theorem dX4_seeNone_13 : decode cX4_seeNone 13 = .ok (.iload_n 1, 1) := dk_27 (dk_at dksX4_seeNone_0 13 rfl rfl)
theorem dX4_seeNone_14 : decode cX4_seeNone 14 = .ok (.iconst 0, 1) := dk_3 (dk_at dksX4_seeNone_0 14 rfl rfl)
theorem dX4_seeNone_15 : decode cX4_seeNone 15 = .ok (.bastore, 1) := dk_84 (dk_at dksX4_seeNone_0 15 rfl rfl)
theorem dX4_seeNone_16 : decode cX4_seeNone 16 = .ok (.iinc 1 1, 3) := dk_132 1 1 (dk_at dksX4_seeNone_0 16 rfl rfl)
theorem dX4_seeNone_19 : decode cX4_seeNone 19 = .ok (.goto (-17), 3) := dk_167 255 239 (dk_at dksX4_seeNone_0 19 rfl rfl)
theorem dX4_seeNone_22 : decode cX4_seeNone 22 = .ok (.return_, 1) := dk_177 (dk_at dksX4_seeNone_0 22 rfl rfl)
abbrev cX4_seeFound : ByteArray := prog_12_method_57_code
def yX4_seeFound : MethodName := ⟨RX4, "seeFound", "()V"⟩
def dkwX4_seeFound_1 : List UInt8 := [132, 1, 1, 167, 255, 233, 177]
abbrev dktX4_seeFound_1 : List UInt8 := dkwX4_seeFound_1 ++ []
def dkwX4_seeFound_0 : List UInt8 := [3, 60, 27, 42, 180, 0, 129, 162, 0, 21, 42, 180, 0, 47, 42, 180, 0, 32, 27, 46, 4, 84]
abbrev dktX4_seeFound_0 : List UInt8 := dkwX4_seeFound_0 ++ dktX4_seeFound_1
theorem dksX4_seeFound_0 : cX4_seeFound.data.toList.drop 0 = dktX4_seeFound_0 := by decide +kernel
theorem dksX4_seeFound_1 : cX4_seeFound.data.toList.drop 22 = dktX4_seeFound_1 := dk_seg dksX4_seeFound_0 22 rfl rfl
theorem dX4_seeFound_0 : decode cX4_seeFound 0 = .ok (.iconst 0, 1) := dk_3 (dk_at dksX4_seeFound_0 0 rfl rfl)
theorem dX4_seeFound_1 : decode cX4_seeFound 1 = .ok (.istore_n 1, 1) := dk_60 (dk_at dksX4_seeFound_0 1 rfl rfl)
theorem dX4_seeFound_2 : decode cX4_seeFound 2 = .ok (.iload_n 1, 1) := dk_27 (dk_at dksX4_seeFound_0 2 rfl rfl)
theorem dX4_seeFound_3 : decode cX4_seeFound 3 = .ok (.aload_n 0, 1) := dk_42 (dk_at dksX4_seeFound_0 3 rfl rfl)
theorem dX4_seeFound_4 : decode cX4_seeFound 4 = .ok (.getfield 129, 3) := dk_180 0 129 (dk_at dksX4_seeFound_0 4 rfl rfl)
theorem dX4_seeFound_7 : decode cX4_seeFound 7 = .ok (.if_icmp .ge 21, 3) := dk_162 0 21 (dk_at dksX4_seeFound_0 7 rfl rfl)
theorem dX4_seeFound_10 : decode cX4_seeFound 10 = .ok (.aload_n 0, 1) := dk_42 (dk_at dksX4_seeFound_0 10 rfl rfl)
theorem dX4_seeFound_11 : decode cX4_seeFound 11 = .ok (.getfield 47, 3) := dk_180 0 47 (dk_at dksX4_seeFound_0 11 rfl rfl)
theorem dX4_seeFound_14 : decode cX4_seeFound 14 = .ok (.aload_n 0, 1) := dk_42 (dk_at dksX4_seeFound_0 14 rfl rfl)
theorem dX4_seeFound_15 : decode cX4_seeFound 15 = .ok (.getfield 32, 3) := dk_180 0 32 (dk_at dksX4_seeFound_0 15 rfl rfl)
theorem dX4_seeFound_18 : decode cX4_seeFound 18 = .ok (.iload_n 1, 1) := dk_27 (dk_at dksX4_seeFound_0 18 rfl rfl)
theorem dX4_seeFound_19 : decode cX4_seeFound 19 = .ok (.iaload, 1) := dk_46 (dk_at dksX4_seeFound_0 19 rfl rfl)
theorem dX4_seeFound_20 : decode cX4_seeFound 20 = .ok (.iconst 1, 1) := dk_4 (dk_at dksX4_seeFound_0 20 rfl rfl)
theorem dX4_seeFound_21 : decode cX4_seeFound 21 = .ok (.bastore, 1) := dk_84 (dk_at dksX4_seeFound_0 21 rfl rfl)
theorem dX4_seeFound_22 : decode cX4_seeFound 22 = .ok (.iinc 1 1, 3) := dk_132 1 1 (dk_at dksX4_seeFound_1 0 rfl rfl)
theorem dX4_seeFound_25 : decode cX4_seeFound 25 = .ok (.goto (-23), 3) := dk_167 255 233 (dk_at dksX4_seeFound_1 3 rfl rfl)
theorem dX4_seeFound_28 : decode cX4_seeFound 28 = .ok (.return_, 1) := dk_177 (dk_at dksX4_seeFound_1 6 rfl rfl)
abbrev cX4_lakes : ByteArray := prog_12_method_60_code
def yX4_lakes : MethodName := ⟨RX4, "lakes", "()I"⟩
def dkwX4_lakes_2 : List UInt8 := [153, 0, 7, 4, 167, 0, 4, 3, 96, 60, 132, 2, 1, 167, 255, 203, 27, 172]
abbrev dktX4_lakes_2 : List UInt8 := dkwX4_lakes_2 ++ []
def dkwX4_lakes_1 : List UInt8 := [42, 180, 0, 47, 28, 51, 154, 0, 28, 42, 28, 3, 182, 0, 132, 42, 182, 0, 166, 27, 42, 182, 0, 169]
abbrev dktX4_lakes_1 : List UInt8 := dkwX4_lakes_1 ++ dktX4_lakes_2
def dkwX4_lakes_0 : List UInt8 := [42, 182, 0, 163, 3, 60, 3, 61, 28, 42, 182, 0, 116, 162, 0, 51, 42, 28, 182, 0, 97, 154, 0, 37]
abbrev dktX4_lakes_0 : List UInt8 := dkwX4_lakes_0 ++ dktX4_lakes_1
theorem dksX4_lakes_0 : cX4_lakes.data.toList.drop 0 = dktX4_lakes_0 := by decide +kernel
theorem dksX4_lakes_1 : cX4_lakes.data.toList.drop 24 = dktX4_lakes_1 := dk_seg dksX4_lakes_0 24 rfl rfl
theorem dksX4_lakes_2 : cX4_lakes.data.toList.drop 48 = dktX4_lakes_2 := dk_seg dksX4_lakes_1 24 rfl rfl
theorem dX4_lakes_0 : decode cX4_lakes 0 = .ok (.aload_n 0, 1) := dk_42 (dk_at dksX4_lakes_0 0 rfl rfl)
theorem dX4_lakes_1 : decode cX4_lakes 1 = .ok (.invokevirtual 163, 3) := dk_182 0 163 (dk_at dksX4_lakes_0 1 rfl rfl)
theorem dX4_lakes_4 : decode cX4_lakes 4 = .ok (.iconst 0, 1) := dk_3 (dk_at dksX4_lakes_0 4 rfl rfl)
theorem dX4_lakes_5 : decode cX4_lakes 5 = .ok (.istore_n 1, 1) := dk_60 (dk_at dksX4_lakes_0 5 rfl rfl)
theorem dX4_lakes_6 : decode cX4_lakes 6 = .ok (.iconst 0, 1) := dk_3 (dk_at dksX4_lakes_0 6 rfl rfl)
theorem dX4_lakes_7 : decode cX4_lakes 7 = .ok (.istore_n 2, 1) := dk_61 (dk_at dksX4_lakes_0 7 rfl rfl)
theorem dX4_lakes_8 : decode cX4_lakes 8 = .ok (.iload_n 2, 1) := dk_28 (dk_at dksX4_lakes_0 8 rfl rfl)
theorem dX4_lakes_9 : decode cX4_lakes 9 = .ok (.aload_n 0, 1) := dk_42 (dk_at dksX4_lakes_0 9 rfl rfl)
theorem dX4_lakes_10 : decode cX4_lakes 10 = .ok (.invokevirtual 116, 3) := dk_182 0 116 (dk_at dksX4_lakes_0 10 rfl rfl)
theorem dX4_lakes_13 : decode cX4_lakes 13 = .ok (.if_icmp .ge 51, 3) := dk_162 0 51 (dk_at dksX4_lakes_0 13 rfl rfl)
theorem dX4_lakes_16 : decode cX4_lakes 16 = .ok (.aload_n 0, 1) := dk_42 (dk_at dksX4_lakes_0 16 rfl rfl)
theorem dX4_lakes_17 : decode cX4_lakes 17 = .ok (.iload_n 2, 1) := dk_28 (dk_at dksX4_lakes_0 17 rfl rfl)
theorem dX4_lakes_18 : decode cX4_lakes 18 = .ok (.invokevirtual 97, 3) := dk_182 0 97 (dk_at dksX4_lakes_0 18 rfl rfl)
theorem dX4_lakes_21 : decode cX4_lakes 21 = .ok (.ifCond .ne 37, 3) := dk_154 0 37 (dk_at dksX4_lakes_0 21 rfl rfl)
theorem dX4_lakes_24 : decode cX4_lakes 24 = .ok (.aload_n 0, 1) := dk_42 (dk_at dksX4_lakes_1 0 rfl rfl)
theorem dX4_lakes_25 : decode cX4_lakes 25 = .ok (.getfield 47, 3) := dk_180 0 47 (dk_at dksX4_lakes_1 1 rfl rfl)
theorem dX4_lakes_28 : decode cX4_lakes 28 = .ok (.iload_n 2, 1) := dk_28 (dk_at dksX4_lakes_1 4 rfl rfl)
theorem dX4_lakes_29 : decode cX4_lakes 29 = .ok (.baload, 1) := dk_51 (dk_at dksX4_lakes_1 5 rfl rfl)
theorem dX4_lakes_30 : decode cX4_lakes 30 = .ok (.ifCond .ne 28, 3) := dk_154 0 28 (dk_at dksX4_lakes_1 6 rfl rfl)
theorem dX4_lakes_33 : decode cX4_lakes 33 = .ok (.aload_n 0, 1) := dk_42 (dk_at dksX4_lakes_1 9 rfl rfl)
theorem dX4_lakes_34 : decode cX4_lakes 34 = .ok (.iload_n 2, 1) := dk_28 (dk_at dksX4_lakes_1 10 rfl rfl)
theorem dX4_lakes_35 : decode cX4_lakes 35 = .ok (.iconst 0, 1) := dk_3 (dk_at dksX4_lakes_1 11 rfl rfl)
theorem dX4_lakes_36 : decode cX4_lakes 36 = .ok (.invokevirtual 132, 3) := dk_182 0 132 (dk_at dksX4_lakes_1 12 rfl rfl)
theorem dX4_lakes_39 : decode cX4_lakes 39 = .ok (.aload_n 0, 1) := dk_42 (dk_at dksX4_lakes_1 15 rfl rfl)
theorem dX4_lakes_40 : decode cX4_lakes 40 = .ok (.invokevirtual 166, 3) := dk_182 0 166 (dk_at dksX4_lakes_1 16 rfl rfl)
theorem dX4_lakes_43 : decode cX4_lakes 43 = .ok (.iload_n 1, 1) := dk_27 (dk_at dksX4_lakes_1 19 rfl rfl)
theorem dX4_lakes_44 : decode cX4_lakes 44 = .ok (.aload_n 0, 1) := dk_42 (dk_at dksX4_lakes_1 20 rfl rfl)
theorem dX4_lakes_45 : decode cX4_lakes 45 = .ok (.invokevirtual 169, 3) := dk_182 0 169 (dk_at dksX4_lakes_1 21 rfl rfl)
theorem dX4_lakes_48 : decode cX4_lakes 48 = .ok (.ifCond .eq 7, 3) := dk_153 0 7 (dk_at dksX4_lakes_2 0 rfl rfl)
theorem dX4_lakes_51 : decode cX4_lakes 51 = .ok (.iconst 1, 1) := dk_4 (dk_at dksX4_lakes_2 3 rfl rfl)
theorem dX4_lakes_52 : decode cX4_lakes 52 = .ok (.goto 4, 3) := dk_167 0 4 (dk_at dksX4_lakes_2 4 rfl rfl)
theorem dX4_lakes_55 : decode cX4_lakes 55 = .ok (.iconst 0, 1) := dk_3 (dk_at dksX4_lakes_2 7 rfl rfl)
theorem dX4_lakes_56 : decode cX4_lakes 56 = .ok (.iadd, 1) := dk_96 (dk_at dksX4_lakes_2 8 rfl rfl)
theorem dX4_lakes_57 : decode cX4_lakes 57 = .ok (.istore_n 1, 1) := dk_60 (dk_at dksX4_lakes_2 9 rfl rfl)
theorem dX4_lakes_58 : decode cX4_lakes 58 = .ok (.iinc 2 1, 3) := dk_132 2 1 (dk_at dksX4_lakes_2 10 rfl rfl)
theorem dX4_lakes_61 : decode cX4_lakes 61 = .ok (.goto (-53), 3) := dk_167 255 203 (dk_at dksX4_lakes_2 13 rfl rfl)
theorem dX4_lakes_64 : decode cX4_lakes 64 = .ok (.iload_n 1, 1) := dk_27 (dk_at dksX4_lakes_2 16 rfl rfl)
theorem dX4_lakes_65 : decode cX4_lakes 65 = .ok (.ireturn, 1) := dk_172 (dk_at dksX4_lakes_2 17 rfl rfl)
abbrev cX4_isInside : ByteArray := prog_12_method_59_code
def yX4_isInside : MethodName := ⟨RX4, "isInside", "()Z"⟩
def dkwX4_isInside_3 : List UInt8 := [153, 0, 7, 4, 167, 0, 4, 3, 60, 132, 2, 1, 167, 255, 179, 27, 172]
abbrev dktX4_isInside_3 : List UInt8 := dkwX4_isInside_3 ++ []
def dkwX4_isInside_2 : List UInt8 := [180, 0, 32, 28, 46, 42, 180, 0, 7, 4, 46, 112, 4, 42, 180, 0, 7, 4, 46, 5, 100, 184, 0, 61]
abbrev dktX4_isInside_2 : List UInt8 := dkwX4_isInside_2 ++ dktX4_isInside_3
def dkwX4_isInside_1 : List UInt8 := [180, 0, 7, 4, 46, 108, 4, 42, 180, 0, 7, 3, 46, 5, 100, 184, 0, 61, 153, 0, 35, 42]
abbrev dktX4_isInside_1 : List UInt8 := dkwX4_isInside_1 ++ dktX4_isInside_2
def dkwX4_isInside_0 : List UInt8 := [4, 60, 3, 61, 28, 42, 180, 0, 129, 162, 0, 75, 27, 153, 0, 63, 42, 180, 0, 32, 28, 46, 42]
abbrev dktX4_isInside_0 : List UInt8 := dkwX4_isInside_0 ++ dktX4_isInside_1
theorem dksX4_isInside_0 : cX4_isInside.data.toList.drop 0 = dktX4_isInside_0 := by decide +kernel
theorem dksX4_isInside_1 : cX4_isInside.data.toList.drop 23 = dktX4_isInside_1 := dk_seg dksX4_isInside_0 23 rfl rfl
theorem dksX4_isInside_2 : cX4_isInside.data.toList.drop 45 = dktX4_isInside_2 := dk_seg dksX4_isInside_1 22 rfl rfl
theorem dksX4_isInside_3 : cX4_isInside.data.toList.drop 69 = dktX4_isInside_3 := dk_seg dksX4_isInside_2 24 rfl rfl
theorem dX4_isInside_0 : decode cX4_isInside 0 = .ok (.iconst 1, 1) := dk_4 (dk_at dksX4_isInside_0 0 rfl rfl)
theorem dX4_isInside_1 : decode cX4_isInside 1 = .ok (.istore_n 1, 1) := dk_60 (dk_at dksX4_isInside_0 1 rfl rfl)
theorem dX4_isInside_2 : decode cX4_isInside 2 = .ok (.iconst 0, 1) := dk_3 (dk_at dksX4_isInside_0 2 rfl rfl)
theorem dX4_isInside_3 : decode cX4_isInside 3 = .ok (.istore_n 2, 1) := dk_61 (dk_at dksX4_isInside_0 3 rfl rfl)
theorem dX4_isInside_4 : decode cX4_isInside 4 = .ok (.iload_n 2, 1) := dk_28 (dk_at dksX4_isInside_0 4 rfl rfl)
theorem dX4_isInside_5 : decode cX4_isInside 5 = .ok (.aload_n 0, 1) := dk_42 (dk_at dksX4_isInside_0 5 rfl rfl)
theorem dX4_isInside_6 : decode cX4_isInside 6 = .ok (.getfield 129, 3) := dk_180 0 129 (dk_at dksX4_isInside_0 6 rfl rfl)
theorem dX4_isInside_9 : decode cX4_isInside 9 = .ok (.if_icmp .ge 75, 3) := dk_162 0 75 (dk_at dksX4_isInside_0 9 rfl rfl)
theorem dX4_isInside_12 : decode cX4_isInside 12 = .ok (.iload_n 1, 1) := dk_27 (dk_at dksX4_isInside_0 12 rfl rfl)
theorem dX4_isInside_13 : decode cX4_isInside 13 = .ok (.ifCond .eq 63, 3) := dk_153 0 63 (dk_at dksX4_isInside_0 13 rfl rfl)
theorem dX4_isInside_16 : decode cX4_isInside 16 = .ok (.aload_n 0, 1) := dk_42 (dk_at dksX4_isInside_0 16 rfl rfl)
theorem dX4_isInside_17 : decode cX4_isInside 17 = .ok (.getfield 32, 3) := dk_180 0 32 (dk_at dksX4_isInside_0 17 rfl rfl)
theorem dX4_isInside_20 : decode cX4_isInside 20 = .ok (.iload_n 2, 1) := dk_28 (dk_at dksX4_isInside_0 20 rfl rfl)
theorem dX4_isInside_21 : decode cX4_isInside 21 = .ok (.iaload, 1) := dk_46 (dk_at dksX4_isInside_0 21 rfl rfl)
theorem dX4_isInside_22 : decode cX4_isInside 22 = .ok (.aload_n 0, 1) := dk_42 (dk_at dksX4_isInside_0 22 rfl rfl)
theorem dX4_isInside_23 : decode cX4_isInside 23 = .ok (.getfield 7, 3) := dk_180 0 7 (dk_at dksX4_isInside_1 0 rfl rfl)
theorem dX4_isInside_26 : decode cX4_isInside 26 = .ok (.iconst 1, 1) := dk_4 (dk_at dksX4_isInside_1 3 rfl rfl)
theorem dX4_isInside_27 : decode cX4_isInside 27 = .ok (.iaload, 1) := dk_46 (dk_at dksX4_isInside_1 4 rfl rfl)
theorem dX4_isInside_28 : decode cX4_isInside 28 = .ok (.idiv, 1) := dk_108 (dk_at dksX4_isInside_1 5 rfl rfl)
theorem dX4_isInside_29 : decode cX4_isInside 29 = .ok (.iconst 1, 1) := dk_4 (dk_at dksX4_isInside_1 6 rfl rfl)
theorem dX4_isInside_30 : decode cX4_isInside 30 = .ok (.aload_n 0, 1) := dk_42 (dk_at dksX4_isInside_1 7 rfl rfl)
theorem dX4_isInside_31 : decode cX4_isInside 31 = .ok (.getfield 7, 3) := dk_180 0 7 (dk_at dksX4_isInside_1 8 rfl rfl)
theorem dX4_isInside_34 : decode cX4_isInside 34 = .ok (.iconst 0, 1) := dk_3 (dk_at dksX4_isInside_1 11 rfl rfl)
theorem dX4_isInside_35 : decode cX4_isInside 35 = .ok (.iaload, 1) := dk_46 (dk_at dksX4_isInside_1 12 rfl rfl)
theorem dX4_isInside_36 : decode cX4_isInside 36 = .ok (.iconst 2, 1) := dk_5 (dk_at dksX4_isInside_1 13 rfl rfl)
theorem dX4_isInside_37 : decode cX4_isInside 37 = .ok (.isub, 1) := dk_100 (dk_at dksX4_isInside_1 14 rfl rfl)
theorem dX4_isInside_38 : decode cX4_isInside 38 = .ok (.invokestatic 61, 3) := dk_184 0 61 (dk_at dksX4_isInside_1 15 rfl rfl)
theorem dX4_isInside_41 : decode cX4_isInside 41 = .ok (.ifCond .eq 35, 3) := dk_153 0 35 (dk_at dksX4_isInside_1 18 rfl rfl)
theorem dX4_isInside_44 : decode cX4_isInside 44 = .ok (.aload_n 0, 1) := dk_42 (dk_at dksX4_isInside_1 21 rfl rfl)
theorem dX4_isInside_45 : decode cX4_isInside 45 = .ok (.getfield 32, 3) := dk_180 0 32 (dk_at dksX4_isInside_2 0 rfl rfl)
theorem dX4_isInside_48 : decode cX4_isInside 48 = .ok (.iload_n 2, 1) := dk_28 (dk_at dksX4_isInside_2 3 rfl rfl)
theorem dX4_isInside_49 : decode cX4_isInside 49 = .ok (.iaload, 1) := dk_46 (dk_at dksX4_isInside_2 4 rfl rfl)
theorem dX4_isInside_50 : decode cX4_isInside 50 = .ok (.aload_n 0, 1) := dk_42 (dk_at dksX4_isInside_2 5 rfl rfl)
theorem dX4_isInside_51 : decode cX4_isInside 51 = .ok (.getfield 7, 3) := dk_180 0 7 (dk_at dksX4_isInside_2 6 rfl rfl)
theorem dX4_isInside_54 : decode cX4_isInside 54 = .ok (.iconst 1, 1) := dk_4 (dk_at dksX4_isInside_2 9 rfl rfl)
theorem dX4_isInside_55 : decode cX4_isInside 55 = .ok (.iaload, 1) := dk_46 (dk_at dksX4_isInside_2 10 rfl rfl)
theorem dX4_isInside_56 : decode cX4_isInside 56 = .ok (.irem, 1) := dk_112 (dk_at dksX4_isInside_2 11 rfl rfl)
theorem dX4_isInside_57 : decode cX4_isInside 57 = .ok (.iconst 1, 1) := dk_4 (dk_at dksX4_isInside_2 12 rfl rfl)
theorem dX4_isInside_58 : decode cX4_isInside 58 = .ok (.aload_n 0, 1) := dk_42 (dk_at dksX4_isInside_2 13 rfl rfl)
theorem dX4_isInside_59 : decode cX4_isInside 59 = .ok (.getfield 7, 3) := dk_180 0 7 (dk_at dksX4_isInside_2 14 rfl rfl)
theorem dX4_isInside_62 : decode cX4_isInside 62 = .ok (.iconst 1, 1) := dk_4 (dk_at dksX4_isInside_2 17 rfl rfl)
theorem dX4_isInside_63 : decode cX4_isInside 63 = .ok (.iaload, 1) := dk_46 (dk_at dksX4_isInside_2 18 rfl rfl)
theorem dX4_isInside_64 : decode cX4_isInside 64 = .ok (.iconst 2, 1) := dk_5 (dk_at dksX4_isInside_2 19 rfl rfl)
theorem dX4_isInside_65 : decode cX4_isInside 65 = .ok (.isub, 1) := dk_100 (dk_at dksX4_isInside_2 20 rfl rfl)
theorem dX4_isInside_66 : decode cX4_isInside 66 = .ok (.invokestatic 61, 3) := dk_184 0 61 (dk_at dksX4_isInside_2 21 rfl rfl)
theorem dX4_isInside_69 : decode cX4_isInside 69 = .ok (.ifCond .eq 7, 3) := dk_153 0 7 (dk_at dksX4_isInside_3 0 rfl rfl)
theorem dX4_isInside_72 : decode cX4_isInside 72 = .ok (.iconst 1, 1) := dk_4 (dk_at dksX4_isInside_3 3 rfl rfl)
theorem dX4_isInside_73 : decode cX4_isInside 73 = .ok (.goto 4, 3) := dk_167 0 4 (dk_at dksX4_isInside_3 4 rfl rfl)
theorem dX4_isInside_76 : decode cX4_isInside 76 = .ok (.iconst 0, 1) := dk_3 (dk_at dksX4_isInside_3 7 rfl rfl)
theorem dX4_isInside_77 : decode cX4_isInside 77 = .ok (.istore_n 1, 1) := dk_60 (dk_at dksX4_isInside_3 8 rfl rfl)
theorem dX4_isInside_78 : decode cX4_isInside 78 = .ok (.iinc 2 1, 3) := dk_132 2 1 (dk_at dksX4_isInside_3 9 rfl rfl)
theorem dX4_isInside_81 : decode cX4_isInside 81 = .ok (.goto (-77), 3) := dk_167 255 179 (dk_at dksX4_isInside_3 12 rfl rfl)
theorem dX4_isInside_84 : decode cX4_isInside 84 = .ok (.iload_n 1, 1) := dk_27 (dk_at dksX4_isInside_3 15 rfl rfl)
theorem dX4_isInside_85 : decode cX4_isInside 85 = .ok (.ireturn, 1) := dk_172 (dk_at dksX4_isInside_3 16 rfl rfl)
abbrev cX4_region : ByteArray := prog_12_method_61_code
def yX4_region : MethodName := ⟨RX4, "region", "(IIZ)I"⟩
def dkwX4_region_1 : List UInt8 := [180, 0, 129, 172]
abbrev dktX4_region_1 : List UInt8 := dkwX4_region_1 ++ []
def dkwX4_region_0 : List UInt8 := [42, 27, 28, 182, 0, 90, 154, 0, 5, 2, 172, 42, 42, 27, 28, 182, 0, 94, 29, 182, 0, 132, 42]
abbrev dktX4_region_0 : List UInt8 := dkwX4_region_0 ++ dktX4_region_1
theorem dksX4_region_0 : cX4_region.data.toList.drop 0 = dktX4_region_0 := by decide +kernel
theorem dksX4_region_1 : cX4_region.data.toList.drop 23 = dktX4_region_1 := dk_seg dksX4_region_0 23 rfl rfl
theorem dX4_region_0 : decode cX4_region 0 = .ok (.aload_n 0, 1) := dk_42 (dk_at dksX4_region_0 0 rfl rfl)
theorem dX4_region_1 : decode cX4_region 1 = .ok (.iload_n 1, 1) := dk_27 (dk_at dksX4_region_0 1 rfl rfl)
theorem dX4_region_2 : decode cX4_region 2 = .ok (.iload_n 2, 1) := dk_28 (dk_at dksX4_region_0 2 rfl rfl)
theorem dX4_region_3 : decode cX4_region 3 = .ok (.invokevirtual 90, 3) := dk_182 0 90 (dk_at dksX4_region_0 3 rfl rfl)
theorem dX4_region_6 : decode cX4_region 6 = .ok (.ifCond .ne 5, 3) := dk_154 0 5 (dk_at dksX4_region_0 6 rfl rfl)
theorem dX4_region_9 : decode cX4_region 9 = .ok (.iconst (-1), 1) := dk_2 (dk_at dksX4_region_0 9 rfl rfl)
theorem dX4_region_10 : decode cX4_region 10 = .ok (.ireturn, 1) := dk_172 (dk_at dksX4_region_0 10 rfl rfl)
theorem dX4_region_11 : decode cX4_region 11 = .ok (.aload_n 0, 1) := dk_42 (dk_at dksX4_region_0 11 rfl rfl)
theorem dX4_region_12 : decode cX4_region 12 = .ok (.aload_n 0, 1) := dk_42 (dk_at dksX4_region_0 12 rfl rfl)
theorem dX4_region_13 : decode cX4_region 13 = .ok (.iload_n 1, 1) := dk_27 (dk_at dksX4_region_0 13 rfl rfl)
theorem dX4_region_14 : decode cX4_region 14 = .ok (.iload_n 2, 1) := dk_28 (dk_at dksX4_region_0 14 rfl rfl)
theorem dX4_region_15 : decode cX4_region 15 = .ok (.invokevirtual 94, 3) := dk_182 0 94 (dk_at dksX4_region_0 15 rfl rfl)
theorem dX4_region_18 : decode cX4_region 18 = .ok (.iload_n 3, 1) := dk_29 (dk_at dksX4_region_0 18 rfl rfl)
theorem dX4_region_19 : decode cX4_region 19 = .ok (.invokevirtual 132, 3) := dk_182 0 132 (dk_at dksX4_region_0 19 rfl rfl)
theorem dX4_region_22 : decode cX4_region 22 = .ok (.aload_n 0, 1) := dk_42 (dk_at dksX4_region_0 22 rfl rfl)
theorem dX4_region_23 : decode cX4_region 23 = .ok (.getfield 129, 3) := dk_180 0 129 (dk_at dksX4_region_1 0 rfl rfl)
theorem dX4_region_26 : decode cX4_region 26 = .ok (.ireturn, 1) := dk_172 (dk_at dksX4_region_1 3 rfl rfl)
abbrev cX4_largestIsland : ByteArray := prog_12_method_62_code
def yX4_largestIsland : MethodName := ⟨RX4, "largestIsland", "()I"⟩
def dkwX4_largestIsland_3 : List UInt8 := [164, 0, 10, 42, 180, 0, 129, 167, 0, 4, 28, 61, 132, 3, 1, 167, 255, 183, 27, 172]
abbrev dktX4_largestIsland_3 : List UInt8 := dkwX4_largestIsland_3 ++ []
def dkwX4_largestIsland_2 : List UInt8 := [180, 0, 129, 28, 164, 0, 11, 42, 29, 182, 0, 148, 167, 0, 4, 27, 60, 42, 180, 0, 129, 28]
abbrev dktX4_largestIsland_2 : List UInt8 := dkwX4_largestIsland_2 ++ dktX4_largestIsland_3
def dkwX4_largestIsland_1 : List UInt8 := [153, 0, 57, 42, 180, 0, 47, 29, 51, 154, 0, 48, 42, 29, 4, 182, 0, 132, 42, 182, 0, 166, 42]
abbrev dktX4_largestIsland_1 : List UInt8 := dkwX4_largestIsland_1 ++ dktX4_largestIsland_2
def dkwX4_largestIsland_0 : List UInt8 := [42, 182, 0, 163, 16, 250, 60, 3, 61, 3, 62, 29, 42, 182, 0, 116, 162, 0, 71, 42, 29, 182, 0, 97]
abbrev dktX4_largestIsland_0 : List UInt8 := dkwX4_largestIsland_0 ++ dktX4_largestIsland_1
theorem dksX4_largestIsland_0 : cX4_largestIsland.data.toList.drop 0 = dktX4_largestIsland_0 := by decide +kernel
theorem dksX4_largestIsland_1 : cX4_largestIsland.data.toList.drop 24 = dktX4_largestIsland_1 := dk_seg dksX4_largestIsland_0 24 rfl rfl
theorem dksX4_largestIsland_2 : cX4_largestIsland.data.toList.drop 47 = dktX4_largestIsland_2 := dk_seg dksX4_largestIsland_1 23 rfl rfl
theorem dksX4_largestIsland_3 : cX4_largestIsland.data.toList.drop 69 = dktX4_largestIsland_3 := dk_seg dksX4_largestIsland_2 22 rfl rfl
theorem dX4_largestIsland_0 : decode cX4_largestIsland 0 = .ok (.aload_n 0, 1) := dk_42 (dk_at dksX4_largestIsland_0 0 rfl rfl)
theorem dX4_largestIsland_1 : decode cX4_largestIsland 1 = .ok (.invokevirtual 163, 3) := dk_182 0 163 (dk_at dksX4_largestIsland_0 1 rfl rfl)
theorem dX4_largestIsland_4 : decode cX4_largestIsland 4 = .ok (.bipush (-6), 2) := dk_16 250 (dk_at dksX4_largestIsland_0 4 rfl rfl)
theorem dX4_largestIsland_6 : decode cX4_largestIsland 6 = .ok (.istore_n 1, 1) := dk_60 (dk_at dksX4_largestIsland_0 6 rfl rfl)
theorem dX4_largestIsland_7 : decode cX4_largestIsland 7 = .ok (.iconst 0, 1) := dk_3 (dk_at dksX4_largestIsland_0 7 rfl rfl)
theorem dX4_largestIsland_8 : decode cX4_largestIsland 8 = .ok (.istore_n 2, 1) := dk_61 (dk_at dksX4_largestIsland_0 8 rfl rfl)
theorem dX4_largestIsland_9 : decode cX4_largestIsland 9 = .ok (.iconst 0, 1) := dk_3 (dk_at dksX4_largestIsland_0 9 rfl rfl)
theorem dX4_largestIsland_10 : decode cX4_largestIsland 10 = .ok (.istore_n 3, 1) := dk_62 (dk_at dksX4_largestIsland_0 10 rfl rfl)
theorem dX4_largestIsland_11 : decode cX4_largestIsland 11 = .ok (.iload_n 3, 1) := dk_29 (dk_at dksX4_largestIsland_0 11 rfl rfl)
theorem dX4_largestIsland_12 : decode cX4_largestIsland 12 = .ok (.aload_n 0, 1) := dk_42 (dk_at dksX4_largestIsland_0 12 rfl rfl)
theorem dX4_largestIsland_13 : decode cX4_largestIsland 13 = .ok (.invokevirtual 116, 3) := dk_182 0 116 (dk_at dksX4_largestIsland_0 13 rfl rfl)
theorem dX4_largestIsland_16 : decode cX4_largestIsland 16 = .ok (.if_icmp .ge 71, 3) := dk_162 0 71 (dk_at dksX4_largestIsland_0 16 rfl rfl)
theorem dX4_largestIsland_19 : decode cX4_largestIsland 19 = .ok (.aload_n 0, 1) := dk_42 (dk_at dksX4_largestIsland_0 19 rfl rfl)
theorem dX4_largestIsland_20 : decode cX4_largestIsland 20 = .ok (.iload_n 3, 1) := dk_29 (dk_at dksX4_largestIsland_0 20 rfl rfl)
theorem dX4_largestIsland_21 : decode cX4_largestIsland 21 = .ok (.invokevirtual 97, 3) := dk_182 0 97 (dk_at dksX4_largestIsland_0 21 rfl rfl)
theorem dX4_largestIsland_24 : decode cX4_largestIsland 24 = .ok (.ifCond .eq 57, 3) := dk_153 0 57 (dk_at dksX4_largestIsland_1 0 rfl rfl)
theorem dX4_largestIsland_27 : decode cX4_largestIsland 27 = .ok (.aload_n 0, 1) := dk_42 (dk_at dksX4_largestIsland_1 3 rfl rfl)
theorem dX4_largestIsland_28 : decode cX4_largestIsland 28 = .ok (.getfield 47, 3) := dk_180 0 47 (dk_at dksX4_largestIsland_1 4 rfl rfl)
theorem dX4_largestIsland_31 : decode cX4_largestIsland 31 = .ok (.iload_n 3, 1) := dk_29 (dk_at dksX4_largestIsland_1 7 rfl rfl)
theorem dX4_largestIsland_32 : decode cX4_largestIsland 32 = .ok (.baload, 1) := dk_51 (dk_at dksX4_largestIsland_1 8 rfl rfl)
theorem dX4_largestIsland_33 : decode cX4_largestIsland 33 = .ok (.ifCond .ne 48, 3) := dk_154 0 48 (dk_at dksX4_largestIsland_1 9 rfl rfl)
theorem dX4_largestIsland_36 : decode cX4_largestIsland 36 = .ok (.aload_n 0, 1) := dk_42 (dk_at dksX4_largestIsland_1 12 rfl rfl)
theorem dX4_largestIsland_37 : decode cX4_largestIsland 37 = .ok (.iload_n 3, 1) := dk_29 (dk_at dksX4_largestIsland_1 13 rfl rfl)
theorem dX4_largestIsland_38 : decode cX4_largestIsland 38 = .ok (.iconst 1, 1) := dk_4 (dk_at dksX4_largestIsland_1 14 rfl rfl)
theorem dX4_largestIsland_39 : decode cX4_largestIsland 39 = .ok (.invokevirtual 132, 3) := dk_182 0 132 (dk_at dksX4_largestIsland_1 15 rfl rfl)
theorem dX4_largestIsland_42 : decode cX4_largestIsland 42 = .ok (.aload_n 0, 1) := dk_42 (dk_at dksX4_largestIsland_1 18 rfl rfl)
theorem dX4_largestIsland_43 : decode cX4_largestIsland 43 = .ok (.invokevirtual 166, 3) := dk_182 0 166 (dk_at dksX4_largestIsland_1 19 rfl rfl)
theorem dX4_largestIsland_46 : decode cX4_largestIsland 46 = .ok (.aload_n 0, 1) := dk_42 (dk_at dksX4_largestIsland_1 22 rfl rfl)
theorem dX4_largestIsland_47 : decode cX4_largestIsland 47 = .ok (.getfield 129, 3) := dk_180 0 129 (dk_at dksX4_largestIsland_2 0 rfl rfl)
theorem dX4_largestIsland_50 : decode cX4_largestIsland 50 = .ok (.iload_n 2, 1) := dk_28 (dk_at dksX4_largestIsland_2 3 rfl rfl)
theorem dX4_largestIsland_51 : decode cX4_largestIsland 51 = .ok (.if_icmp .le 11, 3) := dk_164 0 11 (dk_at dksX4_largestIsland_2 4 rfl rfl)
theorem dX4_largestIsland_54 : decode cX4_largestIsland 54 = .ok (.aload_n 0, 1) := dk_42 (dk_at dksX4_largestIsland_2 7 rfl rfl)
theorem dX4_largestIsland_55 : decode cX4_largestIsland 55 = .ok (.iload_n 3, 1) := dk_29 (dk_at dksX4_largestIsland_2 8 rfl rfl)
theorem dX4_largestIsland_56 : decode cX4_largestIsland 56 = .ok (.invokevirtual 148, 3) := dk_182 0 148 (dk_at dksX4_largestIsland_2 9 rfl rfl)
theorem dX4_largestIsland_59 : decode cX4_largestIsland 59 = .ok (.goto 4, 3) := dk_167 0 4 (dk_at dksX4_largestIsland_2 12 rfl rfl)
theorem dX4_largestIsland_62 : decode cX4_largestIsland 62 = .ok (.iload_n 1, 1) := dk_27 (dk_at dksX4_largestIsland_2 15 rfl rfl)
theorem dX4_largestIsland_63 : decode cX4_largestIsland 63 = .ok (.istore_n 1, 1) := dk_60 (dk_at dksX4_largestIsland_2 16 rfl rfl)
theorem dX4_largestIsland_64 : decode cX4_largestIsland 64 = .ok (.aload_n 0, 1) := dk_42 (dk_at dksX4_largestIsland_2 17 rfl rfl)
theorem dX4_largestIsland_65 : decode cX4_largestIsland 65 = .ok (.getfield 129, 3) := dk_180 0 129 (dk_at dksX4_largestIsland_2 18 rfl rfl)
theorem dX4_largestIsland_68 : decode cX4_largestIsland 68 = .ok (.iload_n 2, 1) := dk_28 (dk_at dksX4_largestIsland_2 21 rfl rfl)
theorem dX4_largestIsland_69 : decode cX4_largestIsland 69 = .ok (.if_icmp .le 10, 3) := dk_164 0 10 (dk_at dksX4_largestIsland_3 0 rfl rfl)
theorem dX4_largestIsland_72 : decode cX4_largestIsland 72 = .ok (.aload_n 0, 1) := dk_42 (dk_at dksX4_largestIsland_3 3 rfl rfl)
theorem dX4_largestIsland_73 : decode cX4_largestIsland 73 = .ok (.getfield 129, 3) := dk_180 0 129 (dk_at dksX4_largestIsland_3 4 rfl rfl)
theorem dX4_largestIsland_76 : decode cX4_largestIsland 76 = .ok (.goto 4, 3) := dk_167 0 4 (dk_at dksX4_largestIsland_3 7 rfl rfl)
theorem dX4_largestIsland_79 : decode cX4_largestIsland 79 = .ok (.iload_n 2, 1) := dk_28 (dk_at dksX4_largestIsland_3 10 rfl rfl)
theorem dX4_largestIsland_80 : decode cX4_largestIsland 80 = .ok (.istore_n 2, 1) := dk_61 (dk_at dksX4_largestIsland_3 11 rfl rfl)
theorem dX4_largestIsland_81 : decode cX4_largestIsland 81 = .ok (.iinc 3 1, 3) := dk_132 3 1 (dk_at dksX4_largestIsland_3 12 rfl rfl)
theorem dX4_largestIsland_84 : decode cX4_largestIsland 84 = .ok (.goto (-73), 3) := dk_167 255 183 (dk_at dksX4_largestIsland_3 15 rfl rfl)
theorem dX4_largestIsland_87 : decode cX4_largestIsland 87 = .ok (.iload_n 1, 1) := dk_27 (dk_at dksX4_largestIsland_3 18 rfl rfl)
theorem dX4_largestIsland_88 : decode cX4_largestIsland 88 = .ok (.ireturn, 1) := dk_172 (dk_at dksX4_largestIsland_3 19 rfl rfl)
abbrev cX4_way : ByteArray := prog_12_method_63_code
def yX4_way : MethodName := ⟨RX4, "way", "(IIII)I"⟩
def dkwX4_way_1 : List UInt8 := [28, 182, 0, 94, 3, 182, 0, 132, 42, 180, 0, 35, 42, 29, 21, 4, 182, 0, 94, 46, 172]
abbrev dktX4_way_1 : List UInt8 := dkwX4_way_1 ++ []
def dkwX4_way_0 : List UInt8 := [42, 27, 28, 182, 0, 90, 153, 0, 13, 42, 29, 21, 4, 182, 0, 90, 154, 0, 5, 2, 172, 42, 42, 27]
abbrev dktX4_way_0 : List UInt8 := dkwX4_way_0 ++ dktX4_way_1
theorem dksX4_way_0 : cX4_way.data.toList.drop 0 = dktX4_way_0 := by decide +kernel
theorem dksX4_way_1 : cX4_way.data.toList.drop 24 = dktX4_way_1 := dk_seg dksX4_way_0 24 rfl rfl
theorem dX4_way_0 : decode cX4_way 0 = .ok (.aload_n 0, 1) := dk_42 (dk_at dksX4_way_0 0 rfl rfl)
theorem dX4_way_1 : decode cX4_way 1 = .ok (.iload_n 1, 1) := dk_27 (dk_at dksX4_way_0 1 rfl rfl)
theorem dX4_way_2 : decode cX4_way 2 = .ok (.iload_n 2, 1) := dk_28 (dk_at dksX4_way_0 2 rfl rfl)
theorem dX4_way_3 : decode cX4_way 3 = .ok (.invokevirtual 90, 3) := dk_182 0 90 (dk_at dksX4_way_0 3 rfl rfl)
theorem dX4_way_6 : decode cX4_way 6 = .ok (.ifCond .eq 13, 3) := dk_153 0 13 (dk_at dksX4_way_0 6 rfl rfl)
theorem dX4_way_9 : decode cX4_way 9 = .ok (.aload_n 0, 1) := dk_42 (dk_at dksX4_way_0 9 rfl rfl)
theorem dX4_way_10 : decode cX4_way 10 = .ok (.iload_n 3, 1) := dk_29 (dk_at dksX4_way_0 10 rfl rfl)
theorem dX4_way_11 : decode cX4_way 11 = .ok (.iload 4, 2) := dk_21 4 (dk_at dksX4_way_0 11 rfl rfl)
theorem dX4_way_13 : decode cX4_way 13 = .ok (.invokevirtual 90, 3) := dk_182 0 90 (dk_at dksX4_way_0 13 rfl rfl)
theorem dX4_way_16 : decode cX4_way 16 = .ok (.ifCond .ne 5, 3) := dk_154 0 5 (dk_at dksX4_way_0 16 rfl rfl)
theorem dX4_way_19 : decode cX4_way 19 = .ok (.iconst (-1), 1) := dk_2 (dk_at dksX4_way_0 19 rfl rfl)
theorem dX4_way_20 : decode cX4_way 20 = .ok (.ireturn, 1) := dk_172 (dk_at dksX4_way_0 20 rfl rfl)
theorem dX4_way_21 : decode cX4_way 21 = .ok (.aload_n 0, 1) := dk_42 (dk_at dksX4_way_0 21 rfl rfl)
theorem dX4_way_22 : decode cX4_way 22 = .ok (.aload_n 0, 1) := dk_42 (dk_at dksX4_way_0 22 rfl rfl)
theorem dX4_way_23 : decode cX4_way 23 = .ok (.iload_n 1, 1) := dk_27 (dk_at dksX4_way_0 23 rfl rfl)
theorem dX4_way_24 : decode cX4_way 24 = .ok (.iload_n 2, 1) := dk_28 (dk_at dksX4_way_1 0 rfl rfl)
theorem dX4_way_25 : decode cX4_way 25 = .ok (.invokevirtual 94, 3) := dk_182 0 94 (dk_at dksX4_way_1 1 rfl rfl)
theorem dX4_way_28 : decode cX4_way 28 = .ok (.iconst 0, 1) := dk_3 (dk_at dksX4_way_1 4 rfl rfl)
theorem dX4_way_29 : decode cX4_way 29 = .ok (.invokevirtual 132, 3) := dk_182 0 132 (dk_at dksX4_way_1 5 rfl rfl)
theorem dX4_way_32 : decode cX4_way 32 = .ok (.aload_n 0, 1) := dk_42 (dk_at dksX4_way_1 8 rfl rfl)
theorem dX4_way_33 : decode cX4_way 33 = .ok (.getfield 35, 3) := dk_180 0 35 (dk_at dksX4_way_1 9 rfl rfl)
theorem dX4_way_36 : decode cX4_way 36 = .ok (.aload_n 0, 1) := dk_42 (dk_at dksX4_way_1 12 rfl rfl)
theorem dX4_way_37 : decode cX4_way 37 = .ok (.iload_n 3, 1) := dk_29 (dk_at dksX4_way_1 13 rfl rfl)
theorem dX4_way_38 : decode cX4_way 38 = .ok (.iload 4, 2) := dk_21 4 (dk_at dksX4_way_1 14 rfl rfl)
theorem dX4_way_40 : decode cX4_way 40 = .ok (.invokevirtual 94, 3) := dk_182 0 94 (dk_at dksX4_way_1 16 rfl rfl)
theorem dX4_way_43 : decode cX4_way 43 = .ok (.iaload, 1) := dk_46 (dk_at dksX4_way_1 19 rfl rfl)
theorem dX4_way_44 : decode cX4_way 44 = .ok (.ireturn, 1) := dk_172 (dk_at dksX4_way_1 20 rfl rfl)
abbrev cX4_coastIfChanged : ByteArray := prog_12_method_64_code
def yX4_coastIfChanged : MethodName := ⟨RX4, "coastIfChanged", "(II)I"⟩
def dkwX4_coastIfChanged_3 : List UInt8 := [16, 100, 96, 172]
abbrev dktX4_coastIfChanged_3 : List UInt8 := dkwX4_coastIfChanged_3 ++ []
def dkwX4_coastIfChanged_2 : List UInt8 := [42, 180, 0, 7, 6, 29, 96, 4, 42, 180, 0, 7, 6, 29, 96, 46, 100, 79, 21, 5, 21, 4, 100]
abbrev dktX4_coastIfChanged_2 : List UInt8 := dkwX4_coastIfChanged_2 ++ dktX4_coastIfChanged_3
def dkwX4_coastIfChanged_1 : List UInt8 := [42, 180, 0, 7, 6, 29, 96, 4, 42, 180, 0, 7, 6, 29, 96, 46, 100, 79, 42, 182, 0, 173, 54, 5]
abbrev dktX4_coastIfChanged_1 : List UInt8 := dkwX4_coastIfChanged_1 ++ dktX4_coastIfChanged_2
def dkwX4_coastIfChanged_0 : List UInt8 := [42, 27, 28, 182, 0, 90, 154, 0, 5, 2, 172, 42, 27, 28, 182, 0, 94, 62, 42, 182, 0, 173, 54, 4]
abbrev dktX4_coastIfChanged_0 : List UInt8 := dkwX4_coastIfChanged_0 ++ dktX4_coastIfChanged_1
theorem dksX4_coastIfChanged_0 : cX4_coastIfChanged.data.toList.drop 0 = dktX4_coastIfChanged_0 := by decide +kernel
theorem dksX4_coastIfChanged_1 : cX4_coastIfChanged.data.toList.drop 24 = dktX4_coastIfChanged_1 := dk_seg dksX4_coastIfChanged_0 24 rfl rfl
theorem dksX4_coastIfChanged_2 : cX4_coastIfChanged.data.toList.drop 48 = dktX4_coastIfChanged_2 := dk_seg dksX4_coastIfChanged_1 24 rfl rfl
theorem dksX4_coastIfChanged_3 : cX4_coastIfChanged.data.toList.drop 71 = dktX4_coastIfChanged_3 := dk_seg dksX4_coastIfChanged_2 23 rfl rfl
theorem dX4_coastIfChanged_0 : decode cX4_coastIfChanged 0 = .ok (.aload_n 0, 1) := dk_42 (dk_at dksX4_coastIfChanged_0 0 rfl rfl)
theorem dX4_coastIfChanged_1 : decode cX4_coastIfChanged 1 = .ok (.iload_n 1, 1) := dk_27 (dk_at dksX4_coastIfChanged_0 1 rfl rfl)
theorem dX4_coastIfChanged_2 : decode cX4_coastIfChanged 2 = .ok (.iload_n 2, 1) := dk_28 (dk_at dksX4_coastIfChanged_0 2 rfl rfl)
theorem dX4_coastIfChanged_3 : decode cX4_coastIfChanged 3 = .ok (.invokevirtual 90, 3) := dk_182 0 90 (dk_at dksX4_coastIfChanged_0 3 rfl rfl)
theorem dX4_coastIfChanged_6 : decode cX4_coastIfChanged 6 = .ok (.ifCond .ne 5, 3) := dk_154 0 5 (dk_at dksX4_coastIfChanged_0 6 rfl rfl)
theorem dX4_coastIfChanged_9 : decode cX4_coastIfChanged 9 = .ok (.iconst (-1), 1) := dk_2 (dk_at dksX4_coastIfChanged_0 9 rfl rfl)
theorem dX4_coastIfChanged_10 : decode cX4_coastIfChanged 10 = .ok (.ireturn, 1) := dk_172 (dk_at dksX4_coastIfChanged_0 10 rfl rfl)
theorem dX4_coastIfChanged_11 : decode cX4_coastIfChanged 11 = .ok (.aload_n 0, 1) := dk_42 (dk_at dksX4_coastIfChanged_0 11 rfl rfl)
theorem dX4_coastIfChanged_12 : decode cX4_coastIfChanged 12 = .ok (.iload_n 1, 1) := dk_27 (dk_at dksX4_coastIfChanged_0 12 rfl rfl)
theorem dX4_coastIfChanged_13 : decode cX4_coastIfChanged 13 = .ok (.iload_n 2, 1) := dk_28 (dk_at dksX4_coastIfChanged_0 13 rfl rfl)
theorem dX4_coastIfChanged_14 : decode cX4_coastIfChanged 14 = .ok (.invokevirtual 94, 3) := dk_182 0 94 (dk_at dksX4_coastIfChanged_0 14 rfl rfl)
theorem dX4_coastIfChanged_17 : decode cX4_coastIfChanged 17 = .ok (.istore_n 3, 1) := dk_62 (dk_at dksX4_coastIfChanged_0 17 rfl rfl)
theorem dX4_coastIfChanged_18 : decode cX4_coastIfChanged 18 = .ok (.aload_n 0, 1) := dk_42 (dk_at dksX4_coastIfChanged_0 18 rfl rfl)
theorem dX4_coastIfChanged_19 : decode cX4_coastIfChanged 19 = .ok (.invokevirtual 173, 3) := dk_182 0 173 (dk_at dksX4_coastIfChanged_0 19 rfl rfl)
theorem dX4_coastIfChanged_22 : decode cX4_coastIfChanged 22 = .ok (.istore 4, 2) := dk_54 4 (dk_at dksX4_coastIfChanged_0 22 rfl rfl)
theorem dX4_coastIfChanged_24 : decode cX4_coastIfChanged 24 = .ok (.aload_n 0, 1) := dk_42 (dk_at dksX4_coastIfChanged_1 0 rfl rfl)
theorem dX4_coastIfChanged_25 : decode cX4_coastIfChanged 25 = .ok (.getfield 7, 3) := dk_180 0 7 (dk_at dksX4_coastIfChanged_1 1 rfl rfl)
theorem dX4_coastIfChanged_28 : decode cX4_coastIfChanged 28 = .ok (.iconst 3, 1) := dk_6 (dk_at dksX4_coastIfChanged_1 4 rfl rfl)
theorem dX4_coastIfChanged_29 : decode cX4_coastIfChanged 29 = .ok (.iload_n 3, 1) := dk_29 (dk_at dksX4_coastIfChanged_1 5 rfl rfl)
theorem dX4_coastIfChanged_30 : decode cX4_coastIfChanged 30 = .ok (.iadd, 1) := dk_96 (dk_at dksX4_coastIfChanged_1 6 rfl rfl)
theorem dX4_coastIfChanged_31 : decode cX4_coastIfChanged 31 = .ok (.iconst 1, 1) := dk_4 (dk_at dksX4_coastIfChanged_1 7 rfl rfl)
theorem dX4_coastIfChanged_32 : decode cX4_coastIfChanged 32 = .ok (.aload_n 0, 1) := dk_42 (dk_at dksX4_coastIfChanged_1 8 rfl rfl)
theorem dX4_coastIfChanged_33 : decode cX4_coastIfChanged 33 = .ok (.getfield 7, 3) := dk_180 0 7 (dk_at dksX4_coastIfChanged_1 9 rfl rfl)
theorem dX4_coastIfChanged_36 : decode cX4_coastIfChanged 36 = .ok (.iconst 3, 1) := dk_6 (dk_at dksX4_coastIfChanged_1 12 rfl rfl)
theorem dX4_coastIfChanged_37 : decode cX4_coastIfChanged 37 = .ok (.iload_n 3, 1) := dk_29 (dk_at dksX4_coastIfChanged_1 13 rfl rfl)
theorem dX4_coastIfChanged_38 : decode cX4_coastIfChanged 38 = .ok (.iadd, 1) := dk_96 (dk_at dksX4_coastIfChanged_1 14 rfl rfl)
theorem dX4_coastIfChanged_39 : decode cX4_coastIfChanged 39 = .ok (.iaload, 1) := dk_46 (dk_at dksX4_coastIfChanged_1 15 rfl rfl)
theorem dX4_coastIfChanged_40 : decode cX4_coastIfChanged 40 = .ok (.isub, 1) := dk_100 (dk_at dksX4_coastIfChanged_1 16 rfl rfl)
theorem dX4_coastIfChanged_41 : decode cX4_coastIfChanged 41 = .ok (.iastore, 1) := dk_79 (dk_at dksX4_coastIfChanged_1 17 rfl rfl)
theorem dX4_coastIfChanged_42 : decode cX4_coastIfChanged 42 = .ok (.aload_n 0, 1) := dk_42 (dk_at dksX4_coastIfChanged_1 18 rfl rfl)
theorem dX4_coastIfChanged_43 : decode cX4_coastIfChanged 43 = .ok (.invokevirtual 173, 3) := dk_182 0 173 (dk_at dksX4_coastIfChanged_1 19 rfl rfl)
theorem dX4_coastIfChanged_46 : decode cX4_coastIfChanged 46 = .ok (.istore 5, 2) := dk_54 5 (dk_at dksX4_coastIfChanged_1 22 rfl rfl)
theorem dX4_coastIfChanged_48 : decode cX4_coastIfChanged 48 = .ok (.aload_n 0, 1) := dk_42 (dk_at dksX4_coastIfChanged_2 0 rfl rfl)
theorem dX4_coastIfChanged_49 : decode cX4_coastIfChanged 49 = .ok (.getfield 7, 3) := dk_180 0 7 (dk_at dksX4_coastIfChanged_2 1 rfl rfl)
theorem dX4_coastIfChanged_52 : decode cX4_coastIfChanged 52 = .ok (.iconst 3, 1) := dk_6 (dk_at dksX4_coastIfChanged_2 4 rfl rfl)
theorem dX4_coastIfChanged_53 : decode cX4_coastIfChanged 53 = .ok (.iload_n 3, 1) := dk_29 (dk_at dksX4_coastIfChanged_2 5 rfl rfl)
theorem dX4_coastIfChanged_54 : decode cX4_coastIfChanged 54 = .ok (.iadd, 1) := dk_96 (dk_at dksX4_coastIfChanged_2 6 rfl rfl)
theorem dX4_coastIfChanged_55 : decode cX4_coastIfChanged 55 = .ok (.iconst 1, 1) := dk_4 (dk_at dksX4_coastIfChanged_2 7 rfl rfl)
theorem dX4_coastIfChanged_56 : decode cX4_coastIfChanged 56 = .ok (.aload_n 0, 1) := dk_42 (dk_at dksX4_coastIfChanged_2 8 rfl rfl)
theorem dX4_coastIfChanged_57 : decode cX4_coastIfChanged 57 = .ok (.getfield 7, 3) := dk_180 0 7 (dk_at dksX4_coastIfChanged_2 9 rfl rfl)
theorem dX4_coastIfChanged_60 : decode cX4_coastIfChanged 60 = .ok (.iconst 3, 1) := dk_6 (dk_at dksX4_coastIfChanged_2 12 rfl rfl)
theorem dX4_coastIfChanged_61 : decode cX4_coastIfChanged 61 = .ok (.iload_n 3, 1) := dk_29 (dk_at dksX4_coastIfChanged_2 13 rfl rfl)
theorem dX4_coastIfChanged_62 : decode cX4_coastIfChanged 62 = .ok (.iadd, 1) := dk_96 (dk_at dksX4_coastIfChanged_2 14 rfl rfl)
theorem dX4_coastIfChanged_63 : decode cX4_coastIfChanged 63 = .ok (.iaload, 1) := dk_46 (dk_at dksX4_coastIfChanged_2 15 rfl rfl)
theorem dX4_coastIfChanged_64 : decode cX4_coastIfChanged 64 = .ok (.isub, 1) := dk_100 (dk_at dksX4_coastIfChanged_2 16 rfl rfl)
theorem dX4_coastIfChanged_65 : decode cX4_coastIfChanged 65 = .ok (.iastore, 1) := dk_79 (dk_at dksX4_coastIfChanged_2 17 rfl rfl)
theorem dX4_coastIfChanged_66 : decode cX4_coastIfChanged 66 = .ok (.iload 5, 2) := dk_21 5 (dk_at dksX4_coastIfChanged_2 18 rfl rfl)
theorem dX4_coastIfChanged_68 : decode cX4_coastIfChanged 68 = .ok (.iload 4, 2) := dk_21 4 (dk_at dksX4_coastIfChanged_2 20 rfl rfl)
theorem dX4_coastIfChanged_70 : decode cX4_coastIfChanged 70 = .ok (.isub, 1) := dk_100 (dk_at dksX4_coastIfChanged_2 22 rfl rfl)
theorem dX4_coastIfChanged_71 : decode cX4_coastIfChanged 71 = .ok (.bipush 100, 2) := dk_16 100 (dk_at dksX4_coastIfChanged_3 0 rfl rfl)
theorem dX4_coastIfChanged_73 : decode cX4_coastIfChanged 73 = .ok (.iadd, 1) := dk_96 (dk_at dksX4_coastIfChanged_3 2 rfl rfl)
theorem dX4_coastIfChanged_74 : decode cX4_coastIfChanged 74 = .ok (.ireturn, 1) := dk_172 (dk_at dksX4_coastIfChanged_3 3 rfl rfl)
abbrev cX4_needs : ByteArray := prog_12_method_65_code
def yX4_needs : MethodName := ⟨RX4, "needs", "(III)I"⟩
def dkwX4_needs_6 : List UInt8 := [21, 5, 172]
abbrev dktX4_needs_6 : List UInt8 := dkwX4_needs_6 ++ []
def dkwX4_needs_5 : List UInt8 := [21, 6, 184, 0, 87, 96, 182, 0, 90, 154, 0, 6, 16, 250, 172, 132, 5, 1, 132, 6, 1, 167, 255, 150]
abbrev dktX4_needs_5 : List UInt8 := dkwX4_needs_5 ++ dktX4_needs_6
def dkwX4_needs_4 : List UInt8 := [184, 0, 80, 4, 160, 0, 7, 4, 167, 0, 4, 3, 159, 0, 30, 42, 27, 21, 6, 184, 0, 84, 96, 28]
abbrev dktX4_needs_4 : List UInt8 := dkwX4_needs_4 ++ dktX4_needs_5
def dkwX4_needs_3 : List UInt8 := [167, 0, 4, 3, 54, 7, 21, 7, 153, 0, 57, 42, 27, 28, 21, 6, 182, 0, 101, 21, 4, 21, 6]
abbrev dktX4_needs_3 : List UInt8 := dkwX4_needs_3 ++ dktX4_needs_4
def dkwX4_needs_2 : List UInt8 := [21, 6, 4, 100, 184, 0, 80, 21, 4, 21, 6, 4, 96, 184, 0, 80, 96, 5, 160, 0, 7, 4]
abbrev dktX4_needs_2 : List UInt8 := dkwX4_needs_2 ++ dktX4_needs_3
def dkwX4_needs_1 : List UInt8 := [54, 4, 3, 54, 5, 3, 54, 6, 21, 6, 16, 8, 162, 0, 105, 21, 6, 5, 112, 153, 0, 26, 21, 4]
abbrev dktX4_needs_1 : List UInt8 := dkwX4_needs_1 ++ dktX4_needs_2
def dkwX4_needs_0 : List UInt8 := [42, 27, 28, 182, 0, 90, 153, 0, 10, 29, 184, 0, 145, 154, 0, 5, 2, 172, 42, 180, 0, 23, 29, 46]
abbrev dktX4_needs_0 : List UInt8 := dkwX4_needs_0 ++ dktX4_needs_1
theorem dksX4_needs_0 : cX4_needs.data.toList.drop 0 = dktX4_needs_0 := by decide +kernel
theorem dksX4_needs_1 : cX4_needs.data.toList.drop 24 = dktX4_needs_1 := dk_seg dksX4_needs_0 24 rfl rfl
theorem dksX4_needs_2 : cX4_needs.data.toList.drop 48 = dktX4_needs_2 := dk_seg dksX4_needs_1 24 rfl rfl
theorem dksX4_needs_3 : cX4_needs.data.toList.drop 70 = dktX4_needs_3 := dk_seg dksX4_needs_2 22 rfl rfl
theorem dksX4_needs_4 : cX4_needs.data.toList.drop 93 = dktX4_needs_4 := dk_seg dksX4_needs_3 23 rfl rfl
theorem dksX4_needs_5 : cX4_needs.data.toList.drop 117 = dktX4_needs_5 := dk_seg dksX4_needs_4 24 rfl rfl
theorem dksX4_needs_6 : cX4_needs.data.toList.drop 141 = dktX4_needs_6 := dk_seg dksX4_needs_5 24 rfl rfl
theorem dX4_needs_0 : decode cX4_needs 0 = .ok (.aload_n 0, 1) := dk_42 (dk_at dksX4_needs_0 0 rfl rfl)
theorem dX4_needs_1 : decode cX4_needs 1 = .ok (.iload_n 1, 1) := dk_27 (dk_at dksX4_needs_0 1 rfl rfl)
theorem dX4_needs_2 : decode cX4_needs 2 = .ok (.iload_n 2, 1) := dk_28 (dk_at dksX4_needs_0 2 rfl rfl)
theorem dX4_needs_3 : decode cX4_needs 3 = .ok (.invokevirtual 90, 3) := dk_182 0 90 (dk_at dksX4_needs_0 3 rfl rfl)
theorem dX4_needs_6 : decode cX4_needs 6 = .ok (.ifCond .eq 10, 3) := dk_153 0 10 (dk_at dksX4_needs_0 6 rfl rfl)
theorem dX4_needs_9 : decode cX4_needs 9 = .ok (.iload_n 3, 1) := dk_29 (dk_at dksX4_needs_0 9 rfl rfl)
theorem dX4_needs_10 : decode cX4_needs 10 = .ok (.invokestatic 145, 3) := dk_184 0 145 (dk_at dksX4_needs_0 10 rfl rfl)
theorem dX4_needs_13 : decode cX4_needs 13 = .ok (.ifCond .ne 5, 3) := dk_154 0 5 (dk_at dksX4_needs_0 13 rfl rfl)
theorem dX4_needs_16 : decode cX4_needs 16 = .ok (.iconst (-1), 1) := dk_2 (dk_at dksX4_needs_0 16 rfl rfl)
theorem dX4_needs_17 : decode cX4_needs 17 = .ok (.ireturn, 1) := dk_172 (dk_at dksX4_needs_0 17 rfl rfl)
theorem dX4_needs_18 : decode cX4_needs 18 = .ok (.aload_n 0, 1) := dk_42 (dk_at dksX4_needs_0 18 rfl rfl)
theorem dX4_needs_19 : decode cX4_needs 19 = .ok (.getfield 23, 3) := dk_180 0 23 (dk_at dksX4_needs_0 19 rfl rfl)
theorem dX4_needs_22 : decode cX4_needs 22 = .ok (.iload_n 3, 1) := dk_29 (dk_at dksX4_needs_0 22 rfl rfl)
theorem dX4_needs_23 : decode cX4_needs 23 = .ok (.iaload, 1) := dk_46 (dk_at dksX4_needs_0 23 rfl rfl)
theorem dX4_needs_24 : decode cX4_needs 24 = .ok (.istore 4, 2) := dk_54 4 (dk_at dksX4_needs_1 0 rfl rfl)
theorem dX4_needs_26 : decode cX4_needs 26 = .ok (.iconst 0, 1) := dk_3 (dk_at dksX4_needs_1 2 rfl rfl)
theorem dX4_needs_27 : decode cX4_needs 27 = .ok (.istore 5, 2) := dk_54 5 (dk_at dksX4_needs_1 3 rfl rfl)
theorem dX4_needs_29 : decode cX4_needs 29 = .ok (.iconst 0, 1) := dk_3 (dk_at dksX4_needs_1 5 rfl rfl)
theorem dX4_needs_30 : decode cX4_needs 30 = .ok (.istore 6, 2) := dk_54 6 (dk_at dksX4_needs_1 6 rfl rfl)
theorem dX4_needs_32 : decode cX4_needs 32 = .ok (.iload 6, 2) := dk_21 6 (dk_at dksX4_needs_1 8 rfl rfl)
theorem dX4_needs_34 : decode cX4_needs 34 = .ok (.bipush 8, 2) := dk_16 8 (dk_at dksX4_needs_1 10 rfl rfl)
theorem dX4_needs_36 : decode cX4_needs 36 = .ok (.if_icmp .ge 105, 3) := dk_162 0 105 (dk_at dksX4_needs_1 12 rfl rfl)
theorem dX4_needs_39 : decode cX4_needs 39 = .ok (.iload 6, 2) := dk_21 6 (dk_at dksX4_needs_1 15 rfl rfl)
theorem dX4_needs_41 : decode cX4_needs 41 = .ok (.iconst 2, 1) := dk_5 (dk_at dksX4_needs_1 17 rfl rfl)
theorem dX4_needs_42 : decode cX4_needs 42 = .ok (.irem, 1) := dk_112 (dk_at dksX4_needs_1 18 rfl rfl)
theorem dX4_needs_43 : decode cX4_needs 43 = .ok (.ifCond .eq 26, 3) := dk_153 0 26 (dk_at dksX4_needs_1 19 rfl rfl)
theorem dX4_needs_46 : decode cX4_needs 46 = .ok (.iload 4, 2) := dk_21 4 (dk_at dksX4_needs_1 22 rfl rfl)
theorem dX4_needs_48 : decode cX4_needs 48 = .ok (.iload 6, 2) := dk_21 6 (dk_at dksX4_needs_2 0 rfl rfl)
theorem dX4_needs_50 : decode cX4_needs 50 = .ok (.iconst 1, 1) := dk_4 (dk_at dksX4_needs_2 2 rfl rfl)
theorem dX4_needs_51 : decode cX4_needs 51 = .ok (.isub, 1) := dk_100 (dk_at dksX4_needs_2 3 rfl rfl)
theorem dX4_needs_52 : decode cX4_needs 52 = .ok (.invokestatic 80, 3) := dk_184 0 80 (dk_at dksX4_needs_2 4 rfl rfl)
theorem dX4_needs_55 : decode cX4_needs 55 = .ok (.iload 4, 2) := dk_21 4 (dk_at dksX4_needs_2 7 rfl rfl)
theorem dX4_needs_57 : decode cX4_needs 57 = .ok (.iload 6, 2) := dk_21 6 (dk_at dksX4_needs_2 9 rfl rfl)
theorem dX4_needs_59 : decode cX4_needs 59 = .ok (.iconst 1, 1) := dk_4 (dk_at dksX4_needs_2 11 rfl rfl)
theorem dX4_needs_60 : decode cX4_needs 60 = .ok (.iadd, 1) := dk_96 (dk_at dksX4_needs_2 12 rfl rfl)
theorem dX4_needs_61 : decode cX4_needs 61 = .ok (.invokestatic 80, 3) := dk_184 0 80 (dk_at dksX4_needs_2 13 rfl rfl)
theorem dX4_needs_64 : decode cX4_needs 64 = .ok (.iadd, 1) := dk_96 (dk_at dksX4_needs_2 16 rfl rfl)
theorem dX4_needs_65 : decode cX4_needs 65 = .ok (.iconst 2, 1) := dk_5 (dk_at dksX4_needs_2 17 rfl rfl)
theorem dX4_needs_66 : decode cX4_needs 66 = .ok (.if_icmp .ne 7, 3) := dk_160 0 7 (dk_at dksX4_needs_2 18 rfl rfl)
theorem dX4_needs_69 : decode cX4_needs 69 = .ok (.iconst 1, 1) := dk_4 (dk_at dksX4_needs_2 21 rfl rfl)
theorem dX4_needs_70 : decode cX4_needs 70 = .ok (.goto 4, 3) := dk_167 0 4 (dk_at dksX4_needs_3 0 rfl rfl)
theorem dX4_needs_73 : decode cX4_needs 73 = .ok (.iconst 0, 1) := dk_3 (dk_at dksX4_needs_3 3 rfl rfl)
theorem dX4_needs_74 : decode cX4_needs 74 = .ok (.istore 7, 2) := dk_54 7 (dk_at dksX4_needs_3 4 rfl rfl)
theorem dX4_needs_76 : decode cX4_needs 76 = .ok (.iload 7, 2) := dk_21 7 (dk_at dksX4_needs_3 6 rfl rfl)
theorem dX4_needs_78 : decode cX4_needs 78 = .ok (.ifCond .eq 57, 3) := dk_153 0 57 (dk_at dksX4_needs_3 8 rfl rfl)
theorem dX4_needs_81 : decode cX4_needs 81 = .ok (.aload_n 0, 1) := dk_42 (dk_at dksX4_needs_3 11 rfl rfl)
theorem dX4_needs_82 : decode cX4_needs 82 = .ok (.iload_n 1, 1) := dk_27 (dk_at dksX4_needs_3 12 rfl rfl)
theorem dX4_needs_83 : decode cX4_needs 83 = .ok (.iload_n 2, 1) := dk_28 (dk_at dksX4_needs_3 13 rfl rfl)
theorem dX4_needs_84 : decode cX4_needs 84 = .ok (.iload 6, 2) := dk_21 6 (dk_at dksX4_needs_3 14 rfl rfl)
theorem dX4_needs_86 : decode cX4_needs 86 = .ok (.invokevirtual 101, 3) := dk_182 0 101 (dk_at dksX4_needs_3 16 rfl rfl)
theorem dX4_needs_89 : decode cX4_needs 89 = .ok (.iload 4, 2) := dk_21 4 (dk_at dksX4_needs_3 19 rfl rfl)
theorem dX4_needs_91 : decode cX4_needs 91 = .ok (.iload 6, 2) := dk_21 6 (dk_at dksX4_needs_3 21 rfl rfl)
theorem dX4_needs_93 : decode cX4_needs 93 = .ok (.invokestatic 80, 3) := dk_184 0 80 (dk_at dksX4_needs_4 0 rfl rfl)
theorem dX4_needs_96 : decode cX4_needs 96 = .ok (.iconst 1, 1) := dk_4 (dk_at dksX4_needs_4 3 rfl rfl)
theorem dX4_needs_97 : decode cX4_needs 97 = .ok (.if_icmp .ne 7, 3) := dk_160 0 7 (dk_at dksX4_needs_4 4 rfl rfl)
theorem dX4_needs_100 : decode cX4_needs 100 = .ok (.iconst 1, 1) := dk_4 (dk_at dksX4_needs_4 7 rfl rfl)
theorem dX4_needs_101 : decode cX4_needs 101 = .ok (.goto 4, 3) := dk_167 0 4 (dk_at dksX4_needs_4 8 rfl rfl)
theorem dX4_needs_104 : decode cX4_needs 104 = .ok (.iconst 0, 1) := dk_3 (dk_at dksX4_needs_4 11 rfl rfl)
theorem dX4_needs_105 : decode cX4_needs 105 = .ok (.if_icmp .eq 30, 3) := dk_159 0 30 (dk_at dksX4_needs_4 12 rfl rfl)
theorem dX4_needs_108 : decode cX4_needs 108 = .ok (.aload_n 0, 1) := dk_42 (dk_at dksX4_needs_4 15 rfl rfl)
theorem dX4_needs_109 : decode cX4_needs 109 = .ok (.iload_n 1, 1) := dk_27 (dk_at dksX4_needs_4 16 rfl rfl)
theorem dX4_needs_110 : decode cX4_needs 110 = .ok (.iload 6, 2) := dk_21 6 (dk_at dksX4_needs_4 17 rfl rfl)
theorem dX4_needs_112 : decode cX4_needs 112 = .ok (.invokestatic 84, 3) := dk_184 0 84 (dk_at dksX4_needs_4 19 rfl rfl)
theorem dX4_needs_115 : decode cX4_needs 115 = .ok (.iadd, 1) := dk_96 (dk_at dksX4_needs_4 22 rfl rfl)
theorem dX4_needs_116 : decode cX4_needs 116 = .ok (.iload_n 2, 1) := dk_28 (dk_at dksX4_needs_4 23 rfl rfl)
theorem dX4_needs_117 : decode cX4_needs 117 = .ok (.iload 6, 2) := dk_21 6 (dk_at dksX4_needs_5 0 rfl rfl)
theorem dX4_needs_119 : decode cX4_needs 119 = .ok (.invokestatic 87, 3) := dk_184 0 87 (dk_at dksX4_needs_5 2 rfl rfl)
theorem dX4_needs_122 : decode cX4_needs 122 = .ok (.iadd, 1) := dk_96 (dk_at dksX4_needs_5 5 rfl rfl)
theorem dX4_needs_123 : decode cX4_needs 123 = .ok (.invokevirtual 90, 3) := dk_182 0 90 (dk_at dksX4_needs_5 6 rfl rfl)
theorem dX4_needs_126 : decode cX4_needs 126 = .ok (.ifCond .ne 6, 3) := dk_154 0 6 (dk_at dksX4_needs_5 9 rfl rfl)
theorem dX4_needs_129 : decode cX4_needs 129 = .ok (.bipush (-6), 2) := dk_16 250 (dk_at dksX4_needs_5 12 rfl rfl)
theorem dX4_needs_131 : decode cX4_needs 131 = .ok (.ireturn, 1) := dk_172 (dk_at dksX4_needs_5 14 rfl rfl)
theorem dX4_needs_132 : decode cX4_needs 132 = .ok (.iinc 5 1, 3) := dk_132 5 1 (dk_at dksX4_needs_5 15 rfl rfl)
theorem dX4_needs_135 : decode cX4_needs 135 = .ok (.iinc 6 1, 3) := dk_132 6 1 (dk_at dksX4_needs_5 18 rfl rfl)
theorem dX4_needs_138 : decode cX4_needs 138 = .ok (.goto (-106), 3) := dk_167 255 150 (dk_at dksX4_needs_5 21 rfl rfl)
theorem dX4_needs_141 : decode cX4_needs 141 = .ok (.iload 5, 2) := dk_21 5 (dk_at dksX4_needs_6 0 rfl rfl)
theorem dX4_needs_143 : decode cX4_needs 143 = .ok (.ireturn, 1) := dk_172 (dk_at dksX4_needs_6 2 rfl rfl)
abbrev cX4_append : ByteArray := prog_12_method_66_code
def yX4_append : MethodName := ⟨RX4, "append", "(I)I"⟩
def dkwX4_append_2 : List UInt8 := [42, 180, 0, 176, 172]
abbrev dktX4_append_2 : List UInt8 := dkwX4_append_2 ++ []
def dkwX4_append_1 : List UInt8 := [16, 252, 172, 42, 180, 0, 19, 42, 180, 0, 176, 27, 146, 85, 42, 89, 180, 0, 176, 4, 96, 181, 0, 176]
abbrev dktX4_append_1 : List UInt8 := dkwX4_append_1 ++ dktX4_append_2
def dkwX4_append_0 : List UInt8 := [27, 16, 33, 16, 126, 184, 0, 61, 154, 0, 6, 16, 254, 172, 42, 180, 0, 176, 16, 80, 160, 0, 6]
abbrev dktX4_append_0 : List UInt8 := dkwX4_append_0 ++ dktX4_append_1
theorem dksX4_append_0 : cX4_append.data.toList.drop 0 = dktX4_append_0 := by decide +kernel
theorem dksX4_append_1 : cX4_append.data.toList.drop 23 = dktX4_append_1 := dk_seg dksX4_append_0 23 rfl rfl
theorem dksX4_append_2 : cX4_append.data.toList.drop 47 = dktX4_append_2 := dk_seg dksX4_append_1 24 rfl rfl
theorem dX4_append_0 : decode cX4_append 0 = .ok (.iload_n 1, 1) := dk_27 (dk_at dksX4_append_0 0 rfl rfl)
theorem dX4_append_1 : decode cX4_append 1 = .ok (.bipush 33, 2) := dk_16 33 (dk_at dksX4_append_0 1 rfl rfl)
theorem dX4_append_3 : decode cX4_append 3 = .ok (.bipush 126, 2) := dk_16 126 (dk_at dksX4_append_0 3 rfl rfl)
theorem dX4_append_5 : decode cX4_append 5 = .ok (.invokestatic 61, 3) := dk_184 0 61 (dk_at dksX4_append_0 5 rfl rfl)
theorem dX4_append_8 : decode cX4_append 8 = .ok (.ifCond .ne 6, 3) := dk_154 0 6 (dk_at dksX4_append_0 8 rfl rfl)
theorem dX4_append_11 : decode cX4_append 11 = .ok (.bipush (-2), 2) := dk_16 254 (dk_at dksX4_append_0 11 rfl rfl)
theorem dX4_append_13 : decode cX4_append 13 = .ok (.ireturn, 1) := dk_172 (dk_at dksX4_append_0 13 rfl rfl)
theorem dX4_append_14 : decode cX4_append 14 = .ok (.aload_n 0, 1) := dk_42 (dk_at dksX4_append_0 14 rfl rfl)
theorem dX4_append_15 : decode cX4_append 15 = .ok (.getfield 176, 3) := dk_180 0 176 (dk_at dksX4_append_0 15 rfl rfl)
theorem dX4_append_18 : decode cX4_append 18 = .ok (.bipush 80, 2) := dk_16 80 (dk_at dksX4_append_0 18 rfl rfl)
theorem dX4_append_20 : decode cX4_append 20 = .ok (.if_icmp .ne 6, 3) := dk_160 0 6 (dk_at dksX4_append_0 20 rfl rfl)
theorem dX4_append_23 : decode cX4_append 23 = .ok (.bipush (-4), 2) := dk_16 252 (dk_at dksX4_append_1 0 rfl rfl)
theorem dX4_append_25 : decode cX4_append 25 = .ok (.ireturn, 1) := dk_172 (dk_at dksX4_append_1 2 rfl rfl)
theorem dX4_append_26 : decode cX4_append 26 = .ok (.aload_n 0, 1) := dk_42 (dk_at dksX4_append_1 3 rfl rfl)
theorem dX4_append_27 : decode cX4_append 27 = .ok (.getfield 19, 3) := dk_180 0 19 (dk_at dksX4_append_1 4 rfl rfl)
theorem dX4_append_30 : decode cX4_append 30 = .ok (.aload_n 0, 1) := dk_42 (dk_at dksX4_append_1 7 rfl rfl)
theorem dX4_append_31 : decode cX4_append 31 = .ok (.getfield 176, 3) := dk_180 0 176 (dk_at dksX4_append_1 8 rfl rfl)
theorem dX4_append_34 : decode cX4_append 34 = .ok (.iload_n 1, 1) := dk_27 (dk_at dksX4_append_1 11 rfl rfl)
theorem dX4_append_35 : decode cX4_append 35 = .ok (.i2c, 1) := dk_146 (dk_at dksX4_append_1 12 rfl rfl)
theorem dX4_append_36 : decode cX4_append 36 = .ok (.castore, 1) := dk_85 (dk_at dksX4_append_1 13 rfl rfl)
theorem dX4_append_37 : decode cX4_append 37 = .ok (.aload_n 0, 1) := dk_42 (dk_at dksX4_append_1 14 rfl rfl)
theorem dX4_append_38 : decode cX4_append 38 = .ok (.dup, 1) := dk_89 (dk_at dksX4_append_1 15 rfl rfl)
theorem dX4_append_39 : decode cX4_append 39 = .ok (.getfield 176, 3) := dk_180 0 176 (dk_at dksX4_append_1 16 rfl rfl)
theorem dX4_append_42 : decode cX4_append 42 = .ok (.iconst 1, 1) := dk_4 (dk_at dksX4_append_1 19 rfl rfl)
theorem dX4_append_43 : decode cX4_append 43 = .ok (.iadd, 1) := dk_96 (dk_at dksX4_append_1 20 rfl rfl)
theorem dX4_append_44 : decode cX4_append 44 = .ok (.putfield 176, 3) := dk_181 0 176 (dk_at dksX4_append_1 21 rfl rfl)
theorem dX4_append_47 : decode cX4_append 47 = .ok (.aload_n 0, 1) := dk_42 (dk_at dksX4_append_2 0 rfl rfl)
theorem dX4_append_48 : decode cX4_append 48 = .ok (.getfield 176, 3) := dk_180 0 176 (dk_at dksX4_append_2 1 rfl rfl)
theorem dX4_append_51 : decode cX4_append 51 = .ok (.ireturn, 1) := dk_172 (dk_at dksX4_append_2 4 rfl rfl)
abbrev cX4_clearText : ByteArray := prog_12_method_67_code
def yX4_clearText : MethodName := ⟨RX4, "clearText", "()I"⟩
def dkwX4_clearText_0 : List UInt8 := [42, 180, 0, 176, 60, 42, 3, 181, 0, 176, 27, 172]
abbrev dktX4_clearText_0 : List UInt8 := dkwX4_clearText_0 ++ []
theorem dksX4_clearText_0 : cX4_clearText.data.toList.drop 0 = dktX4_clearText_0 := by decide +kernel
theorem dX4_clearText_0 : decode cX4_clearText 0 = .ok (.aload_n 0, 1) := dk_42 (dk_at dksX4_clearText_0 0 rfl rfl)
theorem dX4_clearText_1 : decode cX4_clearText 1 = .ok (.getfield 176, 3) := dk_180 0 176 (dk_at dksX4_clearText_0 1 rfl rfl)
theorem dX4_clearText_4 : decode cX4_clearText 4 = .ok (.istore_n 1, 1) := dk_60 (dk_at dksX4_clearText_0 4 rfl rfl)
theorem dX4_clearText_5 : decode cX4_clearText 5 = .ok (.aload_n 0, 1) := dk_42 (dk_at dksX4_clearText_0 5 rfl rfl)
theorem dX4_clearText_6 : decode cX4_clearText 6 = .ok (.iconst 0, 1) := dk_3 (dk_at dksX4_clearText_0 6 rfl rfl)
theorem dX4_clearText_7 : decode cX4_clearText 7 = .ok (.putfield 176, 3) := dk_181 0 176 (dk_at dksX4_clearText_0 7 rfl rfl)
theorem dX4_clearText_10 : decode cX4_clearText 10 = .ok (.iload_n 1, 1) := dk_27 (dk_at dksX4_clearText_0 10 rfl rfl)
theorem dX4_clearText_11 : decode cX4_clearText 11 = .ok (.ireturn, 1) := dk_172 (dk_at dksX4_clearText_0 11 rfl rfl)
abbrev cX4_errorPosition : ByteArray := prog_12_method_72_code
def yX4_errorPosition : MethodName := ⟨RX4, "errorPosition", "()I"⟩
def dkwX4_errorPosition_2 : List UInt8 := [167, 255, 230, 42, 182, 0, 194, 153, 0, 8, 16, 250, 167, 0, 7, 42, 180, 0, 176, 172]
abbrev dktX4_errorPosition_2 : List UInt8 := dkwX4_errorPosition_2 ++ []
def dkwX4_errorPosition_1 : List UInt8 := [180, 0, 176, 162, 0, 24, 42, 42, 180, 0, 19, 27, 52, 182, 0, 200, 154, 0, 5, 27, 172, 132, 1, 1]
abbrev dktX4_errorPosition_1 : List UInt8 := dkwX4_errorPosition_1 ++ dktX4_errorPosition_2
def dkwX4_errorPosition_0 : List UInt8 := [42, 3, 181, 0, 179, 42, 3, 181, 0, 182, 42, 3, 181, 0, 185, 42, 3, 181, 0, 188, 3, 60, 27, 42]
abbrev dktX4_errorPosition_0 : List UInt8 := dkwX4_errorPosition_0 ++ dktX4_errorPosition_1
theorem dksX4_errorPosition_0 : cX4_errorPosition.data.toList.drop 0 = dktX4_errorPosition_0 := by decide +kernel
theorem dksX4_errorPosition_1 : cX4_errorPosition.data.toList.drop 24 = dktX4_errorPosition_1 := dk_seg dksX4_errorPosition_0 24 rfl rfl
theorem dksX4_errorPosition_2 : cX4_errorPosition.data.toList.drop 48 = dktX4_errorPosition_2 := dk_seg dksX4_errorPosition_1 24 rfl rfl
theorem dX4_errorPosition_0 : decode cX4_errorPosition 0 = .ok (.aload_n 0, 1) := dk_42 (dk_at dksX4_errorPosition_0 0 rfl rfl)
theorem dX4_errorPosition_1 : decode cX4_errorPosition 1 = .ok (.iconst 0, 1) := dk_3 (dk_at dksX4_errorPosition_0 1 rfl rfl)
theorem dX4_errorPosition_2 : decode cX4_errorPosition 2 = .ok (.putfield 179, 3) := dk_181 0 179 (dk_at dksX4_errorPosition_0 2 rfl rfl)
theorem dX4_errorPosition_5 : decode cX4_errorPosition 5 = .ok (.aload_n 0, 1) := dk_42 (dk_at dksX4_errorPosition_0 5 rfl rfl)
theorem dX4_errorPosition_6 : decode cX4_errorPosition 6 = .ok (.iconst 0, 1) := dk_3 (dk_at dksX4_errorPosition_0 6 rfl rfl)
theorem dX4_errorPosition_7 : decode cX4_errorPosition 7 = .ok (.putfield 182, 3) := dk_181 0 182 (dk_at dksX4_errorPosition_0 7 rfl rfl)
theorem dX4_errorPosition_10 : decode cX4_errorPosition 10 = .ok (.aload_n 0, 1) := dk_42 (dk_at dksX4_errorPosition_0 10 rfl rfl)
theorem dX4_errorPosition_11 : decode cX4_errorPosition 11 = .ok (.iconst 0, 1) := dk_3 (dk_at dksX4_errorPosition_0 11 rfl rfl)
theorem dX4_errorPosition_12 : decode cX4_errorPosition 12 = .ok (.putfield 185, 3) := dk_181 0 185 (dk_at dksX4_errorPosition_0 12 rfl rfl)
theorem dX4_errorPosition_15 : decode cX4_errorPosition 15 = .ok (.aload_n 0, 1) := dk_42 (dk_at dksX4_errorPosition_0 15 rfl rfl)
theorem dX4_errorPosition_16 : decode cX4_errorPosition 16 = .ok (.iconst 0, 1) := dk_3 (dk_at dksX4_errorPosition_0 16 rfl rfl)
theorem dX4_errorPosition_17 : decode cX4_errorPosition 17 = .ok (.putfield 188, 3) := dk_181 0 188 (dk_at dksX4_errorPosition_0 17 rfl rfl)
theorem dX4_errorPosition_20 : decode cX4_errorPosition 20 = .ok (.iconst 0, 1) := dk_3 (dk_at dksX4_errorPosition_0 20 rfl rfl)
theorem dX4_errorPosition_21 : decode cX4_errorPosition 21 = .ok (.istore_n 1, 1) := dk_60 (dk_at dksX4_errorPosition_0 21 rfl rfl)
theorem dX4_errorPosition_22 : decode cX4_errorPosition 22 = .ok (.iload_n 1, 1) := dk_27 (dk_at dksX4_errorPosition_0 22 rfl rfl)
theorem dX4_errorPosition_23 : decode cX4_errorPosition 23 = .ok (.aload_n 0, 1) := dk_42 (dk_at dksX4_errorPosition_0 23 rfl rfl)
theorem dX4_errorPosition_24 : decode cX4_errorPosition 24 = .ok (.getfield 176, 3) := dk_180 0 176 (dk_at dksX4_errorPosition_1 0 rfl rfl)
theorem dX4_errorPosition_27 : decode cX4_errorPosition 27 = .ok (.if_icmp .ge 24, 3) := dk_162 0 24 (dk_at dksX4_errorPosition_1 3 rfl rfl)
theorem dX4_errorPosition_30 : decode cX4_errorPosition 30 = .ok (.aload_n 0, 1) := dk_42 (dk_at dksX4_errorPosition_1 6 rfl rfl)
theorem dX4_errorPosition_31 : decode cX4_errorPosition 31 = .ok (.aload_n 0, 1) := dk_42 (dk_at dksX4_errorPosition_1 7 rfl rfl)
theorem dX4_errorPosition_32 : decode cX4_errorPosition 32 = .ok (.getfield 19, 3) := dk_180 0 19 (dk_at dksX4_errorPosition_1 8 rfl rfl)
theorem dX4_errorPosition_35 : decode cX4_errorPosition 35 = .ok (.iload_n 1, 1) := dk_27 (dk_at dksX4_errorPosition_1 11 rfl rfl)
theorem dX4_errorPosition_36 : decode cX4_errorPosition 36 = .ok (.caload, 1) := dk_52 (dk_at dksX4_errorPosition_1 12 rfl rfl)
theorem dX4_errorPosition_37 : decode cX4_errorPosition 37 = .ok (.invokevirtual 200, 3) := dk_182 0 200 (dk_at dksX4_errorPosition_1 13 rfl rfl)
theorem dX4_errorPosition_40 : decode cX4_errorPosition 40 = .ok (.ifCond .ne 5, 3) := dk_154 0 5 (dk_at dksX4_errorPosition_1 16 rfl rfl)
theorem dX4_errorPosition_43 : decode cX4_errorPosition 43 = .ok (.iload_n 1, 1) := dk_27 (dk_at dksX4_errorPosition_1 19 rfl rfl)
theorem dX4_errorPosition_44 : decode cX4_errorPosition 44 = .ok (.ireturn, 1) := dk_172 (dk_at dksX4_errorPosition_1 20 rfl rfl)
theorem dX4_errorPosition_45 : decode cX4_errorPosition 45 = .ok (.iinc 1 1, 3) := dk_132 1 1 (dk_at dksX4_errorPosition_1 21 rfl rfl)
theorem dX4_errorPosition_48 : decode cX4_errorPosition 48 = .ok (.goto (-26), 3) := dk_167 255 230 (dk_at dksX4_errorPosition_2 0 rfl rfl)
theorem dX4_errorPosition_51 : decode cX4_errorPosition 51 = .ok (.aload_n 0, 1) := dk_42 (dk_at dksX4_errorPosition_2 3 rfl rfl)
theorem dX4_errorPosition_52 : decode cX4_errorPosition 52 = .ok (.invokevirtual 194, 3) := dk_182 0 194 (dk_at dksX4_errorPosition_2 4 rfl rfl)
theorem dX4_errorPosition_55 : decode cX4_errorPosition 55 = .ok (.ifCond .eq 8, 3) := dk_153 0 8 (dk_at dksX4_errorPosition_2 7 rfl rfl)
theorem dX4_errorPosition_58 : decode cX4_errorPosition 58 = .ok (.bipush (-6), 2) := dk_16 250 (dk_at dksX4_errorPosition_2 10 rfl rfl)
theorem dX4_errorPosition_60 : decode cX4_errorPosition 60 = .ok (.goto 7, 3) := dk_167 0 7 (dk_at dksX4_errorPosition_2 12 rfl rfl)
theorem dX4_errorPosition_63 : decode cX4_errorPosition 63 = .ok (.aload_n 0, 1) := dk_42 (dk_at dksX4_errorPosition_2 15 rfl rfl)
theorem dX4_errorPosition_64 : decode cX4_errorPosition 64 = .ok (.getfield 176, 3) := dk_180 0 176 (dk_at dksX4_errorPosition_2 16 rfl rfl)
theorem dX4_errorPosition_67 : decode cX4_errorPosition 67 = .ok (.ireturn, 1) := dk_172 (dk_at dksX4_errorPosition_2 19 rfl rfl)
abbrev cX4_readOne : ByteArray := prog_12_method_69_code
def yX4_readOne : MethodName := ⟨RX4, "readOne", "(I)Z"⟩
def dkwX4_readOne_10 : List UInt8 := [167, 0, 4, 3, 61, 28, 153, 0, 7, 42, 182, 0, 197, 28, 172]
abbrev dktX4_readOne_10 : List UInt8 := dkwX4_readOne_10 ++ []
def dkwX4_readOne_9 : List UInt8 := [16, 47, 160, 0, 23, 42, 182, 0, 194, 153, 0, 16, 42, 180, 0, 179, 16, 11, 162, 0, 7, 4]
abbrev dktX4_readOne_9 : List UInt8 := dkwX4_readOne_9 ++ dktX4_readOne_10
def dkwX4_readOne_8 : List UInt8 := [42, 89, 180, 0, 185, 4, 96, 181, 0, 185, 132, 3, 1, 167, 255, 210, 42, 3, 181, 0, 188, 4, 172, 27]
abbrev dktX4_readOne_8 : List UInt8 := dkwX4_readOne_8 ++ dktX4_readOne_9
def dkwX4_readOne_7 : List UInt8 := [16, 12, 42, 180, 0, 179, 104, 42, 180, 0, 185, 96, 27, 16, 35, 160, 0, 7, 4, 167, 0, 4, 3, 79]
abbrev dktX4_readOne_7 : List UInt8 := dkwX4_readOne_7 ++ dktX4_readOne_8
def dkwX4_readOne_6 : List UInt8 := [159, 0, 11, 28, 42, 182, 0, 191, 164, 0, 5, 3, 172, 3, 62, 29, 28, 162, 0, 47, 42, 180, 0, 51]
abbrev dktX4_readOne_6 : List UInt8 := dkwX4_readOne_6 ++ dktX4_readOne_7
def dkwX4_readOne_5 : List UInt8 := [160, 0, 95, 42, 180, 0, 188, 154, 0, 7, 4, 167, 0, 7, 42, 180, 0, 188, 61, 42, 180, 0, 188, 4]
abbrev dktX4_readOne_5 : List UInt8 := dkwX4_readOne_5 ++ dktX4_readOne_6
def dkwX4_readOne_4 : List UInt8 := [28, 167, 0, 7, 42, 180, 0, 188, 181, 0, 188, 29, 172, 27, 16, 46, 159, 0, 9, 27, 16, 35]
abbrev dktX4_readOne_4 : List UInt8 := dkwX4_readOne_4 ++ dktX4_readOne_5
def dkwX4_readOne_3 : List UInt8 := [16, 12, 163, 0, 15, 28, 42, 182, 0, 191, 163, 0, 7, 4, 167, 0, 4, 3, 62, 42, 29, 153, 0, 7]
abbrev dktX4_readOne_3 : List UInt8 := dkwX4_readOne_3 ++ dktX4_readOne_4
def dkwX4_readOne_2 : List UInt8 := [182, 0, 191, 163, 0, 7, 4, 167, 0, 34, 3, 167, 0, 30, 42, 180, 0, 188, 4, 160, 0, 21, 28]
abbrev dktX4_readOne_2 : List UInt8 := dkwX4_readOne_2 ++ dktX4_readOne_3
def dkwX4_readOne_1 : List UInt8 := [42, 180, 0, 188, 154, 0, 33, 28, 158, 0, 25, 28, 4, 160, 0, 8, 16, 10, 167, 0, 4, 28, 42]
abbrev dktX4_readOne_1 : List UInt8 := dkwX4_readOne_1 ++ dktX4_readOne_2
def dkwX4_readOne_0 : List UInt8 := [27, 16, 48, 16, 57, 184, 0, 61, 153, 0, 99, 16, 10, 42, 180, 0, 188, 104, 27, 96, 16, 48, 100, 61]
abbrev dktX4_readOne_0 : List UInt8 := dkwX4_readOne_0 ++ dktX4_readOne_1
theorem dksX4_readOne_0 : cX4_readOne.data.toList.drop 0 = dktX4_readOne_0 := by decide +kernel
theorem dksX4_readOne_1 : cX4_readOne.data.toList.drop 24 = dktX4_readOne_1 := dk_seg dksX4_readOne_0 24 rfl rfl
theorem dksX4_readOne_2 : cX4_readOne.data.toList.drop 47 = dktX4_readOne_2 := dk_seg dksX4_readOne_1 23 rfl rfl
theorem dksX4_readOne_3 : cX4_readOne.data.toList.drop 70 = dktX4_readOne_3 := dk_seg dksX4_readOne_2 23 rfl rfl
theorem dksX4_readOne_4 : cX4_readOne.data.toList.drop 94 = dktX4_readOne_4 := dk_seg dksX4_readOne_3 24 rfl rfl
theorem dksX4_readOne_5 : cX4_readOne.data.toList.drop 116 = dktX4_readOne_5 := dk_seg dksX4_readOne_4 22 rfl rfl
theorem dksX4_readOne_6 : cX4_readOne.data.toList.drop 140 = dktX4_readOne_6 := dk_seg dksX4_readOne_5 24 rfl rfl
theorem dksX4_readOne_7 : cX4_readOne.data.toList.drop 164 = dktX4_readOne_7 := dk_seg dksX4_readOne_6 24 rfl rfl
theorem dksX4_readOne_8 : cX4_readOne.data.toList.drop 188 = dktX4_readOne_8 := dk_seg dksX4_readOne_7 24 rfl rfl
theorem dksX4_readOne_9 : cX4_readOne.data.toList.drop 212 = dktX4_readOne_9 := dk_seg dksX4_readOne_8 24 rfl rfl
theorem dksX4_readOne_10 : cX4_readOne.data.toList.drop 234 = dktX4_readOne_10 := dk_seg dksX4_readOne_9 22 rfl rfl
theorem dX4_readOne_0 : decode cX4_readOne 0 = .ok (.iload_n 1, 1) := dk_27 (dk_at dksX4_readOne_0 0 rfl rfl)
theorem dX4_readOne_1 : decode cX4_readOne 1 = .ok (.bipush 48, 2) := dk_16 48 (dk_at dksX4_readOne_0 1 rfl rfl)
theorem dX4_readOne_3 : decode cX4_readOne 3 = .ok (.bipush 57, 2) := dk_16 57 (dk_at dksX4_readOne_0 3 rfl rfl)
theorem dX4_readOne_5 : decode cX4_readOne 5 = .ok (.invokestatic 61, 3) := dk_184 0 61 (dk_at dksX4_readOne_0 5 rfl rfl)
theorem dX4_readOne_8 : decode cX4_readOne 8 = .ok (.ifCond .eq 99, 3) := dk_153 0 99 (dk_at dksX4_readOne_0 8 rfl rfl)
theorem dX4_readOne_11 : decode cX4_readOne 11 = .ok (.bipush 10, 2) := dk_16 10 (dk_at dksX4_readOne_0 11 rfl rfl)
theorem dX4_readOne_13 : decode cX4_readOne 13 = .ok (.aload_n 0, 1) := dk_42 (dk_at dksX4_readOne_0 13 rfl rfl)
theorem dX4_readOne_14 : decode cX4_readOne 14 = .ok (.getfield 188, 3) := dk_180 0 188 (dk_at dksX4_readOne_0 14 rfl rfl)
theorem dX4_readOne_17 : decode cX4_readOne 17 = .ok (.imul, 1) := dk_104 (dk_at dksX4_readOne_0 17 rfl rfl)
theorem dX4_readOne_18 : decode cX4_readOne 18 = .ok (.iload_n 1, 1) := dk_27 (dk_at dksX4_readOne_0 18 rfl rfl)
theorem dX4_readOne_19 : decode cX4_readOne 19 = .ok (.iadd, 1) := dk_96 (dk_at dksX4_readOne_0 19 rfl rfl)
theorem dX4_readOne_20 : decode cX4_readOne 20 = .ok (.bipush 48, 2) := dk_16 48 (dk_at dksX4_readOne_0 20 rfl rfl)
theorem dX4_readOne_22 : decode cX4_readOne 22 = .ok (.isub, 1) := dk_100 (dk_at dksX4_readOne_0 22 rfl rfl)
theorem dX4_readOne_23 : decode cX4_readOne 23 = .ok (.istore_n 2, 1) := dk_61 (dk_at dksX4_readOne_0 23 rfl rfl)
theorem dX4_readOne_24 : decode cX4_readOne 24 = .ok (.aload_n 0, 1) := dk_42 (dk_at dksX4_readOne_1 0 rfl rfl)
theorem dX4_readOne_25 : decode cX4_readOne 25 = .ok (.getfield 188, 3) := dk_180 0 188 (dk_at dksX4_readOne_1 1 rfl rfl)
theorem dX4_readOne_28 : decode cX4_readOne 28 = .ok (.ifCond .ne 33, 3) := dk_154 0 33 (dk_at dksX4_readOne_1 4 rfl rfl)
theorem dX4_readOne_31 : decode cX4_readOne 31 = .ok (.iload_n 2, 1) := dk_28 (dk_at dksX4_readOne_1 7 rfl rfl)
theorem dX4_readOne_32 : decode cX4_readOne 32 = .ok (.ifCond .le 25, 3) := dk_158 0 25 (dk_at dksX4_readOne_1 8 rfl rfl)
theorem dX4_readOne_35 : decode cX4_readOne 35 = .ok (.iload_n 2, 1) := dk_28 (dk_at dksX4_readOne_1 11 rfl rfl)
theorem dX4_readOne_36 : decode cX4_readOne 36 = .ok (.iconst 1, 1) := dk_4 (dk_at dksX4_readOne_1 12 rfl rfl)
theorem dX4_readOne_37 : decode cX4_readOne 37 = .ok (.if_icmp .ne 8, 3) := dk_160 0 8 (dk_at dksX4_readOne_1 13 rfl rfl)
theorem dX4_readOne_40 : decode cX4_readOne 40 = .ok (.bipush 10, 2) := dk_16 10 (dk_at dksX4_readOne_1 16 rfl rfl)
theorem dX4_readOne_42 : decode cX4_readOne 42 = .ok (.goto 4, 3) := dk_167 0 4 (dk_at dksX4_readOne_1 18 rfl rfl)
theorem dX4_readOne_45 : decode cX4_readOne 45 = .ok (.iload_n 2, 1) := dk_28 (dk_at dksX4_readOne_1 21 rfl rfl)
theorem dX4_readOne_46 : decode cX4_readOne 46 = .ok (.aload_n 0, 1) := dk_42 (dk_at dksX4_readOne_1 22 rfl rfl)
theorem dX4_readOne_47 : decode cX4_readOne 47 = .ok (.invokevirtual 191, 3) := dk_182 0 191 (dk_at dksX4_readOne_2 0 rfl rfl)
theorem dX4_readOne_50 : decode cX4_readOne 50 = .ok (.if_icmp .gt 7, 3) := dk_163 0 7 (dk_at dksX4_readOne_2 3 rfl rfl)
theorem dX4_readOne_53 : decode cX4_readOne 53 = .ok (.iconst 1, 1) := dk_4 (dk_at dksX4_readOne_2 6 rfl rfl)
theorem dX4_readOne_54 : decode cX4_readOne 54 = .ok (.goto 34, 3) := dk_167 0 34 (dk_at dksX4_readOne_2 7 rfl rfl)
theorem dX4_readOne_57 : decode cX4_readOne 57 = .ok (.iconst 0, 1) := dk_3 (dk_at dksX4_readOne_2 10 rfl rfl)
theorem dX4_readOne_58 : decode cX4_readOne 58 = .ok (.goto 30, 3) := dk_167 0 30 (dk_at dksX4_readOne_2 11 rfl rfl)
theorem dX4_readOne_61 : decode cX4_readOne 61 = .ok (.aload_n 0, 1) := dk_42 (dk_at dksX4_readOne_2 14 rfl rfl)
theorem dX4_readOne_62 : decode cX4_readOne 62 = .ok (.getfield 188, 3) := dk_180 0 188 (dk_at dksX4_readOne_2 15 rfl rfl)
theorem dX4_readOne_65 : decode cX4_readOne 65 = .ok (.iconst 1, 1) := dk_4 (dk_at dksX4_readOne_2 18 rfl rfl)
theorem dX4_readOne_66 : decode cX4_readOne 66 = .ok (.if_icmp .ne 21, 3) := dk_160 0 21 (dk_at dksX4_readOne_2 19 rfl rfl)
theorem dX4_readOne_69 : decode cX4_readOne 69 = .ok (.iload_n 2, 1) := dk_28 (dk_at dksX4_readOne_2 22 rfl rfl)
theorem dX4_readOne_70 : decode cX4_readOne 70 = .ok (.bipush 12, 2) := dk_16 12 (dk_at dksX4_readOne_3 0 rfl rfl)
theorem dX4_readOne_72 : decode cX4_readOne 72 = .ok (.if_icmp .gt 15, 3) := dk_163 0 15 (dk_at dksX4_readOne_3 2 rfl rfl)
theorem dX4_readOne_75 : decode cX4_readOne 75 = .ok (.iload_n 2, 1) := dk_28 (dk_at dksX4_readOne_3 5 rfl rfl)
theorem dX4_readOne_76 : decode cX4_readOne 76 = .ok (.aload_n 0, 1) := dk_42 (dk_at dksX4_readOne_3 6 rfl rfl)
theorem dX4_readOne_77 : decode cX4_readOne 77 = .ok (.invokevirtual 191, 3) := dk_182 0 191 (dk_at dksX4_readOne_3 7 rfl rfl)
theorem dX4_readOne_80 : decode cX4_readOne 80 = .ok (.if_icmp .gt 7, 3) := dk_163 0 7 (dk_at dksX4_readOne_3 10 rfl rfl)
theorem dX4_readOne_83 : decode cX4_readOne 83 = .ok (.iconst 1, 1) := dk_4 (dk_at dksX4_readOne_3 13 rfl rfl)
theorem dX4_readOne_84 : decode cX4_readOne 84 = .ok (.goto 4, 3) := dk_167 0 4 (dk_at dksX4_readOne_3 14 rfl rfl)
theorem dX4_readOne_87 : decode cX4_readOne 87 = .ok (.iconst 0, 1) := dk_3 (dk_at dksX4_readOne_3 17 rfl rfl)
theorem dX4_readOne_88 : decode cX4_readOne 88 = .ok (.istore_n 3, 1) := dk_62 (dk_at dksX4_readOne_3 18 rfl rfl)
theorem dX4_readOne_89 : decode cX4_readOne 89 = .ok (.aload_n 0, 1) := dk_42 (dk_at dksX4_readOne_3 19 rfl rfl)
theorem dX4_readOne_90 : decode cX4_readOne 90 = .ok (.iload_n 3, 1) := dk_29 (dk_at dksX4_readOne_3 20 rfl rfl)
theorem dX4_readOne_91 : decode cX4_readOne 91 = .ok (.ifCond .eq 7, 3) := dk_153 0 7 (dk_at dksX4_readOne_3 21 rfl rfl)
theorem dX4_readOne_94 : decode cX4_readOne 94 = .ok (.iload_n 2, 1) := dk_28 (dk_at dksX4_readOne_4 0 rfl rfl)
theorem dX4_readOne_95 : decode cX4_readOne 95 = .ok (.goto 7, 3) := dk_167 0 7 (dk_at dksX4_readOne_4 1 rfl rfl)
theorem dX4_readOne_98 : decode cX4_readOne 98 = .ok (.aload_n 0, 1) := dk_42 (dk_at dksX4_readOne_4 4 rfl rfl)
theorem dX4_readOne_99 : decode cX4_readOne 99 = .ok (.getfield 188, 3) := dk_180 0 188 (dk_at dksX4_readOne_4 5 rfl rfl)
theorem dX4_readOne_102 : decode cX4_readOne 102 = .ok (.putfield 188, 3) := dk_181 0 188 (dk_at dksX4_readOne_4 8 rfl rfl)
theorem dX4_readOne_105 : decode cX4_readOne 105 = .ok (.iload_n 3, 1) := dk_29 (dk_at dksX4_readOne_4 11 rfl rfl)
theorem dX4_readOne_106 : decode cX4_readOne 106 = .ok (.ireturn, 1) := dk_172 (dk_at dksX4_readOne_4 12 rfl rfl)
theorem dX4_readOne_107 : decode cX4_readOne 107 = .ok (.iload_n 1, 1) := dk_27 (dk_at dksX4_readOne_4 13 rfl rfl)
theorem dX4_readOne_108 : decode cX4_readOne 108 = .ok (.bipush 46, 2) := dk_16 46 (dk_at dksX4_readOne_4 14 rfl rfl)
theorem dX4_readOne_110 : decode cX4_readOne 110 = .ok (.if_icmp .eq 9, 3) := dk_159 0 9 (dk_at dksX4_readOne_4 16 rfl rfl)
theorem dX4_readOne_113 : decode cX4_readOne 113 = .ok (.iload_n 1, 1) := dk_27 (dk_at dksX4_readOne_4 19 rfl rfl)
theorem dX4_readOne_114 : decode cX4_readOne 114 = .ok (.bipush 35, 2) := dk_16 35 (dk_at dksX4_readOne_4 20 rfl rfl)
theorem dX4_readOne_116 : decode cX4_readOne 116 = .ok (.if_icmp .ne 95, 3) := dk_160 0 95 (dk_at dksX4_readOne_5 0 rfl rfl)
theorem dX4_readOne_119 : decode cX4_readOne 119 = .ok (.aload_n 0, 1) := dk_42 (dk_at dksX4_readOne_5 3 rfl rfl)
theorem dX4_readOne_120 : decode cX4_readOne 120 = .ok (.getfield 188, 3) := dk_180 0 188 (dk_at dksX4_readOne_5 4 rfl rfl)
theorem dX4_readOne_123 : decode cX4_readOne 123 = .ok (.ifCond .ne 7, 3) := dk_154 0 7 (dk_at dksX4_readOne_5 7 rfl rfl)
theorem dX4_readOne_126 : decode cX4_readOne 126 = .ok (.iconst 1, 1) := dk_4 (dk_at dksX4_readOne_5 10 rfl rfl)
theorem dX4_readOne_127 : decode cX4_readOne 127 = .ok (.goto 7, 3) := dk_167 0 7 (dk_at dksX4_readOne_5 11 rfl rfl)
theorem dX4_readOne_130 : decode cX4_readOne 130 = .ok (.aload_n 0, 1) := dk_42 (dk_at dksX4_readOne_5 14 rfl rfl)
theorem dX4_readOne_131 : decode cX4_readOne 131 = .ok (.getfield 188, 3) := dk_180 0 188 (dk_at dksX4_readOne_5 15 rfl rfl)
theorem dX4_readOne_134 : decode cX4_readOne 134 = .ok (.istore_n 2, 1) := dk_61 (dk_at dksX4_readOne_5 18 rfl rfl)
theorem dX4_readOne_135 : decode cX4_readOne 135 = .ok (.aload_n 0, 1) := dk_42 (dk_at dksX4_readOne_5 19 rfl rfl)
theorem dX4_readOne_136 : decode cX4_readOne 136 = .ok (.getfield 188, 3) := dk_180 0 188 (dk_at dksX4_readOne_5 20 rfl rfl)
theorem dX4_readOne_139 : decode cX4_readOne 139 = .ok (.iconst 1, 1) := dk_4 (dk_at dksX4_readOne_5 23 rfl rfl)
theorem dX4_readOne_140 : decode cX4_readOne 140 = .ok (.if_icmp .eq 11, 3) := dk_159 0 11 (dk_at dksX4_readOne_6 0 rfl rfl)
theorem dX4_readOne_143 : decode cX4_readOne 143 = .ok (.iload_n 2, 1) := dk_28 (dk_at dksX4_readOne_6 3 rfl rfl)
theorem dX4_readOne_144 : decode cX4_readOne 144 = .ok (.aload_n 0, 1) := dk_42 (dk_at dksX4_readOne_6 4 rfl rfl)
theorem dX4_readOne_145 : decode cX4_readOne 145 = .ok (.invokevirtual 191, 3) := dk_182 0 191 (dk_at dksX4_readOne_6 5 rfl rfl)
theorem dX4_readOne_148 : decode cX4_readOne 148 = .ok (.if_icmp .le 5, 3) := dk_164 0 5 (dk_at dksX4_readOne_6 8 rfl rfl)
theorem dX4_readOne_151 : decode cX4_readOne 151 = .ok (.iconst 0, 1) := dk_3 (dk_at dksX4_readOne_6 11 rfl rfl)
theorem dX4_readOne_152 : decode cX4_readOne 152 = .ok (.ireturn, 1) := dk_172 (dk_at dksX4_readOne_6 12 rfl rfl)
theorem dX4_readOne_153 : decode cX4_readOne 153 = .ok (.iconst 0, 1) := dk_3 (dk_at dksX4_readOne_6 13 rfl rfl)
theorem dX4_readOne_154 : decode cX4_readOne 154 = .ok (.istore_n 3, 1) := dk_62 (dk_at dksX4_readOne_6 14 rfl rfl)
theorem dX4_readOne_155 : decode cX4_readOne 155 = .ok (.iload_n 3, 1) := dk_29 (dk_at dksX4_readOne_6 15 rfl rfl)
theorem dX4_readOne_156 : decode cX4_readOne 156 = .ok (.iload_n 2, 1) := dk_28 (dk_at dksX4_readOne_6 16 rfl rfl)
theorem dX4_readOne_157 : decode cX4_readOne 157 = .ok (.if_icmp .ge 47, 3) := dk_162 0 47 (dk_at dksX4_readOne_6 17 rfl rfl)
theorem dX4_readOne_160 : decode cX4_readOne 160 = .ok (.aload_n 0, 1) := dk_42 (dk_at dksX4_readOne_6 20 rfl rfl)
theorem dX4_readOne_161 : decode cX4_readOne 161 = .ok (.getfield 51, 3) := dk_180 0 51 (dk_at dksX4_readOne_6 21 rfl rfl)
theorem dX4_readOne_164 : decode cX4_readOne 164 = .ok (.bipush 12, 2) := dk_16 12 (dk_at dksX4_readOne_7 0 rfl rfl)
theorem dX4_readOne_166 : decode cX4_readOne 166 = .ok (.aload_n 0, 1) := dk_42 (dk_at dksX4_readOne_7 2 rfl rfl)
theorem dX4_readOne_167 : decode cX4_readOne 167 = .ok (.getfield 179, 3) := dk_180 0 179 (dk_at dksX4_readOne_7 3 rfl rfl)
theorem dX4_readOne_170 : decode cX4_readOne 170 = .ok (.imul, 1) := dk_104 (dk_at dksX4_readOne_7 6 rfl rfl)
theorem dX4_readOne_171 : decode cX4_readOne 171 = .ok (.aload_n 0, 1) := dk_42 (dk_at dksX4_readOne_7 7 rfl rfl)
theorem dX4_readOne_172 : decode cX4_readOne 172 = .ok (.getfield 185, 3) := dk_180 0 185 (dk_at dksX4_readOne_7 8 rfl rfl)
theorem dX4_readOne_175 : decode cX4_readOne 175 = .ok (.iadd, 1) := dk_96 (dk_at dksX4_readOne_7 11 rfl rfl)
theorem dX4_readOne_176 : decode cX4_readOne 176 = .ok (.iload_n 1, 1) := dk_27 (dk_at dksX4_readOne_7 12 rfl rfl)
theorem dX4_readOne_177 : decode cX4_readOne 177 = .ok (.bipush 35, 2) := dk_16 35 (dk_at dksX4_readOne_7 13 rfl rfl)
theorem dX4_readOne_179 : decode cX4_readOne 179 = .ok (.if_icmp .ne 7, 3) := dk_160 0 7 (dk_at dksX4_readOne_7 15 rfl rfl)
theorem dX4_readOne_182 : decode cX4_readOne 182 = .ok (.iconst 1, 1) := dk_4 (dk_at dksX4_readOne_7 18 rfl rfl)
theorem dX4_readOne_183 : decode cX4_readOne 183 = .ok (.goto 4, 3) := dk_167 0 4 (dk_at dksX4_readOne_7 19 rfl rfl)
theorem dX4_readOne_186 : decode cX4_readOne 186 = .ok (.iconst 0, 1) := dk_3 (dk_at dksX4_readOne_7 22 rfl rfl)
theorem dX4_readOne_187 : decode cX4_readOne 187 = .ok (.iastore, 1) := dk_79 (dk_at dksX4_readOne_7 23 rfl rfl)
theorem dX4_readOne_188 : decode cX4_readOne 188 = .ok (.aload_n 0, 1) := dk_42 (dk_at dksX4_readOne_8 0 rfl rfl)
theorem dX4_readOne_189 : decode cX4_readOne 189 = .ok (.dup, 1) := dk_89 (dk_at dksX4_readOne_8 1 rfl rfl)
theorem dX4_readOne_190 : decode cX4_readOne 190 = .ok (.getfield 185, 3) := dk_180 0 185 (dk_at dksX4_readOne_8 2 rfl rfl)
theorem dX4_readOne_193 : decode cX4_readOne 193 = .ok (.iconst 1, 1) := dk_4 (dk_at dksX4_readOne_8 5 rfl rfl)
theorem dX4_readOne_194 : decode cX4_readOne 194 = .ok (.iadd, 1) := dk_96 (dk_at dksX4_readOne_8 6 rfl rfl)
theorem dX4_readOne_195 : decode cX4_readOne 195 = .ok (.putfield 185, 3) := dk_181 0 185 (dk_at dksX4_readOne_8 7 rfl rfl)
theorem dX4_readOne_198 : decode cX4_readOne 198 = .ok (.iinc 3 1, 3) := dk_132 3 1 (dk_at dksX4_readOne_8 10 rfl rfl)
theorem dX4_readOne_201 : decode cX4_readOne 201 = .ok (.goto (-46), 3) := dk_167 255 210 (dk_at dksX4_readOne_8 13 rfl rfl)
theorem dX4_readOne_204 : decode cX4_readOne 204 = .ok (.aload_n 0, 1) := dk_42 (dk_at dksX4_readOne_8 16 rfl rfl)
theorem dX4_readOne_205 : decode cX4_readOne 205 = .ok (.iconst 0, 1) := dk_3 (dk_at dksX4_readOne_8 17 rfl rfl)
theorem dX4_readOne_206 : decode cX4_readOne 206 = .ok (.putfield 188, 3) := dk_181 0 188 (dk_at dksX4_readOne_8 18 rfl rfl)
theorem dX4_readOne_209 : decode cX4_readOne 209 = .ok (.iconst 1, 1) := dk_4 (dk_at dksX4_readOne_8 21 rfl rfl)
theorem dX4_readOne_210 : decode cX4_readOne 210 = .ok (.ireturn, 1) := dk_172 (dk_at dksX4_readOne_8 22 rfl rfl)
theorem dX4_readOne_211 : decode cX4_readOne 211 = .ok (.iload_n 1, 1) := dk_27 (dk_at dksX4_readOne_8 23 rfl rfl)
theorem dX4_readOne_212 : decode cX4_readOne 212 = .ok (.bipush 47, 2) := dk_16 47 (dk_at dksX4_readOne_9 0 rfl rfl)
theorem dX4_readOne_214 : decode cX4_readOne 214 = .ok (.if_icmp .ne 23, 3) := dk_160 0 23 (dk_at dksX4_readOne_9 2 rfl rfl)
theorem dX4_readOne_217 : decode cX4_readOne 217 = .ok (.aload_n 0, 1) := dk_42 (dk_at dksX4_readOne_9 5 rfl rfl)
theorem dX4_readOne_218 : decode cX4_readOne 218 = .ok (.invokevirtual 194, 3) := dk_182 0 194 (dk_at dksX4_readOne_9 6 rfl rfl)
theorem dX4_readOne_221 : decode cX4_readOne 221 = .ok (.ifCond .eq 16, 3) := dk_153 0 16 (dk_at dksX4_readOne_9 9 rfl rfl)
theorem dX4_readOne_224 : decode cX4_readOne 224 = .ok (.aload_n 0, 1) := dk_42 (dk_at dksX4_readOne_9 12 rfl rfl)
theorem dX4_readOne_225 : decode cX4_readOne 225 = .ok (.getfield 179, 3) := dk_180 0 179 (dk_at dksX4_readOne_9 13 rfl rfl)
theorem dX4_readOne_228 : decode cX4_readOne 228 = .ok (.bipush 11, 2) := dk_16 11 (dk_at dksX4_readOne_9 16 rfl rfl)
theorem dX4_readOne_230 : decode cX4_readOne 230 = .ok (.if_icmp .ge 7, 3) := dk_162 0 7 (dk_at dksX4_readOne_9 18 rfl rfl)
theorem dX4_readOne_233 : decode cX4_readOne 233 = .ok (.iconst 1, 1) := dk_4 (dk_at dksX4_readOne_9 21 rfl rfl)
theorem dX4_readOne_234 : decode cX4_readOne 234 = .ok (.goto 4, 3) := dk_167 0 4 (dk_at dksX4_readOne_10 0 rfl rfl)
theorem dX4_readOne_237 : decode cX4_readOne 237 = .ok (.iconst 0, 1) := dk_3 (dk_at dksX4_readOne_10 3 rfl rfl)
theorem dX4_readOne_238 : decode cX4_readOne 238 = .ok (.istore_n 2, 1) := dk_61 (dk_at dksX4_readOne_10 4 rfl rfl)
theorem dX4_readOne_239 : decode cX4_readOne 239 = .ok (.iload_n 2, 1) := dk_28 (dk_at dksX4_readOne_10 5 rfl rfl)
theorem dX4_readOne_240 : decode cX4_readOne 240 = .ok (.ifCond .eq 7, 3) := dk_153 0 7 (dk_at dksX4_readOne_10 6 rfl rfl)
theorem dX4_readOne_243 : decode cX4_readOne 243 = .ok (.aload_n 0, 1) := dk_42 (dk_at dksX4_readOne_10 9 rfl rfl)
theorem dX4_readOne_244 : decode cX4_readOne 244 = .ok (.invokevirtual 197, 3) := dk_182 0 197 (dk_at dksX4_readOne_10 10 rfl rfl)
theorem dX4_readOne_247 : decode cX4_readOne 247 = .ok (.iload_n 2, 1) := dk_28 (dk_at dksX4_readOne_10 13 rfl rfl)
theorem dX4_readOne_248 : decode cX4_readOne 248 = .ok (.ireturn, 1) := dk_172 (dk_at dksX4_readOne_10 14 rfl rfl)
abbrev cX4_room : ByteArray := prog_12_method_68_code
def yX4_room : MethodName := ⟨RX4, "room", "()I"⟩
def dkwX4_room_0 : List UInt8 := [42, 180, 0, 179, 154, 0, 8, 16, 12, 167, 0, 7, 42, 180, 0, 182, 42, 180, 0, 185, 100, 172]
abbrev dktX4_room_0 : List UInt8 := dkwX4_room_0 ++ []
theorem dksX4_room_0 : cX4_room.data.toList.drop 0 = dktX4_room_0 := by decide +kernel
theorem dX4_room_0 : decode cX4_room 0 = .ok (.aload_n 0, 1) := dk_42 (dk_at dksX4_room_0 0 rfl rfl)
theorem dX4_room_1 : decode cX4_room 1 = .ok (.getfield 179, 3) := dk_180 0 179 (dk_at dksX4_room_0 1 rfl rfl)
theorem dX4_room_4 : decode cX4_room 4 = .ok (.ifCond .ne 8, 3) := dk_154 0 8 (dk_at dksX4_room_0 4 rfl rfl)
theorem dX4_room_7 : decode cX4_room 7 = .ok (.bipush 12, 2) := dk_16 12 (dk_at dksX4_room_0 7 rfl rfl)
theorem dX4_room_9 : decode cX4_room 9 = .ok (.goto 7, 3) := dk_167 0 7 (dk_at dksX4_room_0 9 rfl rfl)
theorem dX4_room_12 : decode cX4_room 12 = .ok (.aload_n 0, 1) := dk_42 (dk_at dksX4_room_0 12 rfl rfl)
theorem dX4_room_13 : decode cX4_room 13 = .ok (.getfield 182, 3) := dk_180 0 182 (dk_at dksX4_room_0 13 rfl rfl)
theorem dX4_room_16 : decode cX4_room 16 = .ok (.aload_n 0, 1) := dk_42 (dk_at dksX4_room_0 16 rfl rfl)
theorem dX4_room_17 : decode cX4_room 17 = .ok (.getfield 185, 3) := dk_180 0 185 (dk_at dksX4_room_0 17 rfl rfl)
theorem dX4_room_20 : decode cX4_room 20 = .ok (.isub, 1) := dk_100 (dk_at dksX4_room_0 20 rfl rfl)
theorem dX4_room_21 : decode cX4_room 21 = .ok (.ireturn, 1) := dk_172 (dk_at dksX4_room_0 21 rfl rfl)
abbrev cX4_isRowWhole : ByteArray := prog_12_method_70_code
def yX4_isRowWhole : MethodName := ⟨RX4, "isRowWhole", "()Z"⟩
def dkwX4_isRowWhole_1 : List UInt8 := [180, 0, 185, 42, 180, 0, 182, 160, 0, 7, 4, 167, 0, 4, 3, 172]
abbrev dktX4_isRowWhole_1 : List UInt8 := dkwX4_isRowWhole_1 ++ []
def dkwX4_isRowWhole_0 : List UInt8 := [42, 180, 0, 188, 154, 0, 32, 42, 180, 0, 185, 158, 0, 25, 42, 180, 0, 179, 153, 0, 14, 42]
abbrev dktX4_isRowWhole_0 : List UInt8 := dkwX4_isRowWhole_0 ++ dktX4_isRowWhole_1
theorem dksX4_isRowWhole_0 : cX4_isRowWhole.data.toList.drop 0 = dktX4_isRowWhole_0 := by decide +kernel
theorem dksX4_isRowWhole_1 : cX4_isRowWhole.data.toList.drop 22 = dktX4_isRowWhole_1 := dk_seg dksX4_isRowWhole_0 22 rfl rfl
theorem dX4_isRowWhole_0 : decode cX4_isRowWhole 0 = .ok (.aload_n 0, 1) := dk_42 (dk_at dksX4_isRowWhole_0 0 rfl rfl)
theorem dX4_isRowWhole_1 : decode cX4_isRowWhole 1 = .ok (.getfield 188, 3) := dk_180 0 188 (dk_at dksX4_isRowWhole_0 1 rfl rfl)
theorem dX4_isRowWhole_4 : decode cX4_isRowWhole 4 = .ok (.ifCond .ne 32, 3) := dk_154 0 32 (dk_at dksX4_isRowWhole_0 4 rfl rfl)
theorem dX4_isRowWhole_7 : decode cX4_isRowWhole 7 = .ok (.aload_n 0, 1) := dk_42 (dk_at dksX4_isRowWhole_0 7 rfl rfl)
theorem dX4_isRowWhole_8 : decode cX4_isRowWhole 8 = .ok (.getfield 185, 3) := dk_180 0 185 (dk_at dksX4_isRowWhole_0 8 rfl rfl)
theorem dX4_isRowWhole_11 : decode cX4_isRowWhole 11 = .ok (.ifCond .le 25, 3) := dk_158 0 25 (dk_at dksX4_isRowWhole_0 11 rfl rfl)
theorem dX4_isRowWhole_14 : decode cX4_isRowWhole 14 = .ok (.aload_n 0, 1) := dk_42 (dk_at dksX4_isRowWhole_0 14 rfl rfl)
theorem dX4_isRowWhole_15 : decode cX4_isRowWhole 15 = .ok (.getfield 179, 3) := dk_180 0 179 (dk_at dksX4_isRowWhole_0 15 rfl rfl)
theorem dX4_isRowWhole_18 : decode cX4_isRowWhole 18 = .ok (.ifCond .eq 14, 3) := dk_153 0 14 (dk_at dksX4_isRowWhole_0 18 rfl rfl)
theorem dX4_isRowWhole_21 : decode cX4_isRowWhole 21 = .ok (.aload_n 0, 1) := dk_42 (dk_at dksX4_isRowWhole_0 21 rfl rfl)
theorem dX4_isRowWhole_22 : decode cX4_isRowWhole 22 = .ok (.getfield 185, 3) := dk_180 0 185 (dk_at dksX4_isRowWhole_1 0 rfl rfl)
theorem dX4_isRowWhole_25 : decode cX4_isRowWhole 25 = .ok (.aload_n 0, 1) := dk_42 (dk_at dksX4_isRowWhole_1 3 rfl rfl)
theorem dX4_isRowWhole_26 : decode cX4_isRowWhole 26 = .ok (.getfield 182, 3) := dk_180 0 182 (dk_at dksX4_isRowWhole_1 4 rfl rfl)
theorem dX4_isRowWhole_29 : decode cX4_isRowWhole 29 = .ok (.if_icmp .ne 7, 3) := dk_160 0 7 (dk_at dksX4_isRowWhole_1 7 rfl rfl)
theorem dX4_isRowWhole_32 : decode cX4_isRowWhole 32 = .ok (.iconst 1, 1) := dk_4 (dk_at dksX4_isRowWhole_1 10 rfl rfl)
theorem dX4_isRowWhole_33 : decode cX4_isRowWhole 33 = .ok (.goto 4, 3) := dk_167 0 4 (dk_at dksX4_isRowWhole_1 11 rfl rfl)
theorem dX4_isRowWhole_36 : decode cX4_isRowWhole 36 = .ok (.iconst 0, 1) := dk_3 (dk_at dksX4_isRowWhole_1 14 rfl rfl)
theorem dX4_isRowWhole_37 : decode cX4_isRowWhole 37 = .ok (.ireturn, 1) := dk_172 (dk_at dksX4_isRowWhole_1 15 rfl rfl)
abbrev cX4_endRow : ByteArray := prog_12_method_71_code
def yX4_endRow : MethodName := ⟨RX4, "endRow", "()V"⟩
def dkwX4_endRow_0 : List UInt8 := [42, 42, 180, 0, 185, 181, 0, 182, 42, 89, 180, 0, 179, 4, 96, 181, 0, 179, 42, 3, 181, 0, 185, 177]
abbrev dktX4_endRow_0 : List UInt8 := dkwX4_endRow_0 ++ []
theorem dksX4_endRow_0 : cX4_endRow.data.toList.drop 0 = dktX4_endRow_0 := by decide +kernel
theorem dX4_endRow_0 : decode cX4_endRow 0 = .ok (.aload_n 0, 1) := dk_42 (dk_at dksX4_endRow_0 0 rfl rfl)
theorem dX4_endRow_1 : decode cX4_endRow 1 = .ok (.aload_n 0, 1) := dk_42 (dk_at dksX4_endRow_0 1 rfl rfl)
theorem dX4_endRow_2 : decode cX4_endRow 2 = .ok (.getfield 185, 3) := dk_180 0 185 (dk_at dksX4_endRow_0 2 rfl rfl)
theorem dX4_endRow_5 : decode cX4_endRow 5 = .ok (.putfield 182, 3) := dk_181 0 182 (dk_at dksX4_endRow_0 5 rfl rfl)
theorem dX4_endRow_8 : decode cX4_endRow 8 = .ok (.aload_n 0, 1) := dk_42 (dk_at dksX4_endRow_0 8 rfl rfl)
theorem dX4_endRow_9 : decode cX4_endRow 9 = .ok (.dup, 1) := dk_89 (dk_at dksX4_endRow_0 9 rfl rfl)
theorem dX4_endRow_10 : decode cX4_endRow 10 = .ok (.getfield 179, 3) := dk_180 0 179 (dk_at dksX4_endRow_0 10 rfl rfl)
theorem dX4_endRow_13 : decode cX4_endRow 13 = .ok (.iconst 1, 1) := dk_4 (dk_at dksX4_endRow_0 13 rfl rfl)
theorem dX4_endRow_14 : decode cX4_endRow 14 = .ok (.iadd, 1) := dk_96 (dk_at dksX4_endRow_0 14 rfl rfl)
theorem dX4_endRow_15 : decode cX4_endRow 15 = .ok (.putfield 179, 3) := dk_181 0 179 (dk_at dksX4_endRow_0 15 rfl rfl)
theorem dX4_endRow_18 : decode cX4_endRow 18 = .ok (.aload_n 0, 1) := dk_42 (dk_at dksX4_endRow_0 18 rfl rfl)
theorem dX4_endRow_19 : decode cX4_endRow 19 = .ok (.iconst 0, 1) := dk_3 (dk_at dksX4_endRow_0 19 rfl rfl)
theorem dX4_endRow_20 : decode cX4_endRow 20 = .ok (.putfield 185, 3) := dk_181 0 185 (dk_at dksX4_endRow_0 20 rfl rfl)
theorem dX4_endRow_23 : decode cX4_endRow 23 = .ok (.return_, 1) := dk_177 (dk_at dksX4_endRow_0 23 rfl rfl)
abbrev cX4_read : ByteArray := prog_12_method_73_code
def yX4_read : MethodName := ⟨RX4, "read", "()I"⟩
def dkwX4_read_4 : List UInt8 := [182, 0, 73, 172]
abbrev dktX4_read_4 : List UInt8 := dkwX4_read_4 ++ []
def dkwX4_read_3 : List UInt8 := [108, 104, 27, 42, 180, 0, 182, 112, 96, 46, 79, 132, 1, 1, 167, 255, 216, 42, 3, 181, 0, 176, 42]
abbrev dktX4_read_3 : List UInt8 := dkwX4_read_3 ++ dktX4_read_4
def dkwX4_read_2 : List UInt8 := [182, 0, 116, 162, 0, 38, 42, 180, 0, 7, 6, 27, 96, 42, 180, 0, 51, 16, 12, 27, 42, 180, 0, 182]
abbrev dktX4_read_2 : List UInt8 := dkwX4_read_2 ++ dktX4_read_3
def dkwX4_read_1 : List UInt8 := [3, 42, 180, 0, 179, 79, 42, 180, 0, 7, 4, 42, 180, 0, 182, 79, 42, 182, 0, 58, 3, 60, 27, 42]
abbrev dktX4_read_1 : List UInt8 := dkwX4_read_1 ++ dktX4_read_2
def dkwX4_read_0 : List UInt8 := [42, 182, 0, 203, 16, 250, 159, 0, 6, 16, 251, 172, 42, 182, 0, 197, 42, 182, 0, 77, 42, 180, 0, 7]
abbrev dktX4_read_0 : List UInt8 := dkwX4_read_0 ++ dktX4_read_1
theorem dksX4_read_0 : cX4_read.data.toList.drop 0 = dktX4_read_0 := by decide +kernel
theorem dksX4_read_1 : cX4_read.data.toList.drop 24 = dktX4_read_1 := dk_seg dksX4_read_0 24 rfl rfl
theorem dksX4_read_2 : cX4_read.data.toList.drop 48 = dktX4_read_2 := dk_seg dksX4_read_1 24 rfl rfl
theorem dksX4_read_3 : cX4_read.data.toList.drop 72 = dktX4_read_3 := dk_seg dksX4_read_2 24 rfl rfl
theorem dksX4_read_4 : cX4_read.data.toList.drop 95 = dktX4_read_4 := dk_seg dksX4_read_3 23 rfl rfl
theorem dX4_read_0 : decode cX4_read 0 = .ok (.aload_n 0, 1) := dk_42 (dk_at dksX4_read_0 0 rfl rfl)
theorem dX4_read_1 : decode cX4_read 1 = .ok (.invokevirtual 203, 3) := dk_182 0 203 (dk_at dksX4_read_0 1 rfl rfl)
theorem dX4_read_4 : decode cX4_read 4 = .ok (.bipush (-6), 2) := dk_16 250 (dk_at dksX4_read_0 4 rfl rfl)
theorem dX4_read_6 : decode cX4_read 6 = .ok (.if_icmp .eq 6, 3) := dk_159 0 6 (dk_at dksX4_read_0 6 rfl rfl)
theorem dX4_read_9 : decode cX4_read 9 = .ok (.bipush (-5), 2) := dk_16 251 (dk_at dksX4_read_0 9 rfl rfl)
theorem dX4_read_11 : decode cX4_read 11 = .ok (.ireturn, 1) := dk_172 (dk_at dksX4_read_0 11 rfl rfl)
theorem dX4_read_12 : decode cX4_read 12 = .ok (.aload_n 0, 1) := dk_42 (dk_at dksX4_read_0 12 rfl rfl)
theorem dX4_read_13 : decode cX4_read 13 = .ok (.invokevirtual 197, 3) := dk_182 0 197 (dk_at dksX4_read_0 13 rfl rfl)
theorem dX4_read_16 : decode cX4_read 16 = .ok (.aload_n 0, 1) := dk_42 (dk_at dksX4_read_0 16 rfl rfl)
theorem dX4_read_17 : decode cX4_read 17 = .ok (.invokevirtual 77, 3) := dk_182 0 77 (dk_at dksX4_read_0 17 rfl rfl)
theorem dX4_read_20 : decode cX4_read 20 = .ok (.aload_n 0, 1) := dk_42 (dk_at dksX4_read_0 20 rfl rfl)
theorem dX4_read_21 : decode cX4_read 21 = .ok (.getfield 7, 3) := dk_180 0 7 (dk_at dksX4_read_0 21 rfl rfl)
theorem dX4_read_24 : decode cX4_read 24 = .ok (.iconst 0, 1) := dk_3 (dk_at dksX4_read_1 0 rfl rfl)
theorem dX4_read_25 : decode cX4_read 25 = .ok (.aload_n 0, 1) := dk_42 (dk_at dksX4_read_1 1 rfl rfl)
theorem dX4_read_26 : decode cX4_read 26 = .ok (.getfield 179, 3) := dk_180 0 179 (dk_at dksX4_read_1 2 rfl rfl)
theorem dX4_read_29 : decode cX4_read 29 = .ok (.iastore, 1) := dk_79 (dk_at dksX4_read_1 5 rfl rfl)
theorem dX4_read_30 : decode cX4_read 30 = .ok (.aload_n 0, 1) := dk_42 (dk_at dksX4_read_1 6 rfl rfl)
theorem dX4_read_31 : decode cX4_read 31 = .ok (.getfield 7, 3) := dk_180 0 7 (dk_at dksX4_read_1 7 rfl rfl)
theorem dX4_read_34 : decode cX4_read 34 = .ok (.iconst 1, 1) := dk_4 (dk_at dksX4_read_1 10 rfl rfl)
theorem dX4_read_35 : decode cX4_read 35 = .ok (.aload_n 0, 1) := dk_42 (dk_at dksX4_read_1 11 rfl rfl)
theorem dX4_read_36 : decode cX4_read 36 = .ok (.getfield 182, 3) := dk_180 0 182 (dk_at dksX4_read_1 12 rfl rfl)
theorem dX4_read_39 : decode cX4_read 39 = .ok (.iastore, 1) := dk_79 (dk_at dksX4_read_1 15 rfl rfl)
theorem dX4_read_40 : decode cX4_read 40 = .ok (.aload_n 0, 1) := dk_42 (dk_at dksX4_read_1 16 rfl rfl)
theorem dX4_read_41 : decode cX4_read 41 = .ok (.invokevirtual 58, 3) := dk_182 0 58 (dk_at dksX4_read_1 17 rfl rfl)
theorem dX4_read_44 : decode cX4_read 44 = .ok (.iconst 0, 1) := dk_3 (dk_at dksX4_read_1 20 rfl rfl)
theorem dX4_read_45 : decode cX4_read 45 = .ok (.istore_n 1, 1) := dk_60 (dk_at dksX4_read_1 21 rfl rfl)
theorem dX4_read_46 : decode cX4_read 46 = .ok (.iload_n 1, 1) := dk_27 (dk_at dksX4_read_1 22 rfl rfl)
theorem dX4_read_47 : decode cX4_read 47 = .ok (.aload_n 0, 1) := dk_42 (dk_at dksX4_read_1 23 rfl rfl)
theorem dX4_read_48 : decode cX4_read 48 = .ok (.invokevirtual 116, 3) := dk_182 0 116 (dk_at dksX4_read_2 0 rfl rfl)
theorem dX4_read_51 : decode cX4_read 51 = .ok (.if_icmp .ge 38, 3) := dk_162 0 38 (dk_at dksX4_read_2 3 rfl rfl)
theorem dX4_read_54 : decode cX4_read 54 = .ok (.aload_n 0, 1) := dk_42 (dk_at dksX4_read_2 6 rfl rfl)
theorem dX4_read_55 : decode cX4_read 55 = .ok (.getfield 7, 3) := dk_180 0 7 (dk_at dksX4_read_2 7 rfl rfl)
theorem dX4_read_58 : decode cX4_read 58 = .ok (.iconst 3, 1) := dk_6 (dk_at dksX4_read_2 10 rfl rfl)
theorem dX4_read_59 : decode cX4_read 59 = .ok (.iload_n 1, 1) := dk_27 (dk_at dksX4_read_2 11 rfl rfl)
theorem dX4_read_60 : decode cX4_read 60 = .ok (.iadd, 1) := dk_96 (dk_at dksX4_read_2 12 rfl rfl)
theorem dX4_read_61 : decode cX4_read 61 = .ok (.aload_n 0, 1) := dk_42 (dk_at dksX4_read_2 13 rfl rfl)
theorem dX4_read_62 : decode cX4_read 62 = .ok (.getfield 51, 3) := dk_180 0 51 (dk_at dksX4_read_2 14 rfl rfl)
theorem dX4_read_65 : decode cX4_read 65 = .ok (.bipush 12, 2) := dk_16 12 (dk_at dksX4_read_2 17 rfl rfl)
theorem dX4_read_67 : decode cX4_read 67 = .ok (.iload_n 1, 1) := dk_27 (dk_at dksX4_read_2 19 rfl rfl)
theorem dX4_read_68 : decode cX4_read 68 = .ok (.aload_n 0, 1) := dk_42 (dk_at dksX4_read_2 20 rfl rfl)
theorem dX4_read_69 : decode cX4_read 69 = .ok (.getfield 182, 3) := dk_180 0 182 (dk_at dksX4_read_2 21 rfl rfl)
theorem dX4_read_72 : decode cX4_read 72 = .ok (.idiv, 1) := dk_108 (dk_at dksX4_read_3 0 rfl rfl)
theorem dX4_read_73 : decode cX4_read 73 = .ok (.imul, 1) := dk_104 (dk_at dksX4_read_3 1 rfl rfl)
theorem dX4_read_74 : decode cX4_read 74 = .ok (.iload_n 1, 1) := dk_27 (dk_at dksX4_read_3 2 rfl rfl)
theorem dX4_read_75 : decode cX4_read 75 = .ok (.aload_n 0, 1) := dk_42 (dk_at dksX4_read_3 3 rfl rfl)
theorem dX4_read_76 : decode cX4_read 76 = .ok (.getfield 182, 3) := dk_180 0 182 (dk_at dksX4_read_3 4 rfl rfl)
theorem dX4_read_79 : decode cX4_read 79 = .ok (.irem, 1) := dk_112 (dk_at dksX4_read_3 7 rfl rfl)
theorem dX4_read_80 : decode cX4_read 80 = .ok (.iadd, 1) := dk_96 (dk_at dksX4_read_3 8 rfl rfl)
theorem dX4_read_81 : decode cX4_read 81 = .ok (.iaload, 1) := dk_46 (dk_at dksX4_read_3 9 rfl rfl)
theorem dX4_read_82 : decode cX4_read 82 = .ok (.iastore, 1) := dk_79 (dk_at dksX4_read_3 10 rfl rfl)
theorem dX4_read_83 : decode cX4_read 83 = .ok (.iinc 1 1, 3) := dk_132 1 1 (dk_at dksX4_read_3 11 rfl rfl)
theorem dX4_read_86 : decode cX4_read 86 = .ok (.goto (-40), 3) := dk_167 255 216 (dk_at dksX4_read_3 14 rfl rfl)
theorem dX4_read_89 : decode cX4_read 89 = .ok (.aload_n 0, 1) := dk_42 (dk_at dksX4_read_3 17 rfl rfl)
theorem dX4_read_90 : decode cX4_read 90 = .ok (.iconst 0, 1) := dk_3 (dk_at dksX4_read_3 18 rfl rfl)
theorem dX4_read_91 : decode cX4_read 91 = .ok (.putfield 176, 3) := dk_181 0 176 (dk_at dksX4_read_3 19 rfl rfl)
theorem dX4_read_94 : decode cX4_read 94 = .ok (.aload_n 0, 1) := dk_42 (dk_at dksX4_read_3 22 rfl rfl)
theorem dX4_read_95 : decode cX4_read 95 = .ok (.invokevirtual 73, 3) := dk_182 0 73 (dk_at dksX4_read_4 0 rfl rfl)
theorem dX4_read_98 : decode cX4_read 98 = .ok (.ireturn, 1) := dk_172 (dk_at dksX4_read_4 3 rfl rfl)
theorem q93 : (Jvm.Cond.initialized "CoastTilesModel") ∈ lw_all := lw_g (lw_at lw_m1 30 rfl) rfl
theorem q276 : (Jvm.Cond.selects "CoastTilesModel" ({ cls := "java/lang/Object", name := "hashCode", desc := "()I" } : Jvm.MethodName) ({ cls := "java/lang/Object", name := "hashCode", desc := "()I" } : Jvm.MethodName)) ∈ lw_all := lw_g (lw_at lw_m1 213 rfl) rfl
theorem q428 : (Jvm.Cond.selects "CoastTilesModel" ({ cls := "java/lang/Object", name := "getClass", desc := "()Ljava/lang/Class;" } : Jvm.MethodName) ({ cls := "java/lang/Object", name := "getClass", desc := "()Ljava/lang/Class;" } : Jvm.MethodName)) ∈ lw_all := lw_g (lw_at lw_m2 125 rfl) rfl
theorem q694 : (Jvm.Cond.selects "CoastTilesModel" ({ cls := "java/lang/Object", name := "equals", desc := "(Ljava/lang/Object;)Z" } : Jvm.MethodName) ({ cls := "java/lang/Object", name := "equals", desc := "(Ljava/lang/Object;)Z" } : Jvm.MethodName)) ∈ lw_all := lw_g (lw_at lw_m3 151 rfl) rfl
theorem q2121 : (Jvm.Cond.instantiable "CoastTilesModel" (22 : Nat)) ∈ lw_all := lw_g (lw_at lw_m9 138 rfl) rfl
theorem q2123 : (Jvm.Cond.instanceMethod ({ cls := "CoastTilesModel", name := "<init>", desc := "()V" } : Jvm.MethodName)) ∈ lw_all := lw_g (lw_at lw_m9 140 rfl) rfl
theorem q2124 : (Jvm.Cond.code ({ cls := "CoastTilesModel", name := "<init>", desc := "()V" } : Jvm.MethodName) prog_12_method_1_code (3 : Nat) (Option.none : Option Jvm.ClassFile.FieldType)) ∈ lw_all := lw_g (lw_at lw_m9 141 rfl) rfl
theorem q2125 : (Jvm.Cond.methodLink "CoastTilesModel" (1 : Nat) ({ cls := "java/lang/Object", name := "<init>", desc := "()V" } : Jvm.MethodName)) ∈ lw_all := lw_g (lw_at lw_m9 142 rfl) rfl
theorem q2126 : (Jvm.Cond.methodLink "CoastTilesModel" (54 : Nat) ({ cls := "CoastTilesModel", name := "reduced", desc := "(I)I" } : Jvm.MethodName)) ∈ lw_all := lw_g (lw_at lw_m9 143 rfl) rfl
theorem q2127 : (Jvm.Cond.static ({ cls := "CoastTilesModel", name := "reduced", desc := "(I)I" } : Jvm.MethodName)) ∈ lw_all := lw_g (lw_at lw_m9 144 rfl) rfl
theorem q2128 : (Jvm.Cond.code ({ cls := "CoastTilesModel", name := "reduced", desc := "(I)I" } : Jvm.MethodName) prog_12_method_15_code (3 : Nat) (Option.some Jvm.ClassFile.FieldType.int)) ∈ lw_all := lw_g (lw_at lw_m9 145 rfl) rfl
theorem q2129 : (Jvm.Cond.methodLink "CoastTilesModel" (80 : Nat) ({ cls := "CoastTilesModel", name := "bit", desc := "(II)I" } : Jvm.MethodName)) ∈ lw_all := lw_g (lw_at lw_m9 146 rfl) rfl
theorem q2130 : (Jvm.Cond.static ({ cls := "CoastTilesModel", name := "bit", desc := "(II)I" } : Jvm.MethodName)) ∈ lw_all := lw_g (lw_at lw_m9 147 rfl) rfl
theorem q2131 : (Jvm.Cond.code ({ cls := "CoastTilesModel", name := "bit", desc := "(II)I" } : Jvm.MethodName) prog_12_method_14_code (2 : Nat) (Option.some Jvm.ClassFile.FieldType.int)) ∈ lw_all := lw_g (lw_at lw_m9 148 rfl) rfl
theorem q2132 : (Jvm.Cond.methodLink "CoastTilesModel" (58 : Nat) ({ cls := "CoastTilesModel", name := "water", desc := "()V" } : Jvm.MethodName)) ∈ lw_all := lw_g (lw_at lw_m9 149 rfl) rfl
theorem q2133 : (Jvm.Cond.privateMethod ({ cls := "CoastTilesModel", name := "water", desc := "()V" } : Jvm.MethodName)) ∈ lw_tbl := lw_at lw_m9 150 rfl
theorem q2134 : (Jvm.Cond.instanceMethod ({ cls := "CoastTilesModel", name := "water", desc := "()V" } : Jvm.MethodName)) ∈ lw_all := lw_g (lw_at lw_m9 151 rfl) rfl
theorem q2135 : (Jvm.Cond.code ({ cls := "CoastTilesModel", name := "water", desc := "()V" } : Jvm.MethodName) prog_12_method_3_code (2 : Nat) (Option.none : Option Jvm.ClassFile.FieldType)) ∈ lw_all := lw_g (lw_at lw_m9 152 rfl) rfl
theorem q2136 : (Jvm.Cond.fieldLink "CoastTilesModel" (7 : Nat) "CoastTilesModel" "z" "[I") ∈ lw_all := lw_g (lw_at lw_m9 153 rfl) rfl
theorem q2137 : (Jvm.Cond.fieldLink "CoastTilesModel" (13 : Nat) "CoastTilesModel" "past" "[I") ∈ lw_all := lw_g (lw_at lw_m9 154 rfl) rfl
theorem q2138 : (Jvm.Cond.fieldLink "CoastTilesModel" (65 : Nat) "CoastTilesModel" "pastMany" "I") ∈ lw_all := lw_g (lw_at lw_m9 155 rfl) rfl
theorem q2139 : (Jvm.Cond.fieldLink "CoastTilesModel" (16 : Nat) "CoastTilesModel" "kept" "[I") ∈ lw_all := lw_g (lw_at lw_m9 156 rfl) rfl
theorem q2140 : (Jvm.Cond.fieldLink "CoastTilesModel" (69 : Nat) "CoastTilesModel" "isKept" "Z") ∈ lw_all := lw_g (lw_at lw_m9 157 rfl) rfl
theorem q2141 : (Jvm.Cond.fieldLink "CoastTilesModel" (19 : Nat) "CoastTilesModel" "buffer" "[C") ∈ lw_all := lw_g (lw_at lw_m9 158 rfl) rfl
theorem q2142 : (Jvm.Cond.fieldLink "CoastTilesModel" (176 : Nat) "CoastTilesModel" "typed" "I") ∈ lw_all := lw_g (lw_at lw_m9 159 rfl) rfl
theorem q2143 : (Jvm.Cond.fieldLink "CoastTilesModel" (23 : Nat) "CoastTilesModel" "masks" "[I") ∈ lw_all := lw_g (lw_at lw_m9 160 rfl) rfl
theorem q2144 : (Jvm.Cond.fieldLink "CoastTilesModel" (26 : Nat) "CoastTilesModel" "shapes" "[I") ∈ lw_all := lw_g (lw_at lw_m9 161 rfl) rfl
theorem q2145 : (Jvm.Cond.fieldLink "CoastTilesModel" (29 : Nat) "CoastTilesModel" "before" "[I") ∈ lw_all := lw_g (lw_at lw_m9 162 rfl) rfl
theorem q2146 : (Jvm.Cond.fieldLink "CoastTilesModel" (32 : Nat) "CoastTilesModel" "found" "[I") ∈ lw_all := lw_g (lw_at lw_m9 163 rfl) rfl
theorem q2147 : (Jvm.Cond.fieldLink "CoastTilesModel" (35 : Nat) "CoastTilesModel" "steps" "[I") ∈ lw_all := lw_g (lw_at lw_m9 164 rfl) rfl
theorem q2148 : (Jvm.Cond.fieldLink "CoastTilesModel" (129 : Nat) "CoastTilesModel" "foundMany" "I") ∈ lw_all := lw_g (lw_at lw_m9 165 rfl) rfl
theorem q2149 : (Jvm.Cond.fieldLink "CoastTilesModel" (38 : Nat) "CoastTilesModel" "sums" "[I") ∈ lw_all := lw_g (lw_at lw_m9 166 rfl) rfl
theorem q2150 : (Jvm.Cond.fieldLink "CoastTilesModel" (41 : Nat) "CoastTilesModel" "newTiles" "[I") ∈ lw_all := lw_g (lw_at lw_m9 167 rfl) rfl
theorem q2151 : (Jvm.Cond.fieldLink "CoastTilesModel" (44 : Nat) "CoastTilesModel" "newPins" "[I") ∈ lw_all := lw_g (lw_at lw_m9 168 rfl) rfl
theorem q2152 : (Jvm.Cond.fieldLink "CoastTilesModel" (47 : Nat) "CoastTilesModel" "isSeen" "[Z") ∈ lw_all := lw_g (lw_at lw_m9 169 rfl) rfl
theorem q2153 : (Jvm.Cond.fieldLink "CoastTilesModel" (51 : Nat) "CoastTilesModel" "read" "[I") ∈ lw_all := lw_g (lw_at lw_m9 170 rfl) rfl
theorem q2154 : (Jvm.Cond.fieldLink "CoastTilesModel" (179 : Nat) "CoastTilesModel" "readRows" "I") ∈ lw_all := lw_g (lw_at lw_m9 171 rfl) rfl
theorem q2155 : (Jvm.Cond.fieldLink "CoastTilesModel" (182 : Nat) "CoastTilesModel" "readColumns" "I") ∈ lw_all := lw_g (lw_at lw_m9 172 rfl) rfl
theorem q2156 : (Jvm.Cond.fieldLink "CoastTilesModel" (185 : Nat) "CoastTilesModel" "inRow" "I") ∈ lw_all := lw_g (lw_at lw_m9 173 rfl) rfl
theorem q2157 : (Jvm.Cond.fieldLink "CoastTilesModel" (188 : Nat) "CoastTilesModel" "number" "I") ∈ lw_all := lw_g (lw_at lw_m9 174 rfl) rfl
theorem q2158 : (Jvm.Cond.laysFinal "CoastTilesModel" "CoastTilesModel" "z" "[I") ∈ lw_all := lw_g (lw_at lw_m9 175 rfl) rfl
theorem q2159 : (Jvm.Cond.soleField "CoastTilesModel" "z") ∈ lw_all := lw_g (lw_at lw_m9 176 rfl) rfl
theorem q2160 : (Jvm.Cond.laysFinal "CoastTilesModel" "CoastTilesModel" "past" "[I") ∈ lw_all := lw_g (lw_at lw_m9 177 rfl) rfl
theorem q2161 : (Jvm.Cond.soleField "CoastTilesModel" "past") ∈ lw_all := lw_g (lw_at lw_m9 178 rfl) rfl
theorem q2162 : (Jvm.Cond.lays "CoastTilesModel" "CoastTilesModel" "pastMany" "I") ∈ lw_all := lw_g (lw_at lw_m9 179 rfl) rfl
theorem q2163 : (Jvm.Cond.soleField "CoastTilesModel" "pastMany") ∈ lw_all := lw_g (lw_at lw_m9 180 rfl) rfl
theorem q2164 : (Jvm.Cond.laysFinal "CoastTilesModel" "CoastTilesModel" "kept" "[I") ∈ lw_all := lw_g (lw_at lw_m9 181 rfl) rfl
theorem q2165 : (Jvm.Cond.soleField "CoastTilesModel" "kept") ∈ lw_all := lw_g (lw_at lw_m9 182 rfl) rfl
theorem q2166 : (Jvm.Cond.lays "CoastTilesModel" "CoastTilesModel" "isKept" "Z") ∈ lw_all := lw_g (lw_at lw_m9 183 rfl) rfl
theorem q2167 : (Jvm.Cond.soleField "CoastTilesModel" "isKept") ∈ lw_all := lw_g (lw_at lw_m9 184 rfl) rfl
theorem q2168 : (Jvm.Cond.laysFinal "CoastTilesModel" "CoastTilesModel" "buffer" "[C") ∈ lw_all := lw_g (lw_at lw_m9 185 rfl) rfl
theorem q2169 : (Jvm.Cond.soleField "CoastTilesModel" "buffer") ∈ lw_all := lw_g (lw_at lw_m9 186 rfl) rfl
theorem q2170 : (Jvm.Cond.lays "CoastTilesModel" "CoastTilesModel" "typed" "I") ∈ lw_all := lw_g (lw_at lw_m9 187 rfl) rfl
theorem q2171 : (Jvm.Cond.soleField "CoastTilesModel" "typed") ∈ lw_all := lw_g (lw_at lw_m9 188 rfl) rfl
theorem q2172 : (Jvm.Cond.laysFinal "CoastTilesModel" "CoastTilesModel" "masks" "[I") ∈ lw_all := lw_g (lw_at lw_m9 189 rfl) rfl
theorem q2173 : (Jvm.Cond.soleField "CoastTilesModel" "masks") ∈ lw_all := lw_g (lw_at lw_m9 190 rfl) rfl
theorem q2174 : (Jvm.Cond.laysFinal "CoastTilesModel" "CoastTilesModel" "shapes" "[I") ∈ lw_all := lw_g (lw_at lw_m9 191 rfl) rfl
theorem q2175 : (Jvm.Cond.soleField "CoastTilesModel" "shapes") ∈ lw_all := lw_g (lw_at lw_m9 192 rfl) rfl
theorem q2176 : (Jvm.Cond.laysFinal "CoastTilesModel" "CoastTilesModel" "before" "[I") ∈ lw_all := lw_g (lw_at lw_m9 193 rfl) rfl
theorem q2177 : (Jvm.Cond.soleField "CoastTilesModel" "before") ∈ lw_all := lw_g (lw_at lw_m9 194 rfl) rfl
theorem q2178 : (Jvm.Cond.laysFinal "CoastTilesModel" "CoastTilesModel" "found" "[I") ∈ lw_all := lw_g (lw_at lw_m9 195 rfl) rfl
theorem q2179 : (Jvm.Cond.soleField "CoastTilesModel" "found") ∈ lw_all := lw_g (lw_at lw_m9 196 rfl) rfl
theorem q2180 : (Jvm.Cond.laysFinal "CoastTilesModel" "CoastTilesModel" "steps" "[I") ∈ lw_all := lw_g (lw_at lw_m9 197 rfl) rfl
theorem q2181 : (Jvm.Cond.soleField "CoastTilesModel" "steps") ∈ lw_all := lw_g (lw_at lw_m9 198 rfl) rfl
theorem q2182 : (Jvm.Cond.lays "CoastTilesModel" "CoastTilesModel" "foundMany" "I") ∈ lw_all := lw_g (lw_at lw_m9 199 rfl) rfl
theorem q2183 : (Jvm.Cond.soleField "CoastTilesModel" "foundMany") ∈ lw_all := lw_g (lw_at lw_m9 200 rfl) rfl
theorem q2184 : (Jvm.Cond.laysFinal "CoastTilesModel" "CoastTilesModel" "sums" "[I") ∈ lw_all := lw_g (lw_at lw_m9 201 rfl) rfl
theorem q2185 : (Jvm.Cond.soleField "CoastTilesModel" "sums") ∈ lw_all := lw_g (lw_at lw_m9 202 rfl) rfl
theorem q2186 : (Jvm.Cond.laysFinal "CoastTilesModel" "CoastTilesModel" "newTiles" "[I") ∈ lw_all := lw_g (lw_at lw_m9 203 rfl) rfl
theorem q2187 : (Jvm.Cond.soleField "CoastTilesModel" "newTiles") ∈ lw_all := lw_g (lw_at lw_m9 204 rfl) rfl
theorem q2188 : (Jvm.Cond.laysFinal "CoastTilesModel" "CoastTilesModel" "newPins" "[I") ∈ lw_all := lw_g (lw_at lw_m9 205 rfl) rfl
theorem q2189 : (Jvm.Cond.soleField "CoastTilesModel" "newPins") ∈ lw_all := lw_g (lw_at lw_m9 206 rfl) rfl
theorem q2190 : (Jvm.Cond.laysFinal "CoastTilesModel" "CoastTilesModel" "isSeen" "[Z") ∈ lw_all := lw_g (lw_at lw_m9 207 rfl) rfl
theorem q2191 : (Jvm.Cond.soleField "CoastTilesModel" "isSeen") ∈ lw_all := lw_g (lw_at lw_m9 208 rfl) rfl
theorem q2192 : (Jvm.Cond.laysFinal "CoastTilesModel" "CoastTilesModel" "read" "[I") ∈ lw_all := lw_g (lw_at lw_m9 209 rfl) rfl
theorem q2193 : (Jvm.Cond.soleField "CoastTilesModel" "read") ∈ lw_all := lw_g (lw_at lw_m9 210 rfl) rfl
theorem q2194 : (Jvm.Cond.lays "CoastTilesModel" "CoastTilesModel" "readRows" "I") ∈ lw_all := lw_g (lw_at lw_m9 211 rfl) rfl
theorem q2195 : (Jvm.Cond.soleField "CoastTilesModel" "readRows") ∈ lw_all := lw_g (lw_at lw_m9 212 rfl) rfl
theorem q2196 : (Jvm.Cond.lays "CoastTilesModel" "CoastTilesModel" "readColumns" "I") ∈ lw_all := lw_g (lw_at lw_m9 213 rfl) rfl
theorem q2197 : (Jvm.Cond.soleField "CoastTilesModel" "readColumns") ∈ lw_all := lw_g (lw_at lw_m9 214 rfl) rfl
theorem q2198 : (Jvm.Cond.lays "CoastTilesModel" "CoastTilesModel" "inRow" "I") ∈ lw_all := lw_g (lw_at lw_m9 215 rfl) rfl
theorem q2199 : (Jvm.Cond.soleField "CoastTilesModel" "inRow") ∈ lw_all := lw_g (lw_at lw_m9 216 rfl) rfl
theorem q2200 : (Jvm.Cond.lays "CoastTilesModel" "CoastTilesModel" "number" "I") ∈ lw_all := lw_g (lw_at lw_m9 217 rfl) rfl
theorem q2201 : (Jvm.Cond.soleField "CoastTilesModel" "number") ∈ lw_all := lw_g (lw_at lw_m9 218 rfl) rfl
theorem q2202 : (Jvm.Cond.superclass "CoastTilesModel" "java/lang/Object") ∈ lw_all := lw_g (lw_at lw_m9 219 rfl) rfl
theorem q2205 : (Jvm.Cond.instanceMethod ({ cls := "CoastTilesModel", name := "undo", desc := "()I" } : Jvm.MethodName)) ∈ lw_all := lw_g (lw_at lw_m9 222 rfl) rfl
theorem q2206 : (Jvm.Cond.selects "CoastTilesModel" ({ cls := "CoastTilesModel", name := "undo", desc := "()I" } : Jvm.MethodName) ({ cls := "CoastTilesModel", name := "undo", desc := "()I" } : Jvm.MethodName)) ∈ lw_all := lw_g (lw_at lw_m9 223 rfl) rfl
theorem q2207 : (Jvm.Cond.code ({ cls := "CoastTilesModel", name := "undo", desc := "()I" } : Jvm.MethodName) prog_12_method_9_code (2 : Nat) (Option.some Jvm.ClassFile.FieldType.int)) ∈ lw_all := lw_g (lw_at lw_m9 224 rfl) rfl
theorem q2209 : (Jvm.Cond.instanceMethod ({ cls := "CoastTilesModel", name := "save", desc := "()I" } : Jvm.MethodName)) ∈ lw_all := lw_g (lw_at lw_m9 226 rfl) rfl
theorem q2210 : (Jvm.Cond.selects "CoastTilesModel" ({ cls := "CoastTilesModel", name := "save", desc := "()I" } : Jvm.MethodName) ({ cls := "CoastTilesModel", name := "save", desc := "()I" } : Jvm.MethodName)) ∈ lw_all := lw_g (lw_at lw_m9 227 rfl) rfl
theorem q2211 : (Jvm.Cond.code ({ cls := "CoastTilesModel", name := "save", desc := "()I" } : Jvm.MethodName) prog_12_method_10_code (2 : Nat) (Option.some Jvm.ClassFile.FieldType.int)) ∈ lw_all := lw_g (lw_at lw_m9 228 rfl) rfl
theorem q2212 : (Jvm.Cond.methodLink "CoastTilesModel" (73 : Nat) ({ cls := "CoastTilesModel", name := "land", desc := "()I" } : Jvm.MethodName)) ∈ lw_all := lw_g (lw_at lw_m9 229 rfl) rfl
theorem q2213 : (Jvm.Cond.instanceMethod ({ cls := "CoastTilesModel", name := "land", desc := "()I" } : Jvm.MethodName)) ∈ lw_all := lw_g (lw_at lw_m9 230 rfl) rfl
theorem q2214 : (Jvm.Cond.selects "CoastTilesModel" ({ cls := "CoastTilesModel", name := "land", desc := "()I" } : Jvm.MethodName) ({ cls := "CoastTilesModel", name := "land", desc := "()I" } : Jvm.MethodName)) ∈ lw_all := lw_g (lw_at lw_m9 231 rfl) rfl
theorem q2215 : (Jvm.Cond.code ({ cls := "CoastTilesModel", name := "land", desc := "()I" } : Jvm.MethodName) prog_12_method_51_code (3 : Nat) (Option.some Jvm.ClassFile.FieldType.int)) ∈ lw_all := lw_g (lw_at lw_m9 232 rfl) rfl
theorem q2216 : (Jvm.Cond.methodLink "CoastTilesModel" (116 : Nat) ({ cls := "CoastTilesModel", name := "tiles", desc := "()I" } : Jvm.MethodName)) ∈ lw_all := lw_g (lw_at lw_m9 233 rfl) rfl
theorem q2217 : (Jvm.Cond.privateMethod ({ cls := "CoastTilesModel", name := "tiles", desc := "()I" } : Jvm.MethodName)) ∈ lw_tbl := lw_at lw_m9 234 rfl
theorem q2218 : (Jvm.Cond.instanceMethod ({ cls := "CoastTilesModel", name := "tiles", desc := "()I" } : Jvm.MethodName)) ∈ lw_all := lw_g (lw_at lw_m9 235 rfl) rfl
theorem q2219 : (Jvm.Cond.code ({ cls := "CoastTilesModel", name := "tiles", desc := "()I" } : Jvm.MethodName) prog_12_method_4_code (1 : Nat) (Option.some Jvm.ClassFile.FieldType.int)) ∈ lw_all := lw_g (lw_at lw_m9 236 rfl) rfl
theorem q2221 : (Jvm.Cond.instanceMethod ({ cls := "CoastTilesModel", name := "restore", desc := "()I" } : Jvm.MethodName)) ∈ lw_all := lw_g (lw_at lw_m9 238 rfl) rfl
theorem q2222 : (Jvm.Cond.selects "CoastTilesModel" ({ cls := "CoastTilesModel", name := "restore", desc := "()I" } : Jvm.MethodName) ({ cls := "CoastTilesModel", name := "restore", desc := "()I" } : Jvm.MethodName)) ∈ lw_all := lw_g (lw_at lw_m9 239 rfl) rfl
theorem q2223 : (Jvm.Cond.code ({ cls := "CoastTilesModel", name := "restore", desc := "()I" } : Jvm.MethodName) prog_12_method_11_code (2 : Nat) (Option.some Jvm.ClassFile.FieldType.int)) ∈ lw_all := lw_g (lw_at lw_m10 0 rfl) rfl
theorem q2224 : (Jvm.Cond.methodLink "CoastTilesModel" (77 : Nat) ({ cls := "CoastTilesModel", name := "record", desc := "()V" } : Jvm.MethodName)) ∈ lw_all := lw_g (lw_at lw_m10 1 rfl) rfl
theorem q2225 : (Jvm.Cond.privateMethod ({ cls := "CoastTilesModel", name := "record", desc := "()V" } : Jvm.MethodName)) ∈ lw_tbl := lw_at lw_m10 2 rfl
theorem q2226 : (Jvm.Cond.instanceMethod ({ cls := "CoastTilesModel", name := "record", desc := "()V" } : Jvm.MethodName)) ∈ lw_all := lw_g (lw_at lw_m10 3 rfl) rfl
theorem q2227 : (Jvm.Cond.code ({ cls := "CoastTilesModel", name := "record", desc := "()V" } : Jvm.MethodName) prog_12_method_8_code (2 : Nat) (Option.none : Option Jvm.ClassFile.FieldType)) ∈ lw_all := lw_g (lw_at lw_m10 4 rfl) rfl
theorem q2229 : (Jvm.Cond.instanceMethod ({ cls := "CoastTilesModel", name := "begin", desc := "(II)I" } : Jvm.MethodName)) ∈ lw_all := lw_g (lw_at lw_m10 6 rfl) rfl
theorem q2230 : (Jvm.Cond.selects "CoastTilesModel" ({ cls := "CoastTilesModel", name := "begin", desc := "(II)I" } : Jvm.MethodName) ({ cls := "CoastTilesModel", name := "begin", desc := "(II)I" } : Jvm.MethodName)) ∈ lw_all := lw_g (lw_at lw_m10 7 rfl) rfl
theorem q2231 : (Jvm.Cond.code ({ cls := "CoastTilesModel", name := "begin", desc := "(II)I" } : Jvm.MethodName) prog_12_method_22_code (3 : Nat) (Option.some Jvm.ClassFile.FieldType.int)) ∈ lw_all := lw_g (lw_at lw_m10 8 rfl) rfl
theorem q2232 : (Jvm.Cond.methodLink "CoastTilesModel" (61 : Nat) ({ cls := "CoastTilesModel", name := "in", desc := "(III)Z" } : Jvm.MethodName)) ∈ lw_all := lw_g (lw_at lw_m10 9 rfl) rfl
theorem q2233 : (Jvm.Cond.static ({ cls := "CoastTilesModel", name := "in", desc := "(III)Z" } : Jvm.MethodName)) ∈ lw_all := lw_g (lw_at lw_m10 10 rfl) rfl
theorem q2234 : (Jvm.Cond.code ({ cls := "CoastTilesModel", name := "in", desc := "(III)Z" } : Jvm.MethodName) prog_12_method_2_code (3 : Nat) (Option.some Jvm.ClassFile.FieldType.boolean)) ∈ lw_all := lw_g (lw_at lw_m10 11 rfl) rfl
theorem q2236 : (Jvm.Cond.instanceMethod ({ cls := "CoastTilesModel", name := "setOutside", desc := "(Z)I" } : Jvm.MethodName)) ∈ lw_all := lw_g (lw_at lw_m10 13 rfl) rfl
theorem q2237 : (Jvm.Cond.selects "CoastTilesModel" ({ cls := "CoastTilesModel", name := "setOutside", desc := "(Z)I" } : Jvm.MethodName) ({ cls := "CoastTilesModel", name := "setOutside", desc := "(Z)I" } : Jvm.MethodName)) ∈ lw_all := lw_g (lw_at lw_m10 14 rfl) rfl
theorem q2238 : (Jvm.Cond.code ({ cls := "CoastTilesModel", name := "setOutside", desc := "(Z)I" } : Jvm.MethodName) prog_12_method_25_code (2 : Nat) (Option.some Jvm.ClassFile.FieldType.int)) ∈ lw_all := lw_g (lw_at lw_m10 15 rfl) rfl
theorem q2239 : (Jvm.Cond.methodLink "CoastTilesModel" (119 : Nat) ({ cls := "CoastTilesModel", name := "lookShapes", desc := "()V" } : Jvm.MethodName)) ∈ lw_all := lw_g (lw_at lw_m10 16 rfl) rfl
theorem q2240 : (Jvm.Cond.privateMethod ({ cls := "CoastTilesModel", name := "lookShapes", desc := "()V" } : Jvm.MethodName)) ∈ lw_tbl := lw_at lw_m10 17 rfl
theorem q2241 : (Jvm.Cond.instanceMethod ({ cls := "CoastTilesModel", name := "lookShapes", desc := "()V" } : Jvm.MethodName)) ∈ lw_all := lw_g (lw_at lw_m10 18 rfl) rfl
theorem q2242 : (Jvm.Cond.code ({ cls := "CoastTilesModel", name := "lookShapes", desc := "()V" } : Jvm.MethodName) prog_12_method_23_code (2 : Nat) (Option.none : Option Jvm.ClassFile.FieldType)) ∈ lw_all := lw_g (lw_at lw_m10 19 rfl) rfl
theorem q2243 : (Jvm.Cond.methodLink "CoastTilesModel" (110 : Nat) ({ cls := "CoastTilesModel", name := "shapeAt", desc := "(I)I" } : Jvm.MethodName)) ∈ lw_all := lw_g (lw_at lw_m10 20 rfl) rfl
theorem q2244 : (Jvm.Cond.privateMethod ({ cls := "CoastTilesModel", name := "shapeAt", desc := "(I)I" } : Jvm.MethodName)) ∈ lw_tbl := lw_at lw_m10 21 rfl
theorem q2245 : (Jvm.Cond.instanceMethod ({ cls := "CoastTilesModel", name := "shapeAt", desc := "(I)I" } : Jvm.MethodName)) ∈ lw_all := lw_g (lw_at lw_m10 22 rfl) rfl
theorem q2246 : (Jvm.Cond.code ({ cls := "CoastTilesModel", name := "shapeAt", desc := "(I)I" } : Jvm.MethodName) prog_12_method_19_code (2 : Nat) (Option.some Jvm.ClassFile.FieldType.int)) ∈ lw_all := lw_g (lw_at lw_m10 23 rfl) rfl
theorem q2247 : (Jvm.Cond.methodLink "CoastTilesModel" (97 : Nat) ({ cls := "CoastTilesModel", name := "isLandAt", desc := "(I)Z" } : Jvm.MethodName)) ∈ lw_all := lw_g (lw_at lw_m10 24 rfl) rfl
theorem q2248 : (Jvm.Cond.privateMethod ({ cls := "CoastTilesModel", name := "isLandAt", desc := "(I)Z" } : Jvm.MethodName)) ∈ lw_tbl := lw_at lw_m10 25 rfl
theorem q2249 : (Jvm.Cond.instanceMethod ({ cls := "CoastTilesModel", name := "isLandAt", desc := "(I)Z" } : Jvm.MethodName)) ∈ lw_all := lw_g (lw_at lw_m10 26 rfl) rfl
theorem q2250 : (Jvm.Cond.code ({ cls := "CoastTilesModel", name := "isLandAt", desc := "(I)Z" } : Jvm.MethodName) prog_12_method_7_code (2 : Nat) (Option.some Jvm.ClassFile.FieldType.boolean)) ∈ lw_all := lw_g (lw_at lw_m10 27 rfl) rfl
theorem q2251 : (Jvm.Cond.methodLink "CoastTilesModel" (107 : Nat) ({ cls := "CoastTilesModel", name := "right", desc := "(I)I" } : Jvm.MethodName)) ∈ lw_all := lw_g (lw_at lw_m10 28 rfl) rfl
theorem q2252 : (Jvm.Cond.privateMethod ({ cls := "CoastTilesModel", name := "right", desc := "(I)I" } : Jvm.MethodName)) ∈ lw_tbl := lw_at lw_m10 29 rfl
theorem q2253 : (Jvm.Cond.instanceMethod ({ cls := "CoastTilesModel", name := "right", desc := "(I)I" } : Jvm.MethodName)) ∈ lw_all := lw_g (lw_at lw_m10 30 rfl) rfl
theorem q2254 : (Jvm.Cond.code ({ cls := "CoastTilesModel", name := "right", desc := "(I)I" } : Jvm.MethodName) prog_12_method_18_code (2 : Nat) (Option.some Jvm.ClassFile.FieldType.int)) ∈ lw_all := lw_g (lw_at lw_m10 31 rfl) rfl
theorem q2255 : (Jvm.Cond.methodLink "CoastTilesModel" (104 : Nat) ({ cls := "CoastTilesModel", name := "around", desc := "(II)I" } : Jvm.MethodName)) ∈ lw_all := lw_g (lw_at lw_m10 32 rfl) rfl
theorem q2256 : (Jvm.Cond.privateMethod ({ cls := "CoastTilesModel", name := "around", desc := "(II)I" } : Jvm.MethodName)) ∈ lw_tbl := lw_at lw_m10 33 rfl
theorem q2257 : (Jvm.Cond.instanceMethod ({ cls := "CoastTilesModel", name := "around", desc := "(II)I" } : Jvm.MethodName)) ∈ lw_all := lw_g (lw_at lw_m10 34 rfl) rfl
theorem q2258 : (Jvm.Cond.code ({ cls := "CoastTilesModel", name := "around", desc := "(II)I" } : Jvm.MethodName) prog_12_method_17_code (5 : Nat) (Option.some Jvm.ClassFile.FieldType.int)) ∈ lw_all := lw_g (lw_at lw_m10 35 rfl) rfl
theorem q2259 : (Jvm.Cond.methodLink "CoastTilesModel" (101 : Nat) ({ cls := "CoastTilesModel", name := "isLandBeside", desc := "(III)Z" } : Jvm.MethodName)) ∈ lw_all := lw_g (lw_at lw_m10 36 rfl) rfl
theorem q2260 : (Jvm.Cond.privateMethod ({ cls := "CoastTilesModel", name := "isLandBeside", desc := "(III)Z" } : Jvm.MethodName)) ∈ lw_tbl := lw_at lw_m10 37 rfl
theorem q2261 : (Jvm.Cond.instanceMethod ({ cls := "CoastTilesModel", name := "isLandBeside", desc := "(III)Z" } : Jvm.MethodName)) ∈ lw_all := lw_g (lw_at lw_m10 38 rfl) rfl
theorem q2262 : (Jvm.Cond.code ({ cls := "CoastTilesModel", name := "isLandBeside", desc := "(III)Z" } : Jvm.MethodName) prog_12_method_16_code (6 : Nat) (Option.some Jvm.ClassFile.FieldType.boolean)) ∈ lw_all := lw_g (lw_at lw_m10 39 rfl) rfl
theorem q2263 : (Jvm.Cond.methodLink "CoastTilesModel" (84 : Nat) ({ cls := "CoastTilesModel", name := "rowBy", desc := "(I)I" } : Jvm.MethodName)) ∈ lw_all := lw_g (lw_at lw_m10 40 rfl) rfl
theorem q2264 : (Jvm.Cond.static ({ cls := "CoastTilesModel", name := "rowBy", desc := "(I)I" } : Jvm.MethodName)) ∈ lw_all := lw_g (lw_at lw_m10 41 rfl) rfl
theorem q2265 : (Jvm.Cond.code ({ cls := "CoastTilesModel", name := "rowBy", desc := "(I)I" } : Jvm.MethodName) prog_12_method_12_code (1 : Nat) (Option.some Jvm.ClassFile.FieldType.int)) ∈ lw_all := lw_g (lw_at lw_m10 42 rfl) rfl
theorem q2266 : (Jvm.Cond.methodLink "CoastTilesModel" (87 : Nat) ({ cls := "CoastTilesModel", name := "columnBy", desc := "(I)I" } : Jvm.MethodName)) ∈ lw_all := lw_g (lw_at lw_m10 43 rfl) rfl
theorem q2267 : (Jvm.Cond.static ({ cls := "CoastTilesModel", name := "columnBy", desc := "(I)I" } : Jvm.MethodName)) ∈ lw_all := lw_g (lw_at lw_m10 44 rfl) rfl
theorem q2268 : (Jvm.Cond.code ({ cls := "CoastTilesModel", name := "columnBy", desc := "(I)I" } : Jvm.MethodName) prog_12_method_13_code (1 : Nat) (Option.some Jvm.ClassFile.FieldType.int)) ∈ lw_all := lw_g (lw_at lw_m10 45 rfl) rfl
theorem q2269 : (Jvm.Cond.methodLink "CoastTilesModel" (90 : Nat) ({ cls := "CoastTilesModel", name := "isTile", desc := "(II)Z" } : Jvm.MethodName)) ∈ lw_all := lw_g (lw_at lw_m10 46 rfl) rfl
theorem q2270 : (Jvm.Cond.privateMethod ({ cls := "CoastTilesModel", name := "isTile", desc := "(II)Z" } : Jvm.MethodName)) ∈ lw_tbl := lw_at lw_m10 47 rfl
theorem q2271 : (Jvm.Cond.instanceMethod ({ cls := "CoastTilesModel", name := "isTile", desc := "(II)Z" } : Jvm.MethodName)) ∈ lw_all := lw_g (lw_at lw_m10 48 rfl) rfl
theorem q2272 : (Jvm.Cond.code ({ cls := "CoastTilesModel", name := "isTile", desc := "(II)Z" } : Jvm.MethodName) prog_12_method_5_code (3 : Nat) (Option.some Jvm.ClassFile.FieldType.boolean)) ∈ lw_all := lw_g (lw_at lw_m10 49 rfl) rfl
theorem q2273 : (Jvm.Cond.methodLink "CoastTilesModel" (94 : Nat) ({ cls := "CoastTilesModel", name := "at", desc := "(II)I" } : Jvm.MethodName)) ∈ lw_all := lw_g (lw_at lw_m10 50 rfl) rfl
theorem q2274 : (Jvm.Cond.privateMethod ({ cls := "CoastTilesModel", name := "at", desc := "(II)I" } : Jvm.MethodName)) ∈ lw_tbl := lw_at lw_m10 51 rfl
theorem q2275 : (Jvm.Cond.instanceMethod ({ cls := "CoastTilesModel", name := "at", desc := "(II)I" } : Jvm.MethodName)) ∈ lw_all := lw_g (lw_at lw_m10 52 rfl) rfl
theorem q2276 : (Jvm.Cond.code ({ cls := "CoastTilesModel", name := "at", desc := "(II)I" } : Jvm.MethodName) prog_12_method_6_code (3 : Nat) (Option.some Jvm.ClassFile.FieldType.int)) ∈ lw_all := lw_g (lw_at lw_m10 53 rfl) rfl
theorem q2277 : (Jvm.Cond.methodLink "CoastTilesModel" (122 : Nat) ({ cls := "CoastTilesModel", name := "reshaped", desc := "()I" } : Jvm.MethodName)) ∈ lw_all := lw_g (lw_at lw_m10 54 rfl) rfl
theorem q2278 : (Jvm.Cond.privateMethod ({ cls := "CoastTilesModel", name := "reshaped", desc := "()I" } : Jvm.MethodName)) ∈ lw_tbl := lw_at lw_m10 55 rfl
theorem q2279 : (Jvm.Cond.instanceMethod ({ cls := "CoastTilesModel", name := "reshaped", desc := "()I" } : Jvm.MethodName)) ∈ lw_all := lw_g (lw_at lw_m10 56 rfl) rfl
theorem q2280 : (Jvm.Cond.code ({ cls := "CoastTilesModel", name := "reshaped", desc := "()I" } : Jvm.MethodName) prog_12_method_24_code (3 : Nat) (Option.some Jvm.ClassFile.FieldType.int)) ∈ lw_all := lw_g (lw_at lw_m10 57 rfl) rfl
theorem q2282 : (Jvm.Cond.instanceMethod ({ cls := "CoastTilesModel", name := "set", desc := "(IIZ)I" } : Jvm.MethodName)) ∈ lw_all := lw_g (lw_at lw_m10 59 rfl) rfl
theorem q2283 : (Jvm.Cond.selects "CoastTilesModel" ({ cls := "CoastTilesModel", name := "set", desc := "(IIZ)I" } : Jvm.MethodName) ({ cls := "CoastTilesModel", name := "set", desc := "(IIZ)I" } : Jvm.MethodName)) ∈ lw_all := lw_g (lw_at lw_m10 60 rfl) rfl
theorem q2284 : (Jvm.Cond.code ({ cls := "CoastTilesModel", name := "set", desc := "(IIZ)I" } : Jvm.MethodName) prog_12_method_27_code (4 : Nat) (Option.some Jvm.ClassFile.FieldType.int)) ∈ lw_all := lw_g (lw_at lw_m10 61 rfl) rfl
theorem q2285 : (Jvm.Cond.methodLink "CoastTilesModel" (125 : Nat) ({ cls := "CoastTilesModel", name := "becomes", desc := "(IZ)Z" } : Jvm.MethodName)) ∈ lw_all := lw_g (lw_at lw_m10 62 rfl) rfl
theorem q2286 : (Jvm.Cond.privateMethod ({ cls := "CoastTilesModel", name := "becomes", desc := "(IZ)Z" } : Jvm.MethodName)) ∈ lw_tbl := lw_at lw_m10 63 rfl
theorem q2287 : (Jvm.Cond.instanceMethod ({ cls := "CoastTilesModel", name := "becomes", desc := "(IZ)Z" } : Jvm.MethodName)) ∈ lw_all := lw_g (lw_at lw_m10 64 rfl) rfl
theorem q2288 : (Jvm.Cond.code ({ cls := "CoastTilesModel", name := "becomes", desc := "(IZ)Z" } : Jvm.MethodName) prog_12_method_26_code (4 : Nat) (Option.some Jvm.ClassFile.FieldType.boolean)) ∈ lw_all := lw_g (lw_at lw_m10 65 rfl) rfl
theorem q2290 : (Jvm.Cond.instanceMethod ({ cls := "CoastTilesModel", name := "fill", desc := "(IIZ)I" } : Jvm.MethodName)) ∈ lw_all := lw_g (lw_at lw_m10 67 rfl) rfl
theorem q2291 : (Jvm.Cond.selects "CoastTilesModel" ({ cls := "CoastTilesModel", name := "fill", desc := "(IIZ)I" } : Jvm.MethodName) ({ cls := "CoastTilesModel", name := "fill", desc := "(IIZ)I" } : Jvm.MethodName)) ∈ lw_all := lw_g (lw_at lw_m10 68 rfl) rfl
theorem q2292 : (Jvm.Cond.code ({ cls := "CoastTilesModel", name := "fill", desc := "(IIZ)I" } : Jvm.MethodName) prog_12_method_29_code (6 : Nat) (Option.some Jvm.ClassFile.FieldType.int)) ∈ lw_all := lw_g (lw_at lw_m10 69 rfl) rfl
theorem q2293 : (Jvm.Cond.methodLink "CoastTilesModel" (132 : Nat) ({ cls := "CoastTilesModel", name := "findRegion", desc := "(IZ)V" } : Jvm.MethodName)) ∈ lw_all := lw_g (lw_at lw_m10 70 rfl) rfl
theorem q2294 : (Jvm.Cond.privateMethod ({ cls := "CoastTilesModel", name := "findRegion", desc := "(IZ)V" } : Jvm.MethodName)) ∈ lw_tbl := lw_at lw_m10 71 rfl
theorem q2295 : (Jvm.Cond.instanceMethod ({ cls := "CoastTilesModel", name := "findRegion", desc := "(IZ)V" } : Jvm.MethodName)) ∈ lw_all := lw_g (lw_at lw_m10 72 rfl) rfl
theorem q2296 : (Jvm.Cond.code ({ cls := "CoastTilesModel", name := "findRegion", desc := "(IZ)V" } : Jvm.MethodName) prog_12_method_28_code (9 : Nat) (Option.none : Option Jvm.ClassFile.FieldType)) ∈ lw_all := lw_g (lw_at lw_m10 73 rfl) rfl
theorem q2298 : (Jvm.Cond.instanceMethod ({ cls := "CoastTilesModel", name := "brush", desc := "(IIIZ)I" } : Jvm.MethodName)) ∈ lw_all := lw_g (lw_at lw_m10 75 rfl) rfl
theorem q2299 : (Jvm.Cond.selects "CoastTilesModel" ({ cls := "CoastTilesModel", name := "brush", desc := "(IIIZ)I" } : Jvm.MethodName) ({ cls := "CoastTilesModel", name := "brush", desc := "(IIIZ)I" } : Jvm.MethodName)) ∈ lw_all := lw_g (lw_at lw_m10 76 rfl) rfl
theorem q2300 : (Jvm.Cond.code ({ cls := "CoastTilesModel", name := "brush", desc := "(IIIZ)I" } : Jvm.MethodName) prog_12_method_30_code (9 : Nat) (Option.some Jvm.ClassFile.FieldType.int)) ∈ lw_all := lw_g (lw_at lw_m10 77 rfl) rfl
theorem q2302 : (Jvm.Cond.instanceMethod ({ cls := "CoastTilesModel", name := "smooth", desc := "(I)I" } : Jvm.MethodName)) ∈ lw_all := lw_g (lw_at lw_m10 79 rfl) rfl
theorem q2303 : (Jvm.Cond.selects "CoastTilesModel" ({ cls := "CoastTilesModel", name := "smooth", desc := "(I)I" } : Jvm.MethodName) ({ cls := "CoastTilesModel", name := "smooth", desc := "(I)I" } : Jvm.MethodName)) ∈ lw_all := lw_g (lw_at lw_m10 80 rfl) rfl
theorem q2304 : (Jvm.Cond.code ({ cls := "CoastTilesModel", name := "smooth", desc := "(I)I" } : Jvm.MethodName) prog_12_method_31_code (4 : Nat) (Option.some Jvm.ClassFile.FieldType.int)) ∈ lw_all := lw_g (lw_at lw_m10 81 rfl) rfl
theorem q2305 : (Jvm.Cond.methodLink "CoastTilesModel" (113 : Nat) ({ cls := "CoastTilesModel", name := "bits", desc := "(I)I" } : Jvm.MethodName)) ∈ lw_all := lw_g (lw_at lw_m10 82 rfl) rfl
theorem q2306 : (Jvm.Cond.static ({ cls := "CoastTilesModel", name := "bits", desc := "(I)I" } : Jvm.MethodName)) ∈ lw_all := lw_g (lw_at lw_m10 83 rfl) rfl
theorem q2307 : (Jvm.Cond.code ({ cls := "CoastTilesModel", name := "bits", desc := "(I)I" } : Jvm.MethodName) prog_12_method_20_code (3 : Nat) (Option.some Jvm.ClassFile.FieldType.int)) ∈ lw_all := lw_g (lw_at lw_m10 84 rfl) rfl
theorem q2309 : (Jvm.Cond.instanceMethod ({ cls := "CoastTilesModel", name := "turn", desc := "(I)I" } : Jvm.MethodName)) ∈ lw_all := lw_g (lw_at lw_m10 86 rfl) rfl
theorem q2310 : (Jvm.Cond.selects "CoastTilesModel" ({ cls := "CoastTilesModel", name := "turn", desc := "(I)I" } : Jvm.MethodName) ({ cls := "CoastTilesModel", name := "turn", desc := "(I)I" } : Jvm.MethodName)) ∈ lw_all := lw_g (lw_at lw_m10 87 rfl) rfl
theorem q2311 : (Jvm.Cond.code ({ cls := "CoastTilesModel", name := "turn", desc := "(I)I" } : Jvm.MethodName) prog_12_method_34_code (3 : Nat) (Option.some Jvm.ClassFile.FieldType.int)) ∈ lw_all := lw_g (lw_at lw_m10 88 rfl) rfl
theorem q2312 : (Jvm.Cond.methodLink "CoastTilesModel" (139 : Nat) ({ cls := "CoastTilesModel", name := "turnOnce", desc := "()V" } : Jvm.MethodName)) ∈ lw_all := lw_g (lw_at lw_m10 89 rfl) rfl
theorem q2313 : (Jvm.Cond.privateMethod ({ cls := "CoastTilesModel", name := "turnOnce", desc := "()V" } : Jvm.MethodName)) ∈ lw_tbl := lw_at lw_m10 90 rfl
theorem q2314 : (Jvm.Cond.instanceMethod ({ cls := "CoastTilesModel", name := "turnOnce", desc := "()V" } : Jvm.MethodName)) ∈ lw_all := lw_g (lw_at lw_m10 91 rfl) rfl
theorem q2315 : (Jvm.Cond.code ({ cls := "CoastTilesModel", name := "turnOnce", desc := "()V" } : Jvm.MethodName) prog_12_method_33_code (5 : Nat) (Option.none : Option Jvm.ClassFile.FieldType)) ∈ lw_all := lw_g (lw_at lw_m10 92 rfl) rfl
theorem q2316 : (Jvm.Cond.methodLink "CoastTilesModel" (136 : Nat) ({ cls := "CoastTilesModel", name := "turnedBy", desc := "(II)I" } : Jvm.MethodName)) ∈ lw_all := lw_g (lw_at lw_m10 93 rfl) rfl
theorem q2317 : (Jvm.Cond.privateMethod ({ cls := "CoastTilesModel", name := "turnedBy", desc := "(II)I" } : Jvm.MethodName)) ∈ lw_tbl := lw_at lw_m10 94 rfl
theorem q2318 : (Jvm.Cond.instanceMethod ({ cls := "CoastTilesModel", name := "turnedBy", desc := "(II)I" } : Jvm.MethodName)) ∈ lw_all := lw_g (lw_at lw_m10 95 rfl) rfl
theorem q2319 : (Jvm.Cond.code ({ cls := "CoastTilesModel", name := "turnedBy", desc := "(II)I" } : Jvm.MethodName) prog_12_method_32_code (4 : Nat) (Option.some Jvm.ClassFile.FieldType.int)) ∈ lw_all := lw_g (lw_at lw_m10 96 rfl) rfl
theorem q2321 : (Jvm.Cond.instanceMethod ({ cls := "CoastTilesModel", name := "rows", desc := "()I" } : Jvm.MethodName)) ∈ lw_all := lw_g (lw_at lw_m10 98 rfl) rfl
theorem q2322 : (Jvm.Cond.selects "CoastTilesModel" ({ cls := "CoastTilesModel", name := "rows", desc := "()I" } : Jvm.MethodName) ({ cls := "CoastTilesModel", name := "rows", desc := "()I" } : Jvm.MethodName)) ∈ lw_all := lw_g (lw_at lw_m10 99 rfl) rfl
theorem q2323 : (Jvm.Cond.code ({ cls := "CoastTilesModel", name := "rows", desc := "()I" } : Jvm.MethodName) prog_12_method_35_code (1 : Nat) (Option.some Jvm.ClassFile.FieldType.int)) ∈ lw_all := lw_g (lw_at lw_m10 100 rfl) rfl
theorem q2325 : (Jvm.Cond.instanceMethod ({ cls := "CoastTilesModel", name := "columns", desc := "()I" } : Jvm.MethodName)) ∈ lw_all := lw_g (lw_at lw_m10 102 rfl) rfl
theorem q2326 : (Jvm.Cond.selects "CoastTilesModel" ({ cls := "CoastTilesModel", name := "columns", desc := "()I" } : Jvm.MethodName) ({ cls := "CoastTilesModel", name := "columns", desc := "()I" } : Jvm.MethodName)) ∈ lw_all := lw_g (lw_at lw_m10 103 rfl) rfl
theorem q2327 : (Jvm.Cond.code ({ cls := "CoastTilesModel", name := "columns", desc := "()I" } : Jvm.MethodName) prog_12_method_36_code (1 : Nat) (Option.some Jvm.ClassFile.FieldType.int)) ∈ lw_all := lw_g (lw_at lw_m10 104 rfl) rfl
theorem q2329 : (Jvm.Cond.instanceMethod ({ cls := "CoastTilesModel", name := "tile", desc := "(III)I" } : Jvm.MethodName)) ∈ lw_all := lw_g (lw_at lw_m10 106 rfl) rfl
theorem q2330 : (Jvm.Cond.selects "CoastTilesModel" ({ cls := "CoastTilesModel", name := "tile", desc := "(III)I" } : Jvm.MethodName) ({ cls := "CoastTilesModel", name := "tile", desc := "(III)I" } : Jvm.MethodName)) ∈ lw_all := lw_g (lw_at lw_m10 107 rfl) rfl
theorem q2331 : (Jvm.Cond.code ({ cls := "CoastTilesModel", name := "tile", desc := "(III)I" } : Jvm.MethodName) prog_12_method_37_code (5 : Nat) (Option.some Jvm.ClassFile.FieldType.int)) ∈ lw_all := lw_g (lw_at lw_m10 108 rfl) rfl
theorem q2332 : (Jvm.Cond.methodLink "CoastTilesModel" (142 : Nat) ({ cls := "CoastTilesModel", name := "faultsAt", desc := "(I)I" } : Jvm.MethodName)) ∈ lw_all := lw_g (lw_at lw_m10 109 rfl) rfl
theorem q2333 : (Jvm.Cond.privateMethod ({ cls := "CoastTilesModel", name := "faultsAt", desc := "(I)I" } : Jvm.MethodName)) ∈ lw_tbl := lw_at lw_m10 110 rfl
theorem q2334 : (Jvm.Cond.instanceMethod ({ cls := "CoastTilesModel", name := "faultsAt", desc := "(I)I" } : Jvm.MethodName)) ∈ lw_all := lw_g (lw_at lw_m10 111 rfl) rfl
theorem q2335 : (Jvm.Cond.code ({ cls := "CoastTilesModel", name := "faultsAt", desc := "(I)I" } : Jvm.MethodName) prog_12_method_21_code (2 : Nat) (Option.some Jvm.ClassFile.FieldType.int)) ∈ lw_all := lw_g (lw_at lw_m10 112 rfl) rfl
theorem q2337 : (Jvm.Cond.instanceMethod ({ cls := "CoastTilesModel", name := "pin", desc := "(III)I" } : Jvm.MethodName)) ∈ lw_all := lw_g (lw_at lw_m10 114 rfl) rfl
theorem q2338 : (Jvm.Cond.selects "CoastTilesModel" ({ cls := "CoastTilesModel", name := "pin", desc := "(III)I" } : Jvm.MethodName) ({ cls := "CoastTilesModel", name := "pin", desc := "(III)I" } : Jvm.MethodName)) ∈ lw_all := lw_g (lw_at lw_m10 115 rfl) rfl
theorem q2339 : (Jvm.Cond.code ({ cls := "CoastTilesModel", name := "pin", desc := "(III)I" } : Jvm.MethodName) prog_12_method_39_code (5 : Nat) (Option.some Jvm.ClassFile.FieldType.int)) ∈ lw_all := lw_g (lw_at lw_m10 116 rfl) rfl
theorem q2340 : (Jvm.Cond.methodLink "CoastTilesModel" (145 : Nat) ({ cls := "CoastTilesModel", name := "isShape", desc := "(I)Z" } : Jvm.MethodName)) ∈ lw_all := lw_g (lw_at lw_m10 117 rfl) rfl
theorem q2341 : (Jvm.Cond.static ({ cls := "CoastTilesModel", name := "isShape", desc := "(I)Z" } : Jvm.MethodName)) ∈ lw_all := lw_g (lw_at lw_m10 118 rfl) rfl
theorem q2342 : (Jvm.Cond.code ({ cls := "CoastTilesModel", name := "isShape", desc := "(I)Z" } : Jvm.MethodName) prog_12_method_38_code (1 : Nat) (Option.some Jvm.ClassFile.FieldType.boolean)) ∈ lw_all := lw_g (lw_at lw_m10 119 rfl) rfl
theorem q2344 : (Jvm.Cond.instanceMethod ({ cls := "CoastTilesModel", name := "unpin", desc := "(II)I" } : Jvm.MethodName)) ∈ lw_all := lw_g (lw_at lw_m10 121 rfl) rfl
theorem q2345 : (Jvm.Cond.selects "CoastTilesModel" ({ cls := "CoastTilesModel", name := "unpin", desc := "(II)I" } : Jvm.MethodName) ({ cls := "CoastTilesModel", name := "unpin", desc := "(II)I" } : Jvm.MethodName)) ∈ lw_all := lw_g (lw_at lw_m10 122 rfl) rfl
theorem q2346 : (Jvm.Cond.code ({ cls := "CoastTilesModel", name := "unpin", desc := "(II)I" } : Jvm.MethodName) prog_12_method_40_code (4 : Nat) (Option.some Jvm.ClassFile.FieldType.int)) ∈ lw_all := lw_g (lw_at lw_m10 123 rfl) rfl
theorem q2348 : (Jvm.Cond.instanceMethod ({ cls := "CoastTilesModel", name := "faults", desc := "()I" } : Jvm.MethodName)) ∈ lw_all := lw_g (lw_at lw_m10 125 rfl) rfl
theorem q2349 : (Jvm.Cond.selects "CoastTilesModel" ({ cls := "CoastTilesModel", name := "faults", desc := "()I" } : Jvm.MethodName) ({ cls := "CoastTilesModel", name := "faults", desc := "()I" } : Jvm.MethodName)) ∈ lw_all := lw_g (lw_at lw_m10 126 rfl) rfl
theorem q2350 : (Jvm.Cond.code ({ cls := "CoastTilesModel", name := "faults", desc := "()I" } : Jvm.MethodName) prog_12_method_41_code (3 : Nat) (Option.some Jvm.ClassFile.FieldType.int)) ∈ lw_all := lw_g (lw_at lw_m10 127 rfl) rfl
theorem q2352 : (Jvm.Cond.instanceMethod ({ cls := "CoastTilesModel", name := "firstFault", desc := "()I" } : Jvm.MethodName)) ∈ lw_all := lw_g (lw_at lw_m10 129 rfl) rfl
theorem q2353 : (Jvm.Cond.selects "CoastTilesModel" ({ cls := "CoastTilesModel", name := "firstFault", desc := "()I" } : Jvm.MethodName) ({ cls := "CoastTilesModel", name := "firstFault", desc := "()I" } : Jvm.MethodName)) ∈ lw_all := lw_g (lw_at lw_m10 130 rfl) rfl
theorem q2354 : (Jvm.Cond.code ({ cls := "CoastTilesModel", name := "firstFault", desc := "()I" } : Jvm.MethodName) prog_12_method_43_code (2 : Nat) (Option.some Jvm.ClassFile.FieldType.int)) ∈ lw_all := lw_g (lw_at lw_m10 131 rfl) rfl
theorem q2355 : (Jvm.Cond.methodLink "CoastTilesModel" (148 : Nat) ({ cls := "CoastTilesModel", name := "told", desc := "(I)I" } : Jvm.MethodName)) ∈ lw_all := lw_g (lw_at lw_m10 132 rfl) rfl
theorem q2356 : (Jvm.Cond.privateMethod ({ cls := "CoastTilesModel", name := "told", desc := "(I)I" } : Jvm.MethodName)) ∈ lw_tbl := lw_at lw_m10 133 rfl
theorem q2357 : (Jvm.Cond.instanceMethod ({ cls := "CoastTilesModel", name := "told", desc := "(I)I" } : Jvm.MethodName)) ∈ lw_all := lw_g (lw_at lw_m10 134 rfl) rfl
theorem q2358 : (Jvm.Cond.code ({ cls := "CoastTilesModel", name := "told", desc := "(I)I" } : Jvm.MethodName) prog_12_method_42_code (2 : Nat) (Option.some Jvm.ClassFile.FieldType.int)) ∈ lw_all := lw_g (lw_at lw_m10 135 rfl) rfl
theorem q2360 : (Jvm.Cond.instanceMethod ({ cls := "CoastTilesModel", name := "maskOf", desc := "(I)I" } : Jvm.MethodName)) ∈ lw_all := lw_g (lw_at lw_m10 137 rfl) rfl
theorem q2361 : (Jvm.Cond.selects "CoastTilesModel" ({ cls := "CoastTilesModel", name := "maskOf", desc := "(I)I" } : Jvm.MethodName) ({ cls := "CoastTilesModel", name := "maskOf", desc := "(I)I" } : Jvm.MethodName)) ∈ lw_all := lw_g (lw_at lw_m10 138 rfl) rfl
theorem q2362 : (Jvm.Cond.code ({ cls := "CoastTilesModel", name := "maskOf", desc := "(I)I" } : Jvm.MethodName) prog_12_method_44_code (2 : Nat) (Option.some Jvm.ClassFile.FieldType.int)) ∈ lw_all := lw_g (lw_at lw_m10 139 rfl) rfl
theorem q2364 : (Jvm.Cond.instanceMethod ({ cls := "CoastTilesModel", name := "shapeOf", desc := "(I)I" } : Jvm.MethodName)) ∈ lw_all := lw_g (lw_at lw_m10 141 rfl) rfl
theorem q2365 : (Jvm.Cond.selects "CoastTilesModel" ({ cls := "CoastTilesModel", name := "shapeOf", desc := "(I)I" } : Jvm.MethodName) ({ cls := "CoastTilesModel", name := "shapeOf", desc := "(I)I" } : Jvm.MethodName)) ∈ lw_all := lw_g (lw_at lw_m10 142 rfl) rfl
theorem q2366 : (Jvm.Cond.code ({ cls := "CoastTilesModel", name := "shapeOf", desc := "(I)I" } : Jvm.MethodName) prog_12_method_45_code (2 : Nat) (Option.some Jvm.ClassFile.FieldType.int)) ∈ lw_all := lw_g (lw_at lw_m10 143 rfl) rfl
theorem q2368 : (Jvm.Cond.instanceMethod ({ cls := "CoastTilesModel", name := "turned", desc := "(II)I" } : Jvm.MethodName)) ∈ lw_all := lw_g (lw_at lw_m10 145 rfl) rfl
theorem q2369 : (Jvm.Cond.selects "CoastTilesModel" ({ cls := "CoastTilesModel", name := "turned", desc := "(II)I" } : Jvm.MethodName) ({ cls := "CoastTilesModel", name := "turned", desc := "(II)I" } : Jvm.MethodName)) ∈ lw_all := lw_g (lw_at lw_m10 146 rfl) rfl
theorem q2370 : (Jvm.Cond.code ({ cls := "CoastTilesModel", name := "turned", desc := "(II)I" } : Jvm.MethodName) prog_12_method_46_code (3 : Nat) (Option.some Jvm.ClassFile.FieldType.int)) ∈ lw_all := lw_g (lw_at lw_m10 147 rfl) rfl
theorem q2372 : (Jvm.Cond.instanceMethod ({ cls := "CoastTilesModel", name := "mirrored", desc := "(I)I" } : Jvm.MethodName)) ∈ lw_all := lw_g (lw_at lw_m10 149 rfl) rfl
theorem q2373 : (Jvm.Cond.selects "CoastTilesModel" ({ cls := "CoastTilesModel", name := "mirrored", desc := "(I)I" } : Jvm.MethodName) ({ cls := "CoastTilesModel", name := "mirrored", desc := "(I)I" } : Jvm.MethodName)) ∈ lw_all := lw_g (lw_at lw_m10 150 rfl) rfl
theorem q2374 : (Jvm.Cond.code ({ cls := "CoastTilesModel", name := "mirrored", desc := "(I)I" } : Jvm.MethodName) prog_12_method_47_code (4 : Nat) (Option.some Jvm.ClassFile.FieldType.int)) ∈ lw_all := lw_g (lw_at lw_m10 151 rfl) rfl
theorem q2376 : (Jvm.Cond.instanceMethod ({ cls := "CoastTilesModel", name := "count", desc := "(I)I" } : Jvm.MethodName)) ∈ lw_all := lw_g (lw_at lw_m10 153 rfl) rfl
theorem q2377 : (Jvm.Cond.selects "CoastTilesModel" ({ cls := "CoastTilesModel", name := "count", desc := "(I)I" } : Jvm.MethodName) ({ cls := "CoastTilesModel", name := "count", desc := "(I)I" } : Jvm.MethodName)) ∈ lw_all := lw_g (lw_at lw_m10 154 rfl) rfl
theorem q2378 : (Jvm.Cond.code ({ cls := "CoastTilesModel", name := "count", desc := "(I)I" } : Jvm.MethodName) prog_12_method_49_code (2 : Nat) (Option.some Jvm.ClassFile.FieldType.int)) ∈ lw_all := lw_g (lw_at lw_m10 155 rfl) rfl
theorem q2379 : (Jvm.Cond.methodLink "CoastTilesModel" (151 : Nat) ({ cls := "CoastTilesModel", name := "counted", desc := "(I)I" } : Jvm.MethodName)) ∈ lw_all := lw_g (lw_at lw_m10 156 rfl) rfl
theorem q2380 : (Jvm.Cond.privateMethod ({ cls := "CoastTilesModel", name := "counted", desc := "(I)I" } : Jvm.MethodName)) ∈ lw_tbl := lw_at lw_m10 157 rfl
theorem q2381 : (Jvm.Cond.instanceMethod ({ cls := "CoastTilesModel", name := "counted", desc := "(I)I" } : Jvm.MethodName)) ∈ lw_all := lw_g (lw_at lw_m10 158 rfl) rfl
theorem q2382 : (Jvm.Cond.code ({ cls := "CoastTilesModel", name := "counted", desc := "(I)I" } : Jvm.MethodName) prog_12_method_48_code (4 : Nat) (Option.some Jvm.ClassFile.FieldType.int)) ∈ lw_all := lw_g (lw_at lw_m10 159 rfl) rfl
theorem q2384 : (Jvm.Cond.instanceMethod ({ cls := "CoastTilesModel", name := "shapes", desc := "()I" } : Jvm.MethodName)) ∈ lw_all := lw_g (lw_at lw_m10 161 rfl) rfl
theorem q2385 : (Jvm.Cond.selects "CoastTilesModel" ({ cls := "CoastTilesModel", name := "shapes", desc := "()I" } : Jvm.MethodName) ({ cls := "CoastTilesModel", name := "shapes", desc := "()I" } : Jvm.MethodName)) ∈ lw_all := lw_g (lw_at lw_m10 162 rfl) rfl
theorem q2386 : (Jvm.Cond.code ({ cls := "CoastTilesModel", name := "shapes", desc := "()I" } : Jvm.MethodName) prog_12_method_50_code (3 : Nat) (Option.some Jvm.ClassFile.FieldType.int)) ∈ lw_all := lw_g (lw_at lw_m10 163 rfl) rfl
theorem q2389 : (Jvm.Cond.instanceMethod ({ cls := "CoastTilesModel", name := "landShare", desc := "()I" } : Jvm.MethodName)) ∈ lw_all := lw_g (lw_at lw_m10 166 rfl) rfl
theorem q2390 : (Jvm.Cond.selects "CoastTilesModel" ({ cls := "CoastTilesModel", name := "landShare", desc := "()I" } : Jvm.MethodName) ({ cls := "CoastTilesModel", name := "landShare", desc := "()I" } : Jvm.MethodName)) ∈ lw_all := lw_g (lw_at lw_m10 167 rfl) rfl
theorem q2391 : (Jvm.Cond.code ({ cls := "CoastTilesModel", name := "landShare", desc := "()I" } : Jvm.MethodName) prog_12_method_53_code (1 : Nat) (Option.some Jvm.ClassFile.FieldType.int)) ∈ lw_all := lw_g (lw_at lw_m10 168 rfl) rfl
theorem q2392 : (Jvm.Cond.methodLink "CoastTilesModel" (156 : Nat) ({ cls := "CoastTilesModel", name := "bitsOfFloat", desc := "(F)I" } : Jvm.MethodName)) ∈ lw_all := lw_g (lw_at lw_m10 169 rfl) rfl
theorem q2393 : (Jvm.Cond.static ({ cls := "CoastTilesModel", name := "bitsOfFloat", desc := "(F)I" } : Jvm.MethodName)) ∈ lw_all := lw_g (lw_at lw_m10 170 rfl) rfl
theorem q2394 : (Jvm.Cond.code ({ cls := "CoastTilesModel", name := "bitsOfFloat", desc := "(F)I" } : Jvm.MethodName) prog_12_method_52_code (3 : Nat) (Option.some Jvm.ClassFile.FieldType.int)) ∈ lw_all := lw_g (lw_at lw_m10 171 rfl) rfl
theorem q2395 : (Jvm.Cond.constantFloat "CoastTilesModel" (154 : Nat) (1258291200 : UInt32)) ∈ lw_all := lw_g (lw_at lw_m10 172 rfl) rfl
theorem q2396 : (Jvm.Cond.constant "CoastTilesModel" (155 : Nat) (8388608 : Int32)) ∈ lw_all := lw_g (lw_at lw_m10 173 rfl) rfl
theorem q2398 : (Jvm.Cond.instanceMethod ({ cls := "CoastTilesModel", name := "coast", desc := "()I" } : Jvm.MethodName)) ∈ lw_all := lw_g (lw_at lw_m10 175 rfl) rfl
theorem q2399 : (Jvm.Cond.selects "CoastTilesModel" ({ cls := "CoastTilesModel", name := "coast", desc := "()I" } : Jvm.MethodName) ({ cls := "CoastTilesModel", name := "coast", desc := "()I" } : Jvm.MethodName)) ∈ lw_all := lw_g (lw_at lw_m10 176 rfl) rfl
theorem q2400 : (Jvm.Cond.code ({ cls := "CoastTilesModel", name := "coast", desc := "()I" } : Jvm.MethodName) prog_12_method_55_code (3 : Nat) (Option.some Jvm.ClassFile.FieldType.int)) ∈ lw_all := lw_g (lw_at lw_m10 177 rfl) rfl
theorem q2401 : (Jvm.Cond.methodLink "CoastTilesModel" (160 : Nat) ({ cls := "CoastTilesModel", name := "coastAt", desc := "(I)I" } : Jvm.MethodName)) ∈ lw_all := lw_g (lw_at lw_m10 178 rfl) rfl
theorem q2402 : (Jvm.Cond.privateMethod ({ cls := "CoastTilesModel", name := "coastAt", desc := "(I)I" } : Jvm.MethodName)) ∈ lw_tbl := lw_at lw_m10 179 rfl
theorem q2403 : (Jvm.Cond.instanceMethod ({ cls := "CoastTilesModel", name := "coastAt", desc := "(I)I" } : Jvm.MethodName)) ∈ lw_all := lw_g (lw_at lw_m10 180 rfl) rfl
theorem q2404 : (Jvm.Cond.code ({ cls := "CoastTilesModel", name := "coastAt", desc := "(I)I" } : Jvm.MethodName) prog_12_method_54_code (4 : Nat) (Option.some Jvm.ClassFile.FieldType.int)) ∈ lw_all := lw_g (lw_at lw_m10 181 rfl) rfl
theorem q2406 : (Jvm.Cond.instanceMethod ({ cls := "CoastTilesModel", name := "islands", desc := "()I" } : Jvm.MethodName)) ∈ lw_all := lw_g (lw_at lw_m10 183 rfl) rfl
theorem q2407 : (Jvm.Cond.selects "CoastTilesModel" ({ cls := "CoastTilesModel", name := "islands", desc := "()I" } : Jvm.MethodName) ({ cls := "CoastTilesModel", name := "islands", desc := "()I" } : Jvm.MethodName)) ∈ lw_all := lw_g (lw_at lw_m10 184 rfl) rfl
theorem q2408 : (Jvm.Cond.code ({ cls := "CoastTilesModel", name := "islands", desc := "()I" } : Jvm.MethodName) prog_12_method_58_code (3 : Nat) (Option.some Jvm.ClassFile.FieldType.int)) ∈ lw_all := lw_g (lw_at lw_m10 185 rfl) rfl
theorem q2409 : (Jvm.Cond.methodLink "CoastTilesModel" (163 : Nat) ({ cls := "CoastTilesModel", name := "seeNone", desc := "()V" } : Jvm.MethodName)) ∈ lw_all := lw_g (lw_at lw_m10 186 rfl) rfl
theorem q2410 : (Jvm.Cond.privateMethod ({ cls := "CoastTilesModel", name := "seeNone", desc := "()V" } : Jvm.MethodName)) ∈ lw_tbl := lw_at lw_m10 187 rfl
theorem q2411 : (Jvm.Cond.instanceMethod ({ cls := "CoastTilesModel", name := "seeNone", desc := "()V" } : Jvm.MethodName)) ∈ lw_all := lw_g (lw_at lw_m10 188 rfl) rfl
theorem q2412 : (Jvm.Cond.code ({ cls := "CoastTilesModel", name := "seeNone", desc := "()V" } : Jvm.MethodName) prog_12_method_56_code (2 : Nat) (Option.none : Option Jvm.ClassFile.FieldType)) ∈ lw_all := lw_g (lw_at lw_m10 189 rfl) rfl
theorem q2413 : (Jvm.Cond.methodLink "CoastTilesModel" (166 : Nat) ({ cls := "CoastTilesModel", name := "seeFound", desc := "()V" } : Jvm.MethodName)) ∈ lw_all := lw_g (lw_at lw_m10 190 rfl) rfl
theorem q2414 : (Jvm.Cond.privateMethod ({ cls := "CoastTilesModel", name := "seeFound", desc := "()V" } : Jvm.MethodName)) ∈ lw_tbl := lw_at lw_m10 191 rfl
theorem q2415 : (Jvm.Cond.instanceMethod ({ cls := "CoastTilesModel", name := "seeFound", desc := "()V" } : Jvm.MethodName)) ∈ lw_all := lw_g (lw_at lw_m10 192 rfl) rfl
theorem q2416 : (Jvm.Cond.code ({ cls := "CoastTilesModel", name := "seeFound", desc := "()V" } : Jvm.MethodName) prog_12_method_57_code (2 : Nat) (Option.none : Option Jvm.ClassFile.FieldType)) ∈ lw_all := lw_g (lw_at lw_m10 193 rfl) rfl
theorem q2418 : (Jvm.Cond.instanceMethod ({ cls := "CoastTilesModel", name := "lakes", desc := "()I" } : Jvm.MethodName)) ∈ lw_all := lw_g (lw_at lw_m10 195 rfl) rfl
theorem q2419 : (Jvm.Cond.selects "CoastTilesModel" ({ cls := "CoastTilesModel", name := "lakes", desc := "()I" } : Jvm.MethodName) ({ cls := "CoastTilesModel", name := "lakes", desc := "()I" } : Jvm.MethodName)) ∈ lw_all := lw_g (lw_at lw_m10 196 rfl) rfl
theorem q2420 : (Jvm.Cond.code ({ cls := "CoastTilesModel", name := "lakes", desc := "()I" } : Jvm.MethodName) prog_12_method_60_code (3 : Nat) (Option.some Jvm.ClassFile.FieldType.int)) ∈ lw_all := lw_g (lw_at lw_m10 197 rfl) rfl
theorem q2421 : (Jvm.Cond.methodLink "CoastTilesModel" (169 : Nat) ({ cls := "CoastTilesModel", name := "isInside", desc := "()Z" } : Jvm.MethodName)) ∈ lw_all := lw_g (lw_at lw_m10 198 rfl) rfl
theorem q2422 : (Jvm.Cond.privateMethod ({ cls := "CoastTilesModel", name := "isInside", desc := "()Z" } : Jvm.MethodName)) ∈ lw_tbl := lw_at lw_m10 199 rfl
theorem q2423 : (Jvm.Cond.instanceMethod ({ cls := "CoastTilesModel", name := "isInside", desc := "()Z" } : Jvm.MethodName)) ∈ lw_all := lw_g (lw_at lw_m10 200 rfl) rfl
theorem q2424 : (Jvm.Cond.code ({ cls := "CoastTilesModel", name := "isInside", desc := "()Z" } : Jvm.MethodName) prog_12_method_59_code (3 : Nat) (Option.some Jvm.ClassFile.FieldType.boolean)) ∈ lw_all := lw_g (lw_at lw_m10 201 rfl) rfl
theorem q2426 : (Jvm.Cond.instanceMethod ({ cls := "CoastTilesModel", name := "region", desc := "(IIZ)I" } : Jvm.MethodName)) ∈ lw_all := lw_g (lw_at lw_m10 203 rfl) rfl
theorem q2427 : (Jvm.Cond.selects "CoastTilesModel" ({ cls := "CoastTilesModel", name := "region", desc := "(IIZ)I" } : Jvm.MethodName) ({ cls := "CoastTilesModel", name := "region", desc := "(IIZ)I" } : Jvm.MethodName)) ∈ lw_all := lw_g (lw_at lw_m10 204 rfl) rfl
theorem q2428 : (Jvm.Cond.code ({ cls := "CoastTilesModel", name := "region", desc := "(IIZ)I" } : Jvm.MethodName) prog_12_method_61_code (4 : Nat) (Option.some Jvm.ClassFile.FieldType.int)) ∈ lw_all := lw_g (lw_at lw_m10 205 rfl) rfl
theorem q2430 : (Jvm.Cond.instanceMethod ({ cls := "CoastTilesModel", name := "largestIsland", desc := "()I" } : Jvm.MethodName)) ∈ lw_all := lw_g (lw_at lw_m10 207 rfl) rfl
theorem q2431 : (Jvm.Cond.selects "CoastTilesModel" ({ cls := "CoastTilesModel", name := "largestIsland", desc := "()I" } : Jvm.MethodName) ({ cls := "CoastTilesModel", name := "largestIsland", desc := "()I" } : Jvm.MethodName)) ∈ lw_all := lw_g (lw_at lw_m10 208 rfl) rfl
theorem q2432 : (Jvm.Cond.code ({ cls := "CoastTilesModel", name := "largestIsland", desc := "()I" } : Jvm.MethodName) prog_12_method_62_code (4 : Nat) (Option.some Jvm.ClassFile.FieldType.int)) ∈ lw_all := lw_g (lw_at lw_m10 209 rfl) rfl
theorem q2434 : (Jvm.Cond.instanceMethod ({ cls := "CoastTilesModel", name := "way", desc := "(IIII)I" } : Jvm.MethodName)) ∈ lw_all := lw_g (lw_at lw_m10 211 rfl) rfl
theorem q2435 : (Jvm.Cond.selects "CoastTilesModel" ({ cls := "CoastTilesModel", name := "way", desc := "(IIII)I" } : Jvm.MethodName) ({ cls := "CoastTilesModel", name := "way", desc := "(IIII)I" } : Jvm.MethodName)) ∈ lw_all := lw_g (lw_at lw_m10 212 rfl) rfl
theorem q2436 : (Jvm.Cond.code ({ cls := "CoastTilesModel", name := "way", desc := "(IIII)I" } : Jvm.MethodName) prog_12_method_63_code (5 : Nat) (Option.some Jvm.ClassFile.FieldType.int)) ∈ lw_all := lw_g (lw_at lw_m10 213 rfl) rfl
theorem q2438 : (Jvm.Cond.instanceMethod ({ cls := "CoastTilesModel", name := "coastIfChanged", desc := "(II)I" } : Jvm.MethodName)) ∈ lw_all := lw_g (lw_at lw_m10 215 rfl) rfl
theorem q2439 : (Jvm.Cond.selects "CoastTilesModel" ({ cls := "CoastTilesModel", name := "coastIfChanged", desc := "(II)I" } : Jvm.MethodName) ({ cls := "CoastTilesModel", name := "coastIfChanged", desc := "(II)I" } : Jvm.MethodName)) ∈ lw_all := lw_g (lw_at lw_m10 216 rfl) rfl
theorem q2440 : (Jvm.Cond.code ({ cls := "CoastTilesModel", name := "coastIfChanged", desc := "(II)I" } : Jvm.MethodName) prog_12_method_64_code (6 : Nat) (Option.some Jvm.ClassFile.FieldType.int)) ∈ lw_all := lw_g (lw_at lw_m10 217 rfl) rfl
theorem q2441 : (Jvm.Cond.methodLink "CoastTilesModel" (173 : Nat) ({ cls := "CoastTilesModel", name := "coast", desc := "()I" } : Jvm.MethodName)) ∈ lw_all := lw_g (lw_at lw_m10 218 rfl) rfl
theorem q2443 : (Jvm.Cond.instanceMethod ({ cls := "CoastTilesModel", name := "needs", desc := "(III)I" } : Jvm.MethodName)) ∈ lw_all := lw_g (lw_at lw_m10 220 rfl) rfl
theorem q2444 : (Jvm.Cond.selects "CoastTilesModel" ({ cls := "CoastTilesModel", name := "needs", desc := "(III)I" } : Jvm.MethodName) ({ cls := "CoastTilesModel", name := "needs", desc := "(III)I" } : Jvm.MethodName)) ∈ lw_all := lw_g (lw_at lw_m10 221 rfl) rfl
theorem q2445 : (Jvm.Cond.code ({ cls := "CoastTilesModel", name := "needs", desc := "(III)I" } : Jvm.MethodName) prog_12_method_65_code (8 : Nat) (Option.some Jvm.ClassFile.FieldType.int)) ∈ lw_all := lw_g (lw_at lw_m10 222 rfl) rfl
theorem q2447 : (Jvm.Cond.instanceMethod ({ cls := "CoastTilesModel", name := "append", desc := "(I)I" } : Jvm.MethodName)) ∈ lw_all := lw_g (lw_at lw_m10 224 rfl) rfl
theorem q2448 : (Jvm.Cond.selects "CoastTilesModel" ({ cls := "CoastTilesModel", name := "append", desc := "(I)I" } : Jvm.MethodName) ({ cls := "CoastTilesModel", name := "append", desc := "(I)I" } : Jvm.MethodName)) ∈ lw_all := lw_g (lw_at lw_m10 225 rfl) rfl
theorem q2449 : (Jvm.Cond.code ({ cls := "CoastTilesModel", name := "append", desc := "(I)I" } : Jvm.MethodName) prog_12_method_66_code (2 : Nat) (Option.some Jvm.ClassFile.FieldType.int)) ∈ lw_all := lw_g (lw_at lw_m10 226 rfl) rfl
theorem q2451 : (Jvm.Cond.instanceMethod ({ cls := "CoastTilesModel", name := "clearText", desc := "()I" } : Jvm.MethodName)) ∈ lw_all := lw_g (lw_at lw_m10 228 rfl) rfl
theorem q2452 : (Jvm.Cond.selects "CoastTilesModel" ({ cls := "CoastTilesModel", name := "clearText", desc := "()I" } : Jvm.MethodName) ({ cls := "CoastTilesModel", name := "clearText", desc := "()I" } : Jvm.MethodName)) ∈ lw_all := lw_g (lw_at lw_m10 229 rfl) rfl
theorem q2453 : (Jvm.Cond.code ({ cls := "CoastTilesModel", name := "clearText", desc := "()I" } : Jvm.MethodName) prog_12_method_67_code (2 : Nat) (Option.some Jvm.ClassFile.FieldType.int)) ∈ lw_all := lw_g (lw_at lw_m10 230 rfl) rfl
theorem q2455 : (Jvm.Cond.instanceMethod ({ cls := "CoastTilesModel", name := "errorPosition", desc := "()I" } : Jvm.MethodName)) ∈ lw_all := lw_g (lw_at lw_m10 232 rfl) rfl
theorem q2456 : (Jvm.Cond.selects "CoastTilesModel" ({ cls := "CoastTilesModel", name := "errorPosition", desc := "()I" } : Jvm.MethodName) ({ cls := "CoastTilesModel", name := "errorPosition", desc := "()I" } : Jvm.MethodName)) ∈ lw_all := lw_g (lw_at lw_m10 233 rfl) rfl
theorem q2457 : (Jvm.Cond.code ({ cls := "CoastTilesModel", name := "errorPosition", desc := "()I" } : Jvm.MethodName) prog_12_method_72_code (2 : Nat) (Option.some Jvm.ClassFile.FieldType.int)) ∈ lw_all := lw_g (lw_at lw_m10 234 rfl) rfl
theorem q2458 : (Jvm.Cond.methodLink "CoastTilesModel" (200 : Nat) ({ cls := "CoastTilesModel", name := "readOne", desc := "(I)Z" } : Jvm.MethodName)) ∈ lw_all := lw_g (lw_at lw_m10 235 rfl) rfl
theorem q2459 : (Jvm.Cond.privateMethod ({ cls := "CoastTilesModel", name := "readOne", desc := "(I)Z" } : Jvm.MethodName)) ∈ lw_tbl := lw_at lw_m10 236 rfl
theorem q2460 : (Jvm.Cond.instanceMethod ({ cls := "CoastTilesModel", name := "readOne", desc := "(I)Z" } : Jvm.MethodName)) ∈ lw_all := lw_g (lw_at lw_m10 237 rfl) rfl
theorem q2461 : (Jvm.Cond.code ({ cls := "CoastTilesModel", name := "readOne", desc := "(I)Z" } : Jvm.MethodName) prog_12_method_69_code (4 : Nat) (Option.some Jvm.ClassFile.FieldType.boolean)) ∈ lw_all := lw_g (lw_at lw_m10 238 rfl) rfl
theorem q2462 : (Jvm.Cond.methodLink "CoastTilesModel" (191 : Nat) ({ cls := "CoastTilesModel", name := "room", desc := "()I" } : Jvm.MethodName)) ∈ lw_all := lw_g (lw_at lw_m10 239 rfl) rfl
theorem q2463 : (Jvm.Cond.privateMethod ({ cls := "CoastTilesModel", name := "room", desc := "()I" } : Jvm.MethodName)) ∈ lw_tbl := lw_at lw_m11 0 rfl
theorem q2464 : (Jvm.Cond.instanceMethod ({ cls := "CoastTilesModel", name := "room", desc := "()I" } : Jvm.MethodName)) ∈ lw_all := lw_g (lw_at lw_m11 1 rfl) rfl
theorem q2465 : (Jvm.Cond.code ({ cls := "CoastTilesModel", name := "room", desc := "()I" } : Jvm.MethodName) prog_12_method_68_code (1 : Nat) (Option.some Jvm.ClassFile.FieldType.int)) ∈ lw_all := lw_g (lw_at lw_m11 2 rfl) rfl
theorem q2466 : (Jvm.Cond.methodLink "CoastTilesModel" (194 : Nat) ({ cls := "CoastTilesModel", name := "isRowWhole", desc := "()Z" } : Jvm.MethodName)) ∈ lw_all := lw_g (lw_at lw_m11 3 rfl) rfl
theorem q2467 : (Jvm.Cond.privateMethod ({ cls := "CoastTilesModel", name := "isRowWhole", desc := "()Z" } : Jvm.MethodName)) ∈ lw_tbl := lw_at lw_m11 4 rfl
theorem q2468 : (Jvm.Cond.instanceMethod ({ cls := "CoastTilesModel", name := "isRowWhole", desc := "()Z" } : Jvm.MethodName)) ∈ lw_all := lw_g (lw_at lw_m11 5 rfl) rfl
theorem q2469 : (Jvm.Cond.code ({ cls := "CoastTilesModel", name := "isRowWhole", desc := "()Z" } : Jvm.MethodName) prog_12_method_70_code (1 : Nat) (Option.some Jvm.ClassFile.FieldType.boolean)) ∈ lw_all := lw_g (lw_at lw_m11 6 rfl) rfl
theorem q2470 : (Jvm.Cond.methodLink "CoastTilesModel" (197 : Nat) ({ cls := "CoastTilesModel", name := "endRow", desc := "()V" } : Jvm.MethodName)) ∈ lw_all := lw_g (lw_at lw_m11 7 rfl) rfl
theorem q2471 : (Jvm.Cond.privateMethod ({ cls := "CoastTilesModel", name := "endRow", desc := "()V" } : Jvm.MethodName)) ∈ lw_tbl := lw_at lw_m11 8 rfl
theorem q2472 : (Jvm.Cond.instanceMethod ({ cls := "CoastTilesModel", name := "endRow", desc := "()V" } : Jvm.MethodName)) ∈ lw_all := lw_g (lw_at lw_m11 9 rfl) rfl
theorem q2473 : (Jvm.Cond.code ({ cls := "CoastTilesModel", name := "endRow", desc := "()V" } : Jvm.MethodName) prog_12_method_71_code (1 : Nat) (Option.none : Option Jvm.ClassFile.FieldType)) ∈ lw_all := lw_g (lw_at lw_m11 10 rfl) rfl
theorem q2475 : (Jvm.Cond.instanceMethod ({ cls := "CoastTilesModel", name := "read", desc := "()I" } : Jvm.MethodName)) ∈ lw_all := lw_g (lw_at lw_m11 12 rfl) rfl
theorem q2476 : (Jvm.Cond.selects "CoastTilesModel" ({ cls := "CoastTilesModel", name := "read", desc := "()I" } : Jvm.MethodName) ({ cls := "CoastTilesModel", name := "read", desc := "()I" } : Jvm.MethodName)) ∈ lw_all := lw_g (lw_at lw_m11 13 rfl) rfl
theorem q2477 : (Jvm.Cond.code ({ cls := "CoastTilesModel", name := "read", desc := "()I" } : Jvm.MethodName) prog_12_method_73_code (2 : Nat) (Option.some Jvm.ClassFile.FieldType.int)) ∈ lw_all := lw_g (lw_at lw_m11 14 rfl) rfl
theorem q2478 : (Jvm.Cond.methodLink "CoastTilesModel" (203 : Nat) ({ cls := "CoastTilesModel", name := "errorPosition", desc := "()I" } : Jvm.MethodName)) ∈ lw_all := lw_g (lw_at lw_m11 15 rfl) rfl
theorem q2505 : (Jvm.Cond.castable "CoastTilesModel" "java/lang/Object") ∈ lw_tbl := lw_at lw_m11 42 rfl
theorem in_X4 : ∀ w ∈ wsX40, w ∈ lw_all := lw_in wsX40 [2158, 2160, 2162, 2164, 2166, 2168, 2170, 2172, 2174, 2176, 2178, 2180, 2182, 2184, 2186, 2188, 2190, 2192, 2194, 2196, 2198, 2200] (by decide +kernel) (by decide +kernel)
