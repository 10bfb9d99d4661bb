/-! CellRows -/
set_option maxRecDepth 100000
def RX1 : String := "CellRows"
def TX1 : u_T := fun k => match k with
  | 0 => ("CellRows", "rows", "I", true)
  | 1 => ("CellRows", "sites", "I", true)
  | 2 => ("CellRows", "status", "I", false)
  | 3 => ("CellRows", "refused", "[I", true)
  | 4 => ("CellRows", "term", "[I", true)
  | 5 => ("CellRows", "chip", "LCellRows$Chip;", false)
  | 6 => ("CellRows", "paper", "LCellRows$Chip;", true)
  | 7 => ("CellRows", "undone", "[LCellRows$Chip;", true)
  | 8 => ("CellRows", "undoneWhat", "[I", true)
  | 9 => ("CellRows", "undoMany", "I", false)
  | 10 => ("CellRows", "tape", "[B", true)
  | 11 => ("CellRows", "taped", "I", false)
  | 12 => ("CellRows", "atWants", "LCellRows$Places;", true)
  | 13 => ("CellRows", "atSpots", "LCellRows$Places;", true)
  | 14 => ("CellRows", "bins", "[LCellRows$Bin;", false)
  | 15 => ("CellRows", "from", "[[I", true)
  | 16 => ("CellRows", "isLawfulOnPaper", "Z", false)
  | 17 => ("CellRows", "paperMoves", "I", false)
  | 18 => ("CellRows", "paperWire", "I", false)
  | 19 => ("CellRows", "bestRow", "[I", true)
  | _ => ("CellRows", "bestSite", "[I", true)
def tyX1 : Nat → FieldType := fun k => match k with
  | 0 => .int
  | 1 => .int
  | 2 => .int
  | 3 => .array .int
  | 4 => .array .int
  | 5 => .object "CellRows$Chip"
  | 6 => .object "CellRows$Chip"
  | 7 => .array (.object "CellRows$Chip")
  | 8 => .array .int
  | 9 => .int
  | 10 => .array .byte
  | 11 => .int
  | 12 => .object "CellRows$Places"
  | 13 => .object "CellRows$Places"
  | 14 => .array (.object "CellRows$Bin")
  | 15 => .array (.array .int)
  | 16 => .boolean
  | 17 => .int
  | 18 => .int
  | 19 => .array .int
  | _ => .array .int
abbrev wsX10 : List Cond := u_ws RX1 TX1 21
set_option maxRecDepth 100000 in
theorem nmX1 : ∀ a, a < 21 → ∀ b, b < 21 → a ≠ b → (TX1 a).2.1 ≠ (TX1 b).2.1 := by decide +kernel
set_option maxRecDepth 100000 in
theorem tyX1_ok : ∀ k, k < 21 → parseFieldDescriptor (TX1 k).2.2.1 = some (tyX1 k) := by decide +kernel
abbrev cX1_init : ByteArray := prog_1_method_1_code
def yX1_init : MethodName := ⟨RX1, "<init>", "(II)V"⟩
def dkwX1_init_8 : List UInt8 := [183, 0, 66, 83, 132, 3, 1, 167, 255, 233, 177]
abbrev dktX1_init_8 : List UInt8 := dkwX1_init_8 ++ []
def dkwX1_init_7 : List UInt8 := [183, 0, 66, 181, 0, 71, 3, 62, 29, 16, 12, 162, 0, 23, 42, 180, 0, 18, 29, 187, 0, 16, 89, 42]
abbrev dktX1_init_7 : List UInt8 := dkwX1_init_7 ++ dktX1_init_8
def dkwX1_init_6 : List UInt8 := [184, 0, 55, 181, 0, 63, 42, 187, 0, 16, 89, 42, 183, 0, 66, 181, 0, 67, 42, 187, 0, 16, 89, 42]
abbrev dktX1_init_6 : List UInt8 := dkwX1_init_6 ++ dktX1_init_7
def dkwX1_init_5 : List UInt8 := [16, 20, 188, 10, 181, 0, 52, 42, 27, 4, 16, 8, 184, 0, 55, 181, 0, 59, 42, 28, 16, 8, 16, 32]
abbrev dktX1_init_5 : List UInt8 := dkwX1_init_5 ++ dktX1_init_6
def dkwX1_init_4 : List UInt8 := [181, 0, 41, 42, 16, 20, 16, 33, 197, 0, 44, 2, 181, 0, 46, 42, 16, 20, 188, 10, 181, 0, 49, 42]
abbrev dktX1_init_4 : List UInt8 := dkwX1_init_4 ++ dktX1_init_5
def dkwX1_init_3 : List UInt8 := [181, 0, 25, 42, 187, 0, 29, 89, 42, 183, 0, 31, 181, 0, 34, 42, 187, 0, 38, 89, 42, 183, 0, 40]
abbrev dktX1_init_3 : List UInt8 := dkwX1_init_3 ++ dktX1_init_4
def dkwX1_init_2 : List UInt8 := [42, 16, 12, 189, 0, 16, 181, 0, 18, 42, 16, 12, 188, 10, 181, 0, 22, 42, 16, 100, 188, 8]
abbrev dktX1_init_2 : List UInt8 := dkwX1_init_2 ++ dktX1_init_3
def dkwX1_init_1 : List UInt8 := [16, 80, 79, 89, 5, 7, 79, 89, 6, 16, 16, 79, 89, 7, 7, 79, 89, 8, 16, 6, 79, 181, 0, 13]
abbrev dktX1_init_1 : List UInt8 := dkwX1_init_1 ++ dktX1_init_2
def dkwX1_init_0 : List UInt8 := [42, 183, 0, 1, 42, 16, 7, 188, 10, 181, 0, 7, 42, 16, 6, 188, 10, 89, 3, 16, 16, 79, 89, 4]
abbrev dktX1_init_0 : List UInt8 := dkwX1_init_0 ++ dktX1_init_1
theorem dksX1_init_0 : cX1_init.data.toList.drop 0 = dktX1_init_0 := by decide +kernel
theorem dksX1_init_1 : cX1_init.data.toList.drop 24 = dktX1_init_1 := dk_seg dksX1_init_0 24 rfl rfl
theorem dksX1_init_2 : cX1_init.data.toList.drop 48 = dktX1_init_2 := dk_seg dksX1_init_1 24 rfl rfl
theorem dksX1_init_3 : cX1_init.data.toList.drop 70 = dktX1_init_3 := dk_seg dksX1_init_2 22 rfl rfl
theorem dksX1_init_4 : cX1_init.data.toList.drop 94 = dktX1_init_4 := dk_seg dksX1_init_3 24 rfl rfl
theorem dksX1_init_5 : cX1_init.data.toList.drop 118 = dktX1_init_5 := dk_seg dksX1_init_4 24 rfl rfl
theorem dksX1_init_6 : cX1_init.data.toList.drop 142 = dktX1_init_6 := dk_seg dksX1_init_5 24 rfl rfl
theorem dksX1_init_7 : cX1_init.data.toList.drop 166 = dktX1_init_7 := dk_seg dksX1_init_6 24 rfl rfl
theorem dksX1_init_8 : cX1_init.data.toList.drop 190 = dktX1_init_8 := dk_seg dksX1_init_7 24 rfl rfl
theorem dX1_init_0 : decode cX1_init 0 = .ok (.aload_n 0, 1) := dk_42 (dk_at dksX1_init_0 0 rfl rfl)
theorem dX1_init_1 : decode cX1_init 1 = .ok (.invokespecial 1, 3) := dk_183 0 1 (dk_at dksX1_init_0 1 rfl rfl)
theorem dX1_init_4 : decode cX1_init 4 = .ok (.aload_n 0, 1) := dk_42 (dk_at dksX1_init_0 4 rfl rfl)
theorem dX1_init_5 : decode cX1_init 5 = .ok (.bipush 7, 2) := dk_16 7 (dk_at dksX1_init_0 5 rfl rfl)
theorem dX1_init_7 : decode cX1_init 7 = .ok (.newarray .int, 2) := dk_188_10 (dk_at dksX1_init_0 7 rfl rfl)
theorem dX1_init_9 : decode cX1_init 9 = .ok (.putfield 7, 3) := dk_181 0 7 (dk_at dksX1_init_0 9 rfl rfl)
theorem dX1_init_12 : decode cX1_init 12 = .ok (.aload_n 0, 1) := dk_42 (dk_at dksX1_init_0 12 rfl rfl)
theorem dX1_init_13 : decode cX1_init 13 = .ok (.bipush 6, 2) := dk_16 6 (dk_at dksX1_init_0 13 rfl rfl)
theorem dX1_init_15 : decode cX1_init 15 = .ok (.newarray .int, 2) := dk_188_10 (dk_at dksX1_init_0 15 rfl rfl)
theorem dX1_init_17 : decode cX1_init 17 = .ok (.dup, 1) := dk_89 (dk_at dksX1_init_0 17 rfl rfl)
theorem dX1_init_18 : decode cX1_init 18 = .ok (.iconst 0, 1) := dk_3 (dk_at dksX1_init_0 18 rfl rfl)
theorem dX1_init_19 : decode cX1_init 19 = .ok (.bipush 16, 2) := dk_16 16 (dk_at dksX1_init_0 19 rfl rfl)
theorem dX1_init_21 : decode cX1_init 21 = .ok (.iastore, 1) := dk_79 (dk_at dksX1_init_0 21 rfl rfl)
theorem dX1_init_22 : decode cX1_init 22 = .ok (.dup, 1) := dk_89 (dk_at dksX1_init_0 22 rfl rfl)
theorem dX1_init_23 : decode cX1_init 23 = .ok (.iconst 1, 1) := dk_4 (dk_at dksX1_init_0 23 rfl rfl)
theorem dX1_init_24 : decode cX1_init 24 = .ok (.bipush 80, 2) := dk_16 80 (dk_at dksX1_init_1 0 rfl rfl)
theorem dX1_init_26 : decode cX1_init 26 = .ok (.iastore, 1) := dk_79 (dk_at dksX1_init_1 2 rfl rfl)
theorem dX1_init_27 : decode cX1_init 27 = .ok (.dup, 1) := dk_89 (dk_at dksX1_init_1 3 rfl rfl)
theorem dX1_init_28 : decode cX1_init 28 = .ok (.iconst 2, 1) := dk_5 (dk_at dksX1_init_1 4 rfl rfl)
theorem dX1_init_29 : decode cX1_init 29 = .ok (.iconst 4, 1) := dk_7 (dk_at dksX1_init_1 5 rfl rfl)
theorem dX1_init_30 : decode cX1_init 30 = .ok (.iastore, 1) := dk_79 (dk_at dksX1_init_1 6 rfl rfl)
theorem dX1_init_31 : decode cX1_init 31 = .ok (.dup, 1) := dk_89 (dk_at dksX1_init_1 7 rfl rfl)
theorem dX1_init_32 : decode cX1_init 32 = .ok (.iconst 3, 1) := dk_6 (dk_at dksX1_init_1 8 rfl rfl)
theorem dX1_init_33 : decode cX1_init 33 = .ok (.bipush 16, 2) := dk_16 16 (dk_at dksX1_init_1 9 rfl rfl)
theorem dX1_init_35 : decode cX1_init 35 = .ok (.iastore, 1) := dk_79 (dk_at dksX1_init_1 11 rfl rfl)
theorem dX1_init_36 : decode cX1_init 36 = .ok (.dup, 1) := dk_89 (dk_at dksX1_init_1 12 rfl rfl)
theorem dX1_init_37 : decode cX1_init 37 = .ok (.iconst 4, 1) := dk_7 (dk_at dksX1_init_1 13 rfl rfl)
theorem dX1_init_38 : decode cX1_init 38 = .ok (.iconst 4, 1) := dk_7 (dk_at dksX1_init_1 14 rfl rfl)
theorem dX1_init_39 : decode cX1_init 39 = .ok (.iastore, 1) := dk_79 (dk_at dksX1_init_1 15 rfl rfl)
theorem dX1_init_40 : decode cX1_init 40 = .ok (.dup, 1) := dk_89 (dk_at dksX1_init_1 16 rfl rfl)
theorem dX1_init_41 : decode cX1_init 41 = .ok (.iconst 5, 1) := dk_8 (dk_at dksX1_init_1 17 rfl rfl)
theorem dX1_init_42 : decode cX1_init 42 = .ok (.bipush 6, 2) := dk_16 6 (dk_at dksX1_init_1 18 rfl rfl)
theorem dX1_init_44 : decode cX1_init 44 = .ok (.iastore, 1) := dk_79 (dk_at dksX1_init_1 20 rfl rfl)
theorem dX1_init_45 : decode cX1_init 45 = .ok (.putfield 13, 3) := dk_181 0 13 (dk_at dksX1_init_1 21 rfl rfl)
theorem dX1_init_48 : decode cX1_init 48 = .ok (.aload_n 0, 1) := dk_42 (dk_at dksX1_init_2 0 rfl rfl)
theorem dX1_init_49 : decode cX1_init 49 = .ok (.bipush 12, 2) := dk_16 12 (dk_at dksX1_init_2 1 rfl rfl)
theorem dX1_init_51 : decode cX1_init 51 = .ok (.anewarray 16, 3) := dk_189 0 16 (dk_at dksX1_init_2 3 rfl rfl)
theorem dX1_init_54 : decode cX1_init 54 = .ok (.putfield 18, 3) := dk_181 0 18 (dk_at dksX1_init_2 6 rfl rfl)
theorem dX1_init_57 : decode cX1_init 57 = .ok (.aload_n 0, 1) := dk_42 (dk_at dksX1_init_2 9 rfl rfl)
theorem dX1_init_58 : decode cX1_init 58 = .ok (.bipush 12, 2) := dk_16 12 (dk_at dksX1_init_2 10 rfl rfl)
theorem dX1_init_60 : decode cX1_init 60 = .ok (.newarray .int, 2) := dk_188_10 (dk_at dksX1_init_2 12 rfl rfl)
theorem dX1_init_62 : decode cX1_init 62 = .ok (.putfield 22, 3) := dk_181 0 22 (dk_at dksX1_init_2 14 rfl rfl)
theorem dX1_init_65 : decode cX1_init 65 = .ok (.aload_n 0, 1) := dk_42 (dk_at dksX1_init_2 17 rfl rfl)
theorem dX1_init_66 : decode cX1_init 66 = .ok (.bipush 100, 2) := dk_16 100 (dk_at dksX1_init_2 18 rfl rfl)
theorem dX1_init_68 : decode cX1_init 68 = .ok (.newarray .byte, 2) := dk_188_8 (dk_at dksX1_init_2 20 rfl rfl)
theorem dX1_init_70 : decode cX1_init 70 = .ok (.putfield 25, 3) := dk_181 0 25 (dk_at dksX1_init_3 0 rfl rfl)
theorem dX1_init_73 : decode cX1_init 73 = .ok (.aload_n 0, 1) := dk_42 (dk_at dksX1_init_3 3 rfl rfl)
theorem dX1_init_74 : decode cX1_init 74 = .ok (.new 29, 3) := dk_187 0 29 (dk_at dksX1_init_3 4 rfl rfl)
theorem dX1_init_77 : decode cX1_init 77 = .ok (.dup, 1) := dk_89 (dk_at dksX1_init_3 7 rfl rfl)
theorem dX1_init_78 : decode cX1_init 78 = .ok (.aload_n 0, 1) := dk_42 (dk_at dksX1_init_3 8 rfl rfl)
theorem dX1_init_79 : decode cX1_init 79 = .ok (.invokespecial 31, 3) := dk_183 0 31 (dk_at dksX1_init_3 9 rfl rfl)
theorem dX1_init_82 : decode cX1_init 82 = .ok (.putfield 34, 3) := dk_181 0 34 (dk_at dksX1_init_3 12 rfl rfl)
theorem dX1_init_85 : decode cX1_init 85 = .ok (.aload_n 0, 1) := dk_42 (dk_at dksX1_init_3 15 rfl rfl)
theorem dX1_init_86 : decode cX1_init 86 = .ok (.new 38, 3) := dk_187 0 38 (dk_at dksX1_init_3 16 rfl rfl)
theorem dX1_init_89 : decode cX1_init 89 = .ok (.dup, 1) := dk_89 (dk_at dksX1_init_3 19 rfl rfl)
theorem dX1_init_90 : decode cX1_init 90 = .ok (.aload_n 0, 1) := dk_42 (dk_at dksX1_init_3 20 rfl rfl)
theorem dX1_init_91 : decode cX1_init 91 = .ok (.invokespecial 40, 3) := dk_183 0 40 (dk_at dksX1_init_3 21 rfl rfl)
theorem dX1_init_94 : decode cX1_init 94 = .ok (.putfield 41, 3) := dk_181 0 41 (dk_at dksX1_init_4 0 rfl rfl)
theorem dX1_init_97 : decode cX1_init 97 = .ok (.aload_n 0, 1) := dk_42 (dk_at dksX1_init_4 3 rfl rfl)
theorem dX1_init_98 : decode cX1_init 98 = .ok (.bipush 20, 2) := dk_16 20 (dk_at dksX1_init_4 4 rfl rfl)
theorem dX1_init_100 : decode cX1_init 100 = .ok (.bipush 33, 2) := dk_16 33 (dk_at dksX1_init_4 6 rfl rfl)
theorem dX1_init_102 : decode cX1_init 102 = .ok (.multianewarray 44 2, 4) := by decide +kernel
theorem dX1_init_106 : decode cX1_init 106 = .ok (.putfield 46, 3) := dk_181 0 46 (dk_at dksX1_init_4 12 rfl rfl)
theorem dX1_init_109 : decode cX1_init 109 = .ok (.aload_n 0, 1) := dk_42 (dk_at dksX1_init_4 15 rfl rfl)
theorem dX1_init_110 : decode cX1_init 110 = .ok (.bipush 20, 2) := dk_16 20 (dk_at dksX1_init_4 16 rfl rfl)
theorem dX1_init_112 : decode cX1_init 112 = .ok (.newarray .int, 2) := dk_188_10 (dk_at dksX1_init_4 18 rfl rfl)
theorem dX1_init_114 : decode cX1_init 114 = .ok (.putfield 49, 3) := dk_181 0 49 (dk_at dksX1_init_4 20 rfl rfl)
theorem dX1_init_117 : decode cX1_init 117 = .ok (.aload_n 0, 1) := dk_42 (dk_at dksX1_init_4 23 rfl rfl)
theorem dX1_init_118 : decode cX1_init 118 = .ok (.bipush 20, 2) := dk_16 20 (dk_at dksX1_init_5 0 rfl rfl)
theorem dX1_init_120 : decode cX1_init 120 = .ok (.newarray .int, 2) := dk_188_10 (dk_at dksX1_init_5 2 rfl rfl)
theorem dX1_init_122 : decode cX1_init 122 = .ok (.putfield 52, 3) := dk_181 0 52 (dk_at dksX1_init_5 4 rfl rfl)
theorem dX1_init_125 : decode cX1_init 125 = .ok (.aload_n 0, 1) := dk_42 (dk_at dksX1_init_5 7 rfl rfl)
theorem dX1_init_126 : decode cX1_init 126 = .ok (.iload_n 1, 1) := dk_27 (dk_at dksX1_init_5 8 rfl rfl)
theorem dX1_init_127 : decode cX1_init 127 = .ok (.iconst 1, 1) := dk_4 (dk_at dksX1_init_5 9 rfl rfl)
theorem dX1_init_128 : decode cX1_init 128 = .ok (.bipush 8, 2) := dk_16 8 (dk_at dksX1_init_5 10 rfl rfl)
theorem dX1_init_130 : decode cX1_init 130 = .ok (.invokestatic 55, 3) := dk_184 0 55 (dk_at dksX1_init_5 12 rfl rfl)
theorem dX1_init_133 : decode cX1_init 133 = .ok (.putfield 59, 3) := dk_181 0 59 (dk_at dksX1_init_5 15 rfl rfl)
theorem dX1_init_136 : decode cX1_init 136 = .ok (.aload_n 0, 1) := dk_42 (dk_at dksX1_init_5 18 rfl rfl)
theorem dX1_init_137 : decode cX1_init 137 = .ok (.iload_n 2, 1) := dk_28 (dk_at dksX1_init_5 19 rfl rfl)
theorem dX1_init_138 : decode cX1_init 138 = .ok (.bipush 8, 2) := dk_16 8 (dk_at dksX1_init_5 20 rfl rfl)
theorem dX1_init_140 : decode cX1_init 140 = .ok (.bipush 32, 2) := dk_16 32 (dk_at dksX1_init_5 22 rfl rfl)
theorem dX1_init_142 : decode cX1_init 142 = .ok (.invokestatic 55, 3) := dk_184 0 55 (dk_at dksX1_init_6 0 rfl rfl)
theorem dX1_init_145 : decode cX1_init 145 = .ok (.putfield 63, 3) := dk_181 0 63 (dk_at dksX1_init_6 3 rfl rfl)
theorem dX1_init_148 : decode cX1_init 148 = .ok (.aload_n 0, 1) := dk_42 (dk_at dksX1_init_6 6 rfl rfl)
theorem dX1_init_149 : decode cX1_init 149 = .ok (.new 16, 3) := dk_187 0 16 (dk_at dksX1_init_6 7 rfl rfl)
theorem dX1_init_152 : decode cX1_init 152 = .ok (.dup, 1) := dk_89 (dk_at dksX1_init_6 10 rfl rfl)
theorem dX1_init_153 : decode cX1_init 153 = .ok (.aload_n 0, 1) := dk_42 (dk_at dksX1_init_6 11 rfl rfl)
theorem dX1_init_154 : decode cX1_init 154 = .ok (.invokespecial 66, 3) := dk_183 0 66 (dk_at dksX1_init_6 12 rfl rfl)
theorem dX1_init_157 : decode cX1_init 157 = .ok (.putfield 67, 3) := dk_181 0 67 (dk_at dksX1_init_6 15 rfl rfl)
theorem dX1_init_160 : decode cX1_init 160 = .ok (.aload_n 0, 1) := dk_42 (dk_at dksX1_init_6 18 rfl rfl)
theorem dX1_init_161 : decode cX1_init 161 = .ok (.new 16, 3) := dk_187 0 16 (dk_at dksX1_init_6 19 rfl rfl)
theorem dX1_init_164 : decode cX1_init 164 = .ok (.dup, 1) := dk_89 (dk_at dksX1_init_6 22 rfl rfl)
theorem dX1_init_165 : decode cX1_init 165 = .ok (.aload_n 0, 1) := dk_42 (dk_at dksX1_init_6 23 rfl rfl)
theorem dX1_init_166 : decode cX1_init 166 = .ok (.invokespecial 66, 3) := dk_183 0 66 (dk_at dksX1_init_7 0 rfl rfl)
theorem dX1_init_169 : decode cX1_init 169 = .ok (.putfield 71, 3) := dk_181 0 71 (dk_at dksX1_init_7 3 rfl rfl)
theorem dX1_init_172 : decode cX1_init 172 = .ok (.iconst 0, 1) := dk_3 (dk_at dksX1_init_7 6 rfl rfl)
theorem dX1_init_173 : decode cX1_init 173 = .ok (.istore_n 3, 1) := dk_62 (dk_at dksX1_init_7 7 rfl rfl)
theorem dX1_init_174 : decode cX1_init 174 = .ok (.iload_n 3, 1) := dk_29 (dk_at dksX1_init_7 8 rfl rfl)
theorem dX1_init_175 : decode cX1_init 175 = .ok (.bipush 12, 2) := dk_16 12 (dk_at dksX1_init_7 9 rfl rfl)
theorem dX1_init_177 : decode cX1_init 177 = .ok (.if_icmp .ge 23, 3) := dk_162 0 23 (dk_at dksX1_init_7 11 rfl rfl)
theorem dX1_init_180 : decode cX1_init 180 = .ok (.aload_n 0, 1) := dk_42 (dk_at dksX1_init_7 14 rfl rfl)
theorem dX1_init_181 : decode cX1_init 181 = .ok (.getfield 18, 3) := dk_180 0 18 (dk_at dksX1_init_7 15 rfl rfl)
theorem dX1_init_184 : decode cX1_init 184 = .ok (.iload_n 3, 1) := dk_29 (dk_at dksX1_init_7 18 rfl rfl)
theorem dX1_init_185 : decode cX1_init 185 = .ok (.new 16, 3) := dk_187 0 16 (dk_at dksX1_init_7 19 rfl rfl)
theorem dX1_init_188 : decode cX1_init 188 = .ok (.dup, 1) := dk_89 (dk_at dksX1_init_7 22 rfl rfl)
theorem dX1_init_189 : decode cX1_init 189 = .ok (.aload_n 0, 1) := dk_42 (dk_at dksX1_init_7 23 rfl rfl)
theorem dX1_init_190 : decode cX1_init 190 = .ok (.invokespecial 66, 3) := dk_183 0 66 (dk_at dksX1_init_8 0 rfl rfl)
theorem dX1_init_193 : decode cX1_init 193 = .ok (.aastore, 1) := dk_83 (dk_at dksX1_init_8 3 rfl rfl)
theorem dX1_init_194 : decode cX1_init 194 = .ok (.iinc 3 1, 3) := dk_132 3 1 (dk_at dksX1_init_8 4 rfl rfl)
theorem dX1_init_197 : decode cX1_init 197 = .ok (.goto (-23), 3) := dk_167 255 233 (dk_at dksX1_init_8 7 rfl rfl)
theorem dX1_init_200 : decode cX1_init 200 = .ok (.return_, 1) := dk_177 (dk_at dksX1_init_8 10 rfl rfl)
abbrev cX1_bound : ByteArray := prog_1_method_3_code
def yX1_bound : MethodName := ⟨RX1, "bound", "(III)I"⟩
def dkwX1_bound_0 : List UInt8 := [27, 28, 26, 184, 0, 74, 184, 0, 80, 172]
abbrev dktX1_bound_0 : List UInt8 := dkwX1_bound_0 ++ []
theorem dksX1_bound_0 : cX1_bound.data.toList.drop 0 = dktX1_bound_0 := by decide +kernel
theorem dX1_bound_0 : decode cX1_bound 0 = .ok (.iload_n 1, 1) := dk_27 (dk_at dksX1_bound_0 0 rfl rfl)
theorem dX1_bound_1 : decode cX1_bound 1 = .ok (.iload_n 2, 1) := dk_28 (dk_at dksX1_bound_0 1 rfl rfl)
theorem dX1_bound_2 : decode cX1_bound 2 = .ok (.iload_n 0, 1) := dk_26 (dk_at dksX1_bound_0 2 rfl rfl)
theorem dX1_bound_3 : decode cX1_bound 3 = .ok (.invokestatic 74, 3) := dk_184 0 74 (dk_at dksX1_bound_0 3 rfl rfl)
theorem dX1_bound_6 : decode cX1_bound 6 = .ok (.invokestatic 80, 3) := dk_184 0 80 (dk_at dksX1_bound_0 6 rfl rfl)
theorem dX1_bound_9 : decode cX1_bound 9 = .ok (.ireturn, 1) := dk_172 (dk_at dksX1_bound_0 9 rfl rfl)
abbrev cX1_undo : ByteArray := prog_1_method_7_code
def yX1_undo : MethodName := ⟨RX1, "undo", "()I"⟩
def dkwX1_undo_2 : List UInt8 := [180, 0, 86, 46, 182, 0, 97, 172]
abbrev dktX1_undo_2 : List UInt8 := dkwX1_undo_2 ++ []
def dkwX1_undo_1 : List UInt8 := [42, 180, 0, 67, 42, 180, 0, 18, 42, 180, 0, 86, 50, 182, 0, 89, 87, 42, 42, 180, 0, 22, 42]
abbrev dktX1_undo_1 : List UInt8 := dkwX1_undo_1 ++ dktX1_undo_2
def dkwX1_undo_0 : List UInt8 := [42, 180, 0, 86, 154, 0, 10, 42, 16, 252, 182, 0, 93, 172, 42, 89, 180, 0, 86, 4, 100, 181, 0, 86]
abbrev dktX1_undo_0 : List UInt8 := dkwX1_undo_0 ++ dktX1_undo_1
theorem dksX1_undo_0 : cX1_undo.data.toList.drop 0 = dktX1_undo_0 := by decide +kernel
theorem dksX1_undo_1 : cX1_undo.data.toList.drop 24 = dktX1_undo_1 := dk_seg dksX1_undo_0 24 rfl rfl
theorem dksX1_undo_2 : cX1_undo.data.toList.drop 47 = dktX1_undo_2 := dk_seg dksX1_undo_1 23 rfl rfl
theorem dX1_undo_0 : decode cX1_undo 0 = .ok (.aload_n 0, 1) := dk_42 (dk_at dksX1_undo_0 0 rfl rfl)
theorem dX1_undo_1 : decode cX1_undo 1 = .ok (.getfield 86, 3) := dk_180 0 86 (dk_at dksX1_undo_0 1 rfl rfl)
theorem dX1_undo_4 : decode cX1_undo 4 = .ok (.ifCond .ne 10, 3) := dk_154 0 10 (dk_at dksX1_undo_0 4 rfl rfl)
theorem dX1_undo_7 : decode cX1_undo 7 = .ok (.aload_n 0, 1) := dk_42 (dk_at dksX1_undo_0 7 rfl rfl)
theorem dX1_undo_8 : decode cX1_undo 8 = .ok (.bipush (-4), 2) := dk_16 252 (dk_at dksX1_undo_0 8 rfl rfl)
theorem dX1_undo_10 : decode cX1_undo 10 = .ok (.invokevirtual 93, 3) := dk_182 0 93 (dk_at dksX1_undo_0 10 rfl rfl)
theorem dX1_undo_13 : decode cX1_undo 13 = .ok (.ireturn, 1) := dk_172 (dk_at dksX1_undo_0 13 rfl rfl)
theorem dX1_undo_14 : decode cX1_undo 14 = .ok (.aload_n 0, 1) := dk_42 (dk_at dksX1_undo_0 14 rfl rfl)
theorem dX1_undo_15 : decode cX1_undo 15 = .ok (.dup, 1) := dk_89 (dk_at dksX1_undo_0 15 rfl rfl)
theorem dX1_undo_16 : decode cX1_undo 16 = .ok (.getfield 86, 3) := dk_180 0 86 (dk_at dksX1_undo_0 16 rfl rfl)
theorem dX1_undo_19 : decode cX1_undo 19 = .ok (.iconst 1, 1) := dk_4 (dk_at dksX1_undo_0 19 rfl rfl)
theorem dX1_undo_20 : decode cX1_undo 20 = .ok (.isub, 1) := dk_100 (dk_at dksX1_undo_0 20 rfl rfl)
theorem dX1_undo_21 : decode cX1_undo 21 = .ok (.putfield 86, 3) := dk_181 0 86 (dk_at dksX1_undo_0 21 rfl rfl)
theorem dX1_undo_24 : decode cX1_undo 24 = .ok (.aload_n 0, 1) := dk_42 (dk_at dksX1_undo_1 0 rfl rfl)
theorem dX1_undo_25 : decode cX1_undo 25 = .ok (.getfield 67, 3) := dk_180 0 67 (dk_at dksX1_undo_1 1 rfl rfl)
theorem dX1_undo_28 : decode cX1_undo 28 = .ok (.aload_n 0, 1) := dk_42 (dk_at dksX1_undo_1 4 rfl rfl)
theorem dX1_undo_29 : decode cX1_undo 29 = .ok (.getfield 18, 3) := dk_180 0 18 (dk_at dksX1_undo_1 5 rfl rfl)
theorem dX1_undo_32 : decode cX1_undo 32 = .ok (.aload_n 0, 1) := dk_42 (dk_at dksX1_undo_1 8 rfl rfl)
theorem dX1_undo_33 : decode cX1_undo 33 = .ok (.getfield 86, 3) := dk_180 0 86 (dk_at dksX1_undo_1 9 rfl rfl)
theorem dX1_undo_36 : decode cX1_undo 36 = .ok (.aaload, 1) := dk_50 (dk_at dksX1_undo_1 12 rfl rfl)
theorem dX1_undo_37 : decode cX1_undo 37 = .ok (.invokevirtual 89, 3) := dk_182 0 89 (dk_at dksX1_undo_1 13 rfl rfl)
theorem dX1_undo_40 : decode cX1_undo 40 = .ok (.pop, 1) := dk_87 (dk_at dksX1_undo_1 16 rfl rfl)
theorem dX1_undo_41 : decode cX1_undo 41 = .ok (.aload_n 0, 1) := dk_42 (dk_at dksX1_undo_1 17 rfl rfl)
theorem dX1_undo_42 : decode cX1_undo 42 = .ok (.aload_n 0, 1) := dk_42 (dk_at dksX1_undo_1 18 rfl rfl)
theorem dX1_undo_43 : decode cX1_undo 43 = .ok (.getfield 22, 3) := dk_180 0 22 (dk_at dksX1_undo_1 19 rfl rfl)
theorem dX1_undo_46 : decode cX1_undo 46 = .ok (.aload_n 0, 1) := dk_42 (dk_at dksX1_undo_1 22 rfl rfl)
theorem dX1_undo_47 : decode cX1_undo 47 = .ok (.getfield 86, 3) := dk_180 0 86 (dk_at dksX1_undo_2 0 rfl rfl)
theorem dX1_undo_50 : decode cX1_undo 50 = .ok (.iaload, 1) := dk_46 (dk_at dksX1_undo_2 3 rfl rfl)
theorem dX1_undo_51 : decode cX1_undo 51 = .ok (.invokevirtual 97, 3) := dk_182 0 97 (dk_at dksX1_undo_2 4 rfl rfl)
theorem dX1_undo_54 : decode cX1_undo 54 = .ok (.ireturn, 1) := dk_172 (dk_at dksX1_undo_2 7 rfl rfl)
abbrev cX1_refuse : ByteArray := prog_1_method_4_code
def yX1_refuse : MethodName := ⟨RX1, "refuse", "(I)I"⟩
def dkwX1_refuse_0 : List UInt8 := [42, 27, 181, 0, 83, 42, 180, 0, 7, 27, 116, 92, 46, 4, 96, 79, 27, 172]
abbrev dktX1_refuse_0 : List UInt8 := dkwX1_refuse_0 ++ []
theorem dksX1_refuse_0 : cX1_refuse.data.toList.drop 0 = dktX1_refuse_0 := by decide +kernel
theorem dX1_refuse_0 : decode cX1_refuse 0 = .ok (.aload_n 0, 1) := dk_42 (dk_at dksX1_refuse_0 0 rfl rfl)
theorem dX1_refuse_1 : decode cX1_refuse 1 = .ok (.iload_n 1, 1) := dk_27 (dk_at dksX1_refuse_0 1 rfl rfl)
theorem dX1_refuse_2 : decode cX1_refuse 2 = .ok (.putfield 83, 3) := dk_181 0 83 (dk_at dksX1_refuse_0 2 rfl rfl)
theorem dX1_refuse_5 : decode cX1_refuse 5 = .ok (.aload_n 0, 1) := dk_42 (dk_at dksX1_refuse_0 5 rfl rfl)
theorem dX1_refuse_6 : decode cX1_refuse 6 = .ok (.getfield 7, 3) := dk_180 0 7 (dk_at dksX1_refuse_0 6 rfl rfl)
theorem dX1_refuse_9 : decode cX1_refuse 9 = .ok (.iload_n 1, 1) := dk_27 (dk_at dksX1_refuse_0 9 rfl rfl)
theorem dX1_refuse_10 : decode cX1_refuse 10 = .ok (.ineg, 1) := dk_116 (dk_at dksX1_refuse_0 10 rfl rfl)
theorem dX1_refuse_11 : decode cX1_refuse 11 = .ok (.dup2, 1) := dk_92 (dk_at dksX1_refuse_0 11 rfl rfl)
theorem dX1_refuse_12 : decode cX1_refuse 12 = .ok (.iaload, 1) := dk_46 (dk_at dksX1_refuse_0 12 rfl rfl)
theorem dX1_refuse_13 : decode cX1_refuse 13 = .ok (.iconst 1, 1) := dk_4 (dk_at dksX1_refuse_0 13 rfl rfl)
theorem dX1_refuse_14 : decode cX1_refuse 14 = .ok (.iadd, 1) := dk_96 (dk_at dksX1_refuse_0 14 rfl rfl)
theorem dX1_refuse_15 : decode cX1_refuse 15 = .ok (.iastore, 1) := dk_79 (dk_at dksX1_refuse_0 15 rfl rfl)
theorem dX1_refuse_16 : decode cX1_refuse 16 = .ok (.iload_n 1, 1) := dk_27 (dk_at dksX1_refuse_0 16 rfl rfl)
theorem dX1_refuse_17 : decode cX1_refuse 17 = .ok (.ireturn, 1) := dk_172 (dk_at dksX1_refuse_0 17 rfl rfl)
abbrev cX1_done : ByteArray := prog_1_method_5_code
def yX1_done : MethodName := ⟨RX1, "done", "(I)I"⟩
def dkwX1_done_0 : List UInt8 := [42, 3, 181, 0, 83, 27, 172]
abbrev dktX1_done_0 : List UInt8 := dkwX1_done_0 ++ []
theorem dksX1_done_0 : cX1_done.data.toList.drop 0 = dktX1_done_0 := by decide +kernel
theorem dX1_done_0 : decode cX1_done 0 = .ok (.aload_n 0, 1) := dk_42 (dk_at dksX1_done_0 0 rfl rfl)
theorem dX1_done_1 : decode cX1_done 1 = .ok (.iconst 0, 1) := dk_3 (dk_at dksX1_done_0 1 rfl rfl)
theorem dX1_done_2 : decode cX1_done 2 = .ok (.putfield 83, 3) := dk_181 0 83 (dk_at dksX1_done_0 2 rfl rfl)
theorem dX1_done_5 : decode cX1_done 5 = .ok (.iload_n 1, 1) := dk_27 (dk_at dksX1_done_0 5 rfl rfl)
theorem dX1_done_6 : decode cX1_done 6 = .ok (.ireturn, 1) := dk_172 (dk_at dksX1_done_0 6 rfl rfl)
abbrev cX1_terms : ByteArray := prog_1_method_12_code
def yX1_terms : MethodName := ⟨RX1, "terms", "(II)I"⟩
def dkwX1_terms_2 : List UInt8 := [182, 0, 97, 172]
abbrev dktX1_terms_2 : List UInt8 := dkwX1_terms_2 ++ []
def dkwX1_terms_1 : List UInt8 := [42, 2, 182, 0, 93, 172, 42, 180, 0, 13, 27, 46, 62, 42, 180, 0, 13, 27, 28, 79, 42, 29]
abbrev dktX1_terms_1 : List UInt8 := dkwX1_terms_1 ++ dktX1_terms_2
def dkwX1_terms_0 : List UInt8 := [27, 3, 8, 184, 0, 103, 153, 0, 18, 28, 27, 184, 0, 113, 27, 184, 0, 116, 184, 0, 103, 154, 0, 9]
abbrev dktX1_terms_0 : List UInt8 := dkwX1_terms_0 ++ dktX1_terms_1
theorem dksX1_terms_0 : cX1_terms.data.toList.drop 0 = dktX1_terms_0 := by decide +kernel
theorem dksX1_terms_1 : cX1_terms.data.toList.drop 24 = dktX1_terms_1 := dk_seg dksX1_terms_0 24 rfl rfl
theorem dksX1_terms_2 : cX1_terms.data.toList.drop 46 = dktX1_terms_2 := dk_seg dksX1_terms_1 22 rfl rfl
theorem dX1_terms_0 : decode cX1_terms 0 = .ok (.iload_n 1, 1) := dk_27 (dk_at dksX1_terms_0 0 rfl rfl)
theorem dX1_terms_1 : decode cX1_terms 1 = .ok (.iconst 0, 1) := dk_3 (dk_at dksX1_terms_0 1 rfl rfl)
theorem dX1_terms_2 : decode cX1_terms 2 = .ok (.iconst 5, 1) := dk_8 (dk_at dksX1_terms_0 2 rfl rfl)
theorem dX1_terms_3 : decode cX1_terms 3 = .ok (.invokestatic 103, 3) := dk_184 0 103 (dk_at dksX1_terms_0 3 rfl rfl)
theorem dX1_terms_6 : decode cX1_terms 6 = .ok (.ifCond .eq 18, 3) := dk_153 0 18 (dk_at dksX1_terms_0 6 rfl rfl)
theorem dX1_terms_9 : decode cX1_terms 9 = .ok (.iload_n 2, 1) := dk_28 (dk_at dksX1_terms_0 9 rfl rfl)
theorem dX1_terms_10 : decode cX1_terms 10 = .ok (.iload_n 1, 1) := dk_27 (dk_at dksX1_terms_0 10 rfl rfl)
theorem dX1_terms_11 : decode cX1_terms 11 = .ok (.invokestatic 113, 3) := dk_184 0 113 (dk_at dksX1_terms_0 11 rfl rfl)
theorem dX1_terms_14 : decode cX1_terms 14 = .ok (.iload_n 1, 1) := dk_27 (dk_at dksX1_terms_0 14 rfl rfl)
theorem dX1_terms_15 : decode cX1_terms 15 = .ok (.invokestatic 116, 3) := dk_184 0 116 (dk_at dksX1_terms_0 15 rfl rfl)
theorem dX1_terms_18 : decode cX1_terms 18 = .ok (.invokestatic 103, 3) := dk_184 0 103 (dk_at dksX1_terms_0 18 rfl rfl)
theorem dX1_terms_21 : decode cX1_terms 21 = .ok (.ifCond .ne 9, 3) := dk_154 0 9 (dk_at dksX1_terms_0 21 rfl rfl)
theorem dX1_terms_24 : decode cX1_terms 24 = .ok (.aload_n 0, 1) := dk_42 (dk_at dksX1_terms_1 0 rfl rfl)
theorem dX1_terms_25 : decode cX1_terms 25 = .ok (.iconst (-1), 1) := dk_2 (dk_at dksX1_terms_1 1 rfl rfl)
theorem dX1_terms_26 : decode cX1_terms 26 = .ok (.invokevirtual 93, 3) := dk_182 0 93 (dk_at dksX1_terms_1 2 rfl rfl)
theorem dX1_terms_29 : decode cX1_terms 29 = .ok (.ireturn, 1) := dk_172 (dk_at dksX1_terms_1 5 rfl rfl)
theorem dX1_terms_30 : decode cX1_terms 30 = .ok (.aload_n 0, 1) := dk_42 (dk_at dksX1_terms_1 6 rfl rfl)
theorem dX1_terms_31 : decode cX1_terms 31 = .ok (.getfield 13, 3) := dk_180 0 13 (dk_at dksX1_terms_1 7 rfl rfl)
theorem dX1_terms_34 : decode cX1_terms 34 = .ok (.iload_n 1, 1) := dk_27 (dk_at dksX1_terms_1 10 rfl rfl)
theorem dX1_terms_35 : decode cX1_terms 35 = .ok (.iaload, 1) := dk_46 (dk_at dksX1_terms_1 11 rfl rfl)
theorem dX1_terms_36 : decode cX1_terms 36 = .ok (.istore_n 3, 1) := dk_62 (dk_at dksX1_terms_1 12 rfl rfl)
theorem dX1_terms_37 : decode cX1_terms 37 = .ok (.aload_n 0, 1) := dk_42 (dk_at dksX1_terms_1 13 rfl rfl)
theorem dX1_terms_38 : decode cX1_terms 38 = .ok (.getfield 13, 3) := dk_180 0 13 (dk_at dksX1_terms_1 14 rfl rfl)
theorem dX1_terms_41 : decode cX1_terms 41 = .ok (.iload_n 1, 1) := dk_27 (dk_at dksX1_terms_1 17 rfl rfl)
theorem dX1_terms_42 : decode cX1_terms 42 = .ok (.iload_n 2, 1) := dk_28 (dk_at dksX1_terms_1 18 rfl rfl)
theorem dX1_terms_43 : decode cX1_terms 43 = .ok (.iastore, 1) := dk_79 (dk_at dksX1_terms_1 19 rfl rfl)
theorem dX1_terms_44 : decode cX1_terms 44 = .ok (.aload_n 0, 1) := dk_42 (dk_at dksX1_terms_1 20 rfl rfl)
theorem dX1_terms_45 : decode cX1_terms 45 = .ok (.iload_n 3, 1) := dk_29 (dk_at dksX1_terms_1 21 rfl rfl)
theorem dX1_terms_46 : decode cX1_terms 46 = .ok (.invokevirtual 97, 3) := dk_182 0 97 (dk_at dksX1_terms_2 0 rfl rfl)
theorem dX1_terms_49 : decode cX1_terms 49 = .ok (.ireturn, 1) := dk_172 (dk_at dksX1_terms_2 3 rfl rfl)
abbrev cX1_in : ByteArray := prog_1_method_2_code
def yX1_in : MethodName := ⟨RX1, "in", "(III)Z"⟩
def dkwX1_in_0 : List UInt8 := [26, 27, 161, 0, 12, 26, 28, 163, 0, 7, 4, 167, 0, 4, 3, 172]
abbrev dktX1_in_0 : List UInt8 := dkwX1_in_0 ++ []
theorem dksX1_in_0 : cX1_in.data.toList.drop 0 = dktX1_in_0 := by decide +kernel
theorem dX1_in_0 : decode cX1_in 0 = .ok (.iload_n 0, 1) := dk_26 (dk_at dksX1_in_0 0 rfl rfl)
theorem dX1_in_1 : decode cX1_in 1 = .ok (.iload_n 1, 1) := dk_27 (dk_at dksX1_in_0 1 rfl rfl)
theorem dX1_in_2 : decode cX1_in 2 = .ok (.if_icmp .lt 12, 3) := dk_161 0 12 (dk_at dksX1_in_0 2 rfl rfl)
theorem dX1_in_5 : decode cX1_in 5 = .ok (.iload_n 0, 1) := dk_26 (dk_at dksX1_in_0 5 rfl rfl)
theorem dX1_in_6 : decode cX1_in 6 = .ok (.iload_n 2, 1) := dk_28 (dk_at dksX1_in_0 6 rfl rfl)
theorem dX1_in_7 : decode cX1_in 7 = .ok (.if_icmp .gt 7, 3) := dk_163 0 7 (dk_at dksX1_in_0 7 rfl rfl)
theorem dX1_in_10 : decode cX1_in 10 = .ok (.iconst 1, 1) := dk_4 (dk_at dksX1_in_0 10 rfl rfl)
theorem dX1_in_11 : decode cX1_in 11 = .ok (.goto 4, 3) := dk_167 0 4 (dk_at dksX1_in_0 11 rfl rfl)
theorem dX1_in_14 : decode cX1_in 14 = .ok (.iconst 0, 1) := dk_3 (dk_at dksX1_in_0 14 rfl rfl)
theorem dX1_in_15 : decode cX1_in 15 = .ok (.ireturn, 1) := dk_172 (dk_at dksX1_in_0 15 rfl rfl)
abbrev cX1_leastTerm : ByteArray := prog_1_method_13_code
def yX1_leastTerm : MethodName := ⟨RX1, "leastTerm", "(I)I"⟩
def dkwX1_leastTerm_0 : List UInt8 := [26, 4, 160, 0, 8, 16, 10, 167, 0, 13, 26, 5, 160, 0, 7, 3, 167, 0, 4, 4, 172]
abbrev dktX1_leastTerm_0 : List UInt8 := dkwX1_leastTerm_0 ++ []
theorem dksX1_leastTerm_0 : cX1_leastTerm.data.toList.drop 0 = dktX1_leastTerm_0 := by decide +kernel
theorem dX1_leastTerm_0 : decode cX1_leastTerm 0 = .ok (.iload_n 0, 1) := dk_26 (dk_at dksX1_leastTerm_0 0 rfl rfl)
theorem dX1_leastTerm_1 : decode cX1_leastTerm 1 = .ok (.iconst 1, 1) := dk_4 (dk_at dksX1_leastTerm_0 1 rfl rfl)
theorem dX1_leastTerm_2 : decode cX1_leastTerm 2 = .ok (.if_icmp .ne 8, 3) := dk_160 0 8 (dk_at dksX1_leastTerm_0 2 rfl rfl)
theorem dX1_leastTerm_5 : decode cX1_leastTerm 5 = .ok (.bipush 10, 2) := dk_16 10 (dk_at dksX1_leastTerm_0 5 rfl rfl)
theorem dX1_leastTerm_7 : decode cX1_leastTerm 7 = .ok (.goto 13, 3) := dk_167 0 13 (dk_at dksX1_leastTerm_0 7 rfl rfl)
theorem dX1_leastTerm_10 : decode cX1_leastTerm 10 = .ok (.iload_n 0, 1) := dk_26 (dk_at dksX1_leastTerm_0 10 rfl rfl)
theorem dX1_leastTerm_11 : decode cX1_leastTerm 11 = .ok (.iconst 2, 1) := dk_5 (dk_at dksX1_leastTerm_0 11 rfl rfl)
theorem dX1_leastTerm_12 : decode cX1_leastTerm 12 = .ok (.if_icmp .ne 7, 3) := dk_160 0 7 (dk_at dksX1_leastTerm_0 12 rfl rfl)
theorem dX1_leastTerm_15 : decode cX1_leastTerm 15 = .ok (.iconst 0, 1) := dk_3 (dk_at dksX1_leastTerm_0 15 rfl rfl)
theorem dX1_leastTerm_16 : decode cX1_leastTerm 16 = .ok (.goto 4, 3) := dk_167 0 4 (dk_at dksX1_leastTerm_0 16 rfl rfl)
theorem dX1_leastTerm_19 : decode cX1_leastTerm 19 = .ok (.iconst 1, 1) := dk_4 (dk_at dksX1_leastTerm_0 19 rfl rfl)
theorem dX1_leastTerm_20 : decode cX1_leastTerm 20 = .ok (.ireturn, 1) := dk_172 (dk_at dksX1_leastTerm_0 20 rfl rfl)
abbrev cX1_mostTerm : ByteArray := prog_1_method_14_code
def yX1_mostTerm : MethodName := ⟨RX1, "mostTerm", "(I)I"⟩
def dkwX1_mostTerm_2 : List UInt8 := [16, 64, 172, 16, 100, 172, 16, 8, 172, 16, 99, 172]
abbrev dktX1_mostTerm_2 : List UInt8 := dkwX1_mostTerm_2 ++ []
def dkwX1_mostTerm_1 : List UInt8 := [170, 0, 0, 0, 0, 0, 44, 0, 0, 0, 0, 0, 0, 0, 4, 0, 0, 0, 35, 0, 0, 0, 38, 0, 0, 0, 44, 0, 0, 0, 35, 0, 0, 0, 41]
abbrev dktX1_mostTerm_1 : List UInt8 := dkwX1_mostTerm_1 ++ dktX1_mostTerm_2
def dkwX1_mostTerm_0 : List UInt8 := [26]
abbrev dktX1_mostTerm_0 : List UInt8 := dkwX1_mostTerm_0 ++ dktX1_mostTerm_1
theorem dksX1_mostTerm_0 : cX1_mostTerm.data.toList.drop 0 = dktX1_mostTerm_0 := by decide +kernel
theorem dksX1_mostTerm_1 : cX1_mostTerm.data.toList.drop 1 = dktX1_mostTerm_1 := dk_seg dksX1_mostTerm_0 1 rfl rfl
theorem dksX1_mostTerm_2 : cX1_mostTerm.data.toList.drop 36 = dktX1_mostTerm_2 := dk_seg dksX1_mostTerm_1 35 rfl rfl
theorem dX1_mostTerm_0 : decode cX1_mostTerm 0 = .ok (.iload_n 0, 1) := dk_26 (dk_at dksX1_mostTerm_0 0 rfl rfl)
theorem dX1_mostTerm_1 : decode cX1_mostTerm 1 = .ok (.tableswitch 44 0 4 #[35, 38, 44, 35, 41], 35) := by decide +kernel
theorem dX1_mostTerm_36 : decode cX1_mostTerm 36 = .ok (.bipush 64, 2) := dk_16 64 (dk_at dksX1_mostTerm_2 0 rfl rfl)
theorem dX1_mostTerm_38 : decode cX1_mostTerm 38 = .ok (.ireturn, 1) := dk_172 (dk_at dksX1_mostTerm_2 2 rfl rfl)
theorem dX1_mostTerm_39 : decode cX1_mostTerm 39 = .ok (.bipush 100, 2) := dk_16 100 (dk_at dksX1_mostTerm_2 3 rfl rfl)
theorem dX1_mostTerm_41 : decode cX1_mostTerm 41 = .ok (.ireturn, 1) := dk_172 (dk_at dksX1_mostTerm_2 5 rfl rfl)
theorem dX1_mostTerm_42 : decode cX1_mostTerm 42 = .ok (.bipush 8, 2) := dk_16 8 (dk_at dksX1_mostTerm_2 6 rfl rfl)
theorem dX1_mostTerm_44 : decode cX1_mostTerm 44 = .ok (.ireturn, 1) := dk_172 (dk_at dksX1_mostTerm_2 8 rfl rfl)
theorem dX1_mostTerm_45 : decode cX1_mostTerm 45 = .ok (.bipush 99, 2) := dk_16 99 (dk_at dksX1_mostTerm_2 9 rfl rfl)
theorem dX1_mostTerm_47 : decode cX1_mostTerm 47 = .ok (.ireturn, 1) := dk_172 (dk_at dksX1_mostTerm_2 11 rfl rfl)
abbrev cX1_feed : ByteArray := prog_1_method_15_code
def yX1_feed : MethodName := ⟨RX1, "feed", "(IIIII)I"⟩
def dkwX1_feed_1 : List UInt8 := [42, 29, 182, 0, 122, 42, 21, 4, 182, 0, 122, 42, 21, 5, 182, 0, 122, 42, 180, 0, 119, 172]
abbrev dktX1_feed_1 : List UInt8 := dkwX1_feed_1 ++ []
def dkwX1_feed_0 : List UInt8 := [42, 180, 0, 119, 16, 20, 96, 16, 100, 164, 0, 5, 2, 172, 42, 27, 182, 0, 122, 42, 28, 182, 0, 122]
abbrev dktX1_feed_0 : List UInt8 := dkwX1_feed_0 ++ dktX1_feed_1
theorem dksX1_feed_0 : cX1_feed.data.toList.drop 0 = dktX1_feed_0 := by decide +kernel
theorem dksX1_feed_1 : cX1_feed.data.toList.drop 24 = dktX1_feed_1 := dk_seg dksX1_feed_0 24 rfl rfl
theorem dX1_feed_0 : decode cX1_feed 0 = .ok (.aload_n 0, 1) := dk_42 (dk_at dksX1_feed_0 0 rfl rfl)
theorem dX1_feed_1 : decode cX1_feed 1 = .ok (.getfield 119, 3) := dk_180 0 119 (dk_at dksX1_feed_0 1 rfl rfl)
theorem dX1_feed_4 : decode cX1_feed 4 = .ok (.bipush 20, 2) := dk_16 20 (dk_at dksX1_feed_0 4 rfl rfl)
theorem dX1_feed_6 : decode cX1_feed 6 = .ok (.iadd, 1) := dk_96 (dk_at dksX1_feed_0 6 rfl rfl)
theorem dX1_feed_7 : decode cX1_feed 7 = .ok (.bipush 100, 2) := dk_16 100 (dk_at dksX1_feed_0 7 rfl rfl)
theorem dX1_feed_9 : decode cX1_feed 9 = .ok (.if_icmp .le 5, 3) := dk_164 0 5 (dk_at dksX1_feed_0 9 rfl rfl)
theorem dX1_feed_12 : decode cX1_feed 12 = .ok (.iconst (-1), 1) := dk_2 (dk_at dksX1_feed_0 12 rfl rfl)
theorem dX1_feed_13 : decode cX1_feed 13 = .ok (.ireturn, 1) := dk_172 (dk_at dksX1_feed_0 13 rfl rfl)
theorem dX1_feed_14 : decode cX1_feed 14 = .ok (.aload_n 0, 1) := dk_42 (dk_at dksX1_feed_0 14 rfl rfl)
theorem dX1_feed_15 : decode cX1_feed 15 = .ok (.iload_n 1, 1) := dk_27 (dk_at dksX1_feed_0 15 rfl rfl)
theorem dX1_feed_16 : decode cX1_feed 16 = .ok (.invokevirtual 122, 3) := dk_182 0 122 (dk_at dksX1_feed_0 16 rfl rfl)
theorem dX1_feed_19 : decode cX1_feed 19 = .ok (.aload_n 0, 1) := dk_42 (dk_at dksX1_feed_0 19 rfl rfl)
theorem dX1_feed_20 : decode cX1_feed 20 = .ok (.iload_n 2, 1) := dk_28 (dk_at dksX1_feed_0 20 rfl rfl)
theorem dX1_feed_21 : decode cX1_feed 21 = .ok (.invokevirtual 122, 3) := dk_182 0 122 (dk_at dksX1_feed_0 21 rfl rfl)
theorem dX1_feed_24 : decode cX1_feed 24 = .ok (.aload_n 0, 1) := dk_42 (dk_at dksX1_feed_1 0 rfl rfl)
theorem dX1_feed_25 : decode cX1_feed 25 = .ok (.iload_n 3, 1) := dk_29 (dk_at dksX1_feed_1 1 rfl rfl)
theorem dX1_feed_26 : decode cX1_feed 26 = .ok (.invokevirtual 122, 3) := dk_182 0 122 (dk_at dksX1_feed_1 2 rfl rfl)
theorem dX1_feed_29 : decode cX1_feed 29 = .ok (.aload_n 0, 1) := dk_42 (dk_at dksX1_feed_1 5 rfl rfl)
theorem dX1_feed_30 : decode cX1_feed 30 = .ok (.iload 4, 2) := dk_21 4 (dk_at dksX1_feed_1 6 rfl rfl)
theorem dX1_feed_32 : decode cX1_feed 32 = .ok (.invokevirtual 122, 3) := dk_182 0 122 (dk_at dksX1_feed_1 8 rfl rfl)
theorem dX1_feed_35 : decode cX1_feed 35 = .ok (.aload_n 0, 1) := dk_42 (dk_at dksX1_feed_1 11 rfl rfl)
theorem dX1_feed_36 : decode cX1_feed 36 = .ok (.iload 5, 2) := dk_21 5 (dk_at dksX1_feed_1 12 rfl rfl)
theorem dX1_feed_38 : decode cX1_feed 38 = .ok (.invokevirtual 122, 3) := dk_182 0 122 (dk_at dksX1_feed_1 14 rfl rfl)
theorem dX1_feed_41 : decode cX1_feed 41 = .ok (.aload_n 0, 1) := dk_42 (dk_at dksX1_feed_1 17 rfl rfl)
theorem dX1_feed_42 : decode cX1_feed 42 = .ok (.getfield 119, 3) := dk_180 0 119 (dk_at dksX1_feed_1 18 rfl rfl)
theorem dX1_feed_45 : decode cX1_feed 45 = .ok (.ireturn, 1) := dk_172 (dk_at dksX1_feed_1 21 rfl rfl)
abbrev cX1_four : ByteArray := prog_1_method_16_code
def yX1_four : MethodName := ⟨RX1, "four", "(I)V"⟩
def dkwX1_four_1 : List UInt8 := [180, 0, 119, 4, 96, 181, 0, 119, 132, 2, 248, 167, 255, 226, 177]
abbrev dktX1_four_1 : List UInt8 := dkwX1_four_1 ++ []
def dkwX1_four_0 : List UInt8 := [16, 24, 61, 28, 155, 0, 32, 42, 180, 0, 25, 42, 180, 0, 119, 27, 28, 122, 145, 84, 42, 89]
abbrev dktX1_four_0 : List UInt8 := dkwX1_four_0 ++ dktX1_four_1
theorem dksX1_four_0 : cX1_four.data.toList.drop 0 = dktX1_four_0 := by decide +kernel
theorem dksX1_four_1 : cX1_four.data.toList.drop 22 = dktX1_four_1 := dk_seg dksX1_four_0 22 rfl rfl
theorem dX1_four_0 : decode cX1_four 0 = .ok (.bipush 24, 2) := dk_16 24 (dk_at dksX1_four_0 0 rfl rfl)
theorem dX1_four_2 : decode cX1_four 2 = .ok (.istore_n 2, 1) := dk_61 (dk_at dksX1_four_0 2 rfl rfl)
theorem dX1_four_3 : decode cX1_four 3 = .ok (.iload_n 2, 1) := dk_28 (dk_at dksX1_four_0 3 rfl rfl)
theorem dX1_four_4 : decode cX1_four 4 = .ok (.ifCond .lt 32, 3) := dk_155 0 32 (dk_at dksX1_four_0 4 rfl rfl)
theorem dX1_four_7 : decode cX1_four 7 = .ok (.aload_n 0, 1) := dk_42 (dk_at dksX1_four_0 7 rfl rfl)
theorem dX1_four_8 : decode cX1_four 8 = .ok (.getfield 25, 3) := dk_180 0 25 (dk_at dksX1_four_0 8 rfl rfl)
theorem dX1_four_11 : decode cX1_four 11 = .ok (.aload_n 0, 1) := dk_42 (dk_at dksX1_four_0 11 rfl rfl)
theorem dX1_four_12 : decode cX1_four 12 = .ok (.getfield 119, 3) := dk_180 0 119 (dk_at dksX1_four_0 12 rfl rfl)
theorem dX1_four_15 : decode cX1_four 15 = .ok (.iload_n 1, 1) := dk_27 (dk_at dksX1_four_0 15 rfl rfl)
theorem dX1_four_16 : decode cX1_four 16 = .ok (.iload_n 2, 1) := dk_28 (dk_at dksX1_four_0 16 rfl rfl)
theorem dX1_four_17 : decode cX1_four 17 = .ok (.ishr, 1) := dk_122 (dk_at dksX1_four_0 17 rfl rfl)
theorem dX1_four_18 : decode cX1_four 18 = .ok (.i2b, 1) := dk_145 (dk_at dksX1_four_0 18 rfl rfl)
theorem dX1_four_19 : decode cX1_four 19 = .ok (.bastore, 1) := dk_84 (dk_at dksX1_four_0 19 rfl rfl)
theorem dX1_four_20 : decode cX1_four 20 = .ok (.aload_n 0, 1) := dk_42 (dk_at dksX1_four_0 20 rfl rfl)
theorem dX1_four_21 : decode cX1_four 21 = .ok (.dup, 1) := dk_89 (dk_at dksX1_four_0 21 rfl rfl)
theorem dX1_four_22 : decode cX1_four 22 = .ok (.getfield 119, 3) := dk_180 0 119 (dk_at dksX1_four_1 0 rfl rfl)
theorem dX1_four_25 : decode cX1_four 25 = .ok (.iconst 1, 1) := dk_4 (dk_at dksX1_four_1 3 rfl rfl)
theorem dX1_four_26 : decode cX1_four 26 = .ok (.iadd, 1) := dk_96 (dk_at dksX1_four_1 4 rfl rfl)
theorem dX1_four_27 : decode cX1_four 27 = .ok (.putfield 119, 3) := dk_181 0 119 (dk_at dksX1_four_1 5 rfl rfl)
theorem dX1_four_30 : decode cX1_four 30 = .ok (.iinc 2 (-8), 3) := dk_132 2 248 (dk_at dksX1_four_1 8 rfl rfl)
theorem dX1_four_33 : decode cX1_four 33 = .ok (.goto (-30), 3) := dk_167 255 226 (dk_at dksX1_four_1 11 rfl rfl)
theorem dX1_four_36 : decode cX1_four 36 = .ok (.return_, 1) := dk_177 (dk_at dksX1_four_1 14 rfl rfl)
abbrev cX1_end : ByteArray := prog_1_method_17_code
def yX1_end : MethodName := ⟨RX1, "end", "(I)I"⟩
def dkwX1_end_0 : List UInt8 := [27, 155, 0, 11, 27, 42, 180, 0, 119, 164, 0, 5, 2, 172, 42, 27, 181, 0, 119, 27, 172]
abbrev dktX1_end_0 : List UInt8 := dkwX1_end_0 ++ []
theorem dksX1_end_0 : cX1_end.data.toList.drop 0 = dktX1_end_0 := by decide +kernel
theorem dX1_end_0 : decode cX1_end 0 = .ok (.iload_n 1, 1) := dk_27 (dk_at dksX1_end_0 0 rfl rfl)
theorem dX1_end_1 : decode cX1_end 1 = .ok (.ifCond .lt 11, 3) := dk_155 0 11 (dk_at dksX1_end_0 1 rfl rfl)
theorem dX1_end_4 : decode cX1_end 4 = .ok (.iload_n 1, 1) := dk_27 (dk_at dksX1_end_0 4 rfl rfl)
theorem dX1_end_5 : decode cX1_end 5 = .ok (.aload_n 0, 1) := dk_42 (dk_at dksX1_end_0 5 rfl rfl)
theorem dX1_end_6 : decode cX1_end 6 = .ok (.getfield 119, 3) := dk_180 0 119 (dk_at dksX1_end_0 6 rfl rfl)
theorem dX1_end_9 : decode cX1_end 9 = .ok (.if_icmp .le 5, 3) := dk_164 0 5 (dk_at dksX1_end_0 9 rfl rfl)
theorem dX1_end_12 : decode cX1_end 12 = .ok (.iconst (-1), 1) := dk_2 (dk_at dksX1_end_0 12 rfl rfl)
theorem dX1_end_13 : decode cX1_end 13 = .ok (.ireturn, 1) := dk_172 (dk_at dksX1_end_0 13 rfl rfl)
theorem dX1_end_14 : decode cX1_end 14 = .ok (.aload_n 0, 1) := dk_42 (dk_at dksX1_end_0 14 rfl rfl)
theorem dX1_end_15 : decode cX1_end 15 = .ok (.iload_n 1, 1) := dk_27 (dk_at dksX1_end_0 15 rfl rfl)
theorem dX1_end_16 : decode cX1_end 16 = .ok (.putfield 119, 3) := dk_181 0 119 (dk_at dksX1_end_0 16 rfl rfl)
theorem dX1_end_19 : decode cX1_end 19 = .ok (.iload_n 1, 1) := dk_27 (dk_at dksX1_end_0 19 rfl rfl)
theorem dX1_end_20 : decode cX1_end 20 = .ok (.ireturn, 1) := dk_172 (dk_at dksX1_end_0 20 rfl rfl)
abbrev cX1_block : ByteArray := prog_1_method_21_code
def yX1_block : MethodName := ⟨RX1, "block", "(IIIII)I"⟩
def dkwX1_block_6 : List UInt8 := [182, 0, 97, 172]
abbrev dktX1_block_6 : List UInt8 := dkwX1_block_6 ++ []
def dkwX1_block_5 : List UInt8 := [4, 96, 181, 0, 157, 42, 180, 0, 67, 182, 0, 170, 42, 42, 180, 0, 67, 180, 0, 157, 4, 100]
abbrev dktX1_block_5 : List UInt8 := dkwX1_block_5 ++ dktX1_block_6
def dkwX1_block_4 : List UInt8 := [180, 0, 163, 42, 180, 0, 67, 180, 0, 157, 50, 25, 6, 182, 0, 167, 42, 180, 0, 67, 89, 180, 0, 157]
abbrev dktX1_block_4 : List UInt8 := dkwX1_block_4 ++ dktX1_block_5
def dkwX1_block_3 : List UInt8 := [180, 0, 157, 7, 160, 0, 10, 42, 16, 251, 182, 0, 93, 172, 42, 3, 182, 0, 160, 42, 180, 0, 67]
abbrev dktX1_block_3 : List UInt8 := dkwX1_block_3 ++ dktX1_block_4
def dkwX1_block_2 : List UInt8 := [182, 0, 149, 42, 25, 6, 4, 182, 0, 153, 153, 0, 10, 42, 16, 252, 182, 0, 93, 172, 42, 180, 0, 67]
abbrev dktX1_block_2 : List UInt8 := dkwX1_block_2 ++ dktX1_block_3
def dkwX1_block_1 : List UInt8 := [182, 0, 93, 172, 187, 0, 127, 89, 183, 0, 148, 58, 6, 25, 6, 27, 28, 29, 21, 4, 21, 5]
abbrev dktX1_block_1 : List UInt8 := dkwX1_block_1 ++ dktX1_block_2
def dkwX1_block_0 : List UInt8 := [42, 27, 28, 29, 21, 4, 182, 0, 144, 153, 0, 13, 21, 5, 3, 7, 184, 0, 103, 154, 0, 9, 42, 2]
abbrev dktX1_block_0 : List UInt8 := dkwX1_block_0 ++ dktX1_block_1
theorem dksX1_block_0 : cX1_block.data.toList.drop 0 = dktX1_block_0 := by decide +kernel
theorem dksX1_block_1 : cX1_block.data.toList.drop 24 = dktX1_block_1 := dk_seg dksX1_block_0 24 rfl rfl
theorem dksX1_block_2 : cX1_block.data.toList.drop 46 = dktX1_block_2 := dk_seg dksX1_block_1 22 rfl rfl
theorem dksX1_block_3 : cX1_block.data.toList.drop 70 = dktX1_block_3 := dk_seg dksX1_block_2 24 rfl rfl
theorem dksX1_block_4 : cX1_block.data.toList.drop 93 = dktX1_block_4 := dk_seg dksX1_block_3 23 rfl rfl
theorem dksX1_block_5 : cX1_block.data.toList.drop 117 = dktX1_block_5 := dk_seg dksX1_block_4 24 rfl rfl
theorem dksX1_block_6 : cX1_block.data.toList.drop 139 = dktX1_block_6 := dk_seg dksX1_block_5 22 rfl rfl
theorem dX1_block_0 : decode cX1_block 0 = .ok (.aload_n 0, 1) := dk_42 (dk_at dksX1_block_0 0 rfl rfl)
theorem dX1_block_1 : decode cX1_block 1 = .ok (.iload_n 1, 1) := dk_27 (dk_at dksX1_block_0 1 rfl rfl)
theorem dX1_block_2 : decode cX1_block 2 = .ok (.iload_n 2, 1) := dk_28 (dk_at dksX1_block_0 2 rfl rfl)
theorem dX1_block_3 : decode cX1_block 3 = .ok (.iload_n 3, 1) := dk_29 (dk_at dksX1_block_0 3 rfl rfl)
theorem dX1_block_4 : decode cX1_block 4 = .ok (.iload 4, 2) := dk_21 4 (dk_at dksX1_block_0 4 rfl rfl)
theorem dX1_block_6 : decode cX1_block 6 = .ok (.invokevirtual 144, 3) := dk_182 0 144 (dk_at dksX1_block_0 6 rfl rfl)
theorem dX1_block_9 : decode cX1_block 9 = .ok (.ifCond .eq 13, 3) := dk_153 0 13 (dk_at dksX1_block_0 9 rfl rfl)
theorem dX1_block_12 : decode cX1_block 12 = .ok (.iload 5, 2) := dk_21 5 (dk_at dksX1_block_0 12 rfl rfl)
theorem dX1_block_14 : decode cX1_block 14 = .ok (.iconst 0, 1) := dk_3 (dk_at dksX1_block_0 14 rfl rfl)
theorem dX1_block_15 : decode cX1_block 15 = .ok (.iconst 4, 1) := dk_7 (dk_at dksX1_block_0 15 rfl rfl)
theorem dX1_block_16 : decode cX1_block 16 = .ok (.invokestatic 103, 3) := dk_184 0 103 (dk_at dksX1_block_0 16 rfl rfl)
theorem dX1_block_19 : decode cX1_block 19 = .ok (.ifCond .ne 9, 3) := dk_154 0 9 (dk_at dksX1_block_0 19 rfl rfl)
theorem dX1_block_22 : decode cX1_block 22 = .ok (.aload_n 0, 1) := dk_42 (dk_at dksX1_block_0 22 rfl rfl)
theorem dX1_block_23 : decode cX1_block 23 = .ok (.iconst (-1), 1) := dk_2 (dk_at dksX1_block_0 23 rfl rfl)
theorem dX1_block_24 : decode cX1_block 24 = .ok (.invokevirtual 93, 3) := dk_182 0 93 (dk_at dksX1_block_1 0 rfl rfl)
theorem dX1_block_27 : decode cX1_block 27 = .ok (.ireturn, 1) := dk_172 (dk_at dksX1_block_1 3 rfl rfl)
theorem dX1_block_28 : decode cX1_block 28 = .ok (.new 127, 3) := dk_187 0 127 (dk_at dksX1_block_1 4 rfl rfl)
theorem dX1_block_31 : decode cX1_block 31 = .ok (.dup, 1) := dk_89 (dk_at dksX1_block_1 7 rfl rfl)
theorem dX1_block_32 : decode cX1_block 32 = .ok (.invokespecial 148, 3) := dk_183 0 148 (dk_at dksX1_block_1 8 rfl rfl)
theorem dX1_block_35 : decode cX1_block 35 = .ok (.astore 6, 2) := dk_58 6 (dk_at dksX1_block_1 11 rfl rfl)
theorem dX1_block_37 : decode cX1_block 37 = .ok (.aload 6, 2) := dk_25 6 (dk_at dksX1_block_1 13 rfl rfl)
theorem dX1_block_39 : decode cX1_block 39 = .ok (.iload_n 1, 1) := dk_27 (dk_at dksX1_block_1 15 rfl rfl)
theorem dX1_block_40 : decode cX1_block 40 = .ok (.iload_n 2, 1) := dk_28 (dk_at dksX1_block_1 16 rfl rfl)
theorem dX1_block_41 : decode cX1_block 41 = .ok (.iload_n 3, 1) := dk_29 (dk_at dksX1_block_1 17 rfl rfl)
theorem dX1_block_42 : decode cX1_block 42 = .ok (.iload 4, 2) := dk_21 4 (dk_at dksX1_block_1 18 rfl rfl)
theorem dX1_block_44 : decode cX1_block 44 = .ok (.iload 5, 2) := dk_21 5 (dk_at dksX1_block_1 20 rfl rfl)
theorem dX1_block_46 : decode cX1_block 46 = .ok (.invokevirtual 149, 3) := dk_182 0 149 (dk_at dksX1_block_2 0 rfl rfl)
theorem dX1_block_49 : decode cX1_block 49 = .ok (.aload_n 0, 1) := dk_42 (dk_at dksX1_block_2 3 rfl rfl)
theorem dX1_block_50 : decode cX1_block 50 = .ok (.aload 6, 2) := dk_25 6 (dk_at dksX1_block_2 4 rfl rfl)
theorem dX1_block_52 : decode cX1_block 52 = .ok (.iconst 1, 1) := dk_4 (dk_at dksX1_block_2 6 rfl rfl)
theorem dX1_block_53 : decode cX1_block 53 = .ok (.invokevirtual 153, 3) := dk_182 0 153 (dk_at dksX1_block_2 7 rfl rfl)
theorem dX1_block_56 : decode cX1_block 56 = .ok (.ifCond .eq 10, 3) := dk_153 0 10 (dk_at dksX1_block_2 10 rfl rfl)
theorem dX1_block_59 : decode cX1_block 59 = .ok (.aload_n 0, 1) := dk_42 (dk_at dksX1_block_2 13 rfl rfl)
theorem dX1_block_60 : decode cX1_block 60 = .ok (.bipush (-4), 2) := dk_16 252 (dk_at dksX1_block_2 14 rfl rfl)
theorem dX1_block_62 : decode cX1_block 62 = .ok (.invokevirtual 93, 3) := dk_182 0 93 (dk_at dksX1_block_2 16 rfl rfl)
theorem dX1_block_65 : decode cX1_block 65 = .ok (.ireturn, 1) := dk_172 (dk_at dksX1_block_2 19 rfl rfl)
theorem dX1_block_66 : decode cX1_block 66 = .ok (.aload_n 0, 1) := dk_42 (dk_at dksX1_block_2 20 rfl rfl)
theorem dX1_block_67 : decode cX1_block 67 = .ok (.getfield 67, 3) := dk_180 0 67 (dk_at dksX1_block_2 21 rfl rfl)
theorem dX1_block_70 : decode cX1_block 70 = .ok (.getfield 157, 3) := dk_180 0 157 (dk_at dksX1_block_3 0 rfl rfl)
theorem dX1_block_73 : decode cX1_block 73 = .ok (.iconst 4, 1) := dk_7 (dk_at dksX1_block_3 3 rfl rfl)
theorem dX1_block_74 : decode cX1_block 74 = .ok (.if_icmp .ne 10, 3) := dk_160 0 10 (dk_at dksX1_block_3 4 rfl rfl)
theorem dX1_block_77 : decode cX1_block 77 = .ok (.aload_n 0, 1) := dk_42 (dk_at dksX1_block_3 7 rfl rfl)
theorem dX1_block_78 : decode cX1_block 78 = .ok (.bipush (-5), 2) := dk_16 251 (dk_at dksX1_block_3 8 rfl rfl)
theorem dX1_block_80 : decode cX1_block 80 = .ok (.invokevirtual 93, 3) := dk_182 0 93 (dk_at dksX1_block_3 10 rfl rfl)
theorem dX1_block_83 : decode cX1_block 83 = .ok (.ireturn, 1) := dk_172 (dk_at dksX1_block_3 13 rfl rfl)
theorem dX1_block_84 : decode cX1_block 84 = .ok (.aload_n 0, 1) := dk_42 (dk_at dksX1_block_3 14 rfl rfl)
theorem dX1_block_85 : decode cX1_block 85 = .ok (.iconst 0, 1) := dk_3 (dk_at dksX1_block_3 15 rfl rfl)
theorem dX1_block_86 : decode cX1_block 86 = .ok (.invokevirtual 160, 3) := dk_182 0 160 (dk_at dksX1_block_3 16 rfl rfl)
theorem dX1_block_89 : decode cX1_block 89 = .ok (.aload_n 0, 1) := dk_42 (dk_at dksX1_block_3 19 rfl rfl)
theorem dX1_block_90 : decode cX1_block 90 = .ok (.getfield 67, 3) := dk_180 0 67 (dk_at dksX1_block_3 20 rfl rfl)
theorem dX1_block_93 : decode cX1_block 93 = .ok (.getfield 163, 3) := dk_180 0 163 (dk_at dksX1_block_4 0 rfl rfl)
theorem dX1_block_96 : decode cX1_block 96 = .ok (.aload_n 0, 1) := dk_42 (dk_at dksX1_block_4 3 rfl rfl)
theorem dX1_block_97 : decode cX1_block 97 = .ok (.getfield 67, 3) := dk_180 0 67 (dk_at dksX1_block_4 4 rfl rfl)
theorem dX1_block_100 : decode cX1_block 100 = .ok (.getfield 157, 3) := dk_180 0 157 (dk_at dksX1_block_4 7 rfl rfl)
theorem dX1_block_103 : decode cX1_block 103 = .ok (.aaload, 1) := dk_50 (dk_at dksX1_block_4 10 rfl rfl)
theorem dX1_block_104 : decode cX1_block 104 = .ok (.aload 6, 2) := dk_25 6 (dk_at dksX1_block_4 11 rfl rfl)
theorem dX1_block_106 : decode cX1_block 106 = .ok (.invokevirtual 167, 3) := dk_182 0 167 (dk_at dksX1_block_4 13 rfl rfl)
theorem dX1_block_109 : decode cX1_block 109 = .ok (.aload_n 0, 1) := dk_42 (dk_at dksX1_block_4 16 rfl rfl)
theorem dX1_block_110 : decode cX1_block 110 = .ok (.getfield 67, 3) := dk_180 0 67 (dk_at dksX1_block_4 17 rfl rfl)
theorem dX1_block_113 : decode cX1_block 113 = .ok (.dup, 1) := dk_89 (dk_at dksX1_block_4 20 rfl rfl)
theorem dX1_block_114 : decode cX1_block 114 = .ok (.getfield 157, 3) := dk_180 0 157 (dk_at dksX1_block_4 21 rfl rfl)
theorem dX1_block_117 : decode cX1_block 117 = .ok (.iconst 1, 1) := dk_4 (dk_at dksX1_block_5 0 rfl rfl)
theorem dX1_block_118 : decode cX1_block 118 = .ok (.iadd, 1) := dk_96 (dk_at dksX1_block_5 1 rfl rfl)
theorem dX1_block_119 : decode cX1_block 119 = .ok (.putfield 157, 3) := dk_181 0 157 (dk_at dksX1_block_5 2 rfl rfl)
theorem dX1_block_122 : decode cX1_block 122 = .ok (.aload_n 0, 1) := dk_42 (dk_at dksX1_block_5 5 rfl rfl)
theorem dX1_block_123 : decode cX1_block 123 = .ok (.getfield 67, 3) := dk_180 0 67 (dk_at dksX1_block_5 6 rfl rfl)
theorem dX1_block_126 : decode cX1_block 126 = .ok (.invokevirtual 170, 3) := dk_182 0 170 (dk_at dksX1_block_5 9 rfl rfl)
theorem dX1_block_129 : decode cX1_block 129 = .ok (.aload_n 0, 1) := dk_42 (dk_at dksX1_block_5 12 rfl rfl)
theorem dX1_block_130 : decode cX1_block 130 = .ok (.aload_n 0, 1) := dk_42 (dk_at dksX1_block_5 13 rfl rfl)
theorem dX1_block_131 : decode cX1_block 131 = .ok (.getfield 67, 3) := dk_180 0 67 (dk_at dksX1_block_5 14 rfl rfl)
theorem dX1_block_134 : decode cX1_block 134 = .ok (.getfield 157, 3) := dk_180 0 157 (dk_at dksX1_block_5 17 rfl rfl)
theorem dX1_block_137 : decode cX1_block 137 = .ok (.iconst 1, 1) := dk_4 (dk_at dksX1_block_5 20 rfl rfl)
theorem dX1_block_138 : decode cX1_block 138 = .ok (.isub, 1) := dk_100 (dk_at dksX1_block_5 21 rfl rfl)
theorem dX1_block_139 : decode cX1_block 139 = .ok (.invokevirtual 97, 3) := dk_182 0 97 (dk_at dksX1_block_6 0 rfl rfl)
theorem dX1_block_142 : decode cX1_block 142 = .ok (.ireturn, 1) := dk_172 (dk_at dksX1_block_6 3 rfl rfl)
abbrev cX1_isRect : ByteArray := prog_1_method_19_code
def yX1_isRect : MethodName := ⟨RX1, "isRect", "(IIII)Z"⟩
def dkwX1_isRect_1 : List UInt8 := [163, 0, 16, 21, 4, 42, 180, 0, 63, 162, 0, 7, 4, 167, 0, 4, 3, 172]
abbrev dktX1_isRect_1 : List UInt8 := dkwX1_isRect_1 ++ []
def dkwX1_isRect_0 : List UInt8 := [27, 155, 0, 39, 27, 28, 163, 0, 34, 28, 42, 180, 0, 59, 162, 0, 26, 29, 155, 0, 22, 29, 21, 4]
abbrev dktX1_isRect_0 : List UInt8 := dkwX1_isRect_0 ++ dktX1_isRect_1
theorem dksX1_isRect_0 : cX1_isRect.data.toList.drop 0 = dktX1_isRect_0 := by decide +kernel
theorem dksX1_isRect_1 : cX1_isRect.data.toList.drop 24 = dktX1_isRect_1 := dk_seg dksX1_isRect_0 24 rfl rfl
theorem dX1_isRect_0 : decode cX1_isRect 0 = .ok (.iload_n 1, 1) := dk_27 (dk_at dksX1_isRect_0 0 rfl rfl)
theorem dX1_isRect_1 : decode cX1_isRect 1 = .ok (.ifCond .lt 39, 3) := dk_155 0 39 (dk_at dksX1_isRect_0 1 rfl rfl)
theorem dX1_isRect_4 : decode cX1_isRect 4 = .ok (.iload_n 1, 1) := dk_27 (dk_at dksX1_isRect_0 4 rfl rfl)
theorem dX1_isRect_5 : decode cX1_isRect 5 = .ok (.iload_n 2, 1) := dk_28 (dk_at dksX1_isRect_0 5 rfl rfl)
theorem dX1_isRect_6 : decode cX1_isRect 6 = .ok (.if_icmp .gt 34, 3) := dk_163 0 34 (dk_at dksX1_isRect_0 6 rfl rfl)
theorem dX1_isRect_9 : decode cX1_isRect 9 = .ok (.iload_n 2, 1) := dk_28 (dk_at dksX1_isRect_0 9 rfl rfl)
theorem dX1_isRect_10 : decode cX1_isRect 10 = .ok (.aload_n 0, 1) := dk_42 (dk_at dksX1_isRect_0 10 rfl rfl)
theorem dX1_isRect_11 : decode cX1_isRect 11 = .ok (.getfield 59, 3) := dk_180 0 59 (dk_at dksX1_isRect_0 11 rfl rfl)
theorem dX1_isRect_14 : decode cX1_isRect 14 = .ok (.if_icmp .ge 26, 3) := dk_162 0 26 (dk_at dksX1_isRect_0 14 rfl rfl)
theorem dX1_isRect_17 : decode cX1_isRect 17 = .ok (.iload_n 3, 1) := dk_29 (dk_at dksX1_isRect_0 17 rfl rfl)
theorem dX1_isRect_18 : decode cX1_isRect 18 = .ok (.ifCond .lt 22, 3) := dk_155 0 22 (dk_at dksX1_isRect_0 18 rfl rfl)
theorem dX1_isRect_21 : decode cX1_isRect 21 = .ok (.iload_n 3, 1) := dk_29 (dk_at dksX1_isRect_0 21 rfl rfl)
theorem dX1_isRect_22 : decode cX1_isRect 22 = .ok (.iload 4, 2) := dk_21 4 (dk_at dksX1_isRect_0 22 rfl rfl)
theorem dX1_isRect_24 : decode cX1_isRect 24 = .ok (.if_icmp .gt 16, 3) := dk_163 0 16 (dk_at dksX1_isRect_1 0 rfl rfl)
theorem dX1_isRect_27 : decode cX1_isRect 27 = .ok (.iload 4, 2) := dk_21 4 (dk_at dksX1_isRect_1 3 rfl rfl)
theorem dX1_isRect_29 : decode cX1_isRect 29 = .ok (.aload_n 0, 1) := dk_42 (dk_at dksX1_isRect_1 5 rfl rfl)
theorem dX1_isRect_30 : decode cX1_isRect 30 = .ok (.getfield 63, 3) := dk_180 0 63 (dk_at dksX1_isRect_1 6 rfl rfl)
theorem dX1_isRect_33 : decode cX1_isRect 33 = .ok (.if_icmp .ge 7, 3) := dk_162 0 7 (dk_at dksX1_isRect_1 9 rfl rfl)
theorem dX1_isRect_36 : decode cX1_isRect 36 = .ok (.iconst 1, 1) := dk_4 (dk_at dksX1_isRect_1 12 rfl rfl)
theorem dX1_isRect_37 : decode cX1_isRect 37 = .ok (.goto 4, 3) := dk_167 0 4 (dk_at dksX1_isRect_1 13 rfl rfl)
theorem dX1_isRect_40 : decode cX1_isRect 40 = .ok (.iconst 0, 1) := dk_3 (dk_at dksX1_isRect_1 16 rfl rfl)
theorem dX1_isRect_41 : decode cX1_isRect 41 = .ok (.ireturn, 1) := dk_172 (dk_at dksX1_isRect_1 17 rfl rfl)
abbrev cX1_hasFixed : ByteArray := prog_1_method_20_code
def yX1_hasFixed : MethodName := ⟨RX1, "hasFixed", "(LCellRows$Rect;Z)Z"⟩
def dkwX1_hasFixed_3 : List UInt8 := [167, 255, 202, 132, 3, 1, 167, 255, 185, 3, 172]
abbrev dktX1_hasFixed_3 : List UInt8 := dkwX1_hasFixed_3 ++ []
def dkwX1_hasFixed_2 : List UInt8 := [182, 0, 138, 153, 0, 18, 42, 180, 0, 67, 29, 21, 4, 182, 0, 141, 153, 0, 5, 4, 172, 132, 4, 1]
abbrev dktX1_hasFixed_2 : List UInt8 := dkwX1_hasFixed_2 ++ dktX1_hasFixed_3
def dkwX1_hasFixed_1 : List UInt8 := [162, 0, 51, 28, 153, 0, 16, 43, 29, 21, 4, 182, 0, 134, 153, 0, 31, 167, 0, 13, 43, 29, 21, 4]
abbrev dktX1_hasFixed_1 : List UInt8 := dkwX1_hasFixed_1 ++ dktX1_hasFixed_2
def dkwX1_hasFixed_0 : List UInt8 := [43, 180, 0, 126, 62, 29, 43, 180, 0, 131, 163, 0, 69, 3, 54, 4, 21, 4, 42, 180, 0, 63]
abbrev dktX1_hasFixed_0 : List UInt8 := dkwX1_hasFixed_0 ++ dktX1_hasFixed_1
theorem dksX1_hasFixed_0 : cX1_hasFixed.data.toList.drop 0 = dktX1_hasFixed_0 := by decide +kernel
theorem dksX1_hasFixed_1 : cX1_hasFixed.data.toList.drop 22 = dktX1_hasFixed_1 := dk_seg dksX1_hasFixed_0 22 rfl rfl
theorem dksX1_hasFixed_2 : cX1_hasFixed.data.toList.drop 46 = dktX1_hasFixed_2 := dk_seg dksX1_hasFixed_1 24 rfl rfl
theorem dksX1_hasFixed_3 : cX1_hasFixed.data.toList.drop 70 = dktX1_hasFixed_3 := dk_seg dksX1_hasFixed_2 24 rfl rfl
theorem dX1_hasFixed_0 : decode cX1_hasFixed 0 = .ok (.aload_n 1, 1) := dk_43 (dk_at dksX1_hasFixed_0 0 rfl rfl)
theorem dX1_hasFixed_1 : decode cX1_hasFixed 1 = .ok (.getfield 126, 3) := dk_180 0 126 (dk_at dksX1_hasFixed_0 1 rfl rfl)
theorem dX1_hasFixed_4 : decode cX1_hasFixed 4 = .ok (.istore_n 3, 1) := dk_62 (dk_at dksX1_hasFixed_0 4 rfl rfl)
theorem dX1_hasFixed_5 : decode cX1_hasFixed 5 = .ok (.iload_n 3, 1) := dk_29 (dk_at dksX1_hasFixed_0 5 rfl rfl)
theorem dX1_hasFixed_6 : decode cX1_hasFixed 6 = .ok (.aload_n 1, 1) := dk_43 (dk_at dksX1_hasFixed_0 6 rfl rfl)
theorem dX1_hasFixed_7 : decode cX1_hasFixed 7 = .ok (.getfield 131, 3) := dk_180 0 131 (dk_at dksX1_hasFixed_0 7 rfl rfl)
theorem dX1_hasFixed_10 : decode cX1_hasFixed 10 = .ok (.if_icmp .gt 69, 3) := dk_163 0 69 (dk_at dksX1_hasFixed_0 10 rfl rfl)
theorem dX1_hasFixed_13 : decode cX1_hasFixed 13 = .ok (.iconst 0, 1) := dk_3 (dk_at dksX1_hasFixed_0 13 rfl rfl)
theorem dX1_hasFixed_14 : decode cX1_hasFixed 14 = .ok (.istore 4, 2) := dk_54 4 (dk_at dksX1_hasFixed_0 14 rfl rfl)
theorem dX1_hasFixed_16 : decode cX1_hasFixed 16 = .ok (.iload 4, 2) := dk_21 4 (dk_at dksX1_hasFixed_0 16 rfl rfl)
theorem dX1_hasFixed_18 : decode cX1_hasFixed 18 = .ok (.aload_n 0, 1) := dk_42 (dk_at dksX1_hasFixed_0 18 rfl rfl)
theorem dX1_hasFixed_19 : decode cX1_hasFixed 19 = .ok (.getfield 63, 3) := dk_180 0 63 (dk_at dksX1_hasFixed_0 19 rfl rfl)
theorem dX1_hasFixed_22 : decode cX1_hasFixed 22 = .ok (.if_icmp .ge 51, 3) := dk_162 0 51 (dk_at dksX1_hasFixed_1 0 rfl rfl)
theorem dX1_hasFixed_25 : decode cX1_hasFixed 25 = .ok (.iload_n 2, 1) := dk_28 (dk_at dksX1_hasFixed_1 3 rfl rfl)
theorem dX1_hasFixed_26 : decode cX1_hasFixed 26 = .ok (.ifCond .eq 16, 3) := dk_153 0 16 (dk_at dksX1_hasFixed_1 4 rfl rfl)
theorem dX1_hasFixed_29 : decode cX1_hasFixed 29 = .ok (.aload_n 1, 1) := dk_43 (dk_at dksX1_hasFixed_1 7 rfl rfl)
theorem dX1_hasFixed_30 : decode cX1_hasFixed 30 = .ok (.iload_n 3, 1) := dk_29 (dk_at dksX1_hasFixed_1 8 rfl rfl)
theorem dX1_hasFixed_31 : decode cX1_hasFixed 31 = .ok (.iload 4, 2) := dk_21 4 (dk_at dksX1_hasFixed_1 9 rfl rfl)
theorem dX1_hasFixed_33 : decode cX1_hasFixed 33 = .ok (.invokevirtual 134, 3) := dk_182 0 134 (dk_at dksX1_hasFixed_1 11 rfl rfl)
theorem dX1_hasFixed_36 : decode cX1_hasFixed 36 = .ok (.ifCond .eq 31, 3) := dk_153 0 31 (dk_at dksX1_hasFixed_1 14 rfl rfl)
theorem dX1_hasFixed_39 : decode cX1_hasFixed 39 = .ok (.goto 13, 3) := dk_167 0 13 (dk_at dksX1_hasFixed_1 17 rfl rfl)
theorem dX1_hasFixed_42 : decode cX1_hasFixed 42 = .ok (.aload_n 1, 1) := dk_43 (dk_at dksX1_hasFixed_1 20 rfl rfl)
theorem dX1_hasFixed_43 : decode cX1_hasFixed 43 = .ok (.iload_n 3, 1) := dk_29 (dk_at dksX1_hasFixed_1 21 rfl rfl)
theorem dX1_hasFixed_44 : decode cX1_hasFixed 44 = .ok (.iload 4, 2) := dk_21 4 (dk_at dksX1_hasFixed_1 22 rfl rfl)
theorem dX1_hasFixed_46 : decode cX1_hasFixed 46 = .ok (.invokevirtual 138, 3) := dk_182 0 138 (dk_at dksX1_hasFixed_2 0 rfl rfl)
theorem dX1_hasFixed_49 : decode cX1_hasFixed 49 = .ok (.ifCond .eq 18, 3) := dk_153 0 18 (dk_at dksX1_hasFixed_2 3 rfl rfl)
theorem dX1_hasFixed_52 : decode cX1_hasFixed 52 = .ok (.aload_n 0, 1) := dk_42 (dk_at dksX1_hasFixed_2 6 rfl rfl)
theorem dX1_hasFixed_53 : decode cX1_hasFixed 53 = .ok (.getfield 67, 3) := dk_180 0 67 (dk_at dksX1_hasFixed_2 7 rfl rfl)
theorem dX1_hasFixed_56 : decode cX1_hasFixed 56 = .ok (.iload_n 3, 1) := dk_29 (dk_at dksX1_hasFixed_2 10 rfl rfl)
theorem dX1_hasFixed_57 : decode cX1_hasFixed 57 = .ok (.iload 4, 2) := dk_21 4 (dk_at dksX1_hasFixed_2 11 rfl rfl)
theorem dX1_hasFixed_59 : decode cX1_hasFixed 59 = .ok (.invokevirtual 141, 3) := dk_182 0 141 (dk_at dksX1_hasFixed_2 13 rfl rfl)
theorem dX1_hasFixed_62 : decode cX1_hasFixed 62 = .ok (.ifCond .eq 5, 3) := dk_153 0 5 (dk_at dksX1_hasFixed_2 16 rfl rfl)
theorem dX1_hasFixed_65 : decode cX1_hasFixed 65 = .ok (.iconst 1, 1) := dk_4 (dk_at dksX1_hasFixed_2 19 rfl rfl)
theorem dX1_hasFixed_66 : decode cX1_hasFixed 66 = .ok (.ireturn, 1) := dk_172 (dk_at dksX1_hasFixed_2 20 rfl rfl)
theorem dX1_hasFixed_67 : decode cX1_hasFixed 67 = .ok (.iinc 4 1, 3) := dk_132 4 1 (dk_at dksX1_hasFixed_2 21 rfl rfl)
theorem dX1_hasFixed_70 : decode cX1_hasFixed 70 = .ok (.goto (-54), 3) := dk_167 255 202 (dk_at dksX1_hasFixed_3 0 rfl rfl)
theorem dX1_hasFixed_73 : decode cX1_hasFixed 73 = .ok (.iinc 3 1, 3) := dk_132 3 1 (dk_at dksX1_hasFixed_3 3 rfl rfl)
theorem dX1_hasFixed_76 : decode cX1_hasFixed 76 = .ok (.goto (-71), 3) := dk_167 255 185 (dk_at dksX1_hasFixed_3 6 rfl rfl)
theorem dX1_hasFixed_79 : decode cX1_hasFixed 79 = .ok (.iconst 0, 1) := dk_3 (dk_at dksX1_hasFixed_3 9 rfl rfl)
theorem dX1_hasFixed_80 : decode cX1_hasFixed 80 = .ok (.ireturn, 1) := dk_172 (dk_at dksX1_hasFixed_3 10 rfl rfl)
abbrev cX1_keeps : ByteArray := prog_1_method_6_code
def yX1_keeps : MethodName := ⟨RX1, "keeps", "(I)V"⟩
def dkwX1_keeps_4 : List UInt8 := [87, 42, 180, 0, 22, 42, 180, 0, 86, 27, 79, 42, 89, 180, 0, 86, 4, 96, 181, 0, 86, 177]
abbrev dktX1_keeps_4 : List UInt8 := dkwX1_keeps_4 ++ []
def dkwX1_keeps_3 : List UInt8 := [180, 0, 86, 4, 100, 181, 0, 86, 42, 180, 0, 18, 42, 180, 0, 86, 50, 42, 180, 0, 67, 182, 0, 89]
abbrev dktX1_keeps_3 : List UInt8 := dkwX1_keeps_3 ++ dktX1_keeps_4
def dkwX1_keeps_2 : List UInt8 := [180, 0, 22, 29, 46, 79, 132, 3, 1, 167, 255, 219, 42, 180, 0, 18, 16, 11, 44, 83, 42, 89]
abbrev dktX1_keeps_2 : List UInt8 := dkwX1_keeps_2 ++ dktX1_keeps_3
def dkwX1_keeps_1 : List UInt8 := [42, 180, 0, 18, 29, 4, 100, 42, 180, 0, 18, 29, 50, 83, 42, 180, 0, 22, 29, 4, 100, 42]
abbrev dktX1_keeps_1 : List UInt8 := dkwX1_keeps_1 ++ dktX1_keeps_2
def dkwX1_keeps_0 : List UInt8 := [42, 180, 0, 86, 16, 12, 160, 0, 70, 42, 180, 0, 18, 3, 50, 77, 4, 62, 29, 16, 12, 162, 0, 37]
abbrev dktX1_keeps_0 : List UInt8 := dkwX1_keeps_0 ++ dktX1_keeps_1
theorem dksX1_keeps_0 : cX1_keeps.data.toList.drop 0 = dktX1_keeps_0 := by decide +kernel
theorem dksX1_keeps_1 : cX1_keeps.data.toList.drop 24 = dktX1_keeps_1 := dk_seg dksX1_keeps_0 24 rfl rfl
theorem dksX1_keeps_2 : cX1_keeps.data.toList.drop 46 = dktX1_keeps_2 := dk_seg dksX1_keeps_1 22 rfl rfl
theorem dksX1_keeps_3 : cX1_keeps.data.toList.drop 68 = dktX1_keeps_3 := dk_seg dksX1_keeps_2 22 rfl rfl
theorem dksX1_keeps_4 : cX1_keeps.data.toList.drop 92 = dktX1_keeps_4 := dk_seg dksX1_keeps_3 24 rfl rfl
theorem dX1_keeps_0 : decode cX1_keeps 0 = .ok (.aload_n 0, 1) := dk_42 (dk_at dksX1_keeps_0 0 rfl rfl)
theorem dX1_keeps_1 : decode cX1_keeps 1 = .ok (.getfield 86, 3) := dk_180 0 86 (dk_at dksX1_keeps_0 1 rfl rfl)
theorem dX1_keeps_4 : decode cX1_keeps 4 = .ok (.bipush 12, 2) := dk_16 12 (dk_at dksX1_keeps_0 4 rfl rfl)
theorem dX1_keeps_6 : decode cX1_keeps 6 = .ok (.if_icmp .ne 70, 3) := dk_160 0 70 (dk_at dksX1_keeps_0 6 rfl rfl)
theorem dX1_keeps_9 : decode cX1_keeps 9 = .ok (.aload_n 0, 1) := dk_42 (dk_at dksX1_keeps_0 9 rfl rfl)
theorem dX1_keeps_10 : decode cX1_keeps 10 = .ok (.getfield 18, 3) := dk_180 0 18 (dk_at dksX1_keeps_0 10 rfl rfl)
theorem dX1_keeps_13 : decode cX1_keeps 13 = .ok (.iconst 0, 1) := dk_3 (dk_at dksX1_keeps_0 13 rfl rfl)
theorem dX1_keeps_14 : decode cX1_keeps 14 = .ok (.aaload, 1) := dk_50 (dk_at dksX1_keeps_0 14 rfl rfl)
theorem dX1_keeps_15 : decode cX1_keeps 15 = .ok (.astore_n 2, 1) := dk_77 (dk_at dksX1_keeps_0 15 rfl rfl)
theorem dX1_keeps_16 : decode cX1_keeps 16 = .ok (.iconst 1, 1) := dk_4 (dk_at dksX1_keeps_0 16 rfl rfl)
theorem dX1_keeps_17 : decode cX1_keeps 17 = .ok (.istore_n 3, 1) := dk_62 (dk_at dksX1_keeps_0 17 rfl rfl)
theorem dX1_keeps_18 : decode cX1_keeps 18 = .ok (.iload_n 3, 1) := dk_29 (dk_at dksX1_keeps_0 18 rfl rfl)
theorem dX1_keeps_19 : decode cX1_keeps 19 = .ok (.bipush 12, 2) := dk_16 12 (dk_at dksX1_keeps_0 19 rfl rfl)
theorem dX1_keeps_21 : decode cX1_keeps 21 = .ok (.if_icmp .ge 37, 3) := dk_162 0 37 (dk_at dksX1_keeps_0 21 rfl rfl)
theorem dX1_keeps_24 : decode cX1_keeps 24 = .ok (.aload_n 0, 1) := dk_42 (dk_at dksX1_keeps_1 0 rfl rfl)
theorem dX1_keeps_25 : decode cX1_keeps 25 = .ok (.getfield 18, 3) := dk_180 0 18 (dk_at dksX1_keeps_1 1 rfl rfl)
theorem dX1_keeps_28 : decode cX1_keeps 28 = .ok (.iload_n 3, 1) := dk_29 (dk_at dksX1_keeps_1 4 rfl rfl)
theorem dX1_keeps_29 : decode cX1_keeps 29 = .ok (.iconst 1, 1) := dk_4 (dk_at dksX1_keeps_1 5 rfl rfl)
theorem dX1_keeps_30 : decode cX1_keeps 30 = .ok (.isub, 1) := dk_100 (dk_at dksX1_keeps_1 6 rfl rfl)
theorem dX1_keeps_31 : decode cX1_keeps 31 = .ok (.aload_n 0, 1) := dk_42 (dk_at dksX1_keeps_1 7 rfl rfl)
theorem dX1_keeps_32 : decode cX1_keeps 32 = .ok (.getfield 18, 3) := dk_180 0 18 (dk_at dksX1_keeps_1 8 rfl rfl)
theorem dX1_keeps_35 : decode cX1_keeps 35 = .ok (.iload_n 3, 1) := dk_29 (dk_at dksX1_keeps_1 11 rfl rfl)
theorem dX1_keeps_36 : decode cX1_keeps 36 = .ok (.aaload, 1) := dk_50 (dk_at dksX1_keeps_1 12 rfl rfl)
theorem dX1_keeps_37 : decode cX1_keeps 37 = .ok (.aastore, 1) := dk_83 (dk_at dksX1_keeps_1 13 rfl rfl)
theorem dX1_keeps_38 : decode cX1_keeps 38 = .ok (.aload_n 0, 1) := dk_42 (dk_at dksX1_keeps_1 14 rfl rfl)
theorem dX1_keeps_39 : decode cX1_keeps 39 = .ok (.getfield 22, 3) := dk_180 0 22 (dk_at dksX1_keeps_1 15 rfl rfl)
theorem dX1_keeps_42 : decode cX1_keeps 42 = .ok (.iload_n 3, 1) := dk_29 (dk_at dksX1_keeps_1 18 rfl rfl)
theorem dX1_keeps_43 : decode cX1_keeps 43 = .ok (.iconst 1, 1) := dk_4 (dk_at dksX1_keeps_1 19 rfl rfl)
theorem dX1_keeps_44 : decode cX1_keeps 44 = .ok (.isub, 1) := dk_100 (dk_at dksX1_keeps_1 20 rfl rfl)
theorem dX1_keeps_45 : decode cX1_keeps 45 = .ok (.aload_n 0, 1) := dk_42 (dk_at dksX1_keeps_1 21 rfl rfl)
theorem dX1_keeps_46 : decode cX1_keeps 46 = .ok (.getfield 22, 3) := dk_180 0 22 (dk_at dksX1_keeps_2 0 rfl rfl)
theorem dX1_keeps_49 : decode cX1_keeps 49 = .ok (.iload_n 3, 1) := dk_29 (dk_at dksX1_keeps_2 3 rfl rfl)
theorem dX1_keeps_50 : decode cX1_keeps 50 = .ok (.iaload, 1) := dk_46 (dk_at dksX1_keeps_2 4 rfl rfl)
theorem dX1_keeps_51 : decode cX1_keeps 51 = .ok (.iastore, 1) := dk_79 (dk_at dksX1_keeps_2 5 rfl rfl)
theorem dX1_keeps_52 : decode cX1_keeps 52 = .ok (.iinc 3 1, 3) := dk_132 3 1 (dk_at dksX1_keeps_2 6 rfl rfl)
theorem dX1_keeps_55 : decode cX1_keeps 55 = .ok (.goto (-37), 3) := dk_167 255 219 (dk_at dksX1_keeps_2 9 rfl rfl)
theorem dX1_keeps_58 : decode cX1_keeps 58 = .ok (.aload_n 0, 1) := dk_42 (dk_at dksX1_keeps_2 12 rfl rfl)
theorem dX1_keeps_59 : decode cX1_keeps 59 = .ok (.getfield 18, 3) := dk_180 0 18 (dk_at dksX1_keeps_2 13 rfl rfl)
theorem dX1_keeps_62 : decode cX1_keeps 62 = .ok (.bipush 11, 2) := dk_16 11 (dk_at dksX1_keeps_2 16 rfl rfl)
theorem dX1_keeps_64 : decode cX1_keeps 64 = .ok (.aload_n 2, 1) := dk_44 (dk_at dksX1_keeps_2 18 rfl rfl)
theorem dX1_keeps_65 : decode cX1_keeps 65 = .ok (.aastore, 1) := dk_83 (dk_at dksX1_keeps_2 19 rfl rfl)
theorem dX1_keeps_66 : decode cX1_keeps 66 = .ok (.aload_n 0, 1) := dk_42 (dk_at dksX1_keeps_2 20 rfl rfl)
theorem dX1_keeps_67 : decode cX1_keeps 67 = .ok (.dup, 1) := dk_89 (dk_at dksX1_keeps_2 21 rfl rfl)
theorem dX1_keeps_68 : decode cX1_keeps 68 = .ok (.getfield 86, 3) := dk_180 0 86 (dk_at dksX1_keeps_3 0 rfl rfl)
theorem dX1_keeps_71 : decode cX1_keeps 71 = .ok (.iconst 1, 1) := dk_4 (dk_at dksX1_keeps_3 3 rfl rfl)
theorem dX1_keeps_72 : decode cX1_keeps 72 = .ok (.isub, 1) := dk_100 (dk_at dksX1_keeps_3 4 rfl rfl)
theorem dX1_keeps_73 : decode cX1_keeps 73 = .ok (.putfield 86, 3) := dk_181 0 86 (dk_at dksX1_keeps_3 5 rfl rfl)
theorem dX1_keeps_76 : decode cX1_keeps 76 = .ok (.aload_n 0, 1) := dk_42 (dk_at dksX1_keeps_3 8 rfl rfl)
theorem dX1_keeps_77 : decode cX1_keeps 77 = .ok (.getfield 18, 3) := dk_180 0 18 (dk_at dksX1_keeps_3 9 rfl rfl)
theorem dX1_keeps_80 : decode cX1_keeps 80 = .ok (.aload_n 0, 1) := dk_42 (dk_at dksX1_keeps_3 12 rfl rfl)
theorem dX1_keeps_81 : decode cX1_keeps 81 = .ok (.getfield 86, 3) := dk_180 0 86 (dk_at dksX1_keeps_3 13 rfl rfl)
theorem dX1_keeps_84 : decode cX1_keeps 84 = .ok (.aaload, 1) := dk_50 (dk_at dksX1_keeps_3 16 rfl rfl)
theorem dX1_keeps_85 : decode cX1_keeps 85 = .ok (.aload_n 0, 1) := dk_42 (dk_at dksX1_keeps_3 17 rfl rfl)
theorem dX1_keeps_86 : decode cX1_keeps 86 = .ok (.getfield 67, 3) := dk_180 0 67 (dk_at dksX1_keeps_3 18 rfl rfl)
theorem dX1_keeps_89 : decode cX1_keeps 89 = .ok (.invokevirtual 89, 3) := dk_182 0 89 (dk_at dksX1_keeps_3 21 rfl rfl)
theorem dX1_keeps_92 : decode cX1_keeps 92 = .ok (.pop, 1) := dk_87 (dk_at dksX1_keeps_4 0 rfl rfl)
theorem dX1_keeps_93 : decode cX1_keeps 93 = .ok (.aload_n 0, 1) := dk_42 (dk_at dksX1_keeps_4 1 rfl rfl)
theorem dX1_keeps_94 : decode cX1_keeps 94 = .ok (.getfield 22, 3) := dk_180 0 22 (dk_at dksX1_keeps_4 2 rfl rfl)
theorem dX1_keeps_97 : decode cX1_keeps 97 = .ok (.aload_n 0, 1) := dk_42 (dk_at dksX1_keeps_4 5 rfl rfl)
theorem dX1_keeps_98 : decode cX1_keeps 98 = .ok (.getfield 86, 3) := dk_180 0 86 (dk_at dksX1_keeps_4 6 rfl rfl)
theorem dX1_keeps_101 : decode cX1_keeps 101 = .ok (.iload_n 1, 1) := dk_27 (dk_at dksX1_keeps_4 9 rfl rfl)
theorem dX1_keeps_102 : decode cX1_keeps 102 = .ok (.iastore, 1) := dk_79 (dk_at dksX1_keeps_4 10 rfl rfl)
theorem dX1_keeps_103 : decode cX1_keeps 103 = .ok (.aload_n 0, 1) := dk_42 (dk_at dksX1_keeps_4 11 rfl rfl)
theorem dX1_keeps_104 : decode cX1_keeps 104 = .ok (.dup, 1) := dk_89 (dk_at dksX1_keeps_4 12 rfl rfl)
theorem dX1_keeps_105 : decode cX1_keeps 105 = .ok (.getfield 86, 3) := dk_180 0 86 (dk_at dksX1_keeps_4 13 rfl rfl)
theorem dX1_keeps_108 : decode cX1_keeps 108 = .ok (.iconst 1, 1) := dk_4 (dk_at dksX1_keeps_4 16 rfl rfl)
theorem dX1_keeps_109 : decode cX1_keeps 109 = .ok (.iadd, 1) := dk_96 (dk_at dksX1_keeps_4 17 rfl rfl)
theorem dX1_keeps_110 : decode cX1_keeps 110 = .ok (.putfield 86, 3) := dk_181 0 86 (dk_at dksX1_keeps_4 18 rfl rfl)
theorem dX1_keeps_113 : decode cX1_keeps 113 = .ok (.return_, 1) := dk_177 (dk_at dksX1_keeps_4 21 rfl rfl)
abbrev cX1_fence : ByteArray := prog_1_method_22_code
def yX1_fence : MethodName := ⟨RX1, "fence", "(IIII)I"⟩
def dkwX1_fence_7 : List UInt8 := [182, 0, 170, 42, 42, 180, 0, 67, 180, 0, 110, 4, 100, 182, 0, 97, 172]
abbrev dktX1_fence_7 : List UInt8 := dkwX1_fence_7 ++ []
def dkwX1_fence_6 : List UInt8 := [25, 5, 182, 0, 167, 42, 180, 0, 67, 89, 180, 0, 110, 4, 96, 181, 0, 110, 42, 180, 0, 67]
abbrev dktX1_fence_6 : List UInt8 := dkwX1_fence_6 ++ dktX1_fence_7
def dkwX1_fence_5 : List UInt8 := [182, 0, 93, 172, 42, 4, 182, 0, 160, 42, 180, 0, 67, 180, 0, 173, 42, 180, 0, 67, 180, 0, 110, 50]
abbrev dktX1_fence_5 : List UInt8 := dkwX1_fence_5 ++ dktX1_fence_6
def dkwX1_fence_4 : List UInt8 := [153, 0, 10, 42, 16, 252, 182, 0, 93, 172, 42, 180, 0, 67, 180, 0, 110, 6, 160, 0, 10, 42, 16, 251]
abbrev dktX1_fence_4 : List UInt8 := dkwX1_fence_4 ++ dktX1_fence_5
def dkwX1_fence_3 : List UInt8 := [180, 0, 173, 21, 7, 50, 25, 5, 182, 0, 176, 128, 54, 6, 132, 7, 1, 167, 255, 221, 21, 6]
abbrev dktX1_fence_3 : List UInt8 := dkwX1_fence_3 ++ dktX1_fence_4
def dkwX1_fence_2 : List UInt8 := [54, 6, 3, 54, 7, 21, 7, 42, 180, 0, 67, 180, 0, 110, 162, 0, 29, 21, 6, 42, 180, 0, 67]
abbrev dktX1_fence_2 : List UInt8 := dkwX1_fence_2 ++ dktX1_fence_3
def dkwX1_fence_1 : List UInt8 := [183, 0, 148, 58, 5, 25, 5, 27, 28, 29, 21, 4, 3, 182, 0, 149, 42, 25, 5, 3, 182, 0, 153]
abbrev dktX1_fence_1 : List UInt8 := dkwX1_fence_1 ++ dktX1_fence_2
def dkwX1_fence_0 : List UInt8 := [42, 27, 28, 29, 21, 4, 182, 0, 144, 154, 0, 9, 42, 2, 182, 0, 93, 172, 187, 0, 127, 89]
abbrev dktX1_fence_0 : List UInt8 := dkwX1_fence_0 ++ dktX1_fence_1
theorem dksX1_fence_0 : cX1_fence.data.toList.drop 0 = dktX1_fence_0 := by decide +kernel
theorem dksX1_fence_1 : cX1_fence.data.toList.drop 22 = dktX1_fence_1 := dk_seg dksX1_fence_0 22 rfl rfl
theorem dksX1_fence_2 : cX1_fence.data.toList.drop 45 = dktX1_fence_2 := dk_seg dksX1_fence_1 23 rfl rfl
theorem dksX1_fence_3 : cX1_fence.data.toList.drop 68 = dktX1_fence_3 := dk_seg dksX1_fence_2 23 rfl rfl
theorem dksX1_fence_4 : cX1_fence.data.toList.drop 90 = dktX1_fence_4 := dk_seg dksX1_fence_3 22 rfl rfl
theorem dksX1_fence_5 : cX1_fence.data.toList.drop 114 = dktX1_fence_5 := dk_seg dksX1_fence_4 24 rfl rfl
theorem dksX1_fence_6 : cX1_fence.data.toList.drop 138 = dktX1_fence_6 := dk_seg dksX1_fence_5 24 rfl rfl
theorem dksX1_fence_7 : cX1_fence.data.toList.drop 160 = dktX1_fence_7 := dk_seg dksX1_fence_6 22 rfl rfl
theorem dX1_fence_0 : decode cX1_fence 0 = .ok (.aload_n 0, 1) := dk_42 (dk_at dksX1_fence_0 0 rfl rfl)
theorem dX1_fence_1 : decode cX1_fence 1 = .ok (.iload_n 1, 1) := dk_27 (dk_at dksX1_fence_0 1 rfl rfl)
theorem dX1_fence_2 : decode cX1_fence 2 = .ok (.iload_n 2, 1) := dk_28 (dk_at dksX1_fence_0 2 rfl rfl)
theorem dX1_fence_3 : decode cX1_fence 3 = .ok (.iload_n 3, 1) := dk_29 (dk_at dksX1_fence_0 3 rfl rfl)
theorem dX1_fence_4 : decode cX1_fence 4 = .ok (.iload 4, 2) := dk_21 4 (dk_at dksX1_fence_0 4 rfl rfl)
theorem dX1_fence_6 : decode cX1_fence 6 = .ok (.invokevirtual 144, 3) := dk_182 0 144 (dk_at dksX1_fence_0 6 rfl rfl)
theorem dX1_fence_9 : decode cX1_fence 9 = .ok (.ifCond .ne 9, 3) := dk_154 0 9 (dk_at dksX1_fence_0 9 rfl rfl)
theorem dX1_fence_12 : decode cX1_fence 12 = .ok (.aload_n 0, 1) := dk_42 (dk_at dksX1_fence_0 12 rfl rfl)
theorem dX1_fence_13 : decode cX1_fence 13 = .ok (.iconst (-1), 1) := dk_2 (dk_at dksX1_fence_0 13 rfl rfl)
theorem dX1_fence_14 : decode cX1_fence 14 = .ok (.invokevirtual 93, 3) := dk_182 0 93 (dk_at dksX1_fence_0 14 rfl rfl)
theorem dX1_fence_17 : decode cX1_fence 17 = .ok (.ireturn, 1) := dk_172 (dk_at dksX1_fence_0 17 rfl rfl)
theorem dX1_fence_18 : decode cX1_fence 18 = .ok (.new 127, 3) := dk_187 0 127 (dk_at dksX1_fence_0 18 rfl rfl)
theorem dX1_fence_21 : decode cX1_fence 21 = .ok (.dup, 1) := dk_89 (dk_at dksX1_fence_0 21 rfl rfl)
theorem dX1_fence_22 : decode cX1_fence 22 = .ok (.invokespecial 148, 3) := dk_183 0 148 (dk_at dksX1_fence_1 0 rfl rfl)
theorem dX1_fence_25 : decode cX1_fence 25 = .ok (.astore 5, 2) := dk_58 5 (dk_at dksX1_fence_1 3 rfl rfl)
theorem dX1_fence_27 : decode cX1_fence 27 = .ok (.aload 5, 2) := dk_25 5 (dk_at dksX1_fence_1 5 rfl rfl)
theorem dX1_fence_29 : decode cX1_fence 29 = .ok (.iload_n 1, 1) := dk_27 (dk_at dksX1_fence_1 7 rfl rfl)
theorem dX1_fence_30 : decode cX1_fence 30 = .ok (.iload_n 2, 1) := dk_28 (dk_at dksX1_fence_1 8 rfl rfl)
theorem dX1_fence_31 : decode cX1_fence 31 = .ok (.iload_n 3, 1) := dk_29 (dk_at dksX1_fence_1 9 rfl rfl)
theorem dX1_fence_32 : decode cX1_fence 32 = .ok (.iload 4, 2) := dk_21 4 (dk_at dksX1_fence_1 10 rfl rfl)
theorem dX1_fence_34 : decode cX1_fence 34 = .ok (.iconst 0, 1) := dk_3 (dk_at dksX1_fence_1 12 rfl rfl)
theorem dX1_fence_35 : decode cX1_fence 35 = .ok (.invokevirtual 149, 3) := dk_182 0 149 (dk_at dksX1_fence_1 13 rfl rfl)
theorem dX1_fence_38 : decode cX1_fence 38 = .ok (.aload_n 0, 1) := dk_42 (dk_at dksX1_fence_1 16 rfl rfl)
theorem dX1_fence_39 : decode cX1_fence 39 = .ok (.aload 5, 2) := dk_25 5 (dk_at dksX1_fence_1 17 rfl rfl)
theorem dX1_fence_41 : decode cX1_fence 41 = .ok (.iconst 0, 1) := dk_3 (dk_at dksX1_fence_1 19 rfl rfl)
theorem dX1_fence_42 : decode cX1_fence 42 = .ok (.invokevirtual 153, 3) := dk_182 0 153 (dk_at dksX1_fence_1 20 rfl rfl)
theorem dX1_fence_45 : decode cX1_fence 45 = .ok (.istore 6, 2) := dk_54 6 (dk_at dksX1_fence_2 0 rfl rfl)
theorem dX1_fence_47 : decode cX1_fence 47 = .ok (.iconst 0, 1) := dk_3 (dk_at dksX1_fence_2 2 rfl rfl)
theorem dX1_fence_48 : decode cX1_fence 48 = .ok (.istore 7, 2) := dk_54 7 (dk_at dksX1_fence_2 3 rfl rfl)
theorem dX1_fence_50 : decode cX1_fence 50 = .ok (.iload 7, 2) := dk_21 7 (dk_at dksX1_fence_2 5 rfl rfl)
theorem dX1_fence_52 : decode cX1_fence 52 = .ok (.aload_n 0, 1) := dk_42 (dk_at dksX1_fence_2 7 rfl rfl)
theorem dX1_fence_53 : decode cX1_fence 53 = .ok (.getfield 67, 3) := dk_180 0 67 (dk_at dksX1_fence_2 8 rfl rfl)
theorem dX1_fence_56 : decode cX1_fence 56 = .ok (.getfield 110, 3) := dk_180 0 110 (dk_at dksX1_fence_2 11 rfl rfl)
theorem dX1_fence_59 : decode cX1_fence 59 = .ok (.if_icmp .ge 29, 3) := dk_162 0 29 (dk_at dksX1_fence_2 14 rfl rfl)
theorem dX1_fence_62 : decode cX1_fence 62 = .ok (.iload 6, 2) := dk_21 6 (dk_at dksX1_fence_2 17 rfl rfl)
theorem dX1_fence_64 : decode cX1_fence 64 = .ok (.aload_n 0, 1) := dk_42 (dk_at dksX1_fence_2 19 rfl rfl)
theorem dX1_fence_65 : decode cX1_fence 65 = .ok (.getfield 67, 3) := dk_180 0 67 (dk_at dksX1_fence_2 20 rfl rfl)
theorem dX1_fence_68 : decode cX1_fence 68 = .ok (.getfield 173, 3) := dk_180 0 173 (dk_at dksX1_fence_3 0 rfl rfl)
theorem dX1_fence_71 : decode cX1_fence 71 = .ok (.iload 7, 2) := dk_21 7 (dk_at dksX1_fence_3 3 rfl rfl)
theorem dX1_fence_73 : decode cX1_fence 73 = .ok (.aaload, 1) := dk_50 (dk_at dksX1_fence_3 5 rfl rfl)
theorem dX1_fence_74 : decode cX1_fence 74 = .ok (.aload 5, 2) := dk_25 5 (dk_at dksX1_fence_3 6 rfl rfl)
theorem dX1_fence_76 : decode cX1_fence 76 = .ok (.invokevirtual 176, 3) := dk_182 0 176 (dk_at dksX1_fence_3 8 rfl rfl)
theorem dX1_fence_79 : decode cX1_fence 79 = .ok (.ior, 1) := dk_128 (dk_at dksX1_fence_3 11 rfl rfl)
theorem dX1_fence_80 : decode cX1_fence 80 = .ok (.istore 6, 2) := dk_54 6 (dk_at dksX1_fence_3 12 rfl rfl)
theorem dX1_fence_82 : decode cX1_fence 82 = .ok (.iinc 7 1, 3) := dk_132 7 1 (dk_at dksX1_fence_3 14 rfl rfl)
theorem dX1_fence_85 : decode cX1_fence 85 = .ok (.goto (-35), 3) := dk_167 255 221 (dk_at dksX1_fence_3 17 rfl rfl)
theorem dX1_fence_88 : decode cX1_fence 88 = .ok (.iload 6, 2) := dk_21 6 (dk_at dksX1_fence_3 20 rfl rfl)
theorem dX1_fence_90 : decode cX1_fence 90 = .ok (.ifCond .eq 10, 3) := dk_153 0 10 (dk_at dksX1_fence_4 0 rfl rfl)
theorem dX1_fence_93 : decode cX1_fence 93 = .ok (.aload_n 0, 1) := dk_42 (dk_at dksX1_fence_4 3 rfl rfl)
theorem dX1_fence_94 : decode cX1_fence 94 = .ok (.bipush (-4), 2) := dk_16 252 (dk_at dksX1_fence_4 4 rfl rfl)
theorem dX1_fence_96 : decode cX1_fence 96 = .ok (.invokevirtual 93, 3) := dk_182 0 93 (dk_at dksX1_fence_4 6 rfl rfl)
theorem dX1_fence_99 : decode cX1_fence 99 = .ok (.ireturn, 1) := dk_172 (dk_at dksX1_fence_4 9 rfl rfl)
theorem dX1_fence_100 : decode cX1_fence 100 = .ok (.aload_n 0, 1) := dk_42 (dk_at dksX1_fence_4 10 rfl rfl)
theorem dX1_fence_101 : decode cX1_fence 101 = .ok (.getfield 67, 3) := dk_180 0 67 (dk_at dksX1_fence_4 11 rfl rfl)
theorem dX1_fence_104 : decode cX1_fence 104 = .ok (.getfield 110, 3) := dk_180 0 110 (dk_at dksX1_fence_4 14 rfl rfl)
theorem dX1_fence_107 : decode cX1_fence 107 = .ok (.iconst 3, 1) := dk_6 (dk_at dksX1_fence_4 17 rfl rfl)
theorem dX1_fence_108 : decode cX1_fence 108 = .ok (.if_icmp .ne 10, 3) := dk_160 0 10 (dk_at dksX1_fence_4 18 rfl rfl)
theorem dX1_fence_111 : decode cX1_fence 111 = .ok (.aload_n 0, 1) := dk_42 (dk_at dksX1_fence_4 21 rfl rfl)
theorem dX1_fence_112 : decode cX1_fence 112 = .ok (.bipush (-5), 2) := dk_16 251 (dk_at dksX1_fence_4 22 rfl rfl)
theorem dX1_fence_114 : decode cX1_fence 114 = .ok (.invokevirtual 93, 3) := dk_182 0 93 (dk_at dksX1_fence_5 0 rfl rfl)
theorem dX1_fence_117 : decode cX1_fence 117 = .ok (.ireturn, 1) := dk_172 (dk_at dksX1_fence_5 3 rfl rfl)
theorem dX1_fence_118 : decode cX1_fence 118 = .ok (.aload_n 0, 1) := dk_42 (dk_at dksX1_fence_5 4 rfl rfl)
theorem dX1_fence_119 : decode cX1_fence 119 = .ok (.iconst 1, 1) := dk_4 (dk_at dksX1_fence_5 5 rfl rfl)
theorem dX1_fence_120 : decode cX1_fence 120 = .ok (.invokevirtual 160, 3) := dk_182 0 160 (dk_at dksX1_fence_5 6 rfl rfl)
theorem dX1_fence_123 : decode cX1_fence 123 = .ok (.aload_n 0, 1) := dk_42 (dk_at dksX1_fence_5 9 rfl rfl)
theorem dX1_fence_124 : decode cX1_fence 124 = .ok (.getfield 67, 3) := dk_180 0 67 (dk_at dksX1_fence_5 10 rfl rfl)
theorem dX1_fence_127 : decode cX1_fence 127 = .ok (.getfield 173, 3) := dk_180 0 173 (dk_at dksX1_fence_5 13 rfl rfl)
theorem dX1_fence_130 : decode cX1_fence 130 = .ok (.aload_n 0, 1) := dk_42 (dk_at dksX1_fence_5 16 rfl rfl)
theorem dX1_fence_131 : decode cX1_fence 131 = .ok (.getfield 67, 3) := dk_180 0 67 (dk_at dksX1_fence_5 17 rfl rfl)
theorem dX1_fence_134 : decode cX1_fence 134 = .ok (.getfield 110, 3) := dk_180 0 110 (dk_at dksX1_fence_5 20 rfl rfl)
theorem dX1_fence_137 : decode cX1_fence 137 = .ok (.aaload, 1) := dk_50 (dk_at dksX1_fence_5 23 rfl rfl)
theorem dX1_fence_138 : decode cX1_fence 138 = .ok (.aload 5, 2) := dk_25 5 (dk_at dksX1_fence_6 0 rfl rfl)
theorem dX1_fence_140 : decode cX1_fence 140 = .ok (.invokevirtual 167, 3) := dk_182 0 167 (dk_at dksX1_fence_6 2 rfl rfl)
theorem dX1_fence_143 : decode cX1_fence 143 = .ok (.aload_n 0, 1) := dk_42 (dk_at dksX1_fence_6 5 rfl rfl)
theorem dX1_fence_144 : decode cX1_fence 144 = .ok (.getfield 67, 3) := dk_180 0 67 (dk_at dksX1_fence_6 6 rfl rfl)
theorem dX1_fence_147 : decode cX1_fence 147 = .ok (.dup, 1) := dk_89 (dk_at dksX1_fence_6 9 rfl rfl)
theorem dX1_fence_148 : decode cX1_fence 148 = .ok (.getfield 110, 3) := dk_180 0 110 (dk_at dksX1_fence_6 10 rfl rfl)
theorem dX1_fence_151 : decode cX1_fence 151 = .ok (.iconst 1, 1) := dk_4 (dk_at dksX1_fence_6 13 rfl rfl)
theorem dX1_fence_152 : decode cX1_fence 152 = .ok (.iadd, 1) := dk_96 (dk_at dksX1_fence_6 14 rfl rfl)
theorem dX1_fence_153 : decode cX1_fence 153 = .ok (.putfield 110, 3) := dk_181 0 110 (dk_at dksX1_fence_6 15 rfl rfl)
theorem dX1_fence_156 : decode cX1_fence 156 = .ok (.aload_n 0, 1) := dk_42 (dk_at dksX1_fence_6 18 rfl rfl)
theorem dX1_fence_157 : decode cX1_fence 157 = .ok (.getfield 67, 3) := dk_180 0 67 (dk_at dksX1_fence_6 19 rfl rfl)
theorem dX1_fence_160 : decode cX1_fence 160 = .ok (.invokevirtual 170, 3) := dk_182 0 170 (dk_at dksX1_fence_7 0 rfl rfl)
theorem dX1_fence_163 : decode cX1_fence 163 = .ok (.aload_n 0, 1) := dk_42 (dk_at dksX1_fence_7 3 rfl rfl)
theorem dX1_fence_164 : decode cX1_fence 164 = .ok (.aload_n 0, 1) := dk_42 (dk_at dksX1_fence_7 4 rfl rfl)
theorem dX1_fence_165 : decode cX1_fence 165 = .ok (.getfield 67, 3) := dk_180 0 67 (dk_at dksX1_fence_7 5 rfl rfl)
theorem dX1_fence_168 : decode cX1_fence 168 = .ok (.getfield 110, 3) := dk_180 0 110 (dk_at dksX1_fence_7 8 rfl rfl)
theorem dX1_fence_171 : decode cX1_fence 171 = .ok (.iconst 1, 1) := dk_4 (dk_at dksX1_fence_7 11 rfl rfl)
theorem dX1_fence_172 : decode cX1_fence 172 = .ok (.isub, 1) := dk_100 (dk_at dksX1_fence_7 12 rfl rfl)
theorem dX1_fence_173 : decode cX1_fence 173 = .ok (.invokevirtual 97, 3) := dk_182 0 97 (dk_at dksX1_fence_7 13 rfl rfl)
theorem dX1_fence_176 : decode cX1_fence 176 = .ok (.ireturn, 1) := dk_172 (dk_at dksX1_fence_7 16 rfl rfl)
abbrev cX1_cell : ByteArray := prog_1_method_23_code
def yX1_cell : MethodName := ⟨RX1, "cell", "(II)I"⟩
def dkwX1_cell_4 : List UInt8 := [180, 0, 100, 4, 100, 182, 0, 97, 172]
abbrev dktX1_cell_4 : List UInt8 := dkwX1_cell_4 ++ []
def dkwX1_cell_3 : List UInt8 := [27, 28, 182, 0, 188, 42, 180, 0, 67, 89, 180, 0, 100, 4, 96, 181, 0, 100, 42, 42, 180, 0, 67]
abbrev dktX1_cell_3 : List UInt8 := dkwX1_cell_3 ++ dktX1_cell_4
def dkwX1_cell_2 : List UInt8 := [182, 0, 93, 172, 42, 5, 182, 0, 160, 42, 180, 0, 67, 180, 0, 184, 42, 180, 0, 67, 180, 0, 100, 50]
abbrev dktX1_cell_2 : List UInt8 := dkwX1_cell_2 ++ dktX1_cell_3
def dkwX1_cell_1 : List UInt8 := [42, 16, 254, 182, 0, 93, 172, 42, 180, 0, 67, 180, 0, 100, 16, 20, 160, 0, 10, 42, 16, 251]
abbrev dktX1_cell_1 : List UInt8 := dkwX1_cell_1 ++ dktX1_cell_2
def dkwX1_cell_0 : List UInt8 := [27, 4, 16, 6, 184, 0, 103, 154, 0, 9, 42, 2, 182, 0, 93, 172, 42, 28, 182, 0, 180, 154, 0, 10]
abbrev dktX1_cell_0 : List UInt8 := dkwX1_cell_0 ++ dktX1_cell_1
theorem dksX1_cell_0 : cX1_cell.data.toList.drop 0 = dktX1_cell_0 := by decide +kernel
theorem dksX1_cell_1 : cX1_cell.data.toList.drop 24 = dktX1_cell_1 := dk_seg dksX1_cell_0 24 rfl rfl
theorem dksX1_cell_2 : cX1_cell.data.toList.drop 46 = dktX1_cell_2 := dk_seg dksX1_cell_1 22 rfl rfl
theorem dksX1_cell_3 : cX1_cell.data.toList.drop 70 = dktX1_cell_3 := dk_seg dksX1_cell_2 24 rfl rfl
theorem dksX1_cell_4 : cX1_cell.data.toList.drop 93 = dktX1_cell_4 := dk_seg dksX1_cell_3 23 rfl rfl
theorem dX1_cell_0 : decode cX1_cell 0 = .ok (.iload_n 1, 1) := dk_27 (dk_at dksX1_cell_0 0 rfl rfl)
theorem dX1_cell_1 : decode cX1_cell 1 = .ok (.iconst 1, 1) := dk_4 (dk_at dksX1_cell_0 1 rfl rfl)
theorem dX1_cell_2 : decode cX1_cell 2 = .ok (.bipush 6, 2) := dk_16 6 (dk_at dksX1_cell_0 2 rfl rfl)
theorem dX1_cell_4 : decode cX1_cell 4 = .ok (.invokestatic 103, 3) := dk_184 0 103 (dk_at dksX1_cell_0 4 rfl rfl)
theorem dX1_cell_7 : decode cX1_cell 7 = .ok (.ifCond .ne 9, 3) := dk_154 0 9 (dk_at dksX1_cell_0 7 rfl rfl)
theorem dX1_cell_10 : decode cX1_cell 10 = .ok (.aload_n 0, 1) := dk_42 (dk_at dksX1_cell_0 10 rfl rfl)
theorem dX1_cell_11 : decode cX1_cell 11 = .ok (.iconst (-1), 1) := dk_2 (dk_at dksX1_cell_0 11 rfl rfl)
theorem dX1_cell_12 : decode cX1_cell 12 = .ok (.invokevirtual 93, 3) := dk_182 0 93 (dk_at dksX1_cell_0 12 rfl rfl)
theorem dX1_cell_15 : decode cX1_cell 15 = .ok (.ireturn, 1) := dk_172 (dk_at dksX1_cell_0 15 rfl rfl)
theorem dX1_cell_16 : decode cX1_cell 16 = .ok (.aload_n 0, 1) := dk_42 (dk_at dksX1_cell_0 16 rfl rfl)
theorem dX1_cell_17 : decode cX1_cell 17 = .ok (.iload_n 2, 1) := dk_28 (dk_at dksX1_cell_0 17 rfl rfl)
theorem dX1_cell_18 : decode cX1_cell 18 = .ok (.invokevirtual 180, 3) := dk_182 0 180 (dk_at dksX1_cell_0 18 rfl rfl)
theorem dX1_cell_21 : decode cX1_cell 21 = .ok (.ifCond .ne 10, 3) := dk_154 0 10 (dk_at dksX1_cell_0 21 rfl rfl)
theorem dX1_cell_24 : decode cX1_cell 24 = .ok (.aload_n 0, 1) := dk_42 (dk_at dksX1_cell_1 0 rfl rfl)
theorem dX1_cell_25 : decode cX1_cell 25 = .ok (.bipush (-2), 2) := dk_16 254 (dk_at dksX1_cell_1 1 rfl rfl)
theorem dX1_cell_27 : decode cX1_cell 27 = .ok (.invokevirtual 93, 3) := dk_182 0 93 (dk_at dksX1_cell_1 3 rfl rfl)
theorem dX1_cell_30 : decode cX1_cell 30 = .ok (.ireturn, 1) := dk_172 (dk_at dksX1_cell_1 6 rfl rfl)
theorem dX1_cell_31 : decode cX1_cell 31 = .ok (.aload_n 0, 1) := dk_42 (dk_at dksX1_cell_1 7 rfl rfl)
theorem dX1_cell_32 : decode cX1_cell 32 = .ok (.getfield 67, 3) := dk_180 0 67 (dk_at dksX1_cell_1 8 rfl rfl)
theorem dX1_cell_35 : decode cX1_cell 35 = .ok (.getfield 100, 3) := dk_180 0 100 (dk_at dksX1_cell_1 11 rfl rfl)
theorem dX1_cell_38 : decode cX1_cell 38 = .ok (.bipush 20, 2) := dk_16 20 (dk_at dksX1_cell_1 14 rfl rfl)
theorem dX1_cell_40 : decode cX1_cell 40 = .ok (.if_icmp .ne 10, 3) := dk_160 0 10 (dk_at dksX1_cell_1 16 rfl rfl)
theorem dX1_cell_43 : decode cX1_cell 43 = .ok (.aload_n 0, 1) := dk_42 (dk_at dksX1_cell_1 19 rfl rfl)
theorem dX1_cell_44 : decode cX1_cell 44 = .ok (.bipush (-5), 2) := dk_16 251 (dk_at dksX1_cell_1 20 rfl rfl)
theorem dX1_cell_46 : decode cX1_cell 46 = .ok (.invokevirtual 93, 3) := dk_182 0 93 (dk_at dksX1_cell_2 0 rfl rfl)
theorem dX1_cell_49 : decode cX1_cell 49 = .ok (.ireturn, 1) := dk_172 (dk_at dksX1_cell_2 3 rfl rfl)
theorem dX1_cell_50 : decode cX1_cell 50 = .ok (.aload_n 0, 1) := dk_42 (dk_at dksX1_cell_2 4 rfl rfl)
theorem dX1_cell_51 : decode cX1_cell 51 = .ok (.iconst 2, 1) := dk_5 (dk_at dksX1_cell_2 5 rfl rfl)
theorem dX1_cell_52 : decode cX1_cell 52 = .ok (.invokevirtual 160, 3) := dk_182 0 160 (dk_at dksX1_cell_2 6 rfl rfl)
theorem dX1_cell_55 : decode cX1_cell 55 = .ok (.aload_n 0, 1) := dk_42 (dk_at dksX1_cell_2 9 rfl rfl)
theorem dX1_cell_56 : decode cX1_cell 56 = .ok (.getfield 67, 3) := dk_180 0 67 (dk_at dksX1_cell_2 10 rfl rfl)
theorem dX1_cell_59 : decode cX1_cell 59 = .ok (.getfield 184, 3) := dk_180 0 184 (dk_at dksX1_cell_2 13 rfl rfl)
theorem dX1_cell_62 : decode cX1_cell 62 = .ok (.aload_n 0, 1) := dk_42 (dk_at dksX1_cell_2 16 rfl rfl)
theorem dX1_cell_63 : decode cX1_cell 63 = .ok (.getfield 67, 3) := dk_180 0 67 (dk_at dksX1_cell_2 17 rfl rfl)
theorem dX1_cell_66 : decode cX1_cell 66 = .ok (.getfield 100, 3) := dk_180 0 100 (dk_at dksX1_cell_2 20 rfl rfl)
theorem dX1_cell_69 : decode cX1_cell 69 = .ok (.aaload, 1) := dk_50 (dk_at dksX1_cell_2 23 rfl rfl)
theorem dX1_cell_70 : decode cX1_cell 70 = .ok (.iload_n 1, 1) := dk_27 (dk_at dksX1_cell_3 0 rfl rfl)
theorem dX1_cell_71 : decode cX1_cell 71 = .ok (.iload_n 2, 1) := dk_28 (dk_at dksX1_cell_3 1 rfl rfl)
theorem dX1_cell_72 : decode cX1_cell 72 = .ok (.invokevirtual 188, 3) := dk_182 0 188 (dk_at dksX1_cell_3 2 rfl rfl)
theorem dX1_cell_75 : decode cX1_cell 75 = .ok (.aload_n 0, 1) := dk_42 (dk_at dksX1_cell_3 5 rfl rfl)
theorem dX1_cell_76 : decode cX1_cell 76 = .ok (.getfield 67, 3) := dk_180 0 67 (dk_at dksX1_cell_3 6 rfl rfl)
theorem dX1_cell_79 : decode cX1_cell 79 = .ok (.dup, 1) := dk_89 (dk_at dksX1_cell_3 9 rfl rfl)
theorem dX1_cell_80 : decode cX1_cell 80 = .ok (.getfield 100, 3) := dk_180 0 100 (dk_at dksX1_cell_3 10 rfl rfl)
theorem dX1_cell_83 : decode cX1_cell 83 = .ok (.iconst 1, 1) := dk_4 (dk_at dksX1_cell_3 13 rfl rfl)
theorem dX1_cell_84 : decode cX1_cell 84 = .ok (.iadd, 1) := dk_96 (dk_at dksX1_cell_3 14 rfl rfl)
theorem dX1_cell_85 : decode cX1_cell 85 = .ok (.putfield 100, 3) := dk_181 0 100 (dk_at dksX1_cell_3 15 rfl rfl)
theorem dX1_cell_88 : decode cX1_cell 88 = .ok (.aload_n 0, 1) := dk_42 (dk_at dksX1_cell_3 18 rfl rfl)
theorem dX1_cell_89 : decode cX1_cell 89 = .ok (.aload_n 0, 1) := dk_42 (dk_at dksX1_cell_3 19 rfl rfl)
theorem dX1_cell_90 : decode cX1_cell 90 = .ok (.getfield 67, 3) := dk_180 0 67 (dk_at dksX1_cell_3 20 rfl rfl)
theorem dX1_cell_93 : decode cX1_cell 93 = .ok (.getfield 100, 3) := dk_180 0 100 (dk_at dksX1_cell_4 0 rfl rfl)
theorem dX1_cell_96 : decode cX1_cell 96 = .ok (.iconst 1, 1) := dk_4 (dk_at dksX1_cell_4 3 rfl rfl)
theorem dX1_cell_97 : decode cX1_cell 97 = .ok (.isub, 1) := dk_100 (dk_at dksX1_cell_4 4 rfl rfl)
theorem dX1_cell_98 : decode cX1_cell 98 = .ok (.invokevirtual 97, 3) := dk_182 0 97 (dk_at dksX1_cell_4 5 rfl rfl)
theorem dX1_cell_101 : decode cX1_cell 101 = .ok (.ireturn, 1) := dk_172 (dk_at dksX1_cell_4 8 rfl rfl)
abbrev cX1_isFence : ByteArray := prog_1_method_10_code
def yX1_isFence : MethodName := ⟨RX1, "isFence", "(I)Z"⟩
def dkwX1_isFence_0 : List UInt8 := [27, 2, 42, 180, 0, 67, 180, 0, 110, 4, 100, 184, 0, 103, 172]
abbrev dktX1_isFence_0 : List UInt8 := dkwX1_isFence_0 ++ []
theorem dksX1_isFence_0 : cX1_isFence.data.toList.drop 0 = dktX1_isFence_0 := by decide +kernel
theorem dX1_isFence_0 : decode cX1_isFence 0 = .ok (.iload_n 1, 1) := dk_27 (dk_at dksX1_isFence_0 0 rfl rfl)
theorem dX1_isFence_1 : decode cX1_isFence 1 = .ok (.iconst (-1), 1) := dk_2 (dk_at dksX1_isFence_0 1 rfl rfl)
theorem dX1_isFence_2 : decode cX1_isFence 2 = .ok (.aload_n 0, 1) := dk_42 (dk_at dksX1_isFence_0 2 rfl rfl)
theorem dX1_isFence_3 : decode cX1_isFence 3 = .ok (.getfield 67, 3) := dk_180 0 67 (dk_at dksX1_isFence_0 3 rfl rfl)
theorem dX1_isFence_6 : decode cX1_isFence 6 = .ok (.getfield 110, 3) := dk_180 0 110 (dk_at dksX1_isFence_0 6 rfl rfl)
theorem dX1_isFence_9 : decode cX1_isFence 9 = .ok (.iconst 1, 1) := dk_4 (dk_at dksX1_isFence_0 9 rfl rfl)
theorem dX1_isFence_10 : decode cX1_isFence 10 = .ok (.isub, 1) := dk_100 (dk_at dksX1_isFence_0 10 rfl rfl)
theorem dX1_isFence_11 : decode cX1_isFence 11 = .ok (.invokestatic 103, 3) := dk_184 0 103 (dk_at dksX1_isFence_0 11 rfl rfl)
theorem dX1_isFence_14 : decode cX1_isFence 14 = .ok (.ireturn, 1) := dk_172 (dk_at dksX1_isFence_0 14 rfl rfl)
abbrev cX1_net : ByteArray := prog_1_method_26_code
def yX1_net : MethodName := ⟨RX1, "net", "(I)I"⟩
def dkwX1_net_5 : List UInt8 := [180, 0, 67, 180, 0, 107, 4, 100, 182, 0, 97, 172]
abbrev dktX1_net_5 : List UInt8 := dkwX1_net_5 ++ []
def dkwX1_net_4 : List UInt8 := [180, 0, 107, 50, 45, 182, 0, 227, 42, 180, 0, 67, 89, 180, 0, 107, 4, 96, 181, 0, 107, 42, 42]
abbrev dktX1_net_4 : List UInt8 := dkwX1_net_4 ++ dktX1_net_5
def dkwX1_net_3 : List UInt8 := [16, 250, 182, 0, 93, 172, 42, 6, 182, 0, 160, 42, 180, 0, 67, 180, 0, 223, 42, 180, 0, 67]
abbrev dktX1_net_3 : List UInt8 := dkwX1_net_3 ++ dktX1_net_4
def dkwX1_net_2 : List UInt8 := [187, 0, 209, 89, 183, 0, 216, 78, 45, 27, 182, 0, 217, 42, 28, 45, 182, 0, 219, 154, 0, 10, 42]
abbrev dktX1_net_2 : List UInt8 := dkwX1_net_2 ++ dktX1_net_3
def dkwX1_net_1 : List UInt8 := [16, 16, 160, 0, 10, 42, 16, 251, 182, 0, 93, 172, 42, 180, 0, 119, 61, 42, 3, 181, 0, 119]
abbrev dktX1_net_1 : List UInt8 := dkwX1_net_1 ++ dktX1_net_2
def dkwX1_net_0 : List UInt8 := [27, 4, 16, 9, 184, 0, 103, 154, 0, 9, 42, 2, 182, 0, 93, 172, 42, 180, 0, 67, 180, 0, 107]
abbrev dktX1_net_0 : List UInt8 := dkwX1_net_0 ++ dktX1_net_1
theorem dksX1_net_0 : cX1_net.data.toList.drop 0 = dktX1_net_0 := by decide +kernel
theorem dksX1_net_1 : cX1_net.data.toList.drop 23 = dktX1_net_1 := dk_seg dksX1_net_0 23 rfl rfl
theorem dksX1_net_2 : cX1_net.data.toList.drop 45 = dktX1_net_2 := dk_seg dksX1_net_1 22 rfl rfl
theorem dksX1_net_3 : cX1_net.data.toList.drop 68 = dktX1_net_3 := dk_seg dksX1_net_2 23 rfl rfl
theorem dksX1_net_4 : cX1_net.data.toList.drop 90 = dktX1_net_4 := dk_seg dksX1_net_3 22 rfl rfl
theorem dksX1_net_5 : cX1_net.data.toList.drop 113 = dktX1_net_5 := dk_seg dksX1_net_4 23 rfl rfl
theorem dX1_net_0 : decode cX1_net 0 = .ok (.iload_n 1, 1) := dk_27 (dk_at dksX1_net_0 0 rfl rfl)
theorem dX1_net_1 : decode cX1_net 1 = .ok (.iconst 1, 1) := dk_4 (dk_at dksX1_net_0 1 rfl rfl)
theorem dX1_net_2 : decode cX1_net 2 = .ok (.bipush 9, 2) := dk_16 9 (dk_at dksX1_net_0 2 rfl rfl)
theorem dX1_net_4 : decode cX1_net 4 = .ok (.invokestatic 103, 3) := dk_184 0 103 (dk_at dksX1_net_0 4 rfl rfl)
theorem dX1_net_7 : decode cX1_net 7 = .ok (.ifCond .ne 9, 3) := dk_154 0 9 (dk_at dksX1_net_0 7 rfl rfl)
theorem dX1_net_10 : decode cX1_net 10 = .ok (.aload_n 0, 1) := dk_42 (dk_at dksX1_net_0 10 rfl rfl)
theorem dX1_net_11 : decode cX1_net 11 = .ok (.iconst (-1), 1) := dk_2 (dk_at dksX1_net_0 11 rfl rfl)
theorem dX1_net_12 : decode cX1_net 12 = .ok (.invokevirtual 93, 3) := dk_182 0 93 (dk_at dksX1_net_0 12 rfl rfl)
theorem dX1_net_15 : decode cX1_net 15 = .ok (.ireturn, 1) := dk_172 (dk_at dksX1_net_0 15 rfl rfl)
theorem dX1_net_16 : decode cX1_net 16 = .ok (.aload_n 0, 1) := dk_42 (dk_at dksX1_net_0 16 rfl rfl)
theorem dX1_net_17 : decode cX1_net 17 = .ok (.getfield 67, 3) := dk_180 0 67 (dk_at dksX1_net_0 17 rfl rfl)
theorem dX1_net_20 : decode cX1_net 20 = .ok (.getfield 107, 3) := dk_180 0 107 (dk_at dksX1_net_0 20 rfl rfl)
theorem dX1_net_23 : decode cX1_net 23 = .ok (.bipush 16, 2) := dk_16 16 (dk_at dksX1_net_1 0 rfl rfl)
theorem dX1_net_25 : decode cX1_net 25 = .ok (.if_icmp .ne 10, 3) := dk_160 0 10 (dk_at dksX1_net_1 2 rfl rfl)
theorem dX1_net_28 : decode cX1_net 28 = .ok (.aload_n 0, 1) := dk_42 (dk_at dksX1_net_1 5 rfl rfl)
theorem dX1_net_29 : decode cX1_net 29 = .ok (.bipush (-5), 2) := dk_16 251 (dk_at dksX1_net_1 6 rfl rfl)
theorem dX1_net_31 : decode cX1_net 31 = .ok (.invokevirtual 93, 3) := dk_182 0 93 (dk_at dksX1_net_1 8 rfl rfl)
theorem dX1_net_34 : decode cX1_net 34 = .ok (.ireturn, 1) := dk_172 (dk_at dksX1_net_1 11 rfl rfl)
theorem dX1_net_35 : decode cX1_net 35 = .ok (.aload_n 0, 1) := dk_42 (dk_at dksX1_net_1 12 rfl rfl)
theorem dX1_net_36 : decode cX1_net 36 = .ok (.getfield 119, 3) := dk_180 0 119 (dk_at dksX1_net_1 13 rfl rfl)
theorem dX1_net_39 : decode cX1_net 39 = .ok (.istore_n 2, 1) := dk_61 (dk_at dksX1_net_1 16 rfl rfl)
theorem dX1_net_40 : decode cX1_net 40 = .ok (.aload_n 0, 1) := dk_42 (dk_at dksX1_net_1 17 rfl rfl)
theorem dX1_net_41 : decode cX1_net 41 = .ok (.iconst 0, 1) := dk_3 (dk_at dksX1_net_1 18 rfl rfl)
theorem dX1_net_42 : decode cX1_net 42 = .ok (.putfield 119, 3) := dk_181 0 119 (dk_at dksX1_net_1 19 rfl rfl)
theorem dX1_net_45 : decode cX1_net 45 = .ok (.new 209, 3) := dk_187 0 209 (dk_at dksX1_net_2 0 rfl rfl)
theorem dX1_net_48 : decode cX1_net 48 = .ok (.dup, 1) := dk_89 (dk_at dksX1_net_2 3 rfl rfl)
theorem dX1_net_49 : decode cX1_net 49 = .ok (.invokespecial 216, 3) := dk_183 0 216 (dk_at dksX1_net_2 4 rfl rfl)
theorem dX1_net_52 : decode cX1_net 52 = .ok (.astore_n 3, 1) := dk_78 (dk_at dksX1_net_2 7 rfl rfl)
theorem dX1_net_53 : decode cX1_net 53 = .ok (.aload_n 3, 1) := dk_45 (dk_at dksX1_net_2 8 rfl rfl)
theorem dX1_net_54 : decode cX1_net 54 = .ok (.iload_n 1, 1) := dk_27 (dk_at dksX1_net_2 9 rfl rfl)
theorem dX1_net_55 : decode cX1_net 55 = .ok (.invokevirtual 217, 3) := dk_182 0 217 (dk_at dksX1_net_2 10 rfl rfl)
theorem dX1_net_58 : decode cX1_net 58 = .ok (.aload_n 0, 1) := dk_42 (dk_at dksX1_net_2 13 rfl rfl)
theorem dX1_net_59 : decode cX1_net 59 = .ok (.iload_n 2, 1) := dk_28 (dk_at dksX1_net_2 14 rfl rfl)
theorem dX1_net_60 : decode cX1_net 60 = .ok (.aload_n 3, 1) := dk_45 (dk_at dksX1_net_2 15 rfl rfl)
theorem dX1_net_61 : decode cX1_net 61 = .ok (.invokevirtual 219, 3) := dk_182 0 219 (dk_at dksX1_net_2 16 rfl rfl)
theorem dX1_net_64 : decode cX1_net 64 = .ok (.ifCond .ne 10, 3) := dk_154 0 10 (dk_at dksX1_net_2 19 rfl rfl)
theorem dX1_net_67 : decode cX1_net 67 = .ok (.aload_n 0, 1) := dk_42 (dk_at dksX1_net_2 22 rfl rfl)
theorem dX1_net_68 : decode cX1_net 68 = .ok (.bipush (-6), 2) := dk_16 250 (dk_at dksX1_net_3 0 rfl rfl)
theorem dX1_net_70 : decode cX1_net 70 = .ok (.invokevirtual 93, 3) := dk_182 0 93 (dk_at dksX1_net_3 2 rfl rfl)
theorem dX1_net_73 : decode cX1_net 73 = .ok (.ireturn, 1) := dk_172 (dk_at dksX1_net_3 5 rfl rfl)
theorem dX1_net_74 : decode cX1_net 74 = .ok (.aload_n 0, 1) := dk_42 (dk_at dksX1_net_3 6 rfl rfl)
theorem dX1_net_75 : decode cX1_net 75 = .ok (.iconst 3, 1) := dk_6 (dk_at dksX1_net_3 7 rfl rfl)
theorem dX1_net_76 : decode cX1_net 76 = .ok (.invokevirtual 160, 3) := dk_182 0 160 (dk_at dksX1_net_3 8 rfl rfl)
theorem dX1_net_79 : decode cX1_net 79 = .ok (.aload_n 0, 1) := dk_42 (dk_at dksX1_net_3 11 rfl rfl)
theorem dX1_net_80 : decode cX1_net 80 = .ok (.getfield 67, 3) := dk_180 0 67 (dk_at dksX1_net_3 12 rfl rfl)
theorem dX1_net_83 : decode cX1_net 83 = .ok (.getfield 223, 3) := dk_180 0 223 (dk_at dksX1_net_3 15 rfl rfl)
theorem dX1_net_86 : decode cX1_net 86 = .ok (.aload_n 0, 1) := dk_42 (dk_at dksX1_net_3 18 rfl rfl)
theorem dX1_net_87 : decode cX1_net 87 = .ok (.getfield 67, 3) := dk_180 0 67 (dk_at dksX1_net_3 19 rfl rfl)
theorem dX1_net_90 : decode cX1_net 90 = .ok (.getfield 107, 3) := dk_180 0 107 (dk_at dksX1_net_4 0 rfl rfl)
theorem dX1_net_93 : decode cX1_net 93 = .ok (.aaload, 1) := dk_50 (dk_at dksX1_net_4 3 rfl rfl)
theorem dX1_net_94 : decode cX1_net 94 = .ok (.aload_n 3, 1) := dk_45 (dk_at dksX1_net_4 4 rfl rfl)
theorem dX1_net_95 : decode cX1_net 95 = .ok (.invokevirtual 227, 3) := dk_182 0 227 (dk_at dksX1_net_4 5 rfl rfl)
theorem dX1_net_98 : decode cX1_net 98 = .ok (.aload_n 0, 1) := dk_42 (dk_at dksX1_net_4 8 rfl rfl)
theorem dX1_net_99 : decode cX1_net 99 = .ok (.getfield 67, 3) := dk_180 0 67 (dk_at dksX1_net_4 9 rfl rfl)
theorem dX1_net_102 : decode cX1_net 102 = .ok (.dup, 1) := dk_89 (dk_at dksX1_net_4 12 rfl rfl)
theorem dX1_net_103 : decode cX1_net 103 = .ok (.getfield 107, 3) := dk_180 0 107 (dk_at dksX1_net_4 13 rfl rfl)
theorem dX1_net_106 : decode cX1_net 106 = .ok (.iconst 1, 1) := dk_4 (dk_at dksX1_net_4 16 rfl rfl)
theorem dX1_net_107 : decode cX1_net 107 = .ok (.iadd, 1) := dk_96 (dk_at dksX1_net_4 17 rfl rfl)
theorem dX1_net_108 : decode cX1_net 108 = .ok (.putfield 107, 3) := dk_181 0 107 (dk_at dksX1_net_4 18 rfl rfl)
theorem dX1_net_111 : decode cX1_net 111 = .ok (.aload_n 0, 1) := dk_42 (dk_at dksX1_net_4 21 rfl rfl)
theorem dX1_net_112 : decode cX1_net 112 = .ok (.aload_n 0, 1) := dk_42 (dk_at dksX1_net_4 22 rfl rfl)
theorem dX1_net_113 : decode cX1_net 113 = .ok (.getfield 67, 3) := dk_180 0 67 (dk_at dksX1_net_5 0 rfl rfl)
theorem dX1_net_116 : decode cX1_net 116 = .ok (.getfield 107, 3) := dk_180 0 107 (dk_at dksX1_net_5 3 rfl rfl)
theorem dX1_net_119 : decode cX1_net 119 = .ok (.iconst 1, 1) := dk_4 (dk_at dksX1_net_5 6 rfl rfl)
theorem dX1_net_120 : decode cX1_net 120 = .ok (.isub, 1) := dk_100 (dk_at dksX1_net_5 7 rfl rfl)
theorem dX1_net_121 : decode cX1_net 121 = .ok (.invokevirtual 97, 3) := dk_182 0 97 (dk_at dksX1_net_5 8 rfl rfl)
theorem dX1_net_124 : decode cX1_net 124 = .ok (.ireturn, 1) := dk_172 (dk_at dksX1_net_5 11 rfl rfl)
abbrev cX1_reads : ByteArray := prog_1_method_25_code
def yX1_reads : MethodName := ⟨RX1, "reads", "(ILCellRows$Net;)Z"⟩
def dkwX1_reads_3 : List UInt8 := [21, 4, 42, 29, 4, 96, 182, 0, 202, 182, 0, 213, 132, 3, 2, 167, 255, 192, 4, 172]
abbrev dktX1_reads_3 : List UInt8 := dkwX1_reads_3 ++ []
def dkwX1_reads_2 : List UInt8 := [153, 0, 21, 21, 4, 17, 0, 200, 162, 0, 15, 44, 21, 4, 182, 0, 208, 2, 159, 0, 5, 3, 172, 44]
abbrev dktX1_reads_2 : List UInt8 := dkwX1_reads_2 ++ dktX1_reads_3
def dkwX1_reads_1 : List UInt8 := [162, 0, 65, 42, 29, 182, 0, 202, 54, 4, 42, 21, 4, 42, 29, 4, 96, 182, 0, 202, 182, 0, 205]
abbrev dktX1_reads_1 : List UInt8 := dkwX1_reads_1 ++ dktX1_reads_2
def dkwX1_reads_0 : List UInt8 := [27, 5, 112, 154, 0, 15, 27, 5, 108, 5, 16, 6, 184, 0, 103, 154, 0, 5, 3, 172, 3, 62, 29, 27]
abbrev dktX1_reads_0 : List UInt8 := dkwX1_reads_0 ++ dktX1_reads_1
theorem dksX1_reads_0 : cX1_reads.data.toList.drop 0 = dktX1_reads_0 := by decide +kernel
theorem dksX1_reads_1 : cX1_reads.data.toList.drop 24 = dktX1_reads_1 := dk_seg dksX1_reads_0 24 rfl rfl
theorem dksX1_reads_2 : cX1_reads.data.toList.drop 47 = dktX1_reads_2 := dk_seg dksX1_reads_1 23 rfl rfl
theorem dksX1_reads_3 : cX1_reads.data.toList.drop 71 = dktX1_reads_3 := dk_seg dksX1_reads_2 24 rfl rfl
theorem dX1_reads_0 : decode cX1_reads 0 = .ok (.iload_n 1, 1) := dk_27 (dk_at dksX1_reads_0 0 rfl rfl)
theorem dX1_reads_1 : decode cX1_reads 1 = .ok (.iconst 2, 1) := dk_5 (dk_at dksX1_reads_0 1 rfl rfl)
theorem dX1_reads_2 : decode cX1_reads 2 = .ok (.irem, 1) := dk_112 (dk_at dksX1_reads_0 2 rfl rfl)
theorem dX1_reads_3 : decode cX1_reads 3 = .ok (.ifCond .ne 15, 3) := dk_154 0 15 (dk_at dksX1_reads_0 3 rfl rfl)
theorem dX1_reads_6 : decode cX1_reads 6 = .ok (.iload_n 1, 1) := dk_27 (dk_at dksX1_reads_0 6 rfl rfl)
theorem dX1_reads_7 : decode cX1_reads 7 = .ok (.iconst 2, 1) := dk_5 (dk_at dksX1_reads_0 7 rfl rfl)
theorem dX1_reads_8 : decode cX1_reads 8 = .ok (.idiv, 1) := dk_108 (dk_at dksX1_reads_0 8 rfl rfl)
theorem dX1_reads_9 : decode cX1_reads 9 = .ok (.iconst 2, 1) := dk_5 (dk_at dksX1_reads_0 9 rfl rfl)
theorem dX1_reads_10 : decode cX1_reads 10 = .ok (.bipush 6, 2) := dk_16 6 (dk_at dksX1_reads_0 10 rfl rfl)
theorem dX1_reads_12 : decode cX1_reads 12 = .ok (.invokestatic 103, 3) := dk_184 0 103 (dk_at dksX1_reads_0 12 rfl rfl)
theorem dX1_reads_15 : decode cX1_reads 15 = .ok (.ifCond .ne 5, 3) := dk_154 0 5 (dk_at dksX1_reads_0 15 rfl rfl)
theorem dX1_reads_18 : decode cX1_reads 18 = .ok (.iconst 0, 1) := dk_3 (dk_at dksX1_reads_0 18 rfl rfl)
theorem dX1_reads_19 : decode cX1_reads 19 = .ok (.ireturn, 1) := dk_172 (dk_at dksX1_reads_0 19 rfl rfl)
theorem dX1_reads_20 : decode cX1_reads 20 = .ok (.iconst 0, 1) := dk_3 (dk_at dksX1_reads_0 20 rfl rfl)
theorem dX1_reads_21 : decode cX1_reads 21 = .ok (.istore_n 3, 1) := dk_62 (dk_at dksX1_reads_0 21 rfl rfl)
theorem dX1_reads_22 : decode cX1_reads 22 = .ok (.iload_n 3, 1) := dk_29 (dk_at dksX1_reads_0 22 rfl rfl)
theorem dX1_reads_23 : decode cX1_reads 23 = .ok (.iload_n 1, 1) := dk_27 (dk_at dksX1_reads_0 23 rfl rfl)
theorem dX1_reads_24 : decode cX1_reads 24 = .ok (.if_icmp .ge 65, 3) := dk_162 0 65 (dk_at dksX1_reads_1 0 rfl rfl)
theorem dX1_reads_27 : decode cX1_reads 27 = .ok (.aload_n 0, 1) := dk_42 (dk_at dksX1_reads_1 3 rfl rfl)
theorem dX1_reads_28 : decode cX1_reads 28 = .ok (.iload_n 3, 1) := dk_29 (dk_at dksX1_reads_1 4 rfl rfl)
theorem dX1_reads_29 : decode cX1_reads 29 = .ok (.invokevirtual 202, 3) := dk_182 0 202 (dk_at dksX1_reads_1 5 rfl rfl)
theorem dX1_reads_32 : decode cX1_reads 32 = .ok (.istore 4, 2) := dk_54 4 (dk_at dksX1_reads_1 8 rfl rfl)
theorem dX1_reads_34 : decode cX1_reads 34 = .ok (.aload_n 0, 1) := dk_42 (dk_at dksX1_reads_1 10 rfl rfl)
theorem dX1_reads_35 : decode cX1_reads 35 = .ok (.iload 4, 2) := dk_21 4 (dk_at dksX1_reads_1 11 rfl rfl)
theorem dX1_reads_37 : decode cX1_reads 37 = .ok (.aload_n 0, 1) := dk_42 (dk_at dksX1_reads_1 13 rfl rfl)
theorem dX1_reads_38 : decode cX1_reads 38 = .ok (.iload_n 3, 1) := dk_29 (dk_at dksX1_reads_1 14 rfl rfl)
theorem dX1_reads_39 : decode cX1_reads 39 = .ok (.iconst 1, 1) := dk_4 (dk_at dksX1_reads_1 15 rfl rfl)
theorem dX1_reads_40 : decode cX1_reads 40 = .ok (.iadd, 1) := dk_96 (dk_at dksX1_reads_1 16 rfl rfl)
theorem dX1_reads_41 : decode cX1_reads 41 = .ok (.invokevirtual 202, 3) := dk_182 0 202 (dk_at dksX1_reads_1 17 rfl rfl)
theorem dX1_reads_44 : decode cX1_reads 44 = .ok (.invokevirtual 205, 3) := dk_182 0 205 (dk_at dksX1_reads_1 20 rfl rfl)
theorem dX1_reads_47 : decode cX1_reads 47 = .ok (.ifCond .eq 21, 3) := dk_153 0 21 (dk_at dksX1_reads_2 0 rfl rfl)
theorem dX1_reads_50 : decode cX1_reads 50 = .ok (.iload 4, 2) := dk_21 4 (dk_at dksX1_reads_2 3 rfl rfl)
theorem dX1_reads_52 : decode cX1_reads 52 = .ok (.sipush 200, 3) := dk_17 0 200 (dk_at dksX1_reads_2 5 rfl rfl)
theorem dX1_reads_55 : decode cX1_reads 55 = .ok (.if_icmp .ge 15, 3) := dk_162 0 15 (dk_at dksX1_reads_2 8 rfl rfl)
theorem dX1_reads_58 : decode cX1_reads 58 = .ok (.aload_n 2, 1) := dk_44 (dk_at dksX1_reads_2 11 rfl rfl)
theorem dX1_reads_59 : decode cX1_reads 59 = .ok (.iload 4, 2) := dk_21 4 (dk_at dksX1_reads_2 12 rfl rfl)
theorem dX1_reads_61 : decode cX1_reads 61 = .ok (.invokevirtual 208, 3) := dk_182 0 208 (dk_at dksX1_reads_2 14 rfl rfl)
theorem dX1_reads_64 : decode cX1_reads 64 = .ok (.iconst (-1), 1) := dk_2 (dk_at dksX1_reads_2 17 rfl rfl)
theorem dX1_reads_65 : decode cX1_reads 65 = .ok (.if_icmp .eq 5, 3) := dk_159 0 5 (dk_at dksX1_reads_2 18 rfl rfl)
theorem dX1_reads_68 : decode cX1_reads 68 = .ok (.iconst 0, 1) := dk_3 (dk_at dksX1_reads_2 21 rfl rfl)
theorem dX1_reads_69 : decode cX1_reads 69 = .ok (.ireturn, 1) := dk_172 (dk_at dksX1_reads_2 22 rfl rfl)
theorem dX1_reads_70 : decode cX1_reads 70 = .ok (.aload_n 2, 1) := dk_44 (dk_at dksX1_reads_2 23 rfl rfl)
theorem dX1_reads_71 : decode cX1_reads 71 = .ok (.iload 4, 2) := dk_21 4 (dk_at dksX1_reads_3 0 rfl rfl)
theorem dX1_reads_73 : decode cX1_reads 73 = .ok (.aload_n 0, 1) := dk_42 (dk_at dksX1_reads_3 2 rfl rfl)
theorem dX1_reads_74 : decode cX1_reads 74 = .ok (.iload_n 3, 1) := dk_29 (dk_at dksX1_reads_3 3 rfl rfl)
theorem dX1_reads_75 : decode cX1_reads 75 = .ok (.iconst 1, 1) := dk_4 (dk_at dksX1_reads_3 4 rfl rfl)
theorem dX1_reads_76 : decode cX1_reads 76 = .ok (.iadd, 1) := dk_96 (dk_at dksX1_reads_3 5 rfl rfl)
theorem dX1_reads_77 : decode cX1_reads 77 = .ok (.invokevirtual 202, 3) := dk_182 0 202 (dk_at dksX1_reads_3 6 rfl rfl)
theorem dX1_reads_80 : decode cX1_reads 80 = .ok (.invokevirtual 213, 3) := dk_182 0 213 (dk_at dksX1_reads_3 9 rfl rfl)
theorem dX1_reads_83 : decode cX1_reads 83 = .ok (.iinc 3 2, 3) := dk_132 3 2 (dk_at dksX1_reads_3 12 rfl rfl)
theorem dX1_reads_86 : decode cX1_reads 86 = .ok (.goto (-64), 3) := dk_167 255 192 (dk_at dksX1_reads_3 15 rfl rfl)
theorem dX1_reads_89 : decode cX1_reads 89 = .ok (.iconst 1, 1) := dk_4 (dk_at dksX1_reads_3 18 rfl rfl)
theorem dX1_reads_90 : decode cX1_reads 90 = .ok (.ireturn, 1) := dk_172 (dk_at dksX1_reads_3 19 rfl rfl)
abbrev cX1_byteAt : ByteArray := prog_1_method_18_code
def yX1_byteAt : MethodName := ⟨RX1, "byteAt", "(I)I"⟩
def dkwX1_byteAt_0 : List UInt8 := [42, 180, 0, 25, 27, 51, 17, 0, 255, 126, 172]
abbrev dktX1_byteAt_0 : List UInt8 := dkwX1_byteAt_0 ++ []
theorem dksX1_byteAt_0 : cX1_byteAt.data.toList.drop 0 = dktX1_byteAt_0 := by decide +kernel
theorem dX1_byteAt_0 : decode cX1_byteAt 0 = .ok (.aload_n 0, 1) := dk_42 (dk_at dksX1_byteAt_0 0 rfl rfl)
theorem dX1_byteAt_1 : decode cX1_byteAt 1 = .ok (.getfield 25, 3) := dk_180 0 25 (dk_at dksX1_byteAt_0 1 rfl rfl)
theorem dX1_byteAt_4 : decode cX1_byteAt 4 = .ok (.iload_n 1, 1) := dk_27 (dk_at dksX1_byteAt_0 4 rfl rfl)
theorem dX1_byteAt_5 : decode cX1_byteAt 5 = .ok (.baload, 1) := dk_51 (dk_at dksX1_byteAt_0 5 rfl rfl)
theorem dX1_byteAt_6 : decode cX1_byteAt 6 = .ok (.sipush 255, 3) := dk_17 0 255 (dk_at dksX1_byteAt_0 6 rfl rfl)
theorem dX1_byteAt_9 : decode cX1_byteAt 9 = .ok (.iand, 1) := dk_126 (dk_at dksX1_byteAt_0 9 rfl rfl)
theorem dX1_byteAt_10 : decode cX1_byteAt 10 = .ok (.ireturn, 1) := dk_172 (dk_at dksX1_byteAt_0 10 rfl rfl)
abbrev cX1_isPin : ByteArray := prog_1_method_24_code
def yX1_isPin : MethodName := ⟨RX1, "isPin", "(II)Z"⟩
def dkwX1_isPin_2 : List UInt8 := [172]
abbrev dktX1_isPin_2 : List UInt8 := dkwX1_isPin_2 ++ []
def dkwX1_isPin_1 : List UInt8 := [153, 0, 23, 28, 42, 180, 0, 67, 180, 0, 184, 27, 50, 180, 0, 199, 162, 0, 7, 4, 167, 0, 4, 3]
abbrev dktX1_isPin_1 : List UInt8 := dkwX1_isPin_1 ++ dktX1_isPin_2
def dkwX1_isPin_0 : List UInt8 := [27, 17, 0, 200, 161, 0, 14, 42, 27, 17, 0, 200, 100, 28, 182, 0, 193, 172, 42, 27, 182, 0, 196]
abbrev dktX1_isPin_0 : List UInt8 := dkwX1_isPin_0 ++ dktX1_isPin_1
theorem dksX1_isPin_0 : cX1_isPin.data.toList.drop 0 = dktX1_isPin_0 := by decide +kernel
theorem dksX1_isPin_1 : cX1_isPin.data.toList.drop 23 = dktX1_isPin_1 := dk_seg dksX1_isPin_0 23 rfl rfl
theorem dksX1_isPin_2 : cX1_isPin.data.toList.drop 47 = dktX1_isPin_2 := dk_seg dksX1_isPin_1 24 rfl rfl
theorem dX1_isPin_0 : decode cX1_isPin 0 = .ok (.iload_n 1, 1) := dk_27 (dk_at dksX1_isPin_0 0 rfl rfl)
theorem dX1_isPin_1 : decode cX1_isPin 1 = .ok (.sipush 200, 3) := dk_17 0 200 (dk_at dksX1_isPin_0 1 rfl rfl)
theorem dX1_isPin_4 : decode cX1_isPin 4 = .ok (.if_icmp .lt 14, 3) := dk_161 0 14 (dk_at dksX1_isPin_0 4 rfl rfl)
theorem dX1_isPin_7 : decode cX1_isPin 7 = .ok (.aload_n 0, 1) := dk_42 (dk_at dksX1_isPin_0 7 rfl rfl)
theorem dX1_isPin_8 : decode cX1_isPin 8 = .ok (.iload_n 1, 1) := dk_27 (dk_at dksX1_isPin_0 8 rfl rfl)
theorem dX1_isPin_9 : decode cX1_isPin 9 = .ok (.sipush 200, 3) := dk_17 0 200 (dk_at dksX1_isPin_0 9 rfl rfl)
theorem dX1_isPin_12 : decode cX1_isPin 12 = .ok (.isub, 1) := dk_100 (dk_at dksX1_isPin_0 12 rfl rfl)
theorem dX1_isPin_13 : decode cX1_isPin 13 = .ok (.iload_n 2, 1) := dk_28 (dk_at dksX1_isPin_0 13 rfl rfl)
theorem dX1_isPin_14 : decode cX1_isPin 14 = .ok (.invokevirtual 193, 3) := dk_182 0 193 (dk_at dksX1_isPin_0 14 rfl rfl)
theorem dX1_isPin_17 : decode cX1_isPin 17 = .ok (.ireturn, 1) := dk_172 (dk_at dksX1_isPin_0 17 rfl rfl)
theorem dX1_isPin_18 : decode cX1_isPin 18 = .ok (.aload_n 0, 1) := dk_42 (dk_at dksX1_isPin_0 18 rfl rfl)
theorem dX1_isPin_19 : decode cX1_isPin 19 = .ok (.iload_n 1, 1) := dk_27 (dk_at dksX1_isPin_0 19 rfl rfl)
theorem dX1_isPin_20 : decode cX1_isPin 20 = .ok (.invokevirtual 196, 3) := dk_182 0 196 (dk_at dksX1_isPin_0 20 rfl rfl)
theorem dX1_isPin_23 : decode cX1_isPin 23 = .ok (.ifCond .eq 23, 3) := dk_153 0 23 (dk_at dksX1_isPin_1 0 rfl rfl)
theorem dX1_isPin_26 : decode cX1_isPin 26 = .ok (.iload_n 2, 1) := dk_28 (dk_at dksX1_isPin_1 3 rfl rfl)
theorem dX1_isPin_27 : decode cX1_isPin 27 = .ok (.aload_n 0, 1) := dk_42 (dk_at dksX1_isPin_1 4 rfl rfl)
theorem dX1_isPin_28 : decode cX1_isPin 28 = .ok (.getfield 67, 3) := dk_180 0 67 (dk_at dksX1_isPin_1 5 rfl rfl)
theorem dX1_isPin_31 : decode cX1_isPin 31 = .ok (.getfield 184, 3) := dk_180 0 184 (dk_at dksX1_isPin_1 8 rfl rfl)
theorem dX1_isPin_34 : decode cX1_isPin 34 = .ok (.iload_n 1, 1) := dk_27 (dk_at dksX1_isPin_1 11 rfl rfl)
theorem dX1_isPin_35 : decode cX1_isPin 35 = .ok (.aaload, 1) := dk_50 (dk_at dksX1_isPin_1 12 rfl rfl)
theorem dX1_isPin_36 : decode cX1_isPin 36 = .ok (.getfield 199, 3) := dk_180 0 199 (dk_at dksX1_isPin_1 13 rfl rfl)
theorem dX1_isPin_39 : decode cX1_isPin 39 = .ok (.if_icmp .ge 7, 3) := dk_162 0 7 (dk_at dksX1_isPin_1 16 rfl rfl)
theorem dX1_isPin_42 : decode cX1_isPin 42 = .ok (.iconst 1, 1) := dk_4 (dk_at dksX1_isPin_1 19 rfl rfl)
theorem dX1_isPin_43 : decode cX1_isPin 43 = .ok (.goto 4, 3) := dk_167 0 4 (dk_at dksX1_isPin_1 20 rfl rfl)
theorem dX1_isPin_46 : decode cX1_isPin 46 = .ok (.iconst 0, 1) := dk_3 (dk_at dksX1_isPin_1 23 rfl rfl)
theorem dX1_isPin_47 : decode cX1_isPin 47 = .ok (.ireturn, 1) := dk_172 (dk_at dksX1_isPin_2 0 rfl rfl)
abbrev cX1_isSite : ByteArray := prog_1_method_11_code
def yX1_isSite : MethodName := ⟨RX1, "isSite", "(II)Z"⟩
def dkwX1_isSite_1 : List UInt8 := [184, 0, 103, 153, 0, 7, 4, 167, 0, 4, 3, 172]
abbrev dktX1_isSite_1 : List UInt8 := dkwX1_isSite_1 ++ []
def dkwX1_isSite_0 : List UInt8 := [27, 3, 42, 180, 0, 59, 4, 100, 184, 0, 103, 153, 0, 21, 28, 3, 42, 180, 0, 63, 4, 100]
abbrev dktX1_isSite_0 : List UInt8 := dkwX1_isSite_0 ++ dktX1_isSite_1
theorem dksX1_isSite_0 : cX1_isSite.data.toList.drop 0 = dktX1_isSite_0 := by decide +kernel
theorem dksX1_isSite_1 : cX1_isSite.data.toList.drop 22 = dktX1_isSite_1 := dk_seg dksX1_isSite_0 22 rfl rfl
theorem dX1_isSite_0 : decode cX1_isSite 0 = .ok (.iload_n 1, 1) := dk_27 (dk_at dksX1_isSite_0 0 rfl rfl)
theorem dX1_isSite_1 : decode cX1_isSite 1 = .ok (.iconst 0, 1) := dk_3 (dk_at dksX1_isSite_0 1 rfl rfl)
theorem dX1_isSite_2 : decode cX1_isSite 2 = .ok (.aload_n 0, 1) := dk_42 (dk_at dksX1_isSite_0 2 rfl rfl)
theorem dX1_isSite_3 : decode cX1_isSite 3 = .ok (.getfield 59, 3) := dk_180 0 59 (dk_at dksX1_isSite_0 3 rfl rfl)
theorem dX1_isSite_6 : decode cX1_isSite 6 = .ok (.iconst 1, 1) := dk_4 (dk_at dksX1_isSite_0 6 rfl rfl)
theorem dX1_isSite_7 : decode cX1_isSite 7 = .ok (.isub, 1) := dk_100 (dk_at dksX1_isSite_0 7 rfl rfl)
theorem dX1_isSite_8 : decode cX1_isSite 8 = .ok (.invokestatic 103, 3) := dk_184 0 103 (dk_at dksX1_isSite_0 8 rfl rfl)
theorem dX1_isSite_11 : decode cX1_isSite 11 = .ok (.ifCond .eq 21, 3) := dk_153 0 21 (dk_at dksX1_isSite_0 11 rfl rfl)
theorem dX1_isSite_14 : decode cX1_isSite 14 = .ok (.iload_n 2, 1) := dk_28 (dk_at dksX1_isSite_0 14 rfl rfl)
theorem dX1_isSite_15 : decode cX1_isSite 15 = .ok (.iconst 0, 1) := dk_3 (dk_at dksX1_isSite_0 15 rfl rfl)
theorem dX1_isSite_16 : decode cX1_isSite 16 = .ok (.aload_n 0, 1) := dk_42 (dk_at dksX1_isSite_0 16 rfl rfl)
theorem dX1_isSite_17 : decode cX1_isSite 17 = .ok (.getfield 63, 3) := dk_180 0 63 (dk_at dksX1_isSite_0 17 rfl rfl)
theorem dX1_isSite_20 : decode cX1_isSite 20 = .ok (.iconst 1, 1) := dk_4 (dk_at dksX1_isSite_0 20 rfl rfl)
theorem dX1_isSite_21 : decode cX1_isSite 21 = .ok (.isub, 1) := dk_100 (dk_at dksX1_isSite_0 21 rfl rfl)
theorem dX1_isSite_22 : decode cX1_isSite 22 = .ok (.invokestatic 103, 3) := dk_184 0 103 (dk_at dksX1_isSite_1 0 rfl rfl)
theorem dX1_isSite_25 : decode cX1_isSite 25 = .ok (.ifCond .eq 7, 3) := dk_153 0 7 (dk_at dksX1_isSite_1 3 rfl rfl)
theorem dX1_isSite_28 : decode cX1_isSite 28 = .ok (.iconst 1, 1) := dk_4 (dk_at dksX1_isSite_1 6 rfl rfl)
theorem dX1_isSite_29 : decode cX1_isSite 29 = .ok (.goto 4, 3) := dk_167 0 4 (dk_at dksX1_isSite_1 7 rfl rfl)
theorem dX1_isSite_32 : decode cX1_isSite 32 = .ok (.iconst 0, 1) := dk_3 (dk_at dksX1_isSite_1 10 rfl rfl)
theorem dX1_isSite_33 : decode cX1_isSite 33 = .ok (.ireturn, 1) := dk_172 (dk_at dksX1_isSite_1 11 rfl rfl)
abbrev cX1_isCell : ByteArray := prog_1_method_8_code
def yX1_isCell : MethodName := ⟨RX1, "isCell", "(I)Z"⟩
def dkwX1_isCell_0 : List UInt8 := [27, 3, 42, 180, 0, 67, 180, 0, 100, 4, 100, 184, 0, 103, 172]
abbrev dktX1_isCell_0 : List UInt8 := dkwX1_isCell_0 ++ []
theorem dksX1_isCell_0 : cX1_isCell.data.toList.drop 0 = dktX1_isCell_0 := by decide +kernel
theorem dX1_isCell_0 : decode cX1_isCell 0 = .ok (.iload_n 1, 1) := dk_27 (dk_at dksX1_isCell_0 0 rfl rfl)
theorem dX1_isCell_1 : decode cX1_isCell 1 = .ok (.iconst 0, 1) := dk_3 (dk_at dksX1_isCell_0 1 rfl rfl)
theorem dX1_isCell_2 : decode cX1_isCell 2 = .ok (.aload_n 0, 1) := dk_42 (dk_at dksX1_isCell_0 2 rfl rfl)
theorem dX1_isCell_3 : decode cX1_isCell 3 = .ok (.getfield 67, 3) := dk_180 0 67 (dk_at dksX1_isCell_0 3 rfl rfl)
theorem dX1_isCell_6 : decode cX1_isCell 6 = .ok (.getfield 100, 3) := dk_180 0 100 (dk_at dksX1_isCell_0 6 rfl rfl)
theorem dX1_isCell_9 : decode cX1_isCell 9 = .ok (.iconst 1, 1) := dk_4 (dk_at dksX1_isCell_0 9 rfl rfl)
theorem dX1_isCell_10 : decode cX1_isCell 10 = .ok (.isub, 1) := dk_100 (dk_at dksX1_isCell_0 10 rfl rfl)
theorem dX1_isCell_11 : decode cX1_isCell 11 = .ok (.invokestatic 103, 3) := dk_184 0 103 (dk_at dksX1_isCell_0 11 rfl rfl)
theorem dX1_isCell_14 : decode cX1_isCell 14 = .ok (.ireturn, 1) := dk_172 (dk_at dksX1_isCell_0 14 rfl rfl)
abbrev cX1_drop : ByteArray := prog_1_method_27_code
def yX1_drop : MethodName := ⟨RX1, "drop", "(I)I"⟩
def dkwX1_drop_3 : List UInt8 := [180, 0, 223, 29, 4, 96, 50, 182, 0, 227, 132, 3, 1, 167, 255, 219, 42, 28, 182, 0, 97, 172]
abbrev dktX1_drop_3 : List UInt8 := dkwX1_drop_3 ++ []
def dkwX1_drop_2 : List UInt8 := [29, 42, 180, 0, 67, 180, 0, 107, 162, 0, 32, 42, 180, 0, 67, 180, 0, 223, 29, 50, 42, 180, 0, 67]
abbrev dktX1_drop_2 : List UInt8 := dkwX1_drop_2 ++ dktX1_drop_3
def dkwX1_drop_1 : List UInt8 := [180, 0, 223, 27, 50, 180, 0, 233, 61, 42, 180, 0, 67, 89, 180, 0, 107, 4, 100, 181, 0, 107, 27, 62]
abbrev dktX1_drop_1 : List UInt8 := dkwX1_drop_1 ++ dktX1_drop_2
def dkwX1_drop_0 : List UInt8 := [42, 27, 182, 0, 230, 154, 0, 10, 42, 16, 254, 182, 0, 93, 172, 42, 7, 182, 0, 160, 42, 180, 0, 67]
abbrev dktX1_drop_0 : List UInt8 := dkwX1_drop_0 ++ dktX1_drop_1
theorem dksX1_drop_0 : cX1_drop.data.toList.drop 0 = dktX1_drop_0 := by decide +kernel
theorem dksX1_drop_1 : cX1_drop.data.toList.drop 24 = dktX1_drop_1 := dk_seg dksX1_drop_0 24 rfl rfl
theorem dksX1_drop_2 : cX1_drop.data.toList.drop 48 = dktX1_drop_2 := dk_seg dksX1_drop_1 24 rfl rfl
theorem dksX1_drop_3 : cX1_drop.data.toList.drop 72 = dktX1_drop_3 := dk_seg dksX1_drop_2 24 rfl rfl
theorem dX1_drop_0 : decode cX1_drop 0 = .ok (.aload_n 0, 1) := dk_42 (dk_at dksX1_drop_0 0 rfl rfl)
theorem dX1_drop_1 : decode cX1_drop 1 = .ok (.iload_n 1, 1) := dk_27 (dk_at dksX1_drop_0 1 rfl rfl)
theorem dX1_drop_2 : decode cX1_drop 2 = .ok (.invokevirtual 230, 3) := dk_182 0 230 (dk_at dksX1_drop_0 2 rfl rfl)
theorem dX1_drop_5 : decode cX1_drop 5 = .ok (.ifCond .ne 10, 3) := dk_154 0 10 (dk_at dksX1_drop_0 5 rfl rfl)
theorem dX1_drop_8 : decode cX1_drop 8 = .ok (.aload_n 0, 1) := dk_42 (dk_at dksX1_drop_0 8 rfl rfl)
theorem dX1_drop_9 : decode cX1_drop 9 = .ok (.bipush (-2), 2) := dk_16 254 (dk_at dksX1_drop_0 9 rfl rfl)
theorem dX1_drop_11 : decode cX1_drop 11 = .ok (.invokevirtual 93, 3) := dk_182 0 93 (dk_at dksX1_drop_0 11 rfl rfl)
theorem dX1_drop_14 : decode cX1_drop 14 = .ok (.ireturn, 1) := dk_172 (dk_at dksX1_drop_0 14 rfl rfl)
theorem dX1_drop_15 : decode cX1_drop 15 = .ok (.aload_n 0, 1) := dk_42 (dk_at dksX1_drop_0 15 rfl rfl)
theorem dX1_drop_16 : decode cX1_drop 16 = .ok (.iconst 4, 1) := dk_7 (dk_at dksX1_drop_0 16 rfl rfl)
theorem dX1_drop_17 : decode cX1_drop 17 = .ok (.invokevirtual 160, 3) := dk_182 0 160 (dk_at dksX1_drop_0 17 rfl rfl)
theorem dX1_drop_20 : decode cX1_drop 20 = .ok (.aload_n 0, 1) := dk_42 (dk_at dksX1_drop_0 20 rfl rfl)
theorem dX1_drop_21 : decode cX1_drop 21 = .ok (.getfield 67, 3) := dk_180 0 67 (dk_at dksX1_drop_0 21 rfl rfl)
theorem dX1_drop_24 : decode cX1_drop 24 = .ok (.getfield 223, 3) := dk_180 0 223 (dk_at dksX1_drop_1 0 rfl rfl)
theorem dX1_drop_27 : decode cX1_drop 27 = .ok (.iload_n 1, 1) := dk_27 (dk_at dksX1_drop_1 3 rfl rfl)
theorem dX1_drop_28 : decode cX1_drop 28 = .ok (.aaload, 1) := dk_50 (dk_at dksX1_drop_1 4 rfl rfl)
theorem dX1_drop_29 : decode cX1_drop 29 = .ok (.getfield 233, 3) := dk_180 0 233 (dk_at dksX1_drop_1 5 rfl rfl)
theorem dX1_drop_32 : decode cX1_drop 32 = .ok (.istore_n 2, 1) := dk_61 (dk_at dksX1_drop_1 8 rfl rfl)
theorem dX1_drop_33 : decode cX1_drop 33 = .ok (.aload_n 0, 1) := dk_42 (dk_at dksX1_drop_1 9 rfl rfl)
theorem dX1_drop_34 : decode cX1_drop 34 = .ok (.getfield 67, 3) := dk_180 0 67 (dk_at dksX1_drop_1 10 rfl rfl)
theorem dX1_drop_37 : decode cX1_drop 37 = .ok (.dup, 1) := dk_89 (dk_at dksX1_drop_1 13 rfl rfl)
theorem dX1_drop_38 : decode cX1_drop 38 = .ok (.getfield 107, 3) := dk_180 0 107 (dk_at dksX1_drop_1 14 rfl rfl)
theorem dX1_drop_41 : decode cX1_drop 41 = .ok (.iconst 1, 1) := dk_4 (dk_at dksX1_drop_1 17 rfl rfl)
theorem dX1_drop_42 : decode cX1_drop 42 = .ok (.isub, 1) := dk_100 (dk_at dksX1_drop_1 18 rfl rfl)
theorem dX1_drop_43 : decode cX1_drop 43 = .ok (.putfield 107, 3) := dk_181 0 107 (dk_at dksX1_drop_1 19 rfl rfl)
theorem dX1_drop_46 : decode cX1_drop 46 = .ok (.iload_n 1, 1) := dk_27 (dk_at dksX1_drop_1 22 rfl rfl)
theorem dX1_drop_47 : decode cX1_drop 47 = .ok (.istore_n 3, 1) := dk_62 (dk_at dksX1_drop_1 23 rfl rfl)
theorem dX1_drop_48 : decode cX1_drop 48 = .ok (.iload_n 3, 1) := dk_29 (dk_at dksX1_drop_2 0 rfl rfl)
theorem dX1_drop_49 : decode cX1_drop 49 = .ok (.aload_n 0, 1) := dk_42 (dk_at dksX1_drop_2 1 rfl rfl)
theorem dX1_drop_50 : decode cX1_drop 50 = .ok (.getfield 67, 3) := dk_180 0 67 (dk_at dksX1_drop_2 2 rfl rfl)
theorem dX1_drop_53 : decode cX1_drop 53 = .ok (.getfield 107, 3) := dk_180 0 107 (dk_at dksX1_drop_2 5 rfl rfl)
theorem dX1_drop_56 : decode cX1_drop 56 = .ok (.if_icmp .ge 32, 3) := dk_162 0 32 (dk_at dksX1_drop_2 8 rfl rfl)
theorem dX1_drop_59 : decode cX1_drop 59 = .ok (.aload_n 0, 1) := dk_42 (dk_at dksX1_drop_2 11 rfl rfl)
theorem dX1_drop_60 : decode cX1_drop 60 = .ok (.getfield 67, 3) := dk_180 0 67 (dk_at dksX1_drop_2 12 rfl rfl)
theorem dX1_drop_63 : decode cX1_drop 63 = .ok (.getfield 223, 3) := dk_180 0 223 (dk_at dksX1_drop_2 15 rfl rfl)
theorem dX1_drop_66 : decode cX1_drop 66 = .ok (.iload_n 3, 1) := dk_29 (dk_at dksX1_drop_2 18 rfl rfl)
theorem dX1_drop_67 : decode cX1_drop 67 = .ok (.aaload, 1) := dk_50 (dk_at dksX1_drop_2 19 rfl rfl)
theorem dX1_drop_68 : decode cX1_drop 68 = .ok (.aload_n 0, 1) := dk_42 (dk_at dksX1_drop_2 20 rfl rfl)
theorem dX1_drop_69 : decode cX1_drop 69 = .ok (.getfield 67, 3) := dk_180 0 67 (dk_at dksX1_drop_2 21 rfl rfl)
theorem dX1_drop_72 : decode cX1_drop 72 = .ok (.getfield 223, 3) := dk_180 0 223 (dk_at dksX1_drop_3 0 rfl rfl)
theorem dX1_drop_75 : decode cX1_drop 75 = .ok (.iload_n 3, 1) := dk_29 (dk_at dksX1_drop_3 3 rfl rfl)
theorem dX1_drop_76 : decode cX1_drop 76 = .ok (.iconst 1, 1) := dk_4 (dk_at dksX1_drop_3 4 rfl rfl)
theorem dX1_drop_77 : decode cX1_drop 77 = .ok (.iadd, 1) := dk_96 (dk_at dksX1_drop_3 5 rfl rfl)
theorem dX1_drop_78 : decode cX1_drop 78 = .ok (.aaload, 1) := dk_50 (dk_at dksX1_drop_3 6 rfl rfl)
theorem dX1_drop_79 : decode cX1_drop 79 = .ok (.invokevirtual 227, 3) := dk_182 0 227 (dk_at dksX1_drop_3 7 rfl rfl)
theorem dX1_drop_82 : decode cX1_drop 82 = .ok (.iinc 3 1, 3) := dk_132 3 1 (dk_at dksX1_drop_3 10 rfl rfl)
theorem dX1_drop_85 : decode cX1_drop 85 = .ok (.goto (-37), 3) := dk_167 255 219 (dk_at dksX1_drop_3 13 rfl rfl)
theorem dX1_drop_88 : decode cX1_drop 88 = .ok (.aload_n 0, 1) := dk_42 (dk_at dksX1_drop_3 16 rfl rfl)
theorem dX1_drop_89 : decode cX1_drop 89 = .ok (.iload_n 2, 1) := dk_28 (dk_at dksX1_drop_3 17 rfl rfl)
theorem dX1_drop_90 : decode cX1_drop 90 = .ok (.invokevirtual 97, 3) := dk_182 0 97 (dk_at dksX1_drop_3 18 rfl rfl)
theorem dX1_drop_93 : decode cX1_drop 93 = .ok (.ireturn, 1) := dk_172 (dk_at dksX1_drop_3 21 rfl rfl)
abbrev cX1_isNet : ByteArray := prog_1_method_9_code
def yX1_isNet : MethodName := ⟨RX1, "isNet", "(I)Z"⟩
def dkwX1_isNet_0 : List UInt8 := [27, 3, 42, 180, 0, 67, 180, 0, 107, 4, 100, 184, 0, 103, 172]
abbrev dktX1_isNet_0 : List UInt8 := dkwX1_isNet_0 ++ []
theorem dksX1_isNet_0 : cX1_isNet.data.toList.drop 0 = dktX1_isNet_0 := by decide +kernel
theorem dX1_isNet_0 : decode cX1_isNet 0 = .ok (.iload_n 1, 1) := dk_27 (dk_at dksX1_isNet_0 0 rfl rfl)
theorem dX1_isNet_1 : decode cX1_isNet 1 = .ok (.iconst 0, 1) := dk_3 (dk_at dksX1_isNet_0 1 rfl rfl)
theorem dX1_isNet_2 : decode cX1_isNet 2 = .ok (.aload_n 0, 1) := dk_42 (dk_at dksX1_isNet_0 2 rfl rfl)
theorem dX1_isNet_3 : decode cX1_isNet 3 = .ok (.getfield 67, 3) := dk_180 0 67 (dk_at dksX1_isNet_0 3 rfl rfl)
theorem dX1_isNet_6 : decode cX1_isNet 6 = .ok (.getfield 107, 3) := dk_180 0 107 (dk_at dksX1_isNet_0 6 rfl rfl)
theorem dX1_isNet_9 : decode cX1_isNet 9 = .ok (.iconst 1, 1) := dk_4 (dk_at dksX1_isNet_0 9 rfl rfl)
theorem dX1_isNet_10 : decode cX1_isNet 10 = .ok (.isub, 1) := dk_100 (dk_at dksX1_isNet_0 10 rfl rfl)
theorem dX1_isNet_11 : decode cX1_isNet 11 = .ok (.invokestatic 103, 3) := dk_184 0 103 (dk_at dksX1_isNet_0 11 rfl rfl)
theorem dX1_isNet_14 : decode cX1_isNet 14 = .ok (.ireturn, 1) := dk_172 (dk_at dksX1_isNet_0 14 rfl rfl)
abbrev cX1_want : ByteArray := prog_1_method_28_code
def yX1_want : MethodName := ⟨RX1, "want", "(III)I"⟩
def dkwX1_want_5 : List UInt8 := [54, 5, 25, 4, 28, 181, 0, 244, 25, 4, 29, 181, 0, 250, 42, 21, 5, 182, 0, 97, 172]
abbrev dktX1_want_5 : List UInt8 := dkwX1_want_5 ++ []
def dkwX1_want_4 : List UInt8 := [182, 0, 160, 28, 25, 4, 180, 0, 244, 100, 184, 0, 247, 29, 25, 4, 180, 0, 250, 100, 184, 0, 247, 96]
abbrev dktX1_want_4 : List UInt8 := dkwX1_want_4 ++ dktX1_want_5
def dkwX1_want_3 : List UInt8 := [180, 0, 236, 154, 0, 12, 28, 25, 4, 182, 0, 240, 164, 0, 10, 42, 16, 252, 182, 0, 93, 172, 42, 8]
abbrev dktX1_want_3 : List UInt8 := dkwX1_want_3 ++ dktX1_want_4
def dkwX1_want_2 : List UInt8 := [154, 0, 10, 42, 16, 254, 182, 0, 93, 172, 42, 180, 0, 67, 180, 0, 184, 27, 50, 58, 4, 25, 4]
abbrev dktX1_want_2 : List UInt8 := dkwX1_want_2 ++ dktX1_want_3
def dkwX1_want_1 : List UInt8 := [180, 0, 59, 4, 100, 104, 184, 0, 103, 154, 0, 9, 42, 2, 182, 0, 93, 172, 42, 27, 182, 0, 196]
abbrev dktX1_want_1 : List UInt8 := dkwX1_want_1 ++ dktX1_want_2
def dkwX1_want_0 : List UInt8 := [28, 3, 16, 16, 42, 180, 0, 63, 4, 100, 104, 184, 0, 103, 153, 0, 20, 29, 3, 16, 16, 42]
abbrev dktX1_want_0 : List UInt8 := dkwX1_want_0 ++ dktX1_want_1
theorem dksX1_want_0 : cX1_want.data.toList.drop 0 = dktX1_want_0 := by decide +kernel
theorem dksX1_want_1 : cX1_want.data.toList.drop 22 = dktX1_want_1 := dk_seg dksX1_want_0 22 rfl rfl
theorem dksX1_want_2 : cX1_want.data.toList.drop 45 = dktX1_want_2 := dk_seg dksX1_want_1 23 rfl rfl
theorem dksX1_want_3 : cX1_want.data.toList.drop 68 = dktX1_want_3 := dk_seg dksX1_want_2 23 rfl rfl
theorem dksX1_want_4 : cX1_want.data.toList.drop 92 = dktX1_want_4 := dk_seg dksX1_want_3 24 rfl rfl
theorem dksX1_want_5 : cX1_want.data.toList.drop 116 = dktX1_want_5 := dk_seg dksX1_want_4 24 rfl rfl
theorem dX1_want_0 : decode cX1_want 0 = .ok (.iload_n 2, 1) := dk_28 (dk_at dksX1_want_0 0 rfl rfl)
theorem dX1_want_1 : decode cX1_want 1 = .ok (.iconst 0, 1) := dk_3 (dk_at dksX1_want_0 1 rfl rfl)
theorem dX1_want_2 : decode cX1_want 2 = .ok (.bipush 16, 2) := dk_16 16 (dk_at dksX1_want_0 2 rfl rfl)
theorem dX1_want_4 : decode cX1_want 4 = .ok (.aload_n 0, 1) := dk_42 (dk_at dksX1_want_0 4 rfl rfl)
theorem dX1_want_5 : decode cX1_want 5 = .ok (.getfield 63, 3) := dk_180 0 63 (dk_at dksX1_want_0 5 rfl rfl)
theorem dX1_want_8 : decode cX1_want 8 = .ok (.iconst 1, 1) := dk_4 (dk_at dksX1_want_0 8 rfl rfl)
theorem dX1_want_9 : decode cX1_want 9 = .ok (.isub, 1) := dk_100 (dk_at dksX1_want_0 9 rfl rfl)
theorem dX1_want_10 : decode cX1_want 10 = .ok (.imul, 1) := dk_104 (dk_at dksX1_want_0 10 rfl rfl)
theorem dX1_want_11 : decode cX1_want 11 = .ok (.invokestatic 103, 3) := dk_184 0 103 (dk_at dksX1_want_0 11 rfl rfl)
theorem dX1_want_14 : decode cX1_want 14 = .ok (.ifCond .eq 20, 3) := dk_153 0 20 (dk_at dksX1_want_0 14 rfl rfl)
theorem dX1_want_17 : decode cX1_want 17 = .ok (.iload_n 3, 1) := dk_29 (dk_at dksX1_want_0 17 rfl rfl)
theorem dX1_want_18 : decode cX1_want 18 = .ok (.iconst 0, 1) := dk_3 (dk_at dksX1_want_0 18 rfl rfl)
theorem dX1_want_19 : decode cX1_want 19 = .ok (.bipush 16, 2) := dk_16 16 (dk_at dksX1_want_0 19 rfl rfl)
theorem dX1_want_21 : decode cX1_want 21 = .ok (.aload_n 0, 1) := dk_42 (dk_at dksX1_want_0 21 rfl rfl)
theorem dX1_want_22 : decode cX1_want 22 = .ok (.getfield 59, 3) := dk_180 0 59 (dk_at dksX1_want_1 0 rfl rfl)
theorem dX1_want_25 : decode cX1_want 25 = .ok (.iconst 1, 1) := dk_4 (dk_at dksX1_want_1 3 rfl rfl)
theorem dX1_want_26 : decode cX1_want 26 = .ok (.isub, 1) := dk_100 (dk_at dksX1_want_1 4 rfl rfl)
theorem dX1_want_27 : decode cX1_want 27 = .ok (.imul, 1) := dk_104 (dk_at dksX1_want_1 5 rfl rfl)
theorem dX1_want_28 : decode cX1_want 28 = .ok (.invokestatic 103, 3) := dk_184 0 103 (dk_at dksX1_want_1 6 rfl rfl)
theorem dX1_want_31 : decode cX1_want 31 = .ok (.ifCond .ne 9, 3) := dk_154 0 9 (dk_at dksX1_want_1 9 rfl rfl)
theorem dX1_want_34 : decode cX1_want 34 = .ok (.aload_n 0, 1) := dk_42 (dk_at dksX1_want_1 12 rfl rfl)
theorem dX1_want_35 : decode cX1_want 35 = .ok (.iconst (-1), 1) := dk_2 (dk_at dksX1_want_1 13 rfl rfl)
theorem dX1_want_36 : decode cX1_want 36 = .ok (.invokevirtual 93, 3) := dk_182 0 93 (dk_at dksX1_want_1 14 rfl rfl)
theorem dX1_want_39 : decode cX1_want 39 = .ok (.ireturn, 1) := dk_172 (dk_at dksX1_want_1 17 rfl rfl)
theorem dX1_want_40 : decode cX1_want 40 = .ok (.aload_n 0, 1) := dk_42 (dk_at dksX1_want_1 18 rfl rfl)
theorem dX1_want_41 : decode cX1_want 41 = .ok (.iload_n 1, 1) := dk_27 (dk_at dksX1_want_1 19 rfl rfl)
theorem dX1_want_42 : decode cX1_want 42 = .ok (.invokevirtual 196, 3) := dk_182 0 196 (dk_at dksX1_want_1 20 rfl rfl)
theorem dX1_want_45 : decode cX1_want 45 = .ok (.ifCond .ne 10, 3) := dk_154 0 10 (dk_at dksX1_want_2 0 rfl rfl)
theorem dX1_want_48 : decode cX1_want 48 = .ok (.aload_n 0, 1) := dk_42 (dk_at dksX1_want_2 3 rfl rfl)
theorem dX1_want_49 : decode cX1_want 49 = .ok (.bipush (-2), 2) := dk_16 254 (dk_at dksX1_want_2 4 rfl rfl)
theorem dX1_want_51 : decode cX1_want 51 = .ok (.invokevirtual 93, 3) := dk_182 0 93 (dk_at dksX1_want_2 6 rfl rfl)
theorem dX1_want_54 : decode cX1_want 54 = .ok (.ireturn, 1) := dk_172 (dk_at dksX1_want_2 9 rfl rfl)
theorem dX1_want_55 : decode cX1_want 55 = .ok (.aload_n 0, 1) := dk_42 (dk_at dksX1_want_2 10 rfl rfl)
theorem dX1_want_56 : decode cX1_want 56 = .ok (.getfield 67, 3) := dk_180 0 67 (dk_at dksX1_want_2 11 rfl rfl)
theorem dX1_want_59 : decode cX1_want 59 = .ok (.getfield 184, 3) := dk_180 0 184 (dk_at dksX1_want_2 14 rfl rfl)
theorem dX1_want_62 : decode cX1_want 62 = .ok (.iload_n 1, 1) := dk_27 (dk_at dksX1_want_2 17 rfl rfl)
theorem dX1_want_63 : decode cX1_want 63 = .ok (.aaload, 1) := dk_50 (dk_at dksX1_want_2 18 rfl rfl)
theorem dX1_want_64 : decode cX1_want 64 = .ok (.astore 4, 2) := dk_58 4 (dk_at dksX1_want_2 19 rfl rfl)
theorem dX1_want_66 : decode cX1_want 66 = .ok (.aload 4, 2) := dk_25 4 (dk_at dksX1_want_2 21 rfl rfl)
theorem dX1_want_68 : decode cX1_want 68 = .ok (.getfield 236, 3) := dk_180 0 236 (dk_at dksX1_want_3 0 rfl rfl)
theorem dX1_want_71 : decode cX1_want 71 = .ok (.ifCond .ne 12, 3) := dk_154 0 12 (dk_at dksX1_want_3 3 rfl rfl)
theorem dX1_want_74 : decode cX1_want 74 = .ok (.iload_n 2, 1) := dk_28 (dk_at dksX1_want_3 6 rfl rfl)
theorem dX1_want_75 : decode cX1_want 75 = .ok (.aload 4, 2) := dk_25 4 (dk_at dksX1_want_3 7 rfl rfl)
theorem dX1_want_77 : decode cX1_want 77 = .ok (.invokevirtual 240, 3) := dk_182 0 240 (dk_at dksX1_want_3 9 rfl rfl)
theorem dX1_want_80 : decode cX1_want 80 = .ok (.if_icmp .le 10, 3) := dk_164 0 10 (dk_at dksX1_want_3 12 rfl rfl)
theorem dX1_want_83 : decode cX1_want 83 = .ok (.aload_n 0, 1) := dk_42 (dk_at dksX1_want_3 15 rfl rfl)
theorem dX1_want_84 : decode cX1_want 84 = .ok (.bipush (-4), 2) := dk_16 252 (dk_at dksX1_want_3 16 rfl rfl)
theorem dX1_want_86 : decode cX1_want 86 = .ok (.invokevirtual 93, 3) := dk_182 0 93 (dk_at dksX1_want_3 18 rfl rfl)
theorem dX1_want_89 : decode cX1_want 89 = .ok (.ireturn, 1) := dk_172 (dk_at dksX1_want_3 21 rfl rfl)
theorem dX1_want_90 : decode cX1_want 90 = .ok (.aload_n 0, 1) := dk_42 (dk_at dksX1_want_3 22 rfl rfl)
theorem dX1_want_91 : decode cX1_want 91 = .ok (.iconst 5, 1) := dk_8 (dk_at dksX1_want_3 23 rfl rfl)
theorem dX1_want_92 : decode cX1_want 92 = .ok (.invokevirtual 160, 3) := dk_182 0 160 (dk_at dksX1_want_4 0 rfl rfl)
theorem dX1_want_95 : decode cX1_want 95 = .ok (.iload_n 2, 1) := dk_28 (dk_at dksX1_want_4 3 rfl rfl)
theorem dX1_want_96 : decode cX1_want 96 = .ok (.aload 4, 2) := dk_25 4 (dk_at dksX1_want_4 4 rfl rfl)
theorem dX1_want_98 : decode cX1_want 98 = .ok (.getfield 244, 3) := dk_180 0 244 (dk_at dksX1_want_4 6 rfl rfl)
theorem dX1_want_101 : decode cX1_want 101 = .ok (.isub, 1) := dk_100 (dk_at dksX1_want_4 9 rfl rfl)
theorem dX1_want_102 : decode cX1_want 102 = .ok (.invokestatic 247, 3) := dk_184 0 247 (dk_at dksX1_want_4 10 rfl rfl)
theorem dX1_want_105 : decode cX1_want 105 = .ok (.iload_n 3, 1) := dk_29 (dk_at dksX1_want_4 13 rfl rfl)
theorem dX1_want_106 : decode cX1_want 106 = .ok (.aload 4, 2) := dk_25 4 (dk_at dksX1_want_4 14 rfl rfl)
theorem dX1_want_108 : decode cX1_want 108 = .ok (.getfield 250, 3) := dk_180 0 250 (dk_at dksX1_want_4 16 rfl rfl)
theorem dX1_want_111 : decode cX1_want 111 = .ok (.isub, 1) := dk_100 (dk_at dksX1_want_4 19 rfl rfl)
theorem dX1_want_112 : decode cX1_want 112 = .ok (.invokestatic 247, 3) := dk_184 0 247 (dk_at dksX1_want_4 20 rfl rfl)
theorem dX1_want_115 : decode cX1_want 115 = .ok (.iadd, 1) := dk_96 (dk_at dksX1_want_4 23 rfl rfl)
theorem dX1_want_116 : decode cX1_want 116 = .ok (.istore 5, 2) := dk_54 5 (dk_at dksX1_want_5 0 rfl rfl)
theorem dX1_want_118 : decode cX1_want 118 = .ok (.aload 4, 2) := dk_25 4 (dk_at dksX1_want_5 2 rfl rfl)
theorem dX1_want_120 : decode cX1_want 120 = .ok (.iload_n 2, 1) := dk_28 (dk_at dksX1_want_5 4 rfl rfl)
theorem dX1_want_121 : decode cX1_want 121 = .ok (.putfield 244, 3) := dk_181 0 244 (dk_at dksX1_want_5 5 rfl rfl)
theorem dX1_want_124 : decode cX1_want 124 = .ok (.aload 4, 2) := dk_25 4 (dk_at dksX1_want_5 8 rfl rfl)
theorem dX1_want_126 : decode cX1_want 126 = .ok (.iload_n 3, 1) := dk_29 (dk_at dksX1_want_5 10 rfl rfl)
theorem dX1_want_127 : decode cX1_want 127 = .ok (.putfield 250, 3) := dk_181 0 250 (dk_at dksX1_want_5 11 rfl rfl)
theorem dX1_want_130 : decode cX1_want 130 = .ok (.aload_n 0, 1) := dk_42 (dk_at dksX1_want_5 14 rfl rfl)
theorem dX1_want_131 : decode cX1_want 131 = .ok (.iload 5, 2) := dk_21 5 (dk_at dksX1_want_5 15 rfl rfl)
theorem dX1_want_133 : decode cX1_want 133 = .ok (.invokevirtual 97, 3) := dk_182 0 97 (dk_at dksX1_want_5 17 rfl rfl)
theorem dX1_want_136 : decode cX1_want 136 = .ok (.ireturn, 1) := dk_172 (dk_at dksX1_want_5 20 rfl rfl)
abbrev cX1_fix : ByteArray := prog_1_method_29_code
def yX1_fix : MethodName := ⟨RX1, "fix", "(III)I"⟩
def dkwX1_fix_7 : List UInt8 := [42, 21, 5, 182, 0, 97, 172]
abbrev dktX1_fix_7 : List UInt8 := dkwX1_fix_7 ++ []
def dkwX1_fix_6 : List UInt8 := [25, 4, 4, 181, 0, 236, 25, 4, 16, 16, 29, 104, 181, 0, 244, 25, 4, 16, 16, 28, 104, 181, 0, 250]
abbrev dktX1_fix_6 : List UInt8 := dkwX1_fix_6 ++ dktX1_fix_7
def dkwX1_fix_5 : List UInt8 := [167, 0, 11, 25, 7, 182, 1, 5, 132, 5, 1, 132, 6, 1, 167, 255, 211, 25, 4, 28, 29, 182, 1, 8]
abbrev dktX1_fix_5 : List UInt8 := dkwX1_fix_5 ++ dktX1_fix_6
def dkwX1_fix_4 : List UInt8 := [162, 0, 39, 42, 180, 0, 67, 28, 21, 6, 25, 4, 182, 1, 1, 58, 7, 25, 7, 199, 0, 6]
abbrev dktX1_fix_4 : List UInt8 := dkwX1_fix_4 ++ dktX1_fix_5
def dkwX1_fix_3 : List UInt8 := [172, 42, 16, 6, 182, 0, 160, 3, 54, 5, 29, 54, 6, 21, 6, 29, 25, 4, 180, 0, 199, 96]
abbrev dktX1_fix_3 : List UInt8 := dkwX1_fix_3 ++ dktX1_fix_4
def dkwX1_fix_2 : List UInt8 := [154, 0, 18, 42, 180, 0, 67, 25, 4, 28, 29, 3, 182, 0, 253, 154, 0, 10, 42, 16, 252, 182, 0, 93]
abbrev dktX1_fix_2 : List UInt8 := dkwX1_fix_2 ++ dktX1_fix_3
def dkwX1_fix_1 : List UInt8 := [16, 254, 182, 0, 93, 172, 42, 180, 0, 67, 180, 0, 184, 27, 50, 58, 4, 25, 4, 180, 0, 236]
abbrev dktX1_fix_1 : List UInt8 := dkwX1_fix_1 ++ dktX1_fix_2
def dkwX1_fix_0 : List UInt8 := [42, 28, 29, 182, 0, 193, 154, 0, 9, 42, 2, 182, 0, 93, 172, 42, 27, 182, 0, 196, 154, 0, 10, 42]
abbrev dktX1_fix_0 : List UInt8 := dkwX1_fix_0 ++ dktX1_fix_1
theorem dksX1_fix_0 : cX1_fix.data.toList.drop 0 = dktX1_fix_0 := by decide +kernel
theorem dksX1_fix_1 : cX1_fix.data.toList.drop 24 = dktX1_fix_1 := dk_seg dksX1_fix_0 24 rfl rfl
theorem dksX1_fix_2 : cX1_fix.data.toList.drop 46 = dktX1_fix_2 := dk_seg dksX1_fix_1 22 rfl rfl
theorem dksX1_fix_3 : cX1_fix.data.toList.drop 70 = dktX1_fix_3 := dk_seg dksX1_fix_2 24 rfl rfl
theorem dksX1_fix_4 : cX1_fix.data.toList.drop 92 = dktX1_fix_4 := dk_seg dksX1_fix_3 22 rfl rfl
theorem dksX1_fix_5 : cX1_fix.data.toList.drop 114 = dktX1_fix_5 := dk_seg dksX1_fix_4 22 rfl rfl
theorem dksX1_fix_6 : cX1_fix.data.toList.drop 138 = dktX1_fix_6 := dk_seg dksX1_fix_5 24 rfl rfl
theorem dksX1_fix_7 : cX1_fix.data.toList.drop 162 = dktX1_fix_7 := dk_seg dksX1_fix_6 24 rfl rfl
theorem dX1_fix_0 : decode cX1_fix 0 = .ok (.aload_n 0, 1) := dk_42 (dk_at dksX1_fix_0 0 rfl rfl)
theorem dX1_fix_1 : decode cX1_fix 1 = .ok (.iload_n 2, 1) := dk_28 (dk_at dksX1_fix_0 1 rfl rfl)
theorem dX1_fix_2 : decode cX1_fix 2 = .ok (.iload_n 3, 1) := dk_29 (dk_at dksX1_fix_0 2 rfl rfl)
theorem dX1_fix_3 : decode cX1_fix 3 = .ok (.invokevirtual 193, 3) := dk_182 0 193 (dk_at dksX1_fix_0 3 rfl rfl)
theorem dX1_fix_6 : decode cX1_fix 6 = .ok (.ifCond .ne 9, 3) := dk_154 0 9 (dk_at dksX1_fix_0 6 rfl rfl)
theorem dX1_fix_9 : decode cX1_fix 9 = .ok (.aload_n 0, 1) := dk_42 (dk_at dksX1_fix_0 9 rfl rfl)
theorem dX1_fix_10 : decode cX1_fix 10 = .ok (.iconst (-1), 1) := dk_2 (dk_at dksX1_fix_0 10 rfl rfl)
theorem dX1_fix_11 : decode cX1_fix 11 = .ok (.invokevirtual 93, 3) := dk_182 0 93 (dk_at dksX1_fix_0 11 rfl rfl)
theorem dX1_fix_14 : decode cX1_fix 14 = .ok (.ireturn, 1) := dk_172 (dk_at dksX1_fix_0 14 rfl rfl)
theorem dX1_fix_15 : decode cX1_fix 15 = .ok (.aload_n 0, 1) := dk_42 (dk_at dksX1_fix_0 15 rfl rfl)
theorem dX1_fix_16 : decode cX1_fix 16 = .ok (.iload_n 1, 1) := dk_27 (dk_at dksX1_fix_0 16 rfl rfl)
theorem dX1_fix_17 : decode cX1_fix 17 = .ok (.invokevirtual 196, 3) := dk_182 0 196 (dk_at dksX1_fix_0 17 rfl rfl)
theorem dX1_fix_20 : decode cX1_fix 20 = .ok (.ifCond .ne 10, 3) := dk_154 0 10 (dk_at dksX1_fix_0 20 rfl rfl)
theorem dX1_fix_23 : decode cX1_fix 23 = .ok (.aload_n 0, 1) := dk_42 (dk_at dksX1_fix_0 23 rfl rfl)
theorem dX1_fix_24 : decode cX1_fix 24 = .ok (.bipush (-2), 2) := dk_16 254 (dk_at dksX1_fix_1 0 rfl rfl)
theorem dX1_fix_26 : decode cX1_fix 26 = .ok (.invokevirtual 93, 3) := dk_182 0 93 (dk_at dksX1_fix_1 2 rfl rfl)
theorem dX1_fix_29 : decode cX1_fix 29 = .ok (.ireturn, 1) := dk_172 (dk_at dksX1_fix_1 5 rfl rfl)
theorem dX1_fix_30 : decode cX1_fix 30 = .ok (.aload_n 0, 1) := dk_42 (dk_at dksX1_fix_1 6 rfl rfl)
theorem dX1_fix_31 : decode cX1_fix 31 = .ok (.getfield 67, 3) := dk_180 0 67 (dk_at dksX1_fix_1 7 rfl rfl)
theorem dX1_fix_34 : decode cX1_fix 34 = .ok (.getfield 184, 3) := dk_180 0 184 (dk_at dksX1_fix_1 10 rfl rfl)
theorem dX1_fix_37 : decode cX1_fix 37 = .ok (.iload_n 1, 1) := dk_27 (dk_at dksX1_fix_1 13 rfl rfl)
theorem dX1_fix_38 : decode cX1_fix 38 = .ok (.aaload, 1) := dk_50 (dk_at dksX1_fix_1 14 rfl rfl)
theorem dX1_fix_39 : decode cX1_fix 39 = .ok (.astore 4, 2) := dk_58 4 (dk_at dksX1_fix_1 15 rfl rfl)
theorem dX1_fix_41 : decode cX1_fix 41 = .ok (.aload 4, 2) := dk_25 4 (dk_at dksX1_fix_1 17 rfl rfl)
theorem dX1_fix_43 : decode cX1_fix 43 = .ok (.getfield 236, 3) := dk_180 0 236 (dk_at dksX1_fix_1 19 rfl rfl)
theorem dX1_fix_46 : decode cX1_fix 46 = .ok (.ifCond .ne 18, 3) := dk_154 0 18 (dk_at dksX1_fix_2 0 rfl rfl)
theorem dX1_fix_49 : decode cX1_fix 49 = .ok (.aload_n 0, 1) := dk_42 (dk_at dksX1_fix_2 3 rfl rfl)
theorem dX1_fix_50 : decode cX1_fix 50 = .ok (.getfield 67, 3) := dk_180 0 67 (dk_at dksX1_fix_2 4 rfl rfl)
theorem dX1_fix_53 : decode cX1_fix 53 = .ok (.aload 4, 2) := dk_25 4 (dk_at dksX1_fix_2 7 rfl rfl)
theorem dX1_fix_55 : decode cX1_fix 55 = .ok (.iload_n 2, 1) := dk_28 (dk_at dksX1_fix_2 9 rfl rfl)
theorem dX1_fix_56 : decode cX1_fix 56 = .ok (.iload_n 3, 1) := dk_29 (dk_at dksX1_fix_2 10 rfl rfl)
theorem dX1_fix_57 : decode cX1_fix 57 = .ok (.iconst 0, 1) := dk_3 (dk_at dksX1_fix_2 11 rfl rfl)
theorem dX1_fix_58 : decode cX1_fix 58 = .ok (.invokevirtual 253, 3) := dk_182 0 253 (dk_at dksX1_fix_2 12 rfl rfl)
theorem dX1_fix_61 : decode cX1_fix 61 = .ok (.ifCond .ne 10, 3) := dk_154 0 10 (dk_at dksX1_fix_2 15 rfl rfl)
theorem dX1_fix_64 : decode cX1_fix 64 = .ok (.aload_n 0, 1) := dk_42 (dk_at dksX1_fix_2 18 rfl rfl)
theorem dX1_fix_65 : decode cX1_fix 65 = .ok (.bipush (-4), 2) := dk_16 252 (dk_at dksX1_fix_2 19 rfl rfl)
theorem dX1_fix_67 : decode cX1_fix 67 = .ok (.invokevirtual 93, 3) := dk_182 0 93 (dk_at dksX1_fix_2 21 rfl rfl)
theorem dX1_fix_70 : decode cX1_fix 70 = .ok (.ireturn, 1) := dk_172 (dk_at dksX1_fix_3 0 rfl rfl)
theorem dX1_fix_71 : decode cX1_fix 71 = .ok (.aload_n 0, 1) := dk_42 (dk_at dksX1_fix_3 1 rfl rfl)
theorem dX1_fix_72 : decode cX1_fix 72 = .ok (.bipush 6, 2) := dk_16 6 (dk_at dksX1_fix_3 2 rfl rfl)
theorem dX1_fix_74 : decode cX1_fix 74 = .ok (.invokevirtual 160, 3) := dk_182 0 160 (dk_at dksX1_fix_3 4 rfl rfl)
theorem dX1_fix_77 : decode cX1_fix 77 = .ok (.iconst 0, 1) := dk_3 (dk_at dksX1_fix_3 7 rfl rfl)
theorem dX1_fix_78 : decode cX1_fix 78 = .ok (.istore 5, 2) := dk_54 5 (dk_at dksX1_fix_3 8 rfl rfl)
theorem dX1_fix_80 : decode cX1_fix 80 = .ok (.iload_n 3, 1) := dk_29 (dk_at dksX1_fix_3 10 rfl rfl)
theorem dX1_fix_81 : decode cX1_fix 81 = .ok (.istore 6, 2) := dk_54 6 (dk_at dksX1_fix_3 11 rfl rfl)
theorem dX1_fix_83 : decode cX1_fix 83 = .ok (.iload 6, 2) := dk_21 6 (dk_at dksX1_fix_3 13 rfl rfl)
theorem dX1_fix_85 : decode cX1_fix 85 = .ok (.iload_n 3, 1) := dk_29 (dk_at dksX1_fix_3 15 rfl rfl)
theorem dX1_fix_86 : decode cX1_fix 86 = .ok (.aload 4, 2) := dk_25 4 (dk_at dksX1_fix_3 16 rfl rfl)
theorem dX1_fix_88 : decode cX1_fix 88 = .ok (.getfield 199, 3) := dk_180 0 199 (dk_at dksX1_fix_3 18 rfl rfl)
theorem dX1_fix_91 : decode cX1_fix 91 = .ok (.iadd, 1) := dk_96 (dk_at dksX1_fix_3 21 rfl rfl)
theorem dX1_fix_92 : decode cX1_fix 92 = .ok (.if_icmp .ge 39, 3) := dk_162 0 39 (dk_at dksX1_fix_4 0 rfl rfl)
theorem dX1_fix_95 : decode cX1_fix 95 = .ok (.aload_n 0, 1) := dk_42 (dk_at dksX1_fix_4 3 rfl rfl)
theorem dX1_fix_96 : decode cX1_fix 96 = .ok (.getfield 67, 3) := dk_180 0 67 (dk_at dksX1_fix_4 4 rfl rfl)
theorem dX1_fix_99 : decode cX1_fix 99 = .ok (.iload_n 2, 1) := dk_28 (dk_at dksX1_fix_4 7 rfl rfl)
theorem dX1_fix_100 : decode cX1_fix 100 = .ok (.iload 6, 2) := dk_21 6 (dk_at dksX1_fix_4 8 rfl rfl)
theorem dX1_fix_102 : decode cX1_fix 102 = .ok (.aload 4, 2) := dk_25 4 (dk_at dksX1_fix_4 10 rfl rfl)
theorem dX1_fix_104 : decode cX1_fix 104 = .ok (.invokevirtual 257, 3) := dk_182 1 1 (dk_at dksX1_fix_4 12 rfl rfl)
theorem dX1_fix_107 : decode cX1_fix 107 = .ok (.astore 7, 2) := dk_58 7 (dk_at dksX1_fix_4 15 rfl rfl)
theorem dX1_fix_109 : decode cX1_fix 109 = .ok (.aload 7, 2) := dk_25 7 (dk_at dksX1_fix_4 17 rfl rfl)
theorem dX1_fix_111 : decode cX1_fix 111 = .ok (.ifnonnull 6, 3) := dk_199 0 6 (dk_at dksX1_fix_4 19 rfl rfl)
theorem dX1_fix_114 : decode cX1_fix 114 = .ok (.goto 11, 3) := dk_167 0 11 (dk_at dksX1_fix_5 0 rfl rfl)
theorem dX1_fix_117 : decode cX1_fix 117 = .ok (.aload 7, 2) := dk_25 7 (dk_at dksX1_fix_5 3 rfl rfl)
theorem dX1_fix_119 : decode cX1_fix 119 = .ok (.invokevirtual 261, 3) := dk_182 1 5 (dk_at dksX1_fix_5 5 rfl rfl)
theorem dX1_fix_122 : decode cX1_fix 122 = .ok (.iinc 5 1, 3) := dk_132 5 1 (dk_at dksX1_fix_5 8 rfl rfl)
theorem dX1_fix_125 : decode cX1_fix 125 = .ok (.iinc 6 1, 3) := dk_132 6 1 (dk_at dksX1_fix_5 11 rfl rfl)
theorem dX1_fix_128 : decode cX1_fix 128 = .ok (.goto (-45), 3) := dk_167 255 211 (dk_at dksX1_fix_5 14 rfl rfl)
theorem dX1_fix_131 : decode cX1_fix 131 = .ok (.aload 4, 2) := dk_25 4 (dk_at dksX1_fix_5 17 rfl rfl)
theorem dX1_fix_133 : decode cX1_fix 133 = .ok (.iload_n 2, 1) := dk_28 (dk_at dksX1_fix_5 19 rfl rfl)
theorem dX1_fix_134 : decode cX1_fix 134 = .ok (.iload_n 3, 1) := dk_29 (dk_at dksX1_fix_5 20 rfl rfl)
theorem dX1_fix_135 : decode cX1_fix 135 = .ok (.invokevirtual 264, 3) := dk_182 1 8 (dk_at dksX1_fix_5 21 rfl rfl)
theorem dX1_fix_138 : decode cX1_fix 138 = .ok (.aload 4, 2) := dk_25 4 (dk_at dksX1_fix_6 0 rfl rfl)
theorem dX1_fix_140 : decode cX1_fix 140 = .ok (.iconst 1, 1) := dk_4 (dk_at dksX1_fix_6 2 rfl rfl)
theorem dX1_fix_141 : decode cX1_fix 141 = .ok (.putfield 236, 3) := dk_181 0 236 (dk_at dksX1_fix_6 3 rfl rfl)
theorem dX1_fix_144 : decode cX1_fix 144 = .ok (.aload 4, 2) := dk_25 4 (dk_at dksX1_fix_6 6 rfl rfl)
theorem dX1_fix_146 : decode cX1_fix 146 = .ok (.bipush 16, 2) := dk_16 16 (dk_at dksX1_fix_6 8 rfl rfl)
theorem dX1_fix_148 : decode cX1_fix 148 = .ok (.iload_n 3, 1) := dk_29 (dk_at dksX1_fix_6 10 rfl rfl)
theorem dX1_fix_149 : decode cX1_fix 149 = .ok (.imul, 1) := dk_104 (dk_at dksX1_fix_6 11 rfl rfl)
theorem dX1_fix_150 : decode cX1_fix 150 = .ok (.putfield 244, 3) := dk_181 0 244 (dk_at dksX1_fix_6 12 rfl rfl)
theorem dX1_fix_153 : decode cX1_fix 153 = .ok (.aload 4, 2) := dk_25 4 (dk_at dksX1_fix_6 15 rfl rfl)
theorem dX1_fix_155 : decode cX1_fix 155 = .ok (.bipush 16, 2) := dk_16 16 (dk_at dksX1_fix_6 17 rfl rfl)
theorem dX1_fix_157 : decode cX1_fix 157 = .ok (.iload_n 2, 1) := dk_28 (dk_at dksX1_fix_6 19 rfl rfl)
theorem dX1_fix_158 : decode cX1_fix 158 = .ok (.imul, 1) := dk_104 (dk_at dksX1_fix_6 20 rfl rfl)
theorem dX1_fix_159 : decode cX1_fix 159 = .ok (.putfield 250, 3) := dk_181 0 250 (dk_at dksX1_fix_6 21 rfl rfl)
theorem dX1_fix_162 : decode cX1_fix 162 = .ok (.aload_n 0, 1) := dk_42 (dk_at dksX1_fix_7 0 rfl rfl)
theorem dX1_fix_163 : decode cX1_fix 163 = .ok (.iload 5, 2) := dk_21 5 (dk_at dksX1_fix_7 1 rfl rfl)
theorem dX1_fix_165 : decode cX1_fix 165 = .ok (.invokevirtual 97, 3) := dk_182 0 97 (dk_at dksX1_fix_7 3 rfl rfl)
theorem dX1_fix_168 : decode cX1_fix 168 = .ok (.ireturn, 1) := dk_172 (dk_at dksX1_fix_7 6 rfl rfl)
abbrev cX1_free : ByteArray := prog_1_method_30_code
def yX1_free : MethodName := ⟨RX1, "free", "(I)I"⟩
def dkwX1_free_2 : List UInt8 := [181, 0, 236, 42, 44, 180, 1, 11, 182, 0, 97, 172]
abbrev dktX1_free_2 : List UInt8 := dkwX1_free_2 ++ []
def dkwX1_free_1 : List UInt8 := [77, 44, 180, 0, 236, 154, 0, 10, 42, 16, 252, 182, 0, 93, 172, 42, 16, 7, 182, 0, 160, 44, 3]
abbrev dktX1_free_1 : List UInt8 := dkwX1_free_1 ++ dktX1_free_2
def dkwX1_free_0 : List UInt8 := [42, 27, 182, 0, 196, 154, 0, 10, 42, 16, 254, 182, 0, 93, 172, 42, 180, 0, 67, 180, 0, 184, 27, 50]
abbrev dktX1_free_0 : List UInt8 := dkwX1_free_0 ++ dktX1_free_1
theorem dksX1_free_0 : cX1_free.data.toList.drop 0 = dktX1_free_0 := by decide +kernel
theorem dksX1_free_1 : cX1_free.data.toList.drop 24 = dktX1_free_1 := dk_seg dksX1_free_0 24 rfl rfl
theorem dksX1_free_2 : cX1_free.data.toList.drop 47 = dktX1_free_2 := dk_seg dksX1_free_1 23 rfl rfl
theorem dX1_free_0 : decode cX1_free 0 = .ok (.aload_n 0, 1) := dk_42 (dk_at dksX1_free_0 0 rfl rfl)
theorem dX1_free_1 : decode cX1_free 1 = .ok (.iload_n 1, 1) := dk_27 (dk_at dksX1_free_0 1 rfl rfl)
theorem dX1_free_2 : decode cX1_free 2 = .ok (.invokevirtual 196, 3) := dk_182 0 196 (dk_at dksX1_free_0 2 rfl rfl)
theorem dX1_free_5 : decode cX1_free 5 = .ok (.ifCond .ne 10, 3) := dk_154 0 10 (dk_at dksX1_free_0 5 rfl rfl)
theorem dX1_free_8 : decode cX1_free 8 = .ok (.aload_n 0, 1) := dk_42 (dk_at dksX1_free_0 8 rfl rfl)
theorem dX1_free_9 : decode cX1_free 9 = .ok (.bipush (-2), 2) := dk_16 254 (dk_at dksX1_free_0 9 rfl rfl)
theorem dX1_free_11 : decode cX1_free 11 = .ok (.invokevirtual 93, 3) := dk_182 0 93 (dk_at dksX1_free_0 11 rfl rfl)
theorem dX1_free_14 : decode cX1_free 14 = .ok (.ireturn, 1) := dk_172 (dk_at dksX1_free_0 14 rfl rfl)
theorem dX1_free_15 : decode cX1_free 15 = .ok (.aload_n 0, 1) := dk_42 (dk_at dksX1_free_0 15 rfl rfl)
theorem dX1_free_16 : decode cX1_free 16 = .ok (.getfield 67, 3) := dk_180 0 67 (dk_at dksX1_free_0 16 rfl rfl)
theorem dX1_free_19 : decode cX1_free 19 = .ok (.getfield 184, 3) := dk_180 0 184 (dk_at dksX1_free_0 19 rfl rfl)
theorem dX1_free_22 : decode cX1_free 22 = .ok (.iload_n 1, 1) := dk_27 (dk_at dksX1_free_0 22 rfl rfl)
theorem dX1_free_23 : decode cX1_free 23 = .ok (.aaload, 1) := dk_50 (dk_at dksX1_free_0 23 rfl rfl)
theorem dX1_free_24 : decode cX1_free 24 = .ok (.astore_n 2, 1) := dk_77 (dk_at dksX1_free_1 0 rfl rfl)
theorem dX1_free_25 : decode cX1_free 25 = .ok (.aload_n 2, 1) := dk_44 (dk_at dksX1_free_1 1 rfl rfl)
theorem dX1_free_26 : decode cX1_free 26 = .ok (.getfield 236, 3) := dk_180 0 236 (dk_at dksX1_free_1 2 rfl rfl)
theorem dX1_free_29 : decode cX1_free 29 = .ok (.ifCond .ne 10, 3) := dk_154 0 10 (dk_at dksX1_free_1 5 rfl rfl)
theorem dX1_free_32 : decode cX1_free 32 = .ok (.aload_n 0, 1) := dk_42 (dk_at dksX1_free_1 8 rfl rfl)
theorem dX1_free_33 : decode cX1_free 33 = .ok (.bipush (-4), 2) := dk_16 252 (dk_at dksX1_free_1 9 rfl rfl)
theorem dX1_free_35 : decode cX1_free 35 = .ok (.invokevirtual 93, 3) := dk_182 0 93 (dk_at dksX1_free_1 11 rfl rfl)
theorem dX1_free_38 : decode cX1_free 38 = .ok (.ireturn, 1) := dk_172 (dk_at dksX1_free_1 14 rfl rfl)
theorem dX1_free_39 : decode cX1_free 39 = .ok (.aload_n 0, 1) := dk_42 (dk_at dksX1_free_1 15 rfl rfl)
theorem dX1_free_40 : decode cX1_free 40 = .ok (.bipush 7, 2) := dk_16 7 (dk_at dksX1_free_1 16 rfl rfl)
theorem dX1_free_42 : decode cX1_free 42 = .ok (.invokevirtual 160, 3) := dk_182 0 160 (dk_at dksX1_free_1 18 rfl rfl)
theorem dX1_free_45 : decode cX1_free 45 = .ok (.aload_n 2, 1) := dk_44 (dk_at dksX1_free_1 21 rfl rfl)
theorem dX1_free_46 : decode cX1_free 46 = .ok (.iconst 0, 1) := dk_3 (dk_at dksX1_free_1 22 rfl rfl)
theorem dX1_free_47 : decode cX1_free 47 = .ok (.putfield 236, 3) := dk_181 0 236 (dk_at dksX1_free_2 0 rfl rfl)
theorem dX1_free_50 : decode cX1_free 50 = .ok (.aload_n 0, 1) := dk_42 (dk_at dksX1_free_2 3 rfl rfl)
theorem dX1_free_51 : decode cX1_free 51 = .ok (.aload_n 2, 1) := dk_44 (dk_at dksX1_free_2 4 rfl rfl)
theorem dX1_free_52 : decode cX1_free 52 = .ok (.getfield 267, 3) := dk_180 1 11 (dk_at dksX1_free_2 5 rfl rfl)
theorem dX1_free_55 : decode cX1_free 55 = .ok (.invokevirtual 97, 3) := dk_182 0 97 (dk_at dksX1_free_2 8 rfl rfl)
theorem dX1_free_58 : decode cX1_free 58 = .ok (.ireturn, 1) := dk_172 (dk_at dksX1_free_2 11 rfl rfl)
abbrev cX1_put : ByteArray := prog_1_method_31_code
def yX1_put : MethodName := ⟨RX1, "put", "(III)I"⟩
def dkwX1_put_3 : List UInt8 := [172, 42, 16, 8, 182, 0, 160, 25, 4, 28, 29, 182, 1, 8, 42, 42, 182, 1, 14, 182, 0, 97, 172]
abbrev dktX1_put_3 : List UInt8 := dkwX1_put_3 ++ []
def dkwX1_put_2 : List UInt8 := [154, 0, 18, 42, 180, 0, 67, 25, 4, 28, 29, 4, 182, 0, 253, 154, 0, 10, 42, 16, 252, 182, 0, 93]
abbrev dktX1_put_2 : List UInt8 := dkwX1_put_2 ++ dktX1_put_3
def dkwX1_put_1 : List UInt8 := [16, 254, 182, 0, 93, 172, 42, 180, 0, 67, 180, 0, 184, 27, 50, 58, 4, 25, 4, 180, 0, 236]
abbrev dktX1_put_1 : List UInt8 := dkwX1_put_1 ++ dktX1_put_2
def dkwX1_put_0 : List UInt8 := [42, 28, 29, 182, 0, 193, 154, 0, 9, 42, 2, 182, 0, 93, 172, 42, 27, 182, 0, 196, 154, 0, 10, 42]
abbrev dktX1_put_0 : List UInt8 := dkwX1_put_0 ++ dktX1_put_1
theorem dksX1_put_0 : cX1_put.data.toList.drop 0 = dktX1_put_0 := by decide +kernel
theorem dksX1_put_1 : cX1_put.data.toList.drop 24 = dktX1_put_1 := dk_seg dksX1_put_0 24 rfl rfl
theorem dksX1_put_2 : cX1_put.data.toList.drop 46 = dktX1_put_2 := dk_seg dksX1_put_1 22 rfl rfl
theorem dksX1_put_3 : cX1_put.data.toList.drop 70 = dktX1_put_3 := dk_seg dksX1_put_2 24 rfl rfl
theorem dX1_put_0 : decode cX1_put 0 = .ok (.aload_n 0, 1) := dk_42 (dk_at dksX1_put_0 0 rfl rfl)
theorem dX1_put_1 : decode cX1_put 1 = .ok (.iload_n 2, 1) := dk_28 (dk_at dksX1_put_0 1 rfl rfl)
theorem dX1_put_2 : decode cX1_put 2 = .ok (.iload_n 3, 1) := dk_29 (dk_at dksX1_put_0 2 rfl rfl)
theorem dX1_put_3 : decode cX1_put 3 = .ok (.invokevirtual 193, 3) := dk_182 0 193 (dk_at dksX1_put_0 3 rfl rfl)
theorem dX1_put_6 : decode cX1_put 6 = .ok (.ifCond .ne 9, 3) := dk_154 0 9 (dk_at dksX1_put_0 6 rfl rfl)
theorem dX1_put_9 : decode cX1_put 9 = .ok (.aload_n 0, 1) := dk_42 (dk_at dksX1_put_0 9 rfl rfl)
theorem dX1_put_10 : decode cX1_put 10 = .ok (.iconst (-1), 1) := dk_2 (dk_at dksX1_put_0 10 rfl rfl)
theorem dX1_put_11 : decode cX1_put 11 = .ok (.invokevirtual 93, 3) := dk_182 0 93 (dk_at dksX1_put_0 11 rfl rfl)
theorem dX1_put_14 : decode cX1_put 14 = .ok (.ireturn, 1) := dk_172 (dk_at dksX1_put_0 14 rfl rfl)
theorem dX1_put_15 : decode cX1_put 15 = .ok (.aload_n 0, 1) := dk_42 (dk_at dksX1_put_0 15 rfl rfl)
theorem dX1_put_16 : decode cX1_put 16 = .ok (.iload_n 1, 1) := dk_27 (dk_at dksX1_put_0 16 rfl rfl)
theorem dX1_put_17 : decode cX1_put 17 = .ok (.invokevirtual 196, 3) := dk_182 0 196 (dk_at dksX1_put_0 17 rfl rfl)
theorem dX1_put_20 : decode cX1_put 20 = .ok (.ifCond .ne 10, 3) := dk_154 0 10 (dk_at dksX1_put_0 20 rfl rfl)
theorem dX1_put_23 : decode cX1_put 23 = .ok (.aload_n 0, 1) := dk_42 (dk_at dksX1_put_0 23 rfl rfl)
theorem dX1_put_24 : decode cX1_put 24 = .ok (.bipush (-2), 2) := dk_16 254 (dk_at dksX1_put_1 0 rfl rfl)
theorem dX1_put_26 : decode cX1_put 26 = .ok (.invokevirtual 93, 3) := dk_182 0 93 (dk_at dksX1_put_1 2 rfl rfl)
theorem dX1_put_29 : decode cX1_put 29 = .ok (.ireturn, 1) := dk_172 (dk_at dksX1_put_1 5 rfl rfl)
theorem dX1_put_30 : decode cX1_put 30 = .ok (.aload_n 0, 1) := dk_42 (dk_at dksX1_put_1 6 rfl rfl)
theorem dX1_put_31 : decode cX1_put 31 = .ok (.getfield 67, 3) := dk_180 0 67 (dk_at dksX1_put_1 7 rfl rfl)
theorem dX1_put_34 : decode cX1_put 34 = .ok (.getfield 184, 3) := dk_180 0 184 (dk_at dksX1_put_1 10 rfl rfl)
theorem dX1_put_37 : decode cX1_put 37 = .ok (.iload_n 1, 1) := dk_27 (dk_at dksX1_put_1 13 rfl rfl)
theorem dX1_put_38 : decode cX1_put 38 = .ok (.aaload, 1) := dk_50 (dk_at dksX1_put_1 14 rfl rfl)
theorem dX1_put_39 : decode cX1_put 39 = .ok (.astore 4, 2) := dk_58 4 (dk_at dksX1_put_1 15 rfl rfl)
theorem dX1_put_41 : decode cX1_put 41 = .ok (.aload 4, 2) := dk_25 4 (dk_at dksX1_put_1 17 rfl rfl)
theorem dX1_put_43 : decode cX1_put 43 = .ok (.getfield 236, 3) := dk_180 0 236 (dk_at dksX1_put_1 19 rfl rfl)
theorem dX1_put_46 : decode cX1_put 46 = .ok (.ifCond .ne 18, 3) := dk_154 0 18 (dk_at dksX1_put_2 0 rfl rfl)
theorem dX1_put_49 : decode cX1_put 49 = .ok (.aload_n 0, 1) := dk_42 (dk_at dksX1_put_2 3 rfl rfl)
theorem dX1_put_50 : decode cX1_put 50 = .ok (.getfield 67, 3) := dk_180 0 67 (dk_at dksX1_put_2 4 rfl rfl)
theorem dX1_put_53 : decode cX1_put 53 = .ok (.aload 4, 2) := dk_25 4 (dk_at dksX1_put_2 7 rfl rfl)
theorem dX1_put_55 : decode cX1_put 55 = .ok (.iload_n 2, 1) := dk_28 (dk_at dksX1_put_2 9 rfl rfl)
theorem dX1_put_56 : decode cX1_put 56 = .ok (.iload_n 3, 1) := dk_29 (dk_at dksX1_put_2 10 rfl rfl)
theorem dX1_put_57 : decode cX1_put 57 = .ok (.iconst 1, 1) := dk_4 (dk_at dksX1_put_2 11 rfl rfl)
theorem dX1_put_58 : decode cX1_put 58 = .ok (.invokevirtual 253, 3) := dk_182 0 253 (dk_at dksX1_put_2 12 rfl rfl)
theorem dX1_put_61 : decode cX1_put 61 = .ok (.ifCond .ne 10, 3) := dk_154 0 10 (dk_at dksX1_put_2 15 rfl rfl)
theorem dX1_put_64 : decode cX1_put 64 = .ok (.aload_n 0, 1) := dk_42 (dk_at dksX1_put_2 18 rfl rfl)
theorem dX1_put_65 : decode cX1_put 65 = .ok (.bipush (-4), 2) := dk_16 252 (dk_at dksX1_put_2 19 rfl rfl)
theorem dX1_put_67 : decode cX1_put 67 = .ok (.invokevirtual 93, 3) := dk_182 0 93 (dk_at dksX1_put_2 21 rfl rfl)
theorem dX1_put_70 : decode cX1_put 70 = .ok (.ireturn, 1) := dk_172 (dk_at dksX1_put_3 0 rfl rfl)
theorem dX1_put_71 : decode cX1_put 71 = .ok (.aload_n 0, 1) := dk_42 (dk_at dksX1_put_3 1 rfl rfl)
theorem dX1_put_72 : decode cX1_put 72 = .ok (.bipush 8, 2) := dk_16 8 (dk_at dksX1_put_3 2 rfl rfl)
theorem dX1_put_74 : decode cX1_put 74 = .ok (.invokevirtual 160, 3) := dk_182 0 160 (dk_at dksX1_put_3 4 rfl rfl)
theorem dX1_put_77 : decode cX1_put 77 = .ok (.aload 4, 2) := dk_25 4 (dk_at dksX1_put_3 7 rfl rfl)
theorem dX1_put_79 : decode cX1_put 79 = .ok (.iload_n 2, 1) := dk_28 (dk_at dksX1_put_3 9 rfl rfl)
theorem dX1_put_80 : decode cX1_put 80 = .ok (.iload_n 3, 1) := dk_29 (dk_at dksX1_put_3 10 rfl rfl)
theorem dX1_put_81 : decode cX1_put 81 = .ok (.invokevirtual 264, 3) := dk_182 1 8 (dk_at dksX1_put_3 11 rfl rfl)
theorem dX1_put_84 : decode cX1_put 84 = .ok (.aload_n 0, 1) := dk_42 (dk_at dksX1_put_3 14 rfl rfl)
theorem dX1_put_85 : decode cX1_put 85 = .ok (.aload_n 0, 1) := dk_42 (dk_at dksX1_put_3 15 rfl rfl)
theorem dX1_put_86 : decode cX1_put 86 = .ok (.invokevirtual 270, 3) := dk_182 1 14 (dk_at dksX1_put_3 16 rfl rfl)
theorem dX1_put_89 : decode cX1_put 89 = .ok (.invokevirtual 97, 3) := dk_182 0 97 (dk_at dksX1_put_3 19 rfl rfl)
theorem dX1_put_92 : decode cX1_put 92 = .ok (.ireturn, 1) := dk_172 (dk_at dksX1_put_3 22 rfl rfl)
abbrev cX1_wire : ByteArray := prog_1_method_33_code
def yX1_wire : MethodName := ⟨RX1, "wire", "()I"⟩
def dkwX1_wire_2 : List UInt8 := [132, 2, 1, 167, 255, 210, 27, 172]
abbrev dktX1_wire_2 : List UInt8 := dkwX1_wire_2 ++ []
def dkwX1_wire_1 : List UInt8 := [50, 180, 1, 21, 42, 180, 0, 41, 42, 180, 0, 67, 180, 0, 223, 28, 50, 182, 1, 24, 104, 96, 60]
abbrev dktX1_wire_1 : List UInt8 := dkwX1_wire_1 ++ dktX1_wire_2
def dkwX1_wire_0 : List UInt8 := [3, 60, 3, 61, 28, 42, 180, 0, 67, 180, 0, 107, 162, 0, 41, 27, 42, 180, 0, 67, 180, 0, 223, 28]
abbrev dktX1_wire_0 : List UInt8 := dkwX1_wire_0 ++ dktX1_wire_1
theorem dksX1_wire_0 : cX1_wire.data.toList.drop 0 = dktX1_wire_0 := by decide +kernel
theorem dksX1_wire_1 : cX1_wire.data.toList.drop 24 = dktX1_wire_1 := dk_seg dksX1_wire_0 24 rfl rfl
theorem dksX1_wire_2 : cX1_wire.data.toList.drop 47 = dktX1_wire_2 := dk_seg dksX1_wire_1 23 rfl rfl
theorem dX1_wire_0 : decode cX1_wire 0 = .ok (.iconst 0, 1) := dk_3 (dk_at dksX1_wire_0 0 rfl rfl)
theorem dX1_wire_1 : decode cX1_wire 1 = .ok (.istore_n 1, 1) := dk_60 (dk_at dksX1_wire_0 1 rfl rfl)
theorem dX1_wire_2 : decode cX1_wire 2 = .ok (.iconst 0, 1) := dk_3 (dk_at dksX1_wire_0 2 rfl rfl)
theorem dX1_wire_3 : decode cX1_wire 3 = .ok (.istore_n 2, 1) := dk_61 (dk_at dksX1_wire_0 3 rfl rfl)
theorem dX1_wire_4 : decode cX1_wire 4 = .ok (.iload_n 2, 1) := dk_28 (dk_at dksX1_wire_0 4 rfl rfl)
theorem dX1_wire_5 : decode cX1_wire 5 = .ok (.aload_n 0, 1) := dk_42 (dk_at dksX1_wire_0 5 rfl rfl)
theorem dX1_wire_6 : decode cX1_wire 6 = .ok (.getfield 67, 3) := dk_180 0 67 (dk_at dksX1_wire_0 6 rfl rfl)
theorem dX1_wire_9 : decode cX1_wire 9 = .ok (.getfield 107, 3) := dk_180 0 107 (dk_at dksX1_wire_0 9 rfl rfl)
theorem dX1_wire_12 : decode cX1_wire 12 = .ok (.if_icmp .ge 41, 3) := dk_162 0 41 (dk_at dksX1_wire_0 12 rfl rfl)
theorem dX1_wire_15 : decode cX1_wire 15 = .ok (.iload_n 1, 1) := dk_27 (dk_at dksX1_wire_0 15 rfl rfl)
theorem dX1_wire_16 : decode cX1_wire 16 = .ok (.aload_n 0, 1) := dk_42 (dk_at dksX1_wire_0 16 rfl rfl)
theorem dX1_wire_17 : decode cX1_wire 17 = .ok (.getfield 67, 3) := dk_180 0 67 (dk_at dksX1_wire_0 17 rfl rfl)
theorem dX1_wire_20 : decode cX1_wire 20 = .ok (.getfield 223, 3) := dk_180 0 223 (dk_at dksX1_wire_0 20 rfl rfl)
theorem dX1_wire_23 : decode cX1_wire 23 = .ok (.iload_n 2, 1) := dk_28 (dk_at dksX1_wire_0 23 rfl rfl)
theorem dX1_wire_24 : decode cX1_wire 24 = .ok (.aaload, 1) := dk_50 (dk_at dksX1_wire_1 0 rfl rfl)
theorem dX1_wire_25 : decode cX1_wire 25 = .ok (.getfield 277, 3) := dk_180 1 21 (dk_at dksX1_wire_1 1 rfl rfl)
theorem dX1_wire_28 : decode cX1_wire 28 = .ok (.aload_n 0, 1) := dk_42 (dk_at dksX1_wire_1 4 rfl rfl)
theorem dX1_wire_29 : decode cX1_wire 29 = .ok (.getfield 41, 3) := dk_180 0 41 (dk_at dksX1_wire_1 5 rfl rfl)
theorem dX1_wire_32 : decode cX1_wire 32 = .ok (.aload_n 0, 1) := dk_42 (dk_at dksX1_wire_1 8 rfl rfl)
theorem dX1_wire_33 : decode cX1_wire 33 = .ok (.getfield 67, 3) := dk_180 0 67 (dk_at dksX1_wire_1 9 rfl rfl)
theorem dX1_wire_36 : decode cX1_wire 36 = .ok (.getfield 223, 3) := dk_180 0 223 (dk_at dksX1_wire_1 12 rfl rfl)
theorem dX1_wire_39 : decode cX1_wire 39 = .ok (.iload_n 2, 1) := dk_28 (dk_at dksX1_wire_1 15 rfl rfl)
theorem dX1_wire_40 : decode cX1_wire 40 = .ok (.aaload, 1) := dk_50 (dk_at dksX1_wire_1 16 rfl rfl)
theorem dX1_wire_41 : decode cX1_wire 41 = .ok (.invokevirtual 280, 3) := dk_182 1 24 (dk_at dksX1_wire_1 17 rfl rfl)
theorem dX1_wire_44 : decode cX1_wire 44 = .ok (.imul, 1) := dk_104 (dk_at dksX1_wire_1 20 rfl rfl)
theorem dX1_wire_45 : decode cX1_wire 45 = .ok (.iadd, 1) := dk_96 (dk_at dksX1_wire_1 21 rfl rfl)
theorem dX1_wire_46 : decode cX1_wire 46 = .ok (.istore_n 1, 1) := dk_60 (dk_at dksX1_wire_1 22 rfl rfl)
theorem dX1_wire_47 : decode cX1_wire 47 = .ok (.iinc 2 1, 3) := dk_132 2 1 (dk_at dksX1_wire_2 0 rfl rfl)
theorem dX1_wire_50 : decode cX1_wire 50 = .ok (.goto (-46), 3) := dk_167 255 210 (dk_at dksX1_wire_2 3 rfl rfl)
theorem dX1_wire_53 : decode cX1_wire 53 = .ok (.iload_n 1, 1) := dk_27 (dk_at dksX1_wire_2 6 rfl rfl)
theorem dX1_wire_54 : decode cX1_wire 54 = .ok (.ireturn, 1) := dk_172 (dk_at dksX1_wire_2 7 rfl rfl)
abbrev cX1_take : ByteArray := prog_1_method_32_code
def yX1_take : MethodName := ⟨RX1, "take", "(I)I"⟩
def dkwX1_take_2 : List UInt8 := [180, 1, 11, 62, 44, 182, 1, 5, 42, 29, 182, 0, 97, 172]
abbrev dktX1_take_2 : List UInt8 := dkwX1_take_2 ++ []
def dkwX1_take_1 : List UInt8 := [77, 44, 182, 1, 17, 154, 0, 10, 42, 16, 252, 182, 0, 93, 172, 42, 16, 9, 182, 0, 160, 44]
abbrev dktX1_take_1 : List UInt8 := dkwX1_take_1 ++ dktX1_take_2
def dkwX1_take_0 : List UInt8 := [42, 27, 182, 0, 196, 154, 0, 10, 42, 16, 254, 182, 0, 93, 172, 42, 180, 0, 67, 180, 0, 184, 27, 50]
abbrev dktX1_take_0 : List UInt8 := dkwX1_take_0 ++ dktX1_take_1
theorem dksX1_take_0 : cX1_take.data.toList.drop 0 = dktX1_take_0 := by decide +kernel
theorem dksX1_take_1 : cX1_take.data.toList.drop 24 = dktX1_take_1 := dk_seg dksX1_take_0 24 rfl rfl
theorem dksX1_take_2 : cX1_take.data.toList.drop 46 = dktX1_take_2 := dk_seg dksX1_take_1 22 rfl rfl
theorem dX1_take_0 : decode cX1_take 0 = .ok (.aload_n 0, 1) := dk_42 (dk_at dksX1_take_0 0 rfl rfl)
theorem dX1_take_1 : decode cX1_take 1 = .ok (.iload_n 1, 1) := dk_27 (dk_at dksX1_take_0 1 rfl rfl)
theorem dX1_take_2 : decode cX1_take 2 = .ok (.invokevirtual 196, 3) := dk_182 0 196 (dk_at dksX1_take_0 2 rfl rfl)
theorem dX1_take_5 : decode cX1_take 5 = .ok (.ifCond .ne 10, 3) := dk_154 0 10 (dk_at dksX1_take_0 5 rfl rfl)
theorem dX1_take_8 : decode cX1_take 8 = .ok (.aload_n 0, 1) := dk_42 (dk_at dksX1_take_0 8 rfl rfl)
theorem dX1_take_9 : decode cX1_take 9 = .ok (.bipush (-2), 2) := dk_16 254 (dk_at dksX1_take_0 9 rfl rfl)
theorem dX1_take_11 : decode cX1_take 11 = .ok (.invokevirtual 93, 3) := dk_182 0 93 (dk_at dksX1_take_0 11 rfl rfl)
theorem dX1_take_14 : decode cX1_take 14 = .ok (.ireturn, 1) := dk_172 (dk_at dksX1_take_0 14 rfl rfl)
theorem dX1_take_15 : decode cX1_take 15 = .ok (.aload_n 0, 1) := dk_42 (dk_at dksX1_take_0 15 rfl rfl)
theorem dX1_take_16 : decode cX1_take 16 = .ok (.getfield 67, 3) := dk_180 0 67 (dk_at dksX1_take_0 16 rfl rfl)
theorem dX1_take_19 : decode cX1_take 19 = .ok (.getfield 184, 3) := dk_180 0 184 (dk_at dksX1_take_0 19 rfl rfl)
theorem dX1_take_22 : decode cX1_take 22 = .ok (.iload_n 1, 1) := dk_27 (dk_at dksX1_take_0 22 rfl rfl)
theorem dX1_take_23 : decode cX1_take 23 = .ok (.aaload, 1) := dk_50 (dk_at dksX1_take_0 23 rfl rfl)
theorem dX1_take_24 : decode cX1_take 24 = .ok (.astore_n 2, 1) := dk_77 (dk_at dksX1_take_1 0 rfl rfl)
theorem dX1_take_25 : decode cX1_take 25 = .ok (.aload_n 2, 1) := dk_44 (dk_at dksX1_take_1 1 rfl rfl)
theorem dX1_take_26 : decode cX1_take 26 = .ok (.invokevirtual 273, 3) := dk_182 1 17 (dk_at dksX1_take_1 2 rfl rfl)
theorem dX1_take_29 : decode cX1_take 29 = .ok (.ifCond .ne 10, 3) := dk_154 0 10 (dk_at dksX1_take_1 5 rfl rfl)
theorem dX1_take_32 : decode cX1_take 32 = .ok (.aload_n 0, 1) := dk_42 (dk_at dksX1_take_1 8 rfl rfl)
theorem dX1_take_33 : decode cX1_take 33 = .ok (.bipush (-4), 2) := dk_16 252 (dk_at dksX1_take_1 9 rfl rfl)
theorem dX1_take_35 : decode cX1_take 35 = .ok (.invokevirtual 93, 3) := dk_182 0 93 (dk_at dksX1_take_1 11 rfl rfl)
theorem dX1_take_38 : decode cX1_take 38 = .ok (.ireturn, 1) := dk_172 (dk_at dksX1_take_1 14 rfl rfl)
theorem dX1_take_39 : decode cX1_take 39 = .ok (.aload_n 0, 1) := dk_42 (dk_at dksX1_take_1 15 rfl rfl)
theorem dX1_take_40 : decode cX1_take 40 = .ok (.bipush 9, 2) := dk_16 9 (dk_at dksX1_take_1 16 rfl rfl)
theorem dX1_take_42 : decode cX1_take 42 = .ok (.invokevirtual 160, 3) := dk_182 0 160 (dk_at dksX1_take_1 18 rfl rfl)
theorem dX1_take_45 : decode cX1_take 45 = .ok (.aload_n 2, 1) := dk_44 (dk_at dksX1_take_1 21 rfl rfl)
theorem dX1_take_46 : decode cX1_take 46 = .ok (.getfield 267, 3) := dk_180 1 11 (dk_at dksX1_take_2 0 rfl rfl)
theorem dX1_take_49 : decode cX1_take 49 = .ok (.istore_n 3, 1) := dk_62 (dk_at dksX1_take_2 3 rfl rfl)
theorem dX1_take_50 : decode cX1_take 50 = .ok (.aload_n 2, 1) := dk_44 (dk_at dksX1_take_2 4 rfl rfl)
theorem dX1_take_51 : decode cX1_take 51 = .ok (.invokevirtual 261, 3) := dk_182 1 5 (dk_at dksX1_take_2 5 rfl rfl)
theorem dX1_take_54 : decode cX1_take 54 = .ok (.aload_n 0, 1) := dk_42 (dk_at dksX1_take_2 8 rfl rfl)
theorem dX1_take_55 : decode cX1_take 55 = .ok (.iload_n 3, 1) := dk_29 (dk_at dksX1_take_2 9 rfl rfl)
theorem dX1_take_56 : decode cX1_take 56 = .ok (.invokevirtual 97, 3) := dk_182 0 97 (dk_at dksX1_take_2 10 rfl rfl)
theorem dX1_take_59 : decode cX1_take 59 = .ok (.ireturn, 1) := dk_172 (dk_at dksX1_take_2 13 rfl rfl)
abbrev cX1_start : ByteArray := prog_1_method_41_code
def yX1_start : MethodName := ⟨RX1, "start", "(I)I"⟩
def dkwX1_start_7 : List UInt8 := [159, 0, 7, 4, 167, 0, 4, 3, 96, 62, 132, 4, 1, 167, 255, 181, 42, 29, 182, 0, 97, 172]
abbrev dktX1_start_7 : List UInt8 := dkwX1_start_7 ++ []
def dkwX1_start_6 : List UInt8 := [180, 0, 67, 180, 0, 184, 21, 4, 50, 180, 0, 250, 44, 180, 0, 184, 21, 4, 50, 180, 0, 250]
abbrev dktX1_start_6 : List UInt8 := dkwX1_start_6 ++ dktX1_start_7
def dkwX1_start_5 : List UInt8 := [180, 0, 184, 21, 4, 50, 180, 0, 244, 44, 180, 0, 184, 21, 4, 50, 180, 0, 244, 160, 0, 29, 42]
abbrev dktX1_start_5 : List UInt8 := dkwX1_start_5 ++ dktX1_start_6
def dkwX1_start_4 : List UInt8 := [3, 62, 3, 54, 4, 21, 4, 42, 180, 0, 67, 180, 0, 100, 162, 0, 69, 29, 42, 180, 0, 67]
abbrev dktX1_start_4 : List UInt8 := dkwX1_start_4 ++ dktX1_start_5
def dkwX1_start_3 : List UInt8 := [132, 3, 1, 167, 255, 214, 132, 2, 1, 167, 255, 201, 42, 180, 0, 18, 42, 180, 0, 86, 4, 100, 50, 77]
abbrev dktX1_start_3 : List UInt8 := dkwX1_start_3 ++ dktX1_start_4
def dkwX1_start_2 : List UInt8 := [180, 0, 184, 29, 50, 180, 0, 236, 154, 0, 16, 42, 42, 180, 0, 67, 180, 0, 184, 29, 50, 182, 1, 82]
abbrev dktX1_start_2 : List UInt8 := dkwX1_start_2 ++ dktX1_start_3
def dkwX1_start_1 : List UInt8 := [28, 27, 162, 0, 56, 3, 62, 29, 42, 180, 0, 67, 180, 0, 100, 162, 0, 37, 42, 180, 0, 67]
abbrev dktX1_start_1 : List UInt8 := dkwX1_start_1 ++ dktX1_start_2
def dkwX1_start_0 : List UInt8 := [27, 4, 16, 20, 184, 0, 103, 154, 0, 9, 42, 2, 182, 0, 93, 172, 42, 16, 10, 182, 0, 160, 3, 61]
abbrev dktX1_start_0 : List UInt8 := dkwX1_start_0 ++ dktX1_start_1
theorem dksX1_start_0 : cX1_start.data.toList.drop 0 = dktX1_start_0 := by decide +kernel
theorem dksX1_start_1 : cX1_start.data.toList.drop 24 = dktX1_start_1 := dk_seg dksX1_start_0 24 rfl rfl
theorem dksX1_start_2 : cX1_start.data.toList.drop 46 = dktX1_start_2 := dk_seg dksX1_start_1 22 rfl rfl
theorem dksX1_start_3 : cX1_start.data.toList.drop 70 = dktX1_start_3 := dk_seg dksX1_start_2 24 rfl rfl
theorem dksX1_start_4 : cX1_start.data.toList.drop 94 = dktX1_start_4 := dk_seg dksX1_start_3 24 rfl rfl
theorem dksX1_start_5 : cX1_start.data.toList.drop 116 = dktX1_start_5 := dk_seg dksX1_start_4 22 rfl rfl
theorem dksX1_start_6 : cX1_start.data.toList.drop 139 = dktX1_start_6 := dk_seg dksX1_start_5 23 rfl rfl
theorem dksX1_start_7 : cX1_start.data.toList.drop 161 = dktX1_start_7 := dk_seg dksX1_start_6 22 rfl rfl
theorem dX1_start_0 : decode cX1_start 0 = .ok (.iload_n 1, 1) := dk_27 (dk_at dksX1_start_0 0 rfl rfl)
theorem dX1_start_1 : decode cX1_start 1 = .ok (.iconst 1, 1) := dk_4 (dk_at dksX1_start_0 1 rfl rfl)
theorem dX1_start_2 : decode cX1_start 2 = .ok (.bipush 20, 2) := dk_16 20 (dk_at dksX1_start_0 2 rfl rfl)
theorem dX1_start_4 : decode cX1_start 4 = .ok (.invokestatic 103, 3) := dk_184 0 103 (dk_at dksX1_start_0 4 rfl rfl)
theorem dX1_start_7 : decode cX1_start 7 = .ok (.ifCond .ne 9, 3) := dk_154 0 9 (dk_at dksX1_start_0 7 rfl rfl)
theorem dX1_start_10 : decode cX1_start 10 = .ok (.aload_n 0, 1) := dk_42 (dk_at dksX1_start_0 10 rfl rfl)
theorem dX1_start_11 : decode cX1_start 11 = .ok (.iconst (-1), 1) := dk_2 (dk_at dksX1_start_0 11 rfl rfl)
theorem dX1_start_12 : decode cX1_start 12 = .ok (.invokevirtual 93, 3) := dk_182 0 93 (dk_at dksX1_start_0 12 rfl rfl)
theorem dX1_start_15 : decode cX1_start 15 = .ok (.ireturn, 1) := dk_172 (dk_at dksX1_start_0 15 rfl rfl)
theorem dX1_start_16 : decode cX1_start 16 = .ok (.aload_n 0, 1) := dk_42 (dk_at dksX1_start_0 16 rfl rfl)
theorem dX1_start_17 : decode cX1_start 17 = .ok (.bipush 10, 2) := dk_16 10 (dk_at dksX1_start_0 17 rfl rfl)
theorem dX1_start_19 : decode cX1_start 19 = .ok (.invokevirtual 160, 3) := dk_182 0 160 (dk_at dksX1_start_0 19 rfl rfl)
theorem dX1_start_22 : decode cX1_start 22 = .ok (.iconst 0, 1) := dk_3 (dk_at dksX1_start_0 22 rfl rfl)
theorem dX1_start_23 : decode cX1_start 23 = .ok (.istore_n 2, 1) := dk_61 (dk_at dksX1_start_0 23 rfl rfl)
theorem dX1_start_24 : decode cX1_start 24 = .ok (.iload_n 2, 1) := dk_28 (dk_at dksX1_start_1 0 rfl rfl)
theorem dX1_start_25 : decode cX1_start 25 = .ok (.iload_n 1, 1) := dk_27 (dk_at dksX1_start_1 1 rfl rfl)
theorem dX1_start_26 : decode cX1_start 26 = .ok (.if_icmp .ge 56, 3) := dk_162 0 56 (dk_at dksX1_start_1 2 rfl rfl)
theorem dX1_start_29 : decode cX1_start 29 = .ok (.iconst 0, 1) := dk_3 (dk_at dksX1_start_1 5 rfl rfl)
theorem dX1_start_30 : decode cX1_start 30 = .ok (.istore_n 3, 1) := dk_62 (dk_at dksX1_start_1 6 rfl rfl)
theorem dX1_start_31 : decode cX1_start 31 = .ok (.iload_n 3, 1) := dk_29 (dk_at dksX1_start_1 7 rfl rfl)
theorem dX1_start_32 : decode cX1_start 32 = .ok (.aload_n 0, 1) := dk_42 (dk_at dksX1_start_1 8 rfl rfl)
theorem dX1_start_33 : decode cX1_start 33 = .ok (.getfield 67, 3) := dk_180 0 67 (dk_at dksX1_start_1 9 rfl rfl)
theorem dX1_start_36 : decode cX1_start 36 = .ok (.getfield 100, 3) := dk_180 0 100 (dk_at dksX1_start_1 12 rfl rfl)
theorem dX1_start_39 : decode cX1_start 39 = .ok (.if_icmp .ge 37, 3) := dk_162 0 37 (dk_at dksX1_start_1 15 rfl rfl)
theorem dX1_start_42 : decode cX1_start 42 = .ok (.aload_n 0, 1) := dk_42 (dk_at dksX1_start_1 18 rfl rfl)
theorem dX1_start_43 : decode cX1_start 43 = .ok (.getfield 67, 3) := dk_180 0 67 (dk_at dksX1_start_1 19 rfl rfl)
theorem dX1_start_46 : decode cX1_start 46 = .ok (.getfield 184, 3) := dk_180 0 184 (dk_at dksX1_start_2 0 rfl rfl)
theorem dX1_start_49 : decode cX1_start 49 = .ok (.iload_n 3, 1) := dk_29 (dk_at dksX1_start_2 3 rfl rfl)
theorem dX1_start_50 : decode cX1_start 50 = .ok (.aaload, 1) := dk_50 (dk_at dksX1_start_2 4 rfl rfl)
theorem dX1_start_51 : decode cX1_start 51 = .ok (.getfield 236, 3) := dk_180 0 236 (dk_at dksX1_start_2 5 rfl rfl)
theorem dX1_start_54 : decode cX1_start 54 = .ok (.ifCond .ne 16, 3) := dk_154 0 16 (dk_at dksX1_start_2 8 rfl rfl)
theorem dX1_start_57 : decode cX1_start 57 = .ok (.aload_n 0, 1) := dk_42 (dk_at dksX1_start_2 11 rfl rfl)
theorem dX1_start_58 : decode cX1_start 58 = .ok (.aload_n 0, 1) := dk_42 (dk_at dksX1_start_2 12 rfl rfl)
theorem dX1_start_59 : decode cX1_start 59 = .ok (.getfield 67, 3) := dk_180 0 67 (dk_at dksX1_start_2 13 rfl rfl)
theorem dX1_start_62 : decode cX1_start 62 = .ok (.getfield 184, 3) := dk_180 0 184 (dk_at dksX1_start_2 16 rfl rfl)
theorem dX1_start_65 : decode cX1_start 65 = .ok (.iload_n 3, 1) := dk_29 (dk_at dksX1_start_2 19 rfl rfl)
theorem dX1_start_66 : decode cX1_start 66 = .ok (.aaload, 1) := dk_50 (dk_at dksX1_start_2 20 rfl rfl)
theorem dX1_start_67 : decode cX1_start 67 = .ok (.invokevirtual 338, 3) := dk_182 1 82 (dk_at dksX1_start_2 21 rfl rfl)
theorem dX1_start_70 : decode cX1_start 70 = .ok (.iinc 3 1, 3) := dk_132 3 1 (dk_at dksX1_start_3 0 rfl rfl)
theorem dX1_start_73 : decode cX1_start 73 = .ok (.goto (-42), 3) := dk_167 255 214 (dk_at dksX1_start_3 3 rfl rfl)
theorem dX1_start_76 : decode cX1_start 76 = .ok (.iinc 2 1, 3) := dk_132 2 1 (dk_at dksX1_start_3 6 rfl rfl)
theorem dX1_start_79 : decode cX1_start 79 = .ok (.goto (-55), 3) := dk_167 255 201 (dk_at dksX1_start_3 9 rfl rfl)
theorem dX1_start_82 : decode cX1_start 82 = .ok (.aload_n 0, 1) := dk_42 (dk_at dksX1_start_3 12 rfl rfl)
theorem dX1_start_83 : decode cX1_start 83 = .ok (.getfield 18, 3) := dk_180 0 18 (dk_at dksX1_start_3 13 rfl rfl)
theorem dX1_start_86 : decode cX1_start 86 = .ok (.aload_n 0, 1) := dk_42 (dk_at dksX1_start_3 16 rfl rfl)
theorem dX1_start_87 : decode cX1_start 87 = .ok (.getfield 86, 3) := dk_180 0 86 (dk_at dksX1_start_3 17 rfl rfl)
theorem dX1_start_90 : decode cX1_start 90 = .ok (.iconst 1, 1) := dk_4 (dk_at dksX1_start_3 20 rfl rfl)
theorem dX1_start_91 : decode cX1_start 91 = .ok (.isub, 1) := dk_100 (dk_at dksX1_start_3 21 rfl rfl)
theorem dX1_start_92 : decode cX1_start 92 = .ok (.aaload, 1) := dk_50 (dk_at dksX1_start_3 22 rfl rfl)
theorem dX1_start_93 : decode cX1_start 93 = .ok (.astore_n 2, 1) := dk_77 (dk_at dksX1_start_3 23 rfl rfl)
theorem dX1_start_94 : decode cX1_start 94 = .ok (.iconst 0, 1) := dk_3 (dk_at dksX1_start_4 0 rfl rfl)
theorem dX1_start_95 : decode cX1_start 95 = .ok (.istore_n 3, 1) := dk_62 (dk_at dksX1_start_4 1 rfl rfl)
theorem dX1_start_96 : decode cX1_start 96 = .ok (.iconst 0, 1) := dk_3 (dk_at dksX1_start_4 2 rfl rfl)
theorem dX1_start_97 : decode cX1_start 97 = .ok (.istore 4, 2) := dk_54 4 (dk_at dksX1_start_4 3 rfl rfl)
theorem dX1_start_99 : decode cX1_start 99 = .ok (.iload 4, 2) := dk_21 4 (dk_at dksX1_start_4 5 rfl rfl)
theorem dX1_start_101 : decode cX1_start 101 = .ok (.aload_n 0, 1) := dk_42 (dk_at dksX1_start_4 7 rfl rfl)
theorem dX1_start_102 : decode cX1_start 102 = .ok (.getfield 67, 3) := dk_180 0 67 (dk_at dksX1_start_4 8 rfl rfl)
theorem dX1_start_105 : decode cX1_start 105 = .ok (.getfield 100, 3) := dk_180 0 100 (dk_at dksX1_start_4 11 rfl rfl)
theorem dX1_start_108 : decode cX1_start 108 = .ok (.if_icmp .ge 69, 3) := dk_162 0 69 (dk_at dksX1_start_4 14 rfl rfl)
theorem dX1_start_111 : decode cX1_start 111 = .ok (.iload_n 3, 1) := dk_29 (dk_at dksX1_start_4 17 rfl rfl)
theorem dX1_start_112 : decode cX1_start 112 = .ok (.aload_n 0, 1) := dk_42 (dk_at dksX1_start_4 18 rfl rfl)
theorem dX1_start_113 : decode cX1_start 113 = .ok (.getfield 67, 3) := dk_180 0 67 (dk_at dksX1_start_4 19 rfl rfl)
theorem dX1_start_116 : decode cX1_start 116 = .ok (.getfield 184, 3) := dk_180 0 184 (dk_at dksX1_start_5 0 rfl rfl)
theorem dX1_start_119 : decode cX1_start 119 = .ok (.iload 4, 2) := dk_21 4 (dk_at dksX1_start_5 3 rfl rfl)
theorem dX1_start_121 : decode cX1_start 121 = .ok (.aaload, 1) := dk_50 (dk_at dksX1_start_5 5 rfl rfl)
theorem dX1_start_122 : decode cX1_start 122 = .ok (.getfield 244, 3) := dk_180 0 244 (dk_at dksX1_start_5 6 rfl rfl)
theorem dX1_start_125 : decode cX1_start 125 = .ok (.aload_n 2, 1) := dk_44 (dk_at dksX1_start_5 9 rfl rfl)
theorem dX1_start_126 : decode cX1_start 126 = .ok (.getfield 184, 3) := dk_180 0 184 (dk_at dksX1_start_5 10 rfl rfl)
theorem dX1_start_129 : decode cX1_start 129 = .ok (.iload 4, 2) := dk_21 4 (dk_at dksX1_start_5 13 rfl rfl)
theorem dX1_start_131 : decode cX1_start 131 = .ok (.aaload, 1) := dk_50 (dk_at dksX1_start_5 15 rfl rfl)
theorem dX1_start_132 : decode cX1_start 132 = .ok (.getfield 244, 3) := dk_180 0 244 (dk_at dksX1_start_5 16 rfl rfl)
theorem dX1_start_135 : decode cX1_start 135 = .ok (.if_icmp .ne 29, 3) := dk_160 0 29 (dk_at dksX1_start_5 19 rfl rfl)
theorem dX1_start_138 : decode cX1_start 138 = .ok (.aload_n 0, 1) := dk_42 (dk_at dksX1_start_5 22 rfl rfl)
theorem dX1_start_139 : decode cX1_start 139 = .ok (.getfield 67, 3) := dk_180 0 67 (dk_at dksX1_start_6 0 rfl rfl)
theorem dX1_start_142 : decode cX1_start 142 = .ok (.getfield 184, 3) := dk_180 0 184 (dk_at dksX1_start_6 3 rfl rfl)
theorem dX1_start_145 : decode cX1_start 145 = .ok (.iload 4, 2) := dk_21 4 (dk_at dksX1_start_6 6 rfl rfl)
theorem dX1_start_147 : decode cX1_start 147 = .ok (.aaload, 1) := dk_50 (dk_at dksX1_start_6 8 rfl rfl)
theorem dX1_start_148 : decode cX1_start 148 = .ok (.getfield 250, 3) := dk_180 0 250 (dk_at dksX1_start_6 9 rfl rfl)
theorem dX1_start_151 : decode cX1_start 151 = .ok (.aload_n 2, 1) := dk_44 (dk_at dksX1_start_6 12 rfl rfl)
theorem dX1_start_152 : decode cX1_start 152 = .ok (.getfield 184, 3) := dk_180 0 184 (dk_at dksX1_start_6 13 rfl rfl)
theorem dX1_start_155 : decode cX1_start 155 = .ok (.iload 4, 2) := dk_21 4 (dk_at dksX1_start_6 16 rfl rfl)
theorem dX1_start_157 : decode cX1_start 157 = .ok (.aaload, 1) := dk_50 (dk_at dksX1_start_6 18 rfl rfl)
theorem dX1_start_158 : decode cX1_start 158 = .ok (.getfield 250, 3) := dk_180 0 250 (dk_at dksX1_start_6 19 rfl rfl)
theorem dX1_start_161 : decode cX1_start 161 = .ok (.if_icmp .eq 7, 3) := dk_159 0 7 (dk_at dksX1_start_7 0 rfl rfl)
theorem dX1_start_164 : decode cX1_start 164 = .ok (.iconst 1, 1) := dk_4 (dk_at dksX1_start_7 3 rfl rfl)
theorem dX1_start_165 : decode cX1_start 165 = .ok (.goto 4, 3) := dk_167 0 4 (dk_at dksX1_start_7 4 rfl rfl)
theorem dX1_start_168 : decode cX1_start 168 = .ok (.iconst 0, 1) := dk_3 (dk_at dksX1_start_7 7 rfl rfl)
theorem dX1_start_169 : decode cX1_start 169 = .ok (.iadd, 1) := dk_96 (dk_at dksX1_start_7 8 rfl rfl)
theorem dX1_start_170 : decode cX1_start 170 = .ok (.istore_n 3, 1) := dk_62 (dk_at dksX1_start_7 9 rfl rfl)
theorem dX1_start_171 : decode cX1_start 171 = .ok (.iinc 4 1, 3) := dk_132 4 1 (dk_at dksX1_start_7 10 rfl rfl)
theorem dX1_start_174 : decode cX1_start 174 = .ok (.goto (-75), 3) := dk_167 255 181 (dk_at dksX1_start_7 13 rfl rfl)
theorem dX1_start_177 : decode cX1_start 177 = .ok (.aload_n 0, 1) := dk_42 (dk_at dksX1_start_7 16 rfl rfl)
theorem dX1_start_178 : decode cX1_start 178 = .ok (.iload_n 3, 1) := dk_29 (dk_at dksX1_start_7 17 rfl rfl)
theorem dX1_start_179 : decode cX1_start 179 = .ok (.invokevirtual 97, 3) := dk_182 0 97 (dk_at dksX1_start_7 18 rfl rfl)
theorem dX1_start_182 : decode cX1_start 182 = .ok (.ireturn, 1) := dk_172 (dk_at dksX1_start_7 21 rfl rfl)
abbrev cX1_starts : ByteArray := prog_1_method_40_code
def yX1_starts : MethodName := ⟨RX1, "starts", "(LCellRows$Cell;)V"⟩
def dkwX1_starts_7 : List UInt8 := [184, 1, 73, 182, 1, 76, 181, 0, 244, 43, 43, 21, 4, 28, 184, 1, 73, 182, 1, 79, 181, 0, 250, 177]
abbrev dktX1_starts_7 : List UInt8 := dkwX1_starts_7 ++ []
def dkwX1_starts_6 : List UInt8 := [54, 4, 132, 8, 1, 167, 255, 159, 132, 5, 1, 167, 255, 115, 28, 154, 0, 4, 177, 43, 43, 29, 28]
abbrev dktX1_starts_6 : List UInt8 := dkwX1_starts_6 ++ dktX1_starts_7
def dkwX1_starts_5 : List UInt8 := [62, 21, 4, 25, 6, 180, 1, 21, 42, 180, 0, 34, 25, 6, 21, 8, 182, 1, 70, 16, 8, 100, 104, 96]
abbrev dktX1_starts_5 : List UInt8 := dkwX1_starts_5 ++ dktX1_starts_6
def dkwX1_starts_4 : List UInt8 := [25, 6, 21, 8, 182, 1, 63, 16, 16, 25, 6, 180, 1, 67, 21, 7, 46, 104, 100, 16, 8, 100, 104, 96]
abbrev dktX1_starts_4 : List UInt8 := dkwX1_starts_4 ++ dktX1_starts_5
def dkwX1_starts_3 : List UInt8 := [160, 0, 6, 167, 0, 71, 28, 25, 6, 180, 1, 21, 96, 61, 29, 25, 6, 180, 1, 21, 42, 180, 0, 34]
abbrev dktX1_starts_3 : List UInt8 := dkwX1_starts_3 ++ dktX1_starts_4
def dkwX1_starts_2 : List UInt8 := [54, 8, 21, 8, 25, 6, 180, 0, 233, 162, 0, 93, 21, 7, 2, 159, 0, 87, 21, 8, 21, 7]
abbrev dktX1_starts_2 : List UInt8 := dkwX1_starts_2 ++ dktX1_starts_3
def dkwX1_starts_1 : List UInt8 := [180, 0, 67, 180, 0, 223, 21, 5, 50, 58, 6, 25, 6, 43, 180, 1, 60, 182, 0, 208, 54, 7, 3]
abbrev dktX1_starts_1 : List UInt8 := dkwX1_starts_1 ++ dktX1_starts_2
def dkwX1_starts_0 : List UInt8 := [3, 61, 3, 62, 3, 54, 4, 3, 54, 5, 21, 5, 42, 180, 0, 67, 180, 0, 107, 162, 0, 135, 42]
abbrev dktX1_starts_0 : List UInt8 := dkwX1_starts_0 ++ dktX1_starts_1
theorem dksX1_starts_0 : cX1_starts.data.toList.drop 0 = dktX1_starts_0 := by decide +kernel
theorem dksX1_starts_1 : cX1_starts.data.toList.drop 23 = dktX1_starts_1 := dk_seg dksX1_starts_0 23 rfl rfl
theorem dksX1_starts_2 : cX1_starts.data.toList.drop 46 = dktX1_starts_2 := dk_seg dksX1_starts_1 23 rfl rfl
theorem dksX1_starts_3 : cX1_starts.data.toList.drop 68 = dktX1_starts_3 := dk_seg dksX1_starts_2 22 rfl rfl
theorem dksX1_starts_4 : cX1_starts.data.toList.drop 92 = dktX1_starts_4 := dk_seg dksX1_starts_3 24 rfl rfl
theorem dksX1_starts_5 : cX1_starts.data.toList.drop 116 = dktX1_starts_5 := dk_seg dksX1_starts_4 24 rfl rfl
theorem dksX1_starts_6 : cX1_starts.data.toList.drop 140 = dktX1_starts_6 := dk_seg dksX1_starts_5 24 rfl rfl
theorem dksX1_starts_7 : cX1_starts.data.toList.drop 163 = dktX1_starts_7 := dk_seg dksX1_starts_6 23 rfl rfl
theorem dX1_starts_0 : decode cX1_starts 0 = .ok (.iconst 0, 1) := dk_3 (dk_at dksX1_starts_0 0 rfl rfl)
theorem dX1_starts_1 : decode cX1_starts 1 = .ok (.istore_n 2, 1) := dk_61 (dk_at dksX1_starts_0 1 rfl rfl)
theorem dX1_starts_2 : decode cX1_starts 2 = .ok (.iconst 0, 1) := dk_3 (dk_at dksX1_starts_0 2 rfl rfl)
theorem dX1_starts_3 : decode cX1_starts 3 = .ok (.istore_n 3, 1) := dk_62 (dk_at dksX1_starts_0 3 rfl rfl)
theorem dX1_starts_4 : decode cX1_starts 4 = .ok (.iconst 0, 1) := dk_3 (dk_at dksX1_starts_0 4 rfl rfl)
theorem dX1_starts_5 : decode cX1_starts 5 = .ok (.istore 4, 2) := dk_54 4 (dk_at dksX1_starts_0 5 rfl rfl)
theorem dX1_starts_7 : decode cX1_starts 7 = .ok (.iconst 0, 1) := dk_3 (dk_at dksX1_starts_0 7 rfl rfl)
theorem dX1_starts_8 : decode cX1_starts 8 = .ok (.istore 5, 2) := dk_54 5 (dk_at dksX1_starts_0 8 rfl rfl)
theorem dX1_starts_10 : decode cX1_starts 10 = .ok (.iload 5, 2) := dk_21 5 (dk_at dksX1_starts_0 10 rfl rfl)
theorem dX1_starts_12 : decode cX1_starts 12 = .ok (.aload_n 0, 1) := dk_42 (dk_at dksX1_starts_0 12 rfl rfl)
theorem dX1_starts_13 : decode cX1_starts 13 = .ok (.getfield 67, 3) := dk_180 0 67 (dk_at dksX1_starts_0 13 rfl rfl)
theorem dX1_starts_16 : decode cX1_starts 16 = .ok (.getfield 107, 3) := dk_180 0 107 (dk_at dksX1_starts_0 16 rfl rfl)
theorem dX1_starts_19 : decode cX1_starts 19 = .ok (.if_icmp .ge 135, 3) := dk_162 0 135 (dk_at dksX1_starts_0 19 rfl rfl)
theorem dX1_starts_22 : decode cX1_starts 22 = .ok (.aload_n 0, 1) := dk_42 (dk_at dksX1_starts_0 22 rfl rfl)
theorem dX1_starts_23 : decode cX1_starts 23 = .ok (.getfield 67, 3) := dk_180 0 67 (dk_at dksX1_starts_1 0 rfl rfl)
theorem dX1_starts_26 : decode cX1_starts 26 = .ok (.getfield 223, 3) := dk_180 0 223 (dk_at dksX1_starts_1 3 rfl rfl)
theorem dX1_starts_29 : decode cX1_starts 29 = .ok (.iload 5, 2) := dk_21 5 (dk_at dksX1_starts_1 6 rfl rfl)
theorem dX1_starts_31 : decode cX1_starts 31 = .ok (.aaload, 1) := dk_50 (dk_at dksX1_starts_1 8 rfl rfl)
theorem dX1_starts_32 : decode cX1_starts 32 = .ok (.astore 6, 2) := dk_58 6 (dk_at dksX1_starts_1 9 rfl rfl)
theorem dX1_starts_34 : decode cX1_starts 34 = .ok (.aload 6, 2) := dk_25 6 (dk_at dksX1_starts_1 11 rfl rfl)
theorem dX1_starts_36 : decode cX1_starts 36 = .ok (.aload_n 1, 1) := dk_43 (dk_at dksX1_starts_1 13 rfl rfl)
theorem dX1_starts_37 : decode cX1_starts 37 = .ok (.getfield 316, 3) := dk_180 1 60 (dk_at dksX1_starts_1 14 rfl rfl)
theorem dX1_starts_40 : decode cX1_starts 40 = .ok (.invokevirtual 208, 3) := dk_182 0 208 (dk_at dksX1_starts_1 17 rfl rfl)
theorem dX1_starts_43 : decode cX1_starts 43 = .ok (.istore 7, 2) := dk_54 7 (dk_at dksX1_starts_1 20 rfl rfl)
theorem dX1_starts_45 : decode cX1_starts 45 = .ok (.iconst 0, 1) := dk_3 (dk_at dksX1_starts_1 22 rfl rfl)
theorem dX1_starts_46 : decode cX1_starts 46 = .ok (.istore 8, 2) := dk_54 8 (dk_at dksX1_starts_2 0 rfl rfl)
theorem dX1_starts_48 : decode cX1_starts 48 = .ok (.iload 8, 2) := dk_21 8 (dk_at dksX1_starts_2 2 rfl rfl)
theorem dX1_starts_50 : decode cX1_starts 50 = .ok (.aload 6, 2) := dk_25 6 (dk_at dksX1_starts_2 4 rfl rfl)
theorem dX1_starts_52 : decode cX1_starts 52 = .ok (.getfield 233, 3) := dk_180 0 233 (dk_at dksX1_starts_2 6 rfl rfl)
theorem dX1_starts_55 : decode cX1_starts 55 = .ok (.if_icmp .ge 93, 3) := dk_162 0 93 (dk_at dksX1_starts_2 9 rfl rfl)
theorem dX1_starts_58 : decode cX1_starts 58 = .ok (.iload 7, 2) := dk_21 7 (dk_at dksX1_starts_2 12 rfl rfl)
theorem dX1_starts_60 : decode cX1_starts 60 = .ok (.iconst (-1), 1) := dk_2 (dk_at dksX1_starts_2 14 rfl rfl)
theorem dX1_starts_61 : decode cX1_starts 61 = .ok (.if_icmp .eq 87, 3) := dk_159 0 87 (dk_at dksX1_starts_2 15 rfl rfl)
theorem dX1_starts_64 : decode cX1_starts 64 = .ok (.iload 8, 2) := dk_21 8 (dk_at dksX1_starts_2 18 rfl rfl)
theorem dX1_starts_66 : decode cX1_starts 66 = .ok (.iload 7, 2) := dk_21 7 (dk_at dksX1_starts_2 20 rfl rfl)
theorem dX1_starts_68 : decode cX1_starts 68 = .ok (.if_icmp .ne 6, 3) := dk_160 0 6 (dk_at dksX1_starts_3 0 rfl rfl)
theorem dX1_starts_71 : decode cX1_starts 71 = .ok (.goto 71, 3) := dk_167 0 71 (dk_at dksX1_starts_3 3 rfl rfl)
theorem dX1_starts_74 : decode cX1_starts 74 = .ok (.iload_n 2, 1) := dk_28 (dk_at dksX1_starts_3 6 rfl rfl)
theorem dX1_starts_75 : decode cX1_starts 75 = .ok (.aload 6, 2) := dk_25 6 (dk_at dksX1_starts_3 7 rfl rfl)
theorem dX1_starts_77 : decode cX1_starts 77 = .ok (.getfield 277, 3) := dk_180 1 21 (dk_at dksX1_starts_3 9 rfl rfl)
theorem dX1_starts_80 : decode cX1_starts 80 = .ok (.iadd, 1) := dk_96 (dk_at dksX1_starts_3 12 rfl rfl)
theorem dX1_starts_81 : decode cX1_starts 81 = .ok (.istore_n 2, 1) := dk_61 (dk_at dksX1_starts_3 13 rfl rfl)
theorem dX1_starts_82 : decode cX1_starts 82 = .ok (.iload_n 3, 1) := dk_29 (dk_at dksX1_starts_3 14 rfl rfl)
theorem dX1_starts_83 : decode cX1_starts 83 = .ok (.aload 6, 2) := dk_25 6 (dk_at dksX1_starts_3 15 rfl rfl)
theorem dX1_starts_85 : decode cX1_starts 85 = .ok (.getfield 277, 3) := dk_180 1 21 (dk_at dksX1_starts_3 17 rfl rfl)
theorem dX1_starts_88 : decode cX1_starts 88 = .ok (.aload_n 0, 1) := dk_42 (dk_at dksX1_starts_3 20 rfl rfl)
theorem dX1_starts_89 : decode cX1_starts 89 = .ok (.getfield 34, 3) := dk_180 0 34 (dk_at dksX1_starts_3 21 rfl rfl)
theorem dX1_starts_92 : decode cX1_starts 92 = .ok (.aload 6, 2) := dk_25 6 (dk_at dksX1_starts_4 0 rfl rfl)
theorem dX1_starts_94 : decode cX1_starts 94 = .ok (.iload 8, 2) := dk_21 8 (dk_at dksX1_starts_4 2 rfl rfl)
theorem dX1_starts_96 : decode cX1_starts 96 = .ok (.invokevirtual 319, 3) := dk_182 1 63 (dk_at dksX1_starts_4 4 rfl rfl)
theorem dX1_starts_99 : decode cX1_starts 99 = .ok (.bipush 16, 2) := dk_16 16 (dk_at dksX1_starts_4 7 rfl rfl)
theorem dX1_starts_101 : decode cX1_starts 101 = .ok (.aload 6, 2) := dk_25 6 (dk_at dksX1_starts_4 9 rfl rfl)
theorem dX1_starts_103 : decode cX1_starts 103 = .ok (.getfield 323, 3) := dk_180 1 67 (dk_at dksX1_starts_4 11 rfl rfl)
theorem dX1_starts_106 : decode cX1_starts 106 = .ok (.iload 7, 2) := dk_21 7 (dk_at dksX1_starts_4 14 rfl rfl)
theorem dX1_starts_108 : decode cX1_starts 108 = .ok (.iaload, 1) := dk_46 (dk_at dksX1_starts_4 16 rfl rfl)
theorem dX1_starts_109 : decode cX1_starts 109 = .ok (.imul, 1) := dk_104 (dk_at dksX1_starts_4 17 rfl rfl)
theorem dX1_starts_110 : decode cX1_starts 110 = .ok (.isub, 1) := dk_100 (dk_at dksX1_starts_4 18 rfl rfl)
theorem dX1_starts_111 : decode cX1_starts 111 = .ok (.bipush 8, 2) := dk_16 8 (dk_at dksX1_starts_4 19 rfl rfl)
theorem dX1_starts_113 : decode cX1_starts 113 = .ok (.isub, 1) := dk_100 (dk_at dksX1_starts_4 21 rfl rfl)
theorem dX1_starts_114 : decode cX1_starts 114 = .ok (.imul, 1) := dk_104 (dk_at dksX1_starts_4 22 rfl rfl)
theorem dX1_starts_115 : decode cX1_starts 115 = .ok (.iadd, 1) := dk_96 (dk_at dksX1_starts_4 23 rfl rfl)
theorem dX1_starts_116 : decode cX1_starts 116 = .ok (.istore_n 3, 1) := dk_62 (dk_at dksX1_starts_5 0 rfl rfl)
theorem dX1_starts_117 : decode cX1_starts 117 = .ok (.iload 4, 2) := dk_21 4 (dk_at dksX1_starts_5 1 rfl rfl)
theorem dX1_starts_119 : decode cX1_starts 119 = .ok (.aload 6, 2) := dk_25 6 (dk_at dksX1_starts_5 3 rfl rfl)
theorem dX1_starts_121 : decode cX1_starts 121 = .ok (.getfield 277, 3) := dk_180 1 21 (dk_at dksX1_starts_5 5 rfl rfl)
theorem dX1_starts_124 : decode cX1_starts 124 = .ok (.aload_n 0, 1) := dk_42 (dk_at dksX1_starts_5 8 rfl rfl)
theorem dX1_starts_125 : decode cX1_starts 125 = .ok (.getfield 34, 3) := dk_180 0 34 (dk_at dksX1_starts_5 9 rfl rfl)
theorem dX1_starts_128 : decode cX1_starts 128 = .ok (.aload 6, 2) := dk_25 6 (dk_at dksX1_starts_5 12 rfl rfl)
theorem dX1_starts_130 : decode cX1_starts 130 = .ok (.iload 8, 2) := dk_21 8 (dk_at dksX1_starts_5 14 rfl rfl)
theorem dX1_starts_132 : decode cX1_starts 132 = .ok (.invokevirtual 326, 3) := dk_182 1 70 (dk_at dksX1_starts_5 16 rfl rfl)
theorem dX1_starts_135 : decode cX1_starts 135 = .ok (.bipush 8, 2) := dk_16 8 (dk_at dksX1_starts_5 19 rfl rfl)
theorem dX1_starts_137 : decode cX1_starts 137 = .ok (.isub, 1) := dk_100 (dk_at dksX1_starts_5 21 rfl rfl)
theorem dX1_starts_138 : decode cX1_starts 138 = .ok (.imul, 1) := dk_104 (dk_at dksX1_starts_5 22 rfl rfl)
theorem dX1_starts_139 : decode cX1_starts 139 = .ok (.iadd, 1) := dk_96 (dk_at dksX1_starts_5 23 rfl rfl)
theorem dX1_starts_140 : decode cX1_starts 140 = .ok (.istore 4, 2) := dk_54 4 (dk_at dksX1_starts_6 0 rfl rfl)
theorem dX1_starts_142 : decode cX1_starts 142 = .ok (.iinc 8 1, 3) := dk_132 8 1 (dk_at dksX1_starts_6 2 rfl rfl)
theorem dX1_starts_145 : decode cX1_starts 145 = .ok (.goto (-97), 3) := dk_167 255 159 (dk_at dksX1_starts_6 5 rfl rfl)
theorem dX1_starts_148 : decode cX1_starts 148 = .ok (.iinc 5 1, 3) := dk_132 5 1 (dk_at dksX1_starts_6 8 rfl rfl)
theorem dX1_starts_151 : decode cX1_starts 151 = .ok (.goto (-141), 3) := dk_167 255 115 (dk_at dksX1_starts_6 11 rfl rfl)
theorem dX1_starts_154 : decode cX1_starts 154 = .ok (.iload_n 2, 1) := dk_28 (dk_at dksX1_starts_6 14 rfl rfl)
theorem dX1_starts_155 : decode cX1_starts 155 = .ok (.ifCond .ne 4, 3) := dk_154 0 4 (dk_at dksX1_starts_6 15 rfl rfl)
theorem dX1_starts_158 : decode cX1_starts 158 = .ok (.return_, 1) := dk_177 (dk_at dksX1_starts_6 18 rfl rfl)
theorem dX1_starts_159 : decode cX1_starts 159 = .ok (.aload_n 1, 1) := dk_43 (dk_at dksX1_starts_6 19 rfl rfl)
theorem dX1_starts_160 : decode cX1_starts 160 = .ok (.aload_n 1, 1) := dk_43 (dk_at dksX1_starts_6 20 rfl rfl)
theorem dX1_starts_161 : decode cX1_starts 161 = .ok (.iload_n 3, 1) := dk_29 (dk_at dksX1_starts_6 21 rfl rfl)
theorem dX1_starts_162 : decode cX1_starts 162 = .ok (.iload_n 2, 1) := dk_28 (dk_at dksX1_starts_6 22 rfl rfl)
theorem dX1_starts_163 : decode cX1_starts 163 = .ok (.invokestatic 329, 3) := dk_184 1 73 (dk_at dksX1_starts_7 0 rfl rfl)
theorem dX1_starts_166 : decode cX1_starts 166 = .ok (.invokevirtual 332, 3) := dk_182 1 76 (dk_at dksX1_starts_7 3 rfl rfl)
theorem dX1_starts_169 : decode cX1_starts 169 = .ok (.putfield 244, 3) := dk_181 0 244 (dk_at dksX1_starts_7 6 rfl rfl)
theorem dX1_starts_172 : decode cX1_starts 172 = .ok (.aload_n 1, 1) := dk_43 (dk_at dksX1_starts_7 9 rfl rfl)
theorem dX1_starts_173 : decode cX1_starts 173 = .ok (.aload_n 1, 1) := dk_43 (dk_at dksX1_starts_7 10 rfl rfl)
theorem dX1_starts_174 : decode cX1_starts 174 = .ok (.iload 4, 2) := dk_21 4 (dk_at dksX1_starts_7 11 rfl rfl)
theorem dX1_starts_176 : decode cX1_starts 176 = .ok (.iload_n 2, 1) := dk_28 (dk_at dksX1_starts_7 13 rfl rfl)
theorem dX1_starts_177 : decode cX1_starts 177 = .ok (.invokestatic 329, 3) := dk_184 1 73 (dk_at dksX1_starts_7 14 rfl rfl)
theorem dX1_starts_180 : decode cX1_starts 180 = .ok (.invokevirtual 335, 3) := dk_182 1 79 (dk_at dksX1_starts_7 17 rfl rfl)
theorem dX1_starts_183 : decode cX1_starts 183 = .ok (.putfield 250, 3) := dk_181 0 250 (dk_at dksX1_starts_7 20 rfl rfl)
theorem dX1_starts_186 : decode cX1_starts 186 = .ok (.return_, 1) := dk_177 (dk_at dksX1_starts_7 23 rfl rfl)
abbrev cX1_spread : ByteArray := prog_1_method_44_code
def yX1_spread : MethodName := ⟨RX1, "spread", "(I)I"⟩
def dkwX1_spread_4 : List UInt8 := [42, 28, 42, 182, 1, 86, 100, 182, 0, 97, 172]
abbrev dktX1_spread_4 : List UInt8 := dkwX1_spread_4 ++ []
def dkwX1_spread_3 : List UInt8 := [180, 0, 67, 180, 0, 184, 21, 4, 50, 182, 1, 102, 132, 4, 1, 167, 255, 211, 132, 3, 1, 167, 255, 197]
abbrev dktX1_spread_3 : List UInt8 := dkwX1_spread_3 ++ dktX1_spread_4
def dkwX1_spread_2 : List UInt8 := [180, 0, 100, 162, 0, 39, 42, 180, 0, 67, 180, 0, 184, 21, 4, 50, 180, 0, 236, 154, 0, 17, 42, 42]
abbrev dktX1_spread_2 : List UInt8 := dkwX1_spread_2 ++ dktX1_spread_3
def dkwX1_spread_1 : List UInt8 := [182, 1, 99, 42, 182, 1, 86, 61, 3, 62, 29, 27, 162, 0, 60, 3, 54, 4, 21, 4, 42, 180, 0, 67]
abbrev dktX1_spread_1 : List UInt8 := dkwX1_spread_1 ++ dktX1_spread_2
def dkwX1_spread_0 : List UInt8 := [27, 4, 16, 10, 184, 0, 103, 154, 0, 9, 42, 2, 182, 0, 93, 172, 42, 16, 11, 182, 0, 160, 42]
abbrev dktX1_spread_0 : List UInt8 := dkwX1_spread_0 ++ dktX1_spread_1
theorem dksX1_spread_0 : cX1_spread.data.toList.drop 0 = dktX1_spread_0 := by decide +kernel
theorem dksX1_spread_1 : cX1_spread.data.toList.drop 23 = dktX1_spread_1 := dk_seg dksX1_spread_0 23 rfl rfl
theorem dksX1_spread_2 : cX1_spread.data.toList.drop 47 = dktX1_spread_2 := dk_seg dksX1_spread_1 24 rfl rfl
theorem dksX1_spread_3 : cX1_spread.data.toList.drop 71 = dktX1_spread_3 := dk_seg dksX1_spread_2 24 rfl rfl
theorem dksX1_spread_4 : cX1_spread.data.toList.drop 95 = dktX1_spread_4 := dk_seg dksX1_spread_3 24 rfl rfl
theorem dX1_spread_0 : decode cX1_spread 0 = .ok (.iload_n 1, 1) := dk_27 (dk_at dksX1_spread_0 0 rfl rfl)
theorem dX1_spread_1 : decode cX1_spread 1 = .ok (.iconst 1, 1) := dk_4 (dk_at dksX1_spread_0 1 rfl rfl)
theorem dX1_spread_2 : decode cX1_spread 2 = .ok (.bipush 10, 2) := dk_16 10 (dk_at dksX1_spread_0 2 rfl rfl)
theorem dX1_spread_4 : decode cX1_spread 4 = .ok (.invokestatic 103, 3) := dk_184 0 103 (dk_at dksX1_spread_0 4 rfl rfl)
theorem dX1_spread_7 : decode cX1_spread 7 = .ok (.ifCond .ne 9, 3) := dk_154 0 9 (dk_at dksX1_spread_0 7 rfl rfl)
theorem dX1_spread_10 : decode cX1_spread 10 = .ok (.aload_n 0, 1) := dk_42 (dk_at dksX1_spread_0 10 rfl rfl)
theorem dX1_spread_11 : decode cX1_spread 11 = .ok (.iconst (-1), 1) := dk_2 (dk_at dksX1_spread_0 11 rfl rfl)
theorem dX1_spread_12 : decode cX1_spread 12 = .ok (.invokevirtual 93, 3) := dk_182 0 93 (dk_at dksX1_spread_0 12 rfl rfl)
theorem dX1_spread_15 : decode cX1_spread 15 = .ok (.ireturn, 1) := dk_172 (dk_at dksX1_spread_0 15 rfl rfl)
theorem dX1_spread_16 : decode cX1_spread 16 = .ok (.aload_n 0, 1) := dk_42 (dk_at dksX1_spread_0 16 rfl rfl)
theorem dX1_spread_17 : decode cX1_spread 17 = .ok (.bipush 11, 2) := dk_16 11 (dk_at dksX1_spread_0 17 rfl rfl)
theorem dX1_spread_19 : decode cX1_spread 19 = .ok (.invokevirtual 160, 3) := dk_182 0 160 (dk_at dksX1_spread_0 19 rfl rfl)
theorem dX1_spread_22 : decode cX1_spread 22 = .ok (.aload_n 0, 1) := dk_42 (dk_at dksX1_spread_0 22 rfl rfl)
theorem dX1_spread_23 : decode cX1_spread 23 = .ok (.invokevirtual 355, 3) := dk_182 1 99 (dk_at dksX1_spread_1 0 rfl rfl)
theorem dX1_spread_26 : decode cX1_spread 26 = .ok (.aload_n 0, 1) := dk_42 (dk_at dksX1_spread_1 3 rfl rfl)
theorem dX1_spread_27 : decode cX1_spread 27 = .ok (.invokevirtual 342, 3) := dk_182 1 86 (dk_at dksX1_spread_1 4 rfl rfl)
theorem dX1_spread_30 : decode cX1_spread 30 = .ok (.istore_n 2, 1) := dk_61 (dk_at dksX1_spread_1 7 rfl rfl)
theorem dX1_spread_31 : decode cX1_spread 31 = .ok (.iconst 0, 1) := dk_3 (dk_at dksX1_spread_1 8 rfl rfl)
theorem dX1_spread_32 : decode cX1_spread 32 = .ok (.istore_n 3, 1) := dk_62 (dk_at dksX1_spread_1 9 rfl rfl)
theorem dX1_spread_33 : decode cX1_spread 33 = .ok (.iload_n 3, 1) := dk_29 (dk_at dksX1_spread_1 10 rfl rfl)
theorem dX1_spread_34 : decode cX1_spread 34 = .ok (.iload_n 1, 1) := dk_27 (dk_at dksX1_spread_1 11 rfl rfl)
theorem dX1_spread_35 : decode cX1_spread 35 = .ok (.if_icmp .ge 60, 3) := dk_162 0 60 (dk_at dksX1_spread_1 12 rfl rfl)
theorem dX1_spread_38 : decode cX1_spread 38 = .ok (.iconst 0, 1) := dk_3 (dk_at dksX1_spread_1 15 rfl rfl)
theorem dX1_spread_39 : decode cX1_spread 39 = .ok (.istore 4, 2) := dk_54 4 (dk_at dksX1_spread_1 16 rfl rfl)
theorem dX1_spread_41 : decode cX1_spread 41 = .ok (.iload 4, 2) := dk_21 4 (dk_at dksX1_spread_1 18 rfl rfl)
theorem dX1_spread_43 : decode cX1_spread 43 = .ok (.aload_n 0, 1) := dk_42 (dk_at dksX1_spread_1 20 rfl rfl)
theorem dX1_spread_44 : decode cX1_spread 44 = .ok (.getfield 67, 3) := dk_180 0 67 (dk_at dksX1_spread_1 21 rfl rfl)
theorem dX1_spread_47 : decode cX1_spread 47 = .ok (.getfield 100, 3) := dk_180 0 100 (dk_at dksX1_spread_2 0 rfl rfl)
theorem dX1_spread_50 : decode cX1_spread 50 = .ok (.if_icmp .ge 39, 3) := dk_162 0 39 (dk_at dksX1_spread_2 3 rfl rfl)
theorem dX1_spread_53 : decode cX1_spread 53 = .ok (.aload_n 0, 1) := dk_42 (dk_at dksX1_spread_2 6 rfl rfl)
theorem dX1_spread_54 : decode cX1_spread 54 = .ok (.getfield 67, 3) := dk_180 0 67 (dk_at dksX1_spread_2 7 rfl rfl)
theorem dX1_spread_57 : decode cX1_spread 57 = .ok (.getfield 184, 3) := dk_180 0 184 (dk_at dksX1_spread_2 10 rfl rfl)
theorem dX1_spread_60 : decode cX1_spread 60 = .ok (.iload 4, 2) := dk_21 4 (dk_at dksX1_spread_2 13 rfl rfl)
theorem dX1_spread_62 : decode cX1_spread 62 = .ok (.aaload, 1) := dk_50 (dk_at dksX1_spread_2 15 rfl rfl)
theorem dX1_spread_63 : decode cX1_spread 63 = .ok (.getfield 236, 3) := dk_180 0 236 (dk_at dksX1_spread_2 16 rfl rfl)
theorem dX1_spread_66 : decode cX1_spread 66 = .ok (.ifCond .ne 17, 3) := dk_154 0 17 (dk_at dksX1_spread_2 19 rfl rfl)
theorem dX1_spread_69 : decode cX1_spread 69 = .ok (.aload_n 0, 1) := dk_42 (dk_at dksX1_spread_2 22 rfl rfl)
theorem dX1_spread_70 : decode cX1_spread 70 = .ok (.aload_n 0, 1) := dk_42 (dk_at dksX1_spread_2 23 rfl rfl)
theorem dX1_spread_71 : decode cX1_spread 71 = .ok (.getfield 67, 3) := dk_180 0 67 (dk_at dksX1_spread_3 0 rfl rfl)
theorem dX1_spread_74 : decode cX1_spread 74 = .ok (.getfield 184, 3) := dk_180 0 184 (dk_at dksX1_spread_3 3 rfl rfl)
theorem dX1_spread_77 : decode cX1_spread 77 = .ok (.iload 4, 2) := dk_21 4 (dk_at dksX1_spread_3 6 rfl rfl)
theorem dX1_spread_79 : decode cX1_spread 79 = .ok (.aaload, 1) := dk_50 (dk_at dksX1_spread_3 8 rfl rfl)
theorem dX1_spread_80 : decode cX1_spread 80 = .ok (.invokevirtual 358, 3) := dk_182 1 102 (dk_at dksX1_spread_3 9 rfl rfl)
theorem dX1_spread_83 : decode cX1_spread 83 = .ok (.iinc 4 1, 3) := dk_132 4 1 (dk_at dksX1_spread_3 12 rfl rfl)
theorem dX1_spread_86 : decode cX1_spread 86 = .ok (.goto (-45), 3) := dk_167 255 211 (dk_at dksX1_spread_3 15 rfl rfl)
theorem dX1_spread_89 : decode cX1_spread 89 = .ok (.iinc 3 1, 3) := dk_132 3 1 (dk_at dksX1_spread_3 18 rfl rfl)
theorem dX1_spread_92 : decode cX1_spread 92 = .ok (.goto (-59), 3) := dk_167 255 197 (dk_at dksX1_spread_3 21 rfl rfl)
theorem dX1_spread_95 : decode cX1_spread 95 = .ok (.aload_n 0, 1) := dk_42 (dk_at dksX1_spread_4 0 rfl rfl)
theorem dX1_spread_96 : decode cX1_spread 96 = .ok (.iload_n 2, 1) := dk_28 (dk_at dksX1_spread_4 1 rfl rfl)
theorem dX1_spread_97 : decode cX1_spread 97 = .ok (.aload_n 0, 1) := dk_42 (dk_at dksX1_spread_4 2 rfl rfl)
theorem dX1_spread_98 : decode cX1_spread 98 = .ok (.invokevirtual 342, 3) := dk_182 1 86 (dk_at dksX1_spread_4 3 rfl rfl)
theorem dX1_spread_101 : decode cX1_spread 101 = .ok (.isub, 1) := dk_100 (dk_at dksX1_spread_4 6 rfl rfl)
theorem dX1_spread_102 : decode cX1_spread 102 = .ok (.invokevirtual 97, 3) := dk_182 0 97 (dk_at dksX1_spread_4 7 rfl rfl)
theorem dX1_spread_105 : decode cX1_spread 105 = .ok (.ireturn, 1) := dk_172 (dk_at dksX1_spread_4 10 rfl rfl)
abbrev cX1_laysBins : ByteArray := prog_1_method_37_code
def yX1_laysBins : MethodName := ⟨RX1, "laysBins", "()V"⟩
def dkwX1_laysBins_3 : List UInt8 := [182, 1, 48, 87, 132, 1, 1, 167, 255, 234, 177]
abbrev dktX1_laysBins_3 : List UInt8 := dkwX1_laysBins_3 ++ []
def dkwX1_laysBins_2 : List UInt8 := [132, 1, 1, 167, 255, 229, 3, 60, 27, 42, 180, 1, 36, 190, 162, 0, 19, 42, 180, 1, 36, 27, 50]
abbrev dktX1_laysBins_2 : List UInt8 := dkwX1_laysBins_2 ++ dktX1_laysBins_3
def dkwX1_laysBins_1 : List UInt8 := [180, 1, 36, 190, 162, 0, 24, 42, 180, 1, 36, 27, 187, 1, 43, 89, 42, 27, 183, 1, 45, 83]
abbrev dktX1_laysBins_1 : List UInt8 := dkwX1_laysBins_1 ++ dktX1_laysBins_2
def dkwX1_laysBins_0 : List UInt8 := [42, 180, 1, 36, 199, 0, 46, 42, 42, 182, 1, 40, 189, 1, 43, 181, 1, 36, 3, 60, 27, 42]
abbrev dktX1_laysBins_0 : List UInt8 := dkwX1_laysBins_0 ++ dktX1_laysBins_1
theorem dksX1_laysBins_0 : cX1_laysBins.data.toList.drop 0 = dktX1_laysBins_0 := by decide +kernel
theorem dksX1_laysBins_1 : cX1_laysBins.data.toList.drop 22 = dktX1_laysBins_1 := dk_seg dksX1_laysBins_0 22 rfl rfl
theorem dksX1_laysBins_2 : cX1_laysBins.data.toList.drop 44 = dktX1_laysBins_2 := dk_seg dksX1_laysBins_1 22 rfl rfl
theorem dksX1_laysBins_3 : cX1_laysBins.data.toList.drop 67 = dktX1_laysBins_3 := dk_seg dksX1_laysBins_2 23 rfl rfl
theorem dX1_laysBins_0 : decode cX1_laysBins 0 = .ok (.aload_n 0, 1) := dk_42 (dk_at dksX1_laysBins_0 0 rfl rfl)
theorem dX1_laysBins_1 : decode cX1_laysBins 1 = .ok (.getfield 292, 3) := dk_180 1 36 (dk_at dksX1_laysBins_0 1 rfl rfl)
theorem dX1_laysBins_4 : decode cX1_laysBins 4 = .ok (.ifnonnull 46, 3) := dk_199 0 46 (dk_at dksX1_laysBins_0 4 rfl rfl)
theorem dX1_laysBins_7 : decode cX1_laysBins 7 = .ok (.aload_n 0, 1) := dk_42 (dk_at dksX1_laysBins_0 7 rfl rfl)
theorem dX1_laysBins_8 : decode cX1_laysBins 8 = .ok (.aload_n 0, 1) := dk_42 (dk_at dksX1_laysBins_0 8 rfl rfl)
theorem dX1_laysBins_9 : decode cX1_laysBins 9 = .ok (.invokevirtual 296, 3) := dk_182 1 40 (dk_at dksX1_laysBins_0 9 rfl rfl)
theorem dX1_laysBins_12 : decode cX1_laysBins 12 = .ok (.anewarray 299, 3) := dk_189 1 43 (dk_at dksX1_laysBins_0 12 rfl rfl)
theorem dX1_laysBins_15 : decode cX1_laysBins 15 = .ok (.putfield 292, 3) := dk_181 1 36 (dk_at dksX1_laysBins_0 15 rfl rfl)
theorem dX1_laysBins_18 : decode cX1_laysBins 18 = .ok (.iconst 0, 1) := dk_3 (dk_at dksX1_laysBins_0 18 rfl rfl)
theorem dX1_laysBins_19 : decode cX1_laysBins 19 = .ok (.istore_n 1, 1) := dk_60 (dk_at dksX1_laysBins_0 19 rfl rfl)
theorem dX1_laysBins_20 : decode cX1_laysBins 20 = .ok (.iload_n 1, 1) := dk_27 (dk_at dksX1_laysBins_0 20 rfl rfl)
theorem dX1_laysBins_21 : decode cX1_laysBins 21 = .ok (.aload_n 0, 1) := dk_42 (dk_at dksX1_laysBins_0 21 rfl rfl)
theorem dX1_laysBins_22 : decode cX1_laysBins 22 = .ok (.getfield 292, 3) := dk_180 1 36 (dk_at dksX1_laysBins_1 0 rfl rfl)
theorem dX1_laysBins_25 : decode cX1_laysBins 25 = .ok (.arraylength, 1) := dk_190 (dk_at dksX1_laysBins_1 3 rfl rfl)
theorem dX1_laysBins_26 : decode cX1_laysBins 26 = .ok (.if_icmp .ge 24, 3) := dk_162 0 24 (dk_at dksX1_laysBins_1 4 rfl rfl)
theorem dX1_laysBins_29 : decode cX1_laysBins 29 = .ok (.aload_n 0, 1) := dk_42 (dk_at dksX1_laysBins_1 7 rfl rfl)
theorem dX1_laysBins_30 : decode cX1_laysBins 30 = .ok (.getfield 292, 3) := dk_180 1 36 (dk_at dksX1_laysBins_1 8 rfl rfl)
theorem dX1_laysBins_33 : decode cX1_laysBins 33 = .ok (.iload_n 1, 1) := dk_27 (dk_at dksX1_laysBins_1 11 rfl rfl)
theorem dX1_laysBins_34 : decode cX1_laysBins 34 = .ok (.new 299, 3) := dk_187 1 43 (dk_at dksX1_laysBins_1 12 rfl rfl)
theorem dX1_laysBins_37 : decode cX1_laysBins 37 = .ok (.dup, 1) := dk_89 (dk_at dksX1_laysBins_1 15 rfl rfl)
theorem dX1_laysBins_38 : decode cX1_laysBins 38 = .ok (.aload_n 0, 1) := dk_42 (dk_at dksX1_laysBins_1 16 rfl rfl)
theorem dX1_laysBins_39 : decode cX1_laysBins 39 = .ok (.iload_n 1, 1) := dk_27 (dk_at dksX1_laysBins_1 17 rfl rfl)
theorem dX1_laysBins_40 : decode cX1_laysBins 40 = .ok (.invokespecial 301, 3) := dk_183 1 45 (dk_at dksX1_laysBins_1 18 rfl rfl)
theorem dX1_laysBins_43 : decode cX1_laysBins 43 = .ok (.aastore, 1) := dk_83 (dk_at dksX1_laysBins_1 21 rfl rfl)
theorem dX1_laysBins_44 : decode cX1_laysBins 44 = .ok (.iinc 1 1, 3) := dk_132 1 1 (dk_at dksX1_laysBins_2 0 rfl rfl)
theorem dX1_laysBins_47 : decode cX1_laysBins 47 = .ok (.goto (-27), 3) := dk_167 255 229 (dk_at dksX1_laysBins_2 3 rfl rfl)
theorem dX1_laysBins_50 : decode cX1_laysBins 50 = .ok (.iconst 0, 1) := dk_3 (dk_at dksX1_laysBins_2 6 rfl rfl)
theorem dX1_laysBins_51 : decode cX1_laysBins 51 = .ok (.istore_n 1, 1) := dk_60 (dk_at dksX1_laysBins_2 7 rfl rfl)
theorem dX1_laysBins_52 : decode cX1_laysBins 52 = .ok (.iload_n 1, 1) := dk_27 (dk_at dksX1_laysBins_2 8 rfl rfl)
theorem dX1_laysBins_53 : decode cX1_laysBins 53 = .ok (.aload_n 0, 1) := dk_42 (dk_at dksX1_laysBins_2 9 rfl rfl)
theorem dX1_laysBins_54 : decode cX1_laysBins 54 = .ok (.getfield 292, 3) := dk_180 1 36 (dk_at dksX1_laysBins_2 10 rfl rfl)
theorem dX1_laysBins_57 : decode cX1_laysBins 57 = .ok (.arraylength, 1) := dk_190 (dk_at dksX1_laysBins_2 13 rfl rfl)
theorem dX1_laysBins_58 : decode cX1_laysBins 58 = .ok (.if_icmp .ge 19, 3) := dk_162 0 19 (dk_at dksX1_laysBins_2 14 rfl rfl)
theorem dX1_laysBins_61 : decode cX1_laysBins 61 = .ok (.aload_n 0, 1) := dk_42 (dk_at dksX1_laysBins_2 17 rfl rfl)
theorem dX1_laysBins_62 : decode cX1_laysBins 62 = .ok (.getfield 292, 3) := dk_180 1 36 (dk_at dksX1_laysBins_2 18 rfl rfl)
theorem dX1_laysBins_65 : decode cX1_laysBins 65 = .ok (.iload_n 1, 1) := dk_27 (dk_at dksX1_laysBins_2 21 rfl rfl)
theorem dX1_laysBins_66 : decode cX1_laysBins 66 = .ok (.aaload, 1) := dk_50 (dk_at dksX1_laysBins_2 22 rfl rfl)
theorem dX1_laysBins_67 : decode cX1_laysBins 67 = .ok (.invokevirtual 304, 3) := dk_182 1 48 (dk_at dksX1_laysBins_3 0 rfl rfl)
theorem dX1_laysBins_70 : decode cX1_laysBins 70 = .ok (.pop, 1) := dk_87 (dk_at dksX1_laysBins_3 3 rfl rfl)
theorem dX1_laysBins_71 : decode cX1_laysBins 71 = .ok (.iinc 1 1, 3) := dk_132 1 1 (dk_at dksX1_laysBins_3 4 rfl rfl)
theorem dX1_laysBins_74 : decode cX1_laysBins 74 = .ok (.goto (-22), 3) := dk_167 255 234 (dk_at dksX1_laysBins_3 7 rfl rfl)
theorem dX1_laysBins_77 : decode cX1_laysBins 77 = .ok (.return_, 1) := dk_177 (dk_at dksX1_laysBins_3 10 rfl rfl)
abbrev cX1_binMany : ByteArray := prog_1_method_36_code
def yX1_binMany : MethodName := ⟨RX1, "binMany", "()I"⟩
def dkwX1_binMany_0 : List UInt8 := [42, 182, 1, 33, 42, 180, 0, 59, 5, 96, 4, 100, 5, 108, 104, 172]
abbrev dktX1_binMany_0 : List UInt8 := dkwX1_binMany_0 ++ []
theorem dksX1_binMany_0 : cX1_binMany.data.toList.drop 0 = dktX1_binMany_0 := by decide +kernel
theorem dX1_binMany_0 : decode cX1_binMany 0 = .ok (.aload_n 0, 1) := dk_42 (dk_at dksX1_binMany_0 0 rfl rfl)
theorem dX1_binMany_1 : decode cX1_binMany 1 = .ok (.invokevirtual 289, 3) := dk_182 1 33 (dk_at dksX1_binMany_0 1 rfl rfl)
theorem dX1_binMany_4 : decode cX1_binMany 4 = .ok (.aload_n 0, 1) := dk_42 (dk_at dksX1_binMany_0 4 rfl rfl)
theorem dX1_binMany_5 : decode cX1_binMany 5 = .ok (.getfield 59, 3) := dk_180 0 59 (dk_at dksX1_binMany_0 5 rfl rfl)
theorem dX1_binMany_8 : decode cX1_binMany 8 = .ok (.iconst 2, 1) := dk_5 (dk_at dksX1_binMany_0 8 rfl rfl)
theorem dX1_binMany_9 : decode cX1_binMany 9 = .ok (.iadd, 1) := dk_96 (dk_at dksX1_binMany_0 9 rfl rfl)
theorem dX1_binMany_10 : decode cX1_binMany 10 = .ok (.iconst 1, 1) := dk_4 (dk_at dksX1_binMany_0 10 rfl rfl)
theorem dX1_binMany_11 : decode cX1_binMany 11 = .ok (.isub, 1) := dk_100 (dk_at dksX1_binMany_0 11 rfl rfl)
theorem dX1_binMany_12 : decode cX1_binMany 12 = .ok (.iconst 2, 1) := dk_5 (dk_at dksX1_binMany_0 12 rfl rfl)
theorem dX1_binMany_13 : decode cX1_binMany 13 = .ok (.idiv, 1) := dk_108 (dk_at dksX1_binMany_0 13 rfl rfl)
theorem dX1_binMany_14 : decode cX1_binMany 14 = .ok (.imul, 1) := dk_104 (dk_at dksX1_binMany_0 14 rfl rfl)
theorem dX1_binMany_15 : decode cX1_binMany 15 = .ok (.ireturn, 1) := dk_172 (dk_at dksX1_binMany_0 15 rfl rfl)
abbrev cX1_binColumns : ByteArray := prog_1_method_35_code
def yX1_binColumns : MethodName := ⟨RX1, "binColumns", "()I"⟩
def dkwX1_binColumns_0 : List UInt8 := [42, 180, 0, 63, 16, 8, 96, 4, 100, 16, 8, 108, 172]
abbrev dktX1_binColumns_0 : List UInt8 := dkwX1_binColumns_0 ++ []
theorem dksX1_binColumns_0 : cX1_binColumns.data.toList.drop 0 = dktX1_binColumns_0 := by decide +kernel
theorem dX1_binColumns_0 : decode cX1_binColumns 0 = .ok (.aload_n 0, 1) := dk_42 (dk_at dksX1_binColumns_0 0 rfl rfl)
theorem dX1_binColumns_1 : decode cX1_binColumns 1 = .ok (.getfield 63, 3) := dk_180 0 63 (dk_at dksX1_binColumns_0 1 rfl rfl)
theorem dX1_binColumns_4 : decode cX1_binColumns 4 = .ok (.bipush 8, 2) := dk_16 8 (dk_at dksX1_binColumns_0 4 rfl rfl)
theorem dX1_binColumns_6 : decode cX1_binColumns 6 = .ok (.iadd, 1) := dk_96 (dk_at dksX1_binColumns_0 6 rfl rfl)
theorem dX1_binColumns_7 : decode cX1_binColumns 7 = .ok (.iconst 1, 1) := dk_4 (dk_at dksX1_binColumns_0 7 rfl rfl)
theorem dX1_binColumns_8 : decode cX1_binColumns 8 = .ok (.isub, 1) := dk_100 (dk_at dksX1_binColumns_0 8 rfl rfl)
theorem dX1_binColumns_9 : decode cX1_binColumns 9 = .ok (.bipush 8, 2) := dk_16 8 (dk_at dksX1_binColumns_0 9 rfl rfl)
theorem dX1_binColumns_11 : decode cX1_binColumns 11 = .ok (.idiv, 1) := dk_108 (dk_at dksX1_binColumns_0 11 rfl rfl)
theorem dX1_binColumns_12 : decode cX1_binColumns 12 = .ok (.ireturn, 1) := dk_172 (dk_at dksX1_binColumns_0 12 rfl rfl)
abbrev cX1_cost : ByteArray := prog_1_method_39_code
def yX1_cost : MethodName := ⟨RX1, "cost", "()I"⟩
def dkwX1_cost_0 : List UInt8 := [16, 16, 42, 182, 1, 55, 104, 42, 180, 0, 13, 5, 46, 42, 182, 1, 57, 104, 96, 172]
abbrev dktX1_cost_0 : List UInt8 := dkwX1_cost_0 ++ []
theorem dksX1_cost_0 : cX1_cost.data.toList.drop 0 = dktX1_cost_0 := by decide +kernel
theorem dX1_cost_0 : decode cX1_cost 0 = .ok (.bipush 16, 2) := dk_16 16 (dk_at dksX1_cost_0 0 rfl rfl)
theorem dX1_cost_2 : decode cX1_cost 2 = .ok (.aload_n 0, 1) := dk_42 (dk_at dksX1_cost_0 2 rfl rfl)
theorem dX1_cost_3 : decode cX1_cost 3 = .ok (.invokevirtual 311, 3) := dk_182 1 55 (dk_at dksX1_cost_0 3 rfl rfl)
theorem dX1_cost_6 : decode cX1_cost 6 = .ok (.imul, 1) := dk_104 (dk_at dksX1_cost_0 6 rfl rfl)
theorem dX1_cost_7 : decode cX1_cost 7 = .ok (.aload_n 0, 1) := dk_42 (dk_at dksX1_cost_0 7 rfl rfl)
theorem dX1_cost_8 : decode cX1_cost 8 = .ok (.getfield 13, 3) := dk_180 0 13 (dk_at dksX1_cost_0 8 rfl rfl)
theorem dX1_cost_11 : decode cX1_cost 11 = .ok (.iconst 2, 1) := dk_5 (dk_at dksX1_cost_0 11 rfl rfl)
theorem dX1_cost_12 : decode cX1_cost 12 = .ok (.iaload, 1) := dk_46 (dk_at dksX1_cost_0 12 rfl rfl)
theorem dX1_cost_13 : decode cX1_cost 13 = .ok (.aload_n 0, 1) := dk_42 (dk_at dksX1_cost_0 13 rfl rfl)
theorem dX1_cost_14 : decode cX1_cost 14 = .ok (.invokevirtual 313, 3) := dk_182 1 57 (dk_at dksX1_cost_0 14 rfl rfl)
theorem dX1_cost_17 : decode cX1_cost 17 = .ok (.imul, 1) := dk_104 (dk_at dksX1_cost_0 17 rfl rfl)
theorem dX1_cost_18 : decode cX1_cost 18 = .ok (.iadd, 1) := dk_96 (dk_at dksX1_cost_0 18 rfl rfl)
theorem dX1_cost_19 : decode cX1_cost 19 = .ok (.ireturn, 1) := dk_172 (dk_at dksX1_cost_0 19 rfl rfl)
abbrev cX1_smooth : ByteArray := prog_1_method_34_code
def yX1_smooth : MethodName := ⟨RX1, "smooth", "()I"⟩
def dkwX1_smooth_2 : List UInt8 := [132, 2, 1, 167, 255, 210, 27, 172]
abbrev dktX1_smooth_2 : List UInt8 := dkwX1_smooth_2 ++ []
def dkwX1_smooth_1 : List UInt8 := [50, 180, 1, 21, 42, 180, 0, 34, 42, 180, 0, 67, 180, 0, 223, 28, 50, 182, 1, 30, 104, 96, 60]
abbrev dktX1_smooth_1 : List UInt8 := dkwX1_smooth_1 ++ dktX1_smooth_2
def dkwX1_smooth_0 : List UInt8 := [3, 60, 3, 61, 28, 42, 180, 0, 67, 180, 0, 107, 162, 0, 41, 27, 42, 180, 0, 67, 180, 0, 223, 28]
abbrev dktX1_smooth_0 : List UInt8 := dkwX1_smooth_0 ++ dktX1_smooth_1
theorem dksX1_smooth_0 : cX1_smooth.data.toList.drop 0 = dktX1_smooth_0 := by decide +kernel
theorem dksX1_smooth_1 : cX1_smooth.data.toList.drop 24 = dktX1_smooth_1 := dk_seg dksX1_smooth_0 24 rfl rfl
theorem dksX1_smooth_2 : cX1_smooth.data.toList.drop 47 = dktX1_smooth_2 := dk_seg dksX1_smooth_1 23 rfl rfl
theorem dX1_smooth_0 : decode cX1_smooth 0 = .ok (.iconst 0, 1) := dk_3 (dk_at dksX1_smooth_0 0 rfl rfl)
theorem dX1_smooth_1 : decode cX1_smooth 1 = .ok (.istore_n 1, 1) := dk_60 (dk_at dksX1_smooth_0 1 rfl rfl)
theorem dX1_smooth_2 : decode cX1_smooth 2 = .ok (.iconst 0, 1) := dk_3 (dk_at dksX1_smooth_0 2 rfl rfl)
theorem dX1_smooth_3 : decode cX1_smooth 3 = .ok (.istore_n 2, 1) := dk_61 (dk_at dksX1_smooth_0 3 rfl rfl)
theorem dX1_smooth_4 : decode cX1_smooth 4 = .ok (.iload_n 2, 1) := dk_28 (dk_at dksX1_smooth_0 4 rfl rfl)
theorem dX1_smooth_5 : decode cX1_smooth 5 = .ok (.aload_n 0, 1) := dk_42 (dk_at dksX1_smooth_0 5 rfl rfl)
theorem dX1_smooth_6 : decode cX1_smooth 6 = .ok (.getfield 67, 3) := dk_180 0 67 (dk_at dksX1_smooth_0 6 rfl rfl)
theorem dX1_smooth_9 : decode cX1_smooth 9 = .ok (.getfield 107, 3) := dk_180 0 107 (dk_at dksX1_smooth_0 9 rfl rfl)
theorem dX1_smooth_12 : decode cX1_smooth 12 = .ok (.if_icmp .ge 41, 3) := dk_162 0 41 (dk_at dksX1_smooth_0 12 rfl rfl)
theorem dX1_smooth_15 : decode cX1_smooth 15 = .ok (.iload_n 1, 1) := dk_27 (dk_at dksX1_smooth_0 15 rfl rfl)
theorem dX1_smooth_16 : decode cX1_smooth 16 = .ok (.aload_n 0, 1) := dk_42 (dk_at dksX1_smooth_0 16 rfl rfl)
theorem dX1_smooth_17 : decode cX1_smooth 17 = .ok (.getfield 67, 3) := dk_180 0 67 (dk_at dksX1_smooth_0 17 rfl rfl)
theorem dX1_smooth_20 : decode cX1_smooth 20 = .ok (.getfield 223, 3) := dk_180 0 223 (dk_at dksX1_smooth_0 20 rfl rfl)
theorem dX1_smooth_23 : decode cX1_smooth 23 = .ok (.iload_n 2, 1) := dk_28 (dk_at dksX1_smooth_0 23 rfl rfl)
theorem dX1_smooth_24 : decode cX1_smooth 24 = .ok (.aaload, 1) := dk_50 (dk_at dksX1_smooth_1 0 rfl rfl)
theorem dX1_smooth_25 : decode cX1_smooth 25 = .ok (.getfield 277, 3) := dk_180 1 21 (dk_at dksX1_smooth_1 1 rfl rfl)
theorem dX1_smooth_28 : decode cX1_smooth 28 = .ok (.aload_n 0, 1) := dk_42 (dk_at dksX1_smooth_1 4 rfl rfl)
theorem dX1_smooth_29 : decode cX1_smooth 29 = .ok (.getfield 34, 3) := dk_180 0 34 (dk_at dksX1_smooth_1 5 rfl rfl)
theorem dX1_smooth_32 : decode cX1_smooth 32 = .ok (.aload_n 0, 1) := dk_42 (dk_at dksX1_smooth_1 8 rfl rfl)
theorem dX1_smooth_33 : decode cX1_smooth 33 = .ok (.getfield 67, 3) := dk_180 0 67 (dk_at dksX1_smooth_1 9 rfl rfl)
theorem dX1_smooth_36 : decode cX1_smooth 36 = .ok (.getfield 223, 3) := dk_180 0 223 (dk_at dksX1_smooth_1 12 rfl rfl)
theorem dX1_smooth_39 : decode cX1_smooth 39 = .ok (.iload_n 2, 1) := dk_28 (dk_at dksX1_smooth_1 15 rfl rfl)
theorem dX1_smooth_40 : decode cX1_smooth 40 = .ok (.aaload, 1) := dk_50 (dk_at dksX1_smooth_1 16 rfl rfl)
theorem dX1_smooth_41 : decode cX1_smooth 41 = .ok (.invokevirtual 286, 3) := dk_182 1 30 (dk_at dksX1_smooth_1 17 rfl rfl)
theorem dX1_smooth_44 : decode cX1_smooth 44 = .ok (.imul, 1) := dk_104 (dk_at dksX1_smooth_1 20 rfl rfl)
theorem dX1_smooth_45 : decode cX1_smooth 45 = .ok (.iadd, 1) := dk_96 (dk_at dksX1_smooth_1 21 rfl rfl)
theorem dX1_smooth_46 : decode cX1_smooth 46 = .ok (.istore_n 1, 1) := dk_60 (dk_at dksX1_smooth_1 22 rfl rfl)
theorem dX1_smooth_47 : decode cX1_smooth 47 = .ok (.iinc 2 1, 3) := dk_132 2 1 (dk_at dksX1_smooth_2 0 rfl rfl)
theorem dX1_smooth_50 : decode cX1_smooth 50 = .ok (.goto (-46), 3) := dk_167 255 210 (dk_at dksX1_smooth_2 3 rfl rfl)
theorem dX1_smooth_53 : decode cX1_smooth 53 = .ok (.iload_n 1, 1) := dk_27 (dk_at dksX1_smooth_2 6 rfl rfl)
theorem dX1_smooth_54 : decode cX1_smooth 54 = .ok (.ireturn, 1) := dk_172 (dk_at dksX1_smooth_2 7 rfl rfl)
abbrev cX1_overflow : ByteArray := prog_1_method_38_code
def yX1_overflow : MethodName := ⟨RX1, "overflow", "()I"⟩
def dkwX1_overflow_1 : List UInt8 := [60, 132, 2, 1, 167, 255, 232, 27, 172]
abbrev dktX1_overflow_1 : List UInt8 := dkwX1_overflow_1 ++ []
def dkwX1_overflow_0 : List UInt8 := [3, 60, 3, 61, 28, 42, 180, 1, 36, 190, 162, 0, 21, 27, 42, 180, 1, 36, 28, 50, 182, 1, 52, 96]
abbrev dktX1_overflow_0 : List UInt8 := dkwX1_overflow_0 ++ dktX1_overflow_1
theorem dksX1_overflow_0 : cX1_overflow.data.toList.drop 0 = dktX1_overflow_0 := by decide +kernel
theorem dksX1_overflow_1 : cX1_overflow.data.toList.drop 24 = dktX1_overflow_1 := dk_seg dksX1_overflow_0 24 rfl rfl
theorem dX1_overflow_0 : decode cX1_overflow 0 = .ok (.iconst 0, 1) := dk_3 (dk_at dksX1_overflow_0 0 rfl rfl)
theorem dX1_overflow_1 : decode cX1_overflow 1 = .ok (.istore_n 1, 1) := dk_60 (dk_at dksX1_overflow_0 1 rfl rfl)
theorem dX1_overflow_2 : decode cX1_overflow 2 = .ok (.iconst 0, 1) := dk_3 (dk_at dksX1_overflow_0 2 rfl rfl)
theorem dX1_overflow_3 : decode cX1_overflow 3 = .ok (.istore_n 2, 1) := dk_61 (dk_at dksX1_overflow_0 3 rfl rfl)
theorem dX1_overflow_4 : decode cX1_overflow 4 = .ok (.iload_n 2, 1) := dk_28 (dk_at dksX1_overflow_0 4 rfl rfl)
theorem dX1_overflow_5 : decode cX1_overflow 5 = .ok (.aload_n 0, 1) := dk_42 (dk_at dksX1_overflow_0 5 rfl rfl)
theorem dX1_overflow_6 : decode cX1_overflow 6 = .ok (.getfield 292, 3) := dk_180 1 36 (dk_at dksX1_overflow_0 6 rfl rfl)
theorem dX1_overflow_9 : decode cX1_overflow 9 = .ok (.arraylength, 1) := dk_190 (dk_at dksX1_overflow_0 9 rfl rfl)
theorem dX1_overflow_10 : decode cX1_overflow 10 = .ok (.if_icmp .ge 21, 3) := dk_162 0 21 (dk_at dksX1_overflow_0 10 rfl rfl)
theorem dX1_overflow_13 : decode cX1_overflow 13 = .ok (.iload_n 1, 1) := dk_27 (dk_at dksX1_overflow_0 13 rfl rfl)
theorem dX1_overflow_14 : decode cX1_overflow 14 = .ok (.aload_n 0, 1) := dk_42 (dk_at dksX1_overflow_0 14 rfl rfl)
theorem dX1_overflow_15 : decode cX1_overflow 15 = .ok (.getfield 292, 3) := dk_180 1 36 (dk_at dksX1_overflow_0 15 rfl rfl)
theorem dX1_overflow_18 : decode cX1_overflow 18 = .ok (.iload_n 2, 1) := dk_28 (dk_at dksX1_overflow_0 18 rfl rfl)
theorem dX1_overflow_19 : decode cX1_overflow 19 = .ok (.aaload, 1) := dk_50 (dk_at dksX1_overflow_0 19 rfl rfl)
theorem dX1_overflow_20 : decode cX1_overflow 20 = .ok (.invokevirtual 308, 3) := dk_182 1 52 (dk_at dksX1_overflow_0 20 rfl rfl)
theorem dX1_overflow_23 : decode cX1_overflow 23 = .ok (.iadd, 1) := dk_96 (dk_at dksX1_overflow_0 23 rfl rfl)
theorem dX1_overflow_24 : decode cX1_overflow 24 = .ok (.istore_n 1, 1) := dk_60 (dk_at dksX1_overflow_1 0 rfl rfl)
theorem dX1_overflow_25 : decode cX1_overflow 25 = .ok (.iinc 2 1, 3) := dk_132 2 1 (dk_at dksX1_overflow_1 1 rfl rfl)
theorem dX1_overflow_28 : decode cX1_overflow 28 = .ok (.goto (-24), 3) := dk_167 255 232 (dk_at dksX1_overflow_1 4 rfl rfl)
theorem dX1_overflow_31 : decode cX1_overflow 31 = .ok (.iload_n 1, 1) := dk_27 (dk_at dksX1_overflow_1 7 rfl rfl)
theorem dX1_overflow_32 : decode cX1_overflow 32 = .ok (.ireturn, 1) := dk_172 (dk_at dksX1_overflow_1 8 rfl rfl)
abbrev cX1_spreads : ByteArray := prog_1_method_42_code
def yX1_spreads : MethodName := ⟨RX1, "spreads", "(LCellRows$Cell;)V"⟩
def dkwX1_spreads_3 : List UInt8 := [181, 0, 244, 43, 29, 181, 0, 250, 21, 4, 158, 0, 12, 42, 43, 28, 29, 21, 4, 182, 1, 92, 177]
abbrev dktX1_spreads_3 : List UInt8 := dkwX1_spreads_3 ++ []
def dkwX1_spreads_2 : List UInt8 := [21, 5, 161, 0, 6, 167, 0, 11, 21, 7, 54, 5, 21, 6, 54, 4, 132, 6, 1, 167, 255, 211, 43, 28]
abbrev dktX1_spreads_2 : List UInt8 := dkwX1_spreads_2 ++ dktX1_spreads_3
def dkwX1_spreads_1 : List UInt8 := [178, 1, 89, 190, 162, 0, 42, 42, 43, 28, 29, 21, 6, 182, 1, 92, 42, 182, 1, 86, 54, 7, 21, 7]
abbrev dktX1_spreads_1 : List UInt8 := dkwX1_spreads_1 ++ dktX1_spreads_2
def dkwX1_spreads_0 : List UInt8 := [43, 180, 0, 244, 61, 43, 180, 0, 250, 62, 3, 54, 4, 42, 182, 1, 86, 54, 5, 4, 54, 6, 21, 6]
abbrev dktX1_spreads_0 : List UInt8 := dkwX1_spreads_0 ++ dktX1_spreads_1
theorem dksX1_spreads_0 : cX1_spreads.data.toList.drop 0 = dktX1_spreads_0 := by decide +kernel
theorem dksX1_spreads_1 : cX1_spreads.data.toList.drop 24 = dktX1_spreads_1 := dk_seg dksX1_spreads_0 24 rfl rfl
theorem dksX1_spreads_2 : cX1_spreads.data.toList.drop 48 = dktX1_spreads_2 := dk_seg dksX1_spreads_1 24 rfl rfl
theorem dksX1_spreads_3 : cX1_spreads.data.toList.drop 72 = dktX1_spreads_3 := dk_seg dksX1_spreads_2 24 rfl rfl
theorem dX1_spreads_0 : decode cX1_spreads 0 = .ok (.aload_n 1, 1) := dk_43 (dk_at dksX1_spreads_0 0 rfl rfl)
theorem dX1_spreads_1 : decode cX1_spreads 1 = .ok (.getfield 244, 3) := dk_180 0 244 (dk_at dksX1_spreads_0 1 rfl rfl)
theorem dX1_spreads_4 : decode cX1_spreads 4 = .ok (.istore_n 2, 1) := dk_61 (dk_at dksX1_spreads_0 4 rfl rfl)
theorem dX1_spreads_5 : decode cX1_spreads 5 = .ok (.aload_n 1, 1) := dk_43 (dk_at dksX1_spreads_0 5 rfl rfl)
theorem dX1_spreads_6 : decode cX1_spreads 6 = .ok (.getfield 250, 3) := dk_180 0 250 (dk_at dksX1_spreads_0 6 rfl rfl)
theorem dX1_spreads_9 : decode cX1_spreads 9 = .ok (.istore_n 3, 1) := dk_62 (dk_at dksX1_spreads_0 9 rfl rfl)
theorem dX1_spreads_10 : decode cX1_spreads 10 = .ok (.iconst 0, 1) := dk_3 (dk_at dksX1_spreads_0 10 rfl rfl)
theorem dX1_spreads_11 : decode cX1_spreads 11 = .ok (.istore 4, 2) := dk_54 4 (dk_at dksX1_spreads_0 11 rfl rfl)
theorem dX1_spreads_13 : decode cX1_spreads 13 = .ok (.aload_n 0, 1) := dk_42 (dk_at dksX1_spreads_0 13 rfl rfl)
theorem dX1_spreads_14 : decode cX1_spreads 14 = .ok (.invokevirtual 342, 3) := dk_182 1 86 (dk_at dksX1_spreads_0 14 rfl rfl)
theorem dX1_spreads_17 : decode cX1_spreads 17 = .ok (.istore 5, 2) := dk_54 5 (dk_at dksX1_spreads_0 17 rfl rfl)
theorem dX1_spreads_19 : decode cX1_spreads 19 = .ok (.iconst 1, 1) := dk_4 (dk_at dksX1_spreads_0 19 rfl rfl)
theorem dX1_spreads_20 : decode cX1_spreads 20 = .ok (.istore 6, 2) := dk_54 6 (dk_at dksX1_spreads_0 20 rfl rfl)
theorem dX1_spreads_22 : decode cX1_spreads 22 = .ok (.iload 6, 2) := dk_21 6 (dk_at dksX1_spreads_0 22 rfl rfl)
theorem dX1_spreads_24 : decode cX1_spreads 24 = .ok (.getstatic 345, 3) := dk_178 1 89 (dk_at dksX1_spreads_1 0 rfl rfl)
theorem dX1_spreads_27 : decode cX1_spreads 27 = .ok (.arraylength, 1) := dk_190 (dk_at dksX1_spreads_1 3 rfl rfl)
theorem dX1_spreads_28 : decode cX1_spreads 28 = .ok (.if_icmp .ge 42, 3) := dk_162 0 42 (dk_at dksX1_spreads_1 4 rfl rfl)
theorem dX1_spreads_31 : decode cX1_spreads 31 = .ok (.aload_n 0, 1) := dk_42 (dk_at dksX1_spreads_1 7 rfl rfl)
theorem dX1_spreads_32 : decode cX1_spreads 32 = .ok (.aload_n 1, 1) := dk_43 (dk_at dksX1_spreads_1 8 rfl rfl)
theorem dX1_spreads_33 : decode cX1_spreads 33 = .ok (.iload_n 2, 1) := dk_28 (dk_at dksX1_spreads_1 9 rfl rfl)
theorem dX1_spreads_34 : decode cX1_spreads 34 = .ok (.iload_n 3, 1) := dk_29 (dk_at dksX1_spreads_1 10 rfl rfl)
theorem dX1_spreads_35 : decode cX1_spreads 35 = .ok (.iload 6, 2) := dk_21 6 (dk_at dksX1_spreads_1 11 rfl rfl)
theorem dX1_spreads_37 : decode cX1_spreads 37 = .ok (.invokevirtual 348, 3) := dk_182 1 92 (dk_at dksX1_spreads_1 13 rfl rfl)
theorem dX1_spreads_40 : decode cX1_spreads 40 = .ok (.aload_n 0, 1) := dk_42 (dk_at dksX1_spreads_1 16 rfl rfl)
theorem dX1_spreads_41 : decode cX1_spreads 41 = .ok (.invokevirtual 342, 3) := dk_182 1 86 (dk_at dksX1_spreads_1 17 rfl rfl)
theorem dX1_spreads_44 : decode cX1_spreads 44 = .ok (.istore 7, 2) := dk_54 7 (dk_at dksX1_spreads_1 20 rfl rfl)
theorem dX1_spreads_46 : decode cX1_spreads 46 = .ok (.iload 7, 2) := dk_21 7 (dk_at dksX1_spreads_1 22 rfl rfl)
theorem dX1_spreads_48 : decode cX1_spreads 48 = .ok (.iload 5, 2) := dk_21 5 (dk_at dksX1_spreads_2 0 rfl rfl)
theorem dX1_spreads_50 : decode cX1_spreads 50 = .ok (.if_icmp .lt 6, 3) := dk_161 0 6 (dk_at dksX1_spreads_2 2 rfl rfl)
theorem dX1_spreads_53 : decode cX1_spreads 53 = .ok (.goto 11, 3) := dk_167 0 11 (dk_at dksX1_spreads_2 5 rfl rfl)
theorem dX1_spreads_56 : decode cX1_spreads 56 = .ok (.iload 7, 2) := dk_21 7 (dk_at dksX1_spreads_2 8 rfl rfl)
theorem dX1_spreads_58 : decode cX1_spreads 58 = .ok (.istore 5, 2) := dk_54 5 (dk_at dksX1_spreads_2 10 rfl rfl)
theorem dX1_spreads_60 : decode cX1_spreads 60 = .ok (.iload 6, 2) := dk_21 6 (dk_at dksX1_spreads_2 12 rfl rfl)
theorem dX1_spreads_62 : decode cX1_spreads 62 = .ok (.istore 4, 2) := dk_54 4 (dk_at dksX1_spreads_2 14 rfl rfl)
theorem dX1_spreads_64 : decode cX1_spreads 64 = .ok (.iinc 6 1, 3) := dk_132 6 1 (dk_at dksX1_spreads_2 16 rfl rfl)
theorem dX1_spreads_67 : decode cX1_spreads 67 = .ok (.goto (-45), 3) := dk_167 255 211 (dk_at dksX1_spreads_2 19 rfl rfl)
theorem dX1_spreads_70 : decode cX1_spreads 70 = .ok (.aload_n 1, 1) := dk_43 (dk_at dksX1_spreads_2 22 rfl rfl)
theorem dX1_spreads_71 : decode cX1_spreads 71 = .ok (.iload_n 2, 1) := dk_28 (dk_at dksX1_spreads_2 23 rfl rfl)
theorem dX1_spreads_72 : decode cX1_spreads 72 = .ok (.putfield 244, 3) := dk_181 0 244 (dk_at dksX1_spreads_3 0 rfl rfl)
theorem dX1_spreads_75 : decode cX1_spreads 75 = .ok (.aload_n 1, 1) := dk_43 (dk_at dksX1_spreads_3 3 rfl rfl)
theorem dX1_spreads_76 : decode cX1_spreads 76 = .ok (.iload_n 3, 1) := dk_29 (dk_at dksX1_spreads_3 4 rfl rfl)
theorem dX1_spreads_77 : decode cX1_spreads 77 = .ok (.putfield 250, 3) := dk_181 0 250 (dk_at dksX1_spreads_3 5 rfl rfl)
theorem dX1_spreads_80 : decode cX1_spreads 80 = .ok (.iload 4, 2) := dk_21 4 (dk_at dksX1_spreads_3 8 rfl rfl)
theorem dX1_spreads_82 : decode cX1_spreads 82 = .ok (.ifCond .le 12, 3) := dk_158 0 12 (dk_at dksX1_spreads_3 10 rfl rfl)
theorem dX1_spreads_85 : decode cX1_spreads 85 = .ok (.aload_n 0, 1) := dk_42 (dk_at dksX1_spreads_3 13 rfl rfl)
theorem dX1_spreads_86 : decode cX1_spreads 86 = .ok (.aload_n 1, 1) := dk_43 (dk_at dksX1_spreads_3 14 rfl rfl)
theorem dX1_spreads_87 : decode cX1_spreads 87 = .ok (.iload_n 2, 1) := dk_28 (dk_at dksX1_spreads_3 15 rfl rfl)
theorem dX1_spreads_88 : decode cX1_spreads 88 = .ok (.iload_n 3, 1) := dk_29 (dk_at dksX1_spreads_3 16 rfl rfl)
theorem dX1_spreads_89 : decode cX1_spreads 89 = .ok (.iload 4, 2) := dk_21 4 (dk_at dksX1_spreads_3 17 rfl rfl)
theorem dX1_spreads_91 : decode cX1_spreads 91 = .ok (.invokevirtual 348, 3) := dk_182 1 92 (dk_at dksX1_spreads_3 19 rfl rfl)
theorem dX1_spreads_94 : decode cX1_spreads 94 = .ok (.return_, 1) := dk_177 (dk_at dksX1_spreads_3 22 rfl rfl)
abbrev cX1_steps : ByteArray := prog_1_method_43_code
def yX1_steps : MethodName := ⟨RX1, "steps", "(LCellRows$Cell;III)V"⟩
def dkwX1_steps_1 : List UInt8 := [43, 29, 42, 180, 0, 13, 6, 46, 178, 1, 96, 21, 4, 46, 104, 96, 182, 1, 79, 181, 0, 250, 177]
abbrev dktX1_steps_1 : List UInt8 := dkwX1_steps_1 ++ []
def dkwX1_steps_0 : List UInt8 := [43, 43, 28, 42, 180, 0, 13, 6, 46, 178, 1, 89, 21, 4, 46, 104, 96, 182, 1, 76, 181, 0, 244, 43]
abbrev dktX1_steps_0 : List UInt8 := dkwX1_steps_0 ++ dktX1_steps_1
theorem dksX1_steps_0 : cX1_steps.data.toList.drop 0 = dktX1_steps_0 := by decide +kernel
theorem dksX1_steps_1 : cX1_steps.data.toList.drop 24 = dktX1_steps_1 := dk_seg dksX1_steps_0 24 rfl rfl
theorem dX1_steps_0 : decode cX1_steps 0 = .ok (.aload_n 1, 1) := dk_43 (dk_at dksX1_steps_0 0 rfl rfl)
theorem dX1_steps_1 : decode cX1_steps 1 = .ok (.aload_n 1, 1) := dk_43 (dk_at dksX1_steps_0 1 rfl rfl)
theorem dX1_steps_2 : decode cX1_steps 2 = .ok (.iload_n 2, 1) := dk_28 (dk_at dksX1_steps_0 2 rfl rfl)
theorem dX1_steps_3 : decode cX1_steps 3 = .ok (.aload_n 0, 1) := dk_42 (dk_at dksX1_steps_0 3 rfl rfl)
theorem dX1_steps_4 : decode cX1_steps 4 = .ok (.getfield 13, 3) := dk_180 0 13 (dk_at dksX1_steps_0 4 rfl rfl)
theorem dX1_steps_7 : decode cX1_steps 7 = .ok (.iconst 3, 1) := dk_6 (dk_at dksX1_steps_0 7 rfl rfl)
theorem dX1_steps_8 : decode cX1_steps 8 = .ok (.iaload, 1) := dk_46 (dk_at dksX1_steps_0 8 rfl rfl)
theorem dX1_steps_9 : decode cX1_steps 9 = .ok (.getstatic 345, 3) := dk_178 1 89 (dk_at dksX1_steps_0 9 rfl rfl)
theorem dX1_steps_12 : decode cX1_steps 12 = .ok (.iload 4, 2) := dk_21 4 (dk_at dksX1_steps_0 12 rfl rfl)
theorem dX1_steps_14 : decode cX1_steps 14 = .ok (.iaload, 1) := dk_46 (dk_at dksX1_steps_0 14 rfl rfl)
theorem dX1_steps_15 : decode cX1_steps 15 = .ok (.imul, 1) := dk_104 (dk_at dksX1_steps_0 15 rfl rfl)
theorem dX1_steps_16 : decode cX1_steps 16 = .ok (.iadd, 1) := dk_96 (dk_at dksX1_steps_0 16 rfl rfl)
theorem dX1_steps_17 : decode cX1_steps 17 = .ok (.invokevirtual 332, 3) := dk_182 1 76 (dk_at dksX1_steps_0 17 rfl rfl)
theorem dX1_steps_20 : decode cX1_steps 20 = .ok (.putfield 244, 3) := dk_181 0 244 (dk_at dksX1_steps_0 20 rfl rfl)
theorem dX1_steps_23 : decode cX1_steps 23 = .ok (.aload_n 1, 1) := dk_43 (dk_at dksX1_steps_0 23 rfl rfl)
theorem dX1_steps_24 : decode cX1_steps 24 = .ok (.aload_n 1, 1) := dk_43 (dk_at dksX1_steps_1 0 rfl rfl)
theorem dX1_steps_25 : decode cX1_steps 25 = .ok (.iload_n 3, 1) := dk_29 (dk_at dksX1_steps_1 1 rfl rfl)
theorem dX1_steps_26 : decode cX1_steps 26 = .ok (.aload_n 0, 1) := dk_42 (dk_at dksX1_steps_1 2 rfl rfl)
theorem dX1_steps_27 : decode cX1_steps 27 = .ok (.getfield 13, 3) := dk_180 0 13 (dk_at dksX1_steps_1 3 rfl rfl)
theorem dX1_steps_30 : decode cX1_steps 30 = .ok (.iconst 3, 1) := dk_6 (dk_at dksX1_steps_1 6 rfl rfl)
theorem dX1_steps_31 : decode cX1_steps 31 = .ok (.iaload, 1) := dk_46 (dk_at dksX1_steps_1 7 rfl rfl)
theorem dX1_steps_32 : decode cX1_steps 32 = .ok (.getstatic 352, 3) := dk_178 1 96 (dk_at dksX1_steps_1 8 rfl rfl)
theorem dX1_steps_35 : decode cX1_steps 35 = .ok (.iload 4, 2) := dk_21 4 (dk_at dksX1_steps_1 11 rfl rfl)
theorem dX1_steps_37 : decode cX1_steps 37 = .ok (.iaload, 1) := dk_46 (dk_at dksX1_steps_1 13 rfl rfl)
theorem dX1_steps_38 : decode cX1_steps 38 = .ok (.imul, 1) := dk_104 (dk_at dksX1_steps_1 14 rfl rfl)
theorem dX1_steps_39 : decode cX1_steps 39 = .ok (.iadd, 1) := dk_96 (dk_at dksX1_steps_1 15 rfl rfl)
theorem dX1_steps_40 : decode cX1_steps 40 = .ok (.invokevirtual 335, 3) := dk_182 1 79 (dk_at dksX1_steps_1 16 rfl rfl)
theorem dX1_steps_43 : decode cX1_steps 43 = .ok (.putfield 250, 3) := dk_181 0 250 (dk_at dksX1_steps_1 19 rfl rfl)
theorem dX1_steps_46 : decode cX1_steps 46 = .ok (.return_, 1) := dk_177 (dk_at dksX1_steps_1 22 rfl rfl)
abbrev cX1_legal : ByteArray := prog_1_method_52_code
def yX1_legal : MethodName := ⟨RX1, "legal", "()I"⟩
def dkwX1_legal_1 : List UInt8 := [42, 180, 0, 67, 42, 180, 0, 71, 182, 0, 89, 87, 42, 42, 180, 1, 183, 182, 0, 97, 172]
abbrev dktX1_legal_1 : List UInt8 := dkwX1_legal_1 ++ []
def dkwX1_legal_0 : List UInt8 := [42, 182, 1, 189, 42, 180, 1, 177, 154, 0, 10, 42, 16, 251, 182, 0, 93, 172, 42, 16, 12, 182, 0, 160]
abbrev dktX1_legal_0 : List UInt8 := dkwX1_legal_0 ++ dktX1_legal_1
theorem dksX1_legal_0 : cX1_legal.data.toList.drop 0 = dktX1_legal_0 := by decide +kernel
theorem dksX1_legal_1 : cX1_legal.data.toList.drop 24 = dktX1_legal_1 := dk_seg dksX1_legal_0 24 rfl rfl
theorem dX1_legal_0 : decode cX1_legal 0 = .ok (.aload_n 0, 1) := dk_42 (dk_at dksX1_legal_0 0 rfl rfl)
theorem dX1_legal_1 : decode cX1_legal 1 = .ok (.invokevirtual 445, 3) := dk_182 1 189 (dk_at dksX1_legal_0 1 rfl rfl)
theorem dX1_legal_4 : decode cX1_legal 4 = .ok (.aload_n 0, 1) := dk_42 (dk_at dksX1_legal_0 4 rfl rfl)
theorem dX1_legal_5 : decode cX1_legal 5 = .ok (.getfield 433, 3) := dk_180 1 177 (dk_at dksX1_legal_0 5 rfl rfl)
theorem dX1_legal_8 : decode cX1_legal 8 = .ok (.ifCond .ne 10, 3) := dk_154 0 10 (dk_at dksX1_legal_0 8 rfl rfl)
theorem dX1_legal_11 : decode cX1_legal 11 = .ok (.aload_n 0, 1) := dk_42 (dk_at dksX1_legal_0 11 rfl rfl)
theorem dX1_legal_12 : decode cX1_legal 12 = .ok (.bipush (-5), 2) := dk_16 251 (dk_at dksX1_legal_0 12 rfl rfl)
theorem dX1_legal_14 : decode cX1_legal 14 = .ok (.invokevirtual 93, 3) := dk_182 0 93 (dk_at dksX1_legal_0 14 rfl rfl)
theorem dX1_legal_17 : decode cX1_legal 17 = .ok (.ireturn, 1) := dk_172 (dk_at dksX1_legal_0 17 rfl rfl)
theorem dX1_legal_18 : decode cX1_legal 18 = .ok (.aload_n 0, 1) := dk_42 (dk_at dksX1_legal_0 18 rfl rfl)
theorem dX1_legal_19 : decode cX1_legal 19 = .ok (.bipush 12, 2) := dk_16 12 (dk_at dksX1_legal_0 19 rfl rfl)
theorem dX1_legal_21 : decode cX1_legal 21 = .ok (.invokevirtual 160, 3) := dk_182 0 160 (dk_at dksX1_legal_0 21 rfl rfl)
theorem dX1_legal_24 : decode cX1_legal 24 = .ok (.aload_n 0, 1) := dk_42 (dk_at dksX1_legal_1 0 rfl rfl)
theorem dX1_legal_25 : decode cX1_legal 25 = .ok (.getfield 67, 3) := dk_180 0 67 (dk_at dksX1_legal_1 1 rfl rfl)
theorem dX1_legal_28 : decode cX1_legal 28 = .ok (.aload_n 0, 1) := dk_42 (dk_at dksX1_legal_1 4 rfl rfl)
theorem dX1_legal_29 : decode cX1_legal 29 = .ok (.getfield 71, 3) := dk_180 0 71 (dk_at dksX1_legal_1 5 rfl rfl)
theorem dX1_legal_32 : decode cX1_legal 32 = .ok (.invokevirtual 89, 3) := dk_182 0 89 (dk_at dksX1_legal_1 8 rfl rfl)
theorem dX1_legal_35 : decode cX1_legal 35 = .ok (.pop, 1) := dk_87 (dk_at dksX1_legal_1 11 rfl rfl)
theorem dX1_legal_36 : decode cX1_legal 36 = .ok (.aload_n 0, 1) := dk_42 (dk_at dksX1_legal_1 12 rfl rfl)
theorem dX1_legal_37 : decode cX1_legal 37 = .ok (.aload_n 0, 1) := dk_42 (dk_at dksX1_legal_1 13 rfl rfl)
theorem dX1_legal_38 : decode cX1_legal 38 = .ok (.getfield 439, 3) := dk_180 1 183 (dk_at dksX1_legal_1 14 rfl rfl)
theorem dX1_legal_41 : decode cX1_legal 41 = .ok (.invokevirtual 97, 3) := dk_182 0 97 (dk_at dksX1_legal_1 17 rfl rfl)
theorem dX1_legal_44 : decode cX1_legal 44 = .ok (.ireturn, 1) := dk_172 (dk_at dksX1_legal_1 20 rfl rfl)
abbrev cX1_triesLawful : ByteArray := prog_1_method_51_code
def yX1_triesLawful : MethodName := ⟨RX1, "triesLawful", "()V"⟩
def dkwX1_triesLawful_2 : List UInt8 := [177]
abbrev dktX1_triesLawful_2 : List UInt8 := dkwX1_triesLawful_2 ++ []
def dkwX1_triesLawful_1 : List UInt8 := [181, 1, 177, 42, 42, 182, 1, 180, 181, 1, 183, 42, 42, 182, 1, 14, 181, 1, 186, 42, 43, 181, 0, 67]
abbrev dktX1_triesLawful_1 : List UInt8 := dkwX1_triesLawful_1 ++ dktX1_triesLawful_2
def dkwX1_triesLawful_0 : List UInt8 := [42, 180, 0, 67, 76, 42, 42, 180, 0, 71, 43, 182, 0, 89, 181, 0, 67, 42, 42, 182, 1, 174]
abbrev dktX1_triesLawful_0 : List UInt8 := dkwX1_triesLawful_0 ++ dktX1_triesLawful_1
theorem dksX1_triesLawful_0 : cX1_triesLawful.data.toList.drop 0 = dktX1_triesLawful_0 := by decide +kernel
theorem dksX1_triesLawful_1 : cX1_triesLawful.data.toList.drop 22 = dktX1_triesLawful_1 := dk_seg dksX1_triesLawful_0 22 rfl rfl
theorem dksX1_triesLawful_2 : cX1_triesLawful.data.toList.drop 46 = dktX1_triesLawful_2 := dk_seg dksX1_triesLawful_1 24 rfl rfl
theorem dX1_triesLawful_0 : decode cX1_triesLawful 0 = .ok (.aload_n 0, 1) := dk_42 (dk_at dksX1_triesLawful_0 0 rfl rfl)
theorem dX1_triesLawful_1 : decode cX1_triesLawful 1 = .ok (.getfield 67, 3) := dk_180 0 67 (dk_at dksX1_triesLawful_0 1 rfl rfl)
theorem dX1_triesLawful_4 : decode cX1_triesLawful 4 = .ok (.astore_n 1, 1) := dk_76 (dk_at dksX1_triesLawful_0 4 rfl rfl)
theorem dX1_triesLawful_5 : decode cX1_triesLawful 5 = .ok (.aload_n 0, 1) := dk_42 (dk_at dksX1_triesLawful_0 5 rfl rfl)
theorem dX1_triesLawful_6 : decode cX1_triesLawful 6 = .ok (.aload_n 0, 1) := dk_42 (dk_at dksX1_triesLawful_0 6 rfl rfl)
theorem dX1_triesLawful_7 : decode cX1_triesLawful 7 = .ok (.getfield 71, 3) := dk_180 0 71 (dk_at dksX1_triesLawful_0 7 rfl rfl)
theorem dX1_triesLawful_10 : decode cX1_triesLawful 10 = .ok (.aload_n 1, 1) := dk_43 (dk_at dksX1_triesLawful_0 10 rfl rfl)
theorem dX1_triesLawful_11 : decode cX1_triesLawful 11 = .ok (.invokevirtual 89, 3) := dk_182 0 89 (dk_at dksX1_triesLawful_0 11 rfl rfl)
theorem dX1_triesLawful_14 : decode cX1_triesLawful 14 = .ok (.putfield 67, 3) := dk_181 0 67 (dk_at dksX1_triesLawful_0 14 rfl rfl)
theorem dX1_triesLawful_17 : decode cX1_triesLawful 17 = .ok (.aload_n 0, 1) := dk_42 (dk_at dksX1_triesLawful_0 17 rfl rfl)
theorem dX1_triesLawful_18 : decode cX1_triesLawful 18 = .ok (.aload_n 0, 1) := dk_42 (dk_at dksX1_triesLawful_0 18 rfl rfl)
theorem dX1_triesLawful_19 : decode cX1_triesLawful 19 = .ok (.invokevirtual 430, 3) := dk_182 1 174 (dk_at dksX1_triesLawful_0 19 rfl rfl)
theorem dX1_triesLawful_22 : decode cX1_triesLawful 22 = .ok (.putfield 433, 3) := dk_181 1 177 (dk_at dksX1_triesLawful_1 0 rfl rfl)
theorem dX1_triesLawful_25 : decode cX1_triesLawful 25 = .ok (.aload_n 0, 1) := dk_42 (dk_at dksX1_triesLawful_1 3 rfl rfl)
theorem dX1_triesLawful_26 : decode cX1_triesLawful 26 = .ok (.aload_n 0, 1) := dk_42 (dk_at dksX1_triesLawful_1 4 rfl rfl)
theorem dX1_triesLawful_27 : decode cX1_triesLawful 27 = .ok (.invokevirtual 436, 3) := dk_182 1 180 (dk_at dksX1_triesLawful_1 5 rfl rfl)
theorem dX1_triesLawful_30 : decode cX1_triesLawful 30 = .ok (.putfield 439, 3) := dk_181 1 183 (dk_at dksX1_triesLawful_1 8 rfl rfl)
theorem dX1_triesLawful_33 : decode cX1_triesLawful 33 = .ok (.aload_n 0, 1) := dk_42 (dk_at dksX1_triesLawful_1 11 rfl rfl)
theorem dX1_triesLawful_34 : decode cX1_triesLawful 34 = .ok (.aload_n 0, 1) := dk_42 (dk_at dksX1_triesLawful_1 12 rfl rfl)
theorem dX1_triesLawful_35 : decode cX1_triesLawful 35 = .ok (.invokevirtual 270, 3) := dk_182 1 14 (dk_at dksX1_triesLawful_1 13 rfl rfl)
theorem dX1_triesLawful_38 : decode cX1_triesLawful 38 = .ok (.putfield 442, 3) := dk_181 1 186 (dk_at dksX1_triesLawful_1 16 rfl rfl)
theorem dX1_triesLawful_41 : decode cX1_triesLawful 41 = .ok (.aload_n 0, 1) := dk_42 (dk_at dksX1_triesLawful_1 19 rfl rfl)
theorem dX1_triesLawful_42 : decode cX1_triesLawful 42 = .ok (.aload_n 1, 1) := dk_43 (dk_at dksX1_triesLawful_1 20 rfl rfl)
theorem dX1_triesLawful_43 : decode cX1_triesLawful 43 = .ok (.putfield 67, 3) := dk_181 0 67 (dk_at dksX1_triesLawful_1 21 rfl rfl)
theorem dX1_triesLawful_46 : decode cX1_triesLawful 46 = .ok (.return_, 1) := dk_177 (dk_at dksX1_triesLawful_2 0 rfl rfl)
abbrev cX1_makesLawful : ByteArray := prog_1_method_49_code
def yX1_makesLawful : MethodName := ⟨RX1, "makesLawful", "()Z"⟩
def dkwX1_makesLawful_3 : List UInt8 := [162, 0, 20, 43, 29, 182, 1, 131, 192, 1, 111, 182, 1, 168, 132, 3, 1, 167, 255, 234, 4, 172]
abbrev dktX1_makesLawful_3 : List UInt8 := dkwX1_makesLawful_3 ++ []
def dkwX1_makesLawful_2 : List UInt8 := [29, 182, 1, 131, 192, 0, 189, 182, 1, 116, 87, 132, 3, 1, 167, 255, 207, 3, 62, 29, 43, 182, 1, 128]
abbrev dktX1_makesLawful_2 : List UInt8 := dkwX1_makesLawful_2 ++ dktX1_makesLawful_3
def dkwX1_makesLawful_1 : List UInt8 := [182, 1, 131, 192, 0, 189, 184, 1, 161, 58, 4, 25, 4, 199, 0, 5, 3, 172, 25, 4, 180, 1, 165, 44]
abbrev dktX1_makesLawful_1 : List UInt8 := dkwX1_makesLawful_1 ++ dktX1_makesLawful_2
def dkwX1_makesLawful_0 : List UInt8 := [42, 3, 182, 1, 153, 76, 42, 182, 1, 157, 77, 3, 62, 29, 44, 182, 1, 128, 162, 0, 47, 43, 44, 29]
abbrev dktX1_makesLawful_0 : List UInt8 := dkwX1_makesLawful_0 ++ dktX1_makesLawful_1
theorem dksX1_makesLawful_0 : cX1_makesLawful.data.toList.drop 0 = dktX1_makesLawful_0 := by decide +kernel
theorem dksX1_makesLawful_1 : cX1_makesLawful.data.toList.drop 24 = dktX1_makesLawful_1 := dk_seg dksX1_makesLawful_0 24 rfl rfl
theorem dksX1_makesLawful_2 : cX1_makesLawful.data.toList.drop 48 = dktX1_makesLawful_2 := dk_seg dksX1_makesLawful_1 24 rfl rfl
theorem dksX1_makesLawful_3 : cX1_makesLawful.data.toList.drop 72 = dktX1_makesLawful_3 := dk_seg dksX1_makesLawful_2 24 rfl rfl
theorem dX1_makesLawful_0 : decode cX1_makesLawful 0 = .ok (.aload_n 0, 1) := dk_42 (dk_at dksX1_makesLawful_0 0 rfl rfl)
theorem dX1_makesLawful_1 : decode cX1_makesLawful 1 = .ok (.iconst 0, 1) := dk_3 (dk_at dksX1_makesLawful_0 1 rfl rfl)
theorem dX1_makesLawful_2 : decode cX1_makesLawful 2 = .ok (.invokevirtual 409, 3) := dk_182 1 153 (dk_at dksX1_makesLawful_0 2 rfl rfl)
theorem dX1_makesLawful_5 : decode cX1_makesLawful 5 = .ok (.astore_n 1, 1) := dk_76 (dk_at dksX1_makesLawful_0 5 rfl rfl)
theorem dX1_makesLawful_6 : decode cX1_makesLawful 6 = .ok (.aload_n 0, 1) := dk_42 (dk_at dksX1_makesLawful_0 6 rfl rfl)
theorem dX1_makesLawful_7 : decode cX1_makesLawful 7 = .ok (.invokevirtual 413, 3) := dk_182 1 157 (dk_at dksX1_makesLawful_0 7 rfl rfl)
theorem dX1_makesLawful_10 : decode cX1_makesLawful 10 = .ok (.astore_n 2, 1) := dk_77 (dk_at dksX1_makesLawful_0 10 rfl rfl)
theorem dX1_makesLawful_11 : decode cX1_makesLawful 11 = .ok (.iconst 0, 1) := dk_3 (dk_at dksX1_makesLawful_0 11 rfl rfl)
theorem dX1_makesLawful_12 : decode cX1_makesLawful 12 = .ok (.istore_n 3, 1) := dk_62 (dk_at dksX1_makesLawful_0 12 rfl rfl)
theorem dX1_makesLawful_13 : decode cX1_makesLawful 13 = .ok (.iload_n 3, 1) := dk_29 (dk_at dksX1_makesLawful_0 13 rfl rfl)
theorem dX1_makesLawful_14 : decode cX1_makesLawful 14 = .ok (.aload_n 2, 1) := dk_44 (dk_at dksX1_makesLawful_0 14 rfl rfl)
theorem dX1_makesLawful_15 : decode cX1_makesLawful 15 = .ok (.invokevirtual 384, 3) := dk_182 1 128 (dk_at dksX1_makesLawful_0 15 rfl rfl)
theorem dX1_makesLawful_18 : decode cX1_makesLawful 18 = .ok (.if_icmp .ge 47, 3) := dk_162 0 47 (dk_at dksX1_makesLawful_0 18 rfl rfl)
theorem dX1_makesLawful_21 : decode cX1_makesLawful 21 = .ok (.aload_n 1, 1) := dk_43 (dk_at dksX1_makesLawful_0 21 rfl rfl)
theorem dX1_makesLawful_22 : decode cX1_makesLawful 22 = .ok (.aload_n 2, 1) := dk_44 (dk_at dksX1_makesLawful_0 22 rfl rfl)
theorem dX1_makesLawful_23 : decode cX1_makesLawful 23 = .ok (.iload_n 3, 1) := dk_29 (dk_at dksX1_makesLawful_0 23 rfl rfl)
theorem dX1_makesLawful_24 : decode cX1_makesLawful 24 = .ok (.invokevirtual 387, 3) := dk_182 1 131 (dk_at dksX1_makesLawful_1 0 rfl rfl)
theorem dX1_makesLawful_27 : decode cX1_makesLawful 27 = .ok (.checkcast 189, 3) := dk_192 0 189 (dk_at dksX1_makesLawful_1 3 rfl rfl)
theorem dX1_makesLawful_30 : decode cX1_makesLawful 30 = .ok (.invokestatic 417, 3) := dk_184 1 161 (dk_at dksX1_makesLawful_1 6 rfl rfl)
theorem dX1_makesLawful_33 : decode cX1_makesLawful 33 = .ok (.astore 4, 2) := dk_58 4 (dk_at dksX1_makesLawful_1 9 rfl rfl)
theorem dX1_makesLawful_35 : decode cX1_makesLawful 35 = .ok (.aload 4, 2) := dk_25 4 (dk_at dksX1_makesLawful_1 11 rfl rfl)
theorem dX1_makesLawful_37 : decode cX1_makesLawful 37 = .ok (.ifnonnull 5, 3) := dk_199 0 5 (dk_at dksX1_makesLawful_1 13 rfl rfl)
theorem dX1_makesLawful_40 : decode cX1_makesLawful 40 = .ok (.iconst 0, 1) := dk_3 (dk_at dksX1_makesLawful_1 16 rfl rfl)
theorem dX1_makesLawful_41 : decode cX1_makesLawful 41 = .ok (.ireturn, 1) := dk_172 (dk_at dksX1_makesLawful_1 17 rfl rfl)
theorem dX1_makesLawful_42 : decode cX1_makesLawful 42 = .ok (.aload 4, 2) := dk_25 4 (dk_at dksX1_makesLawful_1 18 rfl rfl)
theorem dX1_makesLawful_44 : decode cX1_makesLawful 44 = .ok (.getfield 421, 3) := dk_180 1 165 (dk_at dksX1_makesLawful_1 20 rfl rfl)
theorem dX1_makesLawful_47 : decode cX1_makesLawful 47 = .ok (.aload_n 2, 1) := dk_44 (dk_at dksX1_makesLawful_1 23 rfl rfl)
theorem dX1_makesLawful_48 : decode cX1_makesLawful 48 = .ok (.iload_n 3, 1) := dk_29 (dk_at dksX1_makesLawful_2 0 rfl rfl)
theorem dX1_makesLawful_49 : decode cX1_makesLawful 49 = .ok (.invokevirtual 387, 3) := dk_182 1 131 (dk_at dksX1_makesLawful_2 1 rfl rfl)
theorem dX1_makesLawful_52 : decode cX1_makesLawful 52 = .ok (.checkcast 189, 3) := dk_192 0 189 (dk_at dksX1_makesLawful_2 4 rfl rfl)
theorem dX1_makesLawful_55 : decode cX1_makesLawful 55 = .ok (.invokevirtual 372, 3) := dk_182 1 116 (dk_at dksX1_makesLawful_2 7 rfl rfl)
theorem dX1_makesLawful_58 : decode cX1_makesLawful 58 = .ok (.pop, 1) := dk_87 (dk_at dksX1_makesLawful_2 10 rfl rfl)
theorem dX1_makesLawful_59 : decode cX1_makesLawful 59 = .ok (.iinc 3 1, 3) := dk_132 3 1 (dk_at dksX1_makesLawful_2 11 rfl rfl)
theorem dX1_makesLawful_62 : decode cX1_makesLawful 62 = .ok (.goto (-49), 3) := dk_167 255 207 (dk_at dksX1_makesLawful_2 14 rfl rfl)
theorem dX1_makesLawful_65 : decode cX1_makesLawful 65 = .ok (.iconst 0, 1) := dk_3 (dk_at dksX1_makesLawful_2 17 rfl rfl)
theorem dX1_makesLawful_66 : decode cX1_makesLawful 66 = .ok (.istore_n 3, 1) := dk_62 (dk_at dksX1_makesLawful_2 18 rfl rfl)
theorem dX1_makesLawful_67 : decode cX1_makesLawful 67 = .ok (.iload_n 3, 1) := dk_29 (dk_at dksX1_makesLawful_2 19 rfl rfl)
theorem dX1_makesLawful_68 : decode cX1_makesLawful 68 = .ok (.aload_n 1, 1) := dk_43 (dk_at dksX1_makesLawful_2 20 rfl rfl)
theorem dX1_makesLawful_69 : decode cX1_makesLawful 69 = .ok (.invokevirtual 384, 3) := dk_182 1 128 (dk_at dksX1_makesLawful_2 21 rfl rfl)
theorem dX1_makesLawful_72 : decode cX1_makesLawful 72 = .ok (.if_icmp .ge 20, 3) := dk_162 0 20 (dk_at dksX1_makesLawful_3 0 rfl rfl)
theorem dX1_makesLawful_75 : decode cX1_makesLawful 75 = .ok (.aload_n 1, 1) := dk_43 (dk_at dksX1_makesLawful_3 3 rfl rfl)
theorem dX1_makesLawful_76 : decode cX1_makesLawful 76 = .ok (.iload_n 3, 1) := dk_29 (dk_at dksX1_makesLawful_3 4 rfl rfl)
theorem dX1_makesLawful_77 : decode cX1_makesLawful 77 = .ok (.invokevirtual 387, 3) := dk_182 1 131 (dk_at dksX1_makesLawful_3 5 rfl rfl)
theorem dX1_makesLawful_80 : decode cX1_makesLawful 80 = .ok (.checkcast 367, 3) := dk_192 1 111 (dk_at dksX1_makesLawful_3 8 rfl rfl)
theorem dX1_makesLawful_83 : decode cX1_makesLawful 83 = .ok (.invokevirtual 424, 3) := dk_182 1 168 (dk_at dksX1_makesLawful_3 11 rfl rfl)
theorem dX1_makesLawful_86 : decode cX1_makesLawful 86 = .ok (.iinc 3 1, 3) := dk_132 3 1 (dk_at dksX1_makesLawful_3 14 rfl rfl)
theorem dX1_makesLawful_89 : decode cX1_makesLawful 89 = .ok (.goto (-22), 3) := dk_167 255 234 (dk_at dksX1_makesLawful_3 17 rfl rfl)
theorem dX1_makesLawful_92 : decode cX1_makesLawful 92 = .ok (.iconst 1, 1) := dk_4 (dk_at dksX1_makesLawful_3 20 rfl rfl)
theorem dX1_makesLawful_93 : decode cX1_makesLawful 93 = .ok (.ireturn, 1) := dk_172 (dk_at dksX1_makesLawful_3 21 rfl rfl)
abbrev cX1_allRuns : ByteArray := prog_1_method_46_code
def yX1_allRuns : MethodName := ⟨RX1, "allRuns", "(Z)Ljava/util/ArrayList;"⟩
def dkwX1_allRuns_3 : List UInt8 := [29, 182, 1, 131, 192, 1, 111, 182, 1, 135, 87, 132, 3, 1, 167, 255, 229, 44, 176]
abbrev dktX1_allRuns_3 : List UInt8 := dkwX1_allRuns_3 ++ []
def dkwX1_allRuns_2 : List UInt8 := [167, 255, 229, 132, 3, 1, 167, 255, 212, 3, 62, 29, 44, 182, 1, 128, 162, 0, 25, 27, 153, 0, 21, 44]
abbrev dktX1_allRuns_2 : List UInt8 := dkwX1_allRuns_2 ++ dktX1_allRuns_3
def dkwX1_allRuns_1 : List UInt8 := [180, 0, 67, 180, 0, 110, 162, 0, 21, 44, 42, 29, 21, 4, 182, 1, 120, 182, 1, 124, 87, 132, 4, 1]
abbrev dktX1_allRuns_1 : List UInt8 := dkwX1_allRuns_1 ++ dktX1_allRuns_2
def dkwX1_allRuns_0 : List UInt8 := [187, 1, 105, 89, 183, 1, 107, 77, 3, 62, 29, 42, 180, 0, 59, 162, 0, 42, 2, 54, 4, 21, 4, 42]
abbrev dktX1_allRuns_0 : List UInt8 := dkwX1_allRuns_0 ++ dktX1_allRuns_1
theorem dksX1_allRuns_0 : cX1_allRuns.data.toList.drop 0 = dktX1_allRuns_0 := by decide +kernel
theorem dksX1_allRuns_1 : cX1_allRuns.data.toList.drop 24 = dktX1_allRuns_1 := dk_seg dksX1_allRuns_0 24 rfl rfl
theorem dksX1_allRuns_2 : cX1_allRuns.data.toList.drop 48 = dktX1_allRuns_2 := dk_seg dksX1_allRuns_1 24 rfl rfl
theorem dksX1_allRuns_3 : cX1_allRuns.data.toList.drop 72 = dktX1_allRuns_3 := dk_seg dksX1_allRuns_2 24 rfl rfl
theorem dX1_allRuns_0 : decode cX1_allRuns 0 = .ok (.new 361, 3) := dk_187 1 105 (dk_at dksX1_allRuns_0 0 rfl rfl)
theorem dX1_allRuns_3 : decode cX1_allRuns 3 = .ok (.dup, 1) := dk_89 (dk_at dksX1_allRuns_0 3 rfl rfl)
theorem dX1_allRuns_4 : decode cX1_allRuns 4 = .ok (.invokespecial 363, 3) := dk_183 1 107 (dk_at dksX1_allRuns_0 4 rfl rfl)
theorem dX1_allRuns_7 : decode cX1_allRuns 7 = .ok (.astore_n 2, 1) := dk_77 (dk_at dksX1_allRuns_0 7 rfl rfl)
theorem dX1_allRuns_8 : decode cX1_allRuns 8 = .ok (.iconst 0, 1) := dk_3 (dk_at dksX1_allRuns_0 8 rfl rfl)
theorem dX1_allRuns_9 : decode cX1_allRuns 9 = .ok (.istore_n 3, 1) := dk_62 (dk_at dksX1_allRuns_0 9 rfl rfl)
theorem dX1_allRuns_10 : decode cX1_allRuns 10 = .ok (.iload_n 3, 1) := dk_29 (dk_at dksX1_allRuns_0 10 rfl rfl)
theorem dX1_allRuns_11 : decode cX1_allRuns 11 = .ok (.aload_n 0, 1) := dk_42 (dk_at dksX1_allRuns_0 11 rfl rfl)
theorem dX1_allRuns_12 : decode cX1_allRuns 12 = .ok (.getfield 59, 3) := dk_180 0 59 (dk_at dksX1_allRuns_0 12 rfl rfl)
theorem dX1_allRuns_15 : decode cX1_allRuns 15 = .ok (.if_icmp .ge 42, 3) := dk_162 0 42 (dk_at dksX1_allRuns_0 15 rfl rfl)
theorem dX1_allRuns_18 : decode cX1_allRuns 18 = .ok (.iconst (-1), 1) := dk_2 (dk_at dksX1_allRuns_0 18 rfl rfl)
theorem dX1_allRuns_19 : decode cX1_allRuns 19 = .ok (.istore 4, 2) := dk_54 4 (dk_at dksX1_allRuns_0 19 rfl rfl)
theorem dX1_allRuns_21 : decode cX1_allRuns 21 = .ok (.iload 4, 2) := dk_21 4 (dk_at dksX1_allRuns_0 21 rfl rfl)
theorem dX1_allRuns_23 : decode cX1_allRuns 23 = .ok (.aload_n 0, 1) := dk_42 (dk_at dksX1_allRuns_0 23 rfl rfl)
theorem dX1_allRuns_24 : decode cX1_allRuns 24 = .ok (.getfield 67, 3) := dk_180 0 67 (dk_at dksX1_allRuns_1 0 rfl rfl)
theorem dX1_allRuns_27 : decode cX1_allRuns 27 = .ok (.getfield 110, 3) := dk_180 0 110 (dk_at dksX1_allRuns_1 3 rfl rfl)
theorem dX1_allRuns_30 : decode cX1_allRuns 30 = .ok (.if_icmp .ge 21, 3) := dk_162 0 21 (dk_at dksX1_allRuns_1 6 rfl rfl)
theorem dX1_allRuns_33 : decode cX1_allRuns 33 = .ok (.aload_n 2, 1) := dk_44 (dk_at dksX1_allRuns_1 9 rfl rfl)
theorem dX1_allRuns_34 : decode cX1_allRuns 34 = .ok (.aload_n 0, 1) := dk_42 (dk_at dksX1_allRuns_1 10 rfl rfl)
theorem dX1_allRuns_35 : decode cX1_allRuns 35 = .ok (.iload_n 3, 1) := dk_29 (dk_at dksX1_allRuns_1 11 rfl rfl)
theorem dX1_allRuns_36 : decode cX1_allRuns 36 = .ok (.iload 4, 2) := dk_21 4 (dk_at dksX1_allRuns_1 12 rfl rfl)
theorem dX1_allRuns_38 : decode cX1_allRuns 38 = .ok (.invokevirtual 376, 3) := dk_182 1 120 (dk_at dksX1_allRuns_1 14 rfl rfl)
theorem dX1_allRuns_41 : decode cX1_allRuns 41 = .ok (.invokevirtual 380, 3) := dk_182 1 124 (dk_at dksX1_allRuns_1 17 rfl rfl)
theorem dX1_allRuns_44 : decode cX1_allRuns 44 = .ok (.pop, 1) := dk_87 (dk_at dksX1_allRuns_1 20 rfl rfl)
theorem dX1_allRuns_45 : decode cX1_allRuns 45 = .ok (.iinc 4 1, 3) := dk_132 4 1 (dk_at dksX1_allRuns_1 21 rfl rfl)
theorem dX1_allRuns_48 : decode cX1_allRuns 48 = .ok (.goto (-27), 3) := dk_167 255 229 (dk_at dksX1_allRuns_2 0 rfl rfl)
theorem dX1_allRuns_51 : decode cX1_allRuns 51 = .ok (.iinc 3 1, 3) := dk_132 3 1 (dk_at dksX1_allRuns_2 3 rfl rfl)
theorem dX1_allRuns_54 : decode cX1_allRuns 54 = .ok (.goto (-44), 3) := dk_167 255 212 (dk_at dksX1_allRuns_2 6 rfl rfl)
theorem dX1_allRuns_57 : decode cX1_allRuns 57 = .ok (.iconst 0, 1) := dk_3 (dk_at dksX1_allRuns_2 9 rfl rfl)
theorem dX1_allRuns_58 : decode cX1_allRuns 58 = .ok (.istore_n 3, 1) := dk_62 (dk_at dksX1_allRuns_2 10 rfl rfl)
theorem dX1_allRuns_59 : decode cX1_allRuns 59 = .ok (.iload_n 3, 1) := dk_29 (dk_at dksX1_allRuns_2 11 rfl rfl)
theorem dX1_allRuns_60 : decode cX1_allRuns 60 = .ok (.aload_n 2, 1) := dk_44 (dk_at dksX1_allRuns_2 12 rfl rfl)
theorem dX1_allRuns_61 : decode cX1_allRuns 61 = .ok (.invokevirtual 384, 3) := dk_182 1 128 (dk_at dksX1_allRuns_2 13 rfl rfl)
theorem dX1_allRuns_64 : decode cX1_allRuns 64 = .ok (.if_icmp .ge 25, 3) := dk_162 0 25 (dk_at dksX1_allRuns_2 16 rfl rfl)
theorem dX1_allRuns_67 : decode cX1_allRuns 67 = .ok (.iload_n 1, 1) := dk_27 (dk_at dksX1_allRuns_2 19 rfl rfl)
theorem dX1_allRuns_68 : decode cX1_allRuns 68 = .ok (.ifCond .eq 21, 3) := dk_153 0 21 (dk_at dksX1_allRuns_2 20 rfl rfl)
theorem dX1_allRuns_71 : decode cX1_allRuns 71 = .ok (.aload_n 2, 1) := dk_44 (dk_at dksX1_allRuns_2 23 rfl rfl)
theorem dX1_allRuns_72 : decode cX1_allRuns 72 = .ok (.iload_n 3, 1) := dk_29 (dk_at dksX1_allRuns_3 0 rfl rfl)
theorem dX1_allRuns_73 : decode cX1_allRuns 73 = .ok (.invokevirtual 387, 3) := dk_182 1 131 (dk_at dksX1_allRuns_3 1 rfl rfl)
theorem dX1_allRuns_76 : decode cX1_allRuns 76 = .ok (.checkcast 367, 3) := dk_192 1 111 (dk_at dksX1_allRuns_3 4 rfl rfl)
theorem dX1_allRuns_79 : decode cX1_allRuns 79 = .ok (.invokevirtual 391, 3) := dk_182 1 135 (dk_at dksX1_allRuns_3 7 rfl rfl)
theorem dX1_allRuns_82 : decode cX1_allRuns 82 = .ok (.pop, 1) := dk_87 (dk_at dksX1_allRuns_3 10 rfl rfl)
theorem dX1_allRuns_83 : decode cX1_allRuns 83 = .ok (.iinc 3 1, 3) := dk_132 3 1 (dk_at dksX1_allRuns_3 11 rfl rfl)
theorem dX1_allRuns_86 : decode cX1_allRuns 86 = .ok (.goto (-27), 3) := dk_167 255 229 (dk_at dksX1_allRuns_3 14 rfl rfl)
theorem dX1_allRuns_89 : decode cX1_allRuns 89 = .ok (.aload_n 2, 1) := dk_44 (dk_at dksX1_allRuns_3 17 rfl rfl)
theorem dX1_allRuns_90 : decode cX1_allRuns 90 = .ok (.areturn, 1) := dk_176 (dk_at dksX1_allRuns_3 18 rfl rfl)
abbrev cX1_runsOf : ByteArray := prog_1_method_45_code
def yX1_runsOf : MethodName := ⟨RX1, "runsOf", "(II)Ljava/util/ArrayList;"⟩
def dkwX1_runsOf_3 : List UInt8 := [21, 4, 21, 5, 100, 183, 1, 113, 182, 1, 116, 87, 167, 0, 6, 132, 4, 1, 167, 255, 179, 45, 176]
abbrev dktX1_runsOf_3 : List UInt8 := dkwX1_runsOf_3 ++ []
def dkwX1_runsOf_2 : List UInt8 := [132, 4, 1, 167, 255, 230, 21, 4, 21, 5, 164, 0, 28, 45, 187, 1, 111, 89, 42, 27, 28, 21, 5]
abbrev dktX1_runsOf_2 : List UInt8 := dkwX1_runsOf_2 ++ dktX1_runsOf_3
def dkwX1_runsOf_1 : List UInt8 := [21, 4, 42, 180, 0, 63, 162, 0, 23, 42, 180, 0, 67, 27, 21, 4, 28, 182, 1, 108, 153, 0, 9]
abbrev dktX1_runsOf_1 : List UInt8 := dkwX1_runsOf_1 ++ dktX1_runsOf_2
def dkwX1_runsOf_0 : List UInt8 := [187, 1, 105, 89, 183, 1, 107, 78, 3, 54, 4, 21, 4, 42, 180, 0, 63, 162, 0, 74, 21, 4, 54, 5]
abbrev dktX1_runsOf_0 : List UInt8 := dkwX1_runsOf_0 ++ dktX1_runsOf_1
theorem dksX1_runsOf_0 : cX1_runsOf.data.toList.drop 0 = dktX1_runsOf_0 := by decide +kernel
theorem dksX1_runsOf_1 : cX1_runsOf.data.toList.drop 24 = dktX1_runsOf_1 := dk_seg dksX1_runsOf_0 24 rfl rfl
theorem dksX1_runsOf_2 : cX1_runsOf.data.toList.drop 47 = dktX1_runsOf_2 := dk_seg dksX1_runsOf_1 23 rfl rfl
theorem dksX1_runsOf_3 : cX1_runsOf.data.toList.drop 70 = dktX1_runsOf_3 := dk_seg dksX1_runsOf_2 23 rfl rfl
theorem dX1_runsOf_0 : decode cX1_runsOf 0 = .ok (.new 361, 3) := dk_187 1 105 (dk_at dksX1_runsOf_0 0 rfl rfl)
theorem dX1_runsOf_3 : decode cX1_runsOf 3 = .ok (.dup, 1) := dk_89 (dk_at dksX1_runsOf_0 3 rfl rfl)
theorem dX1_runsOf_4 : decode cX1_runsOf 4 = .ok (.invokespecial 363, 3) := dk_183 1 107 (dk_at dksX1_runsOf_0 4 rfl rfl)
theorem dX1_runsOf_7 : decode cX1_runsOf 7 = .ok (.astore_n 3, 1) := dk_78 (dk_at dksX1_runsOf_0 7 rfl rfl)
theorem dX1_runsOf_8 : decode cX1_runsOf 8 = .ok (.iconst 0, 1) := dk_3 (dk_at dksX1_runsOf_0 8 rfl rfl)
theorem dX1_runsOf_9 : decode cX1_runsOf 9 = .ok (.istore 4, 2) := dk_54 4 (dk_at dksX1_runsOf_0 9 rfl rfl)
theorem dX1_runsOf_11 : decode cX1_runsOf 11 = .ok (.iload 4, 2) := dk_21 4 (dk_at dksX1_runsOf_0 11 rfl rfl)
theorem dX1_runsOf_13 : decode cX1_runsOf 13 = .ok (.aload_n 0, 1) := dk_42 (dk_at dksX1_runsOf_0 13 rfl rfl)
theorem dX1_runsOf_14 : decode cX1_runsOf 14 = .ok (.getfield 63, 3) := dk_180 0 63 (dk_at dksX1_runsOf_0 14 rfl rfl)
theorem dX1_runsOf_17 : decode cX1_runsOf 17 = .ok (.if_icmp .ge 74, 3) := dk_162 0 74 (dk_at dksX1_runsOf_0 17 rfl rfl)
theorem dX1_runsOf_20 : decode cX1_runsOf 20 = .ok (.iload 4, 2) := dk_21 4 (dk_at dksX1_runsOf_0 20 rfl rfl)
theorem dX1_runsOf_22 : decode cX1_runsOf 22 = .ok (.istore 5, 2) := dk_54 5 (dk_at dksX1_runsOf_0 22 rfl rfl)
theorem dX1_runsOf_24 : decode cX1_runsOf 24 = .ok (.iload 4, 2) := dk_21 4 (dk_at dksX1_runsOf_1 0 rfl rfl)
theorem dX1_runsOf_26 : decode cX1_runsOf 26 = .ok (.aload_n 0, 1) := dk_42 (dk_at dksX1_runsOf_1 2 rfl rfl)
theorem dX1_runsOf_27 : decode cX1_runsOf 27 = .ok (.getfield 63, 3) := dk_180 0 63 (dk_at dksX1_runsOf_1 3 rfl rfl)
theorem dX1_runsOf_30 : decode cX1_runsOf 30 = .ok (.if_icmp .ge 23, 3) := dk_162 0 23 (dk_at dksX1_runsOf_1 6 rfl rfl)
theorem dX1_runsOf_33 : decode cX1_runsOf 33 = .ok (.aload_n 0, 1) := dk_42 (dk_at dksX1_runsOf_1 9 rfl rfl)
theorem dX1_runsOf_34 : decode cX1_runsOf 34 = .ok (.getfield 67, 3) := dk_180 0 67 (dk_at dksX1_runsOf_1 10 rfl rfl)
theorem dX1_runsOf_37 : decode cX1_runsOf 37 = .ok (.iload_n 1, 1) := dk_27 (dk_at dksX1_runsOf_1 13 rfl rfl)
theorem dX1_runsOf_38 : decode cX1_runsOf 38 = .ok (.iload 4, 2) := dk_21 4 (dk_at dksX1_runsOf_1 14 rfl rfl)
theorem dX1_runsOf_40 : decode cX1_runsOf 40 = .ok (.iload_n 2, 1) := dk_28 (dk_at dksX1_runsOf_1 16 rfl rfl)
theorem dX1_runsOf_41 : decode cX1_runsOf 41 = .ok (.invokevirtual 364, 3) := dk_182 1 108 (dk_at dksX1_runsOf_1 17 rfl rfl)
theorem dX1_runsOf_44 : decode cX1_runsOf 44 = .ok (.ifCond .eq 9, 3) := dk_153 0 9 (dk_at dksX1_runsOf_1 20 rfl rfl)
theorem dX1_runsOf_47 : decode cX1_runsOf 47 = .ok (.iinc 4 1, 3) := dk_132 4 1 (dk_at dksX1_runsOf_2 0 rfl rfl)
theorem dX1_runsOf_50 : decode cX1_runsOf 50 = .ok (.goto (-26), 3) := dk_167 255 230 (dk_at dksX1_runsOf_2 3 rfl rfl)
theorem dX1_runsOf_53 : decode cX1_runsOf 53 = .ok (.iload 4, 2) := dk_21 4 (dk_at dksX1_runsOf_2 6 rfl rfl)
theorem dX1_runsOf_55 : decode cX1_runsOf 55 = .ok (.iload 5, 2) := dk_21 5 (dk_at dksX1_runsOf_2 8 rfl rfl)
theorem dX1_runsOf_57 : decode cX1_runsOf 57 = .ok (.if_icmp .le 28, 3) := dk_164 0 28 (dk_at dksX1_runsOf_2 10 rfl rfl)
theorem dX1_runsOf_60 : decode cX1_runsOf 60 = .ok (.aload_n 3, 1) := dk_45 (dk_at dksX1_runsOf_2 13 rfl rfl)
theorem dX1_runsOf_61 : decode cX1_runsOf 61 = .ok (.new 367, 3) := dk_187 1 111 (dk_at dksX1_runsOf_2 14 rfl rfl)
theorem dX1_runsOf_64 : decode cX1_runsOf 64 = .ok (.dup, 1) := dk_89 (dk_at dksX1_runsOf_2 17 rfl rfl)
theorem dX1_runsOf_65 : decode cX1_runsOf 65 = .ok (.aload_n 0, 1) := dk_42 (dk_at dksX1_runsOf_2 18 rfl rfl)
theorem dX1_runsOf_66 : decode cX1_runsOf 66 = .ok (.iload_n 1, 1) := dk_27 (dk_at dksX1_runsOf_2 19 rfl rfl)
theorem dX1_runsOf_67 : decode cX1_runsOf 67 = .ok (.iload_n 2, 1) := dk_28 (dk_at dksX1_runsOf_2 20 rfl rfl)
theorem dX1_runsOf_68 : decode cX1_runsOf 68 = .ok (.iload 5, 2) := dk_21 5 (dk_at dksX1_runsOf_2 21 rfl rfl)
theorem dX1_runsOf_70 : decode cX1_runsOf 70 = .ok (.iload 4, 2) := dk_21 4 (dk_at dksX1_runsOf_3 0 rfl rfl)
theorem dX1_runsOf_72 : decode cX1_runsOf 72 = .ok (.iload 5, 2) := dk_21 5 (dk_at dksX1_runsOf_3 2 rfl rfl)
theorem dX1_runsOf_74 : decode cX1_runsOf 74 = .ok (.isub, 1) := dk_100 (dk_at dksX1_runsOf_3 4 rfl rfl)
theorem dX1_runsOf_75 : decode cX1_runsOf 75 = .ok (.invokespecial 369, 3) := dk_183 1 113 (dk_at dksX1_runsOf_3 5 rfl rfl)
theorem dX1_runsOf_78 : decode cX1_runsOf 78 = .ok (.invokevirtual 372, 3) := dk_182 1 116 (dk_at dksX1_runsOf_3 8 rfl rfl)
theorem dX1_runsOf_81 : decode cX1_runsOf 81 = .ok (.pop, 1) := dk_87 (dk_at dksX1_runsOf_3 11 rfl rfl)
theorem dX1_runsOf_82 : decode cX1_runsOf 82 = .ok (.goto 6, 3) := dk_167 0 6 (dk_at dksX1_runsOf_3 12 rfl rfl)
theorem dX1_runsOf_85 : decode cX1_runsOf 85 = .ok (.iinc 4 1, 3) := dk_132 4 1 (dk_at dksX1_runsOf_3 15 rfl rfl)
theorem dX1_runsOf_88 : decode cX1_runsOf 88 = .ok (.goto (-77), 3) := dk_167 255 179 (dk_at dksX1_runsOf_3 18 rfl rfl)
theorem dX1_runsOf_91 : decode cX1_runsOf 91 = .ok (.aload_n 3, 1) := dk_45 (dk_at dksX1_runsOf_3 21 rfl rfl)
theorem dX1_runsOf_92 : decode cX1_runsOf 92 = .ok (.areturn, 1) := dk_176 (dk_at dksX1_runsOf_3 22 rfl rfl)
abbrev cX1_byWants : ByteArray := prog_1_method_47_code
def yX1_byWants : MethodName := ⟨RX1, "byWants", "()Ljava/util/ArrayList;"⟩
def dkwX1_byWants_4 : List UInt8 := [167, 255, 177, 43, 176]
abbrev dktX1_byWants_4 : List UInt8 := dkwX1_byWants_4 ++ []
def dkwX1_byWants_3 : List UInt8 := [180, 0, 244, 164, 0, 9, 132, 4, 255, 167, 255, 227, 43, 21, 4, 45, 182, 1, 139, 132, 2, 1]
abbrev dktX1_byWants_3 : List UInt8 := dkwX1_byWants_3 ++ dktX1_byWants_4
def dkwX1_byWants_2 : List UInt8 := [54, 4, 21, 4, 158, 0, 30, 43, 21, 4, 4, 100, 182, 1, 131, 192, 0, 189, 180, 0, 244, 45]
abbrev dktX1_byWants_2 : List UInt8 := dkwX1_byWants_2 ++ dktX1_byWants_3
def dkwX1_byWants_1 : List UInt8 := [180, 0, 67, 180, 0, 184, 28, 50, 78, 45, 180, 0, 236, 153, 0, 6, 167, 0, 48, 43, 182, 1, 128]
abbrev dktX1_byWants_1 : List UInt8 := dkwX1_byWants_1 ++ dktX1_byWants_2
def dkwX1_byWants_0 : List UInt8 := [187, 1, 105, 89, 183, 1, 107, 76, 3, 61, 28, 42, 180, 0, 67, 180, 0, 100, 162, 0, 74, 42]
abbrev dktX1_byWants_0 : List UInt8 := dkwX1_byWants_0 ++ dktX1_byWants_1
theorem dksX1_byWants_0 : cX1_byWants.data.toList.drop 0 = dktX1_byWants_0 := by decide +kernel
theorem dksX1_byWants_1 : cX1_byWants.data.toList.drop 22 = dktX1_byWants_1 := dk_seg dksX1_byWants_0 22 rfl rfl
theorem dksX1_byWants_2 : cX1_byWants.data.toList.drop 45 = dktX1_byWants_2 := dk_seg dksX1_byWants_1 23 rfl rfl
theorem dksX1_byWants_3 : cX1_byWants.data.toList.drop 67 = dktX1_byWants_3 := dk_seg dksX1_byWants_2 22 rfl rfl
theorem dksX1_byWants_4 : cX1_byWants.data.toList.drop 89 = dktX1_byWants_4 := dk_seg dksX1_byWants_3 22 rfl rfl
theorem dX1_byWants_0 : decode cX1_byWants 0 = .ok (.new 361, 3) := dk_187 1 105 (dk_at dksX1_byWants_0 0 rfl rfl)
theorem dX1_byWants_3 : decode cX1_byWants 3 = .ok (.dup, 1) := dk_89 (dk_at dksX1_byWants_0 3 rfl rfl)
theorem dX1_byWants_4 : decode cX1_byWants 4 = .ok (.invokespecial 363, 3) := dk_183 1 107 (dk_at dksX1_byWants_0 4 rfl rfl)
theorem dX1_byWants_7 : decode cX1_byWants 7 = .ok (.astore_n 1, 1) := dk_76 (dk_at dksX1_byWants_0 7 rfl rfl)
theorem dX1_byWants_8 : decode cX1_byWants 8 = .ok (.iconst 0, 1) := dk_3 (dk_at dksX1_byWants_0 8 rfl rfl)
theorem dX1_byWants_9 : decode cX1_byWants 9 = .ok (.istore_n 2, 1) := dk_61 (dk_at dksX1_byWants_0 9 rfl rfl)
theorem dX1_byWants_10 : decode cX1_byWants 10 = .ok (.iload_n 2, 1) := dk_28 (dk_at dksX1_byWants_0 10 rfl rfl)
theorem dX1_byWants_11 : decode cX1_byWants 11 = .ok (.aload_n 0, 1) := dk_42 (dk_at dksX1_byWants_0 11 rfl rfl)
theorem dX1_byWants_12 : decode cX1_byWants 12 = .ok (.getfield 67, 3) := dk_180 0 67 (dk_at dksX1_byWants_0 12 rfl rfl)
theorem dX1_byWants_15 : decode cX1_byWants 15 = .ok (.getfield 100, 3) := dk_180 0 100 (dk_at dksX1_byWants_0 15 rfl rfl)
theorem dX1_byWants_18 : decode cX1_byWants 18 = .ok (.if_icmp .ge 74, 3) := dk_162 0 74 (dk_at dksX1_byWants_0 18 rfl rfl)
theorem dX1_byWants_21 : decode cX1_byWants 21 = .ok (.aload_n 0, 1) := dk_42 (dk_at dksX1_byWants_0 21 rfl rfl)
theorem dX1_byWants_22 : decode cX1_byWants 22 = .ok (.getfield 67, 3) := dk_180 0 67 (dk_at dksX1_byWants_1 0 rfl rfl)
theorem dX1_byWants_25 : decode cX1_byWants 25 = .ok (.getfield 184, 3) := dk_180 0 184 (dk_at dksX1_byWants_1 3 rfl rfl)
theorem dX1_byWants_28 : decode cX1_byWants 28 = .ok (.iload_n 2, 1) := dk_28 (dk_at dksX1_byWants_1 6 rfl rfl)
theorem dX1_byWants_29 : decode cX1_byWants 29 = .ok (.aaload, 1) := dk_50 (dk_at dksX1_byWants_1 7 rfl rfl)
theorem dX1_byWants_30 : decode cX1_byWants 30 = .ok (.astore_n 3, 1) := dk_78 (dk_at dksX1_byWants_1 8 rfl rfl)
theorem dX1_byWants_31 : decode cX1_byWants 31 = .ok (.aload_n 3, 1) := dk_45 (dk_at dksX1_byWants_1 9 rfl rfl)
theorem dX1_byWants_32 : decode cX1_byWants 32 = .ok (.getfield 236, 3) := dk_180 0 236 (dk_at dksX1_byWants_1 10 rfl rfl)
theorem dX1_byWants_35 : decode cX1_byWants 35 = .ok (.ifCond .eq 6, 3) := dk_153 0 6 (dk_at dksX1_byWants_1 13 rfl rfl)
theorem dX1_byWants_38 : decode cX1_byWants 38 = .ok (.goto 48, 3) := dk_167 0 48 (dk_at dksX1_byWants_1 16 rfl rfl)
theorem dX1_byWants_41 : decode cX1_byWants 41 = .ok (.aload_n 1, 1) := dk_43 (dk_at dksX1_byWants_1 19 rfl rfl)
theorem dX1_byWants_42 : decode cX1_byWants 42 = .ok (.invokevirtual 384, 3) := dk_182 1 128 (dk_at dksX1_byWants_1 20 rfl rfl)
theorem dX1_byWants_45 : decode cX1_byWants 45 = .ok (.istore 4, 2) := dk_54 4 (dk_at dksX1_byWants_2 0 rfl rfl)
theorem dX1_byWants_47 : decode cX1_byWants 47 = .ok (.iload 4, 2) := dk_21 4 (dk_at dksX1_byWants_2 2 rfl rfl)
theorem dX1_byWants_49 : decode cX1_byWants 49 = .ok (.ifCond .le 30, 3) := dk_158 0 30 (dk_at dksX1_byWants_2 4 rfl rfl)
theorem dX1_byWants_52 : decode cX1_byWants 52 = .ok (.aload_n 1, 1) := dk_43 (dk_at dksX1_byWants_2 7 rfl rfl)
theorem dX1_byWants_53 : decode cX1_byWants 53 = .ok (.iload 4, 2) := dk_21 4 (dk_at dksX1_byWants_2 8 rfl rfl)
theorem dX1_byWants_55 : decode cX1_byWants 55 = .ok (.iconst 1, 1) := dk_4 (dk_at dksX1_byWants_2 10 rfl rfl)
theorem dX1_byWants_56 : decode cX1_byWants 56 = .ok (.isub, 1) := dk_100 (dk_at dksX1_byWants_2 11 rfl rfl)
theorem dX1_byWants_57 : decode cX1_byWants 57 = .ok (.invokevirtual 387, 3) := dk_182 1 131 (dk_at dksX1_byWants_2 12 rfl rfl)
theorem dX1_byWants_60 : decode cX1_byWants 60 = .ok (.checkcast 189, 3) := dk_192 0 189 (dk_at dksX1_byWants_2 15 rfl rfl)
theorem dX1_byWants_63 : decode cX1_byWants 63 = .ok (.getfield 244, 3) := dk_180 0 244 (dk_at dksX1_byWants_2 18 rfl rfl)
theorem dX1_byWants_66 : decode cX1_byWants 66 = .ok (.aload_n 3, 1) := dk_45 (dk_at dksX1_byWants_2 21 rfl rfl)
theorem dX1_byWants_67 : decode cX1_byWants 67 = .ok (.getfield 244, 3) := dk_180 0 244 (dk_at dksX1_byWants_3 0 rfl rfl)
theorem dX1_byWants_70 : decode cX1_byWants 70 = .ok (.if_icmp .le 9, 3) := dk_164 0 9 (dk_at dksX1_byWants_3 3 rfl rfl)
theorem dX1_byWants_73 : decode cX1_byWants 73 = .ok (.iinc 4 (-1), 3) := dk_132 4 255 (dk_at dksX1_byWants_3 6 rfl rfl)
theorem dX1_byWants_76 : decode cX1_byWants 76 = .ok (.goto (-29), 3) := dk_167 255 227 (dk_at dksX1_byWants_3 9 rfl rfl)
theorem dX1_byWants_79 : decode cX1_byWants 79 = .ok (.aload_n 1, 1) := dk_43 (dk_at dksX1_byWants_3 12 rfl rfl)
theorem dX1_byWants_80 : decode cX1_byWants 80 = .ok (.iload 4, 2) := dk_21 4 (dk_at dksX1_byWants_3 13 rfl rfl)
theorem dX1_byWants_82 : decode cX1_byWants 82 = .ok (.aload_n 3, 1) := dk_45 (dk_at dksX1_byWants_3 15 rfl rfl)
theorem dX1_byWants_83 : decode cX1_byWants 83 = .ok (.invokevirtual 395, 3) := dk_182 1 139 (dk_at dksX1_byWants_3 16 rfl rfl)
theorem dX1_byWants_86 : decode cX1_byWants 86 = .ok (.iinc 2 1, 3) := dk_132 2 1 (dk_at dksX1_byWants_3 19 rfl rfl)
theorem dX1_byWants_89 : decode cX1_byWants 89 = .ok (.goto (-79), 3) := dk_167 255 177 (dk_at dksX1_byWants_4 0 rfl rfl)
theorem dX1_byWants_92 : decode cX1_byWants 92 = .ok (.aload_n 1, 1) := dk_43 (dk_at dksX1_byWants_4 3 rfl rfl)
theorem dX1_byWants_93 : decode cX1_byWants 93 = .ok (.areturn, 1) := dk_176 (dk_at dksX1_byWants_4 4 rfl rfl)
abbrev cX1_runFor : ByteArray := prog_1_method_48_code
def yX1_runFor : MethodName := ⟨RX1, "runFor", "(Ljava/util/ArrayList;LCellRows$Cell;)LCellRows$Run;"⟩
def dkwX1_runFor_3 : List UInt8 := [167, 0, 9, 21, 6, 62, 25, 5, 77, 132, 4, 1, 167, 255, 183, 44, 176]
abbrev dktX1_runFor_3 : List UInt8 := dkwX1_runFor_3 ++ []
def dkwX1_runFor_2 : List UInt8 := [180, 0, 199, 162, 0, 6, 167, 0, 26, 25, 5, 43, 182, 1, 149, 54, 6, 21, 6, 29, 161, 0, 6]
abbrev dktX1_runFor_2 : List UInt8 := dkwX1_runFor_2 ++ dktX1_runFor_3
def dkwX1_runFor_1 : List UInt8 := [192, 1, 111, 58, 5, 25, 5, 180, 1, 143, 43, 180, 1, 145, 160, 0, 41, 25, 5, 182, 1, 146, 43]
abbrev dktX1_runFor_1 : List UInt8 := dkwX1_runFor_1 ++ dktX1_runFor_2
def dkwX1_runFor_0 : List UInt8 := [1, 77, 19, 1, 142, 62, 3, 54, 4, 21, 4, 42, 182, 1, 128, 162, 0, 70, 42, 21, 4, 182, 1, 131]
abbrev dktX1_runFor_0 : List UInt8 := dkwX1_runFor_0 ++ dktX1_runFor_1
theorem dksX1_runFor_0 : cX1_runFor.data.toList.drop 0 = dktX1_runFor_0 := by decide +kernel
theorem dksX1_runFor_1 : cX1_runFor.data.toList.drop 24 = dktX1_runFor_1 := dk_seg dksX1_runFor_0 24 rfl rfl
theorem dksX1_runFor_2 : cX1_runFor.data.toList.drop 47 = dktX1_runFor_2 := dk_seg dksX1_runFor_1 23 rfl rfl
theorem dksX1_runFor_3 : cX1_runFor.data.toList.drop 70 = dktX1_runFor_3 := dk_seg dksX1_runFor_2 23 rfl rfl
theorem dX1_runFor_0 : decode cX1_runFor 0 = .ok (.aconst_null, 1) := dk_1 (dk_at dksX1_runFor_0 0 rfl rfl)
theorem dX1_runFor_1 : decode cX1_runFor 1 = .ok (.astore_n 2, 1) := dk_77 (dk_at dksX1_runFor_0 1 rfl rfl)
theorem dX1_runFor_2 : decode cX1_runFor 2 = .ok (.ldc_w 398, 3) := dk_19 1 142 (dk_at dksX1_runFor_0 2 rfl rfl)
theorem dX1_runFor_5 : decode cX1_runFor 5 = .ok (.istore_n 3, 1) := dk_62 (dk_at dksX1_runFor_0 5 rfl rfl)
theorem dX1_runFor_6 : decode cX1_runFor 6 = .ok (.iconst 0, 1) := dk_3 (dk_at dksX1_runFor_0 6 rfl rfl)
theorem dX1_runFor_7 : decode cX1_runFor 7 = .ok (.istore 4, 2) := dk_54 4 (dk_at dksX1_runFor_0 7 rfl rfl)
theorem dX1_runFor_9 : decode cX1_runFor 9 = .ok (.iload 4, 2) := dk_21 4 (dk_at dksX1_runFor_0 9 rfl rfl)
theorem dX1_runFor_11 : decode cX1_runFor 11 = .ok (.aload_n 0, 1) := dk_42 (dk_at dksX1_runFor_0 11 rfl rfl)
theorem dX1_runFor_12 : decode cX1_runFor 12 = .ok (.invokevirtual 384, 3) := dk_182 1 128 (dk_at dksX1_runFor_0 12 rfl rfl)
theorem dX1_runFor_15 : decode cX1_runFor 15 = .ok (.if_icmp .ge 70, 3) := dk_162 0 70 (dk_at dksX1_runFor_0 15 rfl rfl)
theorem dX1_runFor_18 : decode cX1_runFor 18 = .ok (.aload_n 0, 1) := dk_42 (dk_at dksX1_runFor_0 18 rfl rfl)
theorem dX1_runFor_19 : decode cX1_runFor 19 = .ok (.iload 4, 2) := dk_21 4 (dk_at dksX1_runFor_0 19 rfl rfl)
theorem dX1_runFor_21 : decode cX1_runFor 21 = .ok (.invokevirtual 387, 3) := dk_182 1 131 (dk_at dksX1_runFor_0 21 rfl rfl)
theorem dX1_runFor_24 : decode cX1_runFor 24 = .ok (.checkcast 367, 3) := dk_192 1 111 (dk_at dksX1_runFor_1 0 rfl rfl)
theorem dX1_runFor_27 : decode cX1_runFor 27 = .ok (.astore 5, 2) := dk_58 5 (dk_at dksX1_runFor_1 3 rfl rfl)
theorem dX1_runFor_29 : decode cX1_runFor 29 = .ok (.aload 5, 2) := dk_25 5 (dk_at dksX1_runFor_1 5 rfl rfl)
theorem dX1_runFor_31 : decode cX1_runFor 31 = .ok (.getfield 399, 3) := dk_180 1 143 (dk_at dksX1_runFor_1 7 rfl rfl)
theorem dX1_runFor_34 : decode cX1_runFor 34 = .ok (.aload_n 1, 1) := dk_43 (dk_at dksX1_runFor_1 10 rfl rfl)
theorem dX1_runFor_35 : decode cX1_runFor 35 = .ok (.getfield 401, 3) := dk_180 1 145 (dk_at dksX1_runFor_1 11 rfl rfl)
theorem dX1_runFor_38 : decode cX1_runFor 38 = .ok (.if_icmp .ne 41, 3) := dk_160 0 41 (dk_at dksX1_runFor_1 14 rfl rfl)
theorem dX1_runFor_41 : decode cX1_runFor 41 = .ok (.aload 5, 2) := dk_25 5 (dk_at dksX1_runFor_1 17 rfl rfl)
theorem dX1_runFor_43 : decode cX1_runFor 43 = .ok (.invokevirtual 402, 3) := dk_182 1 146 (dk_at dksX1_runFor_1 19 rfl rfl)
theorem dX1_runFor_46 : decode cX1_runFor 46 = .ok (.aload_n 1, 1) := dk_43 (dk_at dksX1_runFor_1 22 rfl rfl)
theorem dX1_runFor_47 : decode cX1_runFor 47 = .ok (.getfield 199, 3) := dk_180 0 199 (dk_at dksX1_runFor_2 0 rfl rfl)
theorem dX1_runFor_50 : decode cX1_runFor 50 = .ok (.if_icmp .ge 6, 3) := dk_162 0 6 (dk_at dksX1_runFor_2 3 rfl rfl)
theorem dX1_runFor_53 : decode cX1_runFor 53 = .ok (.goto 26, 3) := dk_167 0 26 (dk_at dksX1_runFor_2 6 rfl rfl)
theorem dX1_runFor_56 : decode cX1_runFor 56 = .ok (.aload 5, 2) := dk_25 5 (dk_at dksX1_runFor_2 9 rfl rfl)
theorem dX1_runFor_58 : decode cX1_runFor 58 = .ok (.aload_n 1, 1) := dk_43 (dk_at dksX1_runFor_2 11 rfl rfl)
theorem dX1_runFor_59 : decode cX1_runFor 59 = .ok (.invokevirtual 405, 3) := dk_182 1 149 (dk_at dksX1_runFor_2 12 rfl rfl)
theorem dX1_runFor_62 : decode cX1_runFor 62 = .ok (.istore 6, 2) := dk_54 6 (dk_at dksX1_runFor_2 15 rfl rfl)
theorem dX1_runFor_64 : decode cX1_runFor 64 = .ok (.iload 6, 2) := dk_21 6 (dk_at dksX1_runFor_2 17 rfl rfl)
theorem dX1_runFor_66 : decode cX1_runFor 66 = .ok (.iload_n 3, 1) := dk_29 (dk_at dksX1_runFor_2 19 rfl rfl)
theorem dX1_runFor_67 : decode cX1_runFor 67 = .ok (.if_icmp .lt 6, 3) := dk_161 0 6 (dk_at dksX1_runFor_2 20 rfl rfl)
theorem dX1_runFor_70 : decode cX1_runFor 70 = .ok (.goto 9, 3) := dk_167 0 9 (dk_at dksX1_runFor_3 0 rfl rfl)
theorem dX1_runFor_73 : decode cX1_runFor 73 = .ok (.iload 6, 2) := dk_21 6 (dk_at dksX1_runFor_3 3 rfl rfl)
theorem dX1_runFor_75 : decode cX1_runFor 75 = .ok (.istore_n 3, 1) := dk_62 (dk_at dksX1_runFor_3 5 rfl rfl)
theorem dX1_runFor_76 : decode cX1_runFor 76 = .ok (.aload 5, 2) := dk_25 5 (dk_at dksX1_runFor_3 6 rfl rfl)
theorem dX1_runFor_78 : decode cX1_runFor 78 = .ok (.astore_n 2, 1) := dk_77 (dk_at dksX1_runFor_3 8 rfl rfl)
theorem dX1_runFor_79 : decode cX1_runFor 79 = .ok (.iinc 4 1, 3) := dk_132 4 1 (dk_at dksX1_runFor_3 9 rfl rfl)
theorem dX1_runFor_82 : decode cX1_runFor 82 = .ok (.goto (-73), 3) := dk_167 255 183 (dk_at dksX1_runFor_3 12 rfl rfl)
theorem dX1_runFor_85 : decode cX1_runFor 85 = .ok (.aload_n 2, 1) := dk_44 (dk_at dksX1_runFor_3 15 rfl rfl)
theorem dX1_runFor_86 : decode cX1_runFor 86 = .ok (.areturn, 1) := dk_176 (dk_at dksX1_runFor_3 16 rfl rfl)
abbrev cX1_moves : ByteArray := prog_1_method_50_code
def yX1_moves : MethodName := ⟨RX1, "moves", "()I"⟩
def dkwX1_moves_1 : List UInt8 := [50, 182, 1, 171, 96, 60, 132, 2, 1, 167, 255, 227, 27, 172]
abbrev dktX1_moves_1 : List UInt8 := dkwX1_moves_1 ++ []
def dkwX1_moves_0 : List UInt8 := [3, 60, 3, 61, 28, 42, 180, 0, 67, 180, 0, 100, 162, 0, 24, 27, 42, 180, 0, 67, 180, 0, 184, 28]
abbrev dktX1_moves_0 : List UInt8 := dkwX1_moves_0 ++ dktX1_moves_1
theorem dksX1_moves_0 : cX1_moves.data.toList.drop 0 = dktX1_moves_0 := by decide +kernel
theorem dksX1_moves_1 : cX1_moves.data.toList.drop 24 = dktX1_moves_1 := dk_seg dksX1_moves_0 24 rfl rfl
theorem dX1_moves_0 : decode cX1_moves 0 = .ok (.iconst 0, 1) := dk_3 (dk_at dksX1_moves_0 0 rfl rfl)
theorem dX1_moves_1 : decode cX1_moves 1 = .ok (.istore_n 1, 1) := dk_60 (dk_at dksX1_moves_0 1 rfl rfl)
theorem dX1_moves_2 : decode cX1_moves 2 = .ok (.iconst 0, 1) := dk_3 (dk_at dksX1_moves_0 2 rfl rfl)
theorem dX1_moves_3 : decode cX1_moves 3 = .ok (.istore_n 2, 1) := dk_61 (dk_at dksX1_moves_0 3 rfl rfl)
theorem dX1_moves_4 : decode cX1_moves 4 = .ok (.iload_n 2, 1) := dk_28 (dk_at dksX1_moves_0 4 rfl rfl)
theorem dX1_moves_5 : decode cX1_moves 5 = .ok (.aload_n 0, 1) := dk_42 (dk_at dksX1_moves_0 5 rfl rfl)
theorem dX1_moves_6 : decode cX1_moves 6 = .ok (.getfield 67, 3) := dk_180 0 67 (dk_at dksX1_moves_0 6 rfl rfl)
theorem dX1_moves_9 : decode cX1_moves 9 = .ok (.getfield 100, 3) := dk_180 0 100 (dk_at dksX1_moves_0 9 rfl rfl)
theorem dX1_moves_12 : decode cX1_moves 12 = .ok (.if_icmp .ge 24, 3) := dk_162 0 24 (dk_at dksX1_moves_0 12 rfl rfl)
theorem dX1_moves_15 : decode cX1_moves 15 = .ok (.iload_n 1, 1) := dk_27 (dk_at dksX1_moves_0 15 rfl rfl)
theorem dX1_moves_16 : decode cX1_moves 16 = .ok (.aload_n 0, 1) := dk_42 (dk_at dksX1_moves_0 16 rfl rfl)
theorem dX1_moves_17 : decode cX1_moves 17 = .ok (.getfield 67, 3) := dk_180 0 67 (dk_at dksX1_moves_0 17 rfl rfl)
theorem dX1_moves_20 : decode cX1_moves 20 = .ok (.getfield 184, 3) := dk_180 0 184 (dk_at dksX1_moves_0 20 rfl rfl)
theorem dX1_moves_23 : decode cX1_moves 23 = .ok (.iload_n 2, 1) := dk_28 (dk_at dksX1_moves_0 23 rfl rfl)
theorem dX1_moves_24 : decode cX1_moves 24 = .ok (.aaload, 1) := dk_50 (dk_at dksX1_moves_1 0 rfl rfl)
theorem dX1_moves_25 : decode cX1_moves 25 = .ok (.invokevirtual 427, 3) := dk_182 1 171 (dk_at dksX1_moves_1 1 rfl rfl)
theorem dX1_moves_28 : decode cX1_moves 28 = .ok (.iadd, 1) := dk_96 (dk_at dksX1_moves_1 4 rfl rfl)
theorem dX1_moves_29 : decode cX1_moves 29 = .ok (.istore_n 1, 1) := dk_60 (dk_at dksX1_moves_1 5 rfl rfl)
theorem dX1_moves_30 : decode cX1_moves 30 = .ok (.iinc 2 1, 3) := dk_132 2 1 (dk_at dksX1_moves_1 6 rfl rfl)
theorem dX1_moves_33 : decode cX1_moves 33 = .ok (.goto (-29), 3) := dk_167 255 227 (dk_at dksX1_moves_1 9 rfl rfl)
theorem dX1_moves_36 : decode cX1_moves 36 = .ok (.iload_n 1, 1) := dk_27 (dk_at dksX1_moves_1 12 rfl rfl)
theorem dX1_moves_37 : decode cX1_moves 37 = .ok (.ireturn, 1) := dk_172 (dk_at dksX1_moves_1 13 rfl rfl)
abbrev cX1_lawfully : ByteArray := prog_1_method_53_code
def yX1_lawfully : MethodName := ⟨RX1, "lawfully", "(I)I"⟩
def dkwX1_lawfully_2 : List UInt8 := [180, 1, 186, 172]
abbrev dktX1_lawfully_2 : List UInt8 := dkwX1_lawfully_2 ++ []
def dkwX1_lawfully_1 : List UInt8 := [154, 0, 8, 16, 251, 167, 0, 4, 2, 172, 27, 154, 0, 10, 42, 180, 1, 183, 167, 0, 7, 42]
abbrev dktX1_lawfully_1 : List UInt8 := dkwX1_lawfully_1 ++ dktX1_lawfully_2
def dkwX1_lawfully_0 : List UInt8 := [27, 3, 4, 184, 0, 103, 154, 0, 5, 2, 172, 42, 182, 1, 189, 42, 180, 1, 177, 154, 0, 14, 27]
abbrev dktX1_lawfully_0 : List UInt8 := dkwX1_lawfully_0 ++ dktX1_lawfully_1
theorem dksX1_lawfully_0 : cX1_lawfully.data.toList.drop 0 = dktX1_lawfully_0 := by decide +kernel
theorem dksX1_lawfully_1 : cX1_lawfully.data.toList.drop 23 = dktX1_lawfully_1 := dk_seg dksX1_lawfully_0 23 rfl rfl
theorem dksX1_lawfully_2 : cX1_lawfully.data.toList.drop 45 = dktX1_lawfully_2 := dk_seg dksX1_lawfully_1 22 rfl rfl
theorem dX1_lawfully_0 : decode cX1_lawfully 0 = .ok (.iload_n 1, 1) := dk_27 (dk_at dksX1_lawfully_0 0 rfl rfl)
theorem dX1_lawfully_1 : decode cX1_lawfully 1 = .ok (.iconst 0, 1) := dk_3 (dk_at dksX1_lawfully_0 1 rfl rfl)
theorem dX1_lawfully_2 : decode cX1_lawfully 2 = .ok (.iconst 1, 1) := dk_4 (dk_at dksX1_lawfully_0 2 rfl rfl)
theorem dX1_lawfully_3 : decode cX1_lawfully 3 = .ok (.invokestatic 103, 3) := dk_184 0 103 (dk_at dksX1_lawfully_0 3 rfl rfl)
theorem dX1_lawfully_6 : decode cX1_lawfully 6 = .ok (.ifCond .ne 5, 3) := dk_154 0 5 (dk_at dksX1_lawfully_0 6 rfl rfl)
theorem dX1_lawfully_9 : decode cX1_lawfully 9 = .ok (.iconst (-1), 1) := dk_2 (dk_at dksX1_lawfully_0 9 rfl rfl)
theorem dX1_lawfully_10 : decode cX1_lawfully 10 = .ok (.ireturn, 1) := dk_172 (dk_at dksX1_lawfully_0 10 rfl rfl)
theorem dX1_lawfully_11 : decode cX1_lawfully 11 = .ok (.aload_n 0, 1) := dk_42 (dk_at dksX1_lawfully_0 11 rfl rfl)
theorem dX1_lawfully_12 : decode cX1_lawfully 12 = .ok (.invokevirtual 445, 3) := dk_182 1 189 (dk_at dksX1_lawfully_0 12 rfl rfl)
theorem dX1_lawfully_15 : decode cX1_lawfully 15 = .ok (.aload_n 0, 1) := dk_42 (dk_at dksX1_lawfully_0 15 rfl rfl)
theorem dX1_lawfully_16 : decode cX1_lawfully 16 = .ok (.getfield 433, 3) := dk_180 1 177 (dk_at dksX1_lawfully_0 16 rfl rfl)
theorem dX1_lawfully_19 : decode cX1_lawfully 19 = .ok (.ifCond .ne 14, 3) := dk_154 0 14 (dk_at dksX1_lawfully_0 19 rfl rfl)
theorem dX1_lawfully_22 : decode cX1_lawfully 22 = .ok (.iload_n 1, 1) := dk_27 (dk_at dksX1_lawfully_0 22 rfl rfl)
theorem dX1_lawfully_23 : decode cX1_lawfully 23 = .ok (.ifCond .ne 8, 3) := dk_154 0 8 (dk_at dksX1_lawfully_1 0 rfl rfl)
theorem dX1_lawfully_26 : decode cX1_lawfully 26 = .ok (.bipush (-5), 2) := dk_16 251 (dk_at dksX1_lawfully_1 3 rfl rfl)
theorem dX1_lawfully_28 : decode cX1_lawfully 28 = .ok (.goto 4, 3) := dk_167 0 4 (dk_at dksX1_lawfully_1 5 rfl rfl)
theorem dX1_lawfully_31 : decode cX1_lawfully 31 = .ok (.iconst (-1), 1) := dk_2 (dk_at dksX1_lawfully_1 8 rfl rfl)
theorem dX1_lawfully_32 : decode cX1_lawfully 32 = .ok (.ireturn, 1) := dk_172 (dk_at dksX1_lawfully_1 9 rfl rfl)
theorem dX1_lawfully_33 : decode cX1_lawfully 33 = .ok (.iload_n 1, 1) := dk_27 (dk_at dksX1_lawfully_1 10 rfl rfl)
theorem dX1_lawfully_34 : decode cX1_lawfully 34 = .ok (.ifCond .ne 10, 3) := dk_154 0 10 (dk_at dksX1_lawfully_1 11 rfl rfl)
theorem dX1_lawfully_37 : decode cX1_lawfully 37 = .ok (.aload_n 0, 1) := dk_42 (dk_at dksX1_lawfully_1 14 rfl rfl)
theorem dX1_lawfully_38 : decode cX1_lawfully 38 = .ok (.getfield 439, 3) := dk_180 1 183 (dk_at dksX1_lawfully_1 15 rfl rfl)
theorem dX1_lawfully_41 : decode cX1_lawfully 41 = .ok (.goto 7, 3) := dk_167 0 7 (dk_at dksX1_lawfully_1 18 rfl rfl)
theorem dX1_lawfully_44 : decode cX1_lawfully 44 = .ok (.aload_n 0, 1) := dk_42 (dk_at dksX1_lawfully_1 21 rfl rfl)
theorem dX1_lawfully_45 : decode cX1_lawfully 45 = .ok (.getfield 442, 3) := dk_180 1 186 (dk_at dksX1_lawfully_2 0 rfl rfl)
theorem dX1_lawfully_48 : decode cX1_lawfully 48 = .ok (.ireturn, 1) := dk_172 (dk_at dksX1_lawfully_2 3 rfl rfl)
abbrev cX1_windows : ByteArray := prog_1_method_55_code
def yX1_windows : MethodName := ⟨RX1, "windows", "(I)I"⟩
def dkwX1_windows_4 : List UInt8 := [167, 255, 200, 42, 28, 42, 182, 1, 14, 100, 182, 0, 97, 172]
abbrev dktX1_windows_4 : List UInt8 := dkwX1_windows_4 ++ []
def dkwX1_windows_3 : List UInt8 := [182, 1, 128, 163, 0, 18, 42, 25, 5, 21, 6, 27, 182, 1, 203, 132, 6, 1, 167, 255, 232, 132, 4, 1]
abbrev dktX1_windows_3 : List UInt8 := dkwX1_windows_3 ++ dktX1_windows_4
def dkwX1_windows_2 : List UInt8 := [21, 4, 182, 1, 131, 192, 1, 111, 180, 1, 165, 58, 5, 3, 54, 6, 21, 6, 27, 96, 25, 5]
abbrev dktX1_windows_2 : List UInt8 := dkwX1_windows_2 ++ dktX1_windows_3
def dkwX1_windows_1 : List UInt8 := [182, 1, 14, 61, 42, 4, 182, 1, 153, 78, 3, 54, 4, 21, 4, 45, 182, 1, 128, 162, 0, 53, 45]
abbrev dktX1_windows_1 : List UInt8 := dkwX1_windows_1 ++ dktX1_windows_2
def dkwX1_windows_0 : List UInt8 := [27, 5, 7, 184, 0, 103, 154, 0, 9, 42, 2, 182, 0, 93, 172, 42, 16, 13, 182, 0, 160, 42]
abbrev dktX1_windows_0 : List UInt8 := dkwX1_windows_0 ++ dktX1_windows_1
theorem dksX1_windows_0 : cX1_windows.data.toList.drop 0 = dktX1_windows_0 := by decide +kernel
theorem dksX1_windows_1 : cX1_windows.data.toList.drop 22 = dktX1_windows_1 := dk_seg dksX1_windows_0 22 rfl rfl
theorem dksX1_windows_2 : cX1_windows.data.toList.drop 45 = dktX1_windows_2 := dk_seg dksX1_windows_1 23 rfl rfl
theorem dksX1_windows_3 : cX1_windows.data.toList.drop 67 = dktX1_windows_3 := dk_seg dksX1_windows_2 22 rfl rfl
theorem dksX1_windows_4 : cX1_windows.data.toList.drop 91 = dktX1_windows_4 := dk_seg dksX1_windows_3 24 rfl rfl
theorem dX1_windows_0 : decode cX1_windows 0 = .ok (.iload_n 1, 1) := dk_27 (dk_at dksX1_windows_0 0 rfl rfl)
theorem dX1_windows_1 : decode cX1_windows 1 = .ok (.iconst 2, 1) := dk_5 (dk_at dksX1_windows_0 1 rfl rfl)
theorem dX1_windows_2 : decode cX1_windows 2 = .ok (.iconst 4, 1) := dk_7 (dk_at dksX1_windows_0 2 rfl rfl)
theorem dX1_windows_3 : decode cX1_windows 3 = .ok (.invokestatic 103, 3) := dk_184 0 103 (dk_at dksX1_windows_0 3 rfl rfl)
theorem dX1_windows_6 : decode cX1_windows 6 = .ok (.ifCond .ne 9, 3) := dk_154 0 9 (dk_at dksX1_windows_0 6 rfl rfl)
theorem dX1_windows_9 : decode cX1_windows 9 = .ok (.aload_n 0, 1) := dk_42 (dk_at dksX1_windows_0 9 rfl rfl)
theorem dX1_windows_10 : decode cX1_windows 10 = .ok (.iconst (-1), 1) := dk_2 (dk_at dksX1_windows_0 10 rfl rfl)
theorem dX1_windows_11 : decode cX1_windows 11 = .ok (.invokevirtual 93, 3) := dk_182 0 93 (dk_at dksX1_windows_0 11 rfl rfl)
theorem dX1_windows_14 : decode cX1_windows 14 = .ok (.ireturn, 1) := dk_172 (dk_at dksX1_windows_0 14 rfl rfl)
theorem dX1_windows_15 : decode cX1_windows 15 = .ok (.aload_n 0, 1) := dk_42 (dk_at dksX1_windows_0 15 rfl rfl)
theorem dX1_windows_16 : decode cX1_windows 16 = .ok (.bipush 13, 2) := dk_16 13 (dk_at dksX1_windows_0 16 rfl rfl)
theorem dX1_windows_18 : decode cX1_windows 18 = .ok (.invokevirtual 160, 3) := dk_182 0 160 (dk_at dksX1_windows_0 18 rfl rfl)
theorem dX1_windows_21 : decode cX1_windows 21 = .ok (.aload_n 0, 1) := dk_42 (dk_at dksX1_windows_0 21 rfl rfl)
theorem dX1_windows_22 : decode cX1_windows 22 = .ok (.invokevirtual 270, 3) := dk_182 1 14 (dk_at dksX1_windows_1 0 rfl rfl)
theorem dX1_windows_25 : decode cX1_windows 25 = .ok (.istore_n 2, 1) := dk_61 (dk_at dksX1_windows_1 3 rfl rfl)
theorem dX1_windows_26 : decode cX1_windows 26 = .ok (.aload_n 0, 1) := dk_42 (dk_at dksX1_windows_1 4 rfl rfl)
theorem dX1_windows_27 : decode cX1_windows 27 = .ok (.iconst 1, 1) := dk_4 (dk_at dksX1_windows_1 5 rfl rfl)
theorem dX1_windows_28 : decode cX1_windows 28 = .ok (.invokevirtual 409, 3) := dk_182 1 153 (dk_at dksX1_windows_1 6 rfl rfl)
theorem dX1_windows_31 : decode cX1_windows 31 = .ok (.astore_n 3, 1) := dk_78 (dk_at dksX1_windows_1 9 rfl rfl)
theorem dX1_windows_32 : decode cX1_windows 32 = .ok (.iconst 0, 1) := dk_3 (dk_at dksX1_windows_1 10 rfl rfl)
theorem dX1_windows_33 : decode cX1_windows 33 = .ok (.istore 4, 2) := dk_54 4 (dk_at dksX1_windows_1 11 rfl rfl)
theorem dX1_windows_35 : decode cX1_windows 35 = .ok (.iload 4, 2) := dk_21 4 (dk_at dksX1_windows_1 13 rfl rfl)
theorem dX1_windows_37 : decode cX1_windows 37 = .ok (.aload_n 3, 1) := dk_45 (dk_at dksX1_windows_1 15 rfl rfl)
theorem dX1_windows_38 : decode cX1_windows 38 = .ok (.invokevirtual 384, 3) := dk_182 1 128 (dk_at dksX1_windows_1 16 rfl rfl)
theorem dX1_windows_41 : decode cX1_windows 41 = .ok (.if_icmp .ge 53, 3) := dk_162 0 53 (dk_at dksX1_windows_1 19 rfl rfl)
theorem dX1_windows_44 : decode cX1_windows 44 = .ok (.aload_n 3, 1) := dk_45 (dk_at dksX1_windows_1 22 rfl rfl)
theorem dX1_windows_45 : decode cX1_windows 45 = .ok (.iload 4, 2) := dk_21 4 (dk_at dksX1_windows_2 0 rfl rfl)
theorem dX1_windows_47 : decode cX1_windows 47 = .ok (.invokevirtual 387, 3) := dk_182 1 131 (dk_at dksX1_windows_2 2 rfl rfl)
theorem dX1_windows_50 : decode cX1_windows 50 = .ok (.checkcast 367, 3) := dk_192 1 111 (dk_at dksX1_windows_2 5 rfl rfl)
theorem dX1_windows_53 : decode cX1_windows 53 = .ok (.getfield 421, 3) := dk_180 1 165 (dk_at dksX1_windows_2 8 rfl rfl)
theorem dX1_windows_56 : decode cX1_windows 56 = .ok (.astore 5, 2) := dk_58 5 (dk_at dksX1_windows_2 11 rfl rfl)
theorem dX1_windows_58 : decode cX1_windows 58 = .ok (.iconst 0, 1) := dk_3 (dk_at dksX1_windows_2 13 rfl rfl)
theorem dX1_windows_59 : decode cX1_windows 59 = .ok (.istore 6, 2) := dk_54 6 (dk_at dksX1_windows_2 14 rfl rfl)
theorem dX1_windows_61 : decode cX1_windows 61 = .ok (.iload 6, 2) := dk_21 6 (dk_at dksX1_windows_2 16 rfl rfl)
theorem dX1_windows_63 : decode cX1_windows 63 = .ok (.iload_n 1, 1) := dk_27 (dk_at dksX1_windows_2 18 rfl rfl)
theorem dX1_windows_64 : decode cX1_windows 64 = .ok (.iadd, 1) := dk_96 (dk_at dksX1_windows_2 19 rfl rfl)
theorem dX1_windows_65 : decode cX1_windows 65 = .ok (.aload 5, 2) := dk_25 5 (dk_at dksX1_windows_2 20 rfl rfl)
theorem dX1_windows_67 : decode cX1_windows 67 = .ok (.invokevirtual 384, 3) := dk_182 1 128 (dk_at dksX1_windows_3 0 rfl rfl)
theorem dX1_windows_70 : decode cX1_windows 70 = .ok (.if_icmp .gt 18, 3) := dk_163 0 18 (dk_at dksX1_windows_3 3 rfl rfl)
theorem dX1_windows_73 : decode cX1_windows 73 = .ok (.aload_n 0, 1) := dk_42 (dk_at dksX1_windows_3 6 rfl rfl)
theorem dX1_windows_74 : decode cX1_windows 74 = .ok (.aload 5, 2) := dk_25 5 (dk_at dksX1_windows_3 7 rfl rfl)
theorem dX1_windows_76 : decode cX1_windows 76 = .ok (.iload 6, 2) := dk_21 6 (dk_at dksX1_windows_3 9 rfl rfl)
theorem dX1_windows_78 : decode cX1_windows 78 = .ok (.iload_n 1, 1) := dk_27 (dk_at dksX1_windows_3 11 rfl rfl)
theorem dX1_windows_79 : decode cX1_windows 79 = .ok (.invokevirtual 459, 3) := dk_182 1 203 (dk_at dksX1_windows_3 12 rfl rfl)
theorem dX1_windows_82 : decode cX1_windows 82 = .ok (.iinc 6 1, 3) := dk_132 6 1 (dk_at dksX1_windows_3 15 rfl rfl)
theorem dX1_windows_85 : decode cX1_windows 85 = .ok (.goto (-24), 3) := dk_167 255 232 (dk_at dksX1_windows_3 18 rfl rfl)
theorem dX1_windows_88 : decode cX1_windows 88 = .ok (.iinc 4 1, 3) := dk_132 4 1 (dk_at dksX1_windows_3 21 rfl rfl)
theorem dX1_windows_91 : decode cX1_windows 91 = .ok (.goto (-56), 3) := dk_167 255 200 (dk_at dksX1_windows_4 0 rfl rfl)
theorem dX1_windows_94 : decode cX1_windows 94 = .ok (.aload_n 0, 1) := dk_42 (dk_at dksX1_windows_4 3 rfl rfl)
theorem dX1_windows_95 : decode cX1_windows 95 = .ok (.iload_n 2, 1) := dk_28 (dk_at dksX1_windows_4 4 rfl rfl)
theorem dX1_windows_96 : decode cX1_windows 96 = .ok (.aload_n 0, 1) := dk_42 (dk_at dksX1_windows_4 5 rfl rfl)
theorem dX1_windows_97 : decode cX1_windows 97 = .ok (.invokevirtual 270, 3) := dk_182 1 14 (dk_at dksX1_windows_4 6 rfl rfl)
theorem dX1_windows_100 : decode cX1_windows 100 = .ok (.isub, 1) := dk_100 (dk_at dksX1_windows_4 9 rfl rfl)
theorem dX1_windows_101 : decode cX1_windows 101 = .ok (.invokevirtual 97, 3) := dk_182 0 97 (dk_at dksX1_windows_4 10 rfl rfl)
theorem dX1_windows_104 : decode cX1_windows 104 = .ok (.ireturn, 1) := dk_172 (dk_at dksX1_windows_4 13 rfl rfl)
abbrev cX1_reorders : ByteArray := prog_1_method_54_code
def yX1_reorders : MethodName := ⟨RX1, "reorders", "(Ljava/util/ArrayList;II)V"⟩
def dkwX1_reorders_4 : List UInt8 := [54, 6, 187, 1, 195, 89, 42, 29, 21, 6, 25, 4, 25, 5, 43, 28, 183, 1, 197, 182, 1, 200, 177]
abbrev dktX1_reorders_4 : List UInt8 := dkwX1_reorders_4 ++ []
def dkwX1_reorders_3 : List UInt8 := [21, 6, 4, 100, 50, 180, 0, 199, 100, 79, 132, 6, 1, 167, 255, 187, 25, 4, 3, 50, 180, 1, 192]
abbrev dktX1_reorders_3 : List UInt8 := dkwX1_reorders_3 ++ dktX1_reorders_4
def dkwX1_reorders_2 : List UInt8 := [167, 0, 33, 25, 4, 21, 6, 50, 180, 1, 192, 25, 4, 21, 6, 4, 100, 50, 180, 1, 192, 100, 25, 4]
abbrev dktX1_reorders_2 : List UInt8 := dkwX1_reorders_2 ++ dktX1_reorders_3
def dkwX1_reorders_1 : List UInt8 := [43, 28, 21, 6, 96, 182, 1, 131, 192, 0, 189, 83, 25, 5, 21, 6, 21, 6, 154, 0, 7, 3]
abbrev dktX1_reorders_1 : List UInt8 := dkwX1_reorders_1 ++ dktX1_reorders_2
def dkwX1_reorders_0 : List UInt8 := [29, 189, 0, 189, 58, 4, 29, 188, 10, 58, 5, 3, 54, 6, 21, 6, 29, 162, 0, 69, 25, 4, 21, 6]
abbrev dktX1_reorders_0 : List UInt8 := dkwX1_reorders_0 ++ dktX1_reorders_1
theorem dksX1_reorders_0 : cX1_reorders.data.toList.drop 0 = dktX1_reorders_0 := by decide +kernel
theorem dksX1_reorders_1 : cX1_reorders.data.toList.drop 24 = dktX1_reorders_1 := dk_seg dksX1_reorders_0 24 rfl rfl
theorem dksX1_reorders_2 : cX1_reorders.data.toList.drop 46 = dktX1_reorders_2 := dk_seg dksX1_reorders_1 22 rfl rfl
theorem dksX1_reorders_3 : cX1_reorders.data.toList.drop 70 = dktX1_reorders_3 := dk_seg dksX1_reorders_2 24 rfl rfl
theorem dksX1_reorders_4 : cX1_reorders.data.toList.drop 93 = dktX1_reorders_4 := dk_seg dksX1_reorders_3 23 rfl rfl
theorem dX1_reorders_0 : decode cX1_reorders 0 = .ok (.iload_n 3, 1) := dk_29 (dk_at dksX1_reorders_0 0 rfl rfl)
theorem dX1_reorders_1 : decode cX1_reorders 1 = .ok (.anewarray 189, 3) := dk_189 0 189 (dk_at dksX1_reorders_0 1 rfl rfl)
theorem dX1_reorders_4 : decode cX1_reorders 4 = .ok (.astore 4, 2) := dk_58 4 (dk_at dksX1_reorders_0 4 rfl rfl)
theorem dX1_reorders_6 : decode cX1_reorders 6 = .ok (.iload_n 3, 1) := dk_29 (dk_at dksX1_reorders_0 6 rfl rfl)
theorem dX1_reorders_7 : decode cX1_reorders 7 = .ok (.newarray .int, 2) := dk_188_10 (dk_at dksX1_reorders_0 7 rfl rfl)
theorem dX1_reorders_9 : decode cX1_reorders 9 = .ok (.astore 5, 2) := dk_58 5 (dk_at dksX1_reorders_0 9 rfl rfl)
theorem dX1_reorders_11 : decode cX1_reorders 11 = .ok (.iconst 0, 1) := dk_3 (dk_at dksX1_reorders_0 11 rfl rfl)
theorem dX1_reorders_12 : decode cX1_reorders 12 = .ok (.istore 6, 2) := dk_54 6 (dk_at dksX1_reorders_0 12 rfl rfl)
theorem dX1_reorders_14 : decode cX1_reorders 14 = .ok (.iload 6, 2) := dk_21 6 (dk_at dksX1_reorders_0 14 rfl rfl)
theorem dX1_reorders_16 : decode cX1_reorders 16 = .ok (.iload_n 3, 1) := dk_29 (dk_at dksX1_reorders_0 16 rfl rfl)
theorem dX1_reorders_17 : decode cX1_reorders 17 = .ok (.if_icmp .ge 69, 3) := dk_162 0 69 (dk_at dksX1_reorders_0 17 rfl rfl)
theorem dX1_reorders_20 : decode cX1_reorders 20 = .ok (.aload 4, 2) := dk_25 4 (dk_at dksX1_reorders_0 20 rfl rfl)
theorem dX1_reorders_22 : decode cX1_reorders 22 = .ok (.iload 6, 2) := dk_21 6 (dk_at dksX1_reorders_0 22 rfl rfl)
theorem dX1_reorders_24 : decode cX1_reorders 24 = .ok (.aload_n 1, 1) := dk_43 (dk_at dksX1_reorders_1 0 rfl rfl)
theorem dX1_reorders_25 : decode cX1_reorders 25 = .ok (.iload_n 2, 1) := dk_28 (dk_at dksX1_reorders_1 1 rfl rfl)
theorem dX1_reorders_26 : decode cX1_reorders 26 = .ok (.iload 6, 2) := dk_21 6 (dk_at dksX1_reorders_1 2 rfl rfl)
theorem dX1_reorders_28 : decode cX1_reorders 28 = .ok (.iadd, 1) := dk_96 (dk_at dksX1_reorders_1 4 rfl rfl)
theorem dX1_reorders_29 : decode cX1_reorders 29 = .ok (.invokevirtual 387, 3) := dk_182 1 131 (dk_at dksX1_reorders_1 5 rfl rfl)
theorem dX1_reorders_32 : decode cX1_reorders 32 = .ok (.checkcast 189, 3) := dk_192 0 189 (dk_at dksX1_reorders_1 8 rfl rfl)
theorem dX1_reorders_35 : decode cX1_reorders 35 = .ok (.aastore, 1) := dk_83 (dk_at dksX1_reorders_1 11 rfl rfl)
theorem dX1_reorders_36 : decode cX1_reorders 36 = .ok (.aload 5, 2) := dk_25 5 (dk_at dksX1_reorders_1 12 rfl rfl)
theorem dX1_reorders_38 : decode cX1_reorders 38 = .ok (.iload 6, 2) := dk_21 6 (dk_at dksX1_reorders_1 14 rfl rfl)
theorem dX1_reorders_40 : decode cX1_reorders 40 = .ok (.iload 6, 2) := dk_21 6 (dk_at dksX1_reorders_1 16 rfl rfl)
theorem dX1_reorders_42 : decode cX1_reorders 42 = .ok (.ifCond .ne 7, 3) := dk_154 0 7 (dk_at dksX1_reorders_1 18 rfl rfl)
theorem dX1_reorders_45 : decode cX1_reorders 45 = .ok (.iconst 0, 1) := dk_3 (dk_at dksX1_reorders_1 21 rfl rfl)
theorem dX1_reorders_46 : decode cX1_reorders 46 = .ok (.goto 33, 3) := dk_167 0 33 (dk_at dksX1_reorders_2 0 rfl rfl)
theorem dX1_reorders_49 : decode cX1_reorders 49 = .ok (.aload 4, 2) := dk_25 4 (dk_at dksX1_reorders_2 3 rfl rfl)
theorem dX1_reorders_51 : decode cX1_reorders 51 = .ok (.iload 6, 2) := dk_21 6 (dk_at dksX1_reorders_2 5 rfl rfl)
theorem dX1_reorders_53 : decode cX1_reorders 53 = .ok (.aaload, 1) := dk_50 (dk_at dksX1_reorders_2 7 rfl rfl)
theorem dX1_reorders_54 : decode cX1_reorders 54 = .ok (.getfield 448, 3) := dk_180 1 192 (dk_at dksX1_reorders_2 8 rfl rfl)
theorem dX1_reorders_57 : decode cX1_reorders 57 = .ok (.aload 4, 2) := dk_25 4 (dk_at dksX1_reorders_2 11 rfl rfl)
theorem dX1_reorders_59 : decode cX1_reorders 59 = .ok (.iload 6, 2) := dk_21 6 (dk_at dksX1_reorders_2 13 rfl rfl)
theorem dX1_reorders_61 : decode cX1_reorders 61 = .ok (.iconst 1, 1) := dk_4 (dk_at dksX1_reorders_2 15 rfl rfl)
theorem dX1_reorders_62 : decode cX1_reorders 62 = .ok (.isub, 1) := dk_100 (dk_at dksX1_reorders_2 16 rfl rfl)
theorem dX1_reorders_63 : decode cX1_reorders 63 = .ok (.aaload, 1) := dk_50 (dk_at dksX1_reorders_2 17 rfl rfl)
theorem dX1_reorders_64 : decode cX1_reorders 64 = .ok (.getfield 448, 3) := dk_180 1 192 (dk_at dksX1_reorders_2 18 rfl rfl)
theorem dX1_reorders_67 : decode cX1_reorders 67 = .ok (.isub, 1) := dk_100 (dk_at dksX1_reorders_2 21 rfl rfl)
theorem dX1_reorders_68 : decode cX1_reorders 68 = .ok (.aload 4, 2) := dk_25 4 (dk_at dksX1_reorders_2 22 rfl rfl)
theorem dX1_reorders_70 : decode cX1_reorders 70 = .ok (.iload 6, 2) := dk_21 6 (dk_at dksX1_reorders_3 0 rfl rfl)
theorem dX1_reorders_72 : decode cX1_reorders 72 = .ok (.iconst 1, 1) := dk_4 (dk_at dksX1_reorders_3 2 rfl rfl)
theorem dX1_reorders_73 : decode cX1_reorders 73 = .ok (.isub, 1) := dk_100 (dk_at dksX1_reorders_3 3 rfl rfl)
theorem dX1_reorders_74 : decode cX1_reorders 74 = .ok (.aaload, 1) := dk_50 (dk_at dksX1_reorders_3 4 rfl rfl)
theorem dX1_reorders_75 : decode cX1_reorders 75 = .ok (.getfield 199, 3) := dk_180 0 199 (dk_at dksX1_reorders_3 5 rfl rfl)
theorem dX1_reorders_78 : decode cX1_reorders 78 = .ok (.isub, 1) := dk_100 (dk_at dksX1_reorders_3 8 rfl rfl)
theorem dX1_reorders_79 : decode cX1_reorders 79 = .ok (.iastore, 1) := dk_79 (dk_at dksX1_reorders_3 9 rfl rfl)
theorem dX1_reorders_80 : decode cX1_reorders 80 = .ok (.iinc 6 1, 3) := dk_132 6 1 (dk_at dksX1_reorders_3 10 rfl rfl)
theorem dX1_reorders_83 : decode cX1_reorders 83 = .ok (.goto (-69), 3) := dk_167 255 187 (dk_at dksX1_reorders_3 13 rfl rfl)
theorem dX1_reorders_86 : decode cX1_reorders 86 = .ok (.aload 4, 2) := dk_25 4 (dk_at dksX1_reorders_3 16 rfl rfl)
theorem dX1_reorders_88 : decode cX1_reorders 88 = .ok (.iconst 0, 1) := dk_3 (dk_at dksX1_reorders_3 18 rfl rfl)
theorem dX1_reorders_89 : decode cX1_reorders 89 = .ok (.aaload, 1) := dk_50 (dk_at dksX1_reorders_3 19 rfl rfl)
theorem dX1_reorders_90 : decode cX1_reorders 90 = .ok (.getfield 448, 3) := dk_180 1 192 (dk_at dksX1_reorders_3 20 rfl rfl)
theorem dX1_reorders_93 : decode cX1_reorders 93 = .ok (.istore 6, 2) := dk_54 6 (dk_at dksX1_reorders_4 0 rfl rfl)
theorem dX1_reorders_95 : decode cX1_reorders 95 = .ok (.new 451, 3) := dk_187 1 195 (dk_at dksX1_reorders_4 2 rfl rfl)
theorem dX1_reorders_98 : decode cX1_reorders 98 = .ok (.dup, 1) := dk_89 (dk_at dksX1_reorders_4 5 rfl rfl)
theorem dX1_reorders_99 : decode cX1_reorders 99 = .ok (.aload_n 0, 1) := dk_42 (dk_at dksX1_reorders_4 6 rfl rfl)
theorem dX1_reorders_100 : decode cX1_reorders 100 = .ok (.iload_n 3, 1) := dk_29 (dk_at dksX1_reorders_4 7 rfl rfl)
theorem dX1_reorders_101 : decode cX1_reorders 101 = .ok (.iload 6, 2) := dk_21 6 (dk_at dksX1_reorders_4 8 rfl rfl)
theorem dX1_reorders_103 : decode cX1_reorders 103 = .ok (.aload 4, 2) := dk_25 4 (dk_at dksX1_reorders_4 10 rfl rfl)
theorem dX1_reorders_105 : decode cX1_reorders 105 = .ok (.aload 5, 2) := dk_25 5 (dk_at dksX1_reorders_4 12 rfl rfl)
theorem dX1_reorders_107 : decode cX1_reorders 107 = .ok (.aload_n 1, 1) := dk_43 (dk_at dksX1_reorders_4 14 rfl rfl)
theorem dX1_reorders_108 : decode cX1_reorders 108 = .ok (.iload_n 2, 1) := dk_28 (dk_at dksX1_reorders_4 15 rfl rfl)
theorem dX1_reorders_109 : decode cX1_reorders 109 = .ok (.invokespecial 453, 3) := dk_183 1 197 (dk_at dksX1_reorders_4 16 rfl rfl)
theorem dX1_reorders_112 : decode cX1_reorders 112 = .ok (.invokevirtual 456, 3) := dk_182 1 200 (dk_at dksX1_reorders_4 19 rfl rfl)
theorem dX1_reorders_115 : decode cX1_reorders 115 = .ok (.return_, 1) := dk_177 (dk_at dksX1_reorders_4 22 rfl rfl)
abbrev cX1_swaps : ByteArray := prog_1_method_59_code
def yX1_swaps : MethodName := ⟨RX1, "swaps", "()I"⟩
def dkwX1_swaps_3 : List UInt8 := [167, 255, 214, 132, 2, 1, 167, 255, 193, 42, 27, 42, 182, 1, 14, 100, 182, 0, 97, 172]
abbrev dktX1_swaps_3 : List UInt8 := dkwX1_swaps_3 ++ []
def dkwX1_swaps_2 : List UInt8 := [50, 42, 180, 0, 67, 180, 0, 184, 29, 50, 42, 182, 1, 14, 4, 100, 182, 1, 219, 132, 3, 1]
abbrev dktX1_swaps_2 : List UInt8 := dkwX1_swaps_2 ++ dktX1_swaps_3
def dkwX1_swaps_1 : List UInt8 := [28, 4, 96, 62, 29, 42, 180, 0, 67, 180, 0, 100, 162, 0, 37, 42, 42, 180, 0, 67, 180, 0, 184, 28]
abbrev dktX1_swaps_1 : List UInt8 := dkwX1_swaps_1 ++ dktX1_swaps_2
def dkwX1_swaps_0 : List UInt8 := [42, 16, 14, 182, 0, 160, 42, 182, 1, 14, 60, 3, 61, 28, 42, 180, 0, 67, 180, 0, 100, 162, 0, 58]
abbrev dktX1_swaps_0 : List UInt8 := dkwX1_swaps_0 ++ dktX1_swaps_1
theorem dksX1_swaps_0 : cX1_swaps.data.toList.drop 0 = dktX1_swaps_0 := by decide +kernel
theorem dksX1_swaps_1 : cX1_swaps.data.toList.drop 24 = dktX1_swaps_1 := dk_seg dksX1_swaps_0 24 rfl rfl
theorem dksX1_swaps_2 : cX1_swaps.data.toList.drop 48 = dktX1_swaps_2 := dk_seg dksX1_swaps_1 24 rfl rfl
theorem dksX1_swaps_3 : cX1_swaps.data.toList.drop 70 = dktX1_swaps_3 := dk_seg dksX1_swaps_2 22 rfl rfl
theorem dX1_swaps_0 : decode cX1_swaps 0 = .ok (.aload_n 0, 1) := dk_42 (dk_at dksX1_swaps_0 0 rfl rfl)
theorem dX1_swaps_1 : decode cX1_swaps 1 = .ok (.bipush 14, 2) := dk_16 14 (dk_at dksX1_swaps_0 1 rfl rfl)
theorem dX1_swaps_3 : decode cX1_swaps 3 = .ok (.invokevirtual 160, 3) := dk_182 0 160 (dk_at dksX1_swaps_0 3 rfl rfl)
theorem dX1_swaps_6 : decode cX1_swaps 6 = .ok (.aload_n 0, 1) := dk_42 (dk_at dksX1_swaps_0 6 rfl rfl)
theorem dX1_swaps_7 : decode cX1_swaps 7 = .ok (.invokevirtual 270, 3) := dk_182 1 14 (dk_at dksX1_swaps_0 7 rfl rfl)
theorem dX1_swaps_10 : decode cX1_swaps 10 = .ok (.istore_n 1, 1) := dk_60 (dk_at dksX1_swaps_0 10 rfl rfl)
theorem dX1_swaps_11 : decode cX1_swaps 11 = .ok (.iconst 0, 1) := dk_3 (dk_at dksX1_swaps_0 11 rfl rfl)
theorem dX1_swaps_12 : decode cX1_swaps 12 = .ok (.istore_n 2, 1) := dk_61 (dk_at dksX1_swaps_0 12 rfl rfl)
theorem dX1_swaps_13 : decode cX1_swaps 13 = .ok (.iload_n 2, 1) := dk_28 (dk_at dksX1_swaps_0 13 rfl rfl)
theorem dX1_swaps_14 : decode cX1_swaps 14 = .ok (.aload_n 0, 1) := dk_42 (dk_at dksX1_swaps_0 14 rfl rfl)
theorem dX1_swaps_15 : decode cX1_swaps 15 = .ok (.getfield 67, 3) := dk_180 0 67 (dk_at dksX1_swaps_0 15 rfl rfl)
theorem dX1_swaps_18 : decode cX1_swaps 18 = .ok (.getfield 100, 3) := dk_180 0 100 (dk_at dksX1_swaps_0 18 rfl rfl)
theorem dX1_swaps_21 : decode cX1_swaps 21 = .ok (.if_icmp .ge 58, 3) := dk_162 0 58 (dk_at dksX1_swaps_0 21 rfl rfl)
theorem dX1_swaps_24 : decode cX1_swaps 24 = .ok (.iload_n 2, 1) := dk_28 (dk_at dksX1_swaps_1 0 rfl rfl)
theorem dX1_swaps_25 : decode cX1_swaps 25 = .ok (.iconst 1, 1) := dk_4 (dk_at dksX1_swaps_1 1 rfl rfl)
theorem dX1_swaps_26 : decode cX1_swaps 26 = .ok (.iadd, 1) := dk_96 (dk_at dksX1_swaps_1 2 rfl rfl)
theorem dX1_swaps_27 : decode cX1_swaps 27 = .ok (.istore_n 3, 1) := dk_62 (dk_at dksX1_swaps_1 3 rfl rfl)
theorem dX1_swaps_28 : decode cX1_swaps 28 = .ok (.iload_n 3, 1) := dk_29 (dk_at dksX1_swaps_1 4 rfl rfl)
theorem dX1_swaps_29 : decode cX1_swaps 29 = .ok (.aload_n 0, 1) := dk_42 (dk_at dksX1_swaps_1 5 rfl rfl)
theorem dX1_swaps_30 : decode cX1_swaps 30 = .ok (.getfield 67, 3) := dk_180 0 67 (dk_at dksX1_swaps_1 6 rfl rfl)
theorem dX1_swaps_33 : decode cX1_swaps 33 = .ok (.getfield 100, 3) := dk_180 0 100 (dk_at dksX1_swaps_1 9 rfl rfl)
theorem dX1_swaps_36 : decode cX1_swaps 36 = .ok (.if_icmp .ge 37, 3) := dk_162 0 37 (dk_at dksX1_swaps_1 12 rfl rfl)
theorem dX1_swaps_39 : decode cX1_swaps 39 = .ok (.aload_n 0, 1) := dk_42 (dk_at dksX1_swaps_1 15 rfl rfl)
theorem dX1_swaps_40 : decode cX1_swaps 40 = .ok (.aload_n 0, 1) := dk_42 (dk_at dksX1_swaps_1 16 rfl rfl)
theorem dX1_swaps_41 : decode cX1_swaps 41 = .ok (.getfield 67, 3) := dk_180 0 67 (dk_at dksX1_swaps_1 17 rfl rfl)
theorem dX1_swaps_44 : decode cX1_swaps 44 = .ok (.getfield 184, 3) := dk_180 0 184 (dk_at dksX1_swaps_1 20 rfl rfl)
theorem dX1_swaps_47 : decode cX1_swaps 47 = .ok (.iload_n 2, 1) := dk_28 (dk_at dksX1_swaps_1 23 rfl rfl)
theorem dX1_swaps_48 : decode cX1_swaps 48 = .ok (.aaload, 1) := dk_50 (dk_at dksX1_swaps_2 0 rfl rfl)
theorem dX1_swaps_49 : decode cX1_swaps 49 = .ok (.aload_n 0, 1) := dk_42 (dk_at dksX1_swaps_2 1 rfl rfl)
theorem dX1_swaps_50 : decode cX1_swaps 50 = .ok (.getfield 67, 3) := dk_180 0 67 (dk_at dksX1_swaps_2 2 rfl rfl)
theorem dX1_swaps_53 : decode cX1_swaps 53 = .ok (.getfield 184, 3) := dk_180 0 184 (dk_at dksX1_swaps_2 5 rfl rfl)
theorem dX1_swaps_56 : decode cX1_swaps 56 = .ok (.iload_n 3, 1) := dk_29 (dk_at dksX1_swaps_2 8 rfl rfl)
theorem dX1_swaps_57 : decode cX1_swaps 57 = .ok (.aaload, 1) := dk_50 (dk_at dksX1_swaps_2 9 rfl rfl)
theorem dX1_swaps_58 : decode cX1_swaps 58 = .ok (.aload_n 0, 1) := dk_42 (dk_at dksX1_swaps_2 10 rfl rfl)
theorem dX1_swaps_59 : decode cX1_swaps 59 = .ok (.invokevirtual 270, 3) := dk_182 1 14 (dk_at dksX1_swaps_2 11 rfl rfl)
theorem dX1_swaps_62 : decode cX1_swaps 62 = .ok (.iconst 1, 1) := dk_4 (dk_at dksX1_swaps_2 14 rfl rfl)
theorem dX1_swaps_63 : decode cX1_swaps 63 = .ok (.isub, 1) := dk_100 (dk_at dksX1_swaps_2 15 rfl rfl)
theorem dX1_swaps_64 : decode cX1_swaps 64 = .ok (.invokevirtual 475, 3) := dk_182 1 219 (dk_at dksX1_swaps_2 16 rfl rfl)
theorem dX1_swaps_67 : decode cX1_swaps 67 = .ok (.iinc 3 1, 3) := dk_132 3 1 (dk_at dksX1_swaps_2 19 rfl rfl)
theorem dX1_swaps_70 : decode cX1_swaps 70 = .ok (.goto (-42), 3) := dk_167 255 214 (dk_at dksX1_swaps_3 0 rfl rfl)
theorem dX1_swaps_73 : decode cX1_swaps 73 = .ok (.iinc 2 1, 3) := dk_132 2 1 (dk_at dksX1_swaps_3 3 rfl rfl)
theorem dX1_swaps_76 : decode cX1_swaps 76 = .ok (.goto (-63), 3) := dk_167 255 193 (dk_at dksX1_swaps_3 6 rfl rfl)
theorem dX1_swaps_79 : decode cX1_swaps 79 = .ok (.aload_n 0, 1) := dk_42 (dk_at dksX1_swaps_3 9 rfl rfl)
theorem dX1_swaps_80 : decode cX1_swaps 80 = .ok (.iload_n 1, 1) := dk_27 (dk_at dksX1_swaps_3 10 rfl rfl)
theorem dX1_swaps_81 : decode cX1_swaps 81 = .ok (.aload_n 0, 1) := dk_42 (dk_at dksX1_swaps_3 11 rfl rfl)
theorem dX1_swaps_82 : decode cX1_swaps 82 = .ok (.invokevirtual 270, 3) := dk_182 1 14 (dk_at dksX1_swaps_3 12 rfl rfl)
theorem dX1_swaps_85 : decode cX1_swaps 85 = .ok (.isub, 1) := dk_100 (dk_at dksX1_swaps_3 15 rfl rfl)
theorem dX1_swaps_86 : decode cX1_swaps 86 = .ok (.invokevirtual 97, 3) := dk_182 0 97 (dk_at dksX1_swaps_3 16 rfl rfl)
theorem dX1_swaps_89 : decode cX1_swaps 89 = .ok (.ireturn, 1) := dk_172 (dk_at dksX1_swaps_3 19 rfl rfl)
abbrev cX1_exchangesBelow : ByteArray := prog_1_method_58_code
def yX1_exchangesBelow : MethodName := ⟨RX1, "exchangesBelow", "(LCellRows$Cell;LCellRows$Cell;I)V"⟩
def dkwX1_exchangesBelow_1 : List UInt8 := [184, 1, 215, 177]
abbrev dktX1_exchangesBelow_1 : List UInt8 := dkwX1_exchangesBelow_1 ++ []
def dkwX1_exchangesBelow_0 : List UInt8 := [43, 44, 184, 1, 211, 154, 0, 4, 177, 43, 44, 184, 1, 215, 42, 182, 1, 14, 29, 164, 0, 8, 43, 44]
abbrev dktX1_exchangesBelow_0 : List UInt8 := dkwX1_exchangesBelow_0 ++ dktX1_exchangesBelow_1
theorem dksX1_exchangesBelow_0 : cX1_exchangesBelow.data.toList.drop 0 = dktX1_exchangesBelow_0 := by decide +kernel
theorem dksX1_exchangesBelow_1 : cX1_exchangesBelow.data.toList.drop 24 = dktX1_exchangesBelow_1 := dk_seg dksX1_exchangesBelow_0 24 rfl rfl
theorem dX1_exchangesBelow_0 : decode cX1_exchangesBelow 0 = .ok (.aload_n 1, 1) := dk_43 (dk_at dksX1_exchangesBelow_0 0 rfl rfl)
theorem dX1_exchangesBelow_1 : decode cX1_exchangesBelow 1 = .ok (.aload_n 2, 1) := dk_44 (dk_at dksX1_exchangesBelow_0 1 rfl rfl)
theorem dX1_exchangesBelow_2 : decode cX1_exchangesBelow 2 = .ok (.invokestatic 467, 3) := dk_184 1 211 (dk_at dksX1_exchangesBelow_0 2 rfl rfl)
theorem dX1_exchangesBelow_5 : decode cX1_exchangesBelow 5 = .ok (.ifCond .ne 4, 3) := dk_154 0 4 (dk_at dksX1_exchangesBelow_0 5 rfl rfl)
theorem dX1_exchangesBelow_8 : decode cX1_exchangesBelow 8 = .ok (.return_, 1) := dk_177 (dk_at dksX1_exchangesBelow_0 8 rfl rfl)
theorem dX1_exchangesBelow_9 : decode cX1_exchangesBelow 9 = .ok (.aload_n 1, 1) := dk_43 (dk_at dksX1_exchangesBelow_0 9 rfl rfl)
theorem dX1_exchangesBelow_10 : decode cX1_exchangesBelow 10 = .ok (.aload_n 2, 1) := dk_44 (dk_at dksX1_exchangesBelow_0 10 rfl rfl)
theorem dX1_exchangesBelow_11 : decode cX1_exchangesBelow 11 = .ok (.invokestatic 471, 3) := dk_184 1 215 (dk_at dksX1_exchangesBelow_0 11 rfl rfl)
theorem dX1_exchangesBelow_14 : decode cX1_exchangesBelow 14 = .ok (.aload_n 0, 1) := dk_42 (dk_at dksX1_exchangesBelow_0 14 rfl rfl)
theorem dX1_exchangesBelow_15 : decode cX1_exchangesBelow 15 = .ok (.invokevirtual 270, 3) := dk_182 1 14 (dk_at dksX1_exchangesBelow_0 15 rfl rfl)
theorem dX1_exchangesBelow_18 : decode cX1_exchangesBelow 18 = .ok (.iload_n 3, 1) := dk_29 (dk_at dksX1_exchangesBelow_0 18 rfl rfl)
theorem dX1_exchangesBelow_19 : decode cX1_exchangesBelow 19 = .ok (.if_icmp .le 8, 3) := dk_164 0 8 (dk_at dksX1_exchangesBelow_0 19 rfl rfl)
theorem dX1_exchangesBelow_22 : decode cX1_exchangesBelow 22 = .ok (.aload_n 1, 1) := dk_43 (dk_at dksX1_exchangesBelow_0 22 rfl rfl)
theorem dX1_exchangesBelow_23 : decode cX1_exchangesBelow 23 = .ok (.aload_n 2, 1) := dk_44 (dk_at dksX1_exchangesBelow_0 23 rfl rfl)
theorem dX1_exchangesBelow_24 : decode cX1_exchangesBelow 24 = .ok (.invokestatic 471, 3) := dk_184 1 215 (dk_at dksX1_exchangesBelow_1 0 rfl rfl)
theorem dX1_exchangesBelow_27 : decode cX1_exchangesBelow 27 = .ok (.return_, 1) := dk_177 (dk_at dksX1_exchangesBelow_1 3 rfl rfl)
abbrev cX1_canExchange : ByteArray := prog_1_method_57_code
def yX1_canExchange : MethodName := ⟨RX1, "canExchange", "(LCellRows$Cell;LCellRows$Cell;)Z"⟩
def dkwX1_canExchange_1 : List UInt8 := [153, 0, 7, 4, 167, 0, 4, 3, 172]
abbrev dktX1_canExchange_1 : List UInt8 := dkwX1_canExchange_1 ++ []
def dkwX1_canExchange_0 : List UInt8 := [42, 43, 165, 0, 29, 42, 182, 1, 17, 153, 0, 22, 43, 182, 1, 17, 153, 0, 15, 42, 43, 182, 1, 207]
abbrev dktX1_canExchange_0 : List UInt8 := dkwX1_canExchange_0 ++ dktX1_canExchange_1
theorem dksX1_canExchange_0 : cX1_canExchange.data.toList.drop 0 = dktX1_canExchange_0 := by decide +kernel
theorem dksX1_canExchange_1 : cX1_canExchange.data.toList.drop 24 = dktX1_canExchange_1 := dk_seg dksX1_canExchange_0 24 rfl rfl
theorem dX1_canExchange_0 : decode cX1_canExchange 0 = .ok (.aload_n 0, 1) := dk_42 (dk_at dksX1_canExchange_0 0 rfl rfl)
theorem dX1_canExchange_1 : decode cX1_canExchange 1 = .ok (.aload_n 1, 1) := dk_43 (dk_at dksX1_canExchange_0 1 rfl rfl)
theorem dX1_canExchange_2 : decode cX1_canExchange 2 = .ok (.if_acmp .eq 29, 3) := dk_165 0 29 (dk_at dksX1_canExchange_0 2 rfl rfl)
theorem dX1_canExchange_5 : decode cX1_canExchange 5 = .ok (.aload_n 0, 1) := dk_42 (dk_at dksX1_canExchange_0 5 rfl rfl)
theorem dX1_canExchange_6 : decode cX1_canExchange 6 = .ok (.invokevirtual 273, 3) := dk_182 1 17 (dk_at dksX1_canExchange_0 6 rfl rfl)
theorem dX1_canExchange_9 : decode cX1_canExchange 9 = .ok (.ifCond .eq 22, 3) := dk_153 0 22 (dk_at dksX1_canExchange_0 9 rfl rfl)
theorem dX1_canExchange_12 : decode cX1_canExchange 12 = .ok (.aload_n 1, 1) := dk_43 (dk_at dksX1_canExchange_0 12 rfl rfl)
theorem dX1_canExchange_13 : decode cX1_canExchange 13 = .ok (.invokevirtual 273, 3) := dk_182 1 17 (dk_at dksX1_canExchange_0 13 rfl rfl)
theorem dX1_canExchange_16 : decode cX1_canExchange 16 = .ok (.ifCond .eq 15, 3) := dk_153 0 15 (dk_at dksX1_canExchange_0 16 rfl rfl)
theorem dX1_canExchange_19 : decode cX1_canExchange 19 = .ok (.aload_n 0, 1) := dk_42 (dk_at dksX1_canExchange_0 19 rfl rfl)
theorem dX1_canExchange_20 : decode cX1_canExchange 20 = .ok (.aload_n 1, 1) := dk_43 (dk_at dksX1_canExchange_0 20 rfl rfl)
theorem dX1_canExchange_21 : decode cX1_canExchange 21 = .ok (.invokevirtual 463, 3) := dk_182 1 207 (dk_at dksX1_canExchange_0 21 rfl rfl)
theorem dX1_canExchange_24 : decode cX1_canExchange 24 = .ok (.ifCond .eq 7, 3) := dk_153 0 7 (dk_at dksX1_canExchange_1 0 rfl rfl)
theorem dX1_canExchange_27 : decode cX1_canExchange 27 = .ok (.iconst 1, 1) := dk_4 (dk_at dksX1_canExchange_1 3 rfl rfl)
theorem dX1_canExchange_28 : decode cX1_canExchange 28 = .ok (.goto 4, 3) := dk_167 0 4 (dk_at dksX1_canExchange_1 4 rfl rfl)
theorem dX1_canExchange_31 : decode cX1_canExchange 31 = .ok (.iconst 0, 1) := dk_3 (dk_at dksX1_canExchange_1 7 rfl rfl)
theorem dX1_canExchange_32 : decode cX1_canExchange 32 = .ok (.ireturn, 1) := dk_172 (dk_at dksX1_canExchange_1 8 rfl rfl)
abbrev cX1_exchanges : ByteArray := prog_1_method_56_code
def yX1_exchanges : MethodName := ⟨RX1, "exchanges", "(LCellRows$Cell;LCellRows$Cell;)V"⟩
def dkwX1_exchanges_1 : List UInt8 := [29, 182, 1, 8, 177]
abbrev dktX1_exchanges_1 : List UInt8 := dkwX1_exchanges_1 ++ []
def dkwX1_exchanges_0 : List UInt8 := [42, 180, 1, 11, 61, 42, 180, 1, 192, 62, 42, 43, 180, 1, 11, 43, 180, 1, 192, 182, 1, 8, 43, 28]
abbrev dktX1_exchanges_0 : List UInt8 := dkwX1_exchanges_0 ++ dktX1_exchanges_1
theorem dksX1_exchanges_0 : cX1_exchanges.data.toList.drop 0 = dktX1_exchanges_0 := by decide +kernel
theorem dksX1_exchanges_1 : cX1_exchanges.data.toList.drop 24 = dktX1_exchanges_1 := dk_seg dksX1_exchanges_0 24 rfl rfl
theorem dX1_exchanges_0 : decode cX1_exchanges 0 = .ok (.aload_n 0, 1) := dk_42 (dk_at dksX1_exchanges_0 0 rfl rfl)
theorem dX1_exchanges_1 : decode cX1_exchanges 1 = .ok (.getfield 267, 3) := dk_180 1 11 (dk_at dksX1_exchanges_0 1 rfl rfl)
theorem dX1_exchanges_4 : decode cX1_exchanges 4 = .ok (.istore_n 2, 1) := dk_61 (dk_at dksX1_exchanges_0 4 rfl rfl)
theorem dX1_exchanges_5 : decode cX1_exchanges 5 = .ok (.aload_n 0, 1) := dk_42 (dk_at dksX1_exchanges_0 5 rfl rfl)
theorem dX1_exchanges_6 : decode cX1_exchanges 6 = .ok (.getfield 448, 3) := dk_180 1 192 (dk_at dksX1_exchanges_0 6 rfl rfl)
theorem dX1_exchanges_9 : decode cX1_exchanges 9 = .ok (.istore_n 3, 1) := dk_62 (dk_at dksX1_exchanges_0 9 rfl rfl)
theorem dX1_exchanges_10 : decode cX1_exchanges 10 = .ok (.aload_n 0, 1) := dk_42 (dk_at dksX1_exchanges_0 10 rfl rfl)
theorem dX1_exchanges_11 : decode cX1_exchanges 11 = .ok (.aload_n 1, 1) := dk_43 (dk_at dksX1_exchanges_0 11 rfl rfl)
theorem dX1_exchanges_12 : decode cX1_exchanges 12 = .ok (.getfield 267, 3) := dk_180 1 11 (dk_at dksX1_exchanges_0 12 rfl rfl)
theorem dX1_exchanges_15 : decode cX1_exchanges 15 = .ok (.aload_n 1, 1) := dk_43 (dk_at dksX1_exchanges_0 15 rfl rfl)
theorem dX1_exchanges_16 : decode cX1_exchanges 16 = .ok (.getfield 448, 3) := dk_180 1 192 (dk_at dksX1_exchanges_0 16 rfl rfl)
theorem dX1_exchanges_19 : decode cX1_exchanges 19 = .ok (.invokevirtual 264, 3) := dk_182 1 8 (dk_at dksX1_exchanges_0 19 rfl rfl)
theorem dX1_exchanges_22 : decode cX1_exchanges 22 = .ok (.aload_n 1, 1) := dk_43 (dk_at dksX1_exchanges_0 22 rfl rfl)
theorem dX1_exchanges_23 : decode cX1_exchanges 23 = .ok (.iload_n 2, 1) := dk_28 (dk_at dksX1_exchanges_0 23 rfl rfl)
theorem dX1_exchanges_24 : decode cX1_exchanges 24 = .ok (.iload_n 3, 1) := dk_29 (dk_at dksX1_exchanges_1 0 rfl rfl)
theorem dX1_exchanges_25 : decode cX1_exchanges 25 = .ok (.invokevirtual 264, 3) := dk_182 1 8 (dk_at dksX1_exchanges_1 1 rfl rfl)
theorem dX1_exchanges_28 : decode cX1_exchanges 28 = .ok (.return_, 1) := dk_177 (dk_at dksX1_exchanges_1 4 rfl rfl)
abbrev cX1_hops : ByteArray := prog_1_method_61_code
def yX1_hops : MethodName := ⟨RX1, "hops", "()I"⟩
def dkwX1_hops_2 : List UInt8 := [50, 182, 1, 223, 132, 2, 1, 167, 255, 214, 42, 27, 42, 182, 1, 14, 100, 182, 0, 97, 172]
abbrev dktX1_hops_2 : List UInt8 := dkwX1_hops_2 ++ []
def dkwX1_hops_1 : List UInt8 := [42, 180, 0, 67, 180, 0, 184, 28, 50, 182, 1, 17, 153, 0, 16, 42, 42, 180, 0, 67, 180, 0, 184, 28]
abbrev dktX1_hops_1 : List UInt8 := dkwX1_hops_1 ++ dktX1_hops_2
def dkwX1_hops_0 : List UInt8 := [42, 16, 15, 182, 0, 160, 42, 182, 1, 14, 60, 3, 61, 28, 42, 180, 0, 67, 180, 0, 100, 162, 0, 37]
abbrev dktX1_hops_0 : List UInt8 := dkwX1_hops_0 ++ dktX1_hops_1
theorem dksX1_hops_0 : cX1_hops.data.toList.drop 0 = dktX1_hops_0 := by decide +kernel
theorem dksX1_hops_1 : cX1_hops.data.toList.drop 24 = dktX1_hops_1 := dk_seg dksX1_hops_0 24 rfl rfl
theorem dksX1_hops_2 : cX1_hops.data.toList.drop 48 = dktX1_hops_2 := dk_seg dksX1_hops_1 24 rfl rfl
theorem dX1_hops_0 : decode cX1_hops 0 = .ok (.aload_n 0, 1) := dk_42 (dk_at dksX1_hops_0 0 rfl rfl)
theorem dX1_hops_1 : decode cX1_hops 1 = .ok (.bipush 15, 2) := dk_16 15 (dk_at dksX1_hops_0 1 rfl rfl)
theorem dX1_hops_3 : decode cX1_hops 3 = .ok (.invokevirtual 160, 3) := dk_182 0 160 (dk_at dksX1_hops_0 3 rfl rfl)
theorem dX1_hops_6 : decode cX1_hops 6 = .ok (.aload_n 0, 1) := dk_42 (dk_at dksX1_hops_0 6 rfl rfl)
theorem dX1_hops_7 : decode cX1_hops 7 = .ok (.invokevirtual 270, 3) := dk_182 1 14 (dk_at dksX1_hops_0 7 rfl rfl)
theorem dX1_hops_10 : decode cX1_hops 10 = .ok (.istore_n 1, 1) := dk_60 (dk_at dksX1_hops_0 10 rfl rfl)
theorem dX1_hops_11 : decode cX1_hops 11 = .ok (.iconst 0, 1) := dk_3 (dk_at dksX1_hops_0 11 rfl rfl)
theorem dX1_hops_12 : decode cX1_hops 12 = .ok (.istore_n 2, 1) := dk_61 (dk_at dksX1_hops_0 12 rfl rfl)
theorem dX1_hops_13 : decode cX1_hops 13 = .ok (.iload_n 2, 1) := dk_28 (dk_at dksX1_hops_0 13 rfl rfl)
theorem dX1_hops_14 : decode cX1_hops 14 = .ok (.aload_n 0, 1) := dk_42 (dk_at dksX1_hops_0 14 rfl rfl)
theorem dX1_hops_15 : decode cX1_hops 15 = .ok (.getfield 67, 3) := dk_180 0 67 (dk_at dksX1_hops_0 15 rfl rfl)
theorem dX1_hops_18 : decode cX1_hops 18 = .ok (.getfield 100, 3) := dk_180 0 100 (dk_at dksX1_hops_0 18 rfl rfl)
theorem dX1_hops_21 : decode cX1_hops 21 = .ok (.if_icmp .ge 37, 3) := dk_162 0 37 (dk_at dksX1_hops_0 21 rfl rfl)
theorem dX1_hops_24 : decode cX1_hops 24 = .ok (.aload_n 0, 1) := dk_42 (dk_at dksX1_hops_1 0 rfl rfl)
theorem dX1_hops_25 : decode cX1_hops 25 = .ok (.getfield 67, 3) := dk_180 0 67 (dk_at dksX1_hops_1 1 rfl rfl)
theorem dX1_hops_28 : decode cX1_hops 28 = .ok (.getfield 184, 3) := dk_180 0 184 (dk_at dksX1_hops_1 4 rfl rfl)
theorem dX1_hops_31 : decode cX1_hops 31 = .ok (.iload_n 2, 1) := dk_28 (dk_at dksX1_hops_1 7 rfl rfl)
theorem dX1_hops_32 : decode cX1_hops 32 = .ok (.aaload, 1) := dk_50 (dk_at dksX1_hops_1 8 rfl rfl)
theorem dX1_hops_33 : decode cX1_hops 33 = .ok (.invokevirtual 273, 3) := dk_182 1 17 (dk_at dksX1_hops_1 9 rfl rfl)
theorem dX1_hops_36 : decode cX1_hops 36 = .ok (.ifCond .eq 16, 3) := dk_153 0 16 (dk_at dksX1_hops_1 12 rfl rfl)
theorem dX1_hops_39 : decode cX1_hops 39 = .ok (.aload_n 0, 1) := dk_42 (dk_at dksX1_hops_1 15 rfl rfl)
theorem dX1_hops_40 : decode cX1_hops 40 = .ok (.aload_n 0, 1) := dk_42 (dk_at dksX1_hops_1 16 rfl rfl)
theorem dX1_hops_41 : decode cX1_hops 41 = .ok (.getfield 67, 3) := dk_180 0 67 (dk_at dksX1_hops_1 17 rfl rfl)
theorem dX1_hops_44 : decode cX1_hops 44 = .ok (.getfield 184, 3) := dk_180 0 184 (dk_at dksX1_hops_1 20 rfl rfl)
theorem dX1_hops_47 : decode cX1_hops 47 = .ok (.iload_n 2, 1) := dk_28 (dk_at dksX1_hops_1 23 rfl rfl)
theorem dX1_hops_48 : decode cX1_hops 48 = .ok (.aaload, 1) := dk_50 (dk_at dksX1_hops_2 0 rfl rfl)
theorem dX1_hops_49 : decode cX1_hops 49 = .ok (.invokevirtual 479, 3) := dk_182 1 223 (dk_at dksX1_hops_2 1 rfl rfl)
theorem dX1_hops_52 : decode cX1_hops 52 = .ok (.iinc 2 1, 3) := dk_132 2 1 (dk_at dksX1_hops_2 4 rfl rfl)
theorem dX1_hops_55 : decode cX1_hops 55 = .ok (.goto (-42), 3) := dk_167 255 214 (dk_at dksX1_hops_2 7 rfl rfl)
theorem dX1_hops_58 : decode cX1_hops 58 = .ok (.aload_n 0, 1) := dk_42 (dk_at dksX1_hops_2 10 rfl rfl)
theorem dX1_hops_59 : decode cX1_hops 59 = .ok (.iload_n 1, 1) := dk_27 (dk_at dksX1_hops_2 11 rfl rfl)
theorem dX1_hops_60 : decode cX1_hops 60 = .ok (.aload_n 0, 1) := dk_42 (dk_at dksX1_hops_2 12 rfl rfl)
theorem dX1_hops_61 : decode cX1_hops 61 = .ok (.invokevirtual 270, 3) := dk_182 1 14 (dk_at dksX1_hops_2 13 rfl rfl)
theorem dX1_hops_64 : decode cX1_hops 64 = .ok (.isub, 1) := dk_100 (dk_at dksX1_hops_2 16 rfl rfl)
theorem dX1_hops_65 : decode cX1_hops 65 = .ok (.invokevirtual 97, 3) := dk_182 0 97 (dk_at dksX1_hops_2 17 rfl rfl)
theorem dX1_hops_68 : decode cX1_hops 68 = .ok (.ireturn, 1) := dk_172 (dk_at dksX1_hops_2 20 rfl rfl)
abbrev cX1_hops_2 : ByteArray := prog_1_method_60_code
def yX1_hops_2 : MethodName := ⟨RX1, "hops", "(LCellRows$Cell;)V"⟩
def dkwX1_hops_2_5 : List UInt8 := [43, 21, 4, 21, 5, 182, 1, 8, 177]
abbrev dktX1_hops_2_5 : List UInt8 := dkwX1_hops_2_5 ++ []
def dkwX1_hops_2_4 : List UInt8 := [21, 9, 54, 6, 21, 7, 54, 4, 21, 8, 54, 5, 132, 8, 1, 167, 255, 184, 132, 7, 1, 167, 255, 166]
abbrev dktX1_hops_2_4 : List UInt8 := dkwX1_hops_2_4 ++ dktX1_hops_2_5
def dkwX1_hops_2_3 : List UInt8 := [21, 7, 21, 8, 182, 1, 8, 42, 182, 1, 14, 54, 9, 21, 9, 21, 6, 161, 0, 6, 167, 0, 15]
abbrev dktX1_hops_2_3 : List UInt8 := dkwX1_hops_2_3 ++ dktX1_hops_2_4
def dkwX1_hops_2_2 : List UInt8 := [100, 163, 0, 64, 42, 180, 0, 67, 43, 21, 7, 21, 8, 4, 182, 0, 253, 154, 0, 6, 167, 0, 39, 43]
abbrev dktX1_hops_2_2 : List UInt8 := dkwX1_hops_2_2 ++ dktX1_hops_2_3
def dkwX1_hops_2_1 : List UInt8 := [54, 7, 21, 7, 42, 180, 0, 59, 162, 0, 87, 3, 54, 8, 21, 8, 42, 180, 0, 63, 43, 180, 0, 199]
abbrev dktX1_hops_2_1 : List UInt8 := dkwX1_hops_2_1 ++ dktX1_hops_2_2
def dkwX1_hops_2_0 : List UInt8 := [43, 180, 1, 11, 61, 43, 180, 1, 192, 62, 28, 54, 4, 29, 54, 5, 42, 182, 1, 14, 54, 6, 3]
abbrev dktX1_hops_2_0 : List UInt8 := dkwX1_hops_2_0 ++ dktX1_hops_2_1
theorem dksX1_hops_2_0 : cX1_hops_2.data.toList.drop 0 = dktX1_hops_2_0 := by decide +kernel
theorem dksX1_hops_2_1 : cX1_hops_2.data.toList.drop 23 = dktX1_hops_2_1 := dk_seg dksX1_hops_2_0 23 rfl rfl
theorem dksX1_hops_2_2 : cX1_hops_2.data.toList.drop 47 = dktX1_hops_2_2 := dk_seg dksX1_hops_2_1 24 rfl rfl
theorem dksX1_hops_2_3 : cX1_hops_2.data.toList.drop 71 = dktX1_hops_2_3 := dk_seg dksX1_hops_2_2 24 rfl rfl
theorem dksX1_hops_2_4 : cX1_hops_2.data.toList.drop 94 = dktX1_hops_2_4 := dk_seg dksX1_hops_2_3 23 rfl rfl
theorem dksX1_hops_2_5 : cX1_hops_2.data.toList.drop 118 = dktX1_hops_2_5 := dk_seg dksX1_hops_2_4 24 rfl rfl
theorem dX1_hops_2_0 : decode cX1_hops_2 0 = .ok (.aload_n 1, 1) := dk_43 (dk_at dksX1_hops_2_0 0 rfl rfl)
theorem dX1_hops_2_1 : decode cX1_hops_2 1 = .ok (.getfield 267, 3) := dk_180 1 11 (dk_at dksX1_hops_2_0 1 rfl rfl)
theorem dX1_hops_2_4 : decode cX1_hops_2 4 = .ok (.istore_n 2, 1) := dk_61 (dk_at dksX1_hops_2_0 4 rfl rfl)
theorem dX1_hops_2_5 : decode cX1_hops_2 5 = .ok (.aload_n 1, 1) := dk_43 (dk_at dksX1_hops_2_0 5 rfl rfl)
theorem dX1_hops_2_6 : decode cX1_hops_2 6 = .ok (.getfield 448, 3) := dk_180 1 192 (dk_at dksX1_hops_2_0 6 rfl rfl)
theorem dX1_hops_2_9 : decode cX1_hops_2 9 = .ok (.istore_n 3, 1) := dk_62 (dk_at dksX1_hops_2_0 9 rfl rfl)
theorem dX1_hops_2_10 : decode cX1_hops_2 10 = .ok (.iload_n 2, 1) := dk_28 (dk_at dksX1_hops_2_0 10 rfl rfl)
theorem dX1_hops_2_11 : decode cX1_hops_2 11 = .ok (.istore 4, 2) := dk_54 4 (dk_at dksX1_hops_2_0 11 rfl rfl)
theorem dX1_hops_2_13 : decode cX1_hops_2 13 = .ok (.iload_n 3, 1) := dk_29 (dk_at dksX1_hops_2_0 13 rfl rfl)
theorem dX1_hops_2_14 : decode cX1_hops_2 14 = .ok (.istore 5, 2) := dk_54 5 (dk_at dksX1_hops_2_0 14 rfl rfl)
theorem dX1_hops_2_16 : decode cX1_hops_2 16 = .ok (.aload_n 0, 1) := dk_42 (dk_at dksX1_hops_2_0 16 rfl rfl)
theorem dX1_hops_2_17 : decode cX1_hops_2 17 = .ok (.invokevirtual 270, 3) := dk_182 1 14 (dk_at dksX1_hops_2_0 17 rfl rfl)
theorem dX1_hops_2_20 : decode cX1_hops_2 20 = .ok (.istore 6, 2) := dk_54 6 (dk_at dksX1_hops_2_0 20 rfl rfl)
theorem dX1_hops_2_22 : decode cX1_hops_2 22 = .ok (.iconst 0, 1) := dk_3 (dk_at dksX1_hops_2_0 22 rfl rfl)
theorem dX1_hops_2_23 : decode cX1_hops_2 23 = .ok (.istore 7, 2) := dk_54 7 (dk_at dksX1_hops_2_1 0 rfl rfl)
theorem dX1_hops_2_25 : decode cX1_hops_2 25 = .ok (.iload 7, 2) := dk_21 7 (dk_at dksX1_hops_2_1 2 rfl rfl)
theorem dX1_hops_2_27 : decode cX1_hops_2 27 = .ok (.aload_n 0, 1) := dk_42 (dk_at dksX1_hops_2_1 4 rfl rfl)
theorem dX1_hops_2_28 : decode cX1_hops_2 28 = .ok (.getfield 59, 3) := dk_180 0 59 (dk_at dksX1_hops_2_1 5 rfl rfl)
theorem dX1_hops_2_31 : decode cX1_hops_2 31 = .ok (.if_icmp .ge 87, 3) := dk_162 0 87 (dk_at dksX1_hops_2_1 8 rfl rfl)
theorem dX1_hops_2_34 : decode cX1_hops_2 34 = .ok (.iconst 0, 1) := dk_3 (dk_at dksX1_hops_2_1 11 rfl rfl)
theorem dX1_hops_2_35 : decode cX1_hops_2 35 = .ok (.istore 8, 2) := dk_54 8 (dk_at dksX1_hops_2_1 12 rfl rfl)
theorem dX1_hops_2_37 : decode cX1_hops_2 37 = .ok (.iload 8, 2) := dk_21 8 (dk_at dksX1_hops_2_1 14 rfl rfl)
theorem dX1_hops_2_39 : decode cX1_hops_2 39 = .ok (.aload_n 0, 1) := dk_42 (dk_at dksX1_hops_2_1 16 rfl rfl)
theorem dX1_hops_2_40 : decode cX1_hops_2 40 = .ok (.getfield 63, 3) := dk_180 0 63 (dk_at dksX1_hops_2_1 17 rfl rfl)
theorem dX1_hops_2_43 : decode cX1_hops_2 43 = .ok (.aload_n 1, 1) := dk_43 (dk_at dksX1_hops_2_1 20 rfl rfl)
theorem dX1_hops_2_44 : decode cX1_hops_2 44 = .ok (.getfield 199, 3) := dk_180 0 199 (dk_at dksX1_hops_2_1 21 rfl rfl)
theorem dX1_hops_2_47 : decode cX1_hops_2 47 = .ok (.isub, 1) := dk_100 (dk_at dksX1_hops_2_2 0 rfl rfl)
theorem dX1_hops_2_48 : decode cX1_hops_2 48 = .ok (.if_icmp .gt 64, 3) := dk_163 0 64 (dk_at dksX1_hops_2_2 1 rfl rfl)
theorem dX1_hops_2_51 : decode cX1_hops_2 51 = .ok (.aload_n 0, 1) := dk_42 (dk_at dksX1_hops_2_2 4 rfl rfl)
theorem dX1_hops_2_52 : decode cX1_hops_2 52 = .ok (.getfield 67, 3) := dk_180 0 67 (dk_at dksX1_hops_2_2 5 rfl rfl)
theorem dX1_hops_2_55 : decode cX1_hops_2 55 = .ok (.aload_n 1, 1) := dk_43 (dk_at dksX1_hops_2_2 8 rfl rfl)
theorem dX1_hops_2_56 : decode cX1_hops_2 56 = .ok (.iload 7, 2) := dk_21 7 (dk_at dksX1_hops_2_2 9 rfl rfl)
theorem dX1_hops_2_58 : decode cX1_hops_2 58 = .ok (.iload 8, 2) := dk_21 8 (dk_at dksX1_hops_2_2 11 rfl rfl)
theorem dX1_hops_2_60 : decode cX1_hops_2 60 = .ok (.iconst 1, 1) := dk_4 (dk_at dksX1_hops_2_2 13 rfl rfl)
theorem dX1_hops_2_61 : decode cX1_hops_2 61 = .ok (.invokevirtual 253, 3) := dk_182 0 253 (dk_at dksX1_hops_2_2 14 rfl rfl)
theorem dX1_hops_2_64 : decode cX1_hops_2 64 = .ok (.ifCond .ne 6, 3) := dk_154 0 6 (dk_at dksX1_hops_2_2 17 rfl rfl)
theorem dX1_hops_2_67 : decode cX1_hops_2 67 = .ok (.goto 39, 3) := dk_167 0 39 (dk_at dksX1_hops_2_2 20 rfl rfl)
theorem dX1_hops_2_70 : decode cX1_hops_2 70 = .ok (.aload_n 1, 1) := dk_43 (dk_at dksX1_hops_2_2 23 rfl rfl)
theorem dX1_hops_2_71 : decode cX1_hops_2 71 = .ok (.iload 7, 2) := dk_21 7 (dk_at dksX1_hops_2_3 0 rfl rfl)
theorem dX1_hops_2_73 : decode cX1_hops_2 73 = .ok (.iload 8, 2) := dk_21 8 (dk_at dksX1_hops_2_3 2 rfl rfl)
theorem dX1_hops_2_75 : decode cX1_hops_2 75 = .ok (.invokevirtual 264, 3) := dk_182 1 8 (dk_at dksX1_hops_2_3 4 rfl rfl)
theorem dX1_hops_2_78 : decode cX1_hops_2 78 = .ok (.aload_n 0, 1) := dk_42 (dk_at dksX1_hops_2_3 7 rfl rfl)
theorem dX1_hops_2_79 : decode cX1_hops_2 79 = .ok (.invokevirtual 270, 3) := dk_182 1 14 (dk_at dksX1_hops_2_3 8 rfl rfl)
theorem dX1_hops_2_82 : decode cX1_hops_2 82 = .ok (.istore 9, 2) := dk_54 9 (dk_at dksX1_hops_2_3 11 rfl rfl)
theorem dX1_hops_2_84 : decode cX1_hops_2 84 = .ok (.iload 9, 2) := dk_21 9 (dk_at dksX1_hops_2_3 13 rfl rfl)
theorem dX1_hops_2_86 : decode cX1_hops_2 86 = .ok (.iload 6, 2) := dk_21 6 (dk_at dksX1_hops_2_3 15 rfl rfl)
theorem dX1_hops_2_88 : decode cX1_hops_2 88 = .ok (.if_icmp .lt 6, 3) := dk_161 0 6 (dk_at dksX1_hops_2_3 17 rfl rfl)
theorem dX1_hops_2_91 : decode cX1_hops_2 91 = .ok (.goto 15, 3) := dk_167 0 15 (dk_at dksX1_hops_2_3 20 rfl rfl)
theorem dX1_hops_2_94 : decode cX1_hops_2 94 = .ok (.iload 9, 2) := dk_21 9 (dk_at dksX1_hops_2_4 0 rfl rfl)
theorem dX1_hops_2_96 : decode cX1_hops_2 96 = .ok (.istore 6, 2) := dk_54 6 (dk_at dksX1_hops_2_4 2 rfl rfl)
theorem dX1_hops_2_98 : decode cX1_hops_2 98 = .ok (.iload 7, 2) := dk_21 7 (dk_at dksX1_hops_2_4 4 rfl rfl)
theorem dX1_hops_2_100 : decode cX1_hops_2 100 = .ok (.istore 4, 2) := dk_54 4 (dk_at dksX1_hops_2_4 6 rfl rfl)
theorem dX1_hops_2_102 : decode cX1_hops_2 102 = .ok (.iload 8, 2) := dk_21 8 (dk_at dksX1_hops_2_4 8 rfl rfl)
theorem dX1_hops_2_104 : decode cX1_hops_2 104 = .ok (.istore 5, 2) := dk_54 5 (dk_at dksX1_hops_2_4 10 rfl rfl)
theorem dX1_hops_2_106 : decode cX1_hops_2 106 = .ok (.iinc 8 1, 3) := dk_132 8 1 (dk_at dksX1_hops_2_4 12 rfl rfl)
theorem dX1_hops_2_109 : decode cX1_hops_2 109 = .ok (.goto (-72), 3) := dk_167 255 184 (dk_at dksX1_hops_2_4 15 rfl rfl)
theorem dX1_hops_2_112 : decode cX1_hops_2 112 = .ok (.iinc 7 1, 3) := dk_132 7 1 (dk_at dksX1_hops_2_4 18 rfl rfl)
theorem dX1_hops_2_115 : decode cX1_hops_2 115 = .ok (.goto (-90), 3) := dk_167 255 166 (dk_at dksX1_hops_2_4 21 rfl rfl)
theorem dX1_hops_2_118 : decode cX1_hops_2 118 = .ok (.aload_n 1, 1) := dk_43 (dk_at dksX1_hops_2_5 0 rfl rfl)
theorem dX1_hops_2_119 : decode cX1_hops_2 119 = .ok (.iload 4, 2) := dk_21 4 (dk_at dksX1_hops_2_5 1 rfl rfl)
theorem dX1_hops_2_121 : decode cX1_hops_2 121 = .ok (.iload 5, 2) := dk_21 5 (dk_at dksX1_hops_2_5 3 rfl rfl)
theorem dX1_hops_2_123 : decode cX1_hops_2 123 = .ok (.invokevirtual 264, 3) := dk_182 1 8 (dk_at dksX1_hops_2_5 5 rfl rfl)
theorem dX1_hops_2_126 : decode cX1_hops_2 126 = .ok (.return_, 1) := dk_177 (dk_at dksX1_hops_2_5 8 rfl rfl)
abbrev cX1_sorts : ByteArray := prog_1_method_65_code
def yX1_sorts : MethodName := ⟨RX1, "sorts", "()I"⟩
def dkwX1_sorts_2 : List UInt8 := [132, 2, 1, 167, 255, 218, 42, 27, 42, 182, 1, 14, 100, 182, 0, 97, 172]
abbrev dktX1_sorts_2 : List UInt8 := dkwX1_sorts_2 ++ []
def dkwX1_sorts_1 : List UInt8 := [4, 62, 29, 16, 6, 163, 0, 19, 42, 42, 28, 29, 182, 1, 235, 182, 1, 238, 132, 3, 1, 167, 255, 237]
abbrev dktX1_sorts_1 : List UInt8 := dkwX1_sorts_1 ++ dktX1_sorts_2
def dkwX1_sorts_0 : List UInt8 := [42, 16, 16, 182, 0, 160, 42, 182, 1, 14, 60, 2, 61, 28, 42, 180, 0, 67, 180, 0, 110, 162, 0, 33]
abbrev dktX1_sorts_0 : List UInt8 := dkwX1_sorts_0 ++ dktX1_sorts_1
theorem dksX1_sorts_0 : cX1_sorts.data.toList.drop 0 = dktX1_sorts_0 := by decide +kernel
theorem dksX1_sorts_1 : cX1_sorts.data.toList.drop 24 = dktX1_sorts_1 := dk_seg dksX1_sorts_0 24 rfl rfl
theorem dksX1_sorts_2 : cX1_sorts.data.toList.drop 48 = dktX1_sorts_2 := dk_seg dksX1_sorts_1 24 rfl rfl
theorem dX1_sorts_0 : decode cX1_sorts 0 = .ok (.aload_n 0, 1) := dk_42 (dk_at dksX1_sorts_0 0 rfl rfl)
theorem dX1_sorts_1 : decode cX1_sorts 1 = .ok (.bipush 16, 2) := dk_16 16 (dk_at dksX1_sorts_0 1 rfl rfl)
theorem dX1_sorts_3 : decode cX1_sorts 3 = .ok (.invokevirtual 160, 3) := dk_182 0 160 (dk_at dksX1_sorts_0 3 rfl rfl)
theorem dX1_sorts_6 : decode cX1_sorts 6 = .ok (.aload_n 0, 1) := dk_42 (dk_at dksX1_sorts_0 6 rfl rfl)
theorem dX1_sorts_7 : decode cX1_sorts 7 = .ok (.invokevirtual 270, 3) := dk_182 1 14 (dk_at dksX1_sorts_0 7 rfl rfl)
theorem dX1_sorts_10 : decode cX1_sorts 10 = .ok (.istore_n 1, 1) := dk_60 (dk_at dksX1_sorts_0 10 rfl rfl)
theorem dX1_sorts_11 : decode cX1_sorts 11 = .ok (.iconst (-1), 1) := dk_2 (dk_at dksX1_sorts_0 11 rfl rfl)
theorem dX1_sorts_12 : decode cX1_sorts 12 = .ok (.istore_n 2, 1) := dk_61 (dk_at dksX1_sorts_0 12 rfl rfl)
theorem dX1_sorts_13 : decode cX1_sorts 13 = .ok (.iload_n 2, 1) := dk_28 (dk_at dksX1_sorts_0 13 rfl rfl)
theorem dX1_sorts_14 : decode cX1_sorts 14 = .ok (.aload_n 0, 1) := dk_42 (dk_at dksX1_sorts_0 14 rfl rfl)
theorem dX1_sorts_15 : decode cX1_sorts 15 = .ok (.getfield 67, 3) := dk_180 0 67 (dk_at dksX1_sorts_0 15 rfl rfl)
theorem dX1_sorts_18 : decode cX1_sorts 18 = .ok (.getfield 110, 3) := dk_180 0 110 (dk_at dksX1_sorts_0 18 rfl rfl)
theorem dX1_sorts_21 : decode cX1_sorts 21 = .ok (.if_icmp .ge 33, 3) := dk_162 0 33 (dk_at dksX1_sorts_0 21 rfl rfl)
theorem dX1_sorts_24 : decode cX1_sorts 24 = .ok (.iconst 1, 1) := dk_4 (dk_at dksX1_sorts_1 0 rfl rfl)
theorem dX1_sorts_25 : decode cX1_sorts 25 = .ok (.istore_n 3, 1) := dk_62 (dk_at dksX1_sorts_1 1 rfl rfl)
theorem dX1_sorts_26 : decode cX1_sorts 26 = .ok (.iload_n 3, 1) := dk_29 (dk_at dksX1_sorts_1 2 rfl rfl)
theorem dX1_sorts_27 : decode cX1_sorts 27 = .ok (.bipush 6, 2) := dk_16 6 (dk_at dksX1_sorts_1 3 rfl rfl)
theorem dX1_sorts_29 : decode cX1_sorts 29 = .ok (.if_icmp .gt 19, 3) := dk_163 0 19 (dk_at dksX1_sorts_1 5 rfl rfl)
theorem dX1_sorts_32 : decode cX1_sorts 32 = .ok (.aload_n 0, 1) := dk_42 (dk_at dksX1_sorts_1 8 rfl rfl)
theorem dX1_sorts_33 : decode cX1_sorts 33 = .ok (.aload_n 0, 1) := dk_42 (dk_at dksX1_sorts_1 9 rfl rfl)
theorem dX1_sorts_34 : decode cX1_sorts 34 = .ok (.iload_n 2, 1) := dk_28 (dk_at dksX1_sorts_1 10 rfl rfl)
theorem dX1_sorts_35 : decode cX1_sorts 35 = .ok (.iload_n 3, 1) := dk_29 (dk_at dksX1_sorts_1 11 rfl rfl)
theorem dX1_sorts_36 : decode cX1_sorts 36 = .ok (.invokevirtual 491, 3) := dk_182 1 235 (dk_at dksX1_sorts_1 12 rfl rfl)
theorem dX1_sorts_39 : decode cX1_sorts 39 = .ok (.invokevirtual 494, 3) := dk_182 1 238 (dk_at dksX1_sorts_1 15 rfl rfl)
theorem dX1_sorts_42 : decode cX1_sorts 42 = .ok (.iinc 3 1, 3) := dk_132 3 1 (dk_at dksX1_sorts_1 18 rfl rfl)
theorem dX1_sorts_45 : decode cX1_sorts 45 = .ok (.goto (-19), 3) := dk_167 255 237 (dk_at dksX1_sorts_1 21 rfl rfl)
theorem dX1_sorts_48 : decode cX1_sorts 48 = .ok (.iinc 2 1, 3) := dk_132 2 1 (dk_at dksX1_sorts_2 0 rfl rfl)
theorem dX1_sorts_51 : decode cX1_sorts 51 = .ok (.goto (-38), 3) := dk_167 255 218 (dk_at dksX1_sorts_2 3 rfl rfl)
theorem dX1_sorts_54 : decode cX1_sorts 54 = .ok (.aload_n 0, 1) := dk_42 (dk_at dksX1_sorts_2 6 rfl rfl)
theorem dX1_sorts_55 : decode cX1_sorts 55 = .ok (.iload_n 1, 1) := dk_27 (dk_at dksX1_sorts_2 7 rfl rfl)
theorem dX1_sorts_56 : decode cX1_sorts 56 = .ok (.aload_n 0, 1) := dk_42 (dk_at dksX1_sorts_2 8 rfl rfl)
theorem dX1_sorts_57 : decode cX1_sorts 57 = .ok (.invokevirtual 270, 3) := dk_182 1 14 (dk_at dksX1_sorts_2 9 rfl rfl)
theorem dX1_sorts_60 : decode cX1_sorts 60 = .ok (.isub, 1) := dk_100 (dk_at dksX1_sorts_2 12 rfl rfl)
theorem dX1_sorts_61 : decode cX1_sorts 61 = .ok (.invokevirtual 97, 3) := dk_182 0 97 (dk_at dksX1_sorts_2 13 rfl rfl)
theorem dX1_sorts_64 : decode cX1_sorts 64 = .ok (.ireturn, 1) := dk_172 (dk_at dksX1_sorts_2 16 rfl rfl)
abbrev cX1_groupOf : ByteArray := prog_1_method_63_code
def yX1_groupOf : MethodName := ⟨RX1, "groupOf", "(II)Ljava/util/ArrayList;"⟩
def dkwX1_groupOf_6 : List UInt8 := [45, 176]
abbrev dktX1_groupOf_6 : List UInt8 := dkwX1_groupOf_6 ++ []
def dkwX1_groupOf_5 : List UInt8 := [132, 7, 1, 167, 255, 214, 21, 6, 153, 0, 10, 45, 25, 5, 182, 1, 116, 87, 132, 4, 1, 167, 255, 128]
abbrev dktX1_groupOf_5 : List UInt8 := dkwX1_groupOf_5 ++ dktX1_groupOf_6
def dkwX1_groupOf_4 : List UInt8 := [25, 5, 45, 21, 7, 182, 1, 131, 192, 0, 189, 182, 1, 226, 154, 0, 7, 4, 167, 0, 4, 3, 54, 6]
abbrev dktX1_groupOf_4 : List UInt8 := dkwX1_groupOf_4 ++ dktX1_groupOf_5
def dkwX1_groupOf_3 : List UInt8 := [167, 0, 4, 3, 54, 6, 3, 54, 7, 21, 7, 45, 182, 1, 128, 162, 0, 39, 21, 6, 153, 0, 34, 42]
abbrev dktX1_groupOf_3 : List UInt8 := dkwX1_groupOf_3 ++ dktX1_groupOf_4
def dkwX1_groupOf_2 : List UInt8 := [153, 0, 25, 25, 5, 180, 1, 145, 27, 160, 0, 16, 25, 5, 180, 0, 199, 28, 160, 0, 7, 4]
abbrev dktX1_groupOf_2 : List UInt8 := dkwX1_groupOf_2 ++ dktX1_groupOf_3
def dkwX1_groupOf_1 : List UInt8 := [182, 1, 128, 8, 162, 0, 114, 42, 180, 0, 67, 180, 0, 184, 21, 4, 50, 58, 5, 25, 5, 182, 1, 17]
abbrev dktX1_groupOf_1 : List UInt8 := dkwX1_groupOf_1 ++ dktX1_groupOf_2
def dkwX1_groupOf_0 : List UInt8 := [187, 1, 105, 89, 183, 1, 107, 78, 3, 54, 4, 21, 4, 42, 180, 0, 67, 180, 0, 100, 162, 0, 122, 45]
abbrev dktX1_groupOf_0 : List UInt8 := dkwX1_groupOf_0 ++ dktX1_groupOf_1
theorem dksX1_groupOf_0 : cX1_groupOf.data.toList.drop 0 = dktX1_groupOf_0 := by decide +kernel
theorem dksX1_groupOf_1 : cX1_groupOf.data.toList.drop 24 = dktX1_groupOf_1 := dk_seg dksX1_groupOf_0 24 rfl rfl
theorem dksX1_groupOf_2 : cX1_groupOf.data.toList.drop 48 = dktX1_groupOf_2 := dk_seg dksX1_groupOf_1 24 rfl rfl
theorem dksX1_groupOf_3 : cX1_groupOf.data.toList.drop 70 = dktX1_groupOf_3 := dk_seg dksX1_groupOf_2 22 rfl rfl
theorem dksX1_groupOf_4 : cX1_groupOf.data.toList.drop 94 = dktX1_groupOf_4 := dk_seg dksX1_groupOf_3 24 rfl rfl
theorem dksX1_groupOf_5 : cX1_groupOf.data.toList.drop 118 = dktX1_groupOf_5 := dk_seg dksX1_groupOf_4 24 rfl rfl
theorem dksX1_groupOf_6 : cX1_groupOf.data.toList.drop 142 = dktX1_groupOf_6 := dk_seg dksX1_groupOf_5 24 rfl rfl
theorem dX1_groupOf_0 : decode cX1_groupOf 0 = .ok (.new 361, 3) := dk_187 1 105 (dk_at dksX1_groupOf_0 0 rfl rfl)
theorem dX1_groupOf_3 : decode cX1_groupOf 3 = .ok (.dup, 1) := dk_89 (dk_at dksX1_groupOf_0 3 rfl rfl)
theorem dX1_groupOf_4 : decode cX1_groupOf 4 = .ok (.invokespecial 363, 3) := dk_183 1 107 (dk_at dksX1_groupOf_0 4 rfl rfl)
theorem dX1_groupOf_7 : decode cX1_groupOf 7 = .ok (.astore_n 3, 1) := dk_78 (dk_at dksX1_groupOf_0 7 rfl rfl)
theorem dX1_groupOf_8 : decode cX1_groupOf 8 = .ok (.iconst 0, 1) := dk_3 (dk_at dksX1_groupOf_0 8 rfl rfl)
theorem dX1_groupOf_9 : decode cX1_groupOf 9 = .ok (.istore 4, 2) := dk_54 4 (dk_at dksX1_groupOf_0 9 rfl rfl)
theorem dX1_groupOf_11 : decode cX1_groupOf 11 = .ok (.iload 4, 2) := dk_21 4 (dk_at dksX1_groupOf_0 11 rfl rfl)
theorem dX1_groupOf_13 : decode cX1_groupOf 13 = .ok (.aload_n 0, 1) := dk_42 (dk_at dksX1_groupOf_0 13 rfl rfl)
theorem dX1_groupOf_14 : decode cX1_groupOf 14 = .ok (.getfield 67, 3) := dk_180 0 67 (dk_at dksX1_groupOf_0 14 rfl rfl)
theorem dX1_groupOf_17 : decode cX1_groupOf 17 = .ok (.getfield 100, 3) := dk_180 0 100 (dk_at dksX1_groupOf_0 17 rfl rfl)
theorem dX1_groupOf_20 : decode cX1_groupOf 20 = .ok (.if_icmp .ge 122, 3) := dk_162 0 122 (dk_at dksX1_groupOf_0 20 rfl rfl)
theorem dX1_groupOf_23 : decode cX1_groupOf 23 = .ok (.aload_n 3, 1) := dk_45 (dk_at dksX1_groupOf_0 23 rfl rfl)
theorem dX1_groupOf_24 : decode cX1_groupOf 24 = .ok (.invokevirtual 384, 3) := dk_182 1 128 (dk_at dksX1_groupOf_1 0 rfl rfl)
theorem dX1_groupOf_27 : decode cX1_groupOf 27 = .ok (.iconst 5, 1) := dk_8 (dk_at dksX1_groupOf_1 3 rfl rfl)
theorem dX1_groupOf_28 : decode cX1_groupOf 28 = .ok (.if_icmp .ge 114, 3) := dk_162 0 114 (dk_at dksX1_groupOf_1 4 rfl rfl)
theorem dX1_groupOf_31 : decode cX1_groupOf 31 = .ok (.aload_n 0, 1) := dk_42 (dk_at dksX1_groupOf_1 7 rfl rfl)
theorem dX1_groupOf_32 : decode cX1_groupOf 32 = .ok (.getfield 67, 3) := dk_180 0 67 (dk_at dksX1_groupOf_1 8 rfl rfl)
theorem dX1_groupOf_35 : decode cX1_groupOf 35 = .ok (.getfield 184, 3) := dk_180 0 184 (dk_at dksX1_groupOf_1 11 rfl rfl)
theorem dX1_groupOf_38 : decode cX1_groupOf 38 = .ok (.iload 4, 2) := dk_21 4 (dk_at dksX1_groupOf_1 14 rfl rfl)
theorem dX1_groupOf_40 : decode cX1_groupOf 40 = .ok (.aaload, 1) := dk_50 (dk_at dksX1_groupOf_1 16 rfl rfl)
theorem dX1_groupOf_41 : decode cX1_groupOf 41 = .ok (.astore 5, 2) := dk_58 5 (dk_at dksX1_groupOf_1 17 rfl rfl)
theorem dX1_groupOf_43 : decode cX1_groupOf 43 = .ok (.aload 5, 2) := dk_25 5 (dk_at dksX1_groupOf_1 19 rfl rfl)
theorem dX1_groupOf_45 : decode cX1_groupOf 45 = .ok (.invokevirtual 273, 3) := dk_182 1 17 (dk_at dksX1_groupOf_1 21 rfl rfl)
theorem dX1_groupOf_48 : decode cX1_groupOf 48 = .ok (.ifCond .eq 25, 3) := dk_153 0 25 (dk_at dksX1_groupOf_2 0 rfl rfl)
theorem dX1_groupOf_51 : decode cX1_groupOf 51 = .ok (.aload 5, 2) := dk_25 5 (dk_at dksX1_groupOf_2 3 rfl rfl)
theorem dX1_groupOf_53 : decode cX1_groupOf 53 = .ok (.getfield 401, 3) := dk_180 1 145 (dk_at dksX1_groupOf_2 5 rfl rfl)
theorem dX1_groupOf_56 : decode cX1_groupOf 56 = .ok (.iload_n 1, 1) := dk_27 (dk_at dksX1_groupOf_2 8 rfl rfl)
theorem dX1_groupOf_57 : decode cX1_groupOf 57 = .ok (.if_icmp .ne 16, 3) := dk_160 0 16 (dk_at dksX1_groupOf_2 9 rfl rfl)
theorem dX1_groupOf_60 : decode cX1_groupOf 60 = .ok (.aload 5, 2) := dk_25 5 (dk_at dksX1_groupOf_2 12 rfl rfl)
theorem dX1_groupOf_62 : decode cX1_groupOf 62 = .ok (.getfield 199, 3) := dk_180 0 199 (dk_at dksX1_groupOf_2 14 rfl rfl)
theorem dX1_groupOf_65 : decode cX1_groupOf 65 = .ok (.iload_n 2, 1) := dk_28 (dk_at dksX1_groupOf_2 17 rfl rfl)
theorem dX1_groupOf_66 : decode cX1_groupOf 66 = .ok (.if_icmp .ne 7, 3) := dk_160 0 7 (dk_at dksX1_groupOf_2 18 rfl rfl)
theorem dX1_groupOf_69 : decode cX1_groupOf 69 = .ok (.iconst 1, 1) := dk_4 (dk_at dksX1_groupOf_2 21 rfl rfl)
theorem dX1_groupOf_70 : decode cX1_groupOf 70 = .ok (.goto 4, 3) := dk_167 0 4 (dk_at dksX1_groupOf_3 0 rfl rfl)
theorem dX1_groupOf_73 : decode cX1_groupOf 73 = .ok (.iconst 0, 1) := dk_3 (dk_at dksX1_groupOf_3 3 rfl rfl)
theorem dX1_groupOf_74 : decode cX1_groupOf 74 = .ok (.istore 6, 2) := dk_54 6 (dk_at dksX1_groupOf_3 4 rfl rfl)
theorem dX1_groupOf_76 : decode cX1_groupOf 76 = .ok (.iconst 0, 1) := dk_3 (dk_at dksX1_groupOf_3 6 rfl rfl)
theorem dX1_groupOf_77 : decode cX1_groupOf 77 = .ok (.istore 7, 2) := dk_54 7 (dk_at dksX1_groupOf_3 7 rfl rfl)
theorem dX1_groupOf_79 : decode cX1_groupOf 79 = .ok (.iload 7, 2) := dk_21 7 (dk_at dksX1_groupOf_3 9 rfl rfl)
theorem dX1_groupOf_81 : decode cX1_groupOf 81 = .ok (.aload_n 3, 1) := dk_45 (dk_at dksX1_groupOf_3 11 rfl rfl)
theorem dX1_groupOf_82 : decode cX1_groupOf 82 = .ok (.invokevirtual 384, 3) := dk_182 1 128 (dk_at dksX1_groupOf_3 12 rfl rfl)
theorem dX1_groupOf_85 : decode cX1_groupOf 85 = .ok (.if_icmp .ge 39, 3) := dk_162 0 39 (dk_at dksX1_groupOf_3 15 rfl rfl)
theorem dX1_groupOf_88 : decode cX1_groupOf 88 = .ok (.iload 6, 2) := dk_21 6 (dk_at dksX1_groupOf_3 18 rfl rfl)
theorem dX1_groupOf_90 : decode cX1_groupOf 90 = .ok (.ifCond .eq 34, 3) := dk_153 0 34 (dk_at dksX1_groupOf_3 20 rfl rfl)
theorem dX1_groupOf_93 : decode cX1_groupOf 93 = .ok (.aload_n 0, 1) := dk_42 (dk_at dksX1_groupOf_3 23 rfl rfl)
theorem dX1_groupOf_94 : decode cX1_groupOf 94 = .ok (.aload 5, 2) := dk_25 5 (dk_at dksX1_groupOf_4 0 rfl rfl)
theorem dX1_groupOf_96 : decode cX1_groupOf 96 = .ok (.aload_n 3, 1) := dk_45 (dk_at dksX1_groupOf_4 2 rfl rfl)
theorem dX1_groupOf_97 : decode cX1_groupOf 97 = .ok (.iload 7, 2) := dk_21 7 (dk_at dksX1_groupOf_4 3 rfl rfl)
theorem dX1_groupOf_99 : decode cX1_groupOf 99 = .ok (.invokevirtual 387, 3) := dk_182 1 131 (dk_at dksX1_groupOf_4 5 rfl rfl)
theorem dX1_groupOf_102 : decode cX1_groupOf 102 = .ok (.checkcast 189, 3) := dk_192 0 189 (dk_at dksX1_groupOf_4 8 rfl rfl)
theorem dX1_groupOf_105 : decode cX1_groupOf 105 = .ok (.invokevirtual 482, 3) := dk_182 1 226 (dk_at dksX1_groupOf_4 11 rfl rfl)
theorem dX1_groupOf_108 : decode cX1_groupOf 108 = .ok (.ifCond .ne 7, 3) := dk_154 0 7 (dk_at dksX1_groupOf_4 14 rfl rfl)
theorem dX1_groupOf_111 : decode cX1_groupOf 111 = .ok (.iconst 1, 1) := dk_4 (dk_at dksX1_groupOf_4 17 rfl rfl)
theorem dX1_groupOf_112 : decode cX1_groupOf 112 = .ok (.goto 4, 3) := dk_167 0 4 (dk_at dksX1_groupOf_4 18 rfl rfl)
theorem dX1_groupOf_115 : decode cX1_groupOf 115 = .ok (.iconst 0, 1) := dk_3 (dk_at dksX1_groupOf_4 21 rfl rfl)
theorem dX1_groupOf_116 : decode cX1_groupOf 116 = .ok (.istore 6, 2) := dk_54 6 (dk_at dksX1_groupOf_4 22 rfl rfl)
theorem dX1_groupOf_118 : decode cX1_groupOf 118 = .ok (.iinc 7 1, 3) := dk_132 7 1 (dk_at dksX1_groupOf_5 0 rfl rfl)
theorem dX1_groupOf_121 : decode cX1_groupOf 121 = .ok (.goto (-42), 3) := dk_167 255 214 (dk_at dksX1_groupOf_5 3 rfl rfl)
theorem dX1_groupOf_124 : decode cX1_groupOf 124 = .ok (.iload 6, 2) := dk_21 6 (dk_at dksX1_groupOf_5 6 rfl rfl)
theorem dX1_groupOf_126 : decode cX1_groupOf 126 = .ok (.ifCond .eq 10, 3) := dk_153 0 10 (dk_at dksX1_groupOf_5 8 rfl rfl)
theorem dX1_groupOf_129 : decode cX1_groupOf 129 = .ok (.aload_n 3, 1) := dk_45 (dk_at dksX1_groupOf_5 11 rfl rfl)
theorem dX1_groupOf_130 : decode cX1_groupOf 130 = .ok (.aload 5, 2) := dk_25 5 (dk_at dksX1_groupOf_5 12 rfl rfl)
theorem dX1_groupOf_132 : decode cX1_groupOf 132 = .ok (.invokevirtual 372, 3) := dk_182 1 116 (dk_at dksX1_groupOf_5 14 rfl rfl)
theorem dX1_groupOf_135 : decode cX1_groupOf 135 = .ok (.pop, 1) := dk_87 (dk_at dksX1_groupOf_5 17 rfl rfl)
theorem dX1_groupOf_136 : decode cX1_groupOf 136 = .ok (.iinc 4 1, 3) := dk_132 4 1 (dk_at dksX1_groupOf_5 18 rfl rfl)
theorem dX1_groupOf_139 : decode cX1_groupOf 139 = .ok (.goto (-128), 3) := dk_167 255 128 (dk_at dksX1_groupOf_5 21 rfl rfl)
theorem dX1_groupOf_142 : decode cX1_groupOf 142 = .ok (.aload_n 3, 1) := dk_45 (dk_at dksX1_groupOf_6 0 rfl rfl)
theorem dX1_groupOf_143 : decode cX1_groupOf 143 = .ok (.areturn, 1) := dk_176 (dk_at dksX1_groupOf_6 1 rfl rfl)
abbrev cX1_haveNet : ByteArray := prog_1_method_62_code
def yX1_haveNet : MethodName := ⟨RX1, "haveNet", "(LCellRows$Cell;LCellRows$Cell;)Z"⟩
def dkwX1_haveNet_2 : List UInt8 := [182, 0, 208, 2, 159, 0, 5, 4, 172, 132, 3, 1, 167, 255, 200, 3, 172]
abbrev dktX1_haveNet_2 : List UInt8 := dkwX1_haveNet_2 ++ []
def dkwX1_haveNet_1 : List UInt8 := [180, 1, 60, 182, 0, 208, 2, 159, 0, 25, 42, 180, 0, 67, 180, 0, 223, 29, 50, 44, 180, 1, 60]
abbrev dktX1_haveNet_1 : List UInt8 := dkwX1_haveNet_1 ++ dktX1_haveNet_2
def dkwX1_haveNet_0 : List UInt8 := [3, 62, 29, 42, 180, 0, 67, 180, 0, 107, 162, 0, 51, 42, 180, 0, 67, 180, 0, 223, 29, 50, 43]
abbrev dktX1_haveNet_0 : List UInt8 := dkwX1_haveNet_0 ++ dktX1_haveNet_1
theorem dksX1_haveNet_0 : cX1_haveNet.data.toList.drop 0 = dktX1_haveNet_0 := by decide +kernel
theorem dksX1_haveNet_1 : cX1_haveNet.data.toList.drop 23 = dktX1_haveNet_1 := dk_seg dksX1_haveNet_0 23 rfl rfl
theorem dksX1_haveNet_2 : cX1_haveNet.data.toList.drop 46 = dktX1_haveNet_2 := dk_seg dksX1_haveNet_1 23 rfl rfl
theorem dX1_haveNet_0 : decode cX1_haveNet 0 = .ok (.iconst 0, 1) := dk_3 (dk_at dksX1_haveNet_0 0 rfl rfl)
theorem dX1_haveNet_1 : decode cX1_haveNet 1 = .ok (.istore_n 3, 1) := dk_62 (dk_at dksX1_haveNet_0 1 rfl rfl)
theorem dX1_haveNet_2 : decode cX1_haveNet 2 = .ok (.iload_n 3, 1) := dk_29 (dk_at dksX1_haveNet_0 2 rfl rfl)
theorem dX1_haveNet_3 : decode cX1_haveNet 3 = .ok (.aload_n 0, 1) := dk_42 (dk_at dksX1_haveNet_0 3 rfl rfl)
theorem dX1_haveNet_4 : decode cX1_haveNet 4 = .ok (.getfield 67, 3) := dk_180 0 67 (dk_at dksX1_haveNet_0 4 rfl rfl)
theorem dX1_haveNet_7 : decode cX1_haveNet 7 = .ok (.getfield 107, 3) := dk_180 0 107 (dk_at dksX1_haveNet_0 7 rfl rfl)
theorem dX1_haveNet_10 : decode cX1_haveNet 10 = .ok (.if_icmp .ge 51, 3) := dk_162 0 51 (dk_at dksX1_haveNet_0 10 rfl rfl)
theorem dX1_haveNet_13 : decode cX1_haveNet 13 = .ok (.aload_n 0, 1) := dk_42 (dk_at dksX1_haveNet_0 13 rfl rfl)
theorem dX1_haveNet_14 : decode cX1_haveNet 14 = .ok (.getfield 67, 3) := dk_180 0 67 (dk_at dksX1_haveNet_0 14 rfl rfl)
theorem dX1_haveNet_17 : decode cX1_haveNet 17 = .ok (.getfield 223, 3) := dk_180 0 223 (dk_at dksX1_haveNet_0 17 rfl rfl)
theorem dX1_haveNet_20 : decode cX1_haveNet 20 = .ok (.iload_n 3, 1) := dk_29 (dk_at dksX1_haveNet_0 20 rfl rfl)
theorem dX1_haveNet_21 : decode cX1_haveNet 21 = .ok (.aaload, 1) := dk_50 (dk_at dksX1_haveNet_0 21 rfl rfl)
theorem dX1_haveNet_22 : decode cX1_haveNet 22 = .ok (.aload_n 1, 1) := dk_43 (dk_at dksX1_haveNet_0 22 rfl rfl)
theorem dX1_haveNet_23 : decode cX1_haveNet 23 = .ok (.getfield 316, 3) := dk_180 1 60 (dk_at dksX1_haveNet_1 0 rfl rfl)
theorem dX1_haveNet_26 : decode cX1_haveNet 26 = .ok (.invokevirtual 208, 3) := dk_182 0 208 (dk_at dksX1_haveNet_1 3 rfl rfl)
theorem dX1_haveNet_29 : decode cX1_haveNet 29 = .ok (.iconst (-1), 1) := dk_2 (dk_at dksX1_haveNet_1 6 rfl rfl)
theorem dX1_haveNet_30 : decode cX1_haveNet 30 = .ok (.if_icmp .eq 25, 3) := dk_159 0 25 (dk_at dksX1_haveNet_1 7 rfl rfl)
theorem dX1_haveNet_33 : decode cX1_haveNet 33 = .ok (.aload_n 0, 1) := dk_42 (dk_at dksX1_haveNet_1 10 rfl rfl)
theorem dX1_haveNet_34 : decode cX1_haveNet 34 = .ok (.getfield 67, 3) := dk_180 0 67 (dk_at dksX1_haveNet_1 11 rfl rfl)
theorem dX1_haveNet_37 : decode cX1_haveNet 37 = .ok (.getfield 223, 3) := dk_180 0 223 (dk_at dksX1_haveNet_1 14 rfl rfl)
theorem dX1_haveNet_40 : decode cX1_haveNet 40 = .ok (.iload_n 3, 1) := dk_29 (dk_at dksX1_haveNet_1 17 rfl rfl)
theorem dX1_haveNet_41 : decode cX1_haveNet 41 = .ok (.aaload, 1) := dk_50 (dk_at dksX1_haveNet_1 18 rfl rfl)
theorem dX1_haveNet_42 : decode cX1_haveNet 42 = .ok (.aload_n 2, 1) := dk_44 (dk_at dksX1_haveNet_1 19 rfl rfl)
theorem dX1_haveNet_43 : decode cX1_haveNet 43 = .ok (.getfield 316, 3) := dk_180 1 60 (dk_at dksX1_haveNet_1 20 rfl rfl)
theorem dX1_haveNet_46 : decode cX1_haveNet 46 = .ok (.invokevirtual 208, 3) := dk_182 0 208 (dk_at dksX1_haveNet_2 0 rfl rfl)
theorem dX1_haveNet_49 : decode cX1_haveNet 49 = .ok (.iconst (-1), 1) := dk_2 (dk_at dksX1_haveNet_2 3 rfl rfl)
theorem dX1_haveNet_50 : decode cX1_haveNet 50 = .ok (.if_icmp .eq 5, 3) := dk_159 0 5 (dk_at dksX1_haveNet_2 4 rfl rfl)
theorem dX1_haveNet_53 : decode cX1_haveNet 53 = .ok (.iconst 1, 1) := dk_4 (dk_at dksX1_haveNet_2 7 rfl rfl)
theorem dX1_haveNet_54 : decode cX1_haveNet 54 = .ok (.ireturn, 1) := dk_172 (dk_at dksX1_haveNet_2 8 rfl rfl)
theorem dX1_haveNet_55 : decode cX1_haveNet 55 = .ok (.iinc 3 1, 3) := dk_132 3 1 (dk_at dksX1_haveNet_2 9 rfl rfl)
theorem dX1_haveNet_58 : decode cX1_haveNet 58 = .ok (.goto (-56), 3) := dk_167 255 200 (dk_at dksX1_haveNet_2 12 rfl rfl)
theorem dX1_haveNet_61 : decode cX1_haveNet 61 = .ok (.iconst 0, 1) := dk_3 (dk_at dksX1_haveNet_2 15 rfl rfl)
theorem dX1_haveNet_62 : decode cX1_haveNet 62 = .ok (.ireturn, 1) := dk_172 (dk_at dksX1_haveNet_2 16 rfl rfl)
abbrev cX1_sorts_2 : ByteArray := prog_1_method_64_code
def yX1_sorts_2 : MethodName := ⟨RX1, "sorts", "(Ljava/util/ArrayList;)V"⟩
def dkwX1_sorts_2_3 : List UInt8 := [25, 4, 183, 1, 231, 182, 1, 234, 177]
abbrev dktX1_sorts_2_3 : List UInt8 := dkwX1_sorts_2_3 ++ []
def dkwX1_sorts_2_2 : List UInt8 := [182, 1, 131, 192, 0, 189, 180, 1, 192, 79, 132, 5, 1, 167, 255, 214, 187, 1, 229, 89, 42, 28, 43, 45]
abbrev dktX1_sorts_2_2 : List UInt8 := dkwX1_sorts_2_2 ++ dktX1_sorts_2_3
def dkwX1_sorts_2_1 : List UInt8 := [21, 5, 43, 21, 5, 182, 1, 131, 192, 0, 189, 180, 1, 11, 79, 25, 4, 21, 5, 43, 21, 5]
abbrev dktX1_sorts_2_1 : List UInt8 := dkwX1_sorts_2_1 ++ dktX1_sorts_2_2
def dkwX1_sorts_2_0 : List UInt8 := [43, 182, 1, 128, 61, 28, 188, 10, 78, 28, 188, 10, 58, 4, 3, 54, 5, 21, 5, 28, 162, 0, 42, 45]
abbrev dktX1_sorts_2_0 : List UInt8 := dkwX1_sorts_2_0 ++ dktX1_sorts_2_1
theorem dksX1_sorts_2_0 : cX1_sorts_2.data.toList.drop 0 = dktX1_sorts_2_0 := by decide +kernel
theorem dksX1_sorts_2_1 : cX1_sorts_2.data.toList.drop 24 = dktX1_sorts_2_1 := dk_seg dksX1_sorts_2_0 24 rfl rfl
theorem dksX1_sorts_2_2 : cX1_sorts_2.data.toList.drop 46 = dktX1_sorts_2_2 := dk_seg dksX1_sorts_2_1 22 rfl rfl
theorem dksX1_sorts_2_3 : cX1_sorts_2.data.toList.drop 70 = dktX1_sorts_2_3 := dk_seg dksX1_sorts_2_2 24 rfl rfl
theorem dX1_sorts_2_0 : decode cX1_sorts_2 0 = .ok (.aload_n 1, 1) := dk_43 (dk_at dksX1_sorts_2_0 0 rfl rfl)
theorem dX1_sorts_2_1 : decode cX1_sorts_2 1 = .ok (.invokevirtual 384, 3) := dk_182 1 128 (dk_at dksX1_sorts_2_0 1 rfl rfl)
theorem dX1_sorts_2_4 : decode cX1_sorts_2 4 = .ok (.istore_n 2, 1) := dk_61 (dk_at dksX1_sorts_2_0 4 rfl rfl)
theorem dX1_sorts_2_5 : decode cX1_sorts_2 5 = .ok (.iload_n 2, 1) := dk_28 (dk_at dksX1_sorts_2_0 5 rfl rfl)
theorem dX1_sorts_2_6 : decode cX1_sorts_2 6 = .ok (.newarray .int, 2) := dk_188_10 (dk_at dksX1_sorts_2_0 6 rfl rfl)
theorem dX1_sorts_2_8 : decode cX1_sorts_2 8 = .ok (.astore_n 3, 1) := dk_78 (dk_at dksX1_sorts_2_0 8 rfl rfl)
theorem dX1_sorts_2_9 : decode cX1_sorts_2 9 = .ok (.iload_n 2, 1) := dk_28 (dk_at dksX1_sorts_2_0 9 rfl rfl)
theorem dX1_sorts_2_10 : decode cX1_sorts_2 10 = .ok (.newarray .int, 2) := dk_188_10 (dk_at dksX1_sorts_2_0 10 rfl rfl)
theorem dX1_sorts_2_12 : decode cX1_sorts_2 12 = .ok (.astore 4, 2) := dk_58 4 (dk_at dksX1_sorts_2_0 12 rfl rfl)
theorem dX1_sorts_2_14 : decode cX1_sorts_2 14 = .ok (.iconst 0, 1) := dk_3 (dk_at dksX1_sorts_2_0 14 rfl rfl)
theorem dX1_sorts_2_15 : decode cX1_sorts_2 15 = .ok (.istore 5, 2) := dk_54 5 (dk_at dksX1_sorts_2_0 15 rfl rfl)
theorem dX1_sorts_2_17 : decode cX1_sorts_2 17 = .ok (.iload 5, 2) := dk_21 5 (dk_at dksX1_sorts_2_0 17 rfl rfl)
theorem dX1_sorts_2_19 : decode cX1_sorts_2 19 = .ok (.iload_n 2, 1) := dk_28 (dk_at dksX1_sorts_2_0 19 rfl rfl)
theorem dX1_sorts_2_20 : decode cX1_sorts_2 20 = .ok (.if_icmp .ge 42, 3) := dk_162 0 42 (dk_at dksX1_sorts_2_0 20 rfl rfl)
theorem dX1_sorts_2_23 : decode cX1_sorts_2 23 = .ok (.aload_n 3, 1) := dk_45 (dk_at dksX1_sorts_2_0 23 rfl rfl)
theorem dX1_sorts_2_24 : decode cX1_sorts_2 24 = .ok (.iload 5, 2) := dk_21 5 (dk_at dksX1_sorts_2_1 0 rfl rfl)
theorem dX1_sorts_2_26 : decode cX1_sorts_2 26 = .ok (.aload_n 1, 1) := dk_43 (dk_at dksX1_sorts_2_1 2 rfl rfl)
theorem dX1_sorts_2_27 : decode cX1_sorts_2 27 = .ok (.iload 5, 2) := dk_21 5 (dk_at dksX1_sorts_2_1 3 rfl rfl)
theorem dX1_sorts_2_29 : decode cX1_sorts_2 29 = .ok (.invokevirtual 387, 3) := dk_182 1 131 (dk_at dksX1_sorts_2_1 5 rfl rfl)
theorem dX1_sorts_2_32 : decode cX1_sorts_2 32 = .ok (.checkcast 189, 3) := dk_192 0 189 (dk_at dksX1_sorts_2_1 8 rfl rfl)
theorem dX1_sorts_2_35 : decode cX1_sorts_2 35 = .ok (.getfield 267, 3) := dk_180 1 11 (dk_at dksX1_sorts_2_1 11 rfl rfl)
theorem dX1_sorts_2_38 : decode cX1_sorts_2 38 = .ok (.iastore, 1) := dk_79 (dk_at dksX1_sorts_2_1 14 rfl rfl)
theorem dX1_sorts_2_39 : decode cX1_sorts_2 39 = .ok (.aload 4, 2) := dk_25 4 (dk_at dksX1_sorts_2_1 15 rfl rfl)
theorem dX1_sorts_2_41 : decode cX1_sorts_2 41 = .ok (.iload 5, 2) := dk_21 5 (dk_at dksX1_sorts_2_1 17 rfl rfl)
theorem dX1_sorts_2_43 : decode cX1_sorts_2 43 = .ok (.aload_n 1, 1) := dk_43 (dk_at dksX1_sorts_2_1 19 rfl rfl)
theorem dX1_sorts_2_44 : decode cX1_sorts_2 44 = .ok (.iload 5, 2) := dk_21 5 (dk_at dksX1_sorts_2_1 20 rfl rfl)
theorem dX1_sorts_2_46 : decode cX1_sorts_2 46 = .ok (.invokevirtual 387, 3) := dk_182 1 131 (dk_at dksX1_sorts_2_2 0 rfl rfl)
theorem dX1_sorts_2_49 : decode cX1_sorts_2 49 = .ok (.checkcast 189, 3) := dk_192 0 189 (dk_at dksX1_sorts_2_2 3 rfl rfl)
theorem dX1_sorts_2_52 : decode cX1_sorts_2 52 = .ok (.getfield 448, 3) := dk_180 1 192 (dk_at dksX1_sorts_2_2 6 rfl rfl)
theorem dX1_sorts_2_55 : decode cX1_sorts_2 55 = .ok (.iastore, 1) := dk_79 (dk_at dksX1_sorts_2_2 9 rfl rfl)
theorem dX1_sorts_2_56 : decode cX1_sorts_2 56 = .ok (.iinc 5 1, 3) := dk_132 5 1 (dk_at dksX1_sorts_2_2 10 rfl rfl)
theorem dX1_sorts_2_59 : decode cX1_sorts_2 59 = .ok (.goto (-42), 3) := dk_167 255 214 (dk_at dksX1_sorts_2_2 13 rfl rfl)
theorem dX1_sorts_2_62 : decode cX1_sorts_2 62 = .ok (.new 485, 3) := dk_187 1 229 (dk_at dksX1_sorts_2_2 16 rfl rfl)
theorem dX1_sorts_2_65 : decode cX1_sorts_2 65 = .ok (.dup, 1) := dk_89 (dk_at dksX1_sorts_2_2 19 rfl rfl)
theorem dX1_sorts_2_66 : decode cX1_sorts_2 66 = .ok (.aload_n 0, 1) := dk_42 (dk_at dksX1_sorts_2_2 20 rfl rfl)
theorem dX1_sorts_2_67 : decode cX1_sorts_2 67 = .ok (.iload_n 2, 1) := dk_28 (dk_at dksX1_sorts_2_2 21 rfl rfl)
theorem dX1_sorts_2_68 : decode cX1_sorts_2 68 = .ok (.aload_n 1, 1) := dk_43 (dk_at dksX1_sorts_2_2 22 rfl rfl)
theorem dX1_sorts_2_69 : decode cX1_sorts_2 69 = .ok (.aload_n 3, 1) := dk_45 (dk_at dksX1_sorts_2_2 23 rfl rfl)
theorem dX1_sorts_2_70 : decode cX1_sorts_2 70 = .ok (.aload 4, 2) := dk_25 4 (dk_at dksX1_sorts_2_3 0 rfl rfl)
theorem dX1_sorts_2_72 : decode cX1_sorts_2 72 = .ok (.invokespecial 487, 3) := dk_183 1 231 (dk_at dksX1_sorts_2_3 2 rfl rfl)
theorem dX1_sorts_2_75 : decode cX1_sorts_2 75 = .ok (.invokevirtual 490, 3) := dk_182 1 234 (dk_at dksX1_sorts_2_3 5 rfl rfl)
theorem dX1_sorts_2_78 : decode cX1_sorts_2 78 = .ok (.return_, 1) := dk_177 (dk_at dksX1_sorts_2_3 8 rfl rfl)
abbrev cX1_shake : ByteArray := prog_1_method_67_code
def yX1_shake : MethodName := ⟨RX1, "shake", "(III)I"⟩
def dkwX1_shake_11 : List UInt8 := [42, 21, 4, 42, 182, 1, 14, 100, 182, 0, 97, 172]
abbrev dktX1_shake_11 : List UInt8 := dkwX1_shake_11 ++ []
def dkwX1_shake_10 : List UInt8 := [50, 42, 180, 0, 49, 21, 8, 46, 42, 180, 0, 52, 21, 8, 46, 182, 1, 8, 132, 8, 1, 167, 255, 214]
abbrev dktX1_shake_10 : List UInt8 := dkwX1_shake_10 ++ dktX1_shake_11
def dkwX1_shake_9 : List UInt8 := [3, 54, 8, 21, 8, 42, 180, 0, 67, 180, 0, 100, 162, 0, 36, 42, 180, 0, 67, 180, 0, 184, 21, 8]
abbrev dktX1_shake_9 : List UInt8 := dkwX1_shake_9 ++ dktX1_shake_10
def dkwX1_shake_8 : List UInt8 := [21, 5, 161, 0, 6, 167, 0, 13, 42, 182, 1, 14, 54, 5, 42, 182, 1, 243, 132, 8, 1, 167, 255, 132]
abbrev dktX1_shake_8 : List UInt8 := dkwX1_shake_8 ++ dktX1_shake_9
def dkwX1_shake_7 : List UInt8 := [42, 182, 1, 14, 21, 7, 96, 182, 1, 219, 16, 7, 21, 7, 104, 16, 8, 108, 54, 7, 42, 182, 1, 14]
abbrev dktX1_shake_7 : List UInt8 := dkwX1_shake_7 ++ dktX1_shake_8
def dkwX1_shake_6 : List UInt8 := [180, 0, 184, 21, 9, 50, 42, 180, 0, 67, 180, 0, 184, 21, 6, 42, 180, 0, 67, 180, 0, 100, 112, 50]
abbrev dktX1_shake_6 : List UInt8 := dkwX1_shake_6 ++ dktX1_shake_7
def dkwX1_shake_5 : List UInt8 := [54, 9, 21, 6, 17, 4, 79, 104, 17, 48, 57, 96, 19, 1, 246, 112, 54, 6, 42, 42, 180, 0, 67]
abbrev dktX1_shake_5 : List UInt8 := dkwX1_shake_5 ++ dktX1_shake_6
def dkwX1_shake_4 : List UInt8 := [17, 4, 79, 104, 17, 48, 57, 96, 19, 1, 246, 112, 54, 6, 21, 6, 42, 180, 0, 67, 180, 0, 100, 112]
abbrev dktX1_shake_4 : List UInt8 := dkwX1_shake_4 ++ dktX1_shake_5
def dkwX1_shake_3 : List UInt8 := [54, 5, 27, 54, 6, 29, 54, 7, 42, 182, 1, 243, 3, 54, 8, 21, 8, 28, 162, 0, 124, 21, 6]
abbrev dktX1_shake_3 : List UInt8 := dkwX1_shake_3 ++ dktX1_shake_4
def dkwX1_shake_2 : List UInt8 := [154, 0, 10, 42, 16, 252, 182, 0, 93, 172, 42, 16, 17, 182, 0, 160, 42, 182, 1, 14, 54, 4, 21, 4]
abbrev dktX1_shake_2 : List UInt8 := dkwX1_shake_2 ++ dktX1_shake_3
def dkwX1_shake_1 : List UInt8 := [17, 39, 15, 184, 0, 103, 154, 0, 9, 42, 2, 182, 0, 93, 172, 42, 180, 0, 67, 180, 0, 100]
abbrev dktX1_shake_1 : List UInt8 := dkwX1_shake_1 ++ dktX1_shake_2
def dkwX1_shake_0 : List UInt8 := [27, 3, 19, 1, 242, 184, 0, 103, 153, 0, 24, 28, 4, 16, 60, 184, 0, 103, 153, 0, 14, 29, 3]
abbrev dktX1_shake_0 : List UInt8 := dkwX1_shake_0 ++ dktX1_shake_1
theorem dksX1_shake_0 : cX1_shake.data.toList.drop 0 = dktX1_shake_0 := by decide +kernel
theorem dksX1_shake_1 : cX1_shake.data.toList.drop 23 = dktX1_shake_1 := dk_seg dksX1_shake_0 23 rfl rfl
theorem dksX1_shake_2 : cX1_shake.data.toList.drop 45 = dktX1_shake_2 := dk_seg dksX1_shake_1 22 rfl rfl
theorem dksX1_shake_3 : cX1_shake.data.toList.drop 69 = dktX1_shake_3 := dk_seg dksX1_shake_2 24 rfl rfl
theorem dksX1_shake_4 : cX1_shake.data.toList.drop 92 = dktX1_shake_4 := dk_seg dksX1_shake_3 23 rfl rfl
theorem dksX1_shake_5 : cX1_shake.data.toList.drop 116 = dktX1_shake_5 := dk_seg dksX1_shake_4 24 rfl rfl
theorem dksX1_shake_6 : cX1_shake.data.toList.drop 139 = dktX1_shake_6 := dk_seg dksX1_shake_5 23 rfl rfl
theorem dksX1_shake_7 : cX1_shake.data.toList.drop 163 = dktX1_shake_7 := dk_seg dksX1_shake_6 24 rfl rfl
theorem dksX1_shake_8 : cX1_shake.data.toList.drop 187 = dktX1_shake_8 := dk_seg dksX1_shake_7 24 rfl rfl
theorem dksX1_shake_9 : cX1_shake.data.toList.drop 211 = dktX1_shake_9 := dk_seg dksX1_shake_8 24 rfl rfl
theorem dksX1_shake_10 : cX1_shake.data.toList.drop 235 = dktX1_shake_10 := dk_seg dksX1_shake_9 24 rfl rfl
theorem dksX1_shake_11 : cX1_shake.data.toList.drop 259 = dktX1_shake_11 := dk_seg dksX1_shake_10 24 rfl rfl
theorem dX1_shake_0 : decode cX1_shake 0 = .ok (.iload_n 1, 1) := dk_27 (dk_at dksX1_shake_0 0 rfl rfl)
theorem dX1_shake_1 : decode cX1_shake 1 = .ok (.iconst 0, 1) := dk_3 (dk_at dksX1_shake_0 1 rfl rfl)
theorem dX1_shake_2 : decode cX1_shake 2 = .ok (.ldc_w 498, 3) := dk_19 1 242 (dk_at dksX1_shake_0 2 rfl rfl)
theorem dX1_shake_5 : decode cX1_shake 5 = .ok (.invokestatic 103, 3) := dk_184 0 103 (dk_at dksX1_shake_0 5 rfl rfl)
theorem dX1_shake_8 : decode cX1_shake 8 = .ok (.ifCond .eq 24, 3) := dk_153 0 24 (dk_at dksX1_shake_0 8 rfl rfl)
theorem dX1_shake_11 : decode cX1_shake 11 = .ok (.iload_n 2, 1) := dk_28 (dk_at dksX1_shake_0 11 rfl rfl)
theorem dX1_shake_12 : decode cX1_shake 12 = .ok (.iconst 1, 1) := dk_4 (dk_at dksX1_shake_0 12 rfl rfl)
theorem dX1_shake_13 : decode cX1_shake 13 = .ok (.bipush 60, 2) := dk_16 60 (dk_at dksX1_shake_0 13 rfl rfl)
theorem dX1_shake_15 : decode cX1_shake 15 = .ok (.invokestatic 103, 3) := dk_184 0 103 (dk_at dksX1_shake_0 15 rfl rfl)
theorem dX1_shake_18 : decode cX1_shake 18 = .ok (.ifCond .eq 14, 3) := dk_153 0 14 (dk_at dksX1_shake_0 18 rfl rfl)
theorem dX1_shake_21 : decode cX1_shake 21 = .ok (.iload_n 3, 1) := dk_29 (dk_at dksX1_shake_0 21 rfl rfl)
theorem dX1_shake_22 : decode cX1_shake 22 = .ok (.iconst 0, 1) := dk_3 (dk_at dksX1_shake_0 22 rfl rfl)
theorem dX1_shake_23 : decode cX1_shake 23 = .ok (.sipush 9999, 3) := dk_17 39 15 (dk_at dksX1_shake_1 0 rfl rfl)
theorem dX1_shake_26 : decode cX1_shake 26 = .ok (.invokestatic 103, 3) := dk_184 0 103 (dk_at dksX1_shake_1 3 rfl rfl)
theorem dX1_shake_29 : decode cX1_shake 29 = .ok (.ifCond .ne 9, 3) := dk_154 0 9 (dk_at dksX1_shake_1 6 rfl rfl)
theorem dX1_shake_32 : decode cX1_shake 32 = .ok (.aload_n 0, 1) := dk_42 (dk_at dksX1_shake_1 9 rfl rfl)
theorem dX1_shake_33 : decode cX1_shake 33 = .ok (.iconst (-1), 1) := dk_2 (dk_at dksX1_shake_1 10 rfl rfl)
theorem dX1_shake_34 : decode cX1_shake 34 = .ok (.invokevirtual 93, 3) := dk_182 0 93 (dk_at dksX1_shake_1 11 rfl rfl)
theorem dX1_shake_37 : decode cX1_shake 37 = .ok (.ireturn, 1) := dk_172 (dk_at dksX1_shake_1 14 rfl rfl)
theorem dX1_shake_38 : decode cX1_shake 38 = .ok (.aload_n 0, 1) := dk_42 (dk_at dksX1_shake_1 15 rfl rfl)
theorem dX1_shake_39 : decode cX1_shake 39 = .ok (.getfield 67, 3) := dk_180 0 67 (dk_at dksX1_shake_1 16 rfl rfl)
theorem dX1_shake_42 : decode cX1_shake 42 = .ok (.getfield 100, 3) := dk_180 0 100 (dk_at dksX1_shake_1 19 rfl rfl)
theorem dX1_shake_45 : decode cX1_shake 45 = .ok (.ifCond .ne 10, 3) := dk_154 0 10 (dk_at dksX1_shake_2 0 rfl rfl)
theorem dX1_shake_48 : decode cX1_shake 48 = .ok (.aload_n 0, 1) := dk_42 (dk_at dksX1_shake_2 3 rfl rfl)
theorem dX1_shake_49 : decode cX1_shake 49 = .ok (.bipush (-4), 2) := dk_16 252 (dk_at dksX1_shake_2 4 rfl rfl)
theorem dX1_shake_51 : decode cX1_shake 51 = .ok (.invokevirtual 93, 3) := dk_182 0 93 (dk_at dksX1_shake_2 6 rfl rfl)
theorem dX1_shake_54 : decode cX1_shake 54 = .ok (.ireturn, 1) := dk_172 (dk_at dksX1_shake_2 9 rfl rfl)
theorem dX1_shake_55 : decode cX1_shake 55 = .ok (.aload_n 0, 1) := dk_42 (dk_at dksX1_shake_2 10 rfl rfl)
theorem dX1_shake_56 : decode cX1_shake 56 = .ok (.bipush 17, 2) := dk_16 17 (dk_at dksX1_shake_2 11 rfl rfl)
theorem dX1_shake_58 : decode cX1_shake 58 = .ok (.invokevirtual 160, 3) := dk_182 0 160 (dk_at dksX1_shake_2 13 rfl rfl)
theorem dX1_shake_61 : decode cX1_shake 61 = .ok (.aload_n 0, 1) := dk_42 (dk_at dksX1_shake_2 16 rfl rfl)
theorem dX1_shake_62 : decode cX1_shake 62 = .ok (.invokevirtual 270, 3) := dk_182 1 14 (dk_at dksX1_shake_2 17 rfl rfl)
theorem dX1_shake_65 : decode cX1_shake 65 = .ok (.istore 4, 2) := dk_54 4 (dk_at dksX1_shake_2 20 rfl rfl)
theorem dX1_shake_67 : decode cX1_shake 67 = .ok (.iload 4, 2) := dk_21 4 (dk_at dksX1_shake_2 22 rfl rfl)
theorem dX1_shake_69 : decode cX1_shake 69 = .ok (.istore 5, 2) := dk_54 5 (dk_at dksX1_shake_3 0 rfl rfl)
theorem dX1_shake_71 : decode cX1_shake 71 = .ok (.iload_n 1, 1) := dk_27 (dk_at dksX1_shake_3 2 rfl rfl)
theorem dX1_shake_72 : decode cX1_shake 72 = .ok (.istore 6, 2) := dk_54 6 (dk_at dksX1_shake_3 3 rfl rfl)
theorem dX1_shake_74 : decode cX1_shake 74 = .ok (.iload_n 3, 1) := dk_29 (dk_at dksX1_shake_3 5 rfl rfl)
theorem dX1_shake_75 : decode cX1_shake 75 = .ok (.istore 7, 2) := dk_54 7 (dk_at dksX1_shake_3 6 rfl rfl)
theorem dX1_shake_77 : decode cX1_shake 77 = .ok (.aload_n 0, 1) := dk_42 (dk_at dksX1_shake_3 8 rfl rfl)
theorem dX1_shake_78 : decode cX1_shake 78 = .ok (.invokevirtual 499, 3) := dk_182 1 243 (dk_at dksX1_shake_3 9 rfl rfl)
theorem dX1_shake_81 : decode cX1_shake 81 = .ok (.iconst 0, 1) := dk_3 (dk_at dksX1_shake_3 12 rfl rfl)
theorem dX1_shake_82 : decode cX1_shake 82 = .ok (.istore 8, 2) := dk_54 8 (dk_at dksX1_shake_3 13 rfl rfl)
theorem dX1_shake_84 : decode cX1_shake 84 = .ok (.iload 8, 2) := dk_21 8 (dk_at dksX1_shake_3 15 rfl rfl)
theorem dX1_shake_86 : decode cX1_shake 86 = .ok (.iload_n 2, 1) := dk_28 (dk_at dksX1_shake_3 17 rfl rfl)
theorem dX1_shake_87 : decode cX1_shake 87 = .ok (.if_icmp .ge 124, 3) := dk_162 0 124 (dk_at dksX1_shake_3 18 rfl rfl)
theorem dX1_shake_90 : decode cX1_shake 90 = .ok (.iload 6, 2) := dk_21 6 (dk_at dksX1_shake_3 21 rfl rfl)
theorem dX1_shake_92 : decode cX1_shake 92 = .ok (.sipush 1103, 3) := dk_17 4 79 (dk_at dksX1_shake_4 0 rfl rfl)
theorem dX1_shake_95 : decode cX1_shake 95 = .ok (.imul, 1) := dk_104 (dk_at dksX1_shake_4 3 rfl rfl)
theorem dX1_shake_96 : decode cX1_shake 96 = .ok (.sipush 12345, 3) := dk_17 48 57 (dk_at dksX1_shake_4 4 rfl rfl)
theorem dX1_shake_99 : decode cX1_shake 99 = .ok (.iadd, 1) := dk_96 (dk_at dksX1_shake_4 7 rfl rfl)
theorem dX1_shake_100 : decode cX1_shake 100 = .ok (.ldc_w 502, 3) := dk_19 1 246 (dk_at dksX1_shake_4 8 rfl rfl)
theorem dX1_shake_103 : decode cX1_shake 103 = .ok (.irem, 1) := dk_112 (dk_at dksX1_shake_4 11 rfl rfl)
theorem dX1_shake_104 : decode cX1_shake 104 = .ok (.istore 6, 2) := dk_54 6 (dk_at dksX1_shake_4 12 rfl rfl)
theorem dX1_shake_106 : decode cX1_shake 106 = .ok (.iload 6, 2) := dk_21 6 (dk_at dksX1_shake_4 14 rfl rfl)
theorem dX1_shake_108 : decode cX1_shake 108 = .ok (.aload_n 0, 1) := dk_42 (dk_at dksX1_shake_4 16 rfl rfl)
theorem dX1_shake_109 : decode cX1_shake 109 = .ok (.getfield 67, 3) := dk_180 0 67 (dk_at dksX1_shake_4 17 rfl rfl)
theorem dX1_shake_112 : decode cX1_shake 112 = .ok (.getfield 100, 3) := dk_180 0 100 (dk_at dksX1_shake_4 20 rfl rfl)
theorem dX1_shake_115 : decode cX1_shake 115 = .ok (.irem, 1) := dk_112 (dk_at dksX1_shake_4 23 rfl rfl)
theorem dX1_shake_116 : decode cX1_shake 116 = .ok (.istore 9, 2) := dk_54 9 (dk_at dksX1_shake_5 0 rfl rfl)
theorem dX1_shake_118 : decode cX1_shake 118 = .ok (.iload 6, 2) := dk_21 6 (dk_at dksX1_shake_5 2 rfl rfl)
theorem dX1_shake_120 : decode cX1_shake 120 = .ok (.sipush 1103, 3) := dk_17 4 79 (dk_at dksX1_shake_5 4 rfl rfl)
theorem dX1_shake_123 : decode cX1_shake 123 = .ok (.imul, 1) := dk_104 (dk_at dksX1_shake_5 7 rfl rfl)
theorem dX1_shake_124 : decode cX1_shake 124 = .ok (.sipush 12345, 3) := dk_17 48 57 (dk_at dksX1_shake_5 8 rfl rfl)
theorem dX1_shake_127 : decode cX1_shake 127 = .ok (.iadd, 1) := dk_96 (dk_at dksX1_shake_5 11 rfl rfl)
theorem dX1_shake_128 : decode cX1_shake 128 = .ok (.ldc_w 502, 3) := dk_19 1 246 (dk_at dksX1_shake_5 12 rfl rfl)
theorem dX1_shake_131 : decode cX1_shake 131 = .ok (.irem, 1) := dk_112 (dk_at dksX1_shake_5 15 rfl rfl)
theorem dX1_shake_132 : decode cX1_shake 132 = .ok (.istore 6, 2) := dk_54 6 (dk_at dksX1_shake_5 16 rfl rfl)
theorem dX1_shake_134 : decode cX1_shake 134 = .ok (.aload_n 0, 1) := dk_42 (dk_at dksX1_shake_5 18 rfl rfl)
theorem dX1_shake_135 : decode cX1_shake 135 = .ok (.aload_n 0, 1) := dk_42 (dk_at dksX1_shake_5 19 rfl rfl)
theorem dX1_shake_136 : decode cX1_shake 136 = .ok (.getfield 67, 3) := dk_180 0 67 (dk_at dksX1_shake_5 20 rfl rfl)
theorem dX1_shake_139 : decode cX1_shake 139 = .ok (.getfield 184, 3) := dk_180 0 184 (dk_at dksX1_shake_6 0 rfl rfl)
theorem dX1_shake_142 : decode cX1_shake 142 = .ok (.iload 9, 2) := dk_21 9 (dk_at dksX1_shake_6 3 rfl rfl)
theorem dX1_shake_144 : decode cX1_shake 144 = .ok (.aaload, 1) := dk_50 (dk_at dksX1_shake_6 5 rfl rfl)
theorem dX1_shake_145 : decode cX1_shake 145 = .ok (.aload_n 0, 1) := dk_42 (dk_at dksX1_shake_6 6 rfl rfl)
theorem dX1_shake_146 : decode cX1_shake 146 = .ok (.getfield 67, 3) := dk_180 0 67 (dk_at dksX1_shake_6 7 rfl rfl)
theorem dX1_shake_149 : decode cX1_shake 149 = .ok (.getfield 184, 3) := dk_180 0 184 (dk_at dksX1_shake_6 10 rfl rfl)
theorem dX1_shake_152 : decode cX1_shake 152 = .ok (.iload 6, 2) := dk_21 6 (dk_at dksX1_shake_6 13 rfl rfl)
theorem dX1_shake_154 : decode cX1_shake 154 = .ok (.aload_n 0, 1) := dk_42 (dk_at dksX1_shake_6 15 rfl rfl)
theorem dX1_shake_155 : decode cX1_shake 155 = .ok (.getfield 67, 3) := dk_180 0 67 (dk_at dksX1_shake_6 16 rfl rfl)
theorem dX1_shake_158 : decode cX1_shake 158 = .ok (.getfield 100, 3) := dk_180 0 100 (dk_at dksX1_shake_6 19 rfl rfl)
theorem dX1_shake_161 : decode cX1_shake 161 = .ok (.irem, 1) := dk_112 (dk_at dksX1_shake_6 22 rfl rfl)
theorem dX1_shake_162 : decode cX1_shake 162 = .ok (.aaload, 1) := dk_50 (dk_at dksX1_shake_6 23 rfl rfl)
theorem dX1_shake_163 : decode cX1_shake 163 = .ok (.aload_n 0, 1) := dk_42 (dk_at dksX1_shake_7 0 rfl rfl)
theorem dX1_shake_164 : decode cX1_shake 164 = .ok (.invokevirtual 270, 3) := dk_182 1 14 (dk_at dksX1_shake_7 1 rfl rfl)
theorem dX1_shake_167 : decode cX1_shake 167 = .ok (.iload 7, 2) := dk_21 7 (dk_at dksX1_shake_7 4 rfl rfl)
theorem dX1_shake_169 : decode cX1_shake 169 = .ok (.iadd, 1) := dk_96 (dk_at dksX1_shake_7 6 rfl rfl)
theorem dX1_shake_170 : decode cX1_shake 170 = .ok (.invokevirtual 475, 3) := dk_182 1 219 (dk_at dksX1_shake_7 7 rfl rfl)
theorem dX1_shake_173 : decode cX1_shake 173 = .ok (.bipush 7, 2) := dk_16 7 (dk_at dksX1_shake_7 10 rfl rfl)
theorem dX1_shake_175 : decode cX1_shake 175 = .ok (.iload 7, 2) := dk_21 7 (dk_at dksX1_shake_7 12 rfl rfl)
theorem dX1_shake_177 : decode cX1_shake 177 = .ok (.imul, 1) := dk_104 (dk_at dksX1_shake_7 14 rfl rfl)
theorem dX1_shake_178 : decode cX1_shake 178 = .ok (.bipush 8, 2) := dk_16 8 (dk_at dksX1_shake_7 15 rfl rfl)
theorem dX1_shake_180 : decode cX1_shake 180 = .ok (.idiv, 1) := dk_108 (dk_at dksX1_shake_7 17 rfl rfl)
theorem dX1_shake_181 : decode cX1_shake 181 = .ok (.istore 7, 2) := dk_54 7 (dk_at dksX1_shake_7 18 rfl rfl)
theorem dX1_shake_183 : decode cX1_shake 183 = .ok (.aload_n 0, 1) := dk_42 (dk_at dksX1_shake_7 20 rfl rfl)
theorem dX1_shake_184 : decode cX1_shake 184 = .ok (.invokevirtual 270, 3) := dk_182 1 14 (dk_at dksX1_shake_7 21 rfl rfl)
theorem dX1_shake_187 : decode cX1_shake 187 = .ok (.iload 5, 2) := dk_21 5 (dk_at dksX1_shake_8 0 rfl rfl)
theorem dX1_shake_189 : decode cX1_shake 189 = .ok (.if_icmp .lt 6, 3) := dk_161 0 6 (dk_at dksX1_shake_8 2 rfl rfl)
theorem dX1_shake_192 : decode cX1_shake 192 = .ok (.goto 13, 3) := dk_167 0 13 (dk_at dksX1_shake_8 5 rfl rfl)
theorem dX1_shake_195 : decode cX1_shake 195 = .ok (.aload_n 0, 1) := dk_42 (dk_at dksX1_shake_8 8 rfl rfl)
theorem dX1_shake_196 : decode cX1_shake 196 = .ok (.invokevirtual 270, 3) := dk_182 1 14 (dk_at dksX1_shake_8 9 rfl rfl)
theorem dX1_shake_199 : decode cX1_shake 199 = .ok (.istore 5, 2) := dk_54 5 (dk_at dksX1_shake_8 12 rfl rfl)
theorem dX1_shake_201 : decode cX1_shake 201 = .ok (.aload_n 0, 1) := dk_42 (dk_at dksX1_shake_8 14 rfl rfl)
theorem dX1_shake_202 : decode cX1_shake 202 = .ok (.invokevirtual 499, 3) := dk_182 1 243 (dk_at dksX1_shake_8 15 rfl rfl)
theorem dX1_shake_205 : decode cX1_shake 205 = .ok (.iinc 8 1, 3) := dk_132 8 1 (dk_at dksX1_shake_8 18 rfl rfl)
theorem dX1_shake_208 : decode cX1_shake 208 = .ok (.goto (-124), 3) := dk_167 255 132 (dk_at dksX1_shake_8 21 rfl rfl)
theorem dX1_shake_211 : decode cX1_shake 211 = .ok (.iconst 0, 1) := dk_3 (dk_at dksX1_shake_9 0 rfl rfl)
theorem dX1_shake_212 : decode cX1_shake 212 = .ok (.istore 8, 2) := dk_54 8 (dk_at dksX1_shake_9 1 rfl rfl)
theorem dX1_shake_214 : decode cX1_shake 214 = .ok (.iload 8, 2) := dk_21 8 (dk_at dksX1_shake_9 3 rfl rfl)
theorem dX1_shake_216 : decode cX1_shake 216 = .ok (.aload_n 0, 1) := dk_42 (dk_at dksX1_shake_9 5 rfl rfl)
theorem dX1_shake_217 : decode cX1_shake 217 = .ok (.getfield 67, 3) := dk_180 0 67 (dk_at dksX1_shake_9 6 rfl rfl)
theorem dX1_shake_220 : decode cX1_shake 220 = .ok (.getfield 100, 3) := dk_180 0 100 (dk_at dksX1_shake_9 9 rfl rfl)
theorem dX1_shake_223 : decode cX1_shake 223 = .ok (.if_icmp .ge 36, 3) := dk_162 0 36 (dk_at dksX1_shake_9 12 rfl rfl)
theorem dX1_shake_226 : decode cX1_shake 226 = .ok (.aload_n 0, 1) := dk_42 (dk_at dksX1_shake_9 15 rfl rfl)
theorem dX1_shake_227 : decode cX1_shake 227 = .ok (.getfield 67, 3) := dk_180 0 67 (dk_at dksX1_shake_9 16 rfl rfl)
theorem dX1_shake_230 : decode cX1_shake 230 = .ok (.getfield 184, 3) := dk_180 0 184 (dk_at dksX1_shake_9 19 rfl rfl)
theorem dX1_shake_233 : decode cX1_shake 233 = .ok (.iload 8, 2) := dk_21 8 (dk_at dksX1_shake_9 22 rfl rfl)
theorem dX1_shake_235 : decode cX1_shake 235 = .ok (.aaload, 1) := dk_50 (dk_at dksX1_shake_10 0 rfl rfl)
theorem dX1_shake_236 : decode cX1_shake 236 = .ok (.aload_n 0, 1) := dk_42 (dk_at dksX1_shake_10 1 rfl rfl)
theorem dX1_shake_237 : decode cX1_shake 237 = .ok (.getfield 49, 3) := dk_180 0 49 (dk_at dksX1_shake_10 2 rfl rfl)
theorem dX1_shake_240 : decode cX1_shake 240 = .ok (.iload 8, 2) := dk_21 8 (dk_at dksX1_shake_10 5 rfl rfl)
theorem dX1_shake_242 : decode cX1_shake 242 = .ok (.iaload, 1) := dk_46 (dk_at dksX1_shake_10 7 rfl rfl)
theorem dX1_shake_243 : decode cX1_shake 243 = .ok (.aload_n 0, 1) := dk_42 (dk_at dksX1_shake_10 8 rfl rfl)
theorem dX1_shake_244 : decode cX1_shake 244 = .ok (.getfield 52, 3) := dk_180 0 52 (dk_at dksX1_shake_10 9 rfl rfl)
theorem dX1_shake_247 : decode cX1_shake 247 = .ok (.iload 8, 2) := dk_21 8 (dk_at dksX1_shake_10 12 rfl rfl)
theorem dX1_shake_249 : decode cX1_shake 249 = .ok (.iaload, 1) := dk_46 (dk_at dksX1_shake_10 14 rfl rfl)
theorem dX1_shake_250 : decode cX1_shake 250 = .ok (.invokevirtual 264, 3) := dk_182 1 8 (dk_at dksX1_shake_10 15 rfl rfl)
theorem dX1_shake_253 : decode cX1_shake 253 = .ok (.iinc 8 1, 3) := dk_132 8 1 (dk_at dksX1_shake_10 18 rfl rfl)
theorem dX1_shake_256 : decode cX1_shake 256 = .ok (.goto (-42), 3) := dk_167 255 214 (dk_at dksX1_shake_10 21 rfl rfl)
theorem dX1_shake_259 : decode cX1_shake 259 = .ok (.aload_n 0, 1) := dk_42 (dk_at dksX1_shake_11 0 rfl rfl)
theorem dX1_shake_260 : decode cX1_shake 260 = .ok (.iload 4, 2) := dk_21 4 (dk_at dksX1_shake_11 1 rfl rfl)
theorem dX1_shake_262 : decode cX1_shake 262 = .ok (.aload_n 0, 1) := dk_42 (dk_at dksX1_shake_11 3 rfl rfl)
theorem dX1_shake_263 : decode cX1_shake 263 = .ok (.invokevirtual 270, 3) := dk_182 1 14 (dk_at dksX1_shake_11 4 rfl rfl)
theorem dX1_shake_266 : decode cX1_shake 266 = .ok (.isub, 1) := dk_100 (dk_at dksX1_shake_11 7 rfl rfl)
theorem dX1_shake_267 : decode cX1_shake 267 = .ok (.invokevirtual 97, 3) := dk_182 0 97 (dk_at dksX1_shake_11 8 rfl rfl)
theorem dX1_shake_270 : decode cX1_shake 270 = .ok (.ireturn, 1) := dk_172 (dk_at dksX1_shake_11 11 rfl rfl)
abbrev cX1_keepsSpots : ByteArray := prog_1_method_66_code
def yX1_keepsSpots : MethodName := ⟨RX1, "keepsSpots", "()V"⟩
def dkwX1_keepsSpots_2 : List UInt8 := [180, 1, 192, 79, 132, 1, 1, 167, 255, 206, 177]
abbrev dktX1_keepsSpots_2 : List UInt8 := dkwX1_keepsSpots_2 ++ []
def dkwX1_keepsSpots_1 : List UInt8 := [180, 0, 184, 27, 50, 180, 1, 11, 79, 42, 180, 0, 52, 27, 42, 180, 0, 67, 180, 0, 184, 27, 50]
abbrev dktX1_keepsSpots_1 : List UInt8 := dkwX1_keepsSpots_1 ++ dktX1_keepsSpots_2
def dkwX1_keepsSpots_0 : List UInt8 := [3, 60, 27, 42, 180, 0, 67, 180, 0, 100, 162, 0, 45, 42, 180, 0, 49, 27, 42, 180, 0, 67]
abbrev dktX1_keepsSpots_0 : List UInt8 := dkwX1_keepsSpots_0 ++ dktX1_keepsSpots_1
theorem dksX1_keepsSpots_0 : cX1_keepsSpots.data.toList.drop 0 = dktX1_keepsSpots_0 := by decide +kernel
theorem dksX1_keepsSpots_1 : cX1_keepsSpots.data.toList.drop 22 = dktX1_keepsSpots_1 := dk_seg dksX1_keepsSpots_0 22 rfl rfl
theorem dksX1_keepsSpots_2 : cX1_keepsSpots.data.toList.drop 45 = dktX1_keepsSpots_2 := dk_seg dksX1_keepsSpots_1 23 rfl rfl
theorem dX1_keepsSpots_0 : decode cX1_keepsSpots 0 = .ok (.iconst 0, 1) := dk_3 (dk_at dksX1_keepsSpots_0 0 rfl rfl)
theorem dX1_keepsSpots_1 : decode cX1_keepsSpots 1 = .ok (.istore_n 1, 1) := dk_60 (dk_at dksX1_keepsSpots_0 1 rfl rfl)
theorem dX1_keepsSpots_2 : decode cX1_keepsSpots 2 = .ok (.iload_n 1, 1) := dk_27 (dk_at dksX1_keepsSpots_0 2 rfl rfl)
theorem dX1_keepsSpots_3 : decode cX1_keepsSpots 3 = .ok (.aload_n 0, 1) := dk_42 (dk_at dksX1_keepsSpots_0 3 rfl rfl)
theorem dX1_keepsSpots_4 : decode cX1_keepsSpots 4 = .ok (.getfield 67, 3) := dk_180 0 67 (dk_at dksX1_keepsSpots_0 4 rfl rfl)
theorem dX1_keepsSpots_7 : decode cX1_keepsSpots 7 = .ok (.getfield 100, 3) := dk_180 0 100 (dk_at dksX1_keepsSpots_0 7 rfl rfl)
theorem dX1_keepsSpots_10 : decode cX1_keepsSpots 10 = .ok (.if_icmp .ge 45, 3) := dk_162 0 45 (dk_at dksX1_keepsSpots_0 10 rfl rfl)
theorem dX1_keepsSpots_13 : decode cX1_keepsSpots 13 = .ok (.aload_n 0, 1) := dk_42 (dk_at dksX1_keepsSpots_0 13 rfl rfl)
theorem dX1_keepsSpots_14 : decode cX1_keepsSpots 14 = .ok (.getfield 49, 3) := dk_180 0 49 (dk_at dksX1_keepsSpots_0 14 rfl rfl)
theorem dX1_keepsSpots_17 : decode cX1_keepsSpots 17 = .ok (.iload_n 1, 1) := dk_27 (dk_at dksX1_keepsSpots_0 17 rfl rfl)
theorem dX1_keepsSpots_18 : decode cX1_keepsSpots 18 = .ok (.aload_n 0, 1) := dk_42 (dk_at dksX1_keepsSpots_0 18 rfl rfl)
theorem dX1_keepsSpots_19 : decode cX1_keepsSpots 19 = .ok (.getfield 67, 3) := dk_180 0 67 (dk_at dksX1_keepsSpots_0 19 rfl rfl)
theorem dX1_keepsSpots_22 : decode cX1_keepsSpots 22 = .ok (.getfield 184, 3) := dk_180 0 184 (dk_at dksX1_keepsSpots_1 0 rfl rfl)
theorem dX1_keepsSpots_25 : decode cX1_keepsSpots 25 = .ok (.iload_n 1, 1) := dk_27 (dk_at dksX1_keepsSpots_1 3 rfl rfl)
theorem dX1_keepsSpots_26 : decode cX1_keepsSpots 26 = .ok (.aaload, 1) := dk_50 (dk_at dksX1_keepsSpots_1 4 rfl rfl)
theorem dX1_keepsSpots_27 : decode cX1_keepsSpots 27 = .ok (.getfield 267, 3) := dk_180 1 11 (dk_at dksX1_keepsSpots_1 5 rfl rfl)
theorem dX1_keepsSpots_30 : decode cX1_keepsSpots 30 = .ok (.iastore, 1) := dk_79 (dk_at dksX1_keepsSpots_1 8 rfl rfl)
theorem dX1_keepsSpots_31 : decode cX1_keepsSpots 31 = .ok (.aload_n 0, 1) := dk_42 (dk_at dksX1_keepsSpots_1 9 rfl rfl)
theorem dX1_keepsSpots_32 : decode cX1_keepsSpots 32 = .ok (.getfield 52, 3) := dk_180 0 52 (dk_at dksX1_keepsSpots_1 10 rfl rfl)
theorem dX1_keepsSpots_35 : decode cX1_keepsSpots 35 = .ok (.iload_n 1, 1) := dk_27 (dk_at dksX1_keepsSpots_1 13 rfl rfl)
theorem dX1_keepsSpots_36 : decode cX1_keepsSpots 36 = .ok (.aload_n 0, 1) := dk_42 (dk_at dksX1_keepsSpots_1 14 rfl rfl)
theorem dX1_keepsSpots_37 : decode cX1_keepsSpots 37 = .ok (.getfield 67, 3) := dk_180 0 67 (dk_at dksX1_keepsSpots_1 15 rfl rfl)
theorem dX1_keepsSpots_40 : decode cX1_keepsSpots 40 = .ok (.getfield 184, 3) := dk_180 0 184 (dk_at dksX1_keepsSpots_1 18 rfl rfl)
theorem dX1_keepsSpots_43 : decode cX1_keepsSpots 43 = .ok (.iload_n 1, 1) := dk_27 (dk_at dksX1_keepsSpots_1 21 rfl rfl)
theorem dX1_keepsSpots_44 : decode cX1_keepsSpots 44 = .ok (.aaload, 1) := dk_50 (dk_at dksX1_keepsSpots_1 22 rfl rfl)
theorem dX1_keepsSpots_45 : decode cX1_keepsSpots 45 = .ok (.getfield 448, 3) := dk_180 1 192 (dk_at dksX1_keepsSpots_2 0 rfl rfl)
theorem dX1_keepsSpots_48 : decode cX1_keepsSpots 48 = .ok (.iastore, 1) := dk_79 (dk_at dksX1_keepsSpots_2 3 rfl rfl)
theorem dX1_keepsSpots_49 : decode cX1_keepsSpots 49 = .ok (.iinc 1 1, 3) := dk_132 1 1 (dk_at dksX1_keepsSpots_2 4 rfl rfl)
theorem dX1_keepsSpots_52 : decode cX1_keepsSpots 52 = .ok (.goto (-50), 3) := dk_167 255 206 (dk_at dksX1_keepsSpots_2 7 rfl rfl)
theorem dX1_keepsSpots_55 : decode cX1_keepsSpots 55 = .ok (.return_, 1) := dk_177 (dk_at dksX1_keepsSpots_2 10 rfl rfl)
abbrev cX1_cellOf : ByteArray := prog_1_method_69_code
def yX1_cellOf : MethodName := ⟨RX1, "cellOf", "(II)I"⟩
def dkwX1_cellOf_4 : List UInt8 := [172, 45, 182, 1, 250, 153, 0, 10, 45, 182, 1, 171, 167, 0, 4, 2, 172, 2, 172]
abbrev dktX1_cellOf_4 : List UInt8 := dkwX1_cellOf_4 ++ []
def dkwX1_cellOf_3 : List UInt8 := [180, 0, 244, 172, 45, 180, 0, 250, 172, 45, 180, 1, 11, 172, 45, 180, 1, 192, 172, 42, 27, 182, 1, 247]
abbrev dktX1_cellOf_3 : List UInt8 := dkwX1_cellOf_3 ++ dktX1_cellOf_4
def dkwX1_cellOf_2 : List UInt8 := [45, 180, 0, 199, 172, 45, 180, 1, 145, 172, 45, 180, 0, 236, 153, 0, 7, 4, 167, 0, 4, 3, 172, 45]
abbrev dktX1_cellOf_2 : List UInt8 := dkwX1_cellOf_2 ++ dktX1_cellOf_3
def dkwX1_cellOf_1 : List UInt8 := [170, 0, 0, 0, 0, 0, 116, 0, 0, 0, 0, 0, 0, 0, 8, 0, 0, 0, 51, 0, 0, 0, 56, 0, 0, 0, 61, 0, 0, 0, 74, 0, 0, 0, 79, 0, 0, 0, 84, 0, 0, 0, 89, 0, 0, 0, 94, 0, 0, 0, 100]
abbrev dktX1_cellOf_1 : List UInt8 := dkwX1_cellOf_1 ++ dktX1_cellOf_2
def dkwX1_cellOf_0 : List UInt8 := [42, 27, 182, 0, 196, 154, 0, 5, 2, 172, 42, 180, 0, 67, 180, 0, 184, 27, 50, 78, 28]
abbrev dktX1_cellOf_0 : List UInt8 := dkwX1_cellOf_0 ++ dktX1_cellOf_1
theorem dksX1_cellOf_0 : cX1_cellOf.data.toList.drop 0 = dktX1_cellOf_0 := by decide +kernel
theorem dksX1_cellOf_1 : cX1_cellOf.data.toList.drop 21 = dktX1_cellOf_1 := dk_seg dksX1_cellOf_0 21 rfl rfl
theorem dksX1_cellOf_2 : cX1_cellOf.data.toList.drop 72 = dktX1_cellOf_2 := dk_seg dksX1_cellOf_1 51 rfl rfl
theorem dksX1_cellOf_3 : cX1_cellOf.data.toList.drop 96 = dktX1_cellOf_3 := dk_seg dksX1_cellOf_2 24 rfl rfl
theorem dksX1_cellOf_4 : cX1_cellOf.data.toList.drop 120 = dktX1_cellOf_4 := dk_seg dksX1_cellOf_3 24 rfl rfl
theorem dX1_cellOf_0 : decode cX1_cellOf 0 = .ok (.aload_n 0, 1) := dk_42 (dk_at dksX1_cellOf_0 0 rfl rfl)
theorem dX1_cellOf_1 : decode cX1_cellOf 1 = .ok (.iload_n 1, 1) := dk_27 (dk_at dksX1_cellOf_0 1 rfl rfl)
theorem dX1_cellOf_2 : decode cX1_cellOf 2 = .ok (.invokevirtual 196, 3) := dk_182 0 196 (dk_at dksX1_cellOf_0 2 rfl rfl)
theorem dX1_cellOf_5 : decode cX1_cellOf 5 = .ok (.ifCond .ne 5, 3) := dk_154 0 5 (dk_at dksX1_cellOf_0 5 rfl rfl)
theorem dX1_cellOf_8 : decode cX1_cellOf 8 = .ok (.iconst (-1), 1) := dk_2 (dk_at dksX1_cellOf_0 8 rfl rfl)
theorem dX1_cellOf_9 : decode cX1_cellOf 9 = .ok (.ireturn, 1) := dk_172 (dk_at dksX1_cellOf_0 9 rfl rfl)
theorem dX1_cellOf_10 : decode cX1_cellOf 10 = .ok (.aload_n 0, 1) := dk_42 (dk_at dksX1_cellOf_0 10 rfl rfl)
theorem dX1_cellOf_11 : decode cX1_cellOf 11 = .ok (.getfield 67, 3) := dk_180 0 67 (dk_at dksX1_cellOf_0 11 rfl rfl)
theorem dX1_cellOf_14 : decode cX1_cellOf 14 = .ok (.getfield 184, 3) := dk_180 0 184 (dk_at dksX1_cellOf_0 14 rfl rfl)
theorem dX1_cellOf_17 : decode cX1_cellOf 17 = .ok (.iload_n 1, 1) := dk_27 (dk_at dksX1_cellOf_0 17 rfl rfl)
theorem dX1_cellOf_18 : decode cX1_cellOf 18 = .ok (.aaload, 1) := dk_50 (dk_at dksX1_cellOf_0 18 rfl rfl)
theorem dX1_cellOf_19 : decode cX1_cellOf 19 = .ok (.astore_n 3, 1) := dk_78 (dk_at dksX1_cellOf_0 19 rfl rfl)
theorem dX1_cellOf_20 : decode cX1_cellOf 20 = .ok (.iload_n 2, 1) := dk_28 (dk_at dksX1_cellOf_0 20 rfl rfl)
theorem dX1_cellOf_21 : decode cX1_cellOf 21 = .ok (.tableswitch 116 0 8 #[51, 56, 61, 74, 79, 84, 89, 94, 100], 51) := by decide +kernel
theorem dX1_cellOf_72 : decode cX1_cellOf 72 = .ok (.aload_n 3, 1) := dk_45 (dk_at dksX1_cellOf_2 0 rfl rfl)
theorem dX1_cellOf_73 : decode cX1_cellOf 73 = .ok (.getfield 199, 3) := dk_180 0 199 (dk_at dksX1_cellOf_2 1 rfl rfl)
theorem dX1_cellOf_76 : decode cX1_cellOf 76 = .ok (.ireturn, 1) := dk_172 (dk_at dksX1_cellOf_2 4 rfl rfl)
theorem dX1_cellOf_77 : decode cX1_cellOf 77 = .ok (.aload_n 3, 1) := dk_45 (dk_at dksX1_cellOf_2 5 rfl rfl)
theorem dX1_cellOf_78 : decode cX1_cellOf 78 = .ok (.getfield 401, 3) := dk_180 1 145 (dk_at dksX1_cellOf_2 6 rfl rfl)
theorem dX1_cellOf_81 : decode cX1_cellOf 81 = .ok (.ireturn, 1) := dk_172 (dk_at dksX1_cellOf_2 9 rfl rfl)
theorem dX1_cellOf_82 : decode cX1_cellOf 82 = .ok (.aload_n 3, 1) := dk_45 (dk_at dksX1_cellOf_2 10 rfl rfl)
theorem dX1_cellOf_83 : decode cX1_cellOf 83 = .ok (.getfield 236, 3) := dk_180 0 236 (dk_at dksX1_cellOf_2 11 rfl rfl)
theorem dX1_cellOf_86 : decode cX1_cellOf 86 = .ok (.ifCond .eq 7, 3) := dk_153 0 7 (dk_at dksX1_cellOf_2 14 rfl rfl)
theorem dX1_cellOf_89 : decode cX1_cellOf 89 = .ok (.iconst 1, 1) := dk_4 (dk_at dksX1_cellOf_2 17 rfl rfl)
theorem dX1_cellOf_90 : decode cX1_cellOf 90 = .ok (.goto 4, 3) := dk_167 0 4 (dk_at dksX1_cellOf_2 18 rfl rfl)
theorem dX1_cellOf_93 : decode cX1_cellOf 93 = .ok (.iconst 0, 1) := dk_3 (dk_at dksX1_cellOf_2 21 rfl rfl)
theorem dX1_cellOf_94 : decode cX1_cellOf 94 = .ok (.ireturn, 1) := dk_172 (dk_at dksX1_cellOf_2 22 rfl rfl)
theorem dX1_cellOf_95 : decode cX1_cellOf 95 = .ok (.aload_n 3, 1) := dk_45 (dk_at dksX1_cellOf_2 23 rfl rfl)
theorem dX1_cellOf_96 : decode cX1_cellOf 96 = .ok (.getfield 244, 3) := dk_180 0 244 (dk_at dksX1_cellOf_3 0 rfl rfl)
theorem dX1_cellOf_99 : decode cX1_cellOf 99 = .ok (.ireturn, 1) := dk_172 (dk_at dksX1_cellOf_3 3 rfl rfl)
theorem dX1_cellOf_100 : decode cX1_cellOf 100 = .ok (.aload_n 3, 1) := dk_45 (dk_at dksX1_cellOf_3 4 rfl rfl)
theorem dX1_cellOf_101 : decode cX1_cellOf 101 = .ok (.getfield 250, 3) := dk_180 0 250 (dk_at dksX1_cellOf_3 5 rfl rfl)
theorem dX1_cellOf_104 : decode cX1_cellOf 104 = .ok (.ireturn, 1) := dk_172 (dk_at dksX1_cellOf_3 8 rfl rfl)
theorem dX1_cellOf_105 : decode cX1_cellOf 105 = .ok (.aload_n 3, 1) := dk_45 (dk_at dksX1_cellOf_3 9 rfl rfl)
theorem dX1_cellOf_106 : decode cX1_cellOf 106 = .ok (.getfield 267, 3) := dk_180 1 11 (dk_at dksX1_cellOf_3 10 rfl rfl)
theorem dX1_cellOf_109 : decode cX1_cellOf 109 = .ok (.ireturn, 1) := dk_172 (dk_at dksX1_cellOf_3 13 rfl rfl)
theorem dX1_cellOf_110 : decode cX1_cellOf 110 = .ok (.aload_n 3, 1) := dk_45 (dk_at dksX1_cellOf_3 14 rfl rfl)
theorem dX1_cellOf_111 : decode cX1_cellOf 111 = .ok (.getfield 448, 3) := dk_180 1 192 (dk_at dksX1_cellOf_3 15 rfl rfl)
theorem dX1_cellOf_114 : decode cX1_cellOf 114 = .ok (.ireturn, 1) := dk_172 (dk_at dksX1_cellOf_3 18 rfl rfl)
theorem dX1_cellOf_115 : decode cX1_cellOf 115 = .ok (.aload_n 0, 1) := dk_42 (dk_at dksX1_cellOf_3 19 rfl rfl)
theorem dX1_cellOf_116 : decode cX1_cellOf 116 = .ok (.iload_n 1, 1) := dk_27 (dk_at dksX1_cellOf_3 20 rfl rfl)
theorem dX1_cellOf_117 : decode cX1_cellOf 117 = .ok (.invokevirtual 503, 3) := dk_182 1 247 (dk_at dksX1_cellOf_3 21 rfl rfl)
theorem dX1_cellOf_120 : decode cX1_cellOf 120 = .ok (.ireturn, 1) := dk_172 (dk_at dksX1_cellOf_4 0 rfl rfl)
theorem dX1_cellOf_121 : decode cX1_cellOf 121 = .ok (.aload_n 3, 1) := dk_45 (dk_at dksX1_cellOf_4 1 rfl rfl)
theorem dX1_cellOf_122 : decode cX1_cellOf 122 = .ok (.invokevirtual 506, 3) := dk_182 1 250 (dk_at dksX1_cellOf_4 2 rfl rfl)
theorem dX1_cellOf_125 : decode cX1_cellOf 125 = .ok (.ifCond .eq 10, 3) := dk_153 0 10 (dk_at dksX1_cellOf_4 5 rfl rfl)
theorem dX1_cellOf_128 : decode cX1_cellOf 128 = .ok (.aload_n 3, 1) := dk_45 (dk_at dksX1_cellOf_4 8 rfl rfl)
theorem dX1_cellOf_129 : decode cX1_cellOf 129 = .ok (.invokevirtual 427, 3) := dk_182 1 171 (dk_at dksX1_cellOf_4 9 rfl rfl)
theorem dX1_cellOf_132 : decode cX1_cellOf 132 = .ok (.goto 4, 3) := dk_167 0 4 (dk_at dksX1_cellOf_4 12 rfl rfl)
theorem dX1_cellOf_135 : decode cX1_cellOf 135 = .ok (.iconst (-1), 1) := dk_2 (dk_at dksX1_cellOf_4 15 rfl rfl)
theorem dX1_cellOf_136 : decode cX1_cellOf 136 = .ok (.ireturn, 1) := dk_172 (dk_at dksX1_cellOf_4 16 rfl rfl)
theorem dX1_cellOf_137 : decode cX1_cellOf 137 = .ok (.iconst (-1), 1) := dk_2 (dk_at dksX1_cellOf_4 17 rfl rfl)
theorem dX1_cellOf_138 : decode cX1_cellOf 138 = .ok (.ireturn, 1) := dk_172 (dk_at dksX1_cellOf_4 18 rfl rfl)
abbrev cX1_netsOf : ByteArray := prog_1_method_68_code
def yX1_netsOf : MethodName := ⟨RX1, "netsOf", "(I)I"⟩
def dkwX1_netsOf_1 : List UInt8 := [50, 27, 182, 0, 208, 2, 160, 0, 7, 3, 167, 0, 4, 4, 96, 61, 132, 3, 1, 167, 255, 217, 28, 172]
abbrev dktX1_netsOf_1 : List UInt8 := dkwX1_netsOf_1 ++ []
def dkwX1_netsOf_0 : List UInt8 := [3, 61, 3, 62, 29, 42, 180, 0, 67, 180, 0, 107, 162, 0, 34, 28, 42, 180, 0, 67, 180, 0, 223, 29]
abbrev dktX1_netsOf_0 : List UInt8 := dkwX1_netsOf_0 ++ dktX1_netsOf_1
theorem dksX1_netsOf_0 : cX1_netsOf.data.toList.drop 0 = dktX1_netsOf_0 := by decide +kernel
theorem dksX1_netsOf_1 : cX1_netsOf.data.toList.drop 24 = dktX1_netsOf_1 := dk_seg dksX1_netsOf_0 24 rfl rfl
theorem dX1_netsOf_0 : decode cX1_netsOf 0 = .ok (.iconst 0, 1) := dk_3 (dk_at dksX1_netsOf_0 0 rfl rfl)
theorem dX1_netsOf_1 : decode cX1_netsOf 1 = .ok (.istore_n 2, 1) := dk_61 (dk_at dksX1_netsOf_0 1 rfl rfl)
theorem dX1_netsOf_2 : decode cX1_netsOf 2 = .ok (.iconst 0, 1) := dk_3 (dk_at dksX1_netsOf_0 2 rfl rfl)
theorem dX1_netsOf_3 : decode cX1_netsOf 3 = .ok (.istore_n 3, 1) := dk_62 (dk_at dksX1_netsOf_0 3 rfl rfl)
theorem dX1_netsOf_4 : decode cX1_netsOf 4 = .ok (.iload_n 3, 1) := dk_29 (dk_at dksX1_netsOf_0 4 rfl rfl)
theorem dX1_netsOf_5 : decode cX1_netsOf 5 = .ok (.aload_n 0, 1) := dk_42 (dk_at dksX1_netsOf_0 5 rfl rfl)
theorem dX1_netsOf_6 : decode cX1_netsOf 6 = .ok (.getfield 67, 3) := dk_180 0 67 (dk_at dksX1_netsOf_0 6 rfl rfl)
theorem dX1_netsOf_9 : decode cX1_netsOf 9 = .ok (.getfield 107, 3) := dk_180 0 107 (dk_at dksX1_netsOf_0 9 rfl rfl)
theorem dX1_netsOf_12 : decode cX1_netsOf 12 = .ok (.if_icmp .ge 34, 3) := dk_162 0 34 (dk_at dksX1_netsOf_0 12 rfl rfl)
theorem dX1_netsOf_15 : decode cX1_netsOf 15 = .ok (.iload_n 2, 1) := dk_28 (dk_at dksX1_netsOf_0 15 rfl rfl)
theorem dX1_netsOf_16 : decode cX1_netsOf 16 = .ok (.aload_n 0, 1) := dk_42 (dk_at dksX1_netsOf_0 16 rfl rfl)
theorem dX1_netsOf_17 : decode cX1_netsOf 17 = .ok (.getfield 67, 3) := dk_180 0 67 (dk_at dksX1_netsOf_0 17 rfl rfl)
theorem dX1_netsOf_20 : decode cX1_netsOf 20 = .ok (.getfield 223, 3) := dk_180 0 223 (dk_at dksX1_netsOf_0 20 rfl rfl)
theorem dX1_netsOf_23 : decode cX1_netsOf 23 = .ok (.iload_n 3, 1) := dk_29 (dk_at dksX1_netsOf_0 23 rfl rfl)
theorem dX1_netsOf_24 : decode cX1_netsOf 24 = .ok (.aaload, 1) := dk_50 (dk_at dksX1_netsOf_1 0 rfl rfl)
theorem dX1_netsOf_25 : decode cX1_netsOf 25 = .ok (.iload_n 1, 1) := dk_27 (dk_at dksX1_netsOf_1 1 rfl rfl)
theorem dX1_netsOf_26 : decode cX1_netsOf 26 = .ok (.invokevirtual 208, 3) := dk_182 0 208 (dk_at dksX1_netsOf_1 2 rfl rfl)
theorem dX1_netsOf_29 : decode cX1_netsOf 29 = .ok (.iconst (-1), 1) := dk_2 (dk_at dksX1_netsOf_1 5 rfl rfl)
theorem dX1_netsOf_30 : decode cX1_netsOf 30 = .ok (.if_icmp .ne 7, 3) := dk_160 0 7 (dk_at dksX1_netsOf_1 6 rfl rfl)
theorem dX1_netsOf_33 : decode cX1_netsOf 33 = .ok (.iconst 0, 1) := dk_3 (dk_at dksX1_netsOf_1 9 rfl rfl)
theorem dX1_netsOf_34 : decode cX1_netsOf 34 = .ok (.goto 4, 3) := dk_167 0 4 (dk_at dksX1_netsOf_1 10 rfl rfl)
theorem dX1_netsOf_37 : decode cX1_netsOf 37 = .ok (.iconst 1, 1) := dk_4 (dk_at dksX1_netsOf_1 13 rfl rfl)
theorem dX1_netsOf_38 : decode cX1_netsOf 38 = .ok (.iadd, 1) := dk_96 (dk_at dksX1_netsOf_1 14 rfl rfl)
theorem dX1_netsOf_39 : decode cX1_netsOf 39 = .ok (.istore_n 2, 1) := dk_61 (dk_at dksX1_netsOf_1 15 rfl rfl)
theorem dX1_netsOf_40 : decode cX1_netsOf 40 = .ok (.iinc 3 1, 3) := dk_132 3 1 (dk_at dksX1_netsOf_1 16 rfl rfl)
theorem dX1_netsOf_43 : decode cX1_netsOf 43 = .ok (.goto (-39), 3) := dk_167 255 217 (dk_at dksX1_netsOf_1 19 rfl rfl)
theorem dX1_netsOf_46 : decode cX1_netsOf 46 = .ok (.iload_n 2, 1) := dk_28 (dk_at dksX1_netsOf_1 22 rfl rfl)
theorem dX1_netsOf_47 : decode cX1_netsOf 47 = .ok (.ireturn, 1) := dk_172 (dk_at dksX1_netsOf_1 23 rfl rfl)
abbrev cX1_netOf : ByteArray := prog_1_method_70_code
def yX1_netOf : MethodName := ⟨RX1, "netOf", "(II)I"⟩
def dkwX1_netOf_5 : List UInt8 := [182, 1, 30, 167, 0, 4, 2, 172]
abbrev dktX1_netOf_5 : List UInt8 := dkwX1_netOf_5 ++ []
def dkwX1_netOf_4 : List UInt8 := [160, 0, 14, 42, 180, 0, 41, 45, 182, 1, 24, 167, 0, 20, 28, 6, 160, 0, 14, 42, 180, 0, 34, 45]
abbrev dktX1_netOf_4 : List UInt8 := dkwX1_netOf_4 ++ dktX1_netOf_5
def dkwX1_netOf_3 : List UInt8 := [154, 0, 10, 45, 180, 1, 21, 167, 0, 48, 28, 4, 160, 0, 10, 45, 180, 0, 233, 167, 0, 36, 28, 5]
abbrev dktX1_netOf_3 : List UInt8 := dkwX1_netOf_3 ++ dktX1_netOf_4
def dkwX1_netOf_2 : List UInt8 := [180, 1, 253, 28, 5, 108, 8, 100, 46, 167, 0, 13, 45, 180, 1, 67, 28, 5, 108, 8, 100, 46, 172, 28]
abbrev dktX1_netOf_2 : List UInt8 := dkwX1_netOf_2 ++ dktX1_netOf_3
def dkwX1_netOf_1 : List UInt8 := [16, 9, 5, 45, 180, 0, 233, 104, 96, 184, 0, 103, 153, 0, 33, 28, 5, 112, 154, 0, 16, 45]
abbrev dktX1_netOf_1 : List UInt8 := dkwX1_netOf_1 ++ dktX1_netOf_2
def dkwX1_netOf_0 : List UInt8 := [42, 27, 182, 0, 230, 154, 0, 5, 2, 172, 42, 180, 0, 67, 180, 0, 223, 27, 50, 78, 28, 16, 10]
abbrev dktX1_netOf_0 : List UInt8 := dkwX1_netOf_0 ++ dktX1_netOf_1
theorem dksX1_netOf_0 : cX1_netOf.data.toList.drop 0 = dktX1_netOf_0 := by decide +kernel
theorem dksX1_netOf_1 : cX1_netOf.data.toList.drop 23 = dktX1_netOf_1 := dk_seg dksX1_netOf_0 23 rfl rfl
theorem dksX1_netOf_2 : cX1_netOf.data.toList.drop 45 = dktX1_netOf_2 := dk_seg dksX1_netOf_1 22 rfl rfl
theorem dksX1_netOf_3 : cX1_netOf.data.toList.drop 69 = dktX1_netOf_3 := dk_seg dksX1_netOf_2 24 rfl rfl
theorem dksX1_netOf_4 : cX1_netOf.data.toList.drop 93 = dktX1_netOf_4 := dk_seg dksX1_netOf_3 24 rfl rfl
theorem dksX1_netOf_5 : cX1_netOf.data.toList.drop 117 = dktX1_netOf_5 := dk_seg dksX1_netOf_4 24 rfl rfl
theorem dX1_netOf_0 : decode cX1_netOf 0 = .ok (.aload_n 0, 1) := dk_42 (dk_at dksX1_netOf_0 0 rfl rfl)
theorem dX1_netOf_1 : decode cX1_netOf 1 = .ok (.iload_n 1, 1) := dk_27 (dk_at dksX1_netOf_0 1 rfl rfl)
theorem dX1_netOf_2 : decode cX1_netOf 2 = .ok (.invokevirtual 230, 3) := dk_182 0 230 (dk_at dksX1_netOf_0 2 rfl rfl)
theorem dX1_netOf_5 : decode cX1_netOf 5 = .ok (.ifCond .ne 5, 3) := dk_154 0 5 (dk_at dksX1_netOf_0 5 rfl rfl)
theorem dX1_netOf_8 : decode cX1_netOf 8 = .ok (.iconst (-1), 1) := dk_2 (dk_at dksX1_netOf_0 8 rfl rfl)
theorem dX1_netOf_9 : decode cX1_netOf 9 = .ok (.ireturn, 1) := dk_172 (dk_at dksX1_netOf_0 9 rfl rfl)
theorem dX1_netOf_10 : decode cX1_netOf 10 = .ok (.aload_n 0, 1) := dk_42 (dk_at dksX1_netOf_0 10 rfl rfl)
theorem dX1_netOf_11 : decode cX1_netOf 11 = .ok (.getfield 67, 3) := dk_180 0 67 (dk_at dksX1_netOf_0 11 rfl rfl)
theorem dX1_netOf_14 : decode cX1_netOf 14 = .ok (.getfield 223, 3) := dk_180 0 223 (dk_at dksX1_netOf_0 14 rfl rfl)
theorem dX1_netOf_17 : decode cX1_netOf 17 = .ok (.iload_n 1, 1) := dk_27 (dk_at dksX1_netOf_0 17 rfl rfl)
theorem dX1_netOf_18 : decode cX1_netOf 18 = .ok (.aaload, 1) := dk_50 (dk_at dksX1_netOf_0 18 rfl rfl)
theorem dX1_netOf_19 : decode cX1_netOf 19 = .ok (.astore_n 3, 1) := dk_78 (dk_at dksX1_netOf_0 19 rfl rfl)
theorem dX1_netOf_20 : decode cX1_netOf 20 = .ok (.iload_n 2, 1) := dk_28 (dk_at dksX1_netOf_0 20 rfl rfl)
theorem dX1_netOf_21 : decode cX1_netOf 21 = .ok (.bipush 10, 2) := dk_16 10 (dk_at dksX1_netOf_0 21 rfl rfl)
theorem dX1_netOf_23 : decode cX1_netOf 23 = .ok (.bipush 9, 2) := dk_16 9 (dk_at dksX1_netOf_1 0 rfl rfl)
theorem dX1_netOf_25 : decode cX1_netOf 25 = .ok (.iconst 2, 1) := dk_5 (dk_at dksX1_netOf_1 2 rfl rfl)
theorem dX1_netOf_26 : decode cX1_netOf 26 = .ok (.aload_n 3, 1) := dk_45 (dk_at dksX1_netOf_1 3 rfl rfl)
theorem dX1_netOf_27 : decode cX1_netOf 27 = .ok (.getfield 233, 3) := dk_180 0 233 (dk_at dksX1_netOf_1 4 rfl rfl)
theorem dX1_netOf_30 : decode cX1_netOf 30 = .ok (.imul, 1) := dk_104 (dk_at dksX1_netOf_1 7 rfl rfl)
theorem dX1_netOf_31 : decode cX1_netOf 31 = .ok (.iadd, 1) := dk_96 (dk_at dksX1_netOf_1 8 rfl rfl)
theorem dX1_netOf_32 : decode cX1_netOf 32 = .ok (.invokestatic 103, 3) := dk_184 0 103 (dk_at dksX1_netOf_1 9 rfl rfl)
theorem dX1_netOf_35 : decode cX1_netOf 35 = .ok (.ifCond .eq 33, 3) := dk_153 0 33 (dk_at dksX1_netOf_1 12 rfl rfl)
theorem dX1_netOf_38 : decode cX1_netOf 38 = .ok (.iload_n 2, 1) := dk_28 (dk_at dksX1_netOf_1 15 rfl rfl)
theorem dX1_netOf_39 : decode cX1_netOf 39 = .ok (.iconst 2, 1) := dk_5 (dk_at dksX1_netOf_1 16 rfl rfl)
theorem dX1_netOf_40 : decode cX1_netOf 40 = .ok (.irem, 1) := dk_112 (dk_at dksX1_netOf_1 17 rfl rfl)
theorem dX1_netOf_41 : decode cX1_netOf 41 = .ok (.ifCond .ne 16, 3) := dk_154 0 16 (dk_at dksX1_netOf_1 18 rfl rfl)
theorem dX1_netOf_44 : decode cX1_netOf 44 = .ok (.aload_n 3, 1) := dk_45 (dk_at dksX1_netOf_1 21 rfl rfl)
theorem dX1_netOf_45 : decode cX1_netOf 45 = .ok (.getfield 509, 3) := dk_180 1 253 (dk_at dksX1_netOf_2 0 rfl rfl)
theorem dX1_netOf_48 : decode cX1_netOf 48 = .ok (.iload_n 2, 1) := dk_28 (dk_at dksX1_netOf_2 3 rfl rfl)
theorem dX1_netOf_49 : decode cX1_netOf 49 = .ok (.iconst 2, 1) := dk_5 (dk_at dksX1_netOf_2 4 rfl rfl)
theorem dX1_netOf_50 : decode cX1_netOf 50 = .ok (.idiv, 1) := dk_108 (dk_at dksX1_netOf_2 5 rfl rfl)
theorem dX1_netOf_51 : decode cX1_netOf 51 = .ok (.iconst 5, 1) := dk_8 (dk_at dksX1_netOf_2 6 rfl rfl)
theorem dX1_netOf_52 : decode cX1_netOf 52 = .ok (.isub, 1) := dk_100 (dk_at dksX1_netOf_2 7 rfl rfl)
theorem dX1_netOf_53 : decode cX1_netOf 53 = .ok (.iaload, 1) := dk_46 (dk_at dksX1_netOf_2 8 rfl rfl)
theorem dX1_netOf_54 : decode cX1_netOf 54 = .ok (.goto 13, 3) := dk_167 0 13 (dk_at dksX1_netOf_2 9 rfl rfl)
theorem dX1_netOf_57 : decode cX1_netOf 57 = .ok (.aload_n 3, 1) := dk_45 (dk_at dksX1_netOf_2 12 rfl rfl)
theorem dX1_netOf_58 : decode cX1_netOf 58 = .ok (.getfield 323, 3) := dk_180 1 67 (dk_at dksX1_netOf_2 13 rfl rfl)
theorem dX1_netOf_61 : decode cX1_netOf 61 = .ok (.iload_n 2, 1) := dk_28 (dk_at dksX1_netOf_2 16 rfl rfl)
theorem dX1_netOf_62 : decode cX1_netOf 62 = .ok (.iconst 2, 1) := dk_5 (dk_at dksX1_netOf_2 17 rfl rfl)
theorem dX1_netOf_63 : decode cX1_netOf 63 = .ok (.idiv, 1) := dk_108 (dk_at dksX1_netOf_2 18 rfl rfl)
theorem dX1_netOf_64 : decode cX1_netOf 64 = .ok (.iconst 5, 1) := dk_8 (dk_at dksX1_netOf_2 19 rfl rfl)
theorem dX1_netOf_65 : decode cX1_netOf 65 = .ok (.isub, 1) := dk_100 (dk_at dksX1_netOf_2 20 rfl rfl)
theorem dX1_netOf_66 : decode cX1_netOf 66 = .ok (.iaload, 1) := dk_46 (dk_at dksX1_netOf_2 21 rfl rfl)
theorem dX1_netOf_67 : decode cX1_netOf 67 = .ok (.ireturn, 1) := dk_172 (dk_at dksX1_netOf_2 22 rfl rfl)
theorem dX1_netOf_68 : decode cX1_netOf 68 = .ok (.iload_n 2, 1) := dk_28 (dk_at dksX1_netOf_2 23 rfl rfl)
theorem dX1_netOf_69 : decode cX1_netOf 69 = .ok (.ifCond .ne 10, 3) := dk_154 0 10 (dk_at dksX1_netOf_3 0 rfl rfl)
theorem dX1_netOf_72 : decode cX1_netOf 72 = .ok (.aload_n 3, 1) := dk_45 (dk_at dksX1_netOf_3 3 rfl rfl)
theorem dX1_netOf_73 : decode cX1_netOf 73 = .ok (.getfield 277, 3) := dk_180 1 21 (dk_at dksX1_netOf_3 4 rfl rfl)
theorem dX1_netOf_76 : decode cX1_netOf 76 = .ok (.goto 48, 3) := dk_167 0 48 (dk_at dksX1_netOf_3 7 rfl rfl)
theorem dX1_netOf_79 : decode cX1_netOf 79 = .ok (.iload_n 2, 1) := dk_28 (dk_at dksX1_netOf_3 10 rfl rfl)
theorem dX1_netOf_80 : decode cX1_netOf 80 = .ok (.iconst 1, 1) := dk_4 (dk_at dksX1_netOf_3 11 rfl rfl)
theorem dX1_netOf_81 : decode cX1_netOf 81 = .ok (.if_icmp .ne 10, 3) := dk_160 0 10 (dk_at dksX1_netOf_3 12 rfl rfl)
theorem dX1_netOf_84 : decode cX1_netOf 84 = .ok (.aload_n 3, 1) := dk_45 (dk_at dksX1_netOf_3 15 rfl rfl)
theorem dX1_netOf_85 : decode cX1_netOf 85 = .ok (.getfield 233, 3) := dk_180 0 233 (dk_at dksX1_netOf_3 16 rfl rfl)
theorem dX1_netOf_88 : decode cX1_netOf 88 = .ok (.goto 36, 3) := dk_167 0 36 (dk_at dksX1_netOf_3 19 rfl rfl)
theorem dX1_netOf_91 : decode cX1_netOf 91 = .ok (.iload_n 2, 1) := dk_28 (dk_at dksX1_netOf_3 22 rfl rfl)
theorem dX1_netOf_92 : decode cX1_netOf 92 = .ok (.iconst 2, 1) := dk_5 (dk_at dksX1_netOf_3 23 rfl rfl)
theorem dX1_netOf_93 : decode cX1_netOf 93 = .ok (.if_icmp .ne 14, 3) := dk_160 0 14 (dk_at dksX1_netOf_4 0 rfl rfl)
theorem dX1_netOf_96 : decode cX1_netOf 96 = .ok (.aload_n 0, 1) := dk_42 (dk_at dksX1_netOf_4 3 rfl rfl)
theorem dX1_netOf_97 : decode cX1_netOf 97 = .ok (.getfield 41, 3) := dk_180 0 41 (dk_at dksX1_netOf_4 4 rfl rfl)
theorem dX1_netOf_100 : decode cX1_netOf 100 = .ok (.aload_n 3, 1) := dk_45 (dk_at dksX1_netOf_4 7 rfl rfl)
theorem dX1_netOf_101 : decode cX1_netOf 101 = .ok (.invokevirtual 280, 3) := dk_182 1 24 (dk_at dksX1_netOf_4 8 rfl rfl)
theorem dX1_netOf_104 : decode cX1_netOf 104 = .ok (.goto 20, 3) := dk_167 0 20 (dk_at dksX1_netOf_4 11 rfl rfl)
theorem dX1_netOf_107 : decode cX1_netOf 107 = .ok (.iload_n 2, 1) := dk_28 (dk_at dksX1_netOf_4 14 rfl rfl)
theorem dX1_netOf_108 : decode cX1_netOf 108 = .ok (.iconst 3, 1) := dk_6 (dk_at dksX1_netOf_4 15 rfl rfl)
theorem dX1_netOf_109 : decode cX1_netOf 109 = .ok (.if_icmp .ne 14, 3) := dk_160 0 14 (dk_at dksX1_netOf_4 16 rfl rfl)
theorem dX1_netOf_112 : decode cX1_netOf 112 = .ok (.aload_n 0, 1) := dk_42 (dk_at dksX1_netOf_4 19 rfl rfl)
theorem dX1_netOf_113 : decode cX1_netOf 113 = .ok (.getfield 34, 3) := dk_180 0 34 (dk_at dksX1_netOf_4 20 rfl rfl)
theorem dX1_netOf_116 : decode cX1_netOf 116 = .ok (.aload_n 3, 1) := dk_45 (dk_at dksX1_netOf_4 23 rfl rfl)
theorem dX1_netOf_117 : decode cX1_netOf 117 = .ok (.invokevirtual 286, 3) := dk_182 1 30 (dk_at dksX1_netOf_5 0 rfl rfl)
theorem dX1_netOf_120 : decode cX1_netOf 120 = .ok (.goto 4, 3) := dk_167 0 4 (dk_at dksX1_netOf_5 3 rfl rfl)
theorem dX1_netOf_123 : decode cX1_netOf 123 = .ok (.iconst (-1), 1) := dk_2 (dk_at dksX1_netOf_5 6 rfl rfl)
theorem dX1_netOf_124 : decode cX1_netOf 124 = .ok (.ireturn, 1) := dk_172 (dk_at dksX1_netOf_5 7 rfl rfl)
abbrev cX1_bin : ByteArray := prog_1_method_71_code
def yX1_bin : MethodName := ⟨RX1, "bin", "(II)I"⟩
def dkwX1_bin_3 : List UInt8 := [167, 0, 7, 45, 182, 2, 6, 172]
abbrev dktX1_bin_3 : List UInt8 := dkwX1_bin_3 ++ []
def dkwX1_bin_2 : List UInt8 := [167, 0, 31, 28, 4, 160, 0, 10, 45, 182, 2, 3, 167, 0, 19, 28, 5, 160, 0, 10, 45, 182, 1, 52]
abbrev dktX1_bin_2 : List UInt8 := dkwX1_bin_2 ++ dktX1_bin_3
def dkwX1_bin_1 : List UInt8 := [172, 187, 1, 43, 89, 42, 27, 183, 1, 45, 182, 1, 48, 78, 28, 154, 0, 10, 45, 180, 2, 0]
abbrev dktX1_bin_1 : List UInt8 := dkwX1_bin_1 ++ dktX1_bin_2
def dkwX1_bin_0 : List UInt8 := [27, 3, 42, 182, 1, 40, 4, 100, 184, 0, 103, 153, 0, 12, 28, 3, 6, 184, 0, 103, 154, 0, 5, 2]
abbrev dktX1_bin_0 : List UInt8 := dkwX1_bin_0 ++ dktX1_bin_1
theorem dksX1_bin_0 : cX1_bin.data.toList.drop 0 = dktX1_bin_0 := by decide +kernel
theorem dksX1_bin_1 : cX1_bin.data.toList.drop 24 = dktX1_bin_1 := dk_seg dksX1_bin_0 24 rfl rfl
theorem dksX1_bin_2 : cX1_bin.data.toList.drop 46 = dktX1_bin_2 := dk_seg dksX1_bin_1 22 rfl rfl
theorem dksX1_bin_3 : cX1_bin.data.toList.drop 70 = dktX1_bin_3 := dk_seg dksX1_bin_2 24 rfl rfl
theorem dX1_bin_0 : decode cX1_bin 0 = .ok (.iload_n 1, 1) := dk_27 (dk_at dksX1_bin_0 0 rfl rfl)
theorem dX1_bin_1 : decode cX1_bin 1 = .ok (.iconst 0, 1) := dk_3 (dk_at dksX1_bin_0 1 rfl rfl)
theorem dX1_bin_2 : decode cX1_bin 2 = .ok (.aload_n 0, 1) := dk_42 (dk_at dksX1_bin_0 2 rfl rfl)
theorem dX1_bin_3 : decode cX1_bin 3 = .ok (.invokevirtual 296, 3) := dk_182 1 40 (dk_at dksX1_bin_0 3 rfl rfl)
theorem dX1_bin_6 : decode cX1_bin 6 = .ok (.iconst 1, 1) := dk_4 (dk_at dksX1_bin_0 6 rfl rfl)
theorem dX1_bin_7 : decode cX1_bin 7 = .ok (.isub, 1) := dk_100 (dk_at dksX1_bin_0 7 rfl rfl)
theorem dX1_bin_8 : decode cX1_bin 8 = .ok (.invokestatic 103, 3) := dk_184 0 103 (dk_at dksX1_bin_0 8 rfl rfl)
theorem dX1_bin_11 : decode cX1_bin 11 = .ok (.ifCond .eq 12, 3) := dk_153 0 12 (dk_at dksX1_bin_0 11 rfl rfl)
theorem dX1_bin_14 : decode cX1_bin 14 = .ok (.iload_n 2, 1) := dk_28 (dk_at dksX1_bin_0 14 rfl rfl)
theorem dX1_bin_15 : decode cX1_bin 15 = .ok (.iconst 0, 1) := dk_3 (dk_at dksX1_bin_0 15 rfl rfl)
theorem dX1_bin_16 : decode cX1_bin 16 = .ok (.iconst 3, 1) := dk_6 (dk_at dksX1_bin_0 16 rfl rfl)
theorem dX1_bin_17 : decode cX1_bin 17 = .ok (.invokestatic 103, 3) := dk_184 0 103 (dk_at dksX1_bin_0 17 rfl rfl)
theorem dX1_bin_20 : decode cX1_bin 20 = .ok (.ifCond .ne 5, 3) := dk_154 0 5 (dk_at dksX1_bin_0 20 rfl rfl)
theorem dX1_bin_23 : decode cX1_bin 23 = .ok (.iconst (-1), 1) := dk_2 (dk_at dksX1_bin_0 23 rfl rfl)
theorem dX1_bin_24 : decode cX1_bin 24 = .ok (.ireturn, 1) := dk_172 (dk_at dksX1_bin_1 0 rfl rfl)
theorem dX1_bin_25 : decode cX1_bin 25 = .ok (.new 299, 3) := dk_187 1 43 (dk_at dksX1_bin_1 1 rfl rfl)
theorem dX1_bin_28 : decode cX1_bin 28 = .ok (.dup, 1) := dk_89 (dk_at dksX1_bin_1 4 rfl rfl)
theorem dX1_bin_29 : decode cX1_bin 29 = .ok (.aload_n 0, 1) := dk_42 (dk_at dksX1_bin_1 5 rfl rfl)
theorem dX1_bin_30 : decode cX1_bin 30 = .ok (.iload_n 1, 1) := dk_27 (dk_at dksX1_bin_1 6 rfl rfl)
theorem dX1_bin_31 : decode cX1_bin 31 = .ok (.invokespecial 301, 3) := dk_183 1 45 (dk_at dksX1_bin_1 7 rfl rfl)
theorem dX1_bin_34 : decode cX1_bin 34 = .ok (.invokevirtual 304, 3) := dk_182 1 48 (dk_at dksX1_bin_1 10 rfl rfl)
theorem dX1_bin_37 : decode cX1_bin 37 = .ok (.astore_n 3, 1) := dk_78 (dk_at dksX1_bin_1 13 rfl rfl)
theorem dX1_bin_38 : decode cX1_bin 38 = .ok (.iload_n 2, 1) := dk_28 (dk_at dksX1_bin_1 14 rfl rfl)
theorem dX1_bin_39 : decode cX1_bin 39 = .ok (.ifCond .ne 10, 3) := dk_154 0 10 (dk_at dksX1_bin_1 15 rfl rfl)
theorem dX1_bin_42 : decode cX1_bin 42 = .ok (.aload_n 3, 1) := dk_45 (dk_at dksX1_bin_1 18 rfl rfl)
theorem dX1_bin_43 : decode cX1_bin 43 = .ok (.getfield 512, 3) := dk_180 2 0 (dk_at dksX1_bin_1 19 rfl rfl)
theorem dX1_bin_46 : decode cX1_bin 46 = .ok (.goto 31, 3) := dk_167 0 31 (dk_at dksX1_bin_2 0 rfl rfl)
theorem dX1_bin_49 : decode cX1_bin 49 = .ok (.iload_n 2, 1) := dk_28 (dk_at dksX1_bin_2 3 rfl rfl)
theorem dX1_bin_50 : decode cX1_bin 50 = .ok (.iconst 1, 1) := dk_4 (dk_at dksX1_bin_2 4 rfl rfl)
theorem dX1_bin_51 : decode cX1_bin 51 = .ok (.if_icmp .ne 10, 3) := dk_160 0 10 (dk_at dksX1_bin_2 5 rfl rfl)
theorem dX1_bin_54 : decode cX1_bin 54 = .ok (.aload_n 3, 1) := dk_45 (dk_at dksX1_bin_2 8 rfl rfl)
theorem dX1_bin_55 : decode cX1_bin 55 = .ok (.invokevirtual 515, 3) := dk_182 2 3 (dk_at dksX1_bin_2 9 rfl rfl)
theorem dX1_bin_58 : decode cX1_bin 58 = .ok (.goto 19, 3) := dk_167 0 19 (dk_at dksX1_bin_2 12 rfl rfl)
theorem dX1_bin_61 : decode cX1_bin 61 = .ok (.iload_n 2, 1) := dk_28 (dk_at dksX1_bin_2 15 rfl rfl)
theorem dX1_bin_62 : decode cX1_bin 62 = .ok (.iconst 2, 1) := dk_5 (dk_at dksX1_bin_2 16 rfl rfl)
theorem dX1_bin_63 : decode cX1_bin 63 = .ok (.if_icmp .ne 10, 3) := dk_160 0 10 (dk_at dksX1_bin_2 17 rfl rfl)
theorem dX1_bin_66 : decode cX1_bin 66 = .ok (.aload_n 3, 1) := dk_45 (dk_at dksX1_bin_2 20 rfl rfl)
theorem dX1_bin_67 : decode cX1_bin 67 = .ok (.invokevirtual 308, 3) := dk_182 1 52 (dk_at dksX1_bin_2 21 rfl rfl)
theorem dX1_bin_70 : decode cX1_bin 70 = .ok (.goto 7, 3) := dk_167 0 7 (dk_at dksX1_bin_3 0 rfl rfl)
theorem dX1_bin_73 : decode cX1_bin 73 = .ok (.aload_n 3, 1) := dk_45 (dk_at dksX1_bin_3 3 rfl rfl)
theorem dX1_bin_74 : decode cX1_bin 74 = .ok (.invokevirtual 518, 3) := dk_182 2 6 (dk_at dksX1_bin_3 4 rfl rfl)
theorem dX1_bin_77 : decode cX1_bin 77 = .ok (.ireturn, 1) := dk_172 (dk_at dksX1_bin_3 7 rfl rfl)
abbrev cX1_measure : ByteArray := prog_1_method_74_code
def yX1_measure : MethodName := ⟨RX1, "measure", "(I)I"⟩
def dkwX1_measure_3 : List UInt8 := [172, 42, 182, 2, 9, 172, 42, 27, 182, 2, 12, 172, 2, 172]
abbrev dktX1_measure_3 : List UInt8 := dkwX1_measure_3 ++ []
def dkwX1_measure_2 : List UInt8 := [42, 182, 1, 14, 172, 42, 182, 1, 55, 172, 42, 182, 1, 57, 172, 42, 182, 1, 86, 172, 42, 182, 1, 180]
abbrev dktX1_measure_2 : List UInt8 := dkwX1_measure_2 ++ dktX1_measure_3
def dkwX1_measure_1 : List UInt8 := [170, 0, 0, 0, 0, 0, 87, 0, 0, 0, 0, 0, 0, 0, 8, 0, 0, 0, 51, 0, 0, 0, 56, 0, 0, 0, 61, 0, 0, 0, 66, 0, 0, 0, 71, 0, 0, 0, 76, 0, 0, 0, 81, 0, 0, 0, 81, 0, 0, 0, 81]
abbrev dktX1_measure_1 : List UInt8 := dkwX1_measure_1 ++ dktX1_measure_2
def dkwX1_measure_0 : List UInt8 := [42, 182, 1, 99, 27]
abbrev dktX1_measure_0 : List UInt8 := dkwX1_measure_0 ++ dktX1_measure_1
theorem dksX1_measure_0 : cX1_measure.data.toList.drop 0 = dktX1_measure_0 := by decide +kernel
theorem dksX1_measure_1 : cX1_measure.data.toList.drop 5 = dktX1_measure_1 := dk_seg dksX1_measure_0 5 rfl rfl
theorem dksX1_measure_2 : cX1_measure.data.toList.drop 56 = dktX1_measure_2 := dk_seg dksX1_measure_1 51 rfl rfl
theorem dksX1_measure_3 : cX1_measure.data.toList.drop 80 = dktX1_measure_3 := dk_seg dksX1_measure_2 24 rfl rfl
theorem dX1_measure_0 : decode cX1_measure 0 = .ok (.aload_n 0, 1) := dk_42 (dk_at dksX1_measure_0 0 rfl rfl)
theorem dX1_measure_1 : decode cX1_measure 1 = .ok (.invokevirtual 355, 3) := dk_182 1 99 (dk_at dksX1_measure_0 1 rfl rfl)
theorem dX1_measure_4 : decode cX1_measure 4 = .ok (.iload_n 1, 1) := dk_27 (dk_at dksX1_measure_0 4 rfl rfl)
theorem dX1_measure_5 : decode cX1_measure 5 = .ok (.tableswitch 87 0 8 #[51, 56, 61, 66, 71, 76, 81, 81, 81], 51) := by decide +kernel
theorem dX1_measure_56 : decode cX1_measure 56 = .ok (.aload_n 0, 1) := dk_42 (dk_at dksX1_measure_2 0 rfl rfl)
theorem dX1_measure_57 : decode cX1_measure 57 = .ok (.invokevirtual 270, 3) := dk_182 1 14 (dk_at dksX1_measure_2 1 rfl rfl)
theorem dX1_measure_60 : decode cX1_measure 60 = .ok (.ireturn, 1) := dk_172 (dk_at dksX1_measure_2 4 rfl rfl)
theorem dX1_measure_61 : decode cX1_measure 61 = .ok (.aload_n 0, 1) := dk_42 (dk_at dksX1_measure_2 5 rfl rfl)
theorem dX1_measure_62 : decode cX1_measure 62 = .ok (.invokevirtual 311, 3) := dk_182 1 55 (dk_at dksX1_measure_2 6 rfl rfl)
theorem dX1_measure_65 : decode cX1_measure 65 = .ok (.ireturn, 1) := dk_172 (dk_at dksX1_measure_2 9 rfl rfl)
theorem dX1_measure_66 : decode cX1_measure 66 = .ok (.aload_n 0, 1) := dk_42 (dk_at dksX1_measure_2 10 rfl rfl)
theorem dX1_measure_67 : decode cX1_measure 67 = .ok (.invokevirtual 313, 3) := dk_182 1 57 (dk_at dksX1_measure_2 11 rfl rfl)
theorem dX1_measure_70 : decode cX1_measure 70 = .ok (.ireturn, 1) := dk_172 (dk_at dksX1_measure_2 14 rfl rfl)
theorem dX1_measure_71 : decode cX1_measure 71 = .ok (.aload_n 0, 1) := dk_42 (dk_at dksX1_measure_2 15 rfl rfl)
theorem dX1_measure_72 : decode cX1_measure 72 = .ok (.invokevirtual 342, 3) := dk_182 1 86 (dk_at dksX1_measure_2 16 rfl rfl)
theorem dX1_measure_75 : decode cX1_measure 75 = .ok (.ireturn, 1) := dk_172 (dk_at dksX1_measure_2 19 rfl rfl)
theorem dX1_measure_76 : decode cX1_measure 76 = .ok (.aload_n 0, 1) := dk_42 (dk_at dksX1_measure_2 20 rfl rfl)
theorem dX1_measure_77 : decode cX1_measure 77 = .ok (.invokevirtual 436, 3) := dk_182 1 180 (dk_at dksX1_measure_2 21 rfl rfl)
theorem dX1_measure_80 : decode cX1_measure 80 = .ok (.ireturn, 1) := dk_172 (dk_at dksX1_measure_3 0 rfl rfl)
theorem dX1_measure_81 : decode cX1_measure 81 = .ok (.aload_n 0, 1) := dk_42 (dk_at dksX1_measure_3 1 rfl rfl)
theorem dX1_measure_82 : decode cX1_measure 82 = .ok (.invokevirtual 521, 3) := dk_182 2 9 (dk_at dksX1_measure_3 2 rfl rfl)
theorem dX1_measure_85 : decode cX1_measure 85 = .ok (.ireturn, 1) := dk_172 (dk_at dksX1_measure_3 5 rfl rfl)
theorem dX1_measure_86 : decode cX1_measure 86 = .ok (.aload_n 0, 1) := dk_42 (dk_at dksX1_measure_3 6 rfl rfl)
theorem dX1_measure_87 : decode cX1_measure 87 = .ok (.iload_n 1, 1) := dk_27 (dk_at dksX1_measure_3 7 rfl rfl)
theorem dX1_measure_88 : decode cX1_measure 88 = .ok (.invokevirtual 524, 3) := dk_182 2 12 (dk_at dksX1_measure_3 8 rfl rfl)
theorem dX1_measure_91 : decode cX1_measure 91 = .ok (.ireturn, 1) := dk_172 (dk_at dksX1_measure_3 11 rfl rfl)
theorem dX1_measure_92 : decode cX1_measure 92 = .ok (.iconst (-1), 1) := dk_2 (dk_at dksX1_measure_3 12 rfl rfl)
theorem dX1_measure_93 : decode cX1_measure 93 = .ok (.ireturn, 1) := dk_172 (dk_at dksX1_measure_3 13 rfl rfl)
abbrev cX1_without : ByteArray := prog_1_method_73_code
def yX1_without : MethodName := ⟨RX1, "without", "()I"⟩
def dkwX1_without_1 : List UInt8 := [50, 182, 1, 250, 153, 0, 7, 3, 167, 0, 4, 4, 96, 60, 132, 2, 1, 167, 255, 219, 27, 172]
abbrev dktX1_without_1 : List UInt8 := dkwX1_without_1 ++ []
def dkwX1_without_0 : List UInt8 := [3, 60, 3, 61, 28, 42, 180, 0, 67, 180, 0, 100, 162, 0, 32, 27, 42, 180, 0, 67, 180, 0, 184, 28]
abbrev dktX1_without_0 : List UInt8 := dkwX1_without_0 ++ dktX1_without_1
theorem dksX1_without_0 : cX1_without.data.toList.drop 0 = dktX1_without_0 := by decide +kernel
theorem dksX1_without_1 : cX1_without.data.toList.drop 24 = dktX1_without_1 := dk_seg dksX1_without_0 24 rfl rfl
theorem dX1_without_0 : decode cX1_without 0 = .ok (.iconst 0, 1) := dk_3 (dk_at dksX1_without_0 0 rfl rfl)
theorem dX1_without_1 : decode cX1_without 1 = .ok (.istore_n 1, 1) := dk_60 (dk_at dksX1_without_0 1 rfl rfl)
theorem dX1_without_2 : decode cX1_without 2 = .ok (.iconst 0, 1) := dk_3 (dk_at dksX1_without_0 2 rfl rfl)
theorem dX1_without_3 : decode cX1_without 3 = .ok (.istore_n 2, 1) := dk_61 (dk_at dksX1_without_0 3 rfl rfl)
theorem dX1_without_4 : decode cX1_without 4 = .ok (.iload_n 2, 1) := dk_28 (dk_at dksX1_without_0 4 rfl rfl)
theorem dX1_without_5 : decode cX1_without 5 = .ok (.aload_n 0, 1) := dk_42 (dk_at dksX1_without_0 5 rfl rfl)
theorem dX1_without_6 : decode cX1_without 6 = .ok (.getfield 67, 3) := dk_180 0 67 (dk_at dksX1_without_0 6 rfl rfl)
theorem dX1_without_9 : decode cX1_without 9 = .ok (.getfield 100, 3) := dk_180 0 100 (dk_at dksX1_without_0 9 rfl rfl)
theorem dX1_without_12 : decode cX1_without 12 = .ok (.if_icmp .ge 32, 3) := dk_162 0 32 (dk_at dksX1_without_0 12 rfl rfl)
theorem dX1_without_15 : decode cX1_without 15 = .ok (.iload_n 1, 1) := dk_27 (dk_at dksX1_without_0 15 rfl rfl)
theorem dX1_without_16 : decode cX1_without 16 = .ok (.aload_n 0, 1) := dk_42 (dk_at dksX1_without_0 16 rfl rfl)
theorem dX1_without_17 : decode cX1_without 17 = .ok (.getfield 67, 3) := dk_180 0 67 (dk_at dksX1_without_0 17 rfl rfl)
theorem dX1_without_20 : decode cX1_without 20 = .ok (.getfield 184, 3) := dk_180 0 184 (dk_at dksX1_without_0 20 rfl rfl)
theorem dX1_without_23 : decode cX1_without 23 = .ok (.iload_n 2, 1) := dk_28 (dk_at dksX1_without_0 23 rfl rfl)
theorem dX1_without_24 : decode cX1_without 24 = .ok (.aaload, 1) := dk_50 (dk_at dksX1_without_1 0 rfl rfl)
theorem dX1_without_25 : decode cX1_without 25 = .ok (.invokevirtual 506, 3) := dk_182 1 250 (dk_at dksX1_without_1 1 rfl rfl)
theorem dX1_without_28 : decode cX1_without 28 = .ok (.ifCond .eq 7, 3) := dk_153 0 7 (dk_at dksX1_without_1 4 rfl rfl)
theorem dX1_without_31 : decode cX1_without 31 = .ok (.iconst 0, 1) := dk_3 (dk_at dksX1_without_1 7 rfl rfl)
theorem dX1_without_32 : decode cX1_without 32 = .ok (.goto 4, 3) := dk_167 0 4 (dk_at dksX1_without_1 8 rfl rfl)
theorem dX1_without_35 : decode cX1_without 35 = .ok (.iconst 1, 1) := dk_4 (dk_at dksX1_without_1 11 rfl rfl)
theorem dX1_without_36 : decode cX1_without 36 = .ok (.iadd, 1) := dk_96 (dk_at dksX1_without_1 12 rfl rfl)
theorem dX1_without_37 : decode cX1_without 37 = .ok (.istore_n 1, 1) := dk_60 (dk_at dksX1_without_1 13 rfl rfl)
theorem dX1_without_38 : decode cX1_without 38 = .ok (.iinc 2 1, 3) := dk_132 2 1 (dk_at dksX1_without_1 14 rfl rfl)
theorem dX1_without_41 : decode cX1_without 41 = .ok (.goto (-37), 3) := dk_167 255 219 (dk_at dksX1_without_1 17 rfl rfl)
theorem dX1_without_44 : decode cX1_without 44 = .ok (.iload_n 1, 1) := dk_27 (dk_at dksX1_without_1 20 rfl rfl)
theorem dX1_without_45 : decode cX1_without 45 = .ok (.ireturn, 1) := dk_172 (dk_at dksX1_without_1 21 rfl rfl)
abbrev cX1_crowds : ByteArray := prog_1_method_72_code
def yX1_crowds : MethodName := ⟨RX1, "crowds", "(I)I"⟩
def dkwX1_crowds_4 : List UInt8 := [167, 0, 5, 21, 4, 172]
abbrev dktX1_crowds_4 : List UInt8 := dkwX1_crowds_4 ++ []
def dkwX1_crowds_3 : List UInt8 := [132, 5, 1, 167, 255, 195, 27, 16, 6, 160, 0, 7, 28, 167, 0, 15, 27, 16, 7, 160, 0, 7, 29]
abbrev dktX1_crowds_3 : List UInt8 := dkwX1_crowds_3 ++ dktX1_crowds_4
def dkwX1_crowds_2 : List UInt8 := [167, 0, 4, 3, 96, 54, 4, 21, 6, 28, 163, 0, 6, 167, 0, 9, 21, 6, 61, 21, 5, 62]
abbrev dktX1_crowds_2 : List UInt8 := dkwX1_crowds_2 ++ dktX1_crowds_3
def dkwX1_crowds_1 : List UInt8 := [21, 5, 50, 182, 2, 6, 54, 6, 21, 4, 21, 6, 42, 180, 0, 13, 8, 46, 164, 0, 7, 4]
abbrev dktX1_crowds_1 : List UInt8 := dkwX1_crowds_1 ++ dktX1_crowds_2
def dkwX1_crowds_0 : List UInt8 := [3, 61, 3, 62, 3, 54, 4, 3, 54, 5, 21, 5, 42, 180, 1, 36, 190, 162, 0, 57, 42, 180, 1, 36]
abbrev dktX1_crowds_0 : List UInt8 := dkwX1_crowds_0 ++ dktX1_crowds_1
theorem dksX1_crowds_0 : cX1_crowds.data.toList.drop 0 = dktX1_crowds_0 := by decide +kernel
theorem dksX1_crowds_1 : cX1_crowds.data.toList.drop 24 = dktX1_crowds_1 := dk_seg dksX1_crowds_0 24 rfl rfl
theorem dksX1_crowds_2 : cX1_crowds.data.toList.drop 46 = dktX1_crowds_2 := dk_seg dksX1_crowds_1 22 rfl rfl
theorem dksX1_crowds_3 : cX1_crowds.data.toList.drop 68 = dktX1_crowds_3 := dk_seg dksX1_crowds_2 22 rfl rfl
theorem dksX1_crowds_4 : cX1_crowds.data.toList.drop 91 = dktX1_crowds_4 := dk_seg dksX1_crowds_3 23 rfl rfl
theorem dX1_crowds_0 : decode cX1_crowds 0 = .ok (.iconst 0, 1) := dk_3 (dk_at dksX1_crowds_0 0 rfl rfl)
theorem dX1_crowds_1 : decode cX1_crowds 1 = .ok (.istore_n 2, 1) := dk_61 (dk_at dksX1_crowds_0 1 rfl rfl)
theorem dX1_crowds_2 : decode cX1_crowds 2 = .ok (.iconst 0, 1) := dk_3 (dk_at dksX1_crowds_0 2 rfl rfl)
theorem dX1_crowds_3 : decode cX1_crowds 3 = .ok (.istore_n 3, 1) := dk_62 (dk_at dksX1_crowds_0 3 rfl rfl)
theorem dX1_crowds_4 : decode cX1_crowds 4 = .ok (.iconst 0, 1) := dk_3 (dk_at dksX1_crowds_0 4 rfl rfl)
theorem dX1_crowds_5 : decode cX1_crowds 5 = .ok (.istore 4, 2) := dk_54 4 (dk_at dksX1_crowds_0 5 rfl rfl)
theorem dX1_crowds_7 : decode cX1_crowds 7 = .ok (.iconst 0, 1) := dk_3 (dk_at dksX1_crowds_0 7 rfl rfl)
theorem dX1_crowds_8 : decode cX1_crowds 8 = .ok (.istore 5, 2) := dk_54 5 (dk_at dksX1_crowds_0 8 rfl rfl)
theorem dX1_crowds_10 : decode cX1_crowds 10 = .ok (.iload 5, 2) := dk_21 5 (dk_at dksX1_crowds_0 10 rfl rfl)
theorem dX1_crowds_12 : decode cX1_crowds 12 = .ok (.aload_n 0, 1) := dk_42 (dk_at dksX1_crowds_0 12 rfl rfl)
theorem dX1_crowds_13 : decode cX1_crowds 13 = .ok (.getfield 292, 3) := dk_180 1 36 (dk_at dksX1_crowds_0 13 rfl rfl)
theorem dX1_crowds_16 : decode cX1_crowds 16 = .ok (.arraylength, 1) := dk_190 (dk_at dksX1_crowds_0 16 rfl rfl)
theorem dX1_crowds_17 : decode cX1_crowds 17 = .ok (.if_icmp .ge 57, 3) := dk_162 0 57 (dk_at dksX1_crowds_0 17 rfl rfl)
theorem dX1_crowds_20 : decode cX1_crowds 20 = .ok (.aload_n 0, 1) := dk_42 (dk_at dksX1_crowds_0 20 rfl rfl)
theorem dX1_crowds_21 : decode cX1_crowds 21 = .ok (.getfield 292, 3) := dk_180 1 36 (dk_at dksX1_crowds_0 21 rfl rfl)
theorem dX1_crowds_24 : decode cX1_crowds 24 = .ok (.iload 5, 2) := dk_21 5 (dk_at dksX1_crowds_1 0 rfl rfl)
theorem dX1_crowds_26 : decode cX1_crowds 26 = .ok (.aaload, 1) := dk_50 (dk_at dksX1_crowds_1 2 rfl rfl)
theorem dX1_crowds_27 : decode cX1_crowds 27 = .ok (.invokevirtual 518, 3) := dk_182 2 6 (dk_at dksX1_crowds_1 3 rfl rfl)
theorem dX1_crowds_30 : decode cX1_crowds 30 = .ok (.istore 6, 2) := dk_54 6 (dk_at dksX1_crowds_1 6 rfl rfl)
theorem dX1_crowds_32 : decode cX1_crowds 32 = .ok (.iload 4, 2) := dk_21 4 (dk_at dksX1_crowds_1 8 rfl rfl)
theorem dX1_crowds_34 : decode cX1_crowds 34 = .ok (.iload 6, 2) := dk_21 6 (dk_at dksX1_crowds_1 10 rfl rfl)
theorem dX1_crowds_36 : decode cX1_crowds 36 = .ok (.aload_n 0, 1) := dk_42 (dk_at dksX1_crowds_1 12 rfl rfl)
theorem dX1_crowds_37 : decode cX1_crowds 37 = .ok (.getfield 13, 3) := dk_180 0 13 (dk_at dksX1_crowds_1 13 rfl rfl)
theorem dX1_crowds_40 : decode cX1_crowds 40 = .ok (.iconst 5, 1) := dk_8 (dk_at dksX1_crowds_1 16 rfl rfl)
theorem dX1_crowds_41 : decode cX1_crowds 41 = .ok (.iaload, 1) := dk_46 (dk_at dksX1_crowds_1 17 rfl rfl)
theorem dX1_crowds_42 : decode cX1_crowds 42 = .ok (.if_icmp .le 7, 3) := dk_164 0 7 (dk_at dksX1_crowds_1 18 rfl rfl)
theorem dX1_crowds_45 : decode cX1_crowds 45 = .ok (.iconst 1, 1) := dk_4 (dk_at dksX1_crowds_1 21 rfl rfl)
theorem dX1_crowds_46 : decode cX1_crowds 46 = .ok (.goto 4, 3) := dk_167 0 4 (dk_at dksX1_crowds_2 0 rfl rfl)
theorem dX1_crowds_49 : decode cX1_crowds 49 = .ok (.iconst 0, 1) := dk_3 (dk_at dksX1_crowds_2 3 rfl rfl)
theorem dX1_crowds_50 : decode cX1_crowds 50 = .ok (.iadd, 1) := dk_96 (dk_at dksX1_crowds_2 4 rfl rfl)
theorem dX1_crowds_51 : decode cX1_crowds 51 = .ok (.istore 4, 2) := dk_54 4 (dk_at dksX1_crowds_2 5 rfl rfl)
theorem dX1_crowds_53 : decode cX1_crowds 53 = .ok (.iload 6, 2) := dk_21 6 (dk_at dksX1_crowds_2 7 rfl rfl)
theorem dX1_crowds_55 : decode cX1_crowds 55 = .ok (.iload_n 2, 1) := dk_28 (dk_at dksX1_crowds_2 9 rfl rfl)
theorem dX1_crowds_56 : decode cX1_crowds 56 = .ok (.if_icmp .gt 6, 3) := dk_163 0 6 (dk_at dksX1_crowds_2 10 rfl rfl)
theorem dX1_crowds_59 : decode cX1_crowds 59 = .ok (.goto 9, 3) := dk_167 0 9 (dk_at dksX1_crowds_2 13 rfl rfl)
theorem dX1_crowds_62 : decode cX1_crowds 62 = .ok (.iload 6, 2) := dk_21 6 (dk_at dksX1_crowds_2 16 rfl rfl)
theorem dX1_crowds_64 : decode cX1_crowds 64 = .ok (.istore_n 2, 1) := dk_61 (dk_at dksX1_crowds_2 18 rfl rfl)
theorem dX1_crowds_65 : decode cX1_crowds 65 = .ok (.iload 5, 2) := dk_21 5 (dk_at dksX1_crowds_2 19 rfl rfl)
theorem dX1_crowds_67 : decode cX1_crowds 67 = .ok (.istore_n 3, 1) := dk_62 (dk_at dksX1_crowds_2 21 rfl rfl)
theorem dX1_crowds_68 : decode cX1_crowds 68 = .ok (.iinc 5 1, 3) := dk_132 5 1 (dk_at dksX1_crowds_3 0 rfl rfl)
theorem dX1_crowds_71 : decode cX1_crowds 71 = .ok (.goto (-61), 3) := dk_167 255 195 (dk_at dksX1_crowds_3 3 rfl rfl)
theorem dX1_crowds_74 : decode cX1_crowds 74 = .ok (.iload_n 1, 1) := dk_27 (dk_at dksX1_crowds_3 6 rfl rfl)
theorem dX1_crowds_75 : decode cX1_crowds 75 = .ok (.bipush 6, 2) := dk_16 6 (dk_at dksX1_crowds_3 7 rfl rfl)
theorem dX1_crowds_77 : decode cX1_crowds 77 = .ok (.if_icmp .ne 7, 3) := dk_160 0 7 (dk_at dksX1_crowds_3 9 rfl rfl)
theorem dX1_crowds_80 : decode cX1_crowds 80 = .ok (.iload_n 2, 1) := dk_28 (dk_at dksX1_crowds_3 12 rfl rfl)
theorem dX1_crowds_81 : decode cX1_crowds 81 = .ok (.goto 15, 3) := dk_167 0 15 (dk_at dksX1_crowds_3 13 rfl rfl)
theorem dX1_crowds_84 : decode cX1_crowds 84 = .ok (.iload_n 1, 1) := dk_27 (dk_at dksX1_crowds_3 16 rfl rfl)
theorem dX1_crowds_85 : decode cX1_crowds 85 = .ok (.bipush 7, 2) := dk_16 7 (dk_at dksX1_crowds_3 17 rfl rfl)
theorem dX1_crowds_87 : decode cX1_crowds 87 = .ok (.if_icmp .ne 7, 3) := dk_160 0 7 (dk_at dksX1_crowds_3 19 rfl rfl)
theorem dX1_crowds_90 : decode cX1_crowds 90 = .ok (.iload_n 3, 1) := dk_29 (dk_at dksX1_crowds_3 22 rfl rfl)
theorem dX1_crowds_91 : decode cX1_crowds 91 = .ok (.goto 5, 3) := dk_167 0 5 (dk_at dksX1_crowds_4 0 rfl rfl)
theorem dX1_crowds_94 : decode cX1_crowds 94 = .ok (.iload 4, 2) := dk_21 4 (dk_at dksX1_crowds_4 3 rfl rfl)
theorem dX1_crowds_96 : decode cX1_crowds 96 = .ok (.ireturn, 1) := dk_172 (dk_at dksX1_crowds_4 5 rfl rfl)
abbrev cX1_lawful : ByteArray := prog_1_method_75_code
def yX1_lawful : MethodName := ⟨RX1, "lawful", "(III)Z"⟩
def dkwX1_lawful_1 : List UInt8 := [182, 0, 253, 153, 0, 7, 4, 167, 0, 4, 3, 172]
abbrev dktX1_lawful_1 : List UInt8 := dkwX1_lawful_1 ++ []
def dkwX1_lawful_0 : List UInt8 := [42, 27, 182, 0, 196, 153, 0, 29, 42, 180, 0, 67, 42, 180, 0, 67, 180, 0, 184, 27, 50, 28, 29, 4]
abbrev dktX1_lawful_0 : List UInt8 := dkwX1_lawful_0 ++ dktX1_lawful_1
theorem dksX1_lawful_0 : cX1_lawful.data.toList.drop 0 = dktX1_lawful_0 := by decide +kernel
theorem dksX1_lawful_1 : cX1_lawful.data.toList.drop 24 = dktX1_lawful_1 := dk_seg dksX1_lawful_0 24 rfl rfl
theorem dX1_lawful_0 : decode cX1_lawful 0 = .ok (.aload_n 0, 1) := dk_42 (dk_at dksX1_lawful_0 0 rfl rfl)
theorem dX1_lawful_1 : decode cX1_lawful 1 = .ok (.iload_n 1, 1) := dk_27 (dk_at dksX1_lawful_0 1 rfl rfl)
theorem dX1_lawful_2 : decode cX1_lawful 2 = .ok (.invokevirtual 196, 3) := dk_182 0 196 (dk_at dksX1_lawful_0 2 rfl rfl)
theorem dX1_lawful_5 : decode cX1_lawful 5 = .ok (.ifCond .eq 29, 3) := dk_153 0 29 (dk_at dksX1_lawful_0 5 rfl rfl)
theorem dX1_lawful_8 : decode cX1_lawful 8 = .ok (.aload_n 0, 1) := dk_42 (dk_at dksX1_lawful_0 8 rfl rfl)
theorem dX1_lawful_9 : decode cX1_lawful 9 = .ok (.getfield 67, 3) := dk_180 0 67 (dk_at dksX1_lawful_0 9 rfl rfl)
theorem dX1_lawful_12 : decode cX1_lawful 12 = .ok (.aload_n 0, 1) := dk_42 (dk_at dksX1_lawful_0 12 rfl rfl)
theorem dX1_lawful_13 : decode cX1_lawful 13 = .ok (.getfield 67, 3) := dk_180 0 67 (dk_at dksX1_lawful_0 13 rfl rfl)
theorem dX1_lawful_16 : decode cX1_lawful 16 = .ok (.getfield 184, 3) := dk_180 0 184 (dk_at dksX1_lawful_0 16 rfl rfl)
theorem dX1_lawful_19 : decode cX1_lawful 19 = .ok (.iload_n 1, 1) := dk_27 (dk_at dksX1_lawful_0 19 rfl rfl)
theorem dX1_lawful_20 : decode cX1_lawful 20 = .ok (.aaload, 1) := dk_50 (dk_at dksX1_lawful_0 20 rfl rfl)
theorem dX1_lawful_21 : decode cX1_lawful 21 = .ok (.iload_n 2, 1) := dk_28 (dk_at dksX1_lawful_0 21 rfl rfl)
theorem dX1_lawful_22 : decode cX1_lawful 22 = .ok (.iload_n 3, 1) := dk_29 (dk_at dksX1_lawful_0 22 rfl rfl)
theorem dX1_lawful_23 : decode cX1_lawful 23 = .ok (.iconst 1, 1) := dk_4 (dk_at dksX1_lawful_0 23 rfl rfl)
theorem dX1_lawful_24 : decode cX1_lawful 24 = .ok (.invokevirtual 253, 3) := dk_182 0 253 (dk_at dksX1_lawful_1 0 rfl rfl)
theorem dX1_lawful_27 : decode cX1_lawful 27 = .ok (.ifCond .eq 7, 3) := dk_153 0 7 (dk_at dksX1_lawful_1 3 rfl rfl)
theorem dX1_lawful_30 : decode cX1_lawful 30 = .ok (.iconst 1, 1) := dk_4 (dk_at dksX1_lawful_1 6 rfl rfl)
theorem dX1_lawful_31 : decode cX1_lawful 31 = .ok (.goto 4, 3) := dk_167 0 4 (dk_at dksX1_lawful_1 7 rfl rfl)
theorem dX1_lawful_34 : decode cX1_lawful 34 = .ok (.iconst 0, 1) := dk_3 (dk_at dksX1_lawful_1 10 rfl rfl)
theorem dX1_lawful_35 : decode cX1_lawful 35 = .ok (.ireturn, 1) := dk_172 (dk_at dksX1_lawful_1 11 rfl rfl)
abbrev cX1_runs : ByteArray := prog_1_method_77_code
def yX1_runs : MethodName := ⟨RX1, "runs", "(II)I"⟩
def dkwX1_runs_0 : List UInt8 := [42, 27, 28, 182, 2, 15, 153, 0, 15, 42, 27, 28, 182, 1, 120, 182, 1, 128, 167, 0, 4, 2, 172]
abbrev dktX1_runs_0 : List UInt8 := dkwX1_runs_0 ++ []
theorem dksX1_runs_0 : cX1_runs.data.toList.drop 0 = dktX1_runs_0 := by decide +kernel
theorem dX1_runs_0 : decode cX1_runs 0 = .ok (.aload_n 0, 1) := dk_42 (dk_at dksX1_runs_0 0 rfl rfl)
theorem dX1_runs_1 : decode cX1_runs 1 = .ok (.iload_n 1, 1) := dk_27 (dk_at dksX1_runs_0 1 rfl rfl)
theorem dX1_runs_2 : decode cX1_runs 2 = .ok (.iload_n 2, 1) := dk_28 (dk_at dksX1_runs_0 2 rfl rfl)
theorem dX1_runs_3 : decode cX1_runs 3 = .ok (.invokevirtual 527, 3) := dk_182 2 15 (dk_at dksX1_runs_0 3 rfl rfl)
theorem dX1_runs_6 : decode cX1_runs 6 = .ok (.ifCond .eq 15, 3) := dk_153 0 15 (dk_at dksX1_runs_0 6 rfl rfl)
theorem dX1_runs_9 : decode cX1_runs 9 = .ok (.aload_n 0, 1) := dk_42 (dk_at dksX1_runs_0 9 rfl rfl)
theorem dX1_runs_10 : decode cX1_runs 10 = .ok (.iload_n 1, 1) := dk_27 (dk_at dksX1_runs_0 10 rfl rfl)
theorem dX1_runs_11 : decode cX1_runs 11 = .ok (.iload_n 2, 1) := dk_28 (dk_at dksX1_runs_0 11 rfl rfl)
theorem dX1_runs_12 : decode cX1_runs 12 = .ok (.invokevirtual 376, 3) := dk_182 1 120 (dk_at dksX1_runs_0 12 rfl rfl)
theorem dX1_runs_15 : decode cX1_runs 15 = .ok (.invokevirtual 384, 3) := dk_182 1 128 (dk_at dksX1_runs_0 15 rfl rfl)
theorem dX1_runs_18 : decode cX1_runs 18 = .ok (.goto 4, 3) := dk_167 0 4 (dk_at dksX1_runs_0 18 rfl rfl)
theorem dX1_runs_21 : decode cX1_runs 21 = .ok (.iconst (-1), 1) := dk_2 (dk_at dksX1_runs_0 21 rfl rfl)
theorem dX1_runs_22 : decode cX1_runs 22 = .ok (.ireturn, 1) := dk_172 (dk_at dksX1_runs_0 22 rfl rfl)
abbrev cX1_isRow : ByteArray := prog_1_method_76_code
def yX1_isRow : MethodName := ⟨RX1, "isRow", "(II)Z"⟩
def dkwX1_isRow_1 : List UInt8 := [167, 0, 4, 3, 172]
abbrev dktX1_isRow_1 : List UInt8 := dkwX1_isRow_1 ++ []
def dkwX1_isRow_0 : List UInt8 := [27, 3, 42, 180, 0, 59, 4, 100, 184, 0, 103, 153, 0, 15, 42, 28, 182, 0, 180, 153, 0, 7, 4]
abbrev dktX1_isRow_0 : List UInt8 := dkwX1_isRow_0 ++ dktX1_isRow_1
theorem dksX1_isRow_0 : cX1_isRow.data.toList.drop 0 = dktX1_isRow_0 := by decide +kernel
theorem dksX1_isRow_1 : cX1_isRow.data.toList.drop 23 = dktX1_isRow_1 := dk_seg dksX1_isRow_0 23 rfl rfl
theorem dX1_isRow_0 : decode cX1_isRow 0 = .ok (.iload_n 1, 1) := dk_27 (dk_at dksX1_isRow_0 0 rfl rfl)
theorem dX1_isRow_1 : decode cX1_isRow 1 = .ok (.iconst 0, 1) := dk_3 (dk_at dksX1_isRow_0 1 rfl rfl)
theorem dX1_isRow_2 : decode cX1_isRow 2 = .ok (.aload_n 0, 1) := dk_42 (dk_at dksX1_isRow_0 2 rfl rfl)
theorem dX1_isRow_3 : decode cX1_isRow 3 = .ok (.getfield 59, 3) := dk_180 0 59 (dk_at dksX1_isRow_0 3 rfl rfl)
theorem dX1_isRow_6 : decode cX1_isRow 6 = .ok (.iconst 1, 1) := dk_4 (dk_at dksX1_isRow_0 6 rfl rfl)
theorem dX1_isRow_7 : decode cX1_isRow 7 = .ok (.isub, 1) := dk_100 (dk_at dksX1_isRow_0 7 rfl rfl)
theorem dX1_isRow_8 : decode cX1_isRow 8 = .ok (.invokestatic 103, 3) := dk_184 0 103 (dk_at dksX1_isRow_0 8 rfl rfl)
theorem dX1_isRow_11 : decode cX1_isRow 11 = .ok (.ifCond .eq 15, 3) := dk_153 0 15 (dk_at dksX1_isRow_0 11 rfl rfl)
theorem dX1_isRow_14 : decode cX1_isRow 14 = .ok (.aload_n 0, 1) := dk_42 (dk_at dksX1_isRow_0 14 rfl rfl)
theorem dX1_isRow_15 : decode cX1_isRow 15 = .ok (.iload_n 2, 1) := dk_28 (dk_at dksX1_isRow_0 15 rfl rfl)
theorem dX1_isRow_16 : decode cX1_isRow 16 = .ok (.invokevirtual 180, 3) := dk_182 0 180 (dk_at dksX1_isRow_0 16 rfl rfl)
theorem dX1_isRow_19 : decode cX1_isRow 19 = .ok (.ifCond .eq 7, 3) := dk_153 0 7 (dk_at dksX1_isRow_0 19 rfl rfl)
theorem dX1_isRow_22 : decode cX1_isRow 22 = .ok (.iconst 1, 1) := dk_4 (dk_at dksX1_isRow_0 22 rfl rfl)
theorem dX1_isRow_23 : decode cX1_isRow 23 = .ok (.goto 4, 3) := dk_167 0 4 (dk_at dksX1_isRow_1 0 rfl rfl)
theorem dX1_isRow_26 : decode cX1_isRow 26 = .ok (.iconst 0, 1) := dk_3 (dk_at dksX1_isRow_1 3 rfl rfl)
theorem dX1_isRow_27 : decode cX1_isRow 27 = .ok (.ireturn, 1) := dk_172 (dk_at dksX1_isRow_1 4 rfl rfl)
abbrev cX1_run : ByteArray := prog_1_method_78_code
def yX1_run : MethodName := ⟨RX1, "run", "(IIII)I"⟩
def dkwX1_run_7 : List UInt8 := [182, 1, 146, 172, 25, 6, 25, 6, 180, 1, 165, 182, 1, 128, 182, 2, 24, 172, 2, 172]
abbrev dktX1_run_7 : List UInt8 := dkwX1_run_7 ++ []
def dkwX1_run_6 : List UInt8 := [25, 6, 180, 2, 18, 172, 25, 6, 180, 2, 21, 172, 25, 6, 180, 1, 165, 182, 1, 128, 172, 25, 6]
abbrev dktX1_run_6 : List UInt8 := dkwX1_run_6 ++ dktX1_run_7
def dkwX1_run_5 : List UInt8 := [170, 0, 0, 0, 0, 0, 76, 0, 0, 0, 0, 0, 0, 0, 4, 0, 0, 0, 35, 0, 0, 0, 41, 0, 0, 0, 47, 0, 0, 0, 56, 0, 0, 0, 62]
abbrev dktX1_run_5 : List UInt8 := dkwX1_run_5 ++ dktX1_run_6
def dkwX1_run_4 : List UInt8 := [21, 4]
abbrev dktX1_run_4 : List UInt8 := dkwX1_run_4 ++ dktX1_run_5
def dkwX1_run_3 : List UInt8 := [153, 0, 23, 25, 6, 180, 1, 165, 21, 4, 16, 10, 100, 182, 1, 131, 192, 0, 189, 180, 1, 60, 172]
abbrev dktX1_run_3 : List UInt8 := dkwX1_run_3 ++ dktX1_run_4
def dkwX1_run_2 : List UInt8 := [182, 1, 135, 58, 6, 21, 4, 16, 10, 16, 9, 25, 6, 180, 1, 165, 182, 1, 128, 96, 184, 0, 103]
abbrev dktX1_run_2 : List UInt8 := dkwX1_run_2 ++ dktX1_run_3
def dkwX1_run_1 : List UInt8 := [182, 1, 128, 4, 100, 184, 0, 103, 154, 0, 5, 2, 172, 25, 5, 29, 182, 1, 131, 192, 1, 111]
abbrev dktX1_run_1 : List UInt8 := dkwX1_run_1 ++ dktX1_run_2
def dkwX1_run_0 : List UInt8 := [42, 27, 28, 182, 2, 15, 154, 0, 5, 2, 172, 42, 27, 28, 182, 1, 120, 58, 5, 29, 3, 25, 5]
abbrev dktX1_run_0 : List UInt8 := dkwX1_run_0 ++ dktX1_run_1
theorem dksX1_run_0 : cX1_run.data.toList.drop 0 = dktX1_run_0 := by decide +kernel
theorem dksX1_run_1 : cX1_run.data.toList.drop 23 = dktX1_run_1 := dk_seg dksX1_run_0 23 rfl rfl
theorem dksX1_run_2 : cX1_run.data.toList.drop 45 = dktX1_run_2 := dk_seg dksX1_run_1 22 rfl rfl
theorem dksX1_run_3 : cX1_run.data.toList.drop 68 = dktX1_run_3 := dk_seg dksX1_run_2 23 rfl rfl
theorem dksX1_run_4 : cX1_run.data.toList.drop 91 = dktX1_run_4 := dk_seg dksX1_run_3 23 rfl rfl
theorem dksX1_run_5 : cX1_run.data.toList.drop 93 = dktX1_run_5 := dk_seg dksX1_run_4 2 rfl rfl
theorem dksX1_run_6 : cX1_run.data.toList.drop 128 = dktX1_run_6 := dk_seg dksX1_run_5 35 rfl rfl
theorem dksX1_run_7 : cX1_run.data.toList.drop 151 = dktX1_run_7 := dk_seg dksX1_run_6 23 rfl rfl
theorem dX1_run_0 : decode cX1_run 0 = .ok (.aload_n 0, 1) := dk_42 (dk_at dksX1_run_0 0 rfl rfl)
theorem dX1_run_1 : decode cX1_run 1 = .ok (.iload_n 1, 1) := dk_27 (dk_at dksX1_run_0 1 rfl rfl)
theorem dX1_run_2 : decode cX1_run 2 = .ok (.iload_n 2, 1) := dk_28 (dk_at dksX1_run_0 2 rfl rfl)
theorem dX1_run_3 : decode cX1_run 3 = .ok (.invokevirtual 527, 3) := dk_182 2 15 (dk_at dksX1_run_0 3 rfl rfl)
theorem dX1_run_6 : decode cX1_run 6 = .ok (.ifCond .ne 5, 3) := dk_154 0 5 (dk_at dksX1_run_0 6 rfl rfl)
theorem dX1_run_9 : decode cX1_run 9 = .ok (.iconst (-1), 1) := dk_2 (dk_at dksX1_run_0 9 rfl rfl)
theorem dX1_run_10 : decode cX1_run 10 = .ok (.ireturn, 1) := dk_172 (dk_at dksX1_run_0 10 rfl rfl)
theorem dX1_run_11 : decode cX1_run 11 = .ok (.aload_n 0, 1) := dk_42 (dk_at dksX1_run_0 11 rfl rfl)
theorem dX1_run_12 : decode cX1_run 12 = .ok (.iload_n 1, 1) := dk_27 (dk_at dksX1_run_0 12 rfl rfl)
theorem dX1_run_13 : decode cX1_run 13 = .ok (.iload_n 2, 1) := dk_28 (dk_at dksX1_run_0 13 rfl rfl)
theorem dX1_run_14 : decode cX1_run 14 = .ok (.invokevirtual 376, 3) := dk_182 1 120 (dk_at dksX1_run_0 14 rfl rfl)
theorem dX1_run_17 : decode cX1_run 17 = .ok (.astore 5, 2) := dk_58 5 (dk_at dksX1_run_0 17 rfl rfl)
theorem dX1_run_19 : decode cX1_run 19 = .ok (.iload_n 3, 1) := dk_29 (dk_at dksX1_run_0 19 rfl rfl)
theorem dX1_run_20 : decode cX1_run 20 = .ok (.iconst 0, 1) := dk_3 (dk_at dksX1_run_0 20 rfl rfl)
theorem dX1_run_21 : decode cX1_run 21 = .ok (.aload 5, 2) := dk_25 5 (dk_at dksX1_run_0 21 rfl rfl)
theorem dX1_run_23 : decode cX1_run 23 = .ok (.invokevirtual 384, 3) := dk_182 1 128 (dk_at dksX1_run_1 0 rfl rfl)
theorem dX1_run_26 : decode cX1_run 26 = .ok (.iconst 1, 1) := dk_4 (dk_at dksX1_run_1 3 rfl rfl)
theorem dX1_run_27 : decode cX1_run 27 = .ok (.isub, 1) := dk_100 (dk_at dksX1_run_1 4 rfl rfl)
theorem dX1_run_28 : decode cX1_run 28 = .ok (.invokestatic 103, 3) := dk_184 0 103 (dk_at dksX1_run_1 5 rfl rfl)
theorem dX1_run_31 : decode cX1_run 31 = .ok (.ifCond .ne 5, 3) := dk_154 0 5 (dk_at dksX1_run_1 8 rfl rfl)
theorem dX1_run_34 : decode cX1_run 34 = .ok (.iconst (-1), 1) := dk_2 (dk_at dksX1_run_1 11 rfl rfl)
theorem dX1_run_35 : decode cX1_run 35 = .ok (.ireturn, 1) := dk_172 (dk_at dksX1_run_1 12 rfl rfl)
theorem dX1_run_36 : decode cX1_run 36 = .ok (.aload 5, 2) := dk_25 5 (dk_at dksX1_run_1 13 rfl rfl)
theorem dX1_run_38 : decode cX1_run 38 = .ok (.iload_n 3, 1) := dk_29 (dk_at dksX1_run_1 15 rfl rfl)
theorem dX1_run_39 : decode cX1_run 39 = .ok (.invokevirtual 387, 3) := dk_182 1 131 (dk_at dksX1_run_1 16 rfl rfl)
theorem dX1_run_42 : decode cX1_run 42 = .ok (.checkcast 367, 3) := dk_192 1 111 (dk_at dksX1_run_1 19 rfl rfl)
theorem dX1_run_45 : decode cX1_run 45 = .ok (.invokevirtual 391, 3) := dk_182 1 135 (dk_at dksX1_run_2 0 rfl rfl)
theorem dX1_run_48 : decode cX1_run 48 = .ok (.astore 6, 2) := dk_58 6 (dk_at dksX1_run_2 3 rfl rfl)
theorem dX1_run_50 : decode cX1_run 50 = .ok (.iload 4, 2) := dk_21 4 (dk_at dksX1_run_2 5 rfl rfl)
theorem dX1_run_52 : decode cX1_run 52 = .ok (.bipush 10, 2) := dk_16 10 (dk_at dksX1_run_2 7 rfl rfl)
theorem dX1_run_54 : decode cX1_run 54 = .ok (.bipush 9, 2) := dk_16 9 (dk_at dksX1_run_2 9 rfl rfl)
theorem dX1_run_56 : decode cX1_run 56 = .ok (.aload 6, 2) := dk_25 6 (dk_at dksX1_run_2 11 rfl rfl)
theorem dX1_run_58 : decode cX1_run 58 = .ok (.getfield 421, 3) := dk_180 1 165 (dk_at dksX1_run_2 13 rfl rfl)
theorem dX1_run_61 : decode cX1_run 61 = .ok (.invokevirtual 384, 3) := dk_182 1 128 (dk_at dksX1_run_2 16 rfl rfl)
theorem dX1_run_64 : decode cX1_run 64 = .ok (.iadd, 1) := dk_96 (dk_at dksX1_run_2 19 rfl rfl)
theorem dX1_run_65 : decode cX1_run 65 = .ok (.invokestatic 103, 3) := dk_184 0 103 (dk_at dksX1_run_2 20 rfl rfl)
theorem dX1_run_68 : decode cX1_run 68 = .ok (.ifCond .eq 23, 3) := dk_153 0 23 (dk_at dksX1_run_3 0 rfl rfl)
theorem dX1_run_71 : decode cX1_run 71 = .ok (.aload 6, 2) := dk_25 6 (dk_at dksX1_run_3 3 rfl rfl)
theorem dX1_run_73 : decode cX1_run 73 = .ok (.getfield 421, 3) := dk_180 1 165 (dk_at dksX1_run_3 5 rfl rfl)
theorem dX1_run_76 : decode cX1_run 76 = .ok (.iload 4, 2) := dk_21 4 (dk_at dksX1_run_3 8 rfl rfl)
theorem dX1_run_78 : decode cX1_run 78 = .ok (.bipush 10, 2) := dk_16 10 (dk_at dksX1_run_3 10 rfl rfl)
theorem dX1_run_80 : decode cX1_run 80 = .ok (.isub, 1) := dk_100 (dk_at dksX1_run_3 12 rfl rfl)
theorem dX1_run_81 : decode cX1_run 81 = .ok (.invokevirtual 387, 3) := dk_182 1 131 (dk_at dksX1_run_3 13 rfl rfl)
theorem dX1_run_84 : decode cX1_run 84 = .ok (.checkcast 189, 3) := dk_192 0 189 (dk_at dksX1_run_3 16 rfl rfl)
theorem dX1_run_87 : decode cX1_run 87 = .ok (.getfield 316, 3) := dk_180 1 60 (dk_at dksX1_run_3 19 rfl rfl)
theorem dX1_run_90 : decode cX1_run 90 = .ok (.ireturn, 1) := dk_172 (dk_at dksX1_run_3 22 rfl rfl)
theorem dX1_run_91 : decode cX1_run 91 = .ok (.iload 4, 2) := dk_21 4 (dk_at dksX1_run_4 0 rfl rfl)
theorem dX1_run_93 : decode cX1_run 93 = .ok (.tableswitch 76 0 4 #[35, 41, 47, 56, 62], 35) := by decide +kernel
theorem dX1_run_128 : decode cX1_run 128 = .ok (.aload 6, 2) := dk_25 6 (dk_at dksX1_run_6 0 rfl rfl)
theorem dX1_run_130 : decode cX1_run 130 = .ok (.getfield 530, 3) := dk_180 2 18 (dk_at dksX1_run_6 2 rfl rfl)
theorem dX1_run_133 : decode cX1_run 133 = .ok (.ireturn, 1) := dk_172 (dk_at dksX1_run_6 5 rfl rfl)
theorem dX1_run_134 : decode cX1_run 134 = .ok (.aload 6, 2) := dk_25 6 (dk_at dksX1_run_6 6 rfl rfl)
theorem dX1_run_136 : decode cX1_run 136 = .ok (.getfield 533, 3) := dk_180 2 21 (dk_at dksX1_run_6 8 rfl rfl)
theorem dX1_run_139 : decode cX1_run 139 = .ok (.ireturn, 1) := dk_172 (dk_at dksX1_run_6 11 rfl rfl)
theorem dX1_run_140 : decode cX1_run 140 = .ok (.aload 6, 2) := dk_25 6 (dk_at dksX1_run_6 12 rfl rfl)
theorem dX1_run_142 : decode cX1_run 142 = .ok (.getfield 421, 3) := dk_180 1 165 (dk_at dksX1_run_6 14 rfl rfl)
theorem dX1_run_145 : decode cX1_run 145 = .ok (.invokevirtual 384, 3) := dk_182 1 128 (dk_at dksX1_run_6 17 rfl rfl)
theorem dX1_run_148 : decode cX1_run 148 = .ok (.ireturn, 1) := dk_172 (dk_at dksX1_run_6 20 rfl rfl)
theorem dX1_run_149 : decode cX1_run 149 = .ok (.aload 6, 2) := dk_25 6 (dk_at dksX1_run_6 21 rfl rfl)
theorem dX1_run_151 : decode cX1_run 151 = .ok (.invokevirtual 402, 3) := dk_182 1 146 (dk_at dksX1_run_7 0 rfl rfl)
theorem dX1_run_154 : decode cX1_run 154 = .ok (.ireturn, 1) := dk_172 (dk_at dksX1_run_7 3 rfl rfl)
theorem dX1_run_155 : decode cX1_run 155 = .ok (.aload 6, 2) := dk_25 6 (dk_at dksX1_run_7 4 rfl rfl)
theorem dX1_run_157 : decode cX1_run 157 = .ok (.aload 6, 2) := dk_25 6 (dk_at dksX1_run_7 6 rfl rfl)
theorem dX1_run_159 : decode cX1_run 159 = .ok (.getfield 421, 3) := dk_180 1 165 (dk_at dksX1_run_7 8 rfl rfl)
theorem dX1_run_162 : decode cX1_run 162 = .ok (.invokevirtual 384, 3) := dk_182 1 128 (dk_at dksX1_run_7 11 rfl rfl)
theorem dX1_run_165 : decode cX1_run 165 = .ok (.invokevirtual 536, 3) := dk_182 2 24 (dk_at dksX1_run_7 14 rfl rfl)
theorem dX1_run_168 : decode cX1_run 168 = .ok (.ireturn, 1) := dk_172 (dk_at dksX1_run_7 17 rfl rfl)
theorem dX1_run_169 : decode cX1_run 169 = .ok (.iconst (-1), 1) := dk_2 (dk_at dksX1_run_7 18 rfl rfl)
theorem dX1_run_170 : decode cX1_run 170 = .ok (.ireturn, 1) := dk_172 (dk_at dksX1_run_7 19 rfl rfl)
abbrev cX1_would : ByteArray := prog_1_method_80_code
def yX1_would : MethodName := ⟨RX1, "would", "(III)I"⟩
def dkwX1_would_2 : List UInt8 := [172, 42, 42, 180, 0, 67, 180, 0, 184, 27, 50, 28, 29, 182, 2, 27, 172]
abbrev dktX1_would_2 : List UInt8 := dkwX1_would_2 ++ []
def dkwX1_would_1 : List UInt8 := [42, 180, 0, 63, 42, 180, 0, 67, 180, 0, 184, 27, 50, 180, 0, 199, 100, 184, 0, 103, 154, 0, 5, 2]
abbrev dktX1_would_1 : List UInt8 := dkwX1_would_1 ++ dktX1_would_2
def dkwX1_would_0 : List UInt8 := [42, 27, 182, 0, 196, 153, 0, 42, 28, 3, 42, 180, 0, 59, 4, 100, 184, 0, 103, 153, 0, 28, 29, 3]
abbrev dktX1_would_0 : List UInt8 := dkwX1_would_0 ++ dktX1_would_1
theorem dksX1_would_0 : cX1_would.data.toList.drop 0 = dktX1_would_0 := by decide +kernel
theorem dksX1_would_1 : cX1_would.data.toList.drop 24 = dktX1_would_1 := dk_seg dksX1_would_0 24 rfl rfl
theorem dksX1_would_2 : cX1_would.data.toList.drop 48 = dktX1_would_2 := dk_seg dksX1_would_1 24 rfl rfl
theorem dX1_would_0 : decode cX1_would 0 = .ok (.aload_n 0, 1) := dk_42 (dk_at dksX1_would_0 0 rfl rfl)
theorem dX1_would_1 : decode cX1_would 1 = .ok (.iload_n 1, 1) := dk_27 (dk_at dksX1_would_0 1 rfl rfl)
theorem dX1_would_2 : decode cX1_would 2 = .ok (.invokevirtual 196, 3) := dk_182 0 196 (dk_at dksX1_would_0 2 rfl rfl)
theorem dX1_would_5 : decode cX1_would 5 = .ok (.ifCond .eq 42, 3) := dk_153 0 42 (dk_at dksX1_would_0 5 rfl rfl)
theorem dX1_would_8 : decode cX1_would 8 = .ok (.iload_n 2, 1) := dk_28 (dk_at dksX1_would_0 8 rfl rfl)
theorem dX1_would_9 : decode cX1_would 9 = .ok (.iconst 0, 1) := dk_3 (dk_at dksX1_would_0 9 rfl rfl)
theorem dX1_would_10 : decode cX1_would 10 = .ok (.aload_n 0, 1) := dk_42 (dk_at dksX1_would_0 10 rfl rfl)
theorem dX1_would_11 : decode cX1_would 11 = .ok (.getfield 59, 3) := dk_180 0 59 (dk_at dksX1_would_0 11 rfl rfl)
theorem dX1_would_14 : decode cX1_would 14 = .ok (.iconst 1, 1) := dk_4 (dk_at dksX1_would_0 14 rfl rfl)
theorem dX1_would_15 : decode cX1_would 15 = .ok (.isub, 1) := dk_100 (dk_at dksX1_would_0 15 rfl rfl)
theorem dX1_would_16 : decode cX1_would 16 = .ok (.invokestatic 103, 3) := dk_184 0 103 (dk_at dksX1_would_0 16 rfl rfl)
theorem dX1_would_19 : decode cX1_would 19 = .ok (.ifCond .eq 28, 3) := dk_153 0 28 (dk_at dksX1_would_0 19 rfl rfl)
theorem dX1_would_22 : decode cX1_would 22 = .ok (.iload_n 3, 1) := dk_29 (dk_at dksX1_would_0 22 rfl rfl)
theorem dX1_would_23 : decode cX1_would 23 = .ok (.iconst 0, 1) := dk_3 (dk_at dksX1_would_0 23 rfl rfl)
theorem dX1_would_24 : decode cX1_would 24 = .ok (.aload_n 0, 1) := dk_42 (dk_at dksX1_would_1 0 rfl rfl)
theorem dX1_would_25 : decode cX1_would 25 = .ok (.getfield 63, 3) := dk_180 0 63 (dk_at dksX1_would_1 1 rfl rfl)
theorem dX1_would_28 : decode cX1_would 28 = .ok (.aload_n 0, 1) := dk_42 (dk_at dksX1_would_1 4 rfl rfl)
theorem dX1_would_29 : decode cX1_would 29 = .ok (.getfield 67, 3) := dk_180 0 67 (dk_at dksX1_would_1 5 rfl rfl)
theorem dX1_would_32 : decode cX1_would 32 = .ok (.getfield 184, 3) := dk_180 0 184 (dk_at dksX1_would_1 8 rfl rfl)
theorem dX1_would_35 : decode cX1_would 35 = .ok (.iload_n 1, 1) := dk_27 (dk_at dksX1_would_1 11 rfl rfl)
theorem dX1_would_36 : decode cX1_would 36 = .ok (.aaload, 1) := dk_50 (dk_at dksX1_would_1 12 rfl rfl)
theorem dX1_would_37 : decode cX1_would 37 = .ok (.getfield 199, 3) := dk_180 0 199 (dk_at dksX1_would_1 13 rfl rfl)
theorem dX1_would_40 : decode cX1_would 40 = .ok (.isub, 1) := dk_100 (dk_at dksX1_would_1 16 rfl rfl)
theorem dX1_would_41 : decode cX1_would 41 = .ok (.invokestatic 103, 3) := dk_184 0 103 (dk_at dksX1_would_1 17 rfl rfl)
theorem dX1_would_44 : decode cX1_would 44 = .ok (.ifCond .ne 5, 3) := dk_154 0 5 (dk_at dksX1_would_1 20 rfl rfl)
theorem dX1_would_47 : decode cX1_would 47 = .ok (.iconst (-1), 1) := dk_2 (dk_at dksX1_would_1 23 rfl rfl)
theorem dX1_would_48 : decode cX1_would 48 = .ok (.ireturn, 1) := dk_172 (dk_at dksX1_would_2 0 rfl rfl)
theorem dX1_would_49 : decode cX1_would 49 = .ok (.aload_n 0, 1) := dk_42 (dk_at dksX1_would_2 1 rfl rfl)
theorem dX1_would_50 : decode cX1_would 50 = .ok (.aload_n 0, 1) := dk_42 (dk_at dksX1_would_2 2 rfl rfl)
theorem dX1_would_51 : decode cX1_would 51 = .ok (.getfield 67, 3) := dk_180 0 67 (dk_at dksX1_would_2 3 rfl rfl)
theorem dX1_would_54 : decode cX1_would 54 = .ok (.getfield 184, 3) := dk_180 0 184 (dk_at dksX1_would_2 6 rfl rfl)
theorem dX1_would_57 : decode cX1_would 57 = .ok (.iload_n 1, 1) := dk_27 (dk_at dksX1_would_2 9 rfl rfl)
theorem dX1_would_58 : decode cX1_would 58 = .ok (.aaload, 1) := dk_50 (dk_at dksX1_would_2 10 rfl rfl)
theorem dX1_would_59 : decode cX1_would 59 = .ok (.iload_n 2, 1) := dk_28 (dk_at dksX1_would_2 11 rfl rfl)
theorem dX1_would_60 : decode cX1_would 60 = .ok (.iload_n 3, 1) := dk_29 (dk_at dksX1_would_2 12 rfl rfl)
theorem dX1_would_61 : decode cX1_would 61 = .ok (.invokevirtual 539, 3) := dk_182 2 27 (dk_at dksX1_would_2 13 rfl rfl)
theorem dX1_would_64 : decode cX1_would 64 = .ok (.ireturn, 1) := dk_172 (dk_at dksX1_would_2 16 rfl rfl)
abbrev cX1_wireAt : ByteArray := prog_1_method_79_code
def yX1_wireAt : MethodName := ⟨RX1, "wireAt", "(LCellRows$Cell;II)I"⟩
def dkwX1_wireAt_1 : List UInt8 := [43, 21, 4, 21, 5, 182, 1, 8, 21, 6, 172]
abbrev dktX1_wireAt_1 : List UInt8 := dkwX1_wireAt_1 ++ []
def dkwX1_wireAt_0 : List UInt8 := [43, 180, 1, 11, 54, 4, 43, 180, 1, 192, 54, 5, 43, 28, 29, 182, 1, 8, 42, 182, 1, 14, 54, 6]
abbrev dktX1_wireAt_0 : List UInt8 := dkwX1_wireAt_0 ++ dktX1_wireAt_1
theorem dksX1_wireAt_0 : cX1_wireAt.data.toList.drop 0 = dktX1_wireAt_0 := by decide +kernel
theorem dksX1_wireAt_1 : cX1_wireAt.data.toList.drop 24 = dktX1_wireAt_1 := dk_seg dksX1_wireAt_0 24 rfl rfl
theorem dX1_wireAt_0 : decode cX1_wireAt 0 = .ok (.aload_n 1, 1) := dk_43 (dk_at dksX1_wireAt_0 0 rfl rfl)
theorem dX1_wireAt_1 : decode cX1_wireAt 1 = .ok (.getfield 267, 3) := dk_180 1 11 (dk_at dksX1_wireAt_0 1 rfl rfl)
theorem dX1_wireAt_4 : decode cX1_wireAt 4 = .ok (.istore 4, 2) := dk_54 4 (dk_at dksX1_wireAt_0 4 rfl rfl)
theorem dX1_wireAt_6 : decode cX1_wireAt 6 = .ok (.aload_n 1, 1) := dk_43 (dk_at dksX1_wireAt_0 6 rfl rfl)
theorem dX1_wireAt_7 : decode cX1_wireAt 7 = .ok (.getfield 448, 3) := dk_180 1 192 (dk_at dksX1_wireAt_0 7 rfl rfl)
theorem dX1_wireAt_10 : decode cX1_wireAt 10 = .ok (.istore 5, 2) := dk_54 5 (dk_at dksX1_wireAt_0 10 rfl rfl)
theorem dX1_wireAt_12 : decode cX1_wireAt 12 = .ok (.aload_n 1, 1) := dk_43 (dk_at dksX1_wireAt_0 12 rfl rfl)
theorem dX1_wireAt_13 : decode cX1_wireAt 13 = .ok (.iload_n 2, 1) := dk_28 (dk_at dksX1_wireAt_0 13 rfl rfl)
theorem dX1_wireAt_14 : decode cX1_wireAt 14 = .ok (.iload_n 3, 1) := dk_29 (dk_at dksX1_wireAt_0 14 rfl rfl)
theorem dX1_wireAt_15 : decode cX1_wireAt 15 = .ok (.invokevirtual 264, 3) := dk_182 1 8 (dk_at dksX1_wireAt_0 15 rfl rfl)
theorem dX1_wireAt_18 : decode cX1_wireAt 18 = .ok (.aload_n 0, 1) := dk_42 (dk_at dksX1_wireAt_0 18 rfl rfl)
theorem dX1_wireAt_19 : decode cX1_wireAt 19 = .ok (.invokevirtual 270, 3) := dk_182 1 14 (dk_at dksX1_wireAt_0 19 rfl rfl)
theorem dX1_wireAt_22 : decode cX1_wireAt 22 = .ok (.istore 6, 2) := dk_54 6 (dk_at dksX1_wireAt_0 22 rfl rfl)
theorem dX1_wireAt_24 : decode cX1_wireAt 24 = .ok (.aload_n 1, 1) := dk_43 (dk_at dksX1_wireAt_1 0 rfl rfl)
theorem dX1_wireAt_25 : decode cX1_wireAt 25 = .ok (.iload 4, 2) := dk_21 4 (dk_at dksX1_wireAt_1 1 rfl rfl)
theorem dX1_wireAt_27 : decode cX1_wireAt 27 = .ok (.iload 5, 2) := dk_21 5 (dk_at dksX1_wireAt_1 3 rfl rfl)
theorem dX1_wireAt_29 : decode cX1_wireAt 29 = .ok (.invokevirtual 264, 3) := dk_182 1 8 (dk_at dksX1_wireAt_1 5 rfl rfl)
theorem dX1_wireAt_32 : decode cX1_wireAt 32 = .ok (.iload 6, 2) := dk_21 6 (dk_at dksX1_wireAt_1 8 rfl rfl)
theorem dX1_wireAt_34 : decode cX1_wireAt 34 = .ok (.ireturn, 1) := dk_172 (dk_at dksX1_wireAt_1 10 rfl rfl)
abbrev cX1_best : ByteArray := prog_1_method_81_code
def yX1_best : MethodName := ⟨RX1, "best", "(II)I"⟩
def dkwX1_best_6 : List UInt8 := [21, 6, 167, 0, 5, 21, 4, 172]
abbrev dktX1_best_6 : List UInt8 := dkwX1_best_6 ++ []
def dkwX1_best_5 : List UInt8 := [21, 8, 54, 4, 132, 7, 1, 167, 255, 192, 28, 154, 0, 8, 21, 5, 167, 0, 15, 28, 4, 160, 0, 8]
abbrev dktX1_best_5 : List UInt8 := dkwX1_best_5 ++ dktX1_best_6
def dkwX1_best_4 : List UInt8 := [167, 0, 27, 21, 8, 21, 4, 162, 0, 8, 21, 7, 167, 0, 5, 21, 5, 54, 5, 21, 7, 54, 6]
abbrev dktX1_best_4 : List UInt8 := dkwX1_best_4 ++ dktX1_best_5
def dkwX1_best_3 : List UInt8 := [163, 0, 56, 42, 45, 45, 180, 1, 11, 21, 7, 182, 2, 27, 54, 8, 21, 8, 21, 4, 164, 0, 6]
abbrev dktX1_best_3 : List UInt8 := dkwX1_best_3 ++ dktX1_best_4
def dkwX1_best_2 : List UInt8 := [54, 4, 2, 54, 5, 2, 54, 6, 3, 54, 7, 21, 7, 42, 180, 0, 63, 45, 180, 0, 199, 100]
abbrev dktX1_best_2 : List UInt8 := dkwX1_best_2 ++ dktX1_best_3
def dkwX1_best_1 : List UInt8 := [3, 5, 184, 0, 103, 154, 0, 5, 2, 172, 42, 180, 0, 67, 180, 0, 184, 27, 50, 78, 19, 1, 142]
abbrev dktX1_best_1 : List UInt8 := dkwX1_best_1 ++ dktX1_best_2
def dkwX1_best_0 : List UInt8 := [42, 27, 182, 0, 196, 153, 0, 27, 42, 180, 0, 67, 180, 0, 184, 27, 50, 182, 1, 250, 153, 0, 12, 28]
abbrev dktX1_best_0 : List UInt8 := dkwX1_best_0 ++ dktX1_best_1
theorem dksX1_best_0 : cX1_best.data.toList.drop 0 = dktX1_best_0 := by decide +kernel
theorem dksX1_best_1 : cX1_best.data.toList.drop 24 = dktX1_best_1 := dk_seg dksX1_best_0 24 rfl rfl
theorem dksX1_best_2 : cX1_best.data.toList.drop 47 = dktX1_best_2 := dk_seg dksX1_best_1 23 rfl rfl
theorem dksX1_best_3 : cX1_best.data.toList.drop 69 = dktX1_best_3 := dk_seg dksX1_best_2 22 rfl rfl
theorem dksX1_best_4 : cX1_best.data.toList.drop 92 = dktX1_best_4 := dk_seg dksX1_best_3 23 rfl rfl
theorem dksX1_best_5 : cX1_best.data.toList.drop 115 = dktX1_best_5 := dk_seg dksX1_best_4 23 rfl rfl
theorem dksX1_best_6 : cX1_best.data.toList.drop 139 = dktX1_best_6 := dk_seg dksX1_best_5 24 rfl rfl
theorem dX1_best_0 : decode cX1_best 0 = .ok (.aload_n 0, 1) := dk_42 (dk_at dksX1_best_0 0 rfl rfl)
theorem dX1_best_1 : decode cX1_best 1 = .ok (.iload_n 1, 1) := dk_27 (dk_at dksX1_best_0 1 rfl rfl)
theorem dX1_best_2 : decode cX1_best 2 = .ok (.invokevirtual 196, 3) := dk_182 0 196 (dk_at dksX1_best_0 2 rfl rfl)
theorem dX1_best_5 : decode cX1_best 5 = .ok (.ifCond .eq 27, 3) := dk_153 0 27 (dk_at dksX1_best_0 5 rfl rfl)
theorem dX1_best_8 : decode cX1_best 8 = .ok (.aload_n 0, 1) := dk_42 (dk_at dksX1_best_0 8 rfl rfl)
theorem dX1_best_9 : decode cX1_best 9 = .ok (.getfield 67, 3) := dk_180 0 67 (dk_at dksX1_best_0 9 rfl rfl)
theorem dX1_best_12 : decode cX1_best 12 = .ok (.getfield 184, 3) := dk_180 0 184 (dk_at dksX1_best_0 12 rfl rfl)
theorem dX1_best_15 : decode cX1_best 15 = .ok (.iload_n 1, 1) := dk_27 (dk_at dksX1_best_0 15 rfl rfl)
theorem dX1_best_16 : decode cX1_best 16 = .ok (.aaload, 1) := dk_50 (dk_at dksX1_best_0 16 rfl rfl)
theorem dX1_best_17 : decode cX1_best 17 = .ok (.invokevirtual 506, 3) := dk_182 1 250 (dk_at dksX1_best_0 17 rfl rfl)
theorem dX1_best_20 : decode cX1_best 20 = .ok (.ifCond .eq 12, 3) := dk_153 0 12 (dk_at dksX1_best_0 20 rfl rfl)
theorem dX1_best_23 : decode cX1_best 23 = .ok (.iload_n 2, 1) := dk_28 (dk_at dksX1_best_0 23 rfl rfl)
theorem dX1_best_24 : decode cX1_best 24 = .ok (.iconst 0, 1) := dk_3 (dk_at dksX1_best_1 0 rfl rfl)
theorem dX1_best_25 : decode cX1_best 25 = .ok (.iconst 2, 1) := dk_5 (dk_at dksX1_best_1 1 rfl rfl)
theorem dX1_best_26 : decode cX1_best 26 = .ok (.invokestatic 103, 3) := dk_184 0 103 (dk_at dksX1_best_1 2 rfl rfl)
theorem dX1_best_29 : decode cX1_best 29 = .ok (.ifCond .ne 5, 3) := dk_154 0 5 (dk_at dksX1_best_1 5 rfl rfl)
theorem dX1_best_32 : decode cX1_best 32 = .ok (.iconst (-1), 1) := dk_2 (dk_at dksX1_best_1 8 rfl rfl)
theorem dX1_best_33 : decode cX1_best 33 = .ok (.ireturn, 1) := dk_172 (dk_at dksX1_best_1 9 rfl rfl)
theorem dX1_best_34 : decode cX1_best 34 = .ok (.aload_n 0, 1) := dk_42 (dk_at dksX1_best_1 10 rfl rfl)
theorem dX1_best_35 : decode cX1_best 35 = .ok (.getfield 67, 3) := dk_180 0 67 (dk_at dksX1_best_1 11 rfl rfl)
theorem dX1_best_38 : decode cX1_best 38 = .ok (.getfield 184, 3) := dk_180 0 184 (dk_at dksX1_best_1 14 rfl rfl)
theorem dX1_best_41 : decode cX1_best 41 = .ok (.iload_n 1, 1) := dk_27 (dk_at dksX1_best_1 17 rfl rfl)
theorem dX1_best_42 : decode cX1_best 42 = .ok (.aaload, 1) := dk_50 (dk_at dksX1_best_1 18 rfl rfl)
theorem dX1_best_43 : decode cX1_best 43 = .ok (.astore_n 3, 1) := dk_78 (dk_at dksX1_best_1 19 rfl rfl)
theorem dX1_best_44 : decode cX1_best 44 = .ok (.ldc_w 398, 3) := dk_19 1 142 (dk_at dksX1_best_1 20 rfl rfl)
theorem dX1_best_47 : decode cX1_best 47 = .ok (.istore 4, 2) := dk_54 4 (dk_at dksX1_best_2 0 rfl rfl)
theorem dX1_best_49 : decode cX1_best 49 = .ok (.iconst (-1), 1) := dk_2 (dk_at dksX1_best_2 2 rfl rfl)
theorem dX1_best_50 : decode cX1_best 50 = .ok (.istore 5, 2) := dk_54 5 (dk_at dksX1_best_2 3 rfl rfl)
theorem dX1_best_52 : decode cX1_best 52 = .ok (.iconst (-1), 1) := dk_2 (dk_at dksX1_best_2 5 rfl rfl)
theorem dX1_best_53 : decode cX1_best 53 = .ok (.istore 6, 2) := dk_54 6 (dk_at dksX1_best_2 6 rfl rfl)
theorem dX1_best_55 : decode cX1_best 55 = .ok (.iconst 0, 1) := dk_3 (dk_at dksX1_best_2 8 rfl rfl)
theorem dX1_best_56 : decode cX1_best 56 = .ok (.istore 7, 2) := dk_54 7 (dk_at dksX1_best_2 9 rfl rfl)
theorem dX1_best_58 : decode cX1_best 58 = .ok (.iload 7, 2) := dk_21 7 (dk_at dksX1_best_2 11 rfl rfl)
theorem dX1_best_60 : decode cX1_best 60 = .ok (.aload_n 0, 1) := dk_42 (dk_at dksX1_best_2 13 rfl rfl)
theorem dX1_best_61 : decode cX1_best 61 = .ok (.getfield 63, 3) := dk_180 0 63 (dk_at dksX1_best_2 14 rfl rfl)
theorem dX1_best_64 : decode cX1_best 64 = .ok (.aload_n 3, 1) := dk_45 (dk_at dksX1_best_2 17 rfl rfl)
theorem dX1_best_65 : decode cX1_best 65 = .ok (.getfield 199, 3) := dk_180 0 199 (dk_at dksX1_best_2 18 rfl rfl)
theorem dX1_best_68 : decode cX1_best 68 = .ok (.isub, 1) := dk_100 (dk_at dksX1_best_2 21 rfl rfl)
theorem dX1_best_69 : decode cX1_best 69 = .ok (.if_icmp .gt 56, 3) := dk_163 0 56 (dk_at dksX1_best_3 0 rfl rfl)
theorem dX1_best_72 : decode cX1_best 72 = .ok (.aload_n 0, 1) := dk_42 (dk_at dksX1_best_3 3 rfl rfl)
theorem dX1_best_73 : decode cX1_best 73 = .ok (.aload_n 3, 1) := dk_45 (dk_at dksX1_best_3 4 rfl rfl)
theorem dX1_best_74 : decode cX1_best 74 = .ok (.aload_n 3, 1) := dk_45 (dk_at dksX1_best_3 5 rfl rfl)
theorem dX1_best_75 : decode cX1_best 75 = .ok (.getfield 267, 3) := dk_180 1 11 (dk_at dksX1_best_3 6 rfl rfl)
theorem dX1_best_78 : decode cX1_best 78 = .ok (.iload 7, 2) := dk_21 7 (dk_at dksX1_best_3 9 rfl rfl)
theorem dX1_best_80 : decode cX1_best 80 = .ok (.invokevirtual 539, 3) := dk_182 2 27 (dk_at dksX1_best_3 11 rfl rfl)
theorem dX1_best_83 : decode cX1_best 83 = .ok (.istore 8, 2) := dk_54 8 (dk_at dksX1_best_3 14 rfl rfl)
theorem dX1_best_85 : decode cX1_best 85 = .ok (.iload 8, 2) := dk_21 8 (dk_at dksX1_best_3 16 rfl rfl)
theorem dX1_best_87 : decode cX1_best 87 = .ok (.iload 4, 2) := dk_21 4 (dk_at dksX1_best_3 18 rfl rfl)
theorem dX1_best_89 : decode cX1_best 89 = .ok (.if_icmp .le 6, 3) := dk_164 0 6 (dk_at dksX1_best_3 20 rfl rfl)
theorem dX1_best_92 : decode cX1_best 92 = .ok (.goto 27, 3) := dk_167 0 27 (dk_at dksX1_best_4 0 rfl rfl)
theorem dX1_best_95 : decode cX1_best 95 = .ok (.iload 8, 2) := dk_21 8 (dk_at dksX1_best_4 3 rfl rfl)
theorem dX1_best_97 : decode cX1_best 97 = .ok (.iload 4, 2) := dk_21 4 (dk_at dksX1_best_4 5 rfl rfl)
theorem dX1_best_99 : decode cX1_best 99 = .ok (.if_icmp .ge 8, 3) := dk_162 0 8 (dk_at dksX1_best_4 7 rfl rfl)
theorem dX1_best_102 : decode cX1_best 102 = .ok (.iload 7, 2) := dk_21 7 (dk_at dksX1_best_4 10 rfl rfl)
theorem dX1_best_104 : decode cX1_best 104 = .ok (.goto 5, 3) := dk_167 0 5 (dk_at dksX1_best_4 12 rfl rfl)
theorem dX1_best_107 : decode cX1_best 107 = .ok (.iload 5, 2) := dk_21 5 (dk_at dksX1_best_4 15 rfl rfl)
theorem dX1_best_109 : decode cX1_best 109 = .ok (.istore 5, 2) := dk_54 5 (dk_at dksX1_best_4 17 rfl rfl)
theorem dX1_best_111 : decode cX1_best 111 = .ok (.iload 7, 2) := dk_21 7 (dk_at dksX1_best_4 19 rfl rfl)
theorem dX1_best_113 : decode cX1_best 113 = .ok (.istore 6, 2) := dk_54 6 (dk_at dksX1_best_4 21 rfl rfl)
theorem dX1_best_115 : decode cX1_best 115 = .ok (.iload 8, 2) := dk_21 8 (dk_at dksX1_best_5 0 rfl rfl)
theorem dX1_best_117 : decode cX1_best 117 = .ok (.istore 4, 2) := dk_54 4 (dk_at dksX1_best_5 2 rfl rfl)
theorem dX1_best_119 : decode cX1_best 119 = .ok (.iinc 7 1, 3) := dk_132 7 1 (dk_at dksX1_best_5 4 rfl rfl)
theorem dX1_best_122 : decode cX1_best 122 = .ok (.goto (-64), 3) := dk_167 255 192 (dk_at dksX1_best_5 7 rfl rfl)
theorem dX1_best_125 : decode cX1_best 125 = .ok (.iload_n 2, 1) := dk_28 (dk_at dksX1_best_5 10 rfl rfl)
theorem dX1_best_126 : decode cX1_best 126 = .ok (.ifCond .ne 8, 3) := dk_154 0 8 (dk_at dksX1_best_5 11 rfl rfl)
theorem dX1_best_129 : decode cX1_best 129 = .ok (.iload 5, 2) := dk_21 5 (dk_at dksX1_best_5 14 rfl rfl)
theorem dX1_best_131 : decode cX1_best 131 = .ok (.goto 15, 3) := dk_167 0 15 (dk_at dksX1_best_5 16 rfl rfl)
theorem dX1_best_134 : decode cX1_best 134 = .ok (.iload_n 2, 1) := dk_28 (dk_at dksX1_best_5 19 rfl rfl)
theorem dX1_best_135 : decode cX1_best 135 = .ok (.iconst 1, 1) := dk_4 (dk_at dksX1_best_5 20 rfl rfl)
theorem dX1_best_136 : decode cX1_best 136 = .ok (.if_icmp .ne 8, 3) := dk_160 0 8 (dk_at dksX1_best_5 21 rfl rfl)
theorem dX1_best_139 : decode cX1_best 139 = .ok (.iload 6, 2) := dk_21 6 (dk_at dksX1_best_6 0 rfl rfl)
theorem dX1_best_141 : decode cX1_best 141 = .ok (.goto 5, 3) := dk_167 0 5 (dk_at dksX1_best_6 2 rfl rfl)
theorem dX1_best_144 : decode cX1_best 144 = .ok (.iload 4, 2) := dk_21 4 (dk_at dksX1_best_6 5 rfl rfl)
theorem dX1_best_146 : decode cX1_best 146 = .ok (.ireturn, 1) := dk_172 (dk_at dksX1_best_6 7 rfl rfl)
abbrev cX1_fillers : ByteArray := prog_1_method_84_code
def yX1_fillers : MethodName := ⟨RX1, "fillers", "(I)I"⟩
def dkwX1_fillers_2 : List UInt8 := [27, 182, 2, 34, 96, 61, 132, 4, 1, 167, 255, 227, 28, 172]
abbrev dktX1_fillers_2 : List UInt8 := dkwX1_fillers_2 ++ []
def dkwX1_fillers_1 : List UInt8 := [78, 3, 54, 4, 21, 4, 45, 182, 1, 128, 162, 0, 26, 28, 42, 45, 21, 4, 182, 1, 131, 192, 1, 111]
abbrev dktX1_fillers_1 : List UInt8 := dkwX1_fillers_1 ++ dktX1_fillers_2
def dkwX1_fillers_0 : List UInt8 := [27, 7, 159, 0, 15, 27, 5, 159, 0, 10, 27, 4, 159, 0, 5, 2, 172, 3, 61, 42, 4, 182, 1, 153]
abbrev dktX1_fillers_0 : List UInt8 := dkwX1_fillers_0 ++ dktX1_fillers_1
theorem dksX1_fillers_0 : cX1_fillers.data.toList.drop 0 = dktX1_fillers_0 := by decide +kernel
theorem dksX1_fillers_1 : cX1_fillers.data.toList.drop 24 = dktX1_fillers_1 := dk_seg dksX1_fillers_0 24 rfl rfl
theorem dksX1_fillers_2 : cX1_fillers.data.toList.drop 48 = dktX1_fillers_2 := dk_seg dksX1_fillers_1 24 rfl rfl
theorem dX1_fillers_0 : decode cX1_fillers 0 = .ok (.iload_n 1, 1) := dk_27 (dk_at dksX1_fillers_0 0 rfl rfl)
theorem dX1_fillers_1 : decode cX1_fillers 1 = .ok (.iconst 4, 1) := dk_7 (dk_at dksX1_fillers_0 1 rfl rfl)
theorem dX1_fillers_2 : decode cX1_fillers 2 = .ok (.if_icmp .eq 15, 3) := dk_159 0 15 (dk_at dksX1_fillers_0 2 rfl rfl)
theorem dX1_fillers_5 : decode cX1_fillers 5 = .ok (.iload_n 1, 1) := dk_27 (dk_at dksX1_fillers_0 5 rfl rfl)
theorem dX1_fillers_6 : decode cX1_fillers 6 = .ok (.iconst 2, 1) := dk_5 (dk_at dksX1_fillers_0 6 rfl rfl)
theorem dX1_fillers_7 : decode cX1_fillers 7 = .ok (.if_icmp .eq 10, 3) := dk_159 0 10 (dk_at dksX1_fillers_0 7 rfl rfl)
theorem dX1_fillers_10 : decode cX1_fillers 10 = .ok (.iload_n 1, 1) := dk_27 (dk_at dksX1_fillers_0 10 rfl rfl)
theorem dX1_fillers_11 : decode cX1_fillers 11 = .ok (.iconst 1, 1) := dk_4 (dk_at dksX1_fillers_0 11 rfl rfl)
theorem dX1_fillers_12 : decode cX1_fillers 12 = .ok (.if_icmp .eq 5, 3) := dk_159 0 5 (dk_at dksX1_fillers_0 12 rfl rfl)
theorem dX1_fillers_15 : decode cX1_fillers 15 = .ok (.iconst (-1), 1) := dk_2 (dk_at dksX1_fillers_0 15 rfl rfl)
theorem dX1_fillers_16 : decode cX1_fillers 16 = .ok (.ireturn, 1) := dk_172 (dk_at dksX1_fillers_0 16 rfl rfl)
theorem dX1_fillers_17 : decode cX1_fillers 17 = .ok (.iconst 0, 1) := dk_3 (dk_at dksX1_fillers_0 17 rfl rfl)
theorem dX1_fillers_18 : decode cX1_fillers 18 = .ok (.istore_n 2, 1) := dk_61 (dk_at dksX1_fillers_0 18 rfl rfl)
theorem dX1_fillers_19 : decode cX1_fillers 19 = .ok (.aload_n 0, 1) := dk_42 (dk_at dksX1_fillers_0 19 rfl rfl)
theorem dX1_fillers_20 : decode cX1_fillers 20 = .ok (.iconst 1, 1) := dk_4 (dk_at dksX1_fillers_0 20 rfl rfl)
theorem dX1_fillers_21 : decode cX1_fillers 21 = .ok (.invokevirtual 409, 3) := dk_182 1 153 (dk_at dksX1_fillers_0 21 rfl rfl)
theorem dX1_fillers_24 : decode cX1_fillers 24 = .ok (.astore_n 3, 1) := dk_78 (dk_at dksX1_fillers_1 0 rfl rfl)
theorem dX1_fillers_25 : decode cX1_fillers 25 = .ok (.iconst 0, 1) := dk_3 (dk_at dksX1_fillers_1 1 rfl rfl)
theorem dX1_fillers_26 : decode cX1_fillers 26 = .ok (.istore 4, 2) := dk_54 4 (dk_at dksX1_fillers_1 2 rfl rfl)
theorem dX1_fillers_28 : decode cX1_fillers 28 = .ok (.iload 4, 2) := dk_21 4 (dk_at dksX1_fillers_1 4 rfl rfl)
theorem dX1_fillers_30 : decode cX1_fillers 30 = .ok (.aload_n 3, 1) := dk_45 (dk_at dksX1_fillers_1 6 rfl rfl)
theorem dX1_fillers_31 : decode cX1_fillers 31 = .ok (.invokevirtual 384, 3) := dk_182 1 128 (dk_at dksX1_fillers_1 7 rfl rfl)
theorem dX1_fillers_34 : decode cX1_fillers 34 = .ok (.if_icmp .ge 26, 3) := dk_162 0 26 (dk_at dksX1_fillers_1 10 rfl rfl)
theorem dX1_fillers_37 : decode cX1_fillers 37 = .ok (.iload_n 2, 1) := dk_28 (dk_at dksX1_fillers_1 13 rfl rfl)
theorem dX1_fillers_38 : decode cX1_fillers 38 = .ok (.aload_n 0, 1) := dk_42 (dk_at dksX1_fillers_1 14 rfl rfl)
theorem dX1_fillers_39 : decode cX1_fillers 39 = .ok (.aload_n 3, 1) := dk_45 (dk_at dksX1_fillers_1 15 rfl rfl)
theorem dX1_fillers_40 : decode cX1_fillers 40 = .ok (.iload 4, 2) := dk_21 4 (dk_at dksX1_fillers_1 16 rfl rfl)
theorem dX1_fillers_42 : decode cX1_fillers 42 = .ok (.invokevirtual 387, 3) := dk_182 1 131 (dk_at dksX1_fillers_1 18 rfl rfl)
theorem dX1_fillers_45 : decode cX1_fillers 45 = .ok (.checkcast 367, 3) := dk_192 1 111 (dk_at dksX1_fillers_1 21 rfl rfl)
theorem dX1_fillers_48 : decode cX1_fillers 48 = .ok (.iload_n 1, 1) := dk_27 (dk_at dksX1_fillers_2 0 rfl rfl)
theorem dX1_fillers_49 : decode cX1_fillers 49 = .ok (.invokevirtual 546, 3) := dk_182 2 34 (dk_at dksX1_fillers_2 1 rfl rfl)
theorem dX1_fillers_52 : decode cX1_fillers 52 = .ok (.iadd, 1) := dk_96 (dk_at dksX1_fillers_2 4 rfl rfl)
theorem dX1_fillers_53 : decode cX1_fillers 53 = .ok (.istore_n 2, 1) := dk_61 (dk_at dksX1_fillers_2 5 rfl rfl)
theorem dX1_fillers_54 : decode cX1_fillers 54 = .ok (.iinc 4 1, 3) := dk_132 4 1 (dk_at dksX1_fillers_2 6 rfl rfl)
theorem dX1_fillers_57 : decode cX1_fillers 57 = .ok (.goto (-29), 3) := dk_167 255 227 (dk_at dksX1_fillers_2 9 rfl rfl)
theorem dX1_fillers_60 : decode cX1_fillers 60 = .ok (.iload_n 2, 1) := dk_28 (dk_at dksX1_fillers_2 12 rfl rfl)
theorem dX1_fillers_61 : decode cX1_fillers 61 = .ok (.ireturn, 1) := dk_172 (dk_at dksX1_fillers_2 13 rfl rfl)
abbrev cX1_fillersIn : ByteArray := prog_1_method_83_code
def yX1_fillersIn : MethodName := ⟨RX1, "fillersIn", "(LCellRows$Run;I)I"⟩
def dkwX1_fillersIn_3 : List UInt8 := [29, 43, 180, 2, 18, 43, 180, 2, 21, 96, 21, 4, 100, 28, 184, 2, 31, 96, 172]
abbrev dktX1_fillersIn_3 : List UInt8 := dkwX1_fillersIn_3 ++ []
def dkwX1_fillersIn_2 : List UInt8 := [184, 2, 31, 96, 62, 25, 6, 180, 1, 192, 25, 6, 180, 0, 199, 96, 54, 4, 132, 5, 1, 167, 255, 199]
abbrev dktX1_fillersIn_2 : List UInt8 := dkwX1_fillersIn_2 ++ dktX1_fillersIn_3
def dkwX1_fillersIn_1 : List UInt8 := [180, 1, 165, 21, 5, 182, 1, 131, 192, 0, 189, 58, 6, 29, 25, 6, 180, 1, 192, 21, 4, 100, 28]
abbrev dktX1_fillersIn_1 : List UInt8 := dkwX1_fillersIn_1 ++ dktX1_fillersIn_2
def dkwX1_fillersIn_0 : List UInt8 := [3, 62, 43, 180, 2, 18, 54, 4, 3, 54, 5, 21, 5, 43, 180, 1, 165, 182, 1, 128, 162, 0, 51, 43]
abbrev dktX1_fillersIn_0 : List UInt8 := dkwX1_fillersIn_0 ++ dktX1_fillersIn_1
theorem dksX1_fillersIn_0 : cX1_fillersIn.data.toList.drop 0 = dktX1_fillersIn_0 := by decide +kernel
theorem dksX1_fillersIn_1 : cX1_fillersIn.data.toList.drop 24 = dktX1_fillersIn_1 := dk_seg dksX1_fillersIn_0 24 rfl rfl
theorem dksX1_fillersIn_2 : cX1_fillersIn.data.toList.drop 47 = dktX1_fillersIn_2 := dk_seg dksX1_fillersIn_1 23 rfl rfl
theorem dksX1_fillersIn_3 : cX1_fillersIn.data.toList.drop 71 = dktX1_fillersIn_3 := dk_seg dksX1_fillersIn_2 24 rfl rfl
theorem dX1_fillersIn_0 : decode cX1_fillersIn 0 = .ok (.iconst 0, 1) := dk_3 (dk_at dksX1_fillersIn_0 0 rfl rfl)
theorem dX1_fillersIn_1 : decode cX1_fillersIn 1 = .ok (.istore_n 3, 1) := dk_62 (dk_at dksX1_fillersIn_0 1 rfl rfl)
theorem dX1_fillersIn_2 : decode cX1_fillersIn 2 = .ok (.aload_n 1, 1) := dk_43 (dk_at dksX1_fillersIn_0 2 rfl rfl)
theorem dX1_fillersIn_3 : decode cX1_fillersIn 3 = .ok (.getfield 530, 3) := dk_180 2 18 (dk_at dksX1_fillersIn_0 3 rfl rfl)
theorem dX1_fillersIn_6 : decode cX1_fillersIn 6 = .ok (.istore 4, 2) := dk_54 4 (dk_at dksX1_fillersIn_0 6 rfl rfl)
theorem dX1_fillersIn_8 : decode cX1_fillersIn 8 = .ok (.iconst 0, 1) := dk_3 (dk_at dksX1_fillersIn_0 8 rfl rfl)
theorem dX1_fillersIn_9 : decode cX1_fillersIn 9 = .ok (.istore 5, 2) := dk_54 5 (dk_at dksX1_fillersIn_0 9 rfl rfl)
theorem dX1_fillersIn_11 : decode cX1_fillersIn 11 = .ok (.iload 5, 2) := dk_21 5 (dk_at dksX1_fillersIn_0 11 rfl rfl)
theorem dX1_fillersIn_13 : decode cX1_fillersIn 13 = .ok (.aload_n 1, 1) := dk_43 (dk_at dksX1_fillersIn_0 13 rfl rfl)
theorem dX1_fillersIn_14 : decode cX1_fillersIn 14 = .ok (.getfield 421, 3) := dk_180 1 165 (dk_at dksX1_fillersIn_0 14 rfl rfl)
theorem dX1_fillersIn_17 : decode cX1_fillersIn 17 = .ok (.invokevirtual 384, 3) := dk_182 1 128 (dk_at dksX1_fillersIn_0 17 rfl rfl)
theorem dX1_fillersIn_20 : decode cX1_fillersIn 20 = .ok (.if_icmp .ge 51, 3) := dk_162 0 51 (dk_at dksX1_fillersIn_0 20 rfl rfl)
theorem dX1_fillersIn_23 : decode cX1_fillersIn 23 = .ok (.aload_n 1, 1) := dk_43 (dk_at dksX1_fillersIn_0 23 rfl rfl)
theorem dX1_fillersIn_24 : decode cX1_fillersIn 24 = .ok (.getfield 421, 3) := dk_180 1 165 (dk_at dksX1_fillersIn_1 0 rfl rfl)
theorem dX1_fillersIn_27 : decode cX1_fillersIn 27 = .ok (.iload 5, 2) := dk_21 5 (dk_at dksX1_fillersIn_1 3 rfl rfl)
theorem dX1_fillersIn_29 : decode cX1_fillersIn 29 = .ok (.invokevirtual 387, 3) := dk_182 1 131 (dk_at dksX1_fillersIn_1 5 rfl rfl)
theorem dX1_fillersIn_32 : decode cX1_fillersIn 32 = .ok (.checkcast 189, 3) := dk_192 0 189 (dk_at dksX1_fillersIn_1 8 rfl rfl)
theorem dX1_fillersIn_35 : decode cX1_fillersIn 35 = .ok (.astore 6, 2) := dk_58 6 (dk_at dksX1_fillersIn_1 11 rfl rfl)
theorem dX1_fillersIn_37 : decode cX1_fillersIn 37 = .ok (.iload_n 3, 1) := dk_29 (dk_at dksX1_fillersIn_1 13 rfl rfl)
theorem dX1_fillersIn_38 : decode cX1_fillersIn 38 = .ok (.aload 6, 2) := dk_25 6 (dk_at dksX1_fillersIn_1 14 rfl rfl)
theorem dX1_fillersIn_40 : decode cX1_fillersIn 40 = .ok (.getfield 448, 3) := dk_180 1 192 (dk_at dksX1_fillersIn_1 16 rfl rfl)
theorem dX1_fillersIn_43 : decode cX1_fillersIn 43 = .ok (.iload 4, 2) := dk_21 4 (dk_at dksX1_fillersIn_1 19 rfl rfl)
theorem dX1_fillersIn_45 : decode cX1_fillersIn 45 = .ok (.isub, 1) := dk_100 (dk_at dksX1_fillersIn_1 21 rfl rfl)
theorem dX1_fillersIn_46 : decode cX1_fillersIn 46 = .ok (.iload_n 2, 1) := dk_28 (dk_at dksX1_fillersIn_1 22 rfl rfl)
theorem dX1_fillersIn_47 : decode cX1_fillersIn 47 = .ok (.invokestatic 543, 3) := dk_184 2 31 (dk_at dksX1_fillersIn_2 0 rfl rfl)
theorem dX1_fillersIn_50 : decode cX1_fillersIn 50 = .ok (.iadd, 1) := dk_96 (dk_at dksX1_fillersIn_2 3 rfl rfl)
theorem dX1_fillersIn_51 : decode cX1_fillersIn 51 = .ok (.istore_n 3, 1) := dk_62 (dk_at dksX1_fillersIn_2 4 rfl rfl)
theorem dX1_fillersIn_52 : decode cX1_fillersIn 52 = .ok (.aload 6, 2) := dk_25 6 (dk_at dksX1_fillersIn_2 5 rfl rfl)
theorem dX1_fillersIn_54 : decode cX1_fillersIn 54 = .ok (.getfield 448, 3) := dk_180 1 192 (dk_at dksX1_fillersIn_2 7 rfl rfl)
theorem dX1_fillersIn_57 : decode cX1_fillersIn 57 = .ok (.aload 6, 2) := dk_25 6 (dk_at dksX1_fillersIn_2 10 rfl rfl)
theorem dX1_fillersIn_59 : decode cX1_fillersIn 59 = .ok (.getfield 199, 3) := dk_180 0 199 (dk_at dksX1_fillersIn_2 12 rfl rfl)
theorem dX1_fillersIn_62 : decode cX1_fillersIn 62 = .ok (.iadd, 1) := dk_96 (dk_at dksX1_fillersIn_2 15 rfl rfl)
theorem dX1_fillersIn_63 : decode cX1_fillersIn 63 = .ok (.istore 4, 2) := dk_54 4 (dk_at dksX1_fillersIn_2 16 rfl rfl)
theorem dX1_fillersIn_65 : decode cX1_fillersIn 65 = .ok (.iinc 5 1, 3) := dk_132 5 1 (dk_at dksX1_fillersIn_2 18 rfl rfl)
theorem dX1_fillersIn_68 : decode cX1_fillersIn 68 = .ok (.goto (-57), 3) := dk_167 255 199 (dk_at dksX1_fillersIn_2 21 rfl rfl)
theorem dX1_fillersIn_71 : decode cX1_fillersIn 71 = .ok (.iload_n 3, 1) := dk_29 (dk_at dksX1_fillersIn_3 0 rfl rfl)
theorem dX1_fillersIn_72 : decode cX1_fillersIn 72 = .ok (.aload_n 1, 1) := dk_43 (dk_at dksX1_fillersIn_3 1 rfl rfl)
theorem dX1_fillersIn_73 : decode cX1_fillersIn 73 = .ok (.getfield 530, 3) := dk_180 2 18 (dk_at dksX1_fillersIn_3 2 rfl rfl)
theorem dX1_fillersIn_76 : decode cX1_fillersIn 76 = .ok (.aload_n 1, 1) := dk_43 (dk_at dksX1_fillersIn_3 5 rfl rfl)
theorem dX1_fillersIn_77 : decode cX1_fillersIn 77 = .ok (.getfield 533, 3) := dk_180 2 21 (dk_at dksX1_fillersIn_3 6 rfl rfl)
theorem dX1_fillersIn_80 : decode cX1_fillersIn 80 = .ok (.iadd, 1) := dk_96 (dk_at dksX1_fillersIn_3 9 rfl rfl)
theorem dX1_fillersIn_81 : decode cX1_fillersIn 81 = .ok (.iload 4, 2) := dk_21 4 (dk_at dksX1_fillersIn_3 10 rfl rfl)
theorem dX1_fillersIn_83 : decode cX1_fillersIn 83 = .ok (.isub, 1) := dk_100 (dk_at dksX1_fillersIn_3 12 rfl rfl)
theorem dX1_fillersIn_84 : decode cX1_fillersIn 84 = .ok (.iload_n 2, 1) := dk_28 (dk_at dksX1_fillersIn_3 13 rfl rfl)
theorem dX1_fillersIn_85 : decode cX1_fillersIn 85 = .ok (.invokestatic 543, 3) := dk_184 2 31 (dk_at dksX1_fillersIn_3 14 rfl rfl)
theorem dX1_fillersIn_88 : decode cX1_fillersIn 88 = .ok (.iadd, 1) := dk_96 (dk_at dksX1_fillersIn_3 17 rfl rfl)
theorem dX1_fillersIn_89 : decode cX1_fillersIn 89 = .ok (.ireturn, 1) := dk_172 (dk_at dksX1_fillersIn_3 18 rfl rfl)
abbrev cX1_fillersOf : ByteArray := prog_1_method_82_code
def yX1_fillersOf : MethodName := ⟨RX1, "fillersOf", "(II)I"⟩
def dkwX1_fillersOf_1 : List UInt8 := [26, 5, 112, 172]
abbrev dktX1_fillersOf_1 : List UInt8 := dkwX1_fillersOf_1 ++ []
def dkwX1_fillersOf_0 : List UInt8 := [27, 7, 160, 0, 9, 26, 7, 108, 167, 0, 19, 27, 5, 160, 0, 11, 26, 7, 112, 5, 108, 167, 0, 6]
abbrev dktX1_fillersOf_0 : List UInt8 := dkwX1_fillersOf_0 ++ dktX1_fillersOf_1
theorem dksX1_fillersOf_0 : cX1_fillersOf.data.toList.drop 0 = dktX1_fillersOf_0 := by decide +kernel
theorem dksX1_fillersOf_1 : cX1_fillersOf.data.toList.drop 24 = dktX1_fillersOf_1 := dk_seg dksX1_fillersOf_0 24 rfl rfl
theorem dX1_fillersOf_0 : decode cX1_fillersOf 0 = .ok (.iload_n 1, 1) := dk_27 (dk_at dksX1_fillersOf_0 0 rfl rfl)
theorem dX1_fillersOf_1 : decode cX1_fillersOf 1 = .ok (.iconst 4, 1) := dk_7 (dk_at dksX1_fillersOf_0 1 rfl rfl)
theorem dX1_fillersOf_2 : decode cX1_fillersOf 2 = .ok (.if_icmp .ne 9, 3) := dk_160 0 9 (dk_at dksX1_fillersOf_0 2 rfl rfl)
theorem dX1_fillersOf_5 : decode cX1_fillersOf 5 = .ok (.iload_n 0, 1) := dk_26 (dk_at dksX1_fillersOf_0 5 rfl rfl)
theorem dX1_fillersOf_6 : decode cX1_fillersOf 6 = .ok (.iconst 4, 1) := dk_7 (dk_at dksX1_fillersOf_0 6 rfl rfl)
theorem dX1_fillersOf_7 : decode cX1_fillersOf 7 = .ok (.idiv, 1) := dk_108 (dk_at dksX1_fillersOf_0 7 rfl rfl)
theorem dX1_fillersOf_8 : decode cX1_fillersOf 8 = .ok (.goto 19, 3) := dk_167 0 19 (dk_at dksX1_fillersOf_0 8 rfl rfl)
theorem dX1_fillersOf_11 : decode cX1_fillersOf 11 = .ok (.iload_n 1, 1) := dk_27 (dk_at dksX1_fillersOf_0 11 rfl rfl)
theorem dX1_fillersOf_12 : decode cX1_fillersOf 12 = .ok (.iconst 2, 1) := dk_5 (dk_at dksX1_fillersOf_0 12 rfl rfl)
theorem dX1_fillersOf_13 : decode cX1_fillersOf 13 = .ok (.if_icmp .ne 11, 3) := dk_160 0 11 (dk_at dksX1_fillersOf_0 13 rfl rfl)
theorem dX1_fillersOf_16 : decode cX1_fillersOf 16 = .ok (.iload_n 0, 1) := dk_26 (dk_at dksX1_fillersOf_0 16 rfl rfl)
theorem dX1_fillersOf_17 : decode cX1_fillersOf 17 = .ok (.iconst 4, 1) := dk_7 (dk_at dksX1_fillersOf_0 17 rfl rfl)
theorem dX1_fillersOf_18 : decode cX1_fillersOf 18 = .ok (.irem, 1) := dk_112 (dk_at dksX1_fillersOf_0 18 rfl rfl)
theorem dX1_fillersOf_19 : decode cX1_fillersOf 19 = .ok (.iconst 2, 1) := dk_5 (dk_at dksX1_fillersOf_0 19 rfl rfl)
theorem dX1_fillersOf_20 : decode cX1_fillersOf 20 = .ok (.idiv, 1) := dk_108 (dk_at dksX1_fillersOf_0 20 rfl rfl)
theorem dX1_fillersOf_21 : decode cX1_fillersOf 21 = .ok (.goto 6, 3) := dk_167 0 6 (dk_at dksX1_fillersOf_0 21 rfl rfl)
theorem dX1_fillersOf_24 : decode cX1_fillersOf 24 = .ok (.iload_n 0, 1) := dk_26 (dk_at dksX1_fillersOf_1 0 rfl rfl)
theorem dX1_fillersOf_25 : decode cX1_fillersOf 25 = .ok (.iconst 2, 1) := dk_5 (dk_at dksX1_fillersOf_1 1 rfl rfl)
theorem dX1_fillersOf_26 : decode cX1_fillersOf 26 = .ok (.irem, 1) := dk_112 (dk_at dksX1_fillersOf_1 2 rfl rfl)
theorem dX1_fillersOf_27 : decode cX1_fillersOf 27 = .ok (.ireturn, 1) := dk_172 (dk_at dksX1_fillersOf_1 3 rfl rfl)
abbrev cX1_count : ByteArray := prog_1_method_85_code
def yX1_count : MethodName := ⟨RX1, "count", "(I)I"⟩
def dkwX1_count_6 : List UInt8 := [172]
abbrev dktX1_count_6 : List UInt8 := dkwX1_count_6 ++ []
def dkwX1_count_5 : List UInt8 := [172, 42, 180, 0, 7, 7, 46, 172, 42, 180, 0, 7, 8, 46, 172, 42, 180, 0, 7, 16, 6, 46, 172, 2]
abbrev dktX1_count_5 : List UInt8 := dkwX1_count_5 ++ dktX1_count_6
def dkwX1_count_4 : List UInt8 := [172, 42, 180, 0, 86, 172, 42, 180, 0, 119, 172, 42, 180, 0, 7, 4, 46, 172, 42, 180, 0, 7, 5, 46]
abbrev dktX1_count_4 : List UInt8 := dkwX1_count_4 ++ dktX1_count_5
def dkwX1_count_3 : List UInt8 := [180, 0, 110, 172, 42, 180, 0, 67, 180, 0, 100, 172, 42, 180, 0, 67, 180, 0, 107, 172, 42, 182, 1, 40]
abbrev dktX1_count_3 : List UInt8 := dkwX1_count_3 ++ dktX1_count_4
def dkwX1_count_2 : List UInt8 := [42, 180, 0, 59, 172, 42, 180, 0, 63, 172, 42, 180, 0, 67, 180, 0, 157, 172, 42, 180, 0, 67]
abbrev dktX1_count_2 : List UInt8 := dkwX1_count_2 ++ dktX1_count_3
def dkwX1_count_1 : List UInt8 := [170, 0, 0, 0, 0, 163, 0, 0, 0, 0, 0, 0, 0, 13, 0, 0, 0, 70, 0, 0, 0, 75, 0, 0, 0, 80, 0, 0, 0, 88, 0, 0, 0, 96, 0, 0, 0, 104, 0, 0, 0, 112, 0, 0, 0, 117, 0, 0, 0, 122, 0, 0, 0, 127, 0, 0, 0, 134, 0, 0, 0, 141, 0, 0, 0, 148, 0, 0, 0, 155]
abbrev dktX1_count_1 : List UInt8 := dkwX1_count_1 ++ dktX1_count_2
def dkwX1_count_0 : List UInt8 := [27, 16, 14, 16, 19, 184, 0, 103, 153, 0, 13, 42, 180, 0, 13, 27, 16, 14, 100, 46, 172, 27]
abbrev dktX1_count_0 : List UInt8 := dkwX1_count_0 ++ dktX1_count_1
theorem dksX1_count_0 : cX1_count.data.toList.drop 0 = dktX1_count_0 := by decide +kernel
theorem dksX1_count_1 : cX1_count.data.toList.drop 22 = dktX1_count_1 := dk_seg dksX1_count_0 22 rfl rfl
theorem dksX1_count_2 : cX1_count.data.toList.drop 92 = dktX1_count_2 := dk_seg dksX1_count_1 70 rfl rfl
theorem dksX1_count_3 : cX1_count.data.toList.drop 114 = dktX1_count_3 := dk_seg dksX1_count_2 22 rfl rfl
theorem dksX1_count_4 : cX1_count.data.toList.drop 138 = dktX1_count_4 := dk_seg dksX1_count_3 24 rfl rfl
theorem dksX1_count_5 : cX1_count.data.toList.drop 162 = dktX1_count_5 := dk_seg dksX1_count_4 24 rfl rfl
theorem dksX1_count_6 : cX1_count.data.toList.drop 186 = dktX1_count_6 := dk_seg dksX1_count_5 24 rfl rfl
theorem dX1_count_0 : decode cX1_count 0 = .ok (.iload_n 1, 1) := dk_27 (dk_at dksX1_count_0 0 rfl rfl)
theorem dX1_count_1 : decode cX1_count 1 = .ok (.bipush 14, 2) := dk_16 14 (dk_at dksX1_count_0 1 rfl rfl)
theorem dX1_count_3 : decode cX1_count 3 = .ok (.bipush 19, 2) := dk_16 19 (dk_at dksX1_count_0 3 rfl rfl)
theorem dX1_count_5 : decode cX1_count 5 = .ok (.invokestatic 103, 3) := dk_184 0 103 (dk_at dksX1_count_0 5 rfl rfl)
theorem dX1_count_8 : decode cX1_count 8 = .ok (.ifCond .eq 13, 3) := dk_153 0 13 (dk_at dksX1_count_0 8 rfl rfl)
theorem dX1_count_11 : decode cX1_count 11 = .ok (.aload_n 0, 1) := dk_42 (dk_at dksX1_count_0 11 rfl rfl)
theorem dX1_count_12 : decode cX1_count 12 = .ok (.getfield 13, 3) := dk_180 0 13 (dk_at dksX1_count_0 12 rfl rfl)
theorem dX1_count_15 : decode cX1_count 15 = .ok (.iload_n 1, 1) := dk_27 (dk_at dksX1_count_0 15 rfl rfl)
theorem dX1_count_16 : decode cX1_count 16 = .ok (.bipush 14, 2) := dk_16 14 (dk_at dksX1_count_0 16 rfl rfl)
theorem dX1_count_18 : decode cX1_count 18 = .ok (.isub, 1) := dk_100 (dk_at dksX1_count_0 18 rfl rfl)
theorem dX1_count_19 : decode cX1_count 19 = .ok (.iaload, 1) := dk_46 (dk_at dksX1_count_0 19 rfl rfl)
theorem dX1_count_20 : decode cX1_count 20 = .ok (.ireturn, 1) := dk_172 (dk_at dksX1_count_0 20 rfl rfl)
theorem dX1_count_21 : decode cX1_count 21 = .ok (.iload_n 1, 1) := dk_27 (dk_at dksX1_count_0 21 rfl rfl)
theorem dX1_count_22 : decode cX1_count 22 = .ok (.tableswitch 163 0 13 #[70, 75, 80, 88, 96, 104, 112, 117, 122, 127, 134, 141, 148, 155], 70) := by decide +kernel
theorem dX1_count_92 : decode cX1_count 92 = .ok (.aload_n 0, 1) := dk_42 (dk_at dksX1_count_2 0 rfl rfl)
theorem dX1_count_93 : decode cX1_count 93 = .ok (.getfield 59, 3) := dk_180 0 59 (dk_at dksX1_count_2 1 rfl rfl)
theorem dX1_count_96 : decode cX1_count 96 = .ok (.ireturn, 1) := dk_172 (dk_at dksX1_count_2 4 rfl rfl)
theorem dX1_count_97 : decode cX1_count 97 = .ok (.aload_n 0, 1) := dk_42 (dk_at dksX1_count_2 5 rfl rfl)
theorem dX1_count_98 : decode cX1_count 98 = .ok (.getfield 63, 3) := dk_180 0 63 (dk_at dksX1_count_2 6 rfl rfl)
theorem dX1_count_101 : decode cX1_count 101 = .ok (.ireturn, 1) := dk_172 (dk_at dksX1_count_2 9 rfl rfl)
theorem dX1_count_102 : decode cX1_count 102 = .ok (.aload_n 0, 1) := dk_42 (dk_at dksX1_count_2 10 rfl rfl)
theorem dX1_count_103 : decode cX1_count 103 = .ok (.getfield 67, 3) := dk_180 0 67 (dk_at dksX1_count_2 11 rfl rfl)
theorem dX1_count_106 : decode cX1_count 106 = .ok (.getfield 157, 3) := dk_180 0 157 (dk_at dksX1_count_2 14 rfl rfl)
theorem dX1_count_109 : decode cX1_count 109 = .ok (.ireturn, 1) := dk_172 (dk_at dksX1_count_2 17 rfl rfl)
theorem dX1_count_110 : decode cX1_count 110 = .ok (.aload_n 0, 1) := dk_42 (dk_at dksX1_count_2 18 rfl rfl)
theorem dX1_count_111 : decode cX1_count 111 = .ok (.getfield 67, 3) := dk_180 0 67 (dk_at dksX1_count_2 19 rfl rfl)
theorem dX1_count_114 : decode cX1_count 114 = .ok (.getfield 110, 3) := dk_180 0 110 (dk_at dksX1_count_3 0 rfl rfl)
theorem dX1_count_117 : decode cX1_count 117 = .ok (.ireturn, 1) := dk_172 (dk_at dksX1_count_3 3 rfl rfl)
theorem dX1_count_118 : decode cX1_count 118 = .ok (.aload_n 0, 1) := dk_42 (dk_at dksX1_count_3 4 rfl rfl)
theorem dX1_count_119 : decode cX1_count 119 = .ok (.getfield 67, 3) := dk_180 0 67 (dk_at dksX1_count_3 5 rfl rfl)
theorem dX1_count_122 : decode cX1_count 122 = .ok (.getfield 100, 3) := dk_180 0 100 (dk_at dksX1_count_3 8 rfl rfl)
theorem dX1_count_125 : decode cX1_count 125 = .ok (.ireturn, 1) := dk_172 (dk_at dksX1_count_3 11 rfl rfl)
theorem dX1_count_126 : decode cX1_count 126 = .ok (.aload_n 0, 1) := dk_42 (dk_at dksX1_count_3 12 rfl rfl)
theorem dX1_count_127 : decode cX1_count 127 = .ok (.getfield 67, 3) := dk_180 0 67 (dk_at dksX1_count_3 13 rfl rfl)
theorem dX1_count_130 : decode cX1_count 130 = .ok (.getfield 107, 3) := dk_180 0 107 (dk_at dksX1_count_3 16 rfl rfl)
theorem dX1_count_133 : decode cX1_count 133 = .ok (.ireturn, 1) := dk_172 (dk_at dksX1_count_3 19 rfl rfl)
theorem dX1_count_134 : decode cX1_count 134 = .ok (.aload_n 0, 1) := dk_42 (dk_at dksX1_count_3 20 rfl rfl)
theorem dX1_count_135 : decode cX1_count 135 = .ok (.invokevirtual 296, 3) := dk_182 1 40 (dk_at dksX1_count_3 21 rfl rfl)
theorem dX1_count_138 : decode cX1_count 138 = .ok (.ireturn, 1) := dk_172 (dk_at dksX1_count_4 0 rfl rfl)
theorem dX1_count_139 : decode cX1_count 139 = .ok (.aload_n 0, 1) := dk_42 (dk_at dksX1_count_4 1 rfl rfl)
theorem dX1_count_140 : decode cX1_count 140 = .ok (.getfield 86, 3) := dk_180 0 86 (dk_at dksX1_count_4 2 rfl rfl)
theorem dX1_count_143 : decode cX1_count 143 = .ok (.ireturn, 1) := dk_172 (dk_at dksX1_count_4 5 rfl rfl)
theorem dX1_count_144 : decode cX1_count 144 = .ok (.aload_n 0, 1) := dk_42 (dk_at dksX1_count_4 6 rfl rfl)
theorem dX1_count_145 : decode cX1_count 145 = .ok (.getfield 119, 3) := dk_180 0 119 (dk_at dksX1_count_4 7 rfl rfl)
theorem dX1_count_148 : decode cX1_count 148 = .ok (.ireturn, 1) := dk_172 (dk_at dksX1_count_4 10 rfl rfl)
theorem dX1_count_149 : decode cX1_count 149 = .ok (.aload_n 0, 1) := dk_42 (dk_at dksX1_count_4 11 rfl rfl)
theorem dX1_count_150 : decode cX1_count 150 = .ok (.getfield 7, 3) := dk_180 0 7 (dk_at dksX1_count_4 12 rfl rfl)
theorem dX1_count_153 : decode cX1_count 153 = .ok (.iconst 1, 1) := dk_4 (dk_at dksX1_count_4 15 rfl rfl)
theorem dX1_count_154 : decode cX1_count 154 = .ok (.iaload, 1) := dk_46 (dk_at dksX1_count_4 16 rfl rfl)
theorem dX1_count_155 : decode cX1_count 155 = .ok (.ireturn, 1) := dk_172 (dk_at dksX1_count_4 17 rfl rfl)
theorem dX1_count_156 : decode cX1_count 156 = .ok (.aload_n 0, 1) := dk_42 (dk_at dksX1_count_4 18 rfl rfl)
theorem dX1_count_157 : decode cX1_count 157 = .ok (.getfield 7, 3) := dk_180 0 7 (dk_at dksX1_count_4 19 rfl rfl)
theorem dX1_count_160 : decode cX1_count 160 = .ok (.iconst 2, 1) := dk_5 (dk_at dksX1_count_4 22 rfl rfl)
theorem dX1_count_161 : decode cX1_count 161 = .ok (.iaload, 1) := dk_46 (dk_at dksX1_count_4 23 rfl rfl)
theorem dX1_count_162 : decode cX1_count 162 = .ok (.ireturn, 1) := dk_172 (dk_at dksX1_count_5 0 rfl rfl)
theorem dX1_count_163 : decode cX1_count 163 = .ok (.aload_n 0, 1) := dk_42 (dk_at dksX1_count_5 1 rfl rfl)
theorem dX1_count_164 : decode cX1_count 164 = .ok (.getfield 7, 3) := dk_180 0 7 (dk_at dksX1_count_5 2 rfl rfl)
theorem dX1_count_167 : decode cX1_count 167 = .ok (.iconst 4, 1) := dk_7 (dk_at dksX1_count_5 5 rfl rfl)
theorem dX1_count_168 : decode cX1_count 168 = .ok (.iaload, 1) := dk_46 (dk_at dksX1_count_5 6 rfl rfl)
theorem dX1_count_169 : decode cX1_count 169 = .ok (.ireturn, 1) := dk_172 (dk_at dksX1_count_5 7 rfl rfl)
theorem dX1_count_170 : decode cX1_count 170 = .ok (.aload_n 0, 1) := dk_42 (dk_at dksX1_count_5 8 rfl rfl)
theorem dX1_count_171 : decode cX1_count 171 = .ok (.getfield 7, 3) := dk_180 0 7 (dk_at dksX1_count_5 9 rfl rfl)
theorem dX1_count_174 : decode cX1_count 174 = .ok (.iconst 5, 1) := dk_8 (dk_at dksX1_count_5 12 rfl rfl)
theorem dX1_count_175 : decode cX1_count 175 = .ok (.iaload, 1) := dk_46 (dk_at dksX1_count_5 13 rfl rfl)
theorem dX1_count_176 : decode cX1_count 176 = .ok (.ireturn, 1) := dk_172 (dk_at dksX1_count_5 14 rfl rfl)
theorem dX1_count_177 : decode cX1_count 177 = .ok (.aload_n 0, 1) := dk_42 (dk_at dksX1_count_5 15 rfl rfl)
theorem dX1_count_178 : decode cX1_count 178 = .ok (.getfield 7, 3) := dk_180 0 7 (dk_at dksX1_count_5 16 rfl rfl)
theorem dX1_count_181 : decode cX1_count 181 = .ok (.bipush 6, 2) := dk_16 6 (dk_at dksX1_count_5 19 rfl rfl)
theorem dX1_count_183 : decode cX1_count 183 = .ok (.iaload, 1) := dk_46 (dk_at dksX1_count_5 21 rfl rfl)
theorem dX1_count_184 : decode cX1_count 184 = .ok (.ireturn, 1) := dk_172 (dk_at dksX1_count_5 22 rfl rfl)
theorem dX1_count_185 : decode cX1_count 185 = .ok (.iconst (-1), 1) := dk_2 (dk_at dksX1_count_5 23 rfl rfl)
theorem dX1_count_186 : decode cX1_count 186 = .ok (.ireturn, 1) := dk_172 (dk_at dksX1_count_6 0 rfl rfl)
abbrev cX1_status : ByteArray := prog_1_method_86_code
def yX1_status : MethodName := ⟨RX1, "status", "()I"⟩
theorem dX1_status_0 : decode cX1_status 0 = .ok (.aload_n 0, 1) := by decide +kernel
theorem dX1_status_1 : decode cX1_status 1 = .ok (.getfield 83, 3) := by decide +kernel
theorem dX1_status_4 : decode cX1_status 4 = .ok (.ireturn, 1) := by decide +kernel
theorem q137 : (Jvm.Cond.initialized "CellRows") ∈ lw_all := lw_g (lw_at lw_m1 1 rfl) rfl
theorem q161 : (Jvm.Cond.instantiable "CellRows" (21 : Nat)) ∈ lw_all := lw_g (lw_at lw_m1 25 rfl) rfl
theorem q163 : (Jvm.Cond.instanceMethod ({ cls := "CellRows", name := "<init>", desc := "(II)V" } : Jvm.MethodName)) ∈ lw_all := lw_g (lw_at lw_m1 27 rfl) rfl
theorem q164 : (Jvm.Cond.code ({ cls := "CellRows", name := "<init>", desc := "(II)V" } : Jvm.MethodName) prog_1_method_1_code (4 : Nat) (Option.none : Option Jvm.ClassFile.FieldType)) ∈ lw_all := lw_g (lw_at lw_m1 28 rfl) rfl
theorem q165 : (Jvm.Cond.methodLink "CellRows" (1 : Nat) ({ cls := "java/lang/Object", name := "<init>", desc := "()V" } : Jvm.MethodName)) ∈ lw_all := lw_g (lw_at lw_m1 29 rfl) rfl
theorem q168 : (Jvm.Cond.classLink "CellRows" (16 : Nat) "CellRows$Chip") ∈ lw_all := lw_g (lw_at lw_m1 32 rfl) rfl
theorem q170 : (Jvm.Cond.classLink "CellRows" (29 : Nat) "CellRows$1") ∈ lw_all := lw_g (lw_at lw_m1 34 rfl) rfl
theorem q172 : (Jvm.Cond.methodLink "CellRows" (31 : Nat) ({ cls := "CellRows$1", name := "<init>", desc := "(LCellRows;)V" } : Jvm.MethodName)) ∈ lw_all := lw_g (lw_at lw_m1 36 rfl) rfl
theorem q188 : (Jvm.Cond.classLink "CellRows" (38 : Nat) "CellRows$2") ∈ lw_all := lw_g (lw_at lw_m1 52 rfl) rfl
theorem q190 : (Jvm.Cond.methodLink "CellRows" (40 : Nat) ({ cls := "CellRows$2", name := "<init>", desc := "(LCellRows;)V" } : Jvm.MethodName)) ∈ lw_all := lw_g (lw_at lw_m1 54 rfl) rfl
theorem q199 : (Jvm.Cond.classLink "CellRows" (44 : Nat) "[[I") ∈ lw_all := lw_g (lw_at lw_m1 63 rfl) rfl
theorem q201 : (Jvm.Cond.methodLink "CellRows" (55 : Nat) ({ cls := "CellRows", name := "bound", desc := "(III)I" } : Jvm.MethodName)) ∈ lw_all := lw_g (lw_at lw_m1 65 rfl) rfl
theorem q202 : (Jvm.Cond.static ({ cls := "CellRows", name := "bound", desc := "(III)I" } : Jvm.MethodName)) ∈ lw_all := lw_g (lw_at lw_m1 66 rfl) rfl
theorem q203 : (Jvm.Cond.code ({ cls := "CellRows", name := "bound", desc := "(III)I" } : Jvm.MethodName) prog_1_method_3_code (3 : Nat) (Option.some Jvm.ClassFile.FieldType.int)) ∈ lw_all := lw_g (lw_at lw_m1 67 rfl) rfl
theorem q204 : (Jvm.Cond.methodLink "CellRows" (74 : Nat) ({ cls := "java/lang/Math", name := "min", desc := "(II)I" } : Jvm.MethodName)) ∈ lw_all := lw_g (lw_at lw_m1 68 rfl) rfl
theorem q207 : (Jvm.Cond.methodLink "CellRows" (80 : Nat) ({ cls := "java/lang/Math", name := "max", desc := "(II)I" } : Jvm.MethodName)) ∈ lw_all := lw_g (lw_at lw_m1 71 rfl) rfl
theorem q211 : (Jvm.Cond.methodLink "CellRows" (66 : Nat) ({ cls := "CellRows$Chip", name := "<init>", desc := "(LCellRows;)V" } : Jvm.MethodName)) ∈ lw_all := lw_g (lw_at lw_m1 75 rfl) rfl
theorem q227 : (Jvm.Cond.fieldLinkNest "CellRows" (316 : Nat) "CellRows$Cell" "number" "I" "CellRows") ∈ lw_tbl := lw_at lw_m1 91 rfl
theorem q233 : (Jvm.Cond.fieldLinkNest "CellRows" (199 : Nat) "CellRows$Cell" "width" "I" "CellRows") ∈ lw_tbl := lw_at lw_m1 97 rfl
theorem q236 : (Jvm.Cond.fieldLinkNest "CellRows" (401 : Nat) "CellRows$Cell" "fence" "I" "CellRows") ∈ lw_tbl := lw_at lw_m1 100 rfl
theorem q241 : (Jvm.Cond.fieldLinkNest "CellRows" (244 : Nat) "CellRows$Cell" "x" "I" "CellRows") ∈ lw_tbl := lw_at lw_m1 105 rfl
theorem q246 : (Jvm.Cond.fieldLinkNest "CellRows" (250 : Nat) "CellRows$Cell" "y" "I" "CellRows") ∈ lw_tbl := lw_at lw_m1 110 rfl
theorem q252 : (Jvm.Cond.fieldLinkNest "CellRows" (267 : Nat) "CellRows$Cell" "row" "I" "CellRows") ∈ lw_tbl := lw_at lw_m1 116 rfl
theorem q257 : (Jvm.Cond.fieldLinkNest "CellRows" (448 : Nat) "CellRows$Cell" "site" "I" "CellRows") ∈ lw_tbl := lw_at lw_m1 121 rfl
theorem q261 : (Jvm.Cond.fieldLinkNest "CellRows" (236 : Nat) "CellRows$Cell" "isFixed" "Z" "CellRows") ∈ lw_tbl := lw_at lw_m1 125 rfl
theorem q289 : (Jvm.Cond.fieldLinkNest "CellRows" (277 : Nat) "CellRows$Net" "weight" "I" "CellRows") ∈ lw_tbl := lw_at lw_m1 153 rfl
theorem q292 : (Jvm.Cond.fieldLinkNest "CellRows" (233 : Nat) "CellRows$Net" "pins" "I" "CellRows") ∈ lw_tbl := lw_at lw_m1 156 rfl
theorem q295 : (Jvm.Cond.fieldLinkNest "CellRows" (509 : Nat) "CellRows$Net" "who" "[I" "CellRows") ∈ lw_tbl := lw_at lw_m1 159 rfl
theorem q298 : (Jvm.Cond.fieldLinkNest "CellRows" (323 : Nat) "CellRows$Net" "where" "[I" "CellRows") ∈ lw_tbl := lw_at lw_m1 162 rfl
theorem q315 : (Jvm.Cond.fieldLinkNest "CellRows" (126 : Nat) "CellRows$Rect" "low" "I" "CellRows") ∈ lw_tbl := lw_at lw_m1 179 rfl
theorem q318 : (Jvm.Cond.fieldLinkNest "CellRows" (131 : Nat) "CellRows$Rect" "high" "I" "CellRows") ∈ lw_tbl := lw_at lw_m1 182 rfl
theorem q339 : (Jvm.Cond.fieldLinkNest "CellRows" (184 : Nat) "CellRows$Chip" "cell" "[LCellRows$Cell;" "CellRows") ∈ lw_tbl := lw_at lw_m1 203 rfl
theorem q342 : (Jvm.Cond.fieldLinkNest "CellRows" (223 : Nat) "CellRows$Chip" "net" "[LCellRows$Net;" "CellRows") ∈ lw_tbl := lw_at lw_m1 206 rfl
theorem q344 : (Jvm.Cond.fieldLinkNest "CellRows" (163 : Nat) "CellRows$Chip" "block" "[LCellRows$Rect;" "CellRows") ∈ lw_tbl := lw_at lw_m1 208 rfl
theorem q347 : (Jvm.Cond.fieldLinkNest "CellRows" (173 : Nat) "CellRows$Chip" "fence" "[LCellRows$Rect;" "CellRows") ∈ lw_tbl := lw_at lw_m1 211 rfl
theorem q351 : (Jvm.Cond.fieldLinkNest "CellRows" (100 : Nat) "CellRows$Chip" "cells" "I" "CellRows") ∈ lw_tbl := lw_at lw_m1 215 rfl
theorem q354 : (Jvm.Cond.fieldLinkNest "CellRows" (107 : Nat) "CellRows$Chip" "nets" "I" "CellRows") ∈ lw_tbl := lw_at lw_m1 218 rfl
theorem q356 : (Jvm.Cond.fieldLinkNest "CellRows" (157 : Nat) "CellRows$Chip" "blocks" "I" "CellRows") ∈ lw_tbl := lw_at lw_m1 220 rfl
theorem q358 : (Jvm.Cond.fieldLinkNest "CellRows" (110 : Nat) "CellRows$Chip" "fences" "I" "CellRows") ∈ lw_tbl := lw_at lw_m1 222 rfl
theorem q379 : (Jvm.Cond.fieldLink "CellRows" (59 : Nat) "CellRows" "rows" "I") ∈ lw_all := lw_g (lw_at lw_m2 3 rfl) rfl
theorem q383 : (Jvm.Cond.fieldLink "CellRows" (63 : Nat) "CellRows" "sites" "I") ∈ lw_all := lw_g (lw_at lw_m2 7 rfl) rfl
theorem q387 : (Jvm.Cond.fieldLink "CellRows" (83 : Nat) "CellRows" "status" "I") ∈ lw_all := lw_g (lw_at lw_m2 11 rfl) rfl
theorem q388 : (Jvm.Cond.fieldLink "CellRows" (7 : Nat) "CellRows" "refused" "[I") ∈ lw_all := lw_g (lw_at lw_m2 12 rfl) rfl
theorem q389 : (Jvm.Cond.fieldLink "CellRows" (13 : Nat) "CellRows" "term" "[I") ∈ lw_all := lw_g (lw_at lw_m2 13 rfl) rfl
theorem q393 : (Jvm.Cond.fieldLink "CellRows" (67 : Nat) "CellRows" "chip" "LCellRows$Chip;") ∈ lw_all := lw_g (lw_at lw_m2 17 rfl) rfl
theorem q398 : (Jvm.Cond.fieldLink "CellRows" (71 : Nat) "CellRows" "paper" "LCellRows$Chip;") ∈ lw_all := lw_g (lw_at lw_m2 22 rfl) rfl
theorem q399 : (Jvm.Cond.fieldLink "CellRows" (18 : Nat) "CellRows" "undone" "[LCellRows$Chip;") ∈ lw_all := lw_g (lw_at lw_m2 23 rfl) rfl
theorem q400 : (Jvm.Cond.fieldLink "CellRows" (22 : Nat) "CellRows" "undoneWhat" "[I") ∈ lw_all := lw_g (lw_at lw_m2 24 rfl) rfl
theorem q401 : (Jvm.Cond.fieldLink "CellRows" (86 : Nat) "CellRows" "undoMany" "I") ∈ lw_all := lw_g (lw_at lw_m2 25 rfl) rfl
theorem q402 : (Jvm.Cond.fieldLink "CellRows" (25 : Nat) "CellRows" "tape" "[B") ∈ lw_all := lw_g (lw_at lw_m2 26 rfl) rfl
theorem q403 : (Jvm.Cond.fieldLink "CellRows" (119 : Nat) "CellRows" "taped" "I") ∈ lw_all := lw_g (lw_at lw_m2 27 rfl) rfl
theorem q404 : (Jvm.Cond.fieldLink "CellRows" (34 : Nat) "CellRows" "atWants" "LCellRows$Places;") ∈ lw_all := lw_g (lw_at lw_m2 28 rfl) rfl
theorem q405 : (Jvm.Cond.fieldLink "CellRows" (41 : Nat) "CellRows" "atSpots" "LCellRows$Places;") ∈ lw_all := lw_g (lw_at lw_m2 29 rfl) rfl
theorem q407 : (Jvm.Cond.fieldLink "CellRows" (292 : Nat) "CellRows" "bins" "[LCellRows$Bin;") ∈ lw_all := lw_g (lw_at lw_m2 31 rfl) rfl
theorem q408 : (Jvm.Cond.fieldLink "CellRows" (46 : Nat) "CellRows" "from" "[[I") ∈ lw_all := lw_g (lw_at lw_m2 32 rfl) rfl
theorem q410 : (Jvm.Cond.fieldLink "CellRows" (433 : Nat) "CellRows" "isLawfulOnPaper" "Z") ∈ lw_all := lw_g (lw_at lw_m2 34 rfl) rfl
theorem q411 : (Jvm.Cond.fieldLink "CellRows" (439 : Nat) "CellRows" "paperMoves" "I") ∈ lw_all := lw_g (lw_at lw_m2 35 rfl) rfl
theorem q412 : (Jvm.Cond.fieldLink "CellRows" (442 : Nat) "CellRows" "paperWire" "I") ∈ lw_all := lw_g (lw_at lw_m2 36 rfl) rfl
theorem q413 : (Jvm.Cond.fieldLink "CellRows" (49 : Nat) "CellRows" "bestRow" "[I") ∈ lw_all := lw_g (lw_at lw_m2 37 rfl) rfl
theorem q414 : (Jvm.Cond.fieldLink "CellRows" (52 : Nat) "CellRows" "bestSite" "[I") ∈ lw_all := lw_g (lw_at lw_m2 38 rfl) rfl
theorem q415 : (Jvm.Cond.laysFinal "CellRows" "CellRows" "rows" "I") ∈ lw_all := lw_g (lw_at lw_m2 39 rfl) rfl
theorem q416 : (Jvm.Cond.soleField "CellRows" "rows") ∈ lw_all := lw_g (lw_at lw_m2 40 rfl) rfl
theorem q417 : (Jvm.Cond.laysFinal "CellRows" "CellRows" "sites" "I") ∈ lw_all := lw_g (lw_at lw_m2 41 rfl) rfl
theorem q418 : (Jvm.Cond.soleField "CellRows" "sites") ∈ lw_all := lw_g (lw_at lw_m2 42 rfl) rfl
theorem q419 : (Jvm.Cond.lays "CellRows" "CellRows" "status" "I") ∈ lw_all := lw_g (lw_at lw_m2 43 rfl) rfl
theorem q420 : (Jvm.Cond.soleField "CellRows" "status") ∈ lw_all := lw_g (lw_at lw_m2 44 rfl) rfl
theorem q421 : (Jvm.Cond.laysFinal "CellRows" "CellRows" "refused" "[I") ∈ lw_all := lw_g (lw_at lw_m2 45 rfl) rfl
theorem q422 : (Jvm.Cond.soleField "CellRows" "refused") ∈ lw_all := lw_g (lw_at lw_m2 46 rfl) rfl
theorem q423 : (Jvm.Cond.laysFinal "CellRows" "CellRows" "term" "[I") ∈ lw_all := lw_g (lw_at lw_m2 47 rfl) rfl
theorem q424 : (Jvm.Cond.soleField "CellRows" "term") ∈ lw_all := lw_g (lw_at lw_m2 48 rfl) rfl
theorem q425 : (Jvm.Cond.lays "CellRows" "CellRows" "chip" "LCellRows$Chip;") ∈ lw_all := lw_g (lw_at lw_m2 49 rfl) rfl
theorem q426 : (Jvm.Cond.soleField "CellRows" "chip") ∈ lw_all := lw_g (lw_at lw_m2 50 rfl) rfl
theorem q427 : (Jvm.Cond.laysFinal "CellRows" "CellRows" "paper" "LCellRows$Chip;") ∈ lw_all := lw_g (lw_at lw_m2 51 rfl) rfl
theorem q428 : (Jvm.Cond.soleField "CellRows" "paper") ∈ lw_all := lw_g (lw_at lw_m2 52 rfl) rfl
theorem q429 : (Jvm.Cond.laysFinal "CellRows" "CellRows" "undone" "[LCellRows$Chip;") ∈ lw_all := lw_g (lw_at lw_m2 53 rfl) rfl
theorem q430 : (Jvm.Cond.soleField "CellRows" "undone") ∈ lw_all := lw_g (lw_at lw_m2 54 rfl) rfl
theorem q431 : (Jvm.Cond.laysFinal "CellRows" "CellRows" "undoneWhat" "[I") ∈ lw_all := lw_g (lw_at lw_m2 55 rfl) rfl
theorem q432 : (Jvm.Cond.soleField "CellRows" "undoneWhat") ∈ lw_all := lw_g (lw_at lw_m2 56 rfl) rfl
theorem q433 : (Jvm.Cond.lays "CellRows" "CellRows" "undoMany" "I") ∈ lw_all := lw_g (lw_at lw_m2 57 rfl) rfl
theorem q434 : (Jvm.Cond.soleField "CellRows" "undoMany") ∈ lw_all := lw_g (lw_at lw_m2 58 rfl) rfl
theorem q435 : (Jvm.Cond.laysFinal "CellRows" "CellRows" "tape" "[B") ∈ lw_all := lw_g (lw_at lw_m2 59 rfl) rfl
theorem q436 : (Jvm.Cond.soleField "CellRows" "tape") ∈ lw_all := lw_g (lw_at lw_m2 60 rfl) rfl
theorem q437 : (Jvm.Cond.lays "CellRows" "CellRows" "taped" "I") ∈ lw_all := lw_g (lw_at lw_m2 61 rfl) rfl
theorem q438 : (Jvm.Cond.soleField "CellRows" "taped") ∈ lw_all := lw_g (lw_at lw_m2 62 rfl) rfl
theorem q439 : (Jvm.Cond.laysFinal "CellRows" "CellRows" "atWants" "LCellRows$Places;") ∈ lw_all := lw_g (lw_at lw_m2 63 rfl) rfl
theorem q440 : (Jvm.Cond.soleField "CellRows" "atWants") ∈ lw_all := lw_g (lw_at lw_m2 64 rfl) rfl
theorem q441 : (Jvm.Cond.laysFinal "CellRows" "CellRows" "atSpots" "LCellRows$Places;") ∈ lw_all := lw_g (lw_at lw_m2 65 rfl) rfl
theorem q442 : (Jvm.Cond.soleField "CellRows" "atSpots") ∈ lw_all := lw_g (lw_at lw_m2 66 rfl) rfl
theorem q443 : (Jvm.Cond.lays "CellRows" "CellRows" "bins" "[LCellRows$Bin;") ∈ lw_all := lw_g (lw_at lw_m2 67 rfl) rfl
theorem q444 : (Jvm.Cond.soleField "CellRows" "bins") ∈ lw_all := lw_g (lw_at lw_m2 68 rfl) rfl
theorem q445 : (Jvm.Cond.laysFinal "CellRows" "CellRows" "from" "[[I") ∈ lw_all := lw_g (lw_at lw_m2 69 rfl) rfl
theorem q446 : (Jvm.Cond.soleField "CellRows" "from") ∈ lw_all := lw_g (lw_at lw_m2 70 rfl) rfl
theorem q447 : (Jvm.Cond.lays "CellRows" "CellRows" "isLawfulOnPaper" "Z") ∈ lw_all := lw_g (lw_at lw_m2 71 rfl) rfl
theorem q448 : (Jvm.Cond.soleField "CellRows" "isLawfulOnPaper") ∈ lw_all := lw_g (lw_at lw_m2 72 rfl) rfl
theorem q449 : (Jvm.Cond.lays "CellRows" "CellRows" "paperMoves" "I") ∈ lw_all := lw_g (lw_at lw_m2 73 rfl) rfl
theorem q450 : (Jvm.Cond.soleField "CellRows" "paperMoves") ∈ lw_all := lw_g (lw_at lw_m2 74 rfl) rfl
theorem q451 : (Jvm.Cond.lays "CellRows" "CellRows" "paperWire" "I") ∈ lw_all := lw_g (lw_at lw_m2 75 rfl) rfl
theorem q452 : (Jvm.Cond.soleField "CellRows" "paperWire") ∈ lw_all := lw_g (lw_at lw_m2 76 rfl) rfl
theorem q453 : (Jvm.Cond.laysFinal "CellRows" "CellRows" "bestRow" "[I") ∈ lw_all := lw_g (lw_at lw_m2 77 rfl) rfl
theorem q454 : (Jvm.Cond.soleField "CellRows" "bestRow") ∈ lw_all := lw_g (lw_at lw_m2 78 rfl) rfl
theorem q455 : (Jvm.Cond.laysFinal "CellRows" "CellRows" "bestSite" "[I") ∈ lw_all := lw_g (lw_at lw_m2 79 rfl) rfl
theorem q456 : (Jvm.Cond.soleField "CellRows" "bestSite") ∈ lw_all := lw_g (lw_at lw_m2 80 rfl) rfl
theorem q457 : (Jvm.Cond.superclass "CellRows" "java/lang/Object") ∈ lw_all := lw_g (lw_at lw_m2 81 rfl) rfl
theorem q459 : (Jvm.Cond.instanceMethod ({ cls := "CellRows", name := "undo", desc := "()I" } : Jvm.MethodName)) ∈ lw_all := lw_g (lw_at lw_m2 83 rfl) rfl
theorem q460 : (Jvm.Cond.selects "CellRows" ({ cls := "CellRows", name := "undo", desc := "()I" } : Jvm.MethodName) ({ cls := "CellRows", name := "undo", desc := "()I" } : Jvm.MethodName)) ∈ lw_all := lw_g (lw_at lw_m2 84 rfl) rfl
theorem q461 : (Jvm.Cond.code ({ cls := "CellRows", name := "undo", desc := "()I" } : Jvm.MethodName) prog_1_method_7_code (1 : Nat) (Option.some Jvm.ClassFile.FieldType.int)) ∈ lw_all := lw_g (lw_at lw_m2 85 rfl) rfl
theorem q462 : (Jvm.Cond.methodLink "CellRows" (93 : Nat) ({ cls := "CellRows", name := "refuse", desc := "(I)I" } : Jvm.MethodName)) ∈ lw_all := lw_g (lw_at lw_m2 86 rfl) rfl
theorem q463 : (Jvm.Cond.privateMethod ({ cls := "CellRows", name := "refuse", desc := "(I)I" } : Jvm.MethodName)) ∈ lw_tbl := lw_at lw_m2 87 rfl
theorem q464 : (Jvm.Cond.instanceMethod ({ cls := "CellRows", name := "refuse", desc := "(I)I" } : Jvm.MethodName)) ∈ lw_all := lw_g (lw_at lw_m2 88 rfl) rfl
theorem q465 : (Jvm.Cond.code ({ cls := "CellRows", name := "refuse", desc := "(I)I" } : Jvm.MethodName) prog_1_method_4_code (2 : Nat) (Option.some Jvm.ClassFile.FieldType.int)) ∈ lw_all := lw_g (lw_at lw_m2 89 rfl) rfl
theorem q466 : (Jvm.Cond.methodLink "CellRows" (89 : Nat) ({ cls := "CellRows$Chip", name := "takes", desc := "(LCellRows$Chip;)LCellRows$Chip;" } : Jvm.MethodName)) ∈ lw_all := lw_g (lw_at lw_m2 90 rfl) rfl
theorem q494 : (Jvm.Cond.methodLink "CellRows" (97 : Nat) ({ cls := "CellRows", name := "done", desc := "(I)I" } : Jvm.MethodName)) ∈ lw_all := lw_g (lw_at lw_m2 118 rfl) rfl
theorem q495 : (Jvm.Cond.privateMethod ({ cls := "CellRows", name := "done", desc := "(I)I" } : Jvm.MethodName)) ∈ lw_tbl := lw_at lw_m2 119 rfl
theorem q496 : (Jvm.Cond.instanceMethod ({ cls := "CellRows", name := "done", desc := "(I)I" } : Jvm.MethodName)) ∈ lw_all := lw_g (lw_at lw_m2 120 rfl) rfl
theorem q497 : (Jvm.Cond.code ({ cls := "CellRows", name := "done", desc := "(I)I" } : Jvm.MethodName) prog_1_method_5_code (2 : Nat) (Option.some Jvm.ClassFile.FieldType.int)) ∈ lw_all := lw_g (lw_at lw_m2 121 rfl) rfl
theorem q499 : (Jvm.Cond.instanceMethod ({ cls := "CellRows", name := "terms", desc := "(II)I" } : Jvm.MethodName)) ∈ lw_all := lw_g (lw_at lw_m2 123 rfl) rfl
theorem q500 : (Jvm.Cond.selects "CellRows" ({ cls := "CellRows", name := "terms", desc := "(II)I" } : Jvm.MethodName) ({ cls := "CellRows", name := "terms", desc := "(II)I" } : Jvm.MethodName)) ∈ lw_all := lw_g (lw_at lw_m2 124 rfl) rfl
theorem q501 : (Jvm.Cond.code ({ cls := "CellRows", name := "terms", desc := "(II)I" } : Jvm.MethodName) prog_1_method_12_code (4 : Nat) (Option.some Jvm.ClassFile.FieldType.int)) ∈ lw_all := lw_g (lw_at lw_m2 125 rfl) rfl
theorem q502 : (Jvm.Cond.methodLink "CellRows" (103 : Nat) ({ cls := "CellRows", name := "in", desc := "(III)Z" } : Jvm.MethodName)) ∈ lw_all := lw_g (lw_at lw_m2 126 rfl) rfl
theorem q503 : (Jvm.Cond.static ({ cls := "CellRows", name := "in", desc := "(III)Z" } : Jvm.MethodName)) ∈ lw_all := lw_g (lw_at lw_m2 127 rfl) rfl
theorem q504 : (Jvm.Cond.code ({ cls := "CellRows", name := "in", desc := "(III)Z" } : Jvm.MethodName) prog_1_method_2_code (3 : Nat) (Option.some Jvm.ClassFile.FieldType.boolean)) ∈ lw_all := lw_g (lw_at lw_m2 128 rfl) rfl
theorem q505 : (Jvm.Cond.methodLink "CellRows" (113 : Nat) ({ cls := "CellRows", name := "leastTerm", desc := "(I)I" } : Jvm.MethodName)) ∈ lw_all := lw_g (lw_at lw_m2 129 rfl) rfl
theorem q506 : (Jvm.Cond.static ({ cls := "CellRows", name := "leastTerm", desc := "(I)I" } : Jvm.MethodName)) ∈ lw_all := lw_g (lw_at lw_m2 130 rfl) rfl
theorem q507 : (Jvm.Cond.code ({ cls := "CellRows", name := "leastTerm", desc := "(I)I" } : Jvm.MethodName) prog_1_method_13_code (1 : Nat) (Option.some Jvm.ClassFile.FieldType.int)) ∈ lw_all := lw_g (lw_at lw_m2 131 rfl) rfl
theorem q508 : (Jvm.Cond.methodLink "CellRows" (116 : Nat) ({ cls := "CellRows", name := "mostTerm", desc := "(I)I" } : Jvm.MethodName)) ∈ lw_all := lw_g (lw_at lw_m2 132 rfl) rfl
theorem q509 : (Jvm.Cond.static ({ cls := "CellRows", name := "mostTerm", desc := "(I)I" } : Jvm.MethodName)) ∈ lw_all := lw_g (lw_at lw_m2 133 rfl) rfl
theorem q510 : (Jvm.Cond.code ({ cls := "CellRows", name := "mostTerm", desc := "(I)I" } : Jvm.MethodName) prog_1_method_14_code (1 : Nat) (Option.some Jvm.ClassFile.FieldType.int)) ∈ lw_all := lw_g (lw_at lw_m2 134 rfl) rfl
theorem q512 : (Jvm.Cond.instanceMethod ({ cls := "CellRows", name := "feed", desc := "(IIIII)I" } : Jvm.MethodName)) ∈ lw_all := lw_g (lw_at lw_m2 136 rfl) rfl
theorem q513 : (Jvm.Cond.selects "CellRows" ({ cls := "CellRows", name := "feed", desc := "(IIIII)I" } : Jvm.MethodName) ({ cls := "CellRows", name := "feed", desc := "(IIIII)I" } : Jvm.MethodName)) ∈ lw_all := lw_g (lw_at lw_m2 137 rfl) rfl
theorem q514 : (Jvm.Cond.code ({ cls := "CellRows", name := "feed", desc := "(IIIII)I" } : Jvm.MethodName) prog_1_method_15_code (6 : Nat) (Option.some Jvm.ClassFile.FieldType.int)) ∈ lw_all := lw_g (lw_at lw_m2 138 rfl) rfl
theorem q515 : (Jvm.Cond.methodLink "CellRows" (122 : Nat) ({ cls := "CellRows", name := "four", desc := "(I)V" } : Jvm.MethodName)) ∈ lw_all := lw_g (lw_at lw_m2 139 rfl) rfl
theorem q516 : (Jvm.Cond.privateMethod ({ cls := "CellRows", name := "four", desc := "(I)V" } : Jvm.MethodName)) ∈ lw_tbl := lw_at lw_m2 140 rfl
theorem q517 : (Jvm.Cond.instanceMethod ({ cls := "CellRows", name := "four", desc := "(I)V" } : Jvm.MethodName)) ∈ lw_all := lw_g (lw_at lw_m2 141 rfl) rfl
theorem q518 : (Jvm.Cond.code ({ cls := "CellRows", name := "four", desc := "(I)V" } : Jvm.MethodName) prog_1_method_16_code (3 : Nat) (Option.none : Option Jvm.ClassFile.FieldType)) ∈ lw_all := lw_g (lw_at lw_m2 142 rfl) rfl
theorem q520 : (Jvm.Cond.instanceMethod ({ cls := "CellRows", name := "end", desc := "(I)I" } : Jvm.MethodName)) ∈ lw_all := lw_g (lw_at lw_m2 144 rfl) rfl
theorem q521 : (Jvm.Cond.selects "CellRows" ({ cls := "CellRows", name := "end", desc := "(I)I" } : Jvm.MethodName) ({ cls := "CellRows", name := "end", desc := "(I)I" } : Jvm.MethodName)) ∈ lw_all := lw_g (lw_at lw_m2 145 rfl) rfl
theorem q522 : (Jvm.Cond.code ({ cls := "CellRows", name := "end", desc := "(I)I" } : Jvm.MethodName) prog_1_method_17_code (2 : Nat) (Option.some Jvm.ClassFile.FieldType.int)) ∈ lw_all := lw_g (lw_at lw_m2 146 rfl) rfl
theorem q524 : (Jvm.Cond.instanceMethod ({ cls := "CellRows", name := "block", desc := "(IIIII)I" } : Jvm.MethodName)) ∈ lw_all := lw_g (lw_at lw_m2 148 rfl) rfl
theorem q525 : (Jvm.Cond.selects "CellRows" ({ cls := "CellRows", name := "block", desc := "(IIIII)I" } : Jvm.MethodName) ({ cls := "CellRows", name := "block", desc := "(IIIII)I" } : Jvm.MethodName)) ∈ lw_all := lw_g (lw_at lw_m2 149 rfl) rfl
theorem q526 : (Jvm.Cond.code ({ cls := "CellRows", name := "block", desc := "(IIIII)I" } : Jvm.MethodName) prog_1_method_21_code (7 : Nat) (Option.some Jvm.ClassFile.FieldType.int)) ∈ lw_all := lw_g (lw_at lw_m2 150 rfl) rfl
theorem q527 : (Jvm.Cond.methodLink "CellRows" (144 : Nat) ({ cls := "CellRows", name := "isRect", desc := "(IIII)Z" } : Jvm.MethodName)) ∈ lw_all := lw_g (lw_at lw_m2 151 rfl) rfl
theorem q528 : (Jvm.Cond.privateMethod ({ cls := "CellRows", name := "isRect", desc := "(IIII)Z" } : Jvm.MethodName)) ∈ lw_tbl := lw_at lw_m2 152 rfl
theorem q529 : (Jvm.Cond.instanceMethod ({ cls := "CellRows", name := "isRect", desc := "(IIII)Z" } : Jvm.MethodName)) ∈ lw_all := lw_g (lw_at lw_m2 153 rfl) rfl
theorem q530 : (Jvm.Cond.code ({ cls := "CellRows", name := "isRect", desc := "(IIII)Z" } : Jvm.MethodName) prog_1_method_19_code (5 : Nat) (Option.some Jvm.ClassFile.FieldType.boolean)) ∈ lw_all := lw_g (lw_at lw_m2 154 rfl) rfl
theorem q531 : (Jvm.Cond.classLink "CellRows" (127 : Nat) "CellRows$Rect") ∈ lw_all := lw_g (lw_at lw_m2 155 rfl) rfl
theorem q532 : (Jvm.Cond.methodLinkNest "CellRows" (148 : Nat) ({ cls := "CellRows$Rect", name := "<init>", desc := "()V" } : Jvm.MethodName) "CellRows") ∈ lw_tbl := lw_at lw_m2 156 rfl
theorem q533 : (Jvm.Cond.methodLink "CellRows" (149 : Nat) ({ cls := "CellRows$Rect", name := "begins", desc := "(IIIII)V" } : Jvm.MethodName)) ∈ lw_all := lw_g (lw_at lw_m2 157 rfl) rfl
theorem q534 : (Jvm.Cond.methodLink "CellRows" (153 : Nat) ({ cls := "CellRows", name := "hasFixed", desc := "(LCellRows$Rect;Z)Z" } : Jvm.MethodName)) ∈ lw_all := lw_g (lw_at lw_m2 158 rfl) rfl
theorem q535 : (Jvm.Cond.privateMethod ({ cls := "CellRows", name := "hasFixed", desc := "(LCellRows$Rect;Z)Z" } : Jvm.MethodName)) ∈ lw_tbl := lw_at lw_m2 159 rfl
theorem q536 : (Jvm.Cond.instanceMethod ({ cls := "CellRows", name := "hasFixed", desc := "(LCellRows$Rect;Z)Z" } : Jvm.MethodName)) ∈ lw_all := lw_g (lw_at lw_m2 160 rfl) rfl
theorem q537 : (Jvm.Cond.code ({ cls := "CellRows", name := "hasFixed", desc := "(LCellRows$Rect;Z)Z" } : Jvm.MethodName) prog_1_method_20_code (5 : Nat) (Option.some Jvm.ClassFile.FieldType.boolean)) ∈ lw_all := lw_g (lw_at lw_m2 161 rfl) rfl
theorem q538 : (Jvm.Cond.methodLink "CellRows" (134 : Nat) ({ cls := "CellRows$Rect", name := "bars", desc := "(II)Z" } : Jvm.MethodName)) ∈ lw_all := lw_g (lw_at lw_m2 162 rfl) rfl
theorem q547 : (Jvm.Cond.methodLink "CellRows" (138 : Nat) ({ cls := "CellRows$Rect", name := "has", desc := "(II)Z" } : Jvm.MethodName)) ∈ lw_all := lw_g (lw_at lw_m2 171 rfl) rfl
theorem q551 : (Jvm.Cond.methodLink "CellRows" (141 : Nat) ({ cls := "CellRows$Chip", name := "isFixedAt", desc := "(II)Z" } : Jvm.MethodName)) ∈ lw_all := lw_g (lw_at lw_m2 175 rfl) rfl
theorem q560 : (Jvm.Cond.methodLink "CellRows" (160 : Nat) ({ cls := "CellRows", name := "keeps", desc := "(I)V" } : Jvm.MethodName)) ∈ lw_all := lw_g (lw_at lw_m2 184 rfl) rfl
theorem q561 : (Jvm.Cond.privateMethod ({ cls := "CellRows", name := "keeps", desc := "(I)V" } : Jvm.MethodName)) ∈ lw_tbl := lw_at lw_m2 185 rfl
theorem q562 : (Jvm.Cond.instanceMethod ({ cls := "CellRows", name := "keeps", desc := "(I)V" } : Jvm.MethodName)) ∈ lw_all := lw_g (lw_at lw_m2 186 rfl) rfl
theorem q563 : (Jvm.Cond.code ({ cls := "CellRows", name := "keeps", desc := "(I)V" } : Jvm.MethodName) prog_1_method_6_code (4 : Nat) (Option.none : Option Jvm.ClassFile.FieldType)) ∈ lw_all := lw_g (lw_at lw_m2 187 rfl) rfl
theorem q564 : (Jvm.Cond.methodLink "CellRows" (167 : Nat) ({ cls := "CellRows$Rect", name := "takes", desc := "(LCellRows$Rect;)V" } : Jvm.MethodName)) ∈ lw_all := lw_g (lw_at lw_m2 188 rfl) rfl
theorem q565 : (Jvm.Cond.methodLink "CellRows" (170 : Nat) ({ cls := "CellRows$Chip", name := "losesUnlawful", desc := "()V" } : Jvm.MethodName)) ∈ lw_all := lw_g (lw_at lw_m2 189 rfl) rfl
theorem q601 : (Jvm.Cond.instanceMethod ({ cls := "CellRows", name := "fence", desc := "(IIII)I" } : Jvm.MethodName)) ∈ lw_all := lw_g (lw_at lw_m2 225 rfl) rfl
theorem q602 : (Jvm.Cond.selects "CellRows" ({ cls := "CellRows", name := "fence", desc := "(IIII)I" } : Jvm.MethodName) ({ cls := "CellRows", name := "fence", desc := "(IIII)I" } : Jvm.MethodName)) ∈ lw_all := lw_g (lw_at lw_m2 226 rfl) rfl
theorem q603 : (Jvm.Cond.code ({ cls := "CellRows", name := "fence", desc := "(IIII)I" } : Jvm.MethodName) prog_1_method_22_code (8 : Nat) (Option.some Jvm.ClassFile.FieldType.int)) ∈ lw_all := lw_g (lw_at lw_m2 227 rfl) rfl
theorem q604 : (Jvm.Cond.methodLink "CellRows" (176 : Nat) ({ cls := "CellRows$Rect", name := "meets", desc := "(LCellRows$Rect;)Z" } : Jvm.MethodName)) ∈ lw_all := lw_g (lw_at lw_m2 228 rfl) rfl
theorem q609 : (Jvm.Cond.instanceMethod ({ cls := "CellRows", name := "cell", desc := "(II)I" } : Jvm.MethodName)) ∈ lw_all := lw_g (lw_at lw_m2 233 rfl) rfl
theorem q610 : (Jvm.Cond.selects "CellRows" ({ cls := "CellRows", name := "cell", desc := "(II)I" } : Jvm.MethodName) ({ cls := "CellRows", name := "cell", desc := "(II)I" } : Jvm.MethodName)) ∈ lw_all := lw_g (lw_at lw_m2 234 rfl) rfl
theorem q611 : (Jvm.Cond.code ({ cls := "CellRows", name := "cell", desc := "(II)I" } : Jvm.MethodName) prog_1_method_23_code (3 : Nat) (Option.some Jvm.ClassFile.FieldType.int)) ∈ lw_all := lw_g (lw_at lw_m2 235 rfl) rfl
theorem q612 : (Jvm.Cond.methodLink "CellRows" (180 : Nat) ({ cls := "CellRows", name := "isFence", desc := "(I)Z" } : Jvm.MethodName)) ∈ lw_all := lw_g (lw_at lw_m2 236 rfl) rfl
theorem q613 : (Jvm.Cond.privateMethod ({ cls := "CellRows", name := "isFence", desc := "(I)Z" } : Jvm.MethodName)) ∈ lw_tbl := lw_at lw_m2 237 rfl
theorem q614 : (Jvm.Cond.instanceMethod ({ cls := "CellRows", name := "isFence", desc := "(I)Z" } : Jvm.MethodName)) ∈ lw_all := lw_g (lw_at lw_m2 238 rfl) rfl
theorem q615 : (Jvm.Cond.code ({ cls := "CellRows", name := "isFence", desc := "(I)Z" } : Jvm.MethodName) prog_1_method_10_code (2 : Nat) (Option.some Jvm.ClassFile.FieldType.boolean)) ∈ lw_all := lw_g (lw_at lw_m2 239 rfl) rfl
theorem q616 : (Jvm.Cond.methodLink "CellRows" (188 : Nat) ({ cls := "CellRows$Cell", name := "begins", desc := "(II)V" } : Jvm.MethodName)) ∈ lw_all := lw_g (lw_at lw_m3 0 rfl) rfl
theorem q630 : (Jvm.Cond.instanceMethod ({ cls := "CellRows", name := "net", desc := "(I)I" } : Jvm.MethodName)) ∈ lw_all := lw_g (lw_at lw_m3 14 rfl) rfl
theorem q631 : (Jvm.Cond.selects "CellRows" ({ cls := "CellRows", name := "net", desc := "(I)I" } : Jvm.MethodName) ({ cls := "CellRows", name := "net", desc := "(I)I" } : Jvm.MethodName)) ∈ lw_all := lw_g (lw_at lw_m3 15 rfl) rfl
theorem q632 : (Jvm.Cond.code ({ cls := "CellRows", name := "net", desc := "(I)I" } : Jvm.MethodName) prog_1_method_26_code (4 : Nat) (Option.some Jvm.ClassFile.FieldType.int)) ∈ lw_all := lw_g (lw_at lw_m3 16 rfl) rfl
theorem q633 : (Jvm.Cond.classLink "CellRows" (209 : Nat) "CellRows$Net") ∈ lw_all := lw_g (lw_at lw_m3 17 rfl) rfl
theorem q634 : (Jvm.Cond.methodLinkNest "CellRows" (216 : Nat) ({ cls := "CellRows$Net", name := "<init>", desc := "()V" } : Jvm.MethodName) "CellRows") ∈ lw_tbl := lw_at lw_m3 18 rfl
theorem q635 : (Jvm.Cond.methodLink "CellRows" (217 : Nat) ({ cls := "CellRows$Net", name := "begins", desc := "(I)V" } : Jvm.MethodName)) ∈ lw_all := lw_g (lw_at lw_m3 19 rfl) rfl
theorem q636 : (Jvm.Cond.methodLink "CellRows" (219 : Nat) ({ cls := "CellRows", name := "reads", desc := "(ILCellRows$Net;)Z" } : Jvm.MethodName)) ∈ lw_all := lw_g (lw_at lw_m3 20 rfl) rfl
theorem q637 : (Jvm.Cond.privateMethod ({ cls := "CellRows", name := "reads", desc := "(ILCellRows$Net;)Z" } : Jvm.MethodName)) ∈ lw_tbl := lw_at lw_m3 21 rfl
theorem q638 : (Jvm.Cond.instanceMethod ({ cls := "CellRows", name := "reads", desc := "(ILCellRows$Net;)Z" } : Jvm.MethodName)) ∈ lw_all := lw_g (lw_at lw_m3 22 rfl) rfl
theorem q639 : (Jvm.Cond.code ({ cls := "CellRows", name := "reads", desc := "(ILCellRows$Net;)Z" } : Jvm.MethodName) prog_1_method_25_code (5 : Nat) (Option.some Jvm.ClassFile.FieldType.boolean)) ∈ lw_all := lw_g (lw_at lw_m3 23 rfl) rfl
theorem q640 : (Jvm.Cond.methodLink "CellRows" (202 : Nat) ({ cls := "CellRows", name := "byteAt", desc := "(I)I" } : Jvm.MethodName)) ∈ lw_all := lw_g (lw_at lw_m3 24 rfl) rfl
theorem q641 : (Jvm.Cond.privateMethod ({ cls := "CellRows", name := "byteAt", desc := "(I)I" } : Jvm.MethodName)) ∈ lw_tbl := lw_at lw_m3 25 rfl
theorem q642 : (Jvm.Cond.instanceMethod ({ cls := "CellRows", name := "byteAt", desc := "(I)I" } : Jvm.MethodName)) ∈ lw_all := lw_g (lw_at lw_m3 26 rfl) rfl
theorem q643 : (Jvm.Cond.code ({ cls := "CellRows", name := "byteAt", desc := "(I)I" } : Jvm.MethodName) prog_1_method_18_code (2 : Nat) (Option.some Jvm.ClassFile.FieldType.int)) ∈ lw_all := lw_g (lw_at lw_m3 27 rfl) rfl
theorem q644 : (Jvm.Cond.methodLink "CellRows" (205 : Nat) ({ cls := "CellRows", name := "isPin", desc := "(II)Z" } : Jvm.MethodName)) ∈ lw_all := lw_g (lw_at lw_m3 28 rfl) rfl
theorem q645 : (Jvm.Cond.privateMethod ({ cls := "CellRows", name := "isPin", desc := "(II)Z" } : Jvm.MethodName)) ∈ lw_tbl := lw_at lw_m3 29 rfl
theorem q646 : (Jvm.Cond.instanceMethod ({ cls := "CellRows", name := "isPin", desc := "(II)Z" } : Jvm.MethodName)) ∈ lw_all := lw_g (lw_at lw_m3 30 rfl) rfl
theorem q647 : (Jvm.Cond.code ({ cls := "CellRows", name := "isPin", desc := "(II)Z" } : Jvm.MethodName) prog_1_method_24_code (3 : Nat) (Option.some Jvm.ClassFile.FieldType.boolean)) ∈ lw_all := lw_g (lw_at lw_m3 31 rfl) rfl
theorem q648 : (Jvm.Cond.methodLink "CellRows" (193 : Nat) ({ cls := "CellRows", name := "isSite", desc := "(II)Z" } : Jvm.MethodName)) ∈ lw_all := lw_g (lw_at lw_m3 32 rfl) rfl
theorem q649 : (Jvm.Cond.privateMethod ({ cls := "CellRows", name := "isSite", desc := "(II)Z" } : Jvm.MethodName)) ∈ lw_tbl := lw_at lw_m3 33 rfl
theorem q650 : (Jvm.Cond.instanceMethod ({ cls := "CellRows", name := "isSite", desc := "(II)Z" } : Jvm.MethodName)) ∈ lw_all := lw_g (lw_at lw_m3 34 rfl) rfl
theorem q651 : (Jvm.Cond.code ({ cls := "CellRows", name := "isSite", desc := "(II)Z" } : Jvm.MethodName) prog_1_method_11_code (3 : Nat) (Option.some Jvm.ClassFile.FieldType.boolean)) ∈ lw_all := lw_g (lw_at lw_m3 35 rfl) rfl
theorem q652 : (Jvm.Cond.methodLink "CellRows" (196 : Nat) ({ cls := "CellRows", name := "isCell", desc := "(I)Z" } : Jvm.MethodName)) ∈ lw_all := lw_g (lw_at lw_m3 36 rfl) rfl
theorem q653 : (Jvm.Cond.privateMethod ({ cls := "CellRows", name := "isCell", desc := "(I)Z" } : Jvm.MethodName)) ∈ lw_tbl := lw_at lw_m3 37 rfl
theorem q654 : (Jvm.Cond.instanceMethod ({ cls := "CellRows", name := "isCell", desc := "(I)Z" } : Jvm.MethodName)) ∈ lw_all := lw_g (lw_at lw_m3 38 rfl) rfl
theorem q655 : (Jvm.Cond.code ({ cls := "CellRows", name := "isCell", desc := "(I)Z" } : Jvm.MethodName) prog_1_method_8_code (2 : Nat) (Option.some Jvm.ClassFile.FieldType.boolean)) ∈ lw_all := lw_g (lw_at lw_m3 39 rfl) rfl
theorem q656 : (Jvm.Cond.methodLink "CellRows" (208 : Nat) ({ cls := "CellRows$Net", name := "pinOf", desc := "(I)I" } : Jvm.MethodName)) ∈ lw_all := lw_g (lw_at lw_m3 40 rfl) rfl
theorem q660 : (Jvm.Cond.methodLink "CellRows" (213 : Nat) ({ cls := "CellRows$Net", name := "adds", desc := "(II)V" } : Jvm.MethodName)) ∈ lw_all := lw_g (lw_at lw_m3 44 rfl) rfl
theorem q661 : (Jvm.Cond.methodLink "CellRows" (227 : Nat) ({ cls := "CellRows$Net", name := "takes", desc := "(LCellRows$Net;)V" } : Jvm.MethodName)) ∈ lw_all := lw_g (lw_at lw_m3 45 rfl) rfl
theorem q663 : (Jvm.Cond.instanceMethod ({ cls := "CellRows", name := "drop", desc := "(I)I" } : Jvm.MethodName)) ∈ lw_all := lw_g (lw_at lw_m3 47 rfl) rfl
theorem q664 : (Jvm.Cond.selects "CellRows" ({ cls := "CellRows", name := "drop", desc := "(I)I" } : Jvm.MethodName) ({ cls := "CellRows", name := "drop", desc := "(I)I" } : Jvm.MethodName)) ∈ lw_all := lw_g (lw_at lw_m3 48 rfl) rfl
theorem q665 : (Jvm.Cond.code ({ cls := "CellRows", name := "drop", desc := "(I)I" } : Jvm.MethodName) prog_1_method_27_code (4 : Nat) (Option.some Jvm.ClassFile.FieldType.int)) ∈ lw_all := lw_g (lw_at lw_m3 49 rfl) rfl
theorem q666 : (Jvm.Cond.methodLink "CellRows" (230 : Nat) ({ cls := "CellRows", name := "isNet", desc := "(I)Z" } : Jvm.MethodName)) ∈ lw_all := lw_g (lw_at lw_m3 50 rfl) rfl
theorem q667 : (Jvm.Cond.privateMethod ({ cls := "CellRows", name := "isNet", desc := "(I)Z" } : Jvm.MethodName)) ∈ lw_tbl := lw_at lw_m3 51 rfl
theorem q668 : (Jvm.Cond.instanceMethod ({ cls := "CellRows", name := "isNet", desc := "(I)Z" } : Jvm.MethodName)) ∈ lw_all := lw_g (lw_at lw_m3 52 rfl) rfl
theorem q669 : (Jvm.Cond.code ({ cls := "CellRows", name := "isNet", desc := "(I)Z" } : Jvm.MethodName) prog_1_method_9_code (2 : Nat) (Option.some Jvm.ClassFile.FieldType.boolean)) ∈ lw_all := lw_g (lw_at lw_m3 53 rfl) rfl
theorem q671 : (Jvm.Cond.instanceMethod ({ cls := "CellRows", name := "want", desc := "(III)I" } : Jvm.MethodName)) ∈ lw_all := lw_g (lw_at lw_m3 55 rfl) rfl
theorem q672 : (Jvm.Cond.selects "CellRows" ({ cls := "CellRows", name := "want", desc := "(III)I" } : Jvm.MethodName) ({ cls := "CellRows", name := "want", desc := "(III)I" } : Jvm.MethodName)) ∈ lw_all := lw_g (lw_at lw_m3 56 rfl) rfl
theorem q673 : (Jvm.Cond.code ({ cls := "CellRows", name := "want", desc := "(III)I" } : Jvm.MethodName) prog_1_method_28_code (6 : Nat) (Option.some Jvm.ClassFile.FieldType.int)) ∈ lw_all := lw_g (lw_at lw_m3 57 rfl) rfl
theorem q674 : (Jvm.Cond.methodLink "CellRows" (240 : Nat) ({ cls := "CellRows$Cell", name := "mostX", desc := "()I" } : Jvm.MethodName)) ∈ lw_all := lw_g (lw_at lw_m3 58 rfl) rfl
theorem q675 : (Jvm.Cond.methodLink "CellRows" (247 : Nat) ({ cls := "java/lang/Math", name := "abs", desc := "(I)I" } : Jvm.MethodName)) ∈ lw_all := lw_g (lw_at lw_m3 59 rfl) rfl
theorem q679 : (Jvm.Cond.instanceMethod ({ cls := "CellRows", name := "fix", desc := "(III)I" } : Jvm.MethodName)) ∈ lw_all := lw_g (lw_at lw_m3 63 rfl) rfl
theorem q680 : (Jvm.Cond.selects "CellRows" ({ cls := "CellRows", name := "fix", desc := "(III)I" } : Jvm.MethodName) ({ cls := "CellRows", name := "fix", desc := "(III)I" } : Jvm.MethodName)) ∈ lw_all := lw_g (lw_at lw_m3 64 rfl) rfl
theorem q681 : (Jvm.Cond.code ({ cls := "CellRows", name := "fix", desc := "(III)I" } : Jvm.MethodName) prog_1_method_29_code (8 : Nat) (Option.some Jvm.ClassFile.FieldType.int)) ∈ lw_all := lw_g (lw_at lw_m3 65 rfl) rfl
theorem q682 : (Jvm.Cond.methodLink "CellRows" (253 : Nat) ({ cls := "CellRows$Chip", name := "isLawful", desc := "(LCellRows$Cell;IIZ)Z" } : Jvm.MethodName)) ∈ lw_all := lw_g (lw_at lw_m3 66 rfl) rfl
theorem q683 : (Jvm.Cond.methodLink "CellRows" (257 : Nat) ({ cls := "CellRows$Chip", name := "lierAt", desc := "(IILCellRows$Cell;)LCellRows$Cell;" } : Jvm.MethodName)) ∈ lw_all := lw_g (lw_at lw_m3 67 rfl) rfl
theorem q687 : (Jvm.Cond.methodLink "CellRows" (261 : Nat) ({ cls := "CellRows$Cell", name := "leaves", desc := "()V" } : Jvm.MethodName)) ∈ lw_all := lw_g (lw_at lw_m3 71 rfl) rfl
theorem q688 : (Jvm.Cond.methodLink "CellRows" (264 : Nat) ({ cls := "CellRows$Cell", name := "comes", desc := "(II)V" } : Jvm.MethodName)) ∈ lw_all := lw_g (lw_at lw_m3 72 rfl) rfl
theorem q690 : (Jvm.Cond.instanceMethod ({ cls := "CellRows", name := "free", desc := "(I)I" } : Jvm.MethodName)) ∈ lw_all := lw_g (lw_at lw_m3 74 rfl) rfl
theorem q691 : (Jvm.Cond.selects "CellRows" ({ cls := "CellRows", name := "free", desc := "(I)I" } : Jvm.MethodName) ({ cls := "CellRows", name := "free", desc := "(I)I" } : Jvm.MethodName)) ∈ lw_all := lw_g (lw_at lw_m3 75 rfl) rfl
theorem q692 : (Jvm.Cond.code ({ cls := "CellRows", name := "free", desc := "(I)I" } : Jvm.MethodName) prog_1_method_30_code (3 : Nat) (Option.some Jvm.ClassFile.FieldType.int)) ∈ lw_all := lw_g (lw_at lw_m3 76 rfl) rfl
theorem q694 : (Jvm.Cond.instanceMethod ({ cls := "CellRows", name := "put", desc := "(III)I" } : Jvm.MethodName)) ∈ lw_all := lw_g (lw_at lw_m3 78 rfl) rfl
theorem q695 : (Jvm.Cond.selects "CellRows" ({ cls := "CellRows", name := "put", desc := "(III)I" } : Jvm.MethodName) ({ cls := "CellRows", name := "put", desc := "(III)I" } : Jvm.MethodName)) ∈ lw_all := lw_g (lw_at lw_m3 79 rfl) rfl
theorem q696 : (Jvm.Cond.code ({ cls := "CellRows", name := "put", desc := "(III)I" } : Jvm.MethodName) prog_1_method_31_code (5 : Nat) (Option.some Jvm.ClassFile.FieldType.int)) ∈ lw_all := lw_g (lw_at lw_m3 80 rfl) rfl
theorem q697 : (Jvm.Cond.methodLink "CellRows" (270 : Nat) ({ cls := "CellRows", name := "wire", desc := "()I" } : Jvm.MethodName)) ∈ lw_all := lw_g (lw_at lw_m3 81 rfl) rfl
theorem q698 : (Jvm.Cond.privateMethod ({ cls := "CellRows", name := "wire", desc := "()I" } : Jvm.MethodName)) ∈ lw_tbl := lw_at lw_m3 82 rfl
theorem q699 : (Jvm.Cond.instanceMethod ({ cls := "CellRows", name := "wire", desc := "()I" } : Jvm.MethodName)) ∈ lw_all := lw_g (lw_at lw_m3 83 rfl) rfl
theorem q700 : (Jvm.Cond.code ({ cls := "CellRows", name := "wire", desc := "()I" } : Jvm.MethodName) prog_1_method_33_code (3 : Nat) (Option.some Jvm.ClassFile.FieldType.int)) ∈ lw_all := lw_g (lw_at lw_m3 84 rfl) rfl
theorem q701 : (Jvm.Cond.methodLink "CellRows" (280 : Nat) ({ cls := "CellRows$Places", name := "span", desc := "(LCellRows$Net;)I" } : Jvm.MethodName)) ∈ lw_all := lw_g (lw_at lw_m3 85 rfl) rfl
theorem q770 : (Jvm.Cond.instanceMethod ({ cls := "CellRows", name := "take", desc := "(I)I" } : Jvm.MethodName)) ∈ lw_all := lw_g (lw_at lw_m3 154 rfl) rfl
theorem q771 : (Jvm.Cond.selects "CellRows" ({ cls := "CellRows", name := "take", desc := "(I)I" } : Jvm.MethodName) ({ cls := "CellRows", name := "take", desc := "(I)I" } : Jvm.MethodName)) ∈ lw_all := lw_g (lw_at lw_m3 155 rfl) rfl
theorem q772 : (Jvm.Cond.code ({ cls := "CellRows", name := "take", desc := "(I)I" } : Jvm.MethodName) prog_1_method_32_code (4 : Nat) (Option.some Jvm.ClassFile.FieldType.int)) ∈ lw_all := lw_g (lw_at lw_m3 156 rfl) rfl
theorem q773 : (Jvm.Cond.methodLink "CellRows" (273 : Nat) ({ cls := "CellRows$Cell", name := "isMoved", desc := "()Z" } : Jvm.MethodName)) ∈ lw_all := lw_g (lw_at lw_m3 157 rfl) rfl
theorem q775 : (Jvm.Cond.instanceMethod ({ cls := "CellRows", name := "start", desc := "(I)I" } : Jvm.MethodName)) ∈ lw_all := lw_g (lw_at lw_m3 159 rfl) rfl
theorem q776 : (Jvm.Cond.selects "CellRows" ({ cls := "CellRows", name := "start", desc := "(I)I" } : Jvm.MethodName) ({ cls := "CellRows", name := "start", desc := "(I)I" } : Jvm.MethodName)) ∈ lw_all := lw_g (lw_at lw_m3 160 rfl) rfl
theorem q777 : (Jvm.Cond.code ({ cls := "CellRows", name := "start", desc := "(I)I" } : Jvm.MethodName) prog_1_method_41_code (5 : Nat) (Option.some Jvm.ClassFile.FieldType.int)) ∈ lw_all := lw_g (lw_at lw_m3 161 rfl) rfl
theorem q778 : (Jvm.Cond.methodLink "CellRows" (338 : Nat) ({ cls := "CellRows", name := "starts", desc := "(LCellRows$Cell;)V" } : Jvm.MethodName)) ∈ lw_all := lw_g (lw_at lw_m3 162 rfl) rfl
theorem q779 : (Jvm.Cond.privateMethod ({ cls := "CellRows", name := "starts", desc := "(LCellRows$Cell;)V" } : Jvm.MethodName)) ∈ lw_tbl := lw_at lw_m3 163 rfl
theorem q780 : (Jvm.Cond.instanceMethod ({ cls := "CellRows", name := "starts", desc := "(LCellRows$Cell;)V" } : Jvm.MethodName)) ∈ lw_all := lw_g (lw_at lw_m3 164 rfl) rfl
theorem q781 : (Jvm.Cond.code ({ cls := "CellRows", name := "starts", desc := "(LCellRows$Cell;)V" } : Jvm.MethodName) prog_1_method_40_code (9 : Nat) (Option.none : Option Jvm.ClassFile.FieldType)) ∈ lw_all := lw_g (lw_at lw_m3 165 rfl) rfl
theorem q782 : (Jvm.Cond.methodLink "CellRows" (319 : Nat) ({ cls := "CellRows$Places", name := "pinX", desc := "(LCellRows$Net;I)I" } : Jvm.MethodName)) ∈ lw_all := lw_g (lw_at lw_m3 166 rfl) rfl
theorem q783 : (Jvm.Cond.methodLink "CellRows" (326 : Nat) ({ cls := "CellRows$Places", name := "pinY", desc := "(LCellRows$Net;I)I" } : Jvm.MethodName)) ∈ lw_all := lw_g (lw_at lw_m3 167 rfl) rfl
theorem q784 : (Jvm.Cond.methodLink "CellRows" (329 : Nat) ({ cls := "java/lang/Math", name := "floorDiv", desc := "(II)I" } : Jvm.MethodName)) ∈ lw_all := lw_g (lw_at lw_m3 168 rfl) rfl
theorem q787 : (Jvm.Cond.methodLink "CellRows" (332 : Nat) ({ cls := "CellRows$Cell", name := "heldX", desc := "(I)I" } : Jvm.MethodName)) ∈ lw_all := lw_g (lw_at lw_m3 171 rfl) rfl
theorem q793 : (Jvm.Cond.methodLink "CellRows" (335 : Nat) ({ cls := "CellRows$Cell", name := "heldY", desc := "(I)I" } : Jvm.MethodName)) ∈ lw_all := lw_g (lw_at lw_m3 177 rfl) rfl
theorem q798 : (Jvm.Cond.instanceMethod ({ cls := "CellRows", name := "spread", desc := "(I)I" } : Jvm.MethodName)) ∈ lw_all := lw_g (lw_at lw_m3 182 rfl) rfl
theorem q799 : (Jvm.Cond.selects "CellRows" ({ cls := "CellRows", name := "spread", desc := "(I)I" } : Jvm.MethodName) ({ cls := "CellRows", name := "spread", desc := "(I)I" } : Jvm.MethodName)) ∈ lw_all := lw_g (lw_at lw_m3 183 rfl) rfl
theorem q800 : (Jvm.Cond.code ({ cls := "CellRows", name := "spread", desc := "(I)I" } : Jvm.MethodName) prog_1_method_44_code (5 : Nat) (Option.some Jvm.ClassFile.FieldType.int)) ∈ lw_all := lw_g (lw_at lw_m3 184 rfl) rfl
theorem q801 : (Jvm.Cond.methodLink "CellRows" (355 : Nat) ({ cls := "CellRows", name := "laysBins", desc := "()V" } : Jvm.MethodName)) ∈ lw_all := lw_g (lw_at lw_m3 185 rfl) rfl
theorem q802 : (Jvm.Cond.privateMethod ({ cls := "CellRows", name := "laysBins", desc := "()V" } : Jvm.MethodName)) ∈ lw_tbl := lw_at lw_m3 186 rfl
theorem q803 : (Jvm.Cond.instanceMethod ({ cls := "CellRows", name := "laysBins", desc := "()V" } : Jvm.MethodName)) ∈ lw_all := lw_g (lw_at lw_m3 187 rfl) rfl
theorem q804 : (Jvm.Cond.code ({ cls := "CellRows", name := "laysBins", desc := "()V" } : Jvm.MethodName) prog_1_method_37_code (2 : Nat) (Option.none : Option Jvm.ClassFile.FieldType)) ∈ lw_all := lw_g (lw_at lw_m3 188 rfl) rfl
theorem q805 : (Jvm.Cond.methodLink "CellRows" (296 : Nat) ({ cls := "CellRows", name := "binMany", desc := "()I" } : Jvm.MethodName)) ∈ lw_all := lw_g (lw_at lw_m3 189 rfl) rfl
theorem q806 : (Jvm.Cond.privateMethod ({ cls := "CellRows", name := "binMany", desc := "()I" } : Jvm.MethodName)) ∈ lw_tbl := lw_at lw_m3 190 rfl
theorem q807 : (Jvm.Cond.instanceMethod ({ cls := "CellRows", name := "binMany", desc := "()I" } : Jvm.MethodName)) ∈ lw_all := lw_g (lw_at lw_m3 191 rfl) rfl
theorem q808 : (Jvm.Cond.code ({ cls := "CellRows", name := "binMany", desc := "()I" } : Jvm.MethodName) prog_1_method_36_code (1 : Nat) (Option.some Jvm.ClassFile.FieldType.int)) ∈ lw_all := lw_g (lw_at lw_m3 192 rfl) rfl
theorem q809 : (Jvm.Cond.methodLink "CellRows" (289 : Nat) ({ cls := "CellRows", name := "binColumns", desc := "()I" } : Jvm.MethodName)) ∈ lw_all := lw_g (lw_at lw_m3 193 rfl) rfl
theorem q810 : (Jvm.Cond.privateMethod ({ cls := "CellRows", name := "binColumns", desc := "()I" } : Jvm.MethodName)) ∈ lw_tbl := lw_at lw_m3 194 rfl
theorem q811 : (Jvm.Cond.instanceMethod ({ cls := "CellRows", name := "binColumns", desc := "()I" } : Jvm.MethodName)) ∈ lw_all := lw_g (lw_at lw_m3 195 rfl) rfl
theorem q812 : (Jvm.Cond.code ({ cls := "CellRows", name := "binColumns", desc := "()I" } : Jvm.MethodName) prog_1_method_35_code (1 : Nat) (Option.some Jvm.ClassFile.FieldType.int)) ∈ lw_all := lw_g (lw_at lw_m3 196 rfl) rfl
theorem q813 : (Jvm.Cond.classLink "CellRows" (299 : Nat) "CellRows$Bin") ∈ lw_all := lw_g (lw_at lw_m3 197 rfl) rfl
theorem q816 : (Jvm.Cond.methodLink "CellRows" (301 : Nat) ({ cls := "CellRows$Bin", name := "<init>", desc := "(LCellRows;I)V" } : Jvm.MethodName)) ∈ lw_all := lw_g (lw_at lw_m3 200 rfl) rfl
theorem q824 : (Jvm.Cond.fieldLinkNest "CellRows" (512 : Nat) "CellRows$Bin" "supply" "I" "CellRows") ∈ lw_tbl := lw_at lw_m3 208 rfl
theorem q835 : (Jvm.Cond.methodLink "CellRows" (304 : Nat) ({ cls := "CellRows$Bin", name := "lays", desc := "()LCellRows$Bin;" } : Jvm.MethodName)) ∈ lw_all := lw_g (lw_at lw_m3 219 rfl) rfl
theorem q850 : (Jvm.Cond.methodLink "CellRows" (342 : Nat) ({ cls := "CellRows", name := "cost", desc := "()I" } : Jvm.MethodName)) ∈ lw_all := lw_g (lw_at lw_m3 234 rfl) rfl
theorem q851 : (Jvm.Cond.privateMethod ({ cls := "CellRows", name := "cost", desc := "()I" } : Jvm.MethodName)) ∈ lw_tbl := lw_at lw_m3 235 rfl
theorem q852 : (Jvm.Cond.instanceMethod ({ cls := "CellRows", name := "cost", desc := "()I" } : Jvm.MethodName)) ∈ lw_all := lw_g (lw_at lw_m3 236 rfl) rfl
theorem q853 : (Jvm.Cond.code ({ cls := "CellRows", name := "cost", desc := "()I" } : Jvm.MethodName) prog_1_method_39_code (1 : Nat) (Option.some Jvm.ClassFile.FieldType.int)) ∈ lw_all := lw_g (lw_at lw_m3 237 rfl) rfl
theorem q854 : (Jvm.Cond.methodLink "CellRows" (311 : Nat) ({ cls := "CellRows", name := "smooth", desc := "()I" } : Jvm.MethodName)) ∈ lw_all := lw_g (lw_at lw_m3 238 rfl) rfl
theorem q855 : (Jvm.Cond.privateMethod ({ cls := "CellRows", name := "smooth", desc := "()I" } : Jvm.MethodName)) ∈ lw_tbl := lw_at lw_m3 239 rfl
theorem q856 : (Jvm.Cond.instanceMethod ({ cls := "CellRows", name := "smooth", desc := "()I" } : Jvm.MethodName)) ∈ lw_all := lw_g (lw_at lw_m4 0 rfl) rfl
theorem q857 : (Jvm.Cond.code ({ cls := "CellRows", name := "smooth", desc := "()I" } : Jvm.MethodName) prog_1_method_34_code (3 : Nat) (Option.some Jvm.ClassFile.FieldType.int)) ∈ lw_all := lw_g (lw_at lw_m4 1 rfl) rfl
theorem q858 : (Jvm.Cond.methodLink "CellRows" (286 : Nat) ({ cls := "CellRows$Places", name := "smooth", desc := "(LCellRows$Net;)I" } : Jvm.MethodName)) ∈ lw_all := lw_g (lw_at lw_m4 2 rfl) rfl
theorem q869 : (Jvm.Cond.methodLink "CellRows" (313 : Nat) ({ cls := "CellRows", name := "overflow", desc := "()I" } : Jvm.MethodName)) ∈ lw_all := lw_g (lw_at lw_m4 13 rfl) rfl
theorem q870 : (Jvm.Cond.privateMethod ({ cls := "CellRows", name := "overflow", desc := "()I" } : Jvm.MethodName)) ∈ lw_tbl := lw_at lw_m4 14 rfl
theorem q871 : (Jvm.Cond.instanceMethod ({ cls := "CellRows", name := "overflow", desc := "()I" } : Jvm.MethodName)) ∈ lw_all := lw_g (lw_at lw_m4 15 rfl) rfl
theorem q872 : (Jvm.Cond.code ({ cls := "CellRows", name := "overflow", desc := "()I" } : Jvm.MethodName) prog_1_method_38_code (3 : Nat) (Option.some Jvm.ClassFile.FieldType.int)) ∈ lw_all := lw_g (lw_at lw_m4 16 rfl) rfl
theorem q873 : (Jvm.Cond.methodLink "CellRows" (308 : Nat) ({ cls := "CellRows$Bin", name := "over", desc := "()I" } : Jvm.MethodName)) ∈ lw_all := lw_g (lw_at lw_m4 17 rfl) rfl
theorem q886 : (Jvm.Cond.methodLink "CellRows" (358 : Nat) ({ cls := "CellRows", name := "spreads", desc := "(LCellRows$Cell;)V" } : Jvm.MethodName)) ∈ lw_all := lw_g (lw_at lw_m4 30 rfl) rfl
theorem q887 : (Jvm.Cond.privateMethod ({ cls := "CellRows", name := "spreads", desc := "(LCellRows$Cell;)V" } : Jvm.MethodName)) ∈ lw_tbl := lw_at lw_m4 31 rfl
theorem q888 : (Jvm.Cond.instanceMethod ({ cls := "CellRows", name := "spreads", desc := "(LCellRows$Cell;)V" } : Jvm.MethodName)) ∈ lw_all := lw_g (lw_at lw_m4 32 rfl) rfl
theorem q889 : (Jvm.Cond.code ({ cls := "CellRows", name := "spreads", desc := "(LCellRows$Cell;)V" } : Jvm.MethodName) prog_1_method_42_code (8 : Nat) (Option.none : Option Jvm.ClassFile.FieldType)) ∈ lw_all := lw_g (lw_at lw_m4 33 rfl) rfl
theorem q890 : (Jvm.Cond.fieldLink "CellRows" (345 : Nat) "CellRows" "STEP_X" "[I") ∈ lw_all := lw_g (lw_at lw_m4 34 rfl) rfl
theorem q891 : (Jvm.Cond.laysStatic "CellRows" "STEP_X" "[I") ∈ lw_tbl := lw_at lw_m4 35 rfl
theorem q892 : (Jvm.Cond.methodLink "CellRows" (348 : Nat) ({ cls := "CellRows", name := "steps", desc := "(LCellRows$Cell;III)V" } : Jvm.MethodName)) ∈ lw_all := lw_g (lw_at lw_m4 36 rfl) rfl
theorem q893 : (Jvm.Cond.privateMethod ({ cls := "CellRows", name := "steps", desc := "(LCellRows$Cell;III)V" } : Jvm.MethodName)) ∈ lw_tbl := lw_at lw_m4 37 rfl
theorem q894 : (Jvm.Cond.instanceMethod ({ cls := "CellRows", name := "steps", desc := "(LCellRows$Cell;III)V" } : Jvm.MethodName)) ∈ lw_all := lw_g (lw_at lw_m4 38 rfl) rfl
theorem q895 : (Jvm.Cond.code ({ cls := "CellRows", name := "steps", desc := "(LCellRows$Cell;III)V" } : Jvm.MethodName) prog_1_method_43_code (5 : Nat) (Option.none : Option Jvm.ClassFile.FieldType)) ∈ lw_all := lw_g (lw_at lw_m4 39 rfl) rfl
theorem q896 : (Jvm.Cond.fieldLink "CellRows" (352 : Nat) "CellRows" "STEP_Y" "[I") ∈ lw_all := lw_g (lw_at lw_m4 40 rfl) rfl
theorem q897 : (Jvm.Cond.laysStatic "CellRows" "STEP_Y" "[I") ∈ lw_tbl := lw_at lw_m4 41 rfl
theorem q899 : (Jvm.Cond.instanceMethod ({ cls := "CellRows", name := "legal", desc := "()I" } : Jvm.MethodName)) ∈ lw_all := lw_g (lw_at lw_m4 43 rfl) rfl
theorem q900 : (Jvm.Cond.selects "CellRows" ({ cls := "CellRows", name := "legal", desc := "()I" } : Jvm.MethodName) ({ cls := "CellRows", name := "legal", desc := "()I" } : Jvm.MethodName)) ∈ lw_all := lw_g (lw_at lw_m4 44 rfl) rfl
theorem q901 : (Jvm.Cond.code ({ cls := "CellRows", name := "legal", desc := "()I" } : Jvm.MethodName) prog_1_method_52_code (1 : Nat) (Option.some Jvm.ClassFile.FieldType.int)) ∈ lw_all := lw_g (lw_at lw_m4 45 rfl) rfl
theorem q902 : (Jvm.Cond.methodLink "CellRows" (445 : Nat) ({ cls := "CellRows", name := "triesLawful", desc := "()V" } : Jvm.MethodName)) ∈ lw_all := lw_g (lw_at lw_m4 46 rfl) rfl
theorem q903 : (Jvm.Cond.privateMethod ({ cls := "CellRows", name := "triesLawful", desc := "()V" } : Jvm.MethodName)) ∈ lw_tbl := lw_at lw_m4 47 rfl
theorem q904 : (Jvm.Cond.instanceMethod ({ cls := "CellRows", name := "triesLawful", desc := "()V" } : Jvm.MethodName)) ∈ lw_all := lw_g (lw_at lw_m4 48 rfl) rfl
theorem q905 : (Jvm.Cond.code ({ cls := "CellRows", name := "triesLawful", desc := "()V" } : Jvm.MethodName) prog_1_method_51_code (2 : Nat) (Option.none : Option Jvm.ClassFile.FieldType)) ∈ lw_all := lw_g (lw_at lw_m4 49 rfl) rfl
theorem q906 : (Jvm.Cond.methodLink "CellRows" (430 : Nat) ({ cls := "CellRows", name := "makesLawful", desc := "()Z" } : Jvm.MethodName)) ∈ lw_all := lw_g (lw_at lw_m4 50 rfl) rfl
theorem q907 : (Jvm.Cond.privateMethod ({ cls := "CellRows", name := "makesLawful", desc := "()Z" } : Jvm.MethodName)) ∈ lw_tbl := lw_at lw_m4 51 rfl
theorem q908 : (Jvm.Cond.instanceMethod ({ cls := "CellRows", name := "makesLawful", desc := "()Z" } : Jvm.MethodName)) ∈ lw_all := lw_g (lw_at lw_m4 52 rfl) rfl
theorem q909 : (Jvm.Cond.code ({ cls := "CellRows", name := "makesLawful", desc := "()Z" } : Jvm.MethodName) prog_1_method_49_code (5 : Nat) (Option.some Jvm.ClassFile.FieldType.boolean)) ∈ lw_all := lw_g (lw_at lw_m4 53 rfl) rfl
theorem q910 : (Jvm.Cond.methodLink "CellRows" (409 : Nat) ({ cls := "CellRows", name := "allRuns", desc := "(Z)Ljava/util/ArrayList;" } : Jvm.MethodName)) ∈ lw_all := lw_g (lw_at lw_m4 54 rfl) rfl
theorem q911 : (Jvm.Cond.privateMethod ({ cls := "CellRows", name := "allRuns", desc := "(Z)Ljava/util/ArrayList;" } : Jvm.MethodName)) ∈ lw_tbl := lw_at lw_m4 55 rfl
theorem q912 : (Jvm.Cond.instanceMethod ({ cls := "CellRows", name := "allRuns", desc := "(Z)Ljava/util/ArrayList;" } : Jvm.MethodName)) ∈ lw_all := lw_g (lw_at lw_m4 56 rfl) rfl
theorem q913 : (Jvm.Cond.code ({ cls := "CellRows", name := "allRuns", desc := "(Z)Ljava/util/ArrayList;" } : Jvm.MethodName) prog_1_method_46_code (5 : Nat) (Option.some (Jvm.ClassFile.FieldType.object "java/util/ArrayList"))) ∈ lw_all := lw_g (lw_at lw_m4 57 rfl) rfl
theorem q914 : (Jvm.Cond.classLink "CellRows" (361 : Nat) "java/util/ArrayList") ∈ lw_all := lw_g (lw_at lw_m4 58 rfl) rfl
theorem q916 : (Jvm.Cond.methodLink "CellRows" (363 : Nat) ({ cls := "java/util/ArrayList", name := "<init>", desc := "()V" } : Jvm.MethodName)) ∈ lw_all := lw_g (lw_at lw_m4 60 rfl) rfl
theorem q940 : (Jvm.Cond.methodLink "CellRows" (376 : Nat) ({ cls := "CellRows", name := "runsOf", desc := "(II)Ljava/util/ArrayList;" } : Jvm.MethodName)) ∈ lw_all := lw_g (lw_at lw_m4 84 rfl) rfl
theorem q941 : (Jvm.Cond.privateMethod ({ cls := "CellRows", name := "runsOf", desc := "(II)Ljava/util/ArrayList;" } : Jvm.MethodName)) ∈ lw_tbl := lw_at lw_m4 85 rfl
theorem q942 : (Jvm.Cond.instanceMethod ({ cls := "CellRows", name := "runsOf", desc := "(II)Ljava/util/ArrayList;" } : Jvm.MethodName)) ∈ lw_all := lw_g (lw_at lw_m4 86 rfl) rfl
theorem q943 : (Jvm.Cond.code ({ cls := "CellRows", name := "runsOf", desc := "(II)Ljava/util/ArrayList;" } : Jvm.MethodName) prog_1_method_45_code (6 : Nat) (Option.some (Jvm.ClassFile.FieldType.object "java/util/ArrayList"))) ∈ lw_all := lw_g (lw_at lw_m4 87 rfl) rfl
theorem q944 : (Jvm.Cond.methodLink "CellRows" (364 : Nat) ({ cls := "CellRows$Chip", name := "isOpen", desc := "(III)Z" } : Jvm.MethodName)) ∈ lw_all := lw_g (lw_at lw_m4 88 rfl) rfl
theorem q949 : (Jvm.Cond.classLink "CellRows" (367 : Nat) "CellRows$Run") ∈ lw_all := lw_g (lw_at lw_m4 93 rfl) rfl
theorem q951 : (Jvm.Cond.methodLink "CellRows" (369 : Nat) ({ cls := "CellRows$Run", name := "<init>", desc := "(LCellRows;IIII)V" } : Jvm.MethodName)) ∈ lw_all := lw_g (lw_at lw_m4 95 rfl) rfl
theorem q959 : (Jvm.Cond.fieldLinkNest "CellRows" (399 : Nat) "CellRows$Run" "fence" "I" "CellRows") ∈ lw_tbl := lw_at lw_m4 103 rfl
theorem q961 : (Jvm.Cond.fieldLinkNest "CellRows" (530 : Nat) "CellRows$Run" "first" "I" "CellRows") ∈ lw_tbl := lw_at lw_m4 105 rfl
theorem q963 : (Jvm.Cond.fieldLinkNest "CellRows" (533 : Nat) "CellRows$Run" "length" "I" "CellRows") ∈ lw_tbl := lw_at lw_m4 107 rfl
theorem q965 : (Jvm.Cond.fieldLinkNest "CellRows" (421 : Nat) "CellRows$Run" "cells" "Ljava/util/ArrayList;" "CellRows") ∈ lw_tbl := lw_at lw_m4 109 rfl
theorem q980 : (Jvm.Cond.methodLink "CellRows" (372 : Nat) ({ cls := "java/util/ArrayList", name := "add", desc := "(Ljava/lang/Object;)Z" } : Jvm.MethodName)) ∈ lw_all := lw_g (lw_at lw_m4 124 rfl) rfl
theorem q1010 : (Jvm.Cond.selects "CellRows" ({ cls := "java/lang/Object", name := "getClass", desc := "()Ljava/lang/Class;" } : Jvm.MethodName) ({ cls := "java/lang/Object", name := "getClass", desc := "()Ljava/lang/Class;" } : Jvm.MethodName)) ∈ lw_all := lw_g (lw_at lw_m4 154 rfl) rfl
theorem q1036 : (Jvm.Cond.methodLink "CellRows" (380 : Nat) ({ cls := "java/util/ArrayList", name := "addAll", desc := "(Ljava/util/Collection;)Z" } : Jvm.MethodName)) ∈ lw_all := lw_g (lw_at lw_m4 180 rfl) rfl
theorem q1051 : (Jvm.Cond.methodLink "CellRows" (384 : Nat) ({ cls := "java/util/ArrayList", name := "size", desc := "()I" } : Jvm.MethodName)) ∈ lw_all := lw_g (lw_at lw_m4 195 rfl) rfl
theorem q1055 : (Jvm.Cond.methodLink "CellRows" (387 : Nat) ({ cls := "java/util/ArrayList", name := "get", desc := "(I)Ljava/lang/Object;" } : Jvm.MethodName)) ∈ lw_all := lw_g (lw_at lw_m4 199 rfl) rfl
theorem q1069 : (Jvm.Cond.methodLink "CellRows" (391 : Nat) ({ cls := "CellRows$Run", name := "fills", desc := "()LCellRows$Run;" } : Jvm.MethodName)) ∈ lw_all := lw_g (lw_at lw_m4 213 rfl) rfl
theorem q1075 : (Jvm.Cond.methodLink "CellRows" (413 : Nat) ({ cls := "CellRows", name := "byWants", desc := "()Ljava/util/ArrayList;" } : Jvm.MethodName)) ∈ lw_all := lw_g (lw_at lw_m4 219 rfl) rfl
theorem q1076 : (Jvm.Cond.privateMethod ({ cls := "CellRows", name := "byWants", desc := "()Ljava/util/ArrayList;" } : Jvm.MethodName)) ∈ lw_tbl := lw_at lw_m4 220 rfl
theorem q1077 : (Jvm.Cond.instanceMethod ({ cls := "CellRows", name := "byWants", desc := "()Ljava/util/ArrayList;" } : Jvm.MethodName)) ∈ lw_all := lw_g (lw_at lw_m4 221 rfl) rfl
theorem q1078 : (Jvm.Cond.code ({ cls := "CellRows", name := "byWants", desc := "()Ljava/util/ArrayList;" } : Jvm.MethodName) prog_1_method_47_code (5 : Nat) (Option.some (Jvm.ClassFile.FieldType.object "java/util/ArrayList"))) ∈ lw_all := lw_g (lw_at lw_m4 222 rfl) rfl
theorem q1079 : (Jvm.Cond.classLink "CellRows" (189 : Nat) "CellRows$Cell") ∈ lw_all := lw_g (lw_at lw_m4 223 rfl) rfl
theorem q1080 : (Jvm.Cond.methodLink "CellRows" (395 : Nat) ({ cls := "java/util/ArrayList", name := "add", desc := "(ILjava/lang/Object;)V" } : Jvm.MethodName)) ∈ lw_all := lw_g (lw_at lw_m4 224 rfl) rfl
theorem q1088 : (Jvm.Cond.methodLink "CellRows" (417 : Nat) ({ cls := "CellRows", name := "runFor", desc := "(Ljava/util/ArrayList;LCellRows$Cell;)LCellRows$Run;" } : Jvm.MethodName)) ∈ lw_all := lw_g (lw_at lw_m4 232 rfl) rfl
theorem q1089 : (Jvm.Cond.static ({ cls := "CellRows", name := "runFor", desc := "(Ljava/util/ArrayList;LCellRows$Cell;)LCellRows$Run;" } : Jvm.MethodName)) ∈ lw_all := lw_g (lw_at lw_m4 233 rfl) rfl
theorem q1090 : (Jvm.Cond.code ({ cls := "CellRows", name := "runFor", desc := "(Ljava/util/ArrayList;LCellRows$Cell;)LCellRows$Run;" } : Jvm.MethodName) prog_1_method_48_code (7 : Nat) (Option.some (Jvm.ClassFile.FieldType.object "CellRows$Run"))) ∈ lw_all := lw_g (lw_at lw_m4 234 rfl) rfl
theorem q1091 : (Jvm.Cond.constant "CellRows" (398 : Nat) (1000000000 : Int32)) ∈ lw_all := lw_g (lw_at lw_m4 235 rfl) rfl
theorem q1092 : (Jvm.Cond.methodLink "CellRows" (402 : Nat) ({ cls := "CellRows$Run", name := "free", desc := "()I" } : Jvm.MethodName)) ∈ lw_all := lw_g (lw_at lw_m4 236 rfl) rfl
theorem q1099 : (Jvm.Cond.methodLink "CellRows" (405 : Nat) ({ cls := "CellRows$Run", name := "costWith", desc := "(LCellRows$Cell;)I" } : Jvm.MethodName)) ∈ lw_all := lw_g (lw_at lw_m5 3 rfl) rfl
theorem q1125 : (Jvm.Cond.methodLink "CellRows" (424 : Nat) ({ cls := "CellRows$Run", name := "settles", desc := "()V" } : Jvm.MethodName)) ∈ lw_all := lw_g (lw_at lw_m5 29 rfl) rfl
theorem q1130 : (Jvm.Cond.methodLink "CellRows" (436 : Nat) ({ cls := "CellRows", name := "moves", desc := "()I" } : Jvm.MethodName)) ∈ lw_all := lw_g (lw_at lw_m5 34 rfl) rfl
theorem q1131 : (Jvm.Cond.privateMethod ({ cls := "CellRows", name := "moves", desc := "()I" } : Jvm.MethodName)) ∈ lw_tbl := lw_at lw_m5 35 rfl
theorem q1132 : (Jvm.Cond.instanceMethod ({ cls := "CellRows", name := "moves", desc := "()I" } : Jvm.MethodName)) ∈ lw_all := lw_g (lw_at lw_m5 36 rfl) rfl
theorem q1133 : (Jvm.Cond.code ({ cls := "CellRows", name := "moves", desc := "()I" } : Jvm.MethodName) prog_1_method_50_code (3 : Nat) (Option.some Jvm.ClassFile.FieldType.int)) ∈ lw_all := lw_g (lw_at lw_m5 37 rfl) rfl
theorem q1134 : (Jvm.Cond.methodLink "CellRows" (427 : Nat) ({ cls := "CellRows$Cell", name := "move", desc := "()I" } : Jvm.MethodName)) ∈ lw_all := lw_g (lw_at lw_m5 38 rfl) rfl
theorem q1141 : (Jvm.Cond.instanceMethod ({ cls := "CellRows", name := "lawfully", desc := "(I)I" } : Jvm.MethodName)) ∈ lw_all := lw_g (lw_at lw_m5 45 rfl) rfl
theorem q1142 : (Jvm.Cond.selects "CellRows" ({ cls := "CellRows", name := "lawfully", desc := "(I)I" } : Jvm.MethodName) ({ cls := "CellRows", name := "lawfully", desc := "(I)I" } : Jvm.MethodName)) ∈ lw_all := lw_g (lw_at lw_m5 46 rfl) rfl
theorem q1143 : (Jvm.Cond.code ({ cls := "CellRows", name := "lawfully", desc := "(I)I" } : Jvm.MethodName) prog_1_method_53_code (2 : Nat) (Option.some Jvm.ClassFile.FieldType.int)) ∈ lw_all := lw_g (lw_at lw_m5 47 rfl) rfl
theorem q1145 : (Jvm.Cond.instanceMethod ({ cls := "CellRows", name := "windows", desc := "(I)I" } : Jvm.MethodName)) ∈ lw_all := lw_g (lw_at lw_m5 49 rfl) rfl
theorem q1146 : (Jvm.Cond.selects "CellRows" ({ cls := "CellRows", name := "windows", desc := "(I)I" } : Jvm.MethodName) ({ cls := "CellRows", name := "windows", desc := "(I)I" } : Jvm.MethodName)) ∈ lw_all := lw_g (lw_at lw_m5 50 rfl) rfl
theorem q1147 : (Jvm.Cond.code ({ cls := "CellRows", name := "windows", desc := "(I)I" } : Jvm.MethodName) prog_1_method_55_code (7 : Nat) (Option.some Jvm.ClassFile.FieldType.int)) ∈ lw_all := lw_g (lw_at lw_m5 51 rfl) rfl
theorem q1148 : (Jvm.Cond.methodLink "CellRows" (459 : Nat) ({ cls := "CellRows", name := "reorders", desc := "(Ljava/util/ArrayList;II)V" } : Jvm.MethodName)) ∈ lw_all := lw_g (lw_at lw_m5 52 rfl) rfl
theorem q1149 : (Jvm.Cond.privateMethod ({ cls := "CellRows", name := "reorders", desc := "(Ljava/util/ArrayList;II)V" } : Jvm.MethodName)) ∈ lw_tbl := lw_at lw_m5 53 rfl
theorem q1150 : (Jvm.Cond.instanceMethod ({ cls := "CellRows", name := "reorders", desc := "(Ljava/util/ArrayList;II)V" } : Jvm.MethodName)) ∈ lw_all := lw_g (lw_at lw_m5 54 rfl) rfl
theorem q1151 : (Jvm.Cond.code ({ cls := "CellRows", name := "reorders", desc := "(Ljava/util/ArrayList;II)V" } : Jvm.MethodName) prog_1_method_54_code (7 : Nat) (Option.none : Option Jvm.ClassFile.FieldType)) ∈ lw_all := lw_g (lw_at lw_m5 55 rfl) rfl
theorem q1152 : (Jvm.Cond.classLink "CellRows" (451 : Nat) "CellRows$3") ∈ lw_all := lw_g (lw_at lw_m5 56 rfl) rfl
theorem q1154 : (Jvm.Cond.methodLink "CellRows" (453 : Nat) ({ cls := "CellRows$3", name := "<init>", desc := "(LCellRows;II[LCellRows$Cell;[ILjava/util/ArrayList;I)V" } : Jvm.MethodName)) ∈ lw_all := lw_g (lw_at lw_m5 58 rfl) rfl
theorem q1196 : (Jvm.Cond.methodLink "CellRows" (456 : Nat) ({ cls := "CellRows$3", name := "finds", desc := "()V" } : Jvm.MethodName)) ∈ lw_all := lw_g (lw_at lw_m5 100 rfl) rfl
theorem q1227 : (Jvm.Cond.instanceMethod ({ cls := "CellRows", name := "swaps", desc := "()I" } : Jvm.MethodName)) ∈ lw_all := lw_g (lw_at lw_m5 131 rfl) rfl
theorem q1228 : (Jvm.Cond.selects "CellRows" ({ cls := "CellRows", name := "swaps", desc := "()I" } : Jvm.MethodName) ({ cls := "CellRows", name := "swaps", desc := "()I" } : Jvm.MethodName)) ∈ lw_all := lw_g (lw_at lw_m5 132 rfl) rfl
theorem q1229 : (Jvm.Cond.code ({ cls := "CellRows", name := "swaps", desc := "()I" } : Jvm.MethodName) prog_1_method_59_code (4 : Nat) (Option.some Jvm.ClassFile.FieldType.int)) ∈ lw_all := lw_g (lw_at lw_m5 133 rfl) rfl
theorem q1230 : (Jvm.Cond.methodLink "CellRows" (475 : Nat) ({ cls := "CellRows", name := "exchangesBelow", desc := "(LCellRows$Cell;LCellRows$Cell;I)V" } : Jvm.MethodName)) ∈ lw_all := lw_g (lw_at lw_m5 134 rfl) rfl
theorem q1231 : (Jvm.Cond.privateMethod ({ cls := "CellRows", name := "exchangesBelow", desc := "(LCellRows$Cell;LCellRows$Cell;I)V" } : Jvm.MethodName)) ∈ lw_tbl := lw_at lw_m5 135 rfl
theorem q1232 : (Jvm.Cond.instanceMethod ({ cls := "CellRows", name := "exchangesBelow", desc := "(LCellRows$Cell;LCellRows$Cell;I)V" } : Jvm.MethodName)) ∈ lw_all := lw_g (lw_at lw_m5 136 rfl) rfl
theorem q1233 : (Jvm.Cond.code ({ cls := "CellRows", name := "exchangesBelow", desc := "(LCellRows$Cell;LCellRows$Cell;I)V" } : Jvm.MethodName) prog_1_method_58_code (4 : Nat) (Option.none : Option Jvm.ClassFile.FieldType)) ∈ lw_all := lw_g (lw_at lw_m5 137 rfl) rfl
theorem q1234 : (Jvm.Cond.methodLink "CellRows" (467 : Nat) ({ cls := "CellRows", name := "canExchange", desc := "(LCellRows$Cell;LCellRows$Cell;)Z" } : Jvm.MethodName)) ∈ lw_all := lw_g (lw_at lw_m5 138 rfl) rfl
theorem q1235 : (Jvm.Cond.static ({ cls := "CellRows", name := "canExchange", desc := "(LCellRows$Cell;LCellRows$Cell;)Z" } : Jvm.MethodName)) ∈ lw_all := lw_g (lw_at lw_m5 139 rfl) rfl
theorem q1236 : (Jvm.Cond.code ({ cls := "CellRows", name := "canExchange", desc := "(LCellRows$Cell;LCellRows$Cell;)Z" } : Jvm.MethodName) prog_1_method_57_code (2 : Nat) (Option.some Jvm.ClassFile.FieldType.boolean)) ∈ lw_all := lw_g (lw_at lw_m5 140 rfl) rfl
theorem q1237 : (Jvm.Cond.methodLink "CellRows" (463 : Nat) ({ cls := "CellRows$Cell", name := "isLike", desc := "(LCellRows$Cell;)Z" } : Jvm.MethodName)) ∈ lw_all := lw_g (lw_at lw_m5 141 rfl) rfl
theorem q1241 : (Jvm.Cond.methodLink "CellRows" (471 : Nat) ({ cls := "CellRows", name := "exchanges", desc := "(LCellRows$Cell;LCellRows$Cell;)V" } : Jvm.MethodName)) ∈ lw_all := lw_g (lw_at lw_m5 145 rfl) rfl
theorem q1242 : (Jvm.Cond.static ({ cls := "CellRows", name := "exchanges", desc := "(LCellRows$Cell;LCellRows$Cell;)V" } : Jvm.MethodName)) ∈ lw_all := lw_g (lw_at lw_m5 146 rfl) rfl
theorem q1243 : (Jvm.Cond.code ({ cls := "CellRows", name := "exchanges", desc := "(LCellRows$Cell;LCellRows$Cell;)V" } : Jvm.MethodName) prog_1_method_56_code (4 : Nat) (Option.none : Option Jvm.ClassFile.FieldType)) ∈ lw_all := lw_g (lw_at lw_m5 147 rfl) rfl
theorem q1245 : (Jvm.Cond.instanceMethod ({ cls := "CellRows", name := "hops", desc := "()I" } : Jvm.MethodName)) ∈ lw_all := lw_g (lw_at lw_m5 149 rfl) rfl
theorem q1246 : (Jvm.Cond.selects "CellRows" ({ cls := "CellRows", name := "hops", desc := "()I" } : Jvm.MethodName) ({ cls := "CellRows", name := "hops", desc := "()I" } : Jvm.MethodName)) ∈ lw_all := lw_g (lw_at lw_m5 150 rfl) rfl
theorem q1247 : (Jvm.Cond.code ({ cls := "CellRows", name := "hops", desc := "()I" } : Jvm.MethodName) prog_1_method_61_code (3 : Nat) (Option.some Jvm.ClassFile.FieldType.int)) ∈ lw_all := lw_g (lw_at lw_m5 151 rfl) rfl
theorem q1248 : (Jvm.Cond.methodLink "CellRows" (479 : Nat) ({ cls := "CellRows", name := "hops", desc := "(LCellRows$Cell;)V" } : Jvm.MethodName)) ∈ lw_all := lw_g (lw_at lw_m5 152 rfl) rfl
theorem q1249 : (Jvm.Cond.privateMethod ({ cls := "CellRows", name := "hops", desc := "(LCellRows$Cell;)V" } : Jvm.MethodName)) ∈ lw_tbl := lw_at lw_m5 153 rfl
theorem q1250 : (Jvm.Cond.instanceMethod ({ cls := "CellRows", name := "hops", desc := "(LCellRows$Cell;)V" } : Jvm.MethodName)) ∈ lw_all := lw_g (lw_at lw_m5 154 rfl) rfl
theorem q1251 : (Jvm.Cond.code ({ cls := "CellRows", name := "hops", desc := "(LCellRows$Cell;)V" } : Jvm.MethodName) prog_1_method_60_code (10 : Nat) (Option.none : Option Jvm.ClassFile.FieldType)) ∈ lw_all := lw_g (lw_at lw_m5 155 rfl) rfl
theorem q1253 : (Jvm.Cond.instanceMethod ({ cls := "CellRows", name := "sorts", desc := "()I" } : Jvm.MethodName)) ∈ lw_all := lw_g (lw_at lw_m5 157 rfl) rfl
theorem q1254 : (Jvm.Cond.selects "CellRows" ({ cls := "CellRows", name := "sorts", desc := "()I" } : Jvm.MethodName) ({ cls := "CellRows", name := "sorts", desc := "()I" } : Jvm.MethodName)) ∈ lw_all := lw_g (lw_at lw_m5 158 rfl) rfl
theorem q1255 : (Jvm.Cond.code ({ cls := "CellRows", name := "sorts", desc := "()I" } : Jvm.MethodName) prog_1_method_65_code (4 : Nat) (Option.some Jvm.ClassFile.FieldType.int)) ∈ lw_all := lw_g (lw_at lw_m5 159 rfl) rfl
theorem q1256 : (Jvm.Cond.methodLink "CellRows" (491 : Nat) ({ cls := "CellRows", name := "groupOf", desc := "(II)Ljava/util/ArrayList;" } : Jvm.MethodName)) ∈ lw_all := lw_g (lw_at lw_m5 160 rfl) rfl
theorem q1257 : (Jvm.Cond.privateMethod ({ cls := "CellRows", name := "groupOf", desc := "(II)Ljava/util/ArrayList;" } : Jvm.MethodName)) ∈ lw_tbl := lw_at lw_m5 161 rfl
theorem q1258 : (Jvm.Cond.instanceMethod ({ cls := "CellRows", name := "groupOf", desc := "(II)Ljava/util/ArrayList;" } : Jvm.MethodName)) ∈ lw_all := lw_g (lw_at lw_m5 162 rfl) rfl
theorem q1259 : (Jvm.Cond.code ({ cls := "CellRows", name := "groupOf", desc := "(II)Ljava/util/ArrayList;" } : Jvm.MethodName) prog_1_method_63_code (8 : Nat) (Option.some (Jvm.ClassFile.FieldType.object "java/util/ArrayList"))) ∈ lw_all := lw_g (lw_at lw_m5 163 rfl) rfl
theorem q1260 : (Jvm.Cond.methodLink "CellRows" (482 : Nat) ({ cls := "CellRows", name := "haveNet", desc := "(LCellRows$Cell;LCellRows$Cell;)Z" } : Jvm.MethodName)) ∈ lw_all := lw_g (lw_at lw_m5 164 rfl) rfl
theorem q1261 : (Jvm.Cond.privateMethod ({ cls := "CellRows", name := "haveNet", desc := "(LCellRows$Cell;LCellRows$Cell;)Z" } : Jvm.MethodName)) ∈ lw_tbl := lw_at lw_m5 165 rfl
theorem q1262 : (Jvm.Cond.instanceMethod ({ cls := "CellRows", name := "haveNet", desc := "(LCellRows$Cell;LCellRows$Cell;)Z" } : Jvm.MethodName)) ∈ lw_all := lw_g (lw_at lw_m5 166 rfl) rfl
theorem q1263 : (Jvm.Cond.code ({ cls := "CellRows", name := "haveNet", desc := "(LCellRows$Cell;LCellRows$Cell;)Z" } : Jvm.MethodName) prog_1_method_62_code (4 : Nat) (Option.some Jvm.ClassFile.FieldType.boolean)) ∈ lw_all := lw_g (lw_at lw_m5 167 rfl) rfl
theorem q1264 : (Jvm.Cond.methodLink "CellRows" (494 : Nat) ({ cls := "CellRows", name := "sorts", desc := "(Ljava/util/ArrayList;)V" } : Jvm.MethodName)) ∈ lw_all := lw_g (lw_at lw_m5 168 rfl) rfl
theorem q1265 : (Jvm.Cond.privateMethod ({ cls := "CellRows", name := "sorts", desc := "(Ljava/util/ArrayList;)V" } : Jvm.MethodName)) ∈ lw_tbl := lw_at lw_m5 169 rfl
theorem q1266 : (Jvm.Cond.instanceMethod ({ cls := "CellRows", name := "sorts", desc := "(Ljava/util/ArrayList;)V" } : Jvm.MethodName)) ∈ lw_all := lw_g (lw_at lw_m5 170 rfl) rfl
theorem q1267 : (Jvm.Cond.code ({ cls := "CellRows", name := "sorts", desc := "(Ljava/util/ArrayList;)V" } : Jvm.MethodName) prog_1_method_64_code (6 : Nat) (Option.none : Option Jvm.ClassFile.FieldType)) ∈ lw_all := lw_g (lw_at lw_m5 171 rfl) rfl
theorem q1268 : (Jvm.Cond.classLink "CellRows" (485 : Nat) "CellRows$4") ∈ lw_all := lw_g (lw_at lw_m5 172 rfl) rfl
theorem q1270 : (Jvm.Cond.methodLink "CellRows" (487 : Nat) ({ cls := "CellRows$4", name := "<init>", desc := "(LCellRows;ILjava/util/ArrayList;[I[I)V" } : Jvm.MethodName)) ∈ lw_all := lw_g (lw_at lw_m5 174 rfl) rfl
theorem q1292 : (Jvm.Cond.methodLink "CellRows" (490 : Nat) ({ cls := "CellRows$4", name := "finds", desc := "()V" } : Jvm.MethodName)) ∈ lw_all := lw_g (lw_at lw_m5 196 rfl) rfl
theorem q1296 : (Jvm.Cond.instanceMethod ({ cls := "CellRows", name := "shake", desc := "(III)I" } : Jvm.MethodName)) ∈ lw_all := lw_g (lw_at lw_m5 200 rfl) rfl
theorem q1297 : (Jvm.Cond.selects "CellRows" ({ cls := "CellRows", name := "shake", desc := "(III)I" } : Jvm.MethodName) ({ cls := "CellRows", name := "shake", desc := "(III)I" } : Jvm.MethodName)) ∈ lw_all := lw_g (lw_at lw_m5 201 rfl) rfl
theorem q1298 : (Jvm.Cond.code ({ cls := "CellRows", name := "shake", desc := "(III)I" } : Jvm.MethodName) prog_1_method_67_code (10 : Nat) (Option.some Jvm.ClassFile.FieldType.int)) ∈ lw_all := lw_g (lw_at lw_m5 202 rfl) rfl
theorem q1299 : (Jvm.Cond.constant "CellRows" (498 : Nat) (1000000 : Int32)) ∈ lw_all := lw_g (lw_at lw_m5 203 rfl) rfl
theorem q1300 : (Jvm.Cond.methodLink "CellRows" (499 : Nat) ({ cls := "CellRows", name := "keepsSpots", desc := "()V" } : Jvm.MethodName)) ∈ lw_all := lw_g (lw_at lw_m5 204 rfl) rfl
theorem q1301 : (Jvm.Cond.privateMethod ({ cls := "CellRows", name := "keepsSpots", desc := "()V" } : Jvm.MethodName)) ∈ lw_tbl := lw_at lw_m5 205 rfl
theorem q1302 : (Jvm.Cond.instanceMethod ({ cls := "CellRows", name := "keepsSpots", desc := "()V" } : Jvm.MethodName)) ∈ lw_all := lw_g (lw_at lw_m5 206 rfl) rfl
theorem q1303 : (Jvm.Cond.code ({ cls := "CellRows", name := "keepsSpots", desc := "()V" } : Jvm.MethodName) prog_1_method_66_code (2 : Nat) (Option.none : Option Jvm.ClassFile.FieldType)) ∈ lw_all := lw_g (lw_at lw_m5 207 rfl) rfl
theorem q1304 : (Jvm.Cond.constant "CellRows" (502 : Nat) (1000003 : Int32)) ∈ lw_all := lw_g (lw_at lw_m5 208 rfl) rfl
theorem q1306 : (Jvm.Cond.instanceMethod ({ cls := "CellRows", name := "cellOf", desc := "(II)I" } : Jvm.MethodName)) ∈ lw_all := lw_g (lw_at lw_m5 210 rfl) rfl
theorem q1307 : (Jvm.Cond.selects "CellRows" ({ cls := "CellRows", name := "cellOf", desc := "(II)I" } : Jvm.MethodName) ({ cls := "CellRows", name := "cellOf", desc := "(II)I" } : Jvm.MethodName)) ∈ lw_all := lw_g (lw_at lw_m5 211 rfl) rfl
theorem q1308 : (Jvm.Cond.code ({ cls := "CellRows", name := "cellOf", desc := "(II)I" } : Jvm.MethodName) prog_1_method_69_code (4 : Nat) (Option.some Jvm.ClassFile.FieldType.int)) ∈ lw_all := lw_g (lw_at lw_m5 212 rfl) rfl
theorem q1309 : (Jvm.Cond.methodLink "CellRows" (503 : Nat) ({ cls := "CellRows", name := "netsOf", desc := "(I)I" } : Jvm.MethodName)) ∈ lw_all := lw_g (lw_at lw_m5 213 rfl) rfl
theorem q1310 : (Jvm.Cond.privateMethod ({ cls := "CellRows", name := "netsOf", desc := "(I)I" } : Jvm.MethodName)) ∈ lw_tbl := lw_at lw_m5 214 rfl
theorem q1311 : (Jvm.Cond.instanceMethod ({ cls := "CellRows", name := "netsOf", desc := "(I)I" } : Jvm.MethodName)) ∈ lw_all := lw_g (lw_at lw_m5 215 rfl) rfl
theorem q1312 : (Jvm.Cond.code ({ cls := "CellRows", name := "netsOf", desc := "(I)I" } : Jvm.MethodName) prog_1_method_68_code (4 : Nat) (Option.some Jvm.ClassFile.FieldType.int)) ∈ lw_all := lw_g (lw_at lw_m5 216 rfl) rfl
theorem q1313 : (Jvm.Cond.methodLink "CellRows" (506 : Nat) ({ cls := "CellRows$Cell", name := "isOn", desc := "()Z" } : Jvm.MethodName)) ∈ lw_all := lw_g (lw_at lw_m5 217 rfl) rfl
theorem q1315 : (Jvm.Cond.instanceMethod ({ cls := "CellRows", name := "netOf", desc := "(II)I" } : Jvm.MethodName)) ∈ lw_all := lw_g (lw_at lw_m5 219 rfl) rfl
theorem q1316 : (Jvm.Cond.selects "CellRows" ({ cls := "CellRows", name := "netOf", desc := "(II)I" } : Jvm.MethodName) ({ cls := "CellRows", name := "netOf", desc := "(II)I" } : Jvm.MethodName)) ∈ lw_all := lw_g (lw_at lw_m5 220 rfl) rfl
theorem q1317 : (Jvm.Cond.code ({ cls := "CellRows", name := "netOf", desc := "(II)I" } : Jvm.MethodName) prog_1_method_70_code (4 : Nat) (Option.some Jvm.ClassFile.FieldType.int)) ∈ lw_all := lw_g (lw_at lw_m5 221 rfl) rfl
theorem q1319 : (Jvm.Cond.instanceMethod ({ cls := "CellRows", name := "bin", desc := "(II)I" } : Jvm.MethodName)) ∈ lw_all := lw_g (lw_at lw_m5 223 rfl) rfl
theorem q1320 : (Jvm.Cond.selects "CellRows" ({ cls := "CellRows", name := "bin", desc := "(II)I" } : Jvm.MethodName) ({ cls := "CellRows", name := "bin", desc := "(II)I" } : Jvm.MethodName)) ∈ lw_all := lw_g (lw_at lw_m5 224 rfl) rfl
theorem q1321 : (Jvm.Cond.code ({ cls := "CellRows", name := "bin", desc := "(II)I" } : Jvm.MethodName) prog_1_method_71_code (4 : Nat) (Option.some Jvm.ClassFile.FieldType.int)) ∈ lw_all := lw_g (lw_at lw_m5 225 rfl) rfl
theorem q1322 : (Jvm.Cond.methodLink "CellRows" (515 : Nat) ({ cls := "CellRows$Bin", name := "need", desc := "()I" } : Jvm.MethodName)) ∈ lw_all := lw_g (lw_at lw_m5 226 rfl) rfl
theorem q1323 : (Jvm.Cond.methodLink "CellRows" (518 : Nat) ({ cls := "CellRows$Bin", name := "demand", desc := "()I" } : Jvm.MethodName)) ∈ lw_all := lw_g (lw_at lw_m5 227 rfl) rfl
theorem q1332 : (Jvm.Cond.instanceMethod ({ cls := "CellRows", name := "measure", desc := "(I)I" } : Jvm.MethodName)) ∈ lw_all := lw_g (lw_at lw_m5 236 rfl) rfl
theorem q1333 : (Jvm.Cond.selects "CellRows" ({ cls := "CellRows", name := "measure", desc := "(I)I" } : Jvm.MethodName) ({ cls := "CellRows", name := "measure", desc := "(I)I" } : Jvm.MethodName)) ∈ lw_all := lw_g (lw_at lw_m5 237 rfl) rfl
theorem q1334 : (Jvm.Cond.code ({ cls := "CellRows", name := "measure", desc := "(I)I" } : Jvm.MethodName) prog_1_method_74_code (2 : Nat) (Option.some Jvm.ClassFile.FieldType.int)) ∈ lw_all := lw_g (lw_at lw_m5 238 rfl) rfl
theorem q1335 : (Jvm.Cond.methodLink "CellRows" (521 : Nat) ({ cls := "CellRows", name := "without", desc := "()I" } : Jvm.MethodName)) ∈ lw_all := lw_g (lw_at lw_m5 239 rfl) rfl
theorem q1336 : (Jvm.Cond.privateMethod ({ cls := "CellRows", name := "without", desc := "()I" } : Jvm.MethodName)) ∈ lw_tbl := lw_at lw_m6 0 rfl
theorem q1337 : (Jvm.Cond.instanceMethod ({ cls := "CellRows", name := "without", desc := "()I" } : Jvm.MethodName)) ∈ lw_all := lw_g (lw_at lw_m6 1 rfl) rfl
theorem q1338 : (Jvm.Cond.code ({ cls := "CellRows", name := "without", desc := "()I" } : Jvm.MethodName) prog_1_method_73_code (3 : Nat) (Option.some Jvm.ClassFile.FieldType.int)) ∈ lw_all := lw_g (lw_at lw_m6 2 rfl) rfl
theorem q1339 : (Jvm.Cond.methodLink "CellRows" (524 : Nat) ({ cls := "CellRows", name := "crowds", desc := "(I)I" } : Jvm.MethodName)) ∈ lw_all := lw_g (lw_at lw_m6 3 rfl) rfl
theorem q1340 : (Jvm.Cond.privateMethod ({ cls := "CellRows", name := "crowds", desc := "(I)I" } : Jvm.MethodName)) ∈ lw_tbl := lw_at lw_m6 4 rfl
theorem q1341 : (Jvm.Cond.instanceMethod ({ cls := "CellRows", name := "crowds", desc := "(I)I" } : Jvm.MethodName)) ∈ lw_all := lw_g (lw_at lw_m6 5 rfl) rfl
theorem q1342 : (Jvm.Cond.code ({ cls := "CellRows", name := "crowds", desc := "(I)I" } : Jvm.MethodName) prog_1_method_72_code (7 : Nat) (Option.some Jvm.ClassFile.FieldType.int)) ∈ lw_all := lw_g (lw_at lw_m6 6 rfl) rfl
theorem q1344 : (Jvm.Cond.instanceMethod ({ cls := "CellRows", name := "lawful", desc := "(III)Z" } : Jvm.MethodName)) ∈ lw_all := lw_g (lw_at lw_m6 8 rfl) rfl
theorem q1345 : (Jvm.Cond.selects "CellRows" ({ cls := "CellRows", name := "lawful", desc := "(III)Z" } : Jvm.MethodName) ({ cls := "CellRows", name := "lawful", desc := "(III)Z" } : Jvm.MethodName)) ∈ lw_all := lw_g (lw_at lw_m6 9 rfl) rfl
theorem q1346 : (Jvm.Cond.code ({ cls := "CellRows", name := "lawful", desc := "(III)Z" } : Jvm.MethodName) prog_1_method_75_code (4 : Nat) (Option.some Jvm.ClassFile.FieldType.boolean)) ∈ lw_all := lw_g (lw_at lw_m6 10 rfl) rfl
theorem q1348 : (Jvm.Cond.instanceMethod ({ cls := "CellRows", name := "runs", desc := "(II)I" } : Jvm.MethodName)) ∈ lw_all := lw_g (lw_at lw_m6 12 rfl) rfl
theorem q1349 : (Jvm.Cond.selects "CellRows" ({ cls := "CellRows", name := "runs", desc := "(II)I" } : Jvm.MethodName) ({ cls := "CellRows", name := "runs", desc := "(II)I" } : Jvm.MethodName)) ∈ lw_all := lw_g (lw_at lw_m6 13 rfl) rfl
theorem q1350 : (Jvm.Cond.code ({ cls := "CellRows", name := "runs", desc := "(II)I" } : Jvm.MethodName) prog_1_method_77_code (3 : Nat) (Option.some Jvm.ClassFile.FieldType.int)) ∈ lw_all := lw_g (lw_at lw_m6 14 rfl) rfl
theorem q1351 : (Jvm.Cond.methodLink "CellRows" (527 : Nat) ({ cls := "CellRows", name := "isRow", desc := "(II)Z" } : Jvm.MethodName)) ∈ lw_all := lw_g (lw_at lw_m6 15 rfl) rfl
theorem q1352 : (Jvm.Cond.privateMethod ({ cls := "CellRows", name := "isRow", desc := "(II)Z" } : Jvm.MethodName)) ∈ lw_tbl := lw_at lw_m6 16 rfl
theorem q1353 : (Jvm.Cond.instanceMethod ({ cls := "CellRows", name := "isRow", desc := "(II)Z" } : Jvm.MethodName)) ∈ lw_all := lw_g (lw_at lw_m6 17 rfl) rfl
theorem q1354 : (Jvm.Cond.code ({ cls := "CellRows", name := "isRow", desc := "(II)Z" } : Jvm.MethodName) prog_1_method_76_code (3 : Nat) (Option.some Jvm.ClassFile.FieldType.boolean)) ∈ lw_all := lw_g (lw_at lw_m6 18 rfl) rfl
theorem q1356 : (Jvm.Cond.instanceMethod ({ cls := "CellRows", name := "run", desc := "(IIII)I" } : Jvm.MethodName)) ∈ lw_all := lw_g (lw_at lw_m6 20 rfl) rfl
theorem q1357 : (Jvm.Cond.selects "CellRows" ({ cls := "CellRows", name := "run", desc := "(IIII)I" } : Jvm.MethodName) ({ cls := "CellRows", name := "run", desc := "(IIII)I" } : Jvm.MethodName)) ∈ lw_all := lw_g (lw_at lw_m6 21 rfl) rfl
theorem q1358 : (Jvm.Cond.code ({ cls := "CellRows", name := "run", desc := "(IIII)I" } : Jvm.MethodName) prog_1_method_78_code (7 : Nat) (Option.some Jvm.ClassFile.FieldType.int)) ∈ lw_all := lw_g (lw_at lw_m6 22 rfl) rfl
theorem q1359 : (Jvm.Cond.methodLink "CellRows" (536 : Nat) ({ cls := "CellRows$Run", name := "least", desc := "(I)I" } : Jvm.MethodName)) ∈ lw_all := lw_g (lw_at lw_m6 23 rfl) rfl
theorem q1361 : (Jvm.Cond.instanceMethod ({ cls := "CellRows", name := "would", desc := "(III)I" } : Jvm.MethodName)) ∈ lw_all := lw_g (lw_at lw_m6 25 rfl) rfl
theorem q1362 : (Jvm.Cond.selects "CellRows" ({ cls := "CellRows", name := "would", desc := "(III)I" } : Jvm.MethodName) ({ cls := "CellRows", name := "would", desc := "(III)I" } : Jvm.MethodName)) ∈ lw_all := lw_g (lw_at lw_m6 26 rfl) rfl
theorem q1363 : (Jvm.Cond.code ({ cls := "CellRows", name := "would", desc := "(III)I" } : Jvm.MethodName) prog_1_method_80_code (4 : Nat) (Option.some Jvm.ClassFile.FieldType.int)) ∈ lw_all := lw_g (lw_at lw_m6 27 rfl) rfl
theorem q1364 : (Jvm.Cond.methodLink "CellRows" (539 : Nat) ({ cls := "CellRows", name := "wireAt", desc := "(LCellRows$Cell;II)I" } : Jvm.MethodName)) ∈ lw_all := lw_g (lw_at lw_m6 28 rfl) rfl
theorem q1365 : (Jvm.Cond.privateMethod ({ cls := "CellRows", name := "wireAt", desc := "(LCellRows$Cell;II)I" } : Jvm.MethodName)) ∈ lw_tbl := lw_at lw_m6 29 rfl
theorem q1366 : (Jvm.Cond.instanceMethod ({ cls := "CellRows", name := "wireAt", desc := "(LCellRows$Cell;II)I" } : Jvm.MethodName)) ∈ lw_all := lw_g (lw_at lw_m6 30 rfl) rfl
theorem q1367 : (Jvm.Cond.code ({ cls := "CellRows", name := "wireAt", desc := "(LCellRows$Cell;II)I" } : Jvm.MethodName) prog_1_method_79_code (7 : Nat) (Option.some Jvm.ClassFile.FieldType.int)) ∈ lw_all := lw_g (lw_at lw_m6 31 rfl) rfl
theorem q1369 : (Jvm.Cond.instanceMethod ({ cls := "CellRows", name := "best", desc := "(II)I" } : Jvm.MethodName)) ∈ lw_all := lw_g (lw_at lw_m6 33 rfl) rfl
theorem q1370 : (Jvm.Cond.selects "CellRows" ({ cls := "CellRows", name := "best", desc := "(II)I" } : Jvm.MethodName) ({ cls := "CellRows", name := "best", desc := "(II)I" } : Jvm.MethodName)) ∈ lw_all := lw_g (lw_at lw_m6 34 rfl) rfl
theorem q1371 : (Jvm.Cond.code ({ cls := "CellRows", name := "best", desc := "(II)I" } : Jvm.MethodName) prog_1_method_81_code (9 : Nat) (Option.some Jvm.ClassFile.FieldType.int)) ∈ lw_all := lw_g (lw_at lw_m6 35 rfl) rfl
theorem q1373 : (Jvm.Cond.instanceMethod ({ cls := "CellRows", name := "fillers", desc := "(I)I" } : Jvm.MethodName)) ∈ lw_all := lw_g (lw_at lw_m6 37 rfl) rfl
theorem q1374 : (Jvm.Cond.selects "CellRows" ({ cls := "CellRows", name := "fillers", desc := "(I)I" } : Jvm.MethodName) ({ cls := "CellRows", name := "fillers", desc := "(I)I" } : Jvm.MethodName)) ∈ lw_all := lw_g (lw_at lw_m6 38 rfl) rfl
theorem q1375 : (Jvm.Cond.code ({ cls := "CellRows", name := "fillers", desc := "(I)I" } : Jvm.MethodName) prog_1_method_84_code (5 : Nat) (Option.some Jvm.ClassFile.FieldType.int)) ∈ lw_all := lw_g (lw_at lw_m6 39 rfl) rfl
theorem q1376 : (Jvm.Cond.methodLink "CellRows" (546 : Nat) ({ cls := "CellRows", name := "fillersIn", desc := "(LCellRows$Run;I)I" } : Jvm.MethodName)) ∈ lw_all := lw_g (lw_at lw_m6 40 rfl) rfl
theorem q1377 : (Jvm.Cond.privateMethod ({ cls := "CellRows", name := "fillersIn", desc := "(LCellRows$Run;I)I" } : Jvm.MethodName)) ∈ lw_tbl := lw_at lw_m6 41 rfl
theorem q1378 : (Jvm.Cond.instanceMethod ({ cls := "CellRows", name := "fillersIn", desc := "(LCellRows$Run;I)I" } : Jvm.MethodName)) ∈ lw_all := lw_g (lw_at lw_m6 42 rfl) rfl
theorem q1379 : (Jvm.Cond.code ({ cls := "CellRows", name := "fillersIn", desc := "(LCellRows$Run;I)I" } : Jvm.MethodName) prog_1_method_83_code (7 : Nat) (Option.some Jvm.ClassFile.FieldType.int)) ∈ lw_all := lw_g (lw_at lw_m6 43 rfl) rfl
theorem q1380 : (Jvm.Cond.methodLink "CellRows" (543 : Nat) ({ cls := "CellRows", name := "fillersOf", desc := "(II)I" } : Jvm.MethodName)) ∈ lw_all := lw_g (lw_at lw_m6 44 rfl) rfl
theorem q1381 : (Jvm.Cond.static ({ cls := "CellRows", name := "fillersOf", desc := "(II)I" } : Jvm.MethodName)) ∈ lw_all := lw_g (lw_at lw_m6 45 rfl) rfl
theorem q1382 : (Jvm.Cond.code ({ cls := "CellRows", name := "fillersOf", desc := "(II)I" } : Jvm.MethodName) prog_1_method_82_code (2 : Nat) (Option.some Jvm.ClassFile.FieldType.int)) ∈ lw_all := lw_g (lw_at lw_m6 46 rfl) rfl
theorem q1384 : (Jvm.Cond.instanceMethod ({ cls := "CellRows", name := "count", desc := "(I)I" } : Jvm.MethodName)) ∈ lw_all := lw_g (lw_at lw_m6 48 rfl) rfl
theorem q1385 : (Jvm.Cond.selects "CellRows" ({ cls := "CellRows", name := "count", desc := "(I)I" } : Jvm.MethodName) ({ cls := "CellRows", name := "count", desc := "(I)I" } : Jvm.MethodName)) ∈ lw_all := lw_g (lw_at lw_m6 49 rfl) rfl
theorem q1386 : (Jvm.Cond.code ({ cls := "CellRows", name := "count", desc := "(I)I" } : Jvm.MethodName) prog_1_method_85_code (2 : Nat) (Option.some Jvm.ClassFile.FieldType.int)) ∈ lw_all := lw_g (lw_at lw_m6 50 rfl) rfl
theorem q1388 : (Jvm.Cond.instanceMethod ({ cls := "CellRows", name := "status", desc := "()I" } : Jvm.MethodName)) ∈ lw_all := lw_g (lw_at lw_m6 52 rfl) rfl
theorem q1389 : (Jvm.Cond.selects "CellRows" ({ cls := "CellRows", name := "status", desc := "()I" } : Jvm.MethodName) ({ cls := "CellRows", name := "status", desc := "()I" } : Jvm.MethodName)) ∈ lw_all := lw_g (lw_at lw_m6 53 rfl) rfl
theorem q1390 : (Jvm.Cond.code ({ cls := "CellRows", name := "status", desc := "()I" } : Jvm.MethodName) prog_1_method_86_code (1 : Nat) (Option.some Jvm.ClassFile.FieldType.int)) ∈ lw_all := lw_g (lw_at lw_m6 54 rfl) rfl
theorem q2061 : (Jvm.Cond.castable "CellRows" "java/lang/Object") ∈ lw_tbl := lw_at lw_m9 5 rfl
theorem in_X1 : ∀ w ∈ wsX10, w ∈ lw_all := lw_in wsX10 [415, 417, 419, 421, 423, 425, 427, 429, 431, 433, 435, 437, 439, 441, 443, 445, 447, 449, 451, 453, 455] (by decide +kernel) (by decide +kernel)
