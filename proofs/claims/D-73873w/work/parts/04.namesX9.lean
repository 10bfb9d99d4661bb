/-! CellRowsModel -/
set_option maxRecDepth 100000
def RX9 : String := "CellRowsModel"
def TX9 : u_T := fun k => match k with
  | 0 => ("CellRowsModel", "thrown", "I", false)
  | 1 => ("CellRowsModel", "status", "I", false)
  | 2 => ("CellRowsModel", "rows", "I", true)
  | 3 => ("CellRowsModel", "sites", "I", true)
  | 4 => ("CellRowsModel", "refusals", "[I", true)
  | 5 => ("CellRowsModel", "term", "[I", true)
  | 6 => ("CellRowsModel", "row", "[I", true)
  | 7 => ("CellRowsModel", "undos", "[I", true)
  | 8 => ("CellRowsModel", "sorts1", "[I", true)
  | 9 => ("CellRowsModel", "nUndo", "I", false)
  | 10 => ("CellRowsModel", "ahead", "[I", true)
  | 11 => ("CellRowsModel", "lowest", "[I", true)
  | 12 => ("CellRowsModel", "tape", "[I", true)
  | 13 => ("CellRowsModel", "taped", "I", false)
  | 14 => ("CellRowsModel", "runRow", "[I", true)
  | 15 => ("CellRowsModel", "runFence", "[I", true)
  | 16 => ("CellRowsModel", "runFirst", "[I", true)
  | 17 => ("CellRowsModel", "runLong", "[I", true)
  | 18 => ("CellRowsModel", "nRuns", "I", false)
  | 19 => ("CellRowsModel", "lies", "[I", true)
  | 20 => ("CellRowsModel", "nLies", "I", false)
  | 21 => ("CellRowsModel", "queue", "[I", true)
  | 22 => ("CellRowsModel", "nQueue", "I", false)
  | 23 => ("CellRowsModel", "goesTo", "[I", true)
  | 24 => ("CellRowsModel", "some", "[I", true)
  | 25 => ("CellRowsModel", "nSome", "I", false)
  | 26 => ("CellRowsModel", "leastFrom", "[I", true)
  | 27 => ("CellRowsModel", "order", "[I", true)
  | 28 => ("CellRowsModel", "bestOrder", "[I", true)
  | 29 => ("CellRowsModel", "some4", "[I", true)
  | 30 => ("CellRowsModel", "gaps", "[I", true)
  | 31 => ("CellRowsModel", "group", "[I", true)
  | 32 => ("CellRowsModel", "groupRow", "[I", true)
  | 33 => ("CellRowsModel", "groupSite", "[I", true)
  | 34 => ("CellRowsModel", "nGroup", "I", false)
  | 35 => ("CellRowsModel", "state", "J", false)
  | _ => ("CellRowsModel", "supplies", "[I", true)
def tyX9 : Nat → FieldType := fun k => match k with
  | 0 => .int
  | 1 => .int
  | 2 => .int
  | 3 => .int
  | 4 => .array .int
  | 5 => .array .int
  | 6 => .array .int
  | 7 => .array .int
  | 8 => .array .int
  | 9 => .int
  | 10 => .array .int
  | 11 => .array .int
  | 12 => .array .int
  | 13 => .int
  | 14 => .array .int
  | 15 => .array .int
  | 16 => .array .int
  | 17 => .array .int
  | 18 => .int
  | 19 => .array .int
  | 20 => .int
  | 21 => .array .int
  | 22 => .int
  | 23 => .array .int
  | 24 => .array .int
  | 25 => .int
  | 26 => .array .int
  | 27 => .array .int
  | 28 => .array .int
  | 29 => .array .int
  | 30 => .array .int
  | 31 => .array .int
  | 32 => .array .int
  | 33 => .array .int
  | 34 => .int
  | 35 => .long
  | _ => .array .int
abbrev wsX90 : List Cond := u_ws RX9 TX9 37
set_option maxRecDepth 100000 in
theorem nmX9 : ∀ a, a < 37 → ∀ b, b < 37 → a ≠ b → (TX9 a).2.1 ≠ (TX9 b).2.1 := by decide +kernel
set_option maxRecDepth 100000 in
theorem tyX9_ok : ∀ k, k < 37 → parseFieldDescriptor (TX9 k).2.2.1 = some (tyX9 k) := by decide +kernel
abbrev cX9_init : ByteArray := prog_15_method_1_code
def yX9_init : MethodName := ⟨RX9, "<init>", "(II)V"⟩
def dkwX9_init_13 : List UInt8 := [79, 177]
abbrev dktX9_init_13 : List UInt8 := dkwX9_init_13 ++ []
def dkwX9_init_12 : List UInt8 := [7, 79, 42, 180, 0, 13, 6, 16, 16, 79, 42, 180, 0, 13, 7, 7, 79, 42, 180, 0, 13, 8, 16, 6]
abbrev dktX9_init_12 : List UInt8 := dkwX9_init_12 ++ dktX9_init_13
def dkwX9_init_11 : List UInt8 := [181, 0, 89, 42, 180, 0, 13, 3, 16, 16, 79, 42, 180, 0, 13, 4, 16, 80, 79, 42, 180, 0, 13, 5]
abbrev dktX9_init_11 : List UInt8 := dkwX9_init_11 ++ dktX9_init_12
def dkwX9_init_10 : List UInt8 := [28, 16, 8, 162, 0, 8, 16, 8, 167, 0, 15, 28, 16, 32, 164, 0, 8, 16, 32, 167, 0, 4, 28]
abbrev dktX9_init_10 : List UInt8 := dkwX9_init_10 ++ dktX9_init_11
def dkwX9_init_9 : List UInt8 := [4, 162, 0, 7, 4, 167, 0, 15, 27, 16, 8, 164, 0, 8, 16, 8, 167, 0, 4, 27, 181, 0, 85, 42]
abbrev dktX9_init_9 : List UInt8 := dkwX9_init_9 ++ dktX9_init_10
def dkwX9_init_8 : List UInt8 := [42, 8, 188, 10, 181, 0, 76, 42, 8, 188, 10, 181, 0, 79, 42, 16, 16, 188, 10, 181, 0, 82, 42, 27]
abbrev dktX9_init_8 : List UInt8 := dkwX9_init_8 ++ dktX9_init_9
def dkwX9_init_7 : List UInt8 := [181, 0, 64, 42, 7, 188, 10, 181, 0, 67, 42, 7, 188, 10, 181, 0, 70, 42, 8, 188, 10, 181, 0, 73]
abbrev dktX9_init_7 : List UInt8 := dkwX9_init_7 ++ dktX9_init_8
def dkwX9_init_6 : List UInt8 := [181, 0, 55, 42, 17, 2, 181, 188, 10, 181, 0, 58, 42, 8, 188, 10, 181, 0, 61, 42, 8, 188, 10]
abbrev dktX9_init_6 : List UInt8 := dkwX9_init_6 ++ dktX9_init_7
def dkwX9_init_5 : List UInt8 := [181, 0, 46, 42, 16, 20, 188, 10, 181, 0, 49, 42, 16, 20, 188, 10, 181, 0, 52, 42, 16, 21, 188, 10]
abbrev dktX9_init_5 : List UInt8 := dkwX9_init_5 ++ dktX9_init_6
def dkwX9_init_4 : List UInt8 := [17, 1, 0, 188, 10, 181, 0, 40, 42, 17, 1, 0, 188, 10, 181, 0, 43, 42, 16, 20, 188, 10]
abbrev dktX9_init_4 : List UInt8 := dkwX9_init_4 ++ dktX9_init_5
def dkwX9_init_3 : List UInt8 := [181, 0, 31, 42, 17, 1, 0, 188, 10, 181, 0, 34, 42, 17, 1, 0, 188, 10, 181, 0, 37, 42]
abbrev dktX9_init_3 : List UInt8 := dkwX9_init_3 ++ dktX9_init_4
def dkwX9_init_2 : List UInt8 := [17, 1, 144, 188, 10, 181, 0, 25, 42, 17, 1, 144, 188, 10, 181, 0, 28, 42, 16, 100, 188, 10]
abbrev dktX9_init_2 : List UInt8 := dkwX9_init_2 ++ dktX9_init_3
def dkwX9_init_1 : List UInt8 := [188, 10, 181, 0, 16, 42, 17, 18, 192, 188, 10, 181, 0, 19, 42, 16, 12, 188, 10, 181, 0, 22, 42]
abbrev dktX9_init_1 : List UInt8 := dkwX9_init_1 ++ dktX9_init_2
def dkwX9_init_0 : List UInt8 := [42, 183, 0, 1, 42, 16, 7, 188, 10, 181, 0, 7, 42, 16, 6, 188, 10, 181, 0, 13, 42, 17, 1, 144]
abbrev dktX9_init_0 : List UInt8 := dkwX9_init_0 ++ dktX9_init_1
theorem dksX9_init_0 : cX9_init.data.toList.drop 0 = dktX9_init_0 := by decide +kernel
theorem dksX9_init_1 : cX9_init.data.toList.drop 24 = dktX9_init_1 := dk_seg dksX9_init_0 24 rfl rfl
theorem dksX9_init_2 : cX9_init.data.toList.drop 47 = dktX9_init_2 := dk_seg dksX9_init_1 23 rfl rfl
theorem dksX9_init_3 : cX9_init.data.toList.drop 69 = dktX9_init_3 := dk_seg dksX9_init_2 22 rfl rfl
theorem dksX9_init_4 : cX9_init.data.toList.drop 91 = dktX9_init_4 := dk_seg dksX9_init_3 22 rfl rfl
theorem dksX9_init_5 : cX9_init.data.toList.drop 113 = dktX9_init_5 := dk_seg dksX9_init_4 22 rfl rfl
theorem dksX9_init_6 : cX9_init.data.toList.drop 137 = dktX9_init_6 := dk_seg dksX9_init_5 24 rfl rfl
theorem dksX9_init_7 : cX9_init.data.toList.drop 160 = dktX9_init_7 := dk_seg dksX9_init_6 23 rfl rfl
theorem dksX9_init_8 : cX9_init.data.toList.drop 184 = dktX9_init_8 := dk_seg dksX9_init_7 24 rfl rfl
theorem dksX9_init_9 : cX9_init.data.toList.drop 208 = dktX9_init_9 := dk_seg dksX9_init_8 24 rfl rfl
theorem dksX9_init_10 : cX9_init.data.toList.drop 232 = dktX9_init_10 := dk_seg dksX9_init_9 24 rfl rfl
theorem dksX9_init_11 : cX9_init.data.toList.drop 255 = dktX9_init_11 := dk_seg dksX9_init_10 23 rfl rfl
theorem dksX9_init_12 : cX9_init.data.toList.drop 279 = dktX9_init_12 := dk_seg dksX9_init_11 24 rfl rfl
theorem dksX9_init_13 : cX9_init.data.toList.drop 303 = dktX9_init_13 := dk_seg dksX9_init_12 24 rfl rfl
theorem dX9_init_0 : decode cX9_init 0 = .ok (.aload_n 0, 1) := dk_42 (dk_at dksX9_init_0 0 rfl rfl)
theorem dX9_init_1 : decode cX9_init 1 = .ok (.invokespecial 1, 3) := dk_183 0 1 (dk_at dksX9_init_0 1 rfl rfl)
theorem dX9_init_4 : decode cX9_init 4 = .ok (.aload_n 0, 1) := dk_42 (dk_at dksX9_init_0 4 rfl rfl)
theorem dX9_init_5 : decode cX9_init 5 = .ok (.bipush 7, 2) := dk_16 7 (dk_at dksX9_init_0 5 rfl rfl)
theorem dX9_init_7 : decode cX9_init 7 = .ok (.newarray .int, 2) := dk_188_10 (dk_at dksX9_init_0 7 rfl rfl)
theorem dX9_init_9 : decode cX9_init 9 = .ok (.putfield 7, 3) := dk_181 0 7 (dk_at dksX9_init_0 9 rfl rfl)
theorem dX9_init_12 : decode cX9_init 12 = .ok (.aload_n 0, 1) := dk_42 (dk_at dksX9_init_0 12 rfl rfl)
theorem dX9_init_13 : decode cX9_init 13 = .ok (.bipush 6, 2) := dk_16 6 (dk_at dksX9_init_0 13 rfl rfl)
theorem dX9_init_15 : decode cX9_init 15 = .ok (.newarray .int, 2) := dk_188_10 (dk_at dksX9_init_0 15 rfl rfl)
theorem dX9_init_17 : decode cX9_init 17 = .ok (.putfield 13, 3) := dk_181 0 13 (dk_at dksX9_init_0 17 rfl rfl)
theorem dX9_init_20 : decode cX9_init 20 = .ok (.aload_n 0, 1) := dk_42 (dk_at dksX9_init_0 20 rfl rfl)
theorem dX9_init_21 : decode cX9_init 21 = .ok (.sipush 400, 3) := dk_17 1 144 (dk_at dksX9_init_0 21 rfl rfl)
theorem dX9_init_24 : decode cX9_init 24 = .ok (.newarray .int, 2) := dk_188_10 (dk_at dksX9_init_1 0 rfl rfl)
theorem dX9_init_26 : decode cX9_init 26 = .ok (.putfield 16, 3) := dk_181 0 16 (dk_at dksX9_init_1 2 rfl rfl)
theorem dX9_init_29 : decode cX9_init 29 = .ok (.aload_n 0, 1) := dk_42 (dk_at dksX9_init_1 5 rfl rfl)
theorem dX9_init_30 : decode cX9_init 30 = .ok (.sipush 4800, 3) := dk_17 18 192 (dk_at dksX9_init_1 6 rfl rfl)
theorem dX9_init_33 : decode cX9_init 33 = .ok (.newarray .int, 2) := dk_188_10 (dk_at dksX9_init_1 9 rfl rfl)
theorem dX9_init_35 : decode cX9_init 35 = .ok (.putfield 19, 3) := dk_181 0 19 (dk_at dksX9_init_1 11 rfl rfl)
theorem dX9_init_38 : decode cX9_init 38 = .ok (.aload_n 0, 1) := dk_42 (dk_at dksX9_init_1 14 rfl rfl)
theorem dX9_init_39 : decode cX9_init 39 = .ok (.bipush 12, 2) := dk_16 12 (dk_at dksX9_init_1 15 rfl rfl)
theorem dX9_init_41 : decode cX9_init 41 = .ok (.newarray .int, 2) := dk_188_10 (dk_at dksX9_init_1 17 rfl rfl)
theorem dX9_init_43 : decode cX9_init 43 = .ok (.putfield 22, 3) := dk_181 0 22 (dk_at dksX9_init_1 19 rfl rfl)
theorem dX9_init_46 : decode cX9_init 46 = .ok (.aload_n 0, 1) := dk_42 (dk_at dksX9_init_1 22 rfl rfl)
theorem dX9_init_47 : decode cX9_init 47 = .ok (.sipush 400, 3) := dk_17 1 144 (dk_at dksX9_init_2 0 rfl rfl)
theorem dX9_init_50 : decode cX9_init 50 = .ok (.newarray .int, 2) := dk_188_10 (dk_at dksX9_init_2 3 rfl rfl)
theorem dX9_init_52 : decode cX9_init 52 = .ok (.putfield 25, 3) := dk_181 0 25 (dk_at dksX9_init_2 5 rfl rfl)
theorem dX9_init_55 : decode cX9_init 55 = .ok (.aload_n 0, 1) := dk_42 (dk_at dksX9_init_2 8 rfl rfl)
theorem dX9_init_56 : decode cX9_init 56 = .ok (.sipush 400, 3) := dk_17 1 144 (dk_at dksX9_init_2 9 rfl rfl)
theorem dX9_init_59 : decode cX9_init 59 = .ok (.newarray .int, 2) := dk_188_10 (dk_at dksX9_init_2 12 rfl rfl)
theorem dX9_init_61 : decode cX9_init 61 = .ok (.putfield 28, 3) := dk_181 0 28 (dk_at dksX9_init_2 14 rfl rfl)
theorem dX9_init_64 : decode cX9_init 64 = .ok (.aload_n 0, 1) := dk_42 (dk_at dksX9_init_2 17 rfl rfl)
theorem dX9_init_65 : decode cX9_init 65 = .ok (.bipush 100, 2) := dk_16 100 (dk_at dksX9_init_2 18 rfl rfl)
theorem dX9_init_67 : decode cX9_init 67 = .ok (.newarray .int, 2) := dk_188_10 (dk_at dksX9_init_2 20 rfl rfl)
theorem dX9_init_69 : decode cX9_init 69 = .ok (.putfield 31, 3) := dk_181 0 31 (dk_at dksX9_init_3 0 rfl rfl)
theorem dX9_init_72 : decode cX9_init 72 = .ok (.aload_n 0, 1) := dk_42 (dk_at dksX9_init_3 3 rfl rfl)
theorem dX9_init_73 : decode cX9_init 73 = .ok (.sipush 256, 3) := dk_17 1 0 (dk_at dksX9_init_3 4 rfl rfl)
theorem dX9_init_76 : decode cX9_init 76 = .ok (.newarray .int, 2) := dk_188_10 (dk_at dksX9_init_3 7 rfl rfl)
theorem dX9_init_78 : decode cX9_init 78 = .ok (.putfield 34, 3) := dk_181 0 34 (dk_at dksX9_init_3 9 rfl rfl)
theorem dX9_init_81 : decode cX9_init 81 = .ok (.aload_n 0, 1) := dk_42 (dk_at dksX9_init_3 12 rfl rfl)
theorem dX9_init_82 : decode cX9_init 82 = .ok (.sipush 256, 3) := dk_17 1 0 (dk_at dksX9_init_3 13 rfl rfl)
theorem dX9_init_85 : decode cX9_init 85 = .ok (.newarray .int, 2) := dk_188_10 (dk_at dksX9_init_3 16 rfl rfl)
theorem dX9_init_87 : decode cX9_init 87 = .ok (.putfield 37, 3) := dk_181 0 37 (dk_at dksX9_init_3 18 rfl rfl)
theorem dX9_init_90 : decode cX9_init 90 = .ok (.aload_n 0, 1) := dk_42 (dk_at dksX9_init_3 21 rfl rfl)
theorem dX9_init_91 : decode cX9_init 91 = .ok (.sipush 256, 3) := dk_17 1 0 (dk_at dksX9_init_4 0 rfl rfl)
theorem dX9_init_94 : decode cX9_init 94 = .ok (.newarray .int, 2) := dk_188_10 (dk_at dksX9_init_4 3 rfl rfl)
theorem dX9_init_96 : decode cX9_init 96 = .ok (.putfield 40, 3) := dk_181 0 40 (dk_at dksX9_init_4 5 rfl rfl)
theorem dX9_init_99 : decode cX9_init 99 = .ok (.aload_n 0, 1) := dk_42 (dk_at dksX9_init_4 8 rfl rfl)
theorem dX9_init_100 : decode cX9_init 100 = .ok (.sipush 256, 3) := dk_17 1 0 (dk_at dksX9_init_4 9 rfl rfl)
theorem dX9_init_103 : decode cX9_init 103 = .ok (.newarray .int, 2) := dk_188_10 (dk_at dksX9_init_4 12 rfl rfl)
theorem dX9_init_105 : decode cX9_init 105 = .ok (.putfield 43, 3) := dk_181 0 43 (dk_at dksX9_init_4 14 rfl rfl)
theorem dX9_init_108 : decode cX9_init 108 = .ok (.aload_n 0, 1) := dk_42 (dk_at dksX9_init_4 17 rfl rfl)
theorem dX9_init_109 : decode cX9_init 109 = .ok (.bipush 20, 2) := dk_16 20 (dk_at dksX9_init_4 18 rfl rfl)
theorem dX9_init_111 : decode cX9_init 111 = .ok (.newarray .int, 2) := dk_188_10 (dk_at dksX9_init_4 20 rfl rfl)
theorem dX9_init_113 : decode cX9_init 113 = .ok (.putfield 46, 3) := dk_181 0 46 (dk_at dksX9_init_5 0 rfl rfl)
theorem dX9_init_116 : decode cX9_init 116 = .ok (.aload_n 0, 1) := dk_42 (dk_at dksX9_init_5 3 rfl rfl)
theorem dX9_init_117 : decode cX9_init 117 = .ok (.bipush 20, 2) := dk_16 20 (dk_at dksX9_init_5 4 rfl rfl)
theorem dX9_init_119 : decode cX9_init 119 = .ok (.newarray .int, 2) := dk_188_10 (dk_at dksX9_init_5 6 rfl rfl)
theorem dX9_init_121 : decode cX9_init 121 = .ok (.putfield 49, 3) := dk_181 0 49 (dk_at dksX9_init_5 8 rfl rfl)
theorem dX9_init_124 : decode cX9_init 124 = .ok (.aload_n 0, 1) := dk_42 (dk_at dksX9_init_5 11 rfl rfl)
theorem dX9_init_125 : decode cX9_init 125 = .ok (.bipush 20, 2) := dk_16 20 (dk_at dksX9_init_5 12 rfl rfl)
theorem dX9_init_127 : decode cX9_init 127 = .ok (.newarray .int, 2) := dk_188_10 (dk_at dksX9_init_5 14 rfl rfl)
theorem dX9_init_129 : decode cX9_init 129 = .ok (.putfield 52, 3) := dk_181 0 52 (dk_at dksX9_init_5 16 rfl rfl)
theorem dX9_init_132 : decode cX9_init 132 = .ok (.aload_n 0, 1) := dk_42 (dk_at dksX9_init_5 19 rfl rfl)
theorem dX9_init_133 : decode cX9_init 133 = .ok (.bipush 21, 2) := dk_16 21 (dk_at dksX9_init_5 20 rfl rfl)
theorem dX9_init_135 : decode cX9_init 135 = .ok (.newarray .int, 2) := dk_188_10 (dk_at dksX9_init_5 22 rfl rfl)
theorem dX9_init_137 : decode cX9_init 137 = .ok (.putfield 55, 3) := dk_181 0 55 (dk_at dksX9_init_6 0 rfl rfl)
theorem dX9_init_140 : decode cX9_init 140 = .ok (.aload_n 0, 1) := dk_42 (dk_at dksX9_init_6 3 rfl rfl)
theorem dX9_init_141 : decode cX9_init 141 = .ok (.sipush 693, 3) := dk_17 2 181 (dk_at dksX9_init_6 4 rfl rfl)
theorem dX9_init_144 : decode cX9_init 144 = .ok (.newarray .int, 2) := dk_188_10 (dk_at dksX9_init_6 7 rfl rfl)
theorem dX9_init_146 : decode cX9_init 146 = .ok (.putfield 58, 3) := dk_181 0 58 (dk_at dksX9_init_6 9 rfl rfl)
theorem dX9_init_149 : decode cX9_init 149 = .ok (.aload_n 0, 1) := dk_42 (dk_at dksX9_init_6 12 rfl rfl)
theorem dX9_init_150 : decode cX9_init 150 = .ok (.iconst 5, 1) := dk_8 (dk_at dksX9_init_6 13 rfl rfl)
theorem dX9_init_151 : decode cX9_init 151 = .ok (.newarray .int, 2) := dk_188_10 (dk_at dksX9_init_6 14 rfl rfl)
theorem dX9_init_153 : decode cX9_init 153 = .ok (.putfield 61, 3) := dk_181 0 61 (dk_at dksX9_init_6 16 rfl rfl)
theorem dX9_init_156 : decode cX9_init 156 = .ok (.aload_n 0, 1) := dk_42 (dk_at dksX9_init_6 19 rfl rfl)
theorem dX9_init_157 : decode cX9_init 157 = .ok (.iconst 5, 1) := dk_8 (dk_at dksX9_init_6 20 rfl rfl)
theorem dX9_init_158 : decode cX9_init 158 = .ok (.newarray .int, 2) := dk_188_10 (dk_at dksX9_init_6 21 rfl rfl)
theorem dX9_init_160 : decode cX9_init 160 = .ok (.putfield 64, 3) := dk_181 0 64 (dk_at dksX9_init_7 0 rfl rfl)
theorem dX9_init_163 : decode cX9_init 163 = .ok (.aload_n 0, 1) := dk_42 (dk_at dksX9_init_7 3 rfl rfl)
theorem dX9_init_164 : decode cX9_init 164 = .ok (.iconst 4, 1) := dk_7 (dk_at dksX9_init_7 4 rfl rfl)
theorem dX9_init_165 : decode cX9_init 165 = .ok (.newarray .int, 2) := dk_188_10 (dk_at dksX9_init_7 5 rfl rfl)
theorem dX9_init_167 : decode cX9_init 167 = .ok (.putfield 67, 3) := dk_181 0 67 (dk_at dksX9_init_7 7 rfl rfl)
theorem dX9_init_170 : decode cX9_init 170 = .ok (.aload_n 0, 1) := dk_42 (dk_at dksX9_init_7 10 rfl rfl)
theorem dX9_init_171 : decode cX9_init 171 = .ok (.iconst 4, 1) := dk_7 (dk_at dksX9_init_7 11 rfl rfl)
theorem dX9_init_172 : decode cX9_init 172 = .ok (.newarray .int, 2) := dk_188_10 (dk_at dksX9_init_7 12 rfl rfl)
theorem dX9_init_174 : decode cX9_init 174 = .ok (.putfield 70, 3) := dk_181 0 70 (dk_at dksX9_init_7 14 rfl rfl)
theorem dX9_init_177 : decode cX9_init 177 = .ok (.aload_n 0, 1) := dk_42 (dk_at dksX9_init_7 17 rfl rfl)
theorem dX9_init_178 : decode cX9_init 178 = .ok (.iconst 5, 1) := dk_8 (dk_at dksX9_init_7 18 rfl rfl)
theorem dX9_init_179 : decode cX9_init 179 = .ok (.newarray .int, 2) := dk_188_10 (dk_at dksX9_init_7 19 rfl rfl)
theorem dX9_init_181 : decode cX9_init 181 = .ok (.putfield 73, 3) := dk_181 0 73 (dk_at dksX9_init_7 21 rfl rfl)
theorem dX9_init_184 : decode cX9_init 184 = .ok (.aload_n 0, 1) := dk_42 (dk_at dksX9_init_8 0 rfl rfl)
theorem dX9_init_185 : decode cX9_init 185 = .ok (.iconst 5, 1) := dk_8 (dk_at dksX9_init_8 1 rfl rfl)
theorem dX9_init_186 : decode cX9_init 186 = .ok (.newarray .int, 2) := dk_188_10 (dk_at dksX9_init_8 2 rfl rfl)
theorem dX9_init_188 : decode cX9_init 188 = .ok (.putfield 76, 3) := dk_181 0 76 (dk_at dksX9_init_8 4 rfl rfl)
theorem dX9_init_191 : decode cX9_init 191 = .ok (.aload_n 0, 1) := dk_42 (dk_at dksX9_init_8 7 rfl rfl)
theorem dX9_init_192 : decode cX9_init 192 = .ok (.iconst 5, 1) := dk_8 (dk_at dksX9_init_8 8 rfl rfl)
theorem dX9_init_193 : decode cX9_init 193 = .ok (.newarray .int, 2) := dk_188_10 (dk_at dksX9_init_8 9 rfl rfl)
theorem dX9_init_195 : decode cX9_init 195 = .ok (.putfield 79, 3) := dk_181 0 79 (dk_at dksX9_init_8 11 rfl rfl)
theorem dX9_init_198 : decode cX9_init 198 = .ok (.aload_n 0, 1) := dk_42 (dk_at dksX9_init_8 14 rfl rfl)
theorem dX9_init_199 : decode cX9_init 199 = .ok (.bipush 16, 2) := dk_16 16 (dk_at dksX9_init_8 15 rfl rfl)
theorem dX9_init_201 : decode cX9_init 201 = .ok (.newarray .int, 2) := dk_188_10 (dk_at dksX9_init_8 17 rfl rfl)
theorem dX9_init_203 : decode cX9_init 203 = .ok (.putfield 82, 3) := dk_181 0 82 (dk_at dksX9_init_8 19 rfl rfl)
theorem dX9_init_206 : decode cX9_init 206 = .ok (.aload_n 0, 1) := dk_42 (dk_at dksX9_init_8 22 rfl rfl)
theorem dX9_init_207 : decode cX9_init 207 = .ok (.iload_n 1, 1) := dk_27 (dk_at dksX9_init_8 23 rfl rfl)
theorem dX9_init_208 : decode cX9_init 208 = .ok (.iconst 1, 1) := dk_4 (dk_at dksX9_init_9 0 rfl rfl)
theorem dX9_init_209 : decode cX9_init 209 = .ok (.if_icmp .ge 7, 3) := dk_162 0 7 (dk_at dksX9_init_9 1 rfl rfl)
theorem dX9_init_212 : decode cX9_init 212 = .ok (.iconst 1, 1) := dk_4 (dk_at dksX9_init_9 4 rfl rfl)
theorem dX9_init_213 : decode cX9_init 213 = .ok (.goto 15, 3) := dk_167 0 15 (dk_at dksX9_init_9 5 rfl rfl)
theorem dX9_init_216 : decode cX9_init 216 = .ok (.iload_n 1, 1) := dk_27 (dk_at dksX9_init_9 8 rfl rfl)
theorem dX9_init_217 : decode cX9_init 217 = .ok (.bipush 8, 2) := dk_16 8 (dk_at dksX9_init_9 9 rfl rfl)
theorem dX9_init_219 : decode cX9_init 219 = .ok (.if_icmp .le 8, 3) := dk_164 0 8 (dk_at dksX9_init_9 11 rfl rfl)
theorem dX9_init_222 : decode cX9_init 222 = .ok (.bipush 8, 2) := dk_16 8 (dk_at dksX9_init_9 14 rfl rfl)
theorem dX9_init_224 : decode cX9_init 224 = .ok (.goto 4, 3) := dk_167 0 4 (dk_at dksX9_init_9 16 rfl rfl)
theorem dX9_init_227 : decode cX9_init 227 = .ok (.iload_n 1, 1) := dk_27 (dk_at dksX9_init_9 19 rfl rfl)
theorem dX9_init_228 : decode cX9_init 228 = .ok (.putfield 85, 3) := dk_181 0 85 (dk_at dksX9_init_9 20 rfl rfl)
theorem dX9_init_231 : decode cX9_init 231 = .ok (.aload_n 0, 1) := dk_42 (dk_at dksX9_init_9 23 rfl rfl)
theorem dX9_init_232 : decode cX9_init 232 = .ok (.iload_n 2, 1) := dk_28 (dk_at dksX9_init_10 0 rfl rfl)
theorem dX9_init_233 : decode cX9_init 233 = .ok (.bipush 8, 2) := dk_16 8 (dk_at dksX9_init_10 1 rfl rfl)
theorem dX9_init_235 : decode cX9_init 235 = .ok (.if_icmp .ge 8, 3) := dk_162 0 8 (dk_at dksX9_init_10 3 rfl rfl)
theorem dX9_init_238 : decode cX9_init 238 = .ok (.bipush 8, 2) := dk_16 8 (dk_at dksX9_init_10 6 rfl rfl)
theorem dX9_init_240 : decode cX9_init 240 = .ok (.goto 15, 3) := dk_167 0 15 (dk_at dksX9_init_10 8 rfl rfl)
theorem dX9_init_243 : decode cX9_init 243 = .ok (.iload_n 2, 1) := dk_28 (dk_at dksX9_init_10 11 rfl rfl)
theorem dX9_init_244 : decode cX9_init 244 = .ok (.bipush 32, 2) := dk_16 32 (dk_at dksX9_init_10 12 rfl rfl)
theorem dX9_init_246 : decode cX9_init 246 = .ok (.if_icmp .le 8, 3) := dk_164 0 8 (dk_at dksX9_init_10 14 rfl rfl)
theorem dX9_init_249 : decode cX9_init 249 = .ok (.bipush 32, 2) := dk_16 32 (dk_at dksX9_init_10 17 rfl rfl)
theorem dX9_init_251 : decode cX9_init 251 = .ok (.goto 4, 3) := dk_167 0 4 (dk_at dksX9_init_10 19 rfl rfl)
theorem dX9_init_254 : decode cX9_init 254 = .ok (.iload_n 2, 1) := dk_28 (dk_at dksX9_init_10 22 rfl rfl)
theorem dX9_init_255 : decode cX9_init 255 = .ok (.putfield 89, 3) := dk_181 0 89 (dk_at dksX9_init_11 0 rfl rfl)
theorem dX9_init_258 : decode cX9_init 258 = .ok (.aload_n 0, 1) := dk_42 (dk_at dksX9_init_11 3 rfl rfl)
theorem dX9_init_259 : decode cX9_init 259 = .ok (.getfield 13, 3) := dk_180 0 13 (dk_at dksX9_init_11 4 rfl rfl)
theorem dX9_init_262 : decode cX9_init 262 = .ok (.iconst 0, 1) := dk_3 (dk_at dksX9_init_11 7 rfl rfl)
theorem dX9_init_263 : decode cX9_init 263 = .ok (.bipush 16, 2) := dk_16 16 (dk_at dksX9_init_11 8 rfl rfl)
theorem dX9_init_265 : decode cX9_init 265 = .ok (.iastore, 1) := dk_79 (dk_at dksX9_init_11 10 rfl rfl)
theorem dX9_init_266 : decode cX9_init 266 = .ok (.aload_n 0, 1) := dk_42 (dk_at dksX9_init_11 11 rfl rfl)
theorem dX9_init_267 : decode cX9_init 267 = .ok (.getfield 13, 3) := dk_180 0 13 (dk_at dksX9_init_11 12 rfl rfl)
theorem dX9_init_270 : decode cX9_init 270 = .ok (.iconst 1, 1) := dk_4 (dk_at dksX9_init_11 15 rfl rfl)
theorem dX9_init_271 : decode cX9_init 271 = .ok (.bipush 80, 2) := dk_16 80 (dk_at dksX9_init_11 16 rfl rfl)
theorem dX9_init_273 : decode cX9_init 273 = .ok (.iastore, 1) := dk_79 (dk_at dksX9_init_11 18 rfl rfl)
theorem dX9_init_274 : decode cX9_init 274 = .ok (.aload_n 0, 1) := dk_42 (dk_at dksX9_init_11 19 rfl rfl)
theorem dX9_init_275 : decode cX9_init 275 = .ok (.getfield 13, 3) := dk_180 0 13 (dk_at dksX9_init_11 20 rfl rfl)
theorem dX9_init_278 : decode cX9_init 278 = .ok (.iconst 2, 1) := dk_5 (dk_at dksX9_init_11 23 rfl rfl)
theorem dX9_init_279 : decode cX9_init 279 = .ok (.iconst 4, 1) := dk_7 (dk_at dksX9_init_12 0 rfl rfl)
theorem dX9_init_280 : decode cX9_init 280 = .ok (.iastore, 1) := dk_79 (dk_at dksX9_init_12 1 rfl rfl)
theorem dX9_init_281 : decode cX9_init 281 = .ok (.aload_n 0, 1) := dk_42 (dk_at dksX9_init_12 2 rfl rfl)
theorem dX9_init_282 : decode cX9_init 282 = .ok (.getfield 13, 3) := dk_180 0 13 (dk_at dksX9_init_12 3 rfl rfl)
theorem dX9_init_285 : decode cX9_init 285 = .ok (.iconst 3, 1) := dk_6 (dk_at dksX9_init_12 6 rfl rfl)
theorem dX9_init_286 : decode cX9_init 286 = .ok (.bipush 16, 2) := dk_16 16 (dk_at dksX9_init_12 7 rfl rfl)
theorem dX9_init_288 : decode cX9_init 288 = .ok (.iastore, 1) := dk_79 (dk_at dksX9_init_12 9 rfl rfl)
theorem dX9_init_289 : decode cX9_init 289 = .ok (.aload_n 0, 1) := dk_42 (dk_at dksX9_init_12 10 rfl rfl)
theorem dX9_init_290 : decode cX9_init 290 = .ok (.getfield 13, 3) := dk_180 0 13 (dk_at dksX9_init_12 11 rfl rfl)
theorem dX9_init_293 : decode cX9_init 293 = .ok (.iconst 4, 1) := dk_7 (dk_at dksX9_init_12 14 rfl rfl)
theorem dX9_init_294 : decode cX9_init 294 = .ok (.iconst 4, 1) := dk_7 (dk_at dksX9_init_12 15 rfl rfl)
theorem dX9_init_295 : decode cX9_init 295 = .ok (.iastore, 1) := dk_79 (dk_at dksX9_init_12 16 rfl rfl)
theorem dX9_init_296 : decode cX9_init 296 = .ok (.aload_n 0, 1) := dk_42 (dk_at dksX9_init_12 17 rfl rfl)
theorem dX9_init_297 : decode cX9_init 297 = .ok (.getfield 13, 3) := dk_180 0 13 (dk_at dksX9_init_12 18 rfl rfl)
theorem dX9_init_300 : decode cX9_init 300 = .ok (.iconst 5, 1) := dk_8 (dk_at dksX9_init_12 21 rfl rfl)
theorem dX9_init_301 : decode cX9_init 301 = .ok (.bipush 6, 2) := dk_16 6 (dk_at dksX9_init_12 22 rfl rfl)
theorem dX9_init_303 : decode cX9_init 303 = .ok (.iastore, 1) := dk_79 (dk_at dksX9_init_13 0 rfl rfl)
theorem dX9_init_304 : decode cX9_init 304 = .ok (.return_, 1) := dk_177 (dk_at dksX9_init_13 1 rfl rfl)
abbrev cX9_undo : ByteArray := prog_15_method_11_code
def yX9_undo : MethodName := ⟨RX9, "undo", "()I"⟩
def dkwX9_undo_2 : List UInt8 := [184, 0, 101, 42, 42, 180, 0, 22, 42, 180, 0, 98, 46, 182, 0, 109, 172]
abbrev dktX9_undo_2 : List UInt8 := dkwX9_undo_2 ++ []
def dkwX9_undo_1 : List UInt8 := [4, 100, 181, 0, 98, 42, 180, 0, 19, 17, 1, 144, 42, 180, 0, 98, 104, 42, 180, 0, 16, 3]
abbrev dktX9_undo_1 : List UInt8 := dkwX9_undo_1 ++ dktX9_undo_2
def dkwX9_undo_0 : List UInt8 := [42, 3, 181, 0, 92, 42, 180, 0, 98, 154, 0, 10, 42, 16, 252, 182, 0, 105, 172, 42, 89, 180, 0, 98]
abbrev dktX9_undo_0 : List UInt8 := dkwX9_undo_0 ++ dktX9_undo_1
theorem dksX9_undo_0 : cX9_undo.data.toList.drop 0 = dktX9_undo_0 := by decide +kernel
theorem dksX9_undo_1 : cX9_undo.data.toList.drop 24 = dktX9_undo_1 := dk_seg dksX9_undo_0 24 rfl rfl
theorem dksX9_undo_2 : cX9_undo.data.toList.drop 46 = dktX9_undo_2 := dk_seg dksX9_undo_1 22 rfl rfl
theorem dX9_undo_0 : decode cX9_undo 0 = .ok (.aload_n 0, 1) := dk_42 (dk_at dksX9_undo_0 0 rfl rfl)
theorem dX9_undo_1 : decode cX9_undo 1 = .ok (.iconst 0, 1) := dk_3 (dk_at dksX9_undo_0 1 rfl rfl)
theorem dX9_undo_2 : decode cX9_undo 2 = .ok (.putfield 92, 3) := dk_181 0 92 (dk_at dksX9_undo_0 2 rfl rfl)
theorem dX9_undo_5 : decode cX9_undo 5 = .ok (.aload_n 0, 1) := dk_42 (dk_at dksX9_undo_0 5 rfl rfl)
theorem dX9_undo_6 : decode cX9_undo 6 = .ok (.getfield 98, 3) := dk_180 0 98 (dk_at dksX9_undo_0 6 rfl rfl)
theorem dX9_undo_9 : decode cX9_undo 9 = .ok (.ifCond .ne 10, 3) := dk_154 0 10 (dk_at dksX9_undo_0 9 rfl rfl)
theorem dX9_undo_12 : decode cX9_undo 12 = .ok (.aload_n 0, 1) := dk_42 (dk_at dksX9_undo_0 12 rfl rfl)
theorem dX9_undo_13 : decode cX9_undo 13 = .ok (.bipush (-4), 2) := dk_16 252 (dk_at dksX9_undo_0 13 rfl rfl)
theorem dX9_undo_15 : decode cX9_undo 15 = .ok (.invokevirtual 105, 3) := dk_182 0 105 (dk_at dksX9_undo_0 15 rfl rfl)
theorem dX9_undo_18 : decode cX9_undo 18 = .ok (.ireturn, 1) := dk_172 (dk_at dksX9_undo_0 18 rfl rfl)
theorem dX9_undo_19 : decode cX9_undo 19 = .ok (.aload_n 0, 1) := dk_42 (dk_at dksX9_undo_0 19 rfl rfl)
theorem dX9_undo_20 : decode cX9_undo 20 = .ok (.dup, 1) := dk_89 (dk_at dksX9_undo_0 20 rfl rfl)
theorem dX9_undo_21 : decode cX9_undo 21 = .ok (.getfield 98, 3) := dk_180 0 98 (dk_at dksX9_undo_0 21 rfl rfl)
theorem dX9_undo_24 : decode cX9_undo 24 = .ok (.iconst 1, 1) := dk_4 (dk_at dksX9_undo_1 0 rfl rfl)
theorem dX9_undo_25 : decode cX9_undo 25 = .ok (.isub, 1) := dk_100 (dk_at dksX9_undo_1 1 rfl rfl)
theorem dX9_undo_26 : decode cX9_undo 26 = .ok (.putfield 98, 3) := dk_181 0 98 (dk_at dksX9_undo_1 2 rfl rfl)
theorem dX9_undo_29 : decode cX9_undo 29 = .ok (.aload_n 0, 1) := dk_42 (dk_at dksX9_undo_1 5 rfl rfl)
theorem dX9_undo_30 : decode cX9_undo 30 = .ok (.getfield 19, 3) := dk_180 0 19 (dk_at dksX9_undo_1 6 rfl rfl)
theorem dX9_undo_33 : decode cX9_undo 33 = .ok (.sipush 400, 3) := dk_17 1 144 (dk_at dksX9_undo_1 9 rfl rfl)
theorem dX9_undo_36 : decode cX9_undo 36 = .ok (.aload_n 0, 1) := dk_42 (dk_at dksX9_undo_1 12 rfl rfl)
theorem dX9_undo_37 : decode cX9_undo 37 = .ok (.getfield 98, 3) := dk_180 0 98 (dk_at dksX9_undo_1 13 rfl rfl)
theorem dX9_undo_40 : decode cX9_undo 40 = .ok (.imul, 1) := dk_104 (dk_at dksX9_undo_1 16 rfl rfl)
theorem dX9_undo_41 : decode cX9_undo 41 = .ok (.aload_n 0, 1) := dk_42 (dk_at dksX9_undo_1 17 rfl rfl)
theorem dX9_undo_42 : decode cX9_undo 42 = .ok (.getfield 16, 3) := dk_180 0 16 (dk_at dksX9_undo_1 18 rfl rfl)
theorem dX9_undo_45 : decode cX9_undo 45 = .ok (.iconst 0, 1) := dk_3 (dk_at dksX9_undo_1 21 rfl rfl)
theorem dX9_undo_46 : decode cX9_undo 46 = .ok (.invokestatic 101, 3) := dk_184 0 101 (dk_at dksX9_undo_2 0 rfl rfl)
theorem dX9_undo_49 : decode cX9_undo 49 = .ok (.aload_n 0, 1) := dk_42 (dk_at dksX9_undo_2 3 rfl rfl)
theorem dX9_undo_50 : decode cX9_undo 50 = .ok (.aload_n 0, 1) := dk_42 (dk_at dksX9_undo_2 4 rfl rfl)
theorem dX9_undo_51 : decode cX9_undo 51 = .ok (.getfield 22, 3) := dk_180 0 22 (dk_at dksX9_undo_2 5 rfl rfl)
theorem dX9_undo_54 : decode cX9_undo 54 = .ok (.aload_n 0, 1) := dk_42 (dk_at dksX9_undo_2 8 rfl rfl)
theorem dX9_undo_55 : decode cX9_undo 55 = .ok (.getfield 98, 3) := dk_180 0 98 (dk_at dksX9_undo_2 9 rfl rfl)
theorem dX9_undo_58 : decode cX9_undo 58 = .ok (.iaload, 1) := dk_46 (dk_at dksX9_undo_2 12 rfl rfl)
theorem dX9_undo_59 : decode cX9_undo 59 = .ok (.invokevirtual 109, 3) := dk_182 0 109 (dk_at dksX9_undo_2 13 rfl rfl)
theorem dX9_undo_62 : decode cX9_undo 62 = .ok (.ireturn, 1) := dk_172 (dk_at dksX9_undo_2 16 rfl rfl)
abbrev cX9_refuse : ByteArray := prog_15_method_8_code
def yX9_refuse : MethodName := ⟨RX9, "refuse", "(I)I"⟩
def dkwX9_refuse_0 : List UInt8 := [42, 27, 181, 0, 95, 42, 180, 0, 7, 27, 116, 92, 46, 4, 96, 79, 27, 172]
abbrev dktX9_refuse_0 : List UInt8 := dkwX9_refuse_0 ++ []
theorem dksX9_refuse_0 : cX9_refuse.data.toList.drop 0 = dktX9_refuse_0 := by decide +kernel
theorem dX9_refuse_0 : decode cX9_refuse 0 = .ok (.aload_n 0, 1) := dk_42 (dk_at dksX9_refuse_0 0 rfl rfl)
theorem dX9_refuse_1 : decode cX9_refuse 1 = .ok (.iload_n 1, 1) := dk_27 (dk_at dksX9_refuse_0 1 rfl rfl)
theorem dX9_refuse_2 : decode cX9_refuse 2 = .ok (.putfield 95, 3) := dk_181 0 95 (dk_at dksX9_refuse_0 2 rfl rfl)
theorem dX9_refuse_5 : decode cX9_refuse 5 = .ok (.aload_n 0, 1) := dk_42 (dk_at dksX9_refuse_0 5 rfl rfl)
theorem dX9_refuse_6 : decode cX9_refuse 6 = .ok (.getfield 7, 3) := dk_180 0 7 (dk_at dksX9_refuse_0 6 rfl rfl)
theorem dX9_refuse_9 : decode cX9_refuse 9 = .ok (.iload_n 1, 1) := dk_27 (dk_at dksX9_refuse_0 9 rfl rfl)
theorem dX9_refuse_10 : decode cX9_refuse 10 = .ok (.ineg, 1) := dk_116 (dk_at dksX9_refuse_0 10 rfl rfl)
theorem dX9_refuse_11 : decode cX9_refuse 11 = .ok (.dup2, 1) := dk_92 (dk_at dksX9_refuse_0 11 rfl rfl)
theorem dX9_refuse_12 : decode cX9_refuse 12 = .ok (.iaload, 1) := dk_46 (dk_at dksX9_refuse_0 12 rfl rfl)
theorem dX9_refuse_13 : decode cX9_refuse 13 = .ok (.iconst 1, 1) := dk_4 (dk_at dksX9_refuse_0 13 rfl rfl)
theorem dX9_refuse_14 : decode cX9_refuse 14 = .ok (.iadd, 1) := dk_96 (dk_at dksX9_refuse_0 14 rfl rfl)
theorem dX9_refuse_15 : decode cX9_refuse 15 = .ok (.iastore, 1) := dk_79 (dk_at dksX9_refuse_0 15 rfl rfl)
theorem dX9_refuse_16 : decode cX9_refuse 16 = .ok (.iload_n 1, 1) := dk_27 (dk_at dksX9_refuse_0 16 rfl rfl)
theorem dX9_refuse_17 : decode cX9_refuse 17 = .ok (.ireturn, 1) := dk_172 (dk_at dksX9_refuse_0 17 rfl rfl)
abbrev cX9_copy : ByteArray := prog_15_method_9_code
def yX9_copy : MethodName := ⟨RX9, "copy", "([II[II)V"⟩
def dkwX9_copy_1 : List UInt8 := [132, 4, 1, 167, 255, 233, 177]
abbrev dktX9_copy_1 : List UInt8 := dkwX9_copy_1 ++ []
def dkwX9_copy_0 : List UInt8 := [3, 54, 4, 21, 4, 17, 1, 144, 162, 0, 21, 44, 29, 21, 4, 96, 42, 27, 21, 4, 96, 46, 79]
abbrev dktX9_copy_0 : List UInt8 := dkwX9_copy_0 ++ dktX9_copy_1
theorem dksX9_copy_0 : cX9_copy.data.toList.drop 0 = dktX9_copy_0 := by decide +kernel
theorem dksX9_copy_1 : cX9_copy.data.toList.drop 23 = dktX9_copy_1 := dk_seg dksX9_copy_0 23 rfl rfl
theorem dX9_copy_0 : decode cX9_copy 0 = .ok (.iconst 0, 1) := dk_3 (dk_at dksX9_copy_0 0 rfl rfl)
theorem dX9_copy_1 : decode cX9_copy 1 = .ok (.istore 4, 2) := dk_54 4 (dk_at dksX9_copy_0 1 rfl rfl)
theorem dX9_copy_3 : decode cX9_copy 3 = .ok (.iload 4, 2) := dk_21 4 (dk_at dksX9_copy_0 3 rfl rfl)
theorem dX9_copy_5 : decode cX9_copy 5 = .ok (.sipush 400, 3) := dk_17 1 144 (dk_at dksX9_copy_0 5 rfl rfl)
theorem dX9_copy_8 : decode cX9_copy 8 = .ok (.if_icmp .ge 21, 3) := dk_162 0 21 (dk_at dksX9_copy_0 8 rfl rfl)
theorem dX9_copy_11 : decode cX9_copy 11 = .ok (.aload_n 2, 1) := dk_44 (dk_at dksX9_copy_0 11 rfl rfl)
theorem dX9_copy_12 : decode cX9_copy 12 = .ok (.iload_n 3, 1) := dk_29 (dk_at dksX9_copy_0 12 rfl rfl)
theorem dX9_copy_13 : decode cX9_copy 13 = .ok (.iload 4, 2) := dk_21 4 (dk_at dksX9_copy_0 13 rfl rfl)
theorem dX9_copy_15 : decode cX9_copy 15 = .ok (.iadd, 1) := dk_96 (dk_at dksX9_copy_0 15 rfl rfl)
theorem dX9_copy_16 : decode cX9_copy 16 = .ok (.aload_n 0, 1) := dk_42 (dk_at dksX9_copy_0 16 rfl rfl)
theorem dX9_copy_17 : decode cX9_copy 17 = .ok (.iload_n 1, 1) := dk_27 (dk_at dksX9_copy_0 17 rfl rfl)
theorem dX9_copy_18 : decode cX9_copy 18 = .ok (.iload 4, 2) := dk_21 4 (dk_at dksX9_copy_0 18 rfl rfl)
theorem dX9_copy_20 : decode cX9_copy 20 = .ok (.iadd, 1) := dk_96 (dk_at dksX9_copy_0 20 rfl rfl)
theorem dX9_copy_21 : decode cX9_copy 21 = .ok (.iaload, 1) := dk_46 (dk_at dksX9_copy_0 21 rfl rfl)
theorem dX9_copy_22 : decode cX9_copy 22 = .ok (.iastore, 1) := dk_79 (dk_at dksX9_copy_0 22 rfl rfl)
theorem dX9_copy_23 : decode cX9_copy 23 = .ok (.iinc 4 1, 3) := dk_132 4 1 (dk_at dksX9_copy_1 0 rfl rfl)
theorem dX9_copy_26 : decode cX9_copy 26 = .ok (.goto (-23), 3) := dk_167 255 233 (dk_at dksX9_copy_1 3 rfl rfl)
theorem dX9_copy_29 : decode cX9_copy 29 = .ok (.return_, 1) := dk_177 (dk_at dksX9_copy_1 6 rfl rfl)
abbrev cX9_tell : ByteArray := prog_15_method_7_code
def yX9_tell : MethodName := ⟨RX9, "tell", "(I)I"⟩
def dkwX9_tell_0 : List UInt8 := [42, 3, 181, 0, 95, 27, 172]
abbrev dktX9_tell_0 : List UInt8 := dkwX9_tell_0 ++ []
theorem dksX9_tell_0 : cX9_tell.data.toList.drop 0 = dktX9_tell_0 := by decide +kernel
theorem dX9_tell_0 : decode cX9_tell 0 = .ok (.aload_n 0, 1) := dk_42 (dk_at dksX9_tell_0 0 rfl rfl)
theorem dX9_tell_1 : decode cX9_tell 1 = .ok (.iconst 0, 1) := dk_3 (dk_at dksX9_tell_0 1 rfl rfl)
theorem dX9_tell_2 : decode cX9_tell 2 = .ok (.putfield 95, 3) := dk_181 0 95 (dk_at dksX9_tell_0 2 rfl rfl)
theorem dX9_tell_5 : decode cX9_tell 5 = .ok (.iload_n 1, 1) := dk_27 (dk_at dksX9_tell_0 5 rfl rfl)
theorem dX9_tell_6 : decode cX9_tell 6 = .ok (.ireturn, 1) := dk_172 (dk_at dksX9_tell_0 6 rfl rfl)
abbrev cX9_lawful : ByteArray := prog_15_method_31_code
def yX9_lawful : MethodName := ⟨RX9, "lawful", "(III)Z"⟩
def dkwX9_lawful_1 : List UInt8 := [4, 167, 0, 4, 3, 172]
abbrev dktX9_lawful_1 : List UInt8 := dkwX9_lawful_1 ++ []
def dkwX9_lawful_0 : List UInt8 := [42, 3, 181, 0, 92, 42, 27, 182, 0, 154, 153, 0, 18, 42, 27, 28, 29, 3, 182, 0, 157, 153, 0, 7]
abbrev dktX9_lawful_0 : List UInt8 := dkwX9_lawful_0 ++ dktX9_lawful_1
theorem dksX9_lawful_0 : cX9_lawful.data.toList.drop 0 = dktX9_lawful_0 := by decide +kernel
theorem dksX9_lawful_1 : cX9_lawful.data.toList.drop 24 = dktX9_lawful_1 := dk_seg dksX9_lawful_0 24 rfl rfl
theorem dX9_lawful_0 : decode cX9_lawful 0 = .ok (.aload_n 0, 1) := dk_42 (dk_at dksX9_lawful_0 0 rfl rfl)
theorem dX9_lawful_1 : decode cX9_lawful 1 = .ok (.iconst 0, 1) := dk_3 (dk_at dksX9_lawful_0 1 rfl rfl)
theorem dX9_lawful_2 : decode cX9_lawful 2 = .ok (.putfield 92, 3) := dk_181 0 92 (dk_at dksX9_lawful_0 2 rfl rfl)
theorem dX9_lawful_5 : decode cX9_lawful 5 = .ok (.aload_n 0, 1) := dk_42 (dk_at dksX9_lawful_0 5 rfl rfl)
theorem dX9_lawful_6 : decode cX9_lawful 6 = .ok (.iload_n 1, 1) := dk_27 (dk_at dksX9_lawful_0 6 rfl rfl)
theorem dX9_lawful_7 : decode cX9_lawful 7 = .ok (.invokevirtual 154, 3) := dk_182 0 154 (dk_at dksX9_lawful_0 7 rfl rfl)
theorem dX9_lawful_10 : decode cX9_lawful 10 = .ok (.ifCond .eq 18, 3) := dk_153 0 18 (dk_at dksX9_lawful_0 10 rfl rfl)
theorem dX9_lawful_13 : decode cX9_lawful 13 = .ok (.aload_n 0, 1) := dk_42 (dk_at dksX9_lawful_0 13 rfl rfl)
theorem dX9_lawful_14 : decode cX9_lawful 14 = .ok (.iload_n 1, 1) := dk_27 (dk_at dksX9_lawful_0 14 rfl rfl)
theorem dX9_lawful_15 : decode cX9_lawful 15 = .ok (.iload_n 2, 1) := dk_28 (dk_at dksX9_lawful_0 15 rfl rfl)
theorem dX9_lawful_16 : decode cX9_lawful 16 = .ok (.iload_n 3, 1) := dk_29 (dk_at dksX9_lawful_0 16 rfl rfl)
theorem dX9_lawful_17 : decode cX9_lawful 17 = .ok (.iconst 0, 1) := dk_3 (dk_at dksX9_lawful_0 17 rfl rfl)
theorem dX9_lawful_18 : decode cX9_lawful 18 = .ok (.invokevirtual 157, 3) := dk_182 0 157 (dk_at dksX9_lawful_0 18 rfl rfl)
theorem dX9_lawful_21 : decode cX9_lawful 21 = .ok (.ifCond .eq 7, 3) := dk_153 0 7 (dk_at dksX9_lawful_0 21 rfl rfl)
theorem dX9_lawful_24 : decode cX9_lawful 24 = .ok (.iconst 1, 1) := dk_4 (dk_at dksX9_lawful_1 0 rfl rfl)
theorem dX9_lawful_25 : decode cX9_lawful 25 = .ok (.goto 4, 3) := dk_167 0 4 (dk_at dksX9_lawful_1 1 rfl rfl)
theorem dX9_lawful_28 : decode cX9_lawful 28 = .ok (.iconst 0, 1) := dk_3 (dk_at dksX9_lawful_1 4 rfl rfl)
theorem dX9_lawful_29 : decode cX9_lawful 29 = .ok (.ireturn, 1) := dk_172 (dk_at dksX9_lawful_1 5 rfl rfl)
abbrev cX9_isCell : ByteArray := prog_15_method_21_code
def yX9_isCell : MethodName := ⟨RX9, "isCell", "(I)Z"⟩
def dkwX9_isCell_0 : List UInt8 := [27, 133, 9, 42, 180, 0, 16, 5, 46, 133, 10, 101, 184, 0, 122, 172]
abbrev dktX9_isCell_0 : List UInt8 := dkwX9_isCell_0 ++ []
theorem dksX9_isCell_0 : cX9_isCell.data.toList.drop 0 = dktX9_isCell_0 := by decide +kernel
theorem dX9_isCell_0 : decode cX9_isCell 0 = .ok (.iload_n 1, 1) := dk_27 (dk_at dksX9_isCell_0 0 rfl rfl)
theorem dX9_isCell_1 : decode cX9_isCell 1 = .ok (.i2l, 1) := dk_133 (dk_at dksX9_isCell_0 1 rfl rfl)
theorem dX9_isCell_2 : decode cX9_isCell 2 = .ok (.lconst 0, 1) := dk_9 (dk_at dksX9_isCell_0 2 rfl rfl)
theorem dX9_isCell_3 : decode cX9_isCell 3 = .ok (.aload_n 0, 1) := dk_42 (dk_at dksX9_isCell_0 3 rfl rfl)
theorem dX9_isCell_4 : decode cX9_isCell 4 = .ok (.getfield 16, 3) := dk_180 0 16 (dk_at dksX9_isCell_0 4 rfl rfl)
theorem dX9_isCell_7 : decode cX9_isCell 7 = .ok (.iconst 2, 1) := dk_5 (dk_at dksX9_isCell_0 7 rfl rfl)
theorem dX9_isCell_8 : decode cX9_isCell 8 = .ok (.iaload, 1) := dk_46 (dk_at dksX9_isCell_0 8 rfl rfl)
theorem dX9_isCell_9 : decode cX9_isCell 9 = .ok (.i2l, 1) := dk_133 (dk_at dksX9_isCell_0 9 rfl rfl)
theorem dX9_isCell_10 : decode cX9_isCell 10 = .ok (.lconst 1, 1) := dk_10 (dk_at dksX9_isCell_0 10 rfl rfl)
theorem dX9_isCell_11 : decode cX9_isCell 11 = .ok (.lsub, 1) := dk_101 (dk_at dksX9_isCell_0 11 rfl rfl)
theorem dX9_isCell_12 : decode cX9_isCell 12 = .ok (.invokestatic 122, 3) := dk_184 0 122 (dk_at dksX9_isCell_0 12 rfl rfl)
theorem dX9_isCell_15 : decode cX9_isCell 15 = .ok (.ireturn, 1) := dk_172 (dk_at dksX9_isCell_0 15 rfl rfl)
abbrev cX9_in : ByteArray := prog_15_method_3_code
def yX9_in : MethodName := ⟨RX9, "in", "(JJJ)Z"⟩
def dkwX9_in_0 : List UInt8 := [30, 32, 148, 155, 0, 14, 30, 22, 4, 148, 157, 0, 7, 4, 167, 0, 4, 3, 172]
abbrev dktX9_in_0 : List UInt8 := dkwX9_in_0 ++ []
theorem dksX9_in_0 : cX9_in.data.toList.drop 0 = dktX9_in_0 := by decide +kernel
theorem dX9_in_0 : decode cX9_in 0 = .ok (.lload_n 0, 1) := dk_30 (dk_at dksX9_in_0 0 rfl rfl)
theorem dX9_in_1 : decode cX9_in 1 = .ok (.lload_n 2, 1) := dk_32 (dk_at dksX9_in_0 1 rfl rfl)
theorem dX9_in_2 : decode cX9_in 2 = .ok (.lcmp, 1) := dk_148 (dk_at dksX9_in_0 2 rfl rfl)
theorem dX9_in_3 : decode cX9_in 3 = .ok (.ifCond .lt 14, 3) := dk_155 0 14 (dk_at dksX9_in_0 3 rfl rfl)
theorem dX9_in_6 : decode cX9_in 6 = .ok (.lload_n 0, 1) := dk_30 (dk_at dksX9_in_0 6 rfl rfl)
theorem dX9_in_7 : decode cX9_in 7 = .ok (.lload 4, 2) := dk_22 4 (dk_at dksX9_in_0 7 rfl rfl)
theorem dX9_in_9 : decode cX9_in 9 = .ok (.lcmp, 1) := dk_148 (dk_at dksX9_in_0 9 rfl rfl)
theorem dX9_in_10 : decode cX9_in 10 = .ok (.ifCond .gt 7, 3) := dk_157 0 7 (dk_at dksX9_in_0 10 rfl rfl)
theorem dX9_in_13 : decode cX9_in 13 = .ok (.iconst 1, 1) := dk_4 (dk_at dksX9_in_0 13 rfl rfl)
theorem dX9_in_14 : decode cX9_in 14 = .ok (.goto 4, 3) := dk_167 0 4 (dk_at dksX9_in_0 14 rfl rfl)
theorem dX9_in_17 : decode cX9_in 17 = .ok (.iconst 0, 1) := dk_3 (dk_at dksX9_in_0 17 rfl rfl)
theorem dX9_in_18 : decode cX9_in 18 = .ok (.ireturn, 1) := dk_172 (dk_at dksX9_in_0 18 rfl rfl)
abbrev cX9_isLawful : ByteArray := prog_15_method_30_code
def yX9_isLawful : MethodName := ⟨RX9, "isLawful", "(IIIZ)Z"⟩
def dkwX9_isLawful_4 : List UInt8 := [3, 54, 5, 132, 6, 1, 167, 255, 190, 21, 5, 172]
abbrev dktX9_isLawful_4 : List UInt8 := dkwX9_isLawful_4 ++ []
def dkwX9_isLawful_3 : List UInt8 := [182, 0, 147, 160, 0, 21, 42, 28, 21, 6, 27, 21, 4, 182, 0, 150, 2, 160, 0, 7, 4, 167, 0, 4]
abbrev dktX9_isLawful_3 : List UInt8 := dkwX9_isLawful_3 ++ dktX9_isLawful_4
def dkwX9_isLawful_2 : List UInt8 := [153, 0, 55, 42, 28, 21, 6, 182, 0, 140, 154, 0, 36, 42, 28, 21, 6, 182, 0, 143, 42, 27]
abbrev dktX9_isLawful_2 : List UInt8 := dkwX9_isLawful_2 ++ dktX9_isLawful_3
def dkwX9_isLawful_1 : List UInt8 := [167, 0, 4, 3, 54, 5, 29, 54, 6, 21, 6, 29, 42, 27, 182, 0, 137, 96, 162, 0, 60, 21, 5]
abbrev dktX9_isLawful_1 : List UInt8 := dkwX9_isLawful_1 ++ dktX9_isLawful_2
def dkwX9_isLawful_0 : List UInt8 := [42, 28, 29, 182, 0, 133, 153, 0, 21, 29, 42, 27, 182, 0, 137, 96, 42, 180, 0, 89, 163, 0, 7, 4]
abbrev dktX9_isLawful_0 : List UInt8 := dkwX9_isLawful_0 ++ dktX9_isLawful_1
theorem dksX9_isLawful_0 : cX9_isLawful.data.toList.drop 0 = dktX9_isLawful_0 := by decide +kernel
theorem dksX9_isLawful_1 : cX9_isLawful.data.toList.drop 24 = dktX9_isLawful_1 := dk_seg dksX9_isLawful_0 24 rfl rfl
theorem dksX9_isLawful_2 : cX9_isLawful.data.toList.drop 47 = dktX9_isLawful_2 := dk_seg dksX9_isLawful_1 23 rfl rfl
theorem dksX9_isLawful_3 : cX9_isLawful.data.toList.drop 69 = dktX9_isLawful_3 := dk_seg dksX9_isLawful_2 22 rfl rfl
theorem dksX9_isLawful_4 : cX9_isLawful.data.toList.drop 93 = dktX9_isLawful_4 := dk_seg dksX9_isLawful_3 24 rfl rfl
theorem dX9_isLawful_0 : decode cX9_isLawful 0 = .ok (.aload_n 0, 1) := dk_42 (dk_at dksX9_isLawful_0 0 rfl rfl)
theorem dX9_isLawful_1 : decode cX9_isLawful 1 = .ok (.iload_n 2, 1) := dk_28 (dk_at dksX9_isLawful_0 1 rfl rfl)
theorem dX9_isLawful_2 : decode cX9_isLawful 2 = .ok (.iload_n 3, 1) := dk_29 (dk_at dksX9_isLawful_0 2 rfl rfl)
theorem dX9_isLawful_3 : decode cX9_isLawful 3 = .ok (.invokevirtual 133, 3) := dk_182 0 133 (dk_at dksX9_isLawful_0 3 rfl rfl)
theorem dX9_isLawful_6 : decode cX9_isLawful 6 = .ok (.ifCond .eq 21, 3) := dk_153 0 21 (dk_at dksX9_isLawful_0 6 rfl rfl)
theorem dX9_isLawful_9 : decode cX9_isLawful 9 = .ok (.iload_n 3, 1) := dk_29 (dk_at dksX9_isLawful_0 9 rfl rfl)
theorem dX9_isLawful_10 : decode cX9_isLawful 10 = .ok (.aload_n 0, 1) := dk_42 (dk_at dksX9_isLawful_0 10 rfl rfl)
theorem dX9_isLawful_11 : decode cX9_isLawful 11 = .ok (.iload_n 1, 1) := dk_27 (dk_at dksX9_isLawful_0 11 rfl rfl)
theorem dX9_isLawful_12 : decode cX9_isLawful 12 = .ok (.invokevirtual 137, 3) := dk_182 0 137 (dk_at dksX9_isLawful_0 12 rfl rfl)
theorem dX9_isLawful_15 : decode cX9_isLawful 15 = .ok (.iadd, 1) := dk_96 (dk_at dksX9_isLawful_0 15 rfl rfl)
theorem dX9_isLawful_16 : decode cX9_isLawful 16 = .ok (.aload_n 0, 1) := dk_42 (dk_at dksX9_isLawful_0 16 rfl rfl)
theorem dX9_isLawful_17 : decode cX9_isLawful 17 = .ok (.getfield 89, 3) := dk_180 0 89 (dk_at dksX9_isLawful_0 17 rfl rfl)
theorem dX9_isLawful_20 : decode cX9_isLawful 20 = .ok (.if_icmp .gt 7, 3) := dk_163 0 7 (dk_at dksX9_isLawful_0 20 rfl rfl)
theorem dX9_isLawful_23 : decode cX9_isLawful 23 = .ok (.iconst 1, 1) := dk_4 (dk_at dksX9_isLawful_0 23 rfl rfl)
theorem dX9_isLawful_24 : decode cX9_isLawful 24 = .ok (.goto 4, 3) := dk_167 0 4 (dk_at dksX9_isLawful_1 0 rfl rfl)
theorem dX9_isLawful_27 : decode cX9_isLawful 27 = .ok (.iconst 0, 1) := dk_3 (dk_at dksX9_isLawful_1 3 rfl rfl)
theorem dX9_isLawful_28 : decode cX9_isLawful 28 = .ok (.istore 5, 2) := dk_54 5 (dk_at dksX9_isLawful_1 4 rfl rfl)
theorem dX9_isLawful_30 : decode cX9_isLawful 30 = .ok (.iload_n 3, 1) := dk_29 (dk_at dksX9_isLawful_1 6 rfl rfl)
theorem dX9_isLawful_31 : decode cX9_isLawful 31 = .ok (.istore 6, 2) := dk_54 6 (dk_at dksX9_isLawful_1 7 rfl rfl)
theorem dX9_isLawful_33 : decode cX9_isLawful 33 = .ok (.iload 6, 2) := dk_21 6 (dk_at dksX9_isLawful_1 9 rfl rfl)
theorem dX9_isLawful_35 : decode cX9_isLawful 35 = .ok (.iload_n 3, 1) := dk_29 (dk_at dksX9_isLawful_1 11 rfl rfl)
theorem dX9_isLawful_36 : decode cX9_isLawful 36 = .ok (.aload_n 0, 1) := dk_42 (dk_at dksX9_isLawful_1 12 rfl rfl)
theorem dX9_isLawful_37 : decode cX9_isLawful 37 = .ok (.iload_n 1, 1) := dk_27 (dk_at dksX9_isLawful_1 13 rfl rfl)
theorem dX9_isLawful_38 : decode cX9_isLawful 38 = .ok (.invokevirtual 137, 3) := dk_182 0 137 (dk_at dksX9_isLawful_1 14 rfl rfl)
theorem dX9_isLawful_41 : decode cX9_isLawful 41 = .ok (.iadd, 1) := dk_96 (dk_at dksX9_isLawful_1 17 rfl rfl)
theorem dX9_isLawful_42 : decode cX9_isLawful 42 = .ok (.if_icmp .ge 60, 3) := dk_162 0 60 (dk_at dksX9_isLawful_1 18 rfl rfl)
theorem dX9_isLawful_45 : decode cX9_isLawful 45 = .ok (.iload 5, 2) := dk_21 5 (dk_at dksX9_isLawful_1 21 rfl rfl)
theorem dX9_isLawful_47 : decode cX9_isLawful 47 = .ok (.ifCond .eq 55, 3) := dk_153 0 55 (dk_at dksX9_isLawful_2 0 rfl rfl)
theorem dX9_isLawful_50 : decode cX9_isLawful 50 = .ok (.aload_n 0, 1) := dk_42 (dk_at dksX9_isLawful_2 3 rfl rfl)
theorem dX9_isLawful_51 : decode cX9_isLawful 51 = .ok (.iload_n 2, 1) := dk_28 (dk_at dksX9_isLawful_2 4 rfl rfl)
theorem dX9_isLawful_52 : decode cX9_isLawful 52 = .ok (.iload 6, 2) := dk_21 6 (dk_at dksX9_isLawful_2 5 rfl rfl)
theorem dX9_isLawful_54 : decode cX9_isLawful 54 = .ok (.invokevirtual 140, 3) := dk_182 0 140 (dk_at dksX9_isLawful_2 7 rfl rfl)
theorem dX9_isLawful_57 : decode cX9_isLawful 57 = .ok (.ifCond .ne 36, 3) := dk_154 0 36 (dk_at dksX9_isLawful_2 10 rfl rfl)
theorem dX9_isLawful_60 : decode cX9_isLawful 60 = .ok (.aload_n 0, 1) := dk_42 (dk_at dksX9_isLawful_2 13 rfl rfl)
theorem dX9_isLawful_61 : decode cX9_isLawful 61 = .ok (.iload_n 2, 1) := dk_28 (dk_at dksX9_isLawful_2 14 rfl rfl)
theorem dX9_isLawful_62 : decode cX9_isLawful 62 = .ok (.iload 6, 2) := dk_21 6 (dk_at dksX9_isLawful_2 15 rfl rfl)
theorem dX9_isLawful_64 : decode cX9_isLawful 64 = .ok (.invokevirtual 143, 3) := dk_182 0 143 (dk_at dksX9_isLawful_2 17 rfl rfl)
theorem dX9_isLawful_67 : decode cX9_isLawful 67 = .ok (.aload_n 0, 1) := dk_42 (dk_at dksX9_isLawful_2 20 rfl rfl)
theorem dX9_isLawful_68 : decode cX9_isLawful 68 = .ok (.iload_n 1, 1) := dk_27 (dk_at dksX9_isLawful_2 21 rfl rfl)
theorem dX9_isLawful_69 : decode cX9_isLawful 69 = .ok (.invokevirtual 147, 3) := dk_182 0 147 (dk_at dksX9_isLawful_3 0 rfl rfl)
theorem dX9_isLawful_72 : decode cX9_isLawful 72 = .ok (.if_icmp .ne 21, 3) := dk_160 0 21 (dk_at dksX9_isLawful_3 3 rfl rfl)
theorem dX9_isLawful_75 : decode cX9_isLawful 75 = .ok (.aload_n 0, 1) := dk_42 (dk_at dksX9_isLawful_3 6 rfl rfl)
theorem dX9_isLawful_76 : decode cX9_isLawful 76 = .ok (.iload_n 2, 1) := dk_28 (dk_at dksX9_isLawful_3 7 rfl rfl)
theorem dX9_isLawful_77 : decode cX9_isLawful 77 = .ok (.iload 6, 2) := dk_21 6 (dk_at dksX9_isLawful_3 8 rfl rfl)
theorem dX9_isLawful_79 : decode cX9_isLawful 79 = .ok (.iload_n 1, 1) := dk_27 (dk_at dksX9_isLawful_3 10 rfl rfl)
theorem dX9_isLawful_80 : decode cX9_isLawful 80 = .ok (.iload 4, 2) := dk_21 4 (dk_at dksX9_isLawful_3 11 rfl rfl)
theorem dX9_isLawful_82 : decode cX9_isLawful 82 = .ok (.invokevirtual 150, 3) := dk_182 0 150 (dk_at dksX9_isLawful_3 13 rfl rfl)
theorem dX9_isLawful_85 : decode cX9_isLawful 85 = .ok (.iconst (-1), 1) := dk_2 (dk_at dksX9_isLawful_3 16 rfl rfl)
theorem dX9_isLawful_86 : decode cX9_isLawful 86 = .ok (.if_icmp .ne 7, 3) := dk_160 0 7 (dk_at dksX9_isLawful_3 17 rfl rfl)
theorem dX9_isLawful_89 : decode cX9_isLawful 89 = .ok (.iconst 1, 1) := dk_4 (dk_at dksX9_isLawful_3 20 rfl rfl)
theorem dX9_isLawful_90 : decode cX9_isLawful 90 = .ok (.goto 4, 3) := dk_167 0 4 (dk_at dksX9_isLawful_3 21 rfl rfl)
theorem dX9_isLawful_93 : decode cX9_isLawful 93 = .ok (.iconst 0, 1) := dk_3 (dk_at dksX9_isLawful_4 0 rfl rfl)
theorem dX9_isLawful_94 : decode cX9_isLawful 94 = .ok (.istore 5, 2) := dk_54 5 (dk_at dksX9_isLawful_4 1 rfl rfl)
theorem dX9_isLawful_96 : decode cX9_isLawful 96 = .ok (.iinc 6 1, 3) := dk_132 6 1 (dk_at dksX9_isLawful_4 3 rfl rfl)
theorem dX9_isLawful_99 : decode cX9_isLawful 99 = .ok (.goto (-66), 3) := dk_167 255 190 (dk_at dksX9_isLawful_4 6 rfl rfl)
theorem dX9_isLawful_102 : decode cX9_isLawful 102 = .ok (.iload 5, 2) := dk_21 5 (dk_at dksX9_isLawful_4 9 rfl rfl)
theorem dX9_isLawful_104 : decode cX9_isLawful 104 = .ok (.ireturn, 1) := dk_172 (dk_at dksX9_isLawful_4 11 rfl rfl)
abbrev cX9_isSite : ByteArray := prog_15_method_24_code
def yX9_isSite : MethodName := ⟨RX9, "isSite", "(II)Z"⟩
def dkwX9_isSite_1 : List UInt8 := [10, 101, 184, 0, 122, 153, 0, 7, 4, 167, 0, 4, 3, 172]
abbrev dktX9_isSite_1 : List UInt8 := dkwX9_isSite_1 ++ []
def dkwX9_isSite_0 : List UInt8 := [27, 133, 9, 42, 180, 0, 85, 133, 10, 101, 184, 0, 122, 153, 0, 23, 28, 133, 9, 42, 180, 0, 89, 133]
abbrev dktX9_isSite_0 : List UInt8 := dkwX9_isSite_0 ++ dktX9_isSite_1
theorem dksX9_isSite_0 : cX9_isSite.data.toList.drop 0 = dktX9_isSite_0 := by decide +kernel
theorem dksX9_isSite_1 : cX9_isSite.data.toList.drop 24 = dktX9_isSite_1 := dk_seg dksX9_isSite_0 24 rfl rfl
theorem dX9_isSite_0 : decode cX9_isSite 0 = .ok (.iload_n 1, 1) := dk_27 (dk_at dksX9_isSite_0 0 rfl rfl)
theorem dX9_isSite_1 : decode cX9_isSite 1 = .ok (.i2l, 1) := dk_133 (dk_at dksX9_isSite_0 1 rfl rfl)
theorem dX9_isSite_2 : decode cX9_isSite 2 = .ok (.lconst 0, 1) := dk_9 (dk_at dksX9_isSite_0 2 rfl rfl)
theorem dX9_isSite_3 : decode cX9_isSite 3 = .ok (.aload_n 0, 1) := dk_42 (dk_at dksX9_isSite_0 3 rfl rfl)
theorem dX9_isSite_4 : decode cX9_isSite 4 = .ok (.getfield 85, 3) := dk_180 0 85 (dk_at dksX9_isSite_0 4 rfl rfl)
theorem dX9_isSite_7 : decode cX9_isSite 7 = .ok (.i2l, 1) := dk_133 (dk_at dksX9_isSite_0 7 rfl rfl)
theorem dX9_isSite_8 : decode cX9_isSite 8 = .ok (.lconst 1, 1) := dk_10 (dk_at dksX9_isSite_0 8 rfl rfl)
theorem dX9_isSite_9 : decode cX9_isSite 9 = .ok (.lsub, 1) := dk_101 (dk_at dksX9_isSite_0 9 rfl rfl)
theorem dX9_isSite_10 : decode cX9_isSite 10 = .ok (.invokestatic 122, 3) := dk_184 0 122 (dk_at dksX9_isSite_0 10 rfl rfl)
theorem dX9_isSite_13 : decode cX9_isSite 13 = .ok (.ifCond .eq 23, 3) := dk_153 0 23 (dk_at dksX9_isSite_0 13 rfl rfl)
theorem dX9_isSite_16 : decode cX9_isSite 16 = .ok (.iload_n 2, 1) := dk_28 (dk_at dksX9_isSite_0 16 rfl rfl)
theorem dX9_isSite_17 : decode cX9_isSite 17 = .ok (.i2l, 1) := dk_133 (dk_at dksX9_isSite_0 17 rfl rfl)
theorem dX9_isSite_18 : decode cX9_isSite 18 = .ok (.lconst 0, 1) := dk_9 (dk_at dksX9_isSite_0 18 rfl rfl)
theorem dX9_isSite_19 : decode cX9_isSite 19 = .ok (.aload_n 0, 1) := dk_42 (dk_at dksX9_isSite_0 19 rfl rfl)
theorem dX9_isSite_20 : decode cX9_isSite 20 = .ok (.getfield 89, 3) := dk_180 0 89 (dk_at dksX9_isSite_0 20 rfl rfl)
theorem dX9_isSite_23 : decode cX9_isSite 23 = .ok (.i2l, 1) := dk_133 (dk_at dksX9_isSite_0 23 rfl rfl)
theorem dX9_isSite_24 : decode cX9_isSite 24 = .ok (.lconst 1, 1) := dk_10 (dk_at dksX9_isSite_1 0 rfl rfl)
theorem dX9_isSite_25 : decode cX9_isSite 25 = .ok (.lsub, 1) := dk_101 (dk_at dksX9_isSite_1 1 rfl rfl)
theorem dX9_isSite_26 : decode cX9_isSite 26 = .ok (.invokestatic 122, 3) := dk_184 0 122 (dk_at dksX9_isSite_1 2 rfl rfl)
theorem dX9_isSite_29 : decode cX9_isSite 29 = .ok (.ifCond .eq 7, 3) := dk_153 0 7 (dk_at dksX9_isSite_1 5 rfl rfl)
theorem dX9_isSite_32 : decode cX9_isSite 32 = .ok (.iconst 1, 1) := dk_4 (dk_at dksX9_isSite_1 8 rfl rfl)
theorem dX9_isSite_33 : decode cX9_isSite 33 = .ok (.goto 4, 3) := dk_167 0 4 (dk_at dksX9_isSite_1 9 rfl rfl)
theorem dX9_isSite_36 : decode cX9_isSite 36 = .ok (.iconst 0, 1) := dk_3 (dk_at dksX9_isSite_1 12 rfl rfl)
theorem dX9_isSite_37 : decode cX9_isSite 37 = .ok (.ireturn, 1) := dk_172 (dk_at dksX9_isSite_1 13 rfl rfl)
abbrev cX9_width : ByteArray := prog_15_method_14_code
def yX9_width : MethodName := ⟨RX9, "width", "(I)I"⟩
def dkwX9_width_0 : List UInt8 := [42, 180, 0, 16, 27, 184, 0, 112, 46, 172]
abbrev dktX9_width_0 : List UInt8 := dkwX9_width_0 ++ []
theorem dksX9_width_0 : cX9_width.data.toList.drop 0 = dktX9_width_0 := by decide +kernel
theorem dX9_width_0 : decode cX9_width 0 = .ok (.aload_n 0, 1) := dk_42 (dk_at dksX9_width_0 0 rfl rfl)
theorem dX9_width_1 : decode cX9_width 1 = .ok (.getfield 16, 3) := dk_180 0 16 (dk_at dksX9_width_0 1 rfl rfl)
theorem dX9_width_4 : decode cX9_width 4 = .ok (.iload_n 1, 1) := dk_27 (dk_at dksX9_width_0 4 rfl rfl)
theorem dX9_width_5 : decode cX9_width 5 = .ok (.invokestatic 112, 3) := dk_184 0 112 (dk_at dksX9_width_0 5 rfl rfl)
theorem dX9_width_8 : decode cX9_width 8 = .ok (.iaload, 1) := dk_46 (dk_at dksX9_width_0 8 rfl rfl)
theorem dX9_width_9 : decode cX9_width 9 = .ok (.ireturn, 1) := dk_172 (dk_at dksX9_width_0 9 rfl rfl)
abbrev cX9_cellAt : ByteArray := prog_15_method_12_code
def yX9_cellAt : MethodName := ⟨RX9, "cellAt", "(I)I"⟩
def dkwX9_cellAt_0 : List UInt8 := [16, 36, 16, 7, 26, 104, 96, 172]
abbrev dktX9_cellAt_0 : List UInt8 := dkwX9_cellAt_0 ++ []
theorem dksX9_cellAt_0 : cX9_cellAt.data.toList.drop 0 = dktX9_cellAt_0 := by decide +kernel
theorem dX9_cellAt_0 : decode cX9_cellAt 0 = .ok (.bipush 36, 2) := dk_16 36 (dk_at dksX9_cellAt_0 0 rfl rfl)
theorem dX9_cellAt_2 : decode cX9_cellAt 2 = .ok (.bipush 7, 2) := dk_16 7 (dk_at dksX9_cellAt_0 2 rfl rfl)
theorem dX9_cellAt_4 : decode cX9_cellAt 4 = .ok (.iload_n 0, 1) := dk_26 (dk_at dksX9_cellAt_0 4 rfl rfl)
theorem dX9_cellAt_5 : decode cX9_cellAt 5 = .ok (.imul, 1) := dk_104 (dk_at dksX9_cellAt_0 5 rfl rfl)
theorem dX9_cellAt_6 : decode cX9_cellAt 6 = .ok (.iadd, 1) := dk_96 (dk_at dksX9_cellAt_0 6 rfl rfl)
theorem dX9_cellAt_7 : decode cX9_cellAt 7 = .ok (.ireturn, 1) := dk_172 (dk_at dksX9_cellAt_0 7 rfl rfl)
abbrev cX9_isBarred : ByteArray := prog_15_method_25_code
def yX9_isBarred : MethodName := ⟨RX9, "isBarred", "(II)Z"⟩
def dkwX9_isBarred_4 : List UInt8 := [184, 0, 122, 153, 0, 7, 4, 167, 0, 4, 3, 62, 132, 4, 1, 167, 255, 150, 29, 172]
abbrev dktX9_isBarred_4 : List UInt8 := dkwX9_isBarred_4 ++ []
def dkwX9_isBarred_3 : List UInt8 := [96, 46, 100, 133, 42, 180, 0, 16, 21, 5, 6, 96, 46, 42, 180, 0, 16, 21, 5, 7, 96, 46, 96, 133]
abbrev dktX9_isBarred_3 : List UInt8 := dkwX9_isBarred_3 ++ dktX9_isBarred_4
def dkwX9_isBarred_2 : List UInt8 := [184, 0, 122, 153, 0, 55, 28, 133, 42, 180, 0, 16, 21, 5, 5, 96, 46, 42, 180, 0, 16, 21, 5, 7]
abbrev dktX9_isBarred_2 : List UInt8 := dkwX9_isBarred_2 ++ dktX9_isBarred_3
def dkwX9_isBarred_1 : List UInt8 := [29, 154, 0, 77, 27, 133, 42, 180, 0, 16, 21, 5, 46, 133, 42, 180, 0, 16, 21, 5, 4, 96, 46, 133]
abbrev dktX9_isBarred_1 : List UInt8 := dkwX9_isBarred_1 ++ dktX9_isBarred_2
def dkwX9_isBarred_0 : List UInt8 := [3, 62, 3, 54, 4, 21, 4, 42, 180, 0, 16, 3, 46, 162, 0, 101, 7, 8, 21, 4, 104, 96, 54, 5]
abbrev dktX9_isBarred_0 : List UInt8 := dkwX9_isBarred_0 ++ dktX9_isBarred_1
theorem dksX9_isBarred_0 : cX9_isBarred.data.toList.drop 0 = dktX9_isBarred_0 := by decide +kernel
theorem dksX9_isBarred_1 : cX9_isBarred.data.toList.drop 24 = dktX9_isBarred_1 := dk_seg dksX9_isBarred_0 24 rfl rfl
theorem dksX9_isBarred_2 : cX9_isBarred.data.toList.drop 48 = dktX9_isBarred_2 := dk_seg dksX9_isBarred_1 24 rfl rfl
theorem dksX9_isBarred_3 : cX9_isBarred.data.toList.drop 72 = dktX9_isBarred_3 := dk_seg dksX9_isBarred_2 24 rfl rfl
theorem dksX9_isBarred_4 : cX9_isBarred.data.toList.drop 96 = dktX9_isBarred_4 := dk_seg dksX9_isBarred_3 24 rfl rfl
theorem dX9_isBarred_0 : decode cX9_isBarred 0 = .ok (.iconst 0, 1) := dk_3 (dk_at dksX9_isBarred_0 0 rfl rfl)
theorem dX9_isBarred_1 : decode cX9_isBarred 1 = .ok (.istore_n 3, 1) := dk_62 (dk_at dksX9_isBarred_0 1 rfl rfl)
theorem dX9_isBarred_2 : decode cX9_isBarred 2 = .ok (.iconst 0, 1) := dk_3 (dk_at dksX9_isBarred_0 2 rfl rfl)
theorem dX9_isBarred_3 : decode cX9_isBarred 3 = .ok (.istore 4, 2) := dk_54 4 (dk_at dksX9_isBarred_0 3 rfl rfl)
theorem dX9_isBarred_5 : decode cX9_isBarred 5 = .ok (.iload 4, 2) := dk_21 4 (dk_at dksX9_isBarred_0 5 rfl rfl)
theorem dX9_isBarred_7 : decode cX9_isBarred 7 = .ok (.aload_n 0, 1) := dk_42 (dk_at dksX9_isBarred_0 7 rfl rfl)
theorem dX9_isBarred_8 : decode cX9_isBarred 8 = .ok (.getfield 16, 3) := dk_180 0 16 (dk_at dksX9_isBarred_0 8 rfl rfl)
theorem dX9_isBarred_11 : decode cX9_isBarred 11 = .ok (.iconst 0, 1) := dk_3 (dk_at dksX9_isBarred_0 11 rfl rfl)
theorem dX9_isBarred_12 : decode cX9_isBarred 12 = .ok (.iaload, 1) := dk_46 (dk_at dksX9_isBarred_0 12 rfl rfl)
theorem dX9_isBarred_13 : decode cX9_isBarred 13 = .ok (.if_icmp .ge 101, 3) := dk_162 0 101 (dk_at dksX9_isBarred_0 13 rfl rfl)
theorem dX9_isBarred_16 : decode cX9_isBarred 16 = .ok (.iconst 4, 1) := dk_7 (dk_at dksX9_isBarred_0 16 rfl rfl)
theorem dX9_isBarred_17 : decode cX9_isBarred 17 = .ok (.iconst 5, 1) := dk_8 (dk_at dksX9_isBarred_0 17 rfl rfl)
theorem dX9_isBarred_18 : decode cX9_isBarred 18 = .ok (.iload 4, 2) := dk_21 4 (dk_at dksX9_isBarred_0 18 rfl rfl)
theorem dX9_isBarred_20 : decode cX9_isBarred 20 = .ok (.imul, 1) := dk_104 (dk_at dksX9_isBarred_0 20 rfl rfl)
theorem dX9_isBarred_21 : decode cX9_isBarred 21 = .ok (.iadd, 1) := dk_96 (dk_at dksX9_isBarred_0 21 rfl rfl)
theorem dX9_isBarred_22 : decode cX9_isBarred 22 = .ok (.istore 5, 2) := dk_54 5 (dk_at dksX9_isBarred_0 22 rfl rfl)
theorem dX9_isBarred_24 : decode cX9_isBarred 24 = .ok (.iload_n 3, 1) := dk_29 (dk_at dksX9_isBarred_1 0 rfl rfl)
theorem dX9_isBarred_25 : decode cX9_isBarred 25 = .ok (.ifCond .ne 77, 3) := dk_154 0 77 (dk_at dksX9_isBarred_1 1 rfl rfl)
theorem dX9_isBarred_28 : decode cX9_isBarred 28 = .ok (.iload_n 1, 1) := dk_27 (dk_at dksX9_isBarred_1 4 rfl rfl)
theorem dX9_isBarred_29 : decode cX9_isBarred 29 = .ok (.i2l, 1) := dk_133 (dk_at dksX9_isBarred_1 5 rfl rfl)
theorem dX9_isBarred_30 : decode cX9_isBarred 30 = .ok (.aload_n 0, 1) := dk_42 (dk_at dksX9_isBarred_1 6 rfl rfl)
theorem dX9_isBarred_31 : decode cX9_isBarred 31 = .ok (.getfield 16, 3) := dk_180 0 16 (dk_at dksX9_isBarred_1 7 rfl rfl)
theorem dX9_isBarred_34 : decode cX9_isBarred 34 = .ok (.iload 5, 2) := dk_21 5 (dk_at dksX9_isBarred_1 10 rfl rfl)
theorem dX9_isBarred_36 : decode cX9_isBarred 36 = .ok (.iaload, 1) := dk_46 (dk_at dksX9_isBarred_1 12 rfl rfl)
theorem dX9_isBarred_37 : decode cX9_isBarred 37 = .ok (.i2l, 1) := dk_133 (dk_at dksX9_isBarred_1 13 rfl rfl)
theorem dX9_isBarred_38 : decode cX9_isBarred 38 = .ok (.aload_n 0, 1) := dk_42 (dk_at dksX9_isBarred_1 14 rfl rfl)
theorem dX9_isBarred_39 : decode cX9_isBarred 39 = .ok (.getfield 16, 3) := dk_180 0 16 (dk_at dksX9_isBarred_1 15 rfl rfl)
theorem dX9_isBarred_42 : decode cX9_isBarred 42 = .ok (.iload 5, 2) := dk_21 5 (dk_at dksX9_isBarred_1 18 rfl rfl)
theorem dX9_isBarred_44 : decode cX9_isBarred 44 = .ok (.iconst 1, 1) := dk_4 (dk_at dksX9_isBarred_1 20 rfl rfl)
theorem dX9_isBarred_45 : decode cX9_isBarred 45 = .ok (.iadd, 1) := dk_96 (dk_at dksX9_isBarred_1 21 rfl rfl)
theorem dX9_isBarred_46 : decode cX9_isBarred 46 = .ok (.iaload, 1) := dk_46 (dk_at dksX9_isBarred_1 22 rfl rfl)
theorem dX9_isBarred_47 : decode cX9_isBarred 47 = .ok (.i2l, 1) := dk_133 (dk_at dksX9_isBarred_1 23 rfl rfl)
theorem dX9_isBarred_48 : decode cX9_isBarred 48 = .ok (.invokestatic 122, 3) := dk_184 0 122 (dk_at dksX9_isBarred_2 0 rfl rfl)
theorem dX9_isBarred_51 : decode cX9_isBarred 51 = .ok (.ifCond .eq 55, 3) := dk_153 0 55 (dk_at dksX9_isBarred_2 3 rfl rfl)
theorem dX9_isBarred_54 : decode cX9_isBarred 54 = .ok (.iload_n 2, 1) := dk_28 (dk_at dksX9_isBarred_2 6 rfl rfl)
theorem dX9_isBarred_55 : decode cX9_isBarred 55 = .ok (.i2l, 1) := dk_133 (dk_at dksX9_isBarred_2 7 rfl rfl)
theorem dX9_isBarred_56 : decode cX9_isBarred 56 = .ok (.aload_n 0, 1) := dk_42 (dk_at dksX9_isBarred_2 8 rfl rfl)
theorem dX9_isBarred_57 : decode cX9_isBarred 57 = .ok (.getfield 16, 3) := dk_180 0 16 (dk_at dksX9_isBarred_2 9 rfl rfl)
theorem dX9_isBarred_60 : decode cX9_isBarred 60 = .ok (.iload 5, 2) := dk_21 5 (dk_at dksX9_isBarred_2 12 rfl rfl)
theorem dX9_isBarred_62 : decode cX9_isBarred 62 = .ok (.iconst 2, 1) := dk_5 (dk_at dksX9_isBarred_2 14 rfl rfl)
theorem dX9_isBarred_63 : decode cX9_isBarred 63 = .ok (.iadd, 1) := dk_96 (dk_at dksX9_isBarred_2 15 rfl rfl)
theorem dX9_isBarred_64 : decode cX9_isBarred 64 = .ok (.iaload, 1) := dk_46 (dk_at dksX9_isBarred_2 16 rfl rfl)
theorem dX9_isBarred_65 : decode cX9_isBarred 65 = .ok (.aload_n 0, 1) := dk_42 (dk_at dksX9_isBarred_2 17 rfl rfl)
theorem dX9_isBarred_66 : decode cX9_isBarred 66 = .ok (.getfield 16, 3) := dk_180 0 16 (dk_at dksX9_isBarred_2 18 rfl rfl)
theorem dX9_isBarred_69 : decode cX9_isBarred 69 = .ok (.iload 5, 2) := dk_21 5 (dk_at dksX9_isBarred_2 21 rfl rfl)
theorem dX9_isBarred_71 : decode cX9_isBarred 71 = .ok (.iconst 4, 1) := dk_7 (dk_at dksX9_isBarred_2 23 rfl rfl)
theorem dX9_isBarred_72 : decode cX9_isBarred 72 = .ok (.iadd, 1) := dk_96 (dk_at dksX9_isBarred_3 0 rfl rfl)
theorem dX9_isBarred_73 : decode cX9_isBarred 73 = .ok (.iaload, 1) := dk_46 (dk_at dksX9_isBarred_3 1 rfl rfl)
theorem dX9_isBarred_74 : decode cX9_isBarred 74 = .ok (.isub, 1) := dk_100 (dk_at dksX9_isBarred_3 2 rfl rfl)
theorem dX9_isBarred_75 : decode cX9_isBarred 75 = .ok (.i2l, 1) := dk_133 (dk_at dksX9_isBarred_3 3 rfl rfl)
theorem dX9_isBarred_76 : decode cX9_isBarred 76 = .ok (.aload_n 0, 1) := dk_42 (dk_at dksX9_isBarred_3 4 rfl rfl)
theorem dX9_isBarred_77 : decode cX9_isBarred 77 = .ok (.getfield 16, 3) := dk_180 0 16 (dk_at dksX9_isBarred_3 5 rfl rfl)
theorem dX9_isBarred_80 : decode cX9_isBarred 80 = .ok (.iload 5, 2) := dk_21 5 (dk_at dksX9_isBarred_3 8 rfl rfl)
theorem dX9_isBarred_82 : decode cX9_isBarred 82 = .ok (.iconst 3, 1) := dk_6 (dk_at dksX9_isBarred_3 10 rfl rfl)
theorem dX9_isBarred_83 : decode cX9_isBarred 83 = .ok (.iadd, 1) := dk_96 (dk_at dksX9_isBarred_3 11 rfl rfl)
theorem dX9_isBarred_84 : decode cX9_isBarred 84 = .ok (.iaload, 1) := dk_46 (dk_at dksX9_isBarred_3 12 rfl rfl)
theorem dX9_isBarred_85 : decode cX9_isBarred 85 = .ok (.aload_n 0, 1) := dk_42 (dk_at dksX9_isBarred_3 13 rfl rfl)
theorem dX9_isBarred_86 : decode cX9_isBarred 86 = .ok (.getfield 16, 3) := dk_180 0 16 (dk_at dksX9_isBarred_3 14 rfl rfl)
theorem dX9_isBarred_89 : decode cX9_isBarred 89 = .ok (.iload 5, 2) := dk_21 5 (dk_at dksX9_isBarred_3 17 rfl rfl)
theorem dX9_isBarred_91 : decode cX9_isBarred 91 = .ok (.iconst 4, 1) := dk_7 (dk_at dksX9_isBarred_3 19 rfl rfl)
theorem dX9_isBarred_92 : decode cX9_isBarred 92 = .ok (.iadd, 1) := dk_96 (dk_at dksX9_isBarred_3 20 rfl rfl)
theorem dX9_isBarred_93 : decode cX9_isBarred 93 = .ok (.iaload, 1) := dk_46 (dk_at dksX9_isBarred_3 21 rfl rfl)
theorem dX9_isBarred_94 : decode cX9_isBarred 94 = .ok (.iadd, 1) := dk_96 (dk_at dksX9_isBarred_3 22 rfl rfl)
theorem dX9_isBarred_95 : decode cX9_isBarred 95 = .ok (.i2l, 1) := dk_133 (dk_at dksX9_isBarred_3 23 rfl rfl)
theorem dX9_isBarred_96 : decode cX9_isBarred 96 = .ok (.invokestatic 122, 3) := dk_184 0 122 (dk_at dksX9_isBarred_4 0 rfl rfl)
theorem dX9_isBarred_99 : decode cX9_isBarred 99 = .ok (.ifCond .eq 7, 3) := dk_153 0 7 (dk_at dksX9_isBarred_4 3 rfl rfl)
theorem dX9_isBarred_102 : decode cX9_isBarred 102 = .ok (.iconst 1, 1) := dk_4 (dk_at dksX9_isBarred_4 6 rfl rfl)
theorem dX9_isBarred_103 : decode cX9_isBarred 103 = .ok (.goto 4, 3) := dk_167 0 4 (dk_at dksX9_isBarred_4 7 rfl rfl)
theorem dX9_isBarred_106 : decode cX9_isBarred 106 = .ok (.iconst 0, 1) := dk_3 (dk_at dksX9_isBarred_4 10 rfl rfl)
theorem dX9_isBarred_107 : decode cX9_isBarred 107 = .ok (.istore_n 3, 1) := dk_62 (dk_at dksX9_isBarred_4 11 rfl rfl)
theorem dX9_isBarred_108 : decode cX9_isBarred 108 = .ok (.iinc 4 1, 3) := dk_132 4 1 (dk_at dksX9_isBarred_4 12 rfl rfl)
theorem dX9_isBarred_111 : decode cX9_isBarred 111 = .ok (.goto (-106), 3) := dk_167 255 150 (dk_at dksX9_isBarred_4 15 rfl rfl)
theorem dX9_isBarred_114 : decode cX9_isBarred 114 = .ok (.iload_n 3, 1) := dk_29 (dk_at dksX9_isBarred_4 18 rfl rfl)
theorem dX9_isBarred_115 : decode cX9_isBarred 115 = .ok (.ireturn, 1) := dk_172 (dk_at dksX9_isBarred_4 19 rfl rfl)
abbrev cX9_fenceThere : ByteArray := prog_15_method_27_code
def yX9_fenceThere : MethodName := ⟨RX9, "fenceThere", "(II)I"⟩
def dkwX9_fenceThere_1 : List UInt8 := [153, 0, 8, 21, 4, 167, 0, 4, 29, 62, 132, 4, 1, 167, 255, 224, 29, 172]
abbrev dktX9_fenceThere_1 : List UInt8 := dkwX9_fenceThere_1 ++ []
def dkwX9_fenceThere_0 : List UInt8 := [2, 62, 3, 54, 4, 21, 4, 42, 180, 0, 16, 4, 46, 162, 0, 27, 42, 21, 4, 27, 28, 182, 0, 126]
abbrev dktX9_fenceThere_0 : List UInt8 := dkwX9_fenceThere_0 ++ dktX9_fenceThere_1
theorem dksX9_fenceThere_0 : cX9_fenceThere.data.toList.drop 0 = dktX9_fenceThere_0 := by decide +kernel
theorem dksX9_fenceThere_1 : cX9_fenceThere.data.toList.drop 24 = dktX9_fenceThere_1 := dk_seg dksX9_fenceThere_0 24 rfl rfl
theorem dX9_fenceThere_0 : decode cX9_fenceThere 0 = .ok (.iconst (-1), 1) := dk_2 (dk_at dksX9_fenceThere_0 0 rfl rfl)
theorem dX9_fenceThere_1 : decode cX9_fenceThere 1 = .ok (.istore_n 3, 1) := dk_62 (dk_at dksX9_fenceThere_0 1 rfl rfl)
theorem dX9_fenceThere_2 : decode cX9_fenceThere 2 = .ok (.iconst 0, 1) := dk_3 (dk_at dksX9_fenceThere_0 2 rfl rfl)
theorem dX9_fenceThere_3 : decode cX9_fenceThere 3 = .ok (.istore 4, 2) := dk_54 4 (dk_at dksX9_fenceThere_0 3 rfl rfl)
theorem dX9_fenceThere_5 : decode cX9_fenceThere 5 = .ok (.iload 4, 2) := dk_21 4 (dk_at dksX9_fenceThere_0 5 rfl rfl)
theorem dX9_fenceThere_7 : decode cX9_fenceThere 7 = .ok (.aload_n 0, 1) := dk_42 (dk_at dksX9_fenceThere_0 7 rfl rfl)
theorem dX9_fenceThere_8 : decode cX9_fenceThere 8 = .ok (.getfield 16, 3) := dk_180 0 16 (dk_at dksX9_fenceThere_0 8 rfl rfl)
theorem dX9_fenceThere_11 : decode cX9_fenceThere 11 = .ok (.iconst 1, 1) := dk_4 (dk_at dksX9_fenceThere_0 11 rfl rfl)
theorem dX9_fenceThere_12 : decode cX9_fenceThere 12 = .ok (.iaload, 1) := dk_46 (dk_at dksX9_fenceThere_0 12 rfl rfl)
theorem dX9_fenceThere_13 : decode cX9_fenceThere 13 = .ok (.if_icmp .ge 27, 3) := dk_162 0 27 (dk_at dksX9_fenceThere_0 13 rfl rfl)
theorem dX9_fenceThere_16 : decode cX9_fenceThere 16 = .ok (.aload_n 0, 1) := dk_42 (dk_at dksX9_fenceThere_0 16 rfl rfl)
theorem dX9_fenceThere_17 : decode cX9_fenceThere 17 = .ok (.iload 4, 2) := dk_21 4 (dk_at dksX9_fenceThere_0 17 rfl rfl)
theorem dX9_fenceThere_19 : decode cX9_fenceThere 19 = .ok (.iload_n 1, 1) := dk_27 (dk_at dksX9_fenceThere_0 19 rfl rfl)
theorem dX9_fenceThere_20 : decode cX9_fenceThere 20 = .ok (.iload_n 2, 1) := dk_28 (dk_at dksX9_fenceThere_0 20 rfl rfl)
theorem dX9_fenceThere_21 : decode cX9_fenceThere 21 = .ok (.invokevirtual 126, 3) := dk_182 0 126 (dk_at dksX9_fenceThere_0 21 rfl rfl)
theorem dX9_fenceThere_24 : decode cX9_fenceThere 24 = .ok (.ifCond .eq 8, 3) := dk_153 0 8 (dk_at dksX9_fenceThere_1 0 rfl rfl)
theorem dX9_fenceThere_27 : decode cX9_fenceThere 27 = .ok (.iload 4, 2) := dk_21 4 (dk_at dksX9_fenceThere_1 3 rfl rfl)
theorem dX9_fenceThere_29 : decode cX9_fenceThere 29 = .ok (.goto 4, 3) := dk_167 0 4 (dk_at dksX9_fenceThere_1 5 rfl rfl)
theorem dX9_fenceThere_32 : decode cX9_fenceThere 32 = .ok (.iload_n 3, 1) := dk_29 (dk_at dksX9_fenceThere_1 8 rfl rfl)
theorem dX9_fenceThere_33 : decode cX9_fenceThere 33 = .ok (.istore_n 3, 1) := dk_62 (dk_at dksX9_fenceThere_1 9 rfl rfl)
theorem dX9_fenceThere_34 : decode cX9_fenceThere 34 = .ok (.iinc 4 1, 3) := dk_132 4 1 (dk_at dksX9_fenceThere_1 10 rfl rfl)
theorem dX9_fenceThere_37 : decode cX9_fenceThere 37 = .ok (.goto (-32), 3) := dk_167 255 224 (dk_at dksX9_fenceThere_1 13 rfl rfl)
theorem dX9_fenceThere_40 : decode cX9_fenceThere 40 = .ok (.iload_n 3, 1) := dk_29 (dk_at dksX9_fenceThere_1 16 rfl rfl)
theorem dX9_fenceThere_41 : decode cX9_fenceThere 41 = .ok (.ireturn, 1) := dk_172 (dk_at dksX9_fenceThere_1 17 rfl rfl)
abbrev cX9_isInFence : ByteArray := prog_15_method_26_code
def yX9_isInFence : MethodName := ⟨RX9, "isInFence", "(III)Z"⟩
def dkwX9_isInFence_2 : List UInt8 := [180, 0, 16, 21, 4, 6, 96, 46, 133, 184, 0, 122, 153, 0, 7, 4, 167, 0, 4, 3, 172]
abbrev dktX9_isInFence_2 : List UInt8 := dkwX9_isInFence_2 ++ []
def dkwX9_isInFence_1 : List UInt8 := [4, 96, 46, 133, 184, 0, 122, 153, 0, 35, 29, 133, 42, 180, 0, 16, 21, 4, 5, 96, 46, 133, 42]
abbrev dktX9_isInFence_1 : List UInt8 := dkwX9_isInFence_1 ++ dktX9_isInFence_2
def dkwX9_isInFence_0 : List UInt8 := [16, 24, 7, 27, 104, 96, 54, 4, 28, 133, 42, 180, 0, 16, 21, 4, 46, 133, 42, 180, 0, 16, 21, 4]
abbrev dktX9_isInFence_0 : List UInt8 := dkwX9_isInFence_0 ++ dktX9_isInFence_1
theorem dksX9_isInFence_0 : cX9_isInFence.data.toList.drop 0 = dktX9_isInFence_0 := by decide +kernel
theorem dksX9_isInFence_1 : cX9_isInFence.data.toList.drop 24 = dktX9_isInFence_1 := dk_seg dksX9_isInFence_0 24 rfl rfl
theorem dksX9_isInFence_2 : cX9_isInFence.data.toList.drop 47 = dktX9_isInFence_2 := dk_seg dksX9_isInFence_1 23 rfl rfl
theorem dX9_isInFence_0 : decode cX9_isInFence 0 = .ok (.bipush 24, 2) := dk_16 24 (dk_at dksX9_isInFence_0 0 rfl rfl)
theorem dX9_isInFence_2 : decode cX9_isInFence 2 = .ok (.iconst 4, 1) := dk_7 (dk_at dksX9_isInFence_0 2 rfl rfl)
theorem dX9_isInFence_3 : decode cX9_isInFence 3 = .ok (.iload_n 1, 1) := dk_27 (dk_at dksX9_isInFence_0 3 rfl rfl)
theorem dX9_isInFence_4 : decode cX9_isInFence 4 = .ok (.imul, 1) := dk_104 (dk_at dksX9_isInFence_0 4 rfl rfl)
theorem dX9_isInFence_5 : decode cX9_isInFence 5 = .ok (.iadd, 1) := dk_96 (dk_at dksX9_isInFence_0 5 rfl rfl)
theorem dX9_isInFence_6 : decode cX9_isInFence 6 = .ok (.istore 4, 2) := dk_54 4 (dk_at dksX9_isInFence_0 6 rfl rfl)
theorem dX9_isInFence_8 : decode cX9_isInFence 8 = .ok (.iload_n 2, 1) := dk_28 (dk_at dksX9_isInFence_0 8 rfl rfl)
theorem dX9_isInFence_9 : decode cX9_isInFence 9 = .ok (.i2l, 1) := dk_133 (dk_at dksX9_isInFence_0 9 rfl rfl)
theorem dX9_isInFence_10 : decode cX9_isInFence 10 = .ok (.aload_n 0, 1) := dk_42 (dk_at dksX9_isInFence_0 10 rfl rfl)
theorem dX9_isInFence_11 : decode cX9_isInFence 11 = .ok (.getfield 16, 3) := dk_180 0 16 (dk_at dksX9_isInFence_0 11 rfl rfl)
theorem dX9_isInFence_14 : decode cX9_isInFence 14 = .ok (.iload 4, 2) := dk_21 4 (dk_at dksX9_isInFence_0 14 rfl rfl)
theorem dX9_isInFence_16 : decode cX9_isInFence 16 = .ok (.iaload, 1) := dk_46 (dk_at dksX9_isInFence_0 16 rfl rfl)
theorem dX9_isInFence_17 : decode cX9_isInFence 17 = .ok (.i2l, 1) := dk_133 (dk_at dksX9_isInFence_0 17 rfl rfl)
theorem dX9_isInFence_18 : decode cX9_isInFence 18 = .ok (.aload_n 0, 1) := dk_42 (dk_at dksX9_isInFence_0 18 rfl rfl)
theorem dX9_isInFence_19 : decode cX9_isInFence 19 = .ok (.getfield 16, 3) := dk_180 0 16 (dk_at dksX9_isInFence_0 19 rfl rfl)
theorem dX9_isInFence_22 : decode cX9_isInFence 22 = .ok (.iload 4, 2) := dk_21 4 (dk_at dksX9_isInFence_0 22 rfl rfl)
theorem dX9_isInFence_24 : decode cX9_isInFence 24 = .ok (.iconst 1, 1) := dk_4 (dk_at dksX9_isInFence_1 0 rfl rfl)
theorem dX9_isInFence_25 : decode cX9_isInFence 25 = .ok (.iadd, 1) := dk_96 (dk_at dksX9_isInFence_1 1 rfl rfl)
theorem dX9_isInFence_26 : decode cX9_isInFence 26 = .ok (.iaload, 1) := dk_46 (dk_at dksX9_isInFence_1 2 rfl rfl)
theorem dX9_isInFence_27 : decode cX9_isInFence 27 = .ok (.i2l, 1) := dk_133 (dk_at dksX9_isInFence_1 3 rfl rfl)
theorem dX9_isInFence_28 : decode cX9_isInFence 28 = .ok (.invokestatic 122, 3) := dk_184 0 122 (dk_at dksX9_isInFence_1 4 rfl rfl)
theorem dX9_isInFence_31 : decode cX9_isInFence 31 = .ok (.ifCond .eq 35, 3) := dk_153 0 35 (dk_at dksX9_isInFence_1 7 rfl rfl)
theorem dX9_isInFence_34 : decode cX9_isInFence 34 = .ok (.iload_n 3, 1) := dk_29 (dk_at dksX9_isInFence_1 10 rfl rfl)
theorem dX9_isInFence_35 : decode cX9_isInFence 35 = .ok (.i2l, 1) := dk_133 (dk_at dksX9_isInFence_1 11 rfl rfl)
theorem dX9_isInFence_36 : decode cX9_isInFence 36 = .ok (.aload_n 0, 1) := dk_42 (dk_at dksX9_isInFence_1 12 rfl rfl)
theorem dX9_isInFence_37 : decode cX9_isInFence 37 = .ok (.getfield 16, 3) := dk_180 0 16 (dk_at dksX9_isInFence_1 13 rfl rfl)
theorem dX9_isInFence_40 : decode cX9_isInFence 40 = .ok (.iload 4, 2) := dk_21 4 (dk_at dksX9_isInFence_1 16 rfl rfl)
theorem dX9_isInFence_42 : decode cX9_isInFence 42 = .ok (.iconst 2, 1) := dk_5 (dk_at dksX9_isInFence_1 18 rfl rfl)
theorem dX9_isInFence_43 : decode cX9_isInFence 43 = .ok (.iadd, 1) := dk_96 (dk_at dksX9_isInFence_1 19 rfl rfl)
theorem dX9_isInFence_44 : decode cX9_isInFence 44 = .ok (.iaload, 1) := dk_46 (dk_at dksX9_isInFence_1 20 rfl rfl)
theorem dX9_isInFence_45 : decode cX9_isInFence 45 = .ok (.i2l, 1) := dk_133 (dk_at dksX9_isInFence_1 21 rfl rfl)
theorem dX9_isInFence_46 : decode cX9_isInFence 46 = .ok (.aload_n 0, 1) := dk_42 (dk_at dksX9_isInFence_1 22 rfl rfl)
theorem dX9_isInFence_47 : decode cX9_isInFence 47 = .ok (.getfield 16, 3) := dk_180 0 16 (dk_at dksX9_isInFence_2 0 rfl rfl)
theorem dX9_isInFence_50 : decode cX9_isInFence 50 = .ok (.iload 4, 2) := dk_21 4 (dk_at dksX9_isInFence_2 3 rfl rfl)
theorem dX9_isInFence_52 : decode cX9_isInFence 52 = .ok (.iconst 3, 1) := dk_6 (dk_at dksX9_isInFence_2 5 rfl rfl)
theorem dX9_isInFence_53 : decode cX9_isInFence 53 = .ok (.iadd, 1) := dk_96 (dk_at dksX9_isInFence_2 6 rfl rfl)
theorem dX9_isInFence_54 : decode cX9_isInFence 54 = .ok (.iaload, 1) := dk_46 (dk_at dksX9_isInFence_2 7 rfl rfl)
theorem dX9_isInFence_55 : decode cX9_isInFence 55 = .ok (.i2l, 1) := dk_133 (dk_at dksX9_isInFence_2 8 rfl rfl)
theorem dX9_isInFence_56 : decode cX9_isInFence 56 = .ok (.invokestatic 122, 3) := dk_184 0 122 (dk_at dksX9_isInFence_2 9 rfl rfl)
theorem dX9_isInFence_59 : decode cX9_isInFence 59 = .ok (.ifCond .eq 7, 3) := dk_153 0 7 (dk_at dksX9_isInFence_2 12 rfl rfl)
theorem dX9_isInFence_62 : decode cX9_isInFence 62 = .ok (.iconst 1, 1) := dk_4 (dk_at dksX9_isInFence_2 15 rfl rfl)
theorem dX9_isInFence_63 : decode cX9_isInFence 63 = .ok (.goto 4, 3) := dk_167 0 4 (dk_at dksX9_isInFence_2 16 rfl rfl)
theorem dX9_isInFence_66 : decode cX9_isInFence 66 = .ok (.iconst 0, 1) := dk_3 (dk_at dksX9_isInFence_2 19 rfl rfl)
theorem dX9_isInFence_67 : decode cX9_isInFence 67 = .ok (.ireturn, 1) := dk_172 (dk_at dksX9_isInFence_2 20 rfl rfl)
abbrev cX9_fenceOf : ByteArray := prog_15_method_15_code
def yX9_fenceOf : MethodName := ⟨RX9, "fenceOf", "(I)I"⟩
def dkwX9_fenceOf_0 : List UInt8 := [42, 180, 0, 16, 27, 184, 0, 112, 4, 96, 46, 172]
abbrev dktX9_fenceOf_0 : List UInt8 := dkwX9_fenceOf_0 ++ []
theorem dksX9_fenceOf_0 : cX9_fenceOf.data.toList.drop 0 = dktX9_fenceOf_0 := by decide +kernel
theorem dX9_fenceOf_0 : decode cX9_fenceOf 0 = .ok (.aload_n 0, 1) := dk_42 (dk_at dksX9_fenceOf_0 0 rfl rfl)
theorem dX9_fenceOf_1 : decode cX9_fenceOf 1 = .ok (.getfield 16, 3) := dk_180 0 16 (dk_at dksX9_fenceOf_0 1 rfl rfl)
theorem dX9_fenceOf_4 : decode cX9_fenceOf 4 = .ok (.iload_n 1, 1) := dk_27 (dk_at dksX9_fenceOf_0 4 rfl rfl)
theorem dX9_fenceOf_5 : decode cX9_fenceOf 5 = .ok (.invokestatic 112, 3) := dk_184 0 112 (dk_at dksX9_fenceOf_0 5 rfl rfl)
theorem dX9_fenceOf_8 : decode cX9_fenceOf 8 = .ok (.iconst 1, 1) := dk_4 (dk_at dksX9_fenceOf_0 8 rfl rfl)
theorem dX9_fenceOf_9 : decode cX9_fenceOf 9 = .ok (.iadd, 1) := dk_96 (dk_at dksX9_fenceOf_0 9 rfl rfl)
theorem dX9_fenceOf_10 : decode cX9_fenceOf 10 = .ok (.iaload, 1) := dk_46 (dk_at dksX9_fenceOf_0 10 rfl rfl)
theorem dX9_fenceOf_11 : decode cX9_fenceOf 11 = .ok (.ireturn, 1) := dk_172 (dk_at dksX9_fenceOf_0 11 rfl rfl)
abbrev cX9_cellThere : ByteArray := prog_15_method_29_code
def yX9_cellThere : MethodName := ⟨RX9, "cellThere", "(IIIZ)I"⟩
def dkwX9_cellThere_2 : List UInt8 := [21, 6, 167, 0, 5, 21, 5, 54, 5, 132, 6, 1, 167, 255, 202, 21, 5, 172]
abbrev dktX9_cellThere_2 : List UInt8 := dkwX9_cellThere_2 ++ []
def dkwX9_cellThere_1 : List UInt8 := [21, 6, 27, 28, 182, 0, 130, 153, 0, 22, 21, 4, 153, 0, 12, 42, 21, 6, 182, 0, 115, 153, 0, 8]
abbrev dktX9_cellThere_1 : List UInt8 := dkwX9_cellThere_1 ++ dktX9_cellThere_2
def dkwX9_cellThere_0 : List UInt8 := [2, 54, 5, 3, 54, 6, 21, 6, 42, 180, 0, 16, 5, 46, 162, 0, 49, 21, 6, 29, 159, 0, 33, 42]
abbrev dktX9_cellThere_0 : List UInt8 := dkwX9_cellThere_0 ++ dktX9_cellThere_1
theorem dksX9_cellThere_0 : cX9_cellThere.data.toList.drop 0 = dktX9_cellThere_0 := by decide +kernel
theorem dksX9_cellThere_1 : cX9_cellThere.data.toList.drop 24 = dktX9_cellThere_1 := dk_seg dksX9_cellThere_0 24 rfl rfl
theorem dksX9_cellThere_2 : cX9_cellThere.data.toList.drop 48 = dktX9_cellThere_2 := dk_seg dksX9_cellThere_1 24 rfl rfl
theorem dX9_cellThere_0 : decode cX9_cellThere 0 = .ok (.iconst (-1), 1) := dk_2 (dk_at dksX9_cellThere_0 0 rfl rfl)
theorem dX9_cellThere_1 : decode cX9_cellThere 1 = .ok (.istore 5, 2) := dk_54 5 (dk_at dksX9_cellThere_0 1 rfl rfl)
theorem dX9_cellThere_3 : decode cX9_cellThere 3 = .ok (.iconst 0, 1) := dk_3 (dk_at dksX9_cellThere_0 3 rfl rfl)
theorem dX9_cellThere_4 : decode cX9_cellThere 4 = .ok (.istore 6, 2) := dk_54 6 (dk_at dksX9_cellThere_0 4 rfl rfl)
theorem dX9_cellThere_6 : decode cX9_cellThere 6 = .ok (.iload 6, 2) := dk_21 6 (dk_at dksX9_cellThere_0 6 rfl rfl)
theorem dX9_cellThere_8 : decode cX9_cellThere 8 = .ok (.aload_n 0, 1) := dk_42 (dk_at dksX9_cellThere_0 8 rfl rfl)
theorem dX9_cellThere_9 : decode cX9_cellThere 9 = .ok (.getfield 16, 3) := dk_180 0 16 (dk_at dksX9_cellThere_0 9 rfl rfl)
theorem dX9_cellThere_12 : decode cX9_cellThere 12 = .ok (.iconst 2, 1) := dk_5 (dk_at dksX9_cellThere_0 12 rfl rfl)
theorem dX9_cellThere_13 : decode cX9_cellThere 13 = .ok (.iaload, 1) := dk_46 (dk_at dksX9_cellThere_0 13 rfl rfl)
theorem dX9_cellThere_14 : decode cX9_cellThere 14 = .ok (.if_icmp .ge 49, 3) := dk_162 0 49 (dk_at dksX9_cellThere_0 14 rfl rfl)
theorem dX9_cellThere_17 : decode cX9_cellThere 17 = .ok (.iload 6, 2) := dk_21 6 (dk_at dksX9_cellThere_0 17 rfl rfl)
theorem dX9_cellThere_19 : decode cX9_cellThere 19 = .ok (.iload_n 3, 1) := dk_29 (dk_at dksX9_cellThere_0 19 rfl rfl)
theorem dX9_cellThere_20 : decode cX9_cellThere 20 = .ok (.if_icmp .eq 33, 3) := dk_159 0 33 (dk_at dksX9_cellThere_0 20 rfl rfl)
theorem dX9_cellThere_23 : decode cX9_cellThere 23 = .ok (.aload_n 0, 1) := dk_42 (dk_at dksX9_cellThere_0 23 rfl rfl)
theorem dX9_cellThere_24 : decode cX9_cellThere 24 = .ok (.iload 6, 2) := dk_21 6 (dk_at dksX9_cellThere_1 0 rfl rfl)
theorem dX9_cellThere_26 : decode cX9_cellThere 26 = .ok (.iload_n 1, 1) := dk_27 (dk_at dksX9_cellThere_1 2 rfl rfl)
theorem dX9_cellThere_27 : decode cX9_cellThere 27 = .ok (.iload_n 2, 1) := dk_28 (dk_at dksX9_cellThere_1 3 rfl rfl)
theorem dX9_cellThere_28 : decode cX9_cellThere 28 = .ok (.invokevirtual 130, 3) := dk_182 0 130 (dk_at dksX9_cellThere_1 4 rfl rfl)
theorem dX9_cellThere_31 : decode cX9_cellThere 31 = .ok (.ifCond .eq 22, 3) := dk_153 0 22 (dk_at dksX9_cellThere_1 7 rfl rfl)
theorem dX9_cellThere_34 : decode cX9_cellThere 34 = .ok (.iload 4, 2) := dk_21 4 (dk_at dksX9_cellThere_1 10 rfl rfl)
theorem dX9_cellThere_36 : decode cX9_cellThere 36 = .ok (.ifCond .eq 12, 3) := dk_153 0 12 (dk_at dksX9_cellThere_1 12 rfl rfl)
theorem dX9_cellThere_39 : decode cX9_cellThere 39 = .ok (.aload_n 0, 1) := dk_42 (dk_at dksX9_cellThere_1 15 rfl rfl)
theorem dX9_cellThere_40 : decode cX9_cellThere 40 = .ok (.iload 6, 2) := dk_21 6 (dk_at dksX9_cellThere_1 16 rfl rfl)
theorem dX9_cellThere_42 : decode cX9_cellThere 42 = .ok (.invokevirtual 115, 3) := dk_182 0 115 (dk_at dksX9_cellThere_1 18 rfl rfl)
theorem dX9_cellThere_45 : decode cX9_cellThere 45 = .ok (.ifCond .eq 8, 3) := dk_153 0 8 (dk_at dksX9_cellThere_1 21 rfl rfl)
theorem dX9_cellThere_48 : decode cX9_cellThere 48 = .ok (.iload 6, 2) := dk_21 6 (dk_at dksX9_cellThere_2 0 rfl rfl)
theorem dX9_cellThere_50 : decode cX9_cellThere 50 = .ok (.goto 5, 3) := dk_167 0 5 (dk_at dksX9_cellThere_2 2 rfl rfl)
theorem dX9_cellThere_53 : decode cX9_cellThere 53 = .ok (.iload 5, 2) := dk_21 5 (dk_at dksX9_cellThere_2 5 rfl rfl)
theorem dX9_cellThere_55 : decode cX9_cellThere 55 = .ok (.istore 5, 2) := dk_54 5 (dk_at dksX9_cellThere_2 7 rfl rfl)
theorem dX9_cellThere_57 : decode cX9_cellThere 57 = .ok (.iinc 6 1, 3) := dk_132 6 1 (dk_at dksX9_cellThere_2 9 rfl rfl)
theorem dX9_cellThere_60 : decode cX9_cellThere 60 = .ok (.goto (-54), 3) := dk_167 255 202 (dk_at dksX9_cellThere_2 12 rfl rfl)
theorem dX9_cellThere_63 : decode cX9_cellThere 63 = .ok (.iload 5, 2) := dk_21 5 (dk_at dksX9_cellThere_2 15 rfl rfl)
theorem dX9_cellThere_65 : decode cX9_cellThere 65 = .ok (.ireturn, 1) := dk_172 (dk_at dksX9_cellThere_2 17 rfl rfl)
abbrev cX9_covers : ByteArray := prog_15_method_28_code
def yX9_covers : MethodName := ⟨RX9, "covers", "(III)Z"⟩
def dkwX9_covers_2 : List UInt8 := [21, 4, 46, 96, 133, 10, 101, 184, 0, 122, 153, 0, 7, 4, 167, 0, 4, 3, 172]
abbrev dktX9_covers_2 : List UInt8 := dkwX9_covers_2 ++ []
def dkwX9_covers_1 : List UInt8 := [180, 0, 16, 21, 4, 16, 6, 96, 46, 133, 42, 180, 0, 16, 21, 4, 16, 6, 96, 46, 42, 180, 0, 16]
abbrev dktX9_covers_1 : List UInt8 := dkwX9_covers_1 ++ dktX9_covers_2
def dkwX9_covers_0 : List UInt8 := [27, 184, 0, 112, 54, 4, 42, 180, 0, 16, 21, 4, 8, 96, 46, 28, 160, 0, 47, 29, 133, 42]
abbrev dktX9_covers_0 : List UInt8 := dkwX9_covers_0 ++ dktX9_covers_1
theorem dksX9_covers_0 : cX9_covers.data.toList.drop 0 = dktX9_covers_0 := by decide +kernel
theorem dksX9_covers_1 : cX9_covers.data.toList.drop 22 = dktX9_covers_1 := dk_seg dksX9_covers_0 22 rfl rfl
theorem dksX9_covers_2 : cX9_covers.data.toList.drop 46 = dktX9_covers_2 := dk_seg dksX9_covers_1 24 rfl rfl
theorem dX9_covers_0 : decode cX9_covers 0 = .ok (.iload_n 1, 1) := dk_27 (dk_at dksX9_covers_0 0 rfl rfl)
theorem dX9_covers_1 : decode cX9_covers 1 = .ok (.invokestatic 112, 3) := dk_184 0 112 (dk_at dksX9_covers_0 1 rfl rfl)
theorem dX9_covers_4 : decode cX9_covers 4 = .ok (.istore 4, 2) := dk_54 4 (dk_at dksX9_covers_0 4 rfl rfl)
theorem dX9_covers_6 : decode cX9_covers 6 = .ok (.aload_n 0, 1) := dk_42 (dk_at dksX9_covers_0 6 rfl rfl)
theorem dX9_covers_7 : decode cX9_covers 7 = .ok (.getfield 16, 3) := dk_180 0 16 (dk_at dksX9_covers_0 7 rfl rfl)
theorem dX9_covers_10 : decode cX9_covers 10 = .ok (.iload 4, 2) := dk_21 4 (dk_at dksX9_covers_0 10 rfl rfl)
theorem dX9_covers_12 : decode cX9_covers 12 = .ok (.iconst 5, 1) := dk_8 (dk_at dksX9_covers_0 12 rfl rfl)
theorem dX9_covers_13 : decode cX9_covers 13 = .ok (.iadd, 1) := dk_96 (dk_at dksX9_covers_0 13 rfl rfl)
theorem dX9_covers_14 : decode cX9_covers 14 = .ok (.iaload, 1) := dk_46 (dk_at dksX9_covers_0 14 rfl rfl)
theorem dX9_covers_15 : decode cX9_covers 15 = .ok (.iload_n 2, 1) := dk_28 (dk_at dksX9_covers_0 15 rfl rfl)
theorem dX9_covers_16 : decode cX9_covers 16 = .ok (.if_icmp .ne 47, 3) := dk_160 0 47 (dk_at dksX9_covers_0 16 rfl rfl)
theorem dX9_covers_19 : decode cX9_covers 19 = .ok (.iload_n 3, 1) := dk_29 (dk_at dksX9_covers_0 19 rfl rfl)
theorem dX9_covers_20 : decode cX9_covers 20 = .ok (.i2l, 1) := dk_133 (dk_at dksX9_covers_0 20 rfl rfl)
theorem dX9_covers_21 : decode cX9_covers 21 = .ok (.aload_n 0, 1) := dk_42 (dk_at dksX9_covers_0 21 rfl rfl)
theorem dX9_covers_22 : decode cX9_covers 22 = .ok (.getfield 16, 3) := dk_180 0 16 (dk_at dksX9_covers_1 0 rfl rfl)
theorem dX9_covers_25 : decode cX9_covers 25 = .ok (.iload 4, 2) := dk_21 4 (dk_at dksX9_covers_1 3 rfl rfl)
theorem dX9_covers_27 : decode cX9_covers 27 = .ok (.bipush 6, 2) := dk_16 6 (dk_at dksX9_covers_1 5 rfl rfl)
theorem dX9_covers_29 : decode cX9_covers 29 = .ok (.iadd, 1) := dk_96 (dk_at dksX9_covers_1 7 rfl rfl)
theorem dX9_covers_30 : decode cX9_covers 30 = .ok (.iaload, 1) := dk_46 (dk_at dksX9_covers_1 8 rfl rfl)
theorem dX9_covers_31 : decode cX9_covers 31 = .ok (.i2l, 1) := dk_133 (dk_at dksX9_covers_1 9 rfl rfl)
theorem dX9_covers_32 : decode cX9_covers 32 = .ok (.aload_n 0, 1) := dk_42 (dk_at dksX9_covers_1 10 rfl rfl)
theorem dX9_covers_33 : decode cX9_covers 33 = .ok (.getfield 16, 3) := dk_180 0 16 (dk_at dksX9_covers_1 11 rfl rfl)
theorem dX9_covers_36 : decode cX9_covers 36 = .ok (.iload 4, 2) := dk_21 4 (dk_at dksX9_covers_1 14 rfl rfl)
theorem dX9_covers_38 : decode cX9_covers 38 = .ok (.bipush 6, 2) := dk_16 6 (dk_at dksX9_covers_1 16 rfl rfl)
theorem dX9_covers_40 : decode cX9_covers 40 = .ok (.iadd, 1) := dk_96 (dk_at dksX9_covers_1 18 rfl rfl)
theorem dX9_covers_41 : decode cX9_covers 41 = .ok (.iaload, 1) := dk_46 (dk_at dksX9_covers_1 19 rfl rfl)
theorem dX9_covers_42 : decode cX9_covers 42 = .ok (.aload_n 0, 1) := dk_42 (dk_at dksX9_covers_1 20 rfl rfl)
theorem dX9_covers_43 : decode cX9_covers 43 = .ok (.getfield 16, 3) := dk_180 0 16 (dk_at dksX9_covers_1 21 rfl rfl)
theorem dX9_covers_46 : decode cX9_covers 46 = .ok (.iload 4, 2) := dk_21 4 (dk_at dksX9_covers_2 0 rfl rfl)
theorem dX9_covers_48 : decode cX9_covers 48 = .ok (.iaload, 1) := dk_46 (dk_at dksX9_covers_2 2 rfl rfl)
theorem dX9_covers_49 : decode cX9_covers 49 = .ok (.iadd, 1) := dk_96 (dk_at dksX9_covers_2 3 rfl rfl)
theorem dX9_covers_50 : decode cX9_covers 50 = .ok (.i2l, 1) := dk_133 (dk_at dksX9_covers_2 4 rfl rfl)
theorem dX9_covers_51 : decode cX9_covers 51 = .ok (.lconst 1, 1) := dk_10 (dk_at dksX9_covers_2 5 rfl rfl)
theorem dX9_covers_52 : decode cX9_covers 52 = .ok (.lsub, 1) := dk_101 (dk_at dksX9_covers_2 6 rfl rfl)
theorem dX9_covers_53 : decode cX9_covers 53 = .ok (.invokestatic 122, 3) := dk_184 0 122 (dk_at dksX9_covers_2 7 rfl rfl)
theorem dX9_covers_56 : decode cX9_covers 56 = .ok (.ifCond .eq 7, 3) := dk_153 0 7 (dk_at dksX9_covers_2 10 rfl rfl)
theorem dX9_covers_59 : decode cX9_covers 59 = .ok (.iconst 1, 1) := dk_4 (dk_at dksX9_covers_2 13 rfl rfl)
theorem dX9_covers_60 : decode cX9_covers 60 = .ok (.goto 4, 3) := dk_167 0 4 (dk_at dksX9_covers_2 14 rfl rfl)
theorem dX9_covers_63 : decode cX9_covers 63 = .ok (.iconst 0, 1) := dk_3 (dk_at dksX9_covers_2 17 rfl rfl)
theorem dX9_covers_64 : decode cX9_covers 64 = .ok (.ireturn, 1) := dk_172 (dk_at dksX9_covers_2 18 rfl rfl)
abbrev cX9_isFixed : ByteArray := prog_15_method_16_code
def yX9_isFixed : MethodName := ⟨RX9, "isFixed", "(I)Z"⟩
def dkwX9_isFixed_0 : List UInt8 := [42, 180, 0, 16, 27, 184, 0, 112, 5, 96, 46, 4, 160, 0, 7, 4, 167, 0, 4, 3, 172]
abbrev dktX9_isFixed_0 : List UInt8 := dkwX9_isFixed_0 ++ []
theorem dksX9_isFixed_0 : cX9_isFixed.data.toList.drop 0 = dktX9_isFixed_0 := by decide +kernel
theorem dX9_isFixed_0 : decode cX9_isFixed 0 = .ok (.aload_n 0, 1) := dk_42 (dk_at dksX9_isFixed_0 0 rfl rfl)
theorem dX9_isFixed_1 : decode cX9_isFixed 1 = .ok (.getfield 16, 3) := dk_180 0 16 (dk_at dksX9_isFixed_0 1 rfl rfl)
theorem dX9_isFixed_4 : decode cX9_isFixed 4 = .ok (.iload_n 1, 1) := dk_27 (dk_at dksX9_isFixed_0 4 rfl rfl)
theorem dX9_isFixed_5 : decode cX9_isFixed 5 = .ok (.invokestatic 112, 3) := dk_184 0 112 (dk_at dksX9_isFixed_0 5 rfl rfl)
theorem dX9_isFixed_8 : decode cX9_isFixed 8 = .ok (.iconst 2, 1) := dk_5 (dk_at dksX9_isFixed_0 8 rfl rfl)
theorem dX9_isFixed_9 : decode cX9_isFixed 9 = .ok (.iadd, 1) := dk_96 (dk_at dksX9_isFixed_0 9 rfl rfl)
theorem dX9_isFixed_10 : decode cX9_isFixed 10 = .ok (.iaload, 1) := dk_46 (dk_at dksX9_isFixed_0 10 rfl rfl)
theorem dX9_isFixed_11 : decode cX9_isFixed 11 = .ok (.iconst 1, 1) := dk_4 (dk_at dksX9_isFixed_0 11 rfl rfl)
theorem dX9_isFixed_12 : decode cX9_isFixed 12 = .ok (.if_icmp .ne 7, 3) := dk_160 0 7 (dk_at dksX9_isFixed_0 12 rfl rfl)
theorem dX9_isFixed_15 : decode cX9_isFixed 15 = .ok (.iconst 1, 1) := dk_4 (dk_at dksX9_isFixed_0 15 rfl rfl)
theorem dX9_isFixed_16 : decode cX9_isFixed 16 = .ok (.goto 4, 3) := dk_167 0 4 (dk_at dksX9_isFixed_0 16 rfl rfl)
theorem dX9_isFixed_19 : decode cX9_isFixed 19 = .ok (.iconst 0, 1) := dk_3 (dk_at dksX9_isFixed_0 19 rfl rfl)
theorem dX9_isFixed_20 : decode cX9_isFixed 20 = .ok (.ireturn, 1) := dk_172 (dk_at dksX9_isFixed_0 20 rfl rfl)
abbrev cX9_terms : ByteArray := prog_15_method_33_code
def yX9_terms : MethodName := ⟨RX9, "terms", "(II)I"⟩
def dkwX9_terms_4 : List UInt8 := [172, 42, 180, 0, 13, 27, 46, 54, 5, 42, 180, 0, 13, 27, 28, 79, 42, 21, 5, 182, 0, 109, 172]
abbrev dktX9_terms_4 : List UInt8 := dkwX9_terms_4 ++ []
def dkwX9_terms_3 : List UInt8 := [184, 0, 122, 153, 0, 16, 28, 133, 29, 133, 21, 4, 133, 184, 0, 122, 154, 0, 9, 42, 2, 182, 0, 105]
abbrev dktX9_terms_3 : List UInt8 := dkwX9_terms_3 ++ dktX9_terms_4
def dkwX9_terms_2 : List UInt8 := [167, 0, 15, 27, 7, 160, 0, 8, 16, 8, 167, 0, 5, 16, 64, 54, 4, 27, 133, 9, 20, 0, 168]
abbrev dktX9_terms_2 : List UInt8 := dkwX9_terms_2 ++ dktX9_terms_3
def dkwX9_terms_1 : List UInt8 := [4, 62, 27, 4, 160, 0, 8, 16, 100, 167, 0, 30, 27, 5, 159, 0, 8, 27, 8, 160, 0, 8, 16, 99]
abbrev dktX9_terms_1 : List UInt8 := dkwX9_terms_1 ++ dktX9_terms_2
def dkwX9_terms_0 : List UInt8 := [42, 3, 181, 0, 92, 27, 4, 160, 0, 8, 16, 10, 167, 0, 13, 27, 5, 160, 0, 7, 3, 167, 0, 4]
abbrev dktX9_terms_0 : List UInt8 := dkwX9_terms_0 ++ dktX9_terms_1
theorem dksX9_terms_0 : cX9_terms.data.toList.drop 0 = dktX9_terms_0 := by decide +kernel
theorem dksX9_terms_1 : cX9_terms.data.toList.drop 24 = dktX9_terms_1 := dk_seg dksX9_terms_0 24 rfl rfl
theorem dksX9_terms_2 : cX9_terms.data.toList.drop 48 = dktX9_terms_2 := dk_seg dksX9_terms_1 24 rfl rfl
theorem dksX9_terms_3 : cX9_terms.data.toList.drop 71 = dktX9_terms_3 := dk_seg dksX9_terms_2 23 rfl rfl
theorem dksX9_terms_4 : cX9_terms.data.toList.drop 95 = dktX9_terms_4 := dk_seg dksX9_terms_3 24 rfl rfl
theorem dX9_terms_0 : decode cX9_terms 0 = .ok (.aload_n 0, 1) := dk_42 (dk_at dksX9_terms_0 0 rfl rfl)
theorem dX9_terms_1 : decode cX9_terms 1 = .ok (.iconst 0, 1) := dk_3 (dk_at dksX9_terms_0 1 rfl rfl)
theorem dX9_terms_2 : decode cX9_terms 2 = .ok (.putfield 92, 3) := dk_181 0 92 (dk_at dksX9_terms_0 2 rfl rfl)
theorem dX9_terms_5 : decode cX9_terms 5 = .ok (.iload_n 1, 1) := dk_27 (dk_at dksX9_terms_0 5 rfl rfl)
theorem dX9_terms_6 : decode cX9_terms 6 = .ok (.iconst 1, 1) := dk_4 (dk_at dksX9_terms_0 6 rfl rfl)
theorem dX9_terms_7 : decode cX9_terms 7 = .ok (.if_icmp .ne 8, 3) := dk_160 0 8 (dk_at dksX9_terms_0 7 rfl rfl)
theorem dX9_terms_10 : decode cX9_terms 10 = .ok (.bipush 10, 2) := dk_16 10 (dk_at dksX9_terms_0 10 rfl rfl)
theorem dX9_terms_12 : decode cX9_terms 12 = .ok (.goto 13, 3) := dk_167 0 13 (dk_at dksX9_terms_0 12 rfl rfl)
theorem dX9_terms_15 : decode cX9_terms 15 = .ok (.iload_n 1, 1) := dk_27 (dk_at dksX9_terms_0 15 rfl rfl)
theorem dX9_terms_16 : decode cX9_terms 16 = .ok (.iconst 2, 1) := dk_5 (dk_at dksX9_terms_0 16 rfl rfl)
theorem dX9_terms_17 : decode cX9_terms 17 = .ok (.if_icmp .ne 7, 3) := dk_160 0 7 (dk_at dksX9_terms_0 17 rfl rfl)
theorem dX9_terms_20 : decode cX9_terms 20 = .ok (.iconst 0, 1) := dk_3 (dk_at dksX9_terms_0 20 rfl rfl)
theorem dX9_terms_21 : decode cX9_terms 21 = .ok (.goto 4, 3) := dk_167 0 4 (dk_at dksX9_terms_0 21 rfl rfl)
theorem dX9_terms_24 : decode cX9_terms 24 = .ok (.iconst 1, 1) := dk_4 (dk_at dksX9_terms_1 0 rfl rfl)
theorem dX9_terms_25 : decode cX9_terms 25 = .ok (.istore_n 3, 1) := dk_62 (dk_at dksX9_terms_1 1 rfl rfl)
theorem dX9_terms_26 : decode cX9_terms 26 = .ok (.iload_n 1, 1) := dk_27 (dk_at dksX9_terms_1 2 rfl rfl)
theorem dX9_terms_27 : decode cX9_terms 27 = .ok (.iconst 1, 1) := dk_4 (dk_at dksX9_terms_1 3 rfl rfl)
theorem dX9_terms_28 : decode cX9_terms 28 = .ok (.if_icmp .ne 8, 3) := dk_160 0 8 (dk_at dksX9_terms_1 4 rfl rfl)
theorem dX9_terms_31 : decode cX9_terms 31 = .ok (.bipush 100, 2) := dk_16 100 (dk_at dksX9_terms_1 7 rfl rfl)
theorem dX9_terms_33 : decode cX9_terms 33 = .ok (.goto 30, 3) := dk_167 0 30 (dk_at dksX9_terms_1 9 rfl rfl)
theorem dX9_terms_36 : decode cX9_terms 36 = .ok (.iload_n 1, 1) := dk_27 (dk_at dksX9_terms_1 12 rfl rfl)
theorem dX9_terms_37 : decode cX9_terms 37 = .ok (.iconst 2, 1) := dk_5 (dk_at dksX9_terms_1 13 rfl rfl)
theorem dX9_terms_38 : decode cX9_terms 38 = .ok (.if_icmp .eq 8, 3) := dk_159 0 8 (dk_at dksX9_terms_1 14 rfl rfl)
theorem dX9_terms_41 : decode cX9_terms 41 = .ok (.iload_n 1, 1) := dk_27 (dk_at dksX9_terms_1 17 rfl rfl)
theorem dX9_terms_42 : decode cX9_terms 42 = .ok (.iconst 5, 1) := dk_8 (dk_at dksX9_terms_1 18 rfl rfl)
theorem dX9_terms_43 : decode cX9_terms 43 = .ok (.if_icmp .ne 8, 3) := dk_160 0 8 (dk_at dksX9_terms_1 19 rfl rfl)
theorem dX9_terms_46 : decode cX9_terms 46 = .ok (.bipush 99, 2) := dk_16 99 (dk_at dksX9_terms_1 22 rfl rfl)
theorem dX9_terms_48 : decode cX9_terms 48 = .ok (.goto 15, 3) := dk_167 0 15 (dk_at dksX9_terms_2 0 rfl rfl)
theorem dX9_terms_51 : decode cX9_terms 51 = .ok (.iload_n 1, 1) := dk_27 (dk_at dksX9_terms_2 3 rfl rfl)
theorem dX9_terms_52 : decode cX9_terms 52 = .ok (.iconst 4, 1) := dk_7 (dk_at dksX9_terms_2 4 rfl rfl)
theorem dX9_terms_53 : decode cX9_terms 53 = .ok (.if_icmp .ne 8, 3) := dk_160 0 8 (dk_at dksX9_terms_2 5 rfl rfl)
theorem dX9_terms_56 : decode cX9_terms 56 = .ok (.bipush 8, 2) := dk_16 8 (dk_at dksX9_terms_2 8 rfl rfl)
theorem dX9_terms_58 : decode cX9_terms 58 = .ok (.goto 5, 3) := dk_167 0 5 (dk_at dksX9_terms_2 10 rfl rfl)
theorem dX9_terms_61 : decode cX9_terms 61 = .ok (.bipush 64, 2) := dk_16 64 (dk_at dksX9_terms_2 13 rfl rfl)
theorem dX9_terms_63 : decode cX9_terms 63 = .ok (.istore 4, 2) := dk_54 4 (dk_at dksX9_terms_2 15 rfl rfl)
theorem dX9_terms_65 : decode cX9_terms 65 = .ok (.iload_n 1, 1) := dk_27 (dk_at dksX9_terms_2 17 rfl rfl)
theorem dX9_terms_66 : decode cX9_terms 66 = .ok (.i2l, 1) := dk_133 (dk_at dksX9_terms_2 18 rfl rfl)
theorem dX9_terms_67 : decode cX9_terms 67 = .ok (.lconst 0, 1) := dk_9 (dk_at dksX9_terms_2 19 rfl rfl)
theorem dX9_terms_68 : decode cX9_terms 68 = .ok (.ldc2_w 168, 3) := dk_20 0 168 (dk_at dksX9_terms_2 20 rfl rfl)
theorem dX9_terms_71 : decode cX9_terms 71 = .ok (.invokestatic 122, 3) := dk_184 0 122 (dk_at dksX9_terms_3 0 rfl rfl)
theorem dX9_terms_74 : decode cX9_terms 74 = .ok (.ifCond .eq 16, 3) := dk_153 0 16 (dk_at dksX9_terms_3 3 rfl rfl)
theorem dX9_terms_77 : decode cX9_terms 77 = .ok (.iload_n 2, 1) := dk_28 (dk_at dksX9_terms_3 6 rfl rfl)
theorem dX9_terms_78 : decode cX9_terms 78 = .ok (.i2l, 1) := dk_133 (dk_at dksX9_terms_3 7 rfl rfl)
theorem dX9_terms_79 : decode cX9_terms 79 = .ok (.iload_n 3, 1) := dk_29 (dk_at dksX9_terms_3 8 rfl rfl)
theorem dX9_terms_80 : decode cX9_terms 80 = .ok (.i2l, 1) := dk_133 (dk_at dksX9_terms_3 9 rfl rfl)
theorem dX9_terms_81 : decode cX9_terms 81 = .ok (.iload 4, 2) := dk_21 4 (dk_at dksX9_terms_3 10 rfl rfl)
theorem dX9_terms_83 : decode cX9_terms 83 = .ok (.i2l, 1) := dk_133 (dk_at dksX9_terms_3 12 rfl rfl)
theorem dX9_terms_84 : decode cX9_terms 84 = .ok (.invokestatic 122, 3) := dk_184 0 122 (dk_at dksX9_terms_3 13 rfl rfl)
theorem dX9_terms_87 : decode cX9_terms 87 = .ok (.ifCond .ne 9, 3) := dk_154 0 9 (dk_at dksX9_terms_3 16 rfl rfl)
theorem dX9_terms_90 : decode cX9_terms 90 = .ok (.aload_n 0, 1) := dk_42 (dk_at dksX9_terms_3 19 rfl rfl)
theorem dX9_terms_91 : decode cX9_terms 91 = .ok (.iconst (-1), 1) := dk_2 (dk_at dksX9_terms_3 20 rfl rfl)
theorem dX9_terms_92 : decode cX9_terms 92 = .ok (.invokevirtual 105, 3) := dk_182 0 105 (dk_at dksX9_terms_3 21 rfl rfl)
theorem dX9_terms_95 : decode cX9_terms 95 = .ok (.ireturn, 1) := dk_172 (dk_at dksX9_terms_4 0 rfl rfl)
theorem dX9_terms_96 : decode cX9_terms 96 = .ok (.aload_n 0, 1) := dk_42 (dk_at dksX9_terms_4 1 rfl rfl)
theorem dX9_terms_97 : decode cX9_terms 97 = .ok (.getfield 13, 3) := dk_180 0 13 (dk_at dksX9_terms_4 2 rfl rfl)
theorem dX9_terms_100 : decode cX9_terms 100 = .ok (.iload_n 1, 1) := dk_27 (dk_at dksX9_terms_4 5 rfl rfl)
theorem dX9_terms_101 : decode cX9_terms 101 = .ok (.iaload, 1) := dk_46 (dk_at dksX9_terms_4 6 rfl rfl)
theorem dX9_terms_102 : decode cX9_terms 102 = .ok (.istore 5, 2) := dk_54 5 (dk_at dksX9_terms_4 7 rfl rfl)
theorem dX9_terms_104 : decode cX9_terms 104 = .ok (.aload_n 0, 1) := dk_42 (dk_at dksX9_terms_4 9 rfl rfl)
theorem dX9_terms_105 : decode cX9_terms 105 = .ok (.getfield 13, 3) := dk_180 0 13 (dk_at dksX9_terms_4 10 rfl rfl)
theorem dX9_terms_108 : decode cX9_terms 108 = .ok (.iload_n 1, 1) := dk_27 (dk_at dksX9_terms_4 13 rfl rfl)
theorem dX9_terms_109 : decode cX9_terms 109 = .ok (.iload_n 2, 1) := dk_28 (dk_at dksX9_terms_4 14 rfl rfl)
theorem dX9_terms_110 : decode cX9_terms 110 = .ok (.iastore, 1) := dk_79 (dk_at dksX9_terms_4 15 rfl rfl)
theorem dX9_terms_111 : decode cX9_terms 111 = .ok (.aload_n 0, 1) := dk_42 (dk_at dksX9_terms_4 16 rfl rfl)
theorem dX9_terms_112 : decode cX9_terms 112 = .ok (.iload 5, 2) := dk_21 5 (dk_at dksX9_terms_4 17 rfl rfl)
theorem dX9_terms_114 : decode cX9_terms 114 = .ok (.invokevirtual 109, 3) := dk_182 0 109 (dk_at dksX9_terms_4 19 rfl rfl)
theorem dX9_terms_117 : decode cX9_terms 117 = .ok (.ireturn, 1) := dk_172 (dk_at dksX9_terms_4 22 rfl rfl)
abbrev cX9_feed : ByteArray := prog_15_method_35_code
def yX9_feed : MethodName := ⟨RX9, "feed", "(IIIII)I"⟩
def dkwX9_feed_2 : List UInt8 := [180, 0, 170, 172]
abbrev dktX9_feed_2 : List UInt8 := dkwX9_feed_2 ++ []
def dkwX9_feed_1 : List UInt8 := [42, 28, 182, 0, 173, 42, 29, 182, 0, 173, 42, 21, 4, 182, 0, 173, 42, 21, 5, 182, 0, 173, 42]
abbrev dktX9_feed_1 : List UInt8 := dkwX9_feed_1 ++ dktX9_feed_2
def dkwX9_feed_0 : List UInt8 := [42, 3, 181, 0, 92, 42, 180, 0, 170, 16, 20, 96, 16, 100, 164, 0, 5, 2, 172, 42, 27, 182, 0, 173]
abbrev dktX9_feed_0 : List UInt8 := dkwX9_feed_0 ++ dktX9_feed_1
theorem dksX9_feed_0 : cX9_feed.data.toList.drop 0 = dktX9_feed_0 := by decide +kernel
theorem dksX9_feed_1 : cX9_feed.data.toList.drop 24 = dktX9_feed_1 := dk_seg dksX9_feed_0 24 rfl rfl
theorem dksX9_feed_2 : cX9_feed.data.toList.drop 47 = dktX9_feed_2 := dk_seg dksX9_feed_1 23 rfl rfl
theorem dX9_feed_0 : decode cX9_feed 0 = .ok (.aload_n 0, 1) := dk_42 (dk_at dksX9_feed_0 0 rfl rfl)
theorem dX9_feed_1 : decode cX9_feed 1 = .ok (.iconst 0, 1) := dk_3 (dk_at dksX9_feed_0 1 rfl rfl)
theorem dX9_feed_2 : decode cX9_feed 2 = .ok (.putfield 92, 3) := dk_181 0 92 (dk_at dksX9_feed_0 2 rfl rfl)
theorem dX9_feed_5 : decode cX9_feed 5 = .ok (.aload_n 0, 1) := dk_42 (dk_at dksX9_feed_0 5 rfl rfl)
theorem dX9_feed_6 : decode cX9_feed 6 = .ok (.getfield 170, 3) := dk_180 0 170 (dk_at dksX9_feed_0 6 rfl rfl)
theorem dX9_feed_9 : decode cX9_feed 9 = .ok (.bipush 20, 2) := dk_16 20 (dk_at dksX9_feed_0 9 rfl rfl)
theorem dX9_feed_11 : decode cX9_feed 11 = .ok (.iadd, 1) := dk_96 (dk_at dksX9_feed_0 11 rfl rfl)
theorem dX9_feed_12 : decode cX9_feed 12 = .ok (.bipush 100, 2) := dk_16 100 (dk_at dksX9_feed_0 12 rfl rfl)
theorem dX9_feed_14 : decode cX9_feed 14 = .ok (.if_icmp .le 5, 3) := dk_164 0 5 (dk_at dksX9_feed_0 14 rfl rfl)
theorem dX9_feed_17 : decode cX9_feed 17 = .ok (.iconst (-1), 1) := dk_2 (dk_at dksX9_feed_0 17 rfl rfl)
theorem dX9_feed_18 : decode cX9_feed 18 = .ok (.ireturn, 1) := dk_172 (dk_at dksX9_feed_0 18 rfl rfl)
theorem dX9_feed_19 : decode cX9_feed 19 = .ok (.aload_n 0, 1) := dk_42 (dk_at dksX9_feed_0 19 rfl rfl)
theorem dX9_feed_20 : decode cX9_feed 20 = .ok (.iload_n 1, 1) := dk_27 (dk_at dksX9_feed_0 20 rfl rfl)
theorem dX9_feed_21 : decode cX9_feed 21 = .ok (.invokevirtual 173, 3) := dk_182 0 173 (dk_at dksX9_feed_0 21 rfl rfl)
theorem dX9_feed_24 : decode cX9_feed 24 = .ok (.aload_n 0, 1) := dk_42 (dk_at dksX9_feed_1 0 rfl rfl)
theorem dX9_feed_25 : decode cX9_feed 25 = .ok (.iload_n 2, 1) := dk_28 (dk_at dksX9_feed_1 1 rfl rfl)
theorem dX9_feed_26 : decode cX9_feed 26 = .ok (.invokevirtual 173, 3) := dk_182 0 173 (dk_at dksX9_feed_1 2 rfl rfl)
theorem dX9_feed_29 : decode cX9_feed 29 = .ok (.aload_n 0, 1) := dk_42 (dk_at dksX9_feed_1 5 rfl rfl)
theorem dX9_feed_30 : decode cX9_feed 30 = .ok (.iload_n 3, 1) := dk_29 (dk_at dksX9_feed_1 6 rfl rfl)
theorem dX9_feed_31 : decode cX9_feed 31 = .ok (.invokevirtual 173, 3) := dk_182 0 173 (dk_at dksX9_feed_1 7 rfl rfl)
theorem dX9_feed_34 : decode cX9_feed 34 = .ok (.aload_n 0, 1) := dk_42 (dk_at dksX9_feed_1 10 rfl rfl)
theorem dX9_feed_35 : decode cX9_feed 35 = .ok (.iload 4, 2) := dk_21 4 (dk_at dksX9_feed_1 11 rfl rfl)
theorem dX9_feed_37 : decode cX9_feed 37 = .ok (.invokevirtual 173, 3) := dk_182 0 173 (dk_at dksX9_feed_1 13 rfl rfl)
theorem dX9_feed_40 : decode cX9_feed 40 = .ok (.aload_n 0, 1) := dk_42 (dk_at dksX9_feed_1 16 rfl rfl)
theorem dX9_feed_41 : decode cX9_feed 41 = .ok (.iload 5, 2) := dk_21 5 (dk_at dksX9_feed_1 17 rfl rfl)
theorem dX9_feed_43 : decode cX9_feed 43 = .ok (.invokevirtual 173, 3) := dk_182 0 173 (dk_at dksX9_feed_1 19 rfl rfl)
theorem dX9_feed_46 : decode cX9_feed 46 = .ok (.aload_n 0, 1) := dk_42 (dk_at dksX9_feed_1 22 rfl rfl)
theorem dX9_feed_47 : decode cX9_feed 47 = .ok (.getfield 170, 3) := dk_180 0 170 (dk_at dksX9_feed_2 0 rfl rfl)
theorem dX9_feed_50 : decode cX9_feed 50 = .ok (.ireturn, 1) := dk_172 (dk_at dksX9_feed_2 3 rfl rfl)
abbrev cX9_four : ByteArray := prog_15_method_34_code
def yX9_four : MethodName := ⟨RX9, "four", "(I)V"⟩
def dkwX9_four_1 : List UInt8 := [89, 180, 0, 170, 4, 96, 181, 0, 170, 132, 2, 248, 167, 255, 223, 177]
abbrev dktX9_four_1 : List UInt8 := dkwX9_four_1 ++ []
def dkwX9_four_0 : List UInt8 := [16, 24, 61, 28, 155, 0, 35, 42, 180, 0, 31, 42, 180, 0, 170, 27, 28, 122, 17, 0, 255, 126, 79, 42]
abbrev dktX9_four_0 : List UInt8 := dkwX9_four_0 ++ dktX9_four_1
theorem dksX9_four_0 : cX9_four.data.toList.drop 0 = dktX9_four_0 := by decide +kernel
theorem dksX9_four_1 : cX9_four.data.toList.drop 24 = dktX9_four_1 := dk_seg dksX9_four_0 24 rfl rfl
theorem dX9_four_0 : decode cX9_four 0 = .ok (.bipush 24, 2) := dk_16 24 (dk_at dksX9_four_0 0 rfl rfl)
theorem dX9_four_2 : decode cX9_four 2 = .ok (.istore_n 2, 1) := dk_61 (dk_at dksX9_four_0 2 rfl rfl)
theorem dX9_four_3 : decode cX9_four 3 = .ok (.iload_n 2, 1) := dk_28 (dk_at dksX9_four_0 3 rfl rfl)
theorem dX9_four_4 : decode cX9_four 4 = .ok (.ifCond .lt 35, 3) := dk_155 0 35 (dk_at dksX9_four_0 4 rfl rfl)
theorem dX9_four_7 : decode cX9_four 7 = .ok (.aload_n 0, 1) := dk_42 (dk_at dksX9_four_0 7 rfl rfl)
theorem dX9_four_8 : decode cX9_four 8 = .ok (.getfield 31, 3) := dk_180 0 31 (dk_at dksX9_four_0 8 rfl rfl)
theorem dX9_four_11 : decode cX9_four 11 = .ok (.aload_n 0, 1) := dk_42 (dk_at dksX9_four_0 11 rfl rfl)
theorem dX9_four_12 : decode cX9_four 12 = .ok (.getfield 170, 3) := dk_180 0 170 (dk_at dksX9_four_0 12 rfl rfl)
theorem dX9_four_15 : decode cX9_four 15 = .ok (.iload_n 1, 1) := dk_27 (dk_at dksX9_four_0 15 rfl rfl)
theorem dX9_four_16 : decode cX9_four 16 = .ok (.iload_n 2, 1) := dk_28 (dk_at dksX9_four_0 16 rfl rfl)
theorem dX9_four_17 : decode cX9_four 17 = .ok (.ishr, 1) := dk_122 (dk_at dksX9_four_0 17 rfl rfl)
theorem dX9_four_18 : decode cX9_four 18 = .ok (.sipush 255, 3) := dk_17 0 255 (dk_at dksX9_four_0 18 rfl rfl)
theorem dX9_four_21 : decode cX9_four 21 = .ok (.iand, 1) := dk_126 (dk_at dksX9_four_0 21 rfl rfl)
theorem dX9_four_22 : decode cX9_four 22 = .ok (.iastore, 1) := dk_79 (dk_at dksX9_four_0 22 rfl rfl)
theorem dX9_four_23 : decode cX9_four 23 = .ok (.aload_n 0, 1) := dk_42 (dk_at dksX9_four_0 23 rfl rfl)
theorem dX9_four_24 : decode cX9_four 24 = .ok (.dup, 1) := dk_89 (dk_at dksX9_four_1 0 rfl rfl)
theorem dX9_four_25 : decode cX9_four 25 = .ok (.getfield 170, 3) := dk_180 0 170 (dk_at dksX9_four_1 1 rfl rfl)
theorem dX9_four_28 : decode cX9_four 28 = .ok (.iconst 1, 1) := dk_4 (dk_at dksX9_four_1 4 rfl rfl)
theorem dX9_four_29 : decode cX9_four 29 = .ok (.iadd, 1) := dk_96 (dk_at dksX9_four_1 5 rfl rfl)
theorem dX9_four_30 : decode cX9_four 30 = .ok (.putfield 170, 3) := dk_181 0 170 (dk_at dksX9_four_1 6 rfl rfl)
theorem dX9_four_33 : decode cX9_four 33 = .ok (.iinc 2 (-8), 3) := dk_132 2 248 (dk_at dksX9_four_1 9 rfl rfl)
theorem dX9_four_36 : decode cX9_four 36 = .ok (.goto (-33), 3) := dk_167 255 223 (dk_at dksX9_four_1 12 rfl rfl)
theorem dX9_four_39 : decode cX9_four 39 = .ok (.return_, 1) := dk_177 (dk_at dksX9_four_1 15 rfl rfl)
abbrev cX9_end : ByteArray := prog_15_method_36_code
def yX9_end : MethodName := ⟨RX9, "end", "(I)I"⟩
def dkwX9_end_1 : List UInt8 := [27, 172]
abbrev dktX9_end_1 : List UInt8 := dkwX9_end_1 ++ []
def dkwX9_end_0 : List UInt8 := [42, 3, 181, 0, 92, 27, 155, 0, 11, 27, 42, 180, 0, 170, 164, 0, 5, 2, 172, 42, 27, 181, 0, 170]
abbrev dktX9_end_0 : List UInt8 := dkwX9_end_0 ++ dktX9_end_1
theorem dksX9_end_0 : cX9_end.data.toList.drop 0 = dktX9_end_0 := by decide +kernel
theorem dksX9_end_1 : cX9_end.data.toList.drop 24 = dktX9_end_1 := dk_seg dksX9_end_0 24 rfl rfl
theorem dX9_end_0 : decode cX9_end 0 = .ok (.aload_n 0, 1) := dk_42 (dk_at dksX9_end_0 0 rfl rfl)
theorem dX9_end_1 : decode cX9_end 1 = .ok (.iconst 0, 1) := dk_3 (dk_at dksX9_end_0 1 rfl rfl)
theorem dX9_end_2 : decode cX9_end 2 = .ok (.putfield 92, 3) := dk_181 0 92 (dk_at dksX9_end_0 2 rfl rfl)
theorem dX9_end_5 : decode cX9_end 5 = .ok (.iload_n 1, 1) := dk_27 (dk_at dksX9_end_0 5 rfl rfl)
theorem dX9_end_6 : decode cX9_end 6 = .ok (.ifCond .lt 11, 3) := dk_155 0 11 (dk_at dksX9_end_0 6 rfl rfl)
theorem dX9_end_9 : decode cX9_end 9 = .ok (.iload_n 1, 1) := dk_27 (dk_at dksX9_end_0 9 rfl rfl)
theorem dX9_end_10 : decode cX9_end 10 = .ok (.aload_n 0, 1) := dk_42 (dk_at dksX9_end_0 10 rfl rfl)
theorem dX9_end_11 : decode cX9_end 11 = .ok (.getfield 170, 3) := dk_180 0 170 (dk_at dksX9_end_0 11 rfl rfl)
theorem dX9_end_14 : decode cX9_end 14 = .ok (.if_icmp .le 5, 3) := dk_164 0 5 (dk_at dksX9_end_0 14 rfl rfl)
theorem dX9_end_17 : decode cX9_end 17 = .ok (.iconst (-1), 1) := dk_2 (dk_at dksX9_end_0 17 rfl rfl)
theorem dX9_end_18 : decode cX9_end 18 = .ok (.ireturn, 1) := dk_172 (dk_at dksX9_end_0 18 rfl rfl)
theorem dX9_end_19 : decode cX9_end 19 = .ok (.aload_n 0, 1) := dk_42 (dk_at dksX9_end_0 19 rfl rfl)
theorem dX9_end_20 : decode cX9_end 20 = .ok (.iload_n 1, 1) := dk_27 (dk_at dksX9_end_0 20 rfl rfl)
theorem dX9_end_21 : decode cX9_end 21 = .ok (.putfield 170, 3) := dk_181 0 170 (dk_at dksX9_end_0 21 rfl rfl)
theorem dX9_end_24 : decode cX9_end 24 = .ok (.iload_n 1, 1) := dk_27 (dk_at dksX9_end_1 0 rfl rfl)
theorem dX9_end_25 : decode cX9_end 25 = .ok (.ireturn, 1) := dk_172 (dk_at dksX9_end_1 1 rfl rfl)
abbrev cX9_block : ByteArray := prog_15_method_40_code
def yX9_block : MethodName := ⟨RX9, "block", "(IIIII)I"⟩
def dkwX9_block_5 : List UInt8 := [180, 0, 16, 3, 92, 46, 4, 96, 79, 42, 182, 0, 193, 42, 21, 6, 182, 0, 109, 172]
abbrev dktX9_block_5 : List UInt8 := dkwX9_block_5 ++ []
def dkwX9_block_4 : List UInt8 := [28, 29, 21, 4, 182, 0, 189, 42, 180, 0, 16, 7, 8, 21, 6, 104, 96, 7, 96, 21, 5, 79, 42]
abbrev dktX9_block_4 : List UInt8 := dkwX9_block_4 ++ dktX9_block_5
def dkwX9_block_3 : List UInt8 := [7, 160, 0, 10, 42, 16, 251, 182, 0, 105, 172, 42, 3, 182, 0, 186, 42, 7, 8, 21, 6, 104, 96, 27]
abbrev dktX9_block_3 : List UInt8 := dkwX9_block_3 ++ dktX9_block_4
def dkwX9_block_2 : List UInt8 := [3, 182, 0, 182, 153, 0, 10, 42, 16, 252, 182, 0, 105, 172, 42, 180, 0, 16, 3, 46, 54, 6, 21, 6]
abbrev dktX9_block_2 : List UInt8 := dkwX9_block_2 ++ dktX9_block_3
def dkwX9_block_1 : List UInt8 := [184, 0, 122, 154, 0, 9, 42, 2, 182, 0, 105, 172, 42, 27, 28, 29, 21, 5, 100, 21, 4, 21, 5, 96]
abbrev dktX9_block_1 : List UInt8 := dkwX9_block_1 ++ dktX9_block_2
def dkwX9_block_0 : List UInt8 := [42, 3, 181, 0, 92, 42, 27, 28, 29, 21, 4, 182, 0, 176, 153, 0, 16, 21, 5, 133, 9, 20, 0, 180]
abbrev dktX9_block_0 : List UInt8 := dkwX9_block_0 ++ dktX9_block_1
theorem dksX9_block_0 : cX9_block.data.toList.drop 0 = dktX9_block_0 := by decide +kernel
theorem dksX9_block_1 : cX9_block.data.toList.drop 24 = dktX9_block_1 := dk_seg dksX9_block_0 24 rfl rfl
theorem dksX9_block_2 : cX9_block.data.toList.drop 48 = dktX9_block_2 := dk_seg dksX9_block_1 24 rfl rfl
theorem dksX9_block_3 : cX9_block.data.toList.drop 72 = dktX9_block_3 := dk_seg dksX9_block_2 24 rfl rfl
theorem dksX9_block_4 : cX9_block.data.toList.drop 96 = dktX9_block_4 := dk_seg dksX9_block_3 24 rfl rfl
theorem dksX9_block_5 : cX9_block.data.toList.drop 119 = dktX9_block_5 := dk_seg dksX9_block_4 23 rfl rfl
theorem dX9_block_0 : decode cX9_block 0 = .ok (.aload_n 0, 1) := dk_42 (dk_at dksX9_block_0 0 rfl rfl)
theorem dX9_block_1 : decode cX9_block 1 = .ok (.iconst 0, 1) := dk_3 (dk_at dksX9_block_0 1 rfl rfl)
theorem dX9_block_2 : decode cX9_block 2 = .ok (.putfield 92, 3) := dk_181 0 92 (dk_at dksX9_block_0 2 rfl rfl)
theorem dX9_block_5 : decode cX9_block 5 = .ok (.aload_n 0, 1) := dk_42 (dk_at dksX9_block_0 5 rfl rfl)
theorem dX9_block_6 : decode cX9_block 6 = .ok (.iload_n 1, 1) := dk_27 (dk_at dksX9_block_0 6 rfl rfl)
theorem dX9_block_7 : decode cX9_block 7 = .ok (.iload_n 2, 1) := dk_28 (dk_at dksX9_block_0 7 rfl rfl)
theorem dX9_block_8 : decode cX9_block 8 = .ok (.iload_n 3, 1) := dk_29 (dk_at dksX9_block_0 8 rfl rfl)
theorem dX9_block_9 : decode cX9_block 9 = .ok (.iload 4, 2) := dk_21 4 (dk_at dksX9_block_0 9 rfl rfl)
theorem dX9_block_11 : decode cX9_block 11 = .ok (.invokevirtual 176, 3) := dk_182 0 176 (dk_at dksX9_block_0 11 rfl rfl)
theorem dX9_block_14 : decode cX9_block 14 = .ok (.ifCond .eq 16, 3) := dk_153 0 16 (dk_at dksX9_block_0 14 rfl rfl)
theorem dX9_block_17 : decode cX9_block 17 = .ok (.iload 5, 2) := dk_21 5 (dk_at dksX9_block_0 17 rfl rfl)
theorem dX9_block_19 : decode cX9_block 19 = .ok (.i2l, 1) := dk_133 (dk_at dksX9_block_0 19 rfl rfl)
theorem dX9_block_20 : decode cX9_block 20 = .ok (.lconst 0, 1) := dk_9 (dk_at dksX9_block_0 20 rfl rfl)
theorem dX9_block_21 : decode cX9_block 21 = .ok (.ldc2_w 180, 3) := dk_20 0 180 (dk_at dksX9_block_0 21 rfl rfl)
theorem dX9_block_24 : decode cX9_block 24 = .ok (.invokestatic 122, 3) := dk_184 0 122 (dk_at dksX9_block_1 0 rfl rfl)
theorem dX9_block_27 : decode cX9_block 27 = .ok (.ifCond .ne 9, 3) := dk_154 0 9 (dk_at dksX9_block_1 3 rfl rfl)
theorem dX9_block_30 : decode cX9_block 30 = .ok (.aload_n 0, 1) := dk_42 (dk_at dksX9_block_1 6 rfl rfl)
theorem dX9_block_31 : decode cX9_block 31 = .ok (.iconst (-1), 1) := dk_2 (dk_at dksX9_block_1 7 rfl rfl)
theorem dX9_block_32 : decode cX9_block 32 = .ok (.invokevirtual 105, 3) := dk_182 0 105 (dk_at dksX9_block_1 8 rfl rfl)
theorem dX9_block_35 : decode cX9_block 35 = .ok (.ireturn, 1) := dk_172 (dk_at dksX9_block_1 11 rfl rfl)
theorem dX9_block_36 : decode cX9_block 36 = .ok (.aload_n 0, 1) := dk_42 (dk_at dksX9_block_1 12 rfl rfl)
theorem dX9_block_37 : decode cX9_block 37 = .ok (.iload_n 1, 1) := dk_27 (dk_at dksX9_block_1 13 rfl rfl)
theorem dX9_block_38 : decode cX9_block 38 = .ok (.iload_n 2, 1) := dk_28 (dk_at dksX9_block_1 14 rfl rfl)
theorem dX9_block_39 : decode cX9_block 39 = .ok (.iload_n 3, 1) := dk_29 (dk_at dksX9_block_1 15 rfl rfl)
theorem dX9_block_40 : decode cX9_block 40 = .ok (.iload 5, 2) := dk_21 5 (dk_at dksX9_block_1 16 rfl rfl)
theorem dX9_block_42 : decode cX9_block 42 = .ok (.isub, 1) := dk_100 (dk_at dksX9_block_1 18 rfl rfl)
theorem dX9_block_43 : decode cX9_block 43 = .ok (.iload 4, 2) := dk_21 4 (dk_at dksX9_block_1 19 rfl rfl)
theorem dX9_block_45 : decode cX9_block 45 = .ok (.iload 5, 2) := dk_21 5 (dk_at dksX9_block_1 21 rfl rfl)
theorem dX9_block_47 : decode cX9_block 47 = .ok (.iadd, 1) := dk_96 (dk_at dksX9_block_1 23 rfl rfl)
theorem dX9_block_48 : decode cX9_block 48 = .ok (.iconst 0, 1) := dk_3 (dk_at dksX9_block_2 0 rfl rfl)
theorem dX9_block_49 : decode cX9_block 49 = .ok (.invokevirtual 182, 3) := dk_182 0 182 (dk_at dksX9_block_2 1 rfl rfl)
theorem dX9_block_52 : decode cX9_block 52 = .ok (.ifCond .eq 10, 3) := dk_153 0 10 (dk_at dksX9_block_2 4 rfl rfl)
theorem dX9_block_55 : decode cX9_block 55 = .ok (.aload_n 0, 1) := dk_42 (dk_at dksX9_block_2 7 rfl rfl)
theorem dX9_block_56 : decode cX9_block 56 = .ok (.bipush (-4), 2) := dk_16 252 (dk_at dksX9_block_2 8 rfl rfl)
theorem dX9_block_58 : decode cX9_block 58 = .ok (.invokevirtual 105, 3) := dk_182 0 105 (dk_at dksX9_block_2 10 rfl rfl)
theorem dX9_block_61 : decode cX9_block 61 = .ok (.ireturn, 1) := dk_172 (dk_at dksX9_block_2 13 rfl rfl)
theorem dX9_block_62 : decode cX9_block 62 = .ok (.aload_n 0, 1) := dk_42 (dk_at dksX9_block_2 14 rfl rfl)
theorem dX9_block_63 : decode cX9_block 63 = .ok (.getfield 16, 3) := dk_180 0 16 (dk_at dksX9_block_2 15 rfl rfl)
theorem dX9_block_66 : decode cX9_block 66 = .ok (.iconst 0, 1) := dk_3 (dk_at dksX9_block_2 18 rfl rfl)
theorem dX9_block_67 : decode cX9_block 67 = .ok (.iaload, 1) := dk_46 (dk_at dksX9_block_2 19 rfl rfl)
theorem dX9_block_68 : decode cX9_block 68 = .ok (.istore 6, 2) := dk_54 6 (dk_at dksX9_block_2 20 rfl rfl)
theorem dX9_block_70 : decode cX9_block 70 = .ok (.iload 6, 2) := dk_21 6 (dk_at dksX9_block_2 22 rfl rfl)
theorem dX9_block_72 : decode cX9_block 72 = .ok (.iconst 4, 1) := dk_7 (dk_at dksX9_block_3 0 rfl rfl)
theorem dX9_block_73 : decode cX9_block 73 = .ok (.if_icmp .ne 10, 3) := dk_160 0 10 (dk_at dksX9_block_3 1 rfl rfl)
theorem dX9_block_76 : decode cX9_block 76 = .ok (.aload_n 0, 1) := dk_42 (dk_at dksX9_block_3 4 rfl rfl)
theorem dX9_block_77 : decode cX9_block 77 = .ok (.bipush (-5), 2) := dk_16 251 (dk_at dksX9_block_3 5 rfl rfl)
theorem dX9_block_79 : decode cX9_block 79 = .ok (.invokevirtual 105, 3) := dk_182 0 105 (dk_at dksX9_block_3 7 rfl rfl)
theorem dX9_block_82 : decode cX9_block 82 = .ok (.ireturn, 1) := dk_172 (dk_at dksX9_block_3 10 rfl rfl)
theorem dX9_block_83 : decode cX9_block 83 = .ok (.aload_n 0, 1) := dk_42 (dk_at dksX9_block_3 11 rfl rfl)
theorem dX9_block_84 : decode cX9_block 84 = .ok (.iconst 0, 1) := dk_3 (dk_at dksX9_block_3 12 rfl rfl)
theorem dX9_block_85 : decode cX9_block 85 = .ok (.invokevirtual 186, 3) := dk_182 0 186 (dk_at dksX9_block_3 13 rfl rfl)
theorem dX9_block_88 : decode cX9_block 88 = .ok (.aload_n 0, 1) := dk_42 (dk_at dksX9_block_3 16 rfl rfl)
theorem dX9_block_89 : decode cX9_block 89 = .ok (.iconst 4, 1) := dk_7 (dk_at dksX9_block_3 17 rfl rfl)
theorem dX9_block_90 : decode cX9_block 90 = .ok (.iconst 5, 1) := dk_8 (dk_at dksX9_block_3 18 rfl rfl)
theorem dX9_block_91 : decode cX9_block 91 = .ok (.iload 6, 2) := dk_21 6 (dk_at dksX9_block_3 19 rfl rfl)
theorem dX9_block_93 : decode cX9_block 93 = .ok (.imul, 1) := dk_104 (dk_at dksX9_block_3 21 rfl rfl)
theorem dX9_block_94 : decode cX9_block 94 = .ok (.iadd, 1) := dk_96 (dk_at dksX9_block_3 22 rfl rfl)
theorem dX9_block_95 : decode cX9_block 95 = .ok (.iload_n 1, 1) := dk_27 (dk_at dksX9_block_3 23 rfl rfl)
theorem dX9_block_96 : decode cX9_block 96 = .ok (.iload_n 2, 1) := dk_28 (dk_at dksX9_block_4 0 rfl rfl)
theorem dX9_block_97 : decode cX9_block 97 = .ok (.iload_n 3, 1) := dk_29 (dk_at dksX9_block_4 1 rfl rfl)
theorem dX9_block_98 : decode cX9_block 98 = .ok (.iload 4, 2) := dk_21 4 (dk_at dksX9_block_4 2 rfl rfl)
theorem dX9_block_100 : decode cX9_block 100 = .ok (.invokevirtual 189, 3) := dk_182 0 189 (dk_at dksX9_block_4 4 rfl rfl)
theorem dX9_block_103 : decode cX9_block 103 = .ok (.aload_n 0, 1) := dk_42 (dk_at dksX9_block_4 7 rfl rfl)
theorem dX9_block_104 : decode cX9_block 104 = .ok (.getfield 16, 3) := dk_180 0 16 (dk_at dksX9_block_4 8 rfl rfl)
theorem dX9_block_107 : decode cX9_block 107 = .ok (.iconst 4, 1) := dk_7 (dk_at dksX9_block_4 11 rfl rfl)
theorem dX9_block_108 : decode cX9_block 108 = .ok (.iconst 5, 1) := dk_8 (dk_at dksX9_block_4 12 rfl rfl)
theorem dX9_block_109 : decode cX9_block 109 = .ok (.iload 6, 2) := dk_21 6 (dk_at dksX9_block_4 13 rfl rfl)
theorem dX9_block_111 : decode cX9_block 111 = .ok (.imul, 1) := dk_104 (dk_at dksX9_block_4 15 rfl rfl)
theorem dX9_block_112 : decode cX9_block 112 = .ok (.iadd, 1) := dk_96 (dk_at dksX9_block_4 16 rfl rfl)
theorem dX9_block_113 : decode cX9_block 113 = .ok (.iconst 4, 1) := dk_7 (dk_at dksX9_block_4 17 rfl rfl)
theorem dX9_block_114 : decode cX9_block 114 = .ok (.iadd, 1) := dk_96 (dk_at dksX9_block_4 18 rfl rfl)
theorem dX9_block_115 : decode cX9_block 115 = .ok (.iload 5, 2) := dk_21 5 (dk_at dksX9_block_4 19 rfl rfl)
theorem dX9_block_117 : decode cX9_block 117 = .ok (.iastore, 1) := dk_79 (dk_at dksX9_block_4 21 rfl rfl)
theorem dX9_block_118 : decode cX9_block 118 = .ok (.aload_n 0, 1) := dk_42 (dk_at dksX9_block_4 22 rfl rfl)
theorem dX9_block_119 : decode cX9_block 119 = .ok (.getfield 16, 3) := dk_180 0 16 (dk_at dksX9_block_5 0 rfl rfl)
theorem dX9_block_122 : decode cX9_block 122 = .ok (.iconst 0, 1) := dk_3 (dk_at dksX9_block_5 3 rfl rfl)
theorem dX9_block_123 : decode cX9_block 123 = .ok (.dup2, 1) := dk_92 (dk_at dksX9_block_5 4 rfl rfl)
theorem dX9_block_124 : decode cX9_block 124 = .ok (.iaload, 1) := dk_46 (dk_at dksX9_block_5 5 rfl rfl)
theorem dX9_block_125 : decode cX9_block 125 = .ok (.iconst 1, 1) := dk_4 (dk_at dksX9_block_5 6 rfl rfl)
theorem dX9_block_126 : decode cX9_block 126 = .ok (.iadd, 1) := dk_96 (dk_at dksX9_block_5 7 rfl rfl)
theorem dX9_block_127 : decode cX9_block 127 = .ok (.iastore, 1) := dk_79 (dk_at dksX9_block_5 8 rfl rfl)
theorem dX9_block_128 : decode cX9_block 128 = .ok (.aload_n 0, 1) := dk_42 (dk_at dksX9_block_5 9 rfl rfl)
theorem dX9_block_129 : decode cX9_block 129 = .ok (.invokevirtual 193, 3) := dk_182 0 193 (dk_at dksX9_block_5 10 rfl rfl)
theorem dX9_block_132 : decode cX9_block 132 = .ok (.aload_n 0, 1) := dk_42 (dk_at dksX9_block_5 13 rfl rfl)
theorem dX9_block_133 : decode cX9_block 133 = .ok (.iload 6, 2) := dk_21 6 (dk_at dksX9_block_5 14 rfl rfl)
theorem dX9_block_135 : decode cX9_block 135 = .ok (.invokevirtual 109, 3) := dk_182 0 109 (dk_at dksX9_block_5 16 rfl rfl)
theorem dX9_block_138 : decode cX9_block 138 = .ok (.ireturn, 1) := dk_172 (dk_at dksX9_block_5 19 rfl rfl)
abbrev cX9_isBox : ByteArray := prog_15_method_37_code
def yX9_isBox : MethodName := ⟨RX9, "isBox", "(IIII)Z"⟩
def dkwX9_isBox_1 : List UInt8 := [29, 21, 4, 163, 0, 7, 4, 167, 0, 4, 3, 172]
abbrev dktX9_isBox_1 : List UInt8 := dkwX9_isBox_1 ++ []
def dkwX9_isBox_0 : List UInt8 := [42, 27, 29, 182, 0, 133, 153, 0, 28, 42, 28, 21, 4, 182, 0, 133, 153, 0, 18, 27, 28, 163, 0, 13]
abbrev dktX9_isBox_0 : List UInt8 := dkwX9_isBox_0 ++ dktX9_isBox_1
theorem dksX9_isBox_0 : cX9_isBox.data.toList.drop 0 = dktX9_isBox_0 := by decide +kernel
theorem dksX9_isBox_1 : cX9_isBox.data.toList.drop 24 = dktX9_isBox_1 := dk_seg dksX9_isBox_0 24 rfl rfl
theorem dX9_isBox_0 : decode cX9_isBox 0 = .ok (.aload_n 0, 1) := dk_42 (dk_at dksX9_isBox_0 0 rfl rfl)
theorem dX9_isBox_1 : decode cX9_isBox 1 = .ok (.iload_n 1, 1) := dk_27 (dk_at dksX9_isBox_0 1 rfl rfl)
theorem dX9_isBox_2 : decode cX9_isBox 2 = .ok (.iload_n 3, 1) := dk_29 (dk_at dksX9_isBox_0 2 rfl rfl)
theorem dX9_isBox_3 : decode cX9_isBox 3 = .ok (.invokevirtual 133, 3) := dk_182 0 133 (dk_at dksX9_isBox_0 3 rfl rfl)
theorem dX9_isBox_6 : decode cX9_isBox 6 = .ok (.ifCond .eq 28, 3) := dk_153 0 28 (dk_at dksX9_isBox_0 6 rfl rfl)
theorem dX9_isBox_9 : decode cX9_isBox 9 = .ok (.aload_n 0, 1) := dk_42 (dk_at dksX9_isBox_0 9 rfl rfl)
theorem dX9_isBox_10 : decode cX9_isBox 10 = .ok (.iload_n 2, 1) := dk_28 (dk_at dksX9_isBox_0 10 rfl rfl)
theorem dX9_isBox_11 : decode cX9_isBox 11 = .ok (.iload 4, 2) := dk_21 4 (dk_at dksX9_isBox_0 11 rfl rfl)
theorem dX9_isBox_13 : decode cX9_isBox 13 = .ok (.invokevirtual 133, 3) := dk_182 0 133 (dk_at dksX9_isBox_0 13 rfl rfl)
theorem dX9_isBox_16 : decode cX9_isBox 16 = .ok (.ifCond .eq 18, 3) := dk_153 0 18 (dk_at dksX9_isBox_0 16 rfl rfl)
theorem dX9_isBox_19 : decode cX9_isBox 19 = .ok (.iload_n 1, 1) := dk_27 (dk_at dksX9_isBox_0 19 rfl rfl)
theorem dX9_isBox_20 : decode cX9_isBox 20 = .ok (.iload_n 2, 1) := dk_28 (dk_at dksX9_isBox_0 20 rfl rfl)
theorem dX9_isBox_21 : decode cX9_isBox 21 = .ok (.if_icmp .gt 13, 3) := dk_163 0 13 (dk_at dksX9_isBox_0 21 rfl rfl)
theorem dX9_isBox_24 : decode cX9_isBox 24 = .ok (.iload_n 3, 1) := dk_29 (dk_at dksX9_isBox_1 0 rfl rfl)
theorem dX9_isBox_25 : decode cX9_isBox 25 = .ok (.iload 4, 2) := dk_21 4 (dk_at dksX9_isBox_1 1 rfl rfl)
theorem dX9_isBox_27 : decode cX9_isBox 27 = .ok (.if_icmp .gt 7, 3) := dk_163 0 7 (dk_at dksX9_isBox_1 3 rfl rfl)
theorem dX9_isBox_30 : decode cX9_isBox 30 = .ok (.iconst 1, 1) := dk_4 (dk_at dksX9_isBox_1 6 rfl rfl)
theorem dX9_isBox_31 : decode cX9_isBox 31 = .ok (.goto 4, 3) := dk_167 0 4 (dk_at dksX9_isBox_1 7 rfl rfl)
theorem dX9_isBox_34 : decode cX9_isBox 34 = .ok (.iconst 0, 1) := dk_3 (dk_at dksX9_isBox_1 10 rfl rfl)
theorem dX9_isBox_35 : decode cX9_isBox 35 = .ok (.ireturn, 1) := dk_172 (dk_at dksX9_isBox_1 11 rfl rfl)
abbrev cX9_isTaken : ByteArray := prog_15_method_38_code
def yX9_isTaken : MethodName := ⟨RX9, "isTaken", "(IIIIZ)Z"⟩
def dkwX9_isTaken_3 : List UInt8 := [167, 0, 4, 3, 54, 6, 132, 8, 1, 167, 255, 192, 132, 7, 1, 167, 255, 177, 21, 6, 172]
abbrev dktX9_isTaken_3 : List UInt8 := dkwX9_isTaken_3 ++ []
def dkwX9_isTaken_2 : List UInt8 := [2, 160, 0, 20, 21, 5, 153, 0, 19, 42, 21, 7, 21, 8, 182, 0, 143, 2, 159, 0, 7, 4]
abbrev dktX9_isTaken_2 : List UInt8 := dkwX9_isTaken_2 ++ dktX9_isTaken_3
def dkwX9_isTaken_1 : List UInt8 := [154, 0, 45, 42, 21, 7, 21, 8, 182, 0, 133, 153, 0, 38, 42, 21, 7, 21, 8, 2, 4, 182, 0, 150]
abbrev dktX9_isTaken_1 : List UInt8 := dkwX9_isTaken_1 ++ dktX9_isTaken_2
def dkwX9_isTaken_0 : List UInt8 := [3, 54, 6, 27, 54, 7, 21, 7, 28, 163, 0, 79, 29, 54, 8, 21, 8, 21, 4, 163, 0, 63, 21, 6]
abbrev dktX9_isTaken_0 : List UInt8 := dkwX9_isTaken_0 ++ dktX9_isTaken_1
theorem dksX9_isTaken_0 : cX9_isTaken.data.toList.drop 0 = dktX9_isTaken_0 := by decide +kernel
theorem dksX9_isTaken_1 : cX9_isTaken.data.toList.drop 24 = dktX9_isTaken_1 := dk_seg dksX9_isTaken_0 24 rfl rfl
theorem dksX9_isTaken_2 : cX9_isTaken.data.toList.drop 48 = dktX9_isTaken_2 := dk_seg dksX9_isTaken_1 24 rfl rfl
theorem dksX9_isTaken_3 : cX9_isTaken.data.toList.drop 70 = dktX9_isTaken_3 := dk_seg dksX9_isTaken_2 22 rfl rfl
theorem dX9_isTaken_0 : decode cX9_isTaken 0 = .ok (.iconst 0, 1) := dk_3 (dk_at dksX9_isTaken_0 0 rfl rfl)
theorem dX9_isTaken_1 : decode cX9_isTaken 1 = .ok (.istore 6, 2) := dk_54 6 (dk_at dksX9_isTaken_0 1 rfl rfl)
theorem dX9_isTaken_3 : decode cX9_isTaken 3 = .ok (.iload_n 1, 1) := dk_27 (dk_at dksX9_isTaken_0 3 rfl rfl)
theorem dX9_isTaken_4 : decode cX9_isTaken 4 = .ok (.istore 7, 2) := dk_54 7 (dk_at dksX9_isTaken_0 4 rfl rfl)
theorem dX9_isTaken_6 : decode cX9_isTaken 6 = .ok (.iload 7, 2) := dk_21 7 (dk_at dksX9_isTaken_0 6 rfl rfl)
theorem dX9_isTaken_8 : decode cX9_isTaken 8 = .ok (.iload_n 2, 1) := dk_28 (dk_at dksX9_isTaken_0 8 rfl rfl)
theorem dX9_isTaken_9 : decode cX9_isTaken 9 = .ok (.if_icmp .gt 79, 3) := dk_163 0 79 (dk_at dksX9_isTaken_0 9 rfl rfl)
theorem dX9_isTaken_12 : decode cX9_isTaken 12 = .ok (.iload_n 3, 1) := dk_29 (dk_at dksX9_isTaken_0 12 rfl rfl)
theorem dX9_isTaken_13 : decode cX9_isTaken 13 = .ok (.istore 8, 2) := dk_54 8 (dk_at dksX9_isTaken_0 13 rfl rfl)
theorem dX9_isTaken_15 : decode cX9_isTaken 15 = .ok (.iload 8, 2) := dk_21 8 (dk_at dksX9_isTaken_0 15 rfl rfl)
theorem dX9_isTaken_17 : decode cX9_isTaken 17 = .ok (.iload 4, 2) := dk_21 4 (dk_at dksX9_isTaken_0 17 rfl rfl)
theorem dX9_isTaken_19 : decode cX9_isTaken 19 = .ok (.if_icmp .gt 63, 3) := dk_163 0 63 (dk_at dksX9_isTaken_0 19 rfl rfl)
theorem dX9_isTaken_22 : decode cX9_isTaken 22 = .ok (.iload 6, 2) := dk_21 6 (dk_at dksX9_isTaken_0 22 rfl rfl)
theorem dX9_isTaken_24 : decode cX9_isTaken 24 = .ok (.ifCond .ne 45, 3) := dk_154 0 45 (dk_at dksX9_isTaken_1 0 rfl rfl)
theorem dX9_isTaken_27 : decode cX9_isTaken 27 = .ok (.aload_n 0, 1) := dk_42 (dk_at dksX9_isTaken_1 3 rfl rfl)
theorem dX9_isTaken_28 : decode cX9_isTaken 28 = .ok (.iload 7, 2) := dk_21 7 (dk_at dksX9_isTaken_1 4 rfl rfl)
theorem dX9_isTaken_30 : decode cX9_isTaken 30 = .ok (.iload 8, 2) := dk_21 8 (dk_at dksX9_isTaken_1 6 rfl rfl)
theorem dX9_isTaken_32 : decode cX9_isTaken 32 = .ok (.invokevirtual 133, 3) := dk_182 0 133 (dk_at dksX9_isTaken_1 8 rfl rfl)
theorem dX9_isTaken_35 : decode cX9_isTaken 35 = .ok (.ifCond .eq 38, 3) := dk_153 0 38 (dk_at dksX9_isTaken_1 11 rfl rfl)
theorem dX9_isTaken_38 : decode cX9_isTaken 38 = .ok (.aload_n 0, 1) := dk_42 (dk_at dksX9_isTaken_1 14 rfl rfl)
theorem dX9_isTaken_39 : decode cX9_isTaken 39 = .ok (.iload 7, 2) := dk_21 7 (dk_at dksX9_isTaken_1 15 rfl rfl)
theorem dX9_isTaken_41 : decode cX9_isTaken 41 = .ok (.iload 8, 2) := dk_21 8 (dk_at dksX9_isTaken_1 17 rfl rfl)
theorem dX9_isTaken_43 : decode cX9_isTaken 43 = .ok (.iconst (-1), 1) := dk_2 (dk_at dksX9_isTaken_1 19 rfl rfl)
theorem dX9_isTaken_44 : decode cX9_isTaken 44 = .ok (.iconst 1, 1) := dk_4 (dk_at dksX9_isTaken_1 20 rfl rfl)
theorem dX9_isTaken_45 : decode cX9_isTaken 45 = .ok (.invokevirtual 150, 3) := dk_182 0 150 (dk_at dksX9_isTaken_1 21 rfl rfl)
theorem dX9_isTaken_48 : decode cX9_isTaken 48 = .ok (.iconst (-1), 1) := dk_2 (dk_at dksX9_isTaken_2 0 rfl rfl)
theorem dX9_isTaken_49 : decode cX9_isTaken 49 = .ok (.if_icmp .ne 20, 3) := dk_160 0 20 (dk_at dksX9_isTaken_2 1 rfl rfl)
theorem dX9_isTaken_52 : decode cX9_isTaken 52 = .ok (.iload 5, 2) := dk_21 5 (dk_at dksX9_isTaken_2 4 rfl rfl)
theorem dX9_isTaken_54 : decode cX9_isTaken 54 = .ok (.ifCond .eq 19, 3) := dk_153 0 19 (dk_at dksX9_isTaken_2 6 rfl rfl)
theorem dX9_isTaken_57 : decode cX9_isTaken 57 = .ok (.aload_n 0, 1) := dk_42 (dk_at dksX9_isTaken_2 9 rfl rfl)
theorem dX9_isTaken_58 : decode cX9_isTaken 58 = .ok (.iload 7, 2) := dk_21 7 (dk_at dksX9_isTaken_2 10 rfl rfl)
theorem dX9_isTaken_60 : decode cX9_isTaken 60 = .ok (.iload 8, 2) := dk_21 8 (dk_at dksX9_isTaken_2 12 rfl rfl)
theorem dX9_isTaken_62 : decode cX9_isTaken 62 = .ok (.invokevirtual 143, 3) := dk_182 0 143 (dk_at dksX9_isTaken_2 14 rfl rfl)
theorem dX9_isTaken_65 : decode cX9_isTaken 65 = .ok (.iconst (-1), 1) := dk_2 (dk_at dksX9_isTaken_2 17 rfl rfl)
theorem dX9_isTaken_66 : decode cX9_isTaken 66 = .ok (.if_icmp .eq 7, 3) := dk_159 0 7 (dk_at dksX9_isTaken_2 18 rfl rfl)
theorem dX9_isTaken_69 : decode cX9_isTaken 69 = .ok (.iconst 1, 1) := dk_4 (dk_at dksX9_isTaken_2 21 rfl rfl)
theorem dX9_isTaken_70 : decode cX9_isTaken 70 = .ok (.goto 4, 3) := dk_167 0 4 (dk_at dksX9_isTaken_3 0 rfl rfl)
theorem dX9_isTaken_73 : decode cX9_isTaken 73 = .ok (.iconst 0, 1) := dk_3 (dk_at dksX9_isTaken_3 3 rfl rfl)
theorem dX9_isTaken_74 : decode cX9_isTaken 74 = .ok (.istore 6, 2) := dk_54 6 (dk_at dksX9_isTaken_3 4 rfl rfl)
theorem dX9_isTaken_76 : decode cX9_isTaken 76 = .ok (.iinc 8 1, 3) := dk_132 8 1 (dk_at dksX9_isTaken_3 6 rfl rfl)
theorem dX9_isTaken_79 : decode cX9_isTaken 79 = .ok (.goto (-64), 3) := dk_167 255 192 (dk_at dksX9_isTaken_3 9 rfl rfl)
theorem dX9_isTaken_82 : decode cX9_isTaken 82 = .ok (.iinc 7 1, 3) := dk_132 7 1 (dk_at dksX9_isTaken_3 12 rfl rfl)
theorem dX9_isTaken_85 : decode cX9_isTaken 85 = .ok (.goto (-79), 3) := dk_167 255 177 (dk_at dksX9_isTaken_3 15 rfl rfl)
theorem dX9_isTaken_88 : decode cX9_isTaken 88 = .ok (.iload 6, 2) := dk_21 6 (dk_at dksX9_isTaken_3 18 rfl rfl)
theorem dX9_isTaken_90 : decode cX9_isTaken 90 = .ok (.ireturn, 1) := dk_172 (dk_at dksX9_isTaken_3 20 rfl rfl)
abbrev cX9_remember : ByteArray := prog_15_method_10_code
def yX9_remember : MethodName := ⟨RX9, "remember", "(I)V"⟩
def dkwX9_remember_5 : List UInt8 := [177]
abbrev dktX9_remember_5 : List UInt8 := dkwX9_remember_5 ++ []
def dkwX9_remember_4 : List UInt8 := [104, 184, 0, 101, 42, 180, 0, 22, 42, 180, 0, 98, 27, 79, 42, 89, 180, 0, 98, 4, 96, 181, 0, 98]
abbrev dktX9_remember_4 : List UInt8 := dkwX9_remember_4 ++ dktX9_remember_5
def dkwX9_remember_3 : List UInt8 := [180, 0, 98, 4, 100, 181, 0, 98, 42, 180, 0, 16, 3, 42, 180, 0, 19, 17, 1, 144, 42, 180, 0, 98]
abbrev dktX9_remember_3 : List UInt8 := dkwX9_remember_3 ++ dktX9_remember_4
def dkwX9_remember_2 : List UInt8 := [42, 180, 0, 22, 28, 42, 180, 0, 22, 28, 4, 96, 46, 79, 132, 2, 1, 167, 255, 233, 42, 89]
abbrev dktX9_remember_2 : List UInt8 := dkwX9_remember_2 ++ dktX9_remember_3
def dkwX9_remember_1 : List UInt8 := [180, 0, 19, 28, 17, 1, 144, 96, 46, 79, 132, 2, 1, 167, 255, 230, 3, 61, 28, 16, 11, 162, 0, 23]
abbrev dktX9_remember_1 : List UInt8 := dkwX9_remember_1 ++ dktX9_remember_2
def dkwX9_remember_0 : List UInt8 := [42, 180, 0, 98, 16, 12, 160, 0, 72, 3, 61, 28, 17, 17, 48, 162, 0, 25, 42, 180, 0, 19, 28, 42]
abbrev dktX9_remember_0 : List UInt8 := dkwX9_remember_0 ++ dktX9_remember_1
theorem dksX9_remember_0 : cX9_remember.data.toList.drop 0 = dktX9_remember_0 := by decide +kernel
theorem dksX9_remember_1 : cX9_remember.data.toList.drop 24 = dktX9_remember_1 := dk_seg dksX9_remember_0 24 rfl rfl
theorem dksX9_remember_2 : cX9_remember.data.toList.drop 48 = dktX9_remember_2 := dk_seg dksX9_remember_1 24 rfl rfl
theorem dksX9_remember_3 : cX9_remember.data.toList.drop 70 = dktX9_remember_3 := dk_seg dksX9_remember_2 22 rfl rfl
theorem dksX9_remember_4 : cX9_remember.data.toList.drop 94 = dktX9_remember_4 := dk_seg dksX9_remember_3 24 rfl rfl
theorem dksX9_remember_5 : cX9_remember.data.toList.drop 118 = dktX9_remember_5 := dk_seg dksX9_remember_4 24 rfl rfl
theorem dX9_remember_0 : decode cX9_remember 0 = .ok (.aload_n 0, 1) := dk_42 (dk_at dksX9_remember_0 0 rfl rfl)
theorem dX9_remember_1 : decode cX9_remember 1 = .ok (.getfield 98, 3) := dk_180 0 98 (dk_at dksX9_remember_0 1 rfl rfl)
theorem dX9_remember_4 : decode cX9_remember 4 = .ok (.bipush 12, 2) := dk_16 12 (dk_at dksX9_remember_0 4 rfl rfl)
theorem dX9_remember_6 : decode cX9_remember 6 = .ok (.if_icmp .ne 72, 3) := dk_160 0 72 (dk_at dksX9_remember_0 6 rfl rfl)
theorem dX9_remember_9 : decode cX9_remember 9 = .ok (.iconst 0, 1) := dk_3 (dk_at dksX9_remember_0 9 rfl rfl)
theorem dX9_remember_10 : decode cX9_remember 10 = .ok (.istore_n 2, 1) := dk_61 (dk_at dksX9_remember_0 10 rfl rfl)
theorem dX9_remember_11 : decode cX9_remember 11 = .ok (.iload_n 2, 1) := dk_28 (dk_at dksX9_remember_0 11 rfl rfl)
theorem dX9_remember_12 : decode cX9_remember 12 = .ok (.sipush 4400, 3) := dk_17 17 48 (dk_at dksX9_remember_0 12 rfl rfl)
theorem dX9_remember_15 : decode cX9_remember 15 = .ok (.if_icmp .ge 25, 3) := dk_162 0 25 (dk_at dksX9_remember_0 15 rfl rfl)
theorem dX9_remember_18 : decode cX9_remember 18 = .ok (.aload_n 0, 1) := dk_42 (dk_at dksX9_remember_0 18 rfl rfl)
theorem dX9_remember_19 : decode cX9_remember 19 = .ok (.getfield 19, 3) := dk_180 0 19 (dk_at dksX9_remember_0 19 rfl rfl)
theorem dX9_remember_22 : decode cX9_remember 22 = .ok (.iload_n 2, 1) := dk_28 (dk_at dksX9_remember_0 22 rfl rfl)
theorem dX9_remember_23 : decode cX9_remember 23 = .ok (.aload_n 0, 1) := dk_42 (dk_at dksX9_remember_0 23 rfl rfl)
theorem dX9_remember_24 : decode cX9_remember 24 = .ok (.getfield 19, 3) := dk_180 0 19 (dk_at dksX9_remember_1 0 rfl rfl)
theorem dX9_remember_27 : decode cX9_remember 27 = .ok (.iload_n 2, 1) := dk_28 (dk_at dksX9_remember_1 3 rfl rfl)
theorem dX9_remember_28 : decode cX9_remember 28 = .ok (.sipush 400, 3) := dk_17 1 144 (dk_at dksX9_remember_1 4 rfl rfl)
theorem dX9_remember_31 : decode cX9_remember 31 = .ok (.iadd, 1) := dk_96 (dk_at dksX9_remember_1 7 rfl rfl)
theorem dX9_remember_32 : decode cX9_remember 32 = .ok (.iaload, 1) := dk_46 (dk_at dksX9_remember_1 8 rfl rfl)
theorem dX9_remember_33 : decode cX9_remember 33 = .ok (.iastore, 1) := dk_79 (dk_at dksX9_remember_1 9 rfl rfl)
theorem dX9_remember_34 : decode cX9_remember 34 = .ok (.iinc 2 1, 3) := dk_132 2 1 (dk_at dksX9_remember_1 10 rfl rfl)
theorem dX9_remember_37 : decode cX9_remember 37 = .ok (.goto (-26), 3) := dk_167 255 230 (dk_at dksX9_remember_1 13 rfl rfl)
theorem dX9_remember_40 : decode cX9_remember 40 = .ok (.iconst 0, 1) := dk_3 (dk_at dksX9_remember_1 16 rfl rfl)
theorem dX9_remember_41 : decode cX9_remember 41 = .ok (.istore_n 2, 1) := dk_61 (dk_at dksX9_remember_1 17 rfl rfl)
theorem dX9_remember_42 : decode cX9_remember 42 = .ok (.iload_n 2, 1) := dk_28 (dk_at dksX9_remember_1 18 rfl rfl)
theorem dX9_remember_43 : decode cX9_remember 43 = .ok (.bipush 11, 2) := dk_16 11 (dk_at dksX9_remember_1 19 rfl rfl)
theorem dX9_remember_45 : decode cX9_remember 45 = .ok (.if_icmp .ge 23, 3) := dk_162 0 23 (dk_at dksX9_remember_1 21 rfl rfl)
theorem dX9_remember_48 : decode cX9_remember 48 = .ok (.aload_n 0, 1) := dk_42 (dk_at dksX9_remember_2 0 rfl rfl)
theorem dX9_remember_49 : decode cX9_remember 49 = .ok (.getfield 22, 3) := dk_180 0 22 (dk_at dksX9_remember_2 1 rfl rfl)
theorem dX9_remember_52 : decode cX9_remember 52 = .ok (.iload_n 2, 1) := dk_28 (dk_at dksX9_remember_2 4 rfl rfl)
theorem dX9_remember_53 : decode cX9_remember 53 = .ok (.aload_n 0, 1) := dk_42 (dk_at dksX9_remember_2 5 rfl rfl)
theorem dX9_remember_54 : decode cX9_remember 54 = .ok (.getfield 22, 3) := dk_180 0 22 (dk_at dksX9_remember_2 6 rfl rfl)
theorem dX9_remember_57 : decode cX9_remember 57 = .ok (.iload_n 2, 1) := dk_28 (dk_at dksX9_remember_2 9 rfl rfl)
theorem dX9_remember_58 : decode cX9_remember 58 = .ok (.iconst 1, 1) := dk_4 (dk_at dksX9_remember_2 10 rfl rfl)
theorem dX9_remember_59 : decode cX9_remember 59 = .ok (.iadd, 1) := dk_96 (dk_at dksX9_remember_2 11 rfl rfl)
theorem dX9_remember_60 : decode cX9_remember 60 = .ok (.iaload, 1) := dk_46 (dk_at dksX9_remember_2 12 rfl rfl)
theorem dX9_remember_61 : decode cX9_remember 61 = .ok (.iastore, 1) := dk_79 (dk_at dksX9_remember_2 13 rfl rfl)
theorem dX9_remember_62 : decode cX9_remember 62 = .ok (.iinc 2 1, 3) := dk_132 2 1 (dk_at dksX9_remember_2 14 rfl rfl)
theorem dX9_remember_65 : decode cX9_remember 65 = .ok (.goto (-23), 3) := dk_167 255 233 (dk_at dksX9_remember_2 17 rfl rfl)
theorem dX9_remember_68 : decode cX9_remember 68 = .ok (.aload_n 0, 1) := dk_42 (dk_at dksX9_remember_2 20 rfl rfl)
theorem dX9_remember_69 : decode cX9_remember 69 = .ok (.dup, 1) := dk_89 (dk_at dksX9_remember_2 21 rfl rfl)
theorem dX9_remember_70 : decode cX9_remember 70 = .ok (.getfield 98, 3) := dk_180 0 98 (dk_at dksX9_remember_3 0 rfl rfl)
theorem dX9_remember_73 : decode cX9_remember 73 = .ok (.iconst 1, 1) := dk_4 (dk_at dksX9_remember_3 3 rfl rfl)
theorem dX9_remember_74 : decode cX9_remember 74 = .ok (.isub, 1) := dk_100 (dk_at dksX9_remember_3 4 rfl rfl)
theorem dX9_remember_75 : decode cX9_remember 75 = .ok (.putfield 98, 3) := dk_181 0 98 (dk_at dksX9_remember_3 5 rfl rfl)
theorem dX9_remember_78 : decode cX9_remember 78 = .ok (.aload_n 0, 1) := dk_42 (dk_at dksX9_remember_3 8 rfl rfl)
theorem dX9_remember_79 : decode cX9_remember 79 = .ok (.getfield 16, 3) := dk_180 0 16 (dk_at dksX9_remember_3 9 rfl rfl)
theorem dX9_remember_82 : decode cX9_remember 82 = .ok (.iconst 0, 1) := dk_3 (dk_at dksX9_remember_3 12 rfl rfl)
theorem dX9_remember_83 : decode cX9_remember 83 = .ok (.aload_n 0, 1) := dk_42 (dk_at dksX9_remember_3 13 rfl rfl)
theorem dX9_remember_84 : decode cX9_remember 84 = .ok (.getfield 19, 3) := dk_180 0 19 (dk_at dksX9_remember_3 14 rfl rfl)
theorem dX9_remember_87 : decode cX9_remember 87 = .ok (.sipush 400, 3) := dk_17 1 144 (dk_at dksX9_remember_3 17 rfl rfl)
theorem dX9_remember_90 : decode cX9_remember 90 = .ok (.aload_n 0, 1) := dk_42 (dk_at dksX9_remember_3 20 rfl rfl)
theorem dX9_remember_91 : decode cX9_remember 91 = .ok (.getfield 98, 3) := dk_180 0 98 (dk_at dksX9_remember_3 21 rfl rfl)
theorem dX9_remember_94 : decode cX9_remember 94 = .ok (.imul, 1) := dk_104 (dk_at dksX9_remember_4 0 rfl rfl)
theorem dX9_remember_95 : decode cX9_remember 95 = .ok (.invokestatic 101, 3) := dk_184 0 101 (dk_at dksX9_remember_4 1 rfl rfl)
theorem dX9_remember_98 : decode cX9_remember 98 = .ok (.aload_n 0, 1) := dk_42 (dk_at dksX9_remember_4 4 rfl rfl)
theorem dX9_remember_99 : decode cX9_remember 99 = .ok (.getfield 22, 3) := dk_180 0 22 (dk_at dksX9_remember_4 5 rfl rfl)
theorem dX9_remember_102 : decode cX9_remember 102 = .ok (.aload_n 0, 1) := dk_42 (dk_at dksX9_remember_4 8 rfl rfl)
theorem dX9_remember_103 : decode cX9_remember 103 = .ok (.getfield 98, 3) := dk_180 0 98 (dk_at dksX9_remember_4 9 rfl rfl)
theorem dX9_remember_106 : decode cX9_remember 106 = .ok (.iload_n 1, 1) := dk_27 (dk_at dksX9_remember_4 12 rfl rfl)
theorem dX9_remember_107 : decode cX9_remember 107 = .ok (.iastore, 1) := dk_79 (dk_at dksX9_remember_4 13 rfl rfl)
theorem dX9_remember_108 : decode cX9_remember 108 = .ok (.aload_n 0, 1) := dk_42 (dk_at dksX9_remember_4 14 rfl rfl)
theorem dX9_remember_109 : decode cX9_remember 109 = .ok (.dup, 1) := dk_89 (dk_at dksX9_remember_4 15 rfl rfl)
theorem dX9_remember_110 : decode cX9_remember 110 = .ok (.getfield 98, 3) := dk_180 0 98 (dk_at dksX9_remember_4 16 rfl rfl)
theorem dX9_remember_113 : decode cX9_remember 113 = .ok (.iconst 1, 1) := dk_4 (dk_at dksX9_remember_4 19 rfl rfl)
theorem dX9_remember_114 : decode cX9_remember 114 = .ok (.iadd, 1) := dk_96 (dk_at dksX9_remember_4 20 rfl rfl)
theorem dX9_remember_115 : decode cX9_remember 115 = .ok (.putfield 98, 3) := dk_181 0 98 (dk_at dksX9_remember_4 21 rfl rfl)
theorem dX9_remember_118 : decode cX9_remember 118 = .ok (.return_, 1) := dk_177 (dk_at dksX9_remember_5 0 rfl rfl)
abbrev cX9_write : ByteArray := prog_15_method_39_code
def yX9_write : MethodName := ⟨RX9, "write", "(IIIII)V"⟩
def dkwX9_write_1 : List UInt8 := [21, 4, 79, 42, 180, 0, 16, 27, 6, 96, 21, 5, 79, 177]
abbrev dktX9_write_1 : List UInt8 := dkwX9_write_1 ++ []
def dkwX9_write_0 : List UInt8 := [42, 180, 0, 16, 27, 28, 79, 42, 180, 0, 16, 27, 4, 96, 29, 79, 42, 180, 0, 16, 27, 5, 96]
abbrev dktX9_write_0 : List UInt8 := dkwX9_write_0 ++ dktX9_write_1
theorem dksX9_write_0 : cX9_write.data.toList.drop 0 = dktX9_write_0 := by decide +kernel
theorem dksX9_write_1 : cX9_write.data.toList.drop 23 = dktX9_write_1 := dk_seg dksX9_write_0 23 rfl rfl
theorem dX9_write_0 : decode cX9_write 0 = .ok (.aload_n 0, 1) := dk_42 (dk_at dksX9_write_0 0 rfl rfl)
theorem dX9_write_1 : decode cX9_write 1 = .ok (.getfield 16, 3) := dk_180 0 16 (dk_at dksX9_write_0 1 rfl rfl)
theorem dX9_write_4 : decode cX9_write 4 = .ok (.iload_n 1, 1) := dk_27 (dk_at dksX9_write_0 4 rfl rfl)
theorem dX9_write_5 : decode cX9_write 5 = .ok (.iload_n 2, 1) := dk_28 (dk_at dksX9_write_0 5 rfl rfl)
theorem dX9_write_6 : decode cX9_write 6 = .ok (.iastore, 1) := dk_79 (dk_at dksX9_write_0 6 rfl rfl)
theorem dX9_write_7 : decode cX9_write 7 = .ok (.aload_n 0, 1) := dk_42 (dk_at dksX9_write_0 7 rfl rfl)
theorem dX9_write_8 : decode cX9_write 8 = .ok (.getfield 16, 3) := dk_180 0 16 (dk_at dksX9_write_0 8 rfl rfl)
theorem dX9_write_11 : decode cX9_write 11 = .ok (.iload_n 1, 1) := dk_27 (dk_at dksX9_write_0 11 rfl rfl)
theorem dX9_write_12 : decode cX9_write 12 = .ok (.iconst 1, 1) := dk_4 (dk_at dksX9_write_0 12 rfl rfl)
theorem dX9_write_13 : decode cX9_write 13 = .ok (.iadd, 1) := dk_96 (dk_at dksX9_write_0 13 rfl rfl)
theorem dX9_write_14 : decode cX9_write 14 = .ok (.iload_n 3, 1) := dk_29 (dk_at dksX9_write_0 14 rfl rfl)
theorem dX9_write_15 : decode cX9_write 15 = .ok (.iastore, 1) := dk_79 (dk_at dksX9_write_0 15 rfl rfl)
theorem dX9_write_16 : decode cX9_write 16 = .ok (.aload_n 0, 1) := dk_42 (dk_at dksX9_write_0 16 rfl rfl)
theorem dX9_write_17 : decode cX9_write 17 = .ok (.getfield 16, 3) := dk_180 0 16 (dk_at dksX9_write_0 17 rfl rfl)
theorem dX9_write_20 : decode cX9_write 20 = .ok (.iload_n 1, 1) := dk_27 (dk_at dksX9_write_0 20 rfl rfl)
theorem dX9_write_21 : decode cX9_write 21 = .ok (.iconst 2, 1) := dk_5 (dk_at dksX9_write_0 21 rfl rfl)
theorem dX9_write_22 : decode cX9_write 22 = .ok (.iadd, 1) := dk_96 (dk_at dksX9_write_0 22 rfl rfl)
theorem dX9_write_23 : decode cX9_write 23 = .ok (.iload 4, 2) := dk_21 4 (dk_at dksX9_write_1 0 rfl rfl)
theorem dX9_write_25 : decode cX9_write 25 = .ok (.iastore, 1) := dk_79 (dk_at dksX9_write_1 2 rfl rfl)
theorem dX9_write_26 : decode cX9_write 26 = .ok (.aload_n 0, 1) := dk_42 (dk_at dksX9_write_1 3 rfl rfl)
theorem dX9_write_27 : decode cX9_write 27 = .ok (.getfield 16, 3) := dk_180 0 16 (dk_at dksX9_write_1 4 rfl rfl)
theorem dX9_write_30 : decode cX9_write 30 = .ok (.iload_n 1, 1) := dk_27 (dk_at dksX9_write_1 7 rfl rfl)
theorem dX9_write_31 : decode cX9_write 31 = .ok (.iconst 3, 1) := dk_6 (dk_at dksX9_write_1 8 rfl rfl)
theorem dX9_write_32 : decode cX9_write 32 = .ok (.iadd, 1) := dk_96 (dk_at dksX9_write_1 9 rfl rfl)
theorem dX9_write_33 : decode cX9_write 33 = .ok (.iload 5, 2) := dk_21 5 (dk_at dksX9_write_1 10 rfl rfl)
theorem dX9_write_35 : decode cX9_write 35 = .ok (.iastore, 1) := dk_79 (dk_at dksX9_write_1 12 rfl rfl)
theorem dX9_write_36 : decode cX9_write 36 = .ok (.return_, 1) := dk_177 (dk_at dksX9_write_1 13 rfl rfl)
abbrev cX9_loseUnlawful : ByteArray := prog_15_method_32_code
def yX9_loseUnlawful : MethodName := ⟨RX9, "loseUnlawful", "()V"⟩
def dkwX9_loseUnlawful_2 : List UInt8 := [182, 0, 157, 154, 0, 8, 42, 27, 182, 0, 164, 132, 1, 1, 167, 255, 198, 177]
abbrev dktX9_loseUnlawful_2 : List UInt8 := dkwX9_loseUnlawful_2 ++ []
def dkwX9_loseUnlawful_1 : List UInt8 := [180, 0, 16, 27, 184, 0, 112, 8, 96, 46, 42, 180, 0, 16, 27, 184, 0, 112, 16, 6, 96, 46, 3]
abbrev dktX9_loseUnlawful_1 : List UInt8 := dkwX9_loseUnlawful_1 ++ dktX9_loseUnlawful_2
def dkwX9_loseUnlawful_0 : List UInt8 := [3, 60, 27, 42, 180, 0, 16, 5, 46, 162, 0, 54, 42, 27, 182, 0, 161, 153, 0, 40, 42, 27, 42]
abbrev dktX9_loseUnlawful_0 : List UInt8 := dkwX9_loseUnlawful_0 ++ dktX9_loseUnlawful_1
theorem dksX9_loseUnlawful_0 : cX9_loseUnlawful.data.toList.drop 0 = dktX9_loseUnlawful_0 := by decide +kernel
theorem dksX9_loseUnlawful_1 : cX9_loseUnlawful.data.toList.drop 23 = dktX9_loseUnlawful_1 := dk_seg dksX9_loseUnlawful_0 23 rfl rfl
theorem dksX9_loseUnlawful_2 : cX9_loseUnlawful.data.toList.drop 46 = dktX9_loseUnlawful_2 := dk_seg dksX9_loseUnlawful_1 23 rfl rfl
theorem dX9_loseUnlawful_0 : decode cX9_loseUnlawful 0 = .ok (.iconst 0, 1) := dk_3 (dk_at dksX9_loseUnlawful_0 0 rfl rfl)
theorem dX9_loseUnlawful_1 : decode cX9_loseUnlawful 1 = .ok (.istore_n 1, 1) := dk_60 (dk_at dksX9_loseUnlawful_0 1 rfl rfl)
theorem dX9_loseUnlawful_2 : decode cX9_loseUnlawful 2 = .ok (.iload_n 1, 1) := dk_27 (dk_at dksX9_loseUnlawful_0 2 rfl rfl)
theorem dX9_loseUnlawful_3 : decode cX9_loseUnlawful 3 = .ok (.aload_n 0, 1) := dk_42 (dk_at dksX9_loseUnlawful_0 3 rfl rfl)
theorem dX9_loseUnlawful_4 : decode cX9_loseUnlawful 4 = .ok (.getfield 16, 3) := dk_180 0 16 (dk_at dksX9_loseUnlawful_0 4 rfl rfl)
theorem dX9_loseUnlawful_7 : decode cX9_loseUnlawful 7 = .ok (.iconst 2, 1) := dk_5 (dk_at dksX9_loseUnlawful_0 7 rfl rfl)
theorem dX9_loseUnlawful_8 : decode cX9_loseUnlawful 8 = .ok (.iaload, 1) := dk_46 (dk_at dksX9_loseUnlawful_0 8 rfl rfl)
theorem dX9_loseUnlawful_9 : decode cX9_loseUnlawful 9 = .ok (.if_icmp .ge 54, 3) := dk_162 0 54 (dk_at dksX9_loseUnlawful_0 9 rfl rfl)
theorem dX9_loseUnlawful_12 : decode cX9_loseUnlawful 12 = .ok (.aload_n 0, 1) := dk_42 (dk_at dksX9_loseUnlawful_0 12 rfl rfl)
theorem dX9_loseUnlawful_13 : decode cX9_loseUnlawful 13 = .ok (.iload_n 1, 1) := dk_27 (dk_at dksX9_loseUnlawful_0 13 rfl rfl)
theorem dX9_loseUnlawful_14 : decode cX9_loseUnlawful 14 = .ok (.invokevirtual 161, 3) := dk_182 0 161 (dk_at dksX9_loseUnlawful_0 14 rfl rfl)
theorem dX9_loseUnlawful_17 : decode cX9_loseUnlawful 17 = .ok (.ifCond .eq 40, 3) := dk_153 0 40 (dk_at dksX9_loseUnlawful_0 17 rfl rfl)
theorem dX9_loseUnlawful_20 : decode cX9_loseUnlawful 20 = .ok (.aload_n 0, 1) := dk_42 (dk_at dksX9_loseUnlawful_0 20 rfl rfl)
theorem dX9_loseUnlawful_21 : decode cX9_loseUnlawful 21 = .ok (.iload_n 1, 1) := dk_27 (dk_at dksX9_loseUnlawful_0 21 rfl rfl)
theorem dX9_loseUnlawful_22 : decode cX9_loseUnlawful 22 = .ok (.aload_n 0, 1) := dk_42 (dk_at dksX9_loseUnlawful_0 22 rfl rfl)
theorem dX9_loseUnlawful_23 : decode cX9_loseUnlawful 23 = .ok (.getfield 16, 3) := dk_180 0 16 (dk_at dksX9_loseUnlawful_1 0 rfl rfl)
theorem dX9_loseUnlawful_26 : decode cX9_loseUnlawful 26 = .ok (.iload_n 1, 1) := dk_27 (dk_at dksX9_loseUnlawful_1 3 rfl rfl)
theorem dX9_loseUnlawful_27 : decode cX9_loseUnlawful 27 = .ok (.invokestatic 112, 3) := dk_184 0 112 (dk_at dksX9_loseUnlawful_1 4 rfl rfl)
theorem dX9_loseUnlawful_30 : decode cX9_loseUnlawful 30 = .ok (.iconst 5, 1) := dk_8 (dk_at dksX9_loseUnlawful_1 7 rfl rfl)
theorem dX9_loseUnlawful_31 : decode cX9_loseUnlawful 31 = .ok (.iadd, 1) := dk_96 (dk_at dksX9_loseUnlawful_1 8 rfl rfl)
theorem dX9_loseUnlawful_32 : decode cX9_loseUnlawful 32 = .ok (.iaload, 1) := dk_46 (dk_at dksX9_loseUnlawful_1 9 rfl rfl)
theorem dX9_loseUnlawful_33 : decode cX9_loseUnlawful 33 = .ok (.aload_n 0, 1) := dk_42 (dk_at dksX9_loseUnlawful_1 10 rfl rfl)
theorem dX9_loseUnlawful_34 : decode cX9_loseUnlawful 34 = .ok (.getfield 16, 3) := dk_180 0 16 (dk_at dksX9_loseUnlawful_1 11 rfl rfl)
theorem dX9_loseUnlawful_37 : decode cX9_loseUnlawful 37 = .ok (.iload_n 1, 1) := dk_27 (dk_at dksX9_loseUnlawful_1 14 rfl rfl)
theorem dX9_loseUnlawful_38 : decode cX9_loseUnlawful 38 = .ok (.invokestatic 112, 3) := dk_184 0 112 (dk_at dksX9_loseUnlawful_1 15 rfl rfl)
theorem dX9_loseUnlawful_41 : decode cX9_loseUnlawful 41 = .ok (.bipush 6, 2) := dk_16 6 (dk_at dksX9_loseUnlawful_1 18 rfl rfl)
theorem dX9_loseUnlawful_43 : decode cX9_loseUnlawful 43 = .ok (.iadd, 1) := dk_96 (dk_at dksX9_loseUnlawful_1 20 rfl rfl)
theorem dX9_loseUnlawful_44 : decode cX9_loseUnlawful 44 = .ok (.iaload, 1) := dk_46 (dk_at dksX9_loseUnlawful_1 21 rfl rfl)
theorem dX9_loseUnlawful_45 : decode cX9_loseUnlawful 45 = .ok (.iconst 0, 1) := dk_3 (dk_at dksX9_loseUnlawful_1 22 rfl rfl)
theorem dX9_loseUnlawful_46 : decode cX9_loseUnlawful 46 = .ok (.invokevirtual 157, 3) := dk_182 0 157 (dk_at dksX9_loseUnlawful_2 0 rfl rfl)
theorem dX9_loseUnlawful_49 : decode cX9_loseUnlawful 49 = .ok (.ifCond .ne 8, 3) := dk_154 0 8 (dk_at dksX9_loseUnlawful_2 3 rfl rfl)
theorem dX9_loseUnlawful_52 : decode cX9_loseUnlawful 52 = .ok (.aload_n 0, 1) := dk_42 (dk_at dksX9_loseUnlawful_2 6 rfl rfl)
theorem dX9_loseUnlawful_53 : decode cX9_loseUnlawful 53 = .ok (.iload_n 1, 1) := dk_27 (dk_at dksX9_loseUnlawful_2 7 rfl rfl)
theorem dX9_loseUnlawful_54 : decode cX9_loseUnlawful 54 = .ok (.invokevirtual 164, 3) := dk_182 0 164 (dk_at dksX9_loseUnlawful_2 8 rfl rfl)
theorem dX9_loseUnlawful_57 : decode cX9_loseUnlawful 57 = .ok (.iinc 1 1, 3) := dk_132 1 1 (dk_at dksX9_loseUnlawful_2 11 rfl rfl)
theorem dX9_loseUnlawful_60 : decode cX9_loseUnlawful 60 = .ok (.goto (-58), 3) := dk_167 255 198 (dk_at dksX9_loseUnlawful_2 14 rfl rfl)
theorem dX9_loseUnlawful_63 : decode cX9_loseUnlawful 63 = .ok (.return_, 1) := dk_177 (dk_at dksX9_loseUnlawful_2 17 rfl rfl)
abbrev cX9_isMoving : ByteArray := prog_15_method_18_code
def yX9_isMoving : MethodName := ⟨RX9, "isMoving", "(I)Z"⟩
def dkwX9_isMoving_0 : List UInt8 := [42, 27, 182, 0, 115, 154, 0, 15, 42, 27, 182, 0, 119, 153, 0, 7, 4, 167, 0, 4, 3, 172]
abbrev dktX9_isMoving_0 : List UInt8 := dkwX9_isMoving_0 ++ []
theorem dksX9_isMoving_0 : cX9_isMoving.data.toList.drop 0 = dktX9_isMoving_0 := by decide +kernel
theorem dX9_isMoving_0 : decode cX9_isMoving 0 = .ok (.aload_n 0, 1) := dk_42 (dk_at dksX9_isMoving_0 0 rfl rfl)
theorem dX9_isMoving_1 : decode cX9_isMoving 1 = .ok (.iload_n 1, 1) := dk_27 (dk_at dksX9_isMoving_0 1 rfl rfl)
theorem dX9_isMoving_2 : decode cX9_isMoving 2 = .ok (.invokevirtual 115, 3) := dk_182 0 115 (dk_at dksX9_isMoving_0 2 rfl rfl)
theorem dX9_isMoving_5 : decode cX9_isMoving 5 = .ok (.ifCond .ne 15, 3) := dk_154 0 15 (dk_at dksX9_isMoving_0 5 rfl rfl)
theorem dX9_isMoving_8 : decode cX9_isMoving 8 = .ok (.aload_n 0, 1) := dk_42 (dk_at dksX9_isMoving_0 8 rfl rfl)
theorem dX9_isMoving_9 : decode cX9_isMoving 9 = .ok (.iload_n 1, 1) := dk_27 (dk_at dksX9_isMoving_0 9 rfl rfl)
theorem dX9_isMoving_10 : decode cX9_isMoving 10 = .ok (.invokevirtual 119, 3) := dk_182 0 119 (dk_at dksX9_isMoving_0 10 rfl rfl)
theorem dX9_isMoving_13 : decode cX9_isMoving 13 = .ok (.ifCond .eq 7, 3) := dk_153 0 7 (dk_at dksX9_isMoving_0 13 rfl rfl)
theorem dX9_isMoving_16 : decode cX9_isMoving 16 = .ok (.iconst 1, 1) := dk_4 (dk_at dksX9_isMoving_0 16 rfl rfl)
theorem dX9_isMoving_17 : decode cX9_isMoving 17 = .ok (.goto 4, 3) := dk_167 0 4 (dk_at dksX9_isMoving_0 17 rfl rfl)
theorem dX9_isMoving_20 : decode cX9_isMoving 20 = .ok (.iconst 0, 1) := dk_3 (dk_at dksX9_isMoving_0 20 rfl rfl)
theorem dX9_isMoving_21 : decode cX9_isMoving 21 = .ok (.ireturn, 1) := dk_172 (dk_at dksX9_isMoving_0 21 rfl rfl)
abbrev cX9_hasSpot : ByteArray := prog_15_method_17_code
def yX9_hasSpot : MethodName := ⟨RX9, "hasSpot", "(I)Z"⟩
def dkwX9_hasSpot_0 : List UInt8 := [42, 180, 0, 16, 27, 184, 0, 112, 8, 96, 46, 2, 159, 0, 7, 4, 167, 0, 4, 3, 172]
abbrev dktX9_hasSpot_0 : List UInt8 := dkwX9_hasSpot_0 ++ []
theorem dksX9_hasSpot_0 : cX9_hasSpot.data.toList.drop 0 = dktX9_hasSpot_0 := by decide +kernel
theorem dX9_hasSpot_0 : decode cX9_hasSpot 0 = .ok (.aload_n 0, 1) := dk_42 (dk_at dksX9_hasSpot_0 0 rfl rfl)
theorem dX9_hasSpot_1 : decode cX9_hasSpot 1 = .ok (.getfield 16, 3) := dk_180 0 16 (dk_at dksX9_hasSpot_0 1 rfl rfl)
theorem dX9_hasSpot_4 : decode cX9_hasSpot 4 = .ok (.iload_n 1, 1) := dk_27 (dk_at dksX9_hasSpot_0 4 rfl rfl)
theorem dX9_hasSpot_5 : decode cX9_hasSpot 5 = .ok (.invokestatic 112, 3) := dk_184 0 112 (dk_at dksX9_hasSpot_0 5 rfl rfl)
theorem dX9_hasSpot_8 : decode cX9_hasSpot 8 = .ok (.iconst 5, 1) := dk_8 (dk_at dksX9_hasSpot_0 8 rfl rfl)
theorem dX9_hasSpot_9 : decode cX9_hasSpot 9 = .ok (.iadd, 1) := dk_96 (dk_at dksX9_hasSpot_0 9 rfl rfl)
theorem dX9_hasSpot_10 : decode cX9_hasSpot 10 = .ok (.iaload, 1) := dk_46 (dk_at dksX9_hasSpot_0 10 rfl rfl)
theorem dX9_hasSpot_11 : decode cX9_hasSpot 11 = .ok (.iconst (-1), 1) := dk_2 (dk_at dksX9_hasSpot_0 11 rfl rfl)
theorem dX9_hasSpot_12 : decode cX9_hasSpot 12 = .ok (.if_icmp .eq 7, 3) := dk_159 0 7 (dk_at dksX9_hasSpot_0 12 rfl rfl)
theorem dX9_hasSpot_15 : decode cX9_hasSpot 15 = .ok (.iconst 1, 1) := dk_4 (dk_at dksX9_hasSpot_0 15 rfl rfl)
theorem dX9_hasSpot_16 : decode cX9_hasSpot 16 = .ok (.goto 4, 3) := dk_167 0 4 (dk_at dksX9_hasSpot_0 16 rfl rfl)
theorem dX9_hasSpot_19 : decode cX9_hasSpot 19 = .ok (.iconst 0, 1) := dk_3 (dk_at dksX9_hasSpot_0 19 rfl rfl)
theorem dX9_hasSpot_20 : decode cX9_hasSpot 20 = .ok (.ireturn, 1) := dk_172 (dk_at dksX9_hasSpot_0 20 rfl rfl)
abbrev cX9_lose : ByteArray := prog_15_method_19_code
def yX9_lose : MethodName := ⟨RX9, "lose", "(I)V"⟩
def dkwX9_lose_1 : List UInt8 := [79, 177]
abbrev dktX9_lose_1 : List UInt8 := dkwX9_lose_1 ++ []
def dkwX9_lose_0 : List UInt8 := [42, 180, 0, 16, 27, 184, 0, 112, 8, 96, 2, 79, 42, 180, 0, 16, 27, 184, 0, 112, 16, 6, 96, 2]
abbrev dktX9_lose_0 : List UInt8 := dkwX9_lose_0 ++ dktX9_lose_1
theorem dksX9_lose_0 : cX9_lose.data.toList.drop 0 = dktX9_lose_0 := by decide +kernel
theorem dksX9_lose_1 : cX9_lose.data.toList.drop 24 = dktX9_lose_1 := dk_seg dksX9_lose_0 24 rfl rfl
theorem dX9_lose_0 : decode cX9_lose 0 = .ok (.aload_n 0, 1) := dk_42 (dk_at dksX9_lose_0 0 rfl rfl)
theorem dX9_lose_1 : decode cX9_lose 1 = .ok (.getfield 16, 3) := dk_180 0 16 (dk_at dksX9_lose_0 1 rfl rfl)
theorem dX9_lose_4 : decode cX9_lose 4 = .ok (.iload_n 1, 1) := dk_27 (dk_at dksX9_lose_0 4 rfl rfl)
theorem dX9_lose_5 : decode cX9_lose 5 = .ok (.invokestatic 112, 3) := dk_184 0 112 (dk_at dksX9_lose_0 5 rfl rfl)
theorem dX9_lose_8 : decode cX9_lose 8 = .ok (.iconst 5, 1) := dk_8 (dk_at dksX9_lose_0 8 rfl rfl)
theorem dX9_lose_9 : decode cX9_lose 9 = .ok (.iadd, 1) := dk_96 (dk_at dksX9_lose_0 9 rfl rfl)
theorem dX9_lose_10 : decode cX9_lose 10 = .ok (.iconst (-1), 1) := dk_2 (dk_at dksX9_lose_0 10 rfl rfl)
theorem dX9_lose_11 : decode cX9_lose 11 = .ok (.iastore, 1) := dk_79 (dk_at dksX9_lose_0 11 rfl rfl)
theorem dX9_lose_12 : decode cX9_lose 12 = .ok (.aload_n 0, 1) := dk_42 (dk_at dksX9_lose_0 12 rfl rfl)
theorem dX9_lose_13 : decode cX9_lose 13 = .ok (.getfield 16, 3) := dk_180 0 16 (dk_at dksX9_lose_0 13 rfl rfl)
theorem dX9_lose_16 : decode cX9_lose 16 = .ok (.iload_n 1, 1) := dk_27 (dk_at dksX9_lose_0 16 rfl rfl)
theorem dX9_lose_17 : decode cX9_lose 17 = .ok (.invokestatic 112, 3) := dk_184 0 112 (dk_at dksX9_lose_0 17 rfl rfl)
theorem dX9_lose_20 : decode cX9_lose 20 = .ok (.bipush 6, 2) := dk_16 6 (dk_at dksX9_lose_0 20 rfl rfl)
theorem dX9_lose_22 : decode cX9_lose 22 = .ok (.iadd, 1) := dk_96 (dk_at dksX9_lose_0 22 rfl rfl)
theorem dX9_lose_23 : decode cX9_lose 23 = .ok (.iconst (-1), 1) := dk_2 (dk_at dksX9_lose_0 23 rfl rfl)
theorem dX9_lose_24 : decode cX9_lose 24 = .ok (.iastore, 1) := dk_79 (dk_at dksX9_lose_1 0 rfl rfl)
theorem dX9_lose_25 : decode cX9_lose 25 = .ok (.return_, 1) := dk_177 (dk_at dksX9_lose_1 1 rfl rfl)
abbrev cX9_fence : ByteArray := prog_15_method_41_code
def yX9_fence : MethodName := ⟨RX9, "fence", "(IIII)I"⟩
def dkwX9_fence_4 : List UInt8 := [182, 0, 193, 42, 21, 5, 182, 0, 109, 172]
abbrev dktX9_fence_4 : List UInt8 := dkwX9_fence_4 ++ []
def dkwX9_fence_3 : List UInt8 := [7, 21, 5, 104, 96, 27, 28, 29, 21, 4, 182, 0, 189, 42, 180, 0, 16, 4, 92, 46, 4, 96, 79, 42]
abbrev dktX9_fence_3 : List UInt8 := dkwX9_fence_3 ++ dktX9_fence_4
def dkwX9_fence_2 : List UInt8 := [46, 54, 5, 21, 5, 6, 160, 0, 10, 42, 16, 251, 182, 0, 105, 172, 42, 4, 182, 0, 186, 42, 16, 24]
abbrev dktX9_fence_2 : List UInt8 := dkwX9_fence_2 ++ dktX9_fence_3
def dkwX9_fence_1 : List UInt8 := [27, 28, 29, 21, 4, 4, 182, 0, 182, 153, 0, 10, 42, 16, 252, 182, 0, 105, 172, 42, 180, 0, 16, 4]
abbrev dktX9_fence_1 : List UInt8 := dkwX9_fence_1 ++ dktX9_fence_2
def dkwX9_fence_0 : List UInt8 := [42, 3, 181, 0, 92, 42, 27, 28, 29, 21, 4, 182, 0, 176, 154, 0, 9, 42, 2, 182, 0, 105, 172, 42]
abbrev dktX9_fence_0 : List UInt8 := dkwX9_fence_0 ++ dktX9_fence_1
theorem dksX9_fence_0 : cX9_fence.data.toList.drop 0 = dktX9_fence_0 := by decide +kernel
theorem dksX9_fence_1 : cX9_fence.data.toList.drop 24 = dktX9_fence_1 := dk_seg dksX9_fence_0 24 rfl rfl
theorem dksX9_fence_2 : cX9_fence.data.toList.drop 48 = dktX9_fence_2 := dk_seg dksX9_fence_1 24 rfl rfl
theorem dksX9_fence_3 : cX9_fence.data.toList.drop 72 = dktX9_fence_3 := dk_seg dksX9_fence_2 24 rfl rfl
theorem dksX9_fence_4 : cX9_fence.data.toList.drop 96 = dktX9_fence_4 := dk_seg dksX9_fence_3 24 rfl rfl
theorem dX9_fence_0 : decode cX9_fence 0 = .ok (.aload_n 0, 1) := dk_42 (dk_at dksX9_fence_0 0 rfl rfl)
theorem dX9_fence_1 : decode cX9_fence 1 = .ok (.iconst 0, 1) := dk_3 (dk_at dksX9_fence_0 1 rfl rfl)
theorem dX9_fence_2 : decode cX9_fence 2 = .ok (.putfield 92, 3) := dk_181 0 92 (dk_at dksX9_fence_0 2 rfl rfl)
theorem dX9_fence_5 : decode cX9_fence 5 = .ok (.aload_n 0, 1) := dk_42 (dk_at dksX9_fence_0 5 rfl rfl)
theorem dX9_fence_6 : decode cX9_fence 6 = .ok (.iload_n 1, 1) := dk_27 (dk_at dksX9_fence_0 6 rfl rfl)
theorem dX9_fence_7 : decode cX9_fence 7 = .ok (.iload_n 2, 1) := dk_28 (dk_at dksX9_fence_0 7 rfl rfl)
theorem dX9_fence_8 : decode cX9_fence 8 = .ok (.iload_n 3, 1) := dk_29 (dk_at dksX9_fence_0 8 rfl rfl)
theorem dX9_fence_9 : decode cX9_fence 9 = .ok (.iload 4, 2) := dk_21 4 (dk_at dksX9_fence_0 9 rfl rfl)
theorem dX9_fence_11 : decode cX9_fence 11 = .ok (.invokevirtual 176, 3) := dk_182 0 176 (dk_at dksX9_fence_0 11 rfl rfl)
theorem dX9_fence_14 : decode cX9_fence 14 = .ok (.ifCond .ne 9, 3) := dk_154 0 9 (dk_at dksX9_fence_0 14 rfl rfl)
theorem dX9_fence_17 : decode cX9_fence 17 = .ok (.aload_n 0, 1) := dk_42 (dk_at dksX9_fence_0 17 rfl rfl)
theorem dX9_fence_18 : decode cX9_fence 18 = .ok (.iconst (-1), 1) := dk_2 (dk_at dksX9_fence_0 18 rfl rfl)
theorem dX9_fence_19 : decode cX9_fence 19 = .ok (.invokevirtual 105, 3) := dk_182 0 105 (dk_at dksX9_fence_0 19 rfl rfl)
theorem dX9_fence_22 : decode cX9_fence 22 = .ok (.ireturn, 1) := dk_172 (dk_at dksX9_fence_0 22 rfl rfl)
theorem dX9_fence_23 : decode cX9_fence 23 = .ok (.aload_n 0, 1) := dk_42 (dk_at dksX9_fence_0 23 rfl rfl)
theorem dX9_fence_24 : decode cX9_fence 24 = .ok (.iload_n 1, 1) := dk_27 (dk_at dksX9_fence_1 0 rfl rfl)
theorem dX9_fence_25 : decode cX9_fence 25 = .ok (.iload_n 2, 1) := dk_28 (dk_at dksX9_fence_1 1 rfl rfl)
theorem dX9_fence_26 : decode cX9_fence 26 = .ok (.iload_n 3, 1) := dk_29 (dk_at dksX9_fence_1 2 rfl rfl)
theorem dX9_fence_27 : decode cX9_fence 27 = .ok (.iload 4, 2) := dk_21 4 (dk_at dksX9_fence_1 3 rfl rfl)
theorem dX9_fence_29 : decode cX9_fence 29 = .ok (.iconst 1, 1) := dk_4 (dk_at dksX9_fence_1 5 rfl rfl)
theorem dX9_fence_30 : decode cX9_fence 30 = .ok (.invokevirtual 182, 3) := dk_182 0 182 (dk_at dksX9_fence_1 6 rfl rfl)
theorem dX9_fence_33 : decode cX9_fence 33 = .ok (.ifCond .eq 10, 3) := dk_153 0 10 (dk_at dksX9_fence_1 9 rfl rfl)
theorem dX9_fence_36 : decode cX9_fence 36 = .ok (.aload_n 0, 1) := dk_42 (dk_at dksX9_fence_1 12 rfl rfl)
theorem dX9_fence_37 : decode cX9_fence 37 = .ok (.bipush (-4), 2) := dk_16 252 (dk_at dksX9_fence_1 13 rfl rfl)
theorem dX9_fence_39 : decode cX9_fence 39 = .ok (.invokevirtual 105, 3) := dk_182 0 105 (dk_at dksX9_fence_1 15 rfl rfl)
theorem dX9_fence_42 : decode cX9_fence 42 = .ok (.ireturn, 1) := dk_172 (dk_at dksX9_fence_1 18 rfl rfl)
theorem dX9_fence_43 : decode cX9_fence 43 = .ok (.aload_n 0, 1) := dk_42 (dk_at dksX9_fence_1 19 rfl rfl)
theorem dX9_fence_44 : decode cX9_fence 44 = .ok (.getfield 16, 3) := dk_180 0 16 (dk_at dksX9_fence_1 20 rfl rfl)
theorem dX9_fence_47 : decode cX9_fence 47 = .ok (.iconst 1, 1) := dk_4 (dk_at dksX9_fence_1 23 rfl rfl)
theorem dX9_fence_48 : decode cX9_fence 48 = .ok (.iaload, 1) := dk_46 (dk_at dksX9_fence_2 0 rfl rfl)
theorem dX9_fence_49 : decode cX9_fence 49 = .ok (.istore 5, 2) := dk_54 5 (dk_at dksX9_fence_2 1 rfl rfl)
theorem dX9_fence_51 : decode cX9_fence 51 = .ok (.iload 5, 2) := dk_21 5 (dk_at dksX9_fence_2 3 rfl rfl)
theorem dX9_fence_53 : decode cX9_fence 53 = .ok (.iconst 3, 1) := dk_6 (dk_at dksX9_fence_2 5 rfl rfl)
theorem dX9_fence_54 : decode cX9_fence 54 = .ok (.if_icmp .ne 10, 3) := dk_160 0 10 (dk_at dksX9_fence_2 6 rfl rfl)
theorem dX9_fence_57 : decode cX9_fence 57 = .ok (.aload_n 0, 1) := dk_42 (dk_at dksX9_fence_2 9 rfl rfl)
theorem dX9_fence_58 : decode cX9_fence 58 = .ok (.bipush (-5), 2) := dk_16 251 (dk_at dksX9_fence_2 10 rfl rfl)
theorem dX9_fence_60 : decode cX9_fence 60 = .ok (.invokevirtual 105, 3) := dk_182 0 105 (dk_at dksX9_fence_2 12 rfl rfl)
theorem dX9_fence_63 : decode cX9_fence 63 = .ok (.ireturn, 1) := dk_172 (dk_at dksX9_fence_2 15 rfl rfl)
theorem dX9_fence_64 : decode cX9_fence 64 = .ok (.aload_n 0, 1) := dk_42 (dk_at dksX9_fence_2 16 rfl rfl)
theorem dX9_fence_65 : decode cX9_fence 65 = .ok (.iconst 1, 1) := dk_4 (dk_at dksX9_fence_2 17 rfl rfl)
theorem dX9_fence_66 : decode cX9_fence 66 = .ok (.invokevirtual 186, 3) := dk_182 0 186 (dk_at dksX9_fence_2 18 rfl rfl)
theorem dX9_fence_69 : decode cX9_fence 69 = .ok (.aload_n 0, 1) := dk_42 (dk_at dksX9_fence_2 21 rfl rfl)
theorem dX9_fence_70 : decode cX9_fence 70 = .ok (.bipush 24, 2) := dk_16 24 (dk_at dksX9_fence_2 22 rfl rfl)
theorem dX9_fence_72 : decode cX9_fence 72 = .ok (.iconst 4, 1) := dk_7 (dk_at dksX9_fence_3 0 rfl rfl)
theorem dX9_fence_73 : decode cX9_fence 73 = .ok (.iload 5, 2) := dk_21 5 (dk_at dksX9_fence_3 1 rfl rfl)
theorem dX9_fence_75 : decode cX9_fence 75 = .ok (.imul, 1) := dk_104 (dk_at dksX9_fence_3 3 rfl rfl)
theorem dX9_fence_76 : decode cX9_fence 76 = .ok (.iadd, 1) := dk_96 (dk_at dksX9_fence_3 4 rfl rfl)
theorem dX9_fence_77 : decode cX9_fence 77 = .ok (.iload_n 1, 1) := dk_27 (dk_at dksX9_fence_3 5 rfl rfl)
theorem dX9_fence_78 : decode cX9_fence 78 = .ok (.iload_n 2, 1) := dk_28 (dk_at dksX9_fence_3 6 rfl rfl)
theorem dX9_fence_79 : decode cX9_fence 79 = .ok (.iload_n 3, 1) := dk_29 (dk_at dksX9_fence_3 7 rfl rfl)
theorem dX9_fence_80 : decode cX9_fence 80 = .ok (.iload 4, 2) := dk_21 4 (dk_at dksX9_fence_3 8 rfl rfl)
theorem dX9_fence_82 : decode cX9_fence 82 = .ok (.invokevirtual 189, 3) := dk_182 0 189 (dk_at dksX9_fence_3 10 rfl rfl)
theorem dX9_fence_85 : decode cX9_fence 85 = .ok (.aload_n 0, 1) := dk_42 (dk_at dksX9_fence_3 13 rfl rfl)
theorem dX9_fence_86 : decode cX9_fence 86 = .ok (.getfield 16, 3) := dk_180 0 16 (dk_at dksX9_fence_3 14 rfl rfl)
theorem dX9_fence_89 : decode cX9_fence 89 = .ok (.iconst 1, 1) := dk_4 (dk_at dksX9_fence_3 17 rfl rfl)
theorem dX9_fence_90 : decode cX9_fence 90 = .ok (.dup2, 1) := dk_92 (dk_at dksX9_fence_3 18 rfl rfl)
theorem dX9_fence_91 : decode cX9_fence 91 = .ok (.iaload, 1) := dk_46 (dk_at dksX9_fence_3 19 rfl rfl)
theorem dX9_fence_92 : decode cX9_fence 92 = .ok (.iconst 1, 1) := dk_4 (dk_at dksX9_fence_3 20 rfl rfl)
theorem dX9_fence_93 : decode cX9_fence 93 = .ok (.iadd, 1) := dk_96 (dk_at dksX9_fence_3 21 rfl rfl)
theorem dX9_fence_94 : decode cX9_fence 94 = .ok (.iastore, 1) := dk_79 (dk_at dksX9_fence_3 22 rfl rfl)
theorem dX9_fence_95 : decode cX9_fence 95 = .ok (.aload_n 0, 1) := dk_42 (dk_at dksX9_fence_3 23 rfl rfl)
theorem dX9_fence_96 : decode cX9_fence 96 = .ok (.invokevirtual 193, 3) := dk_182 0 193 (dk_at dksX9_fence_4 0 rfl rfl)
theorem dX9_fence_99 : decode cX9_fence 99 = .ok (.aload_n 0, 1) := dk_42 (dk_at dksX9_fence_4 3 rfl rfl)
theorem dX9_fence_100 : decode cX9_fence 100 = .ok (.iload 5, 2) := dk_21 5 (dk_at dksX9_fence_4 4 rfl rfl)
theorem dX9_fence_102 : decode cX9_fence 102 = .ok (.invokevirtual 109, 3) := dk_182 0 109 (dk_at dksX9_fence_4 6 rfl rfl)
theorem dX9_fence_105 : decode cX9_fence 105 = .ok (.ireturn, 1) := dk_172 (dk_at dksX9_fence_4 9 rfl rfl)
abbrev cX9_cell : ByteArray := prog_15_method_42_code
def yX9_cell : MethodName := ⟨RX9, "cell", "(II)I"⟩
def dkwX9_cell_6 : List UInt8 := [180, 0, 16, 5, 92, 46, 4, 96, 79, 42, 29, 182, 0, 109, 172]
abbrev dktX9_cell_6 : List UInt8 := dkwX9_cell_6 ++ []
def dkwX9_cell_5 : List UInt8 := [42, 180, 0, 16, 21, 4, 7, 96, 16, 8, 42, 180, 0, 85, 4, 100, 104, 79, 42, 29, 182, 0, 164, 42]
abbrev dktX9_cell_5 : List UInt8 := dkwX9_cell_5 ++ dktX9_cell_6
def dkwX9_cell_4 : List UInt8 := [21, 4, 5, 96, 3, 79, 42, 180, 0, 16, 21, 4, 6, 96, 16, 8, 42, 180, 0, 89, 27, 100, 104, 79]
abbrev dktX9_cell_4 : List UInt8 := dkwX9_cell_4 ++ dktX9_cell_5
def dkwX9_cell_3 : List UInt8 := [54, 4, 42, 180, 0, 16, 21, 4, 27, 79, 42, 180, 0, 16, 21, 4, 4, 96, 28, 79, 42, 180, 0, 16]
abbrev dktX9_cell_3 : List UInt8 := dkwX9_cell_3 ++ dktX9_cell_4
def dkwX9_cell_2 : List UInt8 := [46, 62, 29, 16, 20, 160, 0, 10, 42, 16, 251, 182, 0, 105, 172, 42, 5, 182, 0, 186, 29, 184, 0, 112]
abbrev dktX9_cell_2 : List UInt8 := dkwX9_cell_2 ++ dktX9_cell_3
def dkwX9_cell_1 : List UInt8 := [2, 159, 0, 18, 42, 28, 182, 0, 198, 154, 0, 10, 42, 16, 254, 182, 0, 105, 172, 42, 180, 0, 16, 5]
abbrev dktX9_cell_1 : List UInt8 := dkwX9_cell_1 ++ dktX9_cell_2
def dkwX9_cell_0 : List UInt8 := [42, 3, 181, 0, 92, 27, 133, 10, 20, 0, 196, 184, 0, 122, 154, 0, 9, 42, 2, 182, 0, 105, 172, 28]
abbrev dktX9_cell_0 : List UInt8 := dkwX9_cell_0 ++ dktX9_cell_1
theorem dksX9_cell_0 : cX9_cell.data.toList.drop 0 = dktX9_cell_0 := by decide +kernel
theorem dksX9_cell_1 : cX9_cell.data.toList.drop 24 = dktX9_cell_1 := dk_seg dksX9_cell_0 24 rfl rfl
theorem dksX9_cell_2 : cX9_cell.data.toList.drop 48 = dktX9_cell_2 := dk_seg dksX9_cell_1 24 rfl rfl
theorem dksX9_cell_3 : cX9_cell.data.toList.drop 72 = dktX9_cell_3 := dk_seg dksX9_cell_2 24 rfl rfl
theorem dksX9_cell_4 : cX9_cell.data.toList.drop 96 = dktX9_cell_4 := dk_seg dksX9_cell_3 24 rfl rfl
theorem dksX9_cell_5 : cX9_cell.data.toList.drop 120 = dktX9_cell_5 := dk_seg dksX9_cell_4 24 rfl rfl
theorem dksX9_cell_6 : cX9_cell.data.toList.drop 144 = dktX9_cell_6 := dk_seg dksX9_cell_5 24 rfl rfl
theorem dX9_cell_0 : decode cX9_cell 0 = .ok (.aload_n 0, 1) := dk_42 (dk_at dksX9_cell_0 0 rfl rfl)
theorem dX9_cell_1 : decode cX9_cell 1 = .ok (.iconst 0, 1) := dk_3 (dk_at dksX9_cell_0 1 rfl rfl)
theorem dX9_cell_2 : decode cX9_cell 2 = .ok (.putfield 92, 3) := dk_181 0 92 (dk_at dksX9_cell_0 2 rfl rfl)
theorem dX9_cell_5 : decode cX9_cell 5 = .ok (.iload_n 1, 1) := dk_27 (dk_at dksX9_cell_0 5 rfl rfl)
theorem dX9_cell_6 : decode cX9_cell 6 = .ok (.i2l, 1) := dk_133 (dk_at dksX9_cell_0 6 rfl rfl)
theorem dX9_cell_7 : decode cX9_cell 7 = .ok (.lconst 1, 1) := dk_10 (dk_at dksX9_cell_0 7 rfl rfl)
theorem dX9_cell_8 : decode cX9_cell 8 = .ok (.ldc2_w 196, 3) := dk_20 0 196 (dk_at dksX9_cell_0 8 rfl rfl)
theorem dX9_cell_11 : decode cX9_cell 11 = .ok (.invokestatic 122, 3) := dk_184 0 122 (dk_at dksX9_cell_0 11 rfl rfl)
theorem dX9_cell_14 : decode cX9_cell 14 = .ok (.ifCond .ne 9, 3) := dk_154 0 9 (dk_at dksX9_cell_0 14 rfl rfl)
theorem dX9_cell_17 : decode cX9_cell 17 = .ok (.aload_n 0, 1) := dk_42 (dk_at dksX9_cell_0 17 rfl rfl)
theorem dX9_cell_18 : decode cX9_cell 18 = .ok (.iconst (-1), 1) := dk_2 (dk_at dksX9_cell_0 18 rfl rfl)
theorem dX9_cell_19 : decode cX9_cell 19 = .ok (.invokevirtual 105, 3) := dk_182 0 105 (dk_at dksX9_cell_0 19 rfl rfl)
theorem dX9_cell_22 : decode cX9_cell 22 = .ok (.ireturn, 1) := dk_172 (dk_at dksX9_cell_0 22 rfl rfl)
theorem dX9_cell_23 : decode cX9_cell 23 = .ok (.iload_n 2, 1) := dk_28 (dk_at dksX9_cell_0 23 rfl rfl)
theorem dX9_cell_24 : decode cX9_cell 24 = .ok (.iconst (-1), 1) := dk_2 (dk_at dksX9_cell_1 0 rfl rfl)
theorem dX9_cell_25 : decode cX9_cell 25 = .ok (.if_icmp .eq 18, 3) := dk_159 0 18 (dk_at dksX9_cell_1 1 rfl rfl)
theorem dX9_cell_28 : decode cX9_cell 28 = .ok (.aload_n 0, 1) := dk_42 (dk_at dksX9_cell_1 4 rfl rfl)
theorem dX9_cell_29 : decode cX9_cell 29 = .ok (.iload_n 2, 1) := dk_28 (dk_at dksX9_cell_1 5 rfl rfl)
theorem dX9_cell_30 : decode cX9_cell 30 = .ok (.invokevirtual 198, 3) := dk_182 0 198 (dk_at dksX9_cell_1 6 rfl rfl)
theorem dX9_cell_33 : decode cX9_cell 33 = .ok (.ifCond .ne 10, 3) := dk_154 0 10 (dk_at dksX9_cell_1 9 rfl rfl)
theorem dX9_cell_36 : decode cX9_cell 36 = .ok (.aload_n 0, 1) := dk_42 (dk_at dksX9_cell_1 12 rfl rfl)
theorem dX9_cell_37 : decode cX9_cell 37 = .ok (.bipush (-2), 2) := dk_16 254 (dk_at dksX9_cell_1 13 rfl rfl)
theorem dX9_cell_39 : decode cX9_cell 39 = .ok (.invokevirtual 105, 3) := dk_182 0 105 (dk_at dksX9_cell_1 15 rfl rfl)
theorem dX9_cell_42 : decode cX9_cell 42 = .ok (.ireturn, 1) := dk_172 (dk_at dksX9_cell_1 18 rfl rfl)
theorem dX9_cell_43 : decode cX9_cell 43 = .ok (.aload_n 0, 1) := dk_42 (dk_at dksX9_cell_1 19 rfl rfl)
theorem dX9_cell_44 : decode cX9_cell 44 = .ok (.getfield 16, 3) := dk_180 0 16 (dk_at dksX9_cell_1 20 rfl rfl)
theorem dX9_cell_47 : decode cX9_cell 47 = .ok (.iconst 2, 1) := dk_5 (dk_at dksX9_cell_1 23 rfl rfl)
theorem dX9_cell_48 : decode cX9_cell 48 = .ok (.iaload, 1) := dk_46 (dk_at dksX9_cell_2 0 rfl rfl)
theorem dX9_cell_49 : decode cX9_cell 49 = .ok (.istore_n 3, 1) := dk_62 (dk_at dksX9_cell_2 1 rfl rfl)
theorem dX9_cell_50 : decode cX9_cell 50 = .ok (.iload_n 3, 1) := dk_29 (dk_at dksX9_cell_2 2 rfl rfl)
theorem dX9_cell_51 : decode cX9_cell 51 = .ok (.bipush 20, 2) := dk_16 20 (dk_at dksX9_cell_2 3 rfl rfl)
theorem dX9_cell_53 : decode cX9_cell 53 = .ok (.if_icmp .ne 10, 3) := dk_160 0 10 (dk_at dksX9_cell_2 5 rfl rfl)
theorem dX9_cell_56 : decode cX9_cell 56 = .ok (.aload_n 0, 1) := dk_42 (dk_at dksX9_cell_2 8 rfl rfl)
theorem dX9_cell_57 : decode cX9_cell 57 = .ok (.bipush (-5), 2) := dk_16 251 (dk_at dksX9_cell_2 9 rfl rfl)
theorem dX9_cell_59 : decode cX9_cell 59 = .ok (.invokevirtual 105, 3) := dk_182 0 105 (dk_at dksX9_cell_2 11 rfl rfl)
theorem dX9_cell_62 : decode cX9_cell 62 = .ok (.ireturn, 1) := dk_172 (dk_at dksX9_cell_2 14 rfl rfl)
theorem dX9_cell_63 : decode cX9_cell 63 = .ok (.aload_n 0, 1) := dk_42 (dk_at dksX9_cell_2 15 rfl rfl)
theorem dX9_cell_64 : decode cX9_cell 64 = .ok (.iconst 2, 1) := dk_5 (dk_at dksX9_cell_2 16 rfl rfl)
theorem dX9_cell_65 : decode cX9_cell 65 = .ok (.invokevirtual 186, 3) := dk_182 0 186 (dk_at dksX9_cell_2 17 rfl rfl)
theorem dX9_cell_68 : decode cX9_cell 68 = .ok (.iload_n 3, 1) := dk_29 (dk_at dksX9_cell_2 20 rfl rfl)
theorem dX9_cell_69 : decode cX9_cell 69 = .ok (.invokestatic 112, 3) := dk_184 0 112 (dk_at dksX9_cell_2 21 rfl rfl)
theorem dX9_cell_72 : decode cX9_cell 72 = .ok (.istore 4, 2) := dk_54 4 (dk_at dksX9_cell_3 0 rfl rfl)
theorem dX9_cell_74 : decode cX9_cell 74 = .ok (.aload_n 0, 1) := dk_42 (dk_at dksX9_cell_3 2 rfl rfl)
theorem dX9_cell_75 : decode cX9_cell 75 = .ok (.getfield 16, 3) := dk_180 0 16 (dk_at dksX9_cell_3 3 rfl rfl)
theorem dX9_cell_78 : decode cX9_cell 78 = .ok (.iload 4, 2) := dk_21 4 (dk_at dksX9_cell_3 6 rfl rfl)
theorem dX9_cell_80 : decode cX9_cell 80 = .ok (.iload_n 1, 1) := dk_27 (dk_at dksX9_cell_3 8 rfl rfl)
theorem dX9_cell_81 : decode cX9_cell 81 = .ok (.iastore, 1) := dk_79 (dk_at dksX9_cell_3 9 rfl rfl)
theorem dX9_cell_82 : decode cX9_cell 82 = .ok (.aload_n 0, 1) := dk_42 (dk_at dksX9_cell_3 10 rfl rfl)
theorem dX9_cell_83 : decode cX9_cell 83 = .ok (.getfield 16, 3) := dk_180 0 16 (dk_at dksX9_cell_3 11 rfl rfl)
theorem dX9_cell_86 : decode cX9_cell 86 = .ok (.iload 4, 2) := dk_21 4 (dk_at dksX9_cell_3 14 rfl rfl)
theorem dX9_cell_88 : decode cX9_cell 88 = .ok (.iconst 1, 1) := dk_4 (dk_at dksX9_cell_3 16 rfl rfl)
theorem dX9_cell_89 : decode cX9_cell 89 = .ok (.iadd, 1) := dk_96 (dk_at dksX9_cell_3 17 rfl rfl)
theorem dX9_cell_90 : decode cX9_cell 90 = .ok (.iload_n 2, 1) := dk_28 (dk_at dksX9_cell_3 18 rfl rfl)
theorem dX9_cell_91 : decode cX9_cell 91 = .ok (.iastore, 1) := dk_79 (dk_at dksX9_cell_3 19 rfl rfl)
theorem dX9_cell_92 : decode cX9_cell 92 = .ok (.aload_n 0, 1) := dk_42 (dk_at dksX9_cell_3 20 rfl rfl)
theorem dX9_cell_93 : decode cX9_cell 93 = .ok (.getfield 16, 3) := dk_180 0 16 (dk_at dksX9_cell_3 21 rfl rfl)
theorem dX9_cell_96 : decode cX9_cell 96 = .ok (.iload 4, 2) := dk_21 4 (dk_at dksX9_cell_4 0 rfl rfl)
theorem dX9_cell_98 : decode cX9_cell 98 = .ok (.iconst 2, 1) := dk_5 (dk_at dksX9_cell_4 2 rfl rfl)
theorem dX9_cell_99 : decode cX9_cell 99 = .ok (.iadd, 1) := dk_96 (dk_at dksX9_cell_4 3 rfl rfl)
theorem dX9_cell_100 : decode cX9_cell 100 = .ok (.iconst 0, 1) := dk_3 (dk_at dksX9_cell_4 4 rfl rfl)
theorem dX9_cell_101 : decode cX9_cell 101 = .ok (.iastore, 1) := dk_79 (dk_at dksX9_cell_4 5 rfl rfl)
theorem dX9_cell_102 : decode cX9_cell 102 = .ok (.aload_n 0, 1) := dk_42 (dk_at dksX9_cell_4 6 rfl rfl)
theorem dX9_cell_103 : decode cX9_cell 103 = .ok (.getfield 16, 3) := dk_180 0 16 (dk_at dksX9_cell_4 7 rfl rfl)
theorem dX9_cell_106 : decode cX9_cell 106 = .ok (.iload 4, 2) := dk_21 4 (dk_at dksX9_cell_4 10 rfl rfl)
theorem dX9_cell_108 : decode cX9_cell 108 = .ok (.iconst 3, 1) := dk_6 (dk_at dksX9_cell_4 12 rfl rfl)
theorem dX9_cell_109 : decode cX9_cell 109 = .ok (.iadd, 1) := dk_96 (dk_at dksX9_cell_4 13 rfl rfl)
theorem dX9_cell_110 : decode cX9_cell 110 = .ok (.bipush 8, 2) := dk_16 8 (dk_at dksX9_cell_4 14 rfl rfl)
theorem dX9_cell_112 : decode cX9_cell 112 = .ok (.aload_n 0, 1) := dk_42 (dk_at dksX9_cell_4 16 rfl rfl)
theorem dX9_cell_113 : decode cX9_cell 113 = .ok (.getfield 89, 3) := dk_180 0 89 (dk_at dksX9_cell_4 17 rfl rfl)
theorem dX9_cell_116 : decode cX9_cell 116 = .ok (.iload_n 1, 1) := dk_27 (dk_at dksX9_cell_4 20 rfl rfl)
theorem dX9_cell_117 : decode cX9_cell 117 = .ok (.isub, 1) := dk_100 (dk_at dksX9_cell_4 21 rfl rfl)
theorem dX9_cell_118 : decode cX9_cell 118 = .ok (.imul, 1) := dk_104 (dk_at dksX9_cell_4 22 rfl rfl)
theorem dX9_cell_119 : decode cX9_cell 119 = .ok (.iastore, 1) := dk_79 (dk_at dksX9_cell_4 23 rfl rfl)
theorem dX9_cell_120 : decode cX9_cell 120 = .ok (.aload_n 0, 1) := dk_42 (dk_at dksX9_cell_5 0 rfl rfl)
theorem dX9_cell_121 : decode cX9_cell 121 = .ok (.getfield 16, 3) := dk_180 0 16 (dk_at dksX9_cell_5 1 rfl rfl)
theorem dX9_cell_124 : decode cX9_cell 124 = .ok (.iload 4, 2) := dk_21 4 (dk_at dksX9_cell_5 4 rfl rfl)
theorem dX9_cell_126 : decode cX9_cell 126 = .ok (.iconst 4, 1) := dk_7 (dk_at dksX9_cell_5 6 rfl rfl)
theorem dX9_cell_127 : decode cX9_cell 127 = .ok (.iadd, 1) := dk_96 (dk_at dksX9_cell_5 7 rfl rfl)
theorem dX9_cell_128 : decode cX9_cell 128 = .ok (.bipush 8, 2) := dk_16 8 (dk_at dksX9_cell_5 8 rfl rfl)
theorem dX9_cell_130 : decode cX9_cell 130 = .ok (.aload_n 0, 1) := dk_42 (dk_at dksX9_cell_5 10 rfl rfl)
theorem dX9_cell_131 : decode cX9_cell 131 = .ok (.getfield 85, 3) := dk_180 0 85 (dk_at dksX9_cell_5 11 rfl rfl)
theorem dX9_cell_134 : decode cX9_cell 134 = .ok (.iconst 1, 1) := dk_4 (dk_at dksX9_cell_5 14 rfl rfl)
theorem dX9_cell_135 : decode cX9_cell 135 = .ok (.isub, 1) := dk_100 (dk_at dksX9_cell_5 15 rfl rfl)
theorem dX9_cell_136 : decode cX9_cell 136 = .ok (.imul, 1) := dk_104 (dk_at dksX9_cell_5 16 rfl rfl)
theorem dX9_cell_137 : decode cX9_cell 137 = .ok (.iastore, 1) := dk_79 (dk_at dksX9_cell_5 17 rfl rfl)
theorem dX9_cell_138 : decode cX9_cell 138 = .ok (.aload_n 0, 1) := dk_42 (dk_at dksX9_cell_5 18 rfl rfl)
theorem dX9_cell_139 : decode cX9_cell 139 = .ok (.iload_n 3, 1) := dk_29 (dk_at dksX9_cell_5 19 rfl rfl)
theorem dX9_cell_140 : decode cX9_cell 140 = .ok (.invokevirtual 164, 3) := dk_182 0 164 (dk_at dksX9_cell_5 20 rfl rfl)
theorem dX9_cell_143 : decode cX9_cell 143 = .ok (.aload_n 0, 1) := dk_42 (dk_at dksX9_cell_5 23 rfl rfl)
theorem dX9_cell_144 : decode cX9_cell 144 = .ok (.getfield 16, 3) := dk_180 0 16 (dk_at dksX9_cell_6 0 rfl rfl)
theorem dX9_cell_147 : decode cX9_cell 147 = .ok (.iconst 2, 1) := dk_5 (dk_at dksX9_cell_6 3 rfl rfl)
theorem dX9_cell_148 : decode cX9_cell 148 = .ok (.dup2, 1) := dk_92 (dk_at dksX9_cell_6 4 rfl rfl)
theorem dX9_cell_149 : decode cX9_cell 149 = .ok (.iaload, 1) := dk_46 (dk_at dksX9_cell_6 5 rfl rfl)
theorem dX9_cell_150 : decode cX9_cell 150 = .ok (.iconst 1, 1) := dk_4 (dk_at dksX9_cell_6 6 rfl rfl)
theorem dX9_cell_151 : decode cX9_cell 151 = .ok (.iadd, 1) := dk_96 (dk_at dksX9_cell_6 7 rfl rfl)
theorem dX9_cell_152 : decode cX9_cell 152 = .ok (.iastore, 1) := dk_79 (dk_at dksX9_cell_6 8 rfl rfl)
theorem dX9_cell_153 : decode cX9_cell 153 = .ok (.aload_n 0, 1) := dk_42 (dk_at dksX9_cell_6 9 rfl rfl)
theorem dX9_cell_154 : decode cX9_cell 154 = .ok (.iload_n 3, 1) := dk_29 (dk_at dksX9_cell_6 10 rfl rfl)
theorem dX9_cell_155 : decode cX9_cell 155 = .ok (.invokevirtual 109, 3) := dk_182 0 109 (dk_at dksX9_cell_6 11 rfl rfl)
theorem dX9_cell_158 : decode cX9_cell 158 = .ok (.ireturn, 1) := dk_172 (dk_at dksX9_cell_6 14 rfl rfl)
abbrev cX9_isFence : ByteArray := prog_15_method_23_code
def yX9_isFence : MethodName := ⟨RX9, "isFence", "(I)Z"⟩
def dkwX9_isFence_0 : List UInt8 := [27, 133, 9, 42, 180, 0, 16, 4, 46, 133, 10, 101, 184, 0, 122, 172]
abbrev dktX9_isFence_0 : List UInt8 := dkwX9_isFence_0 ++ []
theorem dksX9_isFence_0 : cX9_isFence.data.toList.drop 0 = dktX9_isFence_0 := by decide +kernel
theorem dX9_isFence_0 : decode cX9_isFence 0 = .ok (.iload_n 1, 1) := dk_27 (dk_at dksX9_isFence_0 0 rfl rfl)
theorem dX9_isFence_1 : decode cX9_isFence 1 = .ok (.i2l, 1) := dk_133 (dk_at dksX9_isFence_0 1 rfl rfl)
theorem dX9_isFence_2 : decode cX9_isFence 2 = .ok (.lconst 0, 1) := dk_9 (dk_at dksX9_isFence_0 2 rfl rfl)
theorem dX9_isFence_3 : decode cX9_isFence 3 = .ok (.aload_n 0, 1) := dk_42 (dk_at dksX9_isFence_0 3 rfl rfl)
theorem dX9_isFence_4 : decode cX9_isFence 4 = .ok (.getfield 16, 3) := dk_180 0 16 (dk_at dksX9_isFence_0 4 rfl rfl)
theorem dX9_isFence_7 : decode cX9_isFence 7 = .ok (.iconst 1, 1) := dk_4 (dk_at dksX9_isFence_0 7 rfl rfl)
theorem dX9_isFence_8 : decode cX9_isFence 8 = .ok (.iaload, 1) := dk_46 (dk_at dksX9_isFence_0 8 rfl rfl)
theorem dX9_isFence_9 : decode cX9_isFence 9 = .ok (.i2l, 1) := dk_133 (dk_at dksX9_isFence_0 9 rfl rfl)
theorem dX9_isFence_10 : decode cX9_isFence 10 = .ok (.lconst 1, 1) := dk_10 (dk_at dksX9_isFence_0 10 rfl rfl)
theorem dX9_isFence_11 : decode cX9_isFence 11 = .ok (.lsub, 1) := dk_101 (dk_at dksX9_isFence_0 11 rfl rfl)
theorem dX9_isFence_12 : decode cX9_isFence 12 = .ok (.invokestatic 122, 3) := dk_184 0 122 (dk_at dksX9_isFence_0 12 rfl rfl)
theorem dX9_isFence_15 : decode cX9_isFence 15 = .ok (.ireturn, 1) := dk_172 (dk_at dksX9_isFence_0 15 rfl rfl)
abbrev cX9_net : ByteArray := prog_15_method_44_code
def yX9_net : MethodName := ⟨RX9, "net", "(I)I"⟩
def dkwX9_net_8 : List UInt8 := [180, 0, 16, 6, 92, 46, 4, 96, 79, 42, 28, 182, 0, 109, 172]
abbrev dktX9_net_8 : List UInt8 := dkwX9_net_8 ++ []
def dkwX9_net_7 : List UInt8 := [184, 0, 208, 5, 96, 21, 5, 96, 42, 180, 0, 31, 21, 5, 46, 79, 132, 5, 1, 167, 255, 226, 42]
abbrev dktX9_net_7 : List UInt8 := dkwX9_net_7 ++ dktX9_net_8
def dkwX9_net_6 : List UInt8 := [184, 0, 208, 4, 96, 29, 5, 108, 79, 3, 54, 5, 21, 5, 29, 162, 0, 30, 42, 180, 0, 16, 28]
abbrev dktX9_net_6 : List UInt8 := dkwX9_net_6 ++ dktX9_net_7
def dkwX9_net_5 : List UInt8 := [182, 0, 105, 172, 42, 6, 182, 0, 186, 42, 180, 0, 16, 28, 184, 0, 208, 27, 79, 42, 180, 0, 16, 28]
abbrev dktX9_net_5 : List UInt8 := dkwX9_net_5 ++ dktX9_net_6
def dkwX9_net_4 : List UInt8 := [42, 21, 5, 182, 0, 205, 54, 4, 132, 5, 2, 167, 255, 234, 21, 4, 154, 0, 10, 42, 16, 250]
abbrev dktX9_net_4 : List UInt8 := dkwX9_net_4 ++ dktX9_net_5
def dkwX9_net_3 : List UInt8 := [153, 0, 7, 4, 167, 0, 4, 3, 54, 4, 3, 54, 5, 21, 5, 29, 162, 0, 22, 21, 4, 153, 0, 17]
abbrev dktX9_net_3 : List UInt8 := dkwX9_net_3 ++ dktX9_net_4
def dkwX9_net_2 : List UInt8 := [42, 3, 181, 0, 170, 29, 5, 112, 154, 0, 21, 29, 133, 20, 0, 180, 20, 0, 203, 184, 0, 122]
abbrev dktX9_net_2 : List UInt8 := dkwX9_net_2 ++ dktX9_net_3
def dkwX9_net_1 : List UInt8 := [180, 0, 16, 6, 46, 61, 28, 16, 16, 160, 0, 10, 42, 16, 251, 182, 0, 105, 172, 42, 180, 0, 170, 62]
abbrev dktX9_net_1 : List UInt8 := dkwX9_net_1 ++ dktX9_net_2
def dkwX9_net_0 : List UInt8 := [42, 3, 181, 0, 92, 27, 133, 10, 20, 0, 201, 184, 0, 122, 154, 0, 9, 42, 2, 182, 0, 105, 172, 42]
abbrev dktX9_net_0 : List UInt8 := dkwX9_net_0 ++ dktX9_net_1
theorem dksX9_net_0 : cX9_net.data.toList.drop 0 = dktX9_net_0 := by decide +kernel
theorem dksX9_net_1 : cX9_net.data.toList.drop 24 = dktX9_net_1 := dk_seg dksX9_net_0 24 rfl rfl
theorem dksX9_net_2 : cX9_net.data.toList.drop 48 = dktX9_net_2 := dk_seg dksX9_net_1 24 rfl rfl
theorem dksX9_net_3 : cX9_net.data.toList.drop 70 = dktX9_net_3 := dk_seg dksX9_net_2 22 rfl rfl
theorem dksX9_net_4 : cX9_net.data.toList.drop 94 = dktX9_net_4 := dk_seg dksX9_net_3 24 rfl rfl
theorem dksX9_net_5 : cX9_net.data.toList.drop 116 = dktX9_net_5 := dk_seg dksX9_net_4 22 rfl rfl
theorem dksX9_net_6 : cX9_net.data.toList.drop 140 = dktX9_net_6 := dk_seg dksX9_net_5 24 rfl rfl
theorem dksX9_net_7 : cX9_net.data.toList.drop 163 = dktX9_net_7 := dk_seg dksX9_net_6 23 rfl rfl
theorem dksX9_net_8 : cX9_net.data.toList.drop 186 = dktX9_net_8 := dk_seg dksX9_net_7 23 rfl rfl
theorem dX9_net_0 : decode cX9_net 0 = .ok (.aload_n 0, 1) := dk_42 (dk_at dksX9_net_0 0 rfl rfl)
theorem dX9_net_1 : decode cX9_net 1 = .ok (.iconst 0, 1) := dk_3 (dk_at dksX9_net_0 1 rfl rfl)
theorem dX9_net_2 : decode cX9_net 2 = .ok (.putfield 92, 3) := dk_181 0 92 (dk_at dksX9_net_0 2 rfl rfl)
theorem dX9_net_5 : decode cX9_net 5 = .ok (.iload_n 1, 1) := dk_27 (dk_at dksX9_net_0 5 rfl rfl)
theorem dX9_net_6 : decode cX9_net 6 = .ok (.i2l, 1) := dk_133 (dk_at dksX9_net_0 6 rfl rfl)
theorem dX9_net_7 : decode cX9_net 7 = .ok (.lconst 1, 1) := dk_10 (dk_at dksX9_net_0 7 rfl rfl)
theorem dX9_net_8 : decode cX9_net 8 = .ok (.ldc2_w 201, 3) := dk_20 0 201 (dk_at dksX9_net_0 8 rfl rfl)
theorem dX9_net_11 : decode cX9_net 11 = .ok (.invokestatic 122, 3) := dk_184 0 122 (dk_at dksX9_net_0 11 rfl rfl)
theorem dX9_net_14 : decode cX9_net 14 = .ok (.ifCond .ne 9, 3) := dk_154 0 9 (dk_at dksX9_net_0 14 rfl rfl)
theorem dX9_net_17 : decode cX9_net 17 = .ok (.aload_n 0, 1) := dk_42 (dk_at dksX9_net_0 17 rfl rfl)
theorem dX9_net_18 : decode cX9_net 18 = .ok (.iconst (-1), 1) := dk_2 (dk_at dksX9_net_0 18 rfl rfl)
theorem dX9_net_19 : decode cX9_net 19 = .ok (.invokevirtual 105, 3) := dk_182 0 105 (dk_at dksX9_net_0 19 rfl rfl)
theorem dX9_net_22 : decode cX9_net 22 = .ok (.ireturn, 1) := dk_172 (dk_at dksX9_net_0 22 rfl rfl)
theorem dX9_net_23 : decode cX9_net 23 = .ok (.aload_n 0, 1) := dk_42 (dk_at dksX9_net_0 23 rfl rfl)
theorem dX9_net_24 : decode cX9_net 24 = .ok (.getfield 16, 3) := dk_180 0 16 (dk_at dksX9_net_1 0 rfl rfl)
theorem dX9_net_27 : decode cX9_net 27 = .ok (.iconst 3, 1) := dk_6 (dk_at dksX9_net_1 3 rfl rfl)
theorem dX9_net_28 : decode cX9_net 28 = .ok (.iaload, 1) := dk_46 (dk_at dksX9_net_1 4 rfl rfl)
theorem dX9_net_29 : decode cX9_net 29 = .ok (.istore_n 2, 1) := dk_61 (dk_at dksX9_net_1 5 rfl rfl)
theorem dX9_net_30 : decode cX9_net 30 = .ok (.iload_n 2, 1) := dk_28 (dk_at dksX9_net_1 6 rfl rfl)
theorem dX9_net_31 : decode cX9_net 31 = .ok (.bipush 16, 2) := dk_16 16 (dk_at dksX9_net_1 7 rfl rfl)
theorem dX9_net_33 : decode cX9_net 33 = .ok (.if_icmp .ne 10, 3) := dk_160 0 10 (dk_at dksX9_net_1 9 rfl rfl)
theorem dX9_net_36 : decode cX9_net 36 = .ok (.aload_n 0, 1) := dk_42 (dk_at dksX9_net_1 12 rfl rfl)
theorem dX9_net_37 : decode cX9_net 37 = .ok (.bipush (-5), 2) := dk_16 251 (dk_at dksX9_net_1 13 rfl rfl)
theorem dX9_net_39 : decode cX9_net 39 = .ok (.invokevirtual 105, 3) := dk_182 0 105 (dk_at dksX9_net_1 15 rfl rfl)
theorem dX9_net_42 : decode cX9_net 42 = .ok (.ireturn, 1) := dk_172 (dk_at dksX9_net_1 18 rfl rfl)
theorem dX9_net_43 : decode cX9_net 43 = .ok (.aload_n 0, 1) := dk_42 (dk_at dksX9_net_1 19 rfl rfl)
theorem dX9_net_44 : decode cX9_net 44 = .ok (.getfield 170, 3) := dk_180 0 170 (dk_at dksX9_net_1 20 rfl rfl)
theorem dX9_net_47 : decode cX9_net 47 = .ok (.istore_n 3, 1) := dk_62 (dk_at dksX9_net_1 23 rfl rfl)
theorem dX9_net_48 : decode cX9_net 48 = .ok (.aload_n 0, 1) := dk_42 (dk_at dksX9_net_2 0 rfl rfl)
theorem dX9_net_49 : decode cX9_net 49 = .ok (.iconst 0, 1) := dk_3 (dk_at dksX9_net_2 1 rfl rfl)
theorem dX9_net_50 : decode cX9_net 50 = .ok (.putfield 170, 3) := dk_181 0 170 (dk_at dksX9_net_2 2 rfl rfl)
theorem dX9_net_53 : decode cX9_net 53 = .ok (.iload_n 3, 1) := dk_29 (dk_at dksX9_net_2 5 rfl rfl)
theorem dX9_net_54 : decode cX9_net 54 = .ok (.iconst 2, 1) := dk_5 (dk_at dksX9_net_2 6 rfl rfl)
theorem dX9_net_55 : decode cX9_net 55 = .ok (.irem, 1) := dk_112 (dk_at dksX9_net_2 7 rfl rfl)
theorem dX9_net_56 : decode cX9_net 56 = .ok (.ifCond .ne 21, 3) := dk_154 0 21 (dk_at dksX9_net_2 8 rfl rfl)
theorem dX9_net_59 : decode cX9_net 59 = .ok (.iload_n 3, 1) := dk_29 (dk_at dksX9_net_2 11 rfl rfl)
theorem dX9_net_60 : decode cX9_net 60 = .ok (.i2l, 1) := dk_133 (dk_at dksX9_net_2 12 rfl rfl)
theorem dX9_net_61 : decode cX9_net 61 = .ok (.ldc2_w 180, 3) := dk_20 0 180 (dk_at dksX9_net_2 13 rfl rfl)
theorem dX9_net_64 : decode cX9_net 64 = .ok (.ldc2_w 203, 3) := dk_20 0 203 (dk_at dksX9_net_2 16 rfl rfl)
theorem dX9_net_67 : decode cX9_net 67 = .ok (.invokestatic 122, 3) := dk_184 0 122 (dk_at dksX9_net_2 19 rfl rfl)
theorem dX9_net_70 : decode cX9_net 70 = .ok (.ifCond .eq 7, 3) := dk_153 0 7 (dk_at dksX9_net_3 0 rfl rfl)
theorem dX9_net_73 : decode cX9_net 73 = .ok (.iconst 1, 1) := dk_4 (dk_at dksX9_net_3 3 rfl rfl)
theorem dX9_net_74 : decode cX9_net 74 = .ok (.goto 4, 3) := dk_167 0 4 (dk_at dksX9_net_3 4 rfl rfl)
theorem dX9_net_77 : decode cX9_net 77 = .ok (.iconst 0, 1) := dk_3 (dk_at dksX9_net_3 7 rfl rfl)
theorem dX9_net_78 : decode cX9_net 78 = .ok (.istore 4, 2) := dk_54 4 (dk_at dksX9_net_3 8 rfl rfl)
theorem dX9_net_80 : decode cX9_net 80 = .ok (.iconst 0, 1) := dk_3 (dk_at dksX9_net_3 10 rfl rfl)
theorem dX9_net_81 : decode cX9_net 81 = .ok (.istore 5, 2) := dk_54 5 (dk_at dksX9_net_3 11 rfl rfl)
theorem dX9_net_83 : decode cX9_net 83 = .ok (.iload 5, 2) := dk_21 5 (dk_at dksX9_net_3 13 rfl rfl)
theorem dX9_net_85 : decode cX9_net 85 = .ok (.iload_n 3, 1) := dk_29 (dk_at dksX9_net_3 15 rfl rfl)
theorem dX9_net_86 : decode cX9_net 86 = .ok (.if_icmp .ge 22, 3) := dk_162 0 22 (dk_at dksX9_net_3 16 rfl rfl)
theorem dX9_net_89 : decode cX9_net 89 = .ok (.iload 4, 2) := dk_21 4 (dk_at dksX9_net_3 19 rfl rfl)
theorem dX9_net_91 : decode cX9_net 91 = .ok (.ifCond .eq 17, 3) := dk_153 0 17 (dk_at dksX9_net_3 21 rfl rfl)
theorem dX9_net_94 : decode cX9_net 94 = .ok (.aload_n 0, 1) := dk_42 (dk_at dksX9_net_4 0 rfl rfl)
theorem dX9_net_95 : decode cX9_net 95 = .ok (.iload 5, 2) := dk_21 5 (dk_at dksX9_net_4 1 rfl rfl)
theorem dX9_net_97 : decode cX9_net 97 = .ok (.invokevirtual 205, 3) := dk_182 0 205 (dk_at dksX9_net_4 3 rfl rfl)
theorem dX9_net_100 : decode cX9_net 100 = .ok (.istore 4, 2) := dk_54 4 (dk_at dksX9_net_4 6 rfl rfl)
theorem dX9_net_102 : decode cX9_net 102 = .ok (.iinc 5 2, 3) := dk_132 5 2 (dk_at dksX9_net_4 8 rfl rfl)
theorem dX9_net_105 : decode cX9_net 105 = .ok (.goto (-22), 3) := dk_167 255 234 (dk_at dksX9_net_4 11 rfl rfl)
theorem dX9_net_108 : decode cX9_net 108 = .ok (.iload 4, 2) := dk_21 4 (dk_at dksX9_net_4 14 rfl rfl)
theorem dX9_net_110 : decode cX9_net 110 = .ok (.ifCond .ne 10, 3) := dk_154 0 10 (dk_at dksX9_net_4 16 rfl rfl)
theorem dX9_net_113 : decode cX9_net 113 = .ok (.aload_n 0, 1) := dk_42 (dk_at dksX9_net_4 19 rfl rfl)
theorem dX9_net_114 : decode cX9_net 114 = .ok (.bipush (-6), 2) := dk_16 250 (dk_at dksX9_net_4 20 rfl rfl)
theorem dX9_net_116 : decode cX9_net 116 = .ok (.invokevirtual 105, 3) := dk_182 0 105 (dk_at dksX9_net_5 0 rfl rfl)
theorem dX9_net_119 : decode cX9_net 119 = .ok (.ireturn, 1) := dk_172 (dk_at dksX9_net_5 3 rfl rfl)
theorem dX9_net_120 : decode cX9_net 120 = .ok (.aload_n 0, 1) := dk_42 (dk_at dksX9_net_5 4 rfl rfl)
theorem dX9_net_121 : decode cX9_net 121 = .ok (.iconst 3, 1) := dk_6 (dk_at dksX9_net_5 5 rfl rfl)
theorem dX9_net_122 : decode cX9_net 122 = .ok (.invokevirtual 186, 3) := dk_182 0 186 (dk_at dksX9_net_5 6 rfl rfl)
theorem dX9_net_125 : decode cX9_net 125 = .ok (.aload_n 0, 1) := dk_42 (dk_at dksX9_net_5 9 rfl rfl)
theorem dX9_net_126 : decode cX9_net 126 = .ok (.getfield 16, 3) := dk_180 0 16 (dk_at dksX9_net_5 10 rfl rfl)
theorem dX9_net_129 : decode cX9_net 129 = .ok (.iload_n 2, 1) := dk_28 (dk_at dksX9_net_5 13 rfl rfl)
theorem dX9_net_130 : decode cX9_net 130 = .ok (.invokestatic 208, 3) := dk_184 0 208 (dk_at dksX9_net_5 14 rfl rfl)
theorem dX9_net_133 : decode cX9_net 133 = .ok (.iload_n 1, 1) := dk_27 (dk_at dksX9_net_5 17 rfl rfl)
theorem dX9_net_134 : decode cX9_net 134 = .ok (.iastore, 1) := dk_79 (dk_at dksX9_net_5 18 rfl rfl)
theorem dX9_net_135 : decode cX9_net 135 = .ok (.aload_n 0, 1) := dk_42 (dk_at dksX9_net_5 19 rfl rfl)
theorem dX9_net_136 : decode cX9_net 136 = .ok (.getfield 16, 3) := dk_180 0 16 (dk_at dksX9_net_5 20 rfl rfl)
theorem dX9_net_139 : decode cX9_net 139 = .ok (.iload_n 2, 1) := dk_28 (dk_at dksX9_net_5 23 rfl rfl)
theorem dX9_net_140 : decode cX9_net 140 = .ok (.invokestatic 208, 3) := dk_184 0 208 (dk_at dksX9_net_6 0 rfl rfl)
theorem dX9_net_143 : decode cX9_net 143 = .ok (.iconst 1, 1) := dk_4 (dk_at dksX9_net_6 3 rfl rfl)
theorem dX9_net_144 : decode cX9_net 144 = .ok (.iadd, 1) := dk_96 (dk_at dksX9_net_6 4 rfl rfl)
theorem dX9_net_145 : decode cX9_net 145 = .ok (.iload_n 3, 1) := dk_29 (dk_at dksX9_net_6 5 rfl rfl)
theorem dX9_net_146 : decode cX9_net 146 = .ok (.iconst 2, 1) := dk_5 (dk_at dksX9_net_6 6 rfl rfl)
theorem dX9_net_147 : decode cX9_net 147 = .ok (.idiv, 1) := dk_108 (dk_at dksX9_net_6 7 rfl rfl)
theorem dX9_net_148 : decode cX9_net 148 = .ok (.iastore, 1) := dk_79 (dk_at dksX9_net_6 8 rfl rfl)
theorem dX9_net_149 : decode cX9_net 149 = .ok (.iconst 0, 1) := dk_3 (dk_at dksX9_net_6 9 rfl rfl)
theorem dX9_net_150 : decode cX9_net 150 = .ok (.istore 5, 2) := dk_54 5 (dk_at dksX9_net_6 10 rfl rfl)
theorem dX9_net_152 : decode cX9_net 152 = .ok (.iload 5, 2) := dk_21 5 (dk_at dksX9_net_6 12 rfl rfl)
theorem dX9_net_154 : decode cX9_net 154 = .ok (.iload_n 3, 1) := dk_29 (dk_at dksX9_net_6 14 rfl rfl)
theorem dX9_net_155 : decode cX9_net 155 = .ok (.if_icmp .ge 30, 3) := dk_162 0 30 (dk_at dksX9_net_6 15 rfl rfl)
theorem dX9_net_158 : decode cX9_net 158 = .ok (.aload_n 0, 1) := dk_42 (dk_at dksX9_net_6 18 rfl rfl)
theorem dX9_net_159 : decode cX9_net 159 = .ok (.getfield 16, 3) := dk_180 0 16 (dk_at dksX9_net_6 19 rfl rfl)
theorem dX9_net_162 : decode cX9_net 162 = .ok (.iload_n 2, 1) := dk_28 (dk_at dksX9_net_6 22 rfl rfl)
theorem dX9_net_163 : decode cX9_net 163 = .ok (.invokestatic 208, 3) := dk_184 0 208 (dk_at dksX9_net_7 0 rfl rfl)
theorem dX9_net_166 : decode cX9_net 166 = .ok (.iconst 2, 1) := dk_5 (dk_at dksX9_net_7 3 rfl rfl)
theorem dX9_net_167 : decode cX9_net 167 = .ok (.iadd, 1) := dk_96 (dk_at dksX9_net_7 4 rfl rfl)
theorem dX9_net_168 : decode cX9_net 168 = .ok (.iload 5, 2) := dk_21 5 (dk_at dksX9_net_7 5 rfl rfl)
theorem dX9_net_170 : decode cX9_net 170 = .ok (.iadd, 1) := dk_96 (dk_at dksX9_net_7 7 rfl rfl)
theorem dX9_net_171 : decode cX9_net 171 = .ok (.aload_n 0, 1) := dk_42 (dk_at dksX9_net_7 8 rfl rfl)
theorem dX9_net_172 : decode cX9_net 172 = .ok (.getfield 31, 3) := dk_180 0 31 (dk_at dksX9_net_7 9 rfl rfl)
theorem dX9_net_175 : decode cX9_net 175 = .ok (.iload 5, 2) := dk_21 5 (dk_at dksX9_net_7 12 rfl rfl)
theorem dX9_net_177 : decode cX9_net 177 = .ok (.iaload, 1) := dk_46 (dk_at dksX9_net_7 14 rfl rfl)
theorem dX9_net_178 : decode cX9_net 178 = .ok (.iastore, 1) := dk_79 (dk_at dksX9_net_7 15 rfl rfl)
theorem dX9_net_179 : decode cX9_net 179 = .ok (.iinc 5 1, 3) := dk_132 5 1 (dk_at dksX9_net_7 16 rfl rfl)
theorem dX9_net_182 : decode cX9_net 182 = .ok (.goto (-30), 3) := dk_167 255 226 (dk_at dksX9_net_7 19 rfl rfl)
theorem dX9_net_185 : decode cX9_net 185 = .ok (.aload_n 0, 1) := dk_42 (dk_at dksX9_net_7 22 rfl rfl)
theorem dX9_net_186 : decode cX9_net 186 = .ok (.getfield 16, 3) := dk_180 0 16 (dk_at dksX9_net_8 0 rfl rfl)
theorem dX9_net_189 : decode cX9_net 189 = .ok (.iconst 3, 1) := dk_6 (dk_at dksX9_net_8 3 rfl rfl)
theorem dX9_net_190 : decode cX9_net 190 = .ok (.dup2, 1) := dk_92 (dk_at dksX9_net_8 4 rfl rfl)
theorem dX9_net_191 : decode cX9_net 191 = .ok (.iaload, 1) := dk_46 (dk_at dksX9_net_8 5 rfl rfl)
theorem dX9_net_192 : decode cX9_net 192 = .ok (.iconst 1, 1) := dk_4 (dk_at dksX9_net_8 6 rfl rfl)
theorem dX9_net_193 : decode cX9_net 193 = .ok (.iadd, 1) := dk_96 (dk_at dksX9_net_8 7 rfl rfl)
theorem dX9_net_194 : decode cX9_net 194 = .ok (.iastore, 1) := dk_79 (dk_at dksX9_net_8 8 rfl rfl)
theorem dX9_net_195 : decode cX9_net 195 = .ok (.aload_n 0, 1) := dk_42 (dk_at dksX9_net_8 9 rfl rfl)
theorem dX9_net_196 : decode cX9_net 196 = .ok (.iload_n 2, 1) := dk_28 (dk_at dksX9_net_8 10 rfl rfl)
theorem dX9_net_197 : decode cX9_net 197 = .ok (.invokevirtual 109, 3) := dk_182 0 109 (dk_at dksX9_net_8 11 rfl rfl)
theorem dX9_net_200 : decode cX9_net 200 = .ok (.ireturn, 1) := dk_172 (dk_at dksX9_net_8 14 rfl rfl)
abbrev cX9_isPin : ByteArray := prog_15_method_43_code
def yX9_isPin : MethodName := ⟨RX9, "isPin", "(I)Z"⟩
def dkwX9_isPin_4 : List UInt8 := [21, 4, 172]
abbrev dktX9_isPin_4 : List UInt8 := dkwX9_isPin_4 ++ []
def dkwX9_isPin_3 : List UInt8 := [42, 180, 0, 31, 21, 5, 46, 28, 159, 0, 7, 4, 167, 0, 4, 3, 54, 4, 132, 5, 2, 167, 255, 224]
abbrev dktX9_isPin_3 : List UInt8 := dkwX9_isPin_3 ++ dktX9_isPin_4
def dkwX9_isPin_2 : List UInt8 := [162, 0, 7, 4, 167, 0, 4, 3, 54, 4, 3, 54, 5, 21, 5, 27, 162, 0, 32, 21, 4, 153, 0, 18]
abbrev dktX9_isPin_2 : List UInt8 := dkwX9_isPin_2 ++ dktX9_isPin_3
def dkwX9_isPin_1 : List UInt8 := [28, 17, 0, 200, 100, 29, 182, 0, 133, 172, 42, 28, 182, 0, 154, 153, 0, 16, 29, 42, 28, 182, 0, 137]
abbrev dktX9_isPin_1 : List UInt8 := dkwX9_isPin_1 ++ dktX9_isPin_2
def dkwX9_isPin_0 : List UInt8 := [42, 180, 0, 31, 27, 46, 61, 42, 180, 0, 31, 27, 4, 96, 46, 62, 28, 17, 0, 200, 161, 0, 14, 42]
abbrev dktX9_isPin_0 : List UInt8 := dkwX9_isPin_0 ++ dktX9_isPin_1
theorem dksX9_isPin_0 : cX9_isPin.data.toList.drop 0 = dktX9_isPin_0 := by decide +kernel
theorem dksX9_isPin_1 : cX9_isPin.data.toList.drop 24 = dktX9_isPin_1 := dk_seg dksX9_isPin_0 24 rfl rfl
theorem dksX9_isPin_2 : cX9_isPin.data.toList.drop 48 = dktX9_isPin_2 := dk_seg dksX9_isPin_1 24 rfl rfl
theorem dksX9_isPin_3 : cX9_isPin.data.toList.drop 72 = dktX9_isPin_3 := dk_seg dksX9_isPin_2 24 rfl rfl
theorem dksX9_isPin_4 : cX9_isPin.data.toList.drop 96 = dktX9_isPin_4 := dk_seg dksX9_isPin_3 24 rfl rfl
theorem dX9_isPin_0 : decode cX9_isPin 0 = .ok (.aload_n 0, 1) := dk_42 (dk_at dksX9_isPin_0 0 rfl rfl)
theorem dX9_isPin_1 : decode cX9_isPin 1 = .ok (.getfield 31, 3) := dk_180 0 31 (dk_at dksX9_isPin_0 1 rfl rfl)
theorem dX9_isPin_4 : decode cX9_isPin 4 = .ok (.iload_n 1, 1) := dk_27 (dk_at dksX9_isPin_0 4 rfl rfl)
theorem dX9_isPin_5 : decode cX9_isPin 5 = .ok (.iaload, 1) := dk_46 (dk_at dksX9_isPin_0 5 rfl rfl)
theorem dX9_isPin_6 : decode cX9_isPin 6 = .ok (.istore_n 2, 1) := dk_61 (dk_at dksX9_isPin_0 6 rfl rfl)
theorem dX9_isPin_7 : decode cX9_isPin 7 = .ok (.aload_n 0, 1) := dk_42 (dk_at dksX9_isPin_0 7 rfl rfl)
theorem dX9_isPin_8 : decode cX9_isPin 8 = .ok (.getfield 31, 3) := dk_180 0 31 (dk_at dksX9_isPin_0 8 rfl rfl)
theorem dX9_isPin_11 : decode cX9_isPin 11 = .ok (.iload_n 1, 1) := dk_27 (dk_at dksX9_isPin_0 11 rfl rfl)
theorem dX9_isPin_12 : decode cX9_isPin 12 = .ok (.iconst 1, 1) := dk_4 (dk_at dksX9_isPin_0 12 rfl rfl)
theorem dX9_isPin_13 : decode cX9_isPin 13 = .ok (.iadd, 1) := dk_96 (dk_at dksX9_isPin_0 13 rfl rfl)
theorem dX9_isPin_14 : decode cX9_isPin 14 = .ok (.iaload, 1) := dk_46 (dk_at dksX9_isPin_0 14 rfl rfl)
theorem dX9_isPin_15 : decode cX9_isPin 15 = .ok (.istore_n 3, 1) := dk_62 (dk_at dksX9_isPin_0 15 rfl rfl)
theorem dX9_isPin_16 : decode cX9_isPin 16 = .ok (.iload_n 2, 1) := dk_28 (dk_at dksX9_isPin_0 16 rfl rfl)
theorem dX9_isPin_17 : decode cX9_isPin 17 = .ok (.sipush 200, 3) := dk_17 0 200 (dk_at dksX9_isPin_0 17 rfl rfl)
theorem dX9_isPin_20 : decode cX9_isPin 20 = .ok (.if_icmp .lt 14, 3) := dk_161 0 14 (dk_at dksX9_isPin_0 20 rfl rfl)
theorem dX9_isPin_23 : decode cX9_isPin 23 = .ok (.aload_n 0, 1) := dk_42 (dk_at dksX9_isPin_0 23 rfl rfl)
theorem dX9_isPin_24 : decode cX9_isPin 24 = .ok (.iload_n 2, 1) := dk_28 (dk_at dksX9_isPin_1 0 rfl rfl)
theorem dX9_isPin_25 : decode cX9_isPin 25 = .ok (.sipush 200, 3) := dk_17 0 200 (dk_at dksX9_isPin_1 1 rfl rfl)
theorem dX9_isPin_28 : decode cX9_isPin 28 = .ok (.isub, 1) := dk_100 (dk_at dksX9_isPin_1 4 rfl rfl)
theorem dX9_isPin_29 : decode cX9_isPin 29 = .ok (.iload_n 3, 1) := dk_29 (dk_at dksX9_isPin_1 5 rfl rfl)
theorem dX9_isPin_30 : decode cX9_isPin 30 = .ok (.invokevirtual 133, 3) := dk_182 0 133 (dk_at dksX9_isPin_1 6 rfl rfl)
theorem dX9_isPin_33 : decode cX9_isPin 33 = .ok (.ireturn, 1) := dk_172 (dk_at dksX9_isPin_1 9 rfl rfl)
theorem dX9_isPin_34 : decode cX9_isPin 34 = .ok (.aload_n 0, 1) := dk_42 (dk_at dksX9_isPin_1 10 rfl rfl)
theorem dX9_isPin_35 : decode cX9_isPin 35 = .ok (.iload_n 2, 1) := dk_28 (dk_at dksX9_isPin_1 11 rfl rfl)
theorem dX9_isPin_36 : decode cX9_isPin 36 = .ok (.invokevirtual 154, 3) := dk_182 0 154 (dk_at dksX9_isPin_1 12 rfl rfl)
theorem dX9_isPin_39 : decode cX9_isPin 39 = .ok (.ifCond .eq 16, 3) := dk_153 0 16 (dk_at dksX9_isPin_1 15 rfl rfl)
theorem dX9_isPin_42 : decode cX9_isPin 42 = .ok (.iload_n 3, 1) := dk_29 (dk_at dksX9_isPin_1 18 rfl rfl)
theorem dX9_isPin_43 : decode cX9_isPin 43 = .ok (.aload_n 0, 1) := dk_42 (dk_at dksX9_isPin_1 19 rfl rfl)
theorem dX9_isPin_44 : decode cX9_isPin 44 = .ok (.iload_n 2, 1) := dk_28 (dk_at dksX9_isPin_1 20 rfl rfl)
theorem dX9_isPin_45 : decode cX9_isPin 45 = .ok (.invokevirtual 137, 3) := dk_182 0 137 (dk_at dksX9_isPin_1 21 rfl rfl)
theorem dX9_isPin_48 : decode cX9_isPin 48 = .ok (.if_icmp .ge 7, 3) := dk_162 0 7 (dk_at dksX9_isPin_2 0 rfl rfl)
theorem dX9_isPin_51 : decode cX9_isPin 51 = .ok (.iconst 1, 1) := dk_4 (dk_at dksX9_isPin_2 3 rfl rfl)
theorem dX9_isPin_52 : decode cX9_isPin 52 = .ok (.goto 4, 3) := dk_167 0 4 (dk_at dksX9_isPin_2 4 rfl rfl)
theorem dX9_isPin_55 : decode cX9_isPin 55 = .ok (.iconst 0, 1) := dk_3 (dk_at dksX9_isPin_2 7 rfl rfl)
theorem dX9_isPin_56 : decode cX9_isPin 56 = .ok (.istore 4, 2) := dk_54 4 (dk_at dksX9_isPin_2 8 rfl rfl)
theorem dX9_isPin_58 : decode cX9_isPin 58 = .ok (.iconst 0, 1) := dk_3 (dk_at dksX9_isPin_2 10 rfl rfl)
theorem dX9_isPin_59 : decode cX9_isPin 59 = .ok (.istore 5, 2) := dk_54 5 (dk_at dksX9_isPin_2 11 rfl rfl)
theorem dX9_isPin_61 : decode cX9_isPin 61 = .ok (.iload 5, 2) := dk_21 5 (dk_at dksX9_isPin_2 13 rfl rfl)
theorem dX9_isPin_63 : decode cX9_isPin 63 = .ok (.iload_n 1, 1) := dk_27 (dk_at dksX9_isPin_2 15 rfl rfl)
theorem dX9_isPin_64 : decode cX9_isPin 64 = .ok (.if_icmp .ge 32, 3) := dk_162 0 32 (dk_at dksX9_isPin_2 16 rfl rfl)
theorem dX9_isPin_67 : decode cX9_isPin 67 = .ok (.iload 4, 2) := dk_21 4 (dk_at dksX9_isPin_2 19 rfl rfl)
theorem dX9_isPin_69 : decode cX9_isPin 69 = .ok (.ifCond .eq 18, 3) := dk_153 0 18 (dk_at dksX9_isPin_2 21 rfl rfl)
theorem dX9_isPin_72 : decode cX9_isPin 72 = .ok (.aload_n 0, 1) := dk_42 (dk_at dksX9_isPin_3 0 rfl rfl)
theorem dX9_isPin_73 : decode cX9_isPin 73 = .ok (.getfield 31, 3) := dk_180 0 31 (dk_at dksX9_isPin_3 1 rfl rfl)
theorem dX9_isPin_76 : decode cX9_isPin 76 = .ok (.iload 5, 2) := dk_21 5 (dk_at dksX9_isPin_3 4 rfl rfl)
theorem dX9_isPin_78 : decode cX9_isPin 78 = .ok (.iaload, 1) := dk_46 (dk_at dksX9_isPin_3 6 rfl rfl)
theorem dX9_isPin_79 : decode cX9_isPin 79 = .ok (.iload_n 2, 1) := dk_28 (dk_at dksX9_isPin_3 7 rfl rfl)
theorem dX9_isPin_80 : decode cX9_isPin 80 = .ok (.if_icmp .eq 7, 3) := dk_159 0 7 (dk_at dksX9_isPin_3 8 rfl rfl)
theorem dX9_isPin_83 : decode cX9_isPin 83 = .ok (.iconst 1, 1) := dk_4 (dk_at dksX9_isPin_3 11 rfl rfl)
theorem dX9_isPin_84 : decode cX9_isPin 84 = .ok (.goto 4, 3) := dk_167 0 4 (dk_at dksX9_isPin_3 12 rfl rfl)
theorem dX9_isPin_87 : decode cX9_isPin 87 = .ok (.iconst 0, 1) := dk_3 (dk_at dksX9_isPin_3 15 rfl rfl)
theorem dX9_isPin_88 : decode cX9_isPin 88 = .ok (.istore 4, 2) := dk_54 4 (dk_at dksX9_isPin_3 16 rfl rfl)
theorem dX9_isPin_90 : decode cX9_isPin 90 = .ok (.iinc 5 2, 3) := dk_132 5 2 (dk_at dksX9_isPin_3 18 rfl rfl)
theorem dX9_isPin_93 : decode cX9_isPin 93 = .ok (.goto (-32), 3) := dk_167 255 224 (dk_at dksX9_isPin_3 21 rfl rfl)
theorem dX9_isPin_96 : decode cX9_isPin 96 = .ok (.iload 4, 2) := dk_21 4 (dk_at dksX9_isPin_4 0 rfl rfl)
theorem dX9_isPin_98 : decode cX9_isPin 98 = .ok (.ireturn, 1) := dk_172 (dk_at dksX9_isPin_4 2 rfl rfl)
abbrev cX9_netAt : ByteArray := prog_15_method_13_code
def yX9_netAt : MethodName := ⟨RX9, "netAt", "(I)I"⟩
def dkwX9_netAt_0 : List UInt8 := [17, 0, 176, 16, 14, 26, 104, 96, 172]
abbrev dktX9_netAt_0 : List UInt8 := dkwX9_netAt_0 ++ []
theorem dksX9_netAt_0 : cX9_netAt.data.toList.drop 0 = dktX9_netAt_0 := by decide +kernel
theorem dX9_netAt_0 : decode cX9_netAt 0 = .ok (.sipush 176, 3) := dk_17 0 176 (dk_at dksX9_netAt_0 0 rfl rfl)
theorem dX9_netAt_3 : decode cX9_netAt 3 = .ok (.bipush 14, 2) := dk_16 14 (dk_at dksX9_netAt_0 3 rfl rfl)
theorem dX9_netAt_5 : decode cX9_netAt 5 = .ok (.iload_n 0, 1) := dk_26 (dk_at dksX9_netAt_0 5 rfl rfl)
theorem dX9_netAt_6 : decode cX9_netAt 6 = .ok (.imul, 1) := dk_104 (dk_at dksX9_netAt_0 6 rfl rfl)
theorem dX9_netAt_7 : decode cX9_netAt 7 = .ok (.iadd, 1) := dk_96 (dk_at dksX9_netAt_0 7 rfl rfl)
theorem dX9_netAt_8 : decode cX9_netAt 8 = .ok (.ireturn, 1) := dk_172 (dk_at dksX9_netAt_0 8 rfl rfl)
abbrev cX9_drop : ByteArray := prog_15_method_45_code
def yX9_drop : MethodName := ⟨RX9, "drop", "(I)I"⟩
def dkwX9_drop_3 : List UInt8 := [42, 180, 0, 16, 29, 16, 14, 96, 46, 79, 132, 3, 1, 167, 255, 225, 42, 28, 182, 0, 109, 172]
abbrev dktX9_drop_3 : List UInt8 := dkwX9_drop_3 ++ []
def dkwX9_drop_2 : List UInt8 := [79, 27, 184, 0, 208, 62, 29, 42, 180, 0, 16, 6, 46, 184, 0, 208, 162, 0, 24, 42, 180, 0, 16, 29]
abbrev dktX9_drop_2 : List UInt8 := dkwX9_drop_2 ++ dktX9_drop_3
def dkwX9_drop_1 : List UInt8 := [182, 0, 186, 42, 180, 0, 16, 27, 184, 0, 208, 4, 96, 46, 61, 42, 180, 0, 16, 6, 92, 46, 4, 100]
abbrev dktX9_drop_1 : List UInt8 := dkwX9_drop_1 ++ dktX9_drop_2
def dkwX9_drop_0 : List UInt8 := [42, 3, 181, 0, 92, 42, 27, 182, 0, 211, 154, 0, 10, 42, 16, 254, 182, 0, 105, 172, 42, 7]
abbrev dktX9_drop_0 : List UInt8 := dkwX9_drop_0 ++ dktX9_drop_1
theorem dksX9_drop_0 : cX9_drop.data.toList.drop 0 = dktX9_drop_0 := by decide +kernel
theorem dksX9_drop_1 : cX9_drop.data.toList.drop 22 = dktX9_drop_1 := dk_seg dksX9_drop_0 22 rfl rfl
theorem dksX9_drop_2 : cX9_drop.data.toList.drop 46 = dktX9_drop_2 := dk_seg dksX9_drop_1 24 rfl rfl
theorem dksX9_drop_3 : cX9_drop.data.toList.drop 70 = dktX9_drop_3 := dk_seg dksX9_drop_2 24 rfl rfl
theorem dX9_drop_0 : decode cX9_drop 0 = .ok (.aload_n 0, 1) := dk_42 (dk_at dksX9_drop_0 0 rfl rfl)
theorem dX9_drop_1 : decode cX9_drop 1 = .ok (.iconst 0, 1) := dk_3 (dk_at dksX9_drop_0 1 rfl rfl)
theorem dX9_drop_2 : decode cX9_drop 2 = .ok (.putfield 92, 3) := dk_181 0 92 (dk_at dksX9_drop_0 2 rfl rfl)
theorem dX9_drop_5 : decode cX9_drop 5 = .ok (.aload_n 0, 1) := dk_42 (dk_at dksX9_drop_0 5 rfl rfl)
theorem dX9_drop_6 : decode cX9_drop 6 = .ok (.iload_n 1, 1) := dk_27 (dk_at dksX9_drop_0 6 rfl rfl)
theorem dX9_drop_7 : decode cX9_drop 7 = .ok (.invokevirtual 211, 3) := dk_182 0 211 (dk_at dksX9_drop_0 7 rfl rfl)
theorem dX9_drop_10 : decode cX9_drop 10 = .ok (.ifCond .ne 10, 3) := dk_154 0 10 (dk_at dksX9_drop_0 10 rfl rfl)
theorem dX9_drop_13 : decode cX9_drop 13 = .ok (.aload_n 0, 1) := dk_42 (dk_at dksX9_drop_0 13 rfl rfl)
theorem dX9_drop_14 : decode cX9_drop 14 = .ok (.bipush (-2), 2) := dk_16 254 (dk_at dksX9_drop_0 14 rfl rfl)
theorem dX9_drop_16 : decode cX9_drop 16 = .ok (.invokevirtual 105, 3) := dk_182 0 105 (dk_at dksX9_drop_0 16 rfl rfl)
theorem dX9_drop_19 : decode cX9_drop 19 = .ok (.ireturn, 1) := dk_172 (dk_at dksX9_drop_0 19 rfl rfl)
theorem dX9_drop_20 : decode cX9_drop 20 = .ok (.aload_n 0, 1) := dk_42 (dk_at dksX9_drop_0 20 rfl rfl)
theorem dX9_drop_21 : decode cX9_drop 21 = .ok (.iconst 4, 1) := dk_7 (dk_at dksX9_drop_0 21 rfl rfl)
theorem dX9_drop_22 : decode cX9_drop 22 = .ok (.invokevirtual 186, 3) := dk_182 0 186 (dk_at dksX9_drop_1 0 rfl rfl)
theorem dX9_drop_25 : decode cX9_drop 25 = .ok (.aload_n 0, 1) := dk_42 (dk_at dksX9_drop_1 3 rfl rfl)
theorem dX9_drop_26 : decode cX9_drop 26 = .ok (.getfield 16, 3) := dk_180 0 16 (dk_at dksX9_drop_1 4 rfl rfl)
theorem dX9_drop_29 : decode cX9_drop 29 = .ok (.iload_n 1, 1) := dk_27 (dk_at dksX9_drop_1 7 rfl rfl)
theorem dX9_drop_30 : decode cX9_drop 30 = .ok (.invokestatic 208, 3) := dk_184 0 208 (dk_at dksX9_drop_1 8 rfl rfl)
theorem dX9_drop_33 : decode cX9_drop 33 = .ok (.iconst 1, 1) := dk_4 (dk_at dksX9_drop_1 11 rfl rfl)
theorem dX9_drop_34 : decode cX9_drop 34 = .ok (.iadd, 1) := dk_96 (dk_at dksX9_drop_1 12 rfl rfl)
theorem dX9_drop_35 : decode cX9_drop 35 = .ok (.iaload, 1) := dk_46 (dk_at dksX9_drop_1 13 rfl rfl)
theorem dX9_drop_36 : decode cX9_drop 36 = .ok (.istore_n 2, 1) := dk_61 (dk_at dksX9_drop_1 14 rfl rfl)
theorem dX9_drop_37 : decode cX9_drop 37 = .ok (.aload_n 0, 1) := dk_42 (dk_at dksX9_drop_1 15 rfl rfl)
theorem dX9_drop_38 : decode cX9_drop 38 = .ok (.getfield 16, 3) := dk_180 0 16 (dk_at dksX9_drop_1 16 rfl rfl)
theorem dX9_drop_41 : decode cX9_drop 41 = .ok (.iconst 3, 1) := dk_6 (dk_at dksX9_drop_1 19 rfl rfl)
theorem dX9_drop_42 : decode cX9_drop 42 = .ok (.dup2, 1) := dk_92 (dk_at dksX9_drop_1 20 rfl rfl)
theorem dX9_drop_43 : decode cX9_drop 43 = .ok (.iaload, 1) := dk_46 (dk_at dksX9_drop_1 21 rfl rfl)
theorem dX9_drop_44 : decode cX9_drop 44 = .ok (.iconst 1, 1) := dk_4 (dk_at dksX9_drop_1 22 rfl rfl)
theorem dX9_drop_45 : decode cX9_drop 45 = .ok (.isub, 1) := dk_100 (dk_at dksX9_drop_1 23 rfl rfl)
theorem dX9_drop_46 : decode cX9_drop 46 = .ok (.iastore, 1) := dk_79 (dk_at dksX9_drop_2 0 rfl rfl)
theorem dX9_drop_47 : decode cX9_drop 47 = .ok (.iload_n 1, 1) := dk_27 (dk_at dksX9_drop_2 1 rfl rfl)
theorem dX9_drop_48 : decode cX9_drop 48 = .ok (.invokestatic 208, 3) := dk_184 0 208 (dk_at dksX9_drop_2 2 rfl rfl)
theorem dX9_drop_51 : decode cX9_drop 51 = .ok (.istore_n 3, 1) := dk_62 (dk_at dksX9_drop_2 5 rfl rfl)
theorem dX9_drop_52 : decode cX9_drop 52 = .ok (.iload_n 3, 1) := dk_29 (dk_at dksX9_drop_2 6 rfl rfl)
theorem dX9_drop_53 : decode cX9_drop 53 = .ok (.aload_n 0, 1) := dk_42 (dk_at dksX9_drop_2 7 rfl rfl)
theorem dX9_drop_54 : decode cX9_drop 54 = .ok (.getfield 16, 3) := dk_180 0 16 (dk_at dksX9_drop_2 8 rfl rfl)
theorem dX9_drop_57 : decode cX9_drop 57 = .ok (.iconst 3, 1) := dk_6 (dk_at dksX9_drop_2 11 rfl rfl)
theorem dX9_drop_58 : decode cX9_drop 58 = .ok (.iaload, 1) := dk_46 (dk_at dksX9_drop_2 12 rfl rfl)
theorem dX9_drop_59 : decode cX9_drop 59 = .ok (.invokestatic 208, 3) := dk_184 0 208 (dk_at dksX9_drop_2 13 rfl rfl)
theorem dX9_drop_62 : decode cX9_drop 62 = .ok (.if_icmp .ge 24, 3) := dk_162 0 24 (dk_at dksX9_drop_2 16 rfl rfl)
theorem dX9_drop_65 : decode cX9_drop 65 = .ok (.aload_n 0, 1) := dk_42 (dk_at dksX9_drop_2 19 rfl rfl)
theorem dX9_drop_66 : decode cX9_drop 66 = .ok (.getfield 16, 3) := dk_180 0 16 (dk_at dksX9_drop_2 20 rfl rfl)
theorem dX9_drop_69 : decode cX9_drop 69 = .ok (.iload_n 3, 1) := dk_29 (dk_at dksX9_drop_2 23 rfl rfl)
theorem dX9_drop_70 : decode cX9_drop 70 = .ok (.aload_n 0, 1) := dk_42 (dk_at dksX9_drop_3 0 rfl rfl)
theorem dX9_drop_71 : decode cX9_drop 71 = .ok (.getfield 16, 3) := dk_180 0 16 (dk_at dksX9_drop_3 1 rfl rfl)
theorem dX9_drop_74 : decode cX9_drop 74 = .ok (.iload_n 3, 1) := dk_29 (dk_at dksX9_drop_3 4 rfl rfl)
theorem dX9_drop_75 : decode cX9_drop 75 = .ok (.bipush 14, 2) := dk_16 14 (dk_at dksX9_drop_3 5 rfl rfl)
theorem dX9_drop_77 : decode cX9_drop 77 = .ok (.iadd, 1) := dk_96 (dk_at dksX9_drop_3 7 rfl rfl)
theorem dX9_drop_78 : decode cX9_drop 78 = .ok (.iaload, 1) := dk_46 (dk_at dksX9_drop_3 8 rfl rfl)
theorem dX9_drop_79 : decode cX9_drop 79 = .ok (.iastore, 1) := dk_79 (dk_at dksX9_drop_3 9 rfl rfl)
theorem dX9_drop_80 : decode cX9_drop 80 = .ok (.iinc 3 1, 3) := dk_132 3 1 (dk_at dksX9_drop_3 10 rfl rfl)
theorem dX9_drop_83 : decode cX9_drop 83 = .ok (.goto (-31), 3) := dk_167 255 225 (dk_at dksX9_drop_3 13 rfl rfl)
theorem dX9_drop_86 : decode cX9_drop 86 = .ok (.aload_n 0, 1) := dk_42 (dk_at dksX9_drop_3 16 rfl rfl)
theorem dX9_drop_87 : decode cX9_drop 87 = .ok (.iload_n 2, 1) := dk_28 (dk_at dksX9_drop_3 17 rfl rfl)
theorem dX9_drop_88 : decode cX9_drop 88 = .ok (.invokevirtual 109, 3) := dk_182 0 109 (dk_at dksX9_drop_3 18 rfl rfl)
theorem dX9_drop_91 : decode cX9_drop 91 = .ok (.ireturn, 1) := dk_172 (dk_at dksX9_drop_3 21 rfl rfl)
abbrev cX9_isNet : ByteArray := prog_15_method_22_code
def yX9_isNet : MethodName := ⟨RX9, "isNet", "(I)Z"⟩
def dkwX9_isNet_0 : List UInt8 := [27, 133, 9, 42, 180, 0, 16, 6, 46, 133, 10, 101, 184, 0, 122, 172]
abbrev dktX9_isNet_0 : List UInt8 := dkwX9_isNet_0 ++ []
theorem dksX9_isNet_0 : cX9_isNet.data.toList.drop 0 = dktX9_isNet_0 := by decide +kernel
theorem dX9_isNet_0 : decode cX9_isNet 0 = .ok (.iload_n 1, 1) := dk_27 (dk_at dksX9_isNet_0 0 rfl rfl)
theorem dX9_isNet_1 : decode cX9_isNet 1 = .ok (.i2l, 1) := dk_133 (dk_at dksX9_isNet_0 1 rfl rfl)
theorem dX9_isNet_2 : decode cX9_isNet 2 = .ok (.lconst 0, 1) := dk_9 (dk_at dksX9_isNet_0 2 rfl rfl)
theorem dX9_isNet_3 : decode cX9_isNet 3 = .ok (.aload_n 0, 1) := dk_42 (dk_at dksX9_isNet_0 3 rfl rfl)
theorem dX9_isNet_4 : decode cX9_isNet 4 = .ok (.getfield 16, 3) := dk_180 0 16 (dk_at dksX9_isNet_0 4 rfl rfl)
theorem dX9_isNet_7 : decode cX9_isNet 7 = .ok (.iconst 3, 1) := dk_6 (dk_at dksX9_isNet_0 7 rfl rfl)
theorem dX9_isNet_8 : decode cX9_isNet 8 = .ok (.iaload, 1) := dk_46 (dk_at dksX9_isNet_0 8 rfl rfl)
theorem dX9_isNet_9 : decode cX9_isNet 9 = .ok (.i2l, 1) := dk_133 (dk_at dksX9_isNet_0 9 rfl rfl)
theorem dX9_isNet_10 : decode cX9_isNet 10 = .ok (.lconst 1, 1) := dk_10 (dk_at dksX9_isNet_0 10 rfl rfl)
theorem dX9_isNet_11 : decode cX9_isNet 11 = .ok (.lsub, 1) := dk_101 (dk_at dksX9_isNet_0 11 rfl rfl)
theorem dX9_isNet_12 : decode cX9_isNet 12 = .ok (.invokestatic 122, 3) := dk_184 0 122 (dk_at dksX9_isNet_0 12 rfl rfl)
theorem dX9_isNet_15 : decode cX9_isNet 15 = .ok (.ireturn, 1) := dk_172 (dk_at dksX9_isNet_0 15 rfl rfl)
abbrev cX9_want : ByteArray := prog_15_method_46_code
def yX9_want : MethodName := ⟨RX9, "want", "(III)I"⟩
def dkwX9_want_7 : List UInt8 := [182, 0, 109, 172]
abbrev dktX9_want_7 : List UInt8 := dkwX9_want_7 ++ []
def dkwX9_want_6 : List UInt8 := [180, 0, 16, 21, 4, 6, 96, 28, 79, 42, 180, 0, 16, 21, 4, 7, 96, 29, 79, 42, 21, 5]
abbrev dktX9_want_6 : List UInt8 := dkwX9_want_6 ++ dktX9_want_7
def dkwX9_want_5 : List UInt8 := [96, 46, 28, 184, 0, 216, 42, 180, 0, 16, 21, 4, 7, 96, 46, 29, 184, 0, 216, 96, 54, 5, 42]
abbrev dktX9_want_5 : List UInt8 := dkwX9_want_5 ++ dktX9_want_6
def dkwX9_want_4 : List UInt8 := [16, 252, 182, 0, 105, 172, 42, 8, 182, 0, 186, 27, 184, 0, 112, 54, 4, 42, 180, 0, 16, 21, 4, 6]
abbrev dktX9_want_4 : List UInt8 := dkwX9_want_4 ++ dktX9_want_5
def dkwX9_want_3 : List UInt8 := [182, 0, 115, 154, 0, 20, 28, 16, 16, 42, 180, 0, 89, 42, 27, 182, 0, 137, 100, 104, 164, 0, 10, 42]
abbrev dktX9_want_3 : List UInt8 := dkwX9_want_3 ++ dktX9_want_4
def dkwX9_want_2 : List UInt8 := [2, 182, 0, 105, 172, 42, 27, 182, 0, 154, 154, 0, 10, 42, 16, 254, 182, 0, 105, 172, 42, 27]
abbrev dktX9_want_2 : List UInt8 := dkwX9_want_2 ++ dktX9_want_3
def dkwX9_want_1 : List UInt8 := [153, 0, 23, 29, 133, 9, 20, 0, 214, 42, 180, 0, 85, 4, 100, 133, 105, 184, 0, 122, 154, 0, 9, 42]
abbrev dktX9_want_1 : List UInt8 := dkwX9_want_1 ++ dktX9_want_2
def dkwX9_want_0 : List UInt8 := [42, 3, 181, 0, 92, 28, 133, 9, 20, 0, 214, 42, 180, 0, 89, 4, 100, 133, 105, 184, 0, 122]
abbrev dktX9_want_0 : List UInt8 := dkwX9_want_0 ++ dktX9_want_1
theorem dksX9_want_0 : cX9_want.data.toList.drop 0 = dktX9_want_0 := by decide +kernel
theorem dksX9_want_1 : cX9_want.data.toList.drop 22 = dktX9_want_1 := dk_seg dksX9_want_0 22 rfl rfl
theorem dksX9_want_2 : cX9_want.data.toList.drop 46 = dktX9_want_2 := dk_seg dksX9_want_1 24 rfl rfl
theorem dksX9_want_3 : cX9_want.data.toList.drop 68 = dktX9_want_3 := dk_seg dksX9_want_2 22 rfl rfl
theorem dksX9_want_4 : cX9_want.data.toList.drop 92 = dktX9_want_4 := dk_seg dksX9_want_3 24 rfl rfl
theorem dksX9_want_5 : cX9_want.data.toList.drop 116 = dktX9_want_5 := dk_seg dksX9_want_4 24 rfl rfl
theorem dksX9_want_6 : cX9_want.data.toList.drop 139 = dktX9_want_6 := dk_seg dksX9_want_5 23 rfl rfl
theorem dksX9_want_7 : cX9_want.data.toList.drop 161 = dktX9_want_7 := dk_seg dksX9_want_6 22 rfl rfl
theorem dX9_want_0 : decode cX9_want 0 = .ok (.aload_n 0, 1) := dk_42 (dk_at dksX9_want_0 0 rfl rfl)
theorem dX9_want_1 : decode cX9_want 1 = .ok (.iconst 0, 1) := dk_3 (dk_at dksX9_want_0 1 rfl rfl)
theorem dX9_want_2 : decode cX9_want 2 = .ok (.putfield 92, 3) := dk_181 0 92 (dk_at dksX9_want_0 2 rfl rfl)
theorem dX9_want_5 : decode cX9_want 5 = .ok (.iload_n 2, 1) := dk_28 (dk_at dksX9_want_0 5 rfl rfl)
theorem dX9_want_6 : decode cX9_want 6 = .ok (.i2l, 1) := dk_133 (dk_at dksX9_want_0 6 rfl rfl)
theorem dX9_want_7 : decode cX9_want 7 = .ok (.lconst 0, 1) := dk_9 (dk_at dksX9_want_0 7 rfl rfl)
theorem dX9_want_8 : decode cX9_want 8 = .ok (.ldc2_w 214, 3) := dk_20 0 214 (dk_at dksX9_want_0 8 rfl rfl)
theorem dX9_want_11 : decode cX9_want 11 = .ok (.aload_n 0, 1) := dk_42 (dk_at dksX9_want_0 11 rfl rfl)
theorem dX9_want_12 : decode cX9_want 12 = .ok (.getfield 89, 3) := dk_180 0 89 (dk_at dksX9_want_0 12 rfl rfl)
theorem dX9_want_15 : decode cX9_want 15 = .ok (.iconst 1, 1) := dk_4 (dk_at dksX9_want_0 15 rfl rfl)
theorem dX9_want_16 : decode cX9_want 16 = .ok (.isub, 1) := dk_100 (dk_at dksX9_want_0 16 rfl rfl)
theorem dX9_want_17 : decode cX9_want 17 = .ok (.i2l, 1) := dk_133 (dk_at dksX9_want_0 17 rfl rfl)
theorem dX9_want_18 : decode cX9_want 18 = .ok (.lmul, 1) := dk_105 (dk_at dksX9_want_0 18 rfl rfl)
theorem dX9_want_19 : decode cX9_want 19 = .ok (.invokestatic 122, 3) := dk_184 0 122 (dk_at dksX9_want_0 19 rfl rfl)
theorem dX9_want_22 : decode cX9_want 22 = .ok (.ifCond .eq 23, 3) := dk_153 0 23 (dk_at dksX9_want_1 0 rfl rfl)
theorem dX9_want_25 : decode cX9_want 25 = .ok (.iload_n 3, 1) := dk_29 (dk_at dksX9_want_1 3 rfl rfl)
theorem dX9_want_26 : decode cX9_want 26 = .ok (.i2l, 1) := dk_133 (dk_at dksX9_want_1 4 rfl rfl)
theorem dX9_want_27 : decode cX9_want 27 = .ok (.lconst 0, 1) := dk_9 (dk_at dksX9_want_1 5 rfl rfl)
theorem dX9_want_28 : decode cX9_want 28 = .ok (.ldc2_w 214, 3) := dk_20 0 214 (dk_at dksX9_want_1 6 rfl rfl)
theorem dX9_want_31 : decode cX9_want 31 = .ok (.aload_n 0, 1) := dk_42 (dk_at dksX9_want_1 9 rfl rfl)
theorem dX9_want_32 : decode cX9_want 32 = .ok (.getfield 85, 3) := dk_180 0 85 (dk_at dksX9_want_1 10 rfl rfl)
theorem dX9_want_35 : decode cX9_want 35 = .ok (.iconst 1, 1) := dk_4 (dk_at dksX9_want_1 13 rfl rfl)
theorem dX9_want_36 : decode cX9_want 36 = .ok (.isub, 1) := dk_100 (dk_at dksX9_want_1 14 rfl rfl)
theorem dX9_want_37 : decode cX9_want 37 = .ok (.i2l, 1) := dk_133 (dk_at dksX9_want_1 15 rfl rfl)
theorem dX9_want_38 : decode cX9_want 38 = .ok (.lmul, 1) := dk_105 (dk_at dksX9_want_1 16 rfl rfl)
theorem dX9_want_39 : decode cX9_want 39 = .ok (.invokestatic 122, 3) := dk_184 0 122 (dk_at dksX9_want_1 17 rfl rfl)
theorem dX9_want_42 : decode cX9_want 42 = .ok (.ifCond .ne 9, 3) := dk_154 0 9 (dk_at dksX9_want_1 20 rfl rfl)
theorem dX9_want_45 : decode cX9_want 45 = .ok (.aload_n 0, 1) := dk_42 (dk_at dksX9_want_1 23 rfl rfl)
theorem dX9_want_46 : decode cX9_want 46 = .ok (.iconst (-1), 1) := dk_2 (dk_at dksX9_want_2 0 rfl rfl)
theorem dX9_want_47 : decode cX9_want 47 = .ok (.invokevirtual 105, 3) := dk_182 0 105 (dk_at dksX9_want_2 1 rfl rfl)
theorem dX9_want_50 : decode cX9_want 50 = .ok (.ireturn, 1) := dk_172 (dk_at dksX9_want_2 4 rfl rfl)
theorem dX9_want_51 : decode cX9_want 51 = .ok (.aload_n 0, 1) := dk_42 (dk_at dksX9_want_2 5 rfl rfl)
theorem dX9_want_52 : decode cX9_want 52 = .ok (.iload_n 1, 1) := dk_27 (dk_at dksX9_want_2 6 rfl rfl)
theorem dX9_want_53 : decode cX9_want 53 = .ok (.invokevirtual 154, 3) := dk_182 0 154 (dk_at dksX9_want_2 7 rfl rfl)
theorem dX9_want_56 : decode cX9_want 56 = .ok (.ifCond .ne 10, 3) := dk_154 0 10 (dk_at dksX9_want_2 10 rfl rfl)
theorem dX9_want_59 : decode cX9_want 59 = .ok (.aload_n 0, 1) := dk_42 (dk_at dksX9_want_2 13 rfl rfl)
theorem dX9_want_60 : decode cX9_want 60 = .ok (.bipush (-2), 2) := dk_16 254 (dk_at dksX9_want_2 14 rfl rfl)
theorem dX9_want_62 : decode cX9_want 62 = .ok (.invokevirtual 105, 3) := dk_182 0 105 (dk_at dksX9_want_2 16 rfl rfl)
theorem dX9_want_65 : decode cX9_want 65 = .ok (.ireturn, 1) := dk_172 (dk_at dksX9_want_2 19 rfl rfl)
theorem dX9_want_66 : decode cX9_want 66 = .ok (.aload_n 0, 1) := dk_42 (dk_at dksX9_want_2 20 rfl rfl)
theorem dX9_want_67 : decode cX9_want 67 = .ok (.iload_n 1, 1) := dk_27 (dk_at dksX9_want_2 21 rfl rfl)
theorem dX9_want_68 : decode cX9_want 68 = .ok (.invokevirtual 115, 3) := dk_182 0 115 (dk_at dksX9_want_3 0 rfl rfl)
theorem dX9_want_71 : decode cX9_want 71 = .ok (.ifCond .ne 20, 3) := dk_154 0 20 (dk_at dksX9_want_3 3 rfl rfl)
theorem dX9_want_74 : decode cX9_want 74 = .ok (.iload_n 2, 1) := dk_28 (dk_at dksX9_want_3 6 rfl rfl)
theorem dX9_want_75 : decode cX9_want 75 = .ok (.bipush 16, 2) := dk_16 16 (dk_at dksX9_want_3 7 rfl rfl)
theorem dX9_want_77 : decode cX9_want 77 = .ok (.aload_n 0, 1) := dk_42 (dk_at dksX9_want_3 9 rfl rfl)
theorem dX9_want_78 : decode cX9_want 78 = .ok (.getfield 89, 3) := dk_180 0 89 (dk_at dksX9_want_3 10 rfl rfl)
theorem dX9_want_81 : decode cX9_want 81 = .ok (.aload_n 0, 1) := dk_42 (dk_at dksX9_want_3 13 rfl rfl)
theorem dX9_want_82 : decode cX9_want 82 = .ok (.iload_n 1, 1) := dk_27 (dk_at dksX9_want_3 14 rfl rfl)
theorem dX9_want_83 : decode cX9_want 83 = .ok (.invokevirtual 137, 3) := dk_182 0 137 (dk_at dksX9_want_3 15 rfl rfl)
theorem dX9_want_86 : decode cX9_want 86 = .ok (.isub, 1) := dk_100 (dk_at dksX9_want_3 18 rfl rfl)
theorem dX9_want_87 : decode cX9_want 87 = .ok (.imul, 1) := dk_104 (dk_at dksX9_want_3 19 rfl rfl)
theorem dX9_want_88 : decode cX9_want 88 = .ok (.if_icmp .le 10, 3) := dk_164 0 10 (dk_at dksX9_want_3 20 rfl rfl)
theorem dX9_want_91 : decode cX9_want 91 = .ok (.aload_n 0, 1) := dk_42 (dk_at dksX9_want_3 23 rfl rfl)
theorem dX9_want_92 : decode cX9_want 92 = .ok (.bipush (-4), 2) := dk_16 252 (dk_at dksX9_want_4 0 rfl rfl)
theorem dX9_want_94 : decode cX9_want 94 = .ok (.invokevirtual 105, 3) := dk_182 0 105 (dk_at dksX9_want_4 2 rfl rfl)
theorem dX9_want_97 : decode cX9_want 97 = .ok (.ireturn, 1) := dk_172 (dk_at dksX9_want_4 5 rfl rfl)
theorem dX9_want_98 : decode cX9_want 98 = .ok (.aload_n 0, 1) := dk_42 (dk_at dksX9_want_4 6 rfl rfl)
theorem dX9_want_99 : decode cX9_want 99 = .ok (.iconst 5, 1) := dk_8 (dk_at dksX9_want_4 7 rfl rfl)
theorem dX9_want_100 : decode cX9_want 100 = .ok (.invokevirtual 186, 3) := dk_182 0 186 (dk_at dksX9_want_4 8 rfl rfl)
theorem dX9_want_103 : decode cX9_want 103 = .ok (.iload_n 1, 1) := dk_27 (dk_at dksX9_want_4 11 rfl rfl)
theorem dX9_want_104 : decode cX9_want 104 = .ok (.invokestatic 112, 3) := dk_184 0 112 (dk_at dksX9_want_4 12 rfl rfl)
theorem dX9_want_107 : decode cX9_want 107 = .ok (.istore 4, 2) := dk_54 4 (dk_at dksX9_want_4 15 rfl rfl)
theorem dX9_want_109 : decode cX9_want 109 = .ok (.aload_n 0, 1) := dk_42 (dk_at dksX9_want_4 17 rfl rfl)
theorem dX9_want_110 : decode cX9_want 110 = .ok (.getfield 16, 3) := dk_180 0 16 (dk_at dksX9_want_4 18 rfl rfl)
theorem dX9_want_113 : decode cX9_want 113 = .ok (.iload 4, 2) := dk_21 4 (dk_at dksX9_want_4 21 rfl rfl)
theorem dX9_want_115 : decode cX9_want 115 = .ok (.iconst 3, 1) := dk_6 (dk_at dksX9_want_4 23 rfl rfl)
theorem dX9_want_116 : decode cX9_want 116 = .ok (.iadd, 1) := dk_96 (dk_at dksX9_want_5 0 rfl rfl)
theorem dX9_want_117 : decode cX9_want 117 = .ok (.iaload, 1) := dk_46 (dk_at dksX9_want_5 1 rfl rfl)
theorem dX9_want_118 : decode cX9_want 118 = .ok (.iload_n 2, 1) := dk_28 (dk_at dksX9_want_5 2 rfl rfl)
theorem dX9_want_119 : decode cX9_want 119 = .ok (.invokestatic 216, 3) := dk_184 0 216 (dk_at dksX9_want_5 3 rfl rfl)
theorem dX9_want_122 : decode cX9_want 122 = .ok (.aload_n 0, 1) := dk_42 (dk_at dksX9_want_5 6 rfl rfl)
theorem dX9_want_123 : decode cX9_want 123 = .ok (.getfield 16, 3) := dk_180 0 16 (dk_at dksX9_want_5 7 rfl rfl)
theorem dX9_want_126 : decode cX9_want 126 = .ok (.iload 4, 2) := dk_21 4 (dk_at dksX9_want_5 10 rfl rfl)
theorem dX9_want_128 : decode cX9_want 128 = .ok (.iconst 4, 1) := dk_7 (dk_at dksX9_want_5 12 rfl rfl)
theorem dX9_want_129 : decode cX9_want 129 = .ok (.iadd, 1) := dk_96 (dk_at dksX9_want_5 13 rfl rfl)
theorem dX9_want_130 : decode cX9_want 130 = .ok (.iaload, 1) := dk_46 (dk_at dksX9_want_5 14 rfl rfl)
theorem dX9_want_131 : decode cX9_want 131 = .ok (.iload_n 3, 1) := dk_29 (dk_at dksX9_want_5 15 rfl rfl)
theorem dX9_want_132 : decode cX9_want 132 = .ok (.invokestatic 216, 3) := dk_184 0 216 (dk_at dksX9_want_5 16 rfl rfl)
theorem dX9_want_135 : decode cX9_want 135 = .ok (.iadd, 1) := dk_96 (dk_at dksX9_want_5 19 rfl rfl)
theorem dX9_want_136 : decode cX9_want 136 = .ok (.istore 5, 2) := dk_54 5 (dk_at dksX9_want_5 20 rfl rfl)
theorem dX9_want_138 : decode cX9_want 138 = .ok (.aload_n 0, 1) := dk_42 (dk_at dksX9_want_5 22 rfl rfl)
theorem dX9_want_139 : decode cX9_want 139 = .ok (.getfield 16, 3) := dk_180 0 16 (dk_at dksX9_want_6 0 rfl rfl)
theorem dX9_want_142 : decode cX9_want 142 = .ok (.iload 4, 2) := dk_21 4 (dk_at dksX9_want_6 3 rfl rfl)
theorem dX9_want_144 : decode cX9_want 144 = .ok (.iconst 3, 1) := dk_6 (dk_at dksX9_want_6 5 rfl rfl)
theorem dX9_want_145 : decode cX9_want 145 = .ok (.iadd, 1) := dk_96 (dk_at dksX9_want_6 6 rfl rfl)
theorem dX9_want_146 : decode cX9_want 146 = .ok (.iload_n 2, 1) := dk_28 (dk_at dksX9_want_6 7 rfl rfl)
theorem dX9_want_147 : decode cX9_want 147 = .ok (.iastore, 1) := dk_79 (dk_at dksX9_want_6 8 rfl rfl)
theorem dX9_want_148 : decode cX9_want 148 = .ok (.aload_n 0, 1) := dk_42 (dk_at dksX9_want_6 9 rfl rfl)
theorem dX9_want_149 : decode cX9_want 149 = .ok (.getfield 16, 3) := dk_180 0 16 (dk_at dksX9_want_6 10 rfl rfl)
theorem dX9_want_152 : decode cX9_want 152 = .ok (.iload 4, 2) := dk_21 4 (dk_at dksX9_want_6 13 rfl rfl)
theorem dX9_want_154 : decode cX9_want 154 = .ok (.iconst 4, 1) := dk_7 (dk_at dksX9_want_6 15 rfl rfl)
theorem dX9_want_155 : decode cX9_want 155 = .ok (.iadd, 1) := dk_96 (dk_at dksX9_want_6 16 rfl rfl)
theorem dX9_want_156 : decode cX9_want 156 = .ok (.iload_n 3, 1) := dk_29 (dk_at dksX9_want_6 17 rfl rfl)
theorem dX9_want_157 : decode cX9_want 157 = .ok (.iastore, 1) := dk_79 (dk_at dksX9_want_6 18 rfl rfl)
theorem dX9_want_158 : decode cX9_want 158 = .ok (.aload_n 0, 1) := dk_42 (dk_at dksX9_want_6 19 rfl rfl)
theorem dX9_want_159 : decode cX9_want 159 = .ok (.iload 5, 2) := dk_21 5 (dk_at dksX9_want_6 20 rfl rfl)
theorem dX9_want_161 : decode cX9_want 161 = .ok (.invokevirtual 109, 3) := dk_182 0 109 (dk_at dksX9_want_7 0 rfl rfl)
theorem dX9_want_164 : decode cX9_want 164 = .ok (.ireturn, 1) := dk_172 (dk_at dksX9_want_7 3 rfl rfl)
abbrev cX9_far : ByteArray := prog_15_method_4_code
def yX9_far : MethodName := ⟨RX9, "far", "(II)I"⟩
def dkwX9_far_0 : List UInt8 := [26, 27, 162, 0, 9, 27, 26, 100, 167, 0, 6, 26, 27, 100, 172]
abbrev dktX9_far_0 : List UInt8 := dkwX9_far_0 ++ []
theorem dksX9_far_0 : cX9_far.data.toList.drop 0 = dktX9_far_0 := by decide +kernel
theorem dX9_far_0 : decode cX9_far 0 = .ok (.iload_n 0, 1) := dk_26 (dk_at dksX9_far_0 0 rfl rfl)
theorem dX9_far_1 : decode cX9_far 1 = .ok (.iload_n 1, 1) := dk_27 (dk_at dksX9_far_0 1 rfl rfl)
theorem dX9_far_2 : decode cX9_far 2 = .ok (.if_icmp .ge 9, 3) := dk_162 0 9 (dk_at dksX9_far_0 2 rfl rfl)
theorem dX9_far_5 : decode cX9_far 5 = .ok (.iload_n 1, 1) := dk_27 (dk_at dksX9_far_0 5 rfl rfl)
theorem dX9_far_6 : decode cX9_far 6 = .ok (.iload_n 0, 1) := dk_26 (dk_at dksX9_far_0 6 rfl rfl)
theorem dX9_far_7 : decode cX9_far 7 = .ok (.isub, 1) := dk_100 (dk_at dksX9_far_0 7 rfl rfl)
theorem dX9_far_8 : decode cX9_far 8 = .ok (.goto 6, 3) := dk_167 0 6 (dk_at dksX9_far_0 8 rfl rfl)
theorem dX9_far_11 : decode cX9_far 11 = .ok (.iload_n 0, 1) := dk_26 (dk_at dksX9_far_0 11 rfl rfl)
theorem dX9_far_12 : decode cX9_far 12 = .ok (.iload_n 1, 1) := dk_27 (dk_at dksX9_far_0 12 rfl rfl)
theorem dX9_far_13 : decode cX9_far 13 = .ok (.isub, 1) := dk_100 (dk_at dksX9_far_0 13 rfl rfl)
theorem dX9_far_14 : decode cX9_far 14 = .ok (.ireturn, 1) := dk_172 (dk_at dksX9_far_0 14 rfl rfl)
abbrev cX9_fix : ByteArray := prog_15_method_47_code
def yX9_fix : MethodName := ⟨RX9, "fix", "(III)I"⟩
def dkwX9_fix_7 : List UInt8 := [79, 42, 21, 4, 182, 0, 109, 172]
abbrev dktX9_fix_7 : List UInt8 := dkwX9_fix_7 ++ []
def dkwX9_fix_6 : List UInt8 := [180, 0, 16, 21, 5, 6, 96, 16, 16, 29, 104, 79, 42, 180, 0, 16, 21, 5, 7, 96, 16, 16, 28, 104]
abbrev dktX9_fix_6 : List UInt8 := dkwX9_fix_6 ++ dktX9_fix_7
def dkwX9_fix_5 : List UInt8 := [27, 28, 29, 182, 0, 219, 27, 184, 0, 112, 54, 5, 42, 180, 0, 16, 21, 5, 5, 96, 4, 79, 42]
abbrev dktX9_fix_5 : List UInt8 := dkwX9_fix_5 ++ dktX9_fix_6
def dkwX9_fix_4 : List UInt8 := [54, 6, 21, 6, 2, 159, 0, 12, 42, 21, 6, 182, 0, 164, 132, 4, 1, 132, 5, 1, 167, 255, 215, 42]
abbrev dktX9_fix_4 : List UInt8 := dkwX9_fix_4 ++ dktX9_fix_5
def dkwX9_fix_3 : List UInt8 := [29, 54, 5, 21, 5, 29, 42, 27, 182, 0, 137, 96, 162, 0, 35, 42, 28, 21, 5, 27, 3, 182, 0, 150]
abbrev dktX9_fix_3 : List UInt8 := dkwX9_fix_3 ++ dktX9_fix_4
def dkwX9_fix_2 : List UInt8 := [29, 4, 182, 0, 157, 154, 0, 10, 42, 16, 252, 182, 0, 105, 172, 42, 16, 6, 182, 0, 186, 3, 54, 4]
abbrev dktX9_fix_2 : List UInt8 := dkwX9_fix_2 ++ dktX9_fix_3
def dkwX9_fix_1 : List UInt8 := [182, 0, 154, 154, 0, 10, 42, 16, 254, 182, 0, 105, 172, 42, 27, 182, 0, 115, 154, 0, 14, 42, 27, 28]
abbrev dktX9_fix_1 : List UInt8 := dkwX9_fix_1 ++ dktX9_fix_2
def dkwX9_fix_0 : List UInt8 := [42, 3, 181, 0, 92, 42, 28, 29, 182, 0, 133, 154, 0, 9, 42, 2, 182, 0, 105, 172, 42, 27]
abbrev dktX9_fix_0 : List UInt8 := dkwX9_fix_0 ++ dktX9_fix_1
theorem dksX9_fix_0 : cX9_fix.data.toList.drop 0 = dktX9_fix_0 := by decide +kernel
theorem dksX9_fix_1 : cX9_fix.data.toList.drop 22 = dktX9_fix_1 := dk_seg dksX9_fix_0 22 rfl rfl
theorem dksX9_fix_2 : cX9_fix.data.toList.drop 46 = dktX9_fix_2 := dk_seg dksX9_fix_1 24 rfl rfl
theorem dksX9_fix_3 : cX9_fix.data.toList.drop 70 = dktX9_fix_3 := dk_seg dksX9_fix_2 24 rfl rfl
theorem dksX9_fix_4 : cX9_fix.data.toList.drop 94 = dktX9_fix_4 := dk_seg dksX9_fix_3 24 rfl rfl
theorem dksX9_fix_5 : cX9_fix.data.toList.drop 118 = dktX9_fix_5 := dk_seg dksX9_fix_4 24 rfl rfl
theorem dksX9_fix_6 : cX9_fix.data.toList.drop 141 = dktX9_fix_6 := dk_seg dksX9_fix_5 23 rfl rfl
theorem dksX9_fix_7 : cX9_fix.data.toList.drop 165 = dktX9_fix_7 := dk_seg dksX9_fix_6 24 rfl rfl
theorem dX9_fix_0 : decode cX9_fix 0 = .ok (.aload_n 0, 1) := dk_42 (dk_at dksX9_fix_0 0 rfl rfl)
theorem dX9_fix_1 : decode cX9_fix 1 = .ok (.iconst 0, 1) := dk_3 (dk_at dksX9_fix_0 1 rfl rfl)
theorem dX9_fix_2 : decode cX9_fix 2 = .ok (.putfield 92, 3) := dk_181 0 92 (dk_at dksX9_fix_0 2 rfl rfl)
theorem dX9_fix_5 : decode cX9_fix 5 = .ok (.aload_n 0, 1) := dk_42 (dk_at dksX9_fix_0 5 rfl rfl)
theorem dX9_fix_6 : decode cX9_fix 6 = .ok (.iload_n 2, 1) := dk_28 (dk_at dksX9_fix_0 6 rfl rfl)
theorem dX9_fix_7 : decode cX9_fix 7 = .ok (.iload_n 3, 1) := dk_29 (dk_at dksX9_fix_0 7 rfl rfl)
theorem dX9_fix_8 : decode cX9_fix 8 = .ok (.invokevirtual 133, 3) := dk_182 0 133 (dk_at dksX9_fix_0 8 rfl rfl)
theorem dX9_fix_11 : decode cX9_fix 11 = .ok (.ifCond .ne 9, 3) := dk_154 0 9 (dk_at dksX9_fix_0 11 rfl rfl)
theorem dX9_fix_14 : decode cX9_fix 14 = .ok (.aload_n 0, 1) := dk_42 (dk_at dksX9_fix_0 14 rfl rfl)
theorem dX9_fix_15 : decode cX9_fix 15 = .ok (.iconst (-1), 1) := dk_2 (dk_at dksX9_fix_0 15 rfl rfl)
theorem dX9_fix_16 : decode cX9_fix 16 = .ok (.invokevirtual 105, 3) := dk_182 0 105 (dk_at dksX9_fix_0 16 rfl rfl)
theorem dX9_fix_19 : decode cX9_fix 19 = .ok (.ireturn, 1) := dk_172 (dk_at dksX9_fix_0 19 rfl rfl)
theorem dX9_fix_20 : decode cX9_fix 20 = .ok (.aload_n 0, 1) := dk_42 (dk_at dksX9_fix_0 20 rfl rfl)
theorem dX9_fix_21 : decode cX9_fix 21 = .ok (.iload_n 1, 1) := dk_27 (dk_at dksX9_fix_0 21 rfl rfl)
theorem dX9_fix_22 : decode cX9_fix 22 = .ok (.invokevirtual 154, 3) := dk_182 0 154 (dk_at dksX9_fix_1 0 rfl rfl)
theorem dX9_fix_25 : decode cX9_fix 25 = .ok (.ifCond .ne 10, 3) := dk_154 0 10 (dk_at dksX9_fix_1 3 rfl rfl)
theorem dX9_fix_28 : decode cX9_fix 28 = .ok (.aload_n 0, 1) := dk_42 (dk_at dksX9_fix_1 6 rfl rfl)
theorem dX9_fix_29 : decode cX9_fix 29 = .ok (.bipush (-2), 2) := dk_16 254 (dk_at dksX9_fix_1 7 rfl rfl)
theorem dX9_fix_31 : decode cX9_fix 31 = .ok (.invokevirtual 105, 3) := dk_182 0 105 (dk_at dksX9_fix_1 9 rfl rfl)
theorem dX9_fix_34 : decode cX9_fix 34 = .ok (.ireturn, 1) := dk_172 (dk_at dksX9_fix_1 12 rfl rfl)
theorem dX9_fix_35 : decode cX9_fix 35 = .ok (.aload_n 0, 1) := dk_42 (dk_at dksX9_fix_1 13 rfl rfl)
theorem dX9_fix_36 : decode cX9_fix 36 = .ok (.iload_n 1, 1) := dk_27 (dk_at dksX9_fix_1 14 rfl rfl)
theorem dX9_fix_37 : decode cX9_fix 37 = .ok (.invokevirtual 115, 3) := dk_182 0 115 (dk_at dksX9_fix_1 15 rfl rfl)
theorem dX9_fix_40 : decode cX9_fix 40 = .ok (.ifCond .ne 14, 3) := dk_154 0 14 (dk_at dksX9_fix_1 18 rfl rfl)
theorem dX9_fix_43 : decode cX9_fix 43 = .ok (.aload_n 0, 1) := dk_42 (dk_at dksX9_fix_1 21 rfl rfl)
theorem dX9_fix_44 : decode cX9_fix 44 = .ok (.iload_n 1, 1) := dk_27 (dk_at dksX9_fix_1 22 rfl rfl)
theorem dX9_fix_45 : decode cX9_fix 45 = .ok (.iload_n 2, 1) := dk_28 (dk_at dksX9_fix_1 23 rfl rfl)
theorem dX9_fix_46 : decode cX9_fix 46 = .ok (.iload_n 3, 1) := dk_29 (dk_at dksX9_fix_2 0 rfl rfl)
theorem dX9_fix_47 : decode cX9_fix 47 = .ok (.iconst 1, 1) := dk_4 (dk_at dksX9_fix_2 1 rfl rfl)
theorem dX9_fix_48 : decode cX9_fix 48 = .ok (.invokevirtual 157, 3) := dk_182 0 157 (dk_at dksX9_fix_2 2 rfl rfl)
theorem dX9_fix_51 : decode cX9_fix 51 = .ok (.ifCond .ne 10, 3) := dk_154 0 10 (dk_at dksX9_fix_2 5 rfl rfl)
theorem dX9_fix_54 : decode cX9_fix 54 = .ok (.aload_n 0, 1) := dk_42 (dk_at dksX9_fix_2 8 rfl rfl)
theorem dX9_fix_55 : decode cX9_fix 55 = .ok (.bipush (-4), 2) := dk_16 252 (dk_at dksX9_fix_2 9 rfl rfl)
theorem dX9_fix_57 : decode cX9_fix 57 = .ok (.invokevirtual 105, 3) := dk_182 0 105 (dk_at dksX9_fix_2 11 rfl rfl)
theorem dX9_fix_60 : decode cX9_fix 60 = .ok (.ireturn, 1) := dk_172 (dk_at dksX9_fix_2 14 rfl rfl)
theorem dX9_fix_61 : decode cX9_fix 61 = .ok (.aload_n 0, 1) := dk_42 (dk_at dksX9_fix_2 15 rfl rfl)
theorem dX9_fix_62 : decode cX9_fix 62 = .ok (.bipush 6, 2) := dk_16 6 (dk_at dksX9_fix_2 16 rfl rfl)
theorem dX9_fix_64 : decode cX9_fix 64 = .ok (.invokevirtual 186, 3) := dk_182 0 186 (dk_at dksX9_fix_2 18 rfl rfl)
theorem dX9_fix_67 : decode cX9_fix 67 = .ok (.iconst 0, 1) := dk_3 (dk_at dksX9_fix_2 21 rfl rfl)
theorem dX9_fix_68 : decode cX9_fix 68 = .ok (.istore 4, 2) := dk_54 4 (dk_at dksX9_fix_2 22 rfl rfl)
theorem dX9_fix_70 : decode cX9_fix 70 = .ok (.iload_n 3, 1) := dk_29 (dk_at dksX9_fix_3 0 rfl rfl)
theorem dX9_fix_71 : decode cX9_fix 71 = .ok (.istore 5, 2) := dk_54 5 (dk_at dksX9_fix_3 1 rfl rfl)
theorem dX9_fix_73 : decode cX9_fix 73 = .ok (.iload 5, 2) := dk_21 5 (dk_at dksX9_fix_3 3 rfl rfl)
theorem dX9_fix_75 : decode cX9_fix 75 = .ok (.iload_n 3, 1) := dk_29 (dk_at dksX9_fix_3 5 rfl rfl)
theorem dX9_fix_76 : decode cX9_fix 76 = .ok (.aload_n 0, 1) := dk_42 (dk_at dksX9_fix_3 6 rfl rfl)
theorem dX9_fix_77 : decode cX9_fix 77 = .ok (.iload_n 1, 1) := dk_27 (dk_at dksX9_fix_3 7 rfl rfl)
theorem dX9_fix_78 : decode cX9_fix 78 = .ok (.invokevirtual 137, 3) := dk_182 0 137 (dk_at dksX9_fix_3 8 rfl rfl)
theorem dX9_fix_81 : decode cX9_fix 81 = .ok (.iadd, 1) := dk_96 (dk_at dksX9_fix_3 11 rfl rfl)
theorem dX9_fix_82 : decode cX9_fix 82 = .ok (.if_icmp .ge 35, 3) := dk_162 0 35 (dk_at dksX9_fix_3 12 rfl rfl)
theorem dX9_fix_85 : decode cX9_fix 85 = .ok (.aload_n 0, 1) := dk_42 (dk_at dksX9_fix_3 15 rfl rfl)
theorem dX9_fix_86 : decode cX9_fix 86 = .ok (.iload_n 2, 1) := dk_28 (dk_at dksX9_fix_3 16 rfl rfl)
theorem dX9_fix_87 : decode cX9_fix 87 = .ok (.iload 5, 2) := dk_21 5 (dk_at dksX9_fix_3 17 rfl rfl)
theorem dX9_fix_89 : decode cX9_fix 89 = .ok (.iload_n 1, 1) := dk_27 (dk_at dksX9_fix_3 19 rfl rfl)
theorem dX9_fix_90 : decode cX9_fix 90 = .ok (.iconst 0, 1) := dk_3 (dk_at dksX9_fix_3 20 rfl rfl)
theorem dX9_fix_91 : decode cX9_fix 91 = .ok (.invokevirtual 150, 3) := dk_182 0 150 (dk_at dksX9_fix_3 21 rfl rfl)
theorem dX9_fix_94 : decode cX9_fix 94 = .ok (.istore 6, 2) := dk_54 6 (dk_at dksX9_fix_4 0 rfl rfl)
theorem dX9_fix_96 : decode cX9_fix 96 = .ok (.iload 6, 2) := dk_21 6 (dk_at dksX9_fix_4 2 rfl rfl)
theorem dX9_fix_98 : decode cX9_fix 98 = .ok (.iconst (-1), 1) := dk_2 (dk_at dksX9_fix_4 4 rfl rfl)
theorem dX9_fix_99 : decode cX9_fix 99 = .ok (.if_icmp .eq 12, 3) := dk_159 0 12 (dk_at dksX9_fix_4 5 rfl rfl)
theorem dX9_fix_102 : decode cX9_fix 102 = .ok (.aload_n 0, 1) := dk_42 (dk_at dksX9_fix_4 8 rfl rfl)
theorem dX9_fix_103 : decode cX9_fix 103 = .ok (.iload 6, 2) := dk_21 6 (dk_at dksX9_fix_4 9 rfl rfl)
theorem dX9_fix_105 : decode cX9_fix 105 = .ok (.invokevirtual 164, 3) := dk_182 0 164 (dk_at dksX9_fix_4 11 rfl rfl)
theorem dX9_fix_108 : decode cX9_fix 108 = .ok (.iinc 4 1, 3) := dk_132 4 1 (dk_at dksX9_fix_4 14 rfl rfl)
theorem dX9_fix_111 : decode cX9_fix 111 = .ok (.iinc 5 1, 3) := dk_132 5 1 (dk_at dksX9_fix_4 17 rfl rfl)
theorem dX9_fix_114 : decode cX9_fix 114 = .ok (.goto (-41), 3) := dk_167 255 215 (dk_at dksX9_fix_4 20 rfl rfl)
theorem dX9_fix_117 : decode cX9_fix 117 = .ok (.aload_n 0, 1) := dk_42 (dk_at dksX9_fix_4 23 rfl rfl)
theorem dX9_fix_118 : decode cX9_fix 118 = .ok (.iload_n 1, 1) := dk_27 (dk_at dksX9_fix_5 0 rfl rfl)
theorem dX9_fix_119 : decode cX9_fix 119 = .ok (.iload_n 2, 1) := dk_28 (dk_at dksX9_fix_5 1 rfl rfl)
theorem dX9_fix_120 : decode cX9_fix 120 = .ok (.iload_n 3, 1) := dk_29 (dk_at dksX9_fix_5 2 rfl rfl)
theorem dX9_fix_121 : decode cX9_fix 121 = .ok (.invokevirtual 219, 3) := dk_182 0 219 (dk_at dksX9_fix_5 3 rfl rfl)
theorem dX9_fix_124 : decode cX9_fix 124 = .ok (.iload_n 1, 1) := dk_27 (dk_at dksX9_fix_5 6 rfl rfl)
theorem dX9_fix_125 : decode cX9_fix 125 = .ok (.invokestatic 112, 3) := dk_184 0 112 (dk_at dksX9_fix_5 7 rfl rfl)
theorem dX9_fix_128 : decode cX9_fix 128 = .ok (.istore 5, 2) := dk_54 5 (dk_at dksX9_fix_5 10 rfl rfl)
theorem dX9_fix_130 : decode cX9_fix 130 = .ok (.aload_n 0, 1) := dk_42 (dk_at dksX9_fix_5 12 rfl rfl)
theorem dX9_fix_131 : decode cX9_fix 131 = .ok (.getfield 16, 3) := dk_180 0 16 (dk_at dksX9_fix_5 13 rfl rfl)
theorem dX9_fix_134 : decode cX9_fix 134 = .ok (.iload 5, 2) := dk_21 5 (dk_at dksX9_fix_5 16 rfl rfl)
theorem dX9_fix_136 : decode cX9_fix 136 = .ok (.iconst 2, 1) := dk_5 (dk_at dksX9_fix_5 18 rfl rfl)
theorem dX9_fix_137 : decode cX9_fix 137 = .ok (.iadd, 1) := dk_96 (dk_at dksX9_fix_5 19 rfl rfl)
theorem dX9_fix_138 : decode cX9_fix 138 = .ok (.iconst 1, 1) := dk_4 (dk_at dksX9_fix_5 20 rfl rfl)
theorem dX9_fix_139 : decode cX9_fix 139 = .ok (.iastore, 1) := dk_79 (dk_at dksX9_fix_5 21 rfl rfl)
theorem dX9_fix_140 : decode cX9_fix 140 = .ok (.aload_n 0, 1) := dk_42 (dk_at dksX9_fix_5 22 rfl rfl)
theorem dX9_fix_141 : decode cX9_fix 141 = .ok (.getfield 16, 3) := dk_180 0 16 (dk_at dksX9_fix_6 0 rfl rfl)
theorem dX9_fix_144 : decode cX9_fix 144 = .ok (.iload 5, 2) := dk_21 5 (dk_at dksX9_fix_6 3 rfl rfl)
theorem dX9_fix_146 : decode cX9_fix 146 = .ok (.iconst 3, 1) := dk_6 (dk_at dksX9_fix_6 5 rfl rfl)
theorem dX9_fix_147 : decode cX9_fix 147 = .ok (.iadd, 1) := dk_96 (dk_at dksX9_fix_6 6 rfl rfl)
theorem dX9_fix_148 : decode cX9_fix 148 = .ok (.bipush 16, 2) := dk_16 16 (dk_at dksX9_fix_6 7 rfl rfl)
theorem dX9_fix_150 : decode cX9_fix 150 = .ok (.iload_n 3, 1) := dk_29 (dk_at dksX9_fix_6 9 rfl rfl)
theorem dX9_fix_151 : decode cX9_fix 151 = .ok (.imul, 1) := dk_104 (dk_at dksX9_fix_6 10 rfl rfl)
theorem dX9_fix_152 : decode cX9_fix 152 = .ok (.iastore, 1) := dk_79 (dk_at dksX9_fix_6 11 rfl rfl)
theorem dX9_fix_153 : decode cX9_fix 153 = .ok (.aload_n 0, 1) := dk_42 (dk_at dksX9_fix_6 12 rfl rfl)
theorem dX9_fix_154 : decode cX9_fix 154 = .ok (.getfield 16, 3) := dk_180 0 16 (dk_at dksX9_fix_6 13 rfl rfl)
theorem dX9_fix_157 : decode cX9_fix 157 = .ok (.iload 5, 2) := dk_21 5 (dk_at dksX9_fix_6 16 rfl rfl)
theorem dX9_fix_159 : decode cX9_fix 159 = .ok (.iconst 4, 1) := dk_7 (dk_at dksX9_fix_6 18 rfl rfl)
theorem dX9_fix_160 : decode cX9_fix 160 = .ok (.iadd, 1) := dk_96 (dk_at dksX9_fix_6 19 rfl rfl)
theorem dX9_fix_161 : decode cX9_fix 161 = .ok (.bipush 16, 2) := dk_16 16 (dk_at dksX9_fix_6 20 rfl rfl)
theorem dX9_fix_163 : decode cX9_fix 163 = .ok (.iload_n 2, 1) := dk_28 (dk_at dksX9_fix_6 22 rfl rfl)
theorem dX9_fix_164 : decode cX9_fix 164 = .ok (.imul, 1) := dk_104 (dk_at dksX9_fix_6 23 rfl rfl)
theorem dX9_fix_165 : decode cX9_fix 165 = .ok (.iastore, 1) := dk_79 (dk_at dksX9_fix_7 0 rfl rfl)
theorem dX9_fix_166 : decode cX9_fix 166 = .ok (.aload_n 0, 1) := dk_42 (dk_at dksX9_fix_7 1 rfl rfl)
theorem dX9_fix_167 : decode cX9_fix 167 = .ok (.iload 4, 2) := dk_21 4 (dk_at dksX9_fix_7 2 rfl rfl)
theorem dX9_fix_169 : decode cX9_fix 169 = .ok (.invokevirtual 109, 3) := dk_182 0 109 (dk_at dksX9_fix_7 4 rfl rfl)
theorem dX9_fix_172 : decode cX9_fix 172 = .ok (.ireturn, 1) := dk_172 (dk_at dksX9_fix_7 7 rfl rfl)
abbrev cX9_give : ByteArray := prog_15_method_20_code
def yX9_give : MethodName := ⟨RX9, "give", "(III)V"⟩
def dkwX9_give_1 : List UInt8 := [79, 177]
abbrev dktX9_give_1 : List UInt8 := dkwX9_give_1 ++ []
def dkwX9_give_0 : List UInt8 := [42, 180, 0, 16, 27, 184, 0, 112, 8, 96, 28, 79, 42, 180, 0, 16, 27, 184, 0, 112, 16, 6, 96, 29]
abbrev dktX9_give_0 : List UInt8 := dkwX9_give_0 ++ dktX9_give_1
theorem dksX9_give_0 : cX9_give.data.toList.drop 0 = dktX9_give_0 := by decide +kernel
theorem dksX9_give_1 : cX9_give.data.toList.drop 24 = dktX9_give_1 := dk_seg dksX9_give_0 24 rfl rfl
theorem dX9_give_0 : decode cX9_give 0 = .ok (.aload_n 0, 1) := dk_42 (dk_at dksX9_give_0 0 rfl rfl)
theorem dX9_give_1 : decode cX9_give 1 = .ok (.getfield 16, 3) := dk_180 0 16 (dk_at dksX9_give_0 1 rfl rfl)
theorem dX9_give_4 : decode cX9_give 4 = .ok (.iload_n 1, 1) := dk_27 (dk_at dksX9_give_0 4 rfl rfl)
theorem dX9_give_5 : decode cX9_give 5 = .ok (.invokestatic 112, 3) := dk_184 0 112 (dk_at dksX9_give_0 5 rfl rfl)
theorem dX9_give_8 : decode cX9_give 8 = .ok (.iconst 5, 1) := dk_8 (dk_at dksX9_give_0 8 rfl rfl)
theorem dX9_give_9 : decode cX9_give 9 = .ok (.iadd, 1) := dk_96 (dk_at dksX9_give_0 9 rfl rfl)
theorem dX9_give_10 : decode cX9_give 10 = .ok (.iload_n 2, 1) := dk_28 (dk_at dksX9_give_0 10 rfl rfl)
theorem dX9_give_11 : decode cX9_give 11 = .ok (.iastore, 1) := dk_79 (dk_at dksX9_give_0 11 rfl rfl)
theorem dX9_give_12 : decode cX9_give 12 = .ok (.aload_n 0, 1) := dk_42 (dk_at dksX9_give_0 12 rfl rfl)
theorem dX9_give_13 : decode cX9_give 13 = .ok (.getfield 16, 3) := dk_180 0 16 (dk_at dksX9_give_0 13 rfl rfl)
theorem dX9_give_16 : decode cX9_give 16 = .ok (.iload_n 1, 1) := dk_27 (dk_at dksX9_give_0 16 rfl rfl)
theorem dX9_give_17 : decode cX9_give 17 = .ok (.invokestatic 112, 3) := dk_184 0 112 (dk_at dksX9_give_0 17 rfl rfl)
theorem dX9_give_20 : decode cX9_give 20 = .ok (.bipush 6, 2) := dk_16 6 (dk_at dksX9_give_0 20 rfl rfl)
theorem dX9_give_22 : decode cX9_give 22 = .ok (.iadd, 1) := dk_96 (dk_at dksX9_give_0 22 rfl rfl)
theorem dX9_give_23 : decode cX9_give 23 = .ok (.iload_n 3, 1) := dk_29 (dk_at dksX9_give_0 23 rfl rfl)
theorem dX9_give_24 : decode cX9_give 24 = .ok (.iastore, 1) := dk_79 (dk_at dksX9_give_1 0 rfl rfl)
theorem dX9_give_25 : decode cX9_give 25 = .ok (.return_, 1) := dk_177 (dk_at dksX9_give_1 1 rfl rfl)
abbrev cX9_free : ByteArray := prog_15_method_48_code
def yX9_free : MethodName := ⟨RX9, "free", "(I)I"⟩
def dkwX9_free_2 : List UInt8 := [184, 0, 112, 5, 96, 3, 79, 42, 42, 180, 0, 16, 27, 184, 0, 112, 8, 96, 46, 182, 0, 109, 172]
abbrev dktX9_free_2 : List UInt8 := dkwX9_free_2 ++ []
def dkwX9_free_1 : List UInt8 := [182, 0, 115, 154, 0, 10, 42, 16, 252, 182, 0, 105, 172, 42, 16, 7, 182, 0, 186, 42, 180, 0, 16, 27]
abbrev dktX9_free_1 : List UInt8 := dkwX9_free_1 ++ dktX9_free_2
def dkwX9_free_0 : List UInt8 := [42, 3, 181, 0, 92, 42, 27, 182, 0, 154, 154, 0, 10, 42, 16, 254, 182, 0, 105, 172, 42, 27]
abbrev dktX9_free_0 : List UInt8 := dkwX9_free_0 ++ dktX9_free_1
theorem dksX9_free_0 : cX9_free.data.toList.drop 0 = dktX9_free_0 := by decide +kernel
theorem dksX9_free_1 : cX9_free.data.toList.drop 22 = dktX9_free_1 := dk_seg dksX9_free_0 22 rfl rfl
theorem dksX9_free_2 : cX9_free.data.toList.drop 46 = dktX9_free_2 := dk_seg dksX9_free_1 24 rfl rfl
theorem dX9_free_0 : decode cX9_free 0 = .ok (.aload_n 0, 1) := dk_42 (dk_at dksX9_free_0 0 rfl rfl)
theorem dX9_free_1 : decode cX9_free 1 = .ok (.iconst 0, 1) := dk_3 (dk_at dksX9_free_0 1 rfl rfl)
theorem dX9_free_2 : decode cX9_free 2 = .ok (.putfield 92, 3) := dk_181 0 92 (dk_at dksX9_free_0 2 rfl rfl)
theorem dX9_free_5 : decode cX9_free 5 = .ok (.aload_n 0, 1) := dk_42 (dk_at dksX9_free_0 5 rfl rfl)
theorem dX9_free_6 : decode cX9_free 6 = .ok (.iload_n 1, 1) := dk_27 (dk_at dksX9_free_0 6 rfl rfl)
theorem dX9_free_7 : decode cX9_free 7 = .ok (.invokevirtual 154, 3) := dk_182 0 154 (dk_at dksX9_free_0 7 rfl rfl)
theorem dX9_free_10 : decode cX9_free 10 = .ok (.ifCond .ne 10, 3) := dk_154 0 10 (dk_at dksX9_free_0 10 rfl rfl)
theorem dX9_free_13 : decode cX9_free 13 = .ok (.aload_n 0, 1) := dk_42 (dk_at dksX9_free_0 13 rfl rfl)
theorem dX9_free_14 : decode cX9_free 14 = .ok (.bipush (-2), 2) := dk_16 254 (dk_at dksX9_free_0 14 rfl rfl)
theorem dX9_free_16 : decode cX9_free 16 = .ok (.invokevirtual 105, 3) := dk_182 0 105 (dk_at dksX9_free_0 16 rfl rfl)
theorem dX9_free_19 : decode cX9_free 19 = .ok (.ireturn, 1) := dk_172 (dk_at dksX9_free_0 19 rfl rfl)
theorem dX9_free_20 : decode cX9_free 20 = .ok (.aload_n 0, 1) := dk_42 (dk_at dksX9_free_0 20 rfl rfl)
theorem dX9_free_21 : decode cX9_free 21 = .ok (.iload_n 1, 1) := dk_27 (dk_at dksX9_free_0 21 rfl rfl)
theorem dX9_free_22 : decode cX9_free 22 = .ok (.invokevirtual 115, 3) := dk_182 0 115 (dk_at dksX9_free_1 0 rfl rfl)
theorem dX9_free_25 : decode cX9_free 25 = .ok (.ifCond .ne 10, 3) := dk_154 0 10 (dk_at dksX9_free_1 3 rfl rfl)
theorem dX9_free_28 : decode cX9_free 28 = .ok (.aload_n 0, 1) := dk_42 (dk_at dksX9_free_1 6 rfl rfl)
theorem dX9_free_29 : decode cX9_free 29 = .ok (.bipush (-4), 2) := dk_16 252 (dk_at dksX9_free_1 7 rfl rfl)
theorem dX9_free_31 : decode cX9_free 31 = .ok (.invokevirtual 105, 3) := dk_182 0 105 (dk_at dksX9_free_1 9 rfl rfl)
theorem dX9_free_34 : decode cX9_free 34 = .ok (.ireturn, 1) := dk_172 (dk_at dksX9_free_1 12 rfl rfl)
theorem dX9_free_35 : decode cX9_free 35 = .ok (.aload_n 0, 1) := dk_42 (dk_at dksX9_free_1 13 rfl rfl)
theorem dX9_free_36 : decode cX9_free 36 = .ok (.bipush 7, 2) := dk_16 7 (dk_at dksX9_free_1 14 rfl rfl)
theorem dX9_free_38 : decode cX9_free 38 = .ok (.invokevirtual 186, 3) := dk_182 0 186 (dk_at dksX9_free_1 16 rfl rfl)
theorem dX9_free_41 : decode cX9_free 41 = .ok (.aload_n 0, 1) := dk_42 (dk_at dksX9_free_1 19 rfl rfl)
theorem dX9_free_42 : decode cX9_free 42 = .ok (.getfield 16, 3) := dk_180 0 16 (dk_at dksX9_free_1 20 rfl rfl)
theorem dX9_free_45 : decode cX9_free 45 = .ok (.iload_n 1, 1) := dk_27 (dk_at dksX9_free_1 23 rfl rfl)
theorem dX9_free_46 : decode cX9_free 46 = .ok (.invokestatic 112, 3) := dk_184 0 112 (dk_at dksX9_free_2 0 rfl rfl)
theorem dX9_free_49 : decode cX9_free 49 = .ok (.iconst 2, 1) := dk_5 (dk_at dksX9_free_2 3 rfl rfl)
theorem dX9_free_50 : decode cX9_free 50 = .ok (.iadd, 1) := dk_96 (dk_at dksX9_free_2 4 rfl rfl)
theorem dX9_free_51 : decode cX9_free 51 = .ok (.iconst 0, 1) := dk_3 (dk_at dksX9_free_2 5 rfl rfl)
theorem dX9_free_52 : decode cX9_free 52 = .ok (.iastore, 1) := dk_79 (dk_at dksX9_free_2 6 rfl rfl)
theorem dX9_free_53 : decode cX9_free 53 = .ok (.aload_n 0, 1) := dk_42 (dk_at dksX9_free_2 7 rfl rfl)
theorem dX9_free_54 : decode cX9_free 54 = .ok (.aload_n 0, 1) := dk_42 (dk_at dksX9_free_2 8 rfl rfl)
theorem dX9_free_55 : decode cX9_free 55 = .ok (.getfield 16, 3) := dk_180 0 16 (dk_at dksX9_free_2 9 rfl rfl)
theorem dX9_free_58 : decode cX9_free 58 = .ok (.iload_n 1, 1) := dk_27 (dk_at dksX9_free_2 12 rfl rfl)
theorem dX9_free_59 : decode cX9_free 59 = .ok (.invokestatic 112, 3) := dk_184 0 112 (dk_at dksX9_free_2 13 rfl rfl)
theorem dX9_free_62 : decode cX9_free 62 = .ok (.iconst 5, 1) := dk_8 (dk_at dksX9_free_2 16 rfl rfl)
theorem dX9_free_63 : decode cX9_free 63 = .ok (.iadd, 1) := dk_96 (dk_at dksX9_free_2 17 rfl rfl)
theorem dX9_free_64 : decode cX9_free 64 = .ok (.iaload, 1) := dk_46 (dk_at dksX9_free_2 18 rfl rfl)
theorem dX9_free_65 : decode cX9_free 65 = .ok (.invokevirtual 109, 3) := dk_182 0 109 (dk_at dksX9_free_2 19 rfl rfl)
theorem dX9_free_68 : decode cX9_free 68 = .ok (.ireturn, 1) := dk_172 (dk_at dksX9_free_2 22 rfl rfl)
abbrev cX9_put : ByteArray := prog_15_method_49_code
def yX9_put : MethodName := ⟨RX9, "put", "(III)I"⟩
def dkwX9_put_3 : List UInt8 := [29, 182, 0, 219, 42, 42, 182, 0, 223, 182, 0, 109, 172]
abbrev dktX9_put_3 : List UInt8 := dkwX9_put_3 ++ []
def dkwX9_put_2 : List UInt8 := [29, 3, 182, 0, 157, 154, 0, 10, 42, 16, 252, 182, 0, 105, 172, 42, 16, 8, 182, 0, 186, 42, 27, 28]
abbrev dktX9_put_2 : List UInt8 := dkwX9_put_2 ++ dktX9_put_3
def dkwX9_put_1 : List UInt8 := [182, 0, 154, 154, 0, 10, 42, 16, 254, 182, 0, 105, 172, 42, 27, 182, 0, 115, 154, 0, 14, 42, 27, 28]
abbrev dktX9_put_1 : List UInt8 := dkwX9_put_1 ++ dktX9_put_2
def dkwX9_put_0 : List UInt8 := [42, 3, 181, 0, 92, 42, 28, 29, 182, 0, 133, 154, 0, 9, 42, 2, 182, 0, 105, 172, 42, 27]
abbrev dktX9_put_0 : List UInt8 := dkwX9_put_0 ++ dktX9_put_1
theorem dksX9_put_0 : cX9_put.data.toList.drop 0 = dktX9_put_0 := by decide +kernel
theorem dksX9_put_1 : cX9_put.data.toList.drop 22 = dktX9_put_1 := dk_seg dksX9_put_0 22 rfl rfl
theorem dksX9_put_2 : cX9_put.data.toList.drop 46 = dktX9_put_2 := dk_seg dksX9_put_1 24 rfl rfl
theorem dksX9_put_3 : cX9_put.data.toList.drop 70 = dktX9_put_3 := dk_seg dksX9_put_2 24 rfl rfl
theorem dX9_put_0 : decode cX9_put 0 = .ok (.aload_n 0, 1) := dk_42 (dk_at dksX9_put_0 0 rfl rfl)
theorem dX9_put_1 : decode cX9_put 1 = .ok (.iconst 0, 1) := dk_3 (dk_at dksX9_put_0 1 rfl rfl)
theorem dX9_put_2 : decode cX9_put 2 = .ok (.putfield 92, 3) := dk_181 0 92 (dk_at dksX9_put_0 2 rfl rfl)
theorem dX9_put_5 : decode cX9_put 5 = .ok (.aload_n 0, 1) := dk_42 (dk_at dksX9_put_0 5 rfl rfl)
theorem dX9_put_6 : decode cX9_put 6 = .ok (.iload_n 2, 1) := dk_28 (dk_at dksX9_put_0 6 rfl rfl)
theorem dX9_put_7 : decode cX9_put 7 = .ok (.iload_n 3, 1) := dk_29 (dk_at dksX9_put_0 7 rfl rfl)
theorem dX9_put_8 : decode cX9_put 8 = .ok (.invokevirtual 133, 3) := dk_182 0 133 (dk_at dksX9_put_0 8 rfl rfl)
theorem dX9_put_11 : decode cX9_put 11 = .ok (.ifCond .ne 9, 3) := dk_154 0 9 (dk_at dksX9_put_0 11 rfl rfl)
theorem dX9_put_14 : decode cX9_put 14 = .ok (.aload_n 0, 1) := dk_42 (dk_at dksX9_put_0 14 rfl rfl)
theorem dX9_put_15 : decode cX9_put 15 = .ok (.iconst (-1), 1) := dk_2 (dk_at dksX9_put_0 15 rfl rfl)
theorem dX9_put_16 : decode cX9_put 16 = .ok (.invokevirtual 105, 3) := dk_182 0 105 (dk_at dksX9_put_0 16 rfl rfl)
theorem dX9_put_19 : decode cX9_put 19 = .ok (.ireturn, 1) := dk_172 (dk_at dksX9_put_0 19 rfl rfl)
theorem dX9_put_20 : decode cX9_put 20 = .ok (.aload_n 0, 1) := dk_42 (dk_at dksX9_put_0 20 rfl rfl)
theorem dX9_put_21 : decode cX9_put 21 = .ok (.iload_n 1, 1) := dk_27 (dk_at dksX9_put_0 21 rfl rfl)
theorem dX9_put_22 : decode cX9_put 22 = .ok (.invokevirtual 154, 3) := dk_182 0 154 (dk_at dksX9_put_1 0 rfl rfl)
theorem dX9_put_25 : decode cX9_put 25 = .ok (.ifCond .ne 10, 3) := dk_154 0 10 (dk_at dksX9_put_1 3 rfl rfl)
theorem dX9_put_28 : decode cX9_put 28 = .ok (.aload_n 0, 1) := dk_42 (dk_at dksX9_put_1 6 rfl rfl)
theorem dX9_put_29 : decode cX9_put 29 = .ok (.bipush (-2), 2) := dk_16 254 (dk_at dksX9_put_1 7 rfl rfl)
theorem dX9_put_31 : decode cX9_put 31 = .ok (.invokevirtual 105, 3) := dk_182 0 105 (dk_at dksX9_put_1 9 rfl rfl)
theorem dX9_put_34 : decode cX9_put 34 = .ok (.ireturn, 1) := dk_172 (dk_at dksX9_put_1 12 rfl rfl)
theorem dX9_put_35 : decode cX9_put 35 = .ok (.aload_n 0, 1) := dk_42 (dk_at dksX9_put_1 13 rfl rfl)
theorem dX9_put_36 : decode cX9_put 36 = .ok (.iload_n 1, 1) := dk_27 (dk_at dksX9_put_1 14 rfl rfl)
theorem dX9_put_37 : decode cX9_put 37 = .ok (.invokevirtual 115, 3) := dk_182 0 115 (dk_at dksX9_put_1 15 rfl rfl)
theorem dX9_put_40 : decode cX9_put 40 = .ok (.ifCond .ne 14, 3) := dk_154 0 14 (dk_at dksX9_put_1 18 rfl rfl)
theorem dX9_put_43 : decode cX9_put 43 = .ok (.aload_n 0, 1) := dk_42 (dk_at dksX9_put_1 21 rfl rfl)
theorem dX9_put_44 : decode cX9_put 44 = .ok (.iload_n 1, 1) := dk_27 (dk_at dksX9_put_1 22 rfl rfl)
theorem dX9_put_45 : decode cX9_put 45 = .ok (.iload_n 2, 1) := dk_28 (dk_at dksX9_put_1 23 rfl rfl)
theorem dX9_put_46 : decode cX9_put 46 = .ok (.iload_n 3, 1) := dk_29 (dk_at dksX9_put_2 0 rfl rfl)
theorem dX9_put_47 : decode cX9_put 47 = .ok (.iconst 0, 1) := dk_3 (dk_at dksX9_put_2 1 rfl rfl)
theorem dX9_put_48 : decode cX9_put 48 = .ok (.invokevirtual 157, 3) := dk_182 0 157 (dk_at dksX9_put_2 2 rfl rfl)
theorem dX9_put_51 : decode cX9_put 51 = .ok (.ifCond .ne 10, 3) := dk_154 0 10 (dk_at dksX9_put_2 5 rfl rfl)
theorem dX9_put_54 : decode cX9_put 54 = .ok (.aload_n 0, 1) := dk_42 (dk_at dksX9_put_2 8 rfl rfl)
theorem dX9_put_55 : decode cX9_put 55 = .ok (.bipush (-4), 2) := dk_16 252 (dk_at dksX9_put_2 9 rfl rfl)
theorem dX9_put_57 : decode cX9_put 57 = .ok (.invokevirtual 105, 3) := dk_182 0 105 (dk_at dksX9_put_2 11 rfl rfl)
theorem dX9_put_60 : decode cX9_put 60 = .ok (.ireturn, 1) := dk_172 (dk_at dksX9_put_2 14 rfl rfl)
theorem dX9_put_61 : decode cX9_put 61 = .ok (.aload_n 0, 1) := dk_42 (dk_at dksX9_put_2 15 rfl rfl)
theorem dX9_put_62 : decode cX9_put 62 = .ok (.bipush 8, 2) := dk_16 8 (dk_at dksX9_put_2 16 rfl rfl)
theorem dX9_put_64 : decode cX9_put 64 = .ok (.invokevirtual 186, 3) := dk_182 0 186 (dk_at dksX9_put_2 18 rfl rfl)
theorem dX9_put_67 : decode cX9_put 67 = .ok (.aload_n 0, 1) := dk_42 (dk_at dksX9_put_2 21 rfl rfl)
theorem dX9_put_68 : decode cX9_put 68 = .ok (.iload_n 1, 1) := dk_27 (dk_at dksX9_put_2 22 rfl rfl)
theorem dX9_put_69 : decode cX9_put 69 = .ok (.iload_n 2, 1) := dk_28 (dk_at dksX9_put_2 23 rfl rfl)
theorem dX9_put_70 : decode cX9_put 70 = .ok (.iload_n 3, 1) := dk_29 (dk_at dksX9_put_3 0 rfl rfl)
theorem dX9_put_71 : decode cX9_put 71 = .ok (.invokevirtual 219, 3) := dk_182 0 219 (dk_at dksX9_put_3 1 rfl rfl)
theorem dX9_put_74 : decode cX9_put 74 = .ok (.aload_n 0, 1) := dk_42 (dk_at dksX9_put_3 4 rfl rfl)
theorem dX9_put_75 : decode cX9_put 75 = .ok (.aload_n 0, 1) := dk_42 (dk_at dksX9_put_3 5 rfl rfl)
theorem dX9_put_76 : decode cX9_put 76 = .ok (.invokevirtual 223, 3) := dk_182 0 223 (dk_at dksX9_put_3 6 rfl rfl)
theorem dX9_put_79 : decode cX9_put 79 = .ok (.invokevirtual 109, 3) := dk_182 0 109 (dk_at dksX9_put_3 9 rfl rfl)
theorem dX9_put_82 : decode cX9_put 82 = .ok (.ireturn, 1) := dk_172 (dk_at dksX9_put_3 12 rfl rfl)
abbrev cX9_wire : ByteArray := prog_15_method_60_code
def yX9_wire : MethodName := ⟨RX9, "wire", "()I"⟩
def dkwX9_wire_1 : List UInt8 := [42, 28, 182, 1, 0, 104, 96, 60, 132, 2, 1, 167, 255, 225, 27, 172]
abbrev dktX9_wire_1 : List UInt8 := dkwX9_wire_1 ++ []
def dkwX9_wire_0 : List UInt8 := [3, 60, 3, 61, 28, 42, 180, 0, 16, 6, 46, 162, 0, 27, 27, 42, 180, 0, 16, 28, 184, 0, 208, 46]
abbrev dktX9_wire_0 : List UInt8 := dkwX9_wire_0 ++ dktX9_wire_1
theorem dksX9_wire_0 : cX9_wire.data.toList.drop 0 = dktX9_wire_0 := by decide +kernel
theorem dksX9_wire_1 : cX9_wire.data.toList.drop 24 = dktX9_wire_1 := dk_seg dksX9_wire_0 24 rfl rfl
theorem dX9_wire_0 : decode cX9_wire 0 = .ok (.iconst 0, 1) := dk_3 (dk_at dksX9_wire_0 0 rfl rfl)
theorem dX9_wire_1 : decode cX9_wire 1 = .ok (.istore_n 1, 1) := dk_60 (dk_at dksX9_wire_0 1 rfl rfl)
theorem dX9_wire_2 : decode cX9_wire 2 = .ok (.iconst 0, 1) := dk_3 (dk_at dksX9_wire_0 2 rfl rfl)
theorem dX9_wire_3 : decode cX9_wire 3 = .ok (.istore_n 2, 1) := dk_61 (dk_at dksX9_wire_0 3 rfl rfl)
theorem dX9_wire_4 : decode cX9_wire 4 = .ok (.iload_n 2, 1) := dk_28 (dk_at dksX9_wire_0 4 rfl rfl)
theorem dX9_wire_5 : decode cX9_wire 5 = .ok (.aload_n 0, 1) := dk_42 (dk_at dksX9_wire_0 5 rfl rfl)
theorem dX9_wire_6 : decode cX9_wire 6 = .ok (.getfield 16, 3) := dk_180 0 16 (dk_at dksX9_wire_0 6 rfl rfl)
theorem dX9_wire_9 : decode cX9_wire 9 = .ok (.iconst 3, 1) := dk_6 (dk_at dksX9_wire_0 9 rfl rfl)
theorem dX9_wire_10 : decode cX9_wire 10 = .ok (.iaload, 1) := dk_46 (dk_at dksX9_wire_0 10 rfl rfl)
theorem dX9_wire_11 : decode cX9_wire 11 = .ok (.if_icmp .ge 27, 3) := dk_162 0 27 (dk_at dksX9_wire_0 11 rfl rfl)
theorem dX9_wire_14 : decode cX9_wire 14 = .ok (.iload_n 1, 1) := dk_27 (dk_at dksX9_wire_0 14 rfl rfl)
theorem dX9_wire_15 : decode cX9_wire 15 = .ok (.aload_n 0, 1) := dk_42 (dk_at dksX9_wire_0 15 rfl rfl)
theorem dX9_wire_16 : decode cX9_wire 16 = .ok (.getfield 16, 3) := dk_180 0 16 (dk_at dksX9_wire_0 16 rfl rfl)
theorem dX9_wire_19 : decode cX9_wire 19 = .ok (.iload_n 2, 1) := dk_28 (dk_at dksX9_wire_0 19 rfl rfl)
theorem dX9_wire_20 : decode cX9_wire 20 = .ok (.invokestatic 208, 3) := dk_184 0 208 (dk_at dksX9_wire_0 20 rfl rfl)
theorem dX9_wire_23 : decode cX9_wire 23 = .ok (.iaload, 1) := dk_46 (dk_at dksX9_wire_0 23 rfl rfl)
theorem dX9_wire_24 : decode cX9_wire 24 = .ok (.aload_n 0, 1) := dk_42 (dk_at dksX9_wire_1 0 rfl rfl)
theorem dX9_wire_25 : decode cX9_wire 25 = .ok (.iload_n 2, 1) := dk_28 (dk_at dksX9_wire_1 1 rfl rfl)
theorem dX9_wire_26 : decode cX9_wire 26 = .ok (.invokevirtual 256, 3) := dk_182 1 0 (dk_at dksX9_wire_1 2 rfl rfl)
theorem dX9_wire_29 : decode cX9_wire 29 = .ok (.imul, 1) := dk_104 (dk_at dksX9_wire_1 5 rfl rfl)
theorem dX9_wire_30 : decode cX9_wire 30 = .ok (.iadd, 1) := dk_96 (dk_at dksX9_wire_1 6 rfl rfl)
theorem dX9_wire_31 : decode cX9_wire 31 = .ok (.istore_n 1, 1) := dk_60 (dk_at dksX9_wire_1 7 rfl rfl)
theorem dX9_wire_32 : decode cX9_wire 32 = .ok (.iinc 2 1, 3) := dk_132 2 1 (dk_at dksX9_wire_1 8 rfl rfl)
theorem dX9_wire_35 : decode cX9_wire 35 = .ok (.goto (-31), 3) := dk_167 255 225 (dk_at dksX9_wire_1 11 rfl rfl)
theorem dX9_wire_38 : decode cX9_wire 38 = .ok (.iload_n 1, 1) := dk_27 (dk_at dksX9_wire_1 14 rfl rfl)
theorem dX9_wire_39 : decode cX9_wire 39 = .ok (.ireturn, 1) := dk_172 (dk_at dksX9_wire_1 15 rfl rfl)
abbrev cX9_span : ByteArray := prog_15_method_59_code
def yX9_span : MethodName := ⟨RX9, "span", "(I)I"⟩
def dkwX9_span_1 : List UInt8 := [4, 182, 0, 249, 42, 27, 4, 4, 182, 0, 253, 100, 104, 96, 172]
abbrev dktX9_span_1 : List UInt8 := dkwX9_span_1 ++ []
def dkwX9_span_0 : List UInt8 := [42, 27, 4, 3, 182, 0, 249, 42, 27, 4, 3, 182, 0, 253, 100, 42, 180, 0, 13, 7, 46, 42, 27, 4]
abbrev dktX9_span_0 : List UInt8 := dkwX9_span_0 ++ dktX9_span_1
theorem dksX9_span_0 : cX9_span.data.toList.drop 0 = dktX9_span_0 := by decide +kernel
theorem dksX9_span_1 : cX9_span.data.toList.drop 24 = dktX9_span_1 := dk_seg dksX9_span_0 24 rfl rfl
theorem dX9_span_0 : decode cX9_span 0 = .ok (.aload_n 0, 1) := dk_42 (dk_at dksX9_span_0 0 rfl rfl)
theorem dX9_span_1 : decode cX9_span 1 = .ok (.iload_n 1, 1) := dk_27 (dk_at dksX9_span_0 1 rfl rfl)
theorem dX9_span_2 : decode cX9_span 2 = .ok (.iconst 1, 1) := dk_4 (dk_at dksX9_span_0 2 rfl rfl)
theorem dX9_span_3 : decode cX9_span 3 = .ok (.iconst 0, 1) := dk_3 (dk_at dksX9_span_0 3 rfl rfl)
theorem dX9_span_4 : decode cX9_span 4 = .ok (.invokevirtual 249, 3) := dk_182 0 249 (dk_at dksX9_span_0 4 rfl rfl)
theorem dX9_span_7 : decode cX9_span 7 = .ok (.aload_n 0, 1) := dk_42 (dk_at dksX9_span_0 7 rfl rfl)
theorem dX9_span_8 : decode cX9_span 8 = .ok (.iload_n 1, 1) := dk_27 (dk_at dksX9_span_0 8 rfl rfl)
theorem dX9_span_9 : decode cX9_span 9 = .ok (.iconst 1, 1) := dk_4 (dk_at dksX9_span_0 9 rfl rfl)
theorem dX9_span_10 : decode cX9_span 10 = .ok (.iconst 0, 1) := dk_3 (dk_at dksX9_span_0 10 rfl rfl)
theorem dX9_span_11 : decode cX9_span 11 = .ok (.invokevirtual 253, 3) := dk_182 0 253 (dk_at dksX9_span_0 11 rfl rfl)
theorem dX9_span_14 : decode cX9_span 14 = .ok (.isub, 1) := dk_100 (dk_at dksX9_span_0 14 rfl rfl)
theorem dX9_span_15 : decode cX9_span 15 = .ok (.aload_n 0, 1) := dk_42 (dk_at dksX9_span_0 15 rfl rfl)
theorem dX9_span_16 : decode cX9_span 16 = .ok (.getfield 13, 3) := dk_180 0 13 (dk_at dksX9_span_0 16 rfl rfl)
theorem dX9_span_19 : decode cX9_span 19 = .ok (.iconst 4, 1) := dk_7 (dk_at dksX9_span_0 19 rfl rfl)
theorem dX9_span_20 : decode cX9_span 20 = .ok (.iaload, 1) := dk_46 (dk_at dksX9_span_0 20 rfl rfl)
theorem dX9_span_21 : decode cX9_span 21 = .ok (.aload_n 0, 1) := dk_42 (dk_at dksX9_span_0 21 rfl rfl)
theorem dX9_span_22 : decode cX9_span 22 = .ok (.iload_n 1, 1) := dk_27 (dk_at dksX9_span_0 22 rfl rfl)
theorem dX9_span_23 : decode cX9_span 23 = .ok (.iconst 1, 1) := dk_4 (dk_at dksX9_span_0 23 rfl rfl)
theorem dX9_span_24 : decode cX9_span 24 = .ok (.iconst 1, 1) := dk_4 (dk_at dksX9_span_1 0 rfl rfl)
theorem dX9_span_25 : decode cX9_span 25 = .ok (.invokevirtual 249, 3) := dk_182 0 249 (dk_at dksX9_span_1 1 rfl rfl)
theorem dX9_span_28 : decode cX9_span 28 = .ok (.aload_n 0, 1) := dk_42 (dk_at dksX9_span_1 4 rfl rfl)
theorem dX9_span_29 : decode cX9_span 29 = .ok (.iload_n 1, 1) := dk_27 (dk_at dksX9_span_1 5 rfl rfl)
theorem dX9_span_30 : decode cX9_span 30 = .ok (.iconst 1, 1) := dk_4 (dk_at dksX9_span_1 6 rfl rfl)
theorem dX9_span_31 : decode cX9_span 31 = .ok (.iconst 1, 1) := dk_4 (dk_at dksX9_span_1 7 rfl rfl)
theorem dX9_span_32 : decode cX9_span 32 = .ok (.invokevirtual 253, 3) := dk_182 0 253 (dk_at dksX9_span_1 8 rfl rfl)
theorem dX9_span_35 : decode cX9_span 35 = .ok (.isub, 1) := dk_100 (dk_at dksX9_span_1 11 rfl rfl)
theorem dX9_span_36 : decode cX9_span 36 = .ok (.imul, 1) := dk_104 (dk_at dksX9_span_1 12 rfl rfl)
theorem dX9_span_37 : decode cX9_span 37 = .ok (.iadd, 1) := dk_96 (dk_at dksX9_span_1 13 rfl rfl)
theorem dX9_span_38 : decode cX9_span 38 = .ok (.ireturn, 1) := dk_172 (dk_at dksX9_span_1 14 rfl rfl)
abbrev cX9_greatestOf : ByteArray := prog_15_method_58_code
def yX9_greatestOf : MethodName := ⟨RX9, "greatestOf", "(IZZ)I"⟩
def dkwX9_greatestOf_2 : List UInt8 := [167, 255, 216, 21, 4, 172]
abbrev dktX9_greatestOf_2 : List UInt8 := dkwX9_greatestOf_2 ++ []
def dkwX9_greatestOf_1 : List UInt8 := [182, 0, 244, 54, 6, 21, 6, 21, 4, 164, 0, 8, 21, 6, 167, 0, 5, 21, 4, 54, 4, 132, 5, 1]
abbrev dktX9_greatestOf_1 : List UInt8 := dkwX9_greatestOf_1 ++ dktX9_greatestOf_2
def dkwX9_greatestOf_0 : List UInt8 := [18, 248, 54, 4, 3, 54, 5, 21, 5, 42, 27, 182, 0, 241, 162, 0, 36, 42, 27, 21, 5, 28, 29]
abbrev dktX9_greatestOf_0 : List UInt8 := dkwX9_greatestOf_0 ++ dktX9_greatestOf_1
theorem dksX9_greatestOf_0 : cX9_greatestOf.data.toList.drop 0 = dktX9_greatestOf_0 := by decide +kernel
theorem dksX9_greatestOf_1 : cX9_greatestOf.data.toList.drop 23 = dktX9_greatestOf_1 := dk_seg dksX9_greatestOf_0 23 rfl rfl
theorem dksX9_greatestOf_2 : cX9_greatestOf.data.toList.drop 47 = dktX9_greatestOf_2 := dk_seg dksX9_greatestOf_1 24 rfl rfl
theorem dX9_greatestOf_0 : decode cX9_greatestOf 0 = .ok (.ldc 248, 2) := dk_18 248 (dk_at dksX9_greatestOf_0 0 rfl rfl)
theorem dX9_greatestOf_2 : decode cX9_greatestOf 2 = .ok (.istore 4, 2) := dk_54 4 (dk_at dksX9_greatestOf_0 2 rfl rfl)
theorem dX9_greatestOf_4 : decode cX9_greatestOf 4 = .ok (.iconst 0, 1) := dk_3 (dk_at dksX9_greatestOf_0 4 rfl rfl)
theorem dX9_greatestOf_5 : decode cX9_greatestOf 5 = .ok (.istore 5, 2) := dk_54 5 (dk_at dksX9_greatestOf_0 5 rfl rfl)
theorem dX9_greatestOf_7 : decode cX9_greatestOf 7 = .ok (.iload 5, 2) := dk_21 5 (dk_at dksX9_greatestOf_0 7 rfl rfl)
theorem dX9_greatestOf_9 : decode cX9_greatestOf 9 = .ok (.aload_n 0, 1) := dk_42 (dk_at dksX9_greatestOf_0 9 rfl rfl)
theorem dX9_greatestOf_10 : decode cX9_greatestOf 10 = .ok (.iload_n 1, 1) := dk_27 (dk_at dksX9_greatestOf_0 10 rfl rfl)
theorem dX9_greatestOf_11 : decode cX9_greatestOf 11 = .ok (.invokevirtual 241, 3) := dk_182 0 241 (dk_at dksX9_greatestOf_0 11 rfl rfl)
theorem dX9_greatestOf_14 : decode cX9_greatestOf 14 = .ok (.if_icmp .ge 36, 3) := dk_162 0 36 (dk_at dksX9_greatestOf_0 14 rfl rfl)
theorem dX9_greatestOf_17 : decode cX9_greatestOf 17 = .ok (.aload_n 0, 1) := dk_42 (dk_at dksX9_greatestOf_0 17 rfl rfl)
theorem dX9_greatestOf_18 : decode cX9_greatestOf 18 = .ok (.iload_n 1, 1) := dk_27 (dk_at dksX9_greatestOf_0 18 rfl rfl)
theorem dX9_greatestOf_19 : decode cX9_greatestOf 19 = .ok (.iload 5, 2) := dk_21 5 (dk_at dksX9_greatestOf_0 19 rfl rfl)
theorem dX9_greatestOf_21 : decode cX9_greatestOf 21 = .ok (.iload_n 2, 1) := dk_28 (dk_at dksX9_greatestOf_0 21 rfl rfl)
theorem dX9_greatestOf_22 : decode cX9_greatestOf 22 = .ok (.iload_n 3, 1) := dk_29 (dk_at dksX9_greatestOf_0 22 rfl rfl)
theorem dX9_greatestOf_23 : decode cX9_greatestOf 23 = .ok (.invokevirtual 244, 3) := dk_182 0 244 (dk_at dksX9_greatestOf_1 0 rfl rfl)
theorem dX9_greatestOf_26 : decode cX9_greatestOf 26 = .ok (.istore 6, 2) := dk_54 6 (dk_at dksX9_greatestOf_1 3 rfl rfl)
theorem dX9_greatestOf_28 : decode cX9_greatestOf 28 = .ok (.iload 6, 2) := dk_21 6 (dk_at dksX9_greatestOf_1 5 rfl rfl)
theorem dX9_greatestOf_30 : decode cX9_greatestOf 30 = .ok (.iload 4, 2) := dk_21 4 (dk_at dksX9_greatestOf_1 7 rfl rfl)
theorem dX9_greatestOf_32 : decode cX9_greatestOf 32 = .ok (.if_icmp .le 8, 3) := dk_164 0 8 (dk_at dksX9_greatestOf_1 9 rfl rfl)
theorem dX9_greatestOf_35 : decode cX9_greatestOf 35 = .ok (.iload 6, 2) := dk_21 6 (dk_at dksX9_greatestOf_1 12 rfl rfl)
theorem dX9_greatestOf_37 : decode cX9_greatestOf 37 = .ok (.goto 5, 3) := dk_167 0 5 (dk_at dksX9_greatestOf_1 14 rfl rfl)
theorem dX9_greatestOf_40 : decode cX9_greatestOf 40 = .ok (.iload 4, 2) := dk_21 4 (dk_at dksX9_greatestOf_1 17 rfl rfl)
theorem dX9_greatestOf_42 : decode cX9_greatestOf 42 = .ok (.istore 4, 2) := dk_54 4 (dk_at dksX9_greatestOf_1 19 rfl rfl)
theorem dX9_greatestOf_44 : decode cX9_greatestOf 44 = .ok (.iinc 5 1, 3) := dk_132 5 1 (dk_at dksX9_greatestOf_1 21 rfl rfl)
theorem dX9_greatestOf_47 : decode cX9_greatestOf 47 = .ok (.goto (-40), 3) := dk_167 255 216 (dk_at dksX9_greatestOf_2 0 rfl rfl)
theorem dX9_greatestOf_50 : decode cX9_greatestOf 50 = .ok (.iload 4, 2) := dk_21 4 (dk_at dksX9_greatestOf_2 3 rfl rfl)
theorem dX9_greatestOf_52 : decode cX9_greatestOf 52 = .ok (.ireturn, 1) := dk_172 (dk_at dksX9_greatestOf_2 5 rfl rfl)
abbrev cX9_pinMany : ByteArray := prog_15_method_51_code
def yX9_pinMany : MethodName := ⟨RX9, "pinMany", "(I)I"⟩
def dkwX9_pinMany_0 : List UInt8 := [42, 180, 0, 16, 27, 184, 0, 208, 4, 96, 46, 172]
abbrev dktX9_pinMany_0 : List UInt8 := dkwX9_pinMany_0 ++ []
theorem dksX9_pinMany_0 : cX9_pinMany.data.toList.drop 0 = dktX9_pinMany_0 := by decide +kernel
theorem dX9_pinMany_0 : decode cX9_pinMany 0 = .ok (.aload_n 0, 1) := dk_42 (dk_at dksX9_pinMany_0 0 rfl rfl)
theorem dX9_pinMany_1 : decode cX9_pinMany 1 = .ok (.getfield 16, 3) := dk_180 0 16 (dk_at dksX9_pinMany_0 1 rfl rfl)
theorem dX9_pinMany_4 : decode cX9_pinMany 4 = .ok (.iload_n 1, 1) := dk_27 (dk_at dksX9_pinMany_0 4 rfl rfl)
theorem dX9_pinMany_5 : decode cX9_pinMany 5 = .ok (.invokestatic 208, 3) := dk_184 0 208 (dk_at dksX9_pinMany_0 5 rfl rfl)
theorem dX9_pinMany_8 : decode cX9_pinMany 8 = .ok (.iconst 1, 1) := dk_4 (dk_at dksX9_pinMany_0 8 rfl rfl)
theorem dX9_pinMany_9 : decode cX9_pinMany 9 = .ok (.iadd, 1) := dk_96 (dk_at dksX9_pinMany_0 9 rfl rfl)
theorem dX9_pinMany_10 : decode cX9_pinMany 10 = .ok (.iaload, 1) := dk_46 (dk_at dksX9_pinMany_0 10 rfl rfl)
theorem dX9_pinMany_11 : decode cX9_pinMany 11 = .ok (.ireturn, 1) := dk_172 (dk_at dksX9_pinMany_0 11 rfl rfl)
abbrev cX9_pinIs : ByteArray := prog_15_method_56_code
def yX9_pinIs : MethodName := ⟨RX9, "pinIs", "(IIZZ)I"⟩
def dkwX9_pinIs_0 : List UInt8 := [21, 4, 153, 0, 13, 42, 27, 28, 29, 182, 0, 233, 167, 0, 10, 42, 27, 28, 29, 182, 0, 237, 172]
abbrev dktX9_pinIs_0 : List UInt8 := dkwX9_pinIs_0 ++ []
theorem dksX9_pinIs_0 : cX9_pinIs.data.toList.drop 0 = dktX9_pinIs_0 := by decide +kernel
theorem dX9_pinIs_0 : decode cX9_pinIs 0 = .ok (.iload 4, 2) := dk_21 4 (dk_at dksX9_pinIs_0 0 rfl rfl)
theorem dX9_pinIs_2 : decode cX9_pinIs 2 = .ok (.ifCond .eq 13, 3) := dk_153 0 13 (dk_at dksX9_pinIs_0 2 rfl rfl)
theorem dX9_pinIs_5 : decode cX9_pinIs 5 = .ok (.aload_n 0, 1) := dk_42 (dk_at dksX9_pinIs_0 5 rfl rfl)
theorem dX9_pinIs_6 : decode cX9_pinIs 6 = .ok (.iload_n 1, 1) := dk_27 (dk_at dksX9_pinIs_0 6 rfl rfl)
theorem dX9_pinIs_7 : decode cX9_pinIs 7 = .ok (.iload_n 2, 1) := dk_28 (dk_at dksX9_pinIs_0 7 rfl rfl)
theorem dX9_pinIs_8 : decode cX9_pinIs 8 = .ok (.iload_n 3, 1) := dk_29 (dk_at dksX9_pinIs_0 8 rfl rfl)
theorem dX9_pinIs_9 : decode cX9_pinIs 9 = .ok (.invokevirtual 233, 3) := dk_182 0 233 (dk_at dksX9_pinIs_0 9 rfl rfl)
theorem dX9_pinIs_12 : decode cX9_pinIs 12 = .ok (.goto 10, 3) := dk_167 0 10 (dk_at dksX9_pinIs_0 12 rfl rfl)
theorem dX9_pinIs_15 : decode cX9_pinIs 15 = .ok (.aload_n 0, 1) := dk_42 (dk_at dksX9_pinIs_0 15 rfl rfl)
theorem dX9_pinIs_16 : decode cX9_pinIs 16 = .ok (.iload_n 1, 1) := dk_27 (dk_at dksX9_pinIs_0 16 rfl rfl)
theorem dX9_pinIs_17 : decode cX9_pinIs 17 = .ok (.iload_n 2, 1) := dk_28 (dk_at dksX9_pinIs_0 17 rfl rfl)
theorem dX9_pinIs_18 : decode cX9_pinIs 18 = .ok (.iload_n 3, 1) := dk_29 (dk_at dksX9_pinIs_0 18 rfl rfl)
theorem dX9_pinIs_19 : decode cX9_pinIs 19 = .ok (.invokevirtual 237, 3) := dk_182 0 237 (dk_at dksX9_pinIs_0 19 rfl rfl)
theorem dX9_pinIs_22 : decode cX9_pinIs 22 = .ok (.ireturn, 1) := dk_172 (dk_at dksX9_pinIs_0 22 rfl rfl)
abbrev cX9_pinY : ByteArray := prog_15_method_55_code
def yX9_pinY : MethodName := ⟨RX9, "pinY", "(IIZ)I"⟩
def dkwX9_pinY_3 : List UInt8 := [42, 180, 0, 16, 21, 4, 184, 0, 112, 7, 96, 46, 16, 8, 96, 172]
abbrev dktX9_pinY_3 : List UInt8 := dkwX9_pinY_3 ++ []
def dkwX9_pinY_2 : List UInt8 := [182, 0, 119, 153, 0, 21, 16, 16, 42, 180, 0, 16, 21, 4, 184, 0, 112, 8, 96, 46, 104, 167, 0, 15]
abbrev dktX9_pinY_2 : List UInt8 := dkwX9_pinY_2 ++ dktX9_pinY_3
def dkwX9_pinY_1 : List UInt8 := [5, 96, 5, 28, 104, 96, 46, 17, 0, 200, 100, 104, 16, 8, 96, 172, 29, 153, 0, 30, 42, 21, 4]
abbrev dktX9_pinY_1 : List UInt8 := dkwX9_pinY_1 ++ dktX9_pinY_2
def dkwX9_pinY_0 : List UInt8 := [42, 27, 28, 182, 0, 227, 54, 4, 21, 4, 2, 160, 0, 29, 16, 16, 42, 180, 0, 16, 27, 184, 0, 208]
abbrev dktX9_pinY_0 : List UInt8 := dkwX9_pinY_0 ++ dktX9_pinY_1
theorem dksX9_pinY_0 : cX9_pinY.data.toList.drop 0 = dktX9_pinY_0 := by decide +kernel
theorem dksX9_pinY_1 : cX9_pinY.data.toList.drop 24 = dktX9_pinY_1 := dk_seg dksX9_pinY_0 24 rfl rfl
theorem dksX9_pinY_2 : cX9_pinY.data.toList.drop 47 = dktX9_pinY_2 := dk_seg dksX9_pinY_1 23 rfl rfl
theorem dksX9_pinY_3 : cX9_pinY.data.toList.drop 71 = dktX9_pinY_3 := dk_seg dksX9_pinY_2 24 rfl rfl
theorem dX9_pinY_0 : decode cX9_pinY 0 = .ok (.aload_n 0, 1) := dk_42 (dk_at dksX9_pinY_0 0 rfl rfl)
theorem dX9_pinY_1 : decode cX9_pinY 1 = .ok (.iload_n 1, 1) := dk_27 (dk_at dksX9_pinY_0 1 rfl rfl)
theorem dX9_pinY_2 : decode cX9_pinY 2 = .ok (.iload_n 2, 1) := dk_28 (dk_at dksX9_pinY_0 2 rfl rfl)
theorem dX9_pinY_3 : decode cX9_pinY 3 = .ok (.invokevirtual 227, 3) := dk_182 0 227 (dk_at dksX9_pinY_0 3 rfl rfl)
theorem dX9_pinY_6 : decode cX9_pinY 6 = .ok (.istore 4, 2) := dk_54 4 (dk_at dksX9_pinY_0 6 rfl rfl)
theorem dX9_pinY_8 : decode cX9_pinY 8 = .ok (.iload 4, 2) := dk_21 4 (dk_at dksX9_pinY_0 8 rfl rfl)
theorem dX9_pinY_10 : decode cX9_pinY 10 = .ok (.iconst (-1), 1) := dk_2 (dk_at dksX9_pinY_0 10 rfl rfl)
theorem dX9_pinY_11 : decode cX9_pinY 11 = .ok (.if_icmp .ne 29, 3) := dk_160 0 29 (dk_at dksX9_pinY_0 11 rfl rfl)
theorem dX9_pinY_14 : decode cX9_pinY 14 = .ok (.bipush 16, 2) := dk_16 16 (dk_at dksX9_pinY_0 14 rfl rfl)
theorem dX9_pinY_16 : decode cX9_pinY 16 = .ok (.aload_n 0, 1) := dk_42 (dk_at dksX9_pinY_0 16 rfl rfl)
theorem dX9_pinY_17 : decode cX9_pinY 17 = .ok (.getfield 16, 3) := dk_180 0 16 (dk_at dksX9_pinY_0 17 rfl rfl)
theorem dX9_pinY_20 : decode cX9_pinY 20 = .ok (.iload_n 1, 1) := dk_27 (dk_at dksX9_pinY_0 20 rfl rfl)
theorem dX9_pinY_21 : decode cX9_pinY 21 = .ok (.invokestatic 208, 3) := dk_184 0 208 (dk_at dksX9_pinY_0 21 rfl rfl)
theorem dX9_pinY_24 : decode cX9_pinY 24 = .ok (.iconst 2, 1) := dk_5 (dk_at dksX9_pinY_1 0 rfl rfl)
theorem dX9_pinY_25 : decode cX9_pinY 25 = .ok (.iadd, 1) := dk_96 (dk_at dksX9_pinY_1 1 rfl rfl)
theorem dX9_pinY_26 : decode cX9_pinY 26 = .ok (.iconst 2, 1) := dk_5 (dk_at dksX9_pinY_1 2 rfl rfl)
theorem dX9_pinY_27 : decode cX9_pinY 27 = .ok (.iload_n 2, 1) := dk_28 (dk_at dksX9_pinY_1 3 rfl rfl)
theorem dX9_pinY_28 : decode cX9_pinY 28 = .ok (.imul, 1) := dk_104 (dk_at dksX9_pinY_1 4 rfl rfl)
theorem dX9_pinY_29 : decode cX9_pinY 29 = .ok (.iadd, 1) := dk_96 (dk_at dksX9_pinY_1 5 rfl rfl)
theorem dX9_pinY_30 : decode cX9_pinY 30 = .ok (.iaload, 1) := dk_46 (dk_at dksX9_pinY_1 6 rfl rfl)
theorem dX9_pinY_31 : decode cX9_pinY 31 = .ok (.sipush 200, 3) := dk_17 0 200 (dk_at dksX9_pinY_1 7 rfl rfl)
theorem dX9_pinY_34 : decode cX9_pinY 34 = .ok (.isub, 1) := dk_100 (dk_at dksX9_pinY_1 10 rfl rfl)
theorem dX9_pinY_35 : decode cX9_pinY 35 = .ok (.imul, 1) := dk_104 (dk_at dksX9_pinY_1 11 rfl rfl)
theorem dX9_pinY_36 : decode cX9_pinY 36 = .ok (.bipush 8, 2) := dk_16 8 (dk_at dksX9_pinY_1 12 rfl rfl)
theorem dX9_pinY_38 : decode cX9_pinY 38 = .ok (.iadd, 1) := dk_96 (dk_at dksX9_pinY_1 14 rfl rfl)
theorem dX9_pinY_39 : decode cX9_pinY 39 = .ok (.ireturn, 1) := dk_172 (dk_at dksX9_pinY_1 15 rfl rfl)
theorem dX9_pinY_40 : decode cX9_pinY 40 = .ok (.iload_n 3, 1) := dk_29 (dk_at dksX9_pinY_1 16 rfl rfl)
theorem dX9_pinY_41 : decode cX9_pinY 41 = .ok (.ifCond .eq 30, 3) := dk_153 0 30 (dk_at dksX9_pinY_1 17 rfl rfl)
theorem dX9_pinY_44 : decode cX9_pinY 44 = .ok (.aload_n 0, 1) := dk_42 (dk_at dksX9_pinY_1 20 rfl rfl)
theorem dX9_pinY_45 : decode cX9_pinY 45 = .ok (.iload 4, 2) := dk_21 4 (dk_at dksX9_pinY_1 21 rfl rfl)
theorem dX9_pinY_47 : decode cX9_pinY 47 = .ok (.invokevirtual 119, 3) := dk_182 0 119 (dk_at dksX9_pinY_2 0 rfl rfl)
theorem dX9_pinY_50 : decode cX9_pinY 50 = .ok (.ifCond .eq 21, 3) := dk_153 0 21 (dk_at dksX9_pinY_2 3 rfl rfl)
theorem dX9_pinY_53 : decode cX9_pinY 53 = .ok (.bipush 16, 2) := dk_16 16 (dk_at dksX9_pinY_2 6 rfl rfl)
theorem dX9_pinY_55 : decode cX9_pinY 55 = .ok (.aload_n 0, 1) := dk_42 (dk_at dksX9_pinY_2 8 rfl rfl)
theorem dX9_pinY_56 : decode cX9_pinY 56 = .ok (.getfield 16, 3) := dk_180 0 16 (dk_at dksX9_pinY_2 9 rfl rfl)
theorem dX9_pinY_59 : decode cX9_pinY 59 = .ok (.iload 4, 2) := dk_21 4 (dk_at dksX9_pinY_2 12 rfl rfl)
theorem dX9_pinY_61 : decode cX9_pinY 61 = .ok (.invokestatic 112, 3) := dk_184 0 112 (dk_at dksX9_pinY_2 14 rfl rfl)
theorem dX9_pinY_64 : decode cX9_pinY 64 = .ok (.iconst 5, 1) := dk_8 (dk_at dksX9_pinY_2 17 rfl rfl)
theorem dX9_pinY_65 : decode cX9_pinY 65 = .ok (.iadd, 1) := dk_96 (dk_at dksX9_pinY_2 18 rfl rfl)
theorem dX9_pinY_66 : decode cX9_pinY 66 = .ok (.iaload, 1) := dk_46 (dk_at dksX9_pinY_2 19 rfl rfl)
theorem dX9_pinY_67 : decode cX9_pinY 67 = .ok (.imul, 1) := dk_104 (dk_at dksX9_pinY_2 20 rfl rfl)
theorem dX9_pinY_68 : decode cX9_pinY 68 = .ok (.goto 15, 3) := dk_167 0 15 (dk_at dksX9_pinY_2 21 rfl rfl)
theorem dX9_pinY_71 : decode cX9_pinY 71 = .ok (.aload_n 0, 1) := dk_42 (dk_at dksX9_pinY_3 0 rfl rfl)
theorem dX9_pinY_72 : decode cX9_pinY 72 = .ok (.getfield 16, 3) := dk_180 0 16 (dk_at dksX9_pinY_3 1 rfl rfl)
theorem dX9_pinY_75 : decode cX9_pinY 75 = .ok (.iload 4, 2) := dk_21 4 (dk_at dksX9_pinY_3 4 rfl rfl)
theorem dX9_pinY_77 : decode cX9_pinY 77 = .ok (.invokestatic 112, 3) := dk_184 0 112 (dk_at dksX9_pinY_3 6 rfl rfl)
theorem dX9_pinY_80 : decode cX9_pinY 80 = .ok (.iconst 4, 1) := dk_7 (dk_at dksX9_pinY_3 9 rfl rfl)
theorem dX9_pinY_81 : decode cX9_pinY 81 = .ok (.iadd, 1) := dk_96 (dk_at dksX9_pinY_3 10 rfl rfl)
theorem dX9_pinY_82 : decode cX9_pinY 82 = .ok (.iaload, 1) := dk_46 (dk_at dksX9_pinY_3 11 rfl rfl)
theorem dX9_pinY_83 : decode cX9_pinY 83 = .ok (.bipush 8, 2) := dk_16 8 (dk_at dksX9_pinY_3 12 rfl rfl)
theorem dX9_pinY_85 : decode cX9_pinY 85 = .ok (.iadd, 1) := dk_96 (dk_at dksX9_pinY_3 14 rfl rfl)
theorem dX9_pinY_86 : decode cX9_pinY 86 = .ok (.ireturn, 1) := dk_172 (dk_at dksX9_pinY_3 15 rfl rfl)
abbrev cX9_pinCell : ByteArray := prog_15_method_52_code
def yX9_pinCell : MethodName := ⟨RX9, "pinCell", "(II)I"⟩
def dkwX9_pinCell_1 : List UInt8 := [167, 0, 4, 29, 172]
abbrev dktX9_pinCell_1 : List UInt8 := dkwX9_pinCell_1 ++ []
def dkwX9_pinCell_0 : List UInt8 := [42, 180, 0, 16, 27, 184, 0, 208, 5, 96, 5, 28, 104, 96, 46, 62, 29, 17, 0, 200, 161, 0, 7, 2]
abbrev dktX9_pinCell_0 : List UInt8 := dkwX9_pinCell_0 ++ dktX9_pinCell_1
theorem dksX9_pinCell_0 : cX9_pinCell.data.toList.drop 0 = dktX9_pinCell_0 := by decide +kernel
theorem dksX9_pinCell_1 : cX9_pinCell.data.toList.drop 24 = dktX9_pinCell_1 := dk_seg dksX9_pinCell_0 24 rfl rfl
theorem dX9_pinCell_0 : decode cX9_pinCell 0 = .ok (.aload_n 0, 1) := dk_42 (dk_at dksX9_pinCell_0 0 rfl rfl)
theorem dX9_pinCell_1 : decode cX9_pinCell 1 = .ok (.getfield 16, 3) := dk_180 0 16 (dk_at dksX9_pinCell_0 1 rfl rfl)
theorem dX9_pinCell_4 : decode cX9_pinCell 4 = .ok (.iload_n 1, 1) := dk_27 (dk_at dksX9_pinCell_0 4 rfl rfl)
theorem dX9_pinCell_5 : decode cX9_pinCell 5 = .ok (.invokestatic 208, 3) := dk_184 0 208 (dk_at dksX9_pinCell_0 5 rfl rfl)
theorem dX9_pinCell_8 : decode cX9_pinCell 8 = .ok (.iconst 2, 1) := dk_5 (dk_at dksX9_pinCell_0 8 rfl rfl)
theorem dX9_pinCell_9 : decode cX9_pinCell 9 = .ok (.iadd, 1) := dk_96 (dk_at dksX9_pinCell_0 9 rfl rfl)
theorem dX9_pinCell_10 : decode cX9_pinCell 10 = .ok (.iconst 2, 1) := dk_5 (dk_at dksX9_pinCell_0 10 rfl rfl)
theorem dX9_pinCell_11 : decode cX9_pinCell 11 = .ok (.iload_n 2, 1) := dk_28 (dk_at dksX9_pinCell_0 11 rfl rfl)
theorem dX9_pinCell_12 : decode cX9_pinCell 12 = .ok (.imul, 1) := dk_104 (dk_at dksX9_pinCell_0 12 rfl rfl)
theorem dX9_pinCell_13 : decode cX9_pinCell 13 = .ok (.iadd, 1) := dk_96 (dk_at dksX9_pinCell_0 13 rfl rfl)
theorem dX9_pinCell_14 : decode cX9_pinCell 14 = .ok (.iaload, 1) := dk_46 (dk_at dksX9_pinCell_0 14 rfl rfl)
theorem dX9_pinCell_15 : decode cX9_pinCell 15 = .ok (.istore_n 3, 1) := dk_62 (dk_at dksX9_pinCell_0 15 rfl rfl)
theorem dX9_pinCell_16 : decode cX9_pinCell 16 = .ok (.iload_n 3, 1) := dk_29 (dk_at dksX9_pinCell_0 16 rfl rfl)
theorem dX9_pinCell_17 : decode cX9_pinCell 17 = .ok (.sipush 200, 3) := dk_17 0 200 (dk_at dksX9_pinCell_0 17 rfl rfl)
theorem dX9_pinCell_20 : decode cX9_pinCell 20 = .ok (.if_icmp .lt 7, 3) := dk_161 0 7 (dk_at dksX9_pinCell_0 20 rfl rfl)
theorem dX9_pinCell_23 : decode cX9_pinCell 23 = .ok (.iconst (-1), 1) := dk_2 (dk_at dksX9_pinCell_0 23 rfl rfl)
theorem dX9_pinCell_24 : decode cX9_pinCell 24 = .ok (.goto 4, 3) := dk_167 0 4 (dk_at dksX9_pinCell_1 0 rfl rfl)
theorem dX9_pinCell_27 : decode cX9_pinCell 27 = .ok (.iload_n 3, 1) := dk_29 (dk_at dksX9_pinCell_1 3 rfl rfl)
theorem dX9_pinCell_28 : decode cX9_pinCell 28 = .ok (.ireturn, 1) := dk_172 (dk_at dksX9_pinCell_1 4 rfl rfl)
abbrev cX9_pinX : ByteArray := prog_15_method_54_code
def yX9_pinX : MethodName := ⟨RX9, "pinX", "(IIZ)I"⟩
def dkwX9_pinX_3 : List UInt8 := [46, 16, 16, 42, 27, 28, 182, 0, 230, 104, 96, 16, 8, 96, 172]
abbrev dktX9_pinX_3 : List UInt8 := dkwX9_pinX_3 ++ []
def dkwX9_pinX_2 : List UInt8 := [21, 4, 184, 0, 112, 16, 6, 96, 46, 104, 167, 0, 15, 42, 180, 0, 16, 21, 4, 184, 0, 112, 6, 96]
abbrev dktX9_pinX_2 : List UInt8 := dkwX9_pinX_2 ++ dktX9_pinX_3
def dkwX9_pinX_1 : List UInt8 := [16, 8, 96, 172, 29, 153, 0, 31, 42, 21, 4, 182, 0, 119, 153, 0, 22, 16, 16, 42, 180, 0, 16]
abbrev dktX9_pinX_1 : List UInt8 := dkwX9_pinX_1 ++ dktX9_pinX_2
def dkwX9_pinX_0 : List UInt8 := [42, 27, 28, 182, 0, 227, 54, 4, 21, 4, 2, 160, 0, 16, 16, 16, 42, 27, 28, 182, 0, 230, 104]
abbrev dktX9_pinX_0 : List UInt8 := dkwX9_pinX_0 ++ dktX9_pinX_1
theorem dksX9_pinX_0 : cX9_pinX.data.toList.drop 0 = dktX9_pinX_0 := by decide +kernel
theorem dksX9_pinX_1 : cX9_pinX.data.toList.drop 23 = dktX9_pinX_1 := dk_seg dksX9_pinX_0 23 rfl rfl
theorem dksX9_pinX_2 : cX9_pinX.data.toList.drop 46 = dktX9_pinX_2 := dk_seg dksX9_pinX_1 23 rfl rfl
theorem dksX9_pinX_3 : cX9_pinX.data.toList.drop 70 = dktX9_pinX_3 := dk_seg dksX9_pinX_2 24 rfl rfl
theorem dX9_pinX_0 : decode cX9_pinX 0 = .ok (.aload_n 0, 1) := dk_42 (dk_at dksX9_pinX_0 0 rfl rfl)
theorem dX9_pinX_1 : decode cX9_pinX 1 = .ok (.iload_n 1, 1) := dk_27 (dk_at dksX9_pinX_0 1 rfl rfl)
theorem dX9_pinX_2 : decode cX9_pinX 2 = .ok (.iload_n 2, 1) := dk_28 (dk_at dksX9_pinX_0 2 rfl rfl)
theorem dX9_pinX_3 : decode cX9_pinX 3 = .ok (.invokevirtual 227, 3) := dk_182 0 227 (dk_at dksX9_pinX_0 3 rfl rfl)
theorem dX9_pinX_6 : decode cX9_pinX 6 = .ok (.istore 4, 2) := dk_54 4 (dk_at dksX9_pinX_0 6 rfl rfl)
theorem dX9_pinX_8 : decode cX9_pinX 8 = .ok (.iload 4, 2) := dk_21 4 (dk_at dksX9_pinX_0 8 rfl rfl)
theorem dX9_pinX_10 : decode cX9_pinX 10 = .ok (.iconst (-1), 1) := dk_2 (dk_at dksX9_pinX_0 10 rfl rfl)
theorem dX9_pinX_11 : decode cX9_pinX 11 = .ok (.if_icmp .ne 16, 3) := dk_160 0 16 (dk_at dksX9_pinX_0 11 rfl rfl)
theorem dX9_pinX_14 : decode cX9_pinX 14 = .ok (.bipush 16, 2) := dk_16 16 (dk_at dksX9_pinX_0 14 rfl rfl)
theorem dX9_pinX_16 : decode cX9_pinX 16 = .ok (.aload_n 0, 1) := dk_42 (dk_at dksX9_pinX_0 16 rfl rfl)
theorem dX9_pinX_17 : decode cX9_pinX 17 = .ok (.iload_n 1, 1) := dk_27 (dk_at dksX9_pinX_0 17 rfl rfl)
theorem dX9_pinX_18 : decode cX9_pinX 18 = .ok (.iload_n 2, 1) := dk_28 (dk_at dksX9_pinX_0 18 rfl rfl)
theorem dX9_pinX_19 : decode cX9_pinX 19 = .ok (.invokevirtual 230, 3) := dk_182 0 230 (dk_at dksX9_pinX_0 19 rfl rfl)
theorem dX9_pinX_22 : decode cX9_pinX 22 = .ok (.imul, 1) := dk_104 (dk_at dksX9_pinX_0 22 rfl rfl)
theorem dX9_pinX_23 : decode cX9_pinX 23 = .ok (.bipush 8, 2) := dk_16 8 (dk_at dksX9_pinX_1 0 rfl rfl)
theorem dX9_pinX_25 : decode cX9_pinX 25 = .ok (.iadd, 1) := dk_96 (dk_at dksX9_pinX_1 2 rfl rfl)
theorem dX9_pinX_26 : decode cX9_pinX 26 = .ok (.ireturn, 1) := dk_172 (dk_at dksX9_pinX_1 3 rfl rfl)
theorem dX9_pinX_27 : decode cX9_pinX 27 = .ok (.iload_n 3, 1) := dk_29 (dk_at dksX9_pinX_1 4 rfl rfl)
theorem dX9_pinX_28 : decode cX9_pinX 28 = .ok (.ifCond .eq 31, 3) := dk_153 0 31 (dk_at dksX9_pinX_1 5 rfl rfl)
theorem dX9_pinX_31 : decode cX9_pinX 31 = .ok (.aload_n 0, 1) := dk_42 (dk_at dksX9_pinX_1 8 rfl rfl)
theorem dX9_pinX_32 : decode cX9_pinX 32 = .ok (.iload 4, 2) := dk_21 4 (dk_at dksX9_pinX_1 9 rfl rfl)
theorem dX9_pinX_34 : decode cX9_pinX 34 = .ok (.invokevirtual 119, 3) := dk_182 0 119 (dk_at dksX9_pinX_1 11 rfl rfl)
theorem dX9_pinX_37 : decode cX9_pinX 37 = .ok (.ifCond .eq 22, 3) := dk_153 0 22 (dk_at dksX9_pinX_1 14 rfl rfl)
theorem dX9_pinX_40 : decode cX9_pinX 40 = .ok (.bipush 16, 2) := dk_16 16 (dk_at dksX9_pinX_1 17 rfl rfl)
theorem dX9_pinX_42 : decode cX9_pinX 42 = .ok (.aload_n 0, 1) := dk_42 (dk_at dksX9_pinX_1 19 rfl rfl)
theorem dX9_pinX_43 : decode cX9_pinX 43 = .ok (.getfield 16, 3) := dk_180 0 16 (dk_at dksX9_pinX_1 20 rfl rfl)
theorem dX9_pinX_46 : decode cX9_pinX 46 = .ok (.iload 4, 2) := dk_21 4 (dk_at dksX9_pinX_2 0 rfl rfl)
theorem dX9_pinX_48 : decode cX9_pinX 48 = .ok (.invokestatic 112, 3) := dk_184 0 112 (dk_at dksX9_pinX_2 2 rfl rfl)
theorem dX9_pinX_51 : decode cX9_pinX 51 = .ok (.bipush 6, 2) := dk_16 6 (dk_at dksX9_pinX_2 5 rfl rfl)
theorem dX9_pinX_53 : decode cX9_pinX 53 = .ok (.iadd, 1) := dk_96 (dk_at dksX9_pinX_2 7 rfl rfl)
theorem dX9_pinX_54 : decode cX9_pinX 54 = .ok (.iaload, 1) := dk_46 (dk_at dksX9_pinX_2 8 rfl rfl)
theorem dX9_pinX_55 : decode cX9_pinX 55 = .ok (.imul, 1) := dk_104 (dk_at dksX9_pinX_2 9 rfl rfl)
theorem dX9_pinX_56 : decode cX9_pinX 56 = .ok (.goto 15, 3) := dk_167 0 15 (dk_at dksX9_pinX_2 10 rfl rfl)
theorem dX9_pinX_59 : decode cX9_pinX 59 = .ok (.aload_n 0, 1) := dk_42 (dk_at dksX9_pinX_2 13 rfl rfl)
theorem dX9_pinX_60 : decode cX9_pinX 60 = .ok (.getfield 16, 3) := dk_180 0 16 (dk_at dksX9_pinX_2 14 rfl rfl)
theorem dX9_pinX_63 : decode cX9_pinX 63 = .ok (.iload 4, 2) := dk_21 4 (dk_at dksX9_pinX_2 17 rfl rfl)
theorem dX9_pinX_65 : decode cX9_pinX 65 = .ok (.invokestatic 112, 3) := dk_184 0 112 (dk_at dksX9_pinX_2 19 rfl rfl)
theorem dX9_pinX_68 : decode cX9_pinX 68 = .ok (.iconst 3, 1) := dk_6 (dk_at dksX9_pinX_2 22 rfl rfl)
theorem dX9_pinX_69 : decode cX9_pinX 69 = .ok (.iadd, 1) := dk_96 (dk_at dksX9_pinX_2 23 rfl rfl)
theorem dX9_pinX_70 : decode cX9_pinX 70 = .ok (.iaload, 1) := dk_46 (dk_at dksX9_pinX_3 0 rfl rfl)
theorem dX9_pinX_71 : decode cX9_pinX 71 = .ok (.bipush 16, 2) := dk_16 16 (dk_at dksX9_pinX_3 1 rfl rfl)
theorem dX9_pinX_73 : decode cX9_pinX 73 = .ok (.aload_n 0, 1) := dk_42 (dk_at dksX9_pinX_3 3 rfl rfl)
theorem dX9_pinX_74 : decode cX9_pinX 74 = .ok (.iload_n 1, 1) := dk_27 (dk_at dksX9_pinX_3 4 rfl rfl)
theorem dX9_pinX_75 : decode cX9_pinX 75 = .ok (.iload_n 2, 1) := dk_28 (dk_at dksX9_pinX_3 5 rfl rfl)
theorem dX9_pinX_76 : decode cX9_pinX 76 = .ok (.invokevirtual 230, 3) := dk_182 0 230 (dk_at dksX9_pinX_3 6 rfl rfl)
theorem dX9_pinX_79 : decode cX9_pinX 79 = .ok (.imul, 1) := dk_104 (dk_at dksX9_pinX_3 9 rfl rfl)
theorem dX9_pinX_80 : decode cX9_pinX 80 = .ok (.iadd, 1) := dk_96 (dk_at dksX9_pinX_3 10 rfl rfl)
theorem dX9_pinX_81 : decode cX9_pinX 81 = .ok (.bipush 8, 2) := dk_16 8 (dk_at dksX9_pinX_3 11 rfl rfl)
theorem dX9_pinX_83 : decode cX9_pinX 83 = .ok (.iadd, 1) := dk_96 (dk_at dksX9_pinX_3 13 rfl rfl)
theorem dX9_pinX_84 : decode cX9_pinX 84 = .ok (.ireturn, 1) := dk_172 (dk_at dksX9_pinX_3 14 rfl rfl)
abbrev cX9_second : ByteArray := prog_15_method_53_code
def yX9_second : MethodName := ⟨RX9, "second", "(II)I"⟩
def dkwX9_second_0 : List UInt8 := [42, 180, 0, 16, 27, 184, 0, 208, 5, 96, 5, 28, 104, 96, 4, 96, 46, 172]
abbrev dktX9_second_0 : List UInt8 := dkwX9_second_0 ++ []
theorem dksX9_second_0 : cX9_second.data.toList.drop 0 = dktX9_second_0 := by decide +kernel
theorem dX9_second_0 : decode cX9_second 0 = .ok (.aload_n 0, 1) := dk_42 (dk_at dksX9_second_0 0 rfl rfl)
theorem dX9_second_1 : decode cX9_second 1 = .ok (.getfield 16, 3) := dk_180 0 16 (dk_at dksX9_second_0 1 rfl rfl)
theorem dX9_second_4 : decode cX9_second 4 = .ok (.iload_n 1, 1) := dk_27 (dk_at dksX9_second_0 4 rfl rfl)
theorem dX9_second_5 : decode cX9_second 5 = .ok (.invokestatic 208, 3) := dk_184 0 208 (dk_at dksX9_second_0 5 rfl rfl)
theorem dX9_second_8 : decode cX9_second 8 = .ok (.iconst 2, 1) := dk_5 (dk_at dksX9_second_0 8 rfl rfl)
theorem dX9_second_9 : decode cX9_second 9 = .ok (.iadd, 1) := dk_96 (dk_at dksX9_second_0 9 rfl rfl)
theorem dX9_second_10 : decode cX9_second 10 = .ok (.iconst 2, 1) := dk_5 (dk_at dksX9_second_0 10 rfl rfl)
theorem dX9_second_11 : decode cX9_second 11 = .ok (.iload_n 2, 1) := dk_28 (dk_at dksX9_second_0 11 rfl rfl)
theorem dX9_second_12 : decode cX9_second 12 = .ok (.imul, 1) := dk_104 (dk_at dksX9_second_0 12 rfl rfl)
theorem dX9_second_13 : decode cX9_second 13 = .ok (.iadd, 1) := dk_96 (dk_at dksX9_second_0 13 rfl rfl)
theorem dX9_second_14 : decode cX9_second 14 = .ok (.iconst 1, 1) := dk_4 (dk_at dksX9_second_0 14 rfl rfl)
theorem dX9_second_15 : decode cX9_second 15 = .ok (.iadd, 1) := dk_96 (dk_at dksX9_second_0 15 rfl rfl)
theorem dX9_second_16 : decode cX9_second 16 = .ok (.iaload, 1) := dk_46 (dk_at dksX9_second_0 16 rfl rfl)
theorem dX9_second_17 : decode cX9_second 17 = .ok (.ireturn, 1) := dk_172 (dk_at dksX9_second_0 17 rfl rfl)
abbrev cX9_leastOf : ByteArray := prog_15_method_57_code
def yX9_leastOf : MethodName := ⟨RX9, "leastOf", "(IZZ)I"⟩
def dkwX9_leastOf_2 : List UInt8 := [167, 255, 216, 21, 4, 172]
abbrev dktX9_leastOf_2 : List UInt8 := dkwX9_leastOf_2 ++ []
def dkwX9_leastOf_1 : List UInt8 := [182, 0, 244, 54, 6, 21, 6, 21, 4, 162, 0, 8, 21, 6, 167, 0, 5, 21, 4, 54, 4, 132, 5, 1]
abbrev dktX9_leastOf_1 : List UInt8 := dkwX9_leastOf_1 ++ dktX9_leastOf_2
def dkwX9_leastOf_0 : List UInt8 := [18, 240, 54, 4, 3, 54, 5, 21, 5, 42, 27, 182, 0, 241, 162, 0, 36, 42, 27, 21, 5, 28, 29]
abbrev dktX9_leastOf_0 : List UInt8 := dkwX9_leastOf_0 ++ dktX9_leastOf_1
theorem dksX9_leastOf_0 : cX9_leastOf.data.toList.drop 0 = dktX9_leastOf_0 := by decide +kernel
theorem dksX9_leastOf_1 : cX9_leastOf.data.toList.drop 23 = dktX9_leastOf_1 := dk_seg dksX9_leastOf_0 23 rfl rfl
theorem dksX9_leastOf_2 : cX9_leastOf.data.toList.drop 47 = dktX9_leastOf_2 := dk_seg dksX9_leastOf_1 24 rfl rfl
theorem dX9_leastOf_0 : decode cX9_leastOf 0 = .ok (.ldc 240, 2) := dk_18 240 (dk_at dksX9_leastOf_0 0 rfl rfl)
theorem dX9_leastOf_2 : decode cX9_leastOf 2 = .ok (.istore 4, 2) := dk_54 4 (dk_at dksX9_leastOf_0 2 rfl rfl)
theorem dX9_leastOf_4 : decode cX9_leastOf 4 = .ok (.iconst 0, 1) := dk_3 (dk_at dksX9_leastOf_0 4 rfl rfl)
theorem dX9_leastOf_5 : decode cX9_leastOf 5 = .ok (.istore 5, 2) := dk_54 5 (dk_at dksX9_leastOf_0 5 rfl rfl)
theorem dX9_leastOf_7 : decode cX9_leastOf 7 = .ok (.iload 5, 2) := dk_21 5 (dk_at dksX9_leastOf_0 7 rfl rfl)
theorem dX9_leastOf_9 : decode cX9_leastOf 9 = .ok (.aload_n 0, 1) := dk_42 (dk_at dksX9_leastOf_0 9 rfl rfl)
theorem dX9_leastOf_10 : decode cX9_leastOf 10 = .ok (.iload_n 1, 1) := dk_27 (dk_at dksX9_leastOf_0 10 rfl rfl)
theorem dX9_leastOf_11 : decode cX9_leastOf 11 = .ok (.invokevirtual 241, 3) := dk_182 0 241 (dk_at dksX9_leastOf_0 11 rfl rfl)
theorem dX9_leastOf_14 : decode cX9_leastOf 14 = .ok (.if_icmp .ge 36, 3) := dk_162 0 36 (dk_at dksX9_leastOf_0 14 rfl rfl)
theorem dX9_leastOf_17 : decode cX9_leastOf 17 = .ok (.aload_n 0, 1) := dk_42 (dk_at dksX9_leastOf_0 17 rfl rfl)
theorem dX9_leastOf_18 : decode cX9_leastOf 18 = .ok (.iload_n 1, 1) := dk_27 (dk_at dksX9_leastOf_0 18 rfl rfl)
theorem dX9_leastOf_19 : decode cX9_leastOf 19 = .ok (.iload 5, 2) := dk_21 5 (dk_at dksX9_leastOf_0 19 rfl rfl)
theorem dX9_leastOf_21 : decode cX9_leastOf 21 = .ok (.iload_n 2, 1) := dk_28 (dk_at dksX9_leastOf_0 21 rfl rfl)
theorem dX9_leastOf_22 : decode cX9_leastOf 22 = .ok (.iload_n 3, 1) := dk_29 (dk_at dksX9_leastOf_0 22 rfl rfl)
theorem dX9_leastOf_23 : decode cX9_leastOf 23 = .ok (.invokevirtual 244, 3) := dk_182 0 244 (dk_at dksX9_leastOf_1 0 rfl rfl)
theorem dX9_leastOf_26 : decode cX9_leastOf 26 = .ok (.istore 6, 2) := dk_54 6 (dk_at dksX9_leastOf_1 3 rfl rfl)
theorem dX9_leastOf_28 : decode cX9_leastOf 28 = .ok (.iload 6, 2) := dk_21 6 (dk_at dksX9_leastOf_1 5 rfl rfl)
theorem dX9_leastOf_30 : decode cX9_leastOf 30 = .ok (.iload 4, 2) := dk_21 4 (dk_at dksX9_leastOf_1 7 rfl rfl)
theorem dX9_leastOf_32 : decode cX9_leastOf 32 = .ok (.if_icmp .ge 8, 3) := dk_162 0 8 (dk_at dksX9_leastOf_1 9 rfl rfl)
theorem dX9_leastOf_35 : decode cX9_leastOf 35 = .ok (.iload 6, 2) := dk_21 6 (dk_at dksX9_leastOf_1 12 rfl rfl)
theorem dX9_leastOf_37 : decode cX9_leastOf 37 = .ok (.goto 5, 3) := dk_167 0 5 (dk_at dksX9_leastOf_1 14 rfl rfl)
theorem dX9_leastOf_40 : decode cX9_leastOf 40 = .ok (.iload 4, 2) := dk_21 4 (dk_at dksX9_leastOf_1 17 rfl rfl)
theorem dX9_leastOf_42 : decode cX9_leastOf 42 = .ok (.istore 4, 2) := dk_54 4 (dk_at dksX9_leastOf_1 19 rfl rfl)
theorem dX9_leastOf_44 : decode cX9_leastOf 44 = .ok (.iinc 5 1, 3) := dk_132 5 1 (dk_at dksX9_leastOf_1 21 rfl rfl)
theorem dX9_leastOf_47 : decode cX9_leastOf 47 = .ok (.goto (-40), 3) := dk_167 255 216 (dk_at dksX9_leastOf_2 0 rfl rfl)
theorem dX9_leastOf_50 : decode cX9_leastOf 50 = .ok (.iload 4, 2) := dk_21 4 (dk_at dksX9_leastOf_2 3 rfl rfl)
theorem dX9_leastOf_52 : decode cX9_leastOf 52 = .ok (.ireturn, 1) := dk_172 (dk_at dksX9_leastOf_2 5 rfl rfl)
abbrev cX9_take : ByteArray := prog_15_method_50_code
def yX9_take : MethodName := ⟨RX9, "take", "(I)I"⟩
def dkwX9_take_2 : List UInt8 := [184, 0, 112, 8, 96, 46, 61, 42, 27, 182, 0, 164, 42, 28, 182, 0, 109, 172]
abbrev dktX9_take_2 : List UInt8 := dkwX9_take_2 ++ []
def dkwX9_take_1 : List UInt8 := [182, 0, 161, 154, 0, 10, 42, 16, 252, 182, 0, 105, 172, 42, 16, 9, 182, 0, 186, 42, 180, 0, 16, 27]
abbrev dktX9_take_1 : List UInt8 := dkwX9_take_1 ++ dktX9_take_2
def dkwX9_take_0 : List UInt8 := [42, 3, 181, 0, 92, 42, 27, 182, 0, 154, 154, 0, 10, 42, 16, 254, 182, 0, 105, 172, 42, 27]
abbrev dktX9_take_0 : List UInt8 := dkwX9_take_0 ++ dktX9_take_1
theorem dksX9_take_0 : cX9_take.data.toList.drop 0 = dktX9_take_0 := by decide +kernel
theorem dksX9_take_1 : cX9_take.data.toList.drop 22 = dktX9_take_1 := dk_seg dksX9_take_0 22 rfl rfl
theorem dksX9_take_2 : cX9_take.data.toList.drop 46 = dktX9_take_2 := dk_seg dksX9_take_1 24 rfl rfl
theorem dX9_take_0 : decode cX9_take 0 = .ok (.aload_n 0, 1) := dk_42 (dk_at dksX9_take_0 0 rfl rfl)
theorem dX9_take_1 : decode cX9_take 1 = .ok (.iconst 0, 1) := dk_3 (dk_at dksX9_take_0 1 rfl rfl)
theorem dX9_take_2 : decode cX9_take 2 = .ok (.putfield 92, 3) := dk_181 0 92 (dk_at dksX9_take_0 2 rfl rfl)
theorem dX9_take_5 : decode cX9_take 5 = .ok (.aload_n 0, 1) := dk_42 (dk_at dksX9_take_0 5 rfl rfl)
theorem dX9_take_6 : decode cX9_take 6 = .ok (.iload_n 1, 1) := dk_27 (dk_at dksX9_take_0 6 rfl rfl)
theorem dX9_take_7 : decode cX9_take 7 = .ok (.invokevirtual 154, 3) := dk_182 0 154 (dk_at dksX9_take_0 7 rfl rfl)
theorem dX9_take_10 : decode cX9_take 10 = .ok (.ifCond .ne 10, 3) := dk_154 0 10 (dk_at dksX9_take_0 10 rfl rfl)
theorem dX9_take_13 : decode cX9_take 13 = .ok (.aload_n 0, 1) := dk_42 (dk_at dksX9_take_0 13 rfl rfl)
theorem dX9_take_14 : decode cX9_take 14 = .ok (.bipush (-2), 2) := dk_16 254 (dk_at dksX9_take_0 14 rfl rfl)
theorem dX9_take_16 : decode cX9_take 16 = .ok (.invokevirtual 105, 3) := dk_182 0 105 (dk_at dksX9_take_0 16 rfl rfl)
theorem dX9_take_19 : decode cX9_take 19 = .ok (.ireturn, 1) := dk_172 (dk_at dksX9_take_0 19 rfl rfl)
theorem dX9_take_20 : decode cX9_take 20 = .ok (.aload_n 0, 1) := dk_42 (dk_at dksX9_take_0 20 rfl rfl)
theorem dX9_take_21 : decode cX9_take 21 = .ok (.iload_n 1, 1) := dk_27 (dk_at dksX9_take_0 21 rfl rfl)
theorem dX9_take_22 : decode cX9_take 22 = .ok (.invokevirtual 161, 3) := dk_182 0 161 (dk_at dksX9_take_1 0 rfl rfl)
theorem dX9_take_25 : decode cX9_take 25 = .ok (.ifCond .ne 10, 3) := dk_154 0 10 (dk_at dksX9_take_1 3 rfl rfl)
theorem dX9_take_28 : decode cX9_take 28 = .ok (.aload_n 0, 1) := dk_42 (dk_at dksX9_take_1 6 rfl rfl)
theorem dX9_take_29 : decode cX9_take 29 = .ok (.bipush (-4), 2) := dk_16 252 (dk_at dksX9_take_1 7 rfl rfl)
theorem dX9_take_31 : decode cX9_take 31 = .ok (.invokevirtual 105, 3) := dk_182 0 105 (dk_at dksX9_take_1 9 rfl rfl)
theorem dX9_take_34 : decode cX9_take 34 = .ok (.ireturn, 1) := dk_172 (dk_at dksX9_take_1 12 rfl rfl)
theorem dX9_take_35 : decode cX9_take 35 = .ok (.aload_n 0, 1) := dk_42 (dk_at dksX9_take_1 13 rfl rfl)
theorem dX9_take_36 : decode cX9_take 36 = .ok (.bipush 9, 2) := dk_16 9 (dk_at dksX9_take_1 14 rfl rfl)
theorem dX9_take_38 : decode cX9_take 38 = .ok (.invokevirtual 186, 3) := dk_182 0 186 (dk_at dksX9_take_1 16 rfl rfl)
theorem dX9_take_41 : decode cX9_take 41 = .ok (.aload_n 0, 1) := dk_42 (dk_at dksX9_take_1 19 rfl rfl)
theorem dX9_take_42 : decode cX9_take 42 = .ok (.getfield 16, 3) := dk_180 0 16 (dk_at dksX9_take_1 20 rfl rfl)
theorem dX9_take_45 : decode cX9_take 45 = .ok (.iload_n 1, 1) := dk_27 (dk_at dksX9_take_1 23 rfl rfl)
theorem dX9_take_46 : decode cX9_take 46 = .ok (.invokestatic 112, 3) := dk_184 0 112 (dk_at dksX9_take_2 0 rfl rfl)
theorem dX9_take_49 : decode cX9_take 49 = .ok (.iconst 5, 1) := dk_8 (dk_at dksX9_take_2 3 rfl rfl)
theorem dX9_take_50 : decode cX9_take 50 = .ok (.iadd, 1) := dk_96 (dk_at dksX9_take_2 4 rfl rfl)
theorem dX9_take_51 : decode cX9_take 51 = .ok (.iaload, 1) := dk_46 (dk_at dksX9_take_2 5 rfl rfl)
theorem dX9_take_52 : decode cX9_take 52 = .ok (.istore_n 2, 1) := dk_61 (dk_at dksX9_take_2 6 rfl rfl)
theorem dX9_take_53 : decode cX9_take 53 = .ok (.aload_n 0, 1) := dk_42 (dk_at dksX9_take_2 7 rfl rfl)
theorem dX9_take_54 : decode cX9_take 54 = .ok (.iload_n 1, 1) := dk_27 (dk_at dksX9_take_2 8 rfl rfl)
theorem dX9_take_55 : decode cX9_take 55 = .ok (.invokevirtual 164, 3) := dk_182 0 164 (dk_at dksX9_take_2 9 rfl rfl)
theorem dX9_take_58 : decode cX9_take 58 = .ok (.aload_n 0, 1) := dk_42 (dk_at dksX9_take_2 12 rfl rfl)
theorem dX9_take_59 : decode cX9_take 59 = .ok (.iload_n 2, 1) := dk_28 (dk_at dksX9_take_2 13 rfl rfl)
theorem dX9_take_60 : decode cX9_take 60 = .ok (.invokevirtual 109, 3) := dk_182 0 109 (dk_at dksX9_take_2 14 rfl rfl)
theorem dX9_take_63 : decode cX9_take 63 = .ok (.ireturn, 1) := dk_172 (dk_at dksX9_take_2 17 rfl rfl)
abbrev cX9_start : ByteArray := prog_15_method_79_code
def yX9_start : MethodName := ⟨RX9, "start", "(I)I"⟩
def dkwX9_start_7 : List UInt8 := [42, 28, 182, 0, 109, 172]
abbrev dktX9_start_7 : List UInt8 := dkwX9_start_7 ++ []
def dkwX9_start_6 : List UInt8 := [180, 0, 25, 21, 4, 7, 96, 46, 160, 0, 7, 3, 167, 0, 4, 4, 96, 61, 132, 3, 1, 167, 255, 187]
abbrev dktX9_start_6 : List UInt8 := dkwX9_start_6 ++ dktX9_start_7
def dkwX9_start_5 : List UInt8 := [42, 180, 0, 25, 21, 4, 6, 96, 46, 160, 0, 28, 42, 180, 0, 16, 21, 4, 7, 96, 46, 42]
abbrev dktX9_start_5 : List UInt8 := dkwX9_start_5 ++ dktX9_start_6
def dkwX9_start_4 : List UInt8 := [180, 0, 16, 5, 46, 162, 0, 65, 29, 184, 0, 112, 54, 4, 28, 42, 180, 0, 16, 21, 4, 6, 96, 46]
abbrev dktX9_start_4 : List UInt8 := dkwX9_start_4 ++ dktX9_start_5
def dkwX9_start_3 : List UInt8 := [29, 182, 1, 53, 132, 3, 1, 167, 255, 230, 132, 2, 1, 167, 255, 217, 3, 61, 3, 62, 29, 42]
abbrev dktX9_start_3 : List UInt8 := dkwX9_start_3 ++ dktX9_start_4
def dkwX9_start_2 : List UInt8 := [162, 0, 40, 3, 62, 29, 42, 180, 0, 16, 5, 46, 162, 0, 22, 42, 29, 182, 0, 115, 154, 0, 8, 42]
abbrev dktX9_start_2 : List UInt8 := dkwX9_start_2 ++ dktX9_start_3
def dkwX9_start_1 : List UInt8 := [16, 10, 182, 0, 186, 42, 180, 0, 16, 3, 42, 180, 0, 25, 3, 184, 0, 101, 3, 61, 28, 27]
abbrev dktX9_start_1 : List UInt8 := dkwX9_start_1 ++ dktX9_start_2
def dkwX9_start_0 : List UInt8 := [42, 3, 181, 0, 92, 27, 133, 10, 20, 1, 51, 184, 0, 122, 154, 0, 9, 42, 2, 182, 0, 105, 172, 42]
abbrev dktX9_start_0 : List UInt8 := dkwX9_start_0 ++ dktX9_start_1
theorem dksX9_start_0 : cX9_start.data.toList.drop 0 = dktX9_start_0 := by decide +kernel
theorem dksX9_start_1 : cX9_start.data.toList.drop 24 = dktX9_start_1 := dk_seg dksX9_start_0 24 rfl rfl
theorem dksX9_start_2 : cX9_start.data.toList.drop 46 = dktX9_start_2 := dk_seg dksX9_start_1 22 rfl rfl
theorem dksX9_start_3 : cX9_start.data.toList.drop 70 = dktX9_start_3 := dk_seg dksX9_start_2 24 rfl rfl
theorem dksX9_start_4 : cX9_start.data.toList.drop 92 = dktX9_start_4 := dk_seg dksX9_start_3 22 rfl rfl
theorem dksX9_start_5 : cX9_start.data.toList.drop 116 = dktX9_start_5 := dk_seg dksX9_start_4 24 rfl rfl
theorem dksX9_start_6 : cX9_start.data.toList.drop 138 = dktX9_start_6 := dk_seg dksX9_start_5 22 rfl rfl
theorem dksX9_start_7 : cX9_start.data.toList.drop 162 = dktX9_start_7 := dk_seg dksX9_start_6 24 rfl rfl
theorem dX9_start_0 : decode cX9_start 0 = .ok (.aload_n 0, 1) := dk_42 (dk_at dksX9_start_0 0 rfl rfl)
theorem dX9_start_1 : decode cX9_start 1 = .ok (.iconst 0, 1) := dk_3 (dk_at dksX9_start_0 1 rfl rfl)
theorem dX9_start_2 : decode cX9_start 2 = .ok (.putfield 92, 3) := dk_181 0 92 (dk_at dksX9_start_0 2 rfl rfl)
theorem dX9_start_5 : decode cX9_start 5 = .ok (.iload_n 1, 1) := dk_27 (dk_at dksX9_start_0 5 rfl rfl)
theorem dX9_start_6 : decode cX9_start 6 = .ok (.i2l, 1) := dk_133 (dk_at dksX9_start_0 6 rfl rfl)
theorem dX9_start_7 : decode cX9_start 7 = .ok (.lconst 1, 1) := dk_10 (dk_at dksX9_start_0 7 rfl rfl)
theorem dX9_start_8 : decode cX9_start 8 = .ok (.ldc2_w 307, 3) := dk_20 1 51 (dk_at dksX9_start_0 8 rfl rfl)
theorem dX9_start_11 : decode cX9_start 11 = .ok (.invokestatic 122, 3) := dk_184 0 122 (dk_at dksX9_start_0 11 rfl rfl)
theorem dX9_start_14 : decode cX9_start 14 = .ok (.ifCond .ne 9, 3) := dk_154 0 9 (dk_at dksX9_start_0 14 rfl rfl)
theorem dX9_start_17 : decode cX9_start 17 = .ok (.aload_n 0, 1) := dk_42 (dk_at dksX9_start_0 17 rfl rfl)
theorem dX9_start_18 : decode cX9_start 18 = .ok (.iconst (-1), 1) := dk_2 (dk_at dksX9_start_0 18 rfl rfl)
theorem dX9_start_19 : decode cX9_start 19 = .ok (.invokevirtual 105, 3) := dk_182 0 105 (dk_at dksX9_start_0 19 rfl rfl)
theorem dX9_start_22 : decode cX9_start 22 = .ok (.ireturn, 1) := dk_172 (dk_at dksX9_start_0 22 rfl rfl)
theorem dX9_start_23 : decode cX9_start 23 = .ok (.aload_n 0, 1) := dk_42 (dk_at dksX9_start_0 23 rfl rfl)
theorem dX9_start_24 : decode cX9_start 24 = .ok (.bipush 10, 2) := dk_16 10 (dk_at dksX9_start_1 0 rfl rfl)
theorem dX9_start_26 : decode cX9_start 26 = .ok (.invokevirtual 186, 3) := dk_182 0 186 (dk_at dksX9_start_1 2 rfl rfl)
theorem dX9_start_29 : decode cX9_start 29 = .ok (.aload_n 0, 1) := dk_42 (dk_at dksX9_start_1 5 rfl rfl)
theorem dX9_start_30 : decode cX9_start 30 = .ok (.getfield 16, 3) := dk_180 0 16 (dk_at dksX9_start_1 6 rfl rfl)
theorem dX9_start_33 : decode cX9_start 33 = .ok (.iconst 0, 1) := dk_3 (dk_at dksX9_start_1 9 rfl rfl)
theorem dX9_start_34 : decode cX9_start 34 = .ok (.aload_n 0, 1) := dk_42 (dk_at dksX9_start_1 10 rfl rfl)
theorem dX9_start_35 : decode cX9_start 35 = .ok (.getfield 25, 3) := dk_180 0 25 (dk_at dksX9_start_1 11 rfl rfl)
theorem dX9_start_38 : decode cX9_start 38 = .ok (.iconst 0, 1) := dk_3 (dk_at dksX9_start_1 14 rfl rfl)
theorem dX9_start_39 : decode cX9_start 39 = .ok (.invokestatic 101, 3) := dk_184 0 101 (dk_at dksX9_start_1 15 rfl rfl)
theorem dX9_start_42 : decode cX9_start 42 = .ok (.iconst 0, 1) := dk_3 (dk_at dksX9_start_1 18 rfl rfl)
theorem dX9_start_43 : decode cX9_start 43 = .ok (.istore_n 2, 1) := dk_61 (dk_at dksX9_start_1 19 rfl rfl)
theorem dX9_start_44 : decode cX9_start 44 = .ok (.iload_n 2, 1) := dk_28 (dk_at dksX9_start_1 20 rfl rfl)
theorem dX9_start_45 : decode cX9_start 45 = .ok (.iload_n 1, 1) := dk_27 (dk_at dksX9_start_1 21 rfl rfl)
theorem dX9_start_46 : decode cX9_start 46 = .ok (.if_icmp .ge 40, 3) := dk_162 0 40 (dk_at dksX9_start_2 0 rfl rfl)
theorem dX9_start_49 : decode cX9_start 49 = .ok (.iconst 0, 1) := dk_3 (dk_at dksX9_start_2 3 rfl rfl)
theorem dX9_start_50 : decode cX9_start 50 = .ok (.istore_n 3, 1) := dk_62 (dk_at dksX9_start_2 4 rfl rfl)
theorem dX9_start_51 : decode cX9_start 51 = .ok (.iload_n 3, 1) := dk_29 (dk_at dksX9_start_2 5 rfl rfl)
theorem dX9_start_52 : decode cX9_start 52 = .ok (.aload_n 0, 1) := dk_42 (dk_at dksX9_start_2 6 rfl rfl)
theorem dX9_start_53 : decode cX9_start 53 = .ok (.getfield 16, 3) := dk_180 0 16 (dk_at dksX9_start_2 7 rfl rfl)
theorem dX9_start_56 : decode cX9_start 56 = .ok (.iconst 2, 1) := dk_5 (dk_at dksX9_start_2 10 rfl rfl)
theorem dX9_start_57 : decode cX9_start 57 = .ok (.iaload, 1) := dk_46 (dk_at dksX9_start_2 11 rfl rfl)
theorem dX9_start_58 : decode cX9_start 58 = .ok (.if_icmp .ge 22, 3) := dk_162 0 22 (dk_at dksX9_start_2 12 rfl rfl)
theorem dX9_start_61 : decode cX9_start 61 = .ok (.aload_n 0, 1) := dk_42 (dk_at dksX9_start_2 15 rfl rfl)
theorem dX9_start_62 : decode cX9_start 62 = .ok (.iload_n 3, 1) := dk_29 (dk_at dksX9_start_2 16 rfl rfl)
theorem dX9_start_63 : decode cX9_start 63 = .ok (.invokevirtual 115, 3) := dk_182 0 115 (dk_at dksX9_start_2 17 rfl rfl)
theorem dX9_start_66 : decode cX9_start 66 = .ok (.ifCond .ne 8, 3) := dk_154 0 8 (dk_at dksX9_start_2 20 rfl rfl)
theorem dX9_start_69 : decode cX9_start 69 = .ok (.aload_n 0, 1) := dk_42 (dk_at dksX9_start_2 23 rfl rfl)
theorem dX9_start_70 : decode cX9_start 70 = .ok (.iload_n 3, 1) := dk_29 (dk_at dksX9_start_3 0 rfl rfl)
theorem dX9_start_71 : decode cX9_start 71 = .ok (.invokevirtual 309, 3) := dk_182 1 53 (dk_at dksX9_start_3 1 rfl rfl)
theorem dX9_start_74 : decode cX9_start 74 = .ok (.iinc 3 1, 3) := dk_132 3 1 (dk_at dksX9_start_3 4 rfl rfl)
theorem dX9_start_77 : decode cX9_start 77 = .ok (.goto (-26), 3) := dk_167 255 230 (dk_at dksX9_start_3 7 rfl rfl)
theorem dX9_start_80 : decode cX9_start 80 = .ok (.iinc 2 1, 3) := dk_132 2 1 (dk_at dksX9_start_3 10 rfl rfl)
theorem dX9_start_83 : decode cX9_start 83 = .ok (.goto (-39), 3) := dk_167 255 217 (dk_at dksX9_start_3 13 rfl rfl)
theorem dX9_start_86 : decode cX9_start 86 = .ok (.iconst 0, 1) := dk_3 (dk_at dksX9_start_3 16 rfl rfl)
theorem dX9_start_87 : decode cX9_start 87 = .ok (.istore_n 2, 1) := dk_61 (dk_at dksX9_start_3 17 rfl rfl)
theorem dX9_start_88 : decode cX9_start 88 = .ok (.iconst 0, 1) := dk_3 (dk_at dksX9_start_3 18 rfl rfl)
theorem dX9_start_89 : decode cX9_start 89 = .ok (.istore_n 3, 1) := dk_62 (dk_at dksX9_start_3 19 rfl rfl)
theorem dX9_start_90 : decode cX9_start 90 = .ok (.iload_n 3, 1) := dk_29 (dk_at dksX9_start_3 20 rfl rfl)
theorem dX9_start_91 : decode cX9_start 91 = .ok (.aload_n 0, 1) := dk_42 (dk_at dksX9_start_3 21 rfl rfl)
theorem dX9_start_92 : decode cX9_start 92 = .ok (.getfield 16, 3) := dk_180 0 16 (dk_at dksX9_start_4 0 rfl rfl)
theorem dX9_start_95 : decode cX9_start 95 = .ok (.iconst 2, 1) := dk_5 (dk_at dksX9_start_4 3 rfl rfl)
theorem dX9_start_96 : decode cX9_start 96 = .ok (.iaload, 1) := dk_46 (dk_at dksX9_start_4 4 rfl rfl)
theorem dX9_start_97 : decode cX9_start 97 = .ok (.if_icmp .ge 65, 3) := dk_162 0 65 (dk_at dksX9_start_4 5 rfl rfl)
theorem dX9_start_100 : decode cX9_start 100 = .ok (.iload_n 3, 1) := dk_29 (dk_at dksX9_start_4 8 rfl rfl)
theorem dX9_start_101 : decode cX9_start 101 = .ok (.invokestatic 112, 3) := dk_184 0 112 (dk_at dksX9_start_4 9 rfl rfl)
theorem dX9_start_104 : decode cX9_start 104 = .ok (.istore 4, 2) := dk_54 4 (dk_at dksX9_start_4 12 rfl rfl)
theorem dX9_start_106 : decode cX9_start 106 = .ok (.iload_n 2, 1) := dk_28 (dk_at dksX9_start_4 14 rfl rfl)
theorem dX9_start_107 : decode cX9_start 107 = .ok (.aload_n 0, 1) := dk_42 (dk_at dksX9_start_4 15 rfl rfl)
theorem dX9_start_108 : decode cX9_start 108 = .ok (.getfield 16, 3) := dk_180 0 16 (dk_at dksX9_start_4 16 rfl rfl)
theorem dX9_start_111 : decode cX9_start 111 = .ok (.iload 4, 2) := dk_21 4 (dk_at dksX9_start_4 19 rfl rfl)
theorem dX9_start_113 : decode cX9_start 113 = .ok (.iconst 3, 1) := dk_6 (dk_at dksX9_start_4 21 rfl rfl)
theorem dX9_start_114 : decode cX9_start 114 = .ok (.iadd, 1) := dk_96 (dk_at dksX9_start_4 22 rfl rfl)
theorem dX9_start_115 : decode cX9_start 115 = .ok (.iaload, 1) := dk_46 (dk_at dksX9_start_4 23 rfl rfl)
theorem dX9_start_116 : decode cX9_start 116 = .ok (.aload_n 0, 1) := dk_42 (dk_at dksX9_start_5 0 rfl rfl)
theorem dX9_start_117 : decode cX9_start 117 = .ok (.getfield 25, 3) := dk_180 0 25 (dk_at dksX9_start_5 1 rfl rfl)
theorem dX9_start_120 : decode cX9_start 120 = .ok (.iload 4, 2) := dk_21 4 (dk_at dksX9_start_5 4 rfl rfl)
theorem dX9_start_122 : decode cX9_start 122 = .ok (.iconst 3, 1) := dk_6 (dk_at dksX9_start_5 6 rfl rfl)
theorem dX9_start_123 : decode cX9_start 123 = .ok (.iadd, 1) := dk_96 (dk_at dksX9_start_5 7 rfl rfl)
theorem dX9_start_124 : decode cX9_start 124 = .ok (.iaload, 1) := dk_46 (dk_at dksX9_start_5 8 rfl rfl)
theorem dX9_start_125 : decode cX9_start 125 = .ok (.if_icmp .ne 28, 3) := dk_160 0 28 (dk_at dksX9_start_5 9 rfl rfl)
theorem dX9_start_128 : decode cX9_start 128 = .ok (.aload_n 0, 1) := dk_42 (dk_at dksX9_start_5 12 rfl rfl)
theorem dX9_start_129 : decode cX9_start 129 = .ok (.getfield 16, 3) := dk_180 0 16 (dk_at dksX9_start_5 13 rfl rfl)
theorem dX9_start_132 : decode cX9_start 132 = .ok (.iload 4, 2) := dk_21 4 (dk_at dksX9_start_5 16 rfl rfl)
theorem dX9_start_134 : decode cX9_start 134 = .ok (.iconst 4, 1) := dk_7 (dk_at dksX9_start_5 18 rfl rfl)
theorem dX9_start_135 : decode cX9_start 135 = .ok (.iadd, 1) := dk_96 (dk_at dksX9_start_5 19 rfl rfl)
theorem dX9_start_136 : decode cX9_start 136 = .ok (.iaload, 1) := dk_46 (dk_at dksX9_start_5 20 rfl rfl)
theorem dX9_start_137 : decode cX9_start 137 = .ok (.aload_n 0, 1) := dk_42 (dk_at dksX9_start_5 21 rfl rfl)
theorem dX9_start_138 : decode cX9_start 138 = .ok (.getfield 25, 3) := dk_180 0 25 (dk_at dksX9_start_6 0 rfl rfl)
theorem dX9_start_141 : decode cX9_start 141 = .ok (.iload 4, 2) := dk_21 4 (dk_at dksX9_start_6 3 rfl rfl)
theorem dX9_start_143 : decode cX9_start 143 = .ok (.iconst 4, 1) := dk_7 (dk_at dksX9_start_6 5 rfl rfl)
theorem dX9_start_144 : decode cX9_start 144 = .ok (.iadd, 1) := dk_96 (dk_at dksX9_start_6 6 rfl rfl)
theorem dX9_start_145 : decode cX9_start 145 = .ok (.iaload, 1) := dk_46 (dk_at dksX9_start_6 7 rfl rfl)
theorem dX9_start_146 : decode cX9_start 146 = .ok (.if_icmp .ne 7, 3) := dk_160 0 7 (dk_at dksX9_start_6 8 rfl rfl)
theorem dX9_start_149 : decode cX9_start 149 = .ok (.iconst 0, 1) := dk_3 (dk_at dksX9_start_6 11 rfl rfl)
theorem dX9_start_150 : decode cX9_start 150 = .ok (.goto 4, 3) := dk_167 0 4 (dk_at dksX9_start_6 12 rfl rfl)
theorem dX9_start_153 : decode cX9_start 153 = .ok (.iconst 1, 1) := dk_4 (dk_at dksX9_start_6 15 rfl rfl)
theorem dX9_start_154 : decode cX9_start 154 = .ok (.iadd, 1) := dk_96 (dk_at dksX9_start_6 16 rfl rfl)
theorem dX9_start_155 : decode cX9_start 155 = .ok (.istore_n 2, 1) := dk_61 (dk_at dksX9_start_6 17 rfl rfl)
theorem dX9_start_156 : decode cX9_start 156 = .ok (.iinc 3 1, 3) := dk_132 3 1 (dk_at dksX9_start_6 18 rfl rfl)
theorem dX9_start_159 : decode cX9_start 159 = .ok (.goto (-69), 3) := dk_167 255 187 (dk_at dksX9_start_6 21 rfl rfl)
theorem dX9_start_162 : decode cX9_start 162 = .ok (.aload_n 0, 1) := dk_42 (dk_at dksX9_start_7 0 rfl rfl)
theorem dX9_start_163 : decode cX9_start 163 = .ok (.iload_n 2, 1) := dk_28 (dk_at dksX9_start_7 1 rfl rfl)
theorem dX9_start_164 : decode cX9_start 164 = .ok (.invokevirtual 109, 3) := dk_182 0 109 (dk_at dksX9_start_7 2 rfl rfl)
theorem dX9_start_167 : decode cX9_start 167 = .ok (.ireturn, 1) := dk_172 (dk_at dksX9_start_7 5 rfl rfl)
abbrev cX9_startCell : ByteArray := prog_15_method_78_code
def yX9_startCell : MethodName := ⟨RX9, "startCell", "(I)V"⟩
def dkwX9_startCell_8 : List UInt8 := [184, 1, 42, 182, 1, 48, 79, 177]
abbrev dktX9_startCell_8 : List UInt8 := dkwX9_startCell_8 ++ []
def dkwX9_startCell_7 : List UInt8 := [21, 4, 184, 1, 42, 182, 1, 45, 79, 42, 180, 0, 16, 27, 184, 0, 112, 7, 96, 42, 27, 29, 21, 4]
abbrev dktX9_startCell_7 : List UInt8 := dkwX9_startCell_7 ++ dktX9_startCell_8
def dkwX9_startCell_6 : List UInt8 := [132, 5, 1, 167, 255, 121, 21, 4, 158, 0, 47, 42, 180, 0, 16, 27, 184, 0, 112, 6, 96, 42, 27, 28]
abbrev dktX9_startCell_6 : List UInt8 := dkwX9_startCell_6 ++ dktX9_startCell_7
def dkwX9_startCell_5 : List UInt8 := [96, 62, 21, 4, 42, 180, 0, 16, 21, 5, 184, 0, 208, 46, 96, 54, 4, 132, 7, 1, 167, 255, 150]
abbrev dktX9_startCell_5 : List UInt8 := dkwX9_startCell_5 ++ dktX9_startCell_6
def dkwX9_startCell_4 : List UInt8 := [29, 42, 180, 0, 16, 21, 5, 184, 0, 208, 46, 42, 21, 5, 21, 7, 3, 182, 0, 233, 16, 8, 100, 104]
abbrev dktX9_startCell_4 : List UInt8 := dkwX9_startCell_4 ++ dktX9_startCell_5
def dkwX9_startCell_3 : List UInt8 := [21, 7, 3, 182, 0, 237, 16, 16, 42, 21, 5, 21, 6, 182, 0, 230, 104, 100, 16, 8, 100, 104, 96, 61]
abbrev dktX9_startCell_3 : List UInt8 := dkwX9_startCell_3 ++ dktX9_startCell_4
def dkwX9_startCell_2 : List UInt8 := [159, 0, 95, 21, 7, 21, 6, 159, 0, 82, 28, 42, 180, 0, 16, 21, 5, 184, 0, 208, 46, 42, 21, 5]
abbrev dktX9_startCell_2 : List UInt8 := dkwX9_startCell_2 ++ dktX9_startCell_3
def dkwX9_startCell_1 : List UInt8 := [27, 182, 1, 39, 54, 6, 3, 54, 7, 21, 7, 42, 21, 5, 182, 0, 241, 162, 0, 101, 21, 6, 2]
abbrev dktX9_startCell_1 : List UInt8 := dkwX9_startCell_1 ++ dktX9_startCell_2
def dkwX9_startCell_0 : List UInt8 := [3, 61, 3, 62, 3, 54, 4, 3, 54, 5, 21, 5, 42, 180, 0, 16, 6, 46, 162, 0, 130, 42, 21, 5]
abbrev dktX9_startCell_0 : List UInt8 := dkwX9_startCell_0 ++ dktX9_startCell_1
theorem dksX9_startCell_0 : cX9_startCell.data.toList.drop 0 = dktX9_startCell_0 := by decide +kernel
theorem dksX9_startCell_1 : cX9_startCell.data.toList.drop 24 = dktX9_startCell_1 := dk_seg dksX9_startCell_0 24 rfl rfl
theorem dksX9_startCell_2 : cX9_startCell.data.toList.drop 47 = dktX9_startCell_2 := dk_seg dksX9_startCell_1 23 rfl rfl
theorem dksX9_startCell_3 : cX9_startCell.data.toList.drop 71 = dktX9_startCell_3 := dk_seg dksX9_startCell_2 24 rfl rfl
theorem dksX9_startCell_4 : cX9_startCell.data.toList.drop 95 = dktX9_startCell_4 := dk_seg dksX9_startCell_3 24 rfl rfl
theorem dksX9_startCell_5 : cX9_startCell.data.toList.drop 119 = dktX9_startCell_5 := dk_seg dksX9_startCell_4 24 rfl rfl
theorem dksX9_startCell_6 : cX9_startCell.data.toList.drop 142 = dktX9_startCell_6 := dk_seg dksX9_startCell_5 23 rfl rfl
theorem dksX9_startCell_7 : cX9_startCell.data.toList.drop 166 = dktX9_startCell_7 := dk_seg dksX9_startCell_6 24 rfl rfl
theorem dksX9_startCell_8 : cX9_startCell.data.toList.drop 190 = dktX9_startCell_8 := dk_seg dksX9_startCell_7 24 rfl rfl
theorem dX9_startCell_0 : decode cX9_startCell 0 = .ok (.iconst 0, 1) := dk_3 (dk_at dksX9_startCell_0 0 rfl rfl)
theorem dX9_startCell_1 : decode cX9_startCell 1 = .ok (.istore_n 2, 1) := dk_61 (dk_at dksX9_startCell_0 1 rfl rfl)
theorem dX9_startCell_2 : decode cX9_startCell 2 = .ok (.iconst 0, 1) := dk_3 (dk_at dksX9_startCell_0 2 rfl rfl)
theorem dX9_startCell_3 : decode cX9_startCell 3 = .ok (.istore_n 3, 1) := dk_62 (dk_at dksX9_startCell_0 3 rfl rfl)
theorem dX9_startCell_4 : decode cX9_startCell 4 = .ok (.iconst 0, 1) := dk_3 (dk_at dksX9_startCell_0 4 rfl rfl)
theorem dX9_startCell_5 : decode cX9_startCell 5 = .ok (.istore 4, 2) := dk_54 4 (dk_at dksX9_startCell_0 5 rfl rfl)
theorem dX9_startCell_7 : decode cX9_startCell 7 = .ok (.iconst 0, 1) := dk_3 (dk_at dksX9_startCell_0 7 rfl rfl)
theorem dX9_startCell_8 : decode cX9_startCell 8 = .ok (.istore 5, 2) := dk_54 5 (dk_at dksX9_startCell_0 8 rfl rfl)
theorem dX9_startCell_10 : decode cX9_startCell 10 = .ok (.iload 5, 2) := dk_21 5 (dk_at dksX9_startCell_0 10 rfl rfl)
theorem dX9_startCell_12 : decode cX9_startCell 12 = .ok (.aload_n 0, 1) := dk_42 (dk_at dksX9_startCell_0 12 rfl rfl)
theorem dX9_startCell_13 : decode cX9_startCell 13 = .ok (.getfield 16, 3) := dk_180 0 16 (dk_at dksX9_startCell_0 13 rfl rfl)
theorem dX9_startCell_16 : decode cX9_startCell 16 = .ok (.iconst 3, 1) := dk_6 (dk_at dksX9_startCell_0 16 rfl rfl)
theorem dX9_startCell_17 : decode cX9_startCell 17 = .ok (.iaload, 1) := dk_46 (dk_at dksX9_startCell_0 17 rfl rfl)
theorem dX9_startCell_18 : decode cX9_startCell 18 = .ok (.if_icmp .ge 130, 3) := dk_162 0 130 (dk_at dksX9_startCell_0 18 rfl rfl)
theorem dX9_startCell_21 : decode cX9_startCell 21 = .ok (.aload_n 0, 1) := dk_42 (dk_at dksX9_startCell_0 21 rfl rfl)
theorem dX9_startCell_22 : decode cX9_startCell 22 = .ok (.iload 5, 2) := dk_21 5 (dk_at dksX9_startCell_0 22 rfl rfl)
theorem dX9_startCell_24 : decode cX9_startCell 24 = .ok (.iload_n 1, 1) := dk_27 (dk_at dksX9_startCell_1 0 rfl rfl)
theorem dX9_startCell_25 : decode cX9_startCell 25 = .ok (.invokevirtual 295, 3) := dk_182 1 39 (dk_at dksX9_startCell_1 1 rfl rfl)
theorem dX9_startCell_28 : decode cX9_startCell 28 = .ok (.istore 6, 2) := dk_54 6 (dk_at dksX9_startCell_1 4 rfl rfl)
theorem dX9_startCell_30 : decode cX9_startCell 30 = .ok (.iconst 0, 1) := dk_3 (dk_at dksX9_startCell_1 6 rfl rfl)
theorem dX9_startCell_31 : decode cX9_startCell 31 = .ok (.istore 7, 2) := dk_54 7 (dk_at dksX9_startCell_1 7 rfl rfl)
theorem dX9_startCell_33 : decode cX9_startCell 33 = .ok (.iload 7, 2) := dk_21 7 (dk_at dksX9_startCell_1 9 rfl rfl)
theorem dX9_startCell_35 : decode cX9_startCell 35 = .ok (.aload_n 0, 1) := dk_42 (dk_at dksX9_startCell_1 11 rfl rfl)
theorem dX9_startCell_36 : decode cX9_startCell 36 = .ok (.iload 5, 2) := dk_21 5 (dk_at dksX9_startCell_1 12 rfl rfl)
theorem dX9_startCell_38 : decode cX9_startCell 38 = .ok (.invokevirtual 241, 3) := dk_182 0 241 (dk_at dksX9_startCell_1 14 rfl rfl)
theorem dX9_startCell_41 : decode cX9_startCell 41 = .ok (.if_icmp .ge 101, 3) := dk_162 0 101 (dk_at dksX9_startCell_1 17 rfl rfl)
theorem dX9_startCell_44 : decode cX9_startCell 44 = .ok (.iload 6, 2) := dk_21 6 (dk_at dksX9_startCell_1 20 rfl rfl)
theorem dX9_startCell_46 : decode cX9_startCell 46 = .ok (.iconst (-1), 1) := dk_2 (dk_at dksX9_startCell_1 22 rfl rfl)
theorem dX9_startCell_47 : decode cX9_startCell 47 = .ok (.if_icmp .eq 95, 3) := dk_159 0 95 (dk_at dksX9_startCell_2 0 rfl rfl)
theorem dX9_startCell_50 : decode cX9_startCell 50 = .ok (.iload 7, 2) := dk_21 7 (dk_at dksX9_startCell_2 3 rfl rfl)
theorem dX9_startCell_52 : decode cX9_startCell 52 = .ok (.iload 6, 2) := dk_21 6 (dk_at dksX9_startCell_2 5 rfl rfl)
theorem dX9_startCell_54 : decode cX9_startCell 54 = .ok (.if_icmp .eq 82, 3) := dk_159 0 82 (dk_at dksX9_startCell_2 7 rfl rfl)
theorem dX9_startCell_57 : decode cX9_startCell 57 = .ok (.iload_n 2, 1) := dk_28 (dk_at dksX9_startCell_2 10 rfl rfl)
theorem dX9_startCell_58 : decode cX9_startCell 58 = .ok (.aload_n 0, 1) := dk_42 (dk_at dksX9_startCell_2 11 rfl rfl)
theorem dX9_startCell_59 : decode cX9_startCell 59 = .ok (.getfield 16, 3) := dk_180 0 16 (dk_at dksX9_startCell_2 12 rfl rfl)
theorem dX9_startCell_62 : decode cX9_startCell 62 = .ok (.iload 5, 2) := dk_21 5 (dk_at dksX9_startCell_2 15 rfl rfl)
theorem dX9_startCell_64 : decode cX9_startCell 64 = .ok (.invokestatic 208, 3) := dk_184 0 208 (dk_at dksX9_startCell_2 17 rfl rfl)
theorem dX9_startCell_67 : decode cX9_startCell 67 = .ok (.iaload, 1) := dk_46 (dk_at dksX9_startCell_2 20 rfl rfl)
theorem dX9_startCell_68 : decode cX9_startCell 68 = .ok (.aload_n 0, 1) := dk_42 (dk_at dksX9_startCell_2 21 rfl rfl)
theorem dX9_startCell_69 : decode cX9_startCell 69 = .ok (.iload 5, 2) := dk_21 5 (dk_at dksX9_startCell_2 22 rfl rfl)
theorem dX9_startCell_71 : decode cX9_startCell 71 = .ok (.iload 7, 2) := dk_21 7 (dk_at dksX9_startCell_3 0 rfl rfl)
theorem dX9_startCell_73 : decode cX9_startCell 73 = .ok (.iconst 0, 1) := dk_3 (dk_at dksX9_startCell_3 2 rfl rfl)
theorem dX9_startCell_74 : decode cX9_startCell 74 = .ok (.invokevirtual 237, 3) := dk_182 0 237 (dk_at dksX9_startCell_3 3 rfl rfl)
theorem dX9_startCell_77 : decode cX9_startCell 77 = .ok (.bipush 16, 2) := dk_16 16 (dk_at dksX9_startCell_3 6 rfl rfl)
theorem dX9_startCell_79 : decode cX9_startCell 79 = .ok (.aload_n 0, 1) := dk_42 (dk_at dksX9_startCell_3 8 rfl rfl)
theorem dX9_startCell_80 : decode cX9_startCell 80 = .ok (.iload 5, 2) := dk_21 5 (dk_at dksX9_startCell_3 9 rfl rfl)
theorem dX9_startCell_82 : decode cX9_startCell 82 = .ok (.iload 6, 2) := dk_21 6 (dk_at dksX9_startCell_3 11 rfl rfl)
theorem dX9_startCell_84 : decode cX9_startCell 84 = .ok (.invokevirtual 230, 3) := dk_182 0 230 (dk_at dksX9_startCell_3 13 rfl rfl)
theorem dX9_startCell_87 : decode cX9_startCell 87 = .ok (.imul, 1) := dk_104 (dk_at dksX9_startCell_3 16 rfl rfl)
theorem dX9_startCell_88 : decode cX9_startCell 88 = .ok (.isub, 1) := dk_100 (dk_at dksX9_startCell_3 17 rfl rfl)
theorem dX9_startCell_89 : decode cX9_startCell 89 = .ok (.bipush 8, 2) := dk_16 8 (dk_at dksX9_startCell_3 18 rfl rfl)
theorem dX9_startCell_91 : decode cX9_startCell 91 = .ok (.isub, 1) := dk_100 (dk_at dksX9_startCell_3 20 rfl rfl)
theorem dX9_startCell_92 : decode cX9_startCell 92 = .ok (.imul, 1) := dk_104 (dk_at dksX9_startCell_3 21 rfl rfl)
theorem dX9_startCell_93 : decode cX9_startCell 93 = .ok (.iadd, 1) := dk_96 (dk_at dksX9_startCell_3 22 rfl rfl)
theorem dX9_startCell_94 : decode cX9_startCell 94 = .ok (.istore_n 2, 1) := dk_61 (dk_at dksX9_startCell_3 23 rfl rfl)
theorem dX9_startCell_95 : decode cX9_startCell 95 = .ok (.iload_n 3, 1) := dk_29 (dk_at dksX9_startCell_4 0 rfl rfl)
theorem dX9_startCell_96 : decode cX9_startCell 96 = .ok (.aload_n 0, 1) := dk_42 (dk_at dksX9_startCell_4 1 rfl rfl)
theorem dX9_startCell_97 : decode cX9_startCell 97 = .ok (.getfield 16, 3) := dk_180 0 16 (dk_at dksX9_startCell_4 2 rfl rfl)
theorem dX9_startCell_100 : decode cX9_startCell 100 = .ok (.iload 5, 2) := dk_21 5 (dk_at dksX9_startCell_4 5 rfl rfl)
theorem dX9_startCell_102 : decode cX9_startCell 102 = .ok (.invokestatic 208, 3) := dk_184 0 208 (dk_at dksX9_startCell_4 7 rfl rfl)
theorem dX9_startCell_105 : decode cX9_startCell 105 = .ok (.iaload, 1) := dk_46 (dk_at dksX9_startCell_4 10 rfl rfl)
theorem dX9_startCell_106 : decode cX9_startCell 106 = .ok (.aload_n 0, 1) := dk_42 (dk_at dksX9_startCell_4 11 rfl rfl)
theorem dX9_startCell_107 : decode cX9_startCell 107 = .ok (.iload 5, 2) := dk_21 5 (dk_at dksX9_startCell_4 12 rfl rfl)
theorem dX9_startCell_109 : decode cX9_startCell 109 = .ok (.iload 7, 2) := dk_21 7 (dk_at dksX9_startCell_4 14 rfl rfl)
theorem dX9_startCell_111 : decode cX9_startCell 111 = .ok (.iconst 0, 1) := dk_3 (dk_at dksX9_startCell_4 16 rfl rfl)
theorem dX9_startCell_112 : decode cX9_startCell 112 = .ok (.invokevirtual 233, 3) := dk_182 0 233 (dk_at dksX9_startCell_4 17 rfl rfl)
theorem dX9_startCell_115 : decode cX9_startCell 115 = .ok (.bipush 8, 2) := dk_16 8 (dk_at dksX9_startCell_4 20 rfl rfl)
theorem dX9_startCell_117 : decode cX9_startCell 117 = .ok (.isub, 1) := dk_100 (dk_at dksX9_startCell_4 22 rfl rfl)
theorem dX9_startCell_118 : decode cX9_startCell 118 = .ok (.imul, 1) := dk_104 (dk_at dksX9_startCell_4 23 rfl rfl)
theorem dX9_startCell_119 : decode cX9_startCell 119 = .ok (.iadd, 1) := dk_96 (dk_at dksX9_startCell_5 0 rfl rfl)
theorem dX9_startCell_120 : decode cX9_startCell 120 = .ok (.istore_n 3, 1) := dk_62 (dk_at dksX9_startCell_5 1 rfl rfl)
theorem dX9_startCell_121 : decode cX9_startCell 121 = .ok (.iload 4, 2) := dk_21 4 (dk_at dksX9_startCell_5 2 rfl rfl)
theorem dX9_startCell_123 : decode cX9_startCell 123 = .ok (.aload_n 0, 1) := dk_42 (dk_at dksX9_startCell_5 4 rfl rfl)
theorem dX9_startCell_124 : decode cX9_startCell 124 = .ok (.getfield 16, 3) := dk_180 0 16 (dk_at dksX9_startCell_5 5 rfl rfl)
theorem dX9_startCell_127 : decode cX9_startCell 127 = .ok (.iload 5, 2) := dk_21 5 (dk_at dksX9_startCell_5 8 rfl rfl)
theorem dX9_startCell_129 : decode cX9_startCell 129 = .ok (.invokestatic 208, 3) := dk_184 0 208 (dk_at dksX9_startCell_5 10 rfl rfl)
theorem dX9_startCell_132 : decode cX9_startCell 132 = .ok (.iaload, 1) := dk_46 (dk_at dksX9_startCell_5 13 rfl rfl)
theorem dX9_startCell_133 : decode cX9_startCell 133 = .ok (.iadd, 1) := dk_96 (dk_at dksX9_startCell_5 14 rfl rfl)
theorem dX9_startCell_134 : decode cX9_startCell 134 = .ok (.istore 4, 2) := dk_54 4 (dk_at dksX9_startCell_5 15 rfl rfl)
theorem dX9_startCell_136 : decode cX9_startCell 136 = .ok (.iinc 7 1, 3) := dk_132 7 1 (dk_at dksX9_startCell_5 17 rfl rfl)
theorem dX9_startCell_139 : decode cX9_startCell 139 = .ok (.goto (-106), 3) := dk_167 255 150 (dk_at dksX9_startCell_5 20 rfl rfl)
theorem dX9_startCell_142 : decode cX9_startCell 142 = .ok (.iinc 5 1, 3) := dk_132 5 1 (dk_at dksX9_startCell_6 0 rfl rfl)
theorem dX9_startCell_145 : decode cX9_startCell 145 = .ok (.goto (-135), 3) := dk_167 255 121 (dk_at dksX9_startCell_6 3 rfl rfl)
theorem dX9_startCell_148 : decode cX9_startCell 148 = .ok (.iload 4, 2) := dk_21 4 (dk_at dksX9_startCell_6 6 rfl rfl)
theorem dX9_startCell_150 : decode cX9_startCell 150 = .ok (.ifCond .le 47, 3) := dk_158 0 47 (dk_at dksX9_startCell_6 8 rfl rfl)
theorem dX9_startCell_153 : decode cX9_startCell 153 = .ok (.aload_n 0, 1) := dk_42 (dk_at dksX9_startCell_6 11 rfl rfl)
theorem dX9_startCell_154 : decode cX9_startCell 154 = .ok (.getfield 16, 3) := dk_180 0 16 (dk_at dksX9_startCell_6 12 rfl rfl)
theorem dX9_startCell_157 : decode cX9_startCell 157 = .ok (.iload_n 1, 1) := dk_27 (dk_at dksX9_startCell_6 15 rfl rfl)
theorem dX9_startCell_158 : decode cX9_startCell 158 = .ok (.invokestatic 112, 3) := dk_184 0 112 (dk_at dksX9_startCell_6 16 rfl rfl)
theorem dX9_startCell_161 : decode cX9_startCell 161 = .ok (.iconst 3, 1) := dk_6 (dk_at dksX9_startCell_6 19 rfl rfl)
theorem dX9_startCell_162 : decode cX9_startCell 162 = .ok (.iadd, 1) := dk_96 (dk_at dksX9_startCell_6 20 rfl rfl)
theorem dX9_startCell_163 : decode cX9_startCell 163 = .ok (.aload_n 0, 1) := dk_42 (dk_at dksX9_startCell_6 21 rfl rfl)
theorem dX9_startCell_164 : decode cX9_startCell 164 = .ok (.iload_n 1, 1) := dk_27 (dk_at dksX9_startCell_6 22 rfl rfl)
theorem dX9_startCell_165 : decode cX9_startCell 165 = .ok (.iload_n 2, 1) := dk_28 (dk_at dksX9_startCell_6 23 rfl rfl)
theorem dX9_startCell_166 : decode cX9_startCell 166 = .ok (.iload 4, 2) := dk_21 4 (dk_at dksX9_startCell_7 0 rfl rfl)
theorem dX9_startCell_168 : decode cX9_startCell 168 = .ok (.invokestatic 298, 3) := dk_184 1 42 (dk_at dksX9_startCell_7 2 rfl rfl)
theorem dX9_startCell_171 : decode cX9_startCell 171 = .ok (.invokevirtual 301, 3) := dk_182 1 45 (dk_at dksX9_startCell_7 5 rfl rfl)
theorem dX9_startCell_174 : decode cX9_startCell 174 = .ok (.iastore, 1) := dk_79 (dk_at dksX9_startCell_7 8 rfl rfl)
theorem dX9_startCell_175 : decode cX9_startCell 175 = .ok (.aload_n 0, 1) := dk_42 (dk_at dksX9_startCell_7 9 rfl rfl)
theorem dX9_startCell_176 : decode cX9_startCell 176 = .ok (.getfield 16, 3) := dk_180 0 16 (dk_at dksX9_startCell_7 10 rfl rfl)
theorem dX9_startCell_179 : decode cX9_startCell 179 = .ok (.iload_n 1, 1) := dk_27 (dk_at dksX9_startCell_7 13 rfl rfl)
theorem dX9_startCell_180 : decode cX9_startCell 180 = .ok (.invokestatic 112, 3) := dk_184 0 112 (dk_at dksX9_startCell_7 14 rfl rfl)
theorem dX9_startCell_183 : decode cX9_startCell 183 = .ok (.iconst 4, 1) := dk_7 (dk_at dksX9_startCell_7 17 rfl rfl)
theorem dX9_startCell_184 : decode cX9_startCell 184 = .ok (.iadd, 1) := dk_96 (dk_at dksX9_startCell_7 18 rfl rfl)
theorem dX9_startCell_185 : decode cX9_startCell 185 = .ok (.aload_n 0, 1) := dk_42 (dk_at dksX9_startCell_7 19 rfl rfl)
theorem dX9_startCell_186 : decode cX9_startCell 186 = .ok (.iload_n 1, 1) := dk_27 (dk_at dksX9_startCell_7 20 rfl rfl)
theorem dX9_startCell_187 : decode cX9_startCell 187 = .ok (.iload_n 3, 1) := dk_29 (dk_at dksX9_startCell_7 21 rfl rfl)
theorem dX9_startCell_188 : decode cX9_startCell 188 = .ok (.iload 4, 2) := dk_21 4 (dk_at dksX9_startCell_7 22 rfl rfl)
theorem dX9_startCell_190 : decode cX9_startCell 190 = .ok (.invokestatic 298, 3) := dk_184 1 42 (dk_at dksX9_startCell_8 0 rfl rfl)
theorem dX9_startCell_193 : decode cX9_startCell 193 = .ok (.invokevirtual 304, 3) := dk_182 1 48 (dk_at dksX9_startCell_8 3 rfl rfl)
theorem dX9_startCell_196 : decode cX9_startCell 196 = .ok (.iastore, 1) := dk_79 (dk_at dksX9_startCell_8 6 rfl rfl)
theorem dX9_startCell_197 : decode cX9_startCell 197 = .ok (.return_, 1) := dk_177 (dk_at dksX9_startCell_8 7 rfl rfl)
abbrev cX9_pinOf : ByteArray := prog_15_method_77_code
def yX9_pinOf : MethodName := ⟨RX9, "pinOf", "(II)I"⟩
def dkwX9_pinOf_1 : List UInt8 := [160, 0, 8, 21, 4, 167, 0, 4, 29, 62, 132, 4, 1, 167, 255, 225, 29, 172]
abbrev dktX9_pinOf_1 : List UInt8 := dkwX9_pinOf_1 ++ []
def dkwX9_pinOf_0 : List UInt8 := [2, 62, 3, 54, 4, 21, 4, 42, 27, 182, 0, 241, 162, 0, 27, 42, 27, 21, 4, 182, 0, 227, 28]
abbrev dktX9_pinOf_0 : List UInt8 := dkwX9_pinOf_0 ++ dktX9_pinOf_1
theorem dksX9_pinOf_0 : cX9_pinOf.data.toList.drop 0 = dktX9_pinOf_0 := by decide +kernel
theorem dksX9_pinOf_1 : cX9_pinOf.data.toList.drop 23 = dktX9_pinOf_1 := dk_seg dksX9_pinOf_0 23 rfl rfl
theorem dX9_pinOf_0 : decode cX9_pinOf 0 = .ok (.iconst (-1), 1) := dk_2 (dk_at dksX9_pinOf_0 0 rfl rfl)
theorem dX9_pinOf_1 : decode cX9_pinOf 1 = .ok (.istore_n 3, 1) := dk_62 (dk_at dksX9_pinOf_0 1 rfl rfl)
theorem dX9_pinOf_2 : decode cX9_pinOf 2 = .ok (.iconst 0, 1) := dk_3 (dk_at dksX9_pinOf_0 2 rfl rfl)
theorem dX9_pinOf_3 : decode cX9_pinOf 3 = .ok (.istore 4, 2) := dk_54 4 (dk_at dksX9_pinOf_0 3 rfl rfl)
theorem dX9_pinOf_5 : decode cX9_pinOf 5 = .ok (.iload 4, 2) := dk_21 4 (dk_at dksX9_pinOf_0 5 rfl rfl)
theorem dX9_pinOf_7 : decode cX9_pinOf 7 = .ok (.aload_n 0, 1) := dk_42 (dk_at dksX9_pinOf_0 7 rfl rfl)
theorem dX9_pinOf_8 : decode cX9_pinOf 8 = .ok (.iload_n 1, 1) := dk_27 (dk_at dksX9_pinOf_0 8 rfl rfl)
theorem dX9_pinOf_9 : decode cX9_pinOf 9 = .ok (.invokevirtual 241, 3) := dk_182 0 241 (dk_at dksX9_pinOf_0 9 rfl rfl)
theorem dX9_pinOf_12 : decode cX9_pinOf 12 = .ok (.if_icmp .ge 27, 3) := dk_162 0 27 (dk_at dksX9_pinOf_0 12 rfl rfl)
theorem dX9_pinOf_15 : decode cX9_pinOf 15 = .ok (.aload_n 0, 1) := dk_42 (dk_at dksX9_pinOf_0 15 rfl rfl)
theorem dX9_pinOf_16 : decode cX9_pinOf 16 = .ok (.iload_n 1, 1) := dk_27 (dk_at dksX9_pinOf_0 16 rfl rfl)
theorem dX9_pinOf_17 : decode cX9_pinOf 17 = .ok (.iload 4, 2) := dk_21 4 (dk_at dksX9_pinOf_0 17 rfl rfl)
theorem dX9_pinOf_19 : decode cX9_pinOf 19 = .ok (.invokevirtual 227, 3) := dk_182 0 227 (dk_at dksX9_pinOf_0 19 rfl rfl)
theorem dX9_pinOf_22 : decode cX9_pinOf 22 = .ok (.iload_n 2, 1) := dk_28 (dk_at dksX9_pinOf_0 22 rfl rfl)
theorem dX9_pinOf_23 : decode cX9_pinOf 23 = .ok (.if_icmp .ne 8, 3) := dk_160 0 8 (dk_at dksX9_pinOf_1 0 rfl rfl)
theorem dX9_pinOf_26 : decode cX9_pinOf 26 = .ok (.iload 4, 2) := dk_21 4 (dk_at dksX9_pinOf_1 3 rfl rfl)
theorem dX9_pinOf_28 : decode cX9_pinOf 28 = .ok (.goto 4, 3) := dk_167 0 4 (dk_at dksX9_pinOf_1 5 rfl rfl)
theorem dX9_pinOf_31 : decode cX9_pinOf 31 = .ok (.iload_n 3, 1) := dk_29 (dk_at dksX9_pinOf_1 8 rfl rfl)
theorem dX9_pinOf_32 : decode cX9_pinOf 32 = .ok (.istore_n 3, 1) := dk_62 (dk_at dksX9_pinOf_1 9 rfl rfl)
theorem dX9_pinOf_33 : decode cX9_pinOf 33 = .ok (.iinc 4 1, 3) := dk_132 4 1 (dk_at dksX9_pinOf_1 10 rfl rfl)
theorem dX9_pinOf_36 : decode cX9_pinOf 36 = .ok (.goto (-31), 3) := dk_167 255 225 (dk_at dksX9_pinOf_1 13 rfl rfl)
theorem dX9_pinOf_39 : decode cX9_pinOf 39 = .ok (.iload_n 3, 1) := dk_29 (dk_at dksX9_pinOf_1 16 rfl rfl)
theorem dX9_pinOf_40 : decode cX9_pinOf 40 = .ok (.ireturn, 1) := dk_172 (dk_at dksX9_pinOf_1 17 rfl rfl)
abbrev cX9_down : ByteArray := prog_15_method_6_code
def yX9_down : MethodName := ⟨RX9, "down", "(II)I"⟩
def dkwX9_down_0 : List UInt8 := [26, 155, 0, 9, 26, 27, 108, 167, 0, 11, 27, 4, 100, 26, 100, 27, 108, 116, 172]
abbrev dktX9_down_0 : List UInt8 := dkwX9_down_0 ++ []
theorem dksX9_down_0 : cX9_down.data.toList.drop 0 = dktX9_down_0 := by decide +kernel
theorem dX9_down_0 : decode cX9_down 0 = .ok (.iload_n 0, 1) := dk_26 (dk_at dksX9_down_0 0 rfl rfl)
theorem dX9_down_1 : decode cX9_down 1 = .ok (.ifCond .lt 9, 3) := dk_155 0 9 (dk_at dksX9_down_0 1 rfl rfl)
theorem dX9_down_4 : decode cX9_down 4 = .ok (.iload_n 0, 1) := dk_26 (dk_at dksX9_down_0 4 rfl rfl)
theorem dX9_down_5 : decode cX9_down 5 = .ok (.iload_n 1, 1) := dk_27 (dk_at dksX9_down_0 5 rfl rfl)
theorem dX9_down_6 : decode cX9_down 6 = .ok (.idiv, 1) := dk_108 (dk_at dksX9_down_0 6 rfl rfl)
theorem dX9_down_7 : decode cX9_down 7 = .ok (.goto 11, 3) := dk_167 0 11 (dk_at dksX9_down_0 7 rfl rfl)
theorem dX9_down_10 : decode cX9_down 10 = .ok (.iload_n 1, 1) := dk_27 (dk_at dksX9_down_0 10 rfl rfl)
theorem dX9_down_11 : decode cX9_down 11 = .ok (.iconst 1, 1) := dk_4 (dk_at dksX9_down_0 11 rfl rfl)
theorem dX9_down_12 : decode cX9_down 12 = .ok (.isub, 1) := dk_100 (dk_at dksX9_down_0 12 rfl rfl)
theorem dX9_down_13 : decode cX9_down 13 = .ok (.iload_n 0, 1) := dk_26 (dk_at dksX9_down_0 13 rfl rfl)
theorem dX9_down_14 : decode cX9_down 14 = .ok (.isub, 1) := dk_100 (dk_at dksX9_down_0 14 rfl rfl)
theorem dX9_down_15 : decode cX9_down 15 = .ok (.iload_n 1, 1) := dk_27 (dk_at dksX9_down_0 15 rfl rfl)
theorem dX9_down_16 : decode cX9_down 16 = .ok (.idiv, 1) := dk_108 (dk_at dksX9_down_0 16 rfl rfl)
theorem dX9_down_17 : decode cX9_down 17 = .ok (.ineg, 1) := dk_116 (dk_at dksX9_down_0 17 rfl rfl)
theorem dX9_down_18 : decode cX9_down 18 = .ok (.ireturn, 1) := dk_172 (dk_at dksX9_down_0 18 rfl rfl)
abbrev cX9_heldX : ByteArray := prog_15_method_75_code
def yX9_heldX : MethodName := ⟨RX9, "heldX", "(II)I"⟩
def dkwX9_heldX_5 : List UInt8 := [29, 46, 100, 104, 184, 1, 35, 172]
abbrev dktX9_heldX_5 : List UInt8 := dkwX9_heldX_5 ++ []
def dkwX9_heldX_4 : List UInt8 := [167, 0, 5, 21, 6, 104, 184, 1, 35, 54, 4, 21, 4, 3, 16, 16, 42, 180, 0, 89, 42, 180, 0, 16]
abbrev dktX9_heldX_4 : List UInt8 := dkwX9_heldX_4 ++ dktX9_heldX_5
def dkwX9_heldX_3 : List UInt8 := [21, 6, 42, 180, 0, 16, 21, 5, 5, 96, 46, 162, 0, 15, 42, 180, 0, 16, 21, 5, 5, 96, 46]
abbrev dktX9_heldX_3 : List UInt8 := dkwX9_heldX_3 ++ dktX9_heldX_4
def dkwX9_heldX_2 : List UInt8 := [29, 46, 100, 4, 96, 54, 6, 21, 4, 16, 16, 42, 180, 0, 16, 21, 5, 5, 96, 46, 104, 16, 16]
abbrev dktX9_heldX_2 : List UInt8 := dkwX9_heldX_2 ++ dktX9_heldX_3
def dkwX9_heldX_1 : List UInt8 := [180, 0, 16, 29, 4, 96, 46, 104, 96, 54, 5, 42, 180, 0, 16, 21, 5, 6, 96, 46, 42, 180, 0, 16]
abbrev dktX9_heldX_1 : List UInt8 := dkwX9_heldX_1 ++ dktX9_heldX_2
def dkwX9_heldX_0 : List UInt8 := [27, 184, 0, 112, 62, 28, 54, 4, 42, 180, 0, 16, 29, 4, 96, 46, 2, 159, 0, 88, 16, 24, 7, 42]
abbrev dktX9_heldX_0 : List UInt8 := dkwX9_heldX_0 ++ dktX9_heldX_1
theorem dksX9_heldX_0 : cX9_heldX.data.toList.drop 0 = dktX9_heldX_0 := by decide +kernel
theorem dksX9_heldX_1 : cX9_heldX.data.toList.drop 24 = dktX9_heldX_1 := dk_seg dksX9_heldX_0 24 rfl rfl
theorem dksX9_heldX_2 : cX9_heldX.data.toList.drop 48 = dktX9_heldX_2 := dk_seg dksX9_heldX_1 24 rfl rfl
theorem dksX9_heldX_3 : cX9_heldX.data.toList.drop 71 = dktX9_heldX_3 := dk_seg dksX9_heldX_2 23 rfl rfl
theorem dksX9_heldX_4 : cX9_heldX.data.toList.drop 94 = dktX9_heldX_4 := dk_seg dksX9_heldX_3 23 rfl rfl
theorem dksX9_heldX_5 : cX9_heldX.data.toList.drop 118 = dktX9_heldX_5 := dk_seg dksX9_heldX_4 24 rfl rfl
theorem dX9_heldX_0 : decode cX9_heldX 0 = .ok (.iload_n 1, 1) := dk_27 (dk_at dksX9_heldX_0 0 rfl rfl)
theorem dX9_heldX_1 : decode cX9_heldX 1 = .ok (.invokestatic 112, 3) := dk_184 0 112 (dk_at dksX9_heldX_0 1 rfl rfl)
theorem dX9_heldX_4 : decode cX9_heldX 4 = .ok (.istore_n 3, 1) := dk_62 (dk_at dksX9_heldX_0 4 rfl rfl)
theorem dX9_heldX_5 : decode cX9_heldX 5 = .ok (.iload_n 2, 1) := dk_28 (dk_at dksX9_heldX_0 5 rfl rfl)
theorem dX9_heldX_6 : decode cX9_heldX 6 = .ok (.istore 4, 2) := dk_54 4 (dk_at dksX9_heldX_0 6 rfl rfl)
theorem dX9_heldX_8 : decode cX9_heldX 8 = .ok (.aload_n 0, 1) := dk_42 (dk_at dksX9_heldX_0 8 rfl rfl)
theorem dX9_heldX_9 : decode cX9_heldX 9 = .ok (.getfield 16, 3) := dk_180 0 16 (dk_at dksX9_heldX_0 9 rfl rfl)
theorem dX9_heldX_12 : decode cX9_heldX 12 = .ok (.iload_n 3, 1) := dk_29 (dk_at dksX9_heldX_0 12 rfl rfl)
theorem dX9_heldX_13 : decode cX9_heldX 13 = .ok (.iconst 1, 1) := dk_4 (dk_at dksX9_heldX_0 13 rfl rfl)
theorem dX9_heldX_14 : decode cX9_heldX 14 = .ok (.iadd, 1) := dk_96 (dk_at dksX9_heldX_0 14 rfl rfl)
theorem dX9_heldX_15 : decode cX9_heldX 15 = .ok (.iaload, 1) := dk_46 (dk_at dksX9_heldX_0 15 rfl rfl)
theorem dX9_heldX_16 : decode cX9_heldX 16 = .ok (.iconst (-1), 1) := dk_2 (dk_at dksX9_heldX_0 16 rfl rfl)
theorem dX9_heldX_17 : decode cX9_heldX 17 = .ok (.if_icmp .eq 88, 3) := dk_159 0 88 (dk_at dksX9_heldX_0 17 rfl rfl)
theorem dX9_heldX_20 : decode cX9_heldX 20 = .ok (.bipush 24, 2) := dk_16 24 (dk_at dksX9_heldX_0 20 rfl rfl)
theorem dX9_heldX_22 : decode cX9_heldX 22 = .ok (.iconst 4, 1) := dk_7 (dk_at dksX9_heldX_0 22 rfl rfl)
theorem dX9_heldX_23 : decode cX9_heldX 23 = .ok (.aload_n 0, 1) := dk_42 (dk_at dksX9_heldX_0 23 rfl rfl)
theorem dX9_heldX_24 : decode cX9_heldX 24 = .ok (.getfield 16, 3) := dk_180 0 16 (dk_at dksX9_heldX_1 0 rfl rfl)
theorem dX9_heldX_27 : decode cX9_heldX 27 = .ok (.iload_n 3, 1) := dk_29 (dk_at dksX9_heldX_1 3 rfl rfl)
theorem dX9_heldX_28 : decode cX9_heldX 28 = .ok (.iconst 1, 1) := dk_4 (dk_at dksX9_heldX_1 4 rfl rfl)
theorem dX9_heldX_29 : decode cX9_heldX 29 = .ok (.iadd, 1) := dk_96 (dk_at dksX9_heldX_1 5 rfl rfl)
theorem dX9_heldX_30 : decode cX9_heldX 30 = .ok (.iaload, 1) := dk_46 (dk_at dksX9_heldX_1 6 rfl rfl)
theorem dX9_heldX_31 : decode cX9_heldX 31 = .ok (.imul, 1) := dk_104 (dk_at dksX9_heldX_1 7 rfl rfl)
theorem dX9_heldX_32 : decode cX9_heldX 32 = .ok (.iadd, 1) := dk_96 (dk_at dksX9_heldX_1 8 rfl rfl)
theorem dX9_heldX_33 : decode cX9_heldX 33 = .ok (.istore 5, 2) := dk_54 5 (dk_at dksX9_heldX_1 9 rfl rfl)
theorem dX9_heldX_35 : decode cX9_heldX 35 = .ok (.aload_n 0, 1) := dk_42 (dk_at dksX9_heldX_1 11 rfl rfl)
theorem dX9_heldX_36 : decode cX9_heldX 36 = .ok (.getfield 16, 3) := dk_180 0 16 (dk_at dksX9_heldX_1 12 rfl rfl)
theorem dX9_heldX_39 : decode cX9_heldX 39 = .ok (.iload 5, 2) := dk_21 5 (dk_at dksX9_heldX_1 15 rfl rfl)
theorem dX9_heldX_41 : decode cX9_heldX 41 = .ok (.iconst 3, 1) := dk_6 (dk_at dksX9_heldX_1 17 rfl rfl)
theorem dX9_heldX_42 : decode cX9_heldX 42 = .ok (.iadd, 1) := dk_96 (dk_at dksX9_heldX_1 18 rfl rfl)
theorem dX9_heldX_43 : decode cX9_heldX 43 = .ok (.iaload, 1) := dk_46 (dk_at dksX9_heldX_1 19 rfl rfl)
theorem dX9_heldX_44 : decode cX9_heldX 44 = .ok (.aload_n 0, 1) := dk_42 (dk_at dksX9_heldX_1 20 rfl rfl)
theorem dX9_heldX_45 : decode cX9_heldX 45 = .ok (.getfield 16, 3) := dk_180 0 16 (dk_at dksX9_heldX_1 21 rfl rfl)
theorem dX9_heldX_48 : decode cX9_heldX 48 = .ok (.iload_n 3, 1) := dk_29 (dk_at dksX9_heldX_2 0 rfl rfl)
theorem dX9_heldX_49 : decode cX9_heldX 49 = .ok (.iaload, 1) := dk_46 (dk_at dksX9_heldX_2 1 rfl rfl)
theorem dX9_heldX_50 : decode cX9_heldX 50 = .ok (.isub, 1) := dk_100 (dk_at dksX9_heldX_2 2 rfl rfl)
theorem dX9_heldX_51 : decode cX9_heldX 51 = .ok (.iconst 1, 1) := dk_4 (dk_at dksX9_heldX_2 3 rfl rfl)
theorem dX9_heldX_52 : decode cX9_heldX 52 = .ok (.iadd, 1) := dk_96 (dk_at dksX9_heldX_2 4 rfl rfl)
theorem dX9_heldX_53 : decode cX9_heldX 53 = .ok (.istore 6, 2) := dk_54 6 (dk_at dksX9_heldX_2 5 rfl rfl)
theorem dX9_heldX_55 : decode cX9_heldX 55 = .ok (.iload 4, 2) := dk_21 4 (dk_at dksX9_heldX_2 7 rfl rfl)
theorem dX9_heldX_57 : decode cX9_heldX 57 = .ok (.bipush 16, 2) := dk_16 16 (dk_at dksX9_heldX_2 9 rfl rfl)
theorem dX9_heldX_59 : decode cX9_heldX 59 = .ok (.aload_n 0, 1) := dk_42 (dk_at dksX9_heldX_2 11 rfl rfl)
theorem dX9_heldX_60 : decode cX9_heldX 60 = .ok (.getfield 16, 3) := dk_180 0 16 (dk_at dksX9_heldX_2 12 rfl rfl)
theorem dX9_heldX_63 : decode cX9_heldX 63 = .ok (.iload 5, 2) := dk_21 5 (dk_at dksX9_heldX_2 15 rfl rfl)
theorem dX9_heldX_65 : decode cX9_heldX 65 = .ok (.iconst 2, 1) := dk_5 (dk_at dksX9_heldX_2 17 rfl rfl)
theorem dX9_heldX_66 : decode cX9_heldX 66 = .ok (.iadd, 1) := dk_96 (dk_at dksX9_heldX_2 18 rfl rfl)
theorem dX9_heldX_67 : decode cX9_heldX 67 = .ok (.iaload, 1) := dk_46 (dk_at dksX9_heldX_2 19 rfl rfl)
theorem dX9_heldX_68 : decode cX9_heldX 68 = .ok (.imul, 1) := dk_104 (dk_at dksX9_heldX_2 20 rfl rfl)
theorem dX9_heldX_69 : decode cX9_heldX 69 = .ok (.bipush 16, 2) := dk_16 16 (dk_at dksX9_heldX_2 21 rfl rfl)
theorem dX9_heldX_71 : decode cX9_heldX 71 = .ok (.iload 6, 2) := dk_21 6 (dk_at dksX9_heldX_3 0 rfl rfl)
theorem dX9_heldX_73 : decode cX9_heldX 73 = .ok (.aload_n 0, 1) := dk_42 (dk_at dksX9_heldX_3 2 rfl rfl)
theorem dX9_heldX_74 : decode cX9_heldX 74 = .ok (.getfield 16, 3) := dk_180 0 16 (dk_at dksX9_heldX_3 3 rfl rfl)
theorem dX9_heldX_77 : decode cX9_heldX 77 = .ok (.iload 5, 2) := dk_21 5 (dk_at dksX9_heldX_3 6 rfl rfl)
theorem dX9_heldX_79 : decode cX9_heldX 79 = .ok (.iconst 2, 1) := dk_5 (dk_at dksX9_heldX_3 8 rfl rfl)
theorem dX9_heldX_80 : decode cX9_heldX 80 = .ok (.iadd, 1) := dk_96 (dk_at dksX9_heldX_3 9 rfl rfl)
theorem dX9_heldX_81 : decode cX9_heldX 81 = .ok (.iaload, 1) := dk_46 (dk_at dksX9_heldX_3 10 rfl rfl)
theorem dX9_heldX_82 : decode cX9_heldX 82 = .ok (.if_icmp .ge 15, 3) := dk_162 0 15 (dk_at dksX9_heldX_3 11 rfl rfl)
theorem dX9_heldX_85 : decode cX9_heldX 85 = .ok (.aload_n 0, 1) := dk_42 (dk_at dksX9_heldX_3 14 rfl rfl)
theorem dX9_heldX_86 : decode cX9_heldX 86 = .ok (.getfield 16, 3) := dk_180 0 16 (dk_at dksX9_heldX_3 15 rfl rfl)
theorem dX9_heldX_89 : decode cX9_heldX 89 = .ok (.iload 5, 2) := dk_21 5 (dk_at dksX9_heldX_3 18 rfl rfl)
theorem dX9_heldX_91 : decode cX9_heldX 91 = .ok (.iconst 2, 1) := dk_5 (dk_at dksX9_heldX_3 20 rfl rfl)
theorem dX9_heldX_92 : decode cX9_heldX 92 = .ok (.iadd, 1) := dk_96 (dk_at dksX9_heldX_3 21 rfl rfl)
theorem dX9_heldX_93 : decode cX9_heldX 93 = .ok (.iaload, 1) := dk_46 (dk_at dksX9_heldX_3 22 rfl rfl)
theorem dX9_heldX_94 : decode cX9_heldX 94 = .ok (.goto 5, 3) := dk_167 0 5 (dk_at dksX9_heldX_4 0 rfl rfl)
theorem dX9_heldX_97 : decode cX9_heldX 97 = .ok (.iload 6, 2) := dk_21 6 (dk_at dksX9_heldX_4 3 rfl rfl)
theorem dX9_heldX_99 : decode cX9_heldX 99 = .ok (.imul, 1) := dk_104 (dk_at dksX9_heldX_4 5 rfl rfl)
theorem dX9_heldX_100 : decode cX9_heldX 100 = .ok (.invokestatic 291, 3) := dk_184 1 35 (dk_at dksX9_heldX_4 6 rfl rfl)
theorem dX9_heldX_103 : decode cX9_heldX 103 = .ok (.istore 4, 2) := dk_54 4 (dk_at dksX9_heldX_4 9 rfl rfl)
theorem dX9_heldX_105 : decode cX9_heldX 105 = .ok (.iload 4, 2) := dk_21 4 (dk_at dksX9_heldX_4 11 rfl rfl)
theorem dX9_heldX_107 : decode cX9_heldX 107 = .ok (.iconst 0, 1) := dk_3 (dk_at dksX9_heldX_4 13 rfl rfl)
theorem dX9_heldX_108 : decode cX9_heldX 108 = .ok (.bipush 16, 2) := dk_16 16 (dk_at dksX9_heldX_4 14 rfl rfl)
theorem dX9_heldX_110 : decode cX9_heldX 110 = .ok (.aload_n 0, 1) := dk_42 (dk_at dksX9_heldX_4 16 rfl rfl)
theorem dX9_heldX_111 : decode cX9_heldX 111 = .ok (.getfield 89, 3) := dk_180 0 89 (dk_at dksX9_heldX_4 17 rfl rfl)
theorem dX9_heldX_114 : decode cX9_heldX 114 = .ok (.aload_n 0, 1) := dk_42 (dk_at dksX9_heldX_4 20 rfl rfl)
theorem dX9_heldX_115 : decode cX9_heldX 115 = .ok (.getfield 16, 3) := dk_180 0 16 (dk_at dksX9_heldX_4 21 rfl rfl)
theorem dX9_heldX_118 : decode cX9_heldX 118 = .ok (.iload_n 3, 1) := dk_29 (dk_at dksX9_heldX_5 0 rfl rfl)
theorem dX9_heldX_119 : decode cX9_heldX 119 = .ok (.iaload, 1) := dk_46 (dk_at dksX9_heldX_5 1 rfl rfl)
theorem dX9_heldX_120 : decode cX9_heldX 120 = .ok (.isub, 1) := dk_100 (dk_at dksX9_heldX_5 2 rfl rfl)
theorem dX9_heldX_121 : decode cX9_heldX 121 = .ok (.imul, 1) := dk_104 (dk_at dksX9_heldX_5 3 rfl rfl)
theorem dX9_heldX_122 : decode cX9_heldX 122 = .ok (.invokestatic 291, 3) := dk_184 1 35 (dk_at dksX9_heldX_5 4 rfl rfl)
theorem dX9_heldX_125 : decode cX9_heldX 125 = .ok (.ireturn, 1) := dk_172 (dk_at dksX9_heldX_5 7 rfl rfl)
abbrev cX9_held : ByteArray := prog_15_method_5_code
def yX9_held : MethodName := ⟨RX9, "held", "(III)I"⟩
def dkwX9_held_0 : List UInt8 := [26, 28, 164, 0, 7, 28, 167, 0, 13, 26, 27, 162, 0, 7, 27, 167, 0, 4, 26, 172]
abbrev dktX9_held_0 : List UInt8 := dkwX9_held_0 ++ []
theorem dksX9_held_0 : cX9_held.data.toList.drop 0 = dktX9_held_0 := by decide +kernel
theorem dX9_held_0 : decode cX9_held 0 = .ok (.iload_n 0, 1) := dk_26 (dk_at dksX9_held_0 0 rfl rfl)
theorem dX9_held_1 : decode cX9_held 1 = .ok (.iload_n 2, 1) := dk_28 (dk_at dksX9_held_0 1 rfl rfl)
theorem dX9_held_2 : decode cX9_held 2 = .ok (.if_icmp .le 7, 3) := dk_164 0 7 (dk_at dksX9_held_0 2 rfl rfl)
theorem dX9_held_5 : decode cX9_held 5 = .ok (.iload_n 2, 1) := dk_28 (dk_at dksX9_held_0 5 rfl rfl)
theorem dX9_held_6 : decode cX9_held 6 = .ok (.goto 13, 3) := dk_167 0 13 (dk_at dksX9_held_0 6 rfl rfl)
theorem dX9_held_9 : decode cX9_held 9 = .ok (.iload_n 0, 1) := dk_26 (dk_at dksX9_held_0 9 rfl rfl)
theorem dX9_held_10 : decode cX9_held 10 = .ok (.iload_n 1, 1) := dk_27 (dk_at dksX9_held_0 10 rfl rfl)
theorem dX9_held_11 : decode cX9_held 11 = .ok (.if_icmp .ge 7, 3) := dk_162 0 7 (dk_at dksX9_held_0 11 rfl rfl)
theorem dX9_held_14 : decode cX9_held 14 = .ok (.iload_n 1, 1) := dk_27 (dk_at dksX9_held_0 14 rfl rfl)
theorem dX9_held_15 : decode cX9_held 15 = .ok (.goto 4, 3) := dk_167 0 4 (dk_at dksX9_held_0 15 rfl rfl)
theorem dX9_held_18 : decode cX9_held 18 = .ok (.iload_n 0, 1) := dk_26 (dk_at dksX9_held_0 18 rfl rfl)
theorem dX9_held_19 : decode cX9_held 19 = .ok (.ireturn, 1) := dk_172 (dk_at dksX9_held_0 19 rfl rfl)
abbrev cX9_heldY : ByteArray := prog_15_method_76_code
def yX9_heldY : MethodName := ⟨RX9, "heldY", "(II)I"⟩
def dkwX9_heldY_3 : List UInt8 := [180, 0, 85, 4, 100, 104, 184, 1, 35, 172]
abbrev dktX9_heldY_3 : List UInt8 := dkwX9_heldY_3 ++ []
def dkwX9_heldY_2 : List UInt8 := [16, 16, 42, 180, 0, 16, 21, 5, 4, 96, 46, 104, 184, 1, 35, 54, 4, 21, 4, 3, 16, 16, 42]
abbrev dktX9_heldY_2 : List UInt8 := dkwX9_heldY_2 ++ dktX9_heldY_3
def dkwX9_heldY_1 : List UInt8 := [180, 0, 16, 29, 4, 96, 46, 104, 96, 54, 5, 21, 4, 16, 16, 42, 180, 0, 16, 21, 5, 46, 104]
abbrev dktX9_heldY_1 : List UInt8 := dkwX9_heldY_1 ++ dktX9_heldY_2
def dkwX9_heldY_0 : List UInt8 := [27, 184, 0, 112, 62, 28, 54, 4, 42, 180, 0, 16, 29, 4, 96, 46, 2, 159, 0, 47, 16, 24, 7, 42]
abbrev dktX9_heldY_0 : List UInt8 := dkwX9_heldY_0 ++ dktX9_heldY_1
theorem dksX9_heldY_0 : cX9_heldY.data.toList.drop 0 = dktX9_heldY_0 := by decide +kernel
theorem dksX9_heldY_1 : cX9_heldY.data.toList.drop 24 = dktX9_heldY_1 := dk_seg dksX9_heldY_0 24 rfl rfl
theorem dksX9_heldY_2 : cX9_heldY.data.toList.drop 47 = dktX9_heldY_2 := dk_seg dksX9_heldY_1 23 rfl rfl
theorem dksX9_heldY_3 : cX9_heldY.data.toList.drop 70 = dktX9_heldY_3 := dk_seg dksX9_heldY_2 23 rfl rfl
theorem dX9_heldY_0 : decode cX9_heldY 0 = .ok (.iload_n 1, 1) := dk_27 (dk_at dksX9_heldY_0 0 rfl rfl)
theorem dX9_heldY_1 : decode cX9_heldY 1 = .ok (.invokestatic 112, 3) := dk_184 0 112 (dk_at dksX9_heldY_0 1 rfl rfl)
theorem dX9_heldY_4 : decode cX9_heldY 4 = .ok (.istore_n 3, 1) := dk_62 (dk_at dksX9_heldY_0 4 rfl rfl)
theorem dX9_heldY_5 : decode cX9_heldY 5 = .ok (.iload_n 2, 1) := dk_28 (dk_at dksX9_heldY_0 5 rfl rfl)
theorem dX9_heldY_6 : decode cX9_heldY 6 = .ok (.istore 4, 2) := dk_54 4 (dk_at dksX9_heldY_0 6 rfl rfl)
theorem dX9_heldY_8 : decode cX9_heldY 8 = .ok (.aload_n 0, 1) := dk_42 (dk_at dksX9_heldY_0 8 rfl rfl)
theorem dX9_heldY_9 : decode cX9_heldY 9 = .ok (.getfield 16, 3) := dk_180 0 16 (dk_at dksX9_heldY_0 9 rfl rfl)
theorem dX9_heldY_12 : decode cX9_heldY 12 = .ok (.iload_n 3, 1) := dk_29 (dk_at dksX9_heldY_0 12 rfl rfl)
theorem dX9_heldY_13 : decode cX9_heldY 13 = .ok (.iconst 1, 1) := dk_4 (dk_at dksX9_heldY_0 13 rfl rfl)
theorem dX9_heldY_14 : decode cX9_heldY 14 = .ok (.iadd, 1) := dk_96 (dk_at dksX9_heldY_0 14 rfl rfl)
theorem dX9_heldY_15 : decode cX9_heldY 15 = .ok (.iaload, 1) := dk_46 (dk_at dksX9_heldY_0 15 rfl rfl)
theorem dX9_heldY_16 : decode cX9_heldY 16 = .ok (.iconst (-1), 1) := dk_2 (dk_at dksX9_heldY_0 16 rfl rfl)
theorem dX9_heldY_17 : decode cX9_heldY 17 = .ok (.if_icmp .eq 47, 3) := dk_159 0 47 (dk_at dksX9_heldY_0 17 rfl rfl)
theorem dX9_heldY_20 : decode cX9_heldY 20 = .ok (.bipush 24, 2) := dk_16 24 (dk_at dksX9_heldY_0 20 rfl rfl)
theorem dX9_heldY_22 : decode cX9_heldY 22 = .ok (.iconst 4, 1) := dk_7 (dk_at dksX9_heldY_0 22 rfl rfl)
theorem dX9_heldY_23 : decode cX9_heldY 23 = .ok (.aload_n 0, 1) := dk_42 (dk_at dksX9_heldY_0 23 rfl rfl)
theorem dX9_heldY_24 : decode cX9_heldY 24 = .ok (.getfield 16, 3) := dk_180 0 16 (dk_at dksX9_heldY_1 0 rfl rfl)
theorem dX9_heldY_27 : decode cX9_heldY 27 = .ok (.iload_n 3, 1) := dk_29 (dk_at dksX9_heldY_1 3 rfl rfl)
theorem dX9_heldY_28 : decode cX9_heldY 28 = .ok (.iconst 1, 1) := dk_4 (dk_at dksX9_heldY_1 4 rfl rfl)
theorem dX9_heldY_29 : decode cX9_heldY 29 = .ok (.iadd, 1) := dk_96 (dk_at dksX9_heldY_1 5 rfl rfl)
theorem dX9_heldY_30 : decode cX9_heldY 30 = .ok (.iaload, 1) := dk_46 (dk_at dksX9_heldY_1 6 rfl rfl)
theorem dX9_heldY_31 : decode cX9_heldY 31 = .ok (.imul, 1) := dk_104 (dk_at dksX9_heldY_1 7 rfl rfl)
theorem dX9_heldY_32 : decode cX9_heldY 32 = .ok (.iadd, 1) := dk_96 (dk_at dksX9_heldY_1 8 rfl rfl)
theorem dX9_heldY_33 : decode cX9_heldY 33 = .ok (.istore 5, 2) := dk_54 5 (dk_at dksX9_heldY_1 9 rfl rfl)
theorem dX9_heldY_35 : decode cX9_heldY 35 = .ok (.iload 4, 2) := dk_21 4 (dk_at dksX9_heldY_1 11 rfl rfl)
theorem dX9_heldY_37 : decode cX9_heldY 37 = .ok (.bipush 16, 2) := dk_16 16 (dk_at dksX9_heldY_1 13 rfl rfl)
theorem dX9_heldY_39 : decode cX9_heldY 39 = .ok (.aload_n 0, 1) := dk_42 (dk_at dksX9_heldY_1 15 rfl rfl)
theorem dX9_heldY_40 : decode cX9_heldY 40 = .ok (.getfield 16, 3) := dk_180 0 16 (dk_at dksX9_heldY_1 16 rfl rfl)
theorem dX9_heldY_43 : decode cX9_heldY 43 = .ok (.iload 5, 2) := dk_21 5 (dk_at dksX9_heldY_1 19 rfl rfl)
theorem dX9_heldY_45 : decode cX9_heldY 45 = .ok (.iaload, 1) := dk_46 (dk_at dksX9_heldY_1 21 rfl rfl)
theorem dX9_heldY_46 : decode cX9_heldY 46 = .ok (.imul, 1) := dk_104 (dk_at dksX9_heldY_1 22 rfl rfl)
theorem dX9_heldY_47 : decode cX9_heldY 47 = .ok (.bipush 16, 2) := dk_16 16 (dk_at dksX9_heldY_2 0 rfl rfl)
theorem dX9_heldY_49 : decode cX9_heldY 49 = .ok (.aload_n 0, 1) := dk_42 (dk_at dksX9_heldY_2 2 rfl rfl)
theorem dX9_heldY_50 : decode cX9_heldY 50 = .ok (.getfield 16, 3) := dk_180 0 16 (dk_at dksX9_heldY_2 3 rfl rfl)
theorem dX9_heldY_53 : decode cX9_heldY 53 = .ok (.iload 5, 2) := dk_21 5 (dk_at dksX9_heldY_2 6 rfl rfl)
theorem dX9_heldY_55 : decode cX9_heldY 55 = .ok (.iconst 1, 1) := dk_4 (dk_at dksX9_heldY_2 8 rfl rfl)
theorem dX9_heldY_56 : decode cX9_heldY 56 = .ok (.iadd, 1) := dk_96 (dk_at dksX9_heldY_2 9 rfl rfl)
theorem dX9_heldY_57 : decode cX9_heldY 57 = .ok (.iaload, 1) := dk_46 (dk_at dksX9_heldY_2 10 rfl rfl)
theorem dX9_heldY_58 : decode cX9_heldY 58 = .ok (.imul, 1) := dk_104 (dk_at dksX9_heldY_2 11 rfl rfl)
theorem dX9_heldY_59 : decode cX9_heldY 59 = .ok (.invokestatic 291, 3) := dk_184 1 35 (dk_at dksX9_heldY_2 12 rfl rfl)
theorem dX9_heldY_62 : decode cX9_heldY 62 = .ok (.istore 4, 2) := dk_54 4 (dk_at dksX9_heldY_2 15 rfl rfl)
theorem dX9_heldY_64 : decode cX9_heldY 64 = .ok (.iload 4, 2) := dk_21 4 (dk_at dksX9_heldY_2 17 rfl rfl)
theorem dX9_heldY_66 : decode cX9_heldY 66 = .ok (.iconst 0, 1) := dk_3 (dk_at dksX9_heldY_2 19 rfl rfl)
theorem dX9_heldY_67 : decode cX9_heldY 67 = .ok (.bipush 16, 2) := dk_16 16 (dk_at dksX9_heldY_2 20 rfl rfl)
theorem dX9_heldY_69 : decode cX9_heldY 69 = .ok (.aload_n 0, 1) := dk_42 (dk_at dksX9_heldY_2 22 rfl rfl)
theorem dX9_heldY_70 : decode cX9_heldY 70 = .ok (.getfield 85, 3) := dk_180 0 85 (dk_at dksX9_heldY_3 0 rfl rfl)
theorem dX9_heldY_73 : decode cX9_heldY 73 = .ok (.iconst 1, 1) := dk_4 (dk_at dksX9_heldY_3 3 rfl rfl)
theorem dX9_heldY_74 : decode cX9_heldY 74 = .ok (.isub, 1) := dk_100 (dk_at dksX9_heldY_3 4 rfl rfl)
theorem dX9_heldY_75 : decode cX9_heldY 75 = .ok (.imul, 1) := dk_104 (dk_at dksX9_heldY_3 5 rfl rfl)
theorem dX9_heldY_76 : decode cX9_heldY 76 = .ok (.invokestatic 291, 3) := dk_184 1 35 (dk_at dksX9_heldY_3 6 rfl rfl)
theorem dX9_heldY_79 : decode cX9_heldY 79 = .ok (.ireturn, 1) := dk_172 (dk_at dksX9_heldY_3 9 rfl rfl)
abbrev cX9_spread : ByteArray := prog_15_method_83_code
def yX9_spread : MethodName := ⟨RX9, "spread", "(I)I"⟩
def dkwX9_spread_4 : List UInt8 := [182, 0, 109, 172]
abbrev dktX9_spread_4 : List UInt8 := dkwX9_spread_4 ++ []
def dkwX9_spread_3 : List UInt8 := [182, 1, 70, 132, 4, 1, 167, 255, 227, 132, 3, 1, 167, 255, 213, 42, 28, 42, 182, 1, 56, 100]
abbrev dktX9_spread_3 : List UInt8 := dkwX9_spread_3 ++ dktX9_spread_4
def dkwX9_spread_2 : List UInt8 := [21, 4, 42, 180, 0, 16, 5, 46, 162, 0, 24, 42, 21, 4, 182, 0, 115, 154, 0, 9, 42, 21, 4]
abbrev dktX9_spread_2 : List UInt8 := dkwX9_spread_2 ++ dktX9_spread_3
def dkwX9_spread_1 : List UInt8 := [16, 11, 182, 0, 186, 42, 182, 1, 67, 42, 182, 1, 56, 61, 3, 62, 29, 27, 162, 0, 44, 3, 54, 4]
abbrev dktX9_spread_1 : List UInt8 := dkwX9_spread_1 ++ dktX9_spread_2
def dkwX9_spread_0 : List UInt8 := [42, 3, 181, 0, 92, 27, 133, 10, 20, 1, 65, 184, 0, 122, 154, 0, 9, 42, 2, 182, 0, 105, 172, 42]
abbrev dktX9_spread_0 : List UInt8 := dkwX9_spread_0 ++ dktX9_spread_1
theorem dksX9_spread_0 : cX9_spread.data.toList.drop 0 = dktX9_spread_0 := by decide +kernel
theorem dksX9_spread_1 : cX9_spread.data.toList.drop 24 = dktX9_spread_1 := dk_seg dksX9_spread_0 24 rfl rfl
theorem dksX9_spread_2 : cX9_spread.data.toList.drop 48 = dktX9_spread_2 := dk_seg dksX9_spread_1 24 rfl rfl
theorem dksX9_spread_3 : cX9_spread.data.toList.drop 71 = dktX9_spread_3 := dk_seg dksX9_spread_2 23 rfl rfl
theorem dksX9_spread_4 : cX9_spread.data.toList.drop 93 = dktX9_spread_4 := dk_seg dksX9_spread_3 22 rfl rfl
theorem dX9_spread_0 : decode cX9_spread 0 = .ok (.aload_n 0, 1) := dk_42 (dk_at dksX9_spread_0 0 rfl rfl)
theorem dX9_spread_1 : decode cX9_spread 1 = .ok (.iconst 0, 1) := dk_3 (dk_at dksX9_spread_0 1 rfl rfl)
theorem dX9_spread_2 : decode cX9_spread 2 = .ok (.putfield 92, 3) := dk_181 0 92 (dk_at dksX9_spread_0 2 rfl rfl)
theorem dX9_spread_5 : decode cX9_spread 5 = .ok (.iload_n 1, 1) := dk_27 (dk_at dksX9_spread_0 5 rfl rfl)
theorem dX9_spread_6 : decode cX9_spread 6 = .ok (.i2l, 1) := dk_133 (dk_at dksX9_spread_0 6 rfl rfl)
theorem dX9_spread_7 : decode cX9_spread 7 = .ok (.lconst 1, 1) := dk_10 (dk_at dksX9_spread_0 7 rfl rfl)
theorem dX9_spread_8 : decode cX9_spread 8 = .ok (.ldc2_w 321, 3) := dk_20 1 65 (dk_at dksX9_spread_0 8 rfl rfl)
theorem dX9_spread_11 : decode cX9_spread 11 = .ok (.invokestatic 122, 3) := dk_184 0 122 (dk_at dksX9_spread_0 11 rfl rfl)
theorem dX9_spread_14 : decode cX9_spread 14 = .ok (.ifCond .ne 9, 3) := dk_154 0 9 (dk_at dksX9_spread_0 14 rfl rfl)
theorem dX9_spread_17 : decode cX9_spread 17 = .ok (.aload_n 0, 1) := dk_42 (dk_at dksX9_spread_0 17 rfl rfl)
theorem dX9_spread_18 : decode cX9_spread 18 = .ok (.iconst (-1), 1) := dk_2 (dk_at dksX9_spread_0 18 rfl rfl)
theorem dX9_spread_19 : decode cX9_spread 19 = .ok (.invokevirtual 105, 3) := dk_182 0 105 (dk_at dksX9_spread_0 19 rfl rfl)
theorem dX9_spread_22 : decode cX9_spread 22 = .ok (.ireturn, 1) := dk_172 (dk_at dksX9_spread_0 22 rfl rfl)
theorem dX9_spread_23 : decode cX9_spread 23 = .ok (.aload_n 0, 1) := dk_42 (dk_at dksX9_spread_0 23 rfl rfl)
theorem dX9_spread_24 : decode cX9_spread 24 = .ok (.bipush 11, 2) := dk_16 11 (dk_at dksX9_spread_1 0 rfl rfl)
theorem dX9_spread_26 : decode cX9_spread 26 = .ok (.invokevirtual 186, 3) := dk_182 0 186 (dk_at dksX9_spread_1 2 rfl rfl)
theorem dX9_spread_29 : decode cX9_spread 29 = .ok (.aload_n 0, 1) := dk_42 (dk_at dksX9_spread_1 5 rfl rfl)
theorem dX9_spread_30 : decode cX9_spread 30 = .ok (.invokevirtual 323, 3) := dk_182 1 67 (dk_at dksX9_spread_1 6 rfl rfl)
theorem dX9_spread_33 : decode cX9_spread 33 = .ok (.aload_n 0, 1) := dk_42 (dk_at dksX9_spread_1 9 rfl rfl)
theorem dX9_spread_34 : decode cX9_spread 34 = .ok (.invokevirtual 312, 3) := dk_182 1 56 (dk_at dksX9_spread_1 10 rfl rfl)
theorem dX9_spread_37 : decode cX9_spread 37 = .ok (.istore_n 2, 1) := dk_61 (dk_at dksX9_spread_1 13 rfl rfl)
theorem dX9_spread_38 : decode cX9_spread 38 = .ok (.iconst 0, 1) := dk_3 (dk_at dksX9_spread_1 14 rfl rfl)
theorem dX9_spread_39 : decode cX9_spread 39 = .ok (.istore_n 3, 1) := dk_62 (dk_at dksX9_spread_1 15 rfl rfl)
theorem dX9_spread_40 : decode cX9_spread 40 = .ok (.iload_n 3, 1) := dk_29 (dk_at dksX9_spread_1 16 rfl rfl)
theorem dX9_spread_41 : decode cX9_spread 41 = .ok (.iload_n 1, 1) := dk_27 (dk_at dksX9_spread_1 17 rfl rfl)
theorem dX9_spread_42 : decode cX9_spread 42 = .ok (.if_icmp .ge 44, 3) := dk_162 0 44 (dk_at dksX9_spread_1 18 rfl rfl)
theorem dX9_spread_45 : decode cX9_spread 45 = .ok (.iconst 0, 1) := dk_3 (dk_at dksX9_spread_1 21 rfl rfl)
theorem dX9_spread_46 : decode cX9_spread 46 = .ok (.istore 4, 2) := dk_54 4 (dk_at dksX9_spread_1 22 rfl rfl)
theorem dX9_spread_48 : decode cX9_spread 48 = .ok (.iload 4, 2) := dk_21 4 (dk_at dksX9_spread_2 0 rfl rfl)
theorem dX9_spread_50 : decode cX9_spread 50 = .ok (.aload_n 0, 1) := dk_42 (dk_at dksX9_spread_2 2 rfl rfl)
theorem dX9_spread_51 : decode cX9_spread 51 = .ok (.getfield 16, 3) := dk_180 0 16 (dk_at dksX9_spread_2 3 rfl rfl)
theorem dX9_spread_54 : decode cX9_spread 54 = .ok (.iconst 2, 1) := dk_5 (dk_at dksX9_spread_2 6 rfl rfl)
theorem dX9_spread_55 : decode cX9_spread 55 = .ok (.iaload, 1) := dk_46 (dk_at dksX9_spread_2 7 rfl rfl)
theorem dX9_spread_56 : decode cX9_spread 56 = .ok (.if_icmp .ge 24, 3) := dk_162 0 24 (dk_at dksX9_spread_2 8 rfl rfl)
theorem dX9_spread_59 : decode cX9_spread 59 = .ok (.aload_n 0, 1) := dk_42 (dk_at dksX9_spread_2 11 rfl rfl)
theorem dX9_spread_60 : decode cX9_spread 60 = .ok (.iload 4, 2) := dk_21 4 (dk_at dksX9_spread_2 12 rfl rfl)
theorem dX9_spread_62 : decode cX9_spread 62 = .ok (.invokevirtual 115, 3) := dk_182 0 115 (dk_at dksX9_spread_2 14 rfl rfl)
theorem dX9_spread_65 : decode cX9_spread 65 = .ok (.ifCond .ne 9, 3) := dk_154 0 9 (dk_at dksX9_spread_2 17 rfl rfl)
theorem dX9_spread_68 : decode cX9_spread 68 = .ok (.aload_n 0, 1) := dk_42 (dk_at dksX9_spread_2 20 rfl rfl)
theorem dX9_spread_69 : decode cX9_spread 69 = .ok (.iload 4, 2) := dk_21 4 (dk_at dksX9_spread_2 21 rfl rfl)
theorem dX9_spread_71 : decode cX9_spread 71 = .ok (.invokevirtual 326, 3) := dk_182 1 70 (dk_at dksX9_spread_3 0 rfl rfl)
theorem dX9_spread_74 : decode cX9_spread 74 = .ok (.iinc 4 1, 3) := dk_132 4 1 (dk_at dksX9_spread_3 3 rfl rfl)
theorem dX9_spread_77 : decode cX9_spread 77 = .ok (.goto (-29), 3) := dk_167 255 227 (dk_at dksX9_spread_3 6 rfl rfl)
theorem dX9_spread_80 : decode cX9_spread 80 = .ok (.iinc 3 1, 3) := dk_132 3 1 (dk_at dksX9_spread_3 9 rfl rfl)
theorem dX9_spread_83 : decode cX9_spread 83 = .ok (.goto (-43), 3) := dk_167 255 213 (dk_at dksX9_spread_3 12 rfl rfl)
theorem dX9_spread_86 : decode cX9_spread 86 = .ok (.aload_n 0, 1) := dk_42 (dk_at dksX9_spread_3 15 rfl rfl)
theorem dX9_spread_87 : decode cX9_spread 87 = .ok (.iload_n 2, 1) := dk_28 (dk_at dksX9_spread_3 16 rfl rfl)
theorem dX9_spread_88 : decode cX9_spread 88 = .ok (.aload_n 0, 1) := dk_42 (dk_at dksX9_spread_3 17 rfl rfl)
theorem dX9_spread_89 : decode cX9_spread 89 = .ok (.invokevirtual 312, 3) := dk_182 1 56 (dk_at dksX9_spread_3 18 rfl rfl)
theorem dX9_spread_92 : decode cX9_spread 92 = .ok (.isub, 1) := dk_100 (dk_at dksX9_spread_3 21 rfl rfl)
theorem dX9_spread_93 : decode cX9_spread 93 = .ok (.invokevirtual 109, 3) := dk_182 0 109 (dk_at dksX9_spread_4 0 rfl rfl)
theorem dX9_spread_96 : decode cX9_spread 96 = .ok (.ireturn, 1) := dk_172 (dk_at dksX9_spread_4 3 rfl rfl)
abbrev cX9_laySupply : ByteArray := prog_15_method_121_code
def yX9_laySupply : MethodName := ⟨RX9, "laySupply", "()V"⟩
def dkwX9_laySupply_1 : List UInt8 := [167, 255, 234, 177]
abbrev dktX9_laySupply_1 : List UInt8 := dkwX9_laySupply_1 ++ []
def dkwX9_laySupply_0 : List UInt8 := [3, 60, 27, 42, 182, 1, 23, 162, 0, 20, 42, 180, 0, 82, 27, 42, 27, 182, 1, 194, 79, 132, 1, 1]
abbrev dktX9_laySupply_0 : List UInt8 := dkwX9_laySupply_0 ++ dktX9_laySupply_1
theorem dksX9_laySupply_0 : cX9_laySupply.data.toList.drop 0 = dktX9_laySupply_0 := by decide +kernel
theorem dksX9_laySupply_1 : cX9_laySupply.data.toList.drop 24 = dktX9_laySupply_1 := dk_seg dksX9_laySupply_0 24 rfl rfl
theorem dX9_laySupply_0 : decode cX9_laySupply 0 = .ok (.iconst 0, 1) := dk_3 (dk_at dksX9_laySupply_0 0 rfl rfl)
theorem dX9_laySupply_1 : decode cX9_laySupply 1 = .ok (.istore_n 1, 1) := dk_60 (dk_at dksX9_laySupply_0 1 rfl rfl)
theorem dX9_laySupply_2 : decode cX9_laySupply 2 = .ok (.iload_n 1, 1) := dk_27 (dk_at dksX9_laySupply_0 2 rfl rfl)
theorem dX9_laySupply_3 : decode cX9_laySupply 3 = .ok (.aload_n 0, 1) := dk_42 (dk_at dksX9_laySupply_0 3 rfl rfl)
theorem dX9_laySupply_4 : decode cX9_laySupply 4 = .ok (.invokevirtual 279, 3) := dk_182 1 23 (dk_at dksX9_laySupply_0 4 rfl rfl)
theorem dX9_laySupply_7 : decode cX9_laySupply 7 = .ok (.if_icmp .ge 20, 3) := dk_162 0 20 (dk_at dksX9_laySupply_0 7 rfl rfl)
theorem dX9_laySupply_10 : decode cX9_laySupply 10 = .ok (.aload_n 0, 1) := dk_42 (dk_at dksX9_laySupply_0 10 rfl rfl)
theorem dX9_laySupply_11 : decode cX9_laySupply 11 = .ok (.getfield 82, 3) := dk_180 0 82 (dk_at dksX9_laySupply_0 11 rfl rfl)
theorem dX9_laySupply_14 : decode cX9_laySupply 14 = .ok (.iload_n 1, 1) := dk_27 (dk_at dksX9_laySupply_0 14 rfl rfl)
theorem dX9_laySupply_15 : decode cX9_laySupply 15 = .ok (.aload_n 0, 1) := dk_42 (dk_at dksX9_laySupply_0 15 rfl rfl)
theorem dX9_laySupply_16 : decode cX9_laySupply 16 = .ok (.iload_n 1, 1) := dk_27 (dk_at dksX9_laySupply_0 16 rfl rfl)
theorem dX9_laySupply_17 : decode cX9_laySupply 17 = .ok (.invokevirtual 450, 3) := dk_182 1 194 (dk_at dksX9_laySupply_0 17 rfl rfl)
theorem dX9_laySupply_20 : decode cX9_laySupply 20 = .ok (.iastore, 1) := dk_79 (dk_at dksX9_laySupply_0 20 rfl rfl)
theorem dX9_laySupply_21 : decode cX9_laySupply 21 = .ok (.iinc 1 1, 3) := dk_132 1 1 (dk_at dksX9_laySupply_0 21 rfl rfl)
theorem dX9_laySupply_24 : decode cX9_laySupply 24 = .ok (.goto (-22), 3) := dk_167 255 234 (dk_at dksX9_laySupply_1 0 rfl rfl)
theorem dX9_laySupply_27 : decode cX9_laySupply 27 = .ok (.return_, 1) := dk_177 (dk_at dksX9_laySupply_1 3 rfl rfl)
abbrev cX9_bins : ByteArray := prog_15_method_66_code
def yX9_bins : MethodName := ⟨RX9, "bins", "()I"⟩
def dkwX9_bins_0 : List UInt8 := [42, 182, 1, 13, 42, 180, 0, 85, 4, 96, 5, 108, 104, 172]
abbrev dktX9_bins_0 : List UInt8 := dkwX9_bins_0 ++ []
theorem dksX9_bins_0 : cX9_bins.data.toList.drop 0 = dktX9_bins_0 := by decide +kernel
theorem dX9_bins_0 : decode cX9_bins 0 = .ok (.aload_n 0, 1) := dk_42 (dk_at dksX9_bins_0 0 rfl rfl)
theorem dX9_bins_1 : decode cX9_bins 1 = .ok (.invokevirtual 269, 3) := dk_182 1 13 (dk_at dksX9_bins_0 1 rfl rfl)
theorem dX9_bins_4 : decode cX9_bins 4 = .ok (.aload_n 0, 1) := dk_42 (dk_at dksX9_bins_0 4 rfl rfl)
theorem dX9_bins_5 : decode cX9_bins 5 = .ok (.getfield 85, 3) := dk_180 0 85 (dk_at dksX9_bins_0 5 rfl rfl)
theorem dX9_bins_8 : decode cX9_bins 8 = .ok (.iconst 1, 1) := dk_4 (dk_at dksX9_bins_0 8 rfl rfl)
theorem dX9_bins_9 : decode cX9_bins 9 = .ok (.iadd, 1) := dk_96 (dk_at dksX9_bins_0 9 rfl rfl)
theorem dX9_bins_10 : decode cX9_bins 10 = .ok (.iconst 2, 1) := dk_5 (dk_at dksX9_bins_0 10 rfl rfl)
theorem dX9_bins_11 : decode cX9_bins 11 = .ok (.idiv, 1) := dk_108 (dk_at dksX9_bins_0 11 rfl rfl)
theorem dX9_bins_12 : decode cX9_bins 12 = .ok (.imul, 1) := dk_104 (dk_at dksX9_bins_0 12 rfl rfl)
theorem dX9_bins_13 : decode cX9_bins 13 = .ok (.ireturn, 1) := dk_172 (dk_at dksX9_bins_0 13 rfl rfl)
abbrev cX9_columns : ByteArray := prog_15_method_65_code
def yX9_columns : MethodName := ⟨RX9, "columns", "()I"⟩
def dkwX9_columns_0 : List UInt8 := [42, 180, 0, 89, 16, 7, 96, 16, 8, 108, 172]
abbrev dktX9_columns_0 : List UInt8 := dkwX9_columns_0 ++ []
theorem dksX9_columns_0 : cX9_columns.data.toList.drop 0 = dktX9_columns_0 := by decide +kernel
theorem dX9_columns_0 : decode cX9_columns 0 = .ok (.aload_n 0, 1) := dk_42 (dk_at dksX9_columns_0 0 rfl rfl)
theorem dX9_columns_1 : decode cX9_columns 1 = .ok (.getfield 89, 3) := dk_180 0 89 (dk_at dksX9_columns_0 1 rfl rfl)
theorem dX9_columns_4 : decode cX9_columns 4 = .ok (.bipush 7, 2) := dk_16 7 (dk_at dksX9_columns_0 4 rfl rfl)
theorem dX9_columns_6 : decode cX9_columns 6 = .ok (.iadd, 1) := dk_96 (dk_at dksX9_columns_0 6 rfl rfl)
theorem dX9_columns_7 : decode cX9_columns 7 = .ok (.bipush 8, 2) := dk_16 8 (dk_at dksX9_columns_0 7 rfl rfl)
theorem dX9_columns_9 : decode cX9_columns 9 = .ok (.idiv, 1) := dk_108 (dk_at dksX9_columns_0 9 rfl rfl)
theorem dX9_columns_10 : decode cX9_columns 10 = .ok (.ireturn, 1) := dk_172 (dk_at dksX9_columns_0 10 rfl rfl)
abbrev cX9_supply : ByteArray := prog_15_method_67_code
def yX9_supply : MethodName := ⟨RX9, "supply", "(I)I"⟩
def dkwX9_supply_4 : List UInt8 := [167, 0, 4, 3, 96, 61, 132, 4, 1, 167, 255, 193, 132, 3, 1, 167, 255, 162, 28, 172]
abbrev dktX9_supply_4 : List UInt8 := dkwX9_supply_4 ++ []
def dkwX9_supply_3 : List UInt8 := [182, 0, 140, 154, 0, 22, 42, 29, 21, 4, 2, 4, 182, 0, 150, 2, 160, 0, 9, 17, 1, 0]
abbrev dktX9_supply_3 : List UInt8 := dkwX9_supply_3 ++ dktX9_supply_4
def dkwX9_supply_2 : List UInt8 := [104, 16, 8, 96, 162, 0, 52, 28, 42, 29, 21, 4, 182, 0, 133, 153, 0, 32, 42, 29, 21, 4]
abbrev dktX9_supply_2 : List UInt8 := dkwX9_supply_2 ++ dktX9_supply_3
def dkwX9_supply_1 : List UInt8 := [162, 0, 86, 27, 42, 182, 1, 13, 112, 16, 8, 104, 54, 4, 21, 4, 27, 42, 182, 1, 13, 112, 16, 8]
abbrev dktX9_supply_1 : List UInt8 := dkwX9_supply_1 ++ dktX9_supply_2
def dkwX9_supply_0 : List UInt8 := [3, 61, 27, 42, 182, 1, 13, 108, 5, 104, 62, 29, 27, 42, 182, 1, 13, 108, 5, 104, 5, 96]
abbrev dktX9_supply_0 : List UInt8 := dkwX9_supply_0 ++ dktX9_supply_1
theorem dksX9_supply_0 : cX9_supply.data.toList.drop 0 = dktX9_supply_0 := by decide +kernel
theorem dksX9_supply_1 : cX9_supply.data.toList.drop 22 = dktX9_supply_1 := dk_seg dksX9_supply_0 22 rfl rfl
theorem dksX9_supply_2 : cX9_supply.data.toList.drop 46 = dktX9_supply_2 := dk_seg dksX9_supply_1 24 rfl rfl
theorem dksX9_supply_3 : cX9_supply.data.toList.drop 68 = dktX9_supply_3 := dk_seg dksX9_supply_2 22 rfl rfl
theorem dksX9_supply_4 : cX9_supply.data.toList.drop 90 = dktX9_supply_4 := dk_seg dksX9_supply_3 22 rfl rfl
theorem dX9_supply_0 : decode cX9_supply 0 = .ok (.iconst 0, 1) := dk_3 (dk_at dksX9_supply_0 0 rfl rfl)
theorem dX9_supply_1 : decode cX9_supply 1 = .ok (.istore_n 2, 1) := dk_61 (dk_at dksX9_supply_0 1 rfl rfl)
theorem dX9_supply_2 : decode cX9_supply 2 = .ok (.iload_n 1, 1) := dk_27 (dk_at dksX9_supply_0 2 rfl rfl)
theorem dX9_supply_3 : decode cX9_supply 3 = .ok (.aload_n 0, 1) := dk_42 (dk_at dksX9_supply_0 3 rfl rfl)
theorem dX9_supply_4 : decode cX9_supply 4 = .ok (.invokevirtual 269, 3) := dk_182 1 13 (dk_at dksX9_supply_0 4 rfl rfl)
theorem dX9_supply_7 : decode cX9_supply 7 = .ok (.idiv, 1) := dk_108 (dk_at dksX9_supply_0 7 rfl rfl)
theorem dX9_supply_8 : decode cX9_supply 8 = .ok (.iconst 2, 1) := dk_5 (dk_at dksX9_supply_0 8 rfl rfl)
theorem dX9_supply_9 : decode cX9_supply 9 = .ok (.imul, 1) := dk_104 (dk_at dksX9_supply_0 9 rfl rfl)
theorem dX9_supply_10 : decode cX9_supply 10 = .ok (.istore_n 3, 1) := dk_62 (dk_at dksX9_supply_0 10 rfl rfl)
theorem dX9_supply_11 : decode cX9_supply 11 = .ok (.iload_n 3, 1) := dk_29 (dk_at dksX9_supply_0 11 rfl rfl)
theorem dX9_supply_12 : decode cX9_supply 12 = .ok (.iload_n 1, 1) := dk_27 (dk_at dksX9_supply_0 12 rfl rfl)
theorem dX9_supply_13 : decode cX9_supply 13 = .ok (.aload_n 0, 1) := dk_42 (dk_at dksX9_supply_0 13 rfl rfl)
theorem dX9_supply_14 : decode cX9_supply 14 = .ok (.invokevirtual 269, 3) := dk_182 1 13 (dk_at dksX9_supply_0 14 rfl rfl)
theorem dX9_supply_17 : decode cX9_supply 17 = .ok (.idiv, 1) := dk_108 (dk_at dksX9_supply_0 17 rfl rfl)
theorem dX9_supply_18 : decode cX9_supply 18 = .ok (.iconst 2, 1) := dk_5 (dk_at dksX9_supply_0 18 rfl rfl)
theorem dX9_supply_19 : decode cX9_supply 19 = .ok (.imul, 1) := dk_104 (dk_at dksX9_supply_0 19 rfl rfl)
theorem dX9_supply_20 : decode cX9_supply 20 = .ok (.iconst 2, 1) := dk_5 (dk_at dksX9_supply_0 20 rfl rfl)
theorem dX9_supply_21 : decode cX9_supply 21 = .ok (.iadd, 1) := dk_96 (dk_at dksX9_supply_0 21 rfl rfl)
theorem dX9_supply_22 : decode cX9_supply 22 = .ok (.if_icmp .ge 86, 3) := dk_162 0 86 (dk_at dksX9_supply_1 0 rfl rfl)
theorem dX9_supply_25 : decode cX9_supply 25 = .ok (.iload_n 1, 1) := dk_27 (dk_at dksX9_supply_1 3 rfl rfl)
theorem dX9_supply_26 : decode cX9_supply 26 = .ok (.aload_n 0, 1) := dk_42 (dk_at dksX9_supply_1 4 rfl rfl)
theorem dX9_supply_27 : decode cX9_supply 27 = .ok (.invokevirtual 269, 3) := dk_182 1 13 (dk_at dksX9_supply_1 5 rfl rfl)
theorem dX9_supply_30 : decode cX9_supply 30 = .ok (.irem, 1) := dk_112 (dk_at dksX9_supply_1 8 rfl rfl)
theorem dX9_supply_31 : decode cX9_supply 31 = .ok (.bipush 8, 2) := dk_16 8 (dk_at dksX9_supply_1 9 rfl rfl)
theorem dX9_supply_33 : decode cX9_supply 33 = .ok (.imul, 1) := dk_104 (dk_at dksX9_supply_1 11 rfl rfl)
theorem dX9_supply_34 : decode cX9_supply 34 = .ok (.istore 4, 2) := dk_54 4 (dk_at dksX9_supply_1 12 rfl rfl)
theorem dX9_supply_36 : decode cX9_supply 36 = .ok (.iload 4, 2) := dk_21 4 (dk_at dksX9_supply_1 14 rfl rfl)
theorem dX9_supply_38 : decode cX9_supply 38 = .ok (.iload_n 1, 1) := dk_27 (dk_at dksX9_supply_1 16 rfl rfl)
theorem dX9_supply_39 : decode cX9_supply 39 = .ok (.aload_n 0, 1) := dk_42 (dk_at dksX9_supply_1 17 rfl rfl)
theorem dX9_supply_40 : decode cX9_supply 40 = .ok (.invokevirtual 269, 3) := dk_182 1 13 (dk_at dksX9_supply_1 18 rfl rfl)
theorem dX9_supply_43 : decode cX9_supply 43 = .ok (.irem, 1) := dk_112 (dk_at dksX9_supply_1 21 rfl rfl)
theorem dX9_supply_44 : decode cX9_supply 44 = .ok (.bipush 8, 2) := dk_16 8 (dk_at dksX9_supply_1 22 rfl rfl)
theorem dX9_supply_46 : decode cX9_supply 46 = .ok (.imul, 1) := dk_104 (dk_at dksX9_supply_2 0 rfl rfl)
theorem dX9_supply_47 : decode cX9_supply 47 = .ok (.bipush 8, 2) := dk_16 8 (dk_at dksX9_supply_2 1 rfl rfl)
theorem dX9_supply_49 : decode cX9_supply 49 = .ok (.iadd, 1) := dk_96 (dk_at dksX9_supply_2 3 rfl rfl)
theorem dX9_supply_50 : decode cX9_supply 50 = .ok (.if_icmp .ge 52, 3) := dk_162 0 52 (dk_at dksX9_supply_2 4 rfl rfl)
theorem dX9_supply_53 : decode cX9_supply 53 = .ok (.iload_n 2, 1) := dk_28 (dk_at dksX9_supply_2 7 rfl rfl)
theorem dX9_supply_54 : decode cX9_supply 54 = .ok (.aload_n 0, 1) := dk_42 (dk_at dksX9_supply_2 8 rfl rfl)
theorem dX9_supply_55 : decode cX9_supply 55 = .ok (.iload_n 3, 1) := dk_29 (dk_at dksX9_supply_2 9 rfl rfl)
theorem dX9_supply_56 : decode cX9_supply 56 = .ok (.iload 4, 2) := dk_21 4 (dk_at dksX9_supply_2 10 rfl rfl)
theorem dX9_supply_58 : decode cX9_supply 58 = .ok (.invokevirtual 133, 3) := dk_182 0 133 (dk_at dksX9_supply_2 12 rfl rfl)
theorem dX9_supply_61 : decode cX9_supply 61 = .ok (.ifCond .eq 32, 3) := dk_153 0 32 (dk_at dksX9_supply_2 15 rfl rfl)
theorem dX9_supply_64 : decode cX9_supply 64 = .ok (.aload_n 0, 1) := dk_42 (dk_at dksX9_supply_2 18 rfl rfl)
theorem dX9_supply_65 : decode cX9_supply 65 = .ok (.iload_n 3, 1) := dk_29 (dk_at dksX9_supply_2 19 rfl rfl)
theorem dX9_supply_66 : decode cX9_supply 66 = .ok (.iload 4, 2) := dk_21 4 (dk_at dksX9_supply_2 20 rfl rfl)
theorem dX9_supply_68 : decode cX9_supply 68 = .ok (.invokevirtual 140, 3) := dk_182 0 140 (dk_at dksX9_supply_3 0 rfl rfl)
theorem dX9_supply_71 : decode cX9_supply 71 = .ok (.ifCond .ne 22, 3) := dk_154 0 22 (dk_at dksX9_supply_3 3 rfl rfl)
theorem dX9_supply_74 : decode cX9_supply 74 = .ok (.aload_n 0, 1) := dk_42 (dk_at dksX9_supply_3 6 rfl rfl)
theorem dX9_supply_75 : decode cX9_supply 75 = .ok (.iload_n 3, 1) := dk_29 (dk_at dksX9_supply_3 7 rfl rfl)
theorem dX9_supply_76 : decode cX9_supply 76 = .ok (.iload 4, 2) := dk_21 4 (dk_at dksX9_supply_3 8 rfl rfl)
theorem dX9_supply_78 : decode cX9_supply 78 = .ok (.iconst (-1), 1) := dk_2 (dk_at dksX9_supply_3 10 rfl rfl)
theorem dX9_supply_79 : decode cX9_supply 79 = .ok (.iconst 1, 1) := dk_4 (dk_at dksX9_supply_3 11 rfl rfl)
theorem dX9_supply_80 : decode cX9_supply 80 = .ok (.invokevirtual 150, 3) := dk_182 0 150 (dk_at dksX9_supply_3 12 rfl rfl)
theorem dX9_supply_83 : decode cX9_supply 83 = .ok (.iconst (-1), 1) := dk_2 (dk_at dksX9_supply_3 15 rfl rfl)
theorem dX9_supply_84 : decode cX9_supply 84 = .ok (.if_icmp .ne 9, 3) := dk_160 0 9 (dk_at dksX9_supply_3 16 rfl rfl)
theorem dX9_supply_87 : decode cX9_supply 87 = .ok (.sipush 256, 3) := dk_17 1 0 (dk_at dksX9_supply_3 19 rfl rfl)
theorem dX9_supply_90 : decode cX9_supply 90 = .ok (.goto 4, 3) := dk_167 0 4 (dk_at dksX9_supply_4 0 rfl rfl)
theorem dX9_supply_93 : decode cX9_supply 93 = .ok (.iconst 0, 1) := dk_3 (dk_at dksX9_supply_4 3 rfl rfl)
theorem dX9_supply_94 : decode cX9_supply 94 = .ok (.iadd, 1) := dk_96 (dk_at dksX9_supply_4 4 rfl rfl)
theorem dX9_supply_95 : decode cX9_supply 95 = .ok (.istore_n 2, 1) := dk_61 (dk_at dksX9_supply_4 5 rfl rfl)
theorem dX9_supply_96 : decode cX9_supply 96 = .ok (.iinc 4 1, 3) := dk_132 4 1 (dk_at dksX9_supply_4 6 rfl rfl)
theorem dX9_supply_99 : decode cX9_supply 99 = .ok (.goto (-63), 3) := dk_167 255 193 (dk_at dksX9_supply_4 9 rfl rfl)
theorem dX9_supply_102 : decode cX9_supply 102 = .ok (.iinc 3 1, 3) := dk_132 3 1 (dk_at dksX9_supply_4 12 rfl rfl)
theorem dX9_supply_105 : decode cX9_supply 105 = .ok (.goto (-94), 3) := dk_167 255 162 (dk_at dksX9_supply_4 15 rfl rfl)
theorem dX9_supply_108 : decode cX9_supply 108 = .ok (.iload_n 2, 1) := dk_28 (dk_at dksX9_supply_4 18 rfl rfl)
theorem dX9_supply_109 : decode cX9_supply 109 = .ok (.ireturn, 1) := dk_172 (dk_at dksX9_supply_4 19 rfl rfl)
abbrev cX9_cost : ByteArray := prog_15_method_72_code
def yX9_cost : MethodName := ⟨RX9, "cost", "()I"⟩
def dkwX9_cost_0 : List UInt8 := [16, 16, 42, 182, 1, 29, 104, 42, 180, 0, 13, 5, 46, 42, 182, 1, 32, 104, 96, 172]
abbrev dktX9_cost_0 : List UInt8 := dkwX9_cost_0 ++ []
theorem dksX9_cost_0 : cX9_cost.data.toList.drop 0 = dktX9_cost_0 := by decide +kernel
theorem dX9_cost_0 : decode cX9_cost 0 = .ok (.bipush 16, 2) := dk_16 16 (dk_at dksX9_cost_0 0 rfl rfl)
theorem dX9_cost_2 : decode cX9_cost 2 = .ok (.aload_n 0, 1) := dk_42 (dk_at dksX9_cost_0 2 rfl rfl)
theorem dX9_cost_3 : decode cX9_cost 3 = .ok (.invokevirtual 285, 3) := dk_182 1 29 (dk_at dksX9_cost_0 3 rfl rfl)
theorem dX9_cost_6 : decode cX9_cost 6 = .ok (.imul, 1) := dk_104 (dk_at dksX9_cost_0 6 rfl rfl)
theorem dX9_cost_7 : decode cX9_cost 7 = .ok (.aload_n 0, 1) := dk_42 (dk_at dksX9_cost_0 7 rfl rfl)
theorem dX9_cost_8 : decode cX9_cost 8 = .ok (.getfield 13, 3) := dk_180 0 13 (dk_at dksX9_cost_0 8 rfl rfl)
theorem dX9_cost_11 : decode cX9_cost 11 = .ok (.iconst 2, 1) := dk_5 (dk_at dksX9_cost_0 11 rfl rfl)
theorem dX9_cost_12 : decode cX9_cost 12 = .ok (.iaload, 1) := dk_46 (dk_at dksX9_cost_0 12 rfl rfl)
theorem dX9_cost_13 : decode cX9_cost 13 = .ok (.aload_n 0, 1) := dk_42 (dk_at dksX9_cost_0 13 rfl rfl)
theorem dX9_cost_14 : decode cX9_cost 14 = .ok (.invokevirtual 288, 3) := dk_182 1 32 (dk_at dksX9_cost_0 14 rfl rfl)
theorem dX9_cost_17 : decode cX9_cost 17 = .ok (.imul, 1) := dk_104 (dk_at dksX9_cost_0 17 rfl rfl)
theorem dX9_cost_18 : decode cX9_cost 18 = .ok (.iadd, 1) := dk_96 (dk_at dksX9_cost_0 18 rfl rfl)
theorem dX9_cost_19 : decode cX9_cost 19 = .ok (.ireturn, 1) := dk_172 (dk_at dksX9_cost_0 19 rfl rfl)
abbrev cX9_smooths : ByteArray := prog_15_method_64_code
def yX9_smooths : MethodName := ⟨RX9, "smooths", "()I"⟩
def dkwX9_smooths_1 : List UInt8 := [42, 28, 182, 1, 10, 104, 96, 60, 132, 2, 1, 167, 255, 225, 27, 172]
abbrev dktX9_smooths_1 : List UInt8 := dkwX9_smooths_1 ++ []
def dkwX9_smooths_0 : List UInt8 := [3, 60, 3, 61, 28, 42, 180, 0, 16, 6, 46, 162, 0, 27, 27, 42, 180, 0, 16, 28, 184, 0, 208, 46]
abbrev dktX9_smooths_0 : List UInt8 := dkwX9_smooths_0 ++ dktX9_smooths_1
theorem dksX9_smooths_0 : cX9_smooths.data.toList.drop 0 = dktX9_smooths_0 := by decide +kernel
theorem dksX9_smooths_1 : cX9_smooths.data.toList.drop 24 = dktX9_smooths_1 := dk_seg dksX9_smooths_0 24 rfl rfl
theorem dX9_smooths_0 : decode cX9_smooths 0 = .ok (.iconst 0, 1) := dk_3 (dk_at dksX9_smooths_0 0 rfl rfl)
theorem dX9_smooths_1 : decode cX9_smooths 1 = .ok (.istore_n 1, 1) := dk_60 (dk_at dksX9_smooths_0 1 rfl rfl)
theorem dX9_smooths_2 : decode cX9_smooths 2 = .ok (.iconst 0, 1) := dk_3 (dk_at dksX9_smooths_0 2 rfl rfl)
theorem dX9_smooths_3 : decode cX9_smooths 3 = .ok (.istore_n 2, 1) := dk_61 (dk_at dksX9_smooths_0 3 rfl rfl)
theorem dX9_smooths_4 : decode cX9_smooths 4 = .ok (.iload_n 2, 1) := dk_28 (dk_at dksX9_smooths_0 4 rfl rfl)
theorem dX9_smooths_5 : decode cX9_smooths 5 = .ok (.aload_n 0, 1) := dk_42 (dk_at dksX9_smooths_0 5 rfl rfl)
theorem dX9_smooths_6 : decode cX9_smooths 6 = .ok (.getfield 16, 3) := dk_180 0 16 (dk_at dksX9_smooths_0 6 rfl rfl)
theorem dX9_smooths_9 : decode cX9_smooths 9 = .ok (.iconst 3, 1) := dk_6 (dk_at dksX9_smooths_0 9 rfl rfl)
theorem dX9_smooths_10 : decode cX9_smooths 10 = .ok (.iaload, 1) := dk_46 (dk_at dksX9_smooths_0 10 rfl rfl)
theorem dX9_smooths_11 : decode cX9_smooths 11 = .ok (.if_icmp .ge 27, 3) := dk_162 0 27 (dk_at dksX9_smooths_0 11 rfl rfl)
theorem dX9_smooths_14 : decode cX9_smooths 14 = .ok (.iload_n 1, 1) := dk_27 (dk_at dksX9_smooths_0 14 rfl rfl)
theorem dX9_smooths_15 : decode cX9_smooths 15 = .ok (.aload_n 0, 1) := dk_42 (dk_at dksX9_smooths_0 15 rfl rfl)
theorem dX9_smooths_16 : decode cX9_smooths 16 = .ok (.getfield 16, 3) := dk_180 0 16 (dk_at dksX9_smooths_0 16 rfl rfl)
theorem dX9_smooths_19 : decode cX9_smooths 19 = .ok (.iload_n 2, 1) := dk_28 (dk_at dksX9_smooths_0 19 rfl rfl)
theorem dX9_smooths_20 : decode cX9_smooths 20 = .ok (.invokestatic 208, 3) := dk_184 0 208 (dk_at dksX9_smooths_0 20 rfl rfl)
theorem dX9_smooths_23 : decode cX9_smooths 23 = .ok (.iaload, 1) := dk_46 (dk_at dksX9_smooths_0 23 rfl rfl)
theorem dX9_smooths_24 : decode cX9_smooths 24 = .ok (.aload_n 0, 1) := dk_42 (dk_at dksX9_smooths_1 0 rfl rfl)
theorem dX9_smooths_25 : decode cX9_smooths 25 = .ok (.iload_n 2, 1) := dk_28 (dk_at dksX9_smooths_1 1 rfl rfl)
theorem dX9_smooths_26 : decode cX9_smooths 26 = .ok (.invokevirtual 266, 3) := dk_182 1 10 (dk_at dksX9_smooths_1 2 rfl rfl)
theorem dX9_smooths_29 : decode cX9_smooths 29 = .ok (.imul, 1) := dk_104 (dk_at dksX9_smooths_1 5 rfl rfl)
theorem dX9_smooths_30 : decode cX9_smooths 30 = .ok (.iadd, 1) := dk_96 (dk_at dksX9_smooths_1 6 rfl rfl)
theorem dX9_smooths_31 : decode cX9_smooths 31 = .ok (.istore_n 1, 1) := dk_60 (dk_at dksX9_smooths_1 7 rfl rfl)
theorem dX9_smooths_32 : decode cX9_smooths 32 = .ok (.iinc 2 1, 3) := dk_132 2 1 (dk_at dksX9_smooths_1 8 rfl rfl)
theorem dX9_smooths_35 : decode cX9_smooths 35 = .ok (.goto (-31), 3) := dk_167 255 225 (dk_at dksX9_smooths_1 11 rfl rfl)
theorem dX9_smooths_38 : decode cX9_smooths 38 = .ok (.iload_n 1, 1) := dk_27 (dk_at dksX9_smooths_1 14 rfl rfl)
theorem dX9_smooths_39 : decode cX9_smooths 39 = .ok (.ireturn, 1) := dk_172 (dk_at dksX9_smooths_1 15 rfl rfl)
abbrev cX9_smooth : ByteArray := prog_15_method_63_code
def yX9_smooth : MethodName := ⟨RX9, "smooth", "(I)I"⟩
def dkwX9_smooth_0 : List UInt8 := [42, 27, 3, 182, 1, 6, 42, 180, 0, 13, 7, 46, 42, 27, 4, 182, 1, 6, 104, 96, 172]
abbrev dktX9_smooth_0 : List UInt8 := dkwX9_smooth_0 ++ []
theorem dksX9_smooth_0 : cX9_smooth.data.toList.drop 0 = dktX9_smooth_0 := by decide +kernel
theorem dX9_smooth_0 : decode cX9_smooth 0 = .ok (.aload_n 0, 1) := dk_42 (dk_at dksX9_smooth_0 0 rfl rfl)
theorem dX9_smooth_1 : decode cX9_smooth 1 = .ok (.iload_n 1, 1) := dk_27 (dk_at dksX9_smooth_0 1 rfl rfl)
theorem dX9_smooth_2 : decode cX9_smooth 2 = .ok (.iconst 0, 1) := dk_3 (dk_at dksX9_smooth_0 2 rfl rfl)
theorem dX9_smooth_3 : decode cX9_smooth 3 = .ok (.invokevirtual 262, 3) := dk_182 1 6 (dk_at dksX9_smooth_0 3 rfl rfl)
theorem dX9_smooth_6 : decode cX9_smooth 6 = .ok (.aload_n 0, 1) := dk_42 (dk_at dksX9_smooth_0 6 rfl rfl)
theorem dX9_smooth_7 : decode cX9_smooth 7 = .ok (.getfield 13, 3) := dk_180 0 13 (dk_at dksX9_smooth_0 7 rfl rfl)
theorem dX9_smooth_10 : decode cX9_smooth 10 = .ok (.iconst 4, 1) := dk_7 (dk_at dksX9_smooth_0 10 rfl rfl)
theorem dX9_smooth_11 : decode cX9_smooth 11 = .ok (.iaload, 1) := dk_46 (dk_at dksX9_smooth_0 11 rfl rfl)
theorem dX9_smooth_12 : decode cX9_smooth 12 = .ok (.aload_n 0, 1) := dk_42 (dk_at dksX9_smooth_0 12 rfl rfl)
theorem dX9_smooth_13 : decode cX9_smooth 13 = .ok (.iload_n 1, 1) := dk_27 (dk_at dksX9_smooth_0 13 rfl rfl)
theorem dX9_smooth_14 : decode cX9_smooth 14 = .ok (.iconst 1, 1) := dk_4 (dk_at dksX9_smooth_0 14 rfl rfl)
theorem dX9_smooth_15 : decode cX9_smooth 15 = .ok (.invokevirtual 262, 3) := dk_182 1 6 (dk_at dksX9_smooth_0 15 rfl rfl)
theorem dX9_smooth_18 : decode cX9_smooth 18 = .ok (.imul, 1) := dk_104 (dk_at dksX9_smooth_0 18 rfl rfl)
theorem dX9_smooth_19 : decode cX9_smooth 19 = .ok (.iadd, 1) := dk_96 (dk_at dksX9_smooth_0 19 rfl rfl)
theorem dX9_smooth_20 : decode cX9_smooth 20 = .ok (.ireturn, 1) := dk_172 (dk_at dksX9_smooth_0 20 rfl rfl)
abbrev cX9_smoothBy : ByteArray := prog_15_method_61_code
def yX9_smoothBy : MethodName := ⟨RX9, "smoothBy", "(IZ)I"⟩
def dkwX9_smoothBy_5 : List UInt8 := [167, 255, 172, 21, 4, 21, 5, 21, 6, 108, 100, 29, 21, 7, 21, 8, 108, 96, 100, 172]
abbrev dktX9_smoothBy_5 : List UInt8 := dkwX9_smoothBy_5 ++ []
def dkwX9_smoothBy_4 : List UInt8 := [21, 7, 21, 10, 29, 100, 21, 11, 104, 96, 54, 7, 21, 8, 21, 11, 96, 54, 8, 132, 9, 1]
abbrev dktX9_smoothBy_4 : List UInt8 := dkwX9_smoothBy_4 ++ dktX9_smoothBy_5
def dkwX9_smoothBy_3 : List UInt8 := [21, 11, 104, 96, 54, 5, 21, 6, 21, 11, 96, 54, 6, 42, 21, 10, 29, 100, 182, 1, 3, 54, 11]
abbrev dktX9_smoothBy_3 : List UInt8 := dkwX9_smoothBy_3 ++ dktX9_smoothBy_4
def dkwX9_smoothBy_2 : List UInt8 := [182, 0, 244, 54, 10, 42, 21, 4, 21, 10, 100, 182, 1, 3, 54, 11, 21, 5, 21, 4, 21, 10, 100]
abbrev dktX9_smoothBy_2 : List UInt8 := dkwX9_smoothBy_2 ++ dktX9_smoothBy_3
def dkwX9_smoothBy_1 : List UInt8 := [54, 7, 3, 54, 8, 3, 54, 9, 21, 9, 42, 27, 182, 0, 241, 162, 0, 80, 42, 27, 21, 9, 3, 28]
abbrev dktX9_smoothBy_1 : List UInt8 := dkwX9_smoothBy_1 ++ dktX9_smoothBy_2
def dkwX9_smoothBy_0 : List UInt8 := [42, 27, 3, 28, 182, 0, 253, 62, 42, 27, 3, 28, 182, 0, 249, 54, 4, 3, 54, 5, 3, 54, 6, 3]
abbrev dktX9_smoothBy_0 : List UInt8 := dkwX9_smoothBy_0 ++ dktX9_smoothBy_1
theorem dksX9_smoothBy_0 : cX9_smoothBy.data.toList.drop 0 = dktX9_smoothBy_0 := by decide +kernel
theorem dksX9_smoothBy_1 : cX9_smoothBy.data.toList.drop 24 = dktX9_smoothBy_1 := dk_seg dksX9_smoothBy_0 24 rfl rfl
theorem dksX9_smoothBy_2 : cX9_smoothBy.data.toList.drop 48 = dktX9_smoothBy_2 := dk_seg dksX9_smoothBy_1 24 rfl rfl
theorem dksX9_smoothBy_3 : cX9_smoothBy.data.toList.drop 71 = dktX9_smoothBy_3 := dk_seg dksX9_smoothBy_2 23 rfl rfl
theorem dksX9_smoothBy_4 : cX9_smoothBy.data.toList.drop 94 = dktX9_smoothBy_4 := dk_seg dksX9_smoothBy_3 23 rfl rfl
theorem dksX9_smoothBy_5 : cX9_smoothBy.data.toList.drop 116 = dktX9_smoothBy_5 := dk_seg dksX9_smoothBy_4 22 rfl rfl
theorem dX9_smoothBy_0 : decode cX9_smoothBy 0 = .ok (.aload_n 0, 1) := dk_42 (dk_at dksX9_smoothBy_0 0 rfl rfl)
theorem dX9_smoothBy_1 : decode cX9_smoothBy 1 = .ok (.iload_n 1, 1) := dk_27 (dk_at dksX9_smoothBy_0 1 rfl rfl)
theorem dX9_smoothBy_2 : decode cX9_smoothBy 2 = .ok (.iconst 0, 1) := dk_3 (dk_at dksX9_smoothBy_0 2 rfl rfl)
theorem dX9_smoothBy_3 : decode cX9_smoothBy 3 = .ok (.iload_n 2, 1) := dk_28 (dk_at dksX9_smoothBy_0 3 rfl rfl)
theorem dX9_smoothBy_4 : decode cX9_smoothBy 4 = .ok (.invokevirtual 253, 3) := dk_182 0 253 (dk_at dksX9_smoothBy_0 4 rfl rfl)
theorem dX9_smoothBy_7 : decode cX9_smoothBy 7 = .ok (.istore_n 3, 1) := dk_62 (dk_at dksX9_smoothBy_0 7 rfl rfl)
theorem dX9_smoothBy_8 : decode cX9_smoothBy 8 = .ok (.aload_n 0, 1) := dk_42 (dk_at dksX9_smoothBy_0 8 rfl rfl)
theorem dX9_smoothBy_9 : decode cX9_smoothBy 9 = .ok (.iload_n 1, 1) := dk_27 (dk_at dksX9_smoothBy_0 9 rfl rfl)
theorem dX9_smoothBy_10 : decode cX9_smoothBy 10 = .ok (.iconst 0, 1) := dk_3 (dk_at dksX9_smoothBy_0 10 rfl rfl)
theorem dX9_smoothBy_11 : decode cX9_smoothBy 11 = .ok (.iload_n 2, 1) := dk_28 (dk_at dksX9_smoothBy_0 11 rfl rfl)
theorem dX9_smoothBy_12 : decode cX9_smoothBy 12 = .ok (.invokevirtual 249, 3) := dk_182 0 249 (dk_at dksX9_smoothBy_0 12 rfl rfl)
theorem dX9_smoothBy_15 : decode cX9_smoothBy 15 = .ok (.istore 4, 2) := dk_54 4 (dk_at dksX9_smoothBy_0 15 rfl rfl)
theorem dX9_smoothBy_17 : decode cX9_smoothBy 17 = .ok (.iconst 0, 1) := dk_3 (dk_at dksX9_smoothBy_0 17 rfl rfl)
theorem dX9_smoothBy_18 : decode cX9_smoothBy 18 = .ok (.istore 5, 2) := dk_54 5 (dk_at dksX9_smoothBy_0 18 rfl rfl)
theorem dX9_smoothBy_20 : decode cX9_smoothBy 20 = .ok (.iconst 0, 1) := dk_3 (dk_at dksX9_smoothBy_0 20 rfl rfl)
theorem dX9_smoothBy_21 : decode cX9_smoothBy 21 = .ok (.istore 6, 2) := dk_54 6 (dk_at dksX9_smoothBy_0 21 rfl rfl)
theorem dX9_smoothBy_23 : decode cX9_smoothBy 23 = .ok (.iconst 0, 1) := dk_3 (dk_at dksX9_smoothBy_0 23 rfl rfl)
theorem dX9_smoothBy_24 : decode cX9_smoothBy 24 = .ok (.istore 7, 2) := dk_54 7 (dk_at dksX9_smoothBy_1 0 rfl rfl)
theorem dX9_smoothBy_26 : decode cX9_smoothBy 26 = .ok (.iconst 0, 1) := dk_3 (dk_at dksX9_smoothBy_1 2 rfl rfl)
theorem dX9_smoothBy_27 : decode cX9_smoothBy 27 = .ok (.istore 8, 2) := dk_54 8 (dk_at dksX9_smoothBy_1 3 rfl rfl)
theorem dX9_smoothBy_29 : decode cX9_smoothBy 29 = .ok (.iconst 0, 1) := dk_3 (dk_at dksX9_smoothBy_1 5 rfl rfl)
theorem dX9_smoothBy_30 : decode cX9_smoothBy 30 = .ok (.istore 9, 2) := dk_54 9 (dk_at dksX9_smoothBy_1 6 rfl rfl)
theorem dX9_smoothBy_32 : decode cX9_smoothBy 32 = .ok (.iload 9, 2) := dk_21 9 (dk_at dksX9_smoothBy_1 8 rfl rfl)
theorem dX9_smoothBy_34 : decode cX9_smoothBy 34 = .ok (.aload_n 0, 1) := dk_42 (dk_at dksX9_smoothBy_1 10 rfl rfl)
theorem dX9_smoothBy_35 : decode cX9_smoothBy 35 = .ok (.iload_n 1, 1) := dk_27 (dk_at dksX9_smoothBy_1 11 rfl rfl)
theorem dX9_smoothBy_36 : decode cX9_smoothBy 36 = .ok (.invokevirtual 241, 3) := dk_182 0 241 (dk_at dksX9_smoothBy_1 12 rfl rfl)
theorem dX9_smoothBy_39 : decode cX9_smoothBy 39 = .ok (.if_icmp .ge 80, 3) := dk_162 0 80 (dk_at dksX9_smoothBy_1 15 rfl rfl)
theorem dX9_smoothBy_42 : decode cX9_smoothBy 42 = .ok (.aload_n 0, 1) := dk_42 (dk_at dksX9_smoothBy_1 18 rfl rfl)
theorem dX9_smoothBy_43 : decode cX9_smoothBy 43 = .ok (.iload_n 1, 1) := dk_27 (dk_at dksX9_smoothBy_1 19 rfl rfl)
theorem dX9_smoothBy_44 : decode cX9_smoothBy 44 = .ok (.iload 9, 2) := dk_21 9 (dk_at dksX9_smoothBy_1 20 rfl rfl)
theorem dX9_smoothBy_46 : decode cX9_smoothBy 46 = .ok (.iconst 0, 1) := dk_3 (dk_at dksX9_smoothBy_1 22 rfl rfl)
theorem dX9_smoothBy_47 : decode cX9_smoothBy 47 = .ok (.iload_n 2, 1) := dk_28 (dk_at dksX9_smoothBy_1 23 rfl rfl)
theorem dX9_smoothBy_48 : decode cX9_smoothBy 48 = .ok (.invokevirtual 244, 3) := dk_182 0 244 (dk_at dksX9_smoothBy_2 0 rfl rfl)
theorem dX9_smoothBy_51 : decode cX9_smoothBy 51 = .ok (.istore 10, 2) := dk_54 10 (dk_at dksX9_smoothBy_2 3 rfl rfl)
theorem dX9_smoothBy_53 : decode cX9_smoothBy 53 = .ok (.aload_n 0, 1) := dk_42 (dk_at dksX9_smoothBy_2 5 rfl rfl)
theorem dX9_smoothBy_54 : decode cX9_smoothBy 54 = .ok (.iload 4, 2) := dk_21 4 (dk_at dksX9_smoothBy_2 6 rfl rfl)
theorem dX9_smoothBy_56 : decode cX9_smoothBy 56 = .ok (.iload 10, 2) := dk_21 10 (dk_at dksX9_smoothBy_2 8 rfl rfl)
theorem dX9_smoothBy_58 : decode cX9_smoothBy 58 = .ok (.isub, 1) := dk_100 (dk_at dksX9_smoothBy_2 10 rfl rfl)
theorem dX9_smoothBy_59 : decode cX9_smoothBy 59 = .ok (.invokevirtual 259, 3) := dk_182 1 3 (dk_at dksX9_smoothBy_2 11 rfl rfl)
theorem dX9_smoothBy_62 : decode cX9_smoothBy 62 = .ok (.istore 11, 2) := dk_54 11 (dk_at dksX9_smoothBy_2 14 rfl rfl)
theorem dX9_smoothBy_64 : decode cX9_smoothBy 64 = .ok (.iload 5, 2) := dk_21 5 (dk_at dksX9_smoothBy_2 16 rfl rfl)
theorem dX9_smoothBy_66 : decode cX9_smoothBy 66 = .ok (.iload 4, 2) := dk_21 4 (dk_at dksX9_smoothBy_2 18 rfl rfl)
theorem dX9_smoothBy_68 : decode cX9_smoothBy 68 = .ok (.iload 10, 2) := dk_21 10 (dk_at dksX9_smoothBy_2 20 rfl rfl)
theorem dX9_smoothBy_70 : decode cX9_smoothBy 70 = .ok (.isub, 1) := dk_100 (dk_at dksX9_smoothBy_2 22 rfl rfl)
theorem dX9_smoothBy_71 : decode cX9_smoothBy 71 = .ok (.iload 11, 2) := dk_21 11 (dk_at dksX9_smoothBy_3 0 rfl rfl)
theorem dX9_smoothBy_73 : decode cX9_smoothBy 73 = .ok (.imul, 1) := dk_104 (dk_at dksX9_smoothBy_3 2 rfl rfl)
theorem dX9_smoothBy_74 : decode cX9_smoothBy 74 = .ok (.iadd, 1) := dk_96 (dk_at dksX9_smoothBy_3 3 rfl rfl)
theorem dX9_smoothBy_75 : decode cX9_smoothBy 75 = .ok (.istore 5, 2) := dk_54 5 (dk_at dksX9_smoothBy_3 4 rfl rfl)
theorem dX9_smoothBy_77 : decode cX9_smoothBy 77 = .ok (.iload 6, 2) := dk_21 6 (dk_at dksX9_smoothBy_3 6 rfl rfl)
theorem dX9_smoothBy_79 : decode cX9_smoothBy 79 = .ok (.iload 11, 2) := dk_21 11 (dk_at dksX9_smoothBy_3 8 rfl rfl)
theorem dX9_smoothBy_81 : decode cX9_smoothBy 81 = .ok (.iadd, 1) := dk_96 (dk_at dksX9_smoothBy_3 10 rfl rfl)
theorem dX9_smoothBy_82 : decode cX9_smoothBy 82 = .ok (.istore 6, 2) := dk_54 6 (dk_at dksX9_smoothBy_3 11 rfl rfl)
theorem dX9_smoothBy_84 : decode cX9_smoothBy 84 = .ok (.aload_n 0, 1) := dk_42 (dk_at dksX9_smoothBy_3 13 rfl rfl)
theorem dX9_smoothBy_85 : decode cX9_smoothBy 85 = .ok (.iload 10, 2) := dk_21 10 (dk_at dksX9_smoothBy_3 14 rfl rfl)
theorem dX9_smoothBy_87 : decode cX9_smoothBy 87 = .ok (.iload_n 3, 1) := dk_29 (dk_at dksX9_smoothBy_3 16 rfl rfl)
theorem dX9_smoothBy_88 : decode cX9_smoothBy 88 = .ok (.isub, 1) := dk_100 (dk_at dksX9_smoothBy_3 17 rfl rfl)
theorem dX9_smoothBy_89 : decode cX9_smoothBy 89 = .ok (.invokevirtual 259, 3) := dk_182 1 3 (dk_at dksX9_smoothBy_3 18 rfl rfl)
theorem dX9_smoothBy_92 : decode cX9_smoothBy 92 = .ok (.istore 11, 2) := dk_54 11 (dk_at dksX9_smoothBy_3 21 rfl rfl)
theorem dX9_smoothBy_94 : decode cX9_smoothBy 94 = .ok (.iload 7, 2) := dk_21 7 (dk_at dksX9_smoothBy_4 0 rfl rfl)
theorem dX9_smoothBy_96 : decode cX9_smoothBy 96 = .ok (.iload 10, 2) := dk_21 10 (dk_at dksX9_smoothBy_4 2 rfl rfl)
theorem dX9_smoothBy_98 : decode cX9_smoothBy 98 = .ok (.iload_n 3, 1) := dk_29 (dk_at dksX9_smoothBy_4 4 rfl rfl)
theorem dX9_smoothBy_99 : decode cX9_smoothBy 99 = .ok (.isub, 1) := dk_100 (dk_at dksX9_smoothBy_4 5 rfl rfl)
theorem dX9_smoothBy_100 : decode cX9_smoothBy 100 = .ok (.iload 11, 2) := dk_21 11 (dk_at dksX9_smoothBy_4 6 rfl rfl)
theorem dX9_smoothBy_102 : decode cX9_smoothBy 102 = .ok (.imul, 1) := dk_104 (dk_at dksX9_smoothBy_4 8 rfl rfl)
theorem dX9_smoothBy_103 : decode cX9_smoothBy 103 = .ok (.iadd, 1) := dk_96 (dk_at dksX9_smoothBy_4 9 rfl rfl)
theorem dX9_smoothBy_104 : decode cX9_smoothBy 104 = .ok (.istore 7, 2) := dk_54 7 (dk_at dksX9_smoothBy_4 10 rfl rfl)
theorem dX9_smoothBy_106 : decode cX9_smoothBy 106 = .ok (.iload 8, 2) := dk_21 8 (dk_at dksX9_smoothBy_4 12 rfl rfl)
theorem dX9_smoothBy_108 : decode cX9_smoothBy 108 = .ok (.iload 11, 2) := dk_21 11 (dk_at dksX9_smoothBy_4 14 rfl rfl)
theorem dX9_smoothBy_110 : decode cX9_smoothBy 110 = .ok (.iadd, 1) := dk_96 (dk_at dksX9_smoothBy_4 16 rfl rfl)
theorem dX9_smoothBy_111 : decode cX9_smoothBy 111 = .ok (.istore 8, 2) := dk_54 8 (dk_at dksX9_smoothBy_4 17 rfl rfl)
theorem dX9_smoothBy_113 : decode cX9_smoothBy 113 = .ok (.iinc 9 1, 3) := dk_132 9 1 (dk_at dksX9_smoothBy_4 19 rfl rfl)
theorem dX9_smoothBy_116 : decode cX9_smoothBy 116 = .ok (.goto (-84), 3) := dk_167 255 172 (dk_at dksX9_smoothBy_5 0 rfl rfl)
theorem dX9_smoothBy_119 : decode cX9_smoothBy 119 = .ok (.iload 4, 2) := dk_21 4 (dk_at dksX9_smoothBy_5 3 rfl rfl)
theorem dX9_smoothBy_121 : decode cX9_smoothBy 121 = .ok (.iload 5, 2) := dk_21 5 (dk_at dksX9_smoothBy_5 5 rfl rfl)
theorem dX9_smoothBy_123 : decode cX9_smoothBy 123 = .ok (.iload 6, 2) := dk_21 6 (dk_at dksX9_smoothBy_5 7 rfl rfl)
theorem dX9_smoothBy_125 : decode cX9_smoothBy 125 = .ok (.idiv, 1) := dk_108 (dk_at dksX9_smoothBy_5 9 rfl rfl)
theorem dX9_smoothBy_126 : decode cX9_smoothBy 126 = .ok (.isub, 1) := dk_100 (dk_at dksX9_smoothBy_5 10 rfl rfl)
theorem dX9_smoothBy_127 : decode cX9_smoothBy 127 = .ok (.iload_n 3, 1) := dk_29 (dk_at dksX9_smoothBy_5 11 rfl rfl)
theorem dX9_smoothBy_128 : decode cX9_smoothBy 128 = .ok (.iload 7, 2) := dk_21 7 (dk_at dksX9_smoothBy_5 12 rfl rfl)
theorem dX9_smoothBy_130 : decode cX9_smoothBy 130 = .ok (.iload 8, 2) := dk_21 8 (dk_at dksX9_smoothBy_5 14 rfl rfl)
theorem dX9_smoothBy_132 : decode cX9_smoothBy 132 = .ok (.idiv, 1) := dk_108 (dk_at dksX9_smoothBy_5 16 rfl rfl)
theorem dX9_smoothBy_133 : decode cX9_smoothBy 133 = .ok (.iadd, 1) := dk_96 (dk_at dksX9_smoothBy_5 17 rfl rfl)
theorem dX9_smoothBy_134 : decode cX9_smoothBy 134 = .ok (.isub, 1) := dk_100 (dk_at dksX9_smoothBy_5 18 rfl rfl)
theorem dX9_smoothBy_135 : decode cX9_smoothBy 135 = .ok (.ireturn, 1) := dk_172 (dk_at dksX9_smoothBy_5 19 rfl rfl)
abbrev cX9_share : ByteArray := prog_15_method_62_code
def yX9_share : MethodName := ⟨RX9, "share", "(I)I"⟩
def dkwX9_share_1 : List UInt8 := [172]
abbrev dktX9_share_1 : List UInt8 := dkwX9_share_1 ++ []
def dkwX9_share_0 : List UInt8 := [27, 42, 180, 0, 13, 3, 46, 108, 61, 28, 16, 12, 164, 0, 7, 3, 167, 0, 8, 17, 16, 0, 28, 122]
abbrev dktX9_share_0 : List UInt8 := dkwX9_share_0 ++ dktX9_share_1
theorem dksX9_share_0 : cX9_share.data.toList.drop 0 = dktX9_share_0 := by decide +kernel
theorem dksX9_share_1 : cX9_share.data.toList.drop 24 = dktX9_share_1 := dk_seg dksX9_share_0 24 rfl rfl
theorem dX9_share_0 : decode cX9_share 0 = .ok (.iload_n 1, 1) := dk_27 (dk_at dksX9_share_0 0 rfl rfl)
theorem dX9_share_1 : decode cX9_share 1 = .ok (.aload_n 0, 1) := dk_42 (dk_at dksX9_share_0 1 rfl rfl)
theorem dX9_share_2 : decode cX9_share 2 = .ok (.getfield 13, 3) := dk_180 0 13 (dk_at dksX9_share_0 2 rfl rfl)
theorem dX9_share_5 : decode cX9_share 5 = .ok (.iconst 0, 1) := dk_3 (dk_at dksX9_share_0 5 rfl rfl)
theorem dX9_share_6 : decode cX9_share 6 = .ok (.iaload, 1) := dk_46 (dk_at dksX9_share_0 6 rfl rfl)
theorem dX9_share_7 : decode cX9_share 7 = .ok (.idiv, 1) := dk_108 (dk_at dksX9_share_0 7 rfl rfl)
theorem dX9_share_8 : decode cX9_share 8 = .ok (.istore_n 2, 1) := dk_61 (dk_at dksX9_share_0 8 rfl rfl)
theorem dX9_share_9 : decode cX9_share 9 = .ok (.iload_n 2, 1) := dk_28 (dk_at dksX9_share_0 9 rfl rfl)
theorem dX9_share_10 : decode cX9_share 10 = .ok (.bipush 12, 2) := dk_16 12 (dk_at dksX9_share_0 10 rfl rfl)
theorem dX9_share_12 : decode cX9_share 12 = .ok (.if_icmp .le 7, 3) := dk_164 0 7 (dk_at dksX9_share_0 12 rfl rfl)
theorem dX9_share_15 : decode cX9_share 15 = .ok (.iconst 0, 1) := dk_3 (dk_at dksX9_share_0 15 rfl rfl)
theorem dX9_share_16 : decode cX9_share 16 = .ok (.goto 8, 3) := dk_167 0 8 (dk_at dksX9_share_0 16 rfl rfl)
theorem dX9_share_19 : decode cX9_share 19 = .ok (.sipush 4096, 3) := dk_17 16 0 (dk_at dksX9_share_0 19 rfl rfl)
theorem dX9_share_22 : decode cX9_share 22 = .ok (.iload_n 2, 1) := dk_28 (dk_at dksX9_share_0 22 rfl rfl)
theorem dX9_share_23 : decode cX9_share 23 = .ok (.ishr, 1) := dk_122 (dk_at dksX9_share_0 23 rfl rfl)
theorem dX9_share_24 : decode cX9_share 24 = .ok (.ireturn, 1) := dk_172 (dk_at dksX9_share_1 0 rfl rfl)
abbrev cX9_overflow : ByteArray := prog_15_method_71_code
def yX9_overflow : MethodName := ⟨RX9, "overflow", "()I"⟩
def dkwX9_overflow_1 : List UInt8 := [167, 255, 237, 27, 172]
abbrev dktX9_overflow_1 : List UInt8 := dkwX9_overflow_1 ++ []
def dkwX9_overflow_0 : List UInt8 := [3, 60, 3, 61, 28, 42, 182, 1, 23, 162, 0, 17, 27, 42, 28, 182, 1, 26, 96, 60, 132, 2, 1]
abbrev dktX9_overflow_0 : List UInt8 := dkwX9_overflow_0 ++ dktX9_overflow_1
theorem dksX9_overflow_0 : cX9_overflow.data.toList.drop 0 = dktX9_overflow_0 := by decide +kernel
theorem dksX9_overflow_1 : cX9_overflow.data.toList.drop 23 = dktX9_overflow_1 := dk_seg dksX9_overflow_0 23 rfl rfl
theorem dX9_overflow_0 : decode cX9_overflow 0 = .ok (.iconst 0, 1) := dk_3 (dk_at dksX9_overflow_0 0 rfl rfl)
theorem dX9_overflow_1 : decode cX9_overflow 1 = .ok (.istore_n 1, 1) := dk_60 (dk_at dksX9_overflow_0 1 rfl rfl)
theorem dX9_overflow_2 : decode cX9_overflow 2 = .ok (.iconst 0, 1) := dk_3 (dk_at dksX9_overflow_0 2 rfl rfl)
theorem dX9_overflow_3 : decode cX9_overflow 3 = .ok (.istore_n 2, 1) := dk_61 (dk_at dksX9_overflow_0 3 rfl rfl)
theorem dX9_overflow_4 : decode cX9_overflow 4 = .ok (.iload_n 2, 1) := dk_28 (dk_at dksX9_overflow_0 4 rfl rfl)
theorem dX9_overflow_5 : decode cX9_overflow 5 = .ok (.aload_n 0, 1) := dk_42 (dk_at dksX9_overflow_0 5 rfl rfl)
theorem dX9_overflow_6 : decode cX9_overflow 6 = .ok (.invokevirtual 279, 3) := dk_182 1 23 (dk_at dksX9_overflow_0 6 rfl rfl)
theorem dX9_overflow_9 : decode cX9_overflow 9 = .ok (.if_icmp .ge 17, 3) := dk_162 0 17 (dk_at dksX9_overflow_0 9 rfl rfl)
theorem dX9_overflow_12 : decode cX9_overflow 12 = .ok (.iload_n 1, 1) := dk_27 (dk_at dksX9_overflow_0 12 rfl rfl)
theorem dX9_overflow_13 : decode cX9_overflow 13 = .ok (.aload_n 0, 1) := dk_42 (dk_at dksX9_overflow_0 13 rfl rfl)
theorem dX9_overflow_14 : decode cX9_overflow 14 = .ok (.iload_n 2, 1) := dk_28 (dk_at dksX9_overflow_0 14 rfl rfl)
theorem dX9_overflow_15 : decode cX9_overflow 15 = .ok (.invokevirtual 282, 3) := dk_182 1 26 (dk_at dksX9_overflow_0 15 rfl rfl)
theorem dX9_overflow_18 : decode cX9_overflow 18 = .ok (.iadd, 1) := dk_96 (dk_at dksX9_overflow_0 18 rfl rfl)
theorem dX9_overflow_19 : decode cX9_overflow 19 = .ok (.istore_n 1, 1) := dk_60 (dk_at dksX9_overflow_0 19 rfl rfl)
theorem dX9_overflow_20 : decode cX9_overflow 20 = .ok (.iinc 2 1, 3) := dk_132 2 1 (dk_at dksX9_overflow_0 20 rfl rfl)
theorem dX9_overflow_23 : decode cX9_overflow 23 = .ok (.goto (-19), 3) := dk_167 255 237 (dk_at dksX9_overflow_1 0 rfl rfl)
theorem dX9_overflow_26 : decode cX9_overflow 26 = .ok (.iload_n 1, 1) := dk_27 (dk_at dksX9_overflow_1 3 rfl rfl)
theorem dX9_overflow_27 : decode cX9_overflow 27 = .ok (.ireturn, 1) := dk_172 (dk_at dksX9_overflow_1 4 rfl rfl)
abbrev cX9_over : ByteArray := prog_15_method_70_code
def yX9_over : MethodName := ⟨RX9, "over", "(I)I"⟩
def dkwX9_over_1 : List UInt8 := [158, 0, 7, 28, 167, 0, 4, 3, 172]
abbrev dktX9_over_1 : List UInt8 := dkwX9_over_1 ++ []
def dkwX9_over_0 : List UInt8 := [42, 27, 182, 1, 20, 42, 180, 0, 82, 27, 46, 42, 180, 0, 13, 4, 46, 104, 16, 100, 108, 100, 61, 28]
abbrev dktX9_over_0 : List UInt8 := dkwX9_over_0 ++ dktX9_over_1
theorem dksX9_over_0 : cX9_over.data.toList.drop 0 = dktX9_over_0 := by decide +kernel
theorem dksX9_over_1 : cX9_over.data.toList.drop 24 = dktX9_over_1 := dk_seg dksX9_over_0 24 rfl rfl
theorem dX9_over_0 : decode cX9_over 0 = .ok (.aload_n 0, 1) := dk_42 (dk_at dksX9_over_0 0 rfl rfl)
theorem dX9_over_1 : decode cX9_over 1 = .ok (.iload_n 1, 1) := dk_27 (dk_at dksX9_over_0 1 rfl rfl)
theorem dX9_over_2 : decode cX9_over 2 = .ok (.invokevirtual 276, 3) := dk_182 1 20 (dk_at dksX9_over_0 2 rfl rfl)
theorem dX9_over_5 : decode cX9_over 5 = .ok (.aload_n 0, 1) := dk_42 (dk_at dksX9_over_0 5 rfl rfl)
theorem dX9_over_6 : decode cX9_over 6 = .ok (.getfield 82, 3) := dk_180 0 82 (dk_at dksX9_over_0 6 rfl rfl)
theorem dX9_over_9 : decode cX9_over 9 = .ok (.iload_n 1, 1) := dk_27 (dk_at dksX9_over_0 9 rfl rfl)
theorem dX9_over_10 : decode cX9_over 10 = .ok (.iaload, 1) := dk_46 (dk_at dksX9_over_0 10 rfl rfl)
theorem dX9_over_11 : decode cX9_over 11 = .ok (.aload_n 0, 1) := dk_42 (dk_at dksX9_over_0 11 rfl rfl)
theorem dX9_over_12 : decode cX9_over 12 = .ok (.getfield 13, 3) := dk_180 0 13 (dk_at dksX9_over_0 12 rfl rfl)
theorem dX9_over_15 : decode cX9_over 15 = .ok (.iconst 1, 1) := dk_4 (dk_at dksX9_over_0 15 rfl rfl)
theorem dX9_over_16 : decode cX9_over 16 = .ok (.iaload, 1) := dk_46 (dk_at dksX9_over_0 16 rfl rfl)
theorem dX9_over_17 : decode cX9_over 17 = .ok (.imul, 1) := dk_104 (dk_at dksX9_over_0 17 rfl rfl)
theorem dX9_over_18 : decode cX9_over 18 = .ok (.bipush 100, 2) := dk_16 100 (dk_at dksX9_over_0 18 rfl rfl)
theorem dX9_over_20 : decode cX9_over 20 = .ok (.idiv, 1) := dk_108 (dk_at dksX9_over_0 20 rfl rfl)
theorem dX9_over_21 : decode cX9_over 21 = .ok (.isub, 1) := dk_100 (dk_at dksX9_over_0 21 rfl rfl)
theorem dX9_over_22 : decode cX9_over 22 = .ok (.istore_n 2, 1) := dk_61 (dk_at dksX9_over_0 22 rfl rfl)
theorem dX9_over_23 : decode cX9_over 23 = .ok (.iload_n 2, 1) := dk_28 (dk_at dksX9_over_0 23 rfl rfl)
theorem dX9_over_24 : decode cX9_over 24 = .ok (.ifCond .le 7, 3) := dk_158 0 7 (dk_at dksX9_over_1 0 rfl rfl)
theorem dX9_over_27 : decode cX9_over 27 = .ok (.iload_n 2, 1) := dk_28 (dk_at dksX9_over_1 3 rfl rfl)
theorem dX9_over_28 : decode cX9_over 28 = .ok (.goto 4, 3) := dk_167 0 4 (dk_at dksX9_over_1 4 rfl rfl)
theorem dX9_over_31 : decode cX9_over 31 = .ok (.iconst 0, 1) := dk_3 (dk_at dksX9_over_1 7 rfl rfl)
theorem dX9_over_32 : decode cX9_over 32 = .ok (.ireturn, 1) := dk_172 (dk_at dksX9_over_1 8 rfl rfl)
abbrev cX9_needOf : ByteArray := prog_15_method_69_code
def yX9_needOf : MethodName := ⟨RX9, "needOf", "(I)I"⟩
def dkwX9_needOf_4 : List UInt8 := [104, 96, 61, 132, 3, 1, 167, 255, 161, 28, 172]
abbrev dktX9_needOf_4 : List UInt8 := dkwX9_needOf_4 ++ []
def dkwX9_needOf_3 : List UInt8 := [180, 0, 16, 21, 4, 7, 96, 46, 16, 16, 16, 32, 27, 42, 182, 1, 13, 108, 104, 16, 32, 184, 1, 16]
abbrev dktX9_needOf_3 : List UInt8 := dkwX9_needOf_3 ++ dktX9_needOf_4
def dkwX9_needOf_2 : List UInt8 := [180, 0, 16, 21, 4, 46, 104, 17, 0, 128, 27, 42, 182, 1, 13, 112, 104, 17, 0, 128, 184, 1, 16, 42]
abbrev dktX9_needOf_2 : List UInt8 := dkwX9_needOf_2 ++ dktX9_needOf_3
def dkwX9_needOf_1 : List UInt8 := [182, 0, 115, 153, 0, 7, 3, 167, 0, 64, 42, 180, 0, 16, 21, 4, 6, 96, 46, 16, 16, 42]
abbrev dktX9_needOf_1 : List UInt8 := dkwX9_needOf_1 ++ dktX9_needOf_2
def dkwX9_needOf_0 : List UInt8 := [3, 61, 3, 62, 29, 42, 180, 0, 16, 5, 46, 162, 0, 91, 29, 184, 0, 112, 54, 4, 28, 42, 29]
abbrev dktX9_needOf_0 : List UInt8 := dkwX9_needOf_0 ++ dktX9_needOf_1
theorem dksX9_needOf_0 : cX9_needOf.data.toList.drop 0 = dktX9_needOf_0 := by decide +kernel
theorem dksX9_needOf_1 : cX9_needOf.data.toList.drop 23 = dktX9_needOf_1 := dk_seg dksX9_needOf_0 23 rfl rfl
theorem dksX9_needOf_2 : cX9_needOf.data.toList.drop 45 = dktX9_needOf_2 := dk_seg dksX9_needOf_1 22 rfl rfl
theorem dksX9_needOf_3 : cX9_needOf.data.toList.drop 69 = dktX9_needOf_3 := dk_seg dksX9_needOf_2 24 rfl rfl
theorem dksX9_needOf_4 : cX9_needOf.data.toList.drop 93 = dktX9_needOf_4 := dk_seg dksX9_needOf_3 24 rfl rfl
theorem dX9_needOf_0 : decode cX9_needOf 0 = .ok (.iconst 0, 1) := dk_3 (dk_at dksX9_needOf_0 0 rfl rfl)
theorem dX9_needOf_1 : decode cX9_needOf 1 = .ok (.istore_n 2, 1) := dk_61 (dk_at dksX9_needOf_0 1 rfl rfl)
theorem dX9_needOf_2 : decode cX9_needOf 2 = .ok (.iconst 0, 1) := dk_3 (dk_at dksX9_needOf_0 2 rfl rfl)
theorem dX9_needOf_3 : decode cX9_needOf 3 = .ok (.istore_n 3, 1) := dk_62 (dk_at dksX9_needOf_0 3 rfl rfl)
theorem dX9_needOf_4 : decode cX9_needOf 4 = .ok (.iload_n 3, 1) := dk_29 (dk_at dksX9_needOf_0 4 rfl rfl)
theorem dX9_needOf_5 : decode cX9_needOf 5 = .ok (.aload_n 0, 1) := dk_42 (dk_at dksX9_needOf_0 5 rfl rfl)
theorem dX9_needOf_6 : decode cX9_needOf 6 = .ok (.getfield 16, 3) := dk_180 0 16 (dk_at dksX9_needOf_0 6 rfl rfl)
theorem dX9_needOf_9 : decode cX9_needOf 9 = .ok (.iconst 2, 1) := dk_5 (dk_at dksX9_needOf_0 9 rfl rfl)
theorem dX9_needOf_10 : decode cX9_needOf 10 = .ok (.iaload, 1) := dk_46 (dk_at dksX9_needOf_0 10 rfl rfl)
theorem dX9_needOf_11 : decode cX9_needOf 11 = .ok (.if_icmp .ge 91, 3) := dk_162 0 91 (dk_at dksX9_needOf_0 11 rfl rfl)
theorem dX9_needOf_14 : decode cX9_needOf 14 = .ok (.iload_n 3, 1) := dk_29 (dk_at dksX9_needOf_0 14 rfl rfl)
theorem dX9_needOf_15 : decode cX9_needOf 15 = .ok (.invokestatic 112, 3) := dk_184 0 112 (dk_at dksX9_needOf_0 15 rfl rfl)
theorem dX9_needOf_18 : decode cX9_needOf 18 = .ok (.istore 4, 2) := dk_54 4 (dk_at dksX9_needOf_0 18 rfl rfl)
theorem dX9_needOf_20 : decode cX9_needOf 20 = .ok (.iload_n 2, 1) := dk_28 (dk_at dksX9_needOf_0 20 rfl rfl)
theorem dX9_needOf_21 : decode cX9_needOf 21 = .ok (.aload_n 0, 1) := dk_42 (dk_at dksX9_needOf_0 21 rfl rfl)
theorem dX9_needOf_22 : decode cX9_needOf 22 = .ok (.iload_n 3, 1) := dk_29 (dk_at dksX9_needOf_0 22 rfl rfl)
theorem dX9_needOf_23 : decode cX9_needOf 23 = .ok (.invokevirtual 115, 3) := dk_182 0 115 (dk_at dksX9_needOf_1 0 rfl rfl)
theorem dX9_needOf_26 : decode cX9_needOf 26 = .ok (.ifCond .eq 7, 3) := dk_153 0 7 (dk_at dksX9_needOf_1 3 rfl rfl)
theorem dX9_needOf_29 : decode cX9_needOf 29 = .ok (.iconst 0, 1) := dk_3 (dk_at dksX9_needOf_1 6 rfl rfl)
theorem dX9_needOf_30 : decode cX9_needOf 30 = .ok (.goto 64, 3) := dk_167 0 64 (dk_at dksX9_needOf_1 7 rfl rfl)
theorem dX9_needOf_33 : decode cX9_needOf 33 = .ok (.aload_n 0, 1) := dk_42 (dk_at dksX9_needOf_1 10 rfl rfl)
theorem dX9_needOf_34 : decode cX9_needOf 34 = .ok (.getfield 16, 3) := dk_180 0 16 (dk_at dksX9_needOf_1 11 rfl rfl)
theorem dX9_needOf_37 : decode cX9_needOf 37 = .ok (.iload 4, 2) := dk_21 4 (dk_at dksX9_needOf_1 14 rfl rfl)
theorem dX9_needOf_39 : decode cX9_needOf 39 = .ok (.iconst 3, 1) := dk_6 (dk_at dksX9_needOf_1 16 rfl rfl)
theorem dX9_needOf_40 : decode cX9_needOf 40 = .ok (.iadd, 1) := dk_96 (dk_at dksX9_needOf_1 17 rfl rfl)
theorem dX9_needOf_41 : decode cX9_needOf 41 = .ok (.iaload, 1) := dk_46 (dk_at dksX9_needOf_1 18 rfl rfl)
theorem dX9_needOf_42 : decode cX9_needOf 42 = .ok (.bipush 16, 2) := dk_16 16 (dk_at dksX9_needOf_1 19 rfl rfl)
theorem dX9_needOf_44 : decode cX9_needOf 44 = .ok (.aload_n 0, 1) := dk_42 (dk_at dksX9_needOf_1 21 rfl rfl)
theorem dX9_needOf_45 : decode cX9_needOf 45 = .ok (.getfield 16, 3) := dk_180 0 16 (dk_at dksX9_needOf_2 0 rfl rfl)
theorem dX9_needOf_48 : decode cX9_needOf 48 = .ok (.iload 4, 2) := dk_21 4 (dk_at dksX9_needOf_2 3 rfl rfl)
theorem dX9_needOf_50 : decode cX9_needOf 50 = .ok (.iaload, 1) := dk_46 (dk_at dksX9_needOf_2 5 rfl rfl)
theorem dX9_needOf_51 : decode cX9_needOf 51 = .ok (.imul, 1) := dk_104 (dk_at dksX9_needOf_2 6 rfl rfl)
theorem dX9_needOf_52 : decode cX9_needOf 52 = .ok (.sipush 128, 3) := dk_17 0 128 (dk_at dksX9_needOf_2 7 rfl rfl)
theorem dX9_needOf_55 : decode cX9_needOf 55 = .ok (.iload_n 1, 1) := dk_27 (dk_at dksX9_needOf_2 10 rfl rfl)
theorem dX9_needOf_56 : decode cX9_needOf 56 = .ok (.aload_n 0, 1) := dk_42 (dk_at dksX9_needOf_2 11 rfl rfl)
theorem dX9_needOf_57 : decode cX9_needOf 57 = .ok (.invokevirtual 269, 3) := dk_182 1 13 (dk_at dksX9_needOf_2 12 rfl rfl)
theorem dX9_needOf_60 : decode cX9_needOf 60 = .ok (.irem, 1) := dk_112 (dk_at dksX9_needOf_2 15 rfl rfl)
theorem dX9_needOf_61 : decode cX9_needOf 61 = .ok (.imul, 1) := dk_104 (dk_at dksX9_needOf_2 16 rfl rfl)
theorem dX9_needOf_62 : decode cX9_needOf 62 = .ok (.sipush 128, 3) := dk_17 0 128 (dk_at dksX9_needOf_2 17 rfl rfl)
theorem dX9_needOf_65 : decode cX9_needOf 65 = .ok (.invokestatic 272, 3) := dk_184 1 16 (dk_at dksX9_needOf_2 20 rfl rfl)
theorem dX9_needOf_68 : decode cX9_needOf 68 = .ok (.aload_n 0, 1) := dk_42 (dk_at dksX9_needOf_2 23 rfl rfl)
theorem dX9_needOf_69 : decode cX9_needOf 69 = .ok (.getfield 16, 3) := dk_180 0 16 (dk_at dksX9_needOf_3 0 rfl rfl)
theorem dX9_needOf_72 : decode cX9_needOf 72 = .ok (.iload 4, 2) := dk_21 4 (dk_at dksX9_needOf_3 3 rfl rfl)
theorem dX9_needOf_74 : decode cX9_needOf 74 = .ok (.iconst 4, 1) := dk_7 (dk_at dksX9_needOf_3 5 rfl rfl)
theorem dX9_needOf_75 : decode cX9_needOf 75 = .ok (.iadd, 1) := dk_96 (dk_at dksX9_needOf_3 6 rfl rfl)
theorem dX9_needOf_76 : decode cX9_needOf 76 = .ok (.iaload, 1) := dk_46 (dk_at dksX9_needOf_3 7 rfl rfl)
theorem dX9_needOf_77 : decode cX9_needOf 77 = .ok (.bipush 16, 2) := dk_16 16 (dk_at dksX9_needOf_3 8 rfl rfl)
theorem dX9_needOf_79 : decode cX9_needOf 79 = .ok (.bipush 32, 2) := dk_16 32 (dk_at dksX9_needOf_3 10 rfl rfl)
theorem dX9_needOf_81 : decode cX9_needOf 81 = .ok (.iload_n 1, 1) := dk_27 (dk_at dksX9_needOf_3 12 rfl rfl)
theorem dX9_needOf_82 : decode cX9_needOf 82 = .ok (.aload_n 0, 1) := dk_42 (dk_at dksX9_needOf_3 13 rfl rfl)
theorem dX9_needOf_83 : decode cX9_needOf 83 = .ok (.invokevirtual 269, 3) := dk_182 1 13 (dk_at dksX9_needOf_3 14 rfl rfl)
theorem dX9_needOf_86 : decode cX9_needOf 86 = .ok (.idiv, 1) := dk_108 (dk_at dksX9_needOf_3 17 rfl rfl)
theorem dX9_needOf_87 : decode cX9_needOf 87 = .ok (.imul, 1) := dk_104 (dk_at dksX9_needOf_3 18 rfl rfl)
theorem dX9_needOf_88 : decode cX9_needOf 88 = .ok (.bipush 32, 2) := dk_16 32 (dk_at dksX9_needOf_3 19 rfl rfl)
theorem dX9_needOf_90 : decode cX9_needOf 90 = .ok (.invokestatic 272, 3) := dk_184 1 16 (dk_at dksX9_needOf_3 21 rfl rfl)
theorem dX9_needOf_93 : decode cX9_needOf 93 = .ok (.imul, 1) := dk_104 (dk_at dksX9_needOf_4 0 rfl rfl)
theorem dX9_needOf_94 : decode cX9_needOf 94 = .ok (.iadd, 1) := dk_96 (dk_at dksX9_needOf_4 1 rfl rfl)
theorem dX9_needOf_95 : decode cX9_needOf 95 = .ok (.istore_n 2, 1) := dk_61 (dk_at dksX9_needOf_4 2 rfl rfl)
theorem dX9_needOf_96 : decode cX9_needOf 96 = .ok (.iinc 3 1, 3) := dk_132 3 1 (dk_at dksX9_needOf_4 3 rfl rfl)
theorem dX9_needOf_99 : decode cX9_needOf 99 = .ok (.goto (-95), 3) := dk_167 255 161 (dk_at dksX9_needOf_4 6 rfl rfl)
theorem dX9_needOf_102 : decode cX9_needOf 102 = .ok (.iload_n 2, 1) := dk_28 (dk_at dksX9_needOf_4 9 rfl rfl)
theorem dX9_needOf_103 : decode cX9_needOf 103 = .ok (.ireturn, 1) := dk_172 (dk_at dksX9_needOf_4 10 rfl rfl)
abbrev cX9_common : ByteArray := prog_15_method_68_code
def yX9_common : MethodName := ⟨RX9, "common", "(IIII)I"⟩
def dkwX9_common_2 : List UInt8 := [172]
abbrev dktX9_common_2 : List UInt8 := dkwX9_common_2 ++ []
def dkwX9_common_1 : List UInt8 := [167, 0, 6, 28, 29, 96, 54, 5, 21, 5, 21, 4, 164, 0, 11, 21, 5, 21, 4, 100, 167, 0, 4, 3]
abbrev dktX9_common_1 : List UInt8 := dkwX9_common_1 ++ dktX9_common_2
def dkwX9_common_0 : List UInt8 := [26, 28, 164, 0, 7, 26, 167, 0, 4, 28, 54, 4, 26, 27, 96, 28, 29, 96, 162, 0, 9, 26, 27, 96]
abbrev dktX9_common_0 : List UInt8 := dkwX9_common_0 ++ dktX9_common_1
theorem dksX9_common_0 : cX9_common.data.toList.drop 0 = dktX9_common_0 := by decide +kernel
theorem dksX9_common_1 : cX9_common.data.toList.drop 24 = dktX9_common_1 := dk_seg dksX9_common_0 24 rfl rfl
theorem dksX9_common_2 : cX9_common.data.toList.drop 48 = dktX9_common_2 := dk_seg dksX9_common_1 24 rfl rfl
theorem dX9_common_0 : decode cX9_common 0 = .ok (.iload_n 0, 1) := dk_26 (dk_at dksX9_common_0 0 rfl rfl)
theorem dX9_common_1 : decode cX9_common 1 = .ok (.iload_n 2, 1) := dk_28 (dk_at dksX9_common_0 1 rfl rfl)
theorem dX9_common_2 : decode cX9_common 2 = .ok (.if_icmp .le 7, 3) := dk_164 0 7 (dk_at dksX9_common_0 2 rfl rfl)
theorem dX9_common_5 : decode cX9_common 5 = .ok (.iload_n 0, 1) := dk_26 (dk_at dksX9_common_0 5 rfl rfl)
theorem dX9_common_6 : decode cX9_common 6 = .ok (.goto 4, 3) := dk_167 0 4 (dk_at dksX9_common_0 6 rfl rfl)
theorem dX9_common_9 : decode cX9_common 9 = .ok (.iload_n 2, 1) := dk_28 (dk_at dksX9_common_0 9 rfl rfl)
theorem dX9_common_10 : decode cX9_common 10 = .ok (.istore 4, 2) := dk_54 4 (dk_at dksX9_common_0 10 rfl rfl)
theorem dX9_common_12 : decode cX9_common 12 = .ok (.iload_n 0, 1) := dk_26 (dk_at dksX9_common_0 12 rfl rfl)
theorem dX9_common_13 : decode cX9_common 13 = .ok (.iload_n 1, 1) := dk_27 (dk_at dksX9_common_0 13 rfl rfl)
theorem dX9_common_14 : decode cX9_common 14 = .ok (.iadd, 1) := dk_96 (dk_at dksX9_common_0 14 rfl rfl)
theorem dX9_common_15 : decode cX9_common 15 = .ok (.iload_n 2, 1) := dk_28 (dk_at dksX9_common_0 15 rfl rfl)
theorem dX9_common_16 : decode cX9_common 16 = .ok (.iload_n 3, 1) := dk_29 (dk_at dksX9_common_0 16 rfl rfl)
theorem dX9_common_17 : decode cX9_common 17 = .ok (.iadd, 1) := dk_96 (dk_at dksX9_common_0 17 rfl rfl)
theorem dX9_common_18 : decode cX9_common 18 = .ok (.if_icmp .ge 9, 3) := dk_162 0 9 (dk_at dksX9_common_0 18 rfl rfl)
theorem dX9_common_21 : decode cX9_common 21 = .ok (.iload_n 0, 1) := dk_26 (dk_at dksX9_common_0 21 rfl rfl)
theorem dX9_common_22 : decode cX9_common 22 = .ok (.iload_n 1, 1) := dk_27 (dk_at dksX9_common_0 22 rfl rfl)
theorem dX9_common_23 : decode cX9_common 23 = .ok (.iadd, 1) := dk_96 (dk_at dksX9_common_0 23 rfl rfl)
theorem dX9_common_24 : decode cX9_common 24 = .ok (.goto 6, 3) := dk_167 0 6 (dk_at dksX9_common_1 0 rfl rfl)
theorem dX9_common_27 : decode cX9_common 27 = .ok (.iload_n 2, 1) := dk_28 (dk_at dksX9_common_1 3 rfl rfl)
theorem dX9_common_28 : decode cX9_common 28 = .ok (.iload_n 3, 1) := dk_29 (dk_at dksX9_common_1 4 rfl rfl)
theorem dX9_common_29 : decode cX9_common 29 = .ok (.iadd, 1) := dk_96 (dk_at dksX9_common_1 5 rfl rfl)
theorem dX9_common_30 : decode cX9_common 30 = .ok (.istore 5, 2) := dk_54 5 (dk_at dksX9_common_1 6 rfl rfl)
theorem dX9_common_32 : decode cX9_common 32 = .ok (.iload 5, 2) := dk_21 5 (dk_at dksX9_common_1 8 rfl rfl)
theorem dX9_common_34 : decode cX9_common 34 = .ok (.iload 4, 2) := dk_21 4 (dk_at dksX9_common_1 10 rfl rfl)
theorem dX9_common_36 : decode cX9_common 36 = .ok (.if_icmp .le 11, 3) := dk_164 0 11 (dk_at dksX9_common_1 12 rfl rfl)
theorem dX9_common_39 : decode cX9_common 39 = .ok (.iload 5, 2) := dk_21 5 (dk_at dksX9_common_1 15 rfl rfl)
theorem dX9_common_41 : decode cX9_common 41 = .ok (.iload 4, 2) := dk_21 4 (dk_at dksX9_common_1 17 rfl rfl)
theorem dX9_common_43 : decode cX9_common 43 = .ok (.isub, 1) := dk_100 (dk_at dksX9_common_1 19 rfl rfl)
theorem dX9_common_44 : decode cX9_common 44 = .ok (.goto 4, 3) := dk_167 0 4 (dk_at dksX9_common_1 20 rfl rfl)
theorem dX9_common_47 : decode cX9_common 47 = .ok (.iconst 0, 1) := dk_3 (dk_at dksX9_common_1 23 rfl rfl)
theorem dX9_common_48 : decode cX9_common 48 = .ok (.ireturn, 1) := dk_172 (dk_at dksX9_common_2 0 rfl rfl)
abbrev cX9_spreadCell : ByteArray := prog_15_method_82_code
def yX9_spreadCell : MethodName := ⟨RX9, "spreadCell", "(I)V"⟩
def dkwX9_spreadCell_7 : List UInt8 := [21, 6, 79, 177]
abbrev dktX9_spreadCell_7 : List UInt8 := dkwX9_spreadCell_7 ++ []
def dkwX9_spreadCell_6 : List UInt8 := [132, 8, 1, 167, 255, 155, 42, 180, 0, 16, 28, 6, 96, 21, 5, 79, 42, 180, 0, 16, 28, 7, 96]
abbrev dktX9_spreadCell_6 : List UInt8 := dkwX9_spreadCell_6 ++ dktX9_spreadCell_7
def dkwX9_spreadCell_5 : List UInt8 := [54, 7, 42, 180, 0, 16, 28, 6, 96, 46, 54, 5, 42, 180, 0, 16, 28, 7, 96, 46, 54, 6]
abbrev dktX9_spreadCell_5 : List UInt8 := dkwX9_spreadCell_5 ++ dktX9_spreadCell_6
def dkwX9_spreadCell_4 : List UInt8 := [184, 1, 62, 104, 96, 182, 1, 48, 79, 42, 182, 1, 56, 54, 9, 21, 9, 21, 7, 162, 0, 27, 21, 9]
abbrev dktX9_spreadCell_4 : List UInt8 := dkwX9_spreadCell_4 ++ dktX9_spreadCell_5
def dkwX9_spreadCell_3 : List UInt8 := [182, 1, 45, 79, 42, 180, 0, 16, 28, 7, 96, 42, 27, 21, 4, 42, 180, 0, 13, 6, 46, 21, 8]
abbrev dktX9_spreadCell_3 : List UInt8 := dkwX9_spreadCell_3 ++ dktX9_spreadCell_4
def dkwX9_spreadCell_2 : List UInt8 := [180, 0, 16, 28, 6, 96, 42, 27, 29, 42, 180, 0, 13, 6, 46, 21, 8, 184, 1, 59, 104, 96]
abbrev dktX9_spreadCell_2 : List UInt8 := dkwX9_spreadCell_2 ++ dktX9_spreadCell_3
def dkwX9_spreadCell_1 : List UInt8 := [29, 54, 5, 21, 4, 54, 6, 42, 182, 1, 56, 54, 7, 4, 54, 8, 21, 8, 8, 162, 0, 101, 42]
abbrev dktX9_spreadCell_1 : List UInt8 := dkwX9_spreadCell_1 ++ dktX9_spreadCell_2
def dkwX9_spreadCell_0 : List UInt8 := [27, 184, 0, 112, 61, 42, 180, 0, 16, 28, 6, 96, 46, 62, 42, 180, 0, 16, 28, 7, 96, 46, 54, 4]
abbrev dktX9_spreadCell_0 : List UInt8 := dkwX9_spreadCell_0 ++ dktX9_spreadCell_1
theorem dksX9_spreadCell_0 : cX9_spreadCell.data.toList.drop 0 = dktX9_spreadCell_0 := by decide +kernel
theorem dksX9_spreadCell_1 : cX9_spreadCell.data.toList.drop 24 = dktX9_spreadCell_1 := dk_seg dksX9_spreadCell_0 24 rfl rfl
theorem dksX9_spreadCell_2 : cX9_spreadCell.data.toList.drop 47 = dktX9_spreadCell_2 := dk_seg dksX9_spreadCell_1 23 rfl rfl
theorem dksX9_spreadCell_3 : cX9_spreadCell.data.toList.drop 69 = dktX9_spreadCell_3 := dk_seg dksX9_spreadCell_2 22 rfl rfl
theorem dksX9_spreadCell_4 : cX9_spreadCell.data.toList.drop 92 = dktX9_spreadCell_4 := dk_seg dksX9_spreadCell_3 23 rfl rfl
theorem dksX9_spreadCell_5 : cX9_spreadCell.data.toList.drop 116 = dktX9_spreadCell_5 := dk_seg dksX9_spreadCell_4 24 rfl rfl
theorem dksX9_spreadCell_6 : cX9_spreadCell.data.toList.drop 138 = dktX9_spreadCell_6 := dk_seg dksX9_spreadCell_5 22 rfl rfl
theorem dksX9_spreadCell_7 : cX9_spreadCell.data.toList.drop 161 = dktX9_spreadCell_7 := dk_seg dksX9_spreadCell_6 23 rfl rfl
theorem dX9_spreadCell_0 : decode cX9_spreadCell 0 = .ok (.iload_n 1, 1) := dk_27 (dk_at dksX9_spreadCell_0 0 rfl rfl)
theorem dX9_spreadCell_1 : decode cX9_spreadCell 1 = .ok (.invokestatic 112, 3) := dk_184 0 112 (dk_at dksX9_spreadCell_0 1 rfl rfl)
theorem dX9_spreadCell_4 : decode cX9_spreadCell 4 = .ok (.istore_n 2, 1) := dk_61 (dk_at dksX9_spreadCell_0 4 rfl rfl)
theorem dX9_spreadCell_5 : decode cX9_spreadCell 5 = .ok (.aload_n 0, 1) := dk_42 (dk_at dksX9_spreadCell_0 5 rfl rfl)
theorem dX9_spreadCell_6 : decode cX9_spreadCell 6 = .ok (.getfield 16, 3) := dk_180 0 16 (dk_at dksX9_spreadCell_0 6 rfl rfl)
theorem dX9_spreadCell_9 : decode cX9_spreadCell 9 = .ok (.iload_n 2, 1) := dk_28 (dk_at dksX9_spreadCell_0 9 rfl rfl)
theorem dX9_spreadCell_10 : decode cX9_spreadCell 10 = .ok (.iconst 3, 1) := dk_6 (dk_at dksX9_spreadCell_0 10 rfl rfl)
theorem dX9_spreadCell_11 : decode cX9_spreadCell 11 = .ok (.iadd, 1) := dk_96 (dk_at dksX9_spreadCell_0 11 rfl rfl)
theorem dX9_spreadCell_12 : decode cX9_spreadCell 12 = .ok (.iaload, 1) := dk_46 (dk_at dksX9_spreadCell_0 12 rfl rfl)
theorem dX9_spreadCell_13 : decode cX9_spreadCell 13 = .ok (.istore_n 3, 1) := dk_62 (dk_at dksX9_spreadCell_0 13 rfl rfl)
theorem dX9_spreadCell_14 : decode cX9_spreadCell 14 = .ok (.aload_n 0, 1) := dk_42 (dk_at dksX9_spreadCell_0 14 rfl rfl)
theorem dX9_spreadCell_15 : decode cX9_spreadCell 15 = .ok (.getfield 16, 3) := dk_180 0 16 (dk_at dksX9_spreadCell_0 15 rfl rfl)
theorem dX9_spreadCell_18 : decode cX9_spreadCell 18 = .ok (.iload_n 2, 1) := dk_28 (dk_at dksX9_spreadCell_0 18 rfl rfl)
theorem dX9_spreadCell_19 : decode cX9_spreadCell 19 = .ok (.iconst 4, 1) := dk_7 (dk_at dksX9_spreadCell_0 19 rfl rfl)
theorem dX9_spreadCell_20 : decode cX9_spreadCell 20 = .ok (.iadd, 1) := dk_96 (dk_at dksX9_spreadCell_0 20 rfl rfl)
theorem dX9_spreadCell_21 : decode cX9_spreadCell 21 = .ok (.iaload, 1) := dk_46 (dk_at dksX9_spreadCell_0 21 rfl rfl)
theorem dX9_spreadCell_22 : decode cX9_spreadCell 22 = .ok (.istore 4, 2) := dk_54 4 (dk_at dksX9_spreadCell_0 22 rfl rfl)
theorem dX9_spreadCell_24 : decode cX9_spreadCell 24 = .ok (.iload_n 3, 1) := dk_29 (dk_at dksX9_spreadCell_1 0 rfl rfl)
theorem dX9_spreadCell_25 : decode cX9_spreadCell 25 = .ok (.istore 5, 2) := dk_54 5 (dk_at dksX9_spreadCell_1 1 rfl rfl)
theorem dX9_spreadCell_27 : decode cX9_spreadCell 27 = .ok (.iload 4, 2) := dk_21 4 (dk_at dksX9_spreadCell_1 3 rfl rfl)
theorem dX9_spreadCell_29 : decode cX9_spreadCell 29 = .ok (.istore 6, 2) := dk_54 6 (dk_at dksX9_spreadCell_1 5 rfl rfl)
theorem dX9_spreadCell_31 : decode cX9_spreadCell 31 = .ok (.aload_n 0, 1) := dk_42 (dk_at dksX9_spreadCell_1 7 rfl rfl)
theorem dX9_spreadCell_32 : decode cX9_spreadCell 32 = .ok (.invokevirtual 312, 3) := dk_182 1 56 (dk_at dksX9_spreadCell_1 8 rfl rfl)
theorem dX9_spreadCell_35 : decode cX9_spreadCell 35 = .ok (.istore 7, 2) := dk_54 7 (dk_at dksX9_spreadCell_1 11 rfl rfl)
theorem dX9_spreadCell_37 : decode cX9_spreadCell 37 = .ok (.iconst 1, 1) := dk_4 (dk_at dksX9_spreadCell_1 13 rfl rfl)
theorem dX9_spreadCell_38 : decode cX9_spreadCell 38 = .ok (.istore 8, 2) := dk_54 8 (dk_at dksX9_spreadCell_1 14 rfl rfl)
theorem dX9_spreadCell_40 : decode cX9_spreadCell 40 = .ok (.iload 8, 2) := dk_21 8 (dk_at dksX9_spreadCell_1 16 rfl rfl)
theorem dX9_spreadCell_42 : decode cX9_spreadCell 42 = .ok (.iconst 5, 1) := dk_8 (dk_at dksX9_spreadCell_1 18 rfl rfl)
theorem dX9_spreadCell_43 : decode cX9_spreadCell 43 = .ok (.if_icmp .ge 101, 3) := dk_162 0 101 (dk_at dksX9_spreadCell_1 19 rfl rfl)
theorem dX9_spreadCell_46 : decode cX9_spreadCell 46 = .ok (.aload_n 0, 1) := dk_42 (dk_at dksX9_spreadCell_1 22 rfl rfl)
theorem dX9_spreadCell_47 : decode cX9_spreadCell 47 = .ok (.getfield 16, 3) := dk_180 0 16 (dk_at dksX9_spreadCell_2 0 rfl rfl)
theorem dX9_spreadCell_50 : decode cX9_spreadCell 50 = .ok (.iload_n 2, 1) := dk_28 (dk_at dksX9_spreadCell_2 3 rfl rfl)
theorem dX9_spreadCell_51 : decode cX9_spreadCell 51 = .ok (.iconst 3, 1) := dk_6 (dk_at dksX9_spreadCell_2 4 rfl rfl)
theorem dX9_spreadCell_52 : decode cX9_spreadCell 52 = .ok (.iadd, 1) := dk_96 (dk_at dksX9_spreadCell_2 5 rfl rfl)
theorem dX9_spreadCell_53 : decode cX9_spreadCell 53 = .ok (.aload_n 0, 1) := dk_42 (dk_at dksX9_spreadCell_2 6 rfl rfl)
theorem dX9_spreadCell_54 : decode cX9_spreadCell 54 = .ok (.iload_n 1, 1) := dk_27 (dk_at dksX9_spreadCell_2 7 rfl rfl)
theorem dX9_spreadCell_55 : decode cX9_spreadCell 55 = .ok (.iload_n 3, 1) := dk_29 (dk_at dksX9_spreadCell_2 8 rfl rfl)
theorem dX9_spreadCell_56 : decode cX9_spreadCell 56 = .ok (.aload_n 0, 1) := dk_42 (dk_at dksX9_spreadCell_2 9 rfl rfl)
theorem dX9_spreadCell_57 : decode cX9_spreadCell 57 = .ok (.getfield 13, 3) := dk_180 0 13 (dk_at dksX9_spreadCell_2 10 rfl rfl)
theorem dX9_spreadCell_60 : decode cX9_spreadCell 60 = .ok (.iconst 3, 1) := dk_6 (dk_at dksX9_spreadCell_2 13 rfl rfl)
theorem dX9_spreadCell_61 : decode cX9_spreadCell 61 = .ok (.iaload, 1) := dk_46 (dk_at dksX9_spreadCell_2 14 rfl rfl)
theorem dX9_spreadCell_62 : decode cX9_spreadCell 62 = .ok (.iload 8, 2) := dk_21 8 (dk_at dksX9_spreadCell_2 15 rfl rfl)
theorem dX9_spreadCell_64 : decode cX9_spreadCell 64 = .ok (.invokestatic 315, 3) := dk_184 1 59 (dk_at dksX9_spreadCell_2 17 rfl rfl)
theorem dX9_spreadCell_67 : decode cX9_spreadCell 67 = .ok (.imul, 1) := dk_104 (dk_at dksX9_spreadCell_2 20 rfl rfl)
theorem dX9_spreadCell_68 : decode cX9_spreadCell 68 = .ok (.iadd, 1) := dk_96 (dk_at dksX9_spreadCell_2 21 rfl rfl)
theorem dX9_spreadCell_69 : decode cX9_spreadCell 69 = .ok (.invokevirtual 301, 3) := dk_182 1 45 (dk_at dksX9_spreadCell_3 0 rfl rfl)
theorem dX9_spreadCell_72 : decode cX9_spreadCell 72 = .ok (.iastore, 1) := dk_79 (dk_at dksX9_spreadCell_3 3 rfl rfl)
theorem dX9_spreadCell_73 : decode cX9_spreadCell 73 = .ok (.aload_n 0, 1) := dk_42 (dk_at dksX9_spreadCell_3 4 rfl rfl)
theorem dX9_spreadCell_74 : decode cX9_spreadCell 74 = .ok (.getfield 16, 3) := dk_180 0 16 (dk_at dksX9_spreadCell_3 5 rfl rfl)
theorem dX9_spreadCell_77 : decode cX9_spreadCell 77 = .ok (.iload_n 2, 1) := dk_28 (dk_at dksX9_spreadCell_3 8 rfl rfl)
theorem dX9_spreadCell_78 : decode cX9_spreadCell 78 = .ok (.iconst 4, 1) := dk_7 (dk_at dksX9_spreadCell_3 9 rfl rfl)
theorem dX9_spreadCell_79 : decode cX9_spreadCell 79 = .ok (.iadd, 1) := dk_96 (dk_at dksX9_spreadCell_3 10 rfl rfl)
theorem dX9_spreadCell_80 : decode cX9_spreadCell 80 = .ok (.aload_n 0, 1) := dk_42 (dk_at dksX9_spreadCell_3 11 rfl rfl)
theorem dX9_spreadCell_81 : decode cX9_spreadCell 81 = .ok (.iload_n 1, 1) := dk_27 (dk_at dksX9_spreadCell_3 12 rfl rfl)
theorem dX9_spreadCell_82 : decode cX9_spreadCell 82 = .ok (.iload 4, 2) := dk_21 4 (dk_at dksX9_spreadCell_3 13 rfl rfl)
theorem dX9_spreadCell_84 : decode cX9_spreadCell 84 = .ok (.aload_n 0, 1) := dk_42 (dk_at dksX9_spreadCell_3 15 rfl rfl)
theorem dX9_spreadCell_85 : decode cX9_spreadCell 85 = .ok (.getfield 13, 3) := dk_180 0 13 (dk_at dksX9_spreadCell_3 16 rfl rfl)
theorem dX9_spreadCell_88 : decode cX9_spreadCell 88 = .ok (.iconst 3, 1) := dk_6 (dk_at dksX9_spreadCell_3 19 rfl rfl)
theorem dX9_spreadCell_89 : decode cX9_spreadCell 89 = .ok (.iaload, 1) := dk_46 (dk_at dksX9_spreadCell_3 20 rfl rfl)
theorem dX9_spreadCell_90 : decode cX9_spreadCell 90 = .ok (.iload 8, 2) := dk_21 8 (dk_at dksX9_spreadCell_3 21 rfl rfl)
theorem dX9_spreadCell_92 : decode cX9_spreadCell 92 = .ok (.invokestatic 318, 3) := dk_184 1 62 (dk_at dksX9_spreadCell_4 0 rfl rfl)
theorem dX9_spreadCell_95 : decode cX9_spreadCell 95 = .ok (.imul, 1) := dk_104 (dk_at dksX9_spreadCell_4 3 rfl rfl)
theorem dX9_spreadCell_96 : decode cX9_spreadCell 96 = .ok (.iadd, 1) := dk_96 (dk_at dksX9_spreadCell_4 4 rfl rfl)
theorem dX9_spreadCell_97 : decode cX9_spreadCell 97 = .ok (.invokevirtual 304, 3) := dk_182 1 48 (dk_at dksX9_spreadCell_4 5 rfl rfl)
theorem dX9_spreadCell_100 : decode cX9_spreadCell 100 = .ok (.iastore, 1) := dk_79 (dk_at dksX9_spreadCell_4 8 rfl rfl)
theorem dX9_spreadCell_101 : decode cX9_spreadCell 101 = .ok (.aload_n 0, 1) := dk_42 (dk_at dksX9_spreadCell_4 9 rfl rfl)
theorem dX9_spreadCell_102 : decode cX9_spreadCell 102 = .ok (.invokevirtual 312, 3) := dk_182 1 56 (dk_at dksX9_spreadCell_4 10 rfl rfl)
theorem dX9_spreadCell_105 : decode cX9_spreadCell 105 = .ok (.istore 9, 2) := dk_54 9 (dk_at dksX9_spreadCell_4 13 rfl rfl)
theorem dX9_spreadCell_107 : decode cX9_spreadCell 107 = .ok (.iload 9, 2) := dk_21 9 (dk_at dksX9_spreadCell_4 15 rfl rfl)
theorem dX9_spreadCell_109 : decode cX9_spreadCell 109 = .ok (.iload 7, 2) := dk_21 7 (dk_at dksX9_spreadCell_4 17 rfl rfl)
theorem dX9_spreadCell_111 : decode cX9_spreadCell 111 = .ok (.if_icmp .ge 27, 3) := dk_162 0 27 (dk_at dksX9_spreadCell_4 19 rfl rfl)
theorem dX9_spreadCell_114 : decode cX9_spreadCell 114 = .ok (.iload 9, 2) := dk_21 9 (dk_at dksX9_spreadCell_4 22 rfl rfl)
theorem dX9_spreadCell_116 : decode cX9_spreadCell 116 = .ok (.istore 7, 2) := dk_54 7 (dk_at dksX9_spreadCell_5 0 rfl rfl)
theorem dX9_spreadCell_118 : decode cX9_spreadCell 118 = .ok (.aload_n 0, 1) := dk_42 (dk_at dksX9_spreadCell_5 2 rfl rfl)
theorem dX9_spreadCell_119 : decode cX9_spreadCell 119 = .ok (.getfield 16, 3) := dk_180 0 16 (dk_at dksX9_spreadCell_5 3 rfl rfl)
theorem dX9_spreadCell_122 : decode cX9_spreadCell 122 = .ok (.iload_n 2, 1) := dk_28 (dk_at dksX9_spreadCell_5 6 rfl rfl)
theorem dX9_spreadCell_123 : decode cX9_spreadCell 123 = .ok (.iconst 3, 1) := dk_6 (dk_at dksX9_spreadCell_5 7 rfl rfl)
theorem dX9_spreadCell_124 : decode cX9_spreadCell 124 = .ok (.iadd, 1) := dk_96 (dk_at dksX9_spreadCell_5 8 rfl rfl)
theorem dX9_spreadCell_125 : decode cX9_spreadCell 125 = .ok (.iaload, 1) := dk_46 (dk_at dksX9_spreadCell_5 9 rfl rfl)
theorem dX9_spreadCell_126 : decode cX9_spreadCell 126 = .ok (.istore 5, 2) := dk_54 5 (dk_at dksX9_spreadCell_5 10 rfl rfl)
theorem dX9_spreadCell_128 : decode cX9_spreadCell 128 = .ok (.aload_n 0, 1) := dk_42 (dk_at dksX9_spreadCell_5 12 rfl rfl)
theorem dX9_spreadCell_129 : decode cX9_spreadCell 129 = .ok (.getfield 16, 3) := dk_180 0 16 (dk_at dksX9_spreadCell_5 13 rfl rfl)
theorem dX9_spreadCell_132 : decode cX9_spreadCell 132 = .ok (.iload_n 2, 1) := dk_28 (dk_at dksX9_spreadCell_5 16 rfl rfl)
theorem dX9_spreadCell_133 : decode cX9_spreadCell 133 = .ok (.iconst 4, 1) := dk_7 (dk_at dksX9_spreadCell_5 17 rfl rfl)
theorem dX9_spreadCell_134 : decode cX9_spreadCell 134 = .ok (.iadd, 1) := dk_96 (dk_at dksX9_spreadCell_5 18 rfl rfl)
theorem dX9_spreadCell_135 : decode cX9_spreadCell 135 = .ok (.iaload, 1) := dk_46 (dk_at dksX9_spreadCell_5 19 rfl rfl)
theorem dX9_spreadCell_136 : decode cX9_spreadCell 136 = .ok (.istore 6, 2) := dk_54 6 (dk_at dksX9_spreadCell_5 20 rfl rfl)
theorem dX9_spreadCell_138 : decode cX9_spreadCell 138 = .ok (.iinc 8 1, 3) := dk_132 8 1 (dk_at dksX9_spreadCell_6 0 rfl rfl)
theorem dX9_spreadCell_141 : decode cX9_spreadCell 141 = .ok (.goto (-101), 3) := dk_167 255 155 (dk_at dksX9_spreadCell_6 3 rfl rfl)
theorem dX9_spreadCell_144 : decode cX9_spreadCell 144 = .ok (.aload_n 0, 1) := dk_42 (dk_at dksX9_spreadCell_6 6 rfl rfl)
theorem dX9_spreadCell_145 : decode cX9_spreadCell 145 = .ok (.getfield 16, 3) := dk_180 0 16 (dk_at dksX9_spreadCell_6 7 rfl rfl)
theorem dX9_spreadCell_148 : decode cX9_spreadCell 148 = .ok (.iload_n 2, 1) := dk_28 (dk_at dksX9_spreadCell_6 10 rfl rfl)
theorem dX9_spreadCell_149 : decode cX9_spreadCell 149 = .ok (.iconst 3, 1) := dk_6 (dk_at dksX9_spreadCell_6 11 rfl rfl)
theorem dX9_spreadCell_150 : decode cX9_spreadCell 150 = .ok (.iadd, 1) := dk_96 (dk_at dksX9_spreadCell_6 12 rfl rfl)
theorem dX9_spreadCell_151 : decode cX9_spreadCell 151 = .ok (.iload 5, 2) := dk_21 5 (dk_at dksX9_spreadCell_6 13 rfl rfl)
theorem dX9_spreadCell_153 : decode cX9_spreadCell 153 = .ok (.iastore, 1) := dk_79 (dk_at dksX9_spreadCell_6 15 rfl rfl)
theorem dX9_spreadCell_154 : decode cX9_spreadCell 154 = .ok (.aload_n 0, 1) := dk_42 (dk_at dksX9_spreadCell_6 16 rfl rfl)
theorem dX9_spreadCell_155 : decode cX9_spreadCell 155 = .ok (.getfield 16, 3) := dk_180 0 16 (dk_at dksX9_spreadCell_6 17 rfl rfl)
theorem dX9_spreadCell_158 : decode cX9_spreadCell 158 = .ok (.iload_n 2, 1) := dk_28 (dk_at dksX9_spreadCell_6 20 rfl rfl)
theorem dX9_spreadCell_159 : decode cX9_spreadCell 159 = .ok (.iconst 4, 1) := dk_7 (dk_at dksX9_spreadCell_6 21 rfl rfl)
theorem dX9_spreadCell_160 : decode cX9_spreadCell 160 = .ok (.iadd, 1) := dk_96 (dk_at dksX9_spreadCell_6 22 rfl rfl)
theorem dX9_spreadCell_161 : decode cX9_spreadCell 161 = .ok (.iload 6, 2) := dk_21 6 (dk_at dksX9_spreadCell_7 0 rfl rfl)
theorem dX9_spreadCell_163 : decode cX9_spreadCell 163 = .ok (.iastore, 1) := dk_79 (dk_at dksX9_spreadCell_7 2 rfl rfl)
theorem dX9_spreadCell_164 : decode cX9_spreadCell 164 = .ok (.return_, 1) := dk_177 (dk_at dksX9_spreadCell_7 3 rfl rfl)
abbrev cX9_stepX : ByteArray := prog_15_method_80_code
def yX9_stepX : MethodName := ⟨RX9, "stepX", "(I)I"⟩
def dkwX9_stepX_0 : List UInt8 := [26, 4, 160, 0, 7, 2, 167, 0, 13, 26, 5, 160, 0, 7, 4, 167, 0, 4, 3, 172]
abbrev dktX9_stepX_0 : List UInt8 := dkwX9_stepX_0 ++ []
theorem dksX9_stepX_0 : cX9_stepX.data.toList.drop 0 = dktX9_stepX_0 := by decide +kernel
theorem dX9_stepX_0 : decode cX9_stepX 0 = .ok (.iload_n 0, 1) := dk_26 (dk_at dksX9_stepX_0 0 rfl rfl)
theorem dX9_stepX_1 : decode cX9_stepX 1 = .ok (.iconst 1, 1) := dk_4 (dk_at dksX9_stepX_0 1 rfl rfl)
theorem dX9_stepX_2 : decode cX9_stepX 2 = .ok (.if_icmp .ne 7, 3) := dk_160 0 7 (dk_at dksX9_stepX_0 2 rfl rfl)
theorem dX9_stepX_5 : decode cX9_stepX 5 = .ok (.iconst (-1), 1) := dk_2 (dk_at dksX9_stepX_0 5 rfl rfl)
theorem dX9_stepX_6 : decode cX9_stepX 6 = .ok (.goto 13, 3) := dk_167 0 13 (dk_at dksX9_stepX_0 6 rfl rfl)
theorem dX9_stepX_9 : decode cX9_stepX 9 = .ok (.iload_n 0, 1) := dk_26 (dk_at dksX9_stepX_0 9 rfl rfl)
theorem dX9_stepX_10 : decode cX9_stepX 10 = .ok (.iconst 2, 1) := dk_5 (dk_at dksX9_stepX_0 10 rfl rfl)
theorem dX9_stepX_11 : decode cX9_stepX 11 = .ok (.if_icmp .ne 7, 3) := dk_160 0 7 (dk_at dksX9_stepX_0 11 rfl rfl)
theorem dX9_stepX_14 : decode cX9_stepX 14 = .ok (.iconst 1, 1) := dk_4 (dk_at dksX9_stepX_0 14 rfl rfl)
theorem dX9_stepX_15 : decode cX9_stepX 15 = .ok (.goto 4, 3) := dk_167 0 4 (dk_at dksX9_stepX_0 15 rfl rfl)
theorem dX9_stepX_18 : decode cX9_stepX 18 = .ok (.iconst 0, 1) := dk_3 (dk_at dksX9_stepX_0 18 rfl rfl)
theorem dX9_stepX_19 : decode cX9_stepX 19 = .ok (.ireturn, 1) := dk_172 (dk_at dksX9_stepX_0 19 rfl rfl)
abbrev cX9_stepY : ByteArray := prog_15_method_81_code
def yX9_stepY : MethodName := ⟨RX9, "stepY", "(I)I"⟩
def dkwX9_stepY_0 : List UInt8 := [26, 6, 160, 0, 7, 2, 167, 0, 13, 26, 7, 160, 0, 7, 4, 167, 0, 4, 3, 172]
abbrev dktX9_stepY_0 : List UInt8 := dkwX9_stepY_0 ++ []
theorem dksX9_stepY_0 : cX9_stepY.data.toList.drop 0 = dktX9_stepY_0 := by decide +kernel
theorem dX9_stepY_0 : decode cX9_stepY 0 = .ok (.iload_n 0, 1) := dk_26 (dk_at dksX9_stepY_0 0 rfl rfl)
theorem dX9_stepY_1 : decode cX9_stepY 1 = .ok (.iconst 3, 1) := dk_6 (dk_at dksX9_stepY_0 1 rfl rfl)
theorem dX9_stepY_2 : decode cX9_stepY 2 = .ok (.if_icmp .ne 7, 3) := dk_160 0 7 (dk_at dksX9_stepY_0 2 rfl rfl)
theorem dX9_stepY_5 : decode cX9_stepY 5 = .ok (.iconst (-1), 1) := dk_2 (dk_at dksX9_stepY_0 5 rfl rfl)
theorem dX9_stepY_6 : decode cX9_stepY 6 = .ok (.goto 13, 3) := dk_167 0 13 (dk_at dksX9_stepY_0 6 rfl rfl)
theorem dX9_stepY_9 : decode cX9_stepY 9 = .ok (.iload_n 0, 1) := dk_26 (dk_at dksX9_stepY_0 9 rfl rfl)
theorem dX9_stepY_10 : decode cX9_stepY 10 = .ok (.iconst 4, 1) := dk_7 (dk_at dksX9_stepY_0 10 rfl rfl)
theorem dX9_stepY_11 : decode cX9_stepY 11 = .ok (.if_icmp .ne 7, 3) := dk_160 0 7 (dk_at dksX9_stepY_0 11 rfl rfl)
theorem dX9_stepY_14 : decode cX9_stepY 14 = .ok (.iconst 1, 1) := dk_4 (dk_at dksX9_stepY_0 14 rfl rfl)
theorem dX9_stepY_15 : decode cX9_stepY 15 = .ok (.goto 4, 3) := dk_167 0 4 (dk_at dksX9_stepY_0 15 rfl rfl)
theorem dX9_stepY_18 : decode cX9_stepY 18 = .ok (.iconst 0, 1) := dk_3 (dk_at dksX9_stepY_0 18 rfl rfl)
theorem dX9_stepY_19 : decode cX9_stepY 19 = .ok (.ireturn, 1) := dk_172 (dk_at dksX9_stepY_0 19 rfl rfl)
abbrev cX9_legal : ByteArray := prog_15_method_98_code
def yX9_legal : MethodName := ⟨RX9, "legal", "()I"⟩
def dkwX9_legal_4 : List UInt8 := [184, 0, 101, 42, 27, 182, 0, 109, 172]
abbrev dktX9_legal_4 : List UInt8 := dkwX9_legal_4 ++ []
def dkwX9_legal_3 : List UInt8 := [180, 0, 16, 3, 184, 0, 101, 42, 16, 12, 182, 0, 186, 42, 180, 0, 28, 3, 42, 180, 0, 16, 3]
abbrev dktX9_legal_3 : List UInt8 := dkwX9_legal_3 ++ dktX9_legal_4
def dkwX9_legal_2 : List UInt8 := [182, 1, 122, 60, 42, 180, 0, 16, 3, 42, 180, 0, 28, 3, 184, 0, 101, 42, 180, 0, 25, 3, 42]
abbrev dktX9_legal_2 : List UInt8 := dkwX9_legal_2 ++ dktX9_legal_3
def dkwX9_legal_1 : List UInt8 := [154, 0, 23, 42, 180, 0, 25, 3, 42, 180, 0, 16, 3, 184, 0, 101, 42, 16, 251, 182, 0, 105, 172, 42]
abbrev dktX9_legal_1 : List UInt8 := dkwX9_legal_1 ++ dktX9_legal_2
def dkwX9_legal_0 : List UInt8 := [42, 3, 181, 0, 92, 42, 180, 0, 16, 3, 42, 180, 0, 25, 3, 184, 0, 101, 42, 182, 1, 118]
abbrev dktX9_legal_0 : List UInt8 := dkwX9_legal_0 ++ dktX9_legal_1
theorem dksX9_legal_0 : cX9_legal.data.toList.drop 0 = dktX9_legal_0 := by decide +kernel
theorem dksX9_legal_1 : cX9_legal.data.toList.drop 22 = dktX9_legal_1 := dk_seg dksX9_legal_0 22 rfl rfl
theorem dksX9_legal_2 : cX9_legal.data.toList.drop 46 = dktX9_legal_2 := dk_seg dksX9_legal_1 24 rfl rfl
theorem dksX9_legal_3 : cX9_legal.data.toList.drop 69 = dktX9_legal_3 := dk_seg dksX9_legal_2 23 rfl rfl
theorem dksX9_legal_4 : cX9_legal.data.toList.drop 92 = dktX9_legal_4 := dk_seg dksX9_legal_3 23 rfl rfl
theorem dX9_legal_0 : decode cX9_legal 0 = .ok (.aload_n 0, 1) := dk_42 (dk_at dksX9_legal_0 0 rfl rfl)
theorem dX9_legal_1 : decode cX9_legal 1 = .ok (.iconst 0, 1) := dk_3 (dk_at dksX9_legal_0 1 rfl rfl)
theorem dX9_legal_2 : decode cX9_legal 2 = .ok (.putfield 92, 3) := dk_181 0 92 (dk_at dksX9_legal_0 2 rfl rfl)
theorem dX9_legal_5 : decode cX9_legal 5 = .ok (.aload_n 0, 1) := dk_42 (dk_at dksX9_legal_0 5 rfl rfl)
theorem dX9_legal_6 : decode cX9_legal 6 = .ok (.getfield 16, 3) := dk_180 0 16 (dk_at dksX9_legal_0 6 rfl rfl)
theorem dX9_legal_9 : decode cX9_legal 9 = .ok (.iconst 0, 1) := dk_3 (dk_at dksX9_legal_0 9 rfl rfl)
theorem dX9_legal_10 : decode cX9_legal 10 = .ok (.aload_n 0, 1) := dk_42 (dk_at dksX9_legal_0 10 rfl rfl)
theorem dX9_legal_11 : decode cX9_legal 11 = .ok (.getfield 25, 3) := dk_180 0 25 (dk_at dksX9_legal_0 11 rfl rfl)
theorem dX9_legal_14 : decode cX9_legal 14 = .ok (.iconst 0, 1) := dk_3 (dk_at dksX9_legal_0 14 rfl rfl)
theorem dX9_legal_15 : decode cX9_legal 15 = .ok (.invokestatic 101, 3) := dk_184 0 101 (dk_at dksX9_legal_0 15 rfl rfl)
theorem dX9_legal_18 : decode cX9_legal 18 = .ok (.aload_n 0, 1) := dk_42 (dk_at dksX9_legal_0 18 rfl rfl)
theorem dX9_legal_19 : decode cX9_legal 19 = .ok (.invokevirtual 374, 3) := dk_182 1 118 (dk_at dksX9_legal_0 19 rfl rfl)
theorem dX9_legal_22 : decode cX9_legal 22 = .ok (.ifCond .ne 23, 3) := dk_154 0 23 (dk_at dksX9_legal_1 0 rfl rfl)
theorem dX9_legal_25 : decode cX9_legal 25 = .ok (.aload_n 0, 1) := dk_42 (dk_at dksX9_legal_1 3 rfl rfl)
theorem dX9_legal_26 : decode cX9_legal 26 = .ok (.getfield 25, 3) := dk_180 0 25 (dk_at dksX9_legal_1 4 rfl rfl)
theorem dX9_legal_29 : decode cX9_legal 29 = .ok (.iconst 0, 1) := dk_3 (dk_at dksX9_legal_1 7 rfl rfl)
theorem dX9_legal_30 : decode cX9_legal 30 = .ok (.aload_n 0, 1) := dk_42 (dk_at dksX9_legal_1 8 rfl rfl)
theorem dX9_legal_31 : decode cX9_legal 31 = .ok (.getfield 16, 3) := dk_180 0 16 (dk_at dksX9_legal_1 9 rfl rfl)
theorem dX9_legal_34 : decode cX9_legal 34 = .ok (.iconst 0, 1) := dk_3 (dk_at dksX9_legal_1 12 rfl rfl)
theorem dX9_legal_35 : decode cX9_legal 35 = .ok (.invokestatic 101, 3) := dk_184 0 101 (dk_at dksX9_legal_1 13 rfl rfl)
theorem dX9_legal_38 : decode cX9_legal 38 = .ok (.aload_n 0, 1) := dk_42 (dk_at dksX9_legal_1 16 rfl rfl)
theorem dX9_legal_39 : decode cX9_legal 39 = .ok (.bipush (-5), 2) := dk_16 251 (dk_at dksX9_legal_1 17 rfl rfl)
theorem dX9_legal_41 : decode cX9_legal 41 = .ok (.invokevirtual 105, 3) := dk_182 0 105 (dk_at dksX9_legal_1 19 rfl rfl)
theorem dX9_legal_44 : decode cX9_legal 44 = .ok (.ireturn, 1) := dk_172 (dk_at dksX9_legal_1 22 rfl rfl)
theorem dX9_legal_45 : decode cX9_legal 45 = .ok (.aload_n 0, 1) := dk_42 (dk_at dksX9_legal_1 23 rfl rfl)
theorem dX9_legal_46 : decode cX9_legal 46 = .ok (.invokevirtual 378, 3) := dk_182 1 122 (dk_at dksX9_legal_2 0 rfl rfl)
theorem dX9_legal_49 : decode cX9_legal 49 = .ok (.istore_n 1, 1) := dk_60 (dk_at dksX9_legal_2 3 rfl rfl)
theorem dX9_legal_50 : decode cX9_legal 50 = .ok (.aload_n 0, 1) := dk_42 (dk_at dksX9_legal_2 4 rfl rfl)
theorem dX9_legal_51 : decode cX9_legal 51 = .ok (.getfield 16, 3) := dk_180 0 16 (dk_at dksX9_legal_2 5 rfl rfl)
theorem dX9_legal_54 : decode cX9_legal 54 = .ok (.iconst 0, 1) := dk_3 (dk_at dksX9_legal_2 8 rfl rfl)
theorem dX9_legal_55 : decode cX9_legal 55 = .ok (.aload_n 0, 1) := dk_42 (dk_at dksX9_legal_2 9 rfl rfl)
theorem dX9_legal_56 : decode cX9_legal 56 = .ok (.getfield 28, 3) := dk_180 0 28 (dk_at dksX9_legal_2 10 rfl rfl)
theorem dX9_legal_59 : decode cX9_legal 59 = .ok (.iconst 0, 1) := dk_3 (dk_at dksX9_legal_2 13 rfl rfl)
theorem dX9_legal_60 : decode cX9_legal 60 = .ok (.invokestatic 101, 3) := dk_184 0 101 (dk_at dksX9_legal_2 14 rfl rfl)
theorem dX9_legal_63 : decode cX9_legal 63 = .ok (.aload_n 0, 1) := dk_42 (dk_at dksX9_legal_2 17 rfl rfl)
theorem dX9_legal_64 : decode cX9_legal 64 = .ok (.getfield 25, 3) := dk_180 0 25 (dk_at dksX9_legal_2 18 rfl rfl)
theorem dX9_legal_67 : decode cX9_legal 67 = .ok (.iconst 0, 1) := dk_3 (dk_at dksX9_legal_2 21 rfl rfl)
theorem dX9_legal_68 : decode cX9_legal 68 = .ok (.aload_n 0, 1) := dk_42 (dk_at dksX9_legal_2 22 rfl rfl)
theorem dX9_legal_69 : decode cX9_legal 69 = .ok (.getfield 16, 3) := dk_180 0 16 (dk_at dksX9_legal_3 0 rfl rfl)
theorem dX9_legal_72 : decode cX9_legal 72 = .ok (.iconst 0, 1) := dk_3 (dk_at dksX9_legal_3 3 rfl rfl)
theorem dX9_legal_73 : decode cX9_legal 73 = .ok (.invokestatic 101, 3) := dk_184 0 101 (dk_at dksX9_legal_3 4 rfl rfl)
theorem dX9_legal_76 : decode cX9_legal 76 = .ok (.aload_n 0, 1) := dk_42 (dk_at dksX9_legal_3 7 rfl rfl)
theorem dX9_legal_77 : decode cX9_legal 77 = .ok (.bipush 12, 2) := dk_16 12 (dk_at dksX9_legal_3 8 rfl rfl)
theorem dX9_legal_79 : decode cX9_legal 79 = .ok (.invokevirtual 186, 3) := dk_182 0 186 (dk_at dksX9_legal_3 10 rfl rfl)
theorem dX9_legal_82 : decode cX9_legal 82 = .ok (.aload_n 0, 1) := dk_42 (dk_at dksX9_legal_3 13 rfl rfl)
theorem dX9_legal_83 : decode cX9_legal 83 = .ok (.getfield 28, 3) := dk_180 0 28 (dk_at dksX9_legal_3 14 rfl rfl)
theorem dX9_legal_86 : decode cX9_legal 86 = .ok (.iconst 0, 1) := dk_3 (dk_at dksX9_legal_3 17 rfl rfl)
theorem dX9_legal_87 : decode cX9_legal 87 = .ok (.aload_n 0, 1) := dk_42 (dk_at dksX9_legal_3 18 rfl rfl)
theorem dX9_legal_88 : decode cX9_legal 88 = .ok (.getfield 16, 3) := dk_180 0 16 (dk_at dksX9_legal_3 19 rfl rfl)
theorem dX9_legal_91 : decode cX9_legal 91 = .ok (.iconst 0, 1) := dk_3 (dk_at dksX9_legal_3 22 rfl rfl)
theorem dX9_legal_92 : decode cX9_legal 92 = .ok (.invokestatic 101, 3) := dk_184 0 101 (dk_at dksX9_legal_4 0 rfl rfl)
theorem dX9_legal_95 : decode cX9_legal 95 = .ok (.aload_n 0, 1) := dk_42 (dk_at dksX9_legal_4 3 rfl rfl)
theorem dX9_legal_96 : decode cX9_legal 96 = .ok (.iload_n 1, 1) := dk_27 (dk_at dksX9_legal_4 4 rfl rfl)
theorem dX9_legal_97 : decode cX9_legal 97 = .ok (.invokevirtual 109, 3) := dk_182 0 109 (dk_at dksX9_legal_4 5 rfl rfl)
theorem dX9_legal_100 : decode cX9_legal 100 = .ok (.ireturn, 1) := dk_172 (dk_at dksX9_legal_4 8 rfl rfl)
abbrev cX9_makeLawful : ByteArray := prog_15_method_96_code
def yX9_makeLawful : MethodName := ⟨RX9, "makeLawful", "()Z"⟩
def dkwX9_makeLawful_4 : List UInt8 := [27, 182, 1, 112, 132, 1, 1, 167, 255, 240, 4, 172]
abbrev dktX9_makeLawful_4 : List UInt8 := dkwX9_makeLawful_4 ++ []
def dkwX9_makeLawful_3 : List UInt8 := [180, 0, 49, 27, 46, 28, 79, 132, 1, 1, 167, 255, 214, 3, 60, 27, 42, 180, 1, 73, 162, 0, 14, 42]
abbrev dktX9_makeLawful_3 : List UInt8 := dkwX9_makeLawful_3 ++ dktX9_makeLawful_4
def dkwX9_makeLawful_2 : List UInt8 := [180, 0, 49, 27, 46, 27, 182, 1, 109, 61, 28, 2, 160, 0, 5, 3, 172, 42, 180, 0, 52, 42]
abbrev dktX9_makeLawful_2 : List UInt8 := dkwX9_makeLawful_2 ++ dktX9_makeLawful_3
def dkwX9_makeLawful_1 : List UInt8 := [46, 182, 0, 164, 132, 1, 1, 167, 255, 235, 3, 60, 27, 42, 180, 1, 88, 162, 0, 40, 42, 42]
abbrev dktX9_makeLawful_1 : List UInt8 := dkwX9_makeLawful_1 ++ dktX9_makeLawful_2
def dkwX9_makeLawful_0 : List UInt8 := [42, 182, 1, 103, 42, 182, 1, 106, 3, 60, 27, 42, 180, 1, 88, 162, 0, 19, 42, 42, 180, 0, 49, 27]
abbrev dktX9_makeLawful_0 : List UInt8 := dkwX9_makeLawful_0 ++ dktX9_makeLawful_1
theorem dksX9_makeLawful_0 : cX9_makeLawful.data.toList.drop 0 = dktX9_makeLawful_0 := by decide +kernel
theorem dksX9_makeLawful_1 : cX9_makeLawful.data.toList.drop 24 = dktX9_makeLawful_1 := dk_seg dksX9_makeLawful_0 24 rfl rfl
theorem dksX9_makeLawful_2 : cX9_makeLawful.data.toList.drop 46 = dktX9_makeLawful_2 := dk_seg dksX9_makeLawful_1 22 rfl rfl
theorem dksX9_makeLawful_3 : cX9_makeLawful.data.toList.drop 68 = dktX9_makeLawful_3 := dk_seg dksX9_makeLawful_2 22 rfl rfl
theorem dksX9_makeLawful_4 : cX9_makeLawful.data.toList.drop 92 = dktX9_makeLawful_4 := dk_seg dksX9_makeLawful_3 24 rfl rfl
theorem dX9_makeLawful_0 : decode cX9_makeLawful 0 = .ok (.aload_n 0, 1) := dk_42 (dk_at dksX9_makeLawful_0 0 rfl rfl)
theorem dX9_makeLawful_1 : decode cX9_makeLawful 1 = .ok (.invokevirtual 359, 3) := dk_182 1 103 (dk_at dksX9_makeLawful_0 1 rfl rfl)
theorem dX9_makeLawful_4 : decode cX9_makeLawful 4 = .ok (.aload_n 0, 1) := dk_42 (dk_at dksX9_makeLawful_0 4 rfl rfl)
theorem dX9_makeLawful_5 : decode cX9_makeLawful 5 = .ok (.invokevirtual 362, 3) := dk_182 1 106 (dk_at dksX9_makeLawful_0 5 rfl rfl)
theorem dX9_makeLawful_8 : decode cX9_makeLawful 8 = .ok (.iconst 0, 1) := dk_3 (dk_at dksX9_makeLawful_0 8 rfl rfl)
theorem dX9_makeLawful_9 : decode cX9_makeLawful 9 = .ok (.istore_n 1, 1) := dk_60 (dk_at dksX9_makeLawful_0 9 rfl rfl)
theorem dX9_makeLawful_10 : decode cX9_makeLawful 10 = .ok (.iload_n 1, 1) := dk_27 (dk_at dksX9_makeLawful_0 10 rfl rfl)
theorem dX9_makeLawful_11 : decode cX9_makeLawful 11 = .ok (.aload_n 0, 1) := dk_42 (dk_at dksX9_makeLawful_0 11 rfl rfl)
theorem dX9_makeLawful_12 : decode cX9_makeLawful 12 = .ok (.getfield 344, 3) := dk_180 1 88 (dk_at dksX9_makeLawful_0 12 rfl rfl)
theorem dX9_makeLawful_15 : decode cX9_makeLawful 15 = .ok (.if_icmp .ge 19, 3) := dk_162 0 19 (dk_at dksX9_makeLawful_0 15 rfl rfl)
theorem dX9_makeLawful_18 : decode cX9_makeLawful 18 = .ok (.aload_n 0, 1) := dk_42 (dk_at dksX9_makeLawful_0 18 rfl rfl)
theorem dX9_makeLawful_19 : decode cX9_makeLawful 19 = .ok (.aload_n 0, 1) := dk_42 (dk_at dksX9_makeLawful_0 19 rfl rfl)
theorem dX9_makeLawful_20 : decode cX9_makeLawful 20 = .ok (.getfield 49, 3) := dk_180 0 49 (dk_at dksX9_makeLawful_0 20 rfl rfl)
theorem dX9_makeLawful_23 : decode cX9_makeLawful 23 = .ok (.iload_n 1, 1) := dk_27 (dk_at dksX9_makeLawful_0 23 rfl rfl)
theorem dX9_makeLawful_24 : decode cX9_makeLawful 24 = .ok (.iaload, 1) := dk_46 (dk_at dksX9_makeLawful_1 0 rfl rfl)
theorem dX9_makeLawful_25 : decode cX9_makeLawful 25 = .ok (.invokevirtual 164, 3) := dk_182 0 164 (dk_at dksX9_makeLawful_1 1 rfl rfl)
theorem dX9_makeLawful_28 : decode cX9_makeLawful 28 = .ok (.iinc 1 1, 3) := dk_132 1 1 (dk_at dksX9_makeLawful_1 4 rfl rfl)
theorem dX9_makeLawful_31 : decode cX9_makeLawful 31 = .ok (.goto (-21), 3) := dk_167 255 235 (dk_at dksX9_makeLawful_1 7 rfl rfl)
theorem dX9_makeLawful_34 : decode cX9_makeLawful 34 = .ok (.iconst 0, 1) := dk_3 (dk_at dksX9_makeLawful_1 10 rfl rfl)
theorem dX9_makeLawful_35 : decode cX9_makeLawful 35 = .ok (.istore_n 1, 1) := dk_60 (dk_at dksX9_makeLawful_1 11 rfl rfl)
theorem dX9_makeLawful_36 : decode cX9_makeLawful 36 = .ok (.iload_n 1, 1) := dk_27 (dk_at dksX9_makeLawful_1 12 rfl rfl)
theorem dX9_makeLawful_37 : decode cX9_makeLawful 37 = .ok (.aload_n 0, 1) := dk_42 (dk_at dksX9_makeLawful_1 13 rfl rfl)
theorem dX9_makeLawful_38 : decode cX9_makeLawful 38 = .ok (.getfield 344, 3) := dk_180 1 88 (dk_at dksX9_makeLawful_1 14 rfl rfl)
theorem dX9_makeLawful_41 : decode cX9_makeLawful 41 = .ok (.if_icmp .ge 40, 3) := dk_162 0 40 (dk_at dksX9_makeLawful_1 17 rfl rfl)
theorem dX9_makeLawful_44 : decode cX9_makeLawful 44 = .ok (.aload_n 0, 1) := dk_42 (dk_at dksX9_makeLawful_1 20 rfl rfl)
theorem dX9_makeLawful_45 : decode cX9_makeLawful 45 = .ok (.aload_n 0, 1) := dk_42 (dk_at dksX9_makeLawful_1 21 rfl rfl)
theorem dX9_makeLawful_46 : decode cX9_makeLawful 46 = .ok (.getfield 49, 3) := dk_180 0 49 (dk_at dksX9_makeLawful_2 0 rfl rfl)
theorem dX9_makeLawful_49 : decode cX9_makeLawful 49 = .ok (.iload_n 1, 1) := dk_27 (dk_at dksX9_makeLawful_2 3 rfl rfl)
theorem dX9_makeLawful_50 : decode cX9_makeLawful 50 = .ok (.iaload, 1) := dk_46 (dk_at dksX9_makeLawful_2 4 rfl rfl)
theorem dX9_makeLawful_51 : decode cX9_makeLawful 51 = .ok (.iload_n 1, 1) := dk_27 (dk_at dksX9_makeLawful_2 5 rfl rfl)
theorem dX9_makeLawful_52 : decode cX9_makeLawful 52 = .ok (.invokevirtual 365, 3) := dk_182 1 109 (dk_at dksX9_makeLawful_2 6 rfl rfl)
theorem dX9_makeLawful_55 : decode cX9_makeLawful 55 = .ok (.istore_n 2, 1) := dk_61 (dk_at dksX9_makeLawful_2 9 rfl rfl)
theorem dX9_makeLawful_56 : decode cX9_makeLawful 56 = .ok (.iload_n 2, 1) := dk_28 (dk_at dksX9_makeLawful_2 10 rfl rfl)
theorem dX9_makeLawful_57 : decode cX9_makeLawful 57 = .ok (.iconst (-1), 1) := dk_2 (dk_at dksX9_makeLawful_2 11 rfl rfl)
theorem dX9_makeLawful_58 : decode cX9_makeLawful 58 = .ok (.if_icmp .ne 5, 3) := dk_160 0 5 (dk_at dksX9_makeLawful_2 12 rfl rfl)
theorem dX9_makeLawful_61 : decode cX9_makeLawful 61 = .ok (.iconst 0, 1) := dk_3 (dk_at dksX9_makeLawful_2 15 rfl rfl)
theorem dX9_makeLawful_62 : decode cX9_makeLawful 62 = .ok (.ireturn, 1) := dk_172 (dk_at dksX9_makeLawful_2 16 rfl rfl)
theorem dX9_makeLawful_63 : decode cX9_makeLawful 63 = .ok (.aload_n 0, 1) := dk_42 (dk_at dksX9_makeLawful_2 17 rfl rfl)
theorem dX9_makeLawful_64 : decode cX9_makeLawful 64 = .ok (.getfield 52, 3) := dk_180 0 52 (dk_at dksX9_makeLawful_2 18 rfl rfl)
theorem dX9_makeLawful_67 : decode cX9_makeLawful 67 = .ok (.aload_n 0, 1) := dk_42 (dk_at dksX9_makeLawful_2 21 rfl rfl)
theorem dX9_makeLawful_68 : decode cX9_makeLawful 68 = .ok (.getfield 49, 3) := dk_180 0 49 (dk_at dksX9_makeLawful_3 0 rfl rfl)
theorem dX9_makeLawful_71 : decode cX9_makeLawful 71 = .ok (.iload_n 1, 1) := dk_27 (dk_at dksX9_makeLawful_3 3 rfl rfl)
theorem dX9_makeLawful_72 : decode cX9_makeLawful 72 = .ok (.iaload, 1) := dk_46 (dk_at dksX9_makeLawful_3 4 rfl rfl)
theorem dX9_makeLawful_73 : decode cX9_makeLawful 73 = .ok (.iload_n 2, 1) := dk_28 (dk_at dksX9_makeLawful_3 5 rfl rfl)
theorem dX9_makeLawful_74 : decode cX9_makeLawful 74 = .ok (.iastore, 1) := dk_79 (dk_at dksX9_makeLawful_3 6 rfl rfl)
theorem dX9_makeLawful_75 : decode cX9_makeLawful 75 = .ok (.iinc 1 1, 3) := dk_132 1 1 (dk_at dksX9_makeLawful_3 7 rfl rfl)
theorem dX9_makeLawful_78 : decode cX9_makeLawful 78 = .ok (.goto (-42), 3) := dk_167 255 214 (dk_at dksX9_makeLawful_3 10 rfl rfl)
theorem dX9_makeLawful_81 : decode cX9_makeLawful 81 = .ok (.iconst 0, 1) := dk_3 (dk_at dksX9_makeLawful_3 13 rfl rfl)
theorem dX9_makeLawful_82 : decode cX9_makeLawful 82 = .ok (.istore_n 1, 1) := dk_60 (dk_at dksX9_makeLawful_3 14 rfl rfl)
theorem dX9_makeLawful_83 : decode cX9_makeLawful 83 = .ok (.iload_n 1, 1) := dk_27 (dk_at dksX9_makeLawful_3 15 rfl rfl)
theorem dX9_makeLawful_84 : decode cX9_makeLawful 84 = .ok (.aload_n 0, 1) := dk_42 (dk_at dksX9_makeLawful_3 16 rfl rfl)
theorem dX9_makeLawful_85 : decode cX9_makeLawful 85 = .ok (.getfield 329, 3) := dk_180 1 73 (dk_at dksX9_makeLawful_3 17 rfl rfl)
theorem dX9_makeLawful_88 : decode cX9_makeLawful 88 = .ok (.if_icmp .ge 14, 3) := dk_162 0 14 (dk_at dksX9_makeLawful_3 20 rfl rfl)
theorem dX9_makeLawful_91 : decode cX9_makeLawful 91 = .ok (.aload_n 0, 1) := dk_42 (dk_at dksX9_makeLawful_3 23 rfl rfl)
theorem dX9_makeLawful_92 : decode cX9_makeLawful 92 = .ok (.iload_n 1, 1) := dk_27 (dk_at dksX9_makeLawful_4 0 rfl rfl)
theorem dX9_makeLawful_93 : decode cX9_makeLawful 93 = .ok (.invokevirtual 368, 3) := dk_182 1 112 (dk_at dksX9_makeLawful_4 1 rfl rfl)
theorem dX9_makeLawful_96 : decode cX9_makeLawful 96 = .ok (.iinc 1 1, 3) := dk_132 1 1 (dk_at dksX9_makeLawful_4 4 rfl rfl)
theorem dX9_makeLawful_99 : decode cX9_makeLawful 99 = .ok (.goto (-16), 3) := dk_167 255 240 (dk_at dksX9_makeLawful_4 7 rfl rfl)
theorem dX9_makeLawful_102 : decode cX9_makeLawful 102 = .ok (.iconst 1, 1) := dk_4 (dk_at dksX9_makeLawful_4 10 rfl rfl)
theorem dX9_makeLawful_103 : decode cX9_makeLawful 103 = .ok (.ireturn, 1) := dk_172 (dk_at dksX9_makeLawful_4 11 rfl rfl)
abbrev cX9_layRuns : ByteArray := prog_15_method_85_code
def yX9_layRuns : MethodName := ⟨RX9, "layRuns", "()V"⟩
def dkwX9_layRuns_5 : List UInt8 := [132, 3, 1, 167, 255, 166, 132, 2, 1, 167, 255, 148, 132, 1, 1, 167, 255, 132, 177]
abbrev dktX9_layRuns_5 : List UInt8 := dkwX9_layRuns_5 ++ []
def dkwX9_layRuns_4 : List UInt8 := [180, 0, 43, 42, 180, 1, 73, 29, 21, 4, 100, 79, 42, 89, 180, 1, 73, 4, 96, 181, 1, 73]
abbrev dktX9_layRuns_4 : List UInt8 := dkwX9_layRuns_4 ++ dktX9_layRuns_5
def dkwX9_layRuns_3 : List UInt8 := [79, 42, 180, 0, 37, 42, 180, 1, 73, 28, 79, 42, 180, 0, 40, 42, 180, 1, 73, 21, 4, 79, 42]
abbrev dktX9_layRuns_3 : List UInt8 := dkwX9_layRuns_3 ++ dktX9_layRuns_4
def dkwX9_layRuns_2 : List UInt8 := [153, 0, 9, 132, 3, 1, 167, 255, 243, 29, 21, 4, 164, 0, 57, 42, 180, 0, 34, 42, 180, 1, 73, 27]
abbrev dktX9_layRuns_2 : List UInt8 := dkwX9_layRuns_2 ++ dktX9_layRuns_3
def dkwX9_layRuns_1 : List UInt8 := [162, 0, 104, 3, 62, 29, 42, 180, 0, 89, 162, 0, 88, 29, 54, 4, 42, 27, 29, 28, 182, 1, 76]
abbrev dktX9_layRuns_1 : List UInt8 := dkwX9_layRuns_1 ++ dktX9_layRuns_2
def dkwX9_layRuns_0 : List UInt8 := [42, 3, 181, 1, 73, 3, 60, 27, 42, 180, 0, 85, 162, 0, 122, 2, 61, 28, 42, 180, 0, 16, 4, 46]
abbrev dktX9_layRuns_0 : List UInt8 := dkwX9_layRuns_0 ++ dktX9_layRuns_1
theorem dksX9_layRuns_0 : cX9_layRuns.data.toList.drop 0 = dktX9_layRuns_0 := by decide +kernel
theorem dksX9_layRuns_1 : cX9_layRuns.data.toList.drop 24 = dktX9_layRuns_1 := dk_seg dksX9_layRuns_0 24 rfl rfl
theorem dksX9_layRuns_2 : cX9_layRuns.data.toList.drop 47 = dktX9_layRuns_2 := dk_seg dksX9_layRuns_1 23 rfl rfl
theorem dksX9_layRuns_3 : cX9_layRuns.data.toList.drop 71 = dktX9_layRuns_3 := dk_seg dksX9_layRuns_2 24 rfl rfl
theorem dksX9_layRuns_4 : cX9_layRuns.data.toList.drop 94 = dktX9_layRuns_4 := dk_seg dksX9_layRuns_3 23 rfl rfl
theorem dksX9_layRuns_5 : cX9_layRuns.data.toList.drop 116 = dktX9_layRuns_5 := dk_seg dksX9_layRuns_4 22 rfl rfl
theorem dX9_layRuns_0 : decode cX9_layRuns 0 = .ok (.aload_n 0, 1) := dk_42 (dk_at dksX9_layRuns_0 0 rfl rfl)
theorem dX9_layRuns_1 : decode cX9_layRuns 1 = .ok (.iconst 0, 1) := dk_3 (dk_at dksX9_layRuns_0 1 rfl rfl)
theorem dX9_layRuns_2 : decode cX9_layRuns 2 = .ok (.putfield 329, 3) := dk_181 1 73 (dk_at dksX9_layRuns_0 2 rfl rfl)
theorem dX9_layRuns_5 : decode cX9_layRuns 5 = .ok (.iconst 0, 1) := dk_3 (dk_at dksX9_layRuns_0 5 rfl rfl)
theorem dX9_layRuns_6 : decode cX9_layRuns 6 = .ok (.istore_n 1, 1) := dk_60 (dk_at dksX9_layRuns_0 6 rfl rfl)
theorem dX9_layRuns_7 : decode cX9_layRuns 7 = .ok (.iload_n 1, 1) := dk_27 (dk_at dksX9_layRuns_0 7 rfl rfl)
theorem dX9_layRuns_8 : decode cX9_layRuns 8 = .ok (.aload_n 0, 1) := dk_42 (dk_at dksX9_layRuns_0 8 rfl rfl)
theorem dX9_layRuns_9 : decode cX9_layRuns 9 = .ok (.getfield 85, 3) := dk_180 0 85 (dk_at dksX9_layRuns_0 9 rfl rfl)
theorem dX9_layRuns_12 : decode cX9_layRuns 12 = .ok (.if_icmp .ge 122, 3) := dk_162 0 122 (dk_at dksX9_layRuns_0 12 rfl rfl)
theorem dX9_layRuns_15 : decode cX9_layRuns 15 = .ok (.iconst (-1), 1) := dk_2 (dk_at dksX9_layRuns_0 15 rfl rfl)
theorem dX9_layRuns_16 : decode cX9_layRuns 16 = .ok (.istore_n 2, 1) := dk_61 (dk_at dksX9_layRuns_0 16 rfl rfl)
theorem dX9_layRuns_17 : decode cX9_layRuns 17 = .ok (.iload_n 2, 1) := dk_28 (dk_at dksX9_layRuns_0 17 rfl rfl)
theorem dX9_layRuns_18 : decode cX9_layRuns 18 = .ok (.aload_n 0, 1) := dk_42 (dk_at dksX9_layRuns_0 18 rfl rfl)
theorem dX9_layRuns_19 : decode cX9_layRuns 19 = .ok (.getfield 16, 3) := dk_180 0 16 (dk_at dksX9_layRuns_0 19 rfl rfl)
theorem dX9_layRuns_22 : decode cX9_layRuns 22 = .ok (.iconst 1, 1) := dk_4 (dk_at dksX9_layRuns_0 22 rfl rfl)
theorem dX9_layRuns_23 : decode cX9_layRuns 23 = .ok (.iaload, 1) := dk_46 (dk_at dksX9_layRuns_0 23 rfl rfl)
theorem dX9_layRuns_24 : decode cX9_layRuns 24 = .ok (.if_icmp .ge 104, 3) := dk_162 0 104 (dk_at dksX9_layRuns_1 0 rfl rfl)
theorem dX9_layRuns_27 : decode cX9_layRuns 27 = .ok (.iconst 0, 1) := dk_3 (dk_at dksX9_layRuns_1 3 rfl rfl)
theorem dX9_layRuns_28 : decode cX9_layRuns 28 = .ok (.istore_n 3, 1) := dk_62 (dk_at dksX9_layRuns_1 4 rfl rfl)
theorem dX9_layRuns_29 : decode cX9_layRuns 29 = .ok (.iload_n 3, 1) := dk_29 (dk_at dksX9_layRuns_1 5 rfl rfl)
theorem dX9_layRuns_30 : decode cX9_layRuns 30 = .ok (.aload_n 0, 1) := dk_42 (dk_at dksX9_layRuns_1 6 rfl rfl)
theorem dX9_layRuns_31 : decode cX9_layRuns 31 = .ok (.getfield 89, 3) := dk_180 0 89 (dk_at dksX9_layRuns_1 7 rfl rfl)
theorem dX9_layRuns_34 : decode cX9_layRuns 34 = .ok (.if_icmp .ge 88, 3) := dk_162 0 88 (dk_at dksX9_layRuns_1 10 rfl rfl)
theorem dX9_layRuns_37 : decode cX9_layRuns 37 = .ok (.iload_n 3, 1) := dk_29 (dk_at dksX9_layRuns_1 13 rfl rfl)
theorem dX9_layRuns_38 : decode cX9_layRuns 38 = .ok (.istore 4, 2) := dk_54 4 (dk_at dksX9_layRuns_1 14 rfl rfl)
theorem dX9_layRuns_40 : decode cX9_layRuns 40 = .ok (.aload_n 0, 1) := dk_42 (dk_at dksX9_layRuns_1 16 rfl rfl)
theorem dX9_layRuns_41 : decode cX9_layRuns 41 = .ok (.iload_n 1, 1) := dk_27 (dk_at dksX9_layRuns_1 17 rfl rfl)
theorem dX9_layRuns_42 : decode cX9_layRuns 42 = .ok (.iload_n 3, 1) := dk_29 (dk_at dksX9_layRuns_1 18 rfl rfl)
theorem dX9_layRuns_43 : decode cX9_layRuns 43 = .ok (.iload_n 2, 1) := dk_28 (dk_at dksX9_layRuns_1 19 rfl rfl)
theorem dX9_layRuns_44 : decode cX9_layRuns 44 = .ok (.invokevirtual 332, 3) := dk_182 1 76 (dk_at dksX9_layRuns_1 20 rfl rfl)
theorem dX9_layRuns_47 : decode cX9_layRuns 47 = .ok (.ifCond .eq 9, 3) := dk_153 0 9 (dk_at dksX9_layRuns_2 0 rfl rfl)
theorem dX9_layRuns_50 : decode cX9_layRuns 50 = .ok (.iinc 3 1, 3) := dk_132 3 1 (dk_at dksX9_layRuns_2 3 rfl rfl)
theorem dX9_layRuns_53 : decode cX9_layRuns 53 = .ok (.goto (-13), 3) := dk_167 255 243 (dk_at dksX9_layRuns_2 6 rfl rfl)
theorem dX9_layRuns_56 : decode cX9_layRuns 56 = .ok (.iload_n 3, 1) := dk_29 (dk_at dksX9_layRuns_2 9 rfl rfl)
theorem dX9_layRuns_57 : decode cX9_layRuns 57 = .ok (.iload 4, 2) := dk_21 4 (dk_at dksX9_layRuns_2 10 rfl rfl)
theorem dX9_layRuns_59 : decode cX9_layRuns 59 = .ok (.if_icmp .le 57, 3) := dk_164 0 57 (dk_at dksX9_layRuns_2 12 rfl rfl)
theorem dX9_layRuns_62 : decode cX9_layRuns 62 = .ok (.aload_n 0, 1) := dk_42 (dk_at dksX9_layRuns_2 15 rfl rfl)
theorem dX9_layRuns_63 : decode cX9_layRuns 63 = .ok (.getfield 34, 3) := dk_180 0 34 (dk_at dksX9_layRuns_2 16 rfl rfl)
theorem dX9_layRuns_66 : decode cX9_layRuns 66 = .ok (.aload_n 0, 1) := dk_42 (dk_at dksX9_layRuns_2 19 rfl rfl)
theorem dX9_layRuns_67 : decode cX9_layRuns 67 = .ok (.getfield 329, 3) := dk_180 1 73 (dk_at dksX9_layRuns_2 20 rfl rfl)
theorem dX9_layRuns_70 : decode cX9_layRuns 70 = .ok (.iload_n 1, 1) := dk_27 (dk_at dksX9_layRuns_2 23 rfl rfl)
theorem dX9_layRuns_71 : decode cX9_layRuns 71 = .ok (.iastore, 1) := dk_79 (dk_at dksX9_layRuns_3 0 rfl rfl)
theorem dX9_layRuns_72 : decode cX9_layRuns 72 = .ok (.aload_n 0, 1) := dk_42 (dk_at dksX9_layRuns_3 1 rfl rfl)
theorem dX9_layRuns_73 : decode cX9_layRuns 73 = .ok (.getfield 37, 3) := dk_180 0 37 (dk_at dksX9_layRuns_3 2 rfl rfl)
theorem dX9_layRuns_76 : decode cX9_layRuns 76 = .ok (.aload_n 0, 1) := dk_42 (dk_at dksX9_layRuns_3 5 rfl rfl)
theorem dX9_layRuns_77 : decode cX9_layRuns 77 = .ok (.getfield 329, 3) := dk_180 1 73 (dk_at dksX9_layRuns_3 6 rfl rfl)
theorem dX9_layRuns_80 : decode cX9_layRuns 80 = .ok (.iload_n 2, 1) := dk_28 (dk_at dksX9_layRuns_3 9 rfl rfl)
theorem dX9_layRuns_81 : decode cX9_layRuns 81 = .ok (.iastore, 1) := dk_79 (dk_at dksX9_layRuns_3 10 rfl rfl)
theorem dX9_layRuns_82 : decode cX9_layRuns 82 = .ok (.aload_n 0, 1) := dk_42 (dk_at dksX9_layRuns_3 11 rfl rfl)
theorem dX9_layRuns_83 : decode cX9_layRuns 83 = .ok (.getfield 40, 3) := dk_180 0 40 (dk_at dksX9_layRuns_3 12 rfl rfl)
theorem dX9_layRuns_86 : decode cX9_layRuns 86 = .ok (.aload_n 0, 1) := dk_42 (dk_at dksX9_layRuns_3 15 rfl rfl)
theorem dX9_layRuns_87 : decode cX9_layRuns 87 = .ok (.getfield 329, 3) := dk_180 1 73 (dk_at dksX9_layRuns_3 16 rfl rfl)
theorem dX9_layRuns_90 : decode cX9_layRuns 90 = .ok (.iload 4, 2) := dk_21 4 (dk_at dksX9_layRuns_3 19 rfl rfl)
theorem dX9_layRuns_92 : decode cX9_layRuns 92 = .ok (.iastore, 1) := dk_79 (dk_at dksX9_layRuns_3 21 rfl rfl)
theorem dX9_layRuns_93 : decode cX9_layRuns 93 = .ok (.aload_n 0, 1) := dk_42 (dk_at dksX9_layRuns_3 22 rfl rfl)
theorem dX9_layRuns_94 : decode cX9_layRuns 94 = .ok (.getfield 43, 3) := dk_180 0 43 (dk_at dksX9_layRuns_4 0 rfl rfl)
theorem dX9_layRuns_97 : decode cX9_layRuns 97 = .ok (.aload_n 0, 1) := dk_42 (dk_at dksX9_layRuns_4 3 rfl rfl)
theorem dX9_layRuns_98 : decode cX9_layRuns 98 = .ok (.getfield 329, 3) := dk_180 1 73 (dk_at dksX9_layRuns_4 4 rfl rfl)
theorem dX9_layRuns_101 : decode cX9_layRuns 101 = .ok (.iload_n 3, 1) := dk_29 (dk_at dksX9_layRuns_4 7 rfl rfl)
theorem dX9_layRuns_102 : decode cX9_layRuns 102 = .ok (.iload 4, 2) := dk_21 4 (dk_at dksX9_layRuns_4 8 rfl rfl)
theorem dX9_layRuns_104 : decode cX9_layRuns 104 = .ok (.isub, 1) := dk_100 (dk_at dksX9_layRuns_4 10 rfl rfl)
theorem dX9_layRuns_105 : decode cX9_layRuns 105 = .ok (.iastore, 1) := dk_79 (dk_at dksX9_layRuns_4 11 rfl rfl)
theorem dX9_layRuns_106 : decode cX9_layRuns 106 = .ok (.aload_n 0, 1) := dk_42 (dk_at dksX9_layRuns_4 12 rfl rfl)
theorem dX9_layRuns_107 : decode cX9_layRuns 107 = .ok (.dup, 1) := dk_89 (dk_at dksX9_layRuns_4 13 rfl rfl)
theorem dX9_layRuns_108 : decode cX9_layRuns 108 = .ok (.getfield 329, 3) := dk_180 1 73 (dk_at dksX9_layRuns_4 14 rfl rfl)
theorem dX9_layRuns_111 : decode cX9_layRuns 111 = .ok (.iconst 1, 1) := dk_4 (dk_at dksX9_layRuns_4 17 rfl rfl)
theorem dX9_layRuns_112 : decode cX9_layRuns 112 = .ok (.iadd, 1) := dk_96 (dk_at dksX9_layRuns_4 18 rfl rfl)
theorem dX9_layRuns_113 : decode cX9_layRuns 113 = .ok (.putfield 329, 3) := dk_181 1 73 (dk_at dksX9_layRuns_4 19 rfl rfl)
theorem dX9_layRuns_116 : decode cX9_layRuns 116 = .ok (.iinc 3 1, 3) := dk_132 3 1 (dk_at dksX9_layRuns_5 0 rfl rfl)
theorem dX9_layRuns_119 : decode cX9_layRuns 119 = .ok (.goto (-90), 3) := dk_167 255 166 (dk_at dksX9_layRuns_5 3 rfl rfl)
theorem dX9_layRuns_122 : decode cX9_layRuns 122 = .ok (.iinc 2 1, 3) := dk_132 2 1 (dk_at dksX9_layRuns_5 6 rfl rfl)
theorem dX9_layRuns_125 : decode cX9_layRuns 125 = .ok (.goto (-108), 3) := dk_167 255 148 (dk_at dksX9_layRuns_5 9 rfl rfl)
theorem dX9_layRuns_128 : decode cX9_layRuns 128 = .ok (.iinc 1 1, 3) := dk_132 1 1 (dk_at dksX9_layRuns_5 12 rfl rfl)
theorem dX9_layRuns_131 : decode cX9_layRuns 131 = .ok (.goto (-124), 3) := dk_167 255 132 (dk_at dksX9_layRuns_5 15 rfl rfl)
theorem dX9_layRuns_134 : decode cX9_layRuns 134 = .ok (.return_, 1) := dk_177 (dk_at dksX9_layRuns_5 18 rfl rfl)
abbrev cX9_isRunSite : ByteArray := prog_15_method_84_code
def yX9_isRunSite : MethodName := ⟨RX9, "isRunSite", "(III)Z"⟩
def dkwX9_isRunSite_1 : List UInt8 := [182, 0, 150, 2, 160, 0, 17, 42, 27, 28, 182, 0, 143, 29, 160, 0, 7, 4, 167, 0, 4, 3, 172]
abbrev dktX9_isRunSite_1 : List UInt8 := dkwX9_isRunSite_1 ++ []
def dkwX9_isRunSite_0 : List UInt8 := [42, 27, 28, 182, 0, 133, 153, 0, 38, 42, 27, 28, 182, 0, 140, 154, 0, 29, 42, 27, 28, 2, 4]
abbrev dktX9_isRunSite_0 : List UInt8 := dkwX9_isRunSite_0 ++ dktX9_isRunSite_1
theorem dksX9_isRunSite_0 : cX9_isRunSite.data.toList.drop 0 = dktX9_isRunSite_0 := by decide +kernel
theorem dksX9_isRunSite_1 : cX9_isRunSite.data.toList.drop 23 = dktX9_isRunSite_1 := dk_seg dksX9_isRunSite_0 23 rfl rfl
theorem dX9_isRunSite_0 : decode cX9_isRunSite 0 = .ok (.aload_n 0, 1) := dk_42 (dk_at dksX9_isRunSite_0 0 rfl rfl)
theorem dX9_isRunSite_1 : decode cX9_isRunSite 1 = .ok (.iload_n 1, 1) := dk_27 (dk_at dksX9_isRunSite_0 1 rfl rfl)
theorem dX9_isRunSite_2 : decode cX9_isRunSite 2 = .ok (.iload_n 2, 1) := dk_28 (dk_at dksX9_isRunSite_0 2 rfl rfl)
theorem dX9_isRunSite_3 : decode cX9_isRunSite 3 = .ok (.invokevirtual 133, 3) := dk_182 0 133 (dk_at dksX9_isRunSite_0 3 rfl rfl)
theorem dX9_isRunSite_6 : decode cX9_isRunSite 6 = .ok (.ifCond .eq 38, 3) := dk_153 0 38 (dk_at dksX9_isRunSite_0 6 rfl rfl)
theorem dX9_isRunSite_9 : decode cX9_isRunSite 9 = .ok (.aload_n 0, 1) := dk_42 (dk_at dksX9_isRunSite_0 9 rfl rfl)
theorem dX9_isRunSite_10 : decode cX9_isRunSite 10 = .ok (.iload_n 1, 1) := dk_27 (dk_at dksX9_isRunSite_0 10 rfl rfl)
theorem dX9_isRunSite_11 : decode cX9_isRunSite 11 = .ok (.iload_n 2, 1) := dk_28 (dk_at dksX9_isRunSite_0 11 rfl rfl)
theorem dX9_isRunSite_12 : decode cX9_isRunSite 12 = .ok (.invokevirtual 140, 3) := dk_182 0 140 (dk_at dksX9_isRunSite_0 12 rfl rfl)
theorem dX9_isRunSite_15 : decode cX9_isRunSite 15 = .ok (.ifCond .ne 29, 3) := dk_154 0 29 (dk_at dksX9_isRunSite_0 15 rfl rfl)
theorem dX9_isRunSite_18 : decode cX9_isRunSite 18 = .ok (.aload_n 0, 1) := dk_42 (dk_at dksX9_isRunSite_0 18 rfl rfl)
theorem dX9_isRunSite_19 : decode cX9_isRunSite 19 = .ok (.iload_n 1, 1) := dk_27 (dk_at dksX9_isRunSite_0 19 rfl rfl)
theorem dX9_isRunSite_20 : decode cX9_isRunSite 20 = .ok (.iload_n 2, 1) := dk_28 (dk_at dksX9_isRunSite_0 20 rfl rfl)
theorem dX9_isRunSite_21 : decode cX9_isRunSite 21 = .ok (.iconst (-1), 1) := dk_2 (dk_at dksX9_isRunSite_0 21 rfl rfl)
theorem dX9_isRunSite_22 : decode cX9_isRunSite 22 = .ok (.iconst 1, 1) := dk_4 (dk_at dksX9_isRunSite_0 22 rfl rfl)
theorem dX9_isRunSite_23 : decode cX9_isRunSite 23 = .ok (.invokevirtual 150, 3) := dk_182 0 150 (dk_at dksX9_isRunSite_1 0 rfl rfl)
theorem dX9_isRunSite_26 : decode cX9_isRunSite 26 = .ok (.iconst (-1), 1) := dk_2 (dk_at dksX9_isRunSite_1 3 rfl rfl)
theorem dX9_isRunSite_27 : decode cX9_isRunSite 27 = .ok (.if_icmp .ne 17, 3) := dk_160 0 17 (dk_at dksX9_isRunSite_1 4 rfl rfl)
theorem dX9_isRunSite_30 : decode cX9_isRunSite 30 = .ok (.aload_n 0, 1) := dk_42 (dk_at dksX9_isRunSite_1 7 rfl rfl)
theorem dX9_isRunSite_31 : decode cX9_isRunSite 31 = .ok (.iload_n 1, 1) := dk_27 (dk_at dksX9_isRunSite_1 8 rfl rfl)
theorem dX9_isRunSite_32 : decode cX9_isRunSite 32 = .ok (.iload_n 2, 1) := dk_28 (dk_at dksX9_isRunSite_1 9 rfl rfl)
theorem dX9_isRunSite_33 : decode cX9_isRunSite 33 = .ok (.invokevirtual 143, 3) := dk_182 0 143 (dk_at dksX9_isRunSite_1 10 rfl rfl)
theorem dX9_isRunSite_36 : decode cX9_isRunSite 36 = .ok (.iload_n 3, 1) := dk_29 (dk_at dksX9_isRunSite_1 13 rfl rfl)
theorem dX9_isRunSite_37 : decode cX9_isRunSite 37 = .ok (.if_icmp .ne 7, 3) := dk_160 0 7 (dk_at dksX9_isRunSite_1 14 rfl rfl)
theorem dX9_isRunSite_40 : decode cX9_isRunSite 40 = .ok (.iconst 1, 1) := dk_4 (dk_at dksX9_isRunSite_1 17 rfl rfl)
theorem dX9_isRunSite_41 : decode cX9_isRunSite 41 = .ok (.goto 4, 3) := dk_167 0 4 (dk_at dksX9_isRunSite_1 18 rfl rfl)
theorem dX9_isRunSite_44 : decode cX9_isRunSite 44 = .ok (.iconst 0, 1) := dk_3 (dk_at dksX9_isRunSite_1 21 rfl rfl)
theorem dX9_isRunSite_45 : decode cX9_isRunSite 45 = .ok (.ireturn, 1) := dk_172 (dk_at dksX9_isRunSite_1 22 rfl rfl)
abbrev cX9_layQueue : ByteArray := prog_15_method_93_code
def yX9_layQueue : MethodName := ⟨RX9, "layQueue", "()V"⟩
def dkwX9_layQueue_4 : List UInt8 := [167, 255, 173, 177]
abbrev dktX9_layQueue_4 : List UInt8 := dkwX9_layQueue_4 ++ []
def dkwX9_layQueue_3 : List UInt8 := [167, 255, 219, 42, 180, 0, 49, 28, 27, 79, 42, 89, 180, 1, 88, 4, 96, 181, 1, 88, 132, 1, 1]
abbrev dktX9_layQueue_3 : List UInt8 := dkwX9_layQueue_3 ++ dktX9_layQueue_4
def dkwX9_layQueue_2 : List UInt8 := [182, 1, 91, 153, 0, 23, 42, 180, 0, 49, 28, 42, 180, 0, 49, 28, 4, 100, 46, 79, 132, 2, 255]
abbrev dktX9_layQueue_2 : List UInt8 := dkwX9_layQueue_2 ++ dktX9_layQueue_3
def dkwX9_layQueue_1 : List UInt8 := [154, 0, 65, 42, 180, 1, 88, 61, 28, 158, 0, 39, 42, 27, 42, 180, 0, 49, 28, 4, 100, 46]
abbrev dktX9_layQueue_1 : List UInt8 := dkwX9_layQueue_1 ++ dktX9_layQueue_2
def dkwX9_layQueue_0 : List UInt8 := [42, 3, 181, 1, 88, 3, 60, 27, 42, 180, 0, 16, 5, 46, 162, 0, 79, 42, 27, 182, 0, 115]
abbrev dktX9_layQueue_0 : List UInt8 := dkwX9_layQueue_0 ++ dktX9_layQueue_1
theorem dksX9_layQueue_0 : cX9_layQueue.data.toList.drop 0 = dktX9_layQueue_0 := by decide +kernel
theorem dksX9_layQueue_1 : cX9_layQueue.data.toList.drop 22 = dktX9_layQueue_1 := dk_seg dksX9_layQueue_0 22 rfl rfl
theorem dksX9_layQueue_2 : cX9_layQueue.data.toList.drop 44 = dktX9_layQueue_2 := dk_seg dksX9_layQueue_1 22 rfl rfl
theorem dksX9_layQueue_3 : cX9_layQueue.data.toList.drop 67 = dktX9_layQueue_3 := dk_seg dksX9_layQueue_2 23 rfl rfl
theorem dksX9_layQueue_4 : cX9_layQueue.data.toList.drop 90 = dktX9_layQueue_4 := dk_seg dksX9_layQueue_3 23 rfl rfl
theorem dX9_layQueue_0 : decode cX9_layQueue 0 = .ok (.aload_n 0, 1) := dk_42 (dk_at dksX9_layQueue_0 0 rfl rfl)
theorem dX9_layQueue_1 : decode cX9_layQueue 1 = .ok (.iconst 0, 1) := dk_3 (dk_at dksX9_layQueue_0 1 rfl rfl)
theorem dX9_layQueue_2 : decode cX9_layQueue 2 = .ok (.putfield 344, 3) := dk_181 1 88 (dk_at dksX9_layQueue_0 2 rfl rfl)
theorem dX9_layQueue_5 : decode cX9_layQueue 5 = .ok (.iconst 0, 1) := dk_3 (dk_at dksX9_layQueue_0 5 rfl rfl)
theorem dX9_layQueue_6 : decode cX9_layQueue 6 = .ok (.istore_n 1, 1) := dk_60 (dk_at dksX9_layQueue_0 6 rfl rfl)
theorem dX9_layQueue_7 : decode cX9_layQueue 7 = .ok (.iload_n 1, 1) := dk_27 (dk_at dksX9_layQueue_0 7 rfl rfl)
theorem dX9_layQueue_8 : decode cX9_layQueue 8 = .ok (.aload_n 0, 1) := dk_42 (dk_at dksX9_layQueue_0 8 rfl rfl)
theorem dX9_layQueue_9 : decode cX9_layQueue 9 = .ok (.getfield 16, 3) := dk_180 0 16 (dk_at dksX9_layQueue_0 9 rfl rfl)
theorem dX9_layQueue_12 : decode cX9_layQueue 12 = .ok (.iconst 2, 1) := dk_5 (dk_at dksX9_layQueue_0 12 rfl rfl)
theorem dX9_layQueue_13 : decode cX9_layQueue 13 = .ok (.iaload, 1) := dk_46 (dk_at dksX9_layQueue_0 13 rfl rfl)
theorem dX9_layQueue_14 : decode cX9_layQueue 14 = .ok (.if_icmp .ge 79, 3) := dk_162 0 79 (dk_at dksX9_layQueue_0 14 rfl rfl)
theorem dX9_layQueue_17 : decode cX9_layQueue 17 = .ok (.aload_n 0, 1) := dk_42 (dk_at dksX9_layQueue_0 17 rfl rfl)
theorem dX9_layQueue_18 : decode cX9_layQueue 18 = .ok (.iload_n 1, 1) := dk_27 (dk_at dksX9_layQueue_0 18 rfl rfl)
theorem dX9_layQueue_19 : decode cX9_layQueue 19 = .ok (.invokevirtual 115, 3) := dk_182 0 115 (dk_at dksX9_layQueue_0 19 rfl rfl)
theorem dX9_layQueue_22 : decode cX9_layQueue 22 = .ok (.ifCond .ne 65, 3) := dk_154 0 65 (dk_at dksX9_layQueue_1 0 rfl rfl)
theorem dX9_layQueue_25 : decode cX9_layQueue 25 = .ok (.aload_n 0, 1) := dk_42 (dk_at dksX9_layQueue_1 3 rfl rfl)
theorem dX9_layQueue_26 : decode cX9_layQueue 26 = .ok (.getfield 344, 3) := dk_180 1 88 (dk_at dksX9_layQueue_1 4 rfl rfl)
theorem dX9_layQueue_29 : decode cX9_layQueue 29 = .ok (.istore_n 2, 1) := dk_61 (dk_at dksX9_layQueue_1 7 rfl rfl)
theorem dX9_layQueue_30 : decode cX9_layQueue 30 = .ok (.iload_n 2, 1) := dk_28 (dk_at dksX9_layQueue_1 8 rfl rfl)
theorem dX9_layQueue_31 : decode cX9_layQueue 31 = .ok (.ifCond .le 39, 3) := dk_158 0 39 (dk_at dksX9_layQueue_1 9 rfl rfl)
theorem dX9_layQueue_34 : decode cX9_layQueue 34 = .ok (.aload_n 0, 1) := dk_42 (dk_at dksX9_layQueue_1 12 rfl rfl)
theorem dX9_layQueue_35 : decode cX9_layQueue 35 = .ok (.iload_n 1, 1) := dk_27 (dk_at dksX9_layQueue_1 13 rfl rfl)
theorem dX9_layQueue_36 : decode cX9_layQueue 36 = .ok (.aload_n 0, 1) := dk_42 (dk_at dksX9_layQueue_1 14 rfl rfl)
theorem dX9_layQueue_37 : decode cX9_layQueue 37 = .ok (.getfield 49, 3) := dk_180 0 49 (dk_at dksX9_layQueue_1 15 rfl rfl)
theorem dX9_layQueue_40 : decode cX9_layQueue 40 = .ok (.iload_n 2, 1) := dk_28 (dk_at dksX9_layQueue_1 18 rfl rfl)
theorem dX9_layQueue_41 : decode cX9_layQueue 41 = .ok (.iconst 1, 1) := dk_4 (dk_at dksX9_layQueue_1 19 rfl rfl)
theorem dX9_layQueue_42 : decode cX9_layQueue 42 = .ok (.isub, 1) := dk_100 (dk_at dksX9_layQueue_1 20 rfl rfl)
theorem dX9_layQueue_43 : decode cX9_layQueue 43 = .ok (.iaload, 1) := dk_46 (dk_at dksX9_layQueue_1 21 rfl rfl)
theorem dX9_layQueue_44 : decode cX9_layQueue 44 = .ok (.invokevirtual 347, 3) := dk_182 1 91 (dk_at dksX9_layQueue_2 0 rfl rfl)
theorem dX9_layQueue_47 : decode cX9_layQueue 47 = .ok (.ifCond .eq 23, 3) := dk_153 0 23 (dk_at dksX9_layQueue_2 3 rfl rfl)
theorem dX9_layQueue_50 : decode cX9_layQueue 50 = .ok (.aload_n 0, 1) := dk_42 (dk_at dksX9_layQueue_2 6 rfl rfl)
theorem dX9_layQueue_51 : decode cX9_layQueue 51 = .ok (.getfield 49, 3) := dk_180 0 49 (dk_at dksX9_layQueue_2 7 rfl rfl)
theorem dX9_layQueue_54 : decode cX9_layQueue 54 = .ok (.iload_n 2, 1) := dk_28 (dk_at dksX9_layQueue_2 10 rfl rfl)
theorem dX9_layQueue_55 : decode cX9_layQueue 55 = .ok (.aload_n 0, 1) := dk_42 (dk_at dksX9_layQueue_2 11 rfl rfl)
theorem dX9_layQueue_56 : decode cX9_layQueue 56 = .ok (.getfield 49, 3) := dk_180 0 49 (dk_at dksX9_layQueue_2 12 rfl rfl)
theorem dX9_layQueue_59 : decode cX9_layQueue 59 = .ok (.iload_n 2, 1) := dk_28 (dk_at dksX9_layQueue_2 15 rfl rfl)
theorem dX9_layQueue_60 : decode cX9_layQueue 60 = .ok (.iconst 1, 1) := dk_4 (dk_at dksX9_layQueue_2 16 rfl rfl)
theorem dX9_layQueue_61 : decode cX9_layQueue 61 = .ok (.isub, 1) := dk_100 (dk_at dksX9_layQueue_2 17 rfl rfl)
theorem dX9_layQueue_62 : decode cX9_layQueue 62 = .ok (.iaload, 1) := dk_46 (dk_at dksX9_layQueue_2 18 rfl rfl)
theorem dX9_layQueue_63 : decode cX9_layQueue 63 = .ok (.iastore, 1) := dk_79 (dk_at dksX9_layQueue_2 19 rfl rfl)
theorem dX9_layQueue_64 : decode cX9_layQueue 64 = .ok (.iinc 2 (-1), 3) := dk_132 2 255 (dk_at dksX9_layQueue_2 20 rfl rfl)
theorem dX9_layQueue_67 : decode cX9_layQueue 67 = .ok (.goto (-37), 3) := dk_167 255 219 (dk_at dksX9_layQueue_3 0 rfl rfl)
theorem dX9_layQueue_70 : decode cX9_layQueue 70 = .ok (.aload_n 0, 1) := dk_42 (dk_at dksX9_layQueue_3 3 rfl rfl)
theorem dX9_layQueue_71 : decode cX9_layQueue 71 = .ok (.getfield 49, 3) := dk_180 0 49 (dk_at dksX9_layQueue_3 4 rfl rfl)
theorem dX9_layQueue_74 : decode cX9_layQueue 74 = .ok (.iload_n 2, 1) := dk_28 (dk_at dksX9_layQueue_3 7 rfl rfl)
theorem dX9_layQueue_75 : decode cX9_layQueue 75 = .ok (.iload_n 1, 1) := dk_27 (dk_at dksX9_layQueue_3 8 rfl rfl)
theorem dX9_layQueue_76 : decode cX9_layQueue 76 = .ok (.iastore, 1) := dk_79 (dk_at dksX9_layQueue_3 9 rfl rfl)
theorem dX9_layQueue_77 : decode cX9_layQueue 77 = .ok (.aload_n 0, 1) := dk_42 (dk_at dksX9_layQueue_3 10 rfl rfl)
theorem dX9_layQueue_78 : decode cX9_layQueue 78 = .ok (.dup, 1) := dk_89 (dk_at dksX9_layQueue_3 11 rfl rfl)
theorem dX9_layQueue_79 : decode cX9_layQueue 79 = .ok (.getfield 344, 3) := dk_180 1 88 (dk_at dksX9_layQueue_3 12 rfl rfl)
theorem dX9_layQueue_82 : decode cX9_layQueue 82 = .ok (.iconst 1, 1) := dk_4 (dk_at dksX9_layQueue_3 15 rfl rfl)
theorem dX9_layQueue_83 : decode cX9_layQueue 83 = .ok (.iadd, 1) := dk_96 (dk_at dksX9_layQueue_3 16 rfl rfl)
theorem dX9_layQueue_84 : decode cX9_layQueue 84 = .ok (.putfield 344, 3) := dk_181 1 88 (dk_at dksX9_layQueue_3 17 rfl rfl)
theorem dX9_layQueue_87 : decode cX9_layQueue 87 = .ok (.iinc 1 1, 3) := dk_132 1 1 (dk_at dksX9_layQueue_3 20 rfl rfl)
theorem dX9_layQueue_90 : decode cX9_layQueue 90 = .ok (.goto (-83), 3) := dk_167 255 173 (dk_at dksX9_layQueue_4 0 rfl rfl)
theorem dX9_layQueue_93 : decode cX9_layQueue 93 = .ok (.return_, 1) := dk_177 (dk_at dksX9_layQueue_4 3 rfl rfl)
abbrev cX9_isAhead : ByteArray := prog_15_method_92_code
def yX9_isAhead : MethodName := ⟨RX9, "isAhead", "(II)Z"⟩
def dkwX9_isAhead_2 : List UInt8 := [172]
abbrev dktX9_isAhead_2 : List UInt8 := dkwX9_isAhead_2 ++ []
def dkwX9_isAhead_1 : List UInt8 := [54, 4, 29, 21, 4, 161, 0, 14, 29, 21, 4, 160, 0, 12, 27, 28, 162, 0, 7, 4, 167, 0, 4, 3]
abbrev dktX9_isAhead_1 : List UInt8 := dkwX9_isAhead_1 ++ dktX9_isAhead_2
def dkwX9_isAhead_0 : List UInt8 := [42, 180, 0, 16, 27, 184, 0, 112, 6, 96, 46, 62, 42, 180, 0, 16, 28, 184, 0, 112, 6, 96, 46]
abbrev dktX9_isAhead_0 : List UInt8 := dkwX9_isAhead_0 ++ dktX9_isAhead_1
theorem dksX9_isAhead_0 : cX9_isAhead.data.toList.drop 0 = dktX9_isAhead_0 := by decide +kernel
theorem dksX9_isAhead_1 : cX9_isAhead.data.toList.drop 23 = dktX9_isAhead_1 := dk_seg dksX9_isAhead_0 23 rfl rfl
theorem dksX9_isAhead_2 : cX9_isAhead.data.toList.drop 47 = dktX9_isAhead_2 := dk_seg dksX9_isAhead_1 24 rfl rfl
theorem dX9_isAhead_0 : decode cX9_isAhead 0 = .ok (.aload_n 0, 1) := dk_42 (dk_at dksX9_isAhead_0 0 rfl rfl)
theorem dX9_isAhead_1 : decode cX9_isAhead 1 = .ok (.getfield 16, 3) := dk_180 0 16 (dk_at dksX9_isAhead_0 1 rfl rfl)
theorem dX9_isAhead_4 : decode cX9_isAhead 4 = .ok (.iload_n 1, 1) := dk_27 (dk_at dksX9_isAhead_0 4 rfl rfl)
theorem dX9_isAhead_5 : decode cX9_isAhead 5 = .ok (.invokestatic 112, 3) := dk_184 0 112 (dk_at dksX9_isAhead_0 5 rfl rfl)
theorem dX9_isAhead_8 : decode cX9_isAhead 8 = .ok (.iconst 3, 1) := dk_6 (dk_at dksX9_isAhead_0 8 rfl rfl)
theorem dX9_isAhead_9 : decode cX9_isAhead 9 = .ok (.iadd, 1) := dk_96 (dk_at dksX9_isAhead_0 9 rfl rfl)
theorem dX9_isAhead_10 : decode cX9_isAhead 10 = .ok (.iaload, 1) := dk_46 (dk_at dksX9_isAhead_0 10 rfl rfl)
theorem dX9_isAhead_11 : decode cX9_isAhead 11 = .ok (.istore_n 3, 1) := dk_62 (dk_at dksX9_isAhead_0 11 rfl rfl)
theorem dX9_isAhead_12 : decode cX9_isAhead 12 = .ok (.aload_n 0, 1) := dk_42 (dk_at dksX9_isAhead_0 12 rfl rfl)
theorem dX9_isAhead_13 : decode cX9_isAhead 13 = .ok (.getfield 16, 3) := dk_180 0 16 (dk_at dksX9_isAhead_0 13 rfl rfl)
theorem dX9_isAhead_16 : decode cX9_isAhead 16 = .ok (.iload_n 2, 1) := dk_28 (dk_at dksX9_isAhead_0 16 rfl rfl)
theorem dX9_isAhead_17 : decode cX9_isAhead 17 = .ok (.invokestatic 112, 3) := dk_184 0 112 (dk_at dksX9_isAhead_0 17 rfl rfl)
theorem dX9_isAhead_20 : decode cX9_isAhead 20 = .ok (.iconst 3, 1) := dk_6 (dk_at dksX9_isAhead_0 20 rfl rfl)
theorem dX9_isAhead_21 : decode cX9_isAhead 21 = .ok (.iadd, 1) := dk_96 (dk_at dksX9_isAhead_0 21 rfl rfl)
theorem dX9_isAhead_22 : decode cX9_isAhead 22 = .ok (.iaload, 1) := dk_46 (dk_at dksX9_isAhead_0 22 rfl rfl)
theorem dX9_isAhead_23 : decode cX9_isAhead 23 = .ok (.istore 4, 2) := dk_54 4 (dk_at dksX9_isAhead_1 0 rfl rfl)
theorem dX9_isAhead_25 : decode cX9_isAhead 25 = .ok (.iload_n 3, 1) := dk_29 (dk_at dksX9_isAhead_1 2 rfl rfl)
theorem dX9_isAhead_26 : decode cX9_isAhead 26 = .ok (.iload 4, 2) := dk_21 4 (dk_at dksX9_isAhead_1 3 rfl rfl)
theorem dX9_isAhead_28 : decode cX9_isAhead 28 = .ok (.if_icmp .lt 14, 3) := dk_161 0 14 (dk_at dksX9_isAhead_1 5 rfl rfl)
theorem dX9_isAhead_31 : decode cX9_isAhead 31 = .ok (.iload_n 3, 1) := dk_29 (dk_at dksX9_isAhead_1 8 rfl rfl)
theorem dX9_isAhead_32 : decode cX9_isAhead 32 = .ok (.iload 4, 2) := dk_21 4 (dk_at dksX9_isAhead_1 9 rfl rfl)
theorem dX9_isAhead_34 : decode cX9_isAhead 34 = .ok (.if_icmp .ne 12, 3) := dk_160 0 12 (dk_at dksX9_isAhead_1 11 rfl rfl)
theorem dX9_isAhead_37 : decode cX9_isAhead 37 = .ok (.iload_n 1, 1) := dk_27 (dk_at dksX9_isAhead_1 14 rfl rfl)
theorem dX9_isAhead_38 : decode cX9_isAhead 38 = .ok (.iload_n 2, 1) := dk_28 (dk_at dksX9_isAhead_1 15 rfl rfl)
theorem dX9_isAhead_39 : decode cX9_isAhead 39 = .ok (.if_icmp .ge 7, 3) := dk_162 0 7 (dk_at dksX9_isAhead_1 16 rfl rfl)
theorem dX9_isAhead_42 : decode cX9_isAhead 42 = .ok (.iconst 1, 1) := dk_4 (dk_at dksX9_isAhead_1 19 rfl rfl)
theorem dX9_isAhead_43 : decode cX9_isAhead 43 = .ok (.goto 4, 3) := dk_167 0 4 (dk_at dksX9_isAhead_1 20 rfl rfl)
theorem dX9_isAhead_46 : decode cX9_isAhead 46 = .ok (.iconst 0, 1) := dk_3 (dk_at dksX9_isAhead_1 23 rfl rfl)
theorem dX9_isAhead_47 : decode cX9_isAhead 47 = .ok (.ireturn, 1) := dk_172 (dk_at dksX9_isAhead_2 0 rfl rfl)
abbrev cX9_runFor : ByteArray := prog_15_method_94_code
def yX9_runFor : MethodName := ⟨RX9, "runFor", "(II)I"⟩
def dkwX9_runFor_6 : List UInt8 := [21, 6, 167, 0, 5, 21, 4, 54, 4, 132, 5, 1, 167, 255, 112, 29, 172]
abbrev dktX9_runFor_6 : List UInt8 := dkwX9_runFor_6 ++ []
def dkwX9_runFor_5 : List UInt8 := [54, 6, 21, 6, 21, 4, 162, 0, 8, 21, 5, 167, 0, 4, 29, 62, 21, 6, 21, 4, 162, 0, 8]
abbrev dktX9_runFor_5 : List UInt8 := dkwX9_runFor_5 ++ dktX9_runFor_6
def dkwX9_runFor_4 : List UInt8 := [184, 0, 216, 104, 96, 54, 6, 42, 21, 5, 28, 2, 182, 1, 94, 21, 6, 42, 21, 5, 182, 1, 100, 100]
abbrev dktX9_runFor_4 : List UInt8 := dkwX9_runFor_4 ++ dktX9_runFor_5
def dkwX9_runFor_3 : List UInt8 := [7, 46, 104, 16, 16, 42, 180, 0, 34, 21, 5, 46, 104, 42, 180, 0, 16, 27, 184, 0, 112, 7, 96, 46]
abbrev dktX9_runFor_3 : List UInt8 := dkwX9_runFor_3 ++ dktX9_runFor_4
def dkwX9_runFor_2 : List UInt8 := [180, 0, 43, 21, 5, 46, 163, 0, 98, 42, 21, 5, 182, 1, 100, 42, 27, 182, 0, 137, 42, 180, 0, 13]
abbrev dktX9_runFor_2 : List UInt8 := dkwX9_runFor_2 ++ dktX9_runFor_3
def dkwX9_runFor_1 : List UInt8 := [46, 42, 27, 182, 0, 147, 160, 0, 120, 42, 21, 5, 28, 27, 182, 1, 94, 42, 182, 1, 97, 42]
abbrev dktX9_runFor_1 : List UInt8 := dkwX9_runFor_1 ++ dktX9_runFor_2
def dkwX9_runFor_0 : List UInt8 := [2, 62, 18, 240, 54, 4, 3, 54, 5, 21, 5, 42, 180, 1, 73, 162, 0, 141, 42, 180, 0, 37, 21, 5]
abbrev dktX9_runFor_0 : List UInt8 := dkwX9_runFor_0 ++ dktX9_runFor_1
theorem dksX9_runFor_0 : cX9_runFor.data.toList.drop 0 = dktX9_runFor_0 := by decide +kernel
theorem dksX9_runFor_1 : cX9_runFor.data.toList.drop 24 = dktX9_runFor_1 := dk_seg dksX9_runFor_0 24 rfl rfl
theorem dksX9_runFor_2 : cX9_runFor.data.toList.drop 46 = dktX9_runFor_2 := dk_seg dksX9_runFor_1 22 rfl rfl
theorem dksX9_runFor_3 : cX9_runFor.data.toList.drop 70 = dktX9_runFor_3 := dk_seg dksX9_runFor_2 24 rfl rfl
theorem dksX9_runFor_4 : cX9_runFor.data.toList.drop 94 = dktX9_runFor_4 := dk_seg dksX9_runFor_3 24 rfl rfl
theorem dksX9_runFor_5 : cX9_runFor.data.toList.drop 118 = dktX9_runFor_5 := dk_seg dksX9_runFor_4 24 rfl rfl
theorem dksX9_runFor_6 : cX9_runFor.data.toList.drop 141 = dktX9_runFor_6 := dk_seg dksX9_runFor_5 23 rfl rfl
theorem dX9_runFor_0 : decode cX9_runFor 0 = .ok (.iconst (-1), 1) := dk_2 (dk_at dksX9_runFor_0 0 rfl rfl)
theorem dX9_runFor_1 : decode cX9_runFor 1 = .ok (.istore_n 3, 1) := dk_62 (dk_at dksX9_runFor_0 1 rfl rfl)
theorem dX9_runFor_2 : decode cX9_runFor 2 = .ok (.ldc 240, 2) := dk_18 240 (dk_at dksX9_runFor_0 2 rfl rfl)
theorem dX9_runFor_4 : decode cX9_runFor 4 = .ok (.istore 4, 2) := dk_54 4 (dk_at dksX9_runFor_0 4 rfl rfl)
theorem dX9_runFor_6 : decode cX9_runFor 6 = .ok (.iconst 0, 1) := dk_3 (dk_at dksX9_runFor_0 6 rfl rfl)
theorem dX9_runFor_7 : decode cX9_runFor 7 = .ok (.istore 5, 2) := dk_54 5 (dk_at dksX9_runFor_0 7 rfl rfl)
theorem dX9_runFor_9 : decode cX9_runFor 9 = .ok (.iload 5, 2) := dk_21 5 (dk_at dksX9_runFor_0 9 rfl rfl)
theorem dX9_runFor_11 : decode cX9_runFor 11 = .ok (.aload_n 0, 1) := dk_42 (dk_at dksX9_runFor_0 11 rfl rfl)
theorem dX9_runFor_12 : decode cX9_runFor 12 = .ok (.getfield 329, 3) := dk_180 1 73 (dk_at dksX9_runFor_0 12 rfl rfl)
theorem dX9_runFor_15 : decode cX9_runFor 15 = .ok (.if_icmp .ge 141, 3) := dk_162 0 141 (dk_at dksX9_runFor_0 15 rfl rfl)
theorem dX9_runFor_18 : decode cX9_runFor 18 = .ok (.aload_n 0, 1) := dk_42 (dk_at dksX9_runFor_0 18 rfl rfl)
theorem dX9_runFor_19 : decode cX9_runFor 19 = .ok (.getfield 37, 3) := dk_180 0 37 (dk_at dksX9_runFor_0 19 rfl rfl)
theorem dX9_runFor_22 : decode cX9_runFor 22 = .ok (.iload 5, 2) := dk_21 5 (dk_at dksX9_runFor_0 22 rfl rfl)
theorem dX9_runFor_24 : decode cX9_runFor 24 = .ok (.iaload, 1) := dk_46 (dk_at dksX9_runFor_1 0 rfl rfl)
theorem dX9_runFor_25 : decode cX9_runFor 25 = .ok (.aload_n 0, 1) := dk_42 (dk_at dksX9_runFor_1 1 rfl rfl)
theorem dX9_runFor_26 : decode cX9_runFor 26 = .ok (.iload_n 1, 1) := dk_27 (dk_at dksX9_runFor_1 2 rfl rfl)
theorem dX9_runFor_27 : decode cX9_runFor 27 = .ok (.invokevirtual 147, 3) := dk_182 0 147 (dk_at dksX9_runFor_1 3 rfl rfl)
theorem dX9_runFor_30 : decode cX9_runFor 30 = .ok (.if_icmp .ne 120, 3) := dk_160 0 120 (dk_at dksX9_runFor_1 6 rfl rfl)
theorem dX9_runFor_33 : decode cX9_runFor 33 = .ok (.aload_n 0, 1) := dk_42 (dk_at dksX9_runFor_1 9 rfl rfl)
theorem dX9_runFor_34 : decode cX9_runFor 34 = .ok (.iload 5, 2) := dk_21 5 (dk_at dksX9_runFor_1 10 rfl rfl)
theorem dX9_runFor_36 : decode cX9_runFor 36 = .ok (.iload_n 2, 1) := dk_28 (dk_at dksX9_runFor_1 12 rfl rfl)
theorem dX9_runFor_37 : decode cX9_runFor 37 = .ok (.iload_n 1, 1) := dk_27 (dk_at dksX9_runFor_1 13 rfl rfl)
theorem dX9_runFor_38 : decode cX9_runFor 38 = .ok (.invokevirtual 350, 3) := dk_182 1 94 (dk_at dksX9_runFor_1 14 rfl rfl)
theorem dX9_runFor_41 : decode cX9_runFor 41 = .ok (.aload_n 0, 1) := dk_42 (dk_at dksX9_runFor_1 17 rfl rfl)
theorem dX9_runFor_42 : decode cX9_runFor 42 = .ok (.invokevirtual 353, 3) := dk_182 1 97 (dk_at dksX9_runFor_1 18 rfl rfl)
theorem dX9_runFor_45 : decode cX9_runFor 45 = .ok (.aload_n 0, 1) := dk_42 (dk_at dksX9_runFor_1 21 rfl rfl)
theorem dX9_runFor_46 : decode cX9_runFor 46 = .ok (.getfield 43, 3) := dk_180 0 43 (dk_at dksX9_runFor_2 0 rfl rfl)
theorem dX9_runFor_49 : decode cX9_runFor 49 = .ok (.iload 5, 2) := dk_21 5 (dk_at dksX9_runFor_2 3 rfl rfl)
theorem dX9_runFor_51 : decode cX9_runFor 51 = .ok (.iaload, 1) := dk_46 (dk_at dksX9_runFor_2 5 rfl rfl)
theorem dX9_runFor_52 : decode cX9_runFor 52 = .ok (.if_icmp .gt 98, 3) := dk_163 0 98 (dk_at dksX9_runFor_2 6 rfl rfl)
theorem dX9_runFor_55 : decode cX9_runFor 55 = .ok (.aload_n 0, 1) := dk_42 (dk_at dksX9_runFor_2 9 rfl rfl)
theorem dX9_runFor_56 : decode cX9_runFor 56 = .ok (.iload 5, 2) := dk_21 5 (dk_at dksX9_runFor_2 10 rfl rfl)
theorem dX9_runFor_58 : decode cX9_runFor 58 = .ok (.invokevirtual 356, 3) := dk_182 1 100 (dk_at dksX9_runFor_2 12 rfl rfl)
theorem dX9_runFor_61 : decode cX9_runFor 61 = .ok (.aload_n 0, 1) := dk_42 (dk_at dksX9_runFor_2 15 rfl rfl)
theorem dX9_runFor_62 : decode cX9_runFor 62 = .ok (.iload_n 1, 1) := dk_27 (dk_at dksX9_runFor_2 16 rfl rfl)
theorem dX9_runFor_63 : decode cX9_runFor 63 = .ok (.invokevirtual 137, 3) := dk_182 0 137 (dk_at dksX9_runFor_2 17 rfl rfl)
theorem dX9_runFor_66 : decode cX9_runFor 66 = .ok (.aload_n 0, 1) := dk_42 (dk_at dksX9_runFor_2 20 rfl rfl)
theorem dX9_runFor_67 : decode cX9_runFor 67 = .ok (.getfield 13, 3) := dk_180 0 13 (dk_at dksX9_runFor_2 21 rfl rfl)
theorem dX9_runFor_70 : decode cX9_runFor 70 = .ok (.iconst 4, 1) := dk_7 (dk_at dksX9_runFor_3 0 rfl rfl)
theorem dX9_runFor_71 : decode cX9_runFor 71 = .ok (.iaload, 1) := dk_46 (dk_at dksX9_runFor_3 1 rfl rfl)
theorem dX9_runFor_72 : decode cX9_runFor 72 = .ok (.imul, 1) := dk_104 (dk_at dksX9_runFor_3 2 rfl rfl)
theorem dX9_runFor_73 : decode cX9_runFor 73 = .ok (.bipush 16, 2) := dk_16 16 (dk_at dksX9_runFor_3 3 rfl rfl)
theorem dX9_runFor_75 : decode cX9_runFor 75 = .ok (.aload_n 0, 1) := dk_42 (dk_at dksX9_runFor_3 5 rfl rfl)
theorem dX9_runFor_76 : decode cX9_runFor 76 = .ok (.getfield 34, 3) := dk_180 0 34 (dk_at dksX9_runFor_3 6 rfl rfl)
theorem dX9_runFor_79 : decode cX9_runFor 79 = .ok (.iload 5, 2) := dk_21 5 (dk_at dksX9_runFor_3 9 rfl rfl)
theorem dX9_runFor_81 : decode cX9_runFor 81 = .ok (.iaload, 1) := dk_46 (dk_at dksX9_runFor_3 11 rfl rfl)
theorem dX9_runFor_82 : decode cX9_runFor 82 = .ok (.imul, 1) := dk_104 (dk_at dksX9_runFor_3 12 rfl rfl)
theorem dX9_runFor_83 : decode cX9_runFor 83 = .ok (.aload_n 0, 1) := dk_42 (dk_at dksX9_runFor_3 13 rfl rfl)
theorem dX9_runFor_84 : decode cX9_runFor 84 = .ok (.getfield 16, 3) := dk_180 0 16 (dk_at dksX9_runFor_3 14 rfl rfl)
theorem dX9_runFor_87 : decode cX9_runFor 87 = .ok (.iload_n 1, 1) := dk_27 (dk_at dksX9_runFor_3 17 rfl rfl)
theorem dX9_runFor_88 : decode cX9_runFor 88 = .ok (.invokestatic 112, 3) := dk_184 0 112 (dk_at dksX9_runFor_3 18 rfl rfl)
theorem dX9_runFor_91 : decode cX9_runFor 91 = .ok (.iconst 4, 1) := dk_7 (dk_at dksX9_runFor_3 21 rfl rfl)
theorem dX9_runFor_92 : decode cX9_runFor 92 = .ok (.iadd, 1) := dk_96 (dk_at dksX9_runFor_3 22 rfl rfl)
theorem dX9_runFor_93 : decode cX9_runFor 93 = .ok (.iaload, 1) := dk_46 (dk_at dksX9_runFor_3 23 rfl rfl)
theorem dX9_runFor_94 : decode cX9_runFor 94 = .ok (.invokestatic 216, 3) := dk_184 0 216 (dk_at dksX9_runFor_4 0 rfl rfl)
theorem dX9_runFor_97 : decode cX9_runFor 97 = .ok (.imul, 1) := dk_104 (dk_at dksX9_runFor_4 3 rfl rfl)
theorem dX9_runFor_98 : decode cX9_runFor 98 = .ok (.iadd, 1) := dk_96 (dk_at dksX9_runFor_4 4 rfl rfl)
theorem dX9_runFor_99 : decode cX9_runFor 99 = .ok (.istore 6, 2) := dk_54 6 (dk_at dksX9_runFor_4 5 rfl rfl)
theorem dX9_runFor_101 : decode cX9_runFor 101 = .ok (.aload_n 0, 1) := dk_42 (dk_at dksX9_runFor_4 7 rfl rfl)
theorem dX9_runFor_102 : decode cX9_runFor 102 = .ok (.iload 5, 2) := dk_21 5 (dk_at dksX9_runFor_4 8 rfl rfl)
theorem dX9_runFor_104 : decode cX9_runFor 104 = .ok (.iload_n 2, 1) := dk_28 (dk_at dksX9_runFor_4 10 rfl rfl)
theorem dX9_runFor_105 : decode cX9_runFor 105 = .ok (.iconst (-1), 1) := dk_2 (dk_at dksX9_runFor_4 11 rfl rfl)
theorem dX9_runFor_106 : decode cX9_runFor 106 = .ok (.invokevirtual 350, 3) := dk_182 1 94 (dk_at dksX9_runFor_4 12 rfl rfl)
theorem dX9_runFor_109 : decode cX9_runFor 109 = .ok (.iload 6, 2) := dk_21 6 (dk_at dksX9_runFor_4 15 rfl rfl)
theorem dX9_runFor_111 : decode cX9_runFor 111 = .ok (.aload_n 0, 1) := dk_42 (dk_at dksX9_runFor_4 17 rfl rfl)
theorem dX9_runFor_112 : decode cX9_runFor 112 = .ok (.iload 5, 2) := dk_21 5 (dk_at dksX9_runFor_4 18 rfl rfl)
theorem dX9_runFor_114 : decode cX9_runFor 114 = .ok (.invokevirtual 356, 3) := dk_182 1 100 (dk_at dksX9_runFor_4 20 rfl rfl)
theorem dX9_runFor_117 : decode cX9_runFor 117 = .ok (.isub, 1) := dk_100 (dk_at dksX9_runFor_4 23 rfl rfl)
theorem dX9_runFor_118 : decode cX9_runFor 118 = .ok (.istore 6, 2) := dk_54 6 (dk_at dksX9_runFor_5 0 rfl rfl)
theorem dX9_runFor_120 : decode cX9_runFor 120 = .ok (.iload 6, 2) := dk_21 6 (dk_at dksX9_runFor_5 2 rfl rfl)
theorem dX9_runFor_122 : decode cX9_runFor 122 = .ok (.iload 4, 2) := dk_21 4 (dk_at dksX9_runFor_5 4 rfl rfl)
theorem dX9_runFor_124 : decode cX9_runFor 124 = .ok (.if_icmp .ge 8, 3) := dk_162 0 8 (dk_at dksX9_runFor_5 6 rfl rfl)
theorem dX9_runFor_127 : decode cX9_runFor 127 = .ok (.iload 5, 2) := dk_21 5 (dk_at dksX9_runFor_5 9 rfl rfl)
theorem dX9_runFor_129 : decode cX9_runFor 129 = .ok (.goto 4, 3) := dk_167 0 4 (dk_at dksX9_runFor_5 11 rfl rfl)
theorem dX9_runFor_132 : decode cX9_runFor 132 = .ok (.iload_n 3, 1) := dk_29 (dk_at dksX9_runFor_5 14 rfl rfl)
theorem dX9_runFor_133 : decode cX9_runFor 133 = .ok (.istore_n 3, 1) := dk_62 (dk_at dksX9_runFor_5 15 rfl rfl)
theorem dX9_runFor_134 : decode cX9_runFor 134 = .ok (.iload 6, 2) := dk_21 6 (dk_at dksX9_runFor_5 16 rfl rfl)
theorem dX9_runFor_136 : decode cX9_runFor 136 = .ok (.iload 4, 2) := dk_21 4 (dk_at dksX9_runFor_5 18 rfl rfl)
theorem dX9_runFor_138 : decode cX9_runFor 138 = .ok (.if_icmp .ge 8, 3) := dk_162 0 8 (dk_at dksX9_runFor_5 20 rfl rfl)
theorem dX9_runFor_141 : decode cX9_runFor 141 = .ok (.iload 6, 2) := dk_21 6 (dk_at dksX9_runFor_6 0 rfl rfl)
theorem dX9_runFor_143 : decode cX9_runFor 143 = .ok (.goto 5, 3) := dk_167 0 5 (dk_at dksX9_runFor_6 2 rfl rfl)
theorem dX9_runFor_146 : decode cX9_runFor 146 = .ok (.iload 4, 2) := dk_21 4 (dk_at dksX9_runFor_6 5 rfl rfl)
theorem dX9_runFor_148 : decode cX9_runFor 148 = .ok (.istore 4, 2) := dk_54 4 (dk_at dksX9_runFor_6 7 rfl rfl)
theorem dX9_runFor_150 : decode cX9_runFor 150 = .ok (.iinc 5 1, 3) := dk_132 5 1 (dk_at dksX9_runFor_6 9 rfl rfl)
theorem dX9_runFor_153 : decode cX9_runFor 153 = .ok (.goto (-144), 3) := dk_167 255 112 (dk_at dksX9_runFor_6 12 rfl rfl)
theorem dX9_runFor_156 : decode cX9_runFor 156 = .ok (.iload_n 3, 1) := dk_29 (dk_at dksX9_runFor_6 15 rfl rfl)
theorem dX9_runFor_157 : decode cX9_runFor 157 = .ok (.ireturn, 1) := dk_172 (dk_at dksX9_runFor_6 16 rfl rfl)
abbrev cX9_laySome : ByteArray := prog_15_method_90_code
def yX9_laySome : MethodName := ⟨RX9, "laySome", "(III)V"⟩
def dkwX9_laySome_3 : List UInt8 := [180, 1, 82, 29, 79, 42, 89, 180, 1, 82, 4, 96, 181, 1, 82, 177]
abbrev dktX9_laySome_3 : List UInt8 := dkwX9_laySome_3 ++ []
def dkwX9_laySome_2 : List UInt8 := [180, 1, 82, 4, 96, 181, 1, 82, 132, 4, 1, 167, 255, 205, 29, 2, 159, 0, 23, 42, 180, 0, 55, 42]
abbrev dktX9_laySome_2 : List UInt8 := dkwX9_laySome_2 ++ dktX9_laySome_3
def dkwX9_laySome_1 : List UInt8 := [46, 46, 27, 160, 0, 29, 42, 180, 0, 55, 42, 180, 1, 82, 42, 180, 0, 49, 21, 4, 46, 79, 42, 89]
abbrev dktX9_laySome_1 : List UInt8 := dkwX9_laySome_1 ++ dktX9_laySome_2
def dkwX9_laySome_0 : List UInt8 := [42, 3, 181, 1, 82, 3, 54, 4, 21, 4, 28, 162, 0, 51, 42, 180, 0, 52, 42, 180, 0, 49, 21, 4]
abbrev dktX9_laySome_0 : List UInt8 := dkwX9_laySome_0 ++ dktX9_laySome_1
theorem dksX9_laySome_0 : cX9_laySome.data.toList.drop 0 = dktX9_laySome_0 := by decide +kernel
theorem dksX9_laySome_1 : cX9_laySome.data.toList.drop 24 = dktX9_laySome_1 := dk_seg dksX9_laySome_0 24 rfl rfl
theorem dksX9_laySome_2 : cX9_laySome.data.toList.drop 48 = dktX9_laySome_2 := dk_seg dksX9_laySome_1 24 rfl rfl
theorem dksX9_laySome_3 : cX9_laySome.data.toList.drop 72 = dktX9_laySome_3 := dk_seg dksX9_laySome_2 24 rfl rfl
theorem dX9_laySome_0 : decode cX9_laySome 0 = .ok (.aload_n 0, 1) := dk_42 (dk_at dksX9_laySome_0 0 rfl rfl)
theorem dX9_laySome_1 : decode cX9_laySome 1 = .ok (.iconst 0, 1) := dk_3 (dk_at dksX9_laySome_0 1 rfl rfl)
theorem dX9_laySome_2 : decode cX9_laySome 2 = .ok (.putfield 338, 3) := dk_181 1 82 (dk_at dksX9_laySome_0 2 rfl rfl)
theorem dX9_laySome_5 : decode cX9_laySome 5 = .ok (.iconst 0, 1) := dk_3 (dk_at dksX9_laySome_0 5 rfl rfl)
theorem dX9_laySome_6 : decode cX9_laySome 6 = .ok (.istore 4, 2) := dk_54 4 (dk_at dksX9_laySome_0 6 rfl rfl)
theorem dX9_laySome_8 : decode cX9_laySome 8 = .ok (.iload 4, 2) := dk_21 4 (dk_at dksX9_laySome_0 8 rfl rfl)
theorem dX9_laySome_10 : decode cX9_laySome 10 = .ok (.iload_n 2, 1) := dk_28 (dk_at dksX9_laySome_0 10 rfl rfl)
theorem dX9_laySome_11 : decode cX9_laySome 11 = .ok (.if_icmp .ge 51, 3) := dk_162 0 51 (dk_at dksX9_laySome_0 11 rfl rfl)
theorem dX9_laySome_14 : decode cX9_laySome 14 = .ok (.aload_n 0, 1) := dk_42 (dk_at dksX9_laySome_0 14 rfl rfl)
theorem dX9_laySome_15 : decode cX9_laySome 15 = .ok (.getfield 52, 3) := dk_180 0 52 (dk_at dksX9_laySome_0 15 rfl rfl)
theorem dX9_laySome_18 : decode cX9_laySome 18 = .ok (.aload_n 0, 1) := dk_42 (dk_at dksX9_laySome_0 18 rfl rfl)
theorem dX9_laySome_19 : decode cX9_laySome 19 = .ok (.getfield 49, 3) := dk_180 0 49 (dk_at dksX9_laySome_0 19 rfl rfl)
theorem dX9_laySome_22 : decode cX9_laySome 22 = .ok (.iload 4, 2) := dk_21 4 (dk_at dksX9_laySome_0 22 rfl rfl)
theorem dX9_laySome_24 : decode cX9_laySome 24 = .ok (.iaload, 1) := dk_46 (dk_at dksX9_laySome_1 0 rfl rfl)
theorem dX9_laySome_25 : decode cX9_laySome 25 = .ok (.iaload, 1) := dk_46 (dk_at dksX9_laySome_1 1 rfl rfl)
theorem dX9_laySome_26 : decode cX9_laySome 26 = .ok (.iload_n 1, 1) := dk_27 (dk_at dksX9_laySome_1 2 rfl rfl)
theorem dX9_laySome_27 : decode cX9_laySome 27 = .ok (.if_icmp .ne 29, 3) := dk_160 0 29 (dk_at dksX9_laySome_1 3 rfl rfl)
theorem dX9_laySome_30 : decode cX9_laySome 30 = .ok (.aload_n 0, 1) := dk_42 (dk_at dksX9_laySome_1 6 rfl rfl)
theorem dX9_laySome_31 : decode cX9_laySome 31 = .ok (.getfield 55, 3) := dk_180 0 55 (dk_at dksX9_laySome_1 7 rfl rfl)
theorem dX9_laySome_34 : decode cX9_laySome 34 = .ok (.aload_n 0, 1) := dk_42 (dk_at dksX9_laySome_1 10 rfl rfl)
theorem dX9_laySome_35 : decode cX9_laySome 35 = .ok (.getfield 338, 3) := dk_180 1 82 (dk_at dksX9_laySome_1 11 rfl rfl)
theorem dX9_laySome_38 : decode cX9_laySome 38 = .ok (.aload_n 0, 1) := dk_42 (dk_at dksX9_laySome_1 14 rfl rfl)
theorem dX9_laySome_39 : decode cX9_laySome 39 = .ok (.getfield 49, 3) := dk_180 0 49 (dk_at dksX9_laySome_1 15 rfl rfl)
theorem dX9_laySome_42 : decode cX9_laySome 42 = .ok (.iload 4, 2) := dk_21 4 (dk_at dksX9_laySome_1 18 rfl rfl)
theorem dX9_laySome_44 : decode cX9_laySome 44 = .ok (.iaload, 1) := dk_46 (dk_at dksX9_laySome_1 20 rfl rfl)
theorem dX9_laySome_45 : decode cX9_laySome 45 = .ok (.iastore, 1) := dk_79 (dk_at dksX9_laySome_1 21 rfl rfl)
theorem dX9_laySome_46 : decode cX9_laySome 46 = .ok (.aload_n 0, 1) := dk_42 (dk_at dksX9_laySome_1 22 rfl rfl)
theorem dX9_laySome_47 : decode cX9_laySome 47 = .ok (.dup, 1) := dk_89 (dk_at dksX9_laySome_1 23 rfl rfl)
theorem dX9_laySome_48 : decode cX9_laySome 48 = .ok (.getfield 338, 3) := dk_180 1 82 (dk_at dksX9_laySome_2 0 rfl rfl)
theorem dX9_laySome_51 : decode cX9_laySome 51 = .ok (.iconst 1, 1) := dk_4 (dk_at dksX9_laySome_2 3 rfl rfl)
theorem dX9_laySome_52 : decode cX9_laySome 52 = .ok (.iadd, 1) := dk_96 (dk_at dksX9_laySome_2 4 rfl rfl)
theorem dX9_laySome_53 : decode cX9_laySome 53 = .ok (.putfield 338, 3) := dk_181 1 82 (dk_at dksX9_laySome_2 5 rfl rfl)
theorem dX9_laySome_56 : decode cX9_laySome 56 = .ok (.iinc 4 1, 3) := dk_132 4 1 (dk_at dksX9_laySome_2 8 rfl rfl)
theorem dX9_laySome_59 : decode cX9_laySome 59 = .ok (.goto (-51), 3) := dk_167 255 205 (dk_at dksX9_laySome_2 11 rfl rfl)
theorem dX9_laySome_62 : decode cX9_laySome 62 = .ok (.iload_n 3, 1) := dk_29 (dk_at dksX9_laySome_2 14 rfl rfl)
theorem dX9_laySome_63 : decode cX9_laySome 63 = .ok (.iconst (-1), 1) := dk_2 (dk_at dksX9_laySome_2 15 rfl rfl)
theorem dX9_laySome_64 : decode cX9_laySome 64 = .ok (.if_icmp .eq 23, 3) := dk_159 0 23 (dk_at dksX9_laySome_2 16 rfl rfl)
theorem dX9_laySome_67 : decode cX9_laySome 67 = .ok (.aload_n 0, 1) := dk_42 (dk_at dksX9_laySome_2 19 rfl rfl)
theorem dX9_laySome_68 : decode cX9_laySome 68 = .ok (.getfield 55, 3) := dk_180 0 55 (dk_at dksX9_laySome_2 20 rfl rfl)
theorem dX9_laySome_71 : decode cX9_laySome 71 = .ok (.aload_n 0, 1) := dk_42 (dk_at dksX9_laySome_2 23 rfl rfl)
theorem dX9_laySome_72 : decode cX9_laySome 72 = .ok (.getfield 338, 3) := dk_180 1 82 (dk_at dksX9_laySome_3 0 rfl rfl)
theorem dX9_laySome_75 : decode cX9_laySome 75 = .ok (.iload_n 3, 1) := dk_29 (dk_at dksX9_laySome_3 3 rfl rfl)
theorem dX9_laySome_76 : decode cX9_laySome 76 = .ok (.iastore, 1) := dk_79 (dk_at dksX9_laySome_3 4 rfl rfl)
theorem dX9_laySome_77 : decode cX9_laySome 77 = .ok (.aload_n 0, 1) := dk_42 (dk_at dksX9_laySome_3 5 rfl rfl)
theorem dX9_laySome_78 : decode cX9_laySome 78 = .ok (.dup, 1) := dk_89 (dk_at dksX9_laySome_3 6 rfl rfl)
theorem dX9_laySome_79 : decode cX9_laySome 79 = .ok (.getfield 338, 3) := dk_180 1 82 (dk_at dksX9_laySome_3 7 rfl rfl)
theorem dX9_laySome_82 : decode cX9_laySome 82 = .ok (.iconst 1, 1) := dk_4 (dk_at dksX9_laySome_3 10 rfl rfl)
theorem dX9_laySome_83 : decode cX9_laySome 83 = .ok (.iadd, 1) := dk_96 (dk_at dksX9_laySome_3 11 rfl rfl)
theorem dX9_laySome_84 : decode cX9_laySome 84 = .ok (.putfield 338, 3) := dk_181 1 82 (dk_at dksX9_laySome_3 12 rfl rfl)
theorem dX9_laySome_87 : decode cX9_laySome 87 = .ok (.return_, 1) := dk_177 (dk_at dksX9_laySome_3 15 rfl rfl)
abbrev cX9_someWidth : ByteArray := prog_15_method_91_code
def yX9_someWidth : MethodName := ⟨RX9, "someWidth", "()I"⟩
def dkwX9_someWidth_1 : List UInt8 := [60, 132, 2, 1, 167, 255, 232, 27, 172]
abbrev dktX9_someWidth_1 : List UInt8 := dkwX9_someWidth_1 ++ []
def dkwX9_someWidth_0 : List UInt8 := [3, 60, 3, 61, 28, 42, 180, 1, 82, 162, 0, 22, 27, 42, 42, 180, 0, 55, 28, 46, 182, 0, 137, 96]
abbrev dktX9_someWidth_0 : List UInt8 := dkwX9_someWidth_0 ++ dktX9_someWidth_1
theorem dksX9_someWidth_0 : cX9_someWidth.data.toList.drop 0 = dktX9_someWidth_0 := by decide +kernel
theorem dksX9_someWidth_1 : cX9_someWidth.data.toList.drop 24 = dktX9_someWidth_1 := dk_seg dksX9_someWidth_0 24 rfl rfl
theorem dX9_someWidth_0 : decode cX9_someWidth 0 = .ok (.iconst 0, 1) := dk_3 (dk_at dksX9_someWidth_0 0 rfl rfl)
theorem dX9_someWidth_1 : decode cX9_someWidth 1 = .ok (.istore_n 1, 1) := dk_60 (dk_at dksX9_someWidth_0 1 rfl rfl)
theorem dX9_someWidth_2 : decode cX9_someWidth 2 = .ok (.iconst 0, 1) := dk_3 (dk_at dksX9_someWidth_0 2 rfl rfl)
theorem dX9_someWidth_3 : decode cX9_someWidth 3 = .ok (.istore_n 2, 1) := dk_61 (dk_at dksX9_someWidth_0 3 rfl rfl)
theorem dX9_someWidth_4 : decode cX9_someWidth 4 = .ok (.iload_n 2, 1) := dk_28 (dk_at dksX9_someWidth_0 4 rfl rfl)
theorem dX9_someWidth_5 : decode cX9_someWidth 5 = .ok (.aload_n 0, 1) := dk_42 (dk_at dksX9_someWidth_0 5 rfl rfl)
theorem dX9_someWidth_6 : decode cX9_someWidth 6 = .ok (.getfield 338, 3) := dk_180 1 82 (dk_at dksX9_someWidth_0 6 rfl rfl)
theorem dX9_someWidth_9 : decode cX9_someWidth 9 = .ok (.if_icmp .ge 22, 3) := dk_162 0 22 (dk_at dksX9_someWidth_0 9 rfl rfl)
theorem dX9_someWidth_12 : decode cX9_someWidth 12 = .ok (.iload_n 1, 1) := dk_27 (dk_at dksX9_someWidth_0 12 rfl rfl)
theorem dX9_someWidth_13 : decode cX9_someWidth 13 = .ok (.aload_n 0, 1) := dk_42 (dk_at dksX9_someWidth_0 13 rfl rfl)
theorem dX9_someWidth_14 : decode cX9_someWidth 14 = .ok (.aload_n 0, 1) := dk_42 (dk_at dksX9_someWidth_0 14 rfl rfl)
theorem dX9_someWidth_15 : decode cX9_someWidth 15 = .ok (.getfield 55, 3) := dk_180 0 55 (dk_at dksX9_someWidth_0 15 rfl rfl)
theorem dX9_someWidth_18 : decode cX9_someWidth 18 = .ok (.iload_n 2, 1) := dk_28 (dk_at dksX9_someWidth_0 18 rfl rfl)
theorem dX9_someWidth_19 : decode cX9_someWidth 19 = .ok (.iaload, 1) := dk_46 (dk_at dksX9_someWidth_0 19 rfl rfl)
theorem dX9_someWidth_20 : decode cX9_someWidth 20 = .ok (.invokevirtual 137, 3) := dk_182 0 137 (dk_at dksX9_someWidth_0 20 rfl rfl)
theorem dX9_someWidth_23 : decode cX9_someWidth 23 = .ok (.iadd, 1) := dk_96 (dk_at dksX9_someWidth_0 23 rfl rfl)
theorem dX9_someWidth_24 : decode cX9_someWidth 24 = .ok (.istore_n 1, 1) := dk_60 (dk_at dksX9_someWidth_1 0 rfl rfl)
theorem dX9_someWidth_25 : decode cX9_someWidth 25 = .ok (.iinc 2 1, 3) := dk_132 2 1 (dk_at dksX9_someWidth_1 1 rfl rfl)
theorem dX9_someWidth_28 : decode cX9_someWidth 28 = .ok (.goto (-24), 3) := dk_167 255 232 (dk_at dksX9_someWidth_1 4 rfl rfl)
theorem dX9_someWidth_31 : decode cX9_someWidth 31 = .ok (.iload_n 1, 1) := dk_27 (dk_at dksX9_someWidth_1 7 rfl rfl)
theorem dX9_someWidth_32 : decode cX9_someWidth 32 = .ok (.ireturn, 1) := dk_172 (dk_at dksX9_someWidth_1 8 rfl rfl)
abbrev cX9_leastIn : ByteArray := prog_15_method_89_code
def yX9_leastIn : MethodName := ⟨RX9, "leastIn", "(I)I"⟩
def dkwX9_leastIn_8 : List UInt8 := [132, 5, 255, 167, 255, 123, 132, 3, 255, 167, 255, 102, 42, 180, 0, 58, 3, 46, 172]
abbrev dktX9_leastIn_8 : List UInt8 := dkwX9_leastIn_8 ++ []
def dkwX9_leastIn_7 : List UInt8 := [16, 33, 29, 104, 21, 5, 96, 21, 7, 21, 6, 162, 0, 8, 21, 7, 167, 0, 5, 21, 6, 79]
abbrev dktX9_leastIn_7 : List UInt8 := dkwX9_leastIn_7 ++ dktX9_leastIn_8
def dkwX9_leastIn_6 : List UInt8 := [180, 0, 58, 16, 33, 29, 104, 21, 5, 96, 4, 96, 46, 167, 0, 5, 18, 240, 54, 7, 42, 180, 0, 58]
abbrev dktX9_leastIn_6 : List UInt8 := dkwX9_leastIn_6 ++ dktX9_leastIn_7
def dkwX9_leastIn_5 : List UInt8 := [180, 0, 40, 27, 46, 21, 5, 96, 182, 1, 85, 21, 7, 96, 54, 6, 21, 5, 28, 162, 0, 20, 42]
abbrev dktX9_leastIn_5 : List UInt8 := dkwX9_leastIn_5 ++ dktX9_leastIn_6
def dkwX9_leastIn_4 : List UInt8 := [182, 0, 137, 96, 46, 54, 7, 21, 7, 18, 240, 160, 0, 8, 18, 240, 167, 0, 21, 42, 21, 4, 42]
abbrev dktX9_leastIn_4 : List UInt8 := dkwX9_leastIn_4 ++ dktX9_leastIn_5
def dkwX9_leastIn_3 : List UInt8 := [182, 0, 137, 96, 28, 163, 0, 58, 42, 180, 0, 58, 16, 33, 29, 4, 96, 104, 21, 5, 96, 42, 21, 4]
abbrev dktX9_leastIn_3 : List UInt8 := dkwX9_leastIn_3 ++ dktX9_leastIn_4
def dkwX9_leastIn_2 : List UInt8 := [180, 0, 55, 29, 46, 54, 4, 28, 54, 5, 21, 5, 155, 0, 134, 18, 240, 54, 6, 21, 5, 42, 21, 4]
abbrev dktX9_leastIn_2 : List UInt8 := dkwX9_leastIn_2 ++ dktX9_leastIn_3
def dkwX9_leastIn_1 : List UInt8 := [104, 29, 96, 3, 79, 132, 3, 1, 167, 255, 233, 42, 180, 1, 82, 4, 100, 62, 29, 155, 0, 156, 42]
abbrev dktX9_leastIn_1 : List UInt8 := dkwX9_leastIn_1 ++ dktX9_leastIn_2
def dkwX9_leastIn_0 : List UInt8 := [42, 180, 0, 43, 27, 46, 61, 3, 62, 29, 28, 163, 0, 24, 42, 180, 0, 58, 16, 33, 42, 180, 1, 82]
abbrev dktX9_leastIn_0 : List UInt8 := dkwX9_leastIn_0 ++ dktX9_leastIn_1
theorem dksX9_leastIn_0 : cX9_leastIn.data.toList.drop 0 = dktX9_leastIn_0 := by decide +kernel
theorem dksX9_leastIn_1 : cX9_leastIn.data.toList.drop 24 = dktX9_leastIn_1 := dk_seg dksX9_leastIn_0 24 rfl rfl
theorem dksX9_leastIn_2 : cX9_leastIn.data.toList.drop 47 = dktX9_leastIn_2 := dk_seg dksX9_leastIn_1 23 rfl rfl
theorem dksX9_leastIn_3 : cX9_leastIn.data.toList.drop 71 = dktX9_leastIn_3 := dk_seg dksX9_leastIn_2 24 rfl rfl
theorem dksX9_leastIn_4 : cX9_leastIn.data.toList.drop 95 = dktX9_leastIn_4 := dk_seg dksX9_leastIn_3 24 rfl rfl
theorem dksX9_leastIn_5 : cX9_leastIn.data.toList.drop 118 = dktX9_leastIn_5 := dk_seg dksX9_leastIn_4 23 rfl rfl
theorem dksX9_leastIn_6 : cX9_leastIn.data.toList.drop 141 = dktX9_leastIn_6 := dk_seg dksX9_leastIn_5 23 rfl rfl
theorem dksX9_leastIn_7 : cX9_leastIn.data.toList.drop 165 = dktX9_leastIn_7 := dk_seg dksX9_leastIn_6 24 rfl rfl
theorem dksX9_leastIn_8 : cX9_leastIn.data.toList.drop 187 = dktX9_leastIn_8 := dk_seg dksX9_leastIn_7 22 rfl rfl
theorem dX9_leastIn_0 : decode cX9_leastIn 0 = .ok (.aload_n 0, 1) := dk_42 (dk_at dksX9_leastIn_0 0 rfl rfl)
theorem dX9_leastIn_1 : decode cX9_leastIn 1 = .ok (.getfield 43, 3) := dk_180 0 43 (dk_at dksX9_leastIn_0 1 rfl rfl)
theorem dX9_leastIn_4 : decode cX9_leastIn 4 = .ok (.iload_n 1, 1) := dk_27 (dk_at dksX9_leastIn_0 4 rfl rfl)
theorem dX9_leastIn_5 : decode cX9_leastIn 5 = .ok (.iaload, 1) := dk_46 (dk_at dksX9_leastIn_0 5 rfl rfl)
theorem dX9_leastIn_6 : decode cX9_leastIn 6 = .ok (.istore_n 2, 1) := dk_61 (dk_at dksX9_leastIn_0 6 rfl rfl)
theorem dX9_leastIn_7 : decode cX9_leastIn 7 = .ok (.iconst 0, 1) := dk_3 (dk_at dksX9_leastIn_0 7 rfl rfl)
theorem dX9_leastIn_8 : decode cX9_leastIn 8 = .ok (.istore_n 3, 1) := dk_62 (dk_at dksX9_leastIn_0 8 rfl rfl)
theorem dX9_leastIn_9 : decode cX9_leastIn 9 = .ok (.iload_n 3, 1) := dk_29 (dk_at dksX9_leastIn_0 9 rfl rfl)
theorem dX9_leastIn_10 : decode cX9_leastIn 10 = .ok (.iload_n 2, 1) := dk_28 (dk_at dksX9_leastIn_0 10 rfl rfl)
theorem dX9_leastIn_11 : decode cX9_leastIn 11 = .ok (.if_icmp .gt 24, 3) := dk_163 0 24 (dk_at dksX9_leastIn_0 11 rfl rfl)
theorem dX9_leastIn_14 : decode cX9_leastIn 14 = .ok (.aload_n 0, 1) := dk_42 (dk_at dksX9_leastIn_0 14 rfl rfl)
theorem dX9_leastIn_15 : decode cX9_leastIn 15 = .ok (.getfield 58, 3) := dk_180 0 58 (dk_at dksX9_leastIn_0 15 rfl rfl)
theorem dX9_leastIn_18 : decode cX9_leastIn 18 = .ok (.bipush 33, 2) := dk_16 33 (dk_at dksX9_leastIn_0 18 rfl rfl)
theorem dX9_leastIn_20 : decode cX9_leastIn 20 = .ok (.aload_n 0, 1) := dk_42 (dk_at dksX9_leastIn_0 20 rfl rfl)
theorem dX9_leastIn_21 : decode cX9_leastIn 21 = .ok (.getfield 338, 3) := dk_180 1 82 (dk_at dksX9_leastIn_0 21 rfl rfl)
theorem dX9_leastIn_24 : decode cX9_leastIn 24 = .ok (.imul, 1) := dk_104 (dk_at dksX9_leastIn_1 0 rfl rfl)
theorem dX9_leastIn_25 : decode cX9_leastIn 25 = .ok (.iload_n 3, 1) := dk_29 (dk_at dksX9_leastIn_1 1 rfl rfl)
theorem dX9_leastIn_26 : decode cX9_leastIn 26 = .ok (.iadd, 1) := dk_96 (dk_at dksX9_leastIn_1 2 rfl rfl)
theorem dX9_leastIn_27 : decode cX9_leastIn 27 = .ok (.iconst 0, 1) := dk_3 (dk_at dksX9_leastIn_1 3 rfl rfl)
theorem dX9_leastIn_28 : decode cX9_leastIn 28 = .ok (.iastore, 1) := dk_79 (dk_at dksX9_leastIn_1 4 rfl rfl)
theorem dX9_leastIn_29 : decode cX9_leastIn 29 = .ok (.iinc 3 1, 3) := dk_132 3 1 (dk_at dksX9_leastIn_1 5 rfl rfl)
theorem dX9_leastIn_32 : decode cX9_leastIn 32 = .ok (.goto (-23), 3) := dk_167 255 233 (dk_at dksX9_leastIn_1 8 rfl rfl)
theorem dX9_leastIn_35 : decode cX9_leastIn 35 = .ok (.aload_n 0, 1) := dk_42 (dk_at dksX9_leastIn_1 11 rfl rfl)
theorem dX9_leastIn_36 : decode cX9_leastIn 36 = .ok (.getfield 338, 3) := dk_180 1 82 (dk_at dksX9_leastIn_1 12 rfl rfl)
theorem dX9_leastIn_39 : decode cX9_leastIn 39 = .ok (.iconst 1, 1) := dk_4 (dk_at dksX9_leastIn_1 15 rfl rfl)
theorem dX9_leastIn_40 : decode cX9_leastIn 40 = .ok (.isub, 1) := dk_100 (dk_at dksX9_leastIn_1 16 rfl rfl)
theorem dX9_leastIn_41 : decode cX9_leastIn 41 = .ok (.istore_n 3, 1) := dk_62 (dk_at dksX9_leastIn_1 17 rfl rfl)
theorem dX9_leastIn_42 : decode cX9_leastIn 42 = .ok (.iload_n 3, 1) := dk_29 (dk_at dksX9_leastIn_1 18 rfl rfl)
theorem dX9_leastIn_43 : decode cX9_leastIn 43 = .ok (.ifCond .lt 156, 3) := dk_155 0 156 (dk_at dksX9_leastIn_1 19 rfl rfl)
theorem dX9_leastIn_46 : decode cX9_leastIn 46 = .ok (.aload_n 0, 1) := dk_42 (dk_at dksX9_leastIn_1 22 rfl rfl)
theorem dX9_leastIn_47 : decode cX9_leastIn 47 = .ok (.getfield 55, 3) := dk_180 0 55 (dk_at dksX9_leastIn_2 0 rfl rfl)
theorem dX9_leastIn_50 : decode cX9_leastIn 50 = .ok (.iload_n 3, 1) := dk_29 (dk_at dksX9_leastIn_2 3 rfl rfl)
theorem dX9_leastIn_51 : decode cX9_leastIn 51 = .ok (.iaload, 1) := dk_46 (dk_at dksX9_leastIn_2 4 rfl rfl)
theorem dX9_leastIn_52 : decode cX9_leastIn 52 = .ok (.istore 4, 2) := dk_54 4 (dk_at dksX9_leastIn_2 5 rfl rfl)
theorem dX9_leastIn_54 : decode cX9_leastIn 54 = .ok (.iload_n 2, 1) := dk_28 (dk_at dksX9_leastIn_2 7 rfl rfl)
theorem dX9_leastIn_55 : decode cX9_leastIn 55 = .ok (.istore 5, 2) := dk_54 5 (dk_at dksX9_leastIn_2 8 rfl rfl)
theorem dX9_leastIn_57 : decode cX9_leastIn 57 = .ok (.iload 5, 2) := dk_21 5 (dk_at dksX9_leastIn_2 10 rfl rfl)
theorem dX9_leastIn_59 : decode cX9_leastIn 59 = .ok (.ifCond .lt 134, 3) := dk_155 0 134 (dk_at dksX9_leastIn_2 12 rfl rfl)
theorem dX9_leastIn_62 : decode cX9_leastIn 62 = .ok (.ldc 240, 2) := dk_18 240 (dk_at dksX9_leastIn_2 15 rfl rfl)
theorem dX9_leastIn_64 : decode cX9_leastIn 64 = .ok (.istore 6, 2) := dk_54 6 (dk_at dksX9_leastIn_2 17 rfl rfl)
theorem dX9_leastIn_66 : decode cX9_leastIn 66 = .ok (.iload 5, 2) := dk_21 5 (dk_at dksX9_leastIn_2 19 rfl rfl)
theorem dX9_leastIn_68 : decode cX9_leastIn 68 = .ok (.aload_n 0, 1) := dk_42 (dk_at dksX9_leastIn_2 21 rfl rfl)
theorem dX9_leastIn_69 : decode cX9_leastIn 69 = .ok (.iload 4, 2) := dk_21 4 (dk_at dksX9_leastIn_2 22 rfl rfl)
theorem dX9_leastIn_71 : decode cX9_leastIn 71 = .ok (.invokevirtual 137, 3) := dk_182 0 137 (dk_at dksX9_leastIn_3 0 rfl rfl)
theorem dX9_leastIn_74 : decode cX9_leastIn 74 = .ok (.iadd, 1) := dk_96 (dk_at dksX9_leastIn_3 3 rfl rfl)
theorem dX9_leastIn_75 : decode cX9_leastIn 75 = .ok (.iload_n 2, 1) := dk_28 (dk_at dksX9_leastIn_3 4 rfl rfl)
theorem dX9_leastIn_76 : decode cX9_leastIn 76 = .ok (.if_icmp .gt 58, 3) := dk_163 0 58 (dk_at dksX9_leastIn_3 5 rfl rfl)
theorem dX9_leastIn_79 : decode cX9_leastIn 79 = .ok (.aload_n 0, 1) := dk_42 (dk_at dksX9_leastIn_3 8 rfl rfl)
theorem dX9_leastIn_80 : decode cX9_leastIn 80 = .ok (.getfield 58, 3) := dk_180 0 58 (dk_at dksX9_leastIn_3 9 rfl rfl)
theorem dX9_leastIn_83 : decode cX9_leastIn 83 = .ok (.bipush 33, 2) := dk_16 33 (dk_at dksX9_leastIn_3 12 rfl rfl)
theorem dX9_leastIn_85 : decode cX9_leastIn 85 = .ok (.iload_n 3, 1) := dk_29 (dk_at dksX9_leastIn_3 14 rfl rfl)
theorem dX9_leastIn_86 : decode cX9_leastIn 86 = .ok (.iconst 1, 1) := dk_4 (dk_at dksX9_leastIn_3 15 rfl rfl)
theorem dX9_leastIn_87 : decode cX9_leastIn 87 = .ok (.iadd, 1) := dk_96 (dk_at dksX9_leastIn_3 16 rfl rfl)
theorem dX9_leastIn_88 : decode cX9_leastIn 88 = .ok (.imul, 1) := dk_104 (dk_at dksX9_leastIn_3 17 rfl rfl)
theorem dX9_leastIn_89 : decode cX9_leastIn 89 = .ok (.iload 5, 2) := dk_21 5 (dk_at dksX9_leastIn_3 18 rfl rfl)
theorem dX9_leastIn_91 : decode cX9_leastIn 91 = .ok (.iadd, 1) := dk_96 (dk_at dksX9_leastIn_3 20 rfl rfl)
theorem dX9_leastIn_92 : decode cX9_leastIn 92 = .ok (.aload_n 0, 1) := dk_42 (dk_at dksX9_leastIn_3 21 rfl rfl)
theorem dX9_leastIn_93 : decode cX9_leastIn 93 = .ok (.iload 4, 2) := dk_21 4 (dk_at dksX9_leastIn_3 22 rfl rfl)
theorem dX9_leastIn_95 : decode cX9_leastIn 95 = .ok (.invokevirtual 137, 3) := dk_182 0 137 (dk_at dksX9_leastIn_4 0 rfl rfl)
theorem dX9_leastIn_98 : decode cX9_leastIn 98 = .ok (.iadd, 1) := dk_96 (dk_at dksX9_leastIn_4 3 rfl rfl)
theorem dX9_leastIn_99 : decode cX9_leastIn 99 = .ok (.iaload, 1) := dk_46 (dk_at dksX9_leastIn_4 4 rfl rfl)
theorem dX9_leastIn_100 : decode cX9_leastIn 100 = .ok (.istore 7, 2) := dk_54 7 (dk_at dksX9_leastIn_4 5 rfl rfl)
theorem dX9_leastIn_102 : decode cX9_leastIn 102 = .ok (.iload 7, 2) := dk_21 7 (dk_at dksX9_leastIn_4 7 rfl rfl)
theorem dX9_leastIn_104 : decode cX9_leastIn 104 = .ok (.ldc 240, 2) := dk_18 240 (dk_at dksX9_leastIn_4 9 rfl rfl)
theorem dX9_leastIn_106 : decode cX9_leastIn 106 = .ok (.if_icmp .ne 8, 3) := dk_160 0 8 (dk_at dksX9_leastIn_4 11 rfl rfl)
theorem dX9_leastIn_109 : decode cX9_leastIn 109 = .ok (.ldc 240, 2) := dk_18 240 (dk_at dksX9_leastIn_4 14 rfl rfl)
theorem dX9_leastIn_111 : decode cX9_leastIn 111 = .ok (.goto 21, 3) := dk_167 0 21 (dk_at dksX9_leastIn_4 16 rfl rfl)
theorem dX9_leastIn_114 : decode cX9_leastIn 114 = .ok (.aload_n 0, 1) := dk_42 (dk_at dksX9_leastIn_4 19 rfl rfl)
theorem dX9_leastIn_115 : decode cX9_leastIn 115 = .ok (.iload 4, 2) := dk_21 4 (dk_at dksX9_leastIn_4 20 rfl rfl)
theorem dX9_leastIn_117 : decode cX9_leastIn 117 = .ok (.aload_n 0, 1) := dk_42 (dk_at dksX9_leastIn_4 22 rfl rfl)
theorem dX9_leastIn_118 : decode cX9_leastIn 118 = .ok (.getfield 40, 3) := dk_180 0 40 (dk_at dksX9_leastIn_5 0 rfl rfl)
theorem dX9_leastIn_121 : decode cX9_leastIn 121 = .ok (.iload_n 1, 1) := dk_27 (dk_at dksX9_leastIn_5 3 rfl rfl)
theorem dX9_leastIn_122 : decode cX9_leastIn 122 = .ok (.iaload, 1) := dk_46 (dk_at dksX9_leastIn_5 4 rfl rfl)
theorem dX9_leastIn_123 : decode cX9_leastIn 123 = .ok (.iload 5, 2) := dk_21 5 (dk_at dksX9_leastIn_5 5 rfl rfl)
theorem dX9_leastIn_125 : decode cX9_leastIn 125 = .ok (.iadd, 1) := dk_96 (dk_at dksX9_leastIn_5 7 rfl rfl)
theorem dX9_leastIn_126 : decode cX9_leastIn 126 = .ok (.invokevirtual 341, 3) := dk_182 1 85 (dk_at dksX9_leastIn_5 8 rfl rfl)
theorem dX9_leastIn_129 : decode cX9_leastIn 129 = .ok (.iload 7, 2) := dk_21 7 (dk_at dksX9_leastIn_5 11 rfl rfl)
theorem dX9_leastIn_131 : decode cX9_leastIn 131 = .ok (.iadd, 1) := dk_96 (dk_at dksX9_leastIn_5 13 rfl rfl)
theorem dX9_leastIn_132 : decode cX9_leastIn 132 = .ok (.istore 6, 2) := dk_54 6 (dk_at dksX9_leastIn_5 14 rfl rfl)
theorem dX9_leastIn_134 : decode cX9_leastIn 134 = .ok (.iload 5, 2) := dk_21 5 (dk_at dksX9_leastIn_5 16 rfl rfl)
theorem dX9_leastIn_136 : decode cX9_leastIn 136 = .ok (.iload_n 2, 1) := dk_28 (dk_at dksX9_leastIn_5 18 rfl rfl)
theorem dX9_leastIn_137 : decode cX9_leastIn 137 = .ok (.if_icmp .ge 20, 3) := dk_162 0 20 (dk_at dksX9_leastIn_5 19 rfl rfl)
theorem dX9_leastIn_140 : decode cX9_leastIn 140 = .ok (.aload_n 0, 1) := dk_42 (dk_at dksX9_leastIn_5 22 rfl rfl)
theorem dX9_leastIn_141 : decode cX9_leastIn 141 = .ok (.getfield 58, 3) := dk_180 0 58 (dk_at dksX9_leastIn_6 0 rfl rfl)
theorem dX9_leastIn_144 : decode cX9_leastIn 144 = .ok (.bipush 33, 2) := dk_16 33 (dk_at dksX9_leastIn_6 3 rfl rfl)
theorem dX9_leastIn_146 : decode cX9_leastIn 146 = .ok (.iload_n 3, 1) := dk_29 (dk_at dksX9_leastIn_6 5 rfl rfl)
theorem dX9_leastIn_147 : decode cX9_leastIn 147 = .ok (.imul, 1) := dk_104 (dk_at dksX9_leastIn_6 6 rfl rfl)
theorem dX9_leastIn_148 : decode cX9_leastIn 148 = .ok (.iload 5, 2) := dk_21 5 (dk_at dksX9_leastIn_6 7 rfl rfl)
theorem dX9_leastIn_150 : decode cX9_leastIn 150 = .ok (.iadd, 1) := dk_96 (dk_at dksX9_leastIn_6 9 rfl rfl)
theorem dX9_leastIn_151 : decode cX9_leastIn 151 = .ok (.iconst 1, 1) := dk_4 (dk_at dksX9_leastIn_6 10 rfl rfl)
theorem dX9_leastIn_152 : decode cX9_leastIn 152 = .ok (.iadd, 1) := dk_96 (dk_at dksX9_leastIn_6 11 rfl rfl)
theorem dX9_leastIn_153 : decode cX9_leastIn 153 = .ok (.iaload, 1) := dk_46 (dk_at dksX9_leastIn_6 12 rfl rfl)
theorem dX9_leastIn_154 : decode cX9_leastIn 154 = .ok (.goto 5, 3) := dk_167 0 5 (dk_at dksX9_leastIn_6 13 rfl rfl)
theorem dX9_leastIn_157 : decode cX9_leastIn 157 = .ok (.ldc 240, 2) := dk_18 240 (dk_at dksX9_leastIn_6 16 rfl rfl)
theorem dX9_leastIn_159 : decode cX9_leastIn 159 = .ok (.istore 7, 2) := dk_54 7 (dk_at dksX9_leastIn_6 18 rfl rfl)
theorem dX9_leastIn_161 : decode cX9_leastIn 161 = .ok (.aload_n 0, 1) := dk_42 (dk_at dksX9_leastIn_6 20 rfl rfl)
theorem dX9_leastIn_162 : decode cX9_leastIn 162 = .ok (.getfield 58, 3) := dk_180 0 58 (dk_at dksX9_leastIn_6 21 rfl rfl)
theorem dX9_leastIn_165 : decode cX9_leastIn 165 = .ok (.bipush 33, 2) := dk_16 33 (dk_at dksX9_leastIn_7 0 rfl rfl)
theorem dX9_leastIn_167 : decode cX9_leastIn 167 = .ok (.iload_n 3, 1) := dk_29 (dk_at dksX9_leastIn_7 2 rfl rfl)
theorem dX9_leastIn_168 : decode cX9_leastIn 168 = .ok (.imul, 1) := dk_104 (dk_at dksX9_leastIn_7 3 rfl rfl)
theorem dX9_leastIn_169 : decode cX9_leastIn 169 = .ok (.iload 5, 2) := dk_21 5 (dk_at dksX9_leastIn_7 4 rfl rfl)
theorem dX9_leastIn_171 : decode cX9_leastIn 171 = .ok (.iadd, 1) := dk_96 (dk_at dksX9_leastIn_7 6 rfl rfl)
theorem dX9_leastIn_172 : decode cX9_leastIn 172 = .ok (.iload 7, 2) := dk_21 7 (dk_at dksX9_leastIn_7 7 rfl rfl)
theorem dX9_leastIn_174 : decode cX9_leastIn 174 = .ok (.iload 6, 2) := dk_21 6 (dk_at dksX9_leastIn_7 9 rfl rfl)
theorem dX9_leastIn_176 : decode cX9_leastIn 176 = .ok (.if_icmp .ge 8, 3) := dk_162 0 8 (dk_at dksX9_leastIn_7 11 rfl rfl)
theorem dX9_leastIn_179 : decode cX9_leastIn 179 = .ok (.iload 7, 2) := dk_21 7 (dk_at dksX9_leastIn_7 14 rfl rfl)
theorem dX9_leastIn_181 : decode cX9_leastIn 181 = .ok (.goto 5, 3) := dk_167 0 5 (dk_at dksX9_leastIn_7 16 rfl rfl)
theorem dX9_leastIn_184 : decode cX9_leastIn 184 = .ok (.iload 6, 2) := dk_21 6 (dk_at dksX9_leastIn_7 19 rfl rfl)
theorem dX9_leastIn_186 : decode cX9_leastIn 186 = .ok (.iastore, 1) := dk_79 (dk_at dksX9_leastIn_7 21 rfl rfl)
theorem dX9_leastIn_187 : decode cX9_leastIn 187 = .ok (.iinc 5 (-1), 3) := dk_132 5 255 (dk_at dksX9_leastIn_8 0 rfl rfl)
theorem dX9_leastIn_190 : decode cX9_leastIn 190 = .ok (.goto (-133), 3) := dk_167 255 123 (dk_at dksX9_leastIn_8 3 rfl rfl)
theorem dX9_leastIn_193 : decode cX9_leastIn 193 = .ok (.iinc 3 (-1), 3) := dk_132 3 255 (dk_at dksX9_leastIn_8 6 rfl rfl)
theorem dX9_leastIn_196 : decode cX9_leastIn 196 = .ok (.goto (-154), 3) := dk_167 255 102 (dk_at dksX9_leastIn_8 9 rfl rfl)
theorem dX9_leastIn_199 : decode cX9_leastIn 199 = .ok (.aload_n 0, 1) := dk_42 (dk_at dksX9_leastIn_8 12 rfl rfl)
theorem dX9_leastIn_200 : decode cX9_leastIn 200 = .ok (.getfield 58, 3) := dk_180 0 58 (dk_at dksX9_leastIn_8 13 rfl rfl)
theorem dX9_leastIn_203 : decode cX9_leastIn 203 = .ok (.iconst 0, 1) := dk_3 (dk_at dksX9_leastIn_8 16 rfl rfl)
theorem dX9_leastIn_204 : decode cX9_leastIn 204 = .ok (.iaload, 1) := dk_46 (dk_at dksX9_leastIn_8 17 rfl rfl)
theorem dX9_leastIn_205 : decode cX9_leastIn 205 = .ok (.ireturn, 1) := dk_172 (dk_at dksX9_leastIn_8 18 rfl rfl)
abbrev cX9_moveAt : ByteArray := prog_15_method_88_code
def yX9_moveAt : MethodName := ⟨RX9, "moveAt", "(II)I"⟩
def dkwX9_moveAt_1 : List UInt8 := [172]
abbrev dktX9_moveAt_1 : List UInt8 := dkwX9_moveAt_1 ++ []
def dkwX9_moveAt_0 : List UInt8 := [42, 27, 182, 0, 137, 16, 16, 28, 104, 42, 180, 0, 16, 27, 184, 0, 112, 6, 96, 46, 184, 0, 216, 104]
abbrev dktX9_moveAt_0 : List UInt8 := dkwX9_moveAt_0 ++ dktX9_moveAt_1
theorem dksX9_moveAt_0 : cX9_moveAt.data.toList.drop 0 = dktX9_moveAt_0 := by decide +kernel
theorem dksX9_moveAt_1 : cX9_moveAt.data.toList.drop 24 = dktX9_moveAt_1 := dk_seg dksX9_moveAt_0 24 rfl rfl
theorem dX9_moveAt_0 : decode cX9_moveAt 0 = .ok (.aload_n 0, 1) := dk_42 (dk_at dksX9_moveAt_0 0 rfl rfl)
theorem dX9_moveAt_1 : decode cX9_moveAt 1 = .ok (.iload_n 1, 1) := dk_27 (dk_at dksX9_moveAt_0 1 rfl rfl)
theorem dX9_moveAt_2 : decode cX9_moveAt 2 = .ok (.invokevirtual 137, 3) := dk_182 0 137 (dk_at dksX9_moveAt_0 2 rfl rfl)
theorem dX9_moveAt_5 : decode cX9_moveAt 5 = .ok (.bipush 16, 2) := dk_16 16 (dk_at dksX9_moveAt_0 5 rfl rfl)
theorem dX9_moveAt_7 : decode cX9_moveAt 7 = .ok (.iload_n 2, 1) := dk_28 (dk_at dksX9_moveAt_0 7 rfl rfl)
theorem dX9_moveAt_8 : decode cX9_moveAt 8 = .ok (.imul, 1) := dk_104 (dk_at dksX9_moveAt_0 8 rfl rfl)
theorem dX9_moveAt_9 : decode cX9_moveAt 9 = .ok (.aload_n 0, 1) := dk_42 (dk_at dksX9_moveAt_0 9 rfl rfl)
theorem dX9_moveAt_10 : decode cX9_moveAt 10 = .ok (.getfield 16, 3) := dk_180 0 16 (dk_at dksX9_moveAt_0 10 rfl rfl)
theorem dX9_moveAt_13 : decode cX9_moveAt 13 = .ok (.iload_n 1, 1) := dk_27 (dk_at dksX9_moveAt_0 13 rfl rfl)
theorem dX9_moveAt_14 : decode cX9_moveAt 14 = .ok (.invokestatic 112, 3) := dk_184 0 112 (dk_at dksX9_moveAt_0 14 rfl rfl)
theorem dX9_moveAt_17 : decode cX9_moveAt 17 = .ok (.iconst 3, 1) := dk_6 (dk_at dksX9_moveAt_0 17 rfl rfl)
theorem dX9_moveAt_18 : decode cX9_moveAt 18 = .ok (.iadd, 1) := dk_96 (dk_at dksX9_moveAt_0 18 rfl rfl)
theorem dX9_moveAt_19 : decode cX9_moveAt 19 = .ok (.iaload, 1) := dk_46 (dk_at dksX9_moveAt_0 19 rfl rfl)
theorem dX9_moveAt_20 : decode cX9_moveAt 20 = .ok (.invokestatic 216, 3) := dk_184 0 216 (dk_at dksX9_moveAt_0 20 rfl rfl)
theorem dX9_moveAt_23 : decode cX9_moveAt 23 = .ok (.imul, 1) := dk_104 (dk_at dksX9_moveAt_0 23 rfl rfl)
theorem dX9_moveAt_24 : decode cX9_moveAt 24 = .ok (.ireturn, 1) := dk_172 (dk_at dksX9_moveAt_1 0 rfl rfl)
abbrev cX9_placeRun : ByteArray := prog_15_method_95_code
def yX9_placeRun : MethodName := ⟨RX9, "placeRun", "(I)V"⟩
def dkwX9_placeRun_6 : List UInt8 := [61, 132, 3, 1, 167, 255, 132, 177]
abbrev dktX9_placeRun_6 : List UInt8 := dkwX9_placeRun_6 ++ []
def dkwX9_placeRun_5 : List UInt8 := [180, 0, 34, 27, 46, 42, 180, 0, 40, 27, 46, 28, 96, 182, 0, 219, 28, 42, 21, 4, 182, 0, 137, 96]
abbrev dktX9_placeRun_5 : List UInt8 := dkwX9_placeRun_5 ++ dktX9_placeRun_6
def dkwX9_placeRun_4 : List UInt8 := [21, 4, 182, 0, 137, 96, 46, 96, 21, 5, 159, 0, 9, 132, 2, 1, 167, 255, 196, 42, 21, 4, 42]
abbrev dktX9_placeRun_4 : List UInt8 := dkwX9_placeRun_4 ++ dktX9_placeRun_5
def dkwX9_placeRun_3 : List UInt8 := [180, 0, 40, 27, 46, 28, 96, 182, 1, 85, 42, 180, 0, 58, 16, 33, 29, 4, 96, 104, 28, 96, 42]
abbrev dktX9_placeRun_3 : List UInt8 := dkwX9_placeRun_3 ++ dktX9_placeRun_4
def dkwX9_placeRun_2 : List UInt8 := [46, 54, 5, 28, 42, 21, 4, 182, 0, 137, 96, 42, 180, 0, 43, 27, 46, 163, 0, 43, 42, 21, 4, 42]
abbrev dktX9_placeRun_2 : List UInt8 := dkwX9_placeRun_2 ++ dktX9_placeRun_3
def dkwX9_placeRun_1 : List UInt8 := [180, 1, 82, 162, 0, 122, 42, 180, 0, 55, 29, 46, 54, 4, 42, 180, 0, 58, 16, 33, 29, 104, 28, 96]
abbrev dktX9_placeRun_1 : List UInt8 := dkwX9_placeRun_1 ++ dktX9_placeRun_2
def dkwX9_placeRun_0 : List UInt8 := [42, 27, 42, 180, 1, 88, 2, 182, 1, 94, 42, 27, 182, 1, 100, 87, 3, 61, 3, 62, 29, 42]
abbrev dktX9_placeRun_0 : List UInt8 := dkwX9_placeRun_0 ++ dktX9_placeRun_1
theorem dksX9_placeRun_0 : cX9_placeRun.data.toList.drop 0 = dktX9_placeRun_0 := by decide +kernel
theorem dksX9_placeRun_1 : cX9_placeRun.data.toList.drop 22 = dktX9_placeRun_1 := dk_seg dksX9_placeRun_0 22 rfl rfl
theorem dksX9_placeRun_2 : cX9_placeRun.data.toList.drop 46 = dktX9_placeRun_2 := dk_seg dksX9_placeRun_1 24 rfl rfl
theorem dksX9_placeRun_3 : cX9_placeRun.data.toList.drop 70 = dktX9_placeRun_3 := dk_seg dksX9_placeRun_2 24 rfl rfl
theorem dksX9_placeRun_4 : cX9_placeRun.data.toList.drop 93 = dktX9_placeRun_4 := dk_seg dksX9_placeRun_3 23 rfl rfl
theorem dksX9_placeRun_5 : cX9_placeRun.data.toList.drop 116 = dktX9_placeRun_5 := dk_seg dksX9_placeRun_4 23 rfl rfl
theorem dksX9_placeRun_6 : cX9_placeRun.data.toList.drop 140 = dktX9_placeRun_6 := dk_seg dksX9_placeRun_5 24 rfl rfl
theorem dX9_placeRun_0 : decode cX9_placeRun 0 = .ok (.aload_n 0, 1) := dk_42 (dk_at dksX9_placeRun_0 0 rfl rfl)
theorem dX9_placeRun_1 : decode cX9_placeRun 1 = .ok (.iload_n 1, 1) := dk_27 (dk_at dksX9_placeRun_0 1 rfl rfl)
theorem dX9_placeRun_2 : decode cX9_placeRun 2 = .ok (.aload_n 0, 1) := dk_42 (dk_at dksX9_placeRun_0 2 rfl rfl)
theorem dX9_placeRun_3 : decode cX9_placeRun 3 = .ok (.getfield 344, 3) := dk_180 1 88 (dk_at dksX9_placeRun_0 3 rfl rfl)
theorem dX9_placeRun_6 : decode cX9_placeRun 6 = .ok (.iconst (-1), 1) := dk_2 (dk_at dksX9_placeRun_0 6 rfl rfl)
theorem dX9_placeRun_7 : decode cX9_placeRun 7 = .ok (.invokevirtual 350, 3) := dk_182 1 94 (dk_at dksX9_placeRun_0 7 rfl rfl)
theorem dX9_placeRun_10 : decode cX9_placeRun 10 = .ok (.aload_n 0, 1) := dk_42 (dk_at dksX9_placeRun_0 10 rfl rfl)
theorem dX9_placeRun_11 : decode cX9_placeRun 11 = .ok (.iload_n 1, 1) := dk_27 (dk_at dksX9_placeRun_0 11 rfl rfl)
theorem dX9_placeRun_12 : decode cX9_placeRun 12 = .ok (.invokevirtual 356, 3) := dk_182 1 100 (dk_at dksX9_placeRun_0 12 rfl rfl)
theorem dX9_placeRun_15 : decode cX9_placeRun 15 = .ok (.pop, 1) := dk_87 (dk_at dksX9_placeRun_0 15 rfl rfl)
theorem dX9_placeRun_16 : decode cX9_placeRun 16 = .ok (.iconst 0, 1) := dk_3 (dk_at dksX9_placeRun_0 16 rfl rfl)
theorem dX9_placeRun_17 : decode cX9_placeRun 17 = .ok (.istore_n 2, 1) := dk_61 (dk_at dksX9_placeRun_0 17 rfl rfl)
theorem dX9_placeRun_18 : decode cX9_placeRun 18 = .ok (.iconst 0, 1) := dk_3 (dk_at dksX9_placeRun_0 18 rfl rfl)
theorem dX9_placeRun_19 : decode cX9_placeRun 19 = .ok (.istore_n 3, 1) := dk_62 (dk_at dksX9_placeRun_0 19 rfl rfl)
theorem dX9_placeRun_20 : decode cX9_placeRun 20 = .ok (.iload_n 3, 1) := dk_29 (dk_at dksX9_placeRun_0 20 rfl rfl)
theorem dX9_placeRun_21 : decode cX9_placeRun 21 = .ok (.aload_n 0, 1) := dk_42 (dk_at dksX9_placeRun_0 21 rfl rfl)
theorem dX9_placeRun_22 : decode cX9_placeRun 22 = .ok (.getfield 338, 3) := dk_180 1 82 (dk_at dksX9_placeRun_1 0 rfl rfl)
theorem dX9_placeRun_25 : decode cX9_placeRun 25 = .ok (.if_icmp .ge 122, 3) := dk_162 0 122 (dk_at dksX9_placeRun_1 3 rfl rfl)
theorem dX9_placeRun_28 : decode cX9_placeRun 28 = .ok (.aload_n 0, 1) := dk_42 (dk_at dksX9_placeRun_1 6 rfl rfl)
theorem dX9_placeRun_29 : decode cX9_placeRun 29 = .ok (.getfield 55, 3) := dk_180 0 55 (dk_at dksX9_placeRun_1 7 rfl rfl)
theorem dX9_placeRun_32 : decode cX9_placeRun 32 = .ok (.iload_n 3, 1) := dk_29 (dk_at dksX9_placeRun_1 10 rfl rfl)
theorem dX9_placeRun_33 : decode cX9_placeRun 33 = .ok (.iaload, 1) := dk_46 (dk_at dksX9_placeRun_1 11 rfl rfl)
theorem dX9_placeRun_34 : decode cX9_placeRun 34 = .ok (.istore 4, 2) := dk_54 4 (dk_at dksX9_placeRun_1 12 rfl rfl)
theorem dX9_placeRun_36 : decode cX9_placeRun 36 = .ok (.aload_n 0, 1) := dk_42 (dk_at dksX9_placeRun_1 14 rfl rfl)
theorem dX9_placeRun_37 : decode cX9_placeRun 37 = .ok (.getfield 58, 3) := dk_180 0 58 (dk_at dksX9_placeRun_1 15 rfl rfl)
theorem dX9_placeRun_40 : decode cX9_placeRun 40 = .ok (.bipush 33, 2) := dk_16 33 (dk_at dksX9_placeRun_1 18 rfl rfl)
theorem dX9_placeRun_42 : decode cX9_placeRun 42 = .ok (.iload_n 3, 1) := dk_29 (dk_at dksX9_placeRun_1 20 rfl rfl)
theorem dX9_placeRun_43 : decode cX9_placeRun 43 = .ok (.imul, 1) := dk_104 (dk_at dksX9_placeRun_1 21 rfl rfl)
theorem dX9_placeRun_44 : decode cX9_placeRun 44 = .ok (.iload_n 2, 1) := dk_28 (dk_at dksX9_placeRun_1 22 rfl rfl)
theorem dX9_placeRun_45 : decode cX9_placeRun 45 = .ok (.iadd, 1) := dk_96 (dk_at dksX9_placeRun_1 23 rfl rfl)
theorem dX9_placeRun_46 : decode cX9_placeRun 46 = .ok (.iaload, 1) := dk_46 (dk_at dksX9_placeRun_2 0 rfl rfl)
theorem dX9_placeRun_47 : decode cX9_placeRun 47 = .ok (.istore 5, 2) := dk_54 5 (dk_at dksX9_placeRun_2 1 rfl rfl)
theorem dX9_placeRun_49 : decode cX9_placeRun 49 = .ok (.iload_n 2, 1) := dk_28 (dk_at dksX9_placeRun_2 3 rfl rfl)
theorem dX9_placeRun_50 : decode cX9_placeRun 50 = .ok (.aload_n 0, 1) := dk_42 (dk_at dksX9_placeRun_2 4 rfl rfl)
theorem dX9_placeRun_51 : decode cX9_placeRun 51 = .ok (.iload 4, 2) := dk_21 4 (dk_at dksX9_placeRun_2 5 rfl rfl)
theorem dX9_placeRun_53 : decode cX9_placeRun 53 = .ok (.invokevirtual 137, 3) := dk_182 0 137 (dk_at dksX9_placeRun_2 7 rfl rfl)
theorem dX9_placeRun_56 : decode cX9_placeRun 56 = .ok (.iadd, 1) := dk_96 (dk_at dksX9_placeRun_2 10 rfl rfl)
theorem dX9_placeRun_57 : decode cX9_placeRun 57 = .ok (.aload_n 0, 1) := dk_42 (dk_at dksX9_placeRun_2 11 rfl rfl)
theorem dX9_placeRun_58 : decode cX9_placeRun 58 = .ok (.getfield 43, 3) := dk_180 0 43 (dk_at dksX9_placeRun_2 12 rfl rfl)
theorem dX9_placeRun_61 : decode cX9_placeRun 61 = .ok (.iload_n 1, 1) := dk_27 (dk_at dksX9_placeRun_2 15 rfl rfl)
theorem dX9_placeRun_62 : decode cX9_placeRun 62 = .ok (.iaload, 1) := dk_46 (dk_at dksX9_placeRun_2 16 rfl rfl)
theorem dX9_placeRun_63 : decode cX9_placeRun 63 = .ok (.if_icmp .gt 43, 3) := dk_163 0 43 (dk_at dksX9_placeRun_2 17 rfl rfl)
theorem dX9_placeRun_66 : decode cX9_placeRun 66 = .ok (.aload_n 0, 1) := dk_42 (dk_at dksX9_placeRun_2 20 rfl rfl)
theorem dX9_placeRun_67 : decode cX9_placeRun 67 = .ok (.iload 4, 2) := dk_21 4 (dk_at dksX9_placeRun_2 21 rfl rfl)
theorem dX9_placeRun_69 : decode cX9_placeRun 69 = .ok (.aload_n 0, 1) := dk_42 (dk_at dksX9_placeRun_2 23 rfl rfl)
theorem dX9_placeRun_70 : decode cX9_placeRun 70 = .ok (.getfield 40, 3) := dk_180 0 40 (dk_at dksX9_placeRun_3 0 rfl rfl)
theorem dX9_placeRun_73 : decode cX9_placeRun 73 = .ok (.iload_n 1, 1) := dk_27 (dk_at dksX9_placeRun_3 3 rfl rfl)
theorem dX9_placeRun_74 : decode cX9_placeRun 74 = .ok (.iaload, 1) := dk_46 (dk_at dksX9_placeRun_3 4 rfl rfl)
theorem dX9_placeRun_75 : decode cX9_placeRun 75 = .ok (.iload_n 2, 1) := dk_28 (dk_at dksX9_placeRun_3 5 rfl rfl)
theorem dX9_placeRun_76 : decode cX9_placeRun 76 = .ok (.iadd, 1) := dk_96 (dk_at dksX9_placeRun_3 6 rfl rfl)
theorem dX9_placeRun_77 : decode cX9_placeRun 77 = .ok (.invokevirtual 341, 3) := dk_182 1 85 (dk_at dksX9_placeRun_3 7 rfl rfl)
theorem dX9_placeRun_80 : decode cX9_placeRun 80 = .ok (.aload_n 0, 1) := dk_42 (dk_at dksX9_placeRun_3 10 rfl rfl)
theorem dX9_placeRun_81 : decode cX9_placeRun 81 = .ok (.getfield 58, 3) := dk_180 0 58 (dk_at dksX9_placeRun_3 11 rfl rfl)
theorem dX9_placeRun_84 : decode cX9_placeRun 84 = .ok (.bipush 33, 2) := dk_16 33 (dk_at dksX9_placeRun_3 14 rfl rfl)
theorem dX9_placeRun_86 : decode cX9_placeRun 86 = .ok (.iload_n 3, 1) := dk_29 (dk_at dksX9_placeRun_3 16 rfl rfl)
theorem dX9_placeRun_87 : decode cX9_placeRun 87 = .ok (.iconst 1, 1) := dk_4 (dk_at dksX9_placeRun_3 17 rfl rfl)
theorem dX9_placeRun_88 : decode cX9_placeRun 88 = .ok (.iadd, 1) := dk_96 (dk_at dksX9_placeRun_3 18 rfl rfl)
theorem dX9_placeRun_89 : decode cX9_placeRun 89 = .ok (.imul, 1) := dk_104 (dk_at dksX9_placeRun_3 19 rfl rfl)
theorem dX9_placeRun_90 : decode cX9_placeRun 90 = .ok (.iload_n 2, 1) := dk_28 (dk_at dksX9_placeRun_3 20 rfl rfl)
theorem dX9_placeRun_91 : decode cX9_placeRun 91 = .ok (.iadd, 1) := dk_96 (dk_at dksX9_placeRun_3 21 rfl rfl)
theorem dX9_placeRun_92 : decode cX9_placeRun 92 = .ok (.aload_n 0, 1) := dk_42 (dk_at dksX9_placeRun_3 22 rfl rfl)
theorem dX9_placeRun_93 : decode cX9_placeRun 93 = .ok (.iload 4, 2) := dk_21 4 (dk_at dksX9_placeRun_4 0 rfl rfl)
theorem dX9_placeRun_95 : decode cX9_placeRun 95 = .ok (.invokevirtual 137, 3) := dk_182 0 137 (dk_at dksX9_placeRun_4 2 rfl rfl)
theorem dX9_placeRun_98 : decode cX9_placeRun 98 = .ok (.iadd, 1) := dk_96 (dk_at dksX9_placeRun_4 5 rfl rfl)
theorem dX9_placeRun_99 : decode cX9_placeRun 99 = .ok (.iaload, 1) := dk_46 (dk_at dksX9_placeRun_4 6 rfl rfl)
theorem dX9_placeRun_100 : decode cX9_placeRun 100 = .ok (.iadd, 1) := dk_96 (dk_at dksX9_placeRun_4 7 rfl rfl)
theorem dX9_placeRun_101 : decode cX9_placeRun 101 = .ok (.iload 5, 2) := dk_21 5 (dk_at dksX9_placeRun_4 8 rfl rfl)
theorem dX9_placeRun_103 : decode cX9_placeRun 103 = .ok (.if_icmp .eq 9, 3) := dk_159 0 9 (dk_at dksX9_placeRun_4 10 rfl rfl)
theorem dX9_placeRun_106 : decode cX9_placeRun 106 = .ok (.iinc 2 1, 3) := dk_132 2 1 (dk_at dksX9_placeRun_4 13 rfl rfl)
theorem dX9_placeRun_109 : decode cX9_placeRun 109 = .ok (.goto (-60), 3) := dk_167 255 196 (dk_at dksX9_placeRun_4 16 rfl rfl)
theorem dX9_placeRun_112 : decode cX9_placeRun 112 = .ok (.aload_n 0, 1) := dk_42 (dk_at dksX9_placeRun_4 19 rfl rfl)
theorem dX9_placeRun_113 : decode cX9_placeRun 113 = .ok (.iload 4, 2) := dk_21 4 (dk_at dksX9_placeRun_4 20 rfl rfl)
theorem dX9_placeRun_115 : decode cX9_placeRun 115 = .ok (.aload_n 0, 1) := dk_42 (dk_at dksX9_placeRun_4 22 rfl rfl)
theorem dX9_placeRun_116 : decode cX9_placeRun 116 = .ok (.getfield 34, 3) := dk_180 0 34 (dk_at dksX9_placeRun_5 0 rfl rfl)
theorem dX9_placeRun_119 : decode cX9_placeRun 119 = .ok (.iload_n 1, 1) := dk_27 (dk_at dksX9_placeRun_5 3 rfl rfl)
theorem dX9_placeRun_120 : decode cX9_placeRun 120 = .ok (.iaload, 1) := dk_46 (dk_at dksX9_placeRun_5 4 rfl rfl)
theorem dX9_placeRun_121 : decode cX9_placeRun 121 = .ok (.aload_n 0, 1) := dk_42 (dk_at dksX9_placeRun_5 5 rfl rfl)
theorem dX9_placeRun_122 : decode cX9_placeRun 122 = .ok (.getfield 40, 3) := dk_180 0 40 (dk_at dksX9_placeRun_5 6 rfl rfl)
theorem dX9_placeRun_125 : decode cX9_placeRun 125 = .ok (.iload_n 1, 1) := dk_27 (dk_at dksX9_placeRun_5 9 rfl rfl)
theorem dX9_placeRun_126 : decode cX9_placeRun 126 = .ok (.iaload, 1) := dk_46 (dk_at dksX9_placeRun_5 10 rfl rfl)
theorem dX9_placeRun_127 : decode cX9_placeRun 127 = .ok (.iload_n 2, 1) := dk_28 (dk_at dksX9_placeRun_5 11 rfl rfl)
theorem dX9_placeRun_128 : decode cX9_placeRun 128 = .ok (.iadd, 1) := dk_96 (dk_at dksX9_placeRun_5 12 rfl rfl)
theorem dX9_placeRun_129 : decode cX9_placeRun 129 = .ok (.invokevirtual 219, 3) := dk_182 0 219 (dk_at dksX9_placeRun_5 13 rfl rfl)
theorem dX9_placeRun_132 : decode cX9_placeRun 132 = .ok (.iload_n 2, 1) := dk_28 (dk_at dksX9_placeRun_5 16 rfl rfl)
theorem dX9_placeRun_133 : decode cX9_placeRun 133 = .ok (.aload_n 0, 1) := dk_42 (dk_at dksX9_placeRun_5 17 rfl rfl)
theorem dX9_placeRun_134 : decode cX9_placeRun 134 = .ok (.iload 4, 2) := dk_21 4 (dk_at dksX9_placeRun_5 18 rfl rfl)
theorem dX9_placeRun_136 : decode cX9_placeRun 136 = .ok (.invokevirtual 137, 3) := dk_182 0 137 (dk_at dksX9_placeRun_5 20 rfl rfl)
theorem dX9_placeRun_139 : decode cX9_placeRun 139 = .ok (.iadd, 1) := dk_96 (dk_at dksX9_placeRun_5 23 rfl rfl)
theorem dX9_placeRun_140 : decode cX9_placeRun 140 = .ok (.istore_n 2, 1) := dk_61 (dk_at dksX9_placeRun_6 0 rfl rfl)
theorem dX9_placeRun_141 : decode cX9_placeRun 141 = .ok (.iinc 3 1, 3) := dk_132 3 1 (dk_at dksX9_placeRun_6 1 rfl rfl)
theorem dX9_placeRun_144 : decode cX9_placeRun 144 = .ok (.goto (-124), 3) := dk_167 255 132 (dk_at dksX9_placeRun_6 4 rfl rfl)
theorem dX9_placeRun_147 : decode cX9_placeRun 147 = .ok (.return_, 1) := dk_177 (dk_at dksX9_placeRun_6 7 rfl rfl)
abbrev cX9_looseMoves : ByteArray := prog_15_method_97_code
def yX9_looseMoves : MethodName := ⟨RX9, "looseMoves", "()I"⟩
def dkwX9_looseMoves_1 : List UInt8 := [28, 182, 1, 115, 167, 0, 4, 3, 96, 60, 132, 2, 1, 167, 255, 223, 27, 172]
abbrev dktX9_looseMoves_1 : List UInt8 := dkwX9_looseMoves_1 ++ []
def dkwX9_looseMoves_0 : List UInt8 := [3, 60, 3, 61, 28, 42, 180, 0, 16, 5, 46, 162, 0, 29, 27, 42, 28, 182, 0, 161, 153, 0, 11, 42]
abbrev dktX9_looseMoves_0 : List UInt8 := dkwX9_looseMoves_0 ++ dktX9_looseMoves_1
theorem dksX9_looseMoves_0 : cX9_looseMoves.data.toList.drop 0 = dktX9_looseMoves_0 := by decide +kernel
theorem dksX9_looseMoves_1 : cX9_looseMoves.data.toList.drop 24 = dktX9_looseMoves_1 := dk_seg dksX9_looseMoves_0 24 rfl rfl
theorem dX9_looseMoves_0 : decode cX9_looseMoves 0 = .ok (.iconst 0, 1) := dk_3 (dk_at dksX9_looseMoves_0 0 rfl rfl)
theorem dX9_looseMoves_1 : decode cX9_looseMoves 1 = .ok (.istore_n 1, 1) := dk_60 (dk_at dksX9_looseMoves_0 1 rfl rfl)
theorem dX9_looseMoves_2 : decode cX9_looseMoves 2 = .ok (.iconst 0, 1) := dk_3 (dk_at dksX9_looseMoves_0 2 rfl rfl)
theorem dX9_looseMoves_3 : decode cX9_looseMoves 3 = .ok (.istore_n 2, 1) := dk_61 (dk_at dksX9_looseMoves_0 3 rfl rfl)
theorem dX9_looseMoves_4 : decode cX9_looseMoves 4 = .ok (.iload_n 2, 1) := dk_28 (dk_at dksX9_looseMoves_0 4 rfl rfl)
theorem dX9_looseMoves_5 : decode cX9_looseMoves 5 = .ok (.aload_n 0, 1) := dk_42 (dk_at dksX9_looseMoves_0 5 rfl rfl)
theorem dX9_looseMoves_6 : decode cX9_looseMoves 6 = .ok (.getfield 16, 3) := dk_180 0 16 (dk_at dksX9_looseMoves_0 6 rfl rfl)
theorem dX9_looseMoves_9 : decode cX9_looseMoves 9 = .ok (.iconst 2, 1) := dk_5 (dk_at dksX9_looseMoves_0 9 rfl rfl)
theorem dX9_looseMoves_10 : decode cX9_looseMoves 10 = .ok (.iaload, 1) := dk_46 (dk_at dksX9_looseMoves_0 10 rfl rfl)
theorem dX9_looseMoves_11 : decode cX9_looseMoves 11 = .ok (.if_icmp .ge 29, 3) := dk_162 0 29 (dk_at dksX9_looseMoves_0 11 rfl rfl)
theorem dX9_looseMoves_14 : decode cX9_looseMoves 14 = .ok (.iload_n 1, 1) := dk_27 (dk_at dksX9_looseMoves_0 14 rfl rfl)
theorem dX9_looseMoves_15 : decode cX9_looseMoves 15 = .ok (.aload_n 0, 1) := dk_42 (dk_at dksX9_looseMoves_0 15 rfl rfl)
theorem dX9_looseMoves_16 : decode cX9_looseMoves 16 = .ok (.iload_n 2, 1) := dk_28 (dk_at dksX9_looseMoves_0 16 rfl rfl)
theorem dX9_looseMoves_17 : decode cX9_looseMoves 17 = .ok (.invokevirtual 161, 3) := dk_182 0 161 (dk_at dksX9_looseMoves_0 17 rfl rfl)
theorem dX9_looseMoves_20 : decode cX9_looseMoves 20 = .ok (.ifCond .eq 11, 3) := dk_153 0 11 (dk_at dksX9_looseMoves_0 20 rfl rfl)
theorem dX9_looseMoves_23 : decode cX9_looseMoves 23 = .ok (.aload_n 0, 1) := dk_42 (dk_at dksX9_looseMoves_0 23 rfl rfl)
theorem dX9_looseMoves_24 : decode cX9_looseMoves 24 = .ok (.iload_n 2, 1) := dk_28 (dk_at dksX9_looseMoves_1 0 rfl rfl)
theorem dX9_looseMoves_25 : decode cX9_looseMoves 25 = .ok (.invokevirtual 371, 3) := dk_182 1 115 (dk_at dksX9_looseMoves_1 1 rfl rfl)
theorem dX9_looseMoves_28 : decode cX9_looseMoves 28 = .ok (.goto 4, 3) := dk_167 0 4 (dk_at dksX9_looseMoves_1 4 rfl rfl)
theorem dX9_looseMoves_31 : decode cX9_looseMoves 31 = .ok (.iconst 0, 1) := dk_3 (dk_at dksX9_looseMoves_1 7 rfl rfl)
theorem dX9_looseMoves_32 : decode cX9_looseMoves 32 = .ok (.iadd, 1) := dk_96 (dk_at dksX9_looseMoves_1 8 rfl rfl)
theorem dX9_looseMoves_33 : decode cX9_looseMoves 33 = .ok (.istore_n 1, 1) := dk_60 (dk_at dksX9_looseMoves_1 9 rfl rfl)
theorem dX9_looseMoves_34 : decode cX9_looseMoves 34 = .ok (.iinc 2 1, 3) := dk_132 2 1 (dk_at dksX9_looseMoves_1 10 rfl rfl)
theorem dX9_looseMoves_37 : decode cX9_looseMoves 37 = .ok (.goto (-33), 3) := dk_167 255 223 (dk_at dksX9_looseMoves_1 13 rfl rfl)
theorem dX9_looseMoves_40 : decode cX9_looseMoves 40 = .ok (.iload_n 1, 1) := dk_27 (dk_at dksX9_looseMoves_1 16 rfl rfl)
theorem dX9_looseMoves_41 : decode cX9_looseMoves 41 = .ok (.ireturn, 1) := dk_172 (dk_at dksX9_looseMoves_1 17 rfl rfl)
abbrev cX9_moveOf : ByteArray := prog_15_method_74_code
def yX9_moveOf : MethodName := ⟨RX9, "moveOf", "(I)I"⟩
def dkwX9_moveOf_2 : List UInt8 := [96, 46, 104, 42, 180, 0, 16, 28, 7, 96, 46, 184, 0, 216, 104, 96, 104, 172]
abbrev dktX9_moveOf_2 : List UInt8 := dkwX9_moveOf_2 ++ []
def dkwX9_moveOf_1 : List UInt8 := [180, 0, 16, 28, 6, 96, 46, 184, 0, 216, 42, 180, 0, 13, 7, 46, 16, 16, 42, 180, 0, 16, 28, 8]
abbrev dktX9_moveOf_1 : List UInt8 := dkwX9_moveOf_1 ++ dktX9_moveOf_2
def dkwX9_moveOf_0 : List UInt8 := [27, 184, 0, 112, 61, 42, 180, 0, 16, 28, 46, 16, 16, 42, 180, 0, 16, 28, 16, 6, 96, 46, 104, 42]
abbrev dktX9_moveOf_0 : List UInt8 := dkwX9_moveOf_0 ++ dktX9_moveOf_1
theorem dksX9_moveOf_0 : cX9_moveOf.data.toList.drop 0 = dktX9_moveOf_0 := by decide +kernel
theorem dksX9_moveOf_1 : cX9_moveOf.data.toList.drop 24 = dktX9_moveOf_1 := dk_seg dksX9_moveOf_0 24 rfl rfl
theorem dksX9_moveOf_2 : cX9_moveOf.data.toList.drop 48 = dktX9_moveOf_2 := dk_seg dksX9_moveOf_1 24 rfl rfl
theorem dX9_moveOf_0 : decode cX9_moveOf 0 = .ok (.iload_n 1, 1) := dk_27 (dk_at dksX9_moveOf_0 0 rfl rfl)
theorem dX9_moveOf_1 : decode cX9_moveOf 1 = .ok (.invokestatic 112, 3) := dk_184 0 112 (dk_at dksX9_moveOf_0 1 rfl rfl)
theorem dX9_moveOf_4 : decode cX9_moveOf 4 = .ok (.istore_n 2, 1) := dk_61 (dk_at dksX9_moveOf_0 4 rfl rfl)
theorem dX9_moveOf_5 : decode cX9_moveOf 5 = .ok (.aload_n 0, 1) := dk_42 (dk_at dksX9_moveOf_0 5 rfl rfl)
theorem dX9_moveOf_6 : decode cX9_moveOf 6 = .ok (.getfield 16, 3) := dk_180 0 16 (dk_at dksX9_moveOf_0 6 rfl rfl)
theorem dX9_moveOf_9 : decode cX9_moveOf 9 = .ok (.iload_n 2, 1) := dk_28 (dk_at dksX9_moveOf_0 9 rfl rfl)
theorem dX9_moveOf_10 : decode cX9_moveOf 10 = .ok (.iaload, 1) := dk_46 (dk_at dksX9_moveOf_0 10 rfl rfl)
theorem dX9_moveOf_11 : decode cX9_moveOf 11 = .ok (.bipush 16, 2) := dk_16 16 (dk_at dksX9_moveOf_0 11 rfl rfl)
theorem dX9_moveOf_13 : decode cX9_moveOf 13 = .ok (.aload_n 0, 1) := dk_42 (dk_at dksX9_moveOf_0 13 rfl rfl)
theorem dX9_moveOf_14 : decode cX9_moveOf 14 = .ok (.getfield 16, 3) := dk_180 0 16 (dk_at dksX9_moveOf_0 14 rfl rfl)
theorem dX9_moveOf_17 : decode cX9_moveOf 17 = .ok (.iload_n 2, 1) := dk_28 (dk_at dksX9_moveOf_0 17 rfl rfl)
theorem dX9_moveOf_18 : decode cX9_moveOf 18 = .ok (.bipush 6, 2) := dk_16 6 (dk_at dksX9_moveOf_0 18 rfl rfl)
theorem dX9_moveOf_20 : decode cX9_moveOf 20 = .ok (.iadd, 1) := dk_96 (dk_at dksX9_moveOf_0 20 rfl rfl)
theorem dX9_moveOf_21 : decode cX9_moveOf 21 = .ok (.iaload, 1) := dk_46 (dk_at dksX9_moveOf_0 21 rfl rfl)
theorem dX9_moveOf_22 : decode cX9_moveOf 22 = .ok (.imul, 1) := dk_104 (dk_at dksX9_moveOf_0 22 rfl rfl)
theorem dX9_moveOf_23 : decode cX9_moveOf 23 = .ok (.aload_n 0, 1) := dk_42 (dk_at dksX9_moveOf_0 23 rfl rfl)
theorem dX9_moveOf_24 : decode cX9_moveOf 24 = .ok (.getfield 16, 3) := dk_180 0 16 (dk_at dksX9_moveOf_1 0 rfl rfl)
theorem dX9_moveOf_27 : decode cX9_moveOf 27 = .ok (.iload_n 2, 1) := dk_28 (dk_at dksX9_moveOf_1 3 rfl rfl)
theorem dX9_moveOf_28 : decode cX9_moveOf 28 = .ok (.iconst 3, 1) := dk_6 (dk_at dksX9_moveOf_1 4 rfl rfl)
theorem dX9_moveOf_29 : decode cX9_moveOf 29 = .ok (.iadd, 1) := dk_96 (dk_at dksX9_moveOf_1 5 rfl rfl)
theorem dX9_moveOf_30 : decode cX9_moveOf 30 = .ok (.iaload, 1) := dk_46 (dk_at dksX9_moveOf_1 6 rfl rfl)
theorem dX9_moveOf_31 : decode cX9_moveOf 31 = .ok (.invokestatic 216, 3) := dk_184 0 216 (dk_at dksX9_moveOf_1 7 rfl rfl)
theorem dX9_moveOf_34 : decode cX9_moveOf 34 = .ok (.aload_n 0, 1) := dk_42 (dk_at dksX9_moveOf_1 10 rfl rfl)
theorem dX9_moveOf_35 : decode cX9_moveOf 35 = .ok (.getfield 13, 3) := dk_180 0 13 (dk_at dksX9_moveOf_1 11 rfl rfl)
theorem dX9_moveOf_38 : decode cX9_moveOf 38 = .ok (.iconst 4, 1) := dk_7 (dk_at dksX9_moveOf_1 14 rfl rfl)
theorem dX9_moveOf_39 : decode cX9_moveOf 39 = .ok (.iaload, 1) := dk_46 (dk_at dksX9_moveOf_1 15 rfl rfl)
theorem dX9_moveOf_40 : decode cX9_moveOf 40 = .ok (.bipush 16, 2) := dk_16 16 (dk_at dksX9_moveOf_1 16 rfl rfl)
theorem dX9_moveOf_42 : decode cX9_moveOf 42 = .ok (.aload_n 0, 1) := dk_42 (dk_at dksX9_moveOf_1 18 rfl rfl)
theorem dX9_moveOf_43 : decode cX9_moveOf 43 = .ok (.getfield 16, 3) := dk_180 0 16 (dk_at dksX9_moveOf_1 19 rfl rfl)
theorem dX9_moveOf_46 : decode cX9_moveOf 46 = .ok (.iload_n 2, 1) := dk_28 (dk_at dksX9_moveOf_1 22 rfl rfl)
theorem dX9_moveOf_47 : decode cX9_moveOf 47 = .ok (.iconst 5, 1) := dk_8 (dk_at dksX9_moveOf_1 23 rfl rfl)
theorem dX9_moveOf_48 : decode cX9_moveOf 48 = .ok (.iadd, 1) := dk_96 (dk_at dksX9_moveOf_2 0 rfl rfl)
theorem dX9_moveOf_49 : decode cX9_moveOf 49 = .ok (.iaload, 1) := dk_46 (dk_at dksX9_moveOf_2 1 rfl rfl)
theorem dX9_moveOf_50 : decode cX9_moveOf 50 = .ok (.imul, 1) := dk_104 (dk_at dksX9_moveOf_2 2 rfl rfl)
theorem dX9_moveOf_51 : decode cX9_moveOf 51 = .ok (.aload_n 0, 1) := dk_42 (dk_at dksX9_moveOf_2 3 rfl rfl)
theorem dX9_moveOf_52 : decode cX9_moveOf 52 = .ok (.getfield 16, 3) := dk_180 0 16 (dk_at dksX9_moveOf_2 4 rfl rfl)
theorem dX9_moveOf_55 : decode cX9_moveOf 55 = .ok (.iload_n 2, 1) := dk_28 (dk_at dksX9_moveOf_2 7 rfl rfl)
theorem dX9_moveOf_56 : decode cX9_moveOf 56 = .ok (.iconst 4, 1) := dk_7 (dk_at dksX9_moveOf_2 8 rfl rfl)
theorem dX9_moveOf_57 : decode cX9_moveOf 57 = .ok (.iadd, 1) := dk_96 (dk_at dksX9_moveOf_2 9 rfl rfl)
theorem dX9_moveOf_58 : decode cX9_moveOf 58 = .ok (.iaload, 1) := dk_46 (dk_at dksX9_moveOf_2 10 rfl rfl)
theorem dX9_moveOf_59 : decode cX9_moveOf 59 = .ok (.invokestatic 216, 3) := dk_184 0 216 (dk_at dksX9_moveOf_2 11 rfl rfl)
theorem dX9_moveOf_62 : decode cX9_moveOf 62 = .ok (.imul, 1) := dk_104 (dk_at dksX9_moveOf_2 14 rfl rfl)
theorem dX9_moveOf_63 : decode cX9_moveOf 63 = .ok (.iadd, 1) := dk_96 (dk_at dksX9_moveOf_2 15 rfl rfl)
theorem dX9_moveOf_64 : decode cX9_moveOf 64 = .ok (.imul, 1) := dk_104 (dk_at dksX9_moveOf_2 16 rfl rfl)
theorem dX9_moveOf_65 : decode cX9_moveOf 65 = .ok (.ireturn, 1) := dk_172 (dk_at dksX9_moveOf_2 17 rfl rfl)
abbrev cX9_lawfully : ByteArray := prog_15_method_99_code
def yX9_lawfully : MethodName := ⟨RX9, "lawfully", "(I)I"⟩
def dkwX9_lawfully_3 : List UInt8 := [42, 180, 0, 25, 3, 42, 180, 0, 16, 3, 184, 0, 101, 29, 172]
abbrev dktX9_lawfully_3 : List UInt8 := dkwX9_lawfully_3 ++ []
def dkwX9_lawfully_2 : List UInt8 := [182, 0, 223, 167, 0, 20, 2, 167, 0, 16, 28, 153, 0, 10, 42, 182, 1, 122, 167, 0, 5, 16, 251, 62]
abbrev dktX9_lawfully_2 : List UInt8 := dkwX9_lawfully_2 ++ dktX9_lawfully_3
def dkwX9_lawfully_1 : List UInt8 := [180, 0, 25, 3, 184, 0, 101, 42, 182, 1, 118, 61, 27, 4, 160, 0, 18, 28, 153, 0, 10, 42]
abbrev dktX9_lawfully_1 : List UInt8 := dkwX9_lawfully_1 ++ dktX9_lawfully_2
def dkwX9_lawfully_0 : List UInt8 := [42, 3, 181, 0, 92, 27, 133, 9, 10, 184, 0, 122, 154, 0, 5, 2, 172, 42, 180, 0, 16, 3, 42]
abbrev dktX9_lawfully_0 : List UInt8 := dkwX9_lawfully_0 ++ dktX9_lawfully_1
theorem dksX9_lawfully_0 : cX9_lawfully.data.toList.drop 0 = dktX9_lawfully_0 := by decide +kernel
theorem dksX9_lawfully_1 : cX9_lawfully.data.toList.drop 23 = dktX9_lawfully_1 := dk_seg dksX9_lawfully_0 23 rfl rfl
theorem dksX9_lawfully_2 : cX9_lawfully.data.toList.drop 45 = dktX9_lawfully_2 := dk_seg dksX9_lawfully_1 22 rfl rfl
theorem dksX9_lawfully_3 : cX9_lawfully.data.toList.drop 69 = dktX9_lawfully_3 := dk_seg dksX9_lawfully_2 24 rfl rfl
theorem dX9_lawfully_0 : decode cX9_lawfully 0 = .ok (.aload_n 0, 1) := dk_42 (dk_at dksX9_lawfully_0 0 rfl rfl)
theorem dX9_lawfully_1 : decode cX9_lawfully 1 = .ok (.iconst 0, 1) := dk_3 (dk_at dksX9_lawfully_0 1 rfl rfl)
theorem dX9_lawfully_2 : decode cX9_lawfully 2 = .ok (.putfield 92, 3) := dk_181 0 92 (dk_at dksX9_lawfully_0 2 rfl rfl)
theorem dX9_lawfully_5 : decode cX9_lawfully 5 = .ok (.iload_n 1, 1) := dk_27 (dk_at dksX9_lawfully_0 5 rfl rfl)
theorem dX9_lawfully_6 : decode cX9_lawfully 6 = .ok (.i2l, 1) := dk_133 (dk_at dksX9_lawfully_0 6 rfl rfl)
theorem dX9_lawfully_7 : decode cX9_lawfully 7 = .ok (.lconst 0, 1) := dk_9 (dk_at dksX9_lawfully_0 7 rfl rfl)
theorem dX9_lawfully_8 : decode cX9_lawfully 8 = .ok (.lconst 1, 1) := dk_10 (dk_at dksX9_lawfully_0 8 rfl rfl)
theorem dX9_lawfully_9 : decode cX9_lawfully 9 = .ok (.invokestatic 122, 3) := dk_184 0 122 (dk_at dksX9_lawfully_0 9 rfl rfl)
theorem dX9_lawfully_12 : decode cX9_lawfully 12 = .ok (.ifCond .ne 5, 3) := dk_154 0 5 (dk_at dksX9_lawfully_0 12 rfl rfl)
theorem dX9_lawfully_15 : decode cX9_lawfully 15 = .ok (.iconst (-1), 1) := dk_2 (dk_at dksX9_lawfully_0 15 rfl rfl)
theorem dX9_lawfully_16 : decode cX9_lawfully 16 = .ok (.ireturn, 1) := dk_172 (dk_at dksX9_lawfully_0 16 rfl rfl)
theorem dX9_lawfully_17 : decode cX9_lawfully 17 = .ok (.aload_n 0, 1) := dk_42 (dk_at dksX9_lawfully_0 17 rfl rfl)
theorem dX9_lawfully_18 : decode cX9_lawfully 18 = .ok (.getfield 16, 3) := dk_180 0 16 (dk_at dksX9_lawfully_0 18 rfl rfl)
theorem dX9_lawfully_21 : decode cX9_lawfully 21 = .ok (.iconst 0, 1) := dk_3 (dk_at dksX9_lawfully_0 21 rfl rfl)
theorem dX9_lawfully_22 : decode cX9_lawfully 22 = .ok (.aload_n 0, 1) := dk_42 (dk_at dksX9_lawfully_0 22 rfl rfl)
theorem dX9_lawfully_23 : decode cX9_lawfully 23 = .ok (.getfield 25, 3) := dk_180 0 25 (dk_at dksX9_lawfully_1 0 rfl rfl)
theorem dX9_lawfully_26 : decode cX9_lawfully 26 = .ok (.iconst 0, 1) := dk_3 (dk_at dksX9_lawfully_1 3 rfl rfl)
theorem dX9_lawfully_27 : decode cX9_lawfully 27 = .ok (.invokestatic 101, 3) := dk_184 0 101 (dk_at dksX9_lawfully_1 4 rfl rfl)
theorem dX9_lawfully_30 : decode cX9_lawfully 30 = .ok (.aload_n 0, 1) := dk_42 (dk_at dksX9_lawfully_1 7 rfl rfl)
theorem dX9_lawfully_31 : decode cX9_lawfully 31 = .ok (.invokevirtual 374, 3) := dk_182 1 118 (dk_at dksX9_lawfully_1 8 rfl rfl)
theorem dX9_lawfully_34 : decode cX9_lawfully 34 = .ok (.istore_n 2, 1) := dk_61 (dk_at dksX9_lawfully_1 11 rfl rfl)
theorem dX9_lawfully_35 : decode cX9_lawfully 35 = .ok (.iload_n 1, 1) := dk_27 (dk_at dksX9_lawfully_1 12 rfl rfl)
theorem dX9_lawfully_36 : decode cX9_lawfully 36 = .ok (.iconst 1, 1) := dk_4 (dk_at dksX9_lawfully_1 13 rfl rfl)
theorem dX9_lawfully_37 : decode cX9_lawfully 37 = .ok (.if_icmp .ne 18, 3) := dk_160 0 18 (dk_at dksX9_lawfully_1 14 rfl rfl)
theorem dX9_lawfully_40 : decode cX9_lawfully 40 = .ok (.iload_n 2, 1) := dk_28 (dk_at dksX9_lawfully_1 17 rfl rfl)
theorem dX9_lawfully_41 : decode cX9_lawfully 41 = .ok (.ifCond .eq 10, 3) := dk_153 0 10 (dk_at dksX9_lawfully_1 18 rfl rfl)
theorem dX9_lawfully_44 : decode cX9_lawfully 44 = .ok (.aload_n 0, 1) := dk_42 (dk_at dksX9_lawfully_1 21 rfl rfl)
theorem dX9_lawfully_45 : decode cX9_lawfully 45 = .ok (.invokevirtual 223, 3) := dk_182 0 223 (dk_at dksX9_lawfully_2 0 rfl rfl)
theorem dX9_lawfully_48 : decode cX9_lawfully 48 = .ok (.goto 20, 3) := dk_167 0 20 (dk_at dksX9_lawfully_2 3 rfl rfl)
theorem dX9_lawfully_51 : decode cX9_lawfully 51 = .ok (.iconst (-1), 1) := dk_2 (dk_at dksX9_lawfully_2 6 rfl rfl)
theorem dX9_lawfully_52 : decode cX9_lawfully 52 = .ok (.goto 16, 3) := dk_167 0 16 (dk_at dksX9_lawfully_2 7 rfl rfl)
theorem dX9_lawfully_55 : decode cX9_lawfully 55 = .ok (.iload_n 2, 1) := dk_28 (dk_at dksX9_lawfully_2 10 rfl rfl)
theorem dX9_lawfully_56 : decode cX9_lawfully 56 = .ok (.ifCond .eq 10, 3) := dk_153 0 10 (dk_at dksX9_lawfully_2 11 rfl rfl)
theorem dX9_lawfully_59 : decode cX9_lawfully 59 = .ok (.aload_n 0, 1) := dk_42 (dk_at dksX9_lawfully_2 14 rfl rfl)
theorem dX9_lawfully_60 : decode cX9_lawfully 60 = .ok (.invokevirtual 378, 3) := dk_182 1 122 (dk_at dksX9_lawfully_2 15 rfl rfl)
theorem dX9_lawfully_63 : decode cX9_lawfully 63 = .ok (.goto 5, 3) := dk_167 0 5 (dk_at dksX9_lawfully_2 18 rfl rfl)
theorem dX9_lawfully_66 : decode cX9_lawfully 66 = .ok (.bipush (-5), 2) := dk_16 251 (dk_at dksX9_lawfully_2 21 rfl rfl)
theorem dX9_lawfully_68 : decode cX9_lawfully 68 = .ok (.istore_n 3, 1) := dk_62 (dk_at dksX9_lawfully_2 23 rfl rfl)
theorem dX9_lawfully_69 : decode cX9_lawfully 69 = .ok (.aload_n 0, 1) := dk_42 (dk_at dksX9_lawfully_3 0 rfl rfl)
theorem dX9_lawfully_70 : decode cX9_lawfully 70 = .ok (.getfield 25, 3) := dk_180 0 25 (dk_at dksX9_lawfully_3 1 rfl rfl)
theorem dX9_lawfully_73 : decode cX9_lawfully 73 = .ok (.iconst 0, 1) := dk_3 (dk_at dksX9_lawfully_3 4 rfl rfl)
theorem dX9_lawfully_74 : decode cX9_lawfully 74 = .ok (.aload_n 0, 1) := dk_42 (dk_at dksX9_lawfully_3 5 rfl rfl)
theorem dX9_lawfully_75 : decode cX9_lawfully 75 = .ok (.getfield 16, 3) := dk_180 0 16 (dk_at dksX9_lawfully_3 6 rfl rfl)
theorem dX9_lawfully_78 : decode cX9_lawfully 78 = .ok (.iconst 0, 1) := dk_3 (dk_at dksX9_lawfully_3 9 rfl rfl)
theorem dX9_lawfully_79 : decode cX9_lawfully 79 = .ok (.invokestatic 101, 3) := dk_184 0 101 (dk_at dksX9_lawfully_3 10 rfl rfl)
theorem dX9_lawfully_82 : decode cX9_lawfully 82 = .ok (.iload_n 3, 1) := dk_29 (dk_at dksX9_lawfully_3 13 rfl rfl)
theorem dX9_lawfully_83 : decode cX9_lawfully 83 = .ok (.ireturn, 1) := dk_172 (dk_at dksX9_lawfully_3 14 rfl rfl)
abbrev cX9_windows : ByteArray := prog_15_method_106_code
def yX9_windows : MethodName := ⟨RX9, "windows", "(I)I"⟩
def dkwX9_windows_4 : List UInt8 := [28, 42, 182, 0, 223, 100, 182, 0, 109, 172]
abbrev dktX9_windows_4 : List UInt8 := dkwX9_windows_4 ++ []
def dkwX9_windows_3 : List UInt8 := [180, 0, 34, 29, 46, 21, 4, 27, 182, 1, 147, 132, 4, 1, 167, 255, 229, 132, 3, 1, 167, 255, 207, 42]
abbrev dktX9_windows_3 : List UInt8 := dkwX9_windows_3 ++ dktX9_windows_4
def dkwX9_windows_2 : List UInt8 := [162, 0, 47, 42, 29, 182, 1, 144, 3, 54, 4, 21, 4, 27, 96, 42, 180, 1, 79, 163, 0, 22, 42, 42]
abbrev dktX9_windows_2 : List UInt8 := dkwX9_windows_2 ++ dktX9_windows_3
def dkwX9_windows_1 : List UInt8 := [172, 42, 16, 13, 182, 0, 186, 42, 182, 0, 223, 61, 42, 182, 1, 103, 3, 62, 29, 42, 180, 1, 73]
abbrev dktX9_windows_1 : List UInt8 := dkwX9_windows_1 ++ dktX9_windows_2
def dkwX9_windows_0 : List UInt8 := [42, 3, 181, 0, 92, 27, 133, 20, 1, 142, 20, 0, 180, 184, 0, 122, 154, 0, 9, 42, 2, 182, 0, 105]
abbrev dktX9_windows_0 : List UInt8 := dkwX9_windows_0 ++ dktX9_windows_1
theorem dksX9_windows_0 : cX9_windows.data.toList.drop 0 = dktX9_windows_0 := by decide +kernel
theorem dksX9_windows_1 : cX9_windows.data.toList.drop 24 = dktX9_windows_1 := dk_seg dksX9_windows_0 24 rfl rfl
theorem dksX9_windows_2 : cX9_windows.data.toList.drop 47 = dktX9_windows_2 := dk_seg dksX9_windows_1 23 rfl rfl
theorem dksX9_windows_3 : cX9_windows.data.toList.drop 71 = dktX9_windows_3 := dk_seg dksX9_windows_2 24 rfl rfl
theorem dksX9_windows_4 : cX9_windows.data.toList.drop 95 = dktX9_windows_4 := dk_seg dksX9_windows_3 24 rfl rfl
theorem dX9_windows_0 : decode cX9_windows 0 = .ok (.aload_n 0, 1) := dk_42 (dk_at dksX9_windows_0 0 rfl rfl)
theorem dX9_windows_1 : decode cX9_windows 1 = .ok (.iconst 0, 1) := dk_3 (dk_at dksX9_windows_0 1 rfl rfl)
theorem dX9_windows_2 : decode cX9_windows 2 = .ok (.putfield 92, 3) := dk_181 0 92 (dk_at dksX9_windows_0 2 rfl rfl)
theorem dX9_windows_5 : decode cX9_windows 5 = .ok (.iload_n 1, 1) := dk_27 (dk_at dksX9_windows_0 5 rfl rfl)
theorem dX9_windows_6 : decode cX9_windows 6 = .ok (.i2l, 1) := dk_133 (dk_at dksX9_windows_0 6 rfl rfl)
theorem dX9_windows_7 : decode cX9_windows 7 = .ok (.ldc2_w 398, 3) := dk_20 1 142 (dk_at dksX9_windows_0 7 rfl rfl)
theorem dX9_windows_10 : decode cX9_windows 10 = .ok (.ldc2_w 180, 3) := dk_20 0 180 (dk_at dksX9_windows_0 10 rfl rfl)
theorem dX9_windows_13 : decode cX9_windows 13 = .ok (.invokestatic 122, 3) := dk_184 0 122 (dk_at dksX9_windows_0 13 rfl rfl)
theorem dX9_windows_16 : decode cX9_windows 16 = .ok (.ifCond .ne 9, 3) := dk_154 0 9 (dk_at dksX9_windows_0 16 rfl rfl)
theorem dX9_windows_19 : decode cX9_windows 19 = .ok (.aload_n 0, 1) := dk_42 (dk_at dksX9_windows_0 19 rfl rfl)
theorem dX9_windows_20 : decode cX9_windows 20 = .ok (.iconst (-1), 1) := dk_2 (dk_at dksX9_windows_0 20 rfl rfl)
theorem dX9_windows_21 : decode cX9_windows 21 = .ok (.invokevirtual 105, 3) := dk_182 0 105 (dk_at dksX9_windows_0 21 rfl rfl)
theorem dX9_windows_24 : decode cX9_windows 24 = .ok (.ireturn, 1) := dk_172 (dk_at dksX9_windows_1 0 rfl rfl)
theorem dX9_windows_25 : decode cX9_windows 25 = .ok (.aload_n 0, 1) := dk_42 (dk_at dksX9_windows_1 1 rfl rfl)
theorem dX9_windows_26 : decode cX9_windows 26 = .ok (.bipush 13, 2) := dk_16 13 (dk_at dksX9_windows_1 2 rfl rfl)
theorem dX9_windows_28 : decode cX9_windows 28 = .ok (.invokevirtual 186, 3) := dk_182 0 186 (dk_at dksX9_windows_1 4 rfl rfl)
theorem dX9_windows_31 : decode cX9_windows 31 = .ok (.aload_n 0, 1) := dk_42 (dk_at dksX9_windows_1 7 rfl rfl)
theorem dX9_windows_32 : decode cX9_windows 32 = .ok (.invokevirtual 223, 3) := dk_182 0 223 (dk_at dksX9_windows_1 8 rfl rfl)
theorem dX9_windows_35 : decode cX9_windows 35 = .ok (.istore_n 2, 1) := dk_61 (dk_at dksX9_windows_1 11 rfl rfl)
theorem dX9_windows_36 : decode cX9_windows 36 = .ok (.aload_n 0, 1) := dk_42 (dk_at dksX9_windows_1 12 rfl rfl)
theorem dX9_windows_37 : decode cX9_windows 37 = .ok (.invokevirtual 359, 3) := dk_182 1 103 (dk_at dksX9_windows_1 13 rfl rfl)
theorem dX9_windows_40 : decode cX9_windows 40 = .ok (.iconst 0, 1) := dk_3 (dk_at dksX9_windows_1 16 rfl rfl)
theorem dX9_windows_41 : decode cX9_windows 41 = .ok (.istore_n 3, 1) := dk_62 (dk_at dksX9_windows_1 17 rfl rfl)
theorem dX9_windows_42 : decode cX9_windows 42 = .ok (.iload_n 3, 1) := dk_29 (dk_at dksX9_windows_1 18 rfl rfl)
theorem dX9_windows_43 : decode cX9_windows 43 = .ok (.aload_n 0, 1) := dk_42 (dk_at dksX9_windows_1 19 rfl rfl)
theorem dX9_windows_44 : decode cX9_windows 44 = .ok (.getfield 329, 3) := dk_180 1 73 (dk_at dksX9_windows_1 20 rfl rfl)
theorem dX9_windows_47 : decode cX9_windows 47 = .ok (.if_icmp .ge 47, 3) := dk_162 0 47 (dk_at dksX9_windows_2 0 rfl rfl)
theorem dX9_windows_50 : decode cX9_windows 50 = .ok (.aload_n 0, 1) := dk_42 (dk_at dksX9_windows_2 3 rfl rfl)
theorem dX9_windows_51 : decode cX9_windows 51 = .ok (.iload_n 3, 1) := dk_29 (dk_at dksX9_windows_2 4 rfl rfl)
theorem dX9_windows_52 : decode cX9_windows 52 = .ok (.invokevirtual 400, 3) := dk_182 1 144 (dk_at dksX9_windows_2 5 rfl rfl)
theorem dX9_windows_55 : decode cX9_windows 55 = .ok (.iconst 0, 1) := dk_3 (dk_at dksX9_windows_2 8 rfl rfl)
theorem dX9_windows_56 : decode cX9_windows 56 = .ok (.istore 4, 2) := dk_54 4 (dk_at dksX9_windows_2 9 rfl rfl)
theorem dX9_windows_58 : decode cX9_windows 58 = .ok (.iload 4, 2) := dk_21 4 (dk_at dksX9_windows_2 11 rfl rfl)
theorem dX9_windows_60 : decode cX9_windows 60 = .ok (.iload_n 1, 1) := dk_27 (dk_at dksX9_windows_2 13 rfl rfl)
theorem dX9_windows_61 : decode cX9_windows 61 = .ok (.iadd, 1) := dk_96 (dk_at dksX9_windows_2 14 rfl rfl)
theorem dX9_windows_62 : decode cX9_windows 62 = .ok (.aload_n 0, 1) := dk_42 (dk_at dksX9_windows_2 15 rfl rfl)
theorem dX9_windows_63 : decode cX9_windows 63 = .ok (.getfield 335, 3) := dk_180 1 79 (dk_at dksX9_windows_2 16 rfl rfl)
theorem dX9_windows_66 : decode cX9_windows 66 = .ok (.if_icmp .gt 22, 3) := dk_163 0 22 (dk_at dksX9_windows_2 19 rfl rfl)
theorem dX9_windows_69 : decode cX9_windows 69 = .ok (.aload_n 0, 1) := dk_42 (dk_at dksX9_windows_2 22 rfl rfl)
theorem dX9_windows_70 : decode cX9_windows 70 = .ok (.aload_n 0, 1) := dk_42 (dk_at dksX9_windows_2 23 rfl rfl)
theorem dX9_windows_71 : decode cX9_windows 71 = .ok (.getfield 34, 3) := dk_180 0 34 (dk_at dksX9_windows_3 0 rfl rfl)
theorem dX9_windows_74 : decode cX9_windows 74 = .ok (.iload_n 3, 1) := dk_29 (dk_at dksX9_windows_3 3 rfl rfl)
theorem dX9_windows_75 : decode cX9_windows 75 = .ok (.iaload, 1) := dk_46 (dk_at dksX9_windows_3 4 rfl rfl)
theorem dX9_windows_76 : decode cX9_windows 76 = .ok (.iload 4, 2) := dk_21 4 (dk_at dksX9_windows_3 5 rfl rfl)
theorem dX9_windows_78 : decode cX9_windows 78 = .ok (.iload_n 1, 1) := dk_27 (dk_at dksX9_windows_3 7 rfl rfl)
theorem dX9_windows_79 : decode cX9_windows 79 = .ok (.invokevirtual 403, 3) := dk_182 1 147 (dk_at dksX9_windows_3 8 rfl rfl)
theorem dX9_windows_82 : decode cX9_windows 82 = .ok (.iinc 4 1, 3) := dk_132 4 1 (dk_at dksX9_windows_3 11 rfl rfl)
theorem dX9_windows_85 : decode cX9_windows 85 = .ok (.goto (-27), 3) := dk_167 255 229 (dk_at dksX9_windows_3 14 rfl rfl)
theorem dX9_windows_88 : decode cX9_windows 88 = .ok (.iinc 3 1, 3) := dk_132 3 1 (dk_at dksX9_windows_3 17 rfl rfl)
theorem dX9_windows_91 : decode cX9_windows 91 = .ok (.goto (-49), 3) := dk_167 255 207 (dk_at dksX9_windows_3 20 rfl rfl)
theorem dX9_windows_94 : decode cX9_windows 94 = .ok (.aload_n 0, 1) := dk_42 (dk_at dksX9_windows_3 23 rfl rfl)
theorem dX9_windows_95 : decode cX9_windows 95 = .ok (.iload_n 2, 1) := dk_28 (dk_at dksX9_windows_4 0 rfl rfl)
theorem dX9_windows_96 : decode cX9_windows 96 = .ok (.aload_n 0, 1) := dk_42 (dk_at dksX9_windows_4 1 rfl rfl)
theorem dX9_windows_97 : decode cX9_windows 97 = .ok (.invokevirtual 223, 3) := dk_182 0 223 (dk_at dksX9_windows_4 2 rfl rfl)
theorem dX9_windows_100 : decode cX9_windows 100 = .ok (.isub, 1) := dk_100 (dk_at dksX9_windows_4 5 rfl rfl)
theorem dX9_windows_101 : decode cX9_windows 101 = .ok (.invokevirtual 109, 3) := dk_182 0 109 (dk_at dksX9_windows_4 6 rfl rfl)
theorem dX9_windows_104 : decode cX9_windows 104 = .ok (.ireturn, 1) := dk_172 (dk_at dksX9_windows_4 9 rfl rfl)
abbrev cX9_layLies : ByteArray := prog_15_method_87_code
def yX9_layLies : MethodName := ⟨RX9, "layLies", "(I)V"⟩
def dkwX9_layLies_3 : List UInt8 := [29, 79, 42, 89, 180, 1, 79, 4, 96, 181, 1, 79, 132, 2, 1, 167, 255, 181, 177]
abbrev dktX9_layLies_3 : List UInt8 := dkwX9_layLies_3 ++ []
def dkwX9_layLies_2 : List UInt8 := [42, 180, 0, 16, 29, 184, 0, 112, 16, 6, 96, 46, 28, 160, 0, 23, 42, 180, 0, 46, 42, 180, 1, 79]
abbrev dktX9_layLies_2 : List UInt8 := dkwX9_layLies_2 ++ dktX9_layLies_3
def dkwX9_layLies_1 : List UInt8 := [46, 96, 162, 0, 64, 42, 42, 180, 0, 34, 27, 46, 28, 2, 3, 182, 0, 150, 62, 29, 2, 159, 0, 39]
abbrev dktX9_layLies_1 : List UInt8 := dkwX9_layLies_1 ++ dktX9_layLies_2
def dkwX9_layLies_0 : List UInt8 := [42, 3, 181, 1, 79, 42, 180, 0, 40, 27, 46, 61, 28, 42, 180, 0, 40, 27, 46, 42, 180, 0, 43, 27]
abbrev dktX9_layLies_0 : List UInt8 := dkwX9_layLies_0 ++ dktX9_layLies_1
theorem dksX9_layLies_0 : cX9_layLies.data.toList.drop 0 = dktX9_layLies_0 := by decide +kernel
theorem dksX9_layLies_1 : cX9_layLies.data.toList.drop 24 = dktX9_layLies_1 := dk_seg dksX9_layLies_0 24 rfl rfl
theorem dksX9_layLies_2 : cX9_layLies.data.toList.drop 48 = dktX9_layLies_2 := dk_seg dksX9_layLies_1 24 rfl rfl
theorem dksX9_layLies_3 : cX9_layLies.data.toList.drop 72 = dktX9_layLies_3 := dk_seg dksX9_layLies_2 24 rfl rfl
theorem dX9_layLies_0 : decode cX9_layLies 0 = .ok (.aload_n 0, 1) := dk_42 (dk_at dksX9_layLies_0 0 rfl rfl)
theorem dX9_layLies_1 : decode cX9_layLies 1 = .ok (.iconst 0, 1) := dk_3 (dk_at dksX9_layLies_0 1 rfl rfl)
theorem dX9_layLies_2 : decode cX9_layLies 2 = .ok (.putfield 335, 3) := dk_181 1 79 (dk_at dksX9_layLies_0 2 rfl rfl)
theorem dX9_layLies_5 : decode cX9_layLies 5 = .ok (.aload_n 0, 1) := dk_42 (dk_at dksX9_layLies_0 5 rfl rfl)
theorem dX9_layLies_6 : decode cX9_layLies 6 = .ok (.getfield 40, 3) := dk_180 0 40 (dk_at dksX9_layLies_0 6 rfl rfl)
theorem dX9_layLies_9 : decode cX9_layLies 9 = .ok (.iload_n 1, 1) := dk_27 (dk_at dksX9_layLies_0 9 rfl rfl)
theorem dX9_layLies_10 : decode cX9_layLies 10 = .ok (.iaload, 1) := dk_46 (dk_at dksX9_layLies_0 10 rfl rfl)
theorem dX9_layLies_11 : decode cX9_layLies 11 = .ok (.istore_n 2, 1) := dk_61 (dk_at dksX9_layLies_0 11 rfl rfl)
theorem dX9_layLies_12 : decode cX9_layLies 12 = .ok (.iload_n 2, 1) := dk_28 (dk_at dksX9_layLies_0 12 rfl rfl)
theorem dX9_layLies_13 : decode cX9_layLies 13 = .ok (.aload_n 0, 1) := dk_42 (dk_at dksX9_layLies_0 13 rfl rfl)
theorem dX9_layLies_14 : decode cX9_layLies 14 = .ok (.getfield 40, 3) := dk_180 0 40 (dk_at dksX9_layLies_0 14 rfl rfl)
theorem dX9_layLies_17 : decode cX9_layLies 17 = .ok (.iload_n 1, 1) := dk_27 (dk_at dksX9_layLies_0 17 rfl rfl)
theorem dX9_layLies_18 : decode cX9_layLies 18 = .ok (.iaload, 1) := dk_46 (dk_at dksX9_layLies_0 18 rfl rfl)
theorem dX9_layLies_19 : decode cX9_layLies 19 = .ok (.aload_n 0, 1) := dk_42 (dk_at dksX9_layLies_0 19 rfl rfl)
theorem dX9_layLies_20 : decode cX9_layLies 20 = .ok (.getfield 43, 3) := dk_180 0 43 (dk_at dksX9_layLies_0 20 rfl rfl)
theorem dX9_layLies_23 : decode cX9_layLies 23 = .ok (.iload_n 1, 1) := dk_27 (dk_at dksX9_layLies_0 23 rfl rfl)
theorem dX9_layLies_24 : decode cX9_layLies 24 = .ok (.iaload, 1) := dk_46 (dk_at dksX9_layLies_1 0 rfl rfl)
theorem dX9_layLies_25 : decode cX9_layLies 25 = .ok (.iadd, 1) := dk_96 (dk_at dksX9_layLies_1 1 rfl rfl)
theorem dX9_layLies_26 : decode cX9_layLies 26 = .ok (.if_icmp .ge 64, 3) := dk_162 0 64 (dk_at dksX9_layLies_1 2 rfl rfl)
theorem dX9_layLies_29 : decode cX9_layLies 29 = .ok (.aload_n 0, 1) := dk_42 (dk_at dksX9_layLies_1 5 rfl rfl)
theorem dX9_layLies_30 : decode cX9_layLies 30 = .ok (.aload_n 0, 1) := dk_42 (dk_at dksX9_layLies_1 6 rfl rfl)
theorem dX9_layLies_31 : decode cX9_layLies 31 = .ok (.getfield 34, 3) := dk_180 0 34 (dk_at dksX9_layLies_1 7 rfl rfl)
theorem dX9_layLies_34 : decode cX9_layLies 34 = .ok (.iload_n 1, 1) := dk_27 (dk_at dksX9_layLies_1 10 rfl rfl)
theorem dX9_layLies_35 : decode cX9_layLies 35 = .ok (.iaload, 1) := dk_46 (dk_at dksX9_layLies_1 11 rfl rfl)
theorem dX9_layLies_36 : decode cX9_layLies 36 = .ok (.iload_n 2, 1) := dk_28 (dk_at dksX9_layLies_1 12 rfl rfl)
theorem dX9_layLies_37 : decode cX9_layLies 37 = .ok (.iconst (-1), 1) := dk_2 (dk_at dksX9_layLies_1 13 rfl rfl)
theorem dX9_layLies_38 : decode cX9_layLies 38 = .ok (.iconst 0, 1) := dk_3 (dk_at dksX9_layLies_1 14 rfl rfl)
theorem dX9_layLies_39 : decode cX9_layLies 39 = .ok (.invokevirtual 150, 3) := dk_182 0 150 (dk_at dksX9_layLies_1 15 rfl rfl)
theorem dX9_layLies_42 : decode cX9_layLies 42 = .ok (.istore_n 3, 1) := dk_62 (dk_at dksX9_layLies_1 18 rfl rfl)
theorem dX9_layLies_43 : decode cX9_layLies 43 = .ok (.iload_n 3, 1) := dk_29 (dk_at dksX9_layLies_1 19 rfl rfl)
theorem dX9_layLies_44 : decode cX9_layLies 44 = .ok (.iconst (-1), 1) := dk_2 (dk_at dksX9_layLies_1 20 rfl rfl)
theorem dX9_layLies_45 : decode cX9_layLies 45 = .ok (.if_icmp .eq 39, 3) := dk_159 0 39 (dk_at dksX9_layLies_1 21 rfl rfl)
theorem dX9_layLies_48 : decode cX9_layLies 48 = .ok (.aload_n 0, 1) := dk_42 (dk_at dksX9_layLies_2 0 rfl rfl)
theorem dX9_layLies_49 : decode cX9_layLies 49 = .ok (.getfield 16, 3) := dk_180 0 16 (dk_at dksX9_layLies_2 1 rfl rfl)
theorem dX9_layLies_52 : decode cX9_layLies 52 = .ok (.iload_n 3, 1) := dk_29 (dk_at dksX9_layLies_2 4 rfl rfl)
theorem dX9_layLies_53 : decode cX9_layLies 53 = .ok (.invokestatic 112, 3) := dk_184 0 112 (dk_at dksX9_layLies_2 5 rfl rfl)
theorem dX9_layLies_56 : decode cX9_layLies 56 = .ok (.bipush 6, 2) := dk_16 6 (dk_at dksX9_layLies_2 8 rfl rfl)
theorem dX9_layLies_58 : decode cX9_layLies 58 = .ok (.iadd, 1) := dk_96 (dk_at dksX9_layLies_2 10 rfl rfl)
theorem dX9_layLies_59 : decode cX9_layLies 59 = .ok (.iaload, 1) := dk_46 (dk_at dksX9_layLies_2 11 rfl rfl)
theorem dX9_layLies_60 : decode cX9_layLies 60 = .ok (.iload_n 2, 1) := dk_28 (dk_at dksX9_layLies_2 12 rfl rfl)
theorem dX9_layLies_61 : decode cX9_layLies 61 = .ok (.if_icmp .ne 23, 3) := dk_160 0 23 (dk_at dksX9_layLies_2 13 rfl rfl)
theorem dX9_layLies_64 : decode cX9_layLies 64 = .ok (.aload_n 0, 1) := dk_42 (dk_at dksX9_layLies_2 16 rfl rfl)
theorem dX9_layLies_65 : decode cX9_layLies 65 = .ok (.getfield 46, 3) := dk_180 0 46 (dk_at dksX9_layLies_2 17 rfl rfl)
theorem dX9_layLies_68 : decode cX9_layLies 68 = .ok (.aload_n 0, 1) := dk_42 (dk_at dksX9_layLies_2 20 rfl rfl)
theorem dX9_layLies_69 : decode cX9_layLies 69 = .ok (.getfield 335, 3) := dk_180 1 79 (dk_at dksX9_layLies_2 21 rfl rfl)
theorem dX9_layLies_72 : decode cX9_layLies 72 = .ok (.iload_n 3, 1) := dk_29 (dk_at dksX9_layLies_3 0 rfl rfl)
theorem dX9_layLies_73 : decode cX9_layLies 73 = .ok (.iastore, 1) := dk_79 (dk_at dksX9_layLies_3 1 rfl rfl)
theorem dX9_layLies_74 : decode cX9_layLies 74 = .ok (.aload_n 0, 1) := dk_42 (dk_at dksX9_layLies_3 2 rfl rfl)
theorem dX9_layLies_75 : decode cX9_layLies 75 = .ok (.dup, 1) := dk_89 (dk_at dksX9_layLies_3 3 rfl rfl)
theorem dX9_layLies_76 : decode cX9_layLies 76 = .ok (.getfield 335, 3) := dk_180 1 79 (dk_at dksX9_layLies_3 4 rfl rfl)
theorem dX9_layLies_79 : decode cX9_layLies 79 = .ok (.iconst 1, 1) := dk_4 (dk_at dksX9_layLies_3 7 rfl rfl)
theorem dX9_layLies_80 : decode cX9_layLies 80 = .ok (.iadd, 1) := dk_96 (dk_at dksX9_layLies_3 8 rfl rfl)
theorem dX9_layLies_81 : decode cX9_layLies 81 = .ok (.putfield 335, 3) := dk_181 1 79 (dk_at dksX9_layLies_3 9 rfl rfl)
theorem dX9_layLies_84 : decode cX9_layLies 84 = .ok (.iinc 2 1, 3) := dk_132 2 1 (dk_at dksX9_layLies_3 12 rfl rfl)
theorem dX9_layLies_87 : decode cX9_layLies 87 = .ok (.goto (-75), 3) := dk_167 255 181 (dk_at dksX9_layLies_3 15 rfl rfl)
theorem dX9_layLies_90 : decode cX9_layLies 90 = .ok (.return_, 1) := dk_177 (dk_at dksX9_layLies_3 18 rfl rfl)
abbrev cX9_window : ByteArray := prog_15_method_105_code
def yX9_window : MethodName := ⟨RX9, "window", "(III)V"⟩
def dkwX9_window_9 : List UInt8 := [180, 0, 64, 21, 6, 46, 46, 79, 132, 6, 1, 167, 255, 226, 177]
abbrev dktX9_window_9 : List UInt8 := dkwX9_window_9 ++ []
def dkwX9_window_8 : List UInt8 := [3, 54, 6, 21, 6, 29, 162, 0, 30, 42, 180, 0, 46, 28, 21, 6, 96, 42, 180, 0, 67, 42]
abbrev dktX9_window_8 : List UInt8 := dkwX9_window_8 ++ dktX9_window_9
def dkwX9_window_7 : List UInt8 := [21, 6, 54, 5, 42, 29, 182, 1, 132, 167, 255, 214, 42, 27, 21, 4, 29, 42, 180, 0, 64, 182, 1, 138]
abbrev dktX9_window_7 : List UInt8 := dkwX9_window_7 ++ dktX9_window_8
def dkwX9_window_6 : List UInt8 := [21, 4, 29, 42, 180, 0, 61, 182, 1, 138, 42, 182, 0, 223, 54, 6, 21, 6, 21, 5, 162, 0, 12]
abbrev dktX9_window_6 : List UInt8 := dkwX9_window_6 ++ dktX9_window_7
def dkwX9_window_5 : List UInt8 := [182, 1, 129, 42, 29, 182, 1, 132, 42, 182, 0, 223, 54, 5, 42, 29, 182, 1, 135, 153, 0, 40, 42, 27]
abbrev dktX9_window_5 : List UInt8 := dkwX9_window_5 ++ dktX9_window_6
def dkwX9_window_4 : List UInt8 := [96, 46, 100, 42, 21, 6, 182, 0, 137, 100, 167, 0, 4, 3, 79, 132, 5, 1, 167, 255, 165, 42, 29]
abbrev dktX9_window_4 : List UInt8 := dkwX9_window_4 ++ dktX9_window_5
def dkwX9_window_3 : List UInt8 := [21, 5, 96, 4, 96, 46, 184, 0, 112, 16, 6, 96, 46, 42, 180, 0, 16, 21, 6, 184, 0, 112, 16, 6]
abbrev dktX9_window_3 : List UInt8 := dkwX9_window_3 ++ dktX9_window_4
def dkwX9_window_2 : List UInt8 := [42, 180, 0, 70, 21, 5, 21, 5, 4, 96, 29, 162, 0, 49, 42, 180, 0, 16, 42, 180, 0, 46, 28]
abbrev dktX9_window_2 : List UInt8 := dkwX9_window_2 ++ dktX9_window_3
def dkwX9_window_1 : List UInt8 := [29, 162, 0, 91, 42, 180, 0, 46, 28, 21, 5, 96, 46, 54, 6, 42, 180, 0, 67, 21, 5, 21, 6, 79]
abbrev dktX9_window_1 : List UInt8 := dkwX9_window_1 ++ dktX9_window_2
def dkwX9_window_0 : List UInt8 := [42, 180, 0, 16, 42, 180, 0, 46, 28, 46, 184, 0, 112, 16, 6, 96, 46, 54, 4, 3, 54, 5, 21, 5]
abbrev dktX9_window_0 : List UInt8 := dkwX9_window_0 ++ dktX9_window_1
theorem dksX9_window_0 : cX9_window.data.toList.drop 0 = dktX9_window_0 := by decide +kernel
theorem dksX9_window_1 : cX9_window.data.toList.drop 24 = dktX9_window_1 := dk_seg dksX9_window_0 24 rfl rfl
theorem dksX9_window_2 : cX9_window.data.toList.drop 48 = dktX9_window_2 := dk_seg dksX9_window_1 24 rfl rfl
theorem dksX9_window_3 : cX9_window.data.toList.drop 71 = dktX9_window_3 := dk_seg dksX9_window_2 23 rfl rfl
theorem dksX9_window_4 : cX9_window.data.toList.drop 95 = dktX9_window_4 := dk_seg dksX9_window_3 24 rfl rfl
theorem dksX9_window_5 : cX9_window.data.toList.drop 118 = dktX9_window_5 := dk_seg dksX9_window_4 23 rfl rfl
theorem dksX9_window_6 : cX9_window.data.toList.drop 142 = dktX9_window_6 := dk_seg dksX9_window_5 24 rfl rfl
theorem dksX9_window_7 : cX9_window.data.toList.drop 165 = dktX9_window_7 := dk_seg dksX9_window_6 23 rfl rfl
theorem dksX9_window_8 : cX9_window.data.toList.drop 189 = dktX9_window_8 := dk_seg dksX9_window_7 24 rfl rfl
theorem dksX9_window_9 : cX9_window.data.toList.drop 211 = dktX9_window_9 := dk_seg dksX9_window_8 22 rfl rfl
theorem dX9_window_0 : decode cX9_window 0 = .ok (.aload_n 0, 1) := dk_42 (dk_at dksX9_window_0 0 rfl rfl)
theorem dX9_window_1 : decode cX9_window 1 = .ok (.getfield 16, 3) := dk_180 0 16 (dk_at dksX9_window_0 1 rfl rfl)
theorem dX9_window_4 : decode cX9_window 4 = .ok (.aload_n 0, 1) := dk_42 (dk_at dksX9_window_0 4 rfl rfl)
theorem dX9_window_5 : decode cX9_window 5 = .ok (.getfield 46, 3) := dk_180 0 46 (dk_at dksX9_window_0 5 rfl rfl)
theorem dX9_window_8 : decode cX9_window 8 = .ok (.iload_n 2, 1) := dk_28 (dk_at dksX9_window_0 8 rfl rfl)
theorem dX9_window_9 : decode cX9_window 9 = .ok (.iaload, 1) := dk_46 (dk_at dksX9_window_0 9 rfl rfl)
theorem dX9_window_10 : decode cX9_window 10 = .ok (.invokestatic 112, 3) := dk_184 0 112 (dk_at dksX9_window_0 10 rfl rfl)
theorem dX9_window_13 : decode cX9_window 13 = .ok (.bipush 6, 2) := dk_16 6 (dk_at dksX9_window_0 13 rfl rfl)
theorem dX9_window_15 : decode cX9_window 15 = .ok (.iadd, 1) := dk_96 (dk_at dksX9_window_0 15 rfl rfl)
theorem dX9_window_16 : decode cX9_window 16 = .ok (.iaload, 1) := dk_46 (dk_at dksX9_window_0 16 rfl rfl)
theorem dX9_window_17 : decode cX9_window 17 = .ok (.istore 4, 2) := dk_54 4 (dk_at dksX9_window_0 17 rfl rfl)
theorem dX9_window_19 : decode cX9_window 19 = .ok (.iconst 0, 1) := dk_3 (dk_at dksX9_window_0 19 rfl rfl)
theorem dX9_window_20 : decode cX9_window 20 = .ok (.istore 5, 2) := dk_54 5 (dk_at dksX9_window_0 20 rfl rfl)
theorem dX9_window_22 : decode cX9_window 22 = .ok (.iload 5, 2) := dk_21 5 (dk_at dksX9_window_0 22 rfl rfl)
theorem dX9_window_24 : decode cX9_window 24 = .ok (.iload_n 3, 1) := dk_29 (dk_at dksX9_window_1 0 rfl rfl)
theorem dX9_window_25 : decode cX9_window 25 = .ok (.if_icmp .ge 91, 3) := dk_162 0 91 (dk_at dksX9_window_1 1 rfl rfl)
theorem dX9_window_28 : decode cX9_window 28 = .ok (.aload_n 0, 1) := dk_42 (dk_at dksX9_window_1 4 rfl rfl)
theorem dX9_window_29 : decode cX9_window 29 = .ok (.getfield 46, 3) := dk_180 0 46 (dk_at dksX9_window_1 5 rfl rfl)
theorem dX9_window_32 : decode cX9_window 32 = .ok (.iload_n 2, 1) := dk_28 (dk_at dksX9_window_1 8 rfl rfl)
theorem dX9_window_33 : decode cX9_window 33 = .ok (.iload 5, 2) := dk_21 5 (dk_at dksX9_window_1 9 rfl rfl)
theorem dX9_window_35 : decode cX9_window 35 = .ok (.iadd, 1) := dk_96 (dk_at dksX9_window_1 11 rfl rfl)
theorem dX9_window_36 : decode cX9_window 36 = .ok (.iaload, 1) := dk_46 (dk_at dksX9_window_1 12 rfl rfl)
theorem dX9_window_37 : decode cX9_window 37 = .ok (.istore 6, 2) := dk_54 6 (dk_at dksX9_window_1 13 rfl rfl)
theorem dX9_window_39 : decode cX9_window 39 = .ok (.aload_n 0, 1) := dk_42 (dk_at dksX9_window_1 15 rfl rfl)
theorem dX9_window_40 : decode cX9_window 40 = .ok (.getfield 67, 3) := dk_180 0 67 (dk_at dksX9_window_1 16 rfl rfl)
theorem dX9_window_43 : decode cX9_window 43 = .ok (.iload 5, 2) := dk_21 5 (dk_at dksX9_window_1 19 rfl rfl)
theorem dX9_window_45 : decode cX9_window 45 = .ok (.iload 6, 2) := dk_21 6 (dk_at dksX9_window_1 21 rfl rfl)
theorem dX9_window_47 : decode cX9_window 47 = .ok (.iastore, 1) := dk_79 (dk_at dksX9_window_1 23 rfl rfl)
theorem dX9_window_48 : decode cX9_window 48 = .ok (.aload_n 0, 1) := dk_42 (dk_at dksX9_window_2 0 rfl rfl)
theorem dX9_window_49 : decode cX9_window 49 = .ok (.getfield 70, 3) := dk_180 0 70 (dk_at dksX9_window_2 1 rfl rfl)
theorem dX9_window_52 : decode cX9_window 52 = .ok (.iload 5, 2) := dk_21 5 (dk_at dksX9_window_2 4 rfl rfl)
theorem dX9_window_54 : decode cX9_window 54 = .ok (.iload 5, 2) := dk_21 5 (dk_at dksX9_window_2 6 rfl rfl)
theorem dX9_window_56 : decode cX9_window 56 = .ok (.iconst 1, 1) := dk_4 (dk_at dksX9_window_2 8 rfl rfl)
theorem dX9_window_57 : decode cX9_window 57 = .ok (.iadd, 1) := dk_96 (dk_at dksX9_window_2 9 rfl rfl)
theorem dX9_window_58 : decode cX9_window 58 = .ok (.iload_n 3, 1) := dk_29 (dk_at dksX9_window_2 10 rfl rfl)
theorem dX9_window_59 : decode cX9_window 59 = .ok (.if_icmp .ge 49, 3) := dk_162 0 49 (dk_at dksX9_window_2 11 rfl rfl)
theorem dX9_window_62 : decode cX9_window 62 = .ok (.aload_n 0, 1) := dk_42 (dk_at dksX9_window_2 14 rfl rfl)
theorem dX9_window_63 : decode cX9_window 63 = .ok (.getfield 16, 3) := dk_180 0 16 (dk_at dksX9_window_2 15 rfl rfl)
theorem dX9_window_66 : decode cX9_window 66 = .ok (.aload_n 0, 1) := dk_42 (dk_at dksX9_window_2 18 rfl rfl)
theorem dX9_window_67 : decode cX9_window 67 = .ok (.getfield 46, 3) := dk_180 0 46 (dk_at dksX9_window_2 19 rfl rfl)
theorem dX9_window_70 : decode cX9_window 70 = .ok (.iload_n 2, 1) := dk_28 (dk_at dksX9_window_2 22 rfl rfl)
theorem dX9_window_71 : decode cX9_window 71 = .ok (.iload 5, 2) := dk_21 5 (dk_at dksX9_window_3 0 rfl rfl)
theorem dX9_window_73 : decode cX9_window 73 = .ok (.iadd, 1) := dk_96 (dk_at dksX9_window_3 2 rfl rfl)
theorem dX9_window_74 : decode cX9_window 74 = .ok (.iconst 1, 1) := dk_4 (dk_at dksX9_window_3 3 rfl rfl)
theorem dX9_window_75 : decode cX9_window 75 = .ok (.iadd, 1) := dk_96 (dk_at dksX9_window_3 4 rfl rfl)
theorem dX9_window_76 : decode cX9_window 76 = .ok (.iaload, 1) := dk_46 (dk_at dksX9_window_3 5 rfl rfl)
theorem dX9_window_77 : decode cX9_window 77 = .ok (.invokestatic 112, 3) := dk_184 0 112 (dk_at dksX9_window_3 6 rfl rfl)
theorem dX9_window_80 : decode cX9_window 80 = .ok (.bipush 6, 2) := dk_16 6 (dk_at dksX9_window_3 9 rfl rfl)
theorem dX9_window_82 : decode cX9_window 82 = .ok (.iadd, 1) := dk_96 (dk_at dksX9_window_3 11 rfl rfl)
theorem dX9_window_83 : decode cX9_window 83 = .ok (.iaload, 1) := dk_46 (dk_at dksX9_window_3 12 rfl rfl)
theorem dX9_window_84 : decode cX9_window 84 = .ok (.aload_n 0, 1) := dk_42 (dk_at dksX9_window_3 13 rfl rfl)
theorem dX9_window_85 : decode cX9_window 85 = .ok (.getfield 16, 3) := dk_180 0 16 (dk_at dksX9_window_3 14 rfl rfl)
theorem dX9_window_88 : decode cX9_window 88 = .ok (.iload 6, 2) := dk_21 6 (dk_at dksX9_window_3 17 rfl rfl)
theorem dX9_window_90 : decode cX9_window 90 = .ok (.invokestatic 112, 3) := dk_184 0 112 (dk_at dksX9_window_3 19 rfl rfl)
theorem dX9_window_93 : decode cX9_window 93 = .ok (.bipush 6, 2) := dk_16 6 (dk_at dksX9_window_3 22 rfl rfl)
theorem dX9_window_95 : decode cX9_window 95 = .ok (.iadd, 1) := dk_96 (dk_at dksX9_window_4 0 rfl rfl)
theorem dX9_window_96 : decode cX9_window 96 = .ok (.iaload, 1) := dk_46 (dk_at dksX9_window_4 1 rfl rfl)
theorem dX9_window_97 : decode cX9_window 97 = .ok (.isub, 1) := dk_100 (dk_at dksX9_window_4 2 rfl rfl)
theorem dX9_window_98 : decode cX9_window 98 = .ok (.aload_n 0, 1) := dk_42 (dk_at dksX9_window_4 3 rfl rfl)
theorem dX9_window_99 : decode cX9_window 99 = .ok (.iload 6, 2) := dk_21 6 (dk_at dksX9_window_4 4 rfl rfl)
theorem dX9_window_101 : decode cX9_window 101 = .ok (.invokevirtual 137, 3) := dk_182 0 137 (dk_at dksX9_window_4 6 rfl rfl)
theorem dX9_window_104 : decode cX9_window 104 = .ok (.isub, 1) := dk_100 (dk_at dksX9_window_4 9 rfl rfl)
theorem dX9_window_105 : decode cX9_window 105 = .ok (.goto 4, 3) := dk_167 0 4 (dk_at dksX9_window_4 10 rfl rfl)
theorem dX9_window_108 : decode cX9_window 108 = .ok (.iconst 0, 1) := dk_3 (dk_at dksX9_window_4 13 rfl rfl)
theorem dX9_window_109 : decode cX9_window 109 = .ok (.iastore, 1) := dk_79 (dk_at dksX9_window_4 14 rfl rfl)
theorem dX9_window_110 : decode cX9_window 110 = .ok (.iinc 5 1, 3) := dk_132 5 1 (dk_at dksX9_window_4 15 rfl rfl)
theorem dX9_window_113 : decode cX9_window 113 = .ok (.goto (-91), 3) := dk_167 255 165 (dk_at dksX9_window_4 18 rfl rfl)
theorem dX9_window_116 : decode cX9_window 116 = .ok (.aload_n 0, 1) := dk_42 (dk_at dksX9_window_4 21 rfl rfl)
theorem dX9_window_117 : decode cX9_window 117 = .ok (.iload_n 3, 1) := dk_29 (dk_at dksX9_window_4 22 rfl rfl)
theorem dX9_window_118 : decode cX9_window 118 = .ok (.invokevirtual 385, 3) := dk_182 1 129 (dk_at dksX9_window_5 0 rfl rfl)
theorem dX9_window_121 : decode cX9_window 121 = .ok (.aload_n 0, 1) := dk_42 (dk_at dksX9_window_5 3 rfl rfl)
theorem dX9_window_122 : decode cX9_window 122 = .ok (.iload_n 3, 1) := dk_29 (dk_at dksX9_window_5 4 rfl rfl)
theorem dX9_window_123 : decode cX9_window 123 = .ok (.invokevirtual 388, 3) := dk_182 1 132 (dk_at dksX9_window_5 5 rfl rfl)
theorem dX9_window_126 : decode cX9_window 126 = .ok (.aload_n 0, 1) := dk_42 (dk_at dksX9_window_5 8 rfl rfl)
theorem dX9_window_127 : decode cX9_window 127 = .ok (.invokevirtual 223, 3) := dk_182 0 223 (dk_at dksX9_window_5 9 rfl rfl)
theorem dX9_window_130 : decode cX9_window 130 = .ok (.istore 5, 2) := dk_54 5 (dk_at dksX9_window_5 12 rfl rfl)
theorem dX9_window_132 : decode cX9_window 132 = .ok (.aload_n 0, 1) := dk_42 (dk_at dksX9_window_5 14 rfl rfl)
theorem dX9_window_133 : decode cX9_window 133 = .ok (.iload_n 3, 1) := dk_29 (dk_at dksX9_window_5 15 rfl rfl)
theorem dX9_window_134 : decode cX9_window 134 = .ok (.invokevirtual 391, 3) := dk_182 1 135 (dk_at dksX9_window_5 16 rfl rfl)
theorem dX9_window_137 : decode cX9_window 137 = .ok (.ifCond .eq 40, 3) := dk_153 0 40 (dk_at dksX9_window_5 19 rfl rfl)
theorem dX9_window_140 : decode cX9_window 140 = .ok (.aload_n 0, 1) := dk_42 (dk_at dksX9_window_5 22 rfl rfl)
theorem dX9_window_141 : decode cX9_window 141 = .ok (.iload_n 1, 1) := dk_27 (dk_at dksX9_window_5 23 rfl rfl)
theorem dX9_window_142 : decode cX9_window 142 = .ok (.iload 4, 2) := dk_21 4 (dk_at dksX9_window_6 0 rfl rfl)
theorem dX9_window_144 : decode cX9_window 144 = .ok (.iload_n 3, 1) := dk_29 (dk_at dksX9_window_6 2 rfl rfl)
theorem dX9_window_145 : decode cX9_window 145 = .ok (.aload_n 0, 1) := dk_42 (dk_at dksX9_window_6 3 rfl rfl)
theorem dX9_window_146 : decode cX9_window 146 = .ok (.getfield 61, 3) := dk_180 0 61 (dk_at dksX9_window_6 4 rfl rfl)
theorem dX9_window_149 : decode cX9_window 149 = .ok (.invokevirtual 394, 3) := dk_182 1 138 (dk_at dksX9_window_6 7 rfl rfl)
theorem dX9_window_152 : decode cX9_window 152 = .ok (.aload_n 0, 1) := dk_42 (dk_at dksX9_window_6 10 rfl rfl)
theorem dX9_window_153 : decode cX9_window 153 = .ok (.invokevirtual 223, 3) := dk_182 0 223 (dk_at dksX9_window_6 11 rfl rfl)
theorem dX9_window_156 : decode cX9_window 156 = .ok (.istore 6, 2) := dk_54 6 (dk_at dksX9_window_6 14 rfl rfl)
theorem dX9_window_158 : decode cX9_window 158 = .ok (.iload 6, 2) := dk_21 6 (dk_at dksX9_window_6 16 rfl rfl)
theorem dX9_window_160 : decode cX9_window 160 = .ok (.iload 5, 2) := dk_21 5 (dk_at dksX9_window_6 18 rfl rfl)
theorem dX9_window_162 : decode cX9_window 162 = .ok (.if_icmp .ge 12, 3) := dk_162 0 12 (dk_at dksX9_window_6 20 rfl rfl)
theorem dX9_window_165 : decode cX9_window 165 = .ok (.iload 6, 2) := dk_21 6 (dk_at dksX9_window_7 0 rfl rfl)
theorem dX9_window_167 : decode cX9_window 167 = .ok (.istore 5, 2) := dk_54 5 (dk_at dksX9_window_7 2 rfl rfl)
theorem dX9_window_169 : decode cX9_window 169 = .ok (.aload_n 0, 1) := dk_42 (dk_at dksX9_window_7 4 rfl rfl)
theorem dX9_window_170 : decode cX9_window 170 = .ok (.iload_n 3, 1) := dk_29 (dk_at dksX9_window_7 5 rfl rfl)
theorem dX9_window_171 : decode cX9_window 171 = .ok (.invokevirtual 388, 3) := dk_182 1 132 (dk_at dksX9_window_7 6 rfl rfl)
theorem dX9_window_174 : decode cX9_window 174 = .ok (.goto (-42), 3) := dk_167 255 214 (dk_at dksX9_window_7 9 rfl rfl)
theorem dX9_window_177 : decode cX9_window 177 = .ok (.aload_n 0, 1) := dk_42 (dk_at dksX9_window_7 12 rfl rfl)
theorem dX9_window_178 : decode cX9_window 178 = .ok (.iload_n 1, 1) := dk_27 (dk_at dksX9_window_7 13 rfl rfl)
theorem dX9_window_179 : decode cX9_window 179 = .ok (.iload 4, 2) := dk_21 4 (dk_at dksX9_window_7 14 rfl rfl)
theorem dX9_window_181 : decode cX9_window 181 = .ok (.iload_n 3, 1) := dk_29 (dk_at dksX9_window_7 16 rfl rfl)
theorem dX9_window_182 : decode cX9_window 182 = .ok (.aload_n 0, 1) := dk_42 (dk_at dksX9_window_7 17 rfl rfl)
theorem dX9_window_183 : decode cX9_window 183 = .ok (.getfield 64, 3) := dk_180 0 64 (dk_at dksX9_window_7 18 rfl rfl)
theorem dX9_window_186 : decode cX9_window 186 = .ok (.invokevirtual 394, 3) := dk_182 1 138 (dk_at dksX9_window_7 21 rfl rfl)
theorem dX9_window_189 : decode cX9_window 189 = .ok (.iconst 0, 1) := dk_3 (dk_at dksX9_window_8 0 rfl rfl)
theorem dX9_window_190 : decode cX9_window 190 = .ok (.istore 6, 2) := dk_54 6 (dk_at dksX9_window_8 1 rfl rfl)
theorem dX9_window_192 : decode cX9_window 192 = .ok (.iload 6, 2) := dk_21 6 (dk_at dksX9_window_8 3 rfl rfl)
theorem dX9_window_194 : decode cX9_window 194 = .ok (.iload_n 3, 1) := dk_29 (dk_at dksX9_window_8 5 rfl rfl)
theorem dX9_window_195 : decode cX9_window 195 = .ok (.if_icmp .ge 30, 3) := dk_162 0 30 (dk_at dksX9_window_8 6 rfl rfl)
theorem dX9_window_198 : decode cX9_window 198 = .ok (.aload_n 0, 1) := dk_42 (dk_at dksX9_window_8 9 rfl rfl)
theorem dX9_window_199 : decode cX9_window 199 = .ok (.getfield 46, 3) := dk_180 0 46 (dk_at dksX9_window_8 10 rfl rfl)
theorem dX9_window_202 : decode cX9_window 202 = .ok (.iload_n 2, 1) := dk_28 (dk_at dksX9_window_8 13 rfl rfl)
theorem dX9_window_203 : decode cX9_window 203 = .ok (.iload 6, 2) := dk_21 6 (dk_at dksX9_window_8 14 rfl rfl)
theorem dX9_window_205 : decode cX9_window 205 = .ok (.iadd, 1) := dk_96 (dk_at dksX9_window_8 16 rfl rfl)
theorem dX9_window_206 : decode cX9_window 206 = .ok (.aload_n 0, 1) := dk_42 (dk_at dksX9_window_8 17 rfl rfl)
theorem dX9_window_207 : decode cX9_window 207 = .ok (.getfield 67, 3) := dk_180 0 67 (dk_at dksX9_window_8 18 rfl rfl)
theorem dX9_window_210 : decode cX9_window 210 = .ok (.aload_n 0, 1) := dk_42 (dk_at dksX9_window_8 21 rfl rfl)
theorem dX9_window_211 : decode cX9_window 211 = .ok (.getfield 64, 3) := dk_180 0 64 (dk_at dksX9_window_9 0 rfl rfl)
theorem dX9_window_214 : decode cX9_window 214 = .ok (.iload 6, 2) := dk_21 6 (dk_at dksX9_window_9 3 rfl rfl)
theorem dX9_window_216 : decode cX9_window 216 = .ok (.iaload, 1) := dk_46 (dk_at dksX9_window_9 5 rfl rfl)
theorem dX9_window_217 : decode cX9_window 217 = .ok (.iaload, 1) := dk_46 (dk_at dksX9_window_9 6 rfl rfl)
theorem dX9_window_218 : decode cX9_window 218 = .ok (.iastore, 1) := dk_79 (dk_at dksX9_window_9 7 rfl rfl)
theorem dX9_window_219 : decode cX9_window 219 = .ok (.iinc 6 1, 3) := dk_132 6 1 (dk_at dksX9_window_9 8 rfl rfl)
theorem dX9_window_222 : decode cX9_window 222 = .ok (.goto (-30), 3) := dk_167 255 226 (dk_at dksX9_window_9 11 rfl rfl)
theorem dX9_window_225 : decode cX9_window 225 = .ok (.return_, 1) := dk_177 (dk_at dksX9_window_9 14 rfl rfl)
abbrev cX9_firstOrder : ByteArray := prog_15_method_100_code
def yX9_firstOrder : MethodName := ⟨RX9, "firstOrder", "(I)V"⟩
def dkwX9_firstOrder_0 : List UInt8 := [3, 61, 28, 27, 162, 0, 16, 42, 180, 0, 61, 28, 28, 79, 132, 2, 1, 167, 255, 241, 177]
abbrev dktX9_firstOrder_0 : List UInt8 := dkwX9_firstOrder_0 ++ []
theorem dksX9_firstOrder_0 : cX9_firstOrder.data.toList.drop 0 = dktX9_firstOrder_0 := by decide +kernel
theorem dX9_firstOrder_0 : decode cX9_firstOrder 0 = .ok (.iconst 0, 1) := dk_3 (dk_at dksX9_firstOrder_0 0 rfl rfl)
theorem dX9_firstOrder_1 : decode cX9_firstOrder 1 = .ok (.istore_n 2, 1) := dk_61 (dk_at dksX9_firstOrder_0 1 rfl rfl)
theorem dX9_firstOrder_2 : decode cX9_firstOrder 2 = .ok (.iload_n 2, 1) := dk_28 (dk_at dksX9_firstOrder_0 2 rfl rfl)
theorem dX9_firstOrder_3 : decode cX9_firstOrder 3 = .ok (.iload_n 1, 1) := dk_27 (dk_at dksX9_firstOrder_0 3 rfl rfl)
theorem dX9_firstOrder_4 : decode cX9_firstOrder 4 = .ok (.if_icmp .ge 16, 3) := dk_162 0 16 (dk_at dksX9_firstOrder_0 4 rfl rfl)
theorem dX9_firstOrder_7 : decode cX9_firstOrder 7 = .ok (.aload_n 0, 1) := dk_42 (dk_at dksX9_firstOrder_0 7 rfl rfl)
theorem dX9_firstOrder_8 : decode cX9_firstOrder 8 = .ok (.getfield 61, 3) := dk_180 0 61 (dk_at dksX9_firstOrder_0 8 rfl rfl)
theorem dX9_firstOrder_11 : decode cX9_firstOrder 11 = .ok (.iload_n 2, 1) := dk_28 (dk_at dksX9_firstOrder_0 11 rfl rfl)
theorem dX9_firstOrder_12 : decode cX9_firstOrder 12 = .ok (.iload_n 2, 1) := dk_28 (dk_at dksX9_firstOrder_0 12 rfl rfl)
theorem dX9_firstOrder_13 : decode cX9_firstOrder 13 = .ok (.iastore, 1) := dk_79 (dk_at dksX9_firstOrder_0 13 rfl rfl)
theorem dX9_firstOrder_14 : decode cX9_firstOrder 14 = .ok (.iinc 2 1, 3) := dk_132 2 1 (dk_at dksX9_firstOrder_0 14 rfl rfl)
theorem dX9_firstOrder_17 : decode cX9_firstOrder 17 = .ok (.goto (-15), 3) := dk_167 255 241 (dk_at dksX9_firstOrder_0 17 rfl rfl)
theorem dX9_firstOrder_20 : decode cX9_firstOrder 20 = .ok (.return_, 1) := dk_177 (dk_at dksX9_firstOrder_0 20 rfl rfl)
abbrev cX9_keepOrder : ByteArray := prog_15_method_103_code
def yX9_keepOrder : MethodName := ⟨RX9, "keepOrder", "(I)V"⟩
def dkwX9_keepOrder_1 : List UInt8 := [167, 255, 236, 177]
abbrev dktX9_keepOrder_1 : List UInt8 := dkwX9_keepOrder_1 ++ []
def dkwX9_keepOrder_0 : List UInt8 := [3, 61, 28, 27, 162, 0, 21, 42, 180, 0, 64, 28, 42, 180, 0, 61, 28, 46, 79, 132, 2, 1]
abbrev dktX9_keepOrder_0 : List UInt8 := dkwX9_keepOrder_0 ++ dktX9_keepOrder_1
theorem dksX9_keepOrder_0 : cX9_keepOrder.data.toList.drop 0 = dktX9_keepOrder_0 := by decide +kernel
theorem dksX9_keepOrder_1 : cX9_keepOrder.data.toList.drop 22 = dktX9_keepOrder_1 := dk_seg dksX9_keepOrder_0 22 rfl rfl
theorem dX9_keepOrder_0 : decode cX9_keepOrder 0 = .ok (.iconst 0, 1) := dk_3 (dk_at dksX9_keepOrder_0 0 rfl rfl)
theorem dX9_keepOrder_1 : decode cX9_keepOrder 1 = .ok (.istore_n 2, 1) := dk_61 (dk_at dksX9_keepOrder_0 1 rfl rfl)
theorem dX9_keepOrder_2 : decode cX9_keepOrder 2 = .ok (.iload_n 2, 1) := dk_28 (dk_at dksX9_keepOrder_0 2 rfl rfl)
theorem dX9_keepOrder_3 : decode cX9_keepOrder 3 = .ok (.iload_n 1, 1) := dk_27 (dk_at dksX9_keepOrder_0 3 rfl rfl)
theorem dX9_keepOrder_4 : decode cX9_keepOrder 4 = .ok (.if_icmp .ge 21, 3) := dk_162 0 21 (dk_at dksX9_keepOrder_0 4 rfl rfl)
theorem dX9_keepOrder_7 : decode cX9_keepOrder 7 = .ok (.aload_n 0, 1) := dk_42 (dk_at dksX9_keepOrder_0 7 rfl rfl)
theorem dX9_keepOrder_8 : decode cX9_keepOrder 8 = .ok (.getfield 64, 3) := dk_180 0 64 (dk_at dksX9_keepOrder_0 8 rfl rfl)
theorem dX9_keepOrder_11 : decode cX9_keepOrder 11 = .ok (.iload_n 2, 1) := dk_28 (dk_at dksX9_keepOrder_0 11 rfl rfl)
theorem dX9_keepOrder_12 : decode cX9_keepOrder 12 = .ok (.aload_n 0, 1) := dk_42 (dk_at dksX9_keepOrder_0 12 rfl rfl)
theorem dX9_keepOrder_13 : decode cX9_keepOrder 13 = .ok (.getfield 61, 3) := dk_180 0 61 (dk_at dksX9_keepOrder_0 13 rfl rfl)
theorem dX9_keepOrder_16 : decode cX9_keepOrder 16 = .ok (.iload_n 2, 1) := dk_28 (dk_at dksX9_keepOrder_0 16 rfl rfl)
theorem dX9_keepOrder_17 : decode cX9_keepOrder 17 = .ok (.iaload, 1) := dk_46 (dk_at dksX9_keepOrder_0 17 rfl rfl)
theorem dX9_keepOrder_18 : decode cX9_keepOrder 18 = .ok (.iastore, 1) := dk_79 (dk_at dksX9_keepOrder_0 18 rfl rfl)
theorem dX9_keepOrder_19 : decode cX9_keepOrder 19 = .ok (.iinc 2 1, 3) := dk_132 2 1 (dk_at dksX9_keepOrder_0 19 rfl rfl)
theorem dX9_keepOrder_22 : decode cX9_keepOrder 22 = .ok (.goto (-20), 3) := dk_167 255 236 (dk_at dksX9_keepOrder_1 0 rfl rfl)
theorem dX9_keepOrder_25 : decode cX9_keepOrder 25 = .ok (.return_, 1) := dk_177 (dk_at dksX9_keepOrder_1 3 rfl rfl)
abbrev cX9_nextOrder : ByteArray := prog_15_method_101_code
def yX9_nextOrder : MethodName := ⟨RX9, "nextOrder", "(I)Z"⟩
def dkwX9_nextOrder_4 : List UInt8 := [132, 4, 1, 132, 5, 255, 167, 255, 235, 4, 172]
abbrev dktX9_nextOrder_4 : List UInt8 := dkwX9_nextOrder_4 ++ []
def dkwX9_nextOrder_3 : List UInt8 := [96, 54, 4, 27, 4, 100, 54, 5, 21, 4, 21, 5, 162, 0, 20, 42, 21, 4, 21, 5, 182, 1, 125]
abbrev dktX9_nextOrder_3 : List UInt8 := dkwX9_nextOrder_3 ++ dktX9_nextOrder_4
def dkwX9_nextOrder_2 : List UInt8 := [46, 42, 180, 0, 61, 28, 46, 162, 0, 9, 132, 3, 255, 167, 255, 238, 42, 28, 29, 182, 1, 125, 28, 4]
abbrev dktX9_nextOrder_2 : List UInt8 := dkwX9_nextOrder_2 ++ dktX9_nextOrder_3
def dkwX9_nextOrder_1 : List UInt8 := [164, 0, 9, 132, 2, 255, 167, 255, 232, 28, 156, 0, 5, 3, 172, 27, 4, 100, 62, 42, 180, 0, 61, 29]
abbrev dktX9_nextOrder_1 : List UInt8 := dkwX9_nextOrder_1 ++ dktX9_nextOrder_2
def dkwX9_nextOrder_0 : List UInt8 := [27, 5, 100, 61, 28, 155, 0, 26, 42, 180, 0, 61, 28, 46, 42, 180, 0, 61, 28, 4, 96, 46]
abbrev dktX9_nextOrder_0 : List UInt8 := dkwX9_nextOrder_0 ++ dktX9_nextOrder_1
theorem dksX9_nextOrder_0 : cX9_nextOrder.data.toList.drop 0 = dktX9_nextOrder_0 := by decide +kernel
theorem dksX9_nextOrder_1 : cX9_nextOrder.data.toList.drop 22 = dktX9_nextOrder_1 := dk_seg dksX9_nextOrder_0 22 rfl rfl
theorem dksX9_nextOrder_2 : cX9_nextOrder.data.toList.drop 46 = dktX9_nextOrder_2 := dk_seg dksX9_nextOrder_1 24 rfl rfl
theorem dksX9_nextOrder_3 : cX9_nextOrder.data.toList.drop 70 = dktX9_nextOrder_3 := dk_seg dksX9_nextOrder_2 24 rfl rfl
theorem dksX9_nextOrder_4 : cX9_nextOrder.data.toList.drop 93 = dktX9_nextOrder_4 := dk_seg dksX9_nextOrder_3 23 rfl rfl
theorem dX9_nextOrder_0 : decode cX9_nextOrder 0 = .ok (.iload_n 1, 1) := dk_27 (dk_at dksX9_nextOrder_0 0 rfl rfl)
theorem dX9_nextOrder_1 : decode cX9_nextOrder 1 = .ok (.iconst 2, 1) := dk_5 (dk_at dksX9_nextOrder_0 1 rfl rfl)
theorem dX9_nextOrder_2 : decode cX9_nextOrder 2 = .ok (.isub, 1) := dk_100 (dk_at dksX9_nextOrder_0 2 rfl rfl)
theorem dX9_nextOrder_3 : decode cX9_nextOrder 3 = .ok (.istore_n 2, 1) := dk_61 (dk_at dksX9_nextOrder_0 3 rfl rfl)
theorem dX9_nextOrder_4 : decode cX9_nextOrder 4 = .ok (.iload_n 2, 1) := dk_28 (dk_at dksX9_nextOrder_0 4 rfl rfl)
theorem dX9_nextOrder_5 : decode cX9_nextOrder 5 = .ok (.ifCond .lt 26, 3) := dk_155 0 26 (dk_at dksX9_nextOrder_0 5 rfl rfl)
theorem dX9_nextOrder_8 : decode cX9_nextOrder 8 = .ok (.aload_n 0, 1) := dk_42 (dk_at dksX9_nextOrder_0 8 rfl rfl)
theorem dX9_nextOrder_9 : decode cX9_nextOrder 9 = .ok (.getfield 61, 3) := dk_180 0 61 (dk_at dksX9_nextOrder_0 9 rfl rfl)
theorem dX9_nextOrder_12 : decode cX9_nextOrder 12 = .ok (.iload_n 2, 1) := dk_28 (dk_at dksX9_nextOrder_0 12 rfl rfl)
theorem dX9_nextOrder_13 : decode cX9_nextOrder 13 = .ok (.iaload, 1) := dk_46 (dk_at dksX9_nextOrder_0 13 rfl rfl)
theorem dX9_nextOrder_14 : decode cX9_nextOrder 14 = .ok (.aload_n 0, 1) := dk_42 (dk_at dksX9_nextOrder_0 14 rfl rfl)
theorem dX9_nextOrder_15 : decode cX9_nextOrder 15 = .ok (.getfield 61, 3) := dk_180 0 61 (dk_at dksX9_nextOrder_0 15 rfl rfl)
theorem dX9_nextOrder_18 : decode cX9_nextOrder 18 = .ok (.iload_n 2, 1) := dk_28 (dk_at dksX9_nextOrder_0 18 rfl rfl)
theorem dX9_nextOrder_19 : decode cX9_nextOrder 19 = .ok (.iconst 1, 1) := dk_4 (dk_at dksX9_nextOrder_0 19 rfl rfl)
theorem dX9_nextOrder_20 : decode cX9_nextOrder 20 = .ok (.iadd, 1) := dk_96 (dk_at dksX9_nextOrder_0 20 rfl rfl)
theorem dX9_nextOrder_21 : decode cX9_nextOrder 21 = .ok (.iaload, 1) := dk_46 (dk_at dksX9_nextOrder_0 21 rfl rfl)
theorem dX9_nextOrder_22 : decode cX9_nextOrder 22 = .ok (.if_icmp .le 9, 3) := dk_164 0 9 (dk_at dksX9_nextOrder_1 0 rfl rfl)
theorem dX9_nextOrder_25 : decode cX9_nextOrder 25 = .ok (.iinc 2 (-1), 3) := dk_132 2 255 (dk_at dksX9_nextOrder_1 3 rfl rfl)
theorem dX9_nextOrder_28 : decode cX9_nextOrder 28 = .ok (.goto (-24), 3) := dk_167 255 232 (dk_at dksX9_nextOrder_1 6 rfl rfl)
theorem dX9_nextOrder_31 : decode cX9_nextOrder 31 = .ok (.iload_n 2, 1) := dk_28 (dk_at dksX9_nextOrder_1 9 rfl rfl)
theorem dX9_nextOrder_32 : decode cX9_nextOrder 32 = .ok (.ifCond .ge 5, 3) := dk_156 0 5 (dk_at dksX9_nextOrder_1 10 rfl rfl)
theorem dX9_nextOrder_35 : decode cX9_nextOrder 35 = .ok (.iconst 0, 1) := dk_3 (dk_at dksX9_nextOrder_1 13 rfl rfl)
theorem dX9_nextOrder_36 : decode cX9_nextOrder 36 = .ok (.ireturn, 1) := dk_172 (dk_at dksX9_nextOrder_1 14 rfl rfl)
theorem dX9_nextOrder_37 : decode cX9_nextOrder 37 = .ok (.iload_n 1, 1) := dk_27 (dk_at dksX9_nextOrder_1 15 rfl rfl)
theorem dX9_nextOrder_38 : decode cX9_nextOrder 38 = .ok (.iconst 1, 1) := dk_4 (dk_at dksX9_nextOrder_1 16 rfl rfl)
theorem dX9_nextOrder_39 : decode cX9_nextOrder 39 = .ok (.isub, 1) := dk_100 (dk_at dksX9_nextOrder_1 17 rfl rfl)
theorem dX9_nextOrder_40 : decode cX9_nextOrder 40 = .ok (.istore_n 3, 1) := dk_62 (dk_at dksX9_nextOrder_1 18 rfl rfl)
theorem dX9_nextOrder_41 : decode cX9_nextOrder 41 = .ok (.aload_n 0, 1) := dk_42 (dk_at dksX9_nextOrder_1 19 rfl rfl)
theorem dX9_nextOrder_42 : decode cX9_nextOrder 42 = .ok (.getfield 61, 3) := dk_180 0 61 (dk_at dksX9_nextOrder_1 20 rfl rfl)
theorem dX9_nextOrder_45 : decode cX9_nextOrder 45 = .ok (.iload_n 3, 1) := dk_29 (dk_at dksX9_nextOrder_1 23 rfl rfl)
theorem dX9_nextOrder_46 : decode cX9_nextOrder 46 = .ok (.iaload, 1) := dk_46 (dk_at dksX9_nextOrder_2 0 rfl rfl)
theorem dX9_nextOrder_47 : decode cX9_nextOrder 47 = .ok (.aload_n 0, 1) := dk_42 (dk_at dksX9_nextOrder_2 1 rfl rfl)
theorem dX9_nextOrder_48 : decode cX9_nextOrder 48 = .ok (.getfield 61, 3) := dk_180 0 61 (dk_at dksX9_nextOrder_2 2 rfl rfl)
theorem dX9_nextOrder_51 : decode cX9_nextOrder 51 = .ok (.iload_n 2, 1) := dk_28 (dk_at dksX9_nextOrder_2 5 rfl rfl)
theorem dX9_nextOrder_52 : decode cX9_nextOrder 52 = .ok (.iaload, 1) := dk_46 (dk_at dksX9_nextOrder_2 6 rfl rfl)
theorem dX9_nextOrder_53 : decode cX9_nextOrder 53 = .ok (.if_icmp .ge 9, 3) := dk_162 0 9 (dk_at dksX9_nextOrder_2 7 rfl rfl)
theorem dX9_nextOrder_56 : decode cX9_nextOrder 56 = .ok (.iinc 3 (-1), 3) := dk_132 3 255 (dk_at dksX9_nextOrder_2 10 rfl rfl)
theorem dX9_nextOrder_59 : decode cX9_nextOrder 59 = .ok (.goto (-18), 3) := dk_167 255 238 (dk_at dksX9_nextOrder_2 13 rfl rfl)
theorem dX9_nextOrder_62 : decode cX9_nextOrder 62 = .ok (.aload_n 0, 1) := dk_42 (dk_at dksX9_nextOrder_2 16 rfl rfl)
theorem dX9_nextOrder_63 : decode cX9_nextOrder 63 = .ok (.iload_n 2, 1) := dk_28 (dk_at dksX9_nextOrder_2 17 rfl rfl)
theorem dX9_nextOrder_64 : decode cX9_nextOrder 64 = .ok (.iload_n 3, 1) := dk_29 (dk_at dksX9_nextOrder_2 18 rfl rfl)
theorem dX9_nextOrder_65 : decode cX9_nextOrder 65 = .ok (.invokevirtual 381, 3) := dk_182 1 125 (dk_at dksX9_nextOrder_2 19 rfl rfl)
theorem dX9_nextOrder_68 : decode cX9_nextOrder 68 = .ok (.iload_n 2, 1) := dk_28 (dk_at dksX9_nextOrder_2 22 rfl rfl)
theorem dX9_nextOrder_69 : decode cX9_nextOrder 69 = .ok (.iconst 1, 1) := dk_4 (dk_at dksX9_nextOrder_2 23 rfl rfl)
theorem dX9_nextOrder_70 : decode cX9_nextOrder 70 = .ok (.iadd, 1) := dk_96 (dk_at dksX9_nextOrder_3 0 rfl rfl)
theorem dX9_nextOrder_71 : decode cX9_nextOrder 71 = .ok (.istore 4, 2) := dk_54 4 (dk_at dksX9_nextOrder_3 1 rfl rfl)
theorem dX9_nextOrder_73 : decode cX9_nextOrder 73 = .ok (.iload_n 1, 1) := dk_27 (dk_at dksX9_nextOrder_3 3 rfl rfl)
theorem dX9_nextOrder_74 : decode cX9_nextOrder 74 = .ok (.iconst 1, 1) := dk_4 (dk_at dksX9_nextOrder_3 4 rfl rfl)
theorem dX9_nextOrder_75 : decode cX9_nextOrder 75 = .ok (.isub, 1) := dk_100 (dk_at dksX9_nextOrder_3 5 rfl rfl)
theorem dX9_nextOrder_76 : decode cX9_nextOrder 76 = .ok (.istore 5, 2) := dk_54 5 (dk_at dksX9_nextOrder_3 6 rfl rfl)
theorem dX9_nextOrder_78 : decode cX9_nextOrder 78 = .ok (.iload 4, 2) := dk_21 4 (dk_at dksX9_nextOrder_3 8 rfl rfl)
theorem dX9_nextOrder_80 : decode cX9_nextOrder 80 = .ok (.iload 5, 2) := dk_21 5 (dk_at dksX9_nextOrder_3 10 rfl rfl)
theorem dX9_nextOrder_82 : decode cX9_nextOrder 82 = .ok (.if_icmp .ge 20, 3) := dk_162 0 20 (dk_at dksX9_nextOrder_3 12 rfl rfl)
theorem dX9_nextOrder_85 : decode cX9_nextOrder 85 = .ok (.aload_n 0, 1) := dk_42 (dk_at dksX9_nextOrder_3 15 rfl rfl)
theorem dX9_nextOrder_86 : decode cX9_nextOrder 86 = .ok (.iload 4, 2) := dk_21 4 (dk_at dksX9_nextOrder_3 16 rfl rfl)
theorem dX9_nextOrder_88 : decode cX9_nextOrder 88 = .ok (.iload 5, 2) := dk_21 5 (dk_at dksX9_nextOrder_3 18 rfl rfl)
theorem dX9_nextOrder_90 : decode cX9_nextOrder 90 = .ok (.invokevirtual 381, 3) := dk_182 1 125 (dk_at dksX9_nextOrder_3 20 rfl rfl)
theorem dX9_nextOrder_93 : decode cX9_nextOrder 93 = .ok (.iinc 4 1, 3) := dk_132 4 1 (dk_at dksX9_nextOrder_4 0 rfl rfl)
theorem dX9_nextOrder_96 : decode cX9_nextOrder 96 = .ok (.iinc 5 (-1), 3) := dk_132 5 255 (dk_at dksX9_nextOrder_4 3 rfl rfl)
theorem dX9_nextOrder_99 : decode cX9_nextOrder 99 = .ok (.goto (-21), 3) := dk_167 255 235 (dk_at dksX9_nextOrder_4 6 rfl rfl)
theorem dX9_nextOrder_102 : decode cX9_nextOrder 102 = .ok (.iconst 1, 1) := dk_4 (dk_at dksX9_nextOrder_4 9 rfl rfl)
theorem dX9_nextOrder_103 : decode cX9_nextOrder 103 = .ok (.ireturn, 1) := dk_172 (dk_at dksX9_nextOrder_4 10 rfl rfl)
abbrev cX9_exchange : ByteArray := prog_15_method_102_code
def yX9_exchange : MethodName := ⟨RX9, "exchange", "(II)V"⟩
def dkwX9_exchange_1 : List UInt8 := [29, 79, 177]
abbrev dktX9_exchange_1 : List UInt8 := dkwX9_exchange_1 ++ []
def dkwX9_exchange_0 : List UInt8 := [42, 180, 0, 61, 27, 46, 62, 42, 180, 0, 61, 27, 42, 180, 0, 61, 28, 46, 79, 42, 180, 0, 61, 28]
abbrev dktX9_exchange_0 : List UInt8 := dkwX9_exchange_0 ++ dktX9_exchange_1
theorem dksX9_exchange_0 : cX9_exchange.data.toList.drop 0 = dktX9_exchange_0 := by decide +kernel
theorem dksX9_exchange_1 : cX9_exchange.data.toList.drop 24 = dktX9_exchange_1 := dk_seg dksX9_exchange_0 24 rfl rfl
theorem dX9_exchange_0 : decode cX9_exchange 0 = .ok (.aload_n 0, 1) := dk_42 (dk_at dksX9_exchange_0 0 rfl rfl)
theorem dX9_exchange_1 : decode cX9_exchange 1 = .ok (.getfield 61, 3) := dk_180 0 61 (dk_at dksX9_exchange_0 1 rfl rfl)
theorem dX9_exchange_4 : decode cX9_exchange 4 = .ok (.iload_n 1, 1) := dk_27 (dk_at dksX9_exchange_0 4 rfl rfl)
theorem dX9_exchange_5 : decode cX9_exchange 5 = .ok (.iaload, 1) := dk_46 (dk_at dksX9_exchange_0 5 rfl rfl)
theorem dX9_exchange_6 : decode cX9_exchange 6 = .ok (.istore_n 3, 1) := dk_62 (dk_at dksX9_exchange_0 6 rfl rfl)
theorem dX9_exchange_7 : decode cX9_exchange 7 = .ok (.aload_n 0, 1) := dk_42 (dk_at dksX9_exchange_0 7 rfl rfl)
theorem dX9_exchange_8 : decode cX9_exchange 8 = .ok (.getfield 61, 3) := dk_180 0 61 (dk_at dksX9_exchange_0 8 rfl rfl)
theorem dX9_exchange_11 : decode cX9_exchange 11 = .ok (.iload_n 1, 1) := dk_27 (dk_at dksX9_exchange_0 11 rfl rfl)
theorem dX9_exchange_12 : decode cX9_exchange 12 = .ok (.aload_n 0, 1) := dk_42 (dk_at dksX9_exchange_0 12 rfl rfl)
theorem dX9_exchange_13 : decode cX9_exchange 13 = .ok (.getfield 61, 3) := dk_180 0 61 (dk_at dksX9_exchange_0 13 rfl rfl)
theorem dX9_exchange_16 : decode cX9_exchange 16 = .ok (.iload_n 2, 1) := dk_28 (dk_at dksX9_exchange_0 16 rfl rfl)
theorem dX9_exchange_17 : decode cX9_exchange 17 = .ok (.iaload, 1) := dk_46 (dk_at dksX9_exchange_0 17 rfl rfl)
theorem dX9_exchange_18 : decode cX9_exchange 18 = .ok (.iastore, 1) := dk_79 (dk_at dksX9_exchange_0 18 rfl rfl)
theorem dX9_exchange_19 : decode cX9_exchange 19 = .ok (.aload_n 0, 1) := dk_42 (dk_at dksX9_exchange_0 19 rfl rfl)
theorem dX9_exchange_20 : decode cX9_exchange 20 = .ok (.getfield 61, 3) := dk_180 0 61 (dk_at dksX9_exchange_0 20 rfl rfl)
theorem dX9_exchange_23 : decode cX9_exchange 23 = .ok (.iload_n 2, 1) := dk_28 (dk_at dksX9_exchange_0 23 rfl rfl)
theorem dX9_exchange_24 : decode cX9_exchange 24 = .ok (.iload_n 3, 1) := dk_29 (dk_at dksX9_exchange_1 0 rfl rfl)
theorem dX9_exchange_25 : decode cX9_exchange 25 = .ok (.iastore, 1) := dk_79 (dk_at dksX9_exchange_1 1 rfl rfl)
theorem dX9_exchange_26 : decode cX9_exchange 26 = .ok (.return_, 1) := dk_177 (dk_at dksX9_exchange_1 2 rfl rfl)
abbrev cX9_putWindow : ByteArray := prog_15_method_104_code
def yX9_putWindow : MethodName := ⟨RX9, "putWindow", "(III[I)V"⟩
def dkwX9_putWindow_2 : List UInt8 := [96, 96, 54, 5, 132, 6, 1, 167, 255, 207, 177]
abbrev dktX9_putWindow_2 : List UInt8 := dkwX9_putWindow_2 ++ []
def dkwX9_putWindow_1 : List UInt8 := [42, 21, 7, 27, 21, 5, 182, 0, 219, 21, 5, 42, 21, 7, 182, 0, 137, 42, 180, 0, 70, 21, 6, 46]
abbrev dktX9_putWindow_1 : List UInt8 := dkwX9_putWindow_1 ++ dktX9_putWindow_2
def dkwX9_putWindow_0 : List UInt8 := [28, 54, 5, 3, 54, 6, 21, 6, 29, 162, 0, 49, 42, 180, 0, 67, 25, 4, 21, 6, 46, 46, 54, 7]
abbrev dktX9_putWindow_0 : List UInt8 := dkwX9_putWindow_0 ++ dktX9_putWindow_1
theorem dksX9_putWindow_0 : cX9_putWindow.data.toList.drop 0 = dktX9_putWindow_0 := by decide +kernel
theorem dksX9_putWindow_1 : cX9_putWindow.data.toList.drop 24 = dktX9_putWindow_1 := dk_seg dksX9_putWindow_0 24 rfl rfl
theorem dksX9_putWindow_2 : cX9_putWindow.data.toList.drop 48 = dktX9_putWindow_2 := dk_seg dksX9_putWindow_1 24 rfl rfl
theorem dX9_putWindow_0 : decode cX9_putWindow 0 = .ok (.iload_n 2, 1) := dk_28 (dk_at dksX9_putWindow_0 0 rfl rfl)
theorem dX9_putWindow_1 : decode cX9_putWindow 1 = .ok (.istore 5, 2) := dk_54 5 (dk_at dksX9_putWindow_0 1 rfl rfl)
theorem dX9_putWindow_3 : decode cX9_putWindow 3 = .ok (.iconst 0, 1) := dk_3 (dk_at dksX9_putWindow_0 3 rfl rfl)
theorem dX9_putWindow_4 : decode cX9_putWindow 4 = .ok (.istore 6, 2) := dk_54 6 (dk_at dksX9_putWindow_0 4 rfl rfl)
theorem dX9_putWindow_6 : decode cX9_putWindow 6 = .ok (.iload 6, 2) := dk_21 6 (dk_at dksX9_putWindow_0 6 rfl rfl)
theorem dX9_putWindow_8 : decode cX9_putWindow 8 = .ok (.iload_n 3, 1) := dk_29 (dk_at dksX9_putWindow_0 8 rfl rfl)
theorem dX9_putWindow_9 : decode cX9_putWindow 9 = .ok (.if_icmp .ge 49, 3) := dk_162 0 49 (dk_at dksX9_putWindow_0 9 rfl rfl)
theorem dX9_putWindow_12 : decode cX9_putWindow 12 = .ok (.aload_n 0, 1) := dk_42 (dk_at dksX9_putWindow_0 12 rfl rfl)
theorem dX9_putWindow_13 : decode cX9_putWindow 13 = .ok (.getfield 67, 3) := dk_180 0 67 (dk_at dksX9_putWindow_0 13 rfl rfl)
theorem dX9_putWindow_16 : decode cX9_putWindow 16 = .ok (.aload 4, 2) := dk_25 4 (dk_at dksX9_putWindow_0 16 rfl rfl)
theorem dX9_putWindow_18 : decode cX9_putWindow 18 = .ok (.iload 6, 2) := dk_21 6 (dk_at dksX9_putWindow_0 18 rfl rfl)
theorem dX9_putWindow_20 : decode cX9_putWindow 20 = .ok (.iaload, 1) := dk_46 (dk_at dksX9_putWindow_0 20 rfl rfl)
theorem dX9_putWindow_21 : decode cX9_putWindow 21 = .ok (.iaload, 1) := dk_46 (dk_at dksX9_putWindow_0 21 rfl rfl)
theorem dX9_putWindow_22 : decode cX9_putWindow 22 = .ok (.istore 7, 2) := dk_54 7 (dk_at dksX9_putWindow_0 22 rfl rfl)
theorem dX9_putWindow_24 : decode cX9_putWindow 24 = .ok (.aload_n 0, 1) := dk_42 (dk_at dksX9_putWindow_1 0 rfl rfl)
theorem dX9_putWindow_25 : decode cX9_putWindow 25 = .ok (.iload 7, 2) := dk_21 7 (dk_at dksX9_putWindow_1 1 rfl rfl)
theorem dX9_putWindow_27 : decode cX9_putWindow 27 = .ok (.iload_n 1, 1) := dk_27 (dk_at dksX9_putWindow_1 3 rfl rfl)
theorem dX9_putWindow_28 : decode cX9_putWindow 28 = .ok (.iload 5, 2) := dk_21 5 (dk_at dksX9_putWindow_1 4 rfl rfl)
theorem dX9_putWindow_30 : decode cX9_putWindow 30 = .ok (.invokevirtual 219, 3) := dk_182 0 219 (dk_at dksX9_putWindow_1 6 rfl rfl)
theorem dX9_putWindow_33 : decode cX9_putWindow 33 = .ok (.iload 5, 2) := dk_21 5 (dk_at dksX9_putWindow_1 9 rfl rfl)
theorem dX9_putWindow_35 : decode cX9_putWindow 35 = .ok (.aload_n 0, 1) := dk_42 (dk_at dksX9_putWindow_1 11 rfl rfl)
theorem dX9_putWindow_36 : decode cX9_putWindow 36 = .ok (.iload 7, 2) := dk_21 7 (dk_at dksX9_putWindow_1 12 rfl rfl)
theorem dX9_putWindow_38 : decode cX9_putWindow 38 = .ok (.invokevirtual 137, 3) := dk_182 0 137 (dk_at dksX9_putWindow_1 14 rfl rfl)
theorem dX9_putWindow_41 : decode cX9_putWindow 41 = .ok (.aload_n 0, 1) := dk_42 (dk_at dksX9_putWindow_1 17 rfl rfl)
theorem dX9_putWindow_42 : decode cX9_putWindow 42 = .ok (.getfield 70, 3) := dk_180 0 70 (dk_at dksX9_putWindow_1 18 rfl rfl)
theorem dX9_putWindow_45 : decode cX9_putWindow 45 = .ok (.iload 6, 2) := dk_21 6 (dk_at dksX9_putWindow_1 21 rfl rfl)
theorem dX9_putWindow_47 : decode cX9_putWindow 47 = .ok (.iaload, 1) := dk_46 (dk_at dksX9_putWindow_1 23 rfl rfl)
theorem dX9_putWindow_48 : decode cX9_putWindow 48 = .ok (.iadd, 1) := dk_96 (dk_at dksX9_putWindow_2 0 rfl rfl)
theorem dX9_putWindow_49 : decode cX9_putWindow 49 = .ok (.iadd, 1) := dk_96 (dk_at dksX9_putWindow_2 1 rfl rfl)
theorem dX9_putWindow_50 : decode cX9_putWindow 50 = .ok (.istore 5, 2) := dk_54 5 (dk_at dksX9_putWindow_2 2 rfl rfl)
theorem dX9_putWindow_52 : decode cX9_putWindow 52 = .ok (.iinc 6 1, 3) := dk_132 6 1 (dk_at dksX9_putWindow_2 4 rfl rfl)
theorem dX9_putWindow_55 : decode cX9_putWindow 55 = .ok (.goto (-49), 3) := dk_167 255 207 (dk_at dksX9_putWindow_2 7 rfl rfl)
theorem dX9_putWindow_58 : decode cX9_putWindow 58 = .ok (.return_, 1) := dk_177 (dk_at dksX9_putWindow_2 10 rfl rfl)
abbrev cX9_swaps : ByteArray := prog_15_method_109_code
def yX9_swaps : MethodName := ⟨RX9, "swaps", "()I"⟩
def dkwX9_swaps_4 : List UInt8 := [100, 182, 0, 109, 172]
abbrev dktX9_swaps_4 : List UInt8 := dkwX9_swaps_4 ++ []
def dkwX9_swaps_3 : List UInt8 := [42, 28, 29, 182, 1, 153, 132, 3, 1, 167, 255, 207, 132, 2, 1, 167, 255, 187, 42, 27, 42, 182, 0, 223]
abbrev dktX9_swaps_3 : List UInt8 := dkwX9_swaps_3 ++ dktX9_swaps_4
def dkwX9_swaps_2 : List UInt8 := [153, 0, 30, 42, 182, 0, 223, 54, 4, 42, 28, 29, 182, 1, 153, 42, 182, 0, 223, 21, 4, 161, 0, 9]
abbrev dktX9_swaps_2 : List UInt8 := dkwX9_swaps_2 ++ dktX9_swaps_3
def dkwX9_swaps_1 : List UInt8 := [46, 162, 0, 65, 28, 4, 96, 62, 29, 42, 180, 0, 16, 5, 46, 162, 0, 45, 42, 28, 29, 182, 1, 150]
abbrev dktX9_swaps_1 : List UInt8 := dkwX9_swaps_1 ++ dktX9_swaps_2
def dkwX9_swaps_0 : List UInt8 := [42, 3, 181, 0, 92, 42, 16, 14, 182, 0, 186, 42, 182, 0, 223, 60, 3, 61, 28, 42, 180, 0, 16, 5]
abbrev dktX9_swaps_0 : List UInt8 := dkwX9_swaps_0 ++ dktX9_swaps_1
theorem dksX9_swaps_0 : cX9_swaps.data.toList.drop 0 = dktX9_swaps_0 := by decide +kernel
theorem dksX9_swaps_1 : cX9_swaps.data.toList.drop 24 = dktX9_swaps_1 := dk_seg dksX9_swaps_0 24 rfl rfl
theorem dksX9_swaps_2 : cX9_swaps.data.toList.drop 48 = dktX9_swaps_2 := dk_seg dksX9_swaps_1 24 rfl rfl
theorem dksX9_swaps_3 : cX9_swaps.data.toList.drop 72 = dktX9_swaps_3 := dk_seg dksX9_swaps_2 24 rfl rfl
theorem dksX9_swaps_4 : cX9_swaps.data.toList.drop 96 = dktX9_swaps_4 := dk_seg dksX9_swaps_3 24 rfl rfl
theorem dX9_swaps_0 : decode cX9_swaps 0 = .ok (.aload_n 0, 1) := dk_42 (dk_at dksX9_swaps_0 0 rfl rfl)
theorem dX9_swaps_1 : decode cX9_swaps 1 = .ok (.iconst 0, 1) := dk_3 (dk_at dksX9_swaps_0 1 rfl rfl)
theorem dX9_swaps_2 : decode cX9_swaps 2 = .ok (.putfield 92, 3) := dk_181 0 92 (dk_at dksX9_swaps_0 2 rfl rfl)
theorem dX9_swaps_5 : decode cX9_swaps 5 = .ok (.aload_n 0, 1) := dk_42 (dk_at dksX9_swaps_0 5 rfl rfl)
theorem dX9_swaps_6 : decode cX9_swaps 6 = .ok (.bipush 14, 2) := dk_16 14 (dk_at dksX9_swaps_0 6 rfl rfl)
theorem dX9_swaps_8 : decode cX9_swaps 8 = .ok (.invokevirtual 186, 3) := dk_182 0 186 (dk_at dksX9_swaps_0 8 rfl rfl)
theorem dX9_swaps_11 : decode cX9_swaps 11 = .ok (.aload_n 0, 1) := dk_42 (dk_at dksX9_swaps_0 11 rfl rfl)
theorem dX9_swaps_12 : decode cX9_swaps 12 = .ok (.invokevirtual 223, 3) := dk_182 0 223 (dk_at dksX9_swaps_0 12 rfl rfl)
theorem dX9_swaps_15 : decode cX9_swaps 15 = .ok (.istore_n 1, 1) := dk_60 (dk_at dksX9_swaps_0 15 rfl rfl)
theorem dX9_swaps_16 : decode cX9_swaps 16 = .ok (.iconst 0, 1) := dk_3 (dk_at dksX9_swaps_0 16 rfl rfl)
theorem dX9_swaps_17 : decode cX9_swaps 17 = .ok (.istore_n 2, 1) := dk_61 (dk_at dksX9_swaps_0 17 rfl rfl)
theorem dX9_swaps_18 : decode cX9_swaps 18 = .ok (.iload_n 2, 1) := dk_28 (dk_at dksX9_swaps_0 18 rfl rfl)
theorem dX9_swaps_19 : decode cX9_swaps 19 = .ok (.aload_n 0, 1) := dk_42 (dk_at dksX9_swaps_0 19 rfl rfl)
theorem dX9_swaps_20 : decode cX9_swaps 20 = .ok (.getfield 16, 3) := dk_180 0 16 (dk_at dksX9_swaps_0 20 rfl rfl)
theorem dX9_swaps_23 : decode cX9_swaps 23 = .ok (.iconst 2, 1) := dk_5 (dk_at dksX9_swaps_0 23 rfl rfl)
theorem dX9_swaps_24 : decode cX9_swaps 24 = .ok (.iaload, 1) := dk_46 (dk_at dksX9_swaps_1 0 rfl rfl)
theorem dX9_swaps_25 : decode cX9_swaps 25 = .ok (.if_icmp .ge 65, 3) := dk_162 0 65 (dk_at dksX9_swaps_1 1 rfl rfl)
theorem dX9_swaps_28 : decode cX9_swaps 28 = .ok (.iload_n 2, 1) := dk_28 (dk_at dksX9_swaps_1 4 rfl rfl)
theorem dX9_swaps_29 : decode cX9_swaps 29 = .ok (.iconst 1, 1) := dk_4 (dk_at dksX9_swaps_1 5 rfl rfl)
theorem dX9_swaps_30 : decode cX9_swaps 30 = .ok (.iadd, 1) := dk_96 (dk_at dksX9_swaps_1 6 rfl rfl)
theorem dX9_swaps_31 : decode cX9_swaps 31 = .ok (.istore_n 3, 1) := dk_62 (dk_at dksX9_swaps_1 7 rfl rfl)
theorem dX9_swaps_32 : decode cX9_swaps 32 = .ok (.iload_n 3, 1) := dk_29 (dk_at dksX9_swaps_1 8 rfl rfl)
theorem dX9_swaps_33 : decode cX9_swaps 33 = .ok (.aload_n 0, 1) := dk_42 (dk_at dksX9_swaps_1 9 rfl rfl)
theorem dX9_swaps_34 : decode cX9_swaps 34 = .ok (.getfield 16, 3) := dk_180 0 16 (dk_at dksX9_swaps_1 10 rfl rfl)
theorem dX9_swaps_37 : decode cX9_swaps 37 = .ok (.iconst 2, 1) := dk_5 (dk_at dksX9_swaps_1 13 rfl rfl)
theorem dX9_swaps_38 : decode cX9_swaps 38 = .ok (.iaload, 1) := dk_46 (dk_at dksX9_swaps_1 14 rfl rfl)
theorem dX9_swaps_39 : decode cX9_swaps 39 = .ok (.if_icmp .ge 45, 3) := dk_162 0 45 (dk_at dksX9_swaps_1 15 rfl rfl)
theorem dX9_swaps_42 : decode cX9_swaps 42 = .ok (.aload_n 0, 1) := dk_42 (dk_at dksX9_swaps_1 18 rfl rfl)
theorem dX9_swaps_43 : decode cX9_swaps 43 = .ok (.iload_n 2, 1) := dk_28 (dk_at dksX9_swaps_1 19 rfl rfl)
theorem dX9_swaps_44 : decode cX9_swaps 44 = .ok (.iload_n 3, 1) := dk_29 (dk_at dksX9_swaps_1 20 rfl rfl)
theorem dX9_swaps_45 : decode cX9_swaps 45 = .ok (.invokevirtual 406, 3) := dk_182 1 150 (dk_at dksX9_swaps_1 21 rfl rfl)
theorem dX9_swaps_48 : decode cX9_swaps 48 = .ok (.ifCond .eq 30, 3) := dk_153 0 30 (dk_at dksX9_swaps_2 0 rfl rfl)
theorem dX9_swaps_51 : decode cX9_swaps 51 = .ok (.aload_n 0, 1) := dk_42 (dk_at dksX9_swaps_2 3 rfl rfl)
theorem dX9_swaps_52 : decode cX9_swaps 52 = .ok (.invokevirtual 223, 3) := dk_182 0 223 (dk_at dksX9_swaps_2 4 rfl rfl)
theorem dX9_swaps_55 : decode cX9_swaps 55 = .ok (.istore 4, 2) := dk_54 4 (dk_at dksX9_swaps_2 7 rfl rfl)
theorem dX9_swaps_57 : decode cX9_swaps 57 = .ok (.aload_n 0, 1) := dk_42 (dk_at dksX9_swaps_2 9 rfl rfl)
theorem dX9_swaps_58 : decode cX9_swaps 58 = .ok (.iload_n 2, 1) := dk_28 (dk_at dksX9_swaps_2 10 rfl rfl)
theorem dX9_swaps_59 : decode cX9_swaps 59 = .ok (.iload_n 3, 1) := dk_29 (dk_at dksX9_swaps_2 11 rfl rfl)
theorem dX9_swaps_60 : decode cX9_swaps 60 = .ok (.invokevirtual 409, 3) := dk_182 1 153 (dk_at dksX9_swaps_2 12 rfl rfl)
theorem dX9_swaps_63 : decode cX9_swaps 63 = .ok (.aload_n 0, 1) := dk_42 (dk_at dksX9_swaps_2 15 rfl rfl)
theorem dX9_swaps_64 : decode cX9_swaps 64 = .ok (.invokevirtual 223, 3) := dk_182 0 223 (dk_at dksX9_swaps_2 16 rfl rfl)
theorem dX9_swaps_67 : decode cX9_swaps 67 = .ok (.iload 4, 2) := dk_21 4 (dk_at dksX9_swaps_2 19 rfl rfl)
theorem dX9_swaps_69 : decode cX9_swaps 69 = .ok (.if_icmp .lt 9, 3) := dk_161 0 9 (dk_at dksX9_swaps_2 21 rfl rfl)
theorem dX9_swaps_72 : decode cX9_swaps 72 = .ok (.aload_n 0, 1) := dk_42 (dk_at dksX9_swaps_3 0 rfl rfl)
theorem dX9_swaps_73 : decode cX9_swaps 73 = .ok (.iload_n 2, 1) := dk_28 (dk_at dksX9_swaps_3 1 rfl rfl)
theorem dX9_swaps_74 : decode cX9_swaps 74 = .ok (.iload_n 3, 1) := dk_29 (dk_at dksX9_swaps_3 2 rfl rfl)
theorem dX9_swaps_75 : decode cX9_swaps 75 = .ok (.invokevirtual 409, 3) := dk_182 1 153 (dk_at dksX9_swaps_3 3 rfl rfl)
theorem dX9_swaps_78 : decode cX9_swaps 78 = .ok (.iinc 3 1, 3) := dk_132 3 1 (dk_at dksX9_swaps_3 6 rfl rfl)
theorem dX9_swaps_81 : decode cX9_swaps 81 = .ok (.goto (-49), 3) := dk_167 255 207 (dk_at dksX9_swaps_3 9 rfl rfl)
theorem dX9_swaps_84 : decode cX9_swaps 84 = .ok (.iinc 2 1, 3) := dk_132 2 1 (dk_at dksX9_swaps_3 12 rfl rfl)
theorem dX9_swaps_87 : decode cX9_swaps 87 = .ok (.goto (-69), 3) := dk_167 255 187 (dk_at dksX9_swaps_3 15 rfl rfl)
theorem dX9_swaps_90 : decode cX9_swaps 90 = .ok (.aload_n 0, 1) := dk_42 (dk_at dksX9_swaps_3 18 rfl rfl)
theorem dX9_swaps_91 : decode cX9_swaps 91 = .ok (.iload_n 1, 1) := dk_27 (dk_at dksX9_swaps_3 19 rfl rfl)
theorem dX9_swaps_92 : decode cX9_swaps 92 = .ok (.aload_n 0, 1) := dk_42 (dk_at dksX9_swaps_3 20 rfl rfl)
theorem dX9_swaps_93 : decode cX9_swaps 93 = .ok (.invokevirtual 223, 3) := dk_182 0 223 (dk_at dksX9_swaps_3 21 rfl rfl)
theorem dX9_swaps_96 : decode cX9_swaps 96 = .ok (.isub, 1) := dk_100 (dk_at dksX9_swaps_4 0 rfl rfl)
theorem dX9_swaps_97 : decode cX9_swaps 97 = .ok (.invokevirtual 109, 3) := dk_182 0 109 (dk_at dksX9_swaps_4 1 rfl rfl)
theorem dX9_swaps_100 : decode cX9_swaps 100 = .ok (.ireturn, 1) := dk_172 (dk_at dksX9_swaps_4 4 rfl rfl)
abbrev cX9_areLike : ByteArray := prog_15_method_107_code
def yX9_areLike : MethodName := ⟨RX9, "areLike", "(II)Z"⟩
def dkwX9_areLike_2 : List UInt8 := [172]
abbrev dktX9_areLike_2 : List UInt8 := dkwX9_areLike_2 ++ []
def dkwX9_areLike_1 : List UInt8 := [182, 0, 137, 160, 0, 20, 42, 27, 182, 0, 147, 42, 28, 182, 0, 147, 160, 0, 7, 4, 167, 0, 4, 3]
abbrev dktX9_areLike_1 : List UInt8 := dkwX9_areLike_1 ++ dktX9_areLike_2
def dkwX9_areLike_0 : List UInt8 := [42, 27, 182, 0, 161, 153, 0, 41, 42, 28, 182, 0, 161, 153, 0, 33, 42, 27, 182, 0, 137, 42, 28]
abbrev dktX9_areLike_0 : List UInt8 := dkwX9_areLike_0 ++ dktX9_areLike_1
theorem dksX9_areLike_0 : cX9_areLike.data.toList.drop 0 = dktX9_areLike_0 := by decide +kernel
theorem dksX9_areLike_1 : cX9_areLike.data.toList.drop 23 = dktX9_areLike_1 := dk_seg dksX9_areLike_0 23 rfl rfl
theorem dksX9_areLike_2 : cX9_areLike.data.toList.drop 47 = dktX9_areLike_2 := dk_seg dksX9_areLike_1 24 rfl rfl
theorem dX9_areLike_0 : decode cX9_areLike 0 = .ok (.aload_n 0, 1) := dk_42 (dk_at dksX9_areLike_0 0 rfl rfl)
theorem dX9_areLike_1 : decode cX9_areLike 1 = .ok (.iload_n 1, 1) := dk_27 (dk_at dksX9_areLike_0 1 rfl rfl)
theorem dX9_areLike_2 : decode cX9_areLike 2 = .ok (.invokevirtual 161, 3) := dk_182 0 161 (dk_at dksX9_areLike_0 2 rfl rfl)
theorem dX9_areLike_5 : decode cX9_areLike 5 = .ok (.ifCond .eq 41, 3) := dk_153 0 41 (dk_at dksX9_areLike_0 5 rfl rfl)
theorem dX9_areLike_8 : decode cX9_areLike 8 = .ok (.aload_n 0, 1) := dk_42 (dk_at dksX9_areLike_0 8 rfl rfl)
theorem dX9_areLike_9 : decode cX9_areLike 9 = .ok (.iload_n 2, 1) := dk_28 (dk_at dksX9_areLike_0 9 rfl rfl)
theorem dX9_areLike_10 : decode cX9_areLike 10 = .ok (.invokevirtual 161, 3) := dk_182 0 161 (dk_at dksX9_areLike_0 10 rfl rfl)
theorem dX9_areLike_13 : decode cX9_areLike 13 = .ok (.ifCond .eq 33, 3) := dk_153 0 33 (dk_at dksX9_areLike_0 13 rfl rfl)
theorem dX9_areLike_16 : decode cX9_areLike 16 = .ok (.aload_n 0, 1) := dk_42 (dk_at dksX9_areLike_0 16 rfl rfl)
theorem dX9_areLike_17 : decode cX9_areLike 17 = .ok (.iload_n 1, 1) := dk_27 (dk_at dksX9_areLike_0 17 rfl rfl)
theorem dX9_areLike_18 : decode cX9_areLike 18 = .ok (.invokevirtual 137, 3) := dk_182 0 137 (dk_at dksX9_areLike_0 18 rfl rfl)
theorem dX9_areLike_21 : decode cX9_areLike 21 = .ok (.aload_n 0, 1) := dk_42 (dk_at dksX9_areLike_0 21 rfl rfl)
theorem dX9_areLike_22 : decode cX9_areLike 22 = .ok (.iload_n 2, 1) := dk_28 (dk_at dksX9_areLike_0 22 rfl rfl)
theorem dX9_areLike_23 : decode cX9_areLike 23 = .ok (.invokevirtual 137, 3) := dk_182 0 137 (dk_at dksX9_areLike_1 0 rfl rfl)
theorem dX9_areLike_26 : decode cX9_areLike 26 = .ok (.if_icmp .ne 20, 3) := dk_160 0 20 (dk_at dksX9_areLike_1 3 rfl rfl)
theorem dX9_areLike_29 : decode cX9_areLike 29 = .ok (.aload_n 0, 1) := dk_42 (dk_at dksX9_areLike_1 6 rfl rfl)
theorem dX9_areLike_30 : decode cX9_areLike 30 = .ok (.iload_n 1, 1) := dk_27 (dk_at dksX9_areLike_1 7 rfl rfl)
theorem dX9_areLike_31 : decode cX9_areLike 31 = .ok (.invokevirtual 147, 3) := dk_182 0 147 (dk_at dksX9_areLike_1 8 rfl rfl)
theorem dX9_areLike_34 : decode cX9_areLike 34 = .ok (.aload_n 0, 1) := dk_42 (dk_at dksX9_areLike_1 11 rfl rfl)
theorem dX9_areLike_35 : decode cX9_areLike 35 = .ok (.iload_n 2, 1) := dk_28 (dk_at dksX9_areLike_1 12 rfl rfl)
theorem dX9_areLike_36 : decode cX9_areLike 36 = .ok (.invokevirtual 147, 3) := dk_182 0 147 (dk_at dksX9_areLike_1 13 rfl rfl)
theorem dX9_areLike_39 : decode cX9_areLike 39 = .ok (.if_icmp .ne 7, 3) := dk_160 0 7 (dk_at dksX9_areLike_1 16 rfl rfl)
theorem dX9_areLike_42 : decode cX9_areLike 42 = .ok (.iconst 1, 1) := dk_4 (dk_at dksX9_areLike_1 19 rfl rfl)
theorem dX9_areLike_43 : decode cX9_areLike 43 = .ok (.goto 4, 3) := dk_167 0 4 (dk_at dksX9_areLike_1 20 rfl rfl)
theorem dX9_areLike_46 : decode cX9_areLike 46 = .ok (.iconst 0, 1) := dk_3 (dk_at dksX9_areLike_1 23 rfl rfl)
theorem dX9_areLike_47 : decode cX9_areLike 47 = .ok (.ireturn, 1) := dk_172 (dk_at dksX9_areLike_2 0 rfl rfl)
abbrev cX9_exchangeSpots : ByteArray := prog_15_method_108_code
def yX9_exchangeSpots : MethodName := ⟨RX9, "exchangeSpots", "(II)V"⟩
def dkwX9_exchangeSpots_2 : List UInt8 := [16, 6, 96, 46, 182, 0, 219, 42, 28, 29, 21, 4, 182, 0, 219, 177]
abbrev dktX9_exchangeSpots_2 : List UInt8 := dkwX9_exchangeSpots_2 ++ []
def dkwX9_exchangeSpots_1 : List UInt8 := [54, 4, 42, 27, 42, 180, 0, 16, 28, 184, 0, 112, 8, 96, 46, 42, 180, 0, 16, 28, 184, 0, 112]
abbrev dktX9_exchangeSpots_1 : List UInt8 := dkwX9_exchangeSpots_1 ++ dktX9_exchangeSpots_2
def dkwX9_exchangeSpots_0 : List UInt8 := [42, 180, 0, 16, 27, 184, 0, 112, 8, 96, 46, 62, 42, 180, 0, 16, 27, 184, 0, 112, 16, 6, 96, 46]
abbrev dktX9_exchangeSpots_0 : List UInt8 := dkwX9_exchangeSpots_0 ++ dktX9_exchangeSpots_1
theorem dksX9_exchangeSpots_0 : cX9_exchangeSpots.data.toList.drop 0 = dktX9_exchangeSpots_0 := by decide +kernel
theorem dksX9_exchangeSpots_1 : cX9_exchangeSpots.data.toList.drop 24 = dktX9_exchangeSpots_1 := dk_seg dksX9_exchangeSpots_0 24 rfl rfl
theorem dksX9_exchangeSpots_2 : cX9_exchangeSpots.data.toList.drop 47 = dktX9_exchangeSpots_2 := dk_seg dksX9_exchangeSpots_1 23 rfl rfl
theorem dX9_exchangeSpots_0 : decode cX9_exchangeSpots 0 = .ok (.aload_n 0, 1) := dk_42 (dk_at dksX9_exchangeSpots_0 0 rfl rfl)
theorem dX9_exchangeSpots_1 : decode cX9_exchangeSpots 1 = .ok (.getfield 16, 3) := dk_180 0 16 (dk_at dksX9_exchangeSpots_0 1 rfl rfl)
theorem dX9_exchangeSpots_4 : decode cX9_exchangeSpots 4 = .ok (.iload_n 1, 1) := dk_27 (dk_at dksX9_exchangeSpots_0 4 rfl rfl)
theorem dX9_exchangeSpots_5 : decode cX9_exchangeSpots 5 = .ok (.invokestatic 112, 3) := dk_184 0 112 (dk_at dksX9_exchangeSpots_0 5 rfl rfl)
theorem dX9_exchangeSpots_8 : decode cX9_exchangeSpots 8 = .ok (.iconst 5, 1) := dk_8 (dk_at dksX9_exchangeSpots_0 8 rfl rfl)
theorem dX9_exchangeSpots_9 : decode cX9_exchangeSpots 9 = .ok (.iadd, 1) := dk_96 (dk_at dksX9_exchangeSpots_0 9 rfl rfl)
theorem dX9_exchangeSpots_10 : decode cX9_exchangeSpots 10 = .ok (.iaload, 1) := dk_46 (dk_at dksX9_exchangeSpots_0 10 rfl rfl)
theorem dX9_exchangeSpots_11 : decode cX9_exchangeSpots 11 = .ok (.istore_n 3, 1) := dk_62 (dk_at dksX9_exchangeSpots_0 11 rfl rfl)
theorem dX9_exchangeSpots_12 : decode cX9_exchangeSpots 12 = .ok (.aload_n 0, 1) := dk_42 (dk_at dksX9_exchangeSpots_0 12 rfl rfl)
theorem dX9_exchangeSpots_13 : decode cX9_exchangeSpots 13 = .ok (.getfield 16, 3) := dk_180 0 16 (dk_at dksX9_exchangeSpots_0 13 rfl rfl)
theorem dX9_exchangeSpots_16 : decode cX9_exchangeSpots 16 = .ok (.iload_n 1, 1) := dk_27 (dk_at dksX9_exchangeSpots_0 16 rfl rfl)
theorem dX9_exchangeSpots_17 : decode cX9_exchangeSpots 17 = .ok (.invokestatic 112, 3) := dk_184 0 112 (dk_at dksX9_exchangeSpots_0 17 rfl rfl)
theorem dX9_exchangeSpots_20 : decode cX9_exchangeSpots 20 = .ok (.bipush 6, 2) := dk_16 6 (dk_at dksX9_exchangeSpots_0 20 rfl rfl)
theorem dX9_exchangeSpots_22 : decode cX9_exchangeSpots 22 = .ok (.iadd, 1) := dk_96 (dk_at dksX9_exchangeSpots_0 22 rfl rfl)
theorem dX9_exchangeSpots_23 : decode cX9_exchangeSpots 23 = .ok (.iaload, 1) := dk_46 (dk_at dksX9_exchangeSpots_0 23 rfl rfl)
theorem dX9_exchangeSpots_24 : decode cX9_exchangeSpots 24 = .ok (.istore 4, 2) := dk_54 4 (dk_at dksX9_exchangeSpots_1 0 rfl rfl)
theorem dX9_exchangeSpots_26 : decode cX9_exchangeSpots 26 = .ok (.aload_n 0, 1) := dk_42 (dk_at dksX9_exchangeSpots_1 2 rfl rfl)
theorem dX9_exchangeSpots_27 : decode cX9_exchangeSpots 27 = .ok (.iload_n 1, 1) := dk_27 (dk_at dksX9_exchangeSpots_1 3 rfl rfl)
theorem dX9_exchangeSpots_28 : decode cX9_exchangeSpots 28 = .ok (.aload_n 0, 1) := dk_42 (dk_at dksX9_exchangeSpots_1 4 rfl rfl)
theorem dX9_exchangeSpots_29 : decode cX9_exchangeSpots 29 = .ok (.getfield 16, 3) := dk_180 0 16 (dk_at dksX9_exchangeSpots_1 5 rfl rfl)
theorem dX9_exchangeSpots_32 : decode cX9_exchangeSpots 32 = .ok (.iload_n 2, 1) := dk_28 (dk_at dksX9_exchangeSpots_1 8 rfl rfl)
theorem dX9_exchangeSpots_33 : decode cX9_exchangeSpots 33 = .ok (.invokestatic 112, 3) := dk_184 0 112 (dk_at dksX9_exchangeSpots_1 9 rfl rfl)
theorem dX9_exchangeSpots_36 : decode cX9_exchangeSpots 36 = .ok (.iconst 5, 1) := dk_8 (dk_at dksX9_exchangeSpots_1 12 rfl rfl)
theorem dX9_exchangeSpots_37 : decode cX9_exchangeSpots 37 = .ok (.iadd, 1) := dk_96 (dk_at dksX9_exchangeSpots_1 13 rfl rfl)
theorem dX9_exchangeSpots_38 : decode cX9_exchangeSpots 38 = .ok (.iaload, 1) := dk_46 (dk_at dksX9_exchangeSpots_1 14 rfl rfl)
theorem dX9_exchangeSpots_39 : decode cX9_exchangeSpots 39 = .ok (.aload_n 0, 1) := dk_42 (dk_at dksX9_exchangeSpots_1 15 rfl rfl)
theorem dX9_exchangeSpots_40 : decode cX9_exchangeSpots 40 = .ok (.getfield 16, 3) := dk_180 0 16 (dk_at dksX9_exchangeSpots_1 16 rfl rfl)
theorem dX9_exchangeSpots_43 : decode cX9_exchangeSpots 43 = .ok (.iload_n 2, 1) := dk_28 (dk_at dksX9_exchangeSpots_1 19 rfl rfl)
theorem dX9_exchangeSpots_44 : decode cX9_exchangeSpots 44 = .ok (.invokestatic 112, 3) := dk_184 0 112 (dk_at dksX9_exchangeSpots_1 20 rfl rfl)
theorem dX9_exchangeSpots_47 : decode cX9_exchangeSpots 47 = .ok (.bipush 6, 2) := dk_16 6 (dk_at dksX9_exchangeSpots_2 0 rfl rfl)
theorem dX9_exchangeSpots_49 : decode cX9_exchangeSpots 49 = .ok (.iadd, 1) := dk_96 (dk_at dksX9_exchangeSpots_2 2 rfl rfl)
theorem dX9_exchangeSpots_50 : decode cX9_exchangeSpots 50 = .ok (.iaload, 1) := dk_46 (dk_at dksX9_exchangeSpots_2 3 rfl rfl)
theorem dX9_exchangeSpots_51 : decode cX9_exchangeSpots 51 = .ok (.invokevirtual 219, 3) := dk_182 0 219 (dk_at dksX9_exchangeSpots_2 4 rfl rfl)
theorem dX9_exchangeSpots_54 : decode cX9_exchangeSpots 54 = .ok (.aload_n 0, 1) := dk_42 (dk_at dksX9_exchangeSpots_2 7 rfl rfl)
theorem dX9_exchangeSpots_55 : decode cX9_exchangeSpots 55 = .ok (.iload_n 2, 1) := dk_28 (dk_at dksX9_exchangeSpots_2 8 rfl rfl)
theorem dX9_exchangeSpots_56 : decode cX9_exchangeSpots 56 = .ok (.iload_n 3, 1) := dk_29 (dk_at dksX9_exchangeSpots_2 9 rfl rfl)
theorem dX9_exchangeSpots_57 : decode cX9_exchangeSpots 57 = .ok (.iload 4, 2) := dk_21 4 (dk_at dksX9_exchangeSpots_2 10 rfl rfl)
theorem dX9_exchangeSpots_59 : decode cX9_exchangeSpots 59 = .ok (.invokevirtual 219, 3) := dk_182 0 219 (dk_at dksX9_exchangeSpots_2 12 rfl rfl)
theorem dX9_exchangeSpots_62 : decode cX9_exchangeSpots 62 = .ok (.return_, 1) := dk_177 (dk_at dksX9_exchangeSpots_2 15 rfl rfl)
abbrev cX9_hops : ByteArray := prog_15_method_111_code
def yX9_hops : MethodName := ⟨RX9, "hops", "()I"⟩
def dkwX9_hops_2 : List UInt8 := [27, 42, 182, 0, 223, 100, 182, 0, 109, 172]
abbrev dktX9_hops_2 : List UInt8 := dkwX9_hops_2 ++ []
def dkwX9_hops_1 : List UInt8 := [46, 162, 0, 22, 42, 28, 182, 0, 161, 153, 0, 8, 42, 28, 182, 1, 156, 132, 2, 1, 167, 255, 230, 42]
abbrev dktX9_hops_1 : List UInt8 := dkwX9_hops_1 ++ dktX9_hops_2
def dkwX9_hops_0 : List UInt8 := [42, 3, 181, 0, 92, 42, 16, 15, 182, 0, 186, 42, 182, 0, 223, 60, 3, 61, 28, 42, 180, 0, 16, 5]
abbrev dktX9_hops_0 : List UInt8 := dkwX9_hops_0 ++ dktX9_hops_1
theorem dksX9_hops_0 : cX9_hops.data.toList.drop 0 = dktX9_hops_0 := by decide +kernel
theorem dksX9_hops_1 : cX9_hops.data.toList.drop 24 = dktX9_hops_1 := dk_seg dksX9_hops_0 24 rfl rfl
theorem dksX9_hops_2 : cX9_hops.data.toList.drop 48 = dktX9_hops_2 := dk_seg dksX9_hops_1 24 rfl rfl
theorem dX9_hops_0 : decode cX9_hops 0 = .ok (.aload_n 0, 1) := dk_42 (dk_at dksX9_hops_0 0 rfl rfl)
theorem dX9_hops_1 : decode cX9_hops 1 = .ok (.iconst 0, 1) := dk_3 (dk_at dksX9_hops_0 1 rfl rfl)
theorem dX9_hops_2 : decode cX9_hops 2 = .ok (.putfield 92, 3) := dk_181 0 92 (dk_at dksX9_hops_0 2 rfl rfl)
theorem dX9_hops_5 : decode cX9_hops 5 = .ok (.aload_n 0, 1) := dk_42 (dk_at dksX9_hops_0 5 rfl rfl)
theorem dX9_hops_6 : decode cX9_hops 6 = .ok (.bipush 15, 2) := dk_16 15 (dk_at dksX9_hops_0 6 rfl rfl)
theorem dX9_hops_8 : decode cX9_hops 8 = .ok (.invokevirtual 186, 3) := dk_182 0 186 (dk_at dksX9_hops_0 8 rfl rfl)
theorem dX9_hops_11 : decode cX9_hops 11 = .ok (.aload_n 0, 1) := dk_42 (dk_at dksX9_hops_0 11 rfl rfl)
theorem dX9_hops_12 : decode cX9_hops 12 = .ok (.invokevirtual 223, 3) := dk_182 0 223 (dk_at dksX9_hops_0 12 rfl rfl)
theorem dX9_hops_15 : decode cX9_hops 15 = .ok (.istore_n 1, 1) := dk_60 (dk_at dksX9_hops_0 15 rfl rfl)
theorem dX9_hops_16 : decode cX9_hops 16 = .ok (.iconst 0, 1) := dk_3 (dk_at dksX9_hops_0 16 rfl rfl)
theorem dX9_hops_17 : decode cX9_hops 17 = .ok (.istore_n 2, 1) := dk_61 (dk_at dksX9_hops_0 17 rfl rfl)
theorem dX9_hops_18 : decode cX9_hops 18 = .ok (.iload_n 2, 1) := dk_28 (dk_at dksX9_hops_0 18 rfl rfl)
theorem dX9_hops_19 : decode cX9_hops 19 = .ok (.aload_n 0, 1) := dk_42 (dk_at dksX9_hops_0 19 rfl rfl)
theorem dX9_hops_20 : decode cX9_hops 20 = .ok (.getfield 16, 3) := dk_180 0 16 (dk_at dksX9_hops_0 20 rfl rfl)
theorem dX9_hops_23 : decode cX9_hops 23 = .ok (.iconst 2, 1) := dk_5 (dk_at dksX9_hops_0 23 rfl rfl)
theorem dX9_hops_24 : decode cX9_hops 24 = .ok (.iaload, 1) := dk_46 (dk_at dksX9_hops_1 0 rfl rfl)
theorem dX9_hops_25 : decode cX9_hops 25 = .ok (.if_icmp .ge 22, 3) := dk_162 0 22 (dk_at dksX9_hops_1 1 rfl rfl)
theorem dX9_hops_28 : decode cX9_hops 28 = .ok (.aload_n 0, 1) := dk_42 (dk_at dksX9_hops_1 4 rfl rfl)
theorem dX9_hops_29 : decode cX9_hops 29 = .ok (.iload_n 2, 1) := dk_28 (dk_at dksX9_hops_1 5 rfl rfl)
theorem dX9_hops_30 : decode cX9_hops 30 = .ok (.invokevirtual 161, 3) := dk_182 0 161 (dk_at dksX9_hops_1 6 rfl rfl)
theorem dX9_hops_33 : decode cX9_hops 33 = .ok (.ifCond .eq 8, 3) := dk_153 0 8 (dk_at dksX9_hops_1 9 rfl rfl)
theorem dX9_hops_36 : decode cX9_hops 36 = .ok (.aload_n 0, 1) := dk_42 (dk_at dksX9_hops_1 12 rfl rfl)
theorem dX9_hops_37 : decode cX9_hops 37 = .ok (.iload_n 2, 1) := dk_28 (dk_at dksX9_hops_1 13 rfl rfl)
theorem dX9_hops_38 : decode cX9_hops 38 = .ok (.invokevirtual 412, 3) := dk_182 1 156 (dk_at dksX9_hops_1 14 rfl rfl)
theorem dX9_hops_41 : decode cX9_hops 41 = .ok (.iinc 2 1, 3) := dk_132 2 1 (dk_at dksX9_hops_1 17 rfl rfl)
theorem dX9_hops_44 : decode cX9_hops 44 = .ok (.goto (-26), 3) := dk_167 255 230 (dk_at dksX9_hops_1 20 rfl rfl)
theorem dX9_hops_47 : decode cX9_hops 47 = .ok (.aload_n 0, 1) := dk_42 (dk_at dksX9_hops_1 23 rfl rfl)
theorem dX9_hops_48 : decode cX9_hops 48 = .ok (.iload_n 1, 1) := dk_27 (dk_at dksX9_hops_2 0 rfl rfl)
theorem dX9_hops_49 : decode cX9_hops 49 = .ok (.aload_n 0, 1) := dk_42 (dk_at dksX9_hops_2 1 rfl rfl)
theorem dX9_hops_50 : decode cX9_hops 50 = .ok (.invokevirtual 223, 3) := dk_182 0 223 (dk_at dksX9_hops_2 2 rfl rfl)
theorem dX9_hops_53 : decode cX9_hops 53 = .ok (.isub, 1) := dk_100 (dk_at dksX9_hops_2 5 rfl rfl)
theorem dX9_hops_54 : decode cX9_hops 54 = .ok (.invokevirtual 109, 3) := dk_182 0 109 (dk_at dksX9_hops_2 6 rfl rfl)
theorem dX9_hops_57 : decode cX9_hops 57 = .ok (.ireturn, 1) := dk_172 (dk_at dksX9_hops_2 9 rfl rfl)
abbrev cX9_hop : ByteArray := prog_15_method_110_code
def yX9_hop : MethodName := ⟨RX9, "hop", "(I)V"⟩
def dkwX9_hop_4 : List UInt8 := [61, 21, 6, 62, 132, 6, 1, 167, 255, 199, 132, 5, 1, 167, 255, 181, 42, 27, 28, 29, 182, 0, 219, 177]
abbrev dktX9_hop_4 : List UInt8 := dkwX9_hop_4 ++ []
def dkwX9_hop_3 : List UInt8 := [21, 6, 182, 0, 219, 42, 182, 0, 223, 54, 7, 21, 7, 21, 4, 162, 0, 13, 21, 7, 54, 4, 21, 5]
abbrev dktX9_hop_3 : List UInt8 := dkwX9_hop_3 ++ dktX9_hop_4
def dkwX9_hop_2 : List UInt8 := [42, 180, 0, 89, 162, 0, 54, 42, 27, 21, 5, 21, 6, 3, 182, 0, 157, 153, 0, 35, 42, 27, 21, 5]
abbrev dktX9_hop_2 : List UInt8 := dkwX9_hop_2 ++ dktX9_hop_3
def dkwX9_hop_1 : List UInt8 := [62, 42, 182, 0, 223, 54, 4, 3, 54, 5, 21, 5, 42, 180, 0, 85, 162, 0, 72, 3, 54, 6, 21, 6]
abbrev dktX9_hop_1 : List UInt8 := dkwX9_hop_1 ++ dktX9_hop_2
def dkwX9_hop_0 : List UInt8 := [42, 180, 0, 16, 27, 184, 0, 112, 8, 96, 46, 61, 42, 180, 0, 16, 27, 184, 0, 112, 16, 6, 96, 46]
abbrev dktX9_hop_0 : List UInt8 := dkwX9_hop_0 ++ dktX9_hop_1
theorem dksX9_hop_0 : cX9_hop.data.toList.drop 0 = dktX9_hop_0 := by decide +kernel
theorem dksX9_hop_1 : cX9_hop.data.toList.drop 24 = dktX9_hop_1 := dk_seg dksX9_hop_0 24 rfl rfl
theorem dksX9_hop_2 : cX9_hop.data.toList.drop 48 = dktX9_hop_2 := dk_seg dksX9_hop_1 24 rfl rfl
theorem dksX9_hop_3 : cX9_hop.data.toList.drop 72 = dktX9_hop_3 := dk_seg dksX9_hop_2 24 rfl rfl
theorem dksX9_hop_4 : cX9_hop.data.toList.drop 96 = dktX9_hop_4 := dk_seg dksX9_hop_3 24 rfl rfl
theorem dX9_hop_0 : decode cX9_hop 0 = .ok (.aload_n 0, 1) := dk_42 (dk_at dksX9_hop_0 0 rfl rfl)
theorem dX9_hop_1 : decode cX9_hop 1 = .ok (.getfield 16, 3) := dk_180 0 16 (dk_at dksX9_hop_0 1 rfl rfl)
theorem dX9_hop_4 : decode cX9_hop 4 = .ok (.iload_n 1, 1) := dk_27 (dk_at dksX9_hop_0 4 rfl rfl)
theorem dX9_hop_5 : decode cX9_hop 5 = .ok (.invokestatic 112, 3) := dk_184 0 112 (dk_at dksX9_hop_0 5 rfl rfl)
theorem dX9_hop_8 : decode cX9_hop 8 = .ok (.iconst 5, 1) := dk_8 (dk_at dksX9_hop_0 8 rfl rfl)
theorem dX9_hop_9 : decode cX9_hop 9 = .ok (.iadd, 1) := dk_96 (dk_at dksX9_hop_0 9 rfl rfl)
theorem dX9_hop_10 : decode cX9_hop 10 = .ok (.iaload, 1) := dk_46 (dk_at dksX9_hop_0 10 rfl rfl)
theorem dX9_hop_11 : decode cX9_hop 11 = .ok (.istore_n 2, 1) := dk_61 (dk_at dksX9_hop_0 11 rfl rfl)
theorem dX9_hop_12 : decode cX9_hop 12 = .ok (.aload_n 0, 1) := dk_42 (dk_at dksX9_hop_0 12 rfl rfl)
theorem dX9_hop_13 : decode cX9_hop 13 = .ok (.getfield 16, 3) := dk_180 0 16 (dk_at dksX9_hop_0 13 rfl rfl)
theorem dX9_hop_16 : decode cX9_hop 16 = .ok (.iload_n 1, 1) := dk_27 (dk_at dksX9_hop_0 16 rfl rfl)
theorem dX9_hop_17 : decode cX9_hop 17 = .ok (.invokestatic 112, 3) := dk_184 0 112 (dk_at dksX9_hop_0 17 rfl rfl)
theorem dX9_hop_20 : decode cX9_hop 20 = .ok (.bipush 6, 2) := dk_16 6 (dk_at dksX9_hop_0 20 rfl rfl)
theorem dX9_hop_22 : decode cX9_hop 22 = .ok (.iadd, 1) := dk_96 (dk_at dksX9_hop_0 22 rfl rfl)
theorem dX9_hop_23 : decode cX9_hop 23 = .ok (.iaload, 1) := dk_46 (dk_at dksX9_hop_0 23 rfl rfl)
theorem dX9_hop_24 : decode cX9_hop 24 = .ok (.istore_n 3, 1) := dk_62 (dk_at dksX9_hop_1 0 rfl rfl)
theorem dX9_hop_25 : decode cX9_hop 25 = .ok (.aload_n 0, 1) := dk_42 (dk_at dksX9_hop_1 1 rfl rfl)
theorem dX9_hop_26 : decode cX9_hop 26 = .ok (.invokevirtual 223, 3) := dk_182 0 223 (dk_at dksX9_hop_1 2 rfl rfl)
theorem dX9_hop_29 : decode cX9_hop 29 = .ok (.istore 4, 2) := dk_54 4 (dk_at dksX9_hop_1 5 rfl rfl)
theorem dX9_hop_31 : decode cX9_hop 31 = .ok (.iconst 0, 1) := dk_3 (dk_at dksX9_hop_1 7 rfl rfl)
theorem dX9_hop_32 : decode cX9_hop 32 = .ok (.istore 5, 2) := dk_54 5 (dk_at dksX9_hop_1 8 rfl rfl)
theorem dX9_hop_34 : decode cX9_hop 34 = .ok (.iload 5, 2) := dk_21 5 (dk_at dksX9_hop_1 10 rfl rfl)
theorem dX9_hop_36 : decode cX9_hop 36 = .ok (.aload_n 0, 1) := dk_42 (dk_at dksX9_hop_1 12 rfl rfl)
theorem dX9_hop_37 : decode cX9_hop 37 = .ok (.getfield 85, 3) := dk_180 0 85 (dk_at dksX9_hop_1 13 rfl rfl)
theorem dX9_hop_40 : decode cX9_hop 40 = .ok (.if_icmp .ge 72, 3) := dk_162 0 72 (dk_at dksX9_hop_1 16 rfl rfl)
theorem dX9_hop_43 : decode cX9_hop 43 = .ok (.iconst 0, 1) := dk_3 (dk_at dksX9_hop_1 19 rfl rfl)
theorem dX9_hop_44 : decode cX9_hop 44 = .ok (.istore 6, 2) := dk_54 6 (dk_at dksX9_hop_1 20 rfl rfl)
theorem dX9_hop_46 : decode cX9_hop 46 = .ok (.iload 6, 2) := dk_21 6 (dk_at dksX9_hop_1 22 rfl rfl)
theorem dX9_hop_48 : decode cX9_hop 48 = .ok (.aload_n 0, 1) := dk_42 (dk_at dksX9_hop_2 0 rfl rfl)
theorem dX9_hop_49 : decode cX9_hop 49 = .ok (.getfield 89, 3) := dk_180 0 89 (dk_at dksX9_hop_2 1 rfl rfl)
theorem dX9_hop_52 : decode cX9_hop 52 = .ok (.if_icmp .ge 54, 3) := dk_162 0 54 (dk_at dksX9_hop_2 4 rfl rfl)
theorem dX9_hop_55 : decode cX9_hop 55 = .ok (.aload_n 0, 1) := dk_42 (dk_at dksX9_hop_2 7 rfl rfl)
theorem dX9_hop_56 : decode cX9_hop 56 = .ok (.iload_n 1, 1) := dk_27 (dk_at dksX9_hop_2 8 rfl rfl)
theorem dX9_hop_57 : decode cX9_hop 57 = .ok (.iload 5, 2) := dk_21 5 (dk_at dksX9_hop_2 9 rfl rfl)
theorem dX9_hop_59 : decode cX9_hop 59 = .ok (.iload 6, 2) := dk_21 6 (dk_at dksX9_hop_2 11 rfl rfl)
theorem dX9_hop_61 : decode cX9_hop 61 = .ok (.iconst 0, 1) := dk_3 (dk_at dksX9_hop_2 13 rfl rfl)
theorem dX9_hop_62 : decode cX9_hop 62 = .ok (.invokevirtual 157, 3) := dk_182 0 157 (dk_at dksX9_hop_2 14 rfl rfl)
theorem dX9_hop_65 : decode cX9_hop 65 = .ok (.ifCond .eq 35, 3) := dk_153 0 35 (dk_at dksX9_hop_2 17 rfl rfl)
theorem dX9_hop_68 : decode cX9_hop 68 = .ok (.aload_n 0, 1) := dk_42 (dk_at dksX9_hop_2 20 rfl rfl)
theorem dX9_hop_69 : decode cX9_hop 69 = .ok (.iload_n 1, 1) := dk_27 (dk_at dksX9_hop_2 21 rfl rfl)
theorem dX9_hop_70 : decode cX9_hop 70 = .ok (.iload 5, 2) := dk_21 5 (dk_at dksX9_hop_2 22 rfl rfl)
theorem dX9_hop_72 : decode cX9_hop 72 = .ok (.iload 6, 2) := dk_21 6 (dk_at dksX9_hop_3 0 rfl rfl)
theorem dX9_hop_74 : decode cX9_hop 74 = .ok (.invokevirtual 219, 3) := dk_182 0 219 (dk_at dksX9_hop_3 2 rfl rfl)
theorem dX9_hop_77 : decode cX9_hop 77 = .ok (.aload_n 0, 1) := dk_42 (dk_at dksX9_hop_3 5 rfl rfl)
theorem dX9_hop_78 : decode cX9_hop 78 = .ok (.invokevirtual 223, 3) := dk_182 0 223 (dk_at dksX9_hop_3 6 rfl rfl)
theorem dX9_hop_81 : decode cX9_hop 81 = .ok (.istore 7, 2) := dk_54 7 (dk_at dksX9_hop_3 9 rfl rfl)
theorem dX9_hop_83 : decode cX9_hop 83 = .ok (.iload 7, 2) := dk_21 7 (dk_at dksX9_hop_3 11 rfl rfl)
theorem dX9_hop_85 : decode cX9_hop 85 = .ok (.iload 4, 2) := dk_21 4 (dk_at dksX9_hop_3 13 rfl rfl)
theorem dX9_hop_87 : decode cX9_hop 87 = .ok (.if_icmp .ge 13, 3) := dk_162 0 13 (dk_at dksX9_hop_3 15 rfl rfl)
theorem dX9_hop_90 : decode cX9_hop 90 = .ok (.iload 7, 2) := dk_21 7 (dk_at dksX9_hop_3 18 rfl rfl)
theorem dX9_hop_92 : decode cX9_hop 92 = .ok (.istore 4, 2) := dk_54 4 (dk_at dksX9_hop_3 20 rfl rfl)
theorem dX9_hop_94 : decode cX9_hop 94 = .ok (.iload 5, 2) := dk_21 5 (dk_at dksX9_hop_3 22 rfl rfl)
theorem dX9_hop_96 : decode cX9_hop 96 = .ok (.istore_n 2, 1) := dk_61 (dk_at dksX9_hop_4 0 rfl rfl)
theorem dX9_hop_97 : decode cX9_hop 97 = .ok (.iload 6, 2) := dk_21 6 (dk_at dksX9_hop_4 1 rfl rfl)
theorem dX9_hop_99 : decode cX9_hop 99 = .ok (.istore_n 3, 1) := dk_62 (dk_at dksX9_hop_4 3 rfl rfl)
theorem dX9_hop_100 : decode cX9_hop 100 = .ok (.iinc 6 1, 3) := dk_132 6 1 (dk_at dksX9_hop_4 4 rfl rfl)
theorem dX9_hop_103 : decode cX9_hop 103 = .ok (.goto (-57), 3) := dk_167 255 199 (dk_at dksX9_hop_4 7 rfl rfl)
theorem dX9_hop_106 : decode cX9_hop 106 = .ok (.iinc 5 1, 3) := dk_132 5 1 (dk_at dksX9_hop_4 10 rfl rfl)
theorem dX9_hop_109 : decode cX9_hop 109 = .ok (.goto (-75), 3) := dk_167 255 181 (dk_at dksX9_hop_4 13 rfl rfl)
theorem dX9_hop_112 : decode cX9_hop 112 = .ok (.aload_n 0, 1) := dk_42 (dk_at dksX9_hop_4 16 rfl rfl)
theorem dX9_hop_113 : decode cX9_hop 113 = .ok (.iload_n 1, 1) := dk_27 (dk_at dksX9_hop_4 17 rfl rfl)
theorem dX9_hop_114 : decode cX9_hop 114 = .ok (.iload_n 2, 1) := dk_28 (dk_at dksX9_hop_4 18 rfl rfl)
theorem dX9_hop_115 : decode cX9_hop 115 = .ok (.iload_n 3, 1) := dk_29 (dk_at dksX9_hop_4 19 rfl rfl)
theorem dX9_hop_116 : decode cX9_hop 116 = .ok (.invokevirtual 219, 3) := dk_182 0 219 (dk_at dksX9_hop_4 20 rfl rfl)
theorem dX9_hop_119 : decode cX9_hop 119 = .ok (.return_, 1) := dk_177 (dk_at dksX9_hop_4 23 rfl rfl)
abbrev cX9_sorts : ByteArray := prog_15_method_116_code
def yX9_sorts : MethodName := ⟨RX9, "sorts", "()I"⟩
def dkwX9_sorts_2 : List UInt8 := [132, 3, 1, 167, 255, 237, 132, 2, 1, 167, 255, 219, 42, 27, 42, 182, 0, 223, 100, 182, 0, 109, 172]
abbrev dktX9_sorts_2 : List UInt8 := dkwX9_sorts_2 ++ []
def dkwX9_sorts_1 : List UInt8 := [46, 162, 0, 33, 4, 62, 29, 16, 7, 162, 0, 19, 42, 28, 29, 182, 1, 169, 42, 182, 1, 172]
abbrev dktX9_sorts_1 : List UInt8 := dkwX9_sorts_1 ++ dktX9_sorts_2
def dkwX9_sorts_0 : List UInt8 := [42, 3, 181, 0, 92, 42, 16, 16, 182, 0, 186, 42, 182, 0, 223, 60, 2, 61, 28, 42, 180, 0, 16, 4]
abbrev dktX9_sorts_0 : List UInt8 := dkwX9_sorts_0 ++ dktX9_sorts_1
theorem dksX9_sorts_0 : cX9_sorts.data.toList.drop 0 = dktX9_sorts_0 := by decide +kernel
theorem dksX9_sorts_1 : cX9_sorts.data.toList.drop 24 = dktX9_sorts_1 := dk_seg dksX9_sorts_0 24 rfl rfl
theorem dksX9_sorts_2 : cX9_sorts.data.toList.drop 46 = dktX9_sorts_2 := dk_seg dksX9_sorts_1 22 rfl rfl
theorem dX9_sorts_0 : decode cX9_sorts 0 = .ok (.aload_n 0, 1) := dk_42 (dk_at dksX9_sorts_0 0 rfl rfl)
theorem dX9_sorts_1 : decode cX9_sorts 1 = .ok (.iconst 0, 1) := dk_3 (dk_at dksX9_sorts_0 1 rfl rfl)
theorem dX9_sorts_2 : decode cX9_sorts 2 = .ok (.putfield 92, 3) := dk_181 0 92 (dk_at dksX9_sorts_0 2 rfl rfl)
theorem dX9_sorts_5 : decode cX9_sorts 5 = .ok (.aload_n 0, 1) := dk_42 (dk_at dksX9_sorts_0 5 rfl rfl)
theorem dX9_sorts_6 : decode cX9_sorts 6 = .ok (.bipush 16, 2) := dk_16 16 (dk_at dksX9_sorts_0 6 rfl rfl)
theorem dX9_sorts_8 : decode cX9_sorts 8 = .ok (.invokevirtual 186, 3) := dk_182 0 186 (dk_at dksX9_sorts_0 8 rfl rfl)
theorem dX9_sorts_11 : decode cX9_sorts 11 = .ok (.aload_n 0, 1) := dk_42 (dk_at dksX9_sorts_0 11 rfl rfl)
theorem dX9_sorts_12 : decode cX9_sorts 12 = .ok (.invokevirtual 223, 3) := dk_182 0 223 (dk_at dksX9_sorts_0 12 rfl rfl)
theorem dX9_sorts_15 : decode cX9_sorts 15 = .ok (.istore_n 1, 1) := dk_60 (dk_at dksX9_sorts_0 15 rfl rfl)
theorem dX9_sorts_16 : decode cX9_sorts 16 = .ok (.iconst (-1), 1) := dk_2 (dk_at dksX9_sorts_0 16 rfl rfl)
theorem dX9_sorts_17 : decode cX9_sorts 17 = .ok (.istore_n 2, 1) := dk_61 (dk_at dksX9_sorts_0 17 rfl rfl)
theorem dX9_sorts_18 : decode cX9_sorts 18 = .ok (.iload_n 2, 1) := dk_28 (dk_at dksX9_sorts_0 18 rfl rfl)
theorem dX9_sorts_19 : decode cX9_sorts 19 = .ok (.aload_n 0, 1) := dk_42 (dk_at dksX9_sorts_0 19 rfl rfl)
theorem dX9_sorts_20 : decode cX9_sorts 20 = .ok (.getfield 16, 3) := dk_180 0 16 (dk_at dksX9_sorts_0 20 rfl rfl)
theorem dX9_sorts_23 : decode cX9_sorts 23 = .ok (.iconst 1, 1) := dk_4 (dk_at dksX9_sorts_0 23 rfl rfl)
theorem dX9_sorts_24 : decode cX9_sorts 24 = .ok (.iaload, 1) := dk_46 (dk_at dksX9_sorts_1 0 rfl rfl)
theorem dX9_sorts_25 : decode cX9_sorts 25 = .ok (.if_icmp .ge 33, 3) := dk_162 0 33 (dk_at dksX9_sorts_1 1 rfl rfl)
theorem dX9_sorts_28 : decode cX9_sorts 28 = .ok (.iconst 1, 1) := dk_4 (dk_at dksX9_sorts_1 4 rfl rfl)
theorem dX9_sorts_29 : decode cX9_sorts 29 = .ok (.istore_n 3, 1) := dk_62 (dk_at dksX9_sorts_1 5 rfl rfl)
theorem dX9_sorts_30 : decode cX9_sorts 30 = .ok (.iload_n 3, 1) := dk_29 (dk_at dksX9_sorts_1 6 rfl rfl)
theorem dX9_sorts_31 : decode cX9_sorts 31 = .ok (.bipush 7, 2) := dk_16 7 (dk_at dksX9_sorts_1 7 rfl rfl)
theorem dX9_sorts_33 : decode cX9_sorts 33 = .ok (.if_icmp .ge 19, 3) := dk_162 0 19 (dk_at dksX9_sorts_1 9 rfl rfl)
theorem dX9_sorts_36 : decode cX9_sorts 36 = .ok (.aload_n 0, 1) := dk_42 (dk_at dksX9_sorts_1 12 rfl rfl)
theorem dX9_sorts_37 : decode cX9_sorts 37 = .ok (.iload_n 2, 1) := dk_28 (dk_at dksX9_sorts_1 13 rfl rfl)
theorem dX9_sorts_38 : decode cX9_sorts 38 = .ok (.iload_n 3, 1) := dk_29 (dk_at dksX9_sorts_1 14 rfl rfl)
theorem dX9_sorts_39 : decode cX9_sorts 39 = .ok (.invokevirtual 425, 3) := dk_182 1 169 (dk_at dksX9_sorts_1 15 rfl rfl)
theorem dX9_sorts_42 : decode cX9_sorts 42 = .ok (.aload_n 0, 1) := dk_42 (dk_at dksX9_sorts_1 18 rfl rfl)
theorem dX9_sorts_43 : decode cX9_sorts 43 = .ok (.invokevirtual 428, 3) := dk_182 1 172 (dk_at dksX9_sorts_1 19 rfl rfl)
theorem dX9_sorts_46 : decode cX9_sorts 46 = .ok (.iinc 3 1, 3) := dk_132 3 1 (dk_at dksX9_sorts_2 0 rfl rfl)
theorem dX9_sorts_49 : decode cX9_sorts 49 = .ok (.goto (-19), 3) := dk_167 255 237 (dk_at dksX9_sorts_2 3 rfl rfl)
theorem dX9_sorts_52 : decode cX9_sorts 52 = .ok (.iinc 2 1, 3) := dk_132 2 1 (dk_at dksX9_sorts_2 6 rfl rfl)
theorem dX9_sorts_55 : decode cX9_sorts 55 = .ok (.goto (-37), 3) := dk_167 255 219 (dk_at dksX9_sorts_2 9 rfl rfl)
theorem dX9_sorts_58 : decode cX9_sorts 58 = .ok (.aload_n 0, 1) := dk_42 (dk_at dksX9_sorts_2 12 rfl rfl)
theorem dX9_sorts_59 : decode cX9_sorts 59 = .ok (.iload_n 1, 1) := dk_27 (dk_at dksX9_sorts_2 13 rfl rfl)
theorem dX9_sorts_60 : decode cX9_sorts 60 = .ok (.aload_n 0, 1) := dk_42 (dk_at dksX9_sorts_2 14 rfl rfl)
theorem dX9_sorts_61 : decode cX9_sorts 61 = .ok (.invokevirtual 223, 3) := dk_182 0 223 (dk_at dksX9_sorts_2 15 rfl rfl)
theorem dX9_sorts_64 : decode cX9_sorts 64 = .ok (.isub, 1) := dk_100 (dk_at dksX9_sorts_2 18 rfl rfl)
theorem dX9_sorts_65 : decode cX9_sorts 65 = .ok (.invokevirtual 109, 3) := dk_182 0 109 (dk_at dksX9_sorts_2 19 rfl rfl)
theorem dX9_sorts_68 : decode cX9_sorts 68 = .ok (.ireturn, 1) := dk_172 (dk_at dksX9_sorts_2 22 rfl rfl)
abbrev cX9_layGroup : ByteArray := prog_15_method_113_code
def yX9_layGroup : MethodName := ⟨RX9, "layGroup", "(II)V"⟩
def dkwX9_layGroup_7 : List UInt8 := [180, 1, 159, 4, 96, 181, 1, 159, 132, 3, 1, 167, 255, 91, 177]
abbrev dktX9_layGroup_7 : List UInt8 := dkwX9_layGroup_7 ++ []
def dkwX9_layGroup_6 : List UInt8 := [79, 42, 180, 0, 79, 42, 180, 1, 159, 42, 180, 0, 16, 29, 184, 0, 112, 16, 6, 96, 46, 79, 42, 89]
abbrev dktX9_layGroup_6 : List UInt8 := dkwX9_layGroup_6 ++ dktX9_layGroup_7
def dkwX9_layGroup_5 : List UInt8 := [180, 1, 159, 29, 79, 42, 180, 0, 76, 42, 180, 1, 159, 42, 180, 0, 16, 29, 184, 0, 112, 8, 96, 46]
abbrev dktX9_layGroup_5 : List UInt8 := dkwX9_layGroup_5 ++ dktX9_layGroup_6
def dkwX9_layGroup_4 : List UInt8 := [167, 0, 4, 3, 54, 4, 132, 5, 1, 167, 255, 217, 21, 4, 153, 0, 64, 42, 180, 0, 73, 42]
abbrev dktX9_layGroup_4 : List UInt8 := dkwX9_layGroup_4 ++ dktX9_layGroup_5
def dkwX9_layGroup_3 : List UInt8 := [162, 0, 36, 21, 4, 153, 0, 22, 42, 29, 42, 180, 0, 73, 21, 5, 46, 182, 1, 162, 154, 0, 7, 4]
abbrev dktX9_layGroup_3 : List UInt8 := dkwX9_layGroup_3 ++ dktX9_layGroup_4
def dkwX9_layGroup_2 : List UInt8 := [180, 1, 159, 8, 162, 0, 7, 4, 167, 0, 4, 3, 54, 4, 3, 54, 5, 21, 5, 42, 180, 1, 159]
abbrev dktX9_layGroup_2 : List UInt8 := dkwX9_layGroup_2 ++ dktX9_layGroup_3
def dkwX9_layGroup_1 : List UInt8 := [153, 0, 33, 42, 29, 182, 0, 147, 27, 160, 0, 24, 42, 29, 182, 0, 137, 28, 160, 0, 15, 42]
abbrev dktX9_layGroup_1 : List UInt8 := dkwX9_layGroup_1 ++ dktX9_layGroup_2
def dkwX9_layGroup_0 : List UInt8 := [42, 3, 181, 1, 159, 3, 62, 29, 42, 180, 0, 16, 5, 46, 162, 0, 161, 42, 29, 182, 0, 161]
abbrev dktX9_layGroup_0 : List UInt8 := dkwX9_layGroup_0 ++ dktX9_layGroup_1
theorem dksX9_layGroup_0 : cX9_layGroup.data.toList.drop 0 = dktX9_layGroup_0 := by decide +kernel
theorem dksX9_layGroup_1 : cX9_layGroup.data.toList.drop 22 = dktX9_layGroup_1 := dk_seg dksX9_layGroup_0 22 rfl rfl
theorem dksX9_layGroup_2 : cX9_layGroup.data.toList.drop 44 = dktX9_layGroup_2 := dk_seg dksX9_layGroup_1 22 rfl rfl
theorem dksX9_layGroup_3 : cX9_layGroup.data.toList.drop 67 = dktX9_layGroup_3 := dk_seg dksX9_layGroup_2 23 rfl rfl
theorem dksX9_layGroup_4 : cX9_layGroup.data.toList.drop 91 = dktX9_layGroup_4 := dk_seg dksX9_layGroup_3 24 rfl rfl
theorem dksX9_layGroup_5 : cX9_layGroup.data.toList.drop 113 = dktX9_layGroup_5 := dk_seg dksX9_layGroup_4 22 rfl rfl
theorem dksX9_layGroup_6 : cX9_layGroup.data.toList.drop 137 = dktX9_layGroup_6 := dk_seg dksX9_layGroup_5 24 rfl rfl
theorem dksX9_layGroup_7 : cX9_layGroup.data.toList.drop 161 = dktX9_layGroup_7 := dk_seg dksX9_layGroup_6 24 rfl rfl
theorem dX9_layGroup_0 : decode cX9_layGroup 0 = .ok (.aload_n 0, 1) := dk_42 (dk_at dksX9_layGroup_0 0 rfl rfl)
theorem dX9_layGroup_1 : decode cX9_layGroup 1 = .ok (.iconst 0, 1) := dk_3 (dk_at dksX9_layGroup_0 1 rfl rfl)
theorem dX9_layGroup_2 : decode cX9_layGroup 2 = .ok (.putfield 415, 3) := dk_181 1 159 (dk_at dksX9_layGroup_0 2 rfl rfl)
theorem dX9_layGroup_5 : decode cX9_layGroup 5 = .ok (.iconst 0, 1) := dk_3 (dk_at dksX9_layGroup_0 5 rfl rfl)
theorem dX9_layGroup_6 : decode cX9_layGroup 6 = .ok (.istore_n 3, 1) := dk_62 (dk_at dksX9_layGroup_0 6 rfl rfl)
theorem dX9_layGroup_7 : decode cX9_layGroup 7 = .ok (.iload_n 3, 1) := dk_29 (dk_at dksX9_layGroup_0 7 rfl rfl)
theorem dX9_layGroup_8 : decode cX9_layGroup 8 = .ok (.aload_n 0, 1) := dk_42 (dk_at dksX9_layGroup_0 8 rfl rfl)
theorem dX9_layGroup_9 : decode cX9_layGroup 9 = .ok (.getfield 16, 3) := dk_180 0 16 (dk_at dksX9_layGroup_0 9 rfl rfl)
theorem dX9_layGroup_12 : decode cX9_layGroup 12 = .ok (.iconst 2, 1) := dk_5 (dk_at dksX9_layGroup_0 12 rfl rfl)
theorem dX9_layGroup_13 : decode cX9_layGroup 13 = .ok (.iaload, 1) := dk_46 (dk_at dksX9_layGroup_0 13 rfl rfl)
theorem dX9_layGroup_14 : decode cX9_layGroup 14 = .ok (.if_icmp .ge 161, 3) := dk_162 0 161 (dk_at dksX9_layGroup_0 14 rfl rfl)
theorem dX9_layGroup_17 : decode cX9_layGroup 17 = .ok (.aload_n 0, 1) := dk_42 (dk_at dksX9_layGroup_0 17 rfl rfl)
theorem dX9_layGroup_18 : decode cX9_layGroup 18 = .ok (.iload_n 3, 1) := dk_29 (dk_at dksX9_layGroup_0 18 rfl rfl)
theorem dX9_layGroup_19 : decode cX9_layGroup 19 = .ok (.invokevirtual 161, 3) := dk_182 0 161 (dk_at dksX9_layGroup_0 19 rfl rfl)
theorem dX9_layGroup_22 : decode cX9_layGroup 22 = .ok (.ifCond .eq 33, 3) := dk_153 0 33 (dk_at dksX9_layGroup_1 0 rfl rfl)
theorem dX9_layGroup_25 : decode cX9_layGroup 25 = .ok (.aload_n 0, 1) := dk_42 (dk_at dksX9_layGroup_1 3 rfl rfl)
theorem dX9_layGroup_26 : decode cX9_layGroup 26 = .ok (.iload_n 3, 1) := dk_29 (dk_at dksX9_layGroup_1 4 rfl rfl)
theorem dX9_layGroup_27 : decode cX9_layGroup 27 = .ok (.invokevirtual 147, 3) := dk_182 0 147 (dk_at dksX9_layGroup_1 5 rfl rfl)
theorem dX9_layGroup_30 : decode cX9_layGroup 30 = .ok (.iload_n 1, 1) := dk_27 (dk_at dksX9_layGroup_1 8 rfl rfl)
theorem dX9_layGroup_31 : decode cX9_layGroup 31 = .ok (.if_icmp .ne 24, 3) := dk_160 0 24 (dk_at dksX9_layGroup_1 9 rfl rfl)
theorem dX9_layGroup_34 : decode cX9_layGroup 34 = .ok (.aload_n 0, 1) := dk_42 (dk_at dksX9_layGroup_1 12 rfl rfl)
theorem dX9_layGroup_35 : decode cX9_layGroup 35 = .ok (.iload_n 3, 1) := dk_29 (dk_at dksX9_layGroup_1 13 rfl rfl)
theorem dX9_layGroup_36 : decode cX9_layGroup 36 = .ok (.invokevirtual 137, 3) := dk_182 0 137 (dk_at dksX9_layGroup_1 14 rfl rfl)
theorem dX9_layGroup_39 : decode cX9_layGroup 39 = .ok (.iload_n 2, 1) := dk_28 (dk_at dksX9_layGroup_1 17 rfl rfl)
theorem dX9_layGroup_40 : decode cX9_layGroup 40 = .ok (.if_icmp .ne 15, 3) := dk_160 0 15 (dk_at dksX9_layGroup_1 18 rfl rfl)
theorem dX9_layGroup_43 : decode cX9_layGroup 43 = .ok (.aload_n 0, 1) := dk_42 (dk_at dksX9_layGroup_1 21 rfl rfl)
theorem dX9_layGroup_44 : decode cX9_layGroup 44 = .ok (.getfield 415, 3) := dk_180 1 159 (dk_at dksX9_layGroup_2 0 rfl rfl)
theorem dX9_layGroup_47 : decode cX9_layGroup 47 = .ok (.iconst 5, 1) := dk_8 (dk_at dksX9_layGroup_2 3 rfl rfl)
theorem dX9_layGroup_48 : decode cX9_layGroup 48 = .ok (.if_icmp .ge 7, 3) := dk_162 0 7 (dk_at dksX9_layGroup_2 4 rfl rfl)
theorem dX9_layGroup_51 : decode cX9_layGroup 51 = .ok (.iconst 1, 1) := dk_4 (dk_at dksX9_layGroup_2 7 rfl rfl)
theorem dX9_layGroup_52 : decode cX9_layGroup 52 = .ok (.goto 4, 3) := dk_167 0 4 (dk_at dksX9_layGroup_2 8 rfl rfl)
theorem dX9_layGroup_55 : decode cX9_layGroup 55 = .ok (.iconst 0, 1) := dk_3 (dk_at dksX9_layGroup_2 11 rfl rfl)
theorem dX9_layGroup_56 : decode cX9_layGroup 56 = .ok (.istore 4, 2) := dk_54 4 (dk_at dksX9_layGroup_2 12 rfl rfl)
theorem dX9_layGroup_58 : decode cX9_layGroup 58 = .ok (.iconst 0, 1) := dk_3 (dk_at dksX9_layGroup_2 14 rfl rfl)
theorem dX9_layGroup_59 : decode cX9_layGroup 59 = .ok (.istore 5, 2) := dk_54 5 (dk_at dksX9_layGroup_2 15 rfl rfl)
theorem dX9_layGroup_61 : decode cX9_layGroup 61 = .ok (.iload 5, 2) := dk_21 5 (dk_at dksX9_layGroup_2 17 rfl rfl)
theorem dX9_layGroup_63 : decode cX9_layGroup 63 = .ok (.aload_n 0, 1) := dk_42 (dk_at dksX9_layGroup_2 19 rfl rfl)
theorem dX9_layGroup_64 : decode cX9_layGroup 64 = .ok (.getfield 415, 3) := dk_180 1 159 (dk_at dksX9_layGroup_2 20 rfl rfl)
theorem dX9_layGroup_67 : decode cX9_layGroup 67 = .ok (.if_icmp .ge 36, 3) := dk_162 0 36 (dk_at dksX9_layGroup_3 0 rfl rfl)
theorem dX9_layGroup_70 : decode cX9_layGroup 70 = .ok (.iload 4, 2) := dk_21 4 (dk_at dksX9_layGroup_3 3 rfl rfl)
theorem dX9_layGroup_72 : decode cX9_layGroup 72 = .ok (.ifCond .eq 22, 3) := dk_153 0 22 (dk_at dksX9_layGroup_3 5 rfl rfl)
theorem dX9_layGroup_75 : decode cX9_layGroup 75 = .ok (.aload_n 0, 1) := dk_42 (dk_at dksX9_layGroup_3 8 rfl rfl)
theorem dX9_layGroup_76 : decode cX9_layGroup 76 = .ok (.iload_n 3, 1) := dk_29 (dk_at dksX9_layGroup_3 9 rfl rfl)
theorem dX9_layGroup_77 : decode cX9_layGroup 77 = .ok (.aload_n 0, 1) := dk_42 (dk_at dksX9_layGroup_3 10 rfl rfl)
theorem dX9_layGroup_78 : decode cX9_layGroup 78 = .ok (.getfield 73, 3) := dk_180 0 73 (dk_at dksX9_layGroup_3 11 rfl rfl)
theorem dX9_layGroup_81 : decode cX9_layGroup 81 = .ok (.iload 5, 2) := dk_21 5 (dk_at dksX9_layGroup_3 14 rfl rfl)
theorem dX9_layGroup_83 : decode cX9_layGroup 83 = .ok (.iaload, 1) := dk_46 (dk_at dksX9_layGroup_3 16 rfl rfl)
theorem dX9_layGroup_84 : decode cX9_layGroup 84 = .ok (.invokevirtual 418, 3) := dk_182 1 162 (dk_at dksX9_layGroup_3 17 rfl rfl)
theorem dX9_layGroup_87 : decode cX9_layGroup 87 = .ok (.ifCond .ne 7, 3) := dk_154 0 7 (dk_at dksX9_layGroup_3 20 rfl rfl)
theorem dX9_layGroup_90 : decode cX9_layGroup 90 = .ok (.iconst 1, 1) := dk_4 (dk_at dksX9_layGroup_3 23 rfl rfl)
theorem dX9_layGroup_91 : decode cX9_layGroup 91 = .ok (.goto 4, 3) := dk_167 0 4 (dk_at dksX9_layGroup_4 0 rfl rfl)
theorem dX9_layGroup_94 : decode cX9_layGroup 94 = .ok (.iconst 0, 1) := dk_3 (dk_at dksX9_layGroup_4 3 rfl rfl)
theorem dX9_layGroup_95 : decode cX9_layGroup 95 = .ok (.istore 4, 2) := dk_54 4 (dk_at dksX9_layGroup_4 4 rfl rfl)
theorem dX9_layGroup_97 : decode cX9_layGroup 97 = .ok (.iinc 5 1, 3) := dk_132 5 1 (dk_at dksX9_layGroup_4 6 rfl rfl)
theorem dX9_layGroup_100 : decode cX9_layGroup 100 = .ok (.goto (-39), 3) := dk_167 255 217 (dk_at dksX9_layGroup_4 9 rfl rfl)
theorem dX9_layGroup_103 : decode cX9_layGroup 103 = .ok (.iload 4, 2) := dk_21 4 (dk_at dksX9_layGroup_4 12 rfl rfl)
theorem dX9_layGroup_105 : decode cX9_layGroup 105 = .ok (.ifCond .eq 64, 3) := dk_153 0 64 (dk_at dksX9_layGroup_4 14 rfl rfl)
theorem dX9_layGroup_108 : decode cX9_layGroup 108 = .ok (.aload_n 0, 1) := dk_42 (dk_at dksX9_layGroup_4 17 rfl rfl)
theorem dX9_layGroup_109 : decode cX9_layGroup 109 = .ok (.getfield 73, 3) := dk_180 0 73 (dk_at dksX9_layGroup_4 18 rfl rfl)
theorem dX9_layGroup_112 : decode cX9_layGroup 112 = .ok (.aload_n 0, 1) := dk_42 (dk_at dksX9_layGroup_4 21 rfl rfl)
theorem dX9_layGroup_113 : decode cX9_layGroup 113 = .ok (.getfield 415, 3) := dk_180 1 159 (dk_at dksX9_layGroup_5 0 rfl rfl)
theorem dX9_layGroup_116 : decode cX9_layGroup 116 = .ok (.iload_n 3, 1) := dk_29 (dk_at dksX9_layGroup_5 3 rfl rfl)
theorem dX9_layGroup_117 : decode cX9_layGroup 117 = .ok (.iastore, 1) := dk_79 (dk_at dksX9_layGroup_5 4 rfl rfl)
theorem dX9_layGroup_118 : decode cX9_layGroup 118 = .ok (.aload_n 0, 1) := dk_42 (dk_at dksX9_layGroup_5 5 rfl rfl)
theorem dX9_layGroup_119 : decode cX9_layGroup 119 = .ok (.getfield 76, 3) := dk_180 0 76 (dk_at dksX9_layGroup_5 6 rfl rfl)
theorem dX9_layGroup_122 : decode cX9_layGroup 122 = .ok (.aload_n 0, 1) := dk_42 (dk_at dksX9_layGroup_5 9 rfl rfl)
theorem dX9_layGroup_123 : decode cX9_layGroup 123 = .ok (.getfield 415, 3) := dk_180 1 159 (dk_at dksX9_layGroup_5 10 rfl rfl)
theorem dX9_layGroup_126 : decode cX9_layGroup 126 = .ok (.aload_n 0, 1) := dk_42 (dk_at dksX9_layGroup_5 13 rfl rfl)
theorem dX9_layGroup_127 : decode cX9_layGroup 127 = .ok (.getfield 16, 3) := dk_180 0 16 (dk_at dksX9_layGroup_5 14 rfl rfl)
theorem dX9_layGroup_130 : decode cX9_layGroup 130 = .ok (.iload_n 3, 1) := dk_29 (dk_at dksX9_layGroup_5 17 rfl rfl)
theorem dX9_layGroup_131 : decode cX9_layGroup 131 = .ok (.invokestatic 112, 3) := dk_184 0 112 (dk_at dksX9_layGroup_5 18 rfl rfl)
theorem dX9_layGroup_134 : decode cX9_layGroup 134 = .ok (.iconst 5, 1) := dk_8 (dk_at dksX9_layGroup_5 21 rfl rfl)
theorem dX9_layGroup_135 : decode cX9_layGroup 135 = .ok (.iadd, 1) := dk_96 (dk_at dksX9_layGroup_5 22 rfl rfl)
theorem dX9_layGroup_136 : decode cX9_layGroup 136 = .ok (.iaload, 1) := dk_46 (dk_at dksX9_layGroup_5 23 rfl rfl)
theorem dX9_layGroup_137 : decode cX9_layGroup 137 = .ok (.iastore, 1) := dk_79 (dk_at dksX9_layGroup_6 0 rfl rfl)
theorem dX9_layGroup_138 : decode cX9_layGroup 138 = .ok (.aload_n 0, 1) := dk_42 (dk_at dksX9_layGroup_6 1 rfl rfl)
theorem dX9_layGroup_139 : decode cX9_layGroup 139 = .ok (.getfield 79, 3) := dk_180 0 79 (dk_at dksX9_layGroup_6 2 rfl rfl)
theorem dX9_layGroup_142 : decode cX9_layGroup 142 = .ok (.aload_n 0, 1) := dk_42 (dk_at dksX9_layGroup_6 5 rfl rfl)
theorem dX9_layGroup_143 : decode cX9_layGroup 143 = .ok (.getfield 415, 3) := dk_180 1 159 (dk_at dksX9_layGroup_6 6 rfl rfl)
theorem dX9_layGroup_146 : decode cX9_layGroup 146 = .ok (.aload_n 0, 1) := dk_42 (dk_at dksX9_layGroup_6 9 rfl rfl)
theorem dX9_layGroup_147 : decode cX9_layGroup 147 = .ok (.getfield 16, 3) := dk_180 0 16 (dk_at dksX9_layGroup_6 10 rfl rfl)
theorem dX9_layGroup_150 : decode cX9_layGroup 150 = .ok (.iload_n 3, 1) := dk_29 (dk_at dksX9_layGroup_6 13 rfl rfl)
theorem dX9_layGroup_151 : decode cX9_layGroup 151 = .ok (.invokestatic 112, 3) := dk_184 0 112 (dk_at dksX9_layGroup_6 14 rfl rfl)
theorem dX9_layGroup_154 : decode cX9_layGroup 154 = .ok (.bipush 6, 2) := dk_16 6 (dk_at dksX9_layGroup_6 17 rfl rfl)
theorem dX9_layGroup_156 : decode cX9_layGroup 156 = .ok (.iadd, 1) := dk_96 (dk_at dksX9_layGroup_6 19 rfl rfl)
theorem dX9_layGroup_157 : decode cX9_layGroup 157 = .ok (.iaload, 1) := dk_46 (dk_at dksX9_layGroup_6 20 rfl rfl)
theorem dX9_layGroup_158 : decode cX9_layGroup 158 = .ok (.iastore, 1) := dk_79 (dk_at dksX9_layGroup_6 21 rfl rfl)
theorem dX9_layGroup_159 : decode cX9_layGroup 159 = .ok (.aload_n 0, 1) := dk_42 (dk_at dksX9_layGroup_6 22 rfl rfl)
theorem dX9_layGroup_160 : decode cX9_layGroup 160 = .ok (.dup, 1) := dk_89 (dk_at dksX9_layGroup_6 23 rfl rfl)
theorem dX9_layGroup_161 : decode cX9_layGroup 161 = .ok (.getfield 415, 3) := dk_180 1 159 (dk_at dksX9_layGroup_7 0 rfl rfl)
theorem dX9_layGroup_164 : decode cX9_layGroup 164 = .ok (.iconst 1, 1) := dk_4 (dk_at dksX9_layGroup_7 3 rfl rfl)
theorem dX9_layGroup_165 : decode cX9_layGroup 165 = .ok (.iadd, 1) := dk_96 (dk_at dksX9_layGroup_7 4 rfl rfl)
theorem dX9_layGroup_166 : decode cX9_layGroup 166 = .ok (.putfield 415, 3) := dk_181 1 159 (dk_at dksX9_layGroup_7 5 rfl rfl)
theorem dX9_layGroup_169 : decode cX9_layGroup 169 = .ok (.iinc 3 1, 3) := dk_132 3 1 (dk_at dksX9_layGroup_7 8 rfl rfl)
theorem dX9_layGroup_172 : decode cX9_layGroup 172 = .ok (.goto (-165), 3) := dk_167 255 91 (dk_at dksX9_layGroup_7 11 rfl rfl)
theorem dX9_layGroup_175 : decode cX9_layGroup 175 = .ok (.return_, 1) := dk_177 (dk_at dksX9_layGroup_7 14 rfl rfl)
abbrev cX9_haveNet : ByteArray := prog_15_method_112_code
def yX9_haveNet : MethodName := ⟨RX9, "haveNet", "(II)Z"⟩
def dkwX9_haveNet_2 : List UInt8 := [132, 4, 1, 167, 255, 210, 29, 172]
abbrev dktX9_haveNet_2 : List UInt8 := dkwX9_haveNet_2 ++ []
def dkwX9_haveNet_1 : List UInt8 := [182, 1, 39, 2, 159, 0, 18, 42, 21, 4, 28, 182, 1, 39, 2, 159, 0, 7, 4, 167, 0, 4, 3, 62]
abbrev dktX9_haveNet_1 : List UInt8 := dkwX9_haveNet_1 ++ dktX9_haveNet_2
def dkwX9_haveNet_0 : List UInt8 := [3, 62, 3, 54, 4, 21, 4, 42, 180, 0, 16, 6, 46, 162, 0, 41, 29, 154, 0, 25, 42, 21, 4, 27]
abbrev dktX9_haveNet_0 : List UInt8 := dkwX9_haveNet_0 ++ dktX9_haveNet_1
theorem dksX9_haveNet_0 : cX9_haveNet.data.toList.drop 0 = dktX9_haveNet_0 := by decide +kernel
theorem dksX9_haveNet_1 : cX9_haveNet.data.toList.drop 24 = dktX9_haveNet_1 := dk_seg dksX9_haveNet_0 24 rfl rfl
theorem dksX9_haveNet_2 : cX9_haveNet.data.toList.drop 48 = dktX9_haveNet_2 := dk_seg dksX9_haveNet_1 24 rfl rfl
theorem dX9_haveNet_0 : decode cX9_haveNet 0 = .ok (.iconst 0, 1) := dk_3 (dk_at dksX9_haveNet_0 0 rfl rfl)
theorem dX9_haveNet_1 : decode cX9_haveNet 1 = .ok (.istore_n 3, 1) := dk_62 (dk_at dksX9_haveNet_0 1 rfl rfl)
theorem dX9_haveNet_2 : decode cX9_haveNet 2 = .ok (.iconst 0, 1) := dk_3 (dk_at dksX9_haveNet_0 2 rfl rfl)
theorem dX9_haveNet_3 : decode cX9_haveNet 3 = .ok (.istore 4, 2) := dk_54 4 (dk_at dksX9_haveNet_0 3 rfl rfl)
theorem dX9_haveNet_5 : decode cX9_haveNet 5 = .ok (.iload 4, 2) := dk_21 4 (dk_at dksX9_haveNet_0 5 rfl rfl)
theorem dX9_haveNet_7 : decode cX9_haveNet 7 = .ok (.aload_n 0, 1) := dk_42 (dk_at dksX9_haveNet_0 7 rfl rfl)
theorem dX9_haveNet_8 : decode cX9_haveNet 8 = .ok (.getfield 16, 3) := dk_180 0 16 (dk_at dksX9_haveNet_0 8 rfl rfl)
theorem dX9_haveNet_11 : decode cX9_haveNet 11 = .ok (.iconst 3, 1) := dk_6 (dk_at dksX9_haveNet_0 11 rfl rfl)
theorem dX9_haveNet_12 : decode cX9_haveNet 12 = .ok (.iaload, 1) := dk_46 (dk_at dksX9_haveNet_0 12 rfl rfl)
theorem dX9_haveNet_13 : decode cX9_haveNet 13 = .ok (.if_icmp .ge 41, 3) := dk_162 0 41 (dk_at dksX9_haveNet_0 13 rfl rfl)
theorem dX9_haveNet_16 : decode cX9_haveNet 16 = .ok (.iload_n 3, 1) := dk_29 (dk_at dksX9_haveNet_0 16 rfl rfl)
theorem dX9_haveNet_17 : decode cX9_haveNet 17 = .ok (.ifCond .ne 25, 3) := dk_154 0 25 (dk_at dksX9_haveNet_0 17 rfl rfl)
theorem dX9_haveNet_20 : decode cX9_haveNet 20 = .ok (.aload_n 0, 1) := dk_42 (dk_at dksX9_haveNet_0 20 rfl rfl)
theorem dX9_haveNet_21 : decode cX9_haveNet 21 = .ok (.iload 4, 2) := dk_21 4 (dk_at dksX9_haveNet_0 21 rfl rfl)
theorem dX9_haveNet_23 : decode cX9_haveNet 23 = .ok (.iload_n 1, 1) := dk_27 (dk_at dksX9_haveNet_0 23 rfl rfl)
theorem dX9_haveNet_24 : decode cX9_haveNet 24 = .ok (.invokevirtual 295, 3) := dk_182 1 39 (dk_at dksX9_haveNet_1 0 rfl rfl)
theorem dX9_haveNet_27 : decode cX9_haveNet 27 = .ok (.iconst (-1), 1) := dk_2 (dk_at dksX9_haveNet_1 3 rfl rfl)
theorem dX9_haveNet_28 : decode cX9_haveNet 28 = .ok (.if_icmp .eq 18, 3) := dk_159 0 18 (dk_at dksX9_haveNet_1 4 rfl rfl)
theorem dX9_haveNet_31 : decode cX9_haveNet 31 = .ok (.aload_n 0, 1) := dk_42 (dk_at dksX9_haveNet_1 7 rfl rfl)
theorem dX9_haveNet_32 : decode cX9_haveNet 32 = .ok (.iload 4, 2) := dk_21 4 (dk_at dksX9_haveNet_1 8 rfl rfl)
theorem dX9_haveNet_34 : decode cX9_haveNet 34 = .ok (.iload_n 2, 1) := dk_28 (dk_at dksX9_haveNet_1 10 rfl rfl)
theorem dX9_haveNet_35 : decode cX9_haveNet 35 = .ok (.invokevirtual 295, 3) := dk_182 1 39 (dk_at dksX9_haveNet_1 11 rfl rfl)
theorem dX9_haveNet_38 : decode cX9_haveNet 38 = .ok (.iconst (-1), 1) := dk_2 (dk_at dksX9_haveNet_1 14 rfl rfl)
theorem dX9_haveNet_39 : decode cX9_haveNet 39 = .ok (.if_icmp .eq 7, 3) := dk_159 0 7 (dk_at dksX9_haveNet_1 15 rfl rfl)
theorem dX9_haveNet_42 : decode cX9_haveNet 42 = .ok (.iconst 1, 1) := dk_4 (dk_at dksX9_haveNet_1 18 rfl rfl)
theorem dX9_haveNet_43 : decode cX9_haveNet 43 = .ok (.goto 4, 3) := dk_167 0 4 (dk_at dksX9_haveNet_1 19 rfl rfl)
theorem dX9_haveNet_46 : decode cX9_haveNet 46 = .ok (.iconst 0, 1) := dk_3 (dk_at dksX9_haveNet_1 22 rfl rfl)
theorem dX9_haveNet_47 : decode cX9_haveNet 47 = .ok (.istore_n 3, 1) := dk_62 (dk_at dksX9_haveNet_1 23 rfl rfl)
theorem dX9_haveNet_48 : decode cX9_haveNet 48 = .ok (.iinc 4 1, 3) := dk_132 4 1 (dk_at dksX9_haveNet_2 0 rfl rfl)
theorem dX9_haveNet_51 : decode cX9_haveNet 51 = .ok (.goto (-46), 3) := dk_167 255 210 (dk_at dksX9_haveNet_2 3 rfl rfl)
theorem dX9_haveNet_54 : decode cX9_haveNet 54 = .ok (.iload_n 3, 1) := dk_29 (dk_at dksX9_haveNet_2 6 rfl rfl)
theorem dX9_haveNet_55 : decode cX9_haveNet 55 = .ok (.ireturn, 1) := dk_172 (dk_at dksX9_haveNet_2 7 rfl rfl)
abbrev cX9_sortGroup : ByteArray := prog_15_method_115_code
def yX9_sortGroup : MethodName := ⟨RX9, "sortGroup", "()V"⟩
def dkwX9_sortGroup_3 : List UInt8 := [177]
abbrev dktX9_sortGroup_3 : List UInt8 := dkwX9_sortGroup_3 ++ []
def dkwX9_sortGroup_2 : List UInt8 := [162, 0, 13, 28, 60, 42, 42, 180, 1, 159, 182, 1, 132, 167, 255, 217, 42, 42, 180, 0, 64, 182, 1, 165]
abbrev dktX9_sortGroup_2 : List UInt8 := dkwX9_sortGroup_2 ++ dktX9_sortGroup_3
def dkwX9_sortGroup_1 : List UInt8 := [180, 1, 159, 182, 1, 135, 153, 0, 34, 42, 42, 180, 0, 61, 182, 1, 165, 42, 182, 0, 223, 61, 28, 27]
abbrev dktX9_sortGroup_1 : List UInt8 := dkwX9_sortGroup_1 ++ dktX9_sortGroup_2
def dkwX9_sortGroup_0 : List UInt8 := [42, 42, 180, 1, 159, 182, 1, 129, 42, 42, 180, 1, 159, 182, 1, 132, 42, 182, 0, 223, 60, 42, 42]
abbrev dktX9_sortGroup_0 : List UInt8 := dkwX9_sortGroup_0 ++ dktX9_sortGroup_1
theorem dksX9_sortGroup_0 : cX9_sortGroup.data.toList.drop 0 = dktX9_sortGroup_0 := by decide +kernel
theorem dksX9_sortGroup_1 : cX9_sortGroup.data.toList.drop 23 = dktX9_sortGroup_1 := dk_seg dksX9_sortGroup_0 23 rfl rfl
theorem dksX9_sortGroup_2 : cX9_sortGroup.data.toList.drop 47 = dktX9_sortGroup_2 := dk_seg dksX9_sortGroup_1 24 rfl rfl
theorem dksX9_sortGroup_3 : cX9_sortGroup.data.toList.drop 71 = dktX9_sortGroup_3 := dk_seg dksX9_sortGroup_2 24 rfl rfl
theorem dX9_sortGroup_0 : decode cX9_sortGroup 0 = .ok (.aload_n 0, 1) := dk_42 (dk_at dksX9_sortGroup_0 0 rfl rfl)
theorem dX9_sortGroup_1 : decode cX9_sortGroup 1 = .ok (.aload_n 0, 1) := dk_42 (dk_at dksX9_sortGroup_0 1 rfl rfl)
theorem dX9_sortGroup_2 : decode cX9_sortGroup 2 = .ok (.getfield 415, 3) := dk_180 1 159 (dk_at dksX9_sortGroup_0 2 rfl rfl)
theorem dX9_sortGroup_5 : decode cX9_sortGroup 5 = .ok (.invokevirtual 385, 3) := dk_182 1 129 (dk_at dksX9_sortGroup_0 5 rfl rfl)
theorem dX9_sortGroup_8 : decode cX9_sortGroup 8 = .ok (.aload_n 0, 1) := dk_42 (dk_at dksX9_sortGroup_0 8 rfl rfl)
theorem dX9_sortGroup_9 : decode cX9_sortGroup 9 = .ok (.aload_n 0, 1) := dk_42 (dk_at dksX9_sortGroup_0 9 rfl rfl)
theorem dX9_sortGroup_10 : decode cX9_sortGroup 10 = .ok (.getfield 415, 3) := dk_180 1 159 (dk_at dksX9_sortGroup_0 10 rfl rfl)
theorem dX9_sortGroup_13 : decode cX9_sortGroup 13 = .ok (.invokevirtual 388, 3) := dk_182 1 132 (dk_at dksX9_sortGroup_0 13 rfl rfl)
theorem dX9_sortGroup_16 : decode cX9_sortGroup 16 = .ok (.aload_n 0, 1) := dk_42 (dk_at dksX9_sortGroup_0 16 rfl rfl)
theorem dX9_sortGroup_17 : decode cX9_sortGroup 17 = .ok (.invokevirtual 223, 3) := dk_182 0 223 (dk_at dksX9_sortGroup_0 17 rfl rfl)
theorem dX9_sortGroup_20 : decode cX9_sortGroup 20 = .ok (.istore_n 1, 1) := dk_60 (dk_at dksX9_sortGroup_0 20 rfl rfl)
theorem dX9_sortGroup_21 : decode cX9_sortGroup 21 = .ok (.aload_n 0, 1) := dk_42 (dk_at dksX9_sortGroup_0 21 rfl rfl)
theorem dX9_sortGroup_22 : decode cX9_sortGroup 22 = .ok (.aload_n 0, 1) := dk_42 (dk_at dksX9_sortGroup_0 22 rfl rfl)
theorem dX9_sortGroup_23 : decode cX9_sortGroup 23 = .ok (.getfield 415, 3) := dk_180 1 159 (dk_at dksX9_sortGroup_1 0 rfl rfl)
theorem dX9_sortGroup_26 : decode cX9_sortGroup 26 = .ok (.invokevirtual 391, 3) := dk_182 1 135 (dk_at dksX9_sortGroup_1 3 rfl rfl)
theorem dX9_sortGroup_29 : decode cX9_sortGroup 29 = .ok (.ifCond .eq 34, 3) := dk_153 0 34 (dk_at dksX9_sortGroup_1 6 rfl rfl)
theorem dX9_sortGroup_32 : decode cX9_sortGroup 32 = .ok (.aload_n 0, 1) := dk_42 (dk_at dksX9_sortGroup_1 9 rfl rfl)
theorem dX9_sortGroup_33 : decode cX9_sortGroup 33 = .ok (.aload_n 0, 1) := dk_42 (dk_at dksX9_sortGroup_1 10 rfl rfl)
theorem dX9_sortGroup_34 : decode cX9_sortGroup 34 = .ok (.getfield 61, 3) := dk_180 0 61 (dk_at dksX9_sortGroup_1 11 rfl rfl)
theorem dX9_sortGroup_37 : decode cX9_sortGroup 37 = .ok (.invokevirtual 421, 3) := dk_182 1 165 (dk_at dksX9_sortGroup_1 14 rfl rfl)
theorem dX9_sortGroup_40 : decode cX9_sortGroup 40 = .ok (.aload_n 0, 1) := dk_42 (dk_at dksX9_sortGroup_1 17 rfl rfl)
theorem dX9_sortGroup_41 : decode cX9_sortGroup 41 = .ok (.invokevirtual 223, 3) := dk_182 0 223 (dk_at dksX9_sortGroup_1 18 rfl rfl)
theorem dX9_sortGroup_44 : decode cX9_sortGroup 44 = .ok (.istore_n 2, 1) := dk_61 (dk_at dksX9_sortGroup_1 21 rfl rfl)
theorem dX9_sortGroup_45 : decode cX9_sortGroup 45 = .ok (.iload_n 2, 1) := dk_28 (dk_at dksX9_sortGroup_1 22 rfl rfl)
theorem dX9_sortGroup_46 : decode cX9_sortGroup 46 = .ok (.iload_n 1, 1) := dk_27 (dk_at dksX9_sortGroup_1 23 rfl rfl)
theorem dX9_sortGroup_47 : decode cX9_sortGroup 47 = .ok (.if_icmp .ge 13, 3) := dk_162 0 13 (dk_at dksX9_sortGroup_2 0 rfl rfl)
theorem dX9_sortGroup_50 : decode cX9_sortGroup 50 = .ok (.iload_n 2, 1) := dk_28 (dk_at dksX9_sortGroup_2 3 rfl rfl)
theorem dX9_sortGroup_51 : decode cX9_sortGroup 51 = .ok (.istore_n 1, 1) := dk_60 (dk_at dksX9_sortGroup_2 4 rfl rfl)
theorem dX9_sortGroup_52 : decode cX9_sortGroup 52 = .ok (.aload_n 0, 1) := dk_42 (dk_at dksX9_sortGroup_2 5 rfl rfl)
theorem dX9_sortGroup_53 : decode cX9_sortGroup 53 = .ok (.aload_n 0, 1) := dk_42 (dk_at dksX9_sortGroup_2 6 rfl rfl)
theorem dX9_sortGroup_54 : decode cX9_sortGroup 54 = .ok (.getfield 415, 3) := dk_180 1 159 (dk_at dksX9_sortGroup_2 7 rfl rfl)
theorem dX9_sortGroup_57 : decode cX9_sortGroup 57 = .ok (.invokevirtual 388, 3) := dk_182 1 132 (dk_at dksX9_sortGroup_2 10 rfl rfl)
theorem dX9_sortGroup_60 : decode cX9_sortGroup 60 = .ok (.goto (-39), 3) := dk_167 255 217 (dk_at dksX9_sortGroup_2 13 rfl rfl)
theorem dX9_sortGroup_63 : decode cX9_sortGroup 63 = .ok (.aload_n 0, 1) := dk_42 (dk_at dksX9_sortGroup_2 16 rfl rfl)
theorem dX9_sortGroup_64 : decode cX9_sortGroup 64 = .ok (.aload_n 0, 1) := dk_42 (dk_at dksX9_sortGroup_2 17 rfl rfl)
theorem dX9_sortGroup_65 : decode cX9_sortGroup 65 = .ok (.getfield 64, 3) := dk_180 0 64 (dk_at dksX9_sortGroup_2 18 rfl rfl)
theorem dX9_sortGroup_68 : decode cX9_sortGroup 68 = .ok (.invokevirtual 421, 3) := dk_182 1 165 (dk_at dksX9_sortGroup_2 21 rfl rfl)
theorem dX9_sortGroup_71 : decode cX9_sortGroup 71 = .ok (.return_, 1) := dk_177 (dk_at dksX9_sortGroup_3 0 rfl rfl)
abbrev cX9_putGroup : ByteArray := prog_15_method_114_code
def yX9_putGroup : MethodName := ⟨RX9, "putGroup", "([I)V"⟩
def dkwX9_putGroup_1 : List UInt8 := [46, 42, 180, 0, 79, 43, 28, 46, 46, 182, 0, 219, 132, 2, 1, 167, 255, 219, 177]
abbrev dktX9_putGroup_1 : List UInt8 := dkwX9_putGroup_1 ++ []
def dkwX9_putGroup_0 : List UInt8 := [3, 61, 28, 42, 180, 1, 159, 162, 0, 35, 42, 42, 180, 0, 73, 28, 46, 42, 180, 0, 76, 43, 28, 46]
abbrev dktX9_putGroup_0 : List UInt8 := dkwX9_putGroup_0 ++ dktX9_putGroup_1
theorem dksX9_putGroup_0 : cX9_putGroup.data.toList.drop 0 = dktX9_putGroup_0 := by decide +kernel
theorem dksX9_putGroup_1 : cX9_putGroup.data.toList.drop 24 = dktX9_putGroup_1 := dk_seg dksX9_putGroup_0 24 rfl rfl
theorem dX9_putGroup_0 : decode cX9_putGroup 0 = .ok (.iconst 0, 1) := dk_3 (dk_at dksX9_putGroup_0 0 rfl rfl)
theorem dX9_putGroup_1 : decode cX9_putGroup 1 = .ok (.istore_n 2, 1) := dk_61 (dk_at dksX9_putGroup_0 1 rfl rfl)
theorem dX9_putGroup_2 : decode cX9_putGroup 2 = .ok (.iload_n 2, 1) := dk_28 (dk_at dksX9_putGroup_0 2 rfl rfl)
theorem dX9_putGroup_3 : decode cX9_putGroup 3 = .ok (.aload_n 0, 1) := dk_42 (dk_at dksX9_putGroup_0 3 rfl rfl)
theorem dX9_putGroup_4 : decode cX9_putGroup 4 = .ok (.getfield 415, 3) := dk_180 1 159 (dk_at dksX9_putGroup_0 4 rfl rfl)
theorem dX9_putGroup_7 : decode cX9_putGroup 7 = .ok (.if_icmp .ge 35, 3) := dk_162 0 35 (dk_at dksX9_putGroup_0 7 rfl rfl)
theorem dX9_putGroup_10 : decode cX9_putGroup 10 = .ok (.aload_n 0, 1) := dk_42 (dk_at dksX9_putGroup_0 10 rfl rfl)
theorem dX9_putGroup_11 : decode cX9_putGroup 11 = .ok (.aload_n 0, 1) := dk_42 (dk_at dksX9_putGroup_0 11 rfl rfl)
theorem dX9_putGroup_12 : decode cX9_putGroup 12 = .ok (.getfield 73, 3) := dk_180 0 73 (dk_at dksX9_putGroup_0 12 rfl rfl)
theorem dX9_putGroup_15 : decode cX9_putGroup 15 = .ok (.iload_n 2, 1) := dk_28 (dk_at dksX9_putGroup_0 15 rfl rfl)
theorem dX9_putGroup_16 : decode cX9_putGroup 16 = .ok (.iaload, 1) := dk_46 (dk_at dksX9_putGroup_0 16 rfl rfl)
theorem dX9_putGroup_17 : decode cX9_putGroup 17 = .ok (.aload_n 0, 1) := dk_42 (dk_at dksX9_putGroup_0 17 rfl rfl)
theorem dX9_putGroup_18 : decode cX9_putGroup 18 = .ok (.getfield 76, 3) := dk_180 0 76 (dk_at dksX9_putGroup_0 18 rfl rfl)
theorem dX9_putGroup_21 : decode cX9_putGroup 21 = .ok (.aload_n 1, 1) := dk_43 (dk_at dksX9_putGroup_0 21 rfl rfl)
theorem dX9_putGroup_22 : decode cX9_putGroup 22 = .ok (.iload_n 2, 1) := dk_28 (dk_at dksX9_putGroup_0 22 rfl rfl)
theorem dX9_putGroup_23 : decode cX9_putGroup 23 = .ok (.iaload, 1) := dk_46 (dk_at dksX9_putGroup_0 23 rfl rfl)
theorem dX9_putGroup_24 : decode cX9_putGroup 24 = .ok (.iaload, 1) := dk_46 (dk_at dksX9_putGroup_1 0 rfl rfl)
theorem dX9_putGroup_25 : decode cX9_putGroup 25 = .ok (.aload_n 0, 1) := dk_42 (dk_at dksX9_putGroup_1 1 rfl rfl)
theorem dX9_putGroup_26 : decode cX9_putGroup 26 = .ok (.getfield 79, 3) := dk_180 0 79 (dk_at dksX9_putGroup_1 2 rfl rfl)
theorem dX9_putGroup_29 : decode cX9_putGroup 29 = .ok (.aload_n 1, 1) := dk_43 (dk_at dksX9_putGroup_1 5 rfl rfl)
theorem dX9_putGroup_30 : decode cX9_putGroup 30 = .ok (.iload_n 2, 1) := dk_28 (dk_at dksX9_putGroup_1 6 rfl rfl)
theorem dX9_putGroup_31 : decode cX9_putGroup 31 = .ok (.iaload, 1) := dk_46 (dk_at dksX9_putGroup_1 7 rfl rfl)
theorem dX9_putGroup_32 : decode cX9_putGroup 32 = .ok (.iaload, 1) := dk_46 (dk_at dksX9_putGroup_1 8 rfl rfl)
theorem dX9_putGroup_33 : decode cX9_putGroup 33 = .ok (.invokevirtual 219, 3) := dk_182 0 219 (dk_at dksX9_putGroup_1 9 rfl rfl)
theorem dX9_putGroup_36 : decode cX9_putGroup 36 = .ok (.iinc 2 1, 3) := dk_132 2 1 (dk_at dksX9_putGroup_1 12 rfl rfl)
theorem dX9_putGroup_39 : decode cX9_putGroup 39 = .ok (.goto (-37), 3) := dk_167 255 219 (dk_at dksX9_putGroup_1 15 rfl rfl)
theorem dX9_putGroup_42 : decode cX9_putGroup 42 = .ok (.return_, 1) := dk_177 (dk_at dksX9_putGroup_1 18 rfl rfl)
abbrev cX9_shake : ByteArray := prog_15_method_118_code
def yX9_shake : MethodName := ⟨RX9, "shake", "(III)I"⟩
def dkwX9_shake_10 : List UInt8 := [180, 0, 28, 3, 42, 180, 0, 16, 3, 184, 0, 101, 42, 21, 5, 21, 6, 100, 182, 0, 109, 172]
abbrev dktX9_shake_10 : List UInt8 := dkwX9_shake_10 ++ []
def dkwX9_shake_9 : List UInt8 := [54, 6, 42, 180, 0, 16, 3, 42, 180, 0, 28, 3, 184, 0, 101, 132, 7, 1, 167, 255, 133, 42]
abbrev dktX9_shake_9 : List UInt8 := dkwX9_shake_9 ++ dktX9_shake_10
def dkwX9_shake_8 : List UInt8 := [16, 7, 21, 4, 104, 16, 8, 108, 54, 4, 42, 182, 0, 223, 21, 6, 162, 0, 22, 42, 182, 0, 223]
abbrev dktX9_shake_8 : List UInt8 := dkwX9_shake_8 ++ dktX9_shake_9
def dkwX9_shake_7 : List UInt8 := [182, 1, 153, 42, 182, 0, 223, 21, 10, 21, 4, 96, 164, 0, 11, 42, 21, 8, 21, 9, 182, 1, 153]
abbrev dktX9_shake_7 : List UInt8 := dkwX9_shake_7 ++ dktX9_shake_8
def dkwX9_shake_6 : List UInt8 := [42, 21, 8, 21, 9, 182, 1, 150, 153, 0, 37, 42, 182, 0, 223, 54, 10, 42, 21, 8, 21, 9]
abbrev dktX9_shake_6 : List UInt8 := dkwX9_shake_6 ++ dktX9_shake_7
def dkwX9_shake_5 : List UInt8 := [182, 1, 191, 54, 8, 42, 42, 180, 0, 16, 5, 46, 182, 1, 191, 54, 9, 21, 8, 21, 9, 159, 0, 48]
abbrev dktX9_shake_5 : List UInt8 := dkwX9_shake_5 ++ dktX9_shake_6
def dkwX9_shake_4 : List UInt8 := [180, 0, 28, 3, 184, 0, 101, 3, 54, 7, 21, 7, 28, 162, 0, 123, 42, 42, 180, 0, 16, 5, 46]
abbrev dktX9_shake_4 : List UInt8 := dkwX9_shake_4 ++ dktX9_shake_5
def dkwX9_shake_3 : List UInt8 := [133, 181, 1, 175, 29, 54, 4, 42, 182, 0, 223, 54, 5, 21, 5, 54, 6, 42, 180, 0, 16, 3, 42]
abbrev dktX9_shake_3 : List UInt8 := dkwX9_shake_3 ++ dktX9_shake_4
def dkwX9_shake_2 : List UInt8 := [42, 180, 0, 16, 5, 46, 154, 0, 10, 42, 16, 252, 182, 0, 105, 172, 42, 16, 17, 182, 0, 186, 42, 27]
abbrev dktX9_shake_2 : List UInt8 := dkwX9_shake_2 ++ dktX9_shake_3
def dkwX9_shake_1 : List UInt8 := [184, 0, 122, 153, 0, 15, 29, 133, 9, 20, 1, 189, 184, 0, 122, 154, 0, 9, 42, 2, 182, 0, 105, 172]
abbrev dktX9_shake_1 : List UInt8 := dkwX9_shake_1 ++ dktX9_shake_2
def dkwX9_shake_0 : List UInt8 := [42, 3, 181, 0, 92, 27, 133, 9, 20, 1, 185, 184, 0, 122, 153, 0, 27, 28, 133, 10, 20, 1, 187]
abbrev dktX9_shake_0 : List UInt8 := dkwX9_shake_0 ++ dktX9_shake_1
theorem dksX9_shake_0 : cX9_shake.data.toList.drop 0 = dktX9_shake_0 := by decide +kernel
theorem dksX9_shake_1 : cX9_shake.data.toList.drop 23 = dktX9_shake_1 := dk_seg dksX9_shake_0 23 rfl rfl
theorem dksX9_shake_2 : cX9_shake.data.toList.drop 47 = dktX9_shake_2 := dk_seg dksX9_shake_1 24 rfl rfl
theorem dksX9_shake_3 : cX9_shake.data.toList.drop 71 = dktX9_shake_3 := dk_seg dksX9_shake_2 24 rfl rfl
theorem dksX9_shake_4 : cX9_shake.data.toList.drop 94 = dktX9_shake_4 := dk_seg dksX9_shake_3 23 rfl rfl
theorem dksX9_shake_5 : cX9_shake.data.toList.drop 117 = dktX9_shake_5 := dk_seg dksX9_shake_4 23 rfl rfl
theorem dksX9_shake_6 : cX9_shake.data.toList.drop 141 = dktX9_shake_6 := dk_seg dksX9_shake_5 24 rfl rfl
theorem dksX9_shake_7 : cX9_shake.data.toList.drop 163 = dktX9_shake_7 := dk_seg dksX9_shake_6 22 rfl rfl
theorem dksX9_shake_8 : cX9_shake.data.toList.drop 186 = dktX9_shake_8 := dk_seg dksX9_shake_7 23 rfl rfl
theorem dksX9_shake_9 : cX9_shake.data.toList.drop 209 = dktX9_shake_9 := dk_seg dksX9_shake_8 23 rfl rfl
theorem dksX9_shake_10 : cX9_shake.data.toList.drop 231 = dktX9_shake_10 := dk_seg dksX9_shake_9 22 rfl rfl
theorem dX9_shake_0 : decode cX9_shake 0 = .ok (.aload_n 0, 1) := dk_42 (dk_at dksX9_shake_0 0 rfl rfl)
theorem dX9_shake_1 : decode cX9_shake 1 = .ok (.iconst 0, 1) := dk_3 (dk_at dksX9_shake_0 1 rfl rfl)
theorem dX9_shake_2 : decode cX9_shake 2 = .ok (.putfield 92, 3) := dk_181 0 92 (dk_at dksX9_shake_0 2 rfl rfl)
theorem dX9_shake_5 : decode cX9_shake 5 = .ok (.iload_n 1, 1) := dk_27 (dk_at dksX9_shake_0 5 rfl rfl)
theorem dX9_shake_6 : decode cX9_shake 6 = .ok (.i2l, 1) := dk_133 (dk_at dksX9_shake_0 6 rfl rfl)
theorem dX9_shake_7 : decode cX9_shake 7 = .ok (.lconst 0, 1) := dk_9 (dk_at dksX9_shake_0 7 rfl rfl)
theorem dX9_shake_8 : decode cX9_shake 8 = .ok (.ldc2_w 441, 3) := dk_20 1 185 (dk_at dksX9_shake_0 8 rfl rfl)
theorem dX9_shake_11 : decode cX9_shake 11 = .ok (.invokestatic 122, 3) := dk_184 0 122 (dk_at dksX9_shake_0 11 rfl rfl)
theorem dX9_shake_14 : decode cX9_shake 14 = .ok (.ifCond .eq 27, 3) := dk_153 0 27 (dk_at dksX9_shake_0 14 rfl rfl)
theorem dX9_shake_17 : decode cX9_shake 17 = .ok (.iload_n 2, 1) := dk_28 (dk_at dksX9_shake_0 17 rfl rfl)
theorem dX9_shake_18 : decode cX9_shake 18 = .ok (.i2l, 1) := dk_133 (dk_at dksX9_shake_0 18 rfl rfl)
theorem dX9_shake_19 : decode cX9_shake 19 = .ok (.lconst 1, 1) := dk_10 (dk_at dksX9_shake_0 19 rfl rfl)
theorem dX9_shake_20 : decode cX9_shake 20 = .ok (.ldc2_w 443, 3) := dk_20 1 187 (dk_at dksX9_shake_0 20 rfl rfl)
theorem dX9_shake_23 : decode cX9_shake 23 = .ok (.invokestatic 122, 3) := dk_184 0 122 (dk_at dksX9_shake_1 0 rfl rfl)
theorem dX9_shake_26 : decode cX9_shake 26 = .ok (.ifCond .eq 15, 3) := dk_153 0 15 (dk_at dksX9_shake_1 3 rfl rfl)
theorem dX9_shake_29 : decode cX9_shake 29 = .ok (.iload_n 3, 1) := dk_29 (dk_at dksX9_shake_1 6 rfl rfl)
theorem dX9_shake_30 : decode cX9_shake 30 = .ok (.i2l, 1) := dk_133 (dk_at dksX9_shake_1 7 rfl rfl)
theorem dX9_shake_31 : decode cX9_shake 31 = .ok (.lconst 0, 1) := dk_9 (dk_at dksX9_shake_1 8 rfl rfl)
theorem dX9_shake_32 : decode cX9_shake 32 = .ok (.ldc2_w 445, 3) := dk_20 1 189 (dk_at dksX9_shake_1 9 rfl rfl)
theorem dX9_shake_35 : decode cX9_shake 35 = .ok (.invokestatic 122, 3) := dk_184 0 122 (dk_at dksX9_shake_1 12 rfl rfl)
theorem dX9_shake_38 : decode cX9_shake 38 = .ok (.ifCond .ne 9, 3) := dk_154 0 9 (dk_at dksX9_shake_1 15 rfl rfl)
theorem dX9_shake_41 : decode cX9_shake 41 = .ok (.aload_n 0, 1) := dk_42 (dk_at dksX9_shake_1 18 rfl rfl)
theorem dX9_shake_42 : decode cX9_shake 42 = .ok (.iconst (-1), 1) := dk_2 (dk_at dksX9_shake_1 19 rfl rfl)
theorem dX9_shake_43 : decode cX9_shake 43 = .ok (.invokevirtual 105, 3) := dk_182 0 105 (dk_at dksX9_shake_1 20 rfl rfl)
theorem dX9_shake_46 : decode cX9_shake 46 = .ok (.ireturn, 1) := dk_172 (dk_at dksX9_shake_1 23 rfl rfl)
theorem dX9_shake_47 : decode cX9_shake 47 = .ok (.aload_n 0, 1) := dk_42 (dk_at dksX9_shake_2 0 rfl rfl)
theorem dX9_shake_48 : decode cX9_shake 48 = .ok (.getfield 16, 3) := dk_180 0 16 (dk_at dksX9_shake_2 1 rfl rfl)
theorem dX9_shake_51 : decode cX9_shake 51 = .ok (.iconst 2, 1) := dk_5 (dk_at dksX9_shake_2 4 rfl rfl)
theorem dX9_shake_52 : decode cX9_shake 52 = .ok (.iaload, 1) := dk_46 (dk_at dksX9_shake_2 5 rfl rfl)
theorem dX9_shake_53 : decode cX9_shake 53 = .ok (.ifCond .ne 10, 3) := dk_154 0 10 (dk_at dksX9_shake_2 6 rfl rfl)
theorem dX9_shake_56 : decode cX9_shake 56 = .ok (.aload_n 0, 1) := dk_42 (dk_at dksX9_shake_2 9 rfl rfl)
theorem dX9_shake_57 : decode cX9_shake 57 = .ok (.bipush (-4), 2) := dk_16 252 (dk_at dksX9_shake_2 10 rfl rfl)
theorem dX9_shake_59 : decode cX9_shake 59 = .ok (.invokevirtual 105, 3) := dk_182 0 105 (dk_at dksX9_shake_2 12 rfl rfl)
theorem dX9_shake_62 : decode cX9_shake 62 = .ok (.ireturn, 1) := dk_172 (dk_at dksX9_shake_2 15 rfl rfl)
theorem dX9_shake_63 : decode cX9_shake 63 = .ok (.aload_n 0, 1) := dk_42 (dk_at dksX9_shake_2 16 rfl rfl)
theorem dX9_shake_64 : decode cX9_shake 64 = .ok (.bipush 17, 2) := dk_16 17 (dk_at dksX9_shake_2 17 rfl rfl)
theorem dX9_shake_66 : decode cX9_shake 66 = .ok (.invokevirtual 186, 3) := dk_182 0 186 (dk_at dksX9_shake_2 19 rfl rfl)
theorem dX9_shake_69 : decode cX9_shake 69 = .ok (.aload_n 0, 1) := dk_42 (dk_at dksX9_shake_2 22 rfl rfl)
theorem dX9_shake_70 : decode cX9_shake 70 = .ok (.iload_n 1, 1) := dk_27 (dk_at dksX9_shake_2 23 rfl rfl)
theorem dX9_shake_71 : decode cX9_shake 71 = .ok (.i2l, 1) := dk_133 (dk_at dksX9_shake_3 0 rfl rfl)
theorem dX9_shake_72 : decode cX9_shake 72 = .ok (.putfield 431, 3) := dk_181 1 175 (dk_at dksX9_shake_3 1 rfl rfl)
theorem dX9_shake_75 : decode cX9_shake 75 = .ok (.iload_n 3, 1) := dk_29 (dk_at dksX9_shake_3 4 rfl rfl)
theorem dX9_shake_76 : decode cX9_shake 76 = .ok (.istore 4, 2) := dk_54 4 (dk_at dksX9_shake_3 5 rfl rfl)
theorem dX9_shake_78 : decode cX9_shake 78 = .ok (.aload_n 0, 1) := dk_42 (dk_at dksX9_shake_3 7 rfl rfl)
theorem dX9_shake_79 : decode cX9_shake 79 = .ok (.invokevirtual 223, 3) := dk_182 0 223 (dk_at dksX9_shake_3 8 rfl rfl)
theorem dX9_shake_82 : decode cX9_shake 82 = .ok (.istore 5, 2) := dk_54 5 (dk_at dksX9_shake_3 11 rfl rfl)
theorem dX9_shake_84 : decode cX9_shake 84 = .ok (.iload 5, 2) := dk_21 5 (dk_at dksX9_shake_3 13 rfl rfl)
theorem dX9_shake_86 : decode cX9_shake 86 = .ok (.istore 6, 2) := dk_54 6 (dk_at dksX9_shake_3 15 rfl rfl)
theorem dX9_shake_88 : decode cX9_shake 88 = .ok (.aload_n 0, 1) := dk_42 (dk_at dksX9_shake_3 17 rfl rfl)
theorem dX9_shake_89 : decode cX9_shake 89 = .ok (.getfield 16, 3) := dk_180 0 16 (dk_at dksX9_shake_3 18 rfl rfl)
theorem dX9_shake_92 : decode cX9_shake 92 = .ok (.iconst 0, 1) := dk_3 (dk_at dksX9_shake_3 21 rfl rfl)
theorem dX9_shake_93 : decode cX9_shake 93 = .ok (.aload_n 0, 1) := dk_42 (dk_at dksX9_shake_3 22 rfl rfl)
theorem dX9_shake_94 : decode cX9_shake 94 = .ok (.getfield 28, 3) := dk_180 0 28 (dk_at dksX9_shake_4 0 rfl rfl)
theorem dX9_shake_97 : decode cX9_shake 97 = .ok (.iconst 0, 1) := dk_3 (dk_at dksX9_shake_4 3 rfl rfl)
theorem dX9_shake_98 : decode cX9_shake 98 = .ok (.invokestatic 101, 3) := dk_184 0 101 (dk_at dksX9_shake_4 4 rfl rfl)
theorem dX9_shake_101 : decode cX9_shake 101 = .ok (.iconst 0, 1) := dk_3 (dk_at dksX9_shake_4 7 rfl rfl)
theorem dX9_shake_102 : decode cX9_shake 102 = .ok (.istore 7, 2) := dk_54 7 (dk_at dksX9_shake_4 8 rfl rfl)
theorem dX9_shake_104 : decode cX9_shake 104 = .ok (.iload 7, 2) := dk_21 7 (dk_at dksX9_shake_4 10 rfl rfl)
theorem dX9_shake_106 : decode cX9_shake 106 = .ok (.iload_n 2, 1) := dk_28 (dk_at dksX9_shake_4 12 rfl rfl)
theorem dX9_shake_107 : decode cX9_shake 107 = .ok (.if_icmp .ge 123, 3) := dk_162 0 123 (dk_at dksX9_shake_4 13 rfl rfl)
theorem dX9_shake_110 : decode cX9_shake 110 = .ok (.aload_n 0, 1) := dk_42 (dk_at dksX9_shake_4 16 rfl rfl)
theorem dX9_shake_111 : decode cX9_shake 111 = .ok (.aload_n 0, 1) := dk_42 (dk_at dksX9_shake_4 17 rfl rfl)
theorem dX9_shake_112 : decode cX9_shake 112 = .ok (.getfield 16, 3) := dk_180 0 16 (dk_at dksX9_shake_4 18 rfl rfl)
theorem dX9_shake_115 : decode cX9_shake 115 = .ok (.iconst 2, 1) := dk_5 (dk_at dksX9_shake_4 21 rfl rfl)
theorem dX9_shake_116 : decode cX9_shake 116 = .ok (.iaload, 1) := dk_46 (dk_at dksX9_shake_4 22 rfl rfl)
theorem dX9_shake_117 : decode cX9_shake 117 = .ok (.invokevirtual 447, 3) := dk_182 1 191 (dk_at dksX9_shake_5 0 rfl rfl)
theorem dX9_shake_120 : decode cX9_shake 120 = .ok (.istore 8, 2) := dk_54 8 (dk_at dksX9_shake_5 3 rfl rfl)
theorem dX9_shake_122 : decode cX9_shake 122 = .ok (.aload_n 0, 1) := dk_42 (dk_at dksX9_shake_5 5 rfl rfl)
theorem dX9_shake_123 : decode cX9_shake 123 = .ok (.aload_n 0, 1) := dk_42 (dk_at dksX9_shake_5 6 rfl rfl)
theorem dX9_shake_124 : decode cX9_shake 124 = .ok (.getfield 16, 3) := dk_180 0 16 (dk_at dksX9_shake_5 7 rfl rfl)
theorem dX9_shake_127 : decode cX9_shake 127 = .ok (.iconst 2, 1) := dk_5 (dk_at dksX9_shake_5 10 rfl rfl)
theorem dX9_shake_128 : decode cX9_shake 128 = .ok (.iaload, 1) := dk_46 (dk_at dksX9_shake_5 11 rfl rfl)
theorem dX9_shake_129 : decode cX9_shake 129 = .ok (.invokevirtual 447, 3) := dk_182 1 191 (dk_at dksX9_shake_5 12 rfl rfl)
theorem dX9_shake_132 : decode cX9_shake 132 = .ok (.istore 9, 2) := dk_54 9 (dk_at dksX9_shake_5 15 rfl rfl)
theorem dX9_shake_134 : decode cX9_shake 134 = .ok (.iload 8, 2) := dk_21 8 (dk_at dksX9_shake_5 17 rfl rfl)
theorem dX9_shake_136 : decode cX9_shake 136 = .ok (.iload 9, 2) := dk_21 9 (dk_at dksX9_shake_5 19 rfl rfl)
theorem dX9_shake_138 : decode cX9_shake 138 = .ok (.if_icmp .eq 48, 3) := dk_159 0 48 (dk_at dksX9_shake_5 21 rfl rfl)
theorem dX9_shake_141 : decode cX9_shake 141 = .ok (.aload_n 0, 1) := dk_42 (dk_at dksX9_shake_6 0 rfl rfl)
theorem dX9_shake_142 : decode cX9_shake 142 = .ok (.iload 8, 2) := dk_21 8 (dk_at dksX9_shake_6 1 rfl rfl)
theorem dX9_shake_144 : decode cX9_shake 144 = .ok (.iload 9, 2) := dk_21 9 (dk_at dksX9_shake_6 3 rfl rfl)
theorem dX9_shake_146 : decode cX9_shake 146 = .ok (.invokevirtual 406, 3) := dk_182 1 150 (dk_at dksX9_shake_6 5 rfl rfl)
theorem dX9_shake_149 : decode cX9_shake 149 = .ok (.ifCond .eq 37, 3) := dk_153 0 37 (dk_at dksX9_shake_6 8 rfl rfl)
theorem dX9_shake_152 : decode cX9_shake 152 = .ok (.aload_n 0, 1) := dk_42 (dk_at dksX9_shake_6 11 rfl rfl)
theorem dX9_shake_153 : decode cX9_shake 153 = .ok (.invokevirtual 223, 3) := dk_182 0 223 (dk_at dksX9_shake_6 12 rfl rfl)
theorem dX9_shake_156 : decode cX9_shake 156 = .ok (.istore 10, 2) := dk_54 10 (dk_at dksX9_shake_6 15 rfl rfl)
theorem dX9_shake_158 : decode cX9_shake 158 = .ok (.aload_n 0, 1) := dk_42 (dk_at dksX9_shake_6 17 rfl rfl)
theorem dX9_shake_159 : decode cX9_shake 159 = .ok (.iload 8, 2) := dk_21 8 (dk_at dksX9_shake_6 18 rfl rfl)
theorem dX9_shake_161 : decode cX9_shake 161 = .ok (.iload 9, 2) := dk_21 9 (dk_at dksX9_shake_6 20 rfl rfl)
theorem dX9_shake_163 : decode cX9_shake 163 = .ok (.invokevirtual 409, 3) := dk_182 1 153 (dk_at dksX9_shake_7 0 rfl rfl)
theorem dX9_shake_166 : decode cX9_shake 166 = .ok (.aload_n 0, 1) := dk_42 (dk_at dksX9_shake_7 3 rfl rfl)
theorem dX9_shake_167 : decode cX9_shake 167 = .ok (.invokevirtual 223, 3) := dk_182 0 223 (dk_at dksX9_shake_7 4 rfl rfl)
theorem dX9_shake_170 : decode cX9_shake 170 = .ok (.iload 10, 2) := dk_21 10 (dk_at dksX9_shake_7 7 rfl rfl)
theorem dX9_shake_172 : decode cX9_shake 172 = .ok (.iload 4, 2) := dk_21 4 (dk_at dksX9_shake_7 9 rfl rfl)
theorem dX9_shake_174 : decode cX9_shake 174 = .ok (.iadd, 1) := dk_96 (dk_at dksX9_shake_7 11 rfl rfl)
theorem dX9_shake_175 : decode cX9_shake 175 = .ok (.if_icmp .le 11, 3) := dk_164 0 11 (dk_at dksX9_shake_7 12 rfl rfl)
theorem dX9_shake_178 : decode cX9_shake 178 = .ok (.aload_n 0, 1) := dk_42 (dk_at dksX9_shake_7 15 rfl rfl)
theorem dX9_shake_179 : decode cX9_shake 179 = .ok (.iload 8, 2) := dk_21 8 (dk_at dksX9_shake_7 16 rfl rfl)
theorem dX9_shake_181 : decode cX9_shake 181 = .ok (.iload 9, 2) := dk_21 9 (dk_at dksX9_shake_7 18 rfl rfl)
theorem dX9_shake_183 : decode cX9_shake 183 = .ok (.invokevirtual 409, 3) := dk_182 1 153 (dk_at dksX9_shake_7 20 rfl rfl)
theorem dX9_shake_186 : decode cX9_shake 186 = .ok (.bipush 7, 2) := dk_16 7 (dk_at dksX9_shake_8 0 rfl rfl)
theorem dX9_shake_188 : decode cX9_shake 188 = .ok (.iload 4, 2) := dk_21 4 (dk_at dksX9_shake_8 2 rfl rfl)
theorem dX9_shake_190 : decode cX9_shake 190 = .ok (.imul, 1) := dk_104 (dk_at dksX9_shake_8 4 rfl rfl)
theorem dX9_shake_191 : decode cX9_shake 191 = .ok (.bipush 8, 2) := dk_16 8 (dk_at dksX9_shake_8 5 rfl rfl)
theorem dX9_shake_193 : decode cX9_shake 193 = .ok (.idiv, 1) := dk_108 (dk_at dksX9_shake_8 7 rfl rfl)
theorem dX9_shake_194 : decode cX9_shake 194 = .ok (.istore 4, 2) := dk_54 4 (dk_at dksX9_shake_8 8 rfl rfl)
theorem dX9_shake_196 : decode cX9_shake 196 = .ok (.aload_n 0, 1) := dk_42 (dk_at dksX9_shake_8 10 rfl rfl)
theorem dX9_shake_197 : decode cX9_shake 197 = .ok (.invokevirtual 223, 3) := dk_182 0 223 (dk_at dksX9_shake_8 11 rfl rfl)
theorem dX9_shake_200 : decode cX9_shake 200 = .ok (.iload 6, 2) := dk_21 6 (dk_at dksX9_shake_8 14 rfl rfl)
theorem dX9_shake_202 : decode cX9_shake 202 = .ok (.if_icmp .ge 22, 3) := dk_162 0 22 (dk_at dksX9_shake_8 16 rfl rfl)
theorem dX9_shake_205 : decode cX9_shake 205 = .ok (.aload_n 0, 1) := dk_42 (dk_at dksX9_shake_8 19 rfl rfl)
theorem dX9_shake_206 : decode cX9_shake 206 = .ok (.invokevirtual 223, 3) := dk_182 0 223 (dk_at dksX9_shake_8 20 rfl rfl)
theorem dX9_shake_209 : decode cX9_shake 209 = .ok (.istore 6, 2) := dk_54 6 (dk_at dksX9_shake_9 0 rfl rfl)
theorem dX9_shake_211 : decode cX9_shake 211 = .ok (.aload_n 0, 1) := dk_42 (dk_at dksX9_shake_9 2 rfl rfl)
theorem dX9_shake_212 : decode cX9_shake 212 = .ok (.getfield 16, 3) := dk_180 0 16 (dk_at dksX9_shake_9 3 rfl rfl)
theorem dX9_shake_215 : decode cX9_shake 215 = .ok (.iconst 0, 1) := dk_3 (dk_at dksX9_shake_9 6 rfl rfl)
theorem dX9_shake_216 : decode cX9_shake 216 = .ok (.aload_n 0, 1) := dk_42 (dk_at dksX9_shake_9 7 rfl rfl)
theorem dX9_shake_217 : decode cX9_shake 217 = .ok (.getfield 28, 3) := dk_180 0 28 (dk_at dksX9_shake_9 8 rfl rfl)
theorem dX9_shake_220 : decode cX9_shake 220 = .ok (.iconst 0, 1) := dk_3 (dk_at dksX9_shake_9 11 rfl rfl)
theorem dX9_shake_221 : decode cX9_shake 221 = .ok (.invokestatic 101, 3) := dk_184 0 101 (dk_at dksX9_shake_9 12 rfl rfl)
theorem dX9_shake_224 : decode cX9_shake 224 = .ok (.iinc 7 1, 3) := dk_132 7 1 (dk_at dksX9_shake_9 15 rfl rfl)
theorem dX9_shake_227 : decode cX9_shake 227 = .ok (.goto (-123), 3) := dk_167 255 133 (dk_at dksX9_shake_9 18 rfl rfl)
theorem dX9_shake_230 : decode cX9_shake 230 = .ok (.aload_n 0, 1) := dk_42 (dk_at dksX9_shake_9 21 rfl rfl)
theorem dX9_shake_231 : decode cX9_shake 231 = .ok (.getfield 28, 3) := dk_180 0 28 (dk_at dksX9_shake_10 0 rfl rfl)
theorem dX9_shake_234 : decode cX9_shake 234 = .ok (.iconst 0, 1) := dk_3 (dk_at dksX9_shake_10 3 rfl rfl)
theorem dX9_shake_235 : decode cX9_shake 235 = .ok (.aload_n 0, 1) := dk_42 (dk_at dksX9_shake_10 4 rfl rfl)
theorem dX9_shake_236 : decode cX9_shake 236 = .ok (.getfield 16, 3) := dk_180 0 16 (dk_at dksX9_shake_10 5 rfl rfl)
theorem dX9_shake_239 : decode cX9_shake 239 = .ok (.iconst 0, 1) := dk_3 (dk_at dksX9_shake_10 8 rfl rfl)
theorem dX9_shake_240 : decode cX9_shake 240 = .ok (.invokestatic 101, 3) := dk_184 0 101 (dk_at dksX9_shake_10 9 rfl rfl)
theorem dX9_shake_243 : decode cX9_shake 243 = .ok (.aload_n 0, 1) := dk_42 (dk_at dksX9_shake_10 12 rfl rfl)
theorem dX9_shake_244 : decode cX9_shake 244 = .ok (.iload 5, 2) := dk_21 5 (dk_at dksX9_shake_10 13 rfl rfl)
theorem dX9_shake_246 : decode cX9_shake 246 = .ok (.iload 6, 2) := dk_21 6 (dk_at dksX9_shake_10 15 rfl rfl)
theorem dX9_shake_248 : decode cX9_shake 248 = .ok (.isub, 1) := dk_100 (dk_at dksX9_shake_10 17 rfl rfl)
theorem dX9_shake_249 : decode cX9_shake 249 = .ok (.invokevirtual 109, 3) := dk_182 0 109 (dk_at dksX9_shake_10 18 rfl rfl)
theorem dX9_shake_252 : decode cX9_shake 252 = .ok (.ireturn, 1) := dk_172 (dk_at dksX9_shake_10 21 rfl rfl)
abbrev cX9_draw : ByteArray := prog_15_method_117_code
def yX9_draw : MethodName := ⟨RX9, "draw", "(I)I"⟩
def dkwX9_draw_1 : List UInt8 := [27, 133, 113, 136, 172]
abbrev dktX9_draw_1 : List UInt8 := dkwX9_draw_1 ++ []
def dkwX9_draw_0 : List UInt8 := [42, 42, 180, 1, 175, 20, 1, 179, 105, 20, 1, 181, 97, 20, 1, 183, 113, 181, 1, 175, 42, 180, 1, 175]
abbrev dktX9_draw_0 : List UInt8 := dkwX9_draw_0 ++ dktX9_draw_1
theorem dksX9_draw_0 : cX9_draw.data.toList.drop 0 = dktX9_draw_0 := by decide +kernel
theorem dksX9_draw_1 : cX9_draw.data.toList.drop 24 = dktX9_draw_1 := dk_seg dksX9_draw_0 24 rfl rfl
theorem dX9_draw_0 : decode cX9_draw 0 = .ok (.aload_n 0, 1) := dk_42 (dk_at dksX9_draw_0 0 rfl rfl)
theorem dX9_draw_1 : decode cX9_draw 1 = .ok (.aload_n 0, 1) := dk_42 (dk_at dksX9_draw_0 1 rfl rfl)
theorem dX9_draw_2 : decode cX9_draw 2 = .ok (.getfield 431, 3) := dk_180 1 175 (dk_at dksX9_draw_0 2 rfl rfl)
theorem dX9_draw_5 : decode cX9_draw 5 = .ok (.ldc2_w 435, 3) := dk_20 1 179 (dk_at dksX9_draw_0 5 rfl rfl)
theorem dX9_draw_8 : decode cX9_draw 8 = .ok (.lmul, 1) := dk_105 (dk_at dksX9_draw_0 8 rfl rfl)
theorem dX9_draw_9 : decode cX9_draw 9 = .ok (.ldc2_w 437, 3) := dk_20 1 181 (dk_at dksX9_draw_0 9 rfl rfl)
theorem dX9_draw_12 : decode cX9_draw 12 = .ok (.ladd, 1) := dk_97 (dk_at dksX9_draw_0 12 rfl rfl)
theorem dX9_draw_13 : decode cX9_draw 13 = .ok (.ldc2_w 439, 3) := dk_20 1 183 (dk_at dksX9_draw_0 13 rfl rfl)
theorem dX9_draw_16 : decode cX9_draw 16 = .ok (.lrem, 1) := dk_113 (dk_at dksX9_draw_0 16 rfl rfl)
theorem dX9_draw_17 : decode cX9_draw 17 = .ok (.putfield 431, 3) := dk_181 1 175 (dk_at dksX9_draw_0 17 rfl rfl)
theorem dX9_draw_20 : decode cX9_draw 20 = .ok (.aload_n 0, 1) := dk_42 (dk_at dksX9_draw_0 20 rfl rfl)
theorem dX9_draw_21 : decode cX9_draw 21 = .ok (.getfield 431, 3) := dk_180 1 175 (dk_at dksX9_draw_0 21 rfl rfl)
theorem dX9_draw_24 : decode cX9_draw 24 = .ok (.iload_n 1, 1) := dk_27 (dk_at dksX9_draw_1 0 rfl rfl)
theorem dX9_draw_25 : decode cX9_draw 25 = .ok (.i2l, 1) := dk_133 (dk_at dksX9_draw_1 1 rfl rfl)
theorem dX9_draw_26 : decode cX9_draw 26 = .ok (.lrem, 1) := dk_113 (dk_at dksX9_draw_1 2 rfl rfl)
theorem dX9_draw_27 : decode cX9_draw 27 = .ok (.l2i, 1) := dk_136 (dk_at dksX9_draw_1 3 rfl rfl)
theorem dX9_draw_28 : decode cX9_draw 28 = .ok (.ireturn, 1) := dk_172 (dk_at dksX9_draw_1 4 rfl rfl)
abbrev cX9_cellOf : ByteArray := prog_15_method_119_code
def yX9_cellOf : MethodName := ⟨RX9, "cellOf", "(II)I"⟩
def dkwX9_cellOf_4 : List UInt8 := [16, 8, 160, 0, 19, 42, 27, 182, 0, 119, 153, 0, 11, 42, 27, 182, 1, 115, 167, 0, 4, 2, 172]
abbrev dktX9_cellOf_4 : List UInt8 := dkwX9_cellOf_4 ++ []
def dkwX9_cellOf_3 : List UInt8 := [180, 0, 16, 27, 184, 0, 112, 28, 96, 46, 167, 0, 36, 28, 16, 7, 160, 0, 7, 29, 167, 0, 26, 28]
abbrev dktX9_cellOf_3 : List UInt8 := dkwX9_cellOf_3 ++ dktX9_cellOf_4
def dkwX9_cellOf_2 : List UInt8 := [3, 96, 62, 132, 4, 1, 167, 255, 223, 28, 133, 9, 20, 0, 196, 184, 0, 122, 153, 0, 17, 42]
abbrev dktX9_cellOf_2 : List UInt8 := dkwX9_cellOf_2 ++ dktX9_cellOf_3
def dkwX9_cellOf_1 : List UInt8 := [180, 0, 16, 6, 46, 162, 0, 28, 29, 42, 21, 4, 27, 182, 1, 39, 2, 159, 0, 7, 4, 167, 0, 4]
abbrev dktX9_cellOf_1 : List UInt8 := dkwX9_cellOf_1 ++ dktX9_cellOf_2
def dkwX9_cellOf_0 : List UInt8 := [42, 3, 181, 0, 92, 42, 27, 182, 0, 154, 154, 0, 5, 2, 172, 3, 62, 3, 54, 4, 21, 4, 42]
abbrev dktX9_cellOf_0 : List UInt8 := dkwX9_cellOf_0 ++ dktX9_cellOf_1
theorem dksX9_cellOf_0 : cX9_cellOf.data.toList.drop 0 = dktX9_cellOf_0 := by decide +kernel
theorem dksX9_cellOf_1 : cX9_cellOf.data.toList.drop 23 = dktX9_cellOf_1 := dk_seg dksX9_cellOf_0 23 rfl rfl
theorem dksX9_cellOf_2 : cX9_cellOf.data.toList.drop 47 = dktX9_cellOf_2 := dk_seg dksX9_cellOf_1 24 rfl rfl
theorem dksX9_cellOf_3 : cX9_cellOf.data.toList.drop 69 = dktX9_cellOf_3 := dk_seg dksX9_cellOf_2 22 rfl rfl
theorem dksX9_cellOf_4 : cX9_cellOf.data.toList.drop 93 = dktX9_cellOf_4 := dk_seg dksX9_cellOf_3 24 rfl rfl
theorem dX9_cellOf_0 : decode cX9_cellOf 0 = .ok (.aload_n 0, 1) := dk_42 (dk_at dksX9_cellOf_0 0 rfl rfl)
theorem dX9_cellOf_1 : decode cX9_cellOf 1 = .ok (.iconst 0, 1) := dk_3 (dk_at dksX9_cellOf_0 1 rfl rfl)
theorem dX9_cellOf_2 : decode cX9_cellOf 2 = .ok (.putfield 92, 3) := dk_181 0 92 (dk_at dksX9_cellOf_0 2 rfl rfl)
theorem dX9_cellOf_5 : decode cX9_cellOf 5 = .ok (.aload_n 0, 1) := dk_42 (dk_at dksX9_cellOf_0 5 rfl rfl)
theorem dX9_cellOf_6 : decode cX9_cellOf 6 = .ok (.iload_n 1, 1) := dk_27 (dk_at dksX9_cellOf_0 6 rfl rfl)
theorem dX9_cellOf_7 : decode cX9_cellOf 7 = .ok (.invokevirtual 154, 3) := dk_182 0 154 (dk_at dksX9_cellOf_0 7 rfl rfl)
theorem dX9_cellOf_10 : decode cX9_cellOf 10 = .ok (.ifCond .ne 5, 3) := dk_154 0 5 (dk_at dksX9_cellOf_0 10 rfl rfl)
theorem dX9_cellOf_13 : decode cX9_cellOf 13 = .ok (.iconst (-1), 1) := dk_2 (dk_at dksX9_cellOf_0 13 rfl rfl)
theorem dX9_cellOf_14 : decode cX9_cellOf 14 = .ok (.ireturn, 1) := dk_172 (dk_at dksX9_cellOf_0 14 rfl rfl)
theorem dX9_cellOf_15 : decode cX9_cellOf 15 = .ok (.iconst 0, 1) := dk_3 (dk_at dksX9_cellOf_0 15 rfl rfl)
theorem dX9_cellOf_16 : decode cX9_cellOf 16 = .ok (.istore_n 3, 1) := dk_62 (dk_at dksX9_cellOf_0 16 rfl rfl)
theorem dX9_cellOf_17 : decode cX9_cellOf 17 = .ok (.iconst 0, 1) := dk_3 (dk_at dksX9_cellOf_0 17 rfl rfl)
theorem dX9_cellOf_18 : decode cX9_cellOf 18 = .ok (.istore 4, 2) := dk_54 4 (dk_at dksX9_cellOf_0 18 rfl rfl)
theorem dX9_cellOf_20 : decode cX9_cellOf 20 = .ok (.iload 4, 2) := dk_21 4 (dk_at dksX9_cellOf_0 20 rfl rfl)
theorem dX9_cellOf_22 : decode cX9_cellOf 22 = .ok (.aload_n 0, 1) := dk_42 (dk_at dksX9_cellOf_0 22 rfl rfl)
theorem dX9_cellOf_23 : decode cX9_cellOf 23 = .ok (.getfield 16, 3) := dk_180 0 16 (dk_at dksX9_cellOf_1 0 rfl rfl)
theorem dX9_cellOf_26 : decode cX9_cellOf 26 = .ok (.iconst 3, 1) := dk_6 (dk_at dksX9_cellOf_1 3 rfl rfl)
theorem dX9_cellOf_27 : decode cX9_cellOf 27 = .ok (.iaload, 1) := dk_46 (dk_at dksX9_cellOf_1 4 rfl rfl)
theorem dX9_cellOf_28 : decode cX9_cellOf 28 = .ok (.if_icmp .ge 28, 3) := dk_162 0 28 (dk_at dksX9_cellOf_1 5 rfl rfl)
theorem dX9_cellOf_31 : decode cX9_cellOf 31 = .ok (.iload_n 3, 1) := dk_29 (dk_at dksX9_cellOf_1 8 rfl rfl)
theorem dX9_cellOf_32 : decode cX9_cellOf 32 = .ok (.aload_n 0, 1) := dk_42 (dk_at dksX9_cellOf_1 9 rfl rfl)
theorem dX9_cellOf_33 : decode cX9_cellOf 33 = .ok (.iload 4, 2) := dk_21 4 (dk_at dksX9_cellOf_1 10 rfl rfl)
theorem dX9_cellOf_35 : decode cX9_cellOf 35 = .ok (.iload_n 1, 1) := dk_27 (dk_at dksX9_cellOf_1 12 rfl rfl)
theorem dX9_cellOf_36 : decode cX9_cellOf 36 = .ok (.invokevirtual 295, 3) := dk_182 1 39 (dk_at dksX9_cellOf_1 13 rfl rfl)
theorem dX9_cellOf_39 : decode cX9_cellOf 39 = .ok (.iconst (-1), 1) := dk_2 (dk_at dksX9_cellOf_1 16 rfl rfl)
theorem dX9_cellOf_40 : decode cX9_cellOf 40 = .ok (.if_icmp .eq 7, 3) := dk_159 0 7 (dk_at dksX9_cellOf_1 17 rfl rfl)
theorem dX9_cellOf_43 : decode cX9_cellOf 43 = .ok (.iconst 1, 1) := dk_4 (dk_at dksX9_cellOf_1 20 rfl rfl)
theorem dX9_cellOf_44 : decode cX9_cellOf 44 = .ok (.goto 4, 3) := dk_167 0 4 (dk_at dksX9_cellOf_1 21 rfl rfl)
theorem dX9_cellOf_47 : decode cX9_cellOf 47 = .ok (.iconst 0, 1) := dk_3 (dk_at dksX9_cellOf_2 0 rfl rfl)
theorem dX9_cellOf_48 : decode cX9_cellOf 48 = .ok (.iadd, 1) := dk_96 (dk_at dksX9_cellOf_2 1 rfl rfl)
theorem dX9_cellOf_49 : decode cX9_cellOf 49 = .ok (.istore_n 3, 1) := dk_62 (dk_at dksX9_cellOf_2 2 rfl rfl)
theorem dX9_cellOf_50 : decode cX9_cellOf 50 = .ok (.iinc 4 1, 3) := dk_132 4 1 (dk_at dksX9_cellOf_2 3 rfl rfl)
theorem dX9_cellOf_53 : decode cX9_cellOf 53 = .ok (.goto (-33), 3) := dk_167 255 223 (dk_at dksX9_cellOf_2 6 rfl rfl)
theorem dX9_cellOf_56 : decode cX9_cellOf 56 = .ok (.iload_n 2, 1) := dk_28 (dk_at dksX9_cellOf_2 9 rfl rfl)
theorem dX9_cellOf_57 : decode cX9_cellOf 57 = .ok (.i2l, 1) := dk_133 (dk_at dksX9_cellOf_2 10 rfl rfl)
theorem dX9_cellOf_58 : decode cX9_cellOf 58 = .ok (.lconst 0, 1) := dk_9 (dk_at dksX9_cellOf_2 11 rfl rfl)
theorem dX9_cellOf_59 : decode cX9_cellOf 59 = .ok (.ldc2_w 196, 3) := dk_20 0 196 (dk_at dksX9_cellOf_2 12 rfl rfl)
theorem dX9_cellOf_62 : decode cX9_cellOf 62 = .ok (.invokestatic 122, 3) := dk_184 0 122 (dk_at dksX9_cellOf_2 15 rfl rfl)
theorem dX9_cellOf_65 : decode cX9_cellOf 65 = .ok (.ifCond .eq 17, 3) := dk_153 0 17 (dk_at dksX9_cellOf_2 18 rfl rfl)
theorem dX9_cellOf_68 : decode cX9_cellOf 68 = .ok (.aload_n 0, 1) := dk_42 (dk_at dksX9_cellOf_2 21 rfl rfl)
theorem dX9_cellOf_69 : decode cX9_cellOf 69 = .ok (.getfield 16, 3) := dk_180 0 16 (dk_at dksX9_cellOf_3 0 rfl rfl)
theorem dX9_cellOf_72 : decode cX9_cellOf 72 = .ok (.iload_n 1, 1) := dk_27 (dk_at dksX9_cellOf_3 3 rfl rfl)
theorem dX9_cellOf_73 : decode cX9_cellOf 73 = .ok (.invokestatic 112, 3) := dk_184 0 112 (dk_at dksX9_cellOf_3 4 rfl rfl)
theorem dX9_cellOf_76 : decode cX9_cellOf 76 = .ok (.iload_n 2, 1) := dk_28 (dk_at dksX9_cellOf_3 7 rfl rfl)
theorem dX9_cellOf_77 : decode cX9_cellOf 77 = .ok (.iadd, 1) := dk_96 (dk_at dksX9_cellOf_3 8 rfl rfl)
theorem dX9_cellOf_78 : decode cX9_cellOf 78 = .ok (.iaload, 1) := dk_46 (dk_at dksX9_cellOf_3 9 rfl rfl)
theorem dX9_cellOf_79 : decode cX9_cellOf 79 = .ok (.goto 36, 3) := dk_167 0 36 (dk_at dksX9_cellOf_3 10 rfl rfl)
theorem dX9_cellOf_82 : decode cX9_cellOf 82 = .ok (.iload_n 2, 1) := dk_28 (dk_at dksX9_cellOf_3 13 rfl rfl)
theorem dX9_cellOf_83 : decode cX9_cellOf 83 = .ok (.bipush 7, 2) := dk_16 7 (dk_at dksX9_cellOf_3 14 rfl rfl)
theorem dX9_cellOf_85 : decode cX9_cellOf 85 = .ok (.if_icmp .ne 7, 3) := dk_160 0 7 (dk_at dksX9_cellOf_3 16 rfl rfl)
theorem dX9_cellOf_88 : decode cX9_cellOf 88 = .ok (.iload_n 3, 1) := dk_29 (dk_at dksX9_cellOf_3 19 rfl rfl)
theorem dX9_cellOf_89 : decode cX9_cellOf 89 = .ok (.goto 26, 3) := dk_167 0 26 (dk_at dksX9_cellOf_3 20 rfl rfl)
theorem dX9_cellOf_92 : decode cX9_cellOf 92 = .ok (.iload_n 2, 1) := dk_28 (dk_at dksX9_cellOf_3 23 rfl rfl)
theorem dX9_cellOf_93 : decode cX9_cellOf 93 = .ok (.bipush 8, 2) := dk_16 8 (dk_at dksX9_cellOf_4 0 rfl rfl)
theorem dX9_cellOf_95 : decode cX9_cellOf 95 = .ok (.if_icmp .ne 19, 3) := dk_160 0 19 (dk_at dksX9_cellOf_4 2 rfl rfl)
theorem dX9_cellOf_98 : decode cX9_cellOf 98 = .ok (.aload_n 0, 1) := dk_42 (dk_at dksX9_cellOf_4 5 rfl rfl)
theorem dX9_cellOf_99 : decode cX9_cellOf 99 = .ok (.iload_n 1, 1) := dk_27 (dk_at dksX9_cellOf_4 6 rfl rfl)
theorem dX9_cellOf_100 : decode cX9_cellOf 100 = .ok (.invokevirtual 119, 3) := dk_182 0 119 (dk_at dksX9_cellOf_4 7 rfl rfl)
theorem dX9_cellOf_103 : decode cX9_cellOf 103 = .ok (.ifCond .eq 11, 3) := dk_153 0 11 (dk_at dksX9_cellOf_4 10 rfl rfl)
theorem dX9_cellOf_106 : decode cX9_cellOf 106 = .ok (.aload_n 0, 1) := dk_42 (dk_at dksX9_cellOf_4 13 rfl rfl)
theorem dX9_cellOf_107 : decode cX9_cellOf 107 = .ok (.iload_n 1, 1) := dk_27 (dk_at dksX9_cellOf_4 14 rfl rfl)
theorem dX9_cellOf_108 : decode cX9_cellOf 108 = .ok (.invokevirtual 371, 3) := dk_182 1 115 (dk_at dksX9_cellOf_4 15 rfl rfl)
theorem dX9_cellOf_111 : decode cX9_cellOf 111 = .ok (.goto 4, 3) := dk_167 0 4 (dk_at dksX9_cellOf_4 18 rfl rfl)
theorem dX9_cellOf_114 : decode cX9_cellOf 114 = .ok (.iconst (-1), 1) := dk_2 (dk_at dksX9_cellOf_4 21 rfl rfl)
theorem dX9_cellOf_115 : decode cX9_cellOf 115 = .ok (.ireturn, 1) := dk_172 (dk_at dksX9_cellOf_4 22 rfl rfl)
abbrev cX9_netOf : ByteArray := prog_15_method_120_code
def yX9_netOf : MethodName := ⟨RX9, "netOf", "(II)I"⟩
def dkwX9_netOf_4 : List UInt8 := [153, 0, 22, 42, 180, 0, 16, 27, 184, 0, 208, 5, 96, 28, 96, 16, 10, 100, 46, 167, 0, 4, 2, 172]
abbrev dktX9_netOf_4 : List UInt8 := dkwX9_netOf_4 ++ []
def dkwX9_netOf_3 : List UInt8 := [182, 1, 10, 172, 28, 133, 20, 1, 65, 20, 0, 201, 5, 42, 27, 182, 0, 241, 104, 133, 97, 184, 0, 122]
abbrev dktX9_netOf_3 : List UInt8 := dkwX9_netOf_3 ++ dktX9_netOf_4
def dkwX9_netOf_2 : List UInt8 := [42, 180, 0, 16, 27, 184, 0, 208, 46, 172, 42, 27, 182, 0, 241, 172, 42, 27, 182, 1, 0, 172, 42, 27]
abbrev dktX9_netOf_2 : List UInt8 := dkwX9_netOf_2 ++ dktX9_netOf_3
def dkwX9_netOf_1 : List UInt8 := [170, 0, 0, 0, 0, 0, 0, 60, 0, 0, 0, 0, 0, 0, 0, 3, 0, 0, 0, 32, 0, 0, 0, 42, 0, 0, 0, 48, 0, 0, 0, 54]
abbrev dktX9_netOf_1 : List UInt8 := dkwX9_netOf_1 ++ dktX9_netOf_2
def dkwX9_netOf_0 : List UInt8 := [42, 3, 181, 0, 92, 42, 27, 182, 0, 211, 154, 0, 5, 2, 172, 28]
abbrev dktX9_netOf_0 : List UInt8 := dkwX9_netOf_0 ++ dktX9_netOf_1
theorem dksX9_netOf_0 : cX9_netOf.data.toList.drop 0 = dktX9_netOf_0 := by decide +kernel
theorem dksX9_netOf_1 : cX9_netOf.data.toList.drop 16 = dktX9_netOf_1 := dk_seg dksX9_netOf_0 16 rfl rfl
theorem dksX9_netOf_2 : cX9_netOf.data.toList.drop 48 = dktX9_netOf_2 := dk_seg dksX9_netOf_1 32 rfl rfl
theorem dksX9_netOf_3 : cX9_netOf.data.toList.drop 72 = dktX9_netOf_3 := dk_seg dksX9_netOf_2 24 rfl rfl
theorem dksX9_netOf_4 : cX9_netOf.data.toList.drop 96 = dktX9_netOf_4 := dk_seg dksX9_netOf_3 24 rfl rfl
theorem dX9_netOf_0 : decode cX9_netOf 0 = .ok (.aload_n 0, 1) := dk_42 (dk_at dksX9_netOf_0 0 rfl rfl)
theorem dX9_netOf_1 : decode cX9_netOf 1 = .ok (.iconst 0, 1) := dk_3 (dk_at dksX9_netOf_0 1 rfl rfl)
theorem dX9_netOf_2 : decode cX9_netOf 2 = .ok (.putfield 92, 3) := dk_181 0 92 (dk_at dksX9_netOf_0 2 rfl rfl)
theorem dX9_netOf_5 : decode cX9_netOf 5 = .ok (.aload_n 0, 1) := dk_42 (dk_at dksX9_netOf_0 5 rfl rfl)
theorem dX9_netOf_6 : decode cX9_netOf 6 = .ok (.iload_n 1, 1) := dk_27 (dk_at dksX9_netOf_0 6 rfl rfl)
theorem dX9_netOf_7 : decode cX9_netOf 7 = .ok (.invokevirtual 211, 3) := dk_182 0 211 (dk_at dksX9_netOf_0 7 rfl rfl)
theorem dX9_netOf_10 : decode cX9_netOf 10 = .ok (.ifCond .ne 5, 3) := dk_154 0 5 (dk_at dksX9_netOf_0 10 rfl rfl)
theorem dX9_netOf_13 : decode cX9_netOf 13 = .ok (.iconst (-1), 1) := dk_2 (dk_at dksX9_netOf_0 13 rfl rfl)
theorem dX9_netOf_14 : decode cX9_netOf 14 = .ok (.ireturn, 1) := dk_172 (dk_at dksX9_netOf_0 14 rfl rfl)
theorem dX9_netOf_15 : decode cX9_netOf 15 = .ok (.iload_n 2, 1) := dk_28 (dk_at dksX9_netOf_0 15 rfl rfl)
theorem dX9_netOf_16 : decode cX9_netOf 16 = .ok (.tableswitch 60 0 3 #[32, 42, 48, 54], 32) := by decide +kernel
theorem dX9_netOf_48 : decode cX9_netOf 48 = .ok (.aload_n 0, 1) := dk_42 (dk_at dksX9_netOf_2 0 rfl rfl)
theorem dX9_netOf_49 : decode cX9_netOf 49 = .ok (.getfield 16, 3) := dk_180 0 16 (dk_at dksX9_netOf_2 1 rfl rfl)
theorem dX9_netOf_52 : decode cX9_netOf 52 = .ok (.iload_n 1, 1) := dk_27 (dk_at dksX9_netOf_2 4 rfl rfl)
theorem dX9_netOf_53 : decode cX9_netOf 53 = .ok (.invokestatic 208, 3) := dk_184 0 208 (dk_at dksX9_netOf_2 5 rfl rfl)
theorem dX9_netOf_56 : decode cX9_netOf 56 = .ok (.iaload, 1) := dk_46 (dk_at dksX9_netOf_2 8 rfl rfl)
theorem dX9_netOf_57 : decode cX9_netOf 57 = .ok (.ireturn, 1) := dk_172 (dk_at dksX9_netOf_2 9 rfl rfl)
theorem dX9_netOf_58 : decode cX9_netOf 58 = .ok (.aload_n 0, 1) := dk_42 (dk_at dksX9_netOf_2 10 rfl rfl)
theorem dX9_netOf_59 : decode cX9_netOf 59 = .ok (.iload_n 1, 1) := dk_27 (dk_at dksX9_netOf_2 11 rfl rfl)
theorem dX9_netOf_60 : decode cX9_netOf 60 = .ok (.invokevirtual 241, 3) := dk_182 0 241 (dk_at dksX9_netOf_2 12 rfl rfl)
theorem dX9_netOf_63 : decode cX9_netOf 63 = .ok (.ireturn, 1) := dk_172 (dk_at dksX9_netOf_2 15 rfl rfl)
theorem dX9_netOf_64 : decode cX9_netOf 64 = .ok (.aload_n 0, 1) := dk_42 (dk_at dksX9_netOf_2 16 rfl rfl)
theorem dX9_netOf_65 : decode cX9_netOf 65 = .ok (.iload_n 1, 1) := dk_27 (dk_at dksX9_netOf_2 17 rfl rfl)
theorem dX9_netOf_66 : decode cX9_netOf 66 = .ok (.invokevirtual 256, 3) := dk_182 1 0 (dk_at dksX9_netOf_2 18 rfl rfl)
theorem dX9_netOf_69 : decode cX9_netOf 69 = .ok (.ireturn, 1) := dk_172 (dk_at dksX9_netOf_2 21 rfl rfl)
theorem dX9_netOf_70 : decode cX9_netOf 70 = .ok (.aload_n 0, 1) := dk_42 (dk_at dksX9_netOf_2 22 rfl rfl)
theorem dX9_netOf_71 : decode cX9_netOf 71 = .ok (.iload_n 1, 1) := dk_27 (dk_at dksX9_netOf_2 23 rfl rfl)
theorem dX9_netOf_72 : decode cX9_netOf 72 = .ok (.invokevirtual 266, 3) := dk_182 1 10 (dk_at dksX9_netOf_3 0 rfl rfl)
theorem dX9_netOf_75 : decode cX9_netOf 75 = .ok (.ireturn, 1) := dk_172 (dk_at dksX9_netOf_3 3 rfl rfl)
theorem dX9_netOf_76 : decode cX9_netOf 76 = .ok (.iload_n 2, 1) := dk_28 (dk_at dksX9_netOf_3 4 rfl rfl)
theorem dX9_netOf_77 : decode cX9_netOf 77 = .ok (.i2l, 1) := dk_133 (dk_at dksX9_netOf_3 5 rfl rfl)
theorem dX9_netOf_78 : decode cX9_netOf 78 = .ok (.ldc2_w 321, 3) := dk_20 1 65 (dk_at dksX9_netOf_3 6 rfl rfl)
theorem dX9_netOf_81 : decode cX9_netOf 81 = .ok (.ldc2_w 201, 3) := dk_20 0 201 (dk_at dksX9_netOf_3 9 rfl rfl)
theorem dX9_netOf_84 : decode cX9_netOf 84 = .ok (.iconst 2, 1) := dk_5 (dk_at dksX9_netOf_3 12 rfl rfl)
theorem dX9_netOf_85 : decode cX9_netOf 85 = .ok (.aload_n 0, 1) := dk_42 (dk_at dksX9_netOf_3 13 rfl rfl)
theorem dX9_netOf_86 : decode cX9_netOf 86 = .ok (.iload_n 1, 1) := dk_27 (dk_at dksX9_netOf_3 14 rfl rfl)
theorem dX9_netOf_87 : decode cX9_netOf 87 = .ok (.invokevirtual 241, 3) := dk_182 0 241 (dk_at dksX9_netOf_3 15 rfl rfl)
theorem dX9_netOf_90 : decode cX9_netOf 90 = .ok (.imul, 1) := dk_104 (dk_at dksX9_netOf_3 18 rfl rfl)
theorem dX9_netOf_91 : decode cX9_netOf 91 = .ok (.i2l, 1) := dk_133 (dk_at dksX9_netOf_3 19 rfl rfl)
theorem dX9_netOf_92 : decode cX9_netOf 92 = .ok (.ladd, 1) := dk_97 (dk_at dksX9_netOf_3 20 rfl rfl)
theorem dX9_netOf_93 : decode cX9_netOf 93 = .ok (.invokestatic 122, 3) := dk_184 0 122 (dk_at dksX9_netOf_3 21 rfl rfl)
theorem dX9_netOf_96 : decode cX9_netOf 96 = .ok (.ifCond .eq 22, 3) := dk_153 0 22 (dk_at dksX9_netOf_4 0 rfl rfl)
theorem dX9_netOf_99 : decode cX9_netOf 99 = .ok (.aload_n 0, 1) := dk_42 (dk_at dksX9_netOf_4 3 rfl rfl)
theorem dX9_netOf_100 : decode cX9_netOf 100 = .ok (.getfield 16, 3) := dk_180 0 16 (dk_at dksX9_netOf_4 4 rfl rfl)
theorem dX9_netOf_103 : decode cX9_netOf 103 = .ok (.iload_n 1, 1) := dk_27 (dk_at dksX9_netOf_4 7 rfl rfl)
theorem dX9_netOf_104 : decode cX9_netOf 104 = .ok (.invokestatic 208, 3) := dk_184 0 208 (dk_at dksX9_netOf_4 8 rfl rfl)
theorem dX9_netOf_107 : decode cX9_netOf 107 = .ok (.iconst 2, 1) := dk_5 (dk_at dksX9_netOf_4 11 rfl rfl)
theorem dX9_netOf_108 : decode cX9_netOf 108 = .ok (.iadd, 1) := dk_96 (dk_at dksX9_netOf_4 12 rfl rfl)
theorem dX9_netOf_109 : decode cX9_netOf 109 = .ok (.iload_n 2, 1) := dk_28 (dk_at dksX9_netOf_4 13 rfl rfl)
theorem dX9_netOf_110 : decode cX9_netOf 110 = .ok (.iadd, 1) := dk_96 (dk_at dksX9_netOf_4 14 rfl rfl)
theorem dX9_netOf_111 : decode cX9_netOf 111 = .ok (.bipush 10, 2) := dk_16 10 (dk_at dksX9_netOf_4 15 rfl rfl)
theorem dX9_netOf_113 : decode cX9_netOf 113 = .ok (.isub, 1) := dk_100 (dk_at dksX9_netOf_4 17 rfl rfl)
theorem dX9_netOf_114 : decode cX9_netOf 114 = .ok (.iaload, 1) := dk_46 (dk_at dksX9_netOf_4 18 rfl rfl)
theorem dX9_netOf_115 : decode cX9_netOf 115 = .ok (.goto 4, 3) := dk_167 0 4 (dk_at dksX9_netOf_4 19 rfl rfl)
theorem dX9_netOf_118 : decode cX9_netOf 118 = .ok (.iconst (-1), 1) := dk_2 (dk_at dksX9_netOf_4 22 rfl rfl)
theorem dX9_netOf_119 : decode cX9_netOf 119 = .ok (.ireturn, 1) := dk_172 (dk_at dksX9_netOf_4 23 rfl rfl)
abbrev cX9_bin : ByteArray := prog_15_method_122_code
def yX9_bin : MethodName := ⟨RX9, "bin", "(II)I"⟩
def dkwX9_bin_4 : List UInt8 := [172, 2, 172]
abbrev dktX9_bin_4 : List UInt8 := dkwX9_bin_4 ++ []
def dkwX9_bin_3 : List UInt8 := [42, 180, 0, 82, 27, 46, 172, 42, 27, 182, 1, 20, 172, 42, 27, 182, 1, 26, 172, 42, 27, 182, 1, 197]
abbrev dktX9_bin_3 : List UInt8 := dkwX9_bin_3 ++ dktX9_bin_4
def dkwX9_bin_2 : List UInt8 := [170, 0, 0, 0, 0, 0, 0, 57, 0, 0, 0, 0, 0, 0, 0, 3, 0, 0, 0, 32, 0, 0, 0, 39, 0, 0, 0, 45, 0, 0, 0, 51]
abbrev dktX9_bin_2 : List UInt8 := dkwX9_bin_2 ++ dktX9_bin_3
def dkwX9_bin_1 : List UInt8 := [182, 1, 67, 28]
abbrev dktX9_bin_1 : List UInt8 := dkwX9_bin_1 ++ dktX9_bin_2
def dkwX9_bin_0 : List UInt8 := [42, 3, 181, 0, 92, 27, 133, 9, 42, 182, 1, 23, 133, 10, 101, 184, 0, 122, 154, 0, 5, 2, 172, 42]
abbrev dktX9_bin_0 : List UInt8 := dkwX9_bin_0 ++ dktX9_bin_1
theorem dksX9_bin_0 : cX9_bin.data.toList.drop 0 = dktX9_bin_0 := by decide +kernel
theorem dksX9_bin_1 : cX9_bin.data.toList.drop 24 = dktX9_bin_1 := dk_seg dksX9_bin_0 24 rfl rfl
theorem dksX9_bin_2 : cX9_bin.data.toList.drop 28 = dktX9_bin_2 := dk_seg dksX9_bin_1 4 rfl rfl
theorem dksX9_bin_3 : cX9_bin.data.toList.drop 60 = dktX9_bin_3 := dk_seg dksX9_bin_2 32 rfl rfl
theorem dksX9_bin_4 : cX9_bin.data.toList.drop 84 = dktX9_bin_4 := dk_seg dksX9_bin_3 24 rfl rfl
theorem dX9_bin_0 : decode cX9_bin 0 = .ok (.aload_n 0, 1) := dk_42 (dk_at dksX9_bin_0 0 rfl rfl)
theorem dX9_bin_1 : decode cX9_bin 1 = .ok (.iconst 0, 1) := dk_3 (dk_at dksX9_bin_0 1 rfl rfl)
theorem dX9_bin_2 : decode cX9_bin 2 = .ok (.putfield 92, 3) := dk_181 0 92 (dk_at dksX9_bin_0 2 rfl rfl)
theorem dX9_bin_5 : decode cX9_bin 5 = .ok (.iload_n 1, 1) := dk_27 (dk_at dksX9_bin_0 5 rfl rfl)
theorem dX9_bin_6 : decode cX9_bin 6 = .ok (.i2l, 1) := dk_133 (dk_at dksX9_bin_0 6 rfl rfl)
theorem dX9_bin_7 : decode cX9_bin 7 = .ok (.lconst 0, 1) := dk_9 (dk_at dksX9_bin_0 7 rfl rfl)
theorem dX9_bin_8 : decode cX9_bin 8 = .ok (.aload_n 0, 1) := dk_42 (dk_at dksX9_bin_0 8 rfl rfl)
theorem dX9_bin_9 : decode cX9_bin 9 = .ok (.invokevirtual 279, 3) := dk_182 1 23 (dk_at dksX9_bin_0 9 rfl rfl)
theorem dX9_bin_12 : decode cX9_bin 12 = .ok (.i2l, 1) := dk_133 (dk_at dksX9_bin_0 12 rfl rfl)
theorem dX9_bin_13 : decode cX9_bin 13 = .ok (.lconst 1, 1) := dk_10 (dk_at dksX9_bin_0 13 rfl rfl)
theorem dX9_bin_14 : decode cX9_bin 14 = .ok (.lsub, 1) := dk_101 (dk_at dksX9_bin_0 14 rfl rfl)
theorem dX9_bin_15 : decode cX9_bin 15 = .ok (.invokestatic 122, 3) := dk_184 0 122 (dk_at dksX9_bin_0 15 rfl rfl)
theorem dX9_bin_18 : decode cX9_bin 18 = .ok (.ifCond .ne 5, 3) := dk_154 0 5 (dk_at dksX9_bin_0 18 rfl rfl)
theorem dX9_bin_21 : decode cX9_bin 21 = .ok (.iconst (-1), 1) := dk_2 (dk_at dksX9_bin_0 21 rfl rfl)
theorem dX9_bin_22 : decode cX9_bin 22 = .ok (.ireturn, 1) := dk_172 (dk_at dksX9_bin_0 22 rfl rfl)
theorem dX9_bin_23 : decode cX9_bin 23 = .ok (.aload_n 0, 1) := dk_42 (dk_at dksX9_bin_0 23 rfl rfl)
theorem dX9_bin_24 : decode cX9_bin 24 = .ok (.invokevirtual 323, 3) := dk_182 1 67 (dk_at dksX9_bin_1 0 rfl rfl)
theorem dX9_bin_27 : decode cX9_bin 27 = .ok (.iload_n 2, 1) := dk_28 (dk_at dksX9_bin_1 3 rfl rfl)
theorem dX9_bin_28 : decode cX9_bin 28 = .ok (.tableswitch 57 0 3 #[32, 39, 45, 51], 32) := by decide +kernel
theorem dX9_bin_60 : decode cX9_bin 60 = .ok (.aload_n 0, 1) := dk_42 (dk_at dksX9_bin_3 0 rfl rfl)
theorem dX9_bin_61 : decode cX9_bin 61 = .ok (.getfield 82, 3) := dk_180 0 82 (dk_at dksX9_bin_3 1 rfl rfl)
theorem dX9_bin_64 : decode cX9_bin 64 = .ok (.iload_n 1, 1) := dk_27 (dk_at dksX9_bin_3 4 rfl rfl)
theorem dX9_bin_65 : decode cX9_bin 65 = .ok (.iaload, 1) := dk_46 (dk_at dksX9_bin_3 5 rfl rfl)
theorem dX9_bin_66 : decode cX9_bin 66 = .ok (.ireturn, 1) := dk_172 (dk_at dksX9_bin_3 6 rfl rfl)
theorem dX9_bin_67 : decode cX9_bin 67 = .ok (.aload_n 0, 1) := dk_42 (dk_at dksX9_bin_3 7 rfl rfl)
theorem dX9_bin_68 : decode cX9_bin 68 = .ok (.iload_n 1, 1) := dk_27 (dk_at dksX9_bin_3 8 rfl rfl)
theorem dX9_bin_69 : decode cX9_bin 69 = .ok (.invokevirtual 276, 3) := dk_182 1 20 (dk_at dksX9_bin_3 9 rfl rfl)
theorem dX9_bin_72 : decode cX9_bin 72 = .ok (.ireturn, 1) := dk_172 (dk_at dksX9_bin_3 12 rfl rfl)
theorem dX9_bin_73 : decode cX9_bin 73 = .ok (.aload_n 0, 1) := dk_42 (dk_at dksX9_bin_3 13 rfl rfl)
theorem dX9_bin_74 : decode cX9_bin 74 = .ok (.iload_n 1, 1) := dk_27 (dk_at dksX9_bin_3 14 rfl rfl)
theorem dX9_bin_75 : decode cX9_bin 75 = .ok (.invokevirtual 282, 3) := dk_182 1 26 (dk_at dksX9_bin_3 15 rfl rfl)
theorem dX9_bin_78 : decode cX9_bin 78 = .ok (.ireturn, 1) := dk_172 (dk_at dksX9_bin_3 18 rfl rfl)
theorem dX9_bin_79 : decode cX9_bin 79 = .ok (.aload_n 0, 1) := dk_42 (dk_at dksX9_bin_3 19 rfl rfl)
theorem dX9_bin_80 : decode cX9_bin 80 = .ok (.iload_n 1, 1) := dk_27 (dk_at dksX9_bin_3 20 rfl rfl)
theorem dX9_bin_81 : decode cX9_bin 81 = .ok (.invokevirtual 453, 3) := dk_182 1 197 (dk_at dksX9_bin_3 21 rfl rfl)
theorem dX9_bin_84 : decode cX9_bin 84 = .ok (.ireturn, 1) := dk_172 (dk_at dksX9_bin_4 0 rfl rfl)
theorem dX9_bin_85 : decode cX9_bin 85 = .ok (.iconst (-1), 1) := dk_2 (dk_at dksX9_bin_4 1 rfl rfl)
theorem dX9_bin_86 : decode cX9_bin 86 = .ok (.ireturn, 1) := dk_172 (dk_at dksX9_bin_4 2 rfl rfl)
abbrev cX9_demand : ByteArray := prog_15_method_73_code
def yX9_demand : MethodName := ⟨RX9, "demand", "(I)I"⟩
def dkwX9_demand_5 : List UInt8 := [28, 172]
abbrev dktX9_demand_5 : List UInt8 := dkwX9_demand_5 ++ []
def dkwX9_demand_4 : List UInt8 := [153, 0, 15, 42, 180, 0, 16, 29, 184, 0, 208, 46, 167, 0, 4, 3, 96, 61, 132, 3, 1, 167, 255, 143]
abbrev dktX9_demand_4 : List UInt8 := dkwX9_demand_4 ++ dktX9_demand_5
def dkwX9_demand_3 : List UInt8 := [4, 182, 0, 249, 16, 32, 108, 133, 184, 0, 122, 153, 0, 7, 4, 167, 0, 4, 3, 54, 4, 28, 21, 4]
abbrev dktX9_demand_3 : List UInt8 := dkwX9_demand_3 ++ dktX9_demand_4
def dkwX9_demand_2 : List UInt8 := [153, 0, 42, 27, 42, 182, 1, 13, 108, 133, 42, 29, 4, 4, 182, 0, 253, 16, 32, 108, 133, 42, 29, 4]
abbrev dktX9_demand_2 : List UInt8 := dkwX9_demand_2 ++ dktX9_demand_3
def dkwX9_demand_1 : List UInt8 := [3, 182, 0, 253, 17, 0, 128, 108, 133, 42, 29, 4, 3, 182, 0, 249, 17, 0, 128, 108, 133, 184, 0, 122]
abbrev dktX9_demand_1 : List UInt8 := dkwX9_demand_1 ++ dktX9_demand_2
def dkwX9_demand_0 : List UInt8 := [3, 61, 3, 62, 29, 42, 180, 0, 16, 6, 46, 162, 0, 109, 27, 42, 182, 1, 13, 112, 133, 42, 29, 4]
abbrev dktX9_demand_0 : List UInt8 := dkwX9_demand_0 ++ dktX9_demand_1
theorem dksX9_demand_0 : cX9_demand.data.toList.drop 0 = dktX9_demand_0 := by decide +kernel
theorem dksX9_demand_1 : cX9_demand.data.toList.drop 24 = dktX9_demand_1 := dk_seg dksX9_demand_0 24 rfl rfl
theorem dksX9_demand_2 : cX9_demand.data.toList.drop 48 = dktX9_demand_2 := dk_seg dksX9_demand_1 24 rfl rfl
theorem dksX9_demand_3 : cX9_demand.data.toList.drop 72 = dktX9_demand_3 := dk_seg dksX9_demand_2 24 rfl rfl
theorem dksX9_demand_4 : cX9_demand.data.toList.drop 96 = dktX9_demand_4 := dk_seg dksX9_demand_3 24 rfl rfl
theorem dksX9_demand_5 : cX9_demand.data.toList.drop 120 = dktX9_demand_5 := dk_seg dksX9_demand_4 24 rfl rfl
theorem dX9_demand_0 : decode cX9_demand 0 = .ok (.iconst 0, 1) := dk_3 (dk_at dksX9_demand_0 0 rfl rfl)
theorem dX9_demand_1 : decode cX9_demand 1 = .ok (.istore_n 2, 1) := dk_61 (dk_at dksX9_demand_0 1 rfl rfl)
theorem dX9_demand_2 : decode cX9_demand 2 = .ok (.iconst 0, 1) := dk_3 (dk_at dksX9_demand_0 2 rfl rfl)
theorem dX9_demand_3 : decode cX9_demand 3 = .ok (.istore_n 3, 1) := dk_62 (dk_at dksX9_demand_0 3 rfl rfl)
theorem dX9_demand_4 : decode cX9_demand 4 = .ok (.iload_n 3, 1) := dk_29 (dk_at dksX9_demand_0 4 rfl rfl)
theorem dX9_demand_5 : decode cX9_demand 5 = .ok (.aload_n 0, 1) := dk_42 (dk_at dksX9_demand_0 5 rfl rfl)
theorem dX9_demand_6 : decode cX9_demand 6 = .ok (.getfield 16, 3) := dk_180 0 16 (dk_at dksX9_demand_0 6 rfl rfl)
theorem dX9_demand_9 : decode cX9_demand 9 = .ok (.iconst 3, 1) := dk_6 (dk_at dksX9_demand_0 9 rfl rfl)
theorem dX9_demand_10 : decode cX9_demand 10 = .ok (.iaload, 1) := dk_46 (dk_at dksX9_demand_0 10 rfl rfl)
theorem dX9_demand_11 : decode cX9_demand 11 = .ok (.if_icmp .ge 109, 3) := dk_162 0 109 (dk_at dksX9_demand_0 11 rfl rfl)
theorem dX9_demand_14 : decode cX9_demand 14 = .ok (.iload_n 1, 1) := dk_27 (dk_at dksX9_demand_0 14 rfl rfl)
theorem dX9_demand_15 : decode cX9_demand 15 = .ok (.aload_n 0, 1) := dk_42 (dk_at dksX9_demand_0 15 rfl rfl)
theorem dX9_demand_16 : decode cX9_demand 16 = .ok (.invokevirtual 269, 3) := dk_182 1 13 (dk_at dksX9_demand_0 16 rfl rfl)
theorem dX9_demand_19 : decode cX9_demand 19 = .ok (.irem, 1) := dk_112 (dk_at dksX9_demand_0 19 rfl rfl)
theorem dX9_demand_20 : decode cX9_demand 20 = .ok (.i2l, 1) := dk_133 (dk_at dksX9_demand_0 20 rfl rfl)
theorem dX9_demand_21 : decode cX9_demand 21 = .ok (.aload_n 0, 1) := dk_42 (dk_at dksX9_demand_0 21 rfl rfl)
theorem dX9_demand_22 : decode cX9_demand 22 = .ok (.iload_n 3, 1) := dk_29 (dk_at dksX9_demand_0 22 rfl rfl)
theorem dX9_demand_23 : decode cX9_demand 23 = .ok (.iconst 1, 1) := dk_4 (dk_at dksX9_demand_0 23 rfl rfl)
theorem dX9_demand_24 : decode cX9_demand 24 = .ok (.iconst 0, 1) := dk_3 (dk_at dksX9_demand_1 0 rfl rfl)
theorem dX9_demand_25 : decode cX9_demand 25 = .ok (.invokevirtual 253, 3) := dk_182 0 253 (dk_at dksX9_demand_1 1 rfl rfl)
theorem dX9_demand_28 : decode cX9_demand 28 = .ok (.sipush 128, 3) := dk_17 0 128 (dk_at dksX9_demand_1 4 rfl rfl)
theorem dX9_demand_31 : decode cX9_demand 31 = .ok (.idiv, 1) := dk_108 (dk_at dksX9_demand_1 7 rfl rfl)
theorem dX9_demand_32 : decode cX9_demand 32 = .ok (.i2l, 1) := dk_133 (dk_at dksX9_demand_1 8 rfl rfl)
theorem dX9_demand_33 : decode cX9_demand 33 = .ok (.aload_n 0, 1) := dk_42 (dk_at dksX9_demand_1 9 rfl rfl)
theorem dX9_demand_34 : decode cX9_demand 34 = .ok (.iload_n 3, 1) := dk_29 (dk_at dksX9_demand_1 10 rfl rfl)
theorem dX9_demand_35 : decode cX9_demand 35 = .ok (.iconst 1, 1) := dk_4 (dk_at dksX9_demand_1 11 rfl rfl)
theorem dX9_demand_36 : decode cX9_demand 36 = .ok (.iconst 0, 1) := dk_3 (dk_at dksX9_demand_1 12 rfl rfl)
theorem dX9_demand_37 : decode cX9_demand 37 = .ok (.invokevirtual 249, 3) := dk_182 0 249 (dk_at dksX9_demand_1 13 rfl rfl)
theorem dX9_demand_40 : decode cX9_demand 40 = .ok (.sipush 128, 3) := dk_17 0 128 (dk_at dksX9_demand_1 16 rfl rfl)
theorem dX9_demand_43 : decode cX9_demand 43 = .ok (.idiv, 1) := dk_108 (dk_at dksX9_demand_1 19 rfl rfl)
theorem dX9_demand_44 : decode cX9_demand 44 = .ok (.i2l, 1) := dk_133 (dk_at dksX9_demand_1 20 rfl rfl)
theorem dX9_demand_45 : decode cX9_demand 45 = .ok (.invokestatic 122, 3) := dk_184 0 122 (dk_at dksX9_demand_1 21 rfl rfl)
theorem dX9_demand_48 : decode cX9_demand 48 = .ok (.ifCond .eq 42, 3) := dk_153 0 42 (dk_at dksX9_demand_2 0 rfl rfl)
theorem dX9_demand_51 : decode cX9_demand 51 = .ok (.iload_n 1, 1) := dk_27 (dk_at dksX9_demand_2 3 rfl rfl)
theorem dX9_demand_52 : decode cX9_demand 52 = .ok (.aload_n 0, 1) := dk_42 (dk_at dksX9_demand_2 4 rfl rfl)
theorem dX9_demand_53 : decode cX9_demand 53 = .ok (.invokevirtual 269, 3) := dk_182 1 13 (dk_at dksX9_demand_2 5 rfl rfl)
theorem dX9_demand_56 : decode cX9_demand 56 = .ok (.idiv, 1) := dk_108 (dk_at dksX9_demand_2 8 rfl rfl)
theorem dX9_demand_57 : decode cX9_demand 57 = .ok (.i2l, 1) := dk_133 (dk_at dksX9_demand_2 9 rfl rfl)
theorem dX9_demand_58 : decode cX9_demand 58 = .ok (.aload_n 0, 1) := dk_42 (dk_at dksX9_demand_2 10 rfl rfl)
theorem dX9_demand_59 : decode cX9_demand 59 = .ok (.iload_n 3, 1) := dk_29 (dk_at dksX9_demand_2 11 rfl rfl)
theorem dX9_demand_60 : decode cX9_demand 60 = .ok (.iconst 1, 1) := dk_4 (dk_at dksX9_demand_2 12 rfl rfl)
theorem dX9_demand_61 : decode cX9_demand 61 = .ok (.iconst 1, 1) := dk_4 (dk_at dksX9_demand_2 13 rfl rfl)
theorem dX9_demand_62 : decode cX9_demand 62 = .ok (.invokevirtual 253, 3) := dk_182 0 253 (dk_at dksX9_demand_2 14 rfl rfl)
theorem dX9_demand_65 : decode cX9_demand 65 = .ok (.bipush 32, 2) := dk_16 32 (dk_at dksX9_demand_2 17 rfl rfl)
theorem dX9_demand_67 : decode cX9_demand 67 = .ok (.idiv, 1) := dk_108 (dk_at dksX9_demand_2 19 rfl rfl)
theorem dX9_demand_68 : decode cX9_demand 68 = .ok (.i2l, 1) := dk_133 (dk_at dksX9_demand_2 20 rfl rfl)
theorem dX9_demand_69 : decode cX9_demand 69 = .ok (.aload_n 0, 1) := dk_42 (dk_at dksX9_demand_2 21 rfl rfl)
theorem dX9_demand_70 : decode cX9_demand 70 = .ok (.iload_n 3, 1) := dk_29 (dk_at dksX9_demand_2 22 rfl rfl)
theorem dX9_demand_71 : decode cX9_demand 71 = .ok (.iconst 1, 1) := dk_4 (dk_at dksX9_demand_2 23 rfl rfl)
theorem dX9_demand_72 : decode cX9_demand 72 = .ok (.iconst 1, 1) := dk_4 (dk_at dksX9_demand_3 0 rfl rfl)
theorem dX9_demand_73 : decode cX9_demand 73 = .ok (.invokevirtual 249, 3) := dk_182 0 249 (dk_at dksX9_demand_3 1 rfl rfl)
theorem dX9_demand_76 : decode cX9_demand 76 = .ok (.bipush 32, 2) := dk_16 32 (dk_at dksX9_demand_3 4 rfl rfl)
theorem dX9_demand_78 : decode cX9_demand 78 = .ok (.idiv, 1) := dk_108 (dk_at dksX9_demand_3 6 rfl rfl)
theorem dX9_demand_79 : decode cX9_demand 79 = .ok (.i2l, 1) := dk_133 (dk_at dksX9_demand_3 7 rfl rfl)
theorem dX9_demand_80 : decode cX9_demand 80 = .ok (.invokestatic 122, 3) := dk_184 0 122 (dk_at dksX9_demand_3 8 rfl rfl)
theorem dX9_demand_83 : decode cX9_demand 83 = .ok (.ifCond .eq 7, 3) := dk_153 0 7 (dk_at dksX9_demand_3 11 rfl rfl)
theorem dX9_demand_86 : decode cX9_demand 86 = .ok (.iconst 1, 1) := dk_4 (dk_at dksX9_demand_3 14 rfl rfl)
theorem dX9_demand_87 : decode cX9_demand 87 = .ok (.goto 4, 3) := dk_167 0 4 (dk_at dksX9_demand_3 15 rfl rfl)
theorem dX9_demand_90 : decode cX9_demand 90 = .ok (.iconst 0, 1) := dk_3 (dk_at dksX9_demand_3 18 rfl rfl)
theorem dX9_demand_91 : decode cX9_demand 91 = .ok (.istore 4, 2) := dk_54 4 (dk_at dksX9_demand_3 19 rfl rfl)
theorem dX9_demand_93 : decode cX9_demand 93 = .ok (.iload_n 2, 1) := dk_28 (dk_at dksX9_demand_3 21 rfl rfl)
theorem dX9_demand_94 : decode cX9_demand 94 = .ok (.iload 4, 2) := dk_21 4 (dk_at dksX9_demand_3 22 rfl rfl)
theorem dX9_demand_96 : decode cX9_demand 96 = .ok (.ifCond .eq 15, 3) := dk_153 0 15 (dk_at dksX9_demand_4 0 rfl rfl)
theorem dX9_demand_99 : decode cX9_demand 99 = .ok (.aload_n 0, 1) := dk_42 (dk_at dksX9_demand_4 3 rfl rfl)
theorem dX9_demand_100 : decode cX9_demand 100 = .ok (.getfield 16, 3) := dk_180 0 16 (dk_at dksX9_demand_4 4 rfl rfl)
theorem dX9_demand_103 : decode cX9_demand 103 = .ok (.iload_n 3, 1) := dk_29 (dk_at dksX9_demand_4 7 rfl rfl)
theorem dX9_demand_104 : decode cX9_demand 104 = .ok (.invokestatic 208, 3) := dk_184 0 208 (dk_at dksX9_demand_4 8 rfl rfl)
theorem dX9_demand_107 : decode cX9_demand 107 = .ok (.iaload, 1) := dk_46 (dk_at dksX9_demand_4 11 rfl rfl)
theorem dX9_demand_108 : decode cX9_demand 108 = .ok (.goto 4, 3) := dk_167 0 4 (dk_at dksX9_demand_4 12 rfl rfl)
theorem dX9_demand_111 : decode cX9_demand 111 = .ok (.iconst 0, 1) := dk_3 (dk_at dksX9_demand_4 15 rfl rfl)
theorem dX9_demand_112 : decode cX9_demand 112 = .ok (.iadd, 1) := dk_96 (dk_at dksX9_demand_4 16 rfl rfl)
theorem dX9_demand_113 : decode cX9_demand 113 = .ok (.istore_n 2, 1) := dk_61 (dk_at dksX9_demand_4 17 rfl rfl)
theorem dX9_demand_114 : decode cX9_demand 114 = .ok (.iinc 3 1, 3) := dk_132 3 1 (dk_at dksX9_demand_4 18 rfl rfl)
theorem dX9_demand_117 : decode cX9_demand 117 = .ok (.goto (-113), 3) := dk_167 255 143 (dk_at dksX9_demand_4 21 rfl rfl)
theorem dX9_demand_120 : decode cX9_demand 120 = .ok (.iload_n 2, 1) := dk_28 (dk_at dksX9_demand_5 0 rfl rfl)
theorem dX9_demand_121 : decode cX9_demand 121 = .ok (.ireturn, 1) := dk_172 (dk_at dksX9_demand_5 1 rfl rfl)
abbrev cX9_measure : ByteArray := prog_15_method_126_code
def yX9_measure : MethodName := ⟨RX9, "measure", "(I)I"⟩
def dkwX9_measure_4 : List UInt8 := [100, 182, 1, 208, 167, 0, 4, 2, 172]
abbrev dktX9_measure_4 : List UInt8 := dkwX9_measure_4 ++ []
def dkwX9_measure_3 : List UInt8 := [172, 42, 182, 1, 203, 172, 27, 133, 20, 0, 196, 20, 1, 206, 184, 0, 122, 153, 0, 14, 42, 27, 16, 6]
abbrev dktX9_measure_3 : List UInt8 := dkwX9_measure_3 ++ dktX9_measure_4
def dkwX9_measure_2 : List UInt8 := [42, 182, 0, 223, 172, 42, 182, 1, 29, 172, 42, 182, 1, 32, 172, 42, 182, 1, 56, 172, 42, 182, 1, 200]
abbrev dktX9_measure_2 : List UInt8 := dkwX9_measure_2 ++ dktX9_measure_3
def dkwX9_measure_1 : List UInt8 := [170, 0, 0, 0, 0, 68, 0, 0, 0, 0, 0, 0, 0, 5, 0, 0, 0, 38, 0, 0, 0, 43, 0, 0, 0, 48, 0, 0, 0, 53, 0, 0, 0, 58, 0, 0, 0, 63]
abbrev dktX9_measure_1 : List UInt8 := dkwX9_measure_1 ++ dktX9_measure_2
def dkwX9_measure_0 : List UInt8 := [42, 3, 181, 0, 92, 42, 182, 1, 67, 27]
abbrev dktX9_measure_0 : List UInt8 := dkwX9_measure_0 ++ dktX9_measure_1
theorem dksX9_measure_0 : cX9_measure.data.toList.drop 0 = dktX9_measure_0 := by decide +kernel
theorem dksX9_measure_1 : cX9_measure.data.toList.drop 10 = dktX9_measure_1 := dk_seg dksX9_measure_0 10 rfl rfl
theorem dksX9_measure_2 : cX9_measure.data.toList.drop 48 = dktX9_measure_2 := dk_seg dksX9_measure_1 38 rfl rfl
theorem dksX9_measure_3 : cX9_measure.data.toList.drop 72 = dktX9_measure_3 := dk_seg dksX9_measure_2 24 rfl rfl
theorem dksX9_measure_4 : cX9_measure.data.toList.drop 96 = dktX9_measure_4 := dk_seg dksX9_measure_3 24 rfl rfl
theorem dX9_measure_0 : decode cX9_measure 0 = .ok (.aload_n 0, 1) := dk_42 (dk_at dksX9_measure_0 0 rfl rfl)
theorem dX9_measure_1 : decode cX9_measure 1 = .ok (.iconst 0, 1) := dk_3 (dk_at dksX9_measure_0 1 rfl rfl)
theorem dX9_measure_2 : decode cX9_measure 2 = .ok (.putfield 92, 3) := dk_181 0 92 (dk_at dksX9_measure_0 2 rfl rfl)
theorem dX9_measure_5 : decode cX9_measure 5 = .ok (.aload_n 0, 1) := dk_42 (dk_at dksX9_measure_0 5 rfl rfl)
theorem dX9_measure_6 : decode cX9_measure 6 = .ok (.invokevirtual 323, 3) := dk_182 1 67 (dk_at dksX9_measure_0 6 rfl rfl)
theorem dX9_measure_9 : decode cX9_measure 9 = .ok (.iload_n 1, 1) := dk_27 (dk_at dksX9_measure_0 9 rfl rfl)
theorem dX9_measure_10 : decode cX9_measure 10 = .ok (.tableswitch 68 0 5 #[38, 43, 48, 53, 58, 63], 38) := by decide +kernel
theorem dX9_measure_48 : decode cX9_measure 48 = .ok (.aload_n 0, 1) := dk_42 (dk_at dksX9_measure_2 0 rfl rfl)
theorem dX9_measure_49 : decode cX9_measure 49 = .ok (.invokevirtual 223, 3) := dk_182 0 223 (dk_at dksX9_measure_2 1 rfl rfl)
theorem dX9_measure_52 : decode cX9_measure 52 = .ok (.ireturn, 1) := dk_172 (dk_at dksX9_measure_2 4 rfl rfl)
theorem dX9_measure_53 : decode cX9_measure 53 = .ok (.aload_n 0, 1) := dk_42 (dk_at dksX9_measure_2 5 rfl rfl)
theorem dX9_measure_54 : decode cX9_measure 54 = .ok (.invokevirtual 285, 3) := dk_182 1 29 (dk_at dksX9_measure_2 6 rfl rfl)
theorem dX9_measure_57 : decode cX9_measure 57 = .ok (.ireturn, 1) := dk_172 (dk_at dksX9_measure_2 9 rfl rfl)
theorem dX9_measure_58 : decode cX9_measure 58 = .ok (.aload_n 0, 1) := dk_42 (dk_at dksX9_measure_2 10 rfl rfl)
theorem dX9_measure_59 : decode cX9_measure 59 = .ok (.invokevirtual 288, 3) := dk_182 1 32 (dk_at dksX9_measure_2 11 rfl rfl)
theorem dX9_measure_62 : decode cX9_measure 62 = .ok (.ireturn, 1) := dk_172 (dk_at dksX9_measure_2 14 rfl rfl)
theorem dX9_measure_63 : decode cX9_measure 63 = .ok (.aload_n 0, 1) := dk_42 (dk_at dksX9_measure_2 15 rfl rfl)
theorem dX9_measure_64 : decode cX9_measure 64 = .ok (.invokevirtual 312, 3) := dk_182 1 56 (dk_at dksX9_measure_2 16 rfl rfl)
theorem dX9_measure_67 : decode cX9_measure 67 = .ok (.ireturn, 1) := dk_172 (dk_at dksX9_measure_2 19 rfl rfl)
theorem dX9_measure_68 : decode cX9_measure 68 = .ok (.aload_n 0, 1) := dk_42 (dk_at dksX9_measure_2 20 rfl rfl)
theorem dX9_measure_69 : decode cX9_measure 69 = .ok (.invokevirtual 456, 3) := dk_182 1 200 (dk_at dksX9_measure_2 21 rfl rfl)
theorem dX9_measure_72 : decode cX9_measure 72 = .ok (.ireturn, 1) := dk_172 (dk_at dksX9_measure_3 0 rfl rfl)
theorem dX9_measure_73 : decode cX9_measure 73 = .ok (.aload_n 0, 1) := dk_42 (dk_at dksX9_measure_3 1 rfl rfl)
theorem dX9_measure_74 : decode cX9_measure 74 = .ok (.invokevirtual 459, 3) := dk_182 1 203 (dk_at dksX9_measure_3 2 rfl rfl)
theorem dX9_measure_77 : decode cX9_measure 77 = .ok (.ireturn, 1) := dk_172 (dk_at dksX9_measure_3 5 rfl rfl)
theorem dX9_measure_78 : decode cX9_measure 78 = .ok (.iload_n 1, 1) := dk_27 (dk_at dksX9_measure_3 6 rfl rfl)
theorem dX9_measure_79 : decode cX9_measure 79 = .ok (.i2l, 1) := dk_133 (dk_at dksX9_measure_3 7 rfl rfl)
theorem dX9_measure_80 : decode cX9_measure 80 = .ok (.ldc2_w 196, 3) := dk_20 0 196 (dk_at dksX9_measure_3 8 rfl rfl)
theorem dX9_measure_83 : decode cX9_measure 83 = .ok (.ldc2_w 462, 3) := dk_20 1 206 (dk_at dksX9_measure_3 11 rfl rfl)
theorem dX9_measure_86 : decode cX9_measure 86 = .ok (.invokestatic 122, 3) := dk_184 0 122 (dk_at dksX9_measure_3 14 rfl rfl)
theorem dX9_measure_89 : decode cX9_measure 89 = .ok (.ifCond .eq 14, 3) := dk_153 0 14 (dk_at dksX9_measure_3 17 rfl rfl)
theorem dX9_measure_92 : decode cX9_measure 92 = .ok (.aload_n 0, 1) := dk_42 (dk_at dksX9_measure_3 20 rfl rfl)
theorem dX9_measure_93 : decode cX9_measure 93 = .ok (.iload_n 1, 1) := dk_27 (dk_at dksX9_measure_3 21 rfl rfl)
theorem dX9_measure_94 : decode cX9_measure 94 = .ok (.bipush 6, 2) := dk_16 6 (dk_at dksX9_measure_3 22 rfl rfl)
theorem dX9_measure_96 : decode cX9_measure 96 = .ok (.isub, 1) := dk_100 (dk_at dksX9_measure_4 0 rfl rfl)
theorem dX9_measure_97 : decode cX9_measure 97 = .ok (.invokevirtual 464, 3) := dk_182 1 208 (dk_at dksX9_measure_4 1 rfl rfl)
theorem dX9_measure_100 : decode cX9_measure 100 = .ok (.goto 4, 3) := dk_167 0 4 (dk_at dksX9_measure_4 4 rfl rfl)
theorem dX9_measure_103 : decode cX9_measure 103 = .ok (.iconst (-1), 1) := dk_2 (dk_at dksX9_measure_4 7 rfl rfl)
theorem dX9_measure_104 : decode cX9_measure 104 = .ok (.ireturn, 1) := dk_172 (dk_at dksX9_measure_4 8 rfl rfl)
abbrev cX9_spotMoves : ByteArray := prog_15_method_123_code
def yX9_spotMoves : MethodName := ⟨RX9, "spotMoves", "()I"⟩
def dkwX9_spotMoves_1 : List UInt8 := [28, 182, 1, 115, 167, 0, 4, 3, 96, 60, 132, 2, 1, 167, 255, 223, 27, 172]
abbrev dktX9_spotMoves_1 : List UInt8 := dkwX9_spotMoves_1 ++ []
def dkwX9_spotMoves_0 : List UInt8 := [3, 60, 3, 61, 28, 42, 180, 0, 16, 5, 46, 162, 0, 29, 27, 42, 28, 182, 0, 119, 153, 0, 11, 42]
abbrev dktX9_spotMoves_0 : List UInt8 := dkwX9_spotMoves_0 ++ dktX9_spotMoves_1
theorem dksX9_spotMoves_0 : cX9_spotMoves.data.toList.drop 0 = dktX9_spotMoves_0 := by decide +kernel
theorem dksX9_spotMoves_1 : cX9_spotMoves.data.toList.drop 24 = dktX9_spotMoves_1 := dk_seg dksX9_spotMoves_0 24 rfl rfl
theorem dX9_spotMoves_0 : decode cX9_spotMoves 0 = .ok (.iconst 0, 1) := dk_3 (dk_at dksX9_spotMoves_0 0 rfl rfl)
theorem dX9_spotMoves_1 : decode cX9_spotMoves 1 = .ok (.istore_n 1, 1) := dk_60 (dk_at dksX9_spotMoves_0 1 rfl rfl)
theorem dX9_spotMoves_2 : decode cX9_spotMoves 2 = .ok (.iconst 0, 1) := dk_3 (dk_at dksX9_spotMoves_0 2 rfl rfl)
theorem dX9_spotMoves_3 : decode cX9_spotMoves 3 = .ok (.istore_n 2, 1) := dk_61 (dk_at dksX9_spotMoves_0 3 rfl rfl)
theorem dX9_spotMoves_4 : decode cX9_spotMoves 4 = .ok (.iload_n 2, 1) := dk_28 (dk_at dksX9_spotMoves_0 4 rfl rfl)
theorem dX9_spotMoves_5 : decode cX9_spotMoves 5 = .ok (.aload_n 0, 1) := dk_42 (dk_at dksX9_spotMoves_0 5 rfl rfl)
theorem dX9_spotMoves_6 : decode cX9_spotMoves 6 = .ok (.getfield 16, 3) := dk_180 0 16 (dk_at dksX9_spotMoves_0 6 rfl rfl)
theorem dX9_spotMoves_9 : decode cX9_spotMoves 9 = .ok (.iconst 2, 1) := dk_5 (dk_at dksX9_spotMoves_0 9 rfl rfl)
theorem dX9_spotMoves_10 : decode cX9_spotMoves 10 = .ok (.iaload, 1) := dk_46 (dk_at dksX9_spotMoves_0 10 rfl rfl)
theorem dX9_spotMoves_11 : decode cX9_spotMoves 11 = .ok (.if_icmp .ge 29, 3) := dk_162 0 29 (dk_at dksX9_spotMoves_0 11 rfl rfl)
theorem dX9_spotMoves_14 : decode cX9_spotMoves 14 = .ok (.iload_n 1, 1) := dk_27 (dk_at dksX9_spotMoves_0 14 rfl rfl)
theorem dX9_spotMoves_15 : decode cX9_spotMoves 15 = .ok (.aload_n 0, 1) := dk_42 (dk_at dksX9_spotMoves_0 15 rfl rfl)
theorem dX9_spotMoves_16 : decode cX9_spotMoves 16 = .ok (.iload_n 2, 1) := dk_28 (dk_at dksX9_spotMoves_0 16 rfl rfl)
theorem dX9_spotMoves_17 : decode cX9_spotMoves 17 = .ok (.invokevirtual 119, 3) := dk_182 0 119 (dk_at dksX9_spotMoves_0 17 rfl rfl)
theorem dX9_spotMoves_20 : decode cX9_spotMoves 20 = .ok (.ifCond .eq 11, 3) := dk_153 0 11 (dk_at dksX9_spotMoves_0 20 rfl rfl)
theorem dX9_spotMoves_23 : decode cX9_spotMoves 23 = .ok (.aload_n 0, 1) := dk_42 (dk_at dksX9_spotMoves_0 23 rfl rfl)
theorem dX9_spotMoves_24 : decode cX9_spotMoves 24 = .ok (.iload_n 2, 1) := dk_28 (dk_at dksX9_spotMoves_1 0 rfl rfl)
theorem dX9_spotMoves_25 : decode cX9_spotMoves 25 = .ok (.invokevirtual 371, 3) := dk_182 1 115 (dk_at dksX9_spotMoves_1 1 rfl rfl)
theorem dX9_spotMoves_28 : decode cX9_spotMoves 28 = .ok (.goto 4, 3) := dk_167 0 4 (dk_at dksX9_spotMoves_1 4 rfl rfl)
theorem dX9_spotMoves_31 : decode cX9_spotMoves 31 = .ok (.iconst 0, 1) := dk_3 (dk_at dksX9_spotMoves_1 7 rfl rfl)
theorem dX9_spotMoves_32 : decode cX9_spotMoves 32 = .ok (.iadd, 1) := dk_96 (dk_at dksX9_spotMoves_1 8 rfl rfl)
theorem dX9_spotMoves_33 : decode cX9_spotMoves 33 = .ok (.istore_n 1, 1) := dk_60 (dk_at dksX9_spotMoves_1 9 rfl rfl)
theorem dX9_spotMoves_34 : decode cX9_spotMoves 34 = .ok (.iinc 2 1, 3) := dk_132 2 1 (dk_at dksX9_spotMoves_1 10 rfl rfl)
theorem dX9_spotMoves_37 : decode cX9_spotMoves 37 = .ok (.goto (-33), 3) := dk_167 255 223 (dk_at dksX9_spotMoves_1 13 rfl rfl)
theorem dX9_spotMoves_40 : decode cX9_spotMoves 40 = .ok (.iload_n 1, 1) := dk_27 (dk_at dksX9_spotMoves_1 16 rfl rfl)
theorem dX9_spotMoves_41 : decode cX9_spotMoves 41 = .ok (.ireturn, 1) := dk_172 (dk_at dksX9_spotMoves_1 17 rfl rfl)
abbrev cX9_withoutSpot : ByteArray := prog_15_method_124_code
def yX9_withoutSpot : MethodName := ⟨RX9, "withoutSpot", "()I"⟩
def dkwX9_withoutSpot_1 : List UInt8 := [167, 0, 4, 4, 96, 60, 132, 2, 1, 167, 255, 227, 27, 172]
abbrev dktX9_withoutSpot_1 : List UInt8 := dkwX9_withoutSpot_1 ++ []
def dkwX9_withoutSpot_0 : List UInt8 := [3, 60, 3, 61, 28, 42, 180, 0, 16, 5, 46, 162, 0, 25, 27, 42, 28, 182, 0, 119, 153, 0, 7, 3]
abbrev dktX9_withoutSpot_0 : List UInt8 := dkwX9_withoutSpot_0 ++ dktX9_withoutSpot_1
theorem dksX9_withoutSpot_0 : cX9_withoutSpot.data.toList.drop 0 = dktX9_withoutSpot_0 := by decide +kernel
theorem dksX9_withoutSpot_1 : cX9_withoutSpot.data.toList.drop 24 = dktX9_withoutSpot_1 := dk_seg dksX9_withoutSpot_0 24 rfl rfl
theorem dX9_withoutSpot_0 : decode cX9_withoutSpot 0 = .ok (.iconst 0, 1) := dk_3 (dk_at dksX9_withoutSpot_0 0 rfl rfl)
theorem dX9_withoutSpot_1 : decode cX9_withoutSpot 1 = .ok (.istore_n 1, 1) := dk_60 (dk_at dksX9_withoutSpot_0 1 rfl rfl)
theorem dX9_withoutSpot_2 : decode cX9_withoutSpot 2 = .ok (.iconst 0, 1) := dk_3 (dk_at dksX9_withoutSpot_0 2 rfl rfl)
theorem dX9_withoutSpot_3 : decode cX9_withoutSpot 3 = .ok (.istore_n 2, 1) := dk_61 (dk_at dksX9_withoutSpot_0 3 rfl rfl)
theorem dX9_withoutSpot_4 : decode cX9_withoutSpot 4 = .ok (.iload_n 2, 1) := dk_28 (dk_at dksX9_withoutSpot_0 4 rfl rfl)
theorem dX9_withoutSpot_5 : decode cX9_withoutSpot 5 = .ok (.aload_n 0, 1) := dk_42 (dk_at dksX9_withoutSpot_0 5 rfl rfl)
theorem dX9_withoutSpot_6 : decode cX9_withoutSpot 6 = .ok (.getfield 16, 3) := dk_180 0 16 (dk_at dksX9_withoutSpot_0 6 rfl rfl)
theorem dX9_withoutSpot_9 : decode cX9_withoutSpot 9 = .ok (.iconst 2, 1) := dk_5 (dk_at dksX9_withoutSpot_0 9 rfl rfl)
theorem dX9_withoutSpot_10 : decode cX9_withoutSpot 10 = .ok (.iaload, 1) := dk_46 (dk_at dksX9_withoutSpot_0 10 rfl rfl)
theorem dX9_withoutSpot_11 : decode cX9_withoutSpot 11 = .ok (.if_icmp .ge 25, 3) := dk_162 0 25 (dk_at dksX9_withoutSpot_0 11 rfl rfl)
theorem dX9_withoutSpot_14 : decode cX9_withoutSpot 14 = .ok (.iload_n 1, 1) := dk_27 (dk_at dksX9_withoutSpot_0 14 rfl rfl)
theorem dX9_withoutSpot_15 : decode cX9_withoutSpot 15 = .ok (.aload_n 0, 1) := dk_42 (dk_at dksX9_withoutSpot_0 15 rfl rfl)
theorem dX9_withoutSpot_16 : decode cX9_withoutSpot 16 = .ok (.iload_n 2, 1) := dk_28 (dk_at dksX9_withoutSpot_0 16 rfl rfl)
theorem dX9_withoutSpot_17 : decode cX9_withoutSpot 17 = .ok (.invokevirtual 119, 3) := dk_182 0 119 (dk_at dksX9_withoutSpot_0 17 rfl rfl)
theorem dX9_withoutSpot_20 : decode cX9_withoutSpot 20 = .ok (.ifCond .eq 7, 3) := dk_153 0 7 (dk_at dksX9_withoutSpot_0 20 rfl rfl)
theorem dX9_withoutSpot_23 : decode cX9_withoutSpot 23 = .ok (.iconst 0, 1) := dk_3 (dk_at dksX9_withoutSpot_0 23 rfl rfl)
theorem dX9_withoutSpot_24 : decode cX9_withoutSpot 24 = .ok (.goto 4, 3) := dk_167 0 4 (dk_at dksX9_withoutSpot_1 0 rfl rfl)
theorem dX9_withoutSpot_27 : decode cX9_withoutSpot 27 = .ok (.iconst 1, 1) := dk_4 (dk_at dksX9_withoutSpot_1 3 rfl rfl)
theorem dX9_withoutSpot_28 : decode cX9_withoutSpot 28 = .ok (.iadd, 1) := dk_96 (dk_at dksX9_withoutSpot_1 4 rfl rfl)
theorem dX9_withoutSpot_29 : decode cX9_withoutSpot 29 = .ok (.istore_n 1, 1) := dk_60 (dk_at dksX9_withoutSpot_1 5 rfl rfl)
theorem dX9_withoutSpot_30 : decode cX9_withoutSpot 30 = .ok (.iinc 2 1, 3) := dk_132 2 1 (dk_at dksX9_withoutSpot_1 6 rfl rfl)
theorem dX9_withoutSpot_33 : decode cX9_withoutSpot 33 = .ok (.goto (-29), 3) := dk_167 255 227 (dk_at dksX9_withoutSpot_1 9 rfl rfl)
theorem dX9_withoutSpot_36 : decode cX9_withoutSpot 36 = .ok (.iload_n 1, 1) := dk_27 (dk_at dksX9_withoutSpot_1 12 rfl rfl)
theorem dX9_withoutSpot_37 : decode cX9_withoutSpot 37 = .ok (.ireturn, 1) := dk_172 (dk_at dksX9_withoutSpot_1 13 rfl rfl)
abbrev cX9_crowds : ByteArray := prog_15_method_125_code
def yX9_crowds : MethodName := ⟨RX9, "crowds", "(I)I"⟩
def dkwX9_crowds_4 : List UInt8 := [167, 0, 5, 21, 4, 172]
abbrev dktX9_crowds_4 : List UInt8 := dkwX9_crowds_4 ++ []
def dkwX9_crowds_3 : List UInt8 := [3, 96, 54, 4, 132, 5, 1, 167, 255, 189, 27, 154, 0, 7, 28, 167, 0, 14, 27, 4, 160, 0, 7, 29]
abbrev dktX9_crowds_3 : List UInt8 := dkwX9_crowds_3 ++ dktX9_crowds_4
def dkwX9_crowds_2 : List UInt8 := [21, 6, 167, 0, 4, 28, 61, 21, 4, 21, 6, 42, 180, 0, 13, 8, 46, 164, 0, 7, 4, 167, 0, 4]
abbrev dktX9_crowds_2 : List UInt8 := dkwX9_crowds_2 ++ dktX9_crowds_3
def dkwX9_crowds_1 : List UInt8 := [182, 1, 197, 54, 6, 21, 6, 28, 164, 0, 8, 21, 5, 167, 0, 4, 29, 62, 21, 6, 28, 164, 0, 8]
abbrev dktX9_crowds_1 : List UInt8 := dkwX9_crowds_1 ++ dktX9_crowds_2
def dkwX9_crowds_0 : List UInt8 := [2, 61, 2, 62, 3, 54, 4, 3, 54, 5, 21, 5, 42, 182, 1, 23, 162, 0, 64, 42, 21, 5]
abbrev dktX9_crowds_0 : List UInt8 := dkwX9_crowds_0 ++ dktX9_crowds_1
theorem dksX9_crowds_0 : cX9_crowds.data.toList.drop 0 = dktX9_crowds_0 := by decide +kernel
theorem dksX9_crowds_1 : cX9_crowds.data.toList.drop 22 = dktX9_crowds_1 := dk_seg dksX9_crowds_0 22 rfl rfl
theorem dksX9_crowds_2 : cX9_crowds.data.toList.drop 46 = dktX9_crowds_2 := dk_seg dksX9_crowds_1 24 rfl rfl
theorem dksX9_crowds_3 : cX9_crowds.data.toList.drop 70 = dktX9_crowds_3 := dk_seg dksX9_crowds_2 24 rfl rfl
theorem dksX9_crowds_4 : cX9_crowds.data.toList.drop 94 = dktX9_crowds_4 := dk_seg dksX9_crowds_3 24 rfl rfl
theorem dX9_crowds_0 : decode cX9_crowds 0 = .ok (.iconst (-1), 1) := dk_2 (dk_at dksX9_crowds_0 0 rfl rfl)
theorem dX9_crowds_1 : decode cX9_crowds 1 = .ok (.istore_n 2, 1) := dk_61 (dk_at dksX9_crowds_0 1 rfl rfl)
theorem dX9_crowds_2 : decode cX9_crowds 2 = .ok (.iconst (-1), 1) := dk_2 (dk_at dksX9_crowds_0 2 rfl rfl)
theorem dX9_crowds_3 : decode cX9_crowds 3 = .ok (.istore_n 3, 1) := dk_62 (dk_at dksX9_crowds_0 3 rfl rfl)
theorem dX9_crowds_4 : decode cX9_crowds 4 = .ok (.iconst 0, 1) := dk_3 (dk_at dksX9_crowds_0 4 rfl rfl)
theorem dX9_crowds_5 : decode cX9_crowds 5 = .ok (.istore 4, 2) := dk_54 4 (dk_at dksX9_crowds_0 5 rfl rfl)
theorem dX9_crowds_7 : decode cX9_crowds 7 = .ok (.iconst 0, 1) := dk_3 (dk_at dksX9_crowds_0 7 rfl rfl)
theorem dX9_crowds_8 : decode cX9_crowds 8 = .ok (.istore 5, 2) := dk_54 5 (dk_at dksX9_crowds_0 8 rfl rfl)
theorem dX9_crowds_10 : decode cX9_crowds 10 = .ok (.iload 5, 2) := dk_21 5 (dk_at dksX9_crowds_0 10 rfl rfl)
theorem dX9_crowds_12 : decode cX9_crowds 12 = .ok (.aload_n 0, 1) := dk_42 (dk_at dksX9_crowds_0 12 rfl rfl)
theorem dX9_crowds_13 : decode cX9_crowds 13 = .ok (.invokevirtual 279, 3) := dk_182 1 23 (dk_at dksX9_crowds_0 13 rfl rfl)
theorem dX9_crowds_16 : decode cX9_crowds 16 = .ok (.if_icmp .ge 64, 3) := dk_162 0 64 (dk_at dksX9_crowds_0 16 rfl rfl)
theorem dX9_crowds_19 : decode cX9_crowds 19 = .ok (.aload_n 0, 1) := dk_42 (dk_at dksX9_crowds_0 19 rfl rfl)
theorem dX9_crowds_20 : decode cX9_crowds 20 = .ok (.iload 5, 2) := dk_21 5 (dk_at dksX9_crowds_0 20 rfl rfl)
theorem dX9_crowds_22 : decode cX9_crowds 22 = .ok (.invokevirtual 453, 3) := dk_182 1 197 (dk_at dksX9_crowds_1 0 rfl rfl)
theorem dX9_crowds_25 : decode cX9_crowds 25 = .ok (.istore 6, 2) := dk_54 6 (dk_at dksX9_crowds_1 3 rfl rfl)
theorem dX9_crowds_27 : decode cX9_crowds 27 = .ok (.iload 6, 2) := dk_21 6 (dk_at dksX9_crowds_1 5 rfl rfl)
theorem dX9_crowds_29 : decode cX9_crowds 29 = .ok (.iload_n 2, 1) := dk_28 (dk_at dksX9_crowds_1 7 rfl rfl)
theorem dX9_crowds_30 : decode cX9_crowds 30 = .ok (.if_icmp .le 8, 3) := dk_164 0 8 (dk_at dksX9_crowds_1 8 rfl rfl)
theorem dX9_crowds_33 : decode cX9_crowds 33 = .ok (.iload 5, 2) := dk_21 5 (dk_at dksX9_crowds_1 11 rfl rfl)
theorem dX9_crowds_35 : decode cX9_crowds 35 = .ok (.goto 4, 3) := dk_167 0 4 (dk_at dksX9_crowds_1 13 rfl rfl)
theorem dX9_crowds_38 : decode cX9_crowds 38 = .ok (.iload_n 3, 1) := dk_29 (dk_at dksX9_crowds_1 16 rfl rfl)
theorem dX9_crowds_39 : decode cX9_crowds 39 = .ok (.istore_n 3, 1) := dk_62 (dk_at dksX9_crowds_1 17 rfl rfl)
theorem dX9_crowds_40 : decode cX9_crowds 40 = .ok (.iload 6, 2) := dk_21 6 (dk_at dksX9_crowds_1 18 rfl rfl)
theorem dX9_crowds_42 : decode cX9_crowds 42 = .ok (.iload_n 2, 1) := dk_28 (dk_at dksX9_crowds_1 20 rfl rfl)
theorem dX9_crowds_43 : decode cX9_crowds 43 = .ok (.if_icmp .le 8, 3) := dk_164 0 8 (dk_at dksX9_crowds_1 21 rfl rfl)
theorem dX9_crowds_46 : decode cX9_crowds 46 = .ok (.iload 6, 2) := dk_21 6 (dk_at dksX9_crowds_2 0 rfl rfl)
theorem dX9_crowds_48 : decode cX9_crowds 48 = .ok (.goto 4, 3) := dk_167 0 4 (dk_at dksX9_crowds_2 2 rfl rfl)
theorem dX9_crowds_51 : decode cX9_crowds 51 = .ok (.iload_n 2, 1) := dk_28 (dk_at dksX9_crowds_2 5 rfl rfl)
theorem dX9_crowds_52 : decode cX9_crowds 52 = .ok (.istore_n 2, 1) := dk_61 (dk_at dksX9_crowds_2 6 rfl rfl)
theorem dX9_crowds_53 : decode cX9_crowds 53 = .ok (.iload 4, 2) := dk_21 4 (dk_at dksX9_crowds_2 7 rfl rfl)
theorem dX9_crowds_55 : decode cX9_crowds 55 = .ok (.iload 6, 2) := dk_21 6 (dk_at dksX9_crowds_2 9 rfl rfl)
theorem dX9_crowds_57 : decode cX9_crowds 57 = .ok (.aload_n 0, 1) := dk_42 (dk_at dksX9_crowds_2 11 rfl rfl)
theorem dX9_crowds_58 : decode cX9_crowds 58 = .ok (.getfield 13, 3) := dk_180 0 13 (dk_at dksX9_crowds_2 12 rfl rfl)
theorem dX9_crowds_61 : decode cX9_crowds 61 = .ok (.iconst 5, 1) := dk_8 (dk_at dksX9_crowds_2 15 rfl rfl)
theorem dX9_crowds_62 : decode cX9_crowds 62 = .ok (.iaload, 1) := dk_46 (dk_at dksX9_crowds_2 16 rfl rfl)
theorem dX9_crowds_63 : decode cX9_crowds 63 = .ok (.if_icmp .le 7, 3) := dk_164 0 7 (dk_at dksX9_crowds_2 17 rfl rfl)
theorem dX9_crowds_66 : decode cX9_crowds 66 = .ok (.iconst 1, 1) := dk_4 (dk_at dksX9_crowds_2 20 rfl rfl)
theorem dX9_crowds_67 : decode cX9_crowds 67 = .ok (.goto 4, 3) := dk_167 0 4 (dk_at dksX9_crowds_2 21 rfl rfl)
theorem dX9_crowds_70 : decode cX9_crowds 70 = .ok (.iconst 0, 1) := dk_3 (dk_at dksX9_crowds_3 0 rfl rfl)
theorem dX9_crowds_71 : decode cX9_crowds 71 = .ok (.iadd, 1) := dk_96 (dk_at dksX9_crowds_3 1 rfl rfl)
theorem dX9_crowds_72 : decode cX9_crowds 72 = .ok (.istore 4, 2) := dk_54 4 (dk_at dksX9_crowds_3 2 rfl rfl)
theorem dX9_crowds_74 : decode cX9_crowds 74 = .ok (.iinc 5 1, 3) := dk_132 5 1 (dk_at dksX9_crowds_3 4 rfl rfl)
theorem dX9_crowds_77 : decode cX9_crowds 77 = .ok (.goto (-67), 3) := dk_167 255 189 (dk_at dksX9_crowds_3 7 rfl rfl)
theorem dX9_crowds_80 : decode cX9_crowds 80 = .ok (.iload_n 1, 1) := dk_27 (dk_at dksX9_crowds_3 10 rfl rfl)
theorem dX9_crowds_81 : decode cX9_crowds 81 = .ok (.ifCond .ne 7, 3) := dk_154 0 7 (dk_at dksX9_crowds_3 11 rfl rfl)
theorem dX9_crowds_84 : decode cX9_crowds 84 = .ok (.iload_n 2, 1) := dk_28 (dk_at dksX9_crowds_3 14 rfl rfl)
theorem dX9_crowds_85 : decode cX9_crowds 85 = .ok (.goto 14, 3) := dk_167 0 14 (dk_at dksX9_crowds_3 15 rfl rfl)
theorem dX9_crowds_88 : decode cX9_crowds 88 = .ok (.iload_n 1, 1) := dk_27 (dk_at dksX9_crowds_3 18 rfl rfl)
theorem dX9_crowds_89 : decode cX9_crowds 89 = .ok (.iconst 1, 1) := dk_4 (dk_at dksX9_crowds_3 19 rfl rfl)
theorem dX9_crowds_90 : decode cX9_crowds 90 = .ok (.if_icmp .ne 7, 3) := dk_160 0 7 (dk_at dksX9_crowds_3 20 rfl rfl)
theorem dX9_crowds_93 : decode cX9_crowds 93 = .ok (.iload_n 3, 1) := dk_29 (dk_at dksX9_crowds_3 23 rfl rfl)
theorem dX9_crowds_94 : decode cX9_crowds 94 = .ok (.goto 5, 3) := dk_167 0 5 (dk_at dksX9_crowds_4 0 rfl rfl)
theorem dX9_crowds_97 : decode cX9_crowds 97 = .ok (.iload 4, 2) := dk_21 4 (dk_at dksX9_crowds_4 3 rfl rfl)
theorem dX9_crowds_99 : decode cX9_crowds 99 = .ok (.ireturn, 1) := dk_172 (dk_at dksX9_crowds_4 5 rfl rfl)
abbrev cX9_runs : ByteArray := prog_15_method_128_code
def yX9_runs : MethodName := ⟨RX9, "runs", "(II)I"⟩
def dkwX9_runs_1 : List UInt8 := [28, 29, 182, 1, 214, 2, 159, 0, 9, 132, 3, 1, 167, 255, 242, 29, 172]
abbrev dktX9_runs_1 : List UInt8 := dkwX9_runs_1 ++ []
def dkwX9_runs_0 : List UInt8 := [42, 3, 181, 0, 92, 42, 27, 28, 182, 1, 211, 154, 0, 5, 2, 172, 42, 182, 1, 103, 3, 62, 42, 27]
abbrev dktX9_runs_0 : List UInt8 := dkwX9_runs_0 ++ dktX9_runs_1
theorem dksX9_runs_0 : cX9_runs.data.toList.drop 0 = dktX9_runs_0 := by decide +kernel
theorem dksX9_runs_1 : cX9_runs.data.toList.drop 24 = dktX9_runs_1 := dk_seg dksX9_runs_0 24 rfl rfl
theorem dX9_runs_0 : decode cX9_runs 0 = .ok (.aload_n 0, 1) := dk_42 (dk_at dksX9_runs_0 0 rfl rfl)
theorem dX9_runs_1 : decode cX9_runs 1 = .ok (.iconst 0, 1) := dk_3 (dk_at dksX9_runs_0 1 rfl rfl)
theorem dX9_runs_2 : decode cX9_runs 2 = .ok (.putfield 92, 3) := dk_181 0 92 (dk_at dksX9_runs_0 2 rfl rfl)
theorem dX9_runs_5 : decode cX9_runs 5 = .ok (.aload_n 0, 1) := dk_42 (dk_at dksX9_runs_0 5 rfl rfl)
theorem dX9_runs_6 : decode cX9_runs 6 = .ok (.iload_n 1, 1) := dk_27 (dk_at dksX9_runs_0 6 rfl rfl)
theorem dX9_runs_7 : decode cX9_runs 7 = .ok (.iload_n 2, 1) := dk_28 (dk_at dksX9_runs_0 7 rfl rfl)
theorem dX9_runs_8 : decode cX9_runs 8 = .ok (.invokevirtual 467, 3) := dk_182 1 211 (dk_at dksX9_runs_0 8 rfl rfl)
theorem dX9_runs_11 : decode cX9_runs 11 = .ok (.ifCond .ne 5, 3) := dk_154 0 5 (dk_at dksX9_runs_0 11 rfl rfl)
theorem dX9_runs_14 : decode cX9_runs 14 = .ok (.iconst (-1), 1) := dk_2 (dk_at dksX9_runs_0 14 rfl rfl)
theorem dX9_runs_15 : decode cX9_runs 15 = .ok (.ireturn, 1) := dk_172 (dk_at dksX9_runs_0 15 rfl rfl)
theorem dX9_runs_16 : decode cX9_runs 16 = .ok (.aload_n 0, 1) := dk_42 (dk_at dksX9_runs_0 16 rfl rfl)
theorem dX9_runs_17 : decode cX9_runs 17 = .ok (.invokevirtual 359, 3) := dk_182 1 103 (dk_at dksX9_runs_0 17 rfl rfl)
theorem dX9_runs_20 : decode cX9_runs 20 = .ok (.iconst 0, 1) := dk_3 (dk_at dksX9_runs_0 20 rfl rfl)
theorem dX9_runs_21 : decode cX9_runs 21 = .ok (.istore_n 3, 1) := dk_62 (dk_at dksX9_runs_0 21 rfl rfl)
theorem dX9_runs_22 : decode cX9_runs 22 = .ok (.aload_n 0, 1) := dk_42 (dk_at dksX9_runs_0 22 rfl rfl)
theorem dX9_runs_23 : decode cX9_runs 23 = .ok (.iload_n 1, 1) := dk_27 (dk_at dksX9_runs_0 23 rfl rfl)
theorem dX9_runs_24 : decode cX9_runs 24 = .ok (.iload_n 2, 1) := dk_28 (dk_at dksX9_runs_1 0 rfl rfl)
theorem dX9_runs_25 : decode cX9_runs 25 = .ok (.iload_n 3, 1) := dk_29 (dk_at dksX9_runs_1 1 rfl rfl)
theorem dX9_runs_26 : decode cX9_runs 26 = .ok (.invokevirtual 470, 3) := dk_182 1 214 (dk_at dksX9_runs_1 2 rfl rfl)
theorem dX9_runs_29 : decode cX9_runs 29 = .ok (.iconst (-1), 1) := dk_2 (dk_at dksX9_runs_1 5 rfl rfl)
theorem dX9_runs_30 : decode cX9_runs 30 = .ok (.if_icmp .eq 9, 3) := dk_159 0 9 (dk_at dksX9_runs_1 6 rfl rfl)
theorem dX9_runs_33 : decode cX9_runs 33 = .ok (.iinc 3 1, 3) := dk_132 3 1 (dk_at dksX9_runs_1 9 rfl rfl)
theorem dX9_runs_36 : decode cX9_runs 36 = .ok (.goto (-14), 3) := dk_167 255 242 (dk_at dksX9_runs_1 12 rfl rfl)
theorem dX9_runs_39 : decode cX9_runs 39 = .ok (.iload_n 3, 1) := dk_29 (dk_at dksX9_runs_1 15 rfl rfl)
theorem dX9_runs_40 : decode cX9_runs 40 = .ok (.ireturn, 1) := dk_172 (dk_at dksX9_runs_1 16 rfl rfl)
abbrev cX9_isRunKind : ByteArray := prog_15_method_127_code
def yX9_isRunKind : MethodName := ⟨RX9, "isRunKind", "(II)Z"⟩
def dkwX9_isRunKind_1 : List UInt8 := [182, 0, 198, 153, 0, 7, 4, 167, 0, 4, 3, 172]
abbrev dktX9_isRunKind_1 : List UInt8 := dkwX9_isRunKind_1 ++ []
def dkwX9_isRunKind_0 : List UInt8 := [27, 133, 9, 42, 180, 0, 85, 133, 10, 101, 184, 0, 122, 153, 0, 20, 28, 2, 159, 0, 11, 42, 28]
abbrev dktX9_isRunKind_0 : List UInt8 := dkwX9_isRunKind_0 ++ dktX9_isRunKind_1
theorem dksX9_isRunKind_0 : cX9_isRunKind.data.toList.drop 0 = dktX9_isRunKind_0 := by decide +kernel
theorem dksX9_isRunKind_1 : cX9_isRunKind.data.toList.drop 23 = dktX9_isRunKind_1 := dk_seg dksX9_isRunKind_0 23 rfl rfl
theorem dX9_isRunKind_0 : decode cX9_isRunKind 0 = .ok (.iload_n 1, 1) := dk_27 (dk_at dksX9_isRunKind_0 0 rfl rfl)
theorem dX9_isRunKind_1 : decode cX9_isRunKind 1 = .ok (.i2l, 1) := dk_133 (dk_at dksX9_isRunKind_0 1 rfl rfl)
theorem dX9_isRunKind_2 : decode cX9_isRunKind 2 = .ok (.lconst 0, 1) := dk_9 (dk_at dksX9_isRunKind_0 2 rfl rfl)
theorem dX9_isRunKind_3 : decode cX9_isRunKind 3 = .ok (.aload_n 0, 1) := dk_42 (dk_at dksX9_isRunKind_0 3 rfl rfl)
theorem dX9_isRunKind_4 : decode cX9_isRunKind 4 = .ok (.getfield 85, 3) := dk_180 0 85 (dk_at dksX9_isRunKind_0 4 rfl rfl)
theorem dX9_isRunKind_7 : decode cX9_isRunKind 7 = .ok (.i2l, 1) := dk_133 (dk_at dksX9_isRunKind_0 7 rfl rfl)
theorem dX9_isRunKind_8 : decode cX9_isRunKind 8 = .ok (.lconst 1, 1) := dk_10 (dk_at dksX9_isRunKind_0 8 rfl rfl)
theorem dX9_isRunKind_9 : decode cX9_isRunKind 9 = .ok (.lsub, 1) := dk_101 (dk_at dksX9_isRunKind_0 9 rfl rfl)
theorem dX9_isRunKind_10 : decode cX9_isRunKind 10 = .ok (.invokestatic 122, 3) := dk_184 0 122 (dk_at dksX9_isRunKind_0 10 rfl rfl)
theorem dX9_isRunKind_13 : decode cX9_isRunKind 13 = .ok (.ifCond .eq 20, 3) := dk_153 0 20 (dk_at dksX9_isRunKind_0 13 rfl rfl)
theorem dX9_isRunKind_16 : decode cX9_isRunKind 16 = .ok (.iload_n 2, 1) := dk_28 (dk_at dksX9_isRunKind_0 16 rfl rfl)
theorem dX9_isRunKind_17 : decode cX9_isRunKind 17 = .ok (.iconst (-1), 1) := dk_2 (dk_at dksX9_isRunKind_0 17 rfl rfl)
theorem dX9_isRunKind_18 : decode cX9_isRunKind 18 = .ok (.if_icmp .eq 11, 3) := dk_159 0 11 (dk_at dksX9_isRunKind_0 18 rfl rfl)
theorem dX9_isRunKind_21 : decode cX9_isRunKind 21 = .ok (.aload_n 0, 1) := dk_42 (dk_at dksX9_isRunKind_0 21 rfl rfl)
theorem dX9_isRunKind_22 : decode cX9_isRunKind 22 = .ok (.iload_n 2, 1) := dk_28 (dk_at dksX9_isRunKind_0 22 rfl rfl)
theorem dX9_isRunKind_23 : decode cX9_isRunKind 23 = .ok (.invokevirtual 198, 3) := dk_182 0 198 (dk_at dksX9_isRunKind_1 0 rfl rfl)
theorem dX9_isRunKind_26 : decode cX9_isRunKind 26 = .ok (.ifCond .eq 7, 3) := dk_153 0 7 (dk_at dksX9_isRunKind_1 3 rfl rfl)
theorem dX9_isRunKind_29 : decode cX9_isRunKind 29 = .ok (.iconst 1, 1) := dk_4 (dk_at dksX9_isRunKind_1 6 rfl rfl)
theorem dX9_isRunKind_30 : decode cX9_isRunKind 30 = .ok (.goto 4, 3) := dk_167 0 4 (dk_at dksX9_isRunKind_1 7 rfl rfl)
theorem dX9_isRunKind_33 : decode cX9_isRunKind 33 = .ok (.iconst 0, 1) := dk_3 (dk_at dksX9_isRunKind_1 10 rfl rfl)
theorem dX9_isRunKind_34 : decode cX9_isRunKind 34 = .ok (.ireturn, 1) := dk_172 (dk_at dksX9_isRunKind_1 11 rfl rfl)
abbrev cX9_findRun : ByteArray := prog_15_method_86_code
def yX9_findRun : MethodName := ⟨RX9, "findRun", "(III)I"⟩
def dkwX9_findRun_2 : List UInt8 := [167, 0, 5, 21, 5, 54, 5, 132, 4, 1, 132, 6, 1, 167, 255, 204, 21, 5, 172]
abbrev dktX9_findRun_2 : List UInt8 := dkwX9_findRun_2 ++ []
def dkwX9_findRun_1 : List UInt8 := [46, 27, 160, 0, 32, 42, 180, 0, 37, 21, 6, 46, 28, 160, 0, 21, 21, 4, 29, 160, 0, 8, 21, 6]
abbrev dktX9_findRun_1 : List UInt8 := dkwX9_findRun_1 ++ dktX9_findRun_2
def dkwX9_findRun_0 : List UInt8 := [3, 54, 4, 2, 54, 5, 3, 54, 6, 21, 6, 42, 180, 1, 73, 162, 0, 49, 42, 180, 0, 34, 21, 6]
abbrev dktX9_findRun_0 : List UInt8 := dkwX9_findRun_0 ++ dktX9_findRun_1
theorem dksX9_findRun_0 : cX9_findRun.data.toList.drop 0 = dktX9_findRun_0 := by decide +kernel
theorem dksX9_findRun_1 : cX9_findRun.data.toList.drop 24 = dktX9_findRun_1 := dk_seg dksX9_findRun_0 24 rfl rfl
theorem dksX9_findRun_2 : cX9_findRun.data.toList.drop 48 = dktX9_findRun_2 := dk_seg dksX9_findRun_1 24 rfl rfl
theorem dX9_findRun_0 : decode cX9_findRun 0 = .ok (.iconst 0, 1) := dk_3 (dk_at dksX9_findRun_0 0 rfl rfl)
theorem dX9_findRun_1 : decode cX9_findRun 1 = .ok (.istore 4, 2) := dk_54 4 (dk_at dksX9_findRun_0 1 rfl rfl)
theorem dX9_findRun_3 : decode cX9_findRun 3 = .ok (.iconst (-1), 1) := dk_2 (dk_at dksX9_findRun_0 3 rfl rfl)
theorem dX9_findRun_4 : decode cX9_findRun 4 = .ok (.istore 5, 2) := dk_54 5 (dk_at dksX9_findRun_0 4 rfl rfl)
theorem dX9_findRun_6 : decode cX9_findRun 6 = .ok (.iconst 0, 1) := dk_3 (dk_at dksX9_findRun_0 6 rfl rfl)
theorem dX9_findRun_7 : decode cX9_findRun 7 = .ok (.istore 6, 2) := dk_54 6 (dk_at dksX9_findRun_0 7 rfl rfl)
theorem dX9_findRun_9 : decode cX9_findRun 9 = .ok (.iload 6, 2) := dk_21 6 (dk_at dksX9_findRun_0 9 rfl rfl)
theorem dX9_findRun_11 : decode cX9_findRun 11 = .ok (.aload_n 0, 1) := dk_42 (dk_at dksX9_findRun_0 11 rfl rfl)
theorem dX9_findRun_12 : decode cX9_findRun 12 = .ok (.getfield 329, 3) := dk_180 1 73 (dk_at dksX9_findRun_0 12 rfl rfl)
theorem dX9_findRun_15 : decode cX9_findRun 15 = .ok (.if_icmp .ge 49, 3) := dk_162 0 49 (dk_at dksX9_findRun_0 15 rfl rfl)
theorem dX9_findRun_18 : decode cX9_findRun 18 = .ok (.aload_n 0, 1) := dk_42 (dk_at dksX9_findRun_0 18 rfl rfl)
theorem dX9_findRun_19 : decode cX9_findRun 19 = .ok (.getfield 34, 3) := dk_180 0 34 (dk_at dksX9_findRun_0 19 rfl rfl)
theorem dX9_findRun_22 : decode cX9_findRun 22 = .ok (.iload 6, 2) := dk_21 6 (dk_at dksX9_findRun_0 22 rfl rfl)
theorem dX9_findRun_24 : decode cX9_findRun 24 = .ok (.iaload, 1) := dk_46 (dk_at dksX9_findRun_1 0 rfl rfl)
theorem dX9_findRun_25 : decode cX9_findRun 25 = .ok (.iload_n 1, 1) := dk_27 (dk_at dksX9_findRun_1 1 rfl rfl)
theorem dX9_findRun_26 : decode cX9_findRun 26 = .ok (.if_icmp .ne 32, 3) := dk_160 0 32 (dk_at dksX9_findRun_1 2 rfl rfl)
theorem dX9_findRun_29 : decode cX9_findRun 29 = .ok (.aload_n 0, 1) := dk_42 (dk_at dksX9_findRun_1 5 rfl rfl)
theorem dX9_findRun_30 : decode cX9_findRun 30 = .ok (.getfield 37, 3) := dk_180 0 37 (dk_at dksX9_findRun_1 6 rfl rfl)
theorem dX9_findRun_33 : decode cX9_findRun 33 = .ok (.iload 6, 2) := dk_21 6 (dk_at dksX9_findRun_1 9 rfl rfl)
theorem dX9_findRun_35 : decode cX9_findRun 35 = .ok (.iaload, 1) := dk_46 (dk_at dksX9_findRun_1 11 rfl rfl)
theorem dX9_findRun_36 : decode cX9_findRun 36 = .ok (.iload_n 2, 1) := dk_28 (dk_at dksX9_findRun_1 12 rfl rfl)
theorem dX9_findRun_37 : decode cX9_findRun 37 = .ok (.if_icmp .ne 21, 3) := dk_160 0 21 (dk_at dksX9_findRun_1 13 rfl rfl)
theorem dX9_findRun_40 : decode cX9_findRun 40 = .ok (.iload 4, 2) := dk_21 4 (dk_at dksX9_findRun_1 16 rfl rfl)
theorem dX9_findRun_42 : decode cX9_findRun 42 = .ok (.iload_n 3, 1) := dk_29 (dk_at dksX9_findRun_1 18 rfl rfl)
theorem dX9_findRun_43 : decode cX9_findRun 43 = .ok (.if_icmp .ne 8, 3) := dk_160 0 8 (dk_at dksX9_findRun_1 19 rfl rfl)
theorem dX9_findRun_46 : decode cX9_findRun 46 = .ok (.iload 6, 2) := dk_21 6 (dk_at dksX9_findRun_1 22 rfl rfl)
theorem dX9_findRun_48 : decode cX9_findRun 48 = .ok (.goto 5, 3) := dk_167 0 5 (dk_at dksX9_findRun_2 0 rfl rfl)
theorem dX9_findRun_51 : decode cX9_findRun 51 = .ok (.iload 5, 2) := dk_21 5 (dk_at dksX9_findRun_2 3 rfl rfl)
theorem dX9_findRun_53 : decode cX9_findRun 53 = .ok (.istore 5, 2) := dk_54 5 (dk_at dksX9_findRun_2 5 rfl rfl)
theorem dX9_findRun_55 : decode cX9_findRun 55 = .ok (.iinc 4 1, 3) := dk_132 4 1 (dk_at dksX9_findRun_2 7 rfl rfl)
theorem dX9_findRun_58 : decode cX9_findRun 58 = .ok (.iinc 6 1, 3) := dk_132 6 1 (dk_at dksX9_findRun_2 10 rfl rfl)
theorem dX9_findRun_61 : decode cX9_findRun 61 = .ok (.goto (-52), 3) := dk_167 255 204 (dk_at dksX9_findRun_2 13 rfl rfl)
theorem dX9_findRun_64 : decode cX9_findRun 64 = .ok (.iload 5, 2) := dk_21 5 (dk_at dksX9_findRun_2 16 rfl rfl)
theorem dX9_findRun_66 : decode cX9_findRun 66 = .ok (.ireturn, 1) := dk_172 (dk_at dksX9_findRun_2 18 rfl rfl)
abbrev cX9_run : ByteArray := prog_15_method_129_code
def yX9_run : MethodName := ⟨RX9, "run", "(IIII)I"⟩
def dkwX9_run_8 : List UInt8 := [16, 10, 100, 46, 167, 0, 4, 2, 172]
abbrev dktX9_run_8 : List UInt8 := dkwX9_run_8 ++ []
def dkwX9_run_7 : List UInt8 := [20, 1, 65, 20, 0, 201, 42, 180, 1, 79, 133, 97, 184, 0, 122, 153, 0, 16, 42, 180, 0, 46, 21, 4]
abbrev dktX9_run_7 : List UInt8 := dkwX9_run_7 ++ dktX9_run_8
def dkwX9_run_6 : List UInt8 := [180, 0, 43, 21, 5, 46, 42, 182, 1, 97, 100, 172, 42, 21, 5, 182, 1, 100, 172, 21, 4, 133]
abbrev dktX9_run_6 : List UInt8 := dkwX9_run_6 ++ dktX9_run_7
def dkwX9_run_5 : List UInt8 := [42, 180, 0, 40, 21, 5, 46, 172, 42, 180, 0, 43, 21, 5, 46, 172, 42, 180, 1, 79, 172, 42]
abbrev dktX9_run_5 : List UInt8 := dkwX9_run_5 ++ dktX9_run_6
def dkwX9_run_4 : List UInt8 := [170, 0, 0, 0, 0, 0, 76, 0, 0, 0, 0, 0, 0, 0, 4, 0, 0, 0, 35, 0, 0, 0, 43, 0, 0, 0, 51, 0, 0, 0, 56, 0, 0, 0, 69]
abbrev dktX9_run_4 : List UInt8 := dkwX9_run_4 ++ dktX9_run_5
def dkwX9_run_3 : List UInt8 := [180, 0, 46, 21, 6, 46, 79, 132, 6, 1, 167, 255, 230, 21, 4]
abbrev dktX9_run_3 : List UInt8 := dkwX9_run_3 ++ dktX9_run_4
def dkwX9_run_2 : List UInt8 := [181, 1, 82, 3, 54, 6, 21, 6, 42, 180, 1, 79, 162, 0, 23, 42, 180, 0, 55, 21, 6, 42]
abbrev dktX9_run_2 : List UInt8 := dkwX9_run_2 ++ dktX9_run_3
def dkwX9_run_1 : List UInt8 := [182, 1, 214, 54, 5, 21, 5, 2, 160, 0, 5, 2, 172, 42, 21, 5, 182, 1, 144, 42, 42, 180, 1, 79]
abbrev dktX9_run_1 : List UInt8 := dkwX9_run_1 ++ dktX9_run_2
def dkwX9_run_0 : List UInt8 := [42, 3, 181, 0, 92, 42, 27, 28, 182, 1, 211, 154, 0, 5, 2, 172, 42, 182, 1, 103, 42, 27, 28, 29]
abbrev dktX9_run_0 : List UInt8 := dkwX9_run_0 ++ dktX9_run_1
theorem dksX9_run_0 : cX9_run.data.toList.drop 0 = dktX9_run_0 := by decide +kernel
theorem dksX9_run_1 : cX9_run.data.toList.drop 24 = dktX9_run_1 := dk_seg dksX9_run_0 24 rfl rfl
theorem dksX9_run_2 : cX9_run.data.toList.drop 48 = dktX9_run_2 := dk_seg dksX9_run_1 24 rfl rfl
theorem dksX9_run_3 : cX9_run.data.toList.drop 70 = dktX9_run_3 := dk_seg dksX9_run_2 22 rfl rfl
theorem dksX9_run_4 : cX9_run.data.toList.drop 85 = dktX9_run_4 := dk_seg dksX9_run_3 15 rfl rfl
theorem dksX9_run_5 : cX9_run.data.toList.drop 120 = dktX9_run_5 := dk_seg dksX9_run_4 35 rfl rfl
theorem dksX9_run_6 : cX9_run.data.toList.drop 142 = dktX9_run_6 := dk_seg dksX9_run_5 22 rfl rfl
theorem dksX9_run_7 : cX9_run.data.toList.drop 164 = dktX9_run_7 := dk_seg dksX9_run_6 22 rfl rfl
theorem dksX9_run_8 : cX9_run.data.toList.drop 188 = dktX9_run_8 := dk_seg dksX9_run_7 24 rfl rfl
theorem dX9_run_0 : decode cX9_run 0 = .ok (.aload_n 0, 1) := dk_42 (dk_at dksX9_run_0 0 rfl rfl)
theorem dX9_run_1 : decode cX9_run 1 = .ok (.iconst 0, 1) := dk_3 (dk_at dksX9_run_0 1 rfl rfl)
theorem dX9_run_2 : decode cX9_run 2 = .ok (.putfield 92, 3) := dk_181 0 92 (dk_at dksX9_run_0 2 rfl rfl)
theorem dX9_run_5 : decode cX9_run 5 = .ok (.aload_n 0, 1) := dk_42 (dk_at dksX9_run_0 5 rfl rfl)
theorem dX9_run_6 : decode cX9_run 6 = .ok (.iload_n 1, 1) := dk_27 (dk_at dksX9_run_0 6 rfl rfl)
theorem dX9_run_7 : decode cX9_run 7 = .ok (.iload_n 2, 1) := dk_28 (dk_at dksX9_run_0 7 rfl rfl)
theorem dX9_run_8 : decode cX9_run 8 = .ok (.invokevirtual 467, 3) := dk_182 1 211 (dk_at dksX9_run_0 8 rfl rfl)
theorem dX9_run_11 : decode cX9_run 11 = .ok (.ifCond .ne 5, 3) := dk_154 0 5 (dk_at dksX9_run_0 11 rfl rfl)
theorem dX9_run_14 : decode cX9_run 14 = .ok (.iconst (-1), 1) := dk_2 (dk_at dksX9_run_0 14 rfl rfl)
theorem dX9_run_15 : decode cX9_run 15 = .ok (.ireturn, 1) := dk_172 (dk_at dksX9_run_0 15 rfl rfl)
theorem dX9_run_16 : decode cX9_run 16 = .ok (.aload_n 0, 1) := dk_42 (dk_at dksX9_run_0 16 rfl rfl)
theorem dX9_run_17 : decode cX9_run 17 = .ok (.invokevirtual 359, 3) := dk_182 1 103 (dk_at dksX9_run_0 17 rfl rfl)
theorem dX9_run_20 : decode cX9_run 20 = .ok (.aload_n 0, 1) := dk_42 (dk_at dksX9_run_0 20 rfl rfl)
theorem dX9_run_21 : decode cX9_run 21 = .ok (.iload_n 1, 1) := dk_27 (dk_at dksX9_run_0 21 rfl rfl)
theorem dX9_run_22 : decode cX9_run 22 = .ok (.iload_n 2, 1) := dk_28 (dk_at dksX9_run_0 22 rfl rfl)
theorem dX9_run_23 : decode cX9_run 23 = .ok (.iload_n 3, 1) := dk_29 (dk_at dksX9_run_0 23 rfl rfl)
theorem dX9_run_24 : decode cX9_run 24 = .ok (.invokevirtual 470, 3) := dk_182 1 214 (dk_at dksX9_run_1 0 rfl rfl)
theorem dX9_run_27 : decode cX9_run 27 = .ok (.istore 5, 2) := dk_54 5 (dk_at dksX9_run_1 3 rfl rfl)
theorem dX9_run_29 : decode cX9_run 29 = .ok (.iload 5, 2) := dk_21 5 (dk_at dksX9_run_1 5 rfl rfl)
theorem dX9_run_31 : decode cX9_run 31 = .ok (.iconst (-1), 1) := dk_2 (dk_at dksX9_run_1 7 rfl rfl)
theorem dX9_run_32 : decode cX9_run 32 = .ok (.if_icmp .ne 5, 3) := dk_160 0 5 (dk_at dksX9_run_1 8 rfl rfl)
theorem dX9_run_35 : decode cX9_run 35 = .ok (.iconst (-1), 1) := dk_2 (dk_at dksX9_run_1 11 rfl rfl)
theorem dX9_run_36 : decode cX9_run 36 = .ok (.ireturn, 1) := dk_172 (dk_at dksX9_run_1 12 rfl rfl)
theorem dX9_run_37 : decode cX9_run 37 = .ok (.aload_n 0, 1) := dk_42 (dk_at dksX9_run_1 13 rfl rfl)
theorem dX9_run_38 : decode cX9_run 38 = .ok (.iload 5, 2) := dk_21 5 (dk_at dksX9_run_1 14 rfl rfl)
theorem dX9_run_40 : decode cX9_run 40 = .ok (.invokevirtual 400, 3) := dk_182 1 144 (dk_at dksX9_run_1 16 rfl rfl)
theorem dX9_run_43 : decode cX9_run 43 = .ok (.aload_n 0, 1) := dk_42 (dk_at dksX9_run_1 19 rfl rfl)
theorem dX9_run_44 : decode cX9_run 44 = .ok (.aload_n 0, 1) := dk_42 (dk_at dksX9_run_1 20 rfl rfl)
theorem dX9_run_45 : decode cX9_run 45 = .ok (.getfield 335, 3) := dk_180 1 79 (dk_at dksX9_run_1 21 rfl rfl)
theorem dX9_run_48 : decode cX9_run 48 = .ok (.putfield 338, 3) := dk_181 1 82 (dk_at dksX9_run_2 0 rfl rfl)
theorem dX9_run_51 : decode cX9_run 51 = .ok (.iconst 0, 1) := dk_3 (dk_at dksX9_run_2 3 rfl rfl)
theorem dX9_run_52 : decode cX9_run 52 = .ok (.istore 6, 2) := dk_54 6 (dk_at dksX9_run_2 4 rfl rfl)
theorem dX9_run_54 : decode cX9_run 54 = .ok (.iload 6, 2) := dk_21 6 (dk_at dksX9_run_2 6 rfl rfl)
theorem dX9_run_56 : decode cX9_run 56 = .ok (.aload_n 0, 1) := dk_42 (dk_at dksX9_run_2 8 rfl rfl)
theorem dX9_run_57 : decode cX9_run 57 = .ok (.getfield 335, 3) := dk_180 1 79 (dk_at dksX9_run_2 9 rfl rfl)
theorem dX9_run_60 : decode cX9_run 60 = .ok (.if_icmp .ge 23, 3) := dk_162 0 23 (dk_at dksX9_run_2 12 rfl rfl)
theorem dX9_run_63 : decode cX9_run 63 = .ok (.aload_n 0, 1) := dk_42 (dk_at dksX9_run_2 15 rfl rfl)
theorem dX9_run_64 : decode cX9_run 64 = .ok (.getfield 55, 3) := dk_180 0 55 (dk_at dksX9_run_2 16 rfl rfl)
theorem dX9_run_67 : decode cX9_run 67 = .ok (.iload 6, 2) := dk_21 6 (dk_at dksX9_run_2 19 rfl rfl)
theorem dX9_run_69 : decode cX9_run 69 = .ok (.aload_n 0, 1) := dk_42 (dk_at dksX9_run_2 21 rfl rfl)
theorem dX9_run_70 : decode cX9_run 70 = .ok (.getfield 46, 3) := dk_180 0 46 (dk_at dksX9_run_3 0 rfl rfl)
theorem dX9_run_73 : decode cX9_run 73 = .ok (.iload 6, 2) := dk_21 6 (dk_at dksX9_run_3 3 rfl rfl)
theorem dX9_run_75 : decode cX9_run 75 = .ok (.iaload, 1) := dk_46 (dk_at dksX9_run_3 5 rfl rfl)
theorem dX9_run_76 : decode cX9_run 76 = .ok (.iastore, 1) := dk_79 (dk_at dksX9_run_3 6 rfl rfl)
theorem dX9_run_77 : decode cX9_run 77 = .ok (.iinc 6 1, 3) := dk_132 6 1 (dk_at dksX9_run_3 7 rfl rfl)
theorem dX9_run_80 : decode cX9_run 80 = .ok (.goto (-26), 3) := dk_167 255 230 (dk_at dksX9_run_3 10 rfl rfl)
theorem dX9_run_83 : decode cX9_run 83 = .ok (.iload 4, 2) := dk_21 4 (dk_at dksX9_run_3 13 rfl rfl)
theorem dX9_run_85 : decode cX9_run 85 = .ok (.tableswitch 76 0 4 #[35, 43, 51, 56, 69], 35) := by decide +kernel
theorem dX9_run_120 : decode cX9_run 120 = .ok (.aload_n 0, 1) := dk_42 (dk_at dksX9_run_5 0 rfl rfl)
theorem dX9_run_121 : decode cX9_run 121 = .ok (.getfield 40, 3) := dk_180 0 40 (dk_at dksX9_run_5 1 rfl rfl)
theorem dX9_run_124 : decode cX9_run 124 = .ok (.iload 5, 2) := dk_21 5 (dk_at dksX9_run_5 4 rfl rfl)
theorem dX9_run_126 : decode cX9_run 126 = .ok (.iaload, 1) := dk_46 (dk_at dksX9_run_5 6 rfl rfl)
theorem dX9_run_127 : decode cX9_run 127 = .ok (.ireturn, 1) := dk_172 (dk_at dksX9_run_5 7 rfl rfl)
theorem dX9_run_128 : decode cX9_run 128 = .ok (.aload_n 0, 1) := dk_42 (dk_at dksX9_run_5 8 rfl rfl)
theorem dX9_run_129 : decode cX9_run 129 = .ok (.getfield 43, 3) := dk_180 0 43 (dk_at dksX9_run_5 9 rfl rfl)
theorem dX9_run_132 : decode cX9_run 132 = .ok (.iload 5, 2) := dk_21 5 (dk_at dksX9_run_5 12 rfl rfl)
theorem dX9_run_134 : decode cX9_run 134 = .ok (.iaload, 1) := dk_46 (dk_at dksX9_run_5 14 rfl rfl)
theorem dX9_run_135 : decode cX9_run 135 = .ok (.ireturn, 1) := dk_172 (dk_at dksX9_run_5 15 rfl rfl)
theorem dX9_run_136 : decode cX9_run 136 = .ok (.aload_n 0, 1) := dk_42 (dk_at dksX9_run_5 16 rfl rfl)
theorem dX9_run_137 : decode cX9_run 137 = .ok (.getfield 335, 3) := dk_180 1 79 (dk_at dksX9_run_5 17 rfl rfl)
theorem dX9_run_140 : decode cX9_run 140 = .ok (.ireturn, 1) := dk_172 (dk_at dksX9_run_5 20 rfl rfl)
theorem dX9_run_141 : decode cX9_run 141 = .ok (.aload_n 0, 1) := dk_42 (dk_at dksX9_run_5 21 rfl rfl)
theorem dX9_run_142 : decode cX9_run 142 = .ok (.getfield 43, 3) := dk_180 0 43 (dk_at dksX9_run_6 0 rfl rfl)
theorem dX9_run_145 : decode cX9_run 145 = .ok (.iload 5, 2) := dk_21 5 (dk_at dksX9_run_6 3 rfl rfl)
theorem dX9_run_147 : decode cX9_run 147 = .ok (.iaload, 1) := dk_46 (dk_at dksX9_run_6 5 rfl rfl)
theorem dX9_run_148 : decode cX9_run 148 = .ok (.aload_n 0, 1) := dk_42 (dk_at dksX9_run_6 6 rfl rfl)
theorem dX9_run_149 : decode cX9_run 149 = .ok (.invokevirtual 353, 3) := dk_182 1 97 (dk_at dksX9_run_6 7 rfl rfl)
theorem dX9_run_152 : decode cX9_run 152 = .ok (.isub, 1) := dk_100 (dk_at dksX9_run_6 10 rfl rfl)
theorem dX9_run_153 : decode cX9_run 153 = .ok (.ireturn, 1) := dk_172 (dk_at dksX9_run_6 11 rfl rfl)
theorem dX9_run_154 : decode cX9_run 154 = .ok (.aload_n 0, 1) := dk_42 (dk_at dksX9_run_6 12 rfl rfl)
theorem dX9_run_155 : decode cX9_run 155 = .ok (.iload 5, 2) := dk_21 5 (dk_at dksX9_run_6 13 rfl rfl)
theorem dX9_run_157 : decode cX9_run 157 = .ok (.invokevirtual 356, 3) := dk_182 1 100 (dk_at dksX9_run_6 15 rfl rfl)
theorem dX9_run_160 : decode cX9_run 160 = .ok (.ireturn, 1) := dk_172 (dk_at dksX9_run_6 18 rfl rfl)
theorem dX9_run_161 : decode cX9_run 161 = .ok (.iload 4, 2) := dk_21 4 (dk_at dksX9_run_6 19 rfl rfl)
theorem dX9_run_163 : decode cX9_run 163 = .ok (.i2l, 1) := dk_133 (dk_at dksX9_run_6 21 rfl rfl)
theorem dX9_run_164 : decode cX9_run 164 = .ok (.ldc2_w 321, 3) := dk_20 1 65 (dk_at dksX9_run_7 0 rfl rfl)
theorem dX9_run_167 : decode cX9_run 167 = .ok (.ldc2_w 201, 3) := dk_20 0 201 (dk_at dksX9_run_7 3 rfl rfl)
theorem dX9_run_170 : decode cX9_run 170 = .ok (.aload_n 0, 1) := dk_42 (dk_at dksX9_run_7 6 rfl rfl)
theorem dX9_run_171 : decode cX9_run 171 = .ok (.getfield 335, 3) := dk_180 1 79 (dk_at dksX9_run_7 7 rfl rfl)
theorem dX9_run_174 : decode cX9_run 174 = .ok (.i2l, 1) := dk_133 (dk_at dksX9_run_7 10 rfl rfl)
theorem dX9_run_175 : decode cX9_run 175 = .ok (.ladd, 1) := dk_97 (dk_at dksX9_run_7 11 rfl rfl)
theorem dX9_run_176 : decode cX9_run 176 = .ok (.invokestatic 122, 3) := dk_184 0 122 (dk_at dksX9_run_7 12 rfl rfl)
theorem dX9_run_179 : decode cX9_run 179 = .ok (.ifCond .eq 16, 3) := dk_153 0 16 (dk_at dksX9_run_7 15 rfl rfl)
theorem dX9_run_182 : decode cX9_run 182 = .ok (.aload_n 0, 1) := dk_42 (dk_at dksX9_run_7 18 rfl rfl)
theorem dX9_run_183 : decode cX9_run 183 = .ok (.getfield 46, 3) := dk_180 0 46 (dk_at dksX9_run_7 19 rfl rfl)
theorem dX9_run_186 : decode cX9_run 186 = .ok (.iload 4, 2) := dk_21 4 (dk_at dksX9_run_7 22 rfl rfl)
theorem dX9_run_188 : decode cX9_run 188 = .ok (.bipush 10, 2) := dk_16 10 (dk_at dksX9_run_8 0 rfl rfl)
theorem dX9_run_190 : decode cX9_run 190 = .ok (.isub, 1) := dk_100 (dk_at dksX9_run_8 2 rfl rfl)
theorem dX9_run_191 : decode cX9_run 191 = .ok (.iaload, 1) := dk_46 (dk_at dksX9_run_8 3 rfl rfl)
theorem dX9_run_192 : decode cX9_run 192 = .ok (.goto 4, 3) := dk_167 0 4 (dk_at dksX9_run_8 4 rfl rfl)
theorem dX9_run_195 : decode cX9_run 195 = .ok (.iconst (-1), 1) := dk_2 (dk_at dksX9_run_8 7 rfl rfl)
theorem dX9_run_196 : decode cX9_run 196 = .ok (.ireturn, 1) := dk_172 (dk_at dksX9_run_8 8 rfl rfl)
abbrev cX9_would : ByteArray := prog_15_method_131_code
def yX9_would : MethodName := ⟨RX9, "would", "(III)I"⟩
def dkwX9_would_1 : List UInt8 := [27, 182, 0, 137, 96, 42, 180, 0, 89, 163, 0, 13, 42, 27, 28, 29, 182, 1, 217, 167, 0, 4, 2, 172]
abbrev dktX9_would_1 : List UInt8 := dkwX9_would_1 ++ []
def dkwX9_would_0 : List UInt8 := [42, 3, 181, 0, 92, 42, 27, 182, 0, 154, 153, 0, 36, 42, 28, 29, 182, 0, 133, 153, 0, 27, 29, 42]
abbrev dktX9_would_0 : List UInt8 := dkwX9_would_0 ++ dktX9_would_1
theorem dksX9_would_0 : cX9_would.data.toList.drop 0 = dktX9_would_0 := by decide +kernel
theorem dksX9_would_1 : cX9_would.data.toList.drop 24 = dktX9_would_1 := dk_seg dksX9_would_0 24 rfl rfl
theorem dX9_would_0 : decode cX9_would 0 = .ok (.aload_n 0, 1) := dk_42 (dk_at dksX9_would_0 0 rfl rfl)
theorem dX9_would_1 : decode cX9_would 1 = .ok (.iconst 0, 1) := dk_3 (dk_at dksX9_would_0 1 rfl rfl)
theorem dX9_would_2 : decode cX9_would 2 = .ok (.putfield 92, 3) := dk_181 0 92 (dk_at dksX9_would_0 2 rfl rfl)
theorem dX9_would_5 : decode cX9_would 5 = .ok (.aload_n 0, 1) := dk_42 (dk_at dksX9_would_0 5 rfl rfl)
theorem dX9_would_6 : decode cX9_would 6 = .ok (.iload_n 1, 1) := dk_27 (dk_at dksX9_would_0 6 rfl rfl)
theorem dX9_would_7 : decode cX9_would 7 = .ok (.invokevirtual 154, 3) := dk_182 0 154 (dk_at dksX9_would_0 7 rfl rfl)
theorem dX9_would_10 : decode cX9_would 10 = .ok (.ifCond .eq 36, 3) := dk_153 0 36 (dk_at dksX9_would_0 10 rfl rfl)
theorem dX9_would_13 : decode cX9_would 13 = .ok (.aload_n 0, 1) := dk_42 (dk_at dksX9_would_0 13 rfl rfl)
theorem dX9_would_14 : decode cX9_would 14 = .ok (.iload_n 2, 1) := dk_28 (dk_at dksX9_would_0 14 rfl rfl)
theorem dX9_would_15 : decode cX9_would 15 = .ok (.iload_n 3, 1) := dk_29 (dk_at dksX9_would_0 15 rfl rfl)
theorem dX9_would_16 : decode cX9_would 16 = .ok (.invokevirtual 133, 3) := dk_182 0 133 (dk_at dksX9_would_0 16 rfl rfl)
theorem dX9_would_19 : decode cX9_would 19 = .ok (.ifCond .eq 27, 3) := dk_153 0 27 (dk_at dksX9_would_0 19 rfl rfl)
theorem dX9_would_22 : decode cX9_would 22 = .ok (.iload_n 3, 1) := dk_29 (dk_at dksX9_would_0 22 rfl rfl)
theorem dX9_would_23 : decode cX9_would 23 = .ok (.aload_n 0, 1) := dk_42 (dk_at dksX9_would_0 23 rfl rfl)
theorem dX9_would_24 : decode cX9_would 24 = .ok (.iload_n 1, 1) := dk_27 (dk_at dksX9_would_1 0 rfl rfl)
theorem dX9_would_25 : decode cX9_would 25 = .ok (.invokevirtual 137, 3) := dk_182 0 137 (dk_at dksX9_would_1 1 rfl rfl)
theorem dX9_would_28 : decode cX9_would 28 = .ok (.iadd, 1) := dk_96 (dk_at dksX9_would_1 4 rfl rfl)
theorem dX9_would_29 : decode cX9_would 29 = .ok (.aload_n 0, 1) := dk_42 (dk_at dksX9_would_1 5 rfl rfl)
theorem dX9_would_30 : decode cX9_would 30 = .ok (.getfield 89, 3) := dk_180 0 89 (dk_at dksX9_would_1 6 rfl rfl)
theorem dX9_would_33 : decode cX9_would 33 = .ok (.if_icmp .gt 13, 3) := dk_163 0 13 (dk_at dksX9_would_1 9 rfl rfl)
theorem dX9_would_36 : decode cX9_would 36 = .ok (.aload_n 0, 1) := dk_42 (dk_at dksX9_would_1 12 rfl rfl)
theorem dX9_would_37 : decode cX9_would 37 = .ok (.iload_n 1, 1) := dk_27 (dk_at dksX9_would_1 13 rfl rfl)
theorem dX9_would_38 : decode cX9_would 38 = .ok (.iload_n 2, 1) := dk_28 (dk_at dksX9_would_1 14 rfl rfl)
theorem dX9_would_39 : decode cX9_would 39 = .ok (.iload_n 3, 1) := dk_29 (dk_at dksX9_would_1 15 rfl rfl)
theorem dX9_would_40 : decode cX9_would 40 = .ok (.invokevirtual 473, 3) := dk_182 1 217 (dk_at dksX9_would_1 16 rfl rfl)
theorem dX9_would_43 : decode cX9_would 43 = .ok (.goto 4, 3) := dk_167 0 4 (dk_at dksX9_would_1 19 rfl rfl)
theorem dX9_would_46 : decode cX9_would 46 = .ok (.iconst (-1), 1) := dk_2 (dk_at dksX9_would_1 22 rfl rfl)
theorem dX9_would_47 : decode cX9_would 47 = .ok (.ireturn, 1) := dk_172 (dk_at dksX9_would_1 23 rfl rfl)
abbrev cX9_wireWith : ByteArray := prog_15_method_130_code
def yX9_wireWith : MethodName := ⟨RX9, "wireWith", "(III)I"⟩
def dkwX9_wireWith_2 : List UInt8 := [182, 0, 219, 21, 6, 172]
abbrev dktX9_wireWith_2 : List UInt8 := dkwX9_wireWith_2 ++ []
def dkwX9_wireWith_1 : List UInt8 := [46, 54, 5, 42, 27, 28, 29, 182, 0, 219, 42, 182, 0, 223, 54, 6, 42, 27, 21, 4, 21, 5]
abbrev dktX9_wireWith_1 : List UInt8 := dkwX9_wireWith_1 ++ dktX9_wireWith_2
def dkwX9_wireWith_0 : List UInt8 := [42, 180, 0, 16, 27, 184, 0, 112, 8, 96, 46, 54, 4, 42, 180, 0, 16, 27, 184, 0, 112, 16, 6, 96]
abbrev dktX9_wireWith_0 : List UInt8 := dkwX9_wireWith_0 ++ dktX9_wireWith_1
theorem dksX9_wireWith_0 : cX9_wireWith.data.toList.drop 0 = dktX9_wireWith_0 := by decide +kernel
theorem dksX9_wireWith_1 : cX9_wireWith.data.toList.drop 24 = dktX9_wireWith_1 := dk_seg dksX9_wireWith_0 24 rfl rfl
theorem dksX9_wireWith_2 : cX9_wireWith.data.toList.drop 46 = dktX9_wireWith_2 := dk_seg dksX9_wireWith_1 22 rfl rfl
theorem dX9_wireWith_0 : decode cX9_wireWith 0 = .ok (.aload_n 0, 1) := dk_42 (dk_at dksX9_wireWith_0 0 rfl rfl)
theorem dX9_wireWith_1 : decode cX9_wireWith 1 = .ok (.getfield 16, 3) := dk_180 0 16 (dk_at dksX9_wireWith_0 1 rfl rfl)
theorem dX9_wireWith_4 : decode cX9_wireWith 4 = .ok (.iload_n 1, 1) := dk_27 (dk_at dksX9_wireWith_0 4 rfl rfl)
theorem dX9_wireWith_5 : decode cX9_wireWith 5 = .ok (.invokestatic 112, 3) := dk_184 0 112 (dk_at dksX9_wireWith_0 5 rfl rfl)
theorem dX9_wireWith_8 : decode cX9_wireWith 8 = .ok (.iconst 5, 1) := dk_8 (dk_at dksX9_wireWith_0 8 rfl rfl)
theorem dX9_wireWith_9 : decode cX9_wireWith 9 = .ok (.iadd, 1) := dk_96 (dk_at dksX9_wireWith_0 9 rfl rfl)
theorem dX9_wireWith_10 : decode cX9_wireWith 10 = .ok (.iaload, 1) := dk_46 (dk_at dksX9_wireWith_0 10 rfl rfl)
theorem dX9_wireWith_11 : decode cX9_wireWith 11 = .ok (.istore 4, 2) := dk_54 4 (dk_at dksX9_wireWith_0 11 rfl rfl)
theorem dX9_wireWith_13 : decode cX9_wireWith 13 = .ok (.aload_n 0, 1) := dk_42 (dk_at dksX9_wireWith_0 13 rfl rfl)
theorem dX9_wireWith_14 : decode cX9_wireWith 14 = .ok (.getfield 16, 3) := dk_180 0 16 (dk_at dksX9_wireWith_0 14 rfl rfl)
theorem dX9_wireWith_17 : decode cX9_wireWith 17 = .ok (.iload_n 1, 1) := dk_27 (dk_at dksX9_wireWith_0 17 rfl rfl)
theorem dX9_wireWith_18 : decode cX9_wireWith 18 = .ok (.invokestatic 112, 3) := dk_184 0 112 (dk_at dksX9_wireWith_0 18 rfl rfl)
theorem dX9_wireWith_21 : decode cX9_wireWith 21 = .ok (.bipush 6, 2) := dk_16 6 (dk_at dksX9_wireWith_0 21 rfl rfl)
theorem dX9_wireWith_23 : decode cX9_wireWith 23 = .ok (.iadd, 1) := dk_96 (dk_at dksX9_wireWith_0 23 rfl rfl)
theorem dX9_wireWith_24 : decode cX9_wireWith 24 = .ok (.iaload, 1) := dk_46 (dk_at dksX9_wireWith_1 0 rfl rfl)
theorem dX9_wireWith_25 : decode cX9_wireWith 25 = .ok (.istore 5, 2) := dk_54 5 (dk_at dksX9_wireWith_1 1 rfl rfl)
theorem dX9_wireWith_27 : decode cX9_wireWith 27 = .ok (.aload_n 0, 1) := dk_42 (dk_at dksX9_wireWith_1 3 rfl rfl)
theorem dX9_wireWith_28 : decode cX9_wireWith 28 = .ok (.iload_n 1, 1) := dk_27 (dk_at dksX9_wireWith_1 4 rfl rfl)
theorem dX9_wireWith_29 : decode cX9_wireWith 29 = .ok (.iload_n 2, 1) := dk_28 (dk_at dksX9_wireWith_1 5 rfl rfl)
theorem dX9_wireWith_30 : decode cX9_wireWith 30 = .ok (.iload_n 3, 1) := dk_29 (dk_at dksX9_wireWith_1 6 rfl rfl)
theorem dX9_wireWith_31 : decode cX9_wireWith 31 = .ok (.invokevirtual 219, 3) := dk_182 0 219 (dk_at dksX9_wireWith_1 7 rfl rfl)
theorem dX9_wireWith_34 : decode cX9_wireWith 34 = .ok (.aload_n 0, 1) := dk_42 (dk_at dksX9_wireWith_1 10 rfl rfl)
theorem dX9_wireWith_35 : decode cX9_wireWith 35 = .ok (.invokevirtual 223, 3) := dk_182 0 223 (dk_at dksX9_wireWith_1 11 rfl rfl)
theorem dX9_wireWith_38 : decode cX9_wireWith 38 = .ok (.istore 6, 2) := dk_54 6 (dk_at dksX9_wireWith_1 14 rfl rfl)
theorem dX9_wireWith_40 : decode cX9_wireWith 40 = .ok (.aload_n 0, 1) := dk_42 (dk_at dksX9_wireWith_1 16 rfl rfl)
theorem dX9_wireWith_41 : decode cX9_wireWith 41 = .ok (.iload_n 1, 1) := dk_27 (dk_at dksX9_wireWith_1 17 rfl rfl)
theorem dX9_wireWith_42 : decode cX9_wireWith 42 = .ok (.iload 4, 2) := dk_21 4 (dk_at dksX9_wireWith_1 18 rfl rfl)
theorem dX9_wireWith_44 : decode cX9_wireWith 44 = .ok (.iload 5, 2) := dk_21 5 (dk_at dksX9_wireWith_1 20 rfl rfl)
theorem dX9_wireWith_46 : decode cX9_wireWith 46 = .ok (.invokevirtual 219, 3) := dk_182 0 219 (dk_at dksX9_wireWith_2 0 rfl rfl)
theorem dX9_wireWith_49 : decode cX9_wireWith 49 = .ok (.iload 6, 2) := dk_21 6 (dk_at dksX9_wireWith_2 3 rfl rfl)
theorem dX9_wireWith_51 : decode cX9_wireWith 51 = .ok (.ireturn, 1) := dk_172 (dk_at dksX9_wireWith_2 5 rfl rfl)
abbrev cX9_best : ByteArray := prog_15_method_132_code
def yX9_best : MethodName := ⟨RX9, "best", "(II)I"⟩
def dkwX9_best_6 : List UInt8 := [29, 167, 0, 15, 28, 4, 160, 0, 8, 21, 4, 167, 0, 5, 21, 5, 172]
abbrev dktX9_best_6 : List UInt8 := dkwX9_best_6 ++ []
def dkwX9_best_5 : List UInt8 := [21, 5, 162, 0, 8, 21, 7, 167, 0, 5, 21, 5, 54, 5, 132, 6, 1, 167, 255, 172, 28, 154, 0, 7]
abbrev dktX9_best_5 : List UInt8 := dkwX9_best_5 ++ dktX9_best_6
def dkwX9_best_4 : List UInt8 := [167, 0, 4, 29, 62, 21, 7, 21, 5, 163, 0, 8, 21, 6, 167, 0, 5, 21, 4, 54, 4, 21, 7]
abbrev dktX9_best_4 : List UInt8 := dkwX9_best_4 ++ dktX9_best_5
def dkwX9_best_3 : List UInt8 := [184, 0, 112, 8, 96, 46, 21, 6, 182, 1, 217, 54, 7, 21, 7, 21, 5, 162, 0, 8, 21, 6]
abbrev dktX9_best_3 : List UInt8 := dkwX9_best_3 ++ dktX9_best_4
def dkwX9_best_2 : List UInt8 := [21, 6, 42, 27, 182, 0, 137, 96, 42, 180, 0, 89, 163, 0, 75, 42, 27, 42, 180, 0, 16, 27]
abbrev dktX9_best_2 : List UInt8 := dkwX9_best_2 ++ dktX9_best_3
def dkwX9_best_1 : List UInt8 := [20, 1, 142, 184, 0, 122, 154, 0, 5, 2, 172, 2, 62, 2, 54, 4, 18, 240, 54, 5, 3, 54, 6]
abbrev dktX9_best_1 : List UInt8 := dkwX9_best_1 ++ dktX9_best_2
def dkwX9_best_0 : List UInt8 := [42, 3, 181, 0, 92, 42, 27, 182, 0, 154, 153, 0, 23, 42, 27, 182, 0, 119, 153, 0, 15, 28, 133, 9]
abbrev dktX9_best_0 : List UInt8 := dkwX9_best_0 ++ dktX9_best_1
theorem dksX9_best_0 : cX9_best.data.toList.drop 0 = dktX9_best_0 := by decide +kernel
theorem dksX9_best_1 : cX9_best.data.toList.drop 24 = dktX9_best_1 := dk_seg dksX9_best_0 24 rfl rfl
theorem dksX9_best_2 : cX9_best.data.toList.drop 47 = dktX9_best_2 := dk_seg dksX9_best_1 23 rfl rfl
theorem dksX9_best_3 : cX9_best.data.toList.drop 69 = dktX9_best_3 := dk_seg dksX9_best_2 22 rfl rfl
theorem dksX9_best_4 : cX9_best.data.toList.drop 91 = dktX9_best_4 := dk_seg dksX9_best_3 22 rfl rfl
theorem dksX9_best_5 : cX9_best.data.toList.drop 114 = dktX9_best_5 := dk_seg dksX9_best_4 23 rfl rfl
theorem dksX9_best_6 : cX9_best.data.toList.drop 138 = dktX9_best_6 := dk_seg dksX9_best_5 24 rfl rfl
theorem dX9_best_0 : decode cX9_best 0 = .ok (.aload_n 0, 1) := dk_42 (dk_at dksX9_best_0 0 rfl rfl)
theorem dX9_best_1 : decode cX9_best 1 = .ok (.iconst 0, 1) := dk_3 (dk_at dksX9_best_0 1 rfl rfl)
theorem dX9_best_2 : decode cX9_best 2 = .ok (.putfield 92, 3) := dk_181 0 92 (dk_at dksX9_best_0 2 rfl rfl)
theorem dX9_best_5 : decode cX9_best 5 = .ok (.aload_n 0, 1) := dk_42 (dk_at dksX9_best_0 5 rfl rfl)
theorem dX9_best_6 : decode cX9_best 6 = .ok (.iload_n 1, 1) := dk_27 (dk_at dksX9_best_0 6 rfl rfl)
theorem dX9_best_7 : decode cX9_best 7 = .ok (.invokevirtual 154, 3) := dk_182 0 154 (dk_at dksX9_best_0 7 rfl rfl)
theorem dX9_best_10 : decode cX9_best 10 = .ok (.ifCond .eq 23, 3) := dk_153 0 23 (dk_at dksX9_best_0 10 rfl rfl)
theorem dX9_best_13 : decode cX9_best 13 = .ok (.aload_n 0, 1) := dk_42 (dk_at dksX9_best_0 13 rfl rfl)
theorem dX9_best_14 : decode cX9_best 14 = .ok (.iload_n 1, 1) := dk_27 (dk_at dksX9_best_0 14 rfl rfl)
theorem dX9_best_15 : decode cX9_best 15 = .ok (.invokevirtual 119, 3) := dk_182 0 119 (dk_at dksX9_best_0 15 rfl rfl)
theorem dX9_best_18 : decode cX9_best 18 = .ok (.ifCond .eq 15, 3) := dk_153 0 15 (dk_at dksX9_best_0 18 rfl rfl)
theorem dX9_best_21 : decode cX9_best 21 = .ok (.iload_n 2, 1) := dk_28 (dk_at dksX9_best_0 21 rfl rfl)
theorem dX9_best_22 : decode cX9_best 22 = .ok (.i2l, 1) := dk_133 (dk_at dksX9_best_0 22 rfl rfl)
theorem dX9_best_23 : decode cX9_best 23 = .ok (.lconst 0, 1) := dk_9 (dk_at dksX9_best_0 23 rfl rfl)
theorem dX9_best_24 : decode cX9_best 24 = .ok (.ldc2_w 398, 3) := dk_20 1 142 (dk_at dksX9_best_1 0 rfl rfl)
theorem dX9_best_27 : decode cX9_best 27 = .ok (.invokestatic 122, 3) := dk_184 0 122 (dk_at dksX9_best_1 3 rfl rfl)
theorem dX9_best_30 : decode cX9_best 30 = .ok (.ifCond .ne 5, 3) := dk_154 0 5 (dk_at dksX9_best_1 6 rfl rfl)
theorem dX9_best_33 : decode cX9_best 33 = .ok (.iconst (-1), 1) := dk_2 (dk_at dksX9_best_1 9 rfl rfl)
theorem dX9_best_34 : decode cX9_best 34 = .ok (.ireturn, 1) := dk_172 (dk_at dksX9_best_1 10 rfl rfl)
theorem dX9_best_35 : decode cX9_best 35 = .ok (.iconst (-1), 1) := dk_2 (dk_at dksX9_best_1 11 rfl rfl)
theorem dX9_best_36 : decode cX9_best 36 = .ok (.istore_n 3, 1) := dk_62 (dk_at dksX9_best_1 12 rfl rfl)
theorem dX9_best_37 : decode cX9_best 37 = .ok (.iconst (-1), 1) := dk_2 (dk_at dksX9_best_1 13 rfl rfl)
theorem dX9_best_38 : decode cX9_best 38 = .ok (.istore 4, 2) := dk_54 4 (dk_at dksX9_best_1 14 rfl rfl)
theorem dX9_best_40 : decode cX9_best 40 = .ok (.ldc 240, 2) := dk_18 240 (dk_at dksX9_best_1 16 rfl rfl)
theorem dX9_best_42 : decode cX9_best 42 = .ok (.istore 5, 2) := dk_54 5 (dk_at dksX9_best_1 18 rfl rfl)
theorem dX9_best_44 : decode cX9_best 44 = .ok (.iconst 0, 1) := dk_3 (dk_at dksX9_best_1 20 rfl rfl)
theorem dX9_best_45 : decode cX9_best 45 = .ok (.istore 6, 2) := dk_54 6 (dk_at dksX9_best_1 21 rfl rfl)
theorem dX9_best_47 : decode cX9_best 47 = .ok (.iload 6, 2) := dk_21 6 (dk_at dksX9_best_2 0 rfl rfl)
theorem dX9_best_49 : decode cX9_best 49 = .ok (.aload_n 0, 1) := dk_42 (dk_at dksX9_best_2 2 rfl rfl)
theorem dX9_best_50 : decode cX9_best 50 = .ok (.iload_n 1, 1) := dk_27 (dk_at dksX9_best_2 3 rfl rfl)
theorem dX9_best_51 : decode cX9_best 51 = .ok (.invokevirtual 137, 3) := dk_182 0 137 (dk_at dksX9_best_2 4 rfl rfl)
theorem dX9_best_54 : decode cX9_best 54 = .ok (.iadd, 1) := dk_96 (dk_at dksX9_best_2 7 rfl rfl)
theorem dX9_best_55 : decode cX9_best 55 = .ok (.aload_n 0, 1) := dk_42 (dk_at dksX9_best_2 8 rfl rfl)
theorem dX9_best_56 : decode cX9_best 56 = .ok (.getfield 89, 3) := dk_180 0 89 (dk_at dksX9_best_2 9 rfl rfl)
theorem dX9_best_59 : decode cX9_best 59 = .ok (.if_icmp .gt 75, 3) := dk_163 0 75 (dk_at dksX9_best_2 12 rfl rfl)
theorem dX9_best_62 : decode cX9_best 62 = .ok (.aload_n 0, 1) := dk_42 (dk_at dksX9_best_2 15 rfl rfl)
theorem dX9_best_63 : decode cX9_best 63 = .ok (.iload_n 1, 1) := dk_27 (dk_at dksX9_best_2 16 rfl rfl)
theorem dX9_best_64 : decode cX9_best 64 = .ok (.aload_n 0, 1) := dk_42 (dk_at dksX9_best_2 17 rfl rfl)
theorem dX9_best_65 : decode cX9_best 65 = .ok (.getfield 16, 3) := dk_180 0 16 (dk_at dksX9_best_2 18 rfl rfl)
theorem dX9_best_68 : decode cX9_best 68 = .ok (.iload_n 1, 1) := dk_27 (dk_at dksX9_best_2 21 rfl rfl)
theorem dX9_best_69 : decode cX9_best 69 = .ok (.invokestatic 112, 3) := dk_184 0 112 (dk_at dksX9_best_3 0 rfl rfl)
theorem dX9_best_72 : decode cX9_best 72 = .ok (.iconst 5, 1) := dk_8 (dk_at dksX9_best_3 3 rfl rfl)
theorem dX9_best_73 : decode cX9_best 73 = .ok (.iadd, 1) := dk_96 (dk_at dksX9_best_3 4 rfl rfl)
theorem dX9_best_74 : decode cX9_best 74 = .ok (.iaload, 1) := dk_46 (dk_at dksX9_best_3 5 rfl rfl)
theorem dX9_best_75 : decode cX9_best 75 = .ok (.iload 6, 2) := dk_21 6 (dk_at dksX9_best_3 6 rfl rfl)
theorem dX9_best_77 : decode cX9_best 77 = .ok (.invokevirtual 473, 3) := dk_182 1 217 (dk_at dksX9_best_3 8 rfl rfl)
theorem dX9_best_80 : decode cX9_best 80 = .ok (.istore 7, 2) := dk_54 7 (dk_at dksX9_best_3 11 rfl rfl)
theorem dX9_best_82 : decode cX9_best 82 = .ok (.iload 7, 2) := dk_21 7 (dk_at dksX9_best_3 13 rfl rfl)
theorem dX9_best_84 : decode cX9_best 84 = .ok (.iload 5, 2) := dk_21 5 (dk_at dksX9_best_3 15 rfl rfl)
theorem dX9_best_86 : decode cX9_best 86 = .ok (.if_icmp .ge 8, 3) := dk_162 0 8 (dk_at dksX9_best_3 17 rfl rfl)
theorem dX9_best_89 : decode cX9_best 89 = .ok (.iload 6, 2) := dk_21 6 (dk_at dksX9_best_3 20 rfl rfl)
theorem dX9_best_91 : decode cX9_best 91 = .ok (.goto 4, 3) := dk_167 0 4 (dk_at dksX9_best_4 0 rfl rfl)
theorem dX9_best_94 : decode cX9_best 94 = .ok (.iload_n 3, 1) := dk_29 (dk_at dksX9_best_4 3 rfl rfl)
theorem dX9_best_95 : decode cX9_best 95 = .ok (.istore_n 3, 1) := dk_62 (dk_at dksX9_best_4 4 rfl rfl)
theorem dX9_best_96 : decode cX9_best 96 = .ok (.iload 7, 2) := dk_21 7 (dk_at dksX9_best_4 5 rfl rfl)
theorem dX9_best_98 : decode cX9_best 98 = .ok (.iload 5, 2) := dk_21 5 (dk_at dksX9_best_4 7 rfl rfl)
theorem dX9_best_100 : decode cX9_best 100 = .ok (.if_icmp .gt 8, 3) := dk_163 0 8 (dk_at dksX9_best_4 9 rfl rfl)
theorem dX9_best_103 : decode cX9_best 103 = .ok (.iload 6, 2) := dk_21 6 (dk_at dksX9_best_4 12 rfl rfl)
theorem dX9_best_105 : decode cX9_best 105 = .ok (.goto 5, 3) := dk_167 0 5 (dk_at dksX9_best_4 14 rfl rfl)
theorem dX9_best_108 : decode cX9_best 108 = .ok (.iload 4, 2) := dk_21 4 (dk_at dksX9_best_4 17 rfl rfl)
theorem dX9_best_110 : decode cX9_best 110 = .ok (.istore 4, 2) := dk_54 4 (dk_at dksX9_best_4 19 rfl rfl)
theorem dX9_best_112 : decode cX9_best 112 = .ok (.iload 7, 2) := dk_21 7 (dk_at dksX9_best_4 21 rfl rfl)
theorem dX9_best_114 : decode cX9_best 114 = .ok (.iload 5, 2) := dk_21 5 (dk_at dksX9_best_5 0 rfl rfl)
theorem dX9_best_116 : decode cX9_best 116 = .ok (.if_icmp .ge 8, 3) := dk_162 0 8 (dk_at dksX9_best_5 2 rfl rfl)
theorem dX9_best_119 : decode cX9_best 119 = .ok (.iload 7, 2) := dk_21 7 (dk_at dksX9_best_5 5 rfl rfl)
theorem dX9_best_121 : decode cX9_best 121 = .ok (.goto 5, 3) := dk_167 0 5 (dk_at dksX9_best_5 7 rfl rfl)
theorem dX9_best_124 : decode cX9_best 124 = .ok (.iload 5, 2) := dk_21 5 (dk_at dksX9_best_5 10 rfl rfl)
theorem dX9_best_126 : decode cX9_best 126 = .ok (.istore 5, 2) := dk_54 5 (dk_at dksX9_best_5 12 rfl rfl)
theorem dX9_best_128 : decode cX9_best 128 = .ok (.iinc 6 1, 3) := dk_132 6 1 (dk_at dksX9_best_5 14 rfl rfl)
theorem dX9_best_131 : decode cX9_best 131 = .ok (.goto (-84), 3) := dk_167 255 172 (dk_at dksX9_best_5 17 rfl rfl)
theorem dX9_best_134 : decode cX9_best 134 = .ok (.iload_n 2, 1) := dk_28 (dk_at dksX9_best_5 20 rfl rfl)
theorem dX9_best_135 : decode cX9_best 135 = .ok (.ifCond .ne 7, 3) := dk_154 0 7 (dk_at dksX9_best_5 21 rfl rfl)
theorem dX9_best_138 : decode cX9_best 138 = .ok (.iload_n 3, 1) := dk_29 (dk_at dksX9_best_6 0 rfl rfl)
theorem dX9_best_139 : decode cX9_best 139 = .ok (.goto 15, 3) := dk_167 0 15 (dk_at dksX9_best_6 1 rfl rfl)
theorem dX9_best_142 : decode cX9_best 142 = .ok (.iload_n 2, 1) := dk_28 (dk_at dksX9_best_6 4 rfl rfl)
theorem dX9_best_143 : decode cX9_best 143 = .ok (.iconst 1, 1) := dk_4 (dk_at dksX9_best_6 5 rfl rfl)
theorem dX9_best_144 : decode cX9_best 144 = .ok (.if_icmp .ne 8, 3) := dk_160 0 8 (dk_at dksX9_best_6 6 rfl rfl)
theorem dX9_best_147 : decode cX9_best 147 = .ok (.iload 4, 2) := dk_21 4 (dk_at dksX9_best_6 9 rfl rfl)
theorem dX9_best_149 : decode cX9_best 149 = .ok (.goto 5, 3) := dk_167 0 5 (dk_at dksX9_best_6 11 rfl rfl)
theorem dX9_best_152 : decode cX9_best 152 = .ok (.iload 5, 2) := dk_21 5 (dk_at dksX9_best_6 14 rfl rfl)
theorem dX9_best_154 : decode cX9_best 154 = .ok (.ireturn, 1) := dk_172 (dk_at dksX9_best_6 16 rfl rfl)
abbrev cX9_fillers : ByteArray := prog_15_method_133_code
def yX9_fillers : MethodName := ⟨RX9, "fillers", "(I)I"⟩
def dkwX9_fillers_6 : List UInt8 := [3, 54, 4, 132, 5, 1, 167, 255, 157, 132, 3, 1, 167, 255, 132, 28, 172]
abbrev dktX9_fillers_6 : List UInt8 := dkwX9_fillers_6 ++ []
def dkwX9_fillers_5 : List UInt8 := [108, 167, 0, 21, 27, 5, 160, 0, 12, 21, 4, 7, 112, 5, 108, 167, 0, 7, 21, 4, 5, 112, 96, 61]
abbrev dktX9_fillers_5 : List UInt8 := dkwX9_fillers_5 ++ dktX9_fillers_6
def dkwX9_fillers_4 : List UInt8 := [2, 3, 182, 0, 150, 2, 160, 0, 9, 132, 4, 1, 167, 0, 39, 28, 27, 7, 160, 0, 10, 21, 4, 7]
abbrev dktX9_fillers_4 : List UInt8 := dkwX9_fillers_4 ++ dktX9_fillers_5
def dkwX9_fillers_3 : List UInt8 := [180, 0, 40, 29, 46, 42, 180, 0, 43, 29, 46, 96, 162, 0, 27, 42, 42, 180, 0, 34, 29, 46, 21, 5]
abbrev dktX9_fillers_3 : List UInt8 := dkwX9_fillers_3 ++ dktX9_fillers_4
def dkwX9_fillers_2 : List UInt8 := [54, 5, 21, 5, 42, 180, 0, 40, 29, 46, 42, 180, 0, 43, 29, 46, 96, 163, 0, 87, 21, 5, 42]
abbrev dktX9_fillers_2 : List UInt8 := dkwX9_fillers_2 ++ dktX9_fillers_3
def dkwX9_fillers_1 : List UInt8 := [182, 1, 103, 3, 61, 3, 62, 29, 42, 180, 1, 73, 162, 0, 122, 3, 54, 4, 42, 180, 0, 40, 29, 46]
abbrev dktX9_fillers_1 : List UInt8 := dkwX9_fillers_1 ++ dktX9_fillers_2
def dkwX9_fillers_0 : List UInt8 := [42, 3, 181, 0, 92, 27, 7, 159, 0, 15, 27, 5, 159, 0, 10, 27, 4, 159, 0, 5, 2, 172, 42]
abbrev dktX9_fillers_0 : List UInt8 := dkwX9_fillers_0 ++ dktX9_fillers_1
theorem dksX9_fillers_0 : cX9_fillers.data.toList.drop 0 = dktX9_fillers_0 := by decide +kernel
theorem dksX9_fillers_1 : cX9_fillers.data.toList.drop 23 = dktX9_fillers_1 := dk_seg dksX9_fillers_0 23 rfl rfl
theorem dksX9_fillers_2 : cX9_fillers.data.toList.drop 47 = dktX9_fillers_2 := dk_seg dksX9_fillers_1 24 rfl rfl
theorem dksX9_fillers_3 : cX9_fillers.data.toList.drop 70 = dktX9_fillers_3 := dk_seg dksX9_fillers_2 23 rfl rfl
theorem dksX9_fillers_4 : cX9_fillers.data.toList.drop 94 = dktX9_fillers_4 := dk_seg dksX9_fillers_3 24 rfl rfl
theorem dksX9_fillers_5 : cX9_fillers.data.toList.drop 118 = dktX9_fillers_5 := dk_seg dksX9_fillers_4 24 rfl rfl
theorem dksX9_fillers_6 : cX9_fillers.data.toList.drop 142 = dktX9_fillers_6 := dk_seg dksX9_fillers_5 24 rfl rfl
theorem dX9_fillers_0 : decode cX9_fillers 0 = .ok (.aload_n 0, 1) := dk_42 (dk_at dksX9_fillers_0 0 rfl rfl)
theorem dX9_fillers_1 : decode cX9_fillers 1 = .ok (.iconst 0, 1) := dk_3 (dk_at dksX9_fillers_0 1 rfl rfl)
theorem dX9_fillers_2 : decode cX9_fillers 2 = .ok (.putfield 92, 3) := dk_181 0 92 (dk_at dksX9_fillers_0 2 rfl rfl)
theorem dX9_fillers_5 : decode cX9_fillers 5 = .ok (.iload_n 1, 1) := dk_27 (dk_at dksX9_fillers_0 5 rfl rfl)
theorem dX9_fillers_6 : decode cX9_fillers 6 = .ok (.iconst 4, 1) := dk_7 (dk_at dksX9_fillers_0 6 rfl rfl)
theorem dX9_fillers_7 : decode cX9_fillers 7 = .ok (.if_icmp .eq 15, 3) := dk_159 0 15 (dk_at dksX9_fillers_0 7 rfl rfl)
theorem dX9_fillers_10 : decode cX9_fillers 10 = .ok (.iload_n 1, 1) := dk_27 (dk_at dksX9_fillers_0 10 rfl rfl)
theorem dX9_fillers_11 : decode cX9_fillers 11 = .ok (.iconst 2, 1) := dk_5 (dk_at dksX9_fillers_0 11 rfl rfl)
theorem dX9_fillers_12 : decode cX9_fillers 12 = .ok (.if_icmp .eq 10, 3) := dk_159 0 10 (dk_at dksX9_fillers_0 12 rfl rfl)
theorem dX9_fillers_15 : decode cX9_fillers 15 = .ok (.iload_n 1, 1) := dk_27 (dk_at dksX9_fillers_0 15 rfl rfl)
theorem dX9_fillers_16 : decode cX9_fillers 16 = .ok (.iconst 1, 1) := dk_4 (dk_at dksX9_fillers_0 16 rfl rfl)
theorem dX9_fillers_17 : decode cX9_fillers 17 = .ok (.if_icmp .eq 5, 3) := dk_159 0 5 (dk_at dksX9_fillers_0 17 rfl rfl)
theorem dX9_fillers_20 : decode cX9_fillers 20 = .ok (.iconst (-1), 1) := dk_2 (dk_at dksX9_fillers_0 20 rfl rfl)
theorem dX9_fillers_21 : decode cX9_fillers 21 = .ok (.ireturn, 1) := dk_172 (dk_at dksX9_fillers_0 21 rfl rfl)
theorem dX9_fillers_22 : decode cX9_fillers 22 = .ok (.aload_n 0, 1) := dk_42 (dk_at dksX9_fillers_0 22 rfl rfl)
theorem dX9_fillers_23 : decode cX9_fillers 23 = .ok (.invokevirtual 359, 3) := dk_182 1 103 (dk_at dksX9_fillers_1 0 rfl rfl)
theorem dX9_fillers_26 : decode cX9_fillers 26 = .ok (.iconst 0, 1) := dk_3 (dk_at dksX9_fillers_1 3 rfl rfl)
theorem dX9_fillers_27 : decode cX9_fillers 27 = .ok (.istore_n 2, 1) := dk_61 (dk_at dksX9_fillers_1 4 rfl rfl)
theorem dX9_fillers_28 : decode cX9_fillers 28 = .ok (.iconst 0, 1) := dk_3 (dk_at dksX9_fillers_1 5 rfl rfl)
theorem dX9_fillers_29 : decode cX9_fillers 29 = .ok (.istore_n 3, 1) := dk_62 (dk_at dksX9_fillers_1 6 rfl rfl)
theorem dX9_fillers_30 : decode cX9_fillers 30 = .ok (.iload_n 3, 1) := dk_29 (dk_at dksX9_fillers_1 7 rfl rfl)
theorem dX9_fillers_31 : decode cX9_fillers 31 = .ok (.aload_n 0, 1) := dk_42 (dk_at dksX9_fillers_1 8 rfl rfl)
theorem dX9_fillers_32 : decode cX9_fillers 32 = .ok (.getfield 329, 3) := dk_180 1 73 (dk_at dksX9_fillers_1 9 rfl rfl)
theorem dX9_fillers_35 : decode cX9_fillers 35 = .ok (.if_icmp .ge 122, 3) := dk_162 0 122 (dk_at dksX9_fillers_1 12 rfl rfl)
theorem dX9_fillers_38 : decode cX9_fillers 38 = .ok (.iconst 0, 1) := dk_3 (dk_at dksX9_fillers_1 15 rfl rfl)
theorem dX9_fillers_39 : decode cX9_fillers 39 = .ok (.istore 4, 2) := dk_54 4 (dk_at dksX9_fillers_1 16 rfl rfl)
theorem dX9_fillers_41 : decode cX9_fillers 41 = .ok (.aload_n 0, 1) := dk_42 (dk_at dksX9_fillers_1 18 rfl rfl)
theorem dX9_fillers_42 : decode cX9_fillers 42 = .ok (.getfield 40, 3) := dk_180 0 40 (dk_at dksX9_fillers_1 19 rfl rfl)
theorem dX9_fillers_45 : decode cX9_fillers 45 = .ok (.iload_n 3, 1) := dk_29 (dk_at dksX9_fillers_1 22 rfl rfl)
theorem dX9_fillers_46 : decode cX9_fillers 46 = .ok (.iaload, 1) := dk_46 (dk_at dksX9_fillers_1 23 rfl rfl)
theorem dX9_fillers_47 : decode cX9_fillers 47 = .ok (.istore 5, 2) := dk_54 5 (dk_at dksX9_fillers_2 0 rfl rfl)
theorem dX9_fillers_49 : decode cX9_fillers 49 = .ok (.iload 5, 2) := dk_21 5 (dk_at dksX9_fillers_2 2 rfl rfl)
theorem dX9_fillers_51 : decode cX9_fillers 51 = .ok (.aload_n 0, 1) := dk_42 (dk_at dksX9_fillers_2 4 rfl rfl)
theorem dX9_fillers_52 : decode cX9_fillers 52 = .ok (.getfield 40, 3) := dk_180 0 40 (dk_at dksX9_fillers_2 5 rfl rfl)
theorem dX9_fillers_55 : decode cX9_fillers 55 = .ok (.iload_n 3, 1) := dk_29 (dk_at dksX9_fillers_2 8 rfl rfl)
theorem dX9_fillers_56 : decode cX9_fillers 56 = .ok (.iaload, 1) := dk_46 (dk_at dksX9_fillers_2 9 rfl rfl)
theorem dX9_fillers_57 : decode cX9_fillers 57 = .ok (.aload_n 0, 1) := dk_42 (dk_at dksX9_fillers_2 10 rfl rfl)
theorem dX9_fillers_58 : decode cX9_fillers 58 = .ok (.getfield 43, 3) := dk_180 0 43 (dk_at dksX9_fillers_2 11 rfl rfl)
theorem dX9_fillers_61 : decode cX9_fillers 61 = .ok (.iload_n 3, 1) := dk_29 (dk_at dksX9_fillers_2 14 rfl rfl)
theorem dX9_fillers_62 : decode cX9_fillers 62 = .ok (.iaload, 1) := dk_46 (dk_at dksX9_fillers_2 15 rfl rfl)
theorem dX9_fillers_63 : decode cX9_fillers 63 = .ok (.iadd, 1) := dk_96 (dk_at dksX9_fillers_2 16 rfl rfl)
theorem dX9_fillers_64 : decode cX9_fillers 64 = .ok (.if_icmp .gt 87, 3) := dk_163 0 87 (dk_at dksX9_fillers_2 17 rfl rfl)
theorem dX9_fillers_67 : decode cX9_fillers 67 = .ok (.iload 5, 2) := dk_21 5 (dk_at dksX9_fillers_2 20 rfl rfl)
theorem dX9_fillers_69 : decode cX9_fillers 69 = .ok (.aload_n 0, 1) := dk_42 (dk_at dksX9_fillers_2 22 rfl rfl)
theorem dX9_fillers_70 : decode cX9_fillers 70 = .ok (.getfield 40, 3) := dk_180 0 40 (dk_at dksX9_fillers_3 0 rfl rfl)
theorem dX9_fillers_73 : decode cX9_fillers 73 = .ok (.iload_n 3, 1) := dk_29 (dk_at dksX9_fillers_3 3 rfl rfl)
theorem dX9_fillers_74 : decode cX9_fillers 74 = .ok (.iaload, 1) := dk_46 (dk_at dksX9_fillers_3 4 rfl rfl)
theorem dX9_fillers_75 : decode cX9_fillers 75 = .ok (.aload_n 0, 1) := dk_42 (dk_at dksX9_fillers_3 5 rfl rfl)
theorem dX9_fillers_76 : decode cX9_fillers 76 = .ok (.getfield 43, 3) := dk_180 0 43 (dk_at dksX9_fillers_3 6 rfl rfl)
theorem dX9_fillers_79 : decode cX9_fillers 79 = .ok (.iload_n 3, 1) := dk_29 (dk_at dksX9_fillers_3 9 rfl rfl)
theorem dX9_fillers_80 : decode cX9_fillers 80 = .ok (.iaload, 1) := dk_46 (dk_at dksX9_fillers_3 10 rfl rfl)
theorem dX9_fillers_81 : decode cX9_fillers 81 = .ok (.iadd, 1) := dk_96 (dk_at dksX9_fillers_3 11 rfl rfl)
theorem dX9_fillers_82 : decode cX9_fillers 82 = .ok (.if_icmp .ge 27, 3) := dk_162 0 27 (dk_at dksX9_fillers_3 12 rfl rfl)
theorem dX9_fillers_85 : decode cX9_fillers 85 = .ok (.aload_n 0, 1) := dk_42 (dk_at dksX9_fillers_3 15 rfl rfl)
theorem dX9_fillers_86 : decode cX9_fillers 86 = .ok (.aload_n 0, 1) := dk_42 (dk_at dksX9_fillers_3 16 rfl rfl)
theorem dX9_fillers_87 : decode cX9_fillers 87 = .ok (.getfield 34, 3) := dk_180 0 34 (dk_at dksX9_fillers_3 17 rfl rfl)
theorem dX9_fillers_90 : decode cX9_fillers 90 = .ok (.iload_n 3, 1) := dk_29 (dk_at dksX9_fillers_3 20 rfl rfl)
theorem dX9_fillers_91 : decode cX9_fillers 91 = .ok (.iaload, 1) := dk_46 (dk_at dksX9_fillers_3 21 rfl rfl)
theorem dX9_fillers_92 : decode cX9_fillers 92 = .ok (.iload 5, 2) := dk_21 5 (dk_at dksX9_fillers_3 22 rfl rfl)
theorem dX9_fillers_94 : decode cX9_fillers 94 = .ok (.iconst (-1), 1) := dk_2 (dk_at dksX9_fillers_4 0 rfl rfl)
theorem dX9_fillers_95 : decode cX9_fillers 95 = .ok (.iconst 0, 1) := dk_3 (dk_at dksX9_fillers_4 1 rfl rfl)
theorem dX9_fillers_96 : decode cX9_fillers 96 = .ok (.invokevirtual 150, 3) := dk_182 0 150 (dk_at dksX9_fillers_4 2 rfl rfl)
theorem dX9_fillers_99 : decode cX9_fillers 99 = .ok (.iconst (-1), 1) := dk_2 (dk_at dksX9_fillers_4 5 rfl rfl)
theorem dX9_fillers_100 : decode cX9_fillers 100 = .ok (.if_icmp .ne 9, 3) := dk_160 0 9 (dk_at dksX9_fillers_4 6 rfl rfl)
theorem dX9_fillers_103 : decode cX9_fillers 103 = .ok (.iinc 4 1, 3) := dk_132 4 1 (dk_at dksX9_fillers_4 9 rfl rfl)
theorem dX9_fillers_106 : decode cX9_fillers 106 = .ok (.goto 39, 3) := dk_167 0 39 (dk_at dksX9_fillers_4 12 rfl rfl)
theorem dX9_fillers_109 : decode cX9_fillers 109 = .ok (.iload_n 2, 1) := dk_28 (dk_at dksX9_fillers_4 15 rfl rfl)
theorem dX9_fillers_110 : decode cX9_fillers 110 = .ok (.iload_n 1, 1) := dk_27 (dk_at dksX9_fillers_4 16 rfl rfl)
theorem dX9_fillers_111 : decode cX9_fillers 111 = .ok (.iconst 4, 1) := dk_7 (dk_at dksX9_fillers_4 17 rfl rfl)
theorem dX9_fillers_112 : decode cX9_fillers 112 = .ok (.if_icmp .ne 10, 3) := dk_160 0 10 (dk_at dksX9_fillers_4 18 rfl rfl)
theorem dX9_fillers_115 : decode cX9_fillers 115 = .ok (.iload 4, 2) := dk_21 4 (dk_at dksX9_fillers_4 21 rfl rfl)
theorem dX9_fillers_117 : decode cX9_fillers 117 = .ok (.iconst 4, 1) := dk_7 (dk_at dksX9_fillers_4 23 rfl rfl)
theorem dX9_fillers_118 : decode cX9_fillers 118 = .ok (.idiv, 1) := dk_108 (dk_at dksX9_fillers_5 0 rfl rfl)
theorem dX9_fillers_119 : decode cX9_fillers 119 = .ok (.goto 21, 3) := dk_167 0 21 (dk_at dksX9_fillers_5 1 rfl rfl)
theorem dX9_fillers_122 : decode cX9_fillers 122 = .ok (.iload_n 1, 1) := dk_27 (dk_at dksX9_fillers_5 4 rfl rfl)
theorem dX9_fillers_123 : decode cX9_fillers 123 = .ok (.iconst 2, 1) := dk_5 (dk_at dksX9_fillers_5 5 rfl rfl)
theorem dX9_fillers_124 : decode cX9_fillers 124 = .ok (.if_icmp .ne 12, 3) := dk_160 0 12 (dk_at dksX9_fillers_5 6 rfl rfl)
theorem dX9_fillers_127 : decode cX9_fillers 127 = .ok (.iload 4, 2) := dk_21 4 (dk_at dksX9_fillers_5 9 rfl rfl)
theorem dX9_fillers_129 : decode cX9_fillers 129 = .ok (.iconst 4, 1) := dk_7 (dk_at dksX9_fillers_5 11 rfl rfl)
theorem dX9_fillers_130 : decode cX9_fillers 130 = .ok (.irem, 1) := dk_112 (dk_at dksX9_fillers_5 12 rfl rfl)
theorem dX9_fillers_131 : decode cX9_fillers 131 = .ok (.iconst 2, 1) := dk_5 (dk_at dksX9_fillers_5 13 rfl rfl)
theorem dX9_fillers_132 : decode cX9_fillers 132 = .ok (.idiv, 1) := dk_108 (dk_at dksX9_fillers_5 14 rfl rfl)
theorem dX9_fillers_133 : decode cX9_fillers 133 = .ok (.goto 7, 3) := dk_167 0 7 (dk_at dksX9_fillers_5 15 rfl rfl)
theorem dX9_fillers_136 : decode cX9_fillers 136 = .ok (.iload 4, 2) := dk_21 4 (dk_at dksX9_fillers_5 18 rfl rfl)
theorem dX9_fillers_138 : decode cX9_fillers 138 = .ok (.iconst 2, 1) := dk_5 (dk_at dksX9_fillers_5 20 rfl rfl)
theorem dX9_fillers_139 : decode cX9_fillers 139 = .ok (.irem, 1) := dk_112 (dk_at dksX9_fillers_5 21 rfl rfl)
theorem dX9_fillers_140 : decode cX9_fillers 140 = .ok (.iadd, 1) := dk_96 (dk_at dksX9_fillers_5 22 rfl rfl)
theorem dX9_fillers_141 : decode cX9_fillers 141 = .ok (.istore_n 2, 1) := dk_61 (dk_at dksX9_fillers_5 23 rfl rfl)
theorem dX9_fillers_142 : decode cX9_fillers 142 = .ok (.iconst 0, 1) := dk_3 (dk_at dksX9_fillers_6 0 rfl rfl)
theorem dX9_fillers_143 : decode cX9_fillers 143 = .ok (.istore 4, 2) := dk_54 4 (dk_at dksX9_fillers_6 1 rfl rfl)
theorem dX9_fillers_145 : decode cX9_fillers 145 = .ok (.iinc 5 1, 3) := dk_132 5 1 (dk_at dksX9_fillers_6 3 rfl rfl)
theorem dX9_fillers_148 : decode cX9_fillers 148 = .ok (.goto (-99), 3) := dk_167 255 157 (dk_at dksX9_fillers_6 6 rfl rfl)
theorem dX9_fillers_151 : decode cX9_fillers 151 = .ok (.iinc 3 1, 3) := dk_132 3 1 (dk_at dksX9_fillers_6 9 rfl rfl)
theorem dX9_fillers_154 : decode cX9_fillers 154 = .ok (.goto (-124), 3) := dk_167 255 132 (dk_at dksX9_fillers_6 12 rfl rfl)
theorem dX9_fillers_157 : decode cX9_fillers 157 = .ok (.iload_n 2, 1) := dk_28 (dk_at dksX9_fillers_6 15 rfl rfl)
theorem dX9_fillers_158 : decode cX9_fillers 158 = .ok (.ireturn, 1) := dk_172 (dk_at dksX9_fillers_6 16 rfl rfl)
abbrev cX9_count : ByteArray := prog_15_method_134_code
def yX9_count : MethodName := ⟨RX9, "count", "(I)I"⟩
def dkwX9_count_6 : List UInt8 := [20, 1, 222, 184, 0, 122, 153, 0, 15, 42, 180, 0, 13, 27, 16, 14, 100, 46, 167, 0, 4, 2, 172]
abbrev dktX9_count_6 : List UInt8 := dkwX9_count_6 ++ []
def dkwX9_count_5 : List UInt8 := [46, 172, 42, 180, 0, 7, 8, 46, 172, 42, 180, 0, 7, 16, 6, 46, 172, 27, 133, 20, 1, 220]
abbrev dktX9_count_5 : List UInt8 := dkwX9_count_5 ++ dktX9_count_6
def dkwX9_count_4 : List UInt8 := [42, 180, 0, 170, 172, 42, 180, 0, 7, 4, 46, 172, 42, 180, 0, 7, 5, 46, 172, 42, 180, 0, 7, 7]
abbrev dktX9_count_4 : List UInt8 := dkwX9_count_4 ++ dktX9_count_5
def dkwX9_count_3 : List UInt8 := [42, 180, 0, 16, 5, 46, 172, 42, 180, 0, 16, 6, 46, 172, 42, 182, 1, 23, 172, 42, 180, 0, 98, 172]
abbrev dktX9_count_3 : List UInt8 := dkwX9_count_3 ++ dktX9_count_4
def dkwX9_count_2 : List UInt8 := [42, 180, 0, 85, 172, 42, 180, 0, 89, 172, 42, 180, 0, 16, 3, 46, 172, 42, 180, 0, 16, 4, 46, 172]
abbrev dktX9_count_2 : List UInt8 := dkwX9_count_2 ++ dktX9_count_3
def dkwX9_count_1 : List UInt8 := [170, 0, 0, 0, 0, 159, 0, 0, 0, 0, 0, 0, 0, 13, 0, 0, 0, 70, 0, 0, 0, 75, 0, 0, 0, 80, 0, 0, 0, 87, 0, 0, 0, 94, 0, 0, 0, 101, 0, 0, 0, 108, 0, 0, 0, 113, 0, 0, 0, 118, 0, 0, 0, 123, 0, 0, 0, 130, 0, 0, 0, 137, 0, 0, 0, 144, 0, 0, 0, 151]
abbrev dktX9_count_1 : List UInt8 := dkwX9_count_1 ++ dktX9_count_2
def dkwX9_count_0 : List UInt8 := [42, 3, 181, 0, 92, 27]
abbrev dktX9_count_0 : List UInt8 := dkwX9_count_0 ++ dktX9_count_1
theorem dksX9_count_0 : cX9_count.data.toList.drop 0 = dktX9_count_0 := by decide +kernel
theorem dksX9_count_1 : cX9_count.data.toList.drop 6 = dktX9_count_1 := dk_seg dksX9_count_0 6 rfl rfl
theorem dksX9_count_2 : cX9_count.data.toList.drop 76 = dktX9_count_2 := dk_seg dksX9_count_1 70 rfl rfl
theorem dksX9_count_3 : cX9_count.data.toList.drop 100 = dktX9_count_3 := dk_seg dksX9_count_2 24 rfl rfl
theorem dksX9_count_4 : cX9_count.data.toList.drop 124 = dktX9_count_4 := dk_seg dksX9_count_3 24 rfl rfl
theorem dksX9_count_5 : cX9_count.data.toList.drop 148 = dktX9_count_5 := dk_seg dksX9_count_4 24 rfl rfl
theorem dksX9_count_6 : cX9_count.data.toList.drop 170 = dktX9_count_6 := dk_seg dksX9_count_5 22 rfl rfl
theorem dX9_count_0 : decode cX9_count 0 = .ok (.aload_n 0, 1) := dk_42 (dk_at dksX9_count_0 0 rfl rfl)
theorem dX9_count_1 : decode cX9_count 1 = .ok (.iconst 0, 1) := dk_3 (dk_at dksX9_count_0 1 rfl rfl)
theorem dX9_count_2 : decode cX9_count 2 = .ok (.putfield 92, 3) := dk_181 0 92 (dk_at dksX9_count_0 2 rfl rfl)
theorem dX9_count_5 : decode cX9_count 5 = .ok (.iload_n 1, 1) := dk_27 (dk_at dksX9_count_0 5 rfl rfl)
theorem dX9_count_6 : decode cX9_count 6 = .ok (.tableswitch 159 0 13 #[70, 75, 80, 87, 94, 101, 108, 113, 118, 123, 130, 137, 144, 151], 70) := by decide +kernel
theorem dX9_count_76 : decode cX9_count 76 = .ok (.aload_n 0, 1) := dk_42 (dk_at dksX9_count_2 0 rfl rfl)
theorem dX9_count_77 : decode cX9_count 77 = .ok (.getfield 85, 3) := dk_180 0 85 (dk_at dksX9_count_2 1 rfl rfl)
theorem dX9_count_80 : decode cX9_count 80 = .ok (.ireturn, 1) := dk_172 (dk_at dksX9_count_2 4 rfl rfl)
theorem dX9_count_81 : decode cX9_count 81 = .ok (.aload_n 0, 1) := dk_42 (dk_at dksX9_count_2 5 rfl rfl)
theorem dX9_count_82 : decode cX9_count 82 = .ok (.getfield 89, 3) := dk_180 0 89 (dk_at dksX9_count_2 6 rfl rfl)
theorem dX9_count_85 : decode cX9_count 85 = .ok (.ireturn, 1) := dk_172 (dk_at dksX9_count_2 9 rfl rfl)
theorem dX9_count_86 : decode cX9_count 86 = .ok (.aload_n 0, 1) := dk_42 (dk_at dksX9_count_2 10 rfl rfl)
theorem dX9_count_87 : decode cX9_count 87 = .ok (.getfield 16, 3) := dk_180 0 16 (dk_at dksX9_count_2 11 rfl rfl)
theorem dX9_count_90 : decode cX9_count 90 = .ok (.iconst 0, 1) := dk_3 (dk_at dksX9_count_2 14 rfl rfl)
theorem dX9_count_91 : decode cX9_count 91 = .ok (.iaload, 1) := dk_46 (dk_at dksX9_count_2 15 rfl rfl)
theorem dX9_count_92 : decode cX9_count 92 = .ok (.ireturn, 1) := dk_172 (dk_at dksX9_count_2 16 rfl rfl)
theorem dX9_count_93 : decode cX9_count 93 = .ok (.aload_n 0, 1) := dk_42 (dk_at dksX9_count_2 17 rfl rfl)
theorem dX9_count_94 : decode cX9_count 94 = .ok (.getfield 16, 3) := dk_180 0 16 (dk_at dksX9_count_2 18 rfl rfl)
theorem dX9_count_97 : decode cX9_count 97 = .ok (.iconst 1, 1) := dk_4 (dk_at dksX9_count_2 21 rfl rfl)
theorem dX9_count_98 : decode cX9_count 98 = .ok (.iaload, 1) := dk_46 (dk_at dksX9_count_2 22 rfl rfl)
theorem dX9_count_99 : decode cX9_count 99 = .ok (.ireturn, 1) := dk_172 (dk_at dksX9_count_2 23 rfl rfl)
theorem dX9_count_100 : decode cX9_count 100 = .ok (.aload_n 0, 1) := dk_42 (dk_at dksX9_count_3 0 rfl rfl)
theorem dX9_count_101 : decode cX9_count 101 = .ok (.getfield 16, 3) := dk_180 0 16 (dk_at dksX9_count_3 1 rfl rfl)
theorem dX9_count_104 : decode cX9_count 104 = .ok (.iconst 2, 1) := dk_5 (dk_at dksX9_count_3 4 rfl rfl)
theorem dX9_count_105 : decode cX9_count 105 = .ok (.iaload, 1) := dk_46 (dk_at dksX9_count_3 5 rfl rfl)
theorem dX9_count_106 : decode cX9_count 106 = .ok (.ireturn, 1) := dk_172 (dk_at dksX9_count_3 6 rfl rfl)
theorem dX9_count_107 : decode cX9_count 107 = .ok (.aload_n 0, 1) := dk_42 (dk_at dksX9_count_3 7 rfl rfl)
theorem dX9_count_108 : decode cX9_count 108 = .ok (.getfield 16, 3) := dk_180 0 16 (dk_at dksX9_count_3 8 rfl rfl)
theorem dX9_count_111 : decode cX9_count 111 = .ok (.iconst 3, 1) := dk_6 (dk_at dksX9_count_3 11 rfl rfl)
theorem dX9_count_112 : decode cX9_count 112 = .ok (.iaload, 1) := dk_46 (dk_at dksX9_count_3 12 rfl rfl)
theorem dX9_count_113 : decode cX9_count 113 = .ok (.ireturn, 1) := dk_172 (dk_at dksX9_count_3 13 rfl rfl)
theorem dX9_count_114 : decode cX9_count 114 = .ok (.aload_n 0, 1) := dk_42 (dk_at dksX9_count_3 14 rfl rfl)
theorem dX9_count_115 : decode cX9_count 115 = .ok (.invokevirtual 279, 3) := dk_182 1 23 (dk_at dksX9_count_3 15 rfl rfl)
theorem dX9_count_118 : decode cX9_count 118 = .ok (.ireturn, 1) := dk_172 (dk_at dksX9_count_3 18 rfl rfl)
theorem dX9_count_119 : decode cX9_count 119 = .ok (.aload_n 0, 1) := dk_42 (dk_at dksX9_count_3 19 rfl rfl)
theorem dX9_count_120 : decode cX9_count 120 = .ok (.getfield 98, 3) := dk_180 0 98 (dk_at dksX9_count_3 20 rfl rfl)
theorem dX9_count_123 : decode cX9_count 123 = .ok (.ireturn, 1) := dk_172 (dk_at dksX9_count_3 23 rfl rfl)
theorem dX9_count_124 : decode cX9_count 124 = .ok (.aload_n 0, 1) := dk_42 (dk_at dksX9_count_4 0 rfl rfl)
theorem dX9_count_125 : decode cX9_count 125 = .ok (.getfield 170, 3) := dk_180 0 170 (dk_at dksX9_count_4 1 rfl rfl)
theorem dX9_count_128 : decode cX9_count 128 = .ok (.ireturn, 1) := dk_172 (dk_at dksX9_count_4 4 rfl rfl)
theorem dX9_count_129 : decode cX9_count 129 = .ok (.aload_n 0, 1) := dk_42 (dk_at dksX9_count_4 5 rfl rfl)
theorem dX9_count_130 : decode cX9_count 130 = .ok (.getfield 7, 3) := dk_180 0 7 (dk_at dksX9_count_4 6 rfl rfl)
theorem dX9_count_133 : decode cX9_count 133 = .ok (.iconst 1, 1) := dk_4 (dk_at dksX9_count_4 9 rfl rfl)
theorem dX9_count_134 : decode cX9_count 134 = .ok (.iaload, 1) := dk_46 (dk_at dksX9_count_4 10 rfl rfl)
theorem dX9_count_135 : decode cX9_count 135 = .ok (.ireturn, 1) := dk_172 (dk_at dksX9_count_4 11 rfl rfl)
theorem dX9_count_136 : decode cX9_count 136 = .ok (.aload_n 0, 1) := dk_42 (dk_at dksX9_count_4 12 rfl rfl)
theorem dX9_count_137 : decode cX9_count 137 = .ok (.getfield 7, 3) := dk_180 0 7 (dk_at dksX9_count_4 13 rfl rfl)
theorem dX9_count_140 : decode cX9_count 140 = .ok (.iconst 2, 1) := dk_5 (dk_at dksX9_count_4 16 rfl rfl)
theorem dX9_count_141 : decode cX9_count 141 = .ok (.iaload, 1) := dk_46 (dk_at dksX9_count_4 17 rfl rfl)
theorem dX9_count_142 : decode cX9_count 142 = .ok (.ireturn, 1) := dk_172 (dk_at dksX9_count_4 18 rfl rfl)
theorem dX9_count_143 : decode cX9_count 143 = .ok (.aload_n 0, 1) := dk_42 (dk_at dksX9_count_4 19 rfl rfl)
theorem dX9_count_144 : decode cX9_count 144 = .ok (.getfield 7, 3) := dk_180 0 7 (dk_at dksX9_count_4 20 rfl rfl)
theorem dX9_count_147 : decode cX9_count 147 = .ok (.iconst 4, 1) := dk_7 (dk_at dksX9_count_4 23 rfl rfl)
theorem dX9_count_148 : decode cX9_count 148 = .ok (.iaload, 1) := dk_46 (dk_at dksX9_count_5 0 rfl rfl)
theorem dX9_count_149 : decode cX9_count 149 = .ok (.ireturn, 1) := dk_172 (dk_at dksX9_count_5 1 rfl rfl)
theorem dX9_count_150 : decode cX9_count 150 = .ok (.aload_n 0, 1) := dk_42 (dk_at dksX9_count_5 2 rfl rfl)
theorem dX9_count_151 : decode cX9_count 151 = .ok (.getfield 7, 3) := dk_180 0 7 (dk_at dksX9_count_5 3 rfl rfl)
theorem dX9_count_154 : decode cX9_count 154 = .ok (.iconst 5, 1) := dk_8 (dk_at dksX9_count_5 6 rfl rfl)
theorem dX9_count_155 : decode cX9_count 155 = .ok (.iaload, 1) := dk_46 (dk_at dksX9_count_5 7 rfl rfl)
theorem dX9_count_156 : decode cX9_count 156 = .ok (.ireturn, 1) := dk_172 (dk_at dksX9_count_5 8 rfl rfl)
theorem dX9_count_157 : decode cX9_count 157 = .ok (.aload_n 0, 1) := dk_42 (dk_at dksX9_count_5 9 rfl rfl)
theorem dX9_count_158 : decode cX9_count 158 = .ok (.getfield 7, 3) := dk_180 0 7 (dk_at dksX9_count_5 10 rfl rfl)
theorem dX9_count_161 : decode cX9_count 161 = .ok (.bipush 6, 2) := dk_16 6 (dk_at dksX9_count_5 13 rfl rfl)
theorem dX9_count_163 : decode cX9_count 163 = .ok (.iaload, 1) := dk_46 (dk_at dksX9_count_5 15 rfl rfl)
theorem dX9_count_164 : decode cX9_count 164 = .ok (.ireturn, 1) := dk_172 (dk_at dksX9_count_5 16 rfl rfl)
theorem dX9_count_165 : decode cX9_count 165 = .ok (.iload_n 1, 1) := dk_27 (dk_at dksX9_count_5 17 rfl rfl)
theorem dX9_count_166 : decode cX9_count 166 = .ok (.i2l, 1) := dk_133 (dk_at dksX9_count_5 18 rfl rfl)
theorem dX9_count_167 : decode cX9_count 167 = .ok (.ldc2_w 476, 3) := dk_20 1 220 (dk_at dksX9_count_5 19 rfl rfl)
theorem dX9_count_170 : decode cX9_count 170 = .ok (.ldc2_w 478, 3) := dk_20 1 222 (dk_at dksX9_count_6 0 rfl rfl)
theorem dX9_count_173 : decode cX9_count 173 = .ok (.invokestatic 122, 3) := dk_184 0 122 (dk_at dksX9_count_6 3 rfl rfl)
theorem dX9_count_176 : decode cX9_count 176 = .ok (.ifCond .eq 15, 3) := dk_153 0 15 (dk_at dksX9_count_6 6 rfl rfl)
theorem dX9_count_179 : decode cX9_count 179 = .ok (.aload_n 0, 1) := dk_42 (dk_at dksX9_count_6 9 rfl rfl)
theorem dX9_count_180 : decode cX9_count 180 = .ok (.getfield 13, 3) := dk_180 0 13 (dk_at dksX9_count_6 10 rfl rfl)
theorem dX9_count_183 : decode cX9_count 183 = .ok (.iload_n 1, 1) := dk_27 (dk_at dksX9_count_6 13 rfl rfl)
theorem dX9_count_184 : decode cX9_count 184 = .ok (.bipush 14, 2) := dk_16 14 (dk_at dksX9_count_6 14 rfl rfl)
theorem dX9_count_186 : decode cX9_count 186 = .ok (.isub, 1) := dk_100 (dk_at dksX9_count_6 16 rfl rfl)
theorem dX9_count_187 : decode cX9_count 187 = .ok (.iaload, 1) := dk_46 (dk_at dksX9_count_6 17 rfl rfl)
theorem dX9_count_188 : decode cX9_count 188 = .ok (.goto 4, 3) := dk_167 0 4 (dk_at dksX9_count_6 18 rfl rfl)
theorem dX9_count_191 : decode cX9_count 191 = .ok (.iconst (-1), 1) := dk_2 (dk_at dksX9_count_6 21 rfl rfl)
theorem dX9_count_192 : decode cX9_count 192 = .ok (.ireturn, 1) := dk_172 (dk_at dksX9_count_6 22 rfl rfl)
abbrev cX9_status : ByteArray := prog_15_method_135_code
def yX9_status : MethodName := ⟨RX9, "status", "()I"⟩
def dkwX9_status_0 : List UInt8 := [42, 3, 181, 0, 92, 42, 180, 0, 95, 172]
abbrev dktX9_status_0 : List UInt8 := dkwX9_status_0 ++ []
theorem dksX9_status_0 : cX9_status.data.toList.drop 0 = dktX9_status_0 := by decide +kernel
theorem dX9_status_0 : decode cX9_status 0 = .ok (.aload_n 0, 1) := dk_42 (dk_at dksX9_status_0 0 rfl rfl)
theorem dX9_status_1 : decode cX9_status 1 = .ok (.iconst 0, 1) := dk_3 (dk_at dksX9_status_0 1 rfl rfl)
theorem dX9_status_2 : decode cX9_status 2 = .ok (.putfield 92, 3) := dk_181 0 92 (dk_at dksX9_status_0 2 rfl rfl)
theorem dX9_status_5 : decode cX9_status 5 = .ok (.aload_n 0, 1) := dk_42 (dk_at dksX9_status_0 5 rfl rfl)
theorem dX9_status_6 : decode cX9_status 6 = .ok (.getfield 95, 3) := dk_180 0 95 (dk_at dksX9_status_0 6 rfl rfl)
theorem dX9_status_9 : decode cX9_status 9 = .ok (.ireturn, 1) := dk_172 (dk_at dksX9_status_0 9 rfl rfl)
theorem q146 : (Jvm.Cond.initialized "CellRowsModel") ∈ lw_all := lw_g (lw_at lw_m1 10 rfl) rfl
theorem q1021 : (Jvm.Cond.selects "CellRowsModel" ({ cls := "java/lang/Object", name := "getClass", desc := "()Ljava/lang/Class;" } : Jvm.MethodName) ({ cls := "java/lang/Object", name := "getClass", desc := "()Ljava/lang/Class;" } : Jvm.MethodName)) ∈ lw_all := lw_g (lw_at lw_m4 165 rfl) rfl
theorem q1395 : (Jvm.Cond.instantiable "CellRowsModel" (37 : Nat)) ∈ lw_all := lw_g (lw_at lw_m6 59 rfl) rfl
theorem q1397 : (Jvm.Cond.instanceMethod ({ cls := "CellRowsModel", name := "<init>", desc := "(II)V" } : Jvm.MethodName)) ∈ lw_all := lw_g (lw_at lw_m6 61 rfl) rfl
theorem q1398 : (Jvm.Cond.code ({ cls := "CellRowsModel", name := "<init>", desc := "(II)V" } : Jvm.MethodName) prog_15_method_1_code (3 : Nat) (Option.none : Option Jvm.ClassFile.FieldType)) ∈ lw_all := lw_g (lw_at lw_m6 62 rfl) rfl
theorem q1399 : (Jvm.Cond.methodLink "CellRowsModel" (1 : Nat) ({ cls := "java/lang/Object", name := "<init>", desc := "()V" } : Jvm.MethodName)) ∈ lw_all := lw_g (lw_at lw_m6 63 rfl) rfl
theorem q1400 : (Jvm.Cond.fieldLink "CellRowsModel" (92 : Nat) "CellRowsModel" "thrown" "I") ∈ lw_all := lw_g (lw_at lw_m6 64 rfl) rfl
theorem q1401 : (Jvm.Cond.fieldLink "CellRowsModel" (95 : Nat) "CellRowsModel" "status" "I") ∈ lw_all := lw_g (lw_at lw_m6 65 rfl) rfl
theorem q1402 : (Jvm.Cond.fieldLink "CellRowsModel" (85 : Nat) "CellRowsModel" "rows" "I") ∈ lw_all := lw_g (lw_at lw_m6 66 rfl) rfl
theorem q1403 : (Jvm.Cond.fieldLink "CellRowsModel" (89 : Nat) "CellRowsModel" "sites" "I") ∈ lw_all := lw_g (lw_at lw_m6 67 rfl) rfl
theorem q1404 : (Jvm.Cond.fieldLink "CellRowsModel" (7 : Nat) "CellRowsModel" "refusals" "[I") ∈ lw_all := lw_g (lw_at lw_m6 68 rfl) rfl
theorem q1405 : (Jvm.Cond.fieldLink "CellRowsModel" (13 : Nat) "CellRowsModel" "term" "[I") ∈ lw_all := lw_g (lw_at lw_m6 69 rfl) rfl
theorem q1406 : (Jvm.Cond.fieldLink "CellRowsModel" (16 : Nat) "CellRowsModel" "row" "[I") ∈ lw_all := lw_g (lw_at lw_m6 70 rfl) rfl
theorem q1407 : (Jvm.Cond.fieldLink "CellRowsModel" (19 : Nat) "CellRowsModel" "undos" "[I") ∈ lw_all := lw_g (lw_at lw_m6 71 rfl) rfl
theorem q1408 : (Jvm.Cond.fieldLink "CellRowsModel" (22 : Nat) "CellRowsModel" "sorts1" "[I") ∈ lw_all := lw_g (lw_at lw_m6 72 rfl) rfl
theorem q1409 : (Jvm.Cond.fieldLink "CellRowsModel" (98 : Nat) "CellRowsModel" "nUndo" "I") ∈ lw_all := lw_g (lw_at lw_m6 73 rfl) rfl
theorem q1410 : (Jvm.Cond.fieldLink "CellRowsModel" (25 : Nat) "CellRowsModel" "ahead" "[I") ∈ lw_all := lw_g (lw_at lw_m6 74 rfl) rfl
theorem q1411 : (Jvm.Cond.fieldLink "CellRowsModel" (28 : Nat) "CellRowsModel" "lowest" "[I") ∈ lw_all := lw_g (lw_at lw_m6 75 rfl) rfl
theorem q1412 : (Jvm.Cond.fieldLink "CellRowsModel" (31 : Nat) "CellRowsModel" "tape" "[I") ∈ lw_all := lw_g (lw_at lw_m6 76 rfl) rfl
theorem q1413 : (Jvm.Cond.fieldLink "CellRowsModel" (170 : Nat) "CellRowsModel" "taped" "I") ∈ lw_all := lw_g (lw_at lw_m6 77 rfl) rfl
theorem q1414 : (Jvm.Cond.fieldLink "CellRowsModel" (34 : Nat) "CellRowsModel" "runRow" "[I") ∈ lw_all := lw_g (lw_at lw_m6 78 rfl) rfl
theorem q1415 : (Jvm.Cond.fieldLink "CellRowsModel" (37 : Nat) "CellRowsModel" "runFence" "[I") ∈ lw_all := lw_g (lw_at lw_m6 79 rfl) rfl
theorem q1416 : (Jvm.Cond.fieldLink "CellRowsModel" (40 : Nat) "CellRowsModel" "runFirst" "[I") ∈ lw_all := lw_g (lw_at lw_m6 80 rfl) rfl
theorem q1417 : (Jvm.Cond.fieldLink "CellRowsModel" (43 : Nat) "CellRowsModel" "runLong" "[I") ∈ lw_all := lw_g (lw_at lw_m6 81 rfl) rfl
theorem q1418 : (Jvm.Cond.fieldLink "CellRowsModel" (329 : Nat) "CellRowsModel" "nRuns" "I") ∈ lw_all := lw_g (lw_at lw_m6 82 rfl) rfl
theorem q1419 : (Jvm.Cond.fieldLink "CellRowsModel" (46 : Nat) "CellRowsModel" "lies" "[I") ∈ lw_all := lw_g (lw_at lw_m6 83 rfl) rfl
theorem q1420 : (Jvm.Cond.fieldLink "CellRowsModel" (335 : Nat) "CellRowsModel" "nLies" "I") ∈ lw_all := lw_g (lw_at lw_m6 84 rfl) rfl
theorem q1421 : (Jvm.Cond.fieldLink "CellRowsModel" (49 : Nat) "CellRowsModel" "queue" "[I") ∈ lw_all := lw_g (lw_at lw_m6 85 rfl) rfl
theorem q1422 : (Jvm.Cond.fieldLink "CellRowsModel" (344 : Nat) "CellRowsModel" "nQueue" "I") ∈ lw_all := lw_g (lw_at lw_m6 86 rfl) rfl
theorem q1423 : (Jvm.Cond.fieldLink "CellRowsModel" (52 : Nat) "CellRowsModel" "goesTo" "[I") ∈ lw_all := lw_g (lw_at lw_m6 87 rfl) rfl
theorem q1424 : (Jvm.Cond.fieldLink "CellRowsModel" (55 : Nat) "CellRowsModel" "some" "[I") ∈ lw_all := lw_g (lw_at lw_m6 88 rfl) rfl
theorem q1425 : (Jvm.Cond.fieldLink "CellRowsModel" (338 : Nat) "CellRowsModel" "nSome" "I") ∈ lw_all := lw_g (lw_at lw_m6 89 rfl) rfl
theorem q1426 : (Jvm.Cond.fieldLink "CellRowsModel" (58 : Nat) "CellRowsModel" "leastFrom" "[I") ∈ lw_all := lw_g (lw_at lw_m6 90 rfl) rfl
theorem q1427 : (Jvm.Cond.fieldLink "CellRowsModel" (61 : Nat) "CellRowsModel" "order" "[I") ∈ lw_all := lw_g (lw_at lw_m6 91 rfl) rfl
theorem q1428 : (Jvm.Cond.fieldLink "CellRowsModel" (64 : Nat) "CellRowsModel" "bestOrder" "[I") ∈ lw_all := lw_g (lw_at lw_m6 92 rfl) rfl
theorem q1429 : (Jvm.Cond.fieldLink "CellRowsModel" (67 : Nat) "CellRowsModel" "some4" "[I") ∈ lw_all := lw_g (lw_at lw_m6 93 rfl) rfl
theorem q1430 : (Jvm.Cond.fieldLink "CellRowsModel" (70 : Nat) "CellRowsModel" "gaps" "[I") ∈ lw_all := lw_g (lw_at lw_m6 94 rfl) rfl
theorem q1431 : (Jvm.Cond.fieldLink "CellRowsModel" (73 : Nat) "CellRowsModel" "group" "[I") ∈ lw_all := lw_g (lw_at lw_m6 95 rfl) rfl
theorem q1432 : (Jvm.Cond.fieldLink "CellRowsModel" (76 : Nat) "CellRowsModel" "groupRow" "[I") ∈ lw_all := lw_g (lw_at lw_m6 96 rfl) rfl
theorem q1433 : (Jvm.Cond.fieldLink "CellRowsModel" (79 : Nat) "CellRowsModel" "groupSite" "[I") ∈ lw_all := lw_g (lw_at lw_m6 97 rfl) rfl
theorem q1434 : (Jvm.Cond.fieldLink "CellRowsModel" (415 : Nat) "CellRowsModel" "nGroup" "I") ∈ lw_all := lw_g (lw_at lw_m6 98 rfl) rfl
theorem q1435 : (Jvm.Cond.fieldLink "CellRowsModel" (431 : Nat) "CellRowsModel" "state" "J") ∈ lw_all := lw_g (lw_at lw_m6 99 rfl) rfl
theorem q1436 : (Jvm.Cond.fieldLink "CellRowsModel" (82 : Nat) "CellRowsModel" "supplies" "[I") ∈ lw_all := lw_g (lw_at lw_m6 100 rfl) rfl
theorem q1437 : (Jvm.Cond.lays "CellRowsModel" "CellRowsModel" "thrown" "I") ∈ lw_all := lw_g (lw_at lw_m6 101 rfl) rfl
theorem q1438 : (Jvm.Cond.soleField "CellRowsModel" "thrown") ∈ lw_all := lw_g (lw_at lw_m6 102 rfl) rfl
theorem q1439 : (Jvm.Cond.lays "CellRowsModel" "CellRowsModel" "status" "I") ∈ lw_all := lw_g (lw_at lw_m6 103 rfl) rfl
theorem q1440 : (Jvm.Cond.soleField "CellRowsModel" "status") ∈ lw_all := lw_g (lw_at lw_m6 104 rfl) rfl
theorem q1441 : (Jvm.Cond.laysFinal "CellRowsModel" "CellRowsModel" "rows" "I") ∈ lw_all := lw_g (lw_at lw_m6 105 rfl) rfl
theorem q1442 : (Jvm.Cond.soleField "CellRowsModel" "rows") ∈ lw_all := lw_g (lw_at lw_m6 106 rfl) rfl
theorem q1443 : (Jvm.Cond.laysFinal "CellRowsModel" "CellRowsModel" "sites" "I") ∈ lw_all := lw_g (lw_at lw_m6 107 rfl) rfl
theorem q1444 : (Jvm.Cond.soleField "CellRowsModel" "sites") ∈ lw_all := lw_g (lw_at lw_m6 108 rfl) rfl
theorem q1445 : (Jvm.Cond.laysFinal "CellRowsModel" "CellRowsModel" "refusals" "[I") ∈ lw_all := lw_g (lw_at lw_m6 109 rfl) rfl
theorem q1446 : (Jvm.Cond.soleField "CellRowsModel" "refusals") ∈ lw_all := lw_g (lw_at lw_m6 110 rfl) rfl
theorem q1447 : (Jvm.Cond.laysFinal "CellRowsModel" "CellRowsModel" "term" "[I") ∈ lw_all := lw_g (lw_at lw_m6 111 rfl) rfl
theorem q1448 : (Jvm.Cond.soleField "CellRowsModel" "term") ∈ lw_all := lw_g (lw_at lw_m6 112 rfl) rfl
theorem q1449 : (Jvm.Cond.laysFinal "CellRowsModel" "CellRowsModel" "row" "[I") ∈ lw_all := lw_g (lw_at lw_m6 113 rfl) rfl
theorem q1450 : (Jvm.Cond.soleField "CellRowsModel" "row") ∈ lw_all := lw_g (lw_at lw_m6 114 rfl) rfl
theorem q1451 : (Jvm.Cond.laysFinal "CellRowsModel" "CellRowsModel" "undos" "[I") ∈ lw_all := lw_g (lw_at lw_m6 115 rfl) rfl
theorem q1452 : (Jvm.Cond.soleField "CellRowsModel" "undos") ∈ lw_all := lw_g (lw_at lw_m6 116 rfl) rfl
theorem q1453 : (Jvm.Cond.laysFinal "CellRowsModel" "CellRowsModel" "sorts1" "[I") ∈ lw_all := lw_g (lw_at lw_m6 117 rfl) rfl
theorem q1454 : (Jvm.Cond.soleField "CellRowsModel" "sorts1") ∈ lw_all := lw_g (lw_at lw_m6 118 rfl) rfl
theorem q1455 : (Jvm.Cond.lays "CellRowsModel" "CellRowsModel" "nUndo" "I") ∈ lw_all := lw_g (lw_at lw_m6 119 rfl) rfl
theorem q1456 : (Jvm.Cond.soleField "CellRowsModel" "nUndo") ∈ lw_all := lw_g (lw_at lw_m6 120 rfl) rfl
theorem q1457 : (Jvm.Cond.laysFinal "CellRowsModel" "CellRowsModel" "ahead" "[I") ∈ lw_all := lw_g (lw_at lw_m6 121 rfl) rfl
theorem q1458 : (Jvm.Cond.soleField "CellRowsModel" "ahead") ∈ lw_all := lw_g (lw_at lw_m6 122 rfl) rfl
theorem q1459 : (Jvm.Cond.laysFinal "CellRowsModel" "CellRowsModel" "lowest" "[I") ∈ lw_all := lw_g (lw_at lw_m6 123 rfl) rfl
theorem q1460 : (Jvm.Cond.soleField "CellRowsModel" "lowest") ∈ lw_all := lw_g (lw_at lw_m6 124 rfl) rfl
theorem q1461 : (Jvm.Cond.laysFinal "CellRowsModel" "CellRowsModel" "tape" "[I") ∈ lw_all := lw_g (lw_at lw_m6 125 rfl) rfl
theorem q1462 : (Jvm.Cond.soleField "CellRowsModel" "tape") ∈ lw_all := lw_g (lw_at lw_m6 126 rfl) rfl
theorem q1463 : (Jvm.Cond.lays "CellRowsModel" "CellRowsModel" "taped" "I") ∈ lw_all := lw_g (lw_at lw_m6 127 rfl) rfl
theorem q1464 : (Jvm.Cond.soleField "CellRowsModel" "taped") ∈ lw_all := lw_g (lw_at lw_m6 128 rfl) rfl
theorem q1465 : (Jvm.Cond.laysFinal "CellRowsModel" "CellRowsModel" "runRow" "[I") ∈ lw_all := lw_g (lw_at lw_m6 129 rfl) rfl
theorem q1466 : (Jvm.Cond.soleField "CellRowsModel" "runRow") ∈ lw_all := lw_g (lw_at lw_m6 130 rfl) rfl
theorem q1467 : (Jvm.Cond.laysFinal "CellRowsModel" "CellRowsModel" "runFence" "[I") ∈ lw_all := lw_g (lw_at lw_m6 131 rfl) rfl
theorem q1468 : (Jvm.Cond.soleField "CellRowsModel" "runFence") ∈ lw_all := lw_g (lw_at lw_m6 132 rfl) rfl
theorem q1469 : (Jvm.Cond.laysFinal "CellRowsModel" "CellRowsModel" "runFirst" "[I") ∈ lw_all := lw_g (lw_at lw_m6 133 rfl) rfl
theorem q1470 : (Jvm.Cond.soleField "CellRowsModel" "runFirst") ∈ lw_all := lw_g (lw_at lw_m6 134 rfl) rfl
theorem q1471 : (Jvm.Cond.laysFinal "CellRowsModel" "CellRowsModel" "runLong" "[I") ∈ lw_all := lw_g (lw_at lw_m6 135 rfl) rfl
theorem q1472 : (Jvm.Cond.soleField "CellRowsModel" "runLong") ∈ lw_all := lw_g (lw_at lw_m6 136 rfl) rfl
theorem q1473 : (Jvm.Cond.lays "CellRowsModel" "CellRowsModel" "nRuns" "I") ∈ lw_all := lw_g (lw_at lw_m6 137 rfl) rfl
theorem q1474 : (Jvm.Cond.soleField "CellRowsModel" "nRuns") ∈ lw_all := lw_g (lw_at lw_m6 138 rfl) rfl
theorem q1475 : (Jvm.Cond.laysFinal "CellRowsModel" "CellRowsModel" "lies" "[I") ∈ lw_all := lw_g (lw_at lw_m6 139 rfl) rfl
theorem q1476 : (Jvm.Cond.soleField "CellRowsModel" "lies") ∈ lw_all := lw_g (lw_at lw_m6 140 rfl) rfl
theorem q1477 : (Jvm.Cond.lays "CellRowsModel" "CellRowsModel" "nLies" "I") ∈ lw_all := lw_g (lw_at lw_m6 141 rfl) rfl
theorem q1478 : (Jvm.Cond.soleField "CellRowsModel" "nLies") ∈ lw_all := lw_g (lw_at lw_m6 142 rfl) rfl
theorem q1479 : (Jvm.Cond.laysFinal "CellRowsModel" "CellRowsModel" "queue" "[I") ∈ lw_all := lw_g (lw_at lw_m6 143 rfl) rfl
theorem q1480 : (Jvm.Cond.soleField "CellRowsModel" "queue") ∈ lw_all := lw_g (lw_at lw_m6 144 rfl) rfl
theorem q1481 : (Jvm.Cond.lays "CellRowsModel" "CellRowsModel" "nQueue" "I") ∈ lw_all := lw_g (lw_at lw_m6 145 rfl) rfl
theorem q1482 : (Jvm.Cond.soleField "CellRowsModel" "nQueue") ∈ lw_all := lw_g (lw_at lw_m6 146 rfl) rfl
theorem q1483 : (Jvm.Cond.laysFinal "CellRowsModel" "CellRowsModel" "goesTo" "[I") ∈ lw_all := lw_g (lw_at lw_m6 147 rfl) rfl
theorem q1484 : (Jvm.Cond.soleField "CellRowsModel" "goesTo") ∈ lw_all := lw_g (lw_at lw_m6 148 rfl) rfl
theorem q1485 : (Jvm.Cond.laysFinal "CellRowsModel" "CellRowsModel" "some" "[I") ∈ lw_all := lw_g (lw_at lw_m6 149 rfl) rfl
theorem q1486 : (Jvm.Cond.soleField "CellRowsModel" "some") ∈ lw_all := lw_g (lw_at lw_m6 150 rfl) rfl
theorem q1487 : (Jvm.Cond.lays "CellRowsModel" "CellRowsModel" "nSome" "I") ∈ lw_all := lw_g (lw_at lw_m6 151 rfl) rfl
theorem q1488 : (Jvm.Cond.soleField "CellRowsModel" "nSome") ∈ lw_all := lw_g (lw_at lw_m6 152 rfl) rfl
theorem q1489 : (Jvm.Cond.laysFinal "CellRowsModel" "CellRowsModel" "leastFrom" "[I") ∈ lw_all := lw_g (lw_at lw_m6 153 rfl) rfl
theorem q1490 : (Jvm.Cond.soleField "CellRowsModel" "leastFrom") ∈ lw_all := lw_g (lw_at lw_m6 154 rfl) rfl
theorem q1491 : (Jvm.Cond.laysFinal "CellRowsModel" "CellRowsModel" "order" "[I") ∈ lw_all := lw_g (lw_at lw_m6 155 rfl) rfl
theorem q1492 : (Jvm.Cond.soleField "CellRowsModel" "order") ∈ lw_all := lw_g (lw_at lw_m6 156 rfl) rfl
theorem q1493 : (Jvm.Cond.laysFinal "CellRowsModel" "CellRowsModel" "bestOrder" "[I") ∈ lw_all := lw_g (lw_at lw_m6 157 rfl) rfl
theorem q1494 : (Jvm.Cond.soleField "CellRowsModel" "bestOrder") ∈ lw_all := lw_g (lw_at lw_m6 158 rfl) rfl
theorem q1495 : (Jvm.Cond.laysFinal "CellRowsModel" "CellRowsModel" "some4" "[I") ∈ lw_all := lw_g (lw_at lw_m6 159 rfl) rfl
theorem q1496 : (Jvm.Cond.soleField "CellRowsModel" "some4") ∈ lw_all := lw_g (lw_at lw_m6 160 rfl) rfl
theorem q1497 : (Jvm.Cond.laysFinal "CellRowsModel" "CellRowsModel" "gaps" "[I") ∈ lw_all := lw_g (lw_at lw_m6 161 rfl) rfl
theorem q1498 : (Jvm.Cond.soleField "CellRowsModel" "gaps") ∈ lw_all := lw_g (lw_at lw_m6 162 rfl) rfl
theorem q1499 : (Jvm.Cond.laysFinal "CellRowsModel" "CellRowsModel" "group" "[I") ∈ lw_all := lw_g (lw_at lw_m6 163 rfl) rfl
theorem q1500 : (Jvm.Cond.soleField "CellRowsModel" "group") ∈ lw_all := lw_g (lw_at lw_m6 164 rfl) rfl
theorem q1501 : (Jvm.Cond.laysFinal "CellRowsModel" "CellRowsModel" "groupRow" "[I") ∈ lw_all := lw_g (lw_at lw_m6 165 rfl) rfl
theorem q1502 : (Jvm.Cond.soleField "CellRowsModel" "groupRow") ∈ lw_all := lw_g (lw_at lw_m6 166 rfl) rfl
theorem q1503 : (Jvm.Cond.laysFinal "CellRowsModel" "CellRowsModel" "groupSite" "[I") ∈ lw_all := lw_g (lw_at lw_m6 167 rfl) rfl
theorem q1504 : (Jvm.Cond.soleField "CellRowsModel" "groupSite") ∈ lw_all := lw_g (lw_at lw_m6 168 rfl) rfl
theorem q1505 : (Jvm.Cond.lays "CellRowsModel" "CellRowsModel" "nGroup" "I") ∈ lw_all := lw_g (lw_at lw_m6 169 rfl) rfl
theorem q1506 : (Jvm.Cond.soleField "CellRowsModel" "nGroup") ∈ lw_all := lw_g (lw_at lw_m6 170 rfl) rfl
theorem q1507 : (Jvm.Cond.lays "CellRowsModel" "CellRowsModel" "state" "J") ∈ lw_all := lw_g (lw_at lw_m6 171 rfl) rfl
theorem q1508 : (Jvm.Cond.soleField "CellRowsModel" "state") ∈ lw_all := lw_g (lw_at lw_m6 172 rfl) rfl
theorem q1509 : (Jvm.Cond.laysFinal "CellRowsModel" "CellRowsModel" "supplies" "[I") ∈ lw_all := lw_g (lw_at lw_m6 173 rfl) rfl
theorem q1510 : (Jvm.Cond.soleField "CellRowsModel" "supplies") ∈ lw_all := lw_g (lw_at lw_m6 174 rfl) rfl
theorem q1511 : (Jvm.Cond.superclass "CellRowsModel" "java/lang/Object") ∈ lw_all := lw_g (lw_at lw_m6 175 rfl) rfl
theorem q1513 : (Jvm.Cond.instanceMethod ({ cls := "CellRowsModel", name := "undo", desc := "()I" } : Jvm.MethodName)) ∈ lw_all := lw_g (lw_at lw_m6 177 rfl) rfl
theorem q1514 : (Jvm.Cond.selects "CellRowsModel" ({ cls := "CellRowsModel", name := "undo", desc := "()I" } : Jvm.MethodName) ({ cls := "CellRowsModel", name := "undo", desc := "()I" } : Jvm.MethodName)) ∈ lw_all := lw_g (lw_at lw_m6 178 rfl) rfl
theorem q1515 : (Jvm.Cond.code ({ cls := "CellRowsModel", name := "undo", desc := "()I" } : Jvm.MethodName) prog_15_method_11_code (1 : Nat) (Option.some Jvm.ClassFile.FieldType.int)) ∈ lw_all := lw_g (lw_at lw_m6 179 rfl) rfl
theorem q1516 : (Jvm.Cond.methodLink "CellRowsModel" (105 : Nat) ({ cls := "CellRowsModel", name := "refuse", desc := "(I)I" } : Jvm.MethodName)) ∈ lw_all := lw_g (lw_at lw_m6 180 rfl) rfl
theorem q1517 : (Jvm.Cond.privateMethod ({ cls := "CellRowsModel", name := "refuse", desc := "(I)I" } : Jvm.MethodName)) ∈ lw_tbl := lw_at lw_m6 181 rfl
theorem q1518 : (Jvm.Cond.instanceMethod ({ cls := "CellRowsModel", name := "refuse", desc := "(I)I" } : Jvm.MethodName)) ∈ lw_all := lw_g (lw_at lw_m6 182 rfl) rfl
theorem q1519 : (Jvm.Cond.code ({ cls := "CellRowsModel", name := "refuse", desc := "(I)I" } : Jvm.MethodName) prog_15_method_8_code (2 : Nat) (Option.some Jvm.ClassFile.FieldType.int)) ∈ lw_all := lw_g (lw_at lw_m6 183 rfl) rfl
theorem q1520 : (Jvm.Cond.methodLink "CellRowsModel" (101 : Nat) ({ cls := "CellRowsModel", name := "copy", desc := "([II[II)V" } : Jvm.MethodName)) ∈ lw_all := lw_g (lw_at lw_m6 184 rfl) rfl
theorem q1521 : (Jvm.Cond.static ({ cls := "CellRowsModel", name := "copy", desc := "([II[II)V" } : Jvm.MethodName)) ∈ lw_all := lw_g (lw_at lw_m6 185 rfl) rfl
theorem q1522 : (Jvm.Cond.code ({ cls := "CellRowsModel", name := "copy", desc := "([II[II)V" } : Jvm.MethodName) prog_15_method_9_code (5 : Nat) (Option.none : Option Jvm.ClassFile.FieldType)) ∈ lw_all := lw_g (lw_at lw_m6 186 rfl) rfl
theorem q1523 : (Jvm.Cond.methodLink "CellRowsModel" (109 : Nat) ({ cls := "CellRowsModel", name := "tell", desc := "(I)I" } : Jvm.MethodName)) ∈ lw_all := lw_g (lw_at lw_m6 187 rfl) rfl
theorem q1524 : (Jvm.Cond.privateMethod ({ cls := "CellRowsModel", name := "tell", desc := "(I)I" } : Jvm.MethodName)) ∈ lw_tbl := lw_at lw_m6 188 rfl
theorem q1525 : (Jvm.Cond.instanceMethod ({ cls := "CellRowsModel", name := "tell", desc := "(I)I" } : Jvm.MethodName)) ∈ lw_all := lw_g (lw_at lw_m6 189 rfl) rfl
theorem q1526 : (Jvm.Cond.code ({ cls := "CellRowsModel", name := "tell", desc := "(I)I" } : Jvm.MethodName) prog_15_method_7_code (2 : Nat) (Option.some Jvm.ClassFile.FieldType.int)) ∈ lw_all := lw_g (lw_at lw_m6 190 rfl) rfl
theorem q1528 : (Jvm.Cond.instanceMethod ({ cls := "CellRowsModel", name := "lawful", desc := "(III)Z" } : Jvm.MethodName)) ∈ lw_all := lw_g (lw_at lw_m6 192 rfl) rfl
theorem q1529 : (Jvm.Cond.selects "CellRowsModel" ({ cls := "CellRowsModel", name := "lawful", desc := "(III)Z" } : Jvm.MethodName) ({ cls := "CellRowsModel", name := "lawful", desc := "(III)Z" } : Jvm.MethodName)) ∈ lw_all := lw_g (lw_at lw_m6 193 rfl) rfl
theorem q1530 : (Jvm.Cond.code ({ cls := "CellRowsModel", name := "lawful", desc := "(III)Z" } : Jvm.MethodName) prog_15_method_31_code (4 : Nat) (Option.some Jvm.ClassFile.FieldType.boolean)) ∈ lw_all := lw_g (lw_at lw_m6 194 rfl) rfl
theorem q1531 : (Jvm.Cond.methodLink "CellRowsModel" (154 : Nat) ({ cls := "CellRowsModel", name := "isCell", desc := "(I)Z" } : Jvm.MethodName)) ∈ lw_all := lw_g (lw_at lw_m6 195 rfl) rfl
theorem q1532 : (Jvm.Cond.privateMethod ({ cls := "CellRowsModel", name := "isCell", desc := "(I)Z" } : Jvm.MethodName)) ∈ lw_tbl := lw_at lw_m6 196 rfl
theorem q1533 : (Jvm.Cond.instanceMethod ({ cls := "CellRowsModel", name := "isCell", desc := "(I)Z" } : Jvm.MethodName)) ∈ lw_all := lw_g (lw_at lw_m6 197 rfl) rfl
theorem q1534 : (Jvm.Cond.code ({ cls := "CellRowsModel", name := "isCell", desc := "(I)Z" } : Jvm.MethodName) prog_15_method_21_code (2 : Nat) (Option.some Jvm.ClassFile.FieldType.boolean)) ∈ lw_all := lw_g (lw_at lw_m6 198 rfl) rfl
theorem q1535 : (Jvm.Cond.methodLink "CellRowsModel" (122 : Nat) ({ cls := "CellRowsModel", name := "in", desc := "(JJJ)Z" } : Jvm.MethodName)) ∈ lw_all := lw_g (lw_at lw_m6 199 rfl) rfl
theorem q1536 : (Jvm.Cond.static ({ cls := "CellRowsModel", name := "in", desc := "(JJJ)Z" } : Jvm.MethodName)) ∈ lw_all := lw_g (lw_at lw_m6 200 rfl) rfl
theorem q1537 : (Jvm.Cond.code ({ cls := "CellRowsModel", name := "in", desc := "(JJJ)Z" } : Jvm.MethodName) prog_15_method_3_code (6 : Nat) (Option.some Jvm.ClassFile.FieldType.boolean)) ∈ lw_all := lw_g (lw_at lw_m6 201 rfl) rfl
theorem q1538 : (Jvm.Cond.methodLink "CellRowsModel" (157 : Nat) ({ cls := "CellRowsModel", name := "isLawful", desc := "(IIIZ)Z" } : Jvm.MethodName)) ∈ lw_all := lw_g (lw_at lw_m6 202 rfl) rfl
theorem q1539 : (Jvm.Cond.privateMethod ({ cls := "CellRowsModel", name := "isLawful", desc := "(IIIZ)Z" } : Jvm.MethodName)) ∈ lw_tbl := lw_at lw_m6 203 rfl
theorem q1540 : (Jvm.Cond.instanceMethod ({ cls := "CellRowsModel", name := "isLawful", desc := "(IIIZ)Z" } : Jvm.MethodName)) ∈ lw_all := lw_g (lw_at lw_m6 204 rfl) rfl
theorem q1541 : (Jvm.Cond.code ({ cls := "CellRowsModel", name := "isLawful", desc := "(IIIZ)Z" } : Jvm.MethodName) prog_15_method_30_code (7 : Nat) (Option.some Jvm.ClassFile.FieldType.boolean)) ∈ lw_all := lw_g (lw_at lw_m6 205 rfl) rfl
theorem q1542 : (Jvm.Cond.methodLink "CellRowsModel" (133 : Nat) ({ cls := "CellRowsModel", name := "isSite", desc := "(II)Z" } : Jvm.MethodName)) ∈ lw_all := lw_g (lw_at lw_m6 206 rfl) rfl
theorem q1543 : (Jvm.Cond.privateMethod ({ cls := "CellRowsModel", name := "isSite", desc := "(II)Z" } : Jvm.MethodName)) ∈ lw_tbl := lw_at lw_m6 207 rfl
theorem q1544 : (Jvm.Cond.instanceMethod ({ cls := "CellRowsModel", name := "isSite", desc := "(II)Z" } : Jvm.MethodName)) ∈ lw_all := lw_g (lw_at lw_m6 208 rfl) rfl
theorem q1545 : (Jvm.Cond.code ({ cls := "CellRowsModel", name := "isSite", desc := "(II)Z" } : Jvm.MethodName) prog_15_method_24_code (3 : Nat) (Option.some Jvm.ClassFile.FieldType.boolean)) ∈ lw_all := lw_g (lw_at lw_m6 209 rfl) rfl
theorem q1546 : (Jvm.Cond.methodLink "CellRowsModel" (137 : Nat) ({ cls := "CellRowsModel", name := "width", desc := "(I)I" } : Jvm.MethodName)) ∈ lw_all := lw_g (lw_at lw_m6 210 rfl) rfl
theorem q1547 : (Jvm.Cond.privateMethod ({ cls := "CellRowsModel", name := "width", desc := "(I)I" } : Jvm.MethodName)) ∈ lw_tbl := lw_at lw_m6 211 rfl
theorem q1548 : (Jvm.Cond.instanceMethod ({ cls := "CellRowsModel", name := "width", desc := "(I)I" } : Jvm.MethodName)) ∈ lw_all := lw_g (lw_at lw_m6 212 rfl) rfl
theorem q1549 : (Jvm.Cond.code ({ cls := "CellRowsModel", name := "width", desc := "(I)I" } : Jvm.MethodName) prog_15_method_14_code (2 : Nat) (Option.some Jvm.ClassFile.FieldType.int)) ∈ lw_all := lw_g (lw_at lw_m6 213 rfl) rfl
theorem q1550 : (Jvm.Cond.methodLink "CellRowsModel" (112 : Nat) ({ cls := "CellRowsModel", name := "cellAt", desc := "(I)I" } : Jvm.MethodName)) ∈ lw_all := lw_g (lw_at lw_m6 214 rfl) rfl
theorem q1551 : (Jvm.Cond.static ({ cls := "CellRowsModel", name := "cellAt", desc := "(I)I" } : Jvm.MethodName)) ∈ lw_all := lw_g (lw_at lw_m6 215 rfl) rfl
theorem q1552 : (Jvm.Cond.code ({ cls := "CellRowsModel", name := "cellAt", desc := "(I)I" } : Jvm.MethodName) prog_15_method_12_code (1 : Nat) (Option.some Jvm.ClassFile.FieldType.int)) ∈ lw_all := lw_g (lw_at lw_m6 216 rfl) rfl
theorem q1553 : (Jvm.Cond.methodLink "CellRowsModel" (140 : Nat) ({ cls := "CellRowsModel", name := "isBarred", desc := "(II)Z" } : Jvm.MethodName)) ∈ lw_all := lw_g (lw_at lw_m6 217 rfl) rfl
theorem q1554 : (Jvm.Cond.privateMethod ({ cls := "CellRowsModel", name := "isBarred", desc := "(II)Z" } : Jvm.MethodName)) ∈ lw_tbl := lw_at lw_m6 218 rfl
theorem q1555 : (Jvm.Cond.instanceMethod ({ cls := "CellRowsModel", name := "isBarred", desc := "(II)Z" } : Jvm.MethodName)) ∈ lw_all := lw_g (lw_at lw_m6 219 rfl) rfl
theorem q1556 : (Jvm.Cond.code ({ cls := "CellRowsModel", name := "isBarred", desc := "(II)Z" } : Jvm.MethodName) prog_15_method_25_code (6 : Nat) (Option.some Jvm.ClassFile.FieldType.boolean)) ∈ lw_all := lw_g (lw_at lw_m6 220 rfl) rfl
theorem q1557 : (Jvm.Cond.methodLink "CellRowsModel" (143 : Nat) ({ cls := "CellRowsModel", name := "fenceThere", desc := "(II)I" } : Jvm.MethodName)) ∈ lw_all := lw_g (lw_at lw_m6 221 rfl) rfl
theorem q1558 : (Jvm.Cond.privateMethod ({ cls := "CellRowsModel", name := "fenceThere", desc := "(II)I" } : Jvm.MethodName)) ∈ lw_tbl := lw_at lw_m6 222 rfl
theorem q1559 : (Jvm.Cond.instanceMethod ({ cls := "CellRowsModel", name := "fenceThere", desc := "(II)I" } : Jvm.MethodName)) ∈ lw_all := lw_g (lw_at lw_m6 223 rfl) rfl
theorem q1560 : (Jvm.Cond.code ({ cls := "CellRowsModel", name := "fenceThere", desc := "(II)I" } : Jvm.MethodName) prog_15_method_27_code (5 : Nat) (Option.some Jvm.ClassFile.FieldType.int)) ∈ lw_all := lw_g (lw_at lw_m6 224 rfl) rfl
theorem q1561 : (Jvm.Cond.methodLink "CellRowsModel" (126 : Nat) ({ cls := "CellRowsModel", name := "isInFence", desc := "(III)Z" } : Jvm.MethodName)) ∈ lw_all := lw_g (lw_at lw_m6 225 rfl) rfl
theorem q1562 : (Jvm.Cond.privateMethod ({ cls := "CellRowsModel", name := "isInFence", desc := "(III)Z" } : Jvm.MethodName)) ∈ lw_tbl := lw_at lw_m6 226 rfl
theorem q1563 : (Jvm.Cond.instanceMethod ({ cls := "CellRowsModel", name := "isInFence", desc := "(III)Z" } : Jvm.MethodName)) ∈ lw_all := lw_g (lw_at lw_m6 227 rfl) rfl
theorem q1564 : (Jvm.Cond.code ({ cls := "CellRowsModel", name := "isInFence", desc := "(III)Z" } : Jvm.MethodName) prog_15_method_26_code (5 : Nat) (Option.some Jvm.ClassFile.FieldType.boolean)) ∈ lw_all := lw_g (lw_at lw_m6 228 rfl) rfl
theorem q1565 : (Jvm.Cond.methodLink "CellRowsModel" (147 : Nat) ({ cls := "CellRowsModel", name := "fenceOf", desc := "(I)I" } : Jvm.MethodName)) ∈ lw_all := lw_g (lw_at lw_m6 229 rfl) rfl
theorem q1566 : (Jvm.Cond.privateMethod ({ cls := "CellRowsModel", name := "fenceOf", desc := "(I)I" } : Jvm.MethodName)) ∈ lw_tbl := lw_at lw_m6 230 rfl
theorem q1567 : (Jvm.Cond.instanceMethod ({ cls := "CellRowsModel", name := "fenceOf", desc := "(I)I" } : Jvm.MethodName)) ∈ lw_all := lw_g (lw_at lw_m6 231 rfl) rfl
theorem q1568 : (Jvm.Cond.code ({ cls := "CellRowsModel", name := "fenceOf", desc := "(I)I" } : Jvm.MethodName) prog_15_method_15_code (2 : Nat) (Option.some Jvm.ClassFile.FieldType.int)) ∈ lw_all := lw_g (lw_at lw_m6 232 rfl) rfl
theorem q1569 : (Jvm.Cond.methodLink "CellRowsModel" (150 : Nat) ({ cls := "CellRowsModel", name := "cellThere", desc := "(IIIZ)I" } : Jvm.MethodName)) ∈ lw_all := lw_g (lw_at lw_m6 233 rfl) rfl
theorem q1570 : (Jvm.Cond.privateMethod ({ cls := "CellRowsModel", name := "cellThere", desc := "(IIIZ)I" } : Jvm.MethodName)) ∈ lw_tbl := lw_at lw_m6 234 rfl
theorem q1571 : (Jvm.Cond.instanceMethod ({ cls := "CellRowsModel", name := "cellThere", desc := "(IIIZ)I" } : Jvm.MethodName)) ∈ lw_all := lw_g (lw_at lw_m6 235 rfl) rfl
theorem q1572 : (Jvm.Cond.code ({ cls := "CellRowsModel", name := "cellThere", desc := "(IIIZ)I" } : Jvm.MethodName) prog_15_method_29_code (7 : Nat) (Option.some Jvm.ClassFile.FieldType.int)) ∈ lw_all := lw_g (lw_at lw_m6 236 rfl) rfl
theorem q1573 : (Jvm.Cond.methodLink "CellRowsModel" (130 : Nat) ({ cls := "CellRowsModel", name := "covers", desc := "(III)Z" } : Jvm.MethodName)) ∈ lw_all := lw_g (lw_at lw_m6 237 rfl) rfl
theorem q1574 : (Jvm.Cond.privateMethod ({ cls := "CellRowsModel", name := "covers", desc := "(III)Z" } : Jvm.MethodName)) ∈ lw_tbl := lw_at lw_m6 238 rfl
theorem q1575 : (Jvm.Cond.instanceMethod ({ cls := "CellRowsModel", name := "covers", desc := "(III)Z" } : Jvm.MethodName)) ∈ lw_all := lw_g (lw_at lw_m6 239 rfl) rfl
theorem q1576 : (Jvm.Cond.code ({ cls := "CellRowsModel", name := "covers", desc := "(III)Z" } : Jvm.MethodName) prog_15_method_28_code (5 : Nat) (Option.some Jvm.ClassFile.FieldType.boolean)) ∈ lw_all := lw_g (lw_at lw_m7 0 rfl) rfl
theorem q1577 : (Jvm.Cond.methodLink "CellRowsModel" (115 : Nat) ({ cls := "CellRowsModel", name := "isFixed", desc := "(I)Z" } : Jvm.MethodName)) ∈ lw_all := lw_g (lw_at lw_m7 1 rfl) rfl
theorem q1578 : (Jvm.Cond.privateMethod ({ cls := "CellRowsModel", name := "isFixed", desc := "(I)Z" } : Jvm.MethodName)) ∈ lw_tbl := lw_at lw_m7 2 rfl
theorem q1579 : (Jvm.Cond.instanceMethod ({ cls := "CellRowsModel", name := "isFixed", desc := "(I)Z" } : Jvm.MethodName)) ∈ lw_all := lw_g (lw_at lw_m7 3 rfl) rfl
theorem q1580 : (Jvm.Cond.code ({ cls := "CellRowsModel", name := "isFixed", desc := "(I)Z" } : Jvm.MethodName) prog_15_method_16_code (2 : Nat) (Option.some Jvm.ClassFile.FieldType.boolean)) ∈ lw_all := lw_g (lw_at lw_m7 4 rfl) rfl
theorem q1582 : (Jvm.Cond.instanceMethod ({ cls := "CellRowsModel", name := "terms", desc := "(II)I" } : Jvm.MethodName)) ∈ lw_all := lw_g (lw_at lw_m7 6 rfl) rfl
theorem q1583 : (Jvm.Cond.selects "CellRowsModel" ({ cls := "CellRowsModel", name := "terms", desc := "(II)I" } : Jvm.MethodName) ({ cls := "CellRowsModel", name := "terms", desc := "(II)I" } : Jvm.MethodName)) ∈ lw_all := lw_g (lw_at lw_m7 7 rfl) rfl
theorem q1584 : (Jvm.Cond.code ({ cls := "CellRowsModel", name := "terms", desc := "(II)I" } : Jvm.MethodName) prog_15_method_33_code (6 : Nat) (Option.some Jvm.ClassFile.FieldType.int)) ∈ lw_all := lw_g (lw_at lw_m7 8 rfl) rfl
theorem q1585 : (Jvm.Cond.constantLong "CellRowsModel" (168 : Nat) (5 : Int64)) ∈ lw_all := lw_g (lw_at lw_m7 9 rfl) rfl
theorem q1587 : (Jvm.Cond.instanceMethod ({ cls := "CellRowsModel", name := "feed", desc := "(IIIII)I" } : Jvm.MethodName)) ∈ lw_all := lw_g (lw_at lw_m7 11 rfl) rfl
theorem q1588 : (Jvm.Cond.selects "CellRowsModel" ({ cls := "CellRowsModel", name := "feed", desc := "(IIIII)I" } : Jvm.MethodName) ({ cls := "CellRowsModel", name := "feed", desc := "(IIIII)I" } : Jvm.MethodName)) ∈ lw_all := lw_g (lw_at lw_m7 12 rfl) rfl
theorem q1589 : (Jvm.Cond.code ({ cls := "CellRowsModel", name := "feed", desc := "(IIIII)I" } : Jvm.MethodName) prog_15_method_35_code (6 : Nat) (Option.some Jvm.ClassFile.FieldType.int)) ∈ lw_all := lw_g (lw_at lw_m7 13 rfl) rfl
theorem q1590 : (Jvm.Cond.methodLink "CellRowsModel" (173 : Nat) ({ cls := "CellRowsModel", name := "four", desc := "(I)V" } : Jvm.MethodName)) ∈ lw_all := lw_g (lw_at lw_m7 14 rfl) rfl
theorem q1591 : (Jvm.Cond.privateMethod ({ cls := "CellRowsModel", name := "four", desc := "(I)V" } : Jvm.MethodName)) ∈ lw_tbl := lw_at lw_m7 15 rfl
theorem q1592 : (Jvm.Cond.instanceMethod ({ cls := "CellRowsModel", name := "four", desc := "(I)V" } : Jvm.MethodName)) ∈ lw_all := lw_g (lw_at lw_m7 16 rfl) rfl
theorem q1593 : (Jvm.Cond.code ({ cls := "CellRowsModel", name := "four", desc := "(I)V" } : Jvm.MethodName) prog_15_method_34_code (3 : Nat) (Option.none : Option Jvm.ClassFile.FieldType)) ∈ lw_all := lw_g (lw_at lw_m7 17 rfl) rfl
theorem q1595 : (Jvm.Cond.instanceMethod ({ cls := "CellRowsModel", name := "end", desc := "(I)I" } : Jvm.MethodName)) ∈ lw_all := lw_g (lw_at lw_m7 19 rfl) rfl
theorem q1596 : (Jvm.Cond.selects "CellRowsModel" ({ cls := "CellRowsModel", name := "end", desc := "(I)I" } : Jvm.MethodName) ({ cls := "CellRowsModel", name := "end", desc := "(I)I" } : Jvm.MethodName)) ∈ lw_all := lw_g (lw_at lw_m7 20 rfl) rfl
theorem q1597 : (Jvm.Cond.code ({ cls := "CellRowsModel", name := "end", desc := "(I)I" } : Jvm.MethodName) prog_15_method_36_code (2 : Nat) (Option.some Jvm.ClassFile.FieldType.int)) ∈ lw_all := lw_g (lw_at lw_m7 21 rfl) rfl
theorem q1599 : (Jvm.Cond.instanceMethod ({ cls := "CellRowsModel", name := "block", desc := "(IIIII)I" } : Jvm.MethodName)) ∈ lw_all := lw_g (lw_at lw_m7 23 rfl) rfl
theorem q1600 : (Jvm.Cond.selects "CellRowsModel" ({ cls := "CellRowsModel", name := "block", desc := "(IIIII)I" } : Jvm.MethodName) ({ cls := "CellRowsModel", name := "block", desc := "(IIIII)I" } : Jvm.MethodName)) ∈ lw_all := lw_g (lw_at lw_m7 24 rfl) rfl
theorem q1601 : (Jvm.Cond.code ({ cls := "CellRowsModel", name := "block", desc := "(IIIII)I" } : Jvm.MethodName) prog_15_method_40_code (7 : Nat) (Option.some Jvm.ClassFile.FieldType.int)) ∈ lw_all := lw_g (lw_at lw_m7 25 rfl) rfl
theorem q1602 : (Jvm.Cond.methodLink "CellRowsModel" (176 : Nat) ({ cls := "CellRowsModel", name := "isBox", desc := "(IIII)Z" } : Jvm.MethodName)) ∈ lw_all := lw_g (lw_at lw_m7 26 rfl) rfl
theorem q1603 : (Jvm.Cond.privateMethod ({ cls := "CellRowsModel", name := "isBox", desc := "(IIII)Z" } : Jvm.MethodName)) ∈ lw_tbl := lw_at lw_m7 27 rfl
theorem q1604 : (Jvm.Cond.instanceMethod ({ cls := "CellRowsModel", name := "isBox", desc := "(IIII)Z" } : Jvm.MethodName)) ∈ lw_all := lw_g (lw_at lw_m7 28 rfl) rfl
theorem q1605 : (Jvm.Cond.code ({ cls := "CellRowsModel", name := "isBox", desc := "(IIII)Z" } : Jvm.MethodName) prog_15_method_37_code (5 : Nat) (Option.some Jvm.ClassFile.FieldType.boolean)) ∈ lw_all := lw_g (lw_at lw_m7 29 rfl) rfl
theorem q1606 : (Jvm.Cond.constantLong "CellRowsModel" (180 : Nat) (4 : Int64)) ∈ lw_all := lw_g (lw_at lw_m7 30 rfl) rfl
theorem q1607 : (Jvm.Cond.methodLink "CellRowsModel" (182 : Nat) ({ cls := "CellRowsModel", name := "isTaken", desc := "(IIIIZ)Z" } : Jvm.MethodName)) ∈ lw_all := lw_g (lw_at lw_m7 31 rfl) rfl
theorem q1608 : (Jvm.Cond.privateMethod ({ cls := "CellRowsModel", name := "isTaken", desc := "(IIIIZ)Z" } : Jvm.MethodName)) ∈ lw_tbl := lw_at lw_m7 32 rfl
theorem q1609 : (Jvm.Cond.instanceMethod ({ cls := "CellRowsModel", name := "isTaken", desc := "(IIIIZ)Z" } : Jvm.MethodName)) ∈ lw_all := lw_g (lw_at lw_m7 33 rfl) rfl
theorem q1610 : (Jvm.Cond.code ({ cls := "CellRowsModel", name := "isTaken", desc := "(IIIIZ)Z" } : Jvm.MethodName) prog_15_method_38_code (9 : Nat) (Option.some Jvm.ClassFile.FieldType.boolean)) ∈ lw_all := lw_g (lw_at lw_m7 34 rfl) rfl
theorem q1611 : (Jvm.Cond.methodLink "CellRowsModel" (186 : Nat) ({ cls := "CellRowsModel", name := "remember", desc := "(I)V" } : Jvm.MethodName)) ∈ lw_all := lw_g (lw_at lw_m7 35 rfl) rfl
theorem q1612 : (Jvm.Cond.privateMethod ({ cls := "CellRowsModel", name := "remember", desc := "(I)V" } : Jvm.MethodName)) ∈ lw_tbl := lw_at lw_m7 36 rfl
theorem q1613 : (Jvm.Cond.instanceMethod ({ cls := "CellRowsModel", name := "remember", desc := "(I)V" } : Jvm.MethodName)) ∈ lw_all := lw_g (lw_at lw_m7 37 rfl) rfl
theorem q1614 : (Jvm.Cond.code ({ cls := "CellRowsModel", name := "remember", desc := "(I)V" } : Jvm.MethodName) prog_15_method_10_code (3 : Nat) (Option.none : Option Jvm.ClassFile.FieldType)) ∈ lw_all := lw_g (lw_at lw_m7 38 rfl) rfl
theorem q1615 : (Jvm.Cond.methodLink "CellRowsModel" (189 : Nat) ({ cls := "CellRowsModel", name := "write", desc := "(IIIII)V" } : Jvm.MethodName)) ∈ lw_all := lw_g (lw_at lw_m7 39 rfl) rfl
theorem q1616 : (Jvm.Cond.privateMethod ({ cls := "CellRowsModel", name := "write", desc := "(IIIII)V" } : Jvm.MethodName)) ∈ lw_tbl := lw_at lw_m7 40 rfl
theorem q1617 : (Jvm.Cond.instanceMethod ({ cls := "CellRowsModel", name := "write", desc := "(IIIII)V" } : Jvm.MethodName)) ∈ lw_all := lw_g (lw_at lw_m7 41 rfl) rfl
theorem q1618 : (Jvm.Cond.code ({ cls := "CellRowsModel", name := "write", desc := "(IIIII)V" } : Jvm.MethodName) prog_15_method_39_code (6 : Nat) (Option.none : Option Jvm.ClassFile.FieldType)) ∈ lw_all := lw_g (lw_at lw_m7 42 rfl) rfl
theorem q1619 : (Jvm.Cond.methodLink "CellRowsModel" (193 : Nat) ({ cls := "CellRowsModel", name := "loseUnlawful", desc := "()V" } : Jvm.MethodName)) ∈ lw_all := lw_g (lw_at lw_m7 43 rfl) rfl
theorem q1620 : (Jvm.Cond.privateMethod ({ cls := "CellRowsModel", name := "loseUnlawful", desc := "()V" } : Jvm.MethodName)) ∈ lw_tbl := lw_at lw_m7 44 rfl
theorem q1621 : (Jvm.Cond.instanceMethod ({ cls := "CellRowsModel", name := "loseUnlawful", desc := "()V" } : Jvm.MethodName)) ∈ lw_all := lw_g (lw_at lw_m7 45 rfl) rfl
theorem q1622 : (Jvm.Cond.code ({ cls := "CellRowsModel", name := "loseUnlawful", desc := "()V" } : Jvm.MethodName) prog_15_method_32_code (2 : Nat) (Option.none : Option Jvm.ClassFile.FieldType)) ∈ lw_all := lw_g (lw_at lw_m7 46 rfl) rfl
theorem q1623 : (Jvm.Cond.methodLink "CellRowsModel" (161 : Nat) ({ cls := "CellRowsModel", name := "isMoving", desc := "(I)Z" } : Jvm.MethodName)) ∈ lw_all := lw_g (lw_at lw_m7 47 rfl) rfl
theorem q1624 : (Jvm.Cond.privateMethod ({ cls := "CellRowsModel", name := "isMoving", desc := "(I)Z" } : Jvm.MethodName)) ∈ lw_tbl := lw_at lw_m7 48 rfl
theorem q1625 : (Jvm.Cond.instanceMethod ({ cls := "CellRowsModel", name := "isMoving", desc := "(I)Z" } : Jvm.MethodName)) ∈ lw_all := lw_g (lw_at lw_m7 49 rfl) rfl
theorem q1626 : (Jvm.Cond.code ({ cls := "CellRowsModel", name := "isMoving", desc := "(I)Z" } : Jvm.MethodName) prog_15_method_18_code (2 : Nat) (Option.some Jvm.ClassFile.FieldType.boolean)) ∈ lw_all := lw_g (lw_at lw_m7 50 rfl) rfl
theorem q1627 : (Jvm.Cond.methodLink "CellRowsModel" (119 : Nat) ({ cls := "CellRowsModel", name := "hasSpot", desc := "(I)Z" } : Jvm.MethodName)) ∈ lw_all := lw_g (lw_at lw_m7 51 rfl) rfl
theorem q1628 : (Jvm.Cond.privateMethod ({ cls := "CellRowsModel", name := "hasSpot", desc := "(I)Z" } : Jvm.MethodName)) ∈ lw_tbl := lw_at lw_m7 52 rfl
theorem q1629 : (Jvm.Cond.instanceMethod ({ cls := "CellRowsModel", name := "hasSpot", desc := "(I)Z" } : Jvm.MethodName)) ∈ lw_all := lw_g (lw_at lw_m7 53 rfl) rfl
theorem q1630 : (Jvm.Cond.code ({ cls := "CellRowsModel", name := "hasSpot", desc := "(I)Z" } : Jvm.MethodName) prog_15_method_17_code (2 : Nat) (Option.some Jvm.ClassFile.FieldType.boolean)) ∈ lw_all := lw_g (lw_at lw_m7 54 rfl) rfl
theorem q1631 : (Jvm.Cond.methodLink "CellRowsModel" (164 : Nat) ({ cls := "CellRowsModel", name := "lose", desc := "(I)V" } : Jvm.MethodName)) ∈ lw_all := lw_g (lw_at lw_m7 55 rfl) rfl
theorem q1632 : (Jvm.Cond.privateMethod ({ cls := "CellRowsModel", name := "lose", desc := "(I)V" } : Jvm.MethodName)) ∈ lw_tbl := lw_at lw_m7 56 rfl
theorem q1633 : (Jvm.Cond.instanceMethod ({ cls := "CellRowsModel", name := "lose", desc := "(I)V" } : Jvm.MethodName)) ∈ lw_all := lw_g (lw_at lw_m7 57 rfl) rfl
theorem q1634 : (Jvm.Cond.code ({ cls := "CellRowsModel", name := "lose", desc := "(I)V" } : Jvm.MethodName) prog_15_method_19_code (2 : Nat) (Option.none : Option Jvm.ClassFile.FieldType)) ∈ lw_all := lw_g (lw_at lw_m7 58 rfl) rfl
theorem q1636 : (Jvm.Cond.instanceMethod ({ cls := "CellRowsModel", name := "fence", desc := "(IIII)I" } : Jvm.MethodName)) ∈ lw_all := lw_g (lw_at lw_m7 60 rfl) rfl
theorem q1637 : (Jvm.Cond.selects "CellRowsModel" ({ cls := "CellRowsModel", name := "fence", desc := "(IIII)I" } : Jvm.MethodName) ({ cls := "CellRowsModel", name := "fence", desc := "(IIII)I" } : Jvm.MethodName)) ∈ lw_all := lw_g (lw_at lw_m7 61 rfl) rfl
theorem q1638 : (Jvm.Cond.code ({ cls := "CellRowsModel", name := "fence", desc := "(IIII)I" } : Jvm.MethodName) prog_15_method_41_code (6 : Nat) (Option.some Jvm.ClassFile.FieldType.int)) ∈ lw_all := lw_g (lw_at lw_m7 62 rfl) rfl
theorem q1640 : (Jvm.Cond.instanceMethod ({ cls := "CellRowsModel", name := "cell", desc := "(II)I" } : Jvm.MethodName)) ∈ lw_all := lw_g (lw_at lw_m7 64 rfl) rfl
theorem q1641 : (Jvm.Cond.selects "CellRowsModel" ({ cls := "CellRowsModel", name := "cell", desc := "(II)I" } : Jvm.MethodName) ({ cls := "CellRowsModel", name := "cell", desc := "(II)I" } : Jvm.MethodName)) ∈ lw_all := lw_g (lw_at lw_m7 65 rfl) rfl
theorem q1642 : (Jvm.Cond.code ({ cls := "CellRowsModel", name := "cell", desc := "(II)I" } : Jvm.MethodName) prog_15_method_42_code (5 : Nat) (Option.some Jvm.ClassFile.FieldType.int)) ∈ lw_all := lw_g (lw_at lw_m7 66 rfl) rfl
theorem q1643 : (Jvm.Cond.constantLong "CellRowsModel" (196 : Nat) (6 : Int64)) ∈ lw_all := lw_g (lw_at lw_m7 67 rfl) rfl
theorem q1644 : (Jvm.Cond.methodLink "CellRowsModel" (198 : Nat) ({ cls := "CellRowsModel", name := "isFence", desc := "(I)Z" } : Jvm.MethodName)) ∈ lw_all := lw_g (lw_at lw_m7 68 rfl) rfl
theorem q1645 : (Jvm.Cond.privateMethod ({ cls := "CellRowsModel", name := "isFence", desc := "(I)Z" } : Jvm.MethodName)) ∈ lw_tbl := lw_at lw_m7 69 rfl
theorem q1646 : (Jvm.Cond.instanceMethod ({ cls := "CellRowsModel", name := "isFence", desc := "(I)Z" } : Jvm.MethodName)) ∈ lw_all := lw_g (lw_at lw_m7 70 rfl) rfl
theorem q1647 : (Jvm.Cond.code ({ cls := "CellRowsModel", name := "isFence", desc := "(I)Z" } : Jvm.MethodName) prog_15_method_23_code (2 : Nat) (Option.some Jvm.ClassFile.FieldType.boolean)) ∈ lw_all := lw_g (lw_at lw_m7 71 rfl) rfl
theorem q1649 : (Jvm.Cond.instanceMethod ({ cls := "CellRowsModel", name := "net", desc := "(I)I" } : Jvm.MethodName)) ∈ lw_all := lw_g (lw_at lw_m7 73 rfl) rfl
theorem q1650 : (Jvm.Cond.selects "CellRowsModel" ({ cls := "CellRowsModel", name := "net", desc := "(I)I" } : Jvm.MethodName) ({ cls := "CellRowsModel", name := "net", desc := "(I)I" } : Jvm.MethodName)) ∈ lw_all := lw_g (lw_at lw_m7 74 rfl) rfl
theorem q1651 : (Jvm.Cond.code ({ cls := "CellRowsModel", name := "net", desc := "(I)I" } : Jvm.MethodName) prog_15_method_44_code (6 : Nat) (Option.some Jvm.ClassFile.FieldType.int)) ∈ lw_all := lw_g (lw_at lw_m7 75 rfl) rfl
theorem q1652 : (Jvm.Cond.constantLong "CellRowsModel" (201 : Nat) (9 : Int64)) ∈ lw_all := lw_g (lw_at lw_m7 76 rfl) rfl
theorem q1653 : (Jvm.Cond.constantLong "CellRowsModel" (203 : Nat) (12 : Int64)) ∈ lw_all := lw_g (lw_at lw_m7 77 rfl) rfl
theorem q1654 : (Jvm.Cond.methodLink "CellRowsModel" (205 : Nat) ({ cls := "CellRowsModel", name := "isPin", desc := "(I)Z" } : Jvm.MethodName)) ∈ lw_all := lw_g (lw_at lw_m7 78 rfl) rfl
theorem q1655 : (Jvm.Cond.privateMethod ({ cls := "CellRowsModel", name := "isPin", desc := "(I)Z" } : Jvm.MethodName)) ∈ lw_tbl := lw_at lw_m7 79 rfl
theorem q1656 : (Jvm.Cond.instanceMethod ({ cls := "CellRowsModel", name := "isPin", desc := "(I)Z" } : Jvm.MethodName)) ∈ lw_all := lw_g (lw_at lw_m7 80 rfl) rfl
theorem q1657 : (Jvm.Cond.code ({ cls := "CellRowsModel", name := "isPin", desc := "(I)Z" } : Jvm.MethodName) prog_15_method_43_code (6 : Nat) (Option.some Jvm.ClassFile.FieldType.boolean)) ∈ lw_all := lw_g (lw_at lw_m7 81 rfl) rfl
theorem q1658 : (Jvm.Cond.methodLink "CellRowsModel" (208 : Nat) ({ cls := "CellRowsModel", name := "netAt", desc := "(I)I" } : Jvm.MethodName)) ∈ lw_all := lw_g (lw_at lw_m7 82 rfl) rfl
theorem q1659 : (Jvm.Cond.static ({ cls := "CellRowsModel", name := "netAt", desc := "(I)I" } : Jvm.MethodName)) ∈ lw_all := lw_g (lw_at lw_m7 83 rfl) rfl
theorem q1660 : (Jvm.Cond.code ({ cls := "CellRowsModel", name := "netAt", desc := "(I)I" } : Jvm.MethodName) prog_15_method_13_code (1 : Nat) (Option.some Jvm.ClassFile.FieldType.int)) ∈ lw_all := lw_g (lw_at lw_m7 84 rfl) rfl
theorem q1662 : (Jvm.Cond.instanceMethod ({ cls := "CellRowsModel", name := "drop", desc := "(I)I" } : Jvm.MethodName)) ∈ lw_all := lw_g (lw_at lw_m7 86 rfl) rfl
theorem q1663 : (Jvm.Cond.selects "CellRowsModel" ({ cls := "CellRowsModel", name := "drop", desc := "(I)I" } : Jvm.MethodName) ({ cls := "CellRowsModel", name := "drop", desc := "(I)I" } : Jvm.MethodName)) ∈ lw_all := lw_g (lw_at lw_m7 87 rfl) rfl
theorem q1664 : (Jvm.Cond.code ({ cls := "CellRowsModel", name := "drop", desc := "(I)I" } : Jvm.MethodName) prog_15_method_45_code (4 : Nat) (Option.some Jvm.ClassFile.FieldType.int)) ∈ lw_all := lw_g (lw_at lw_m7 88 rfl) rfl
theorem q1665 : (Jvm.Cond.methodLink "CellRowsModel" (211 : Nat) ({ cls := "CellRowsModel", name := "isNet", desc := "(I)Z" } : Jvm.MethodName)) ∈ lw_all := lw_g (lw_at lw_m7 89 rfl) rfl
theorem q1666 : (Jvm.Cond.privateMethod ({ cls := "CellRowsModel", name := "isNet", desc := "(I)Z" } : Jvm.MethodName)) ∈ lw_tbl := lw_at lw_m7 90 rfl
theorem q1667 : (Jvm.Cond.instanceMethod ({ cls := "CellRowsModel", name := "isNet", desc := "(I)Z" } : Jvm.MethodName)) ∈ lw_all := lw_g (lw_at lw_m7 91 rfl) rfl
theorem q1668 : (Jvm.Cond.code ({ cls := "CellRowsModel", name := "isNet", desc := "(I)Z" } : Jvm.MethodName) prog_15_method_22_code (2 : Nat) (Option.some Jvm.ClassFile.FieldType.boolean)) ∈ lw_all := lw_g (lw_at lw_m7 92 rfl) rfl
theorem q1670 : (Jvm.Cond.instanceMethod ({ cls := "CellRowsModel", name := "want", desc := "(III)I" } : Jvm.MethodName)) ∈ lw_all := lw_g (lw_at lw_m7 94 rfl) rfl
theorem q1671 : (Jvm.Cond.selects "CellRowsModel" ({ cls := "CellRowsModel", name := "want", desc := "(III)I" } : Jvm.MethodName) ({ cls := "CellRowsModel", name := "want", desc := "(III)I" } : Jvm.MethodName)) ∈ lw_all := lw_g (lw_at lw_m7 95 rfl) rfl
theorem q1672 : (Jvm.Cond.code ({ cls := "CellRowsModel", name := "want", desc := "(III)I" } : Jvm.MethodName) prog_15_method_46_code (6 : Nat) (Option.some Jvm.ClassFile.FieldType.int)) ∈ lw_all := lw_g (lw_at lw_m7 96 rfl) rfl
theorem q1673 : (Jvm.Cond.constantLong "CellRowsModel" (214 : Nat) (16 : Int64)) ∈ lw_all := lw_g (lw_at lw_m7 97 rfl) rfl
theorem q1674 : (Jvm.Cond.methodLink "CellRowsModel" (216 : Nat) ({ cls := "CellRowsModel", name := "far", desc := "(II)I" } : Jvm.MethodName)) ∈ lw_all := lw_g (lw_at lw_m7 98 rfl) rfl
theorem q1675 : (Jvm.Cond.static ({ cls := "CellRowsModel", name := "far", desc := "(II)I" } : Jvm.MethodName)) ∈ lw_all := lw_g (lw_at lw_m7 99 rfl) rfl
theorem q1676 : (Jvm.Cond.code ({ cls := "CellRowsModel", name := "far", desc := "(II)I" } : Jvm.MethodName) prog_15_method_4_code (2 : Nat) (Option.some Jvm.ClassFile.FieldType.int)) ∈ lw_all := lw_g (lw_at lw_m7 100 rfl) rfl
theorem q1678 : (Jvm.Cond.instanceMethod ({ cls := "CellRowsModel", name := "fix", desc := "(III)I" } : Jvm.MethodName)) ∈ lw_all := lw_g (lw_at lw_m7 102 rfl) rfl
theorem q1679 : (Jvm.Cond.selects "CellRowsModel" ({ cls := "CellRowsModel", name := "fix", desc := "(III)I" } : Jvm.MethodName) ({ cls := "CellRowsModel", name := "fix", desc := "(III)I" } : Jvm.MethodName)) ∈ lw_all := lw_g (lw_at lw_m7 103 rfl) rfl
theorem q1680 : (Jvm.Cond.code ({ cls := "CellRowsModel", name := "fix", desc := "(III)I" } : Jvm.MethodName) prog_15_method_47_code (7 : Nat) (Option.some Jvm.ClassFile.FieldType.int)) ∈ lw_all := lw_g (lw_at lw_m7 104 rfl) rfl
theorem q1681 : (Jvm.Cond.methodLink "CellRowsModel" (219 : Nat) ({ cls := "CellRowsModel", name := "give", desc := "(III)V" } : Jvm.MethodName)) ∈ lw_all := lw_g (lw_at lw_m7 105 rfl) rfl
theorem q1682 : (Jvm.Cond.privateMethod ({ cls := "CellRowsModel", name := "give", desc := "(III)V" } : Jvm.MethodName)) ∈ lw_tbl := lw_at lw_m7 106 rfl
theorem q1683 : (Jvm.Cond.instanceMethod ({ cls := "CellRowsModel", name := "give", desc := "(III)V" } : Jvm.MethodName)) ∈ lw_all := lw_g (lw_at lw_m7 107 rfl) rfl
theorem q1684 : (Jvm.Cond.code ({ cls := "CellRowsModel", name := "give", desc := "(III)V" } : Jvm.MethodName) prog_15_method_20_code (4 : Nat) (Option.none : Option Jvm.ClassFile.FieldType)) ∈ lw_all := lw_g (lw_at lw_m7 108 rfl) rfl
theorem q1686 : (Jvm.Cond.instanceMethod ({ cls := "CellRowsModel", name := "free", desc := "(I)I" } : Jvm.MethodName)) ∈ lw_all := lw_g (lw_at lw_m7 110 rfl) rfl
theorem q1687 : (Jvm.Cond.selects "CellRowsModel" ({ cls := "CellRowsModel", name := "free", desc := "(I)I" } : Jvm.MethodName) ({ cls := "CellRowsModel", name := "free", desc := "(I)I" } : Jvm.MethodName)) ∈ lw_all := lw_g (lw_at lw_m7 111 rfl) rfl
theorem q1688 : (Jvm.Cond.code ({ cls := "CellRowsModel", name := "free", desc := "(I)I" } : Jvm.MethodName) prog_15_method_48_code (2 : Nat) (Option.some Jvm.ClassFile.FieldType.int)) ∈ lw_all := lw_g (lw_at lw_m7 112 rfl) rfl
theorem q1690 : (Jvm.Cond.instanceMethod ({ cls := "CellRowsModel", name := "put", desc := "(III)I" } : Jvm.MethodName)) ∈ lw_all := lw_g (lw_at lw_m7 114 rfl) rfl
theorem q1691 : (Jvm.Cond.selects "CellRowsModel" ({ cls := "CellRowsModel", name := "put", desc := "(III)I" } : Jvm.MethodName) ({ cls := "CellRowsModel", name := "put", desc := "(III)I" } : Jvm.MethodName)) ∈ lw_all := lw_g (lw_at lw_m7 115 rfl) rfl
theorem q1692 : (Jvm.Cond.code ({ cls := "CellRowsModel", name := "put", desc := "(III)I" } : Jvm.MethodName) prog_15_method_49_code (4 : Nat) (Option.some Jvm.ClassFile.FieldType.int)) ∈ lw_all := lw_g (lw_at lw_m7 116 rfl) rfl
theorem q1693 : (Jvm.Cond.methodLink "CellRowsModel" (223 : Nat) ({ cls := "CellRowsModel", name := "wire", desc := "()I" } : Jvm.MethodName)) ∈ lw_all := lw_g (lw_at lw_m7 117 rfl) rfl
theorem q1694 : (Jvm.Cond.privateMethod ({ cls := "CellRowsModel", name := "wire", desc := "()I" } : Jvm.MethodName)) ∈ lw_tbl := lw_at lw_m7 118 rfl
theorem q1695 : (Jvm.Cond.instanceMethod ({ cls := "CellRowsModel", name := "wire", desc := "()I" } : Jvm.MethodName)) ∈ lw_all := lw_g (lw_at lw_m7 119 rfl) rfl
theorem q1696 : (Jvm.Cond.code ({ cls := "CellRowsModel", name := "wire", desc := "()I" } : Jvm.MethodName) prog_15_method_60_code (3 : Nat) (Option.some Jvm.ClassFile.FieldType.int)) ∈ lw_all := lw_g (lw_at lw_m7 120 rfl) rfl
theorem q1697 : (Jvm.Cond.methodLink "CellRowsModel" (256 : Nat) ({ cls := "CellRowsModel", name := "span", desc := "(I)I" } : Jvm.MethodName)) ∈ lw_all := lw_g (lw_at lw_m7 121 rfl) rfl
theorem q1698 : (Jvm.Cond.privateMethod ({ cls := "CellRowsModel", name := "span", desc := "(I)I" } : Jvm.MethodName)) ∈ lw_tbl := lw_at lw_m7 122 rfl
theorem q1699 : (Jvm.Cond.instanceMethod ({ cls := "CellRowsModel", name := "span", desc := "(I)I" } : Jvm.MethodName)) ∈ lw_all := lw_g (lw_at lw_m7 123 rfl) rfl
theorem q1700 : (Jvm.Cond.code ({ cls := "CellRowsModel", name := "span", desc := "(I)I" } : Jvm.MethodName) prog_15_method_59_code (2 : Nat) (Option.some Jvm.ClassFile.FieldType.int)) ∈ lw_all := lw_g (lw_at lw_m7 124 rfl) rfl
theorem q1701 : (Jvm.Cond.methodLink "CellRowsModel" (249 : Nat) ({ cls := "CellRowsModel", name := "greatestOf", desc := "(IZZ)I" } : Jvm.MethodName)) ∈ lw_all := lw_g (lw_at lw_m7 125 rfl) rfl
theorem q1702 : (Jvm.Cond.privateMethod ({ cls := "CellRowsModel", name := "greatestOf", desc := "(IZZ)I" } : Jvm.MethodName)) ∈ lw_tbl := lw_at lw_m7 126 rfl
theorem q1703 : (Jvm.Cond.instanceMethod ({ cls := "CellRowsModel", name := "greatestOf", desc := "(IZZ)I" } : Jvm.MethodName)) ∈ lw_all := lw_g (lw_at lw_m7 127 rfl) rfl
theorem q1704 : (Jvm.Cond.code ({ cls := "CellRowsModel", name := "greatestOf", desc := "(IZZ)I" } : Jvm.MethodName) prog_15_method_58_code (7 : Nat) (Option.some Jvm.ClassFile.FieldType.int)) ∈ lw_all := lw_g (lw_at lw_m7 128 rfl) rfl
theorem q1705 : (Jvm.Cond.constant "CellRowsModel" (248 : Nat) (-100000000 : Int32)) ∈ lw_all := lw_g (lw_at lw_m7 129 rfl) rfl
theorem q1706 : (Jvm.Cond.methodLink "CellRowsModel" (241 : Nat) ({ cls := "CellRowsModel", name := "pinMany", desc := "(I)I" } : Jvm.MethodName)) ∈ lw_all := lw_g (lw_at lw_m7 130 rfl) rfl
theorem q1707 : (Jvm.Cond.privateMethod ({ cls := "CellRowsModel", name := "pinMany", desc := "(I)I" } : Jvm.MethodName)) ∈ lw_tbl := lw_at lw_m7 131 rfl
theorem q1708 : (Jvm.Cond.instanceMethod ({ cls := "CellRowsModel", name := "pinMany", desc := "(I)I" } : Jvm.MethodName)) ∈ lw_all := lw_g (lw_at lw_m7 132 rfl) rfl
theorem q1709 : (Jvm.Cond.code ({ cls := "CellRowsModel", name := "pinMany", desc := "(I)I" } : Jvm.MethodName) prog_15_method_51_code (2 : Nat) (Option.some Jvm.ClassFile.FieldType.int)) ∈ lw_all := lw_g (lw_at lw_m7 133 rfl) rfl
theorem q1710 : (Jvm.Cond.methodLink "CellRowsModel" (244 : Nat) ({ cls := "CellRowsModel", name := "pinIs", desc := "(IIZZ)I" } : Jvm.MethodName)) ∈ lw_all := lw_g (lw_at lw_m7 134 rfl) rfl
theorem q1711 : (Jvm.Cond.privateMethod ({ cls := "CellRowsModel", name := "pinIs", desc := "(IIZZ)I" } : Jvm.MethodName)) ∈ lw_tbl := lw_at lw_m7 135 rfl
theorem q1712 : (Jvm.Cond.instanceMethod ({ cls := "CellRowsModel", name := "pinIs", desc := "(IIZZ)I" } : Jvm.MethodName)) ∈ lw_all := lw_g (lw_at lw_m7 136 rfl) rfl
theorem q1713 : (Jvm.Cond.code ({ cls := "CellRowsModel", name := "pinIs", desc := "(IIZZ)I" } : Jvm.MethodName) prog_15_method_56_code (5 : Nat) (Option.some Jvm.ClassFile.FieldType.int)) ∈ lw_all := lw_g (lw_at lw_m7 137 rfl) rfl
theorem q1714 : (Jvm.Cond.methodLink "CellRowsModel" (233 : Nat) ({ cls := "CellRowsModel", name := "pinY", desc := "(IIZ)I" } : Jvm.MethodName)) ∈ lw_all := lw_g (lw_at lw_m7 138 rfl) rfl
theorem q1715 : (Jvm.Cond.privateMethod ({ cls := "CellRowsModel", name := "pinY", desc := "(IIZ)I" } : Jvm.MethodName)) ∈ lw_tbl := lw_at lw_m7 139 rfl
theorem q1716 : (Jvm.Cond.instanceMethod ({ cls := "CellRowsModel", name := "pinY", desc := "(IIZ)I" } : Jvm.MethodName)) ∈ lw_all := lw_g (lw_at lw_m7 140 rfl) rfl
theorem q1717 : (Jvm.Cond.code ({ cls := "CellRowsModel", name := "pinY", desc := "(IIZ)I" } : Jvm.MethodName) prog_15_method_55_code (5 : Nat) (Option.some Jvm.ClassFile.FieldType.int)) ∈ lw_all := lw_g (lw_at lw_m7 141 rfl) rfl
theorem q1718 : (Jvm.Cond.methodLink "CellRowsModel" (227 : Nat) ({ cls := "CellRowsModel", name := "pinCell", desc := "(II)I" } : Jvm.MethodName)) ∈ lw_all := lw_g (lw_at lw_m7 142 rfl) rfl
theorem q1719 : (Jvm.Cond.privateMethod ({ cls := "CellRowsModel", name := "pinCell", desc := "(II)I" } : Jvm.MethodName)) ∈ lw_tbl := lw_at lw_m7 143 rfl
theorem q1720 : (Jvm.Cond.instanceMethod ({ cls := "CellRowsModel", name := "pinCell", desc := "(II)I" } : Jvm.MethodName)) ∈ lw_all := lw_g (lw_at lw_m7 144 rfl) rfl
theorem q1721 : (Jvm.Cond.code ({ cls := "CellRowsModel", name := "pinCell", desc := "(II)I" } : Jvm.MethodName) prog_15_method_52_code (4 : Nat) (Option.some Jvm.ClassFile.FieldType.int)) ∈ lw_all := lw_g (lw_at lw_m7 145 rfl) rfl
theorem q1722 : (Jvm.Cond.methodLink "CellRowsModel" (237 : Nat) ({ cls := "CellRowsModel", name := "pinX", desc := "(IIZ)I" } : Jvm.MethodName)) ∈ lw_all := lw_g (lw_at lw_m7 146 rfl) rfl
theorem q1723 : (Jvm.Cond.privateMethod ({ cls := "CellRowsModel", name := "pinX", desc := "(IIZ)I" } : Jvm.MethodName)) ∈ lw_tbl := lw_at lw_m7 147 rfl
theorem q1724 : (Jvm.Cond.instanceMethod ({ cls := "CellRowsModel", name := "pinX", desc := "(IIZ)I" } : Jvm.MethodName)) ∈ lw_all := lw_g (lw_at lw_m7 148 rfl) rfl
theorem q1725 : (Jvm.Cond.code ({ cls := "CellRowsModel", name := "pinX", desc := "(IIZ)I" } : Jvm.MethodName) prog_15_method_54_code (5 : Nat) (Option.some Jvm.ClassFile.FieldType.int)) ∈ lw_all := lw_g (lw_at lw_m7 149 rfl) rfl
theorem q1726 : (Jvm.Cond.methodLink "CellRowsModel" (230 : Nat) ({ cls := "CellRowsModel", name := "second", desc := "(II)I" } : Jvm.MethodName)) ∈ lw_all := lw_g (lw_at lw_m7 150 rfl) rfl
theorem q1727 : (Jvm.Cond.privateMethod ({ cls := "CellRowsModel", name := "second", desc := "(II)I" } : Jvm.MethodName)) ∈ lw_tbl := lw_at lw_m7 151 rfl
theorem q1728 : (Jvm.Cond.instanceMethod ({ cls := "CellRowsModel", name := "second", desc := "(II)I" } : Jvm.MethodName)) ∈ lw_all := lw_g (lw_at lw_m7 152 rfl) rfl
theorem q1729 : (Jvm.Cond.code ({ cls := "CellRowsModel", name := "second", desc := "(II)I" } : Jvm.MethodName) prog_15_method_53_code (3 : Nat) (Option.some Jvm.ClassFile.FieldType.int)) ∈ lw_all := lw_g (lw_at lw_m7 153 rfl) rfl
theorem q1730 : (Jvm.Cond.methodLink "CellRowsModel" (253 : Nat) ({ cls := "CellRowsModel", name := "leastOf", desc := "(IZZ)I" } : Jvm.MethodName)) ∈ lw_all := lw_g (lw_at lw_m7 154 rfl) rfl
theorem q1731 : (Jvm.Cond.privateMethod ({ cls := "CellRowsModel", name := "leastOf", desc := "(IZZ)I" } : Jvm.MethodName)) ∈ lw_tbl := lw_at lw_m7 155 rfl
theorem q1732 : (Jvm.Cond.instanceMethod ({ cls := "CellRowsModel", name := "leastOf", desc := "(IZZ)I" } : Jvm.MethodName)) ∈ lw_all := lw_g (lw_at lw_m7 156 rfl) rfl
theorem q1733 : (Jvm.Cond.code ({ cls := "CellRowsModel", name := "leastOf", desc := "(IZZ)I" } : Jvm.MethodName) prog_15_method_57_code (7 : Nat) (Option.some Jvm.ClassFile.FieldType.int)) ∈ lw_all := lw_g (lw_at lw_m7 157 rfl) rfl
theorem q1734 : (Jvm.Cond.constant "CellRowsModel" (240 : Nat) (100000000 : Int32)) ∈ lw_all := lw_g (lw_at lw_m7 158 rfl) rfl
theorem q1736 : (Jvm.Cond.instanceMethod ({ cls := "CellRowsModel", name := "take", desc := "(I)I" } : Jvm.MethodName)) ∈ lw_all := lw_g (lw_at lw_m7 160 rfl) rfl
theorem q1737 : (Jvm.Cond.selects "CellRowsModel" ({ cls := "CellRowsModel", name := "take", desc := "(I)I" } : Jvm.MethodName) ({ cls := "CellRowsModel", name := "take", desc := "(I)I" } : Jvm.MethodName)) ∈ lw_all := lw_g (lw_at lw_m7 161 rfl) rfl
theorem q1738 : (Jvm.Cond.code ({ cls := "CellRowsModel", name := "take", desc := "(I)I" } : Jvm.MethodName) prog_15_method_50_code (3 : Nat) (Option.some Jvm.ClassFile.FieldType.int)) ∈ lw_all := lw_g (lw_at lw_m7 162 rfl) rfl
theorem q1740 : (Jvm.Cond.instanceMethod ({ cls := "CellRowsModel", name := "start", desc := "(I)I" } : Jvm.MethodName)) ∈ lw_all := lw_g (lw_at lw_m7 164 rfl) rfl
theorem q1741 : (Jvm.Cond.selects "CellRowsModel" ({ cls := "CellRowsModel", name := "start", desc := "(I)I" } : Jvm.MethodName) ({ cls := "CellRowsModel", name := "start", desc := "(I)I" } : Jvm.MethodName)) ∈ lw_all := lw_g (lw_at lw_m7 165 rfl) rfl
theorem q1742 : (Jvm.Cond.code ({ cls := "CellRowsModel", name := "start", desc := "(I)I" } : Jvm.MethodName) prog_15_method_79_code (5 : Nat) (Option.some Jvm.ClassFile.FieldType.int)) ∈ lw_all := lw_g (lw_at lw_m7 166 rfl) rfl
theorem q1743 : (Jvm.Cond.constantLong "CellRowsModel" (307 : Nat) (20 : Int64)) ∈ lw_all := lw_g (lw_at lw_m7 167 rfl) rfl
theorem q1744 : (Jvm.Cond.methodLink "CellRowsModel" (309 : Nat) ({ cls := "CellRowsModel", name := "startCell", desc := "(I)V" } : Jvm.MethodName)) ∈ lw_all := lw_g (lw_at lw_m7 168 rfl) rfl
theorem q1745 : (Jvm.Cond.privateMethod ({ cls := "CellRowsModel", name := "startCell", desc := "(I)V" } : Jvm.MethodName)) ∈ lw_tbl := lw_at lw_m7 169 rfl
theorem q1746 : (Jvm.Cond.instanceMethod ({ cls := "CellRowsModel", name := "startCell", desc := "(I)V" } : Jvm.MethodName)) ∈ lw_all := lw_g (lw_at lw_m7 170 rfl) rfl
theorem q1747 : (Jvm.Cond.code ({ cls := "CellRowsModel", name := "startCell", desc := "(I)V" } : Jvm.MethodName) prog_15_method_78_code (8 : Nat) (Option.none : Option Jvm.ClassFile.FieldType)) ∈ lw_all := lw_g (lw_at lw_m7 171 rfl) rfl
theorem q1748 : (Jvm.Cond.methodLink "CellRowsModel" (295 : Nat) ({ cls := "CellRowsModel", name := "pinOf", desc := "(II)I" } : Jvm.MethodName)) ∈ lw_all := lw_g (lw_at lw_m7 172 rfl) rfl
theorem q1749 : (Jvm.Cond.privateMethod ({ cls := "CellRowsModel", name := "pinOf", desc := "(II)I" } : Jvm.MethodName)) ∈ lw_tbl := lw_at lw_m7 173 rfl
theorem q1750 : (Jvm.Cond.instanceMethod ({ cls := "CellRowsModel", name := "pinOf", desc := "(II)I" } : Jvm.MethodName)) ∈ lw_all := lw_g (lw_at lw_m7 174 rfl) rfl
theorem q1751 : (Jvm.Cond.code ({ cls := "CellRowsModel", name := "pinOf", desc := "(II)I" } : Jvm.MethodName) prog_15_method_77_code (5 : Nat) (Option.some Jvm.ClassFile.FieldType.int)) ∈ lw_all := lw_g (lw_at lw_m7 175 rfl) rfl
theorem q1752 : (Jvm.Cond.methodLink "CellRowsModel" (298 : Nat) ({ cls := "CellRowsModel", name := "down", desc := "(II)I" } : Jvm.MethodName)) ∈ lw_all := lw_g (lw_at lw_m7 176 rfl) rfl
theorem q1753 : (Jvm.Cond.static ({ cls := "CellRowsModel", name := "down", desc := "(II)I" } : Jvm.MethodName)) ∈ lw_all := lw_g (lw_at lw_m7 177 rfl) rfl
theorem q1754 : (Jvm.Cond.code ({ cls := "CellRowsModel", name := "down", desc := "(II)I" } : Jvm.MethodName) prog_15_method_6_code (2 : Nat) (Option.some Jvm.ClassFile.FieldType.int)) ∈ lw_all := lw_g (lw_at lw_m7 178 rfl) rfl
theorem q1755 : (Jvm.Cond.methodLink "CellRowsModel" (301 : Nat) ({ cls := "CellRowsModel", name := "heldX", desc := "(II)I" } : Jvm.MethodName)) ∈ lw_all := lw_g (lw_at lw_m7 179 rfl) rfl
theorem q1756 : (Jvm.Cond.privateMethod ({ cls := "CellRowsModel", name := "heldX", desc := "(II)I" } : Jvm.MethodName)) ∈ lw_tbl := lw_at lw_m7 180 rfl
theorem q1757 : (Jvm.Cond.instanceMethod ({ cls := "CellRowsModel", name := "heldX", desc := "(II)I" } : Jvm.MethodName)) ∈ lw_all := lw_g (lw_at lw_m7 181 rfl) rfl
theorem q1758 : (Jvm.Cond.code ({ cls := "CellRowsModel", name := "heldX", desc := "(II)I" } : Jvm.MethodName) prog_15_method_75_code (7 : Nat) (Option.some Jvm.ClassFile.FieldType.int)) ∈ lw_all := lw_g (lw_at lw_m7 182 rfl) rfl
theorem q1759 : (Jvm.Cond.methodLink "CellRowsModel" (291 : Nat) ({ cls := "CellRowsModel", name := "held", desc := "(III)I" } : Jvm.MethodName)) ∈ lw_all := lw_g (lw_at lw_m7 183 rfl) rfl
theorem q1760 : (Jvm.Cond.static ({ cls := "CellRowsModel", name := "held", desc := "(III)I" } : Jvm.MethodName)) ∈ lw_all := lw_g (lw_at lw_m7 184 rfl) rfl
theorem q1761 : (Jvm.Cond.code ({ cls := "CellRowsModel", name := "held", desc := "(III)I" } : Jvm.MethodName) prog_15_method_5_code (3 : Nat) (Option.some Jvm.ClassFile.FieldType.int)) ∈ lw_all := lw_g (lw_at lw_m7 185 rfl) rfl
theorem q1762 : (Jvm.Cond.methodLink "CellRowsModel" (304 : Nat) ({ cls := "CellRowsModel", name := "heldY", desc := "(II)I" } : Jvm.MethodName)) ∈ lw_all := lw_g (lw_at lw_m7 186 rfl) rfl
theorem q1763 : (Jvm.Cond.privateMethod ({ cls := "CellRowsModel", name := "heldY", desc := "(II)I" } : Jvm.MethodName)) ∈ lw_tbl := lw_at lw_m7 187 rfl
theorem q1764 : (Jvm.Cond.instanceMethod ({ cls := "CellRowsModel", name := "heldY", desc := "(II)I" } : Jvm.MethodName)) ∈ lw_all := lw_g (lw_at lw_m7 188 rfl) rfl
theorem q1765 : (Jvm.Cond.code ({ cls := "CellRowsModel", name := "heldY", desc := "(II)I" } : Jvm.MethodName) prog_15_method_76_code (6 : Nat) (Option.some Jvm.ClassFile.FieldType.int)) ∈ lw_all := lw_g (lw_at lw_m7 189 rfl) rfl
theorem q1767 : (Jvm.Cond.instanceMethod ({ cls := "CellRowsModel", name := "spread", desc := "(I)I" } : Jvm.MethodName)) ∈ lw_all := lw_g (lw_at lw_m7 191 rfl) rfl
theorem q1768 : (Jvm.Cond.selects "CellRowsModel" ({ cls := "CellRowsModel", name := "spread", desc := "(I)I" } : Jvm.MethodName) ({ cls := "CellRowsModel", name := "spread", desc := "(I)I" } : Jvm.MethodName)) ∈ lw_all := lw_g (lw_at lw_m7 192 rfl) rfl
theorem q1769 : (Jvm.Cond.code ({ cls := "CellRowsModel", name := "spread", desc := "(I)I" } : Jvm.MethodName) prog_15_method_83_code (5 : Nat) (Option.some Jvm.ClassFile.FieldType.int)) ∈ lw_all := lw_g (lw_at lw_m7 193 rfl) rfl
theorem q1770 : (Jvm.Cond.constantLong "CellRowsModel" (321 : Nat) (10 : Int64)) ∈ lw_all := lw_g (lw_at lw_m7 194 rfl) rfl
theorem q1771 : (Jvm.Cond.methodLink "CellRowsModel" (323 : Nat) ({ cls := "CellRowsModel", name := "laySupply", desc := "()V" } : Jvm.MethodName)) ∈ lw_all := lw_g (lw_at lw_m7 195 rfl) rfl
theorem q1772 : (Jvm.Cond.privateMethod ({ cls := "CellRowsModel", name := "laySupply", desc := "()V" } : Jvm.MethodName)) ∈ lw_tbl := lw_at lw_m7 196 rfl
theorem q1773 : (Jvm.Cond.instanceMethod ({ cls := "CellRowsModel", name := "laySupply", desc := "()V" } : Jvm.MethodName)) ∈ lw_all := lw_g (lw_at lw_m7 197 rfl) rfl
theorem q1774 : (Jvm.Cond.code ({ cls := "CellRowsModel", name := "laySupply", desc := "()V" } : Jvm.MethodName) prog_15_method_121_code (2 : Nat) (Option.none : Option Jvm.ClassFile.FieldType)) ∈ lw_all := lw_g (lw_at lw_m7 198 rfl) rfl
theorem q1775 : (Jvm.Cond.methodLink "CellRowsModel" (279 : Nat) ({ cls := "CellRowsModel", name := "bins", desc := "()I" } : Jvm.MethodName)) ∈ lw_all := lw_g (lw_at lw_m7 199 rfl) rfl
theorem q1776 : (Jvm.Cond.privateMethod ({ cls := "CellRowsModel", name := "bins", desc := "()I" } : Jvm.MethodName)) ∈ lw_tbl := lw_at lw_m7 200 rfl
theorem q1777 : (Jvm.Cond.instanceMethod ({ cls := "CellRowsModel", name := "bins", desc := "()I" } : Jvm.MethodName)) ∈ lw_all := lw_g (lw_at lw_m7 201 rfl) rfl
theorem q1778 : (Jvm.Cond.code ({ cls := "CellRowsModel", name := "bins", desc := "()I" } : Jvm.MethodName) prog_15_method_66_code (1 : Nat) (Option.some Jvm.ClassFile.FieldType.int)) ∈ lw_all := lw_g (lw_at lw_m7 202 rfl) rfl
theorem q1779 : (Jvm.Cond.methodLink "CellRowsModel" (269 : Nat) ({ cls := "CellRowsModel", name := "columns", desc := "()I" } : Jvm.MethodName)) ∈ lw_all := lw_g (lw_at lw_m7 203 rfl) rfl
theorem q1780 : (Jvm.Cond.privateMethod ({ cls := "CellRowsModel", name := "columns", desc := "()I" } : Jvm.MethodName)) ∈ lw_tbl := lw_at lw_m7 204 rfl
theorem q1781 : (Jvm.Cond.instanceMethod ({ cls := "CellRowsModel", name := "columns", desc := "()I" } : Jvm.MethodName)) ∈ lw_all := lw_g (lw_at lw_m7 205 rfl) rfl
theorem q1782 : (Jvm.Cond.code ({ cls := "CellRowsModel", name := "columns", desc := "()I" } : Jvm.MethodName) prog_15_method_65_code (1 : Nat) (Option.some Jvm.ClassFile.FieldType.int)) ∈ lw_all := lw_g (lw_at lw_m7 206 rfl) rfl
theorem q1783 : (Jvm.Cond.methodLink "CellRowsModel" (450 : Nat) ({ cls := "CellRowsModel", name := "supply", desc := "(I)I" } : Jvm.MethodName)) ∈ lw_all := lw_g (lw_at lw_m7 207 rfl) rfl
theorem q1784 : (Jvm.Cond.privateMethod ({ cls := "CellRowsModel", name := "supply", desc := "(I)I" } : Jvm.MethodName)) ∈ lw_tbl := lw_at lw_m7 208 rfl
theorem q1785 : (Jvm.Cond.instanceMethod ({ cls := "CellRowsModel", name := "supply", desc := "(I)I" } : Jvm.MethodName)) ∈ lw_all := lw_g (lw_at lw_m7 209 rfl) rfl
theorem q1786 : (Jvm.Cond.code ({ cls := "CellRowsModel", name := "supply", desc := "(I)I" } : Jvm.MethodName) prog_15_method_67_code (5 : Nat) (Option.some Jvm.ClassFile.FieldType.int)) ∈ lw_all := lw_g (lw_at lw_m7 210 rfl) rfl
theorem q1787 : (Jvm.Cond.methodLink "CellRowsModel" (312 : Nat) ({ cls := "CellRowsModel", name := "cost", desc := "()I" } : Jvm.MethodName)) ∈ lw_all := lw_g (lw_at lw_m7 211 rfl) rfl
theorem q1788 : (Jvm.Cond.privateMethod ({ cls := "CellRowsModel", name := "cost", desc := "()I" } : Jvm.MethodName)) ∈ lw_tbl := lw_at lw_m7 212 rfl
theorem q1789 : (Jvm.Cond.instanceMethod ({ cls := "CellRowsModel", name := "cost", desc := "()I" } : Jvm.MethodName)) ∈ lw_all := lw_g (lw_at lw_m7 213 rfl) rfl
theorem q1790 : (Jvm.Cond.code ({ cls := "CellRowsModel", name := "cost", desc := "()I" } : Jvm.MethodName) prog_15_method_72_code (1 : Nat) (Option.some Jvm.ClassFile.FieldType.int)) ∈ lw_all := lw_g (lw_at lw_m7 214 rfl) rfl
theorem q1791 : (Jvm.Cond.methodLink "CellRowsModel" (285 : Nat) ({ cls := "CellRowsModel", name := "smooths", desc := "()I" } : Jvm.MethodName)) ∈ lw_all := lw_g (lw_at lw_m7 215 rfl) rfl
theorem q1792 : (Jvm.Cond.privateMethod ({ cls := "CellRowsModel", name := "smooths", desc := "()I" } : Jvm.MethodName)) ∈ lw_tbl := lw_at lw_m7 216 rfl
theorem q1793 : (Jvm.Cond.instanceMethod ({ cls := "CellRowsModel", name := "smooths", desc := "()I" } : Jvm.MethodName)) ∈ lw_all := lw_g (lw_at lw_m7 217 rfl) rfl
theorem q1794 : (Jvm.Cond.code ({ cls := "CellRowsModel", name := "smooths", desc := "()I" } : Jvm.MethodName) prog_15_method_64_code (3 : Nat) (Option.some Jvm.ClassFile.FieldType.int)) ∈ lw_all := lw_g (lw_at lw_m7 218 rfl) rfl
theorem q1795 : (Jvm.Cond.methodLink "CellRowsModel" (266 : Nat) ({ cls := "CellRowsModel", name := "smooth", desc := "(I)I" } : Jvm.MethodName)) ∈ lw_all := lw_g (lw_at lw_m7 219 rfl) rfl
theorem q1796 : (Jvm.Cond.privateMethod ({ cls := "CellRowsModel", name := "smooth", desc := "(I)I" } : Jvm.MethodName)) ∈ lw_tbl := lw_at lw_m7 220 rfl
theorem q1797 : (Jvm.Cond.instanceMethod ({ cls := "CellRowsModel", name := "smooth", desc := "(I)I" } : Jvm.MethodName)) ∈ lw_all := lw_g (lw_at lw_m7 221 rfl) rfl
theorem q1798 : (Jvm.Cond.code ({ cls := "CellRowsModel", name := "smooth", desc := "(I)I" } : Jvm.MethodName) prog_15_method_63_code (2 : Nat) (Option.some Jvm.ClassFile.FieldType.int)) ∈ lw_all := lw_g (lw_at lw_m7 222 rfl) rfl
theorem q1799 : (Jvm.Cond.methodLink "CellRowsModel" (262 : Nat) ({ cls := "CellRowsModel", name := "smoothBy", desc := "(IZ)I" } : Jvm.MethodName)) ∈ lw_all := lw_g (lw_at lw_m7 223 rfl) rfl
theorem q1800 : (Jvm.Cond.privateMethod ({ cls := "CellRowsModel", name := "smoothBy", desc := "(IZ)I" } : Jvm.MethodName)) ∈ lw_tbl := lw_at lw_m7 224 rfl
theorem q1801 : (Jvm.Cond.instanceMethod ({ cls := "CellRowsModel", name := "smoothBy", desc := "(IZ)I" } : Jvm.MethodName)) ∈ lw_all := lw_g (lw_at lw_m7 225 rfl) rfl
theorem q1802 : (Jvm.Cond.code ({ cls := "CellRowsModel", name := "smoothBy", desc := "(IZ)I" } : Jvm.MethodName) prog_15_method_61_code (12 : Nat) (Option.some Jvm.ClassFile.FieldType.int)) ∈ lw_all := lw_g (lw_at lw_m7 226 rfl) rfl
theorem q1803 : (Jvm.Cond.methodLink "CellRowsModel" (259 : Nat) ({ cls := "CellRowsModel", name := "share", desc := "(I)I" } : Jvm.MethodName)) ∈ lw_all := lw_g (lw_at lw_m7 227 rfl) rfl
theorem q1804 : (Jvm.Cond.privateMethod ({ cls := "CellRowsModel", name := "share", desc := "(I)I" } : Jvm.MethodName)) ∈ lw_tbl := lw_at lw_m7 228 rfl
theorem q1805 : (Jvm.Cond.instanceMethod ({ cls := "CellRowsModel", name := "share", desc := "(I)I" } : Jvm.MethodName)) ∈ lw_all := lw_g (lw_at lw_m7 229 rfl) rfl
theorem q1806 : (Jvm.Cond.code ({ cls := "CellRowsModel", name := "share", desc := "(I)I" } : Jvm.MethodName) prog_15_method_62_code (3 : Nat) (Option.some Jvm.ClassFile.FieldType.int)) ∈ lw_all := lw_g (lw_at lw_m7 230 rfl) rfl
theorem q1807 : (Jvm.Cond.methodLink "CellRowsModel" (288 : Nat) ({ cls := "CellRowsModel", name := "overflow", desc := "()I" } : Jvm.MethodName)) ∈ lw_all := lw_g (lw_at lw_m7 231 rfl) rfl
theorem q1808 : (Jvm.Cond.privateMethod ({ cls := "CellRowsModel", name := "overflow", desc := "()I" } : Jvm.MethodName)) ∈ lw_tbl := lw_at lw_m7 232 rfl
theorem q1809 : (Jvm.Cond.instanceMethod ({ cls := "CellRowsModel", name := "overflow", desc := "()I" } : Jvm.MethodName)) ∈ lw_all := lw_g (lw_at lw_m7 233 rfl) rfl
theorem q1810 : (Jvm.Cond.code ({ cls := "CellRowsModel", name := "overflow", desc := "()I" } : Jvm.MethodName) prog_15_method_71_code (3 : Nat) (Option.some Jvm.ClassFile.FieldType.int)) ∈ lw_all := lw_g (lw_at lw_m7 234 rfl) rfl
theorem q1811 : (Jvm.Cond.methodLink "CellRowsModel" (282 : Nat) ({ cls := "CellRowsModel", name := "over", desc := "(I)I" } : Jvm.MethodName)) ∈ lw_all := lw_g (lw_at lw_m7 235 rfl) rfl
theorem q1812 : (Jvm.Cond.privateMethod ({ cls := "CellRowsModel", name := "over", desc := "(I)I" } : Jvm.MethodName)) ∈ lw_tbl := lw_at lw_m7 236 rfl
theorem q1813 : (Jvm.Cond.instanceMethod ({ cls := "CellRowsModel", name := "over", desc := "(I)I" } : Jvm.MethodName)) ∈ lw_all := lw_g (lw_at lw_m7 237 rfl) rfl
theorem q1814 : (Jvm.Cond.code ({ cls := "CellRowsModel", name := "over", desc := "(I)I" } : Jvm.MethodName) prog_15_method_70_code (3 : Nat) (Option.some Jvm.ClassFile.FieldType.int)) ∈ lw_all := lw_g (lw_at lw_m7 238 rfl) rfl
theorem q1815 : (Jvm.Cond.methodLink "CellRowsModel" (276 : Nat) ({ cls := "CellRowsModel", name := "needOf", desc := "(I)I" } : Jvm.MethodName)) ∈ lw_all := lw_g (lw_at lw_m7 239 rfl) rfl
theorem q1816 : (Jvm.Cond.privateMethod ({ cls := "CellRowsModel", name := "needOf", desc := "(I)I" } : Jvm.MethodName)) ∈ lw_tbl := lw_at lw_m8 0 rfl
theorem q1817 : (Jvm.Cond.instanceMethod ({ cls := "CellRowsModel", name := "needOf", desc := "(I)I" } : Jvm.MethodName)) ∈ lw_all := lw_g (lw_at lw_m8 1 rfl) rfl
theorem q1818 : (Jvm.Cond.code ({ cls := "CellRowsModel", name := "needOf", desc := "(I)I" } : Jvm.MethodName) prog_15_method_69_code (5 : Nat) (Option.some Jvm.ClassFile.FieldType.int)) ∈ lw_all := lw_g (lw_at lw_m8 2 rfl) rfl
theorem q1819 : (Jvm.Cond.methodLink "CellRowsModel" (272 : Nat) ({ cls := "CellRowsModel", name := "common", desc := "(IIII)I" } : Jvm.MethodName)) ∈ lw_all := lw_g (lw_at lw_m8 3 rfl) rfl
theorem q1820 : (Jvm.Cond.static ({ cls := "CellRowsModel", name := "common", desc := "(IIII)I" } : Jvm.MethodName)) ∈ lw_all := lw_g (lw_at lw_m8 4 rfl) rfl
theorem q1821 : (Jvm.Cond.code ({ cls := "CellRowsModel", name := "common", desc := "(IIII)I" } : Jvm.MethodName) prog_15_method_68_code (6 : Nat) (Option.some Jvm.ClassFile.FieldType.int)) ∈ lw_all := lw_g (lw_at lw_m8 5 rfl) rfl
theorem q1822 : (Jvm.Cond.methodLink "CellRowsModel" (326 : Nat) ({ cls := "CellRowsModel", name := "spreadCell", desc := "(I)V" } : Jvm.MethodName)) ∈ lw_all := lw_g (lw_at lw_m8 6 rfl) rfl
theorem q1823 : (Jvm.Cond.privateMethod ({ cls := "CellRowsModel", name := "spreadCell", desc := "(I)V" } : Jvm.MethodName)) ∈ lw_tbl := lw_at lw_m8 7 rfl
theorem q1824 : (Jvm.Cond.instanceMethod ({ cls := "CellRowsModel", name := "spreadCell", desc := "(I)V" } : Jvm.MethodName)) ∈ lw_all := lw_g (lw_at lw_m8 8 rfl) rfl
theorem q1825 : (Jvm.Cond.code ({ cls := "CellRowsModel", name := "spreadCell", desc := "(I)V" } : Jvm.MethodName) prog_15_method_82_code (10 : Nat) (Option.none : Option Jvm.ClassFile.FieldType)) ∈ lw_all := lw_g (lw_at lw_m8 9 rfl) rfl
theorem q1826 : (Jvm.Cond.methodLink "CellRowsModel" (315 : Nat) ({ cls := "CellRowsModel", name := "stepX", desc := "(I)I" } : Jvm.MethodName)) ∈ lw_all := lw_g (lw_at lw_m8 10 rfl) rfl
theorem q1827 : (Jvm.Cond.static ({ cls := "CellRowsModel", name := "stepX", desc := "(I)I" } : Jvm.MethodName)) ∈ lw_all := lw_g (lw_at lw_m8 11 rfl) rfl
theorem q1828 : (Jvm.Cond.code ({ cls := "CellRowsModel", name := "stepX", desc := "(I)I" } : Jvm.MethodName) prog_15_method_80_code (1 : Nat) (Option.some Jvm.ClassFile.FieldType.int)) ∈ lw_all := lw_g (lw_at lw_m8 12 rfl) rfl
theorem q1829 : (Jvm.Cond.methodLink "CellRowsModel" (318 : Nat) ({ cls := "CellRowsModel", name := "stepY", desc := "(I)I" } : Jvm.MethodName)) ∈ lw_all := lw_g (lw_at lw_m8 13 rfl) rfl
theorem q1830 : (Jvm.Cond.static ({ cls := "CellRowsModel", name := "stepY", desc := "(I)I" } : Jvm.MethodName)) ∈ lw_all := lw_g (lw_at lw_m8 14 rfl) rfl
theorem q1831 : (Jvm.Cond.code ({ cls := "CellRowsModel", name := "stepY", desc := "(I)I" } : Jvm.MethodName) prog_15_method_81_code (1 : Nat) (Option.some Jvm.ClassFile.FieldType.int)) ∈ lw_all := lw_g (lw_at lw_m8 15 rfl) rfl
theorem q1833 : (Jvm.Cond.instanceMethod ({ cls := "CellRowsModel", name := "legal", desc := "()I" } : Jvm.MethodName)) ∈ lw_all := lw_g (lw_at lw_m8 17 rfl) rfl
theorem q1834 : (Jvm.Cond.selects "CellRowsModel" ({ cls := "CellRowsModel", name := "legal", desc := "()I" } : Jvm.MethodName) ({ cls := "CellRowsModel", name := "legal", desc := "()I" } : Jvm.MethodName)) ∈ lw_all := lw_g (lw_at lw_m8 18 rfl) rfl
theorem q1835 : (Jvm.Cond.code ({ cls := "CellRowsModel", name := "legal", desc := "()I" } : Jvm.MethodName) prog_15_method_98_code (2 : Nat) (Option.some Jvm.ClassFile.FieldType.int)) ∈ lw_all := lw_g (lw_at lw_m8 19 rfl) rfl
theorem q1836 : (Jvm.Cond.methodLink "CellRowsModel" (374 : Nat) ({ cls := "CellRowsModel", name := "makeLawful", desc := "()Z" } : Jvm.MethodName)) ∈ lw_all := lw_g (lw_at lw_m8 20 rfl) rfl
theorem q1837 : (Jvm.Cond.privateMethod ({ cls := "CellRowsModel", name := "makeLawful", desc := "()Z" } : Jvm.MethodName)) ∈ lw_tbl := lw_at lw_m8 21 rfl
theorem q1838 : (Jvm.Cond.instanceMethod ({ cls := "CellRowsModel", name := "makeLawful", desc := "()Z" } : Jvm.MethodName)) ∈ lw_all := lw_g (lw_at lw_m8 22 rfl) rfl
theorem q1839 : (Jvm.Cond.code ({ cls := "CellRowsModel", name := "makeLawful", desc := "()Z" } : Jvm.MethodName) prog_15_method_96_code (3 : Nat) (Option.some Jvm.ClassFile.FieldType.boolean)) ∈ lw_all := lw_g (lw_at lw_m8 23 rfl) rfl
theorem q1840 : (Jvm.Cond.methodLink "CellRowsModel" (359 : Nat) ({ cls := "CellRowsModel", name := "layRuns", desc := "()V" } : Jvm.MethodName)) ∈ lw_all := lw_g (lw_at lw_m8 24 rfl) rfl
theorem q1841 : (Jvm.Cond.privateMethod ({ cls := "CellRowsModel", name := "layRuns", desc := "()V" } : Jvm.MethodName)) ∈ lw_tbl := lw_at lw_m8 25 rfl
theorem q1842 : (Jvm.Cond.instanceMethod ({ cls := "CellRowsModel", name := "layRuns", desc := "()V" } : Jvm.MethodName)) ∈ lw_all := lw_g (lw_at lw_m8 26 rfl) rfl
theorem q1843 : (Jvm.Cond.code ({ cls := "CellRowsModel", name := "layRuns", desc := "()V" } : Jvm.MethodName) prog_15_method_85_code (5 : Nat) (Option.none : Option Jvm.ClassFile.FieldType)) ∈ lw_all := lw_g (lw_at lw_m8 27 rfl) rfl
theorem q1844 : (Jvm.Cond.methodLink "CellRowsModel" (332 : Nat) ({ cls := "CellRowsModel", name := "isRunSite", desc := "(III)Z" } : Jvm.MethodName)) ∈ lw_all := lw_g (lw_at lw_m8 28 rfl) rfl
theorem q1845 : (Jvm.Cond.privateMethod ({ cls := "CellRowsModel", name := "isRunSite", desc := "(III)Z" } : Jvm.MethodName)) ∈ lw_tbl := lw_at lw_m8 29 rfl
theorem q1846 : (Jvm.Cond.instanceMethod ({ cls := "CellRowsModel", name := "isRunSite", desc := "(III)Z" } : Jvm.MethodName)) ∈ lw_all := lw_g (lw_at lw_m8 30 rfl) rfl
theorem q1847 : (Jvm.Cond.code ({ cls := "CellRowsModel", name := "isRunSite", desc := "(III)Z" } : Jvm.MethodName) prog_15_method_84_code (4 : Nat) (Option.some Jvm.ClassFile.FieldType.boolean)) ∈ lw_all := lw_g (lw_at lw_m8 31 rfl) rfl
theorem q1848 : (Jvm.Cond.methodLink "CellRowsModel" (362 : Nat) ({ cls := "CellRowsModel", name := "layQueue", desc := "()V" } : Jvm.MethodName)) ∈ lw_all := lw_g (lw_at lw_m8 32 rfl) rfl
theorem q1849 : (Jvm.Cond.privateMethod ({ cls := "CellRowsModel", name := "layQueue", desc := "()V" } : Jvm.MethodName)) ∈ lw_tbl := lw_at lw_m8 33 rfl
theorem q1850 : (Jvm.Cond.instanceMethod ({ cls := "CellRowsModel", name := "layQueue", desc := "()V" } : Jvm.MethodName)) ∈ lw_all := lw_g (lw_at lw_m8 34 rfl) rfl
theorem q1851 : (Jvm.Cond.code ({ cls := "CellRowsModel", name := "layQueue", desc := "()V" } : Jvm.MethodName) prog_15_method_93_code (3 : Nat) (Option.none : Option Jvm.ClassFile.FieldType)) ∈ lw_all := lw_g (lw_at lw_m8 35 rfl) rfl
theorem q1852 : (Jvm.Cond.methodLink "CellRowsModel" (347 : Nat) ({ cls := "CellRowsModel", name := "isAhead", desc := "(II)Z" } : Jvm.MethodName)) ∈ lw_all := lw_g (lw_at lw_m8 36 rfl) rfl
theorem q1853 : (Jvm.Cond.privateMethod ({ cls := "CellRowsModel", name := "isAhead", desc := "(II)Z" } : Jvm.MethodName)) ∈ lw_tbl := lw_at lw_m8 37 rfl
theorem q1854 : (Jvm.Cond.instanceMethod ({ cls := "CellRowsModel", name := "isAhead", desc := "(II)Z" } : Jvm.MethodName)) ∈ lw_all := lw_g (lw_at lw_m8 38 rfl) rfl
theorem q1855 : (Jvm.Cond.code ({ cls := "CellRowsModel", name := "isAhead", desc := "(II)Z" } : Jvm.MethodName) prog_15_method_92_code (5 : Nat) (Option.some Jvm.ClassFile.FieldType.boolean)) ∈ lw_all := lw_g (lw_at lw_m8 39 rfl) rfl
theorem q1856 : (Jvm.Cond.methodLink "CellRowsModel" (365 : Nat) ({ cls := "CellRowsModel", name := "runFor", desc := "(II)I" } : Jvm.MethodName)) ∈ lw_all := lw_g (lw_at lw_m8 40 rfl) rfl
theorem q1857 : (Jvm.Cond.privateMethod ({ cls := "CellRowsModel", name := "runFor", desc := "(II)I" } : Jvm.MethodName)) ∈ lw_tbl := lw_at lw_m8 41 rfl
theorem q1858 : (Jvm.Cond.instanceMethod ({ cls := "CellRowsModel", name := "runFor", desc := "(II)I" } : Jvm.MethodName)) ∈ lw_all := lw_g (lw_at lw_m8 42 rfl) rfl
theorem q1859 : (Jvm.Cond.code ({ cls := "CellRowsModel", name := "runFor", desc := "(II)I" } : Jvm.MethodName) prog_15_method_94_code (7 : Nat) (Option.some Jvm.ClassFile.FieldType.int)) ∈ lw_all := lw_g (lw_at lw_m8 43 rfl) rfl
theorem q1860 : (Jvm.Cond.methodLink "CellRowsModel" (350 : Nat) ({ cls := "CellRowsModel", name := "laySome", desc := "(III)V" } : Jvm.MethodName)) ∈ lw_all := lw_g (lw_at lw_m8 44 rfl) rfl
theorem q1861 : (Jvm.Cond.privateMethod ({ cls := "CellRowsModel", name := "laySome", desc := "(III)V" } : Jvm.MethodName)) ∈ lw_tbl := lw_at lw_m8 45 rfl
theorem q1862 : (Jvm.Cond.instanceMethod ({ cls := "CellRowsModel", name := "laySome", desc := "(III)V" } : Jvm.MethodName)) ∈ lw_all := lw_g (lw_at lw_m8 46 rfl) rfl
theorem q1863 : (Jvm.Cond.code ({ cls := "CellRowsModel", name := "laySome", desc := "(III)V" } : Jvm.MethodName) prog_15_method_90_code (5 : Nat) (Option.none : Option Jvm.ClassFile.FieldType)) ∈ lw_all := lw_g (lw_at lw_m8 47 rfl) rfl
theorem q1864 : (Jvm.Cond.methodLink "CellRowsModel" (353 : Nat) ({ cls := "CellRowsModel", name := "someWidth", desc := "()I" } : Jvm.MethodName)) ∈ lw_all := lw_g (lw_at lw_m8 48 rfl) rfl
theorem q1865 : (Jvm.Cond.privateMethod ({ cls := "CellRowsModel", name := "someWidth", desc := "()I" } : Jvm.MethodName)) ∈ lw_tbl := lw_at lw_m8 49 rfl
theorem q1866 : (Jvm.Cond.instanceMethod ({ cls := "CellRowsModel", name := "someWidth", desc := "()I" } : Jvm.MethodName)) ∈ lw_all := lw_g (lw_at lw_m8 50 rfl) rfl
theorem q1867 : (Jvm.Cond.code ({ cls := "CellRowsModel", name := "someWidth", desc := "()I" } : Jvm.MethodName) prog_15_method_91_code (3 : Nat) (Option.some Jvm.ClassFile.FieldType.int)) ∈ lw_all := lw_g (lw_at lw_m8 51 rfl) rfl
theorem q1868 : (Jvm.Cond.methodLink "CellRowsModel" (356 : Nat) ({ cls := "CellRowsModel", name := "leastIn", desc := "(I)I" } : Jvm.MethodName)) ∈ lw_all := lw_g (lw_at lw_m8 52 rfl) rfl
theorem q1869 : (Jvm.Cond.privateMethod ({ cls := "CellRowsModel", name := "leastIn", desc := "(I)I" } : Jvm.MethodName)) ∈ lw_tbl := lw_at lw_m8 53 rfl
theorem q1870 : (Jvm.Cond.instanceMethod ({ cls := "CellRowsModel", name := "leastIn", desc := "(I)I" } : Jvm.MethodName)) ∈ lw_all := lw_g (lw_at lw_m8 54 rfl) rfl
theorem q1871 : (Jvm.Cond.code ({ cls := "CellRowsModel", name := "leastIn", desc := "(I)I" } : Jvm.MethodName) prog_15_method_89_code (8 : Nat) (Option.some Jvm.ClassFile.FieldType.int)) ∈ lw_all := lw_g (lw_at lw_m8 55 rfl) rfl
theorem q1872 : (Jvm.Cond.methodLink "CellRowsModel" (341 : Nat) ({ cls := "CellRowsModel", name := "moveAt", desc := "(II)I" } : Jvm.MethodName)) ∈ lw_all := lw_g (lw_at lw_m8 56 rfl) rfl
theorem q1873 : (Jvm.Cond.privateMethod ({ cls := "CellRowsModel", name := "moveAt", desc := "(II)I" } : Jvm.MethodName)) ∈ lw_tbl := lw_at lw_m8 57 rfl
theorem q1874 : (Jvm.Cond.instanceMethod ({ cls := "CellRowsModel", name := "moveAt", desc := "(II)I" } : Jvm.MethodName)) ∈ lw_all := lw_g (lw_at lw_m8 58 rfl) rfl
theorem q1875 : (Jvm.Cond.code ({ cls := "CellRowsModel", name := "moveAt", desc := "(II)I" } : Jvm.MethodName) prog_15_method_88_code (3 : Nat) (Option.some Jvm.ClassFile.FieldType.int)) ∈ lw_all := lw_g (lw_at lw_m8 59 rfl) rfl
theorem q1876 : (Jvm.Cond.methodLink "CellRowsModel" (368 : Nat) ({ cls := "CellRowsModel", name := "placeRun", desc := "(I)V" } : Jvm.MethodName)) ∈ lw_all := lw_g (lw_at lw_m8 60 rfl) rfl
theorem q1877 : (Jvm.Cond.privateMethod ({ cls := "CellRowsModel", name := "placeRun", desc := "(I)V" } : Jvm.MethodName)) ∈ lw_tbl := lw_at lw_m8 61 rfl
theorem q1878 : (Jvm.Cond.instanceMethod ({ cls := "CellRowsModel", name := "placeRun", desc := "(I)V" } : Jvm.MethodName)) ∈ lw_all := lw_g (lw_at lw_m8 62 rfl) rfl
theorem q1879 : (Jvm.Cond.code ({ cls := "CellRowsModel", name := "placeRun", desc := "(I)V" } : Jvm.MethodName) prog_15_method_95_code (6 : Nat) (Option.none : Option Jvm.ClassFile.FieldType)) ∈ lw_all := lw_g (lw_at lw_m8 63 rfl) rfl
theorem q1880 : (Jvm.Cond.methodLink "CellRowsModel" (378 : Nat) ({ cls := "CellRowsModel", name := "looseMoves", desc := "()I" } : Jvm.MethodName)) ∈ lw_all := lw_g (lw_at lw_m8 64 rfl) rfl
theorem q1881 : (Jvm.Cond.privateMethod ({ cls := "CellRowsModel", name := "looseMoves", desc := "()I" } : Jvm.MethodName)) ∈ lw_tbl := lw_at lw_m8 65 rfl
theorem q1882 : (Jvm.Cond.instanceMethod ({ cls := "CellRowsModel", name := "looseMoves", desc := "()I" } : Jvm.MethodName)) ∈ lw_all := lw_g (lw_at lw_m8 66 rfl) rfl
theorem q1883 : (Jvm.Cond.code ({ cls := "CellRowsModel", name := "looseMoves", desc := "()I" } : Jvm.MethodName) prog_15_method_97_code (3 : Nat) (Option.some Jvm.ClassFile.FieldType.int)) ∈ lw_all := lw_g (lw_at lw_m8 67 rfl) rfl
theorem q1884 : (Jvm.Cond.methodLink "CellRowsModel" (371 : Nat) ({ cls := "CellRowsModel", name := "moveOf", desc := "(I)I" } : Jvm.MethodName)) ∈ lw_all := lw_g (lw_at lw_m8 68 rfl) rfl
theorem q1885 : (Jvm.Cond.privateMethod ({ cls := "CellRowsModel", name := "moveOf", desc := "(I)I" } : Jvm.MethodName)) ∈ lw_tbl := lw_at lw_m8 69 rfl
theorem q1886 : (Jvm.Cond.instanceMethod ({ cls := "CellRowsModel", name := "moveOf", desc := "(I)I" } : Jvm.MethodName)) ∈ lw_all := lw_g (lw_at lw_m8 70 rfl) rfl
theorem q1887 : (Jvm.Cond.code ({ cls := "CellRowsModel", name := "moveOf", desc := "(I)I" } : Jvm.MethodName) prog_15_method_74_code (3 : Nat) (Option.some Jvm.ClassFile.FieldType.int)) ∈ lw_all := lw_g (lw_at lw_m8 71 rfl) rfl
theorem q1889 : (Jvm.Cond.instanceMethod ({ cls := "CellRowsModel", name := "lawfully", desc := "(I)I" } : Jvm.MethodName)) ∈ lw_all := lw_g (lw_at lw_m8 73 rfl) rfl
theorem q1890 : (Jvm.Cond.selects "CellRowsModel" ({ cls := "CellRowsModel", name := "lawfully", desc := "(I)I" } : Jvm.MethodName) ({ cls := "CellRowsModel", name := "lawfully", desc := "(I)I" } : Jvm.MethodName)) ∈ lw_all := lw_g (lw_at lw_m8 74 rfl) rfl
theorem q1891 : (Jvm.Cond.code ({ cls := "CellRowsModel", name := "lawfully", desc := "(I)I" } : Jvm.MethodName) prog_15_method_99_code (4 : Nat) (Option.some Jvm.ClassFile.FieldType.int)) ∈ lw_all := lw_g (lw_at lw_m8 75 rfl) rfl
theorem q1893 : (Jvm.Cond.instanceMethod ({ cls := "CellRowsModel", name := "windows", desc := "(I)I" } : Jvm.MethodName)) ∈ lw_all := lw_g (lw_at lw_m8 77 rfl) rfl
theorem q1894 : (Jvm.Cond.selects "CellRowsModel" ({ cls := "CellRowsModel", name := "windows", desc := "(I)I" } : Jvm.MethodName) ({ cls := "CellRowsModel", name := "windows", desc := "(I)I" } : Jvm.MethodName)) ∈ lw_all := lw_g (lw_at lw_m8 78 rfl) rfl
theorem q1895 : (Jvm.Cond.code ({ cls := "CellRowsModel", name := "windows", desc := "(I)I" } : Jvm.MethodName) prog_15_method_106_code (5 : Nat) (Option.some Jvm.ClassFile.FieldType.int)) ∈ lw_all := lw_g (lw_at lw_m8 79 rfl) rfl
theorem q1896 : (Jvm.Cond.constantLong "CellRowsModel" (398 : Nat) (2 : Int64)) ∈ lw_all := lw_g (lw_at lw_m8 80 rfl) rfl
theorem q1897 : (Jvm.Cond.methodLink "CellRowsModel" (400 : Nat) ({ cls := "CellRowsModel", name := "layLies", desc := "(I)V" } : Jvm.MethodName)) ∈ lw_all := lw_g (lw_at lw_m8 81 rfl) rfl
theorem q1898 : (Jvm.Cond.privateMethod ({ cls := "CellRowsModel", name := "layLies", desc := "(I)V" } : Jvm.MethodName)) ∈ lw_tbl := lw_at lw_m8 82 rfl
theorem q1899 : (Jvm.Cond.instanceMethod ({ cls := "CellRowsModel", name := "layLies", desc := "(I)V" } : Jvm.MethodName)) ∈ lw_all := lw_g (lw_at lw_m8 83 rfl) rfl
theorem q1900 : (Jvm.Cond.code ({ cls := "CellRowsModel", name := "layLies", desc := "(I)V" } : Jvm.MethodName) prog_15_method_87_code (4 : Nat) (Option.none : Option Jvm.ClassFile.FieldType)) ∈ lw_all := lw_g (lw_at lw_m8 84 rfl) rfl
theorem q1901 : (Jvm.Cond.methodLink "CellRowsModel" (403 : Nat) ({ cls := "CellRowsModel", name := "window", desc := "(III)V" } : Jvm.MethodName)) ∈ lw_all := lw_g (lw_at lw_m8 85 rfl) rfl
theorem q1902 : (Jvm.Cond.privateMethod ({ cls := "CellRowsModel", name := "window", desc := "(III)V" } : Jvm.MethodName)) ∈ lw_tbl := lw_at lw_m8 86 rfl
theorem q1903 : (Jvm.Cond.instanceMethod ({ cls := "CellRowsModel", name := "window", desc := "(III)V" } : Jvm.MethodName)) ∈ lw_all := lw_g (lw_at lw_m8 87 rfl) rfl
theorem q1904 : (Jvm.Cond.code ({ cls := "CellRowsModel", name := "window", desc := "(III)V" } : Jvm.MethodName) prog_15_method_105_code (7 : Nat) (Option.none : Option Jvm.ClassFile.FieldType)) ∈ lw_all := lw_g (lw_at lw_m8 88 rfl) rfl
theorem q1905 : (Jvm.Cond.methodLink "CellRowsModel" (385 : Nat) ({ cls := "CellRowsModel", name := "firstOrder", desc := "(I)V" } : Jvm.MethodName)) ∈ lw_all := lw_g (lw_at lw_m8 89 rfl) rfl
theorem q1906 : (Jvm.Cond.privateMethod ({ cls := "CellRowsModel", name := "firstOrder", desc := "(I)V" } : Jvm.MethodName)) ∈ lw_tbl := lw_at lw_m8 90 rfl
theorem q1907 : (Jvm.Cond.instanceMethod ({ cls := "CellRowsModel", name := "firstOrder", desc := "(I)V" } : Jvm.MethodName)) ∈ lw_all := lw_g (lw_at lw_m8 91 rfl) rfl
theorem q1908 : (Jvm.Cond.code ({ cls := "CellRowsModel", name := "firstOrder", desc := "(I)V" } : Jvm.MethodName) prog_15_method_100_code (3 : Nat) (Option.none : Option Jvm.ClassFile.FieldType)) ∈ lw_all := lw_g (lw_at lw_m8 92 rfl) rfl
theorem q1909 : (Jvm.Cond.methodLink "CellRowsModel" (388 : Nat) ({ cls := "CellRowsModel", name := "keepOrder", desc := "(I)V" } : Jvm.MethodName)) ∈ lw_all := lw_g (lw_at lw_m8 93 rfl) rfl
theorem q1910 : (Jvm.Cond.privateMethod ({ cls := "CellRowsModel", name := "keepOrder", desc := "(I)V" } : Jvm.MethodName)) ∈ lw_tbl := lw_at lw_m8 94 rfl
theorem q1911 : (Jvm.Cond.instanceMethod ({ cls := "CellRowsModel", name := "keepOrder", desc := "(I)V" } : Jvm.MethodName)) ∈ lw_all := lw_g (lw_at lw_m8 95 rfl) rfl
theorem q1912 : (Jvm.Cond.code ({ cls := "CellRowsModel", name := "keepOrder", desc := "(I)V" } : Jvm.MethodName) prog_15_method_103_code (3 : Nat) (Option.none : Option Jvm.ClassFile.FieldType)) ∈ lw_all := lw_g (lw_at lw_m8 96 rfl) rfl
theorem q1913 : (Jvm.Cond.methodLink "CellRowsModel" (391 : Nat) ({ cls := "CellRowsModel", name := "nextOrder", desc := "(I)Z" } : Jvm.MethodName)) ∈ lw_all := lw_g (lw_at lw_m8 97 rfl) rfl
theorem q1914 : (Jvm.Cond.privateMethod ({ cls := "CellRowsModel", name := "nextOrder", desc := "(I)Z" } : Jvm.MethodName)) ∈ lw_tbl := lw_at lw_m8 98 rfl
theorem q1915 : (Jvm.Cond.instanceMethod ({ cls := "CellRowsModel", name := "nextOrder", desc := "(I)Z" } : Jvm.MethodName)) ∈ lw_all := lw_g (lw_at lw_m8 99 rfl) rfl
theorem q1916 : (Jvm.Cond.code ({ cls := "CellRowsModel", name := "nextOrder", desc := "(I)Z" } : Jvm.MethodName) prog_15_method_101_code (6 : Nat) (Option.some Jvm.ClassFile.FieldType.boolean)) ∈ lw_all := lw_g (lw_at lw_m8 100 rfl) rfl
theorem q1917 : (Jvm.Cond.methodLink "CellRowsModel" (381 : Nat) ({ cls := "CellRowsModel", name := "exchange", desc := "(II)V" } : Jvm.MethodName)) ∈ lw_all := lw_g (lw_at lw_m8 101 rfl) rfl
theorem q1918 : (Jvm.Cond.privateMethod ({ cls := "CellRowsModel", name := "exchange", desc := "(II)V" } : Jvm.MethodName)) ∈ lw_tbl := lw_at lw_m8 102 rfl
theorem q1919 : (Jvm.Cond.instanceMethod ({ cls := "CellRowsModel", name := "exchange", desc := "(II)V" } : Jvm.MethodName)) ∈ lw_all := lw_g (lw_at lw_m8 103 rfl) rfl
theorem q1920 : (Jvm.Cond.code ({ cls := "CellRowsModel", name := "exchange", desc := "(II)V" } : Jvm.MethodName) prog_15_method_102_code (4 : Nat) (Option.none : Option Jvm.ClassFile.FieldType)) ∈ lw_all := lw_g (lw_at lw_m8 104 rfl) rfl
theorem q1921 : (Jvm.Cond.methodLink "CellRowsModel" (394 : Nat) ({ cls := "CellRowsModel", name := "putWindow", desc := "(III[I)V" } : Jvm.MethodName)) ∈ lw_all := lw_g (lw_at lw_m8 105 rfl) rfl
theorem q1922 : (Jvm.Cond.privateMethod ({ cls := "CellRowsModel", name := "putWindow", desc := "(III[I)V" } : Jvm.MethodName)) ∈ lw_tbl := lw_at lw_m8 106 rfl
theorem q1923 : (Jvm.Cond.instanceMethod ({ cls := "CellRowsModel", name := "putWindow", desc := "(III[I)V" } : Jvm.MethodName)) ∈ lw_all := lw_g (lw_at lw_m8 107 rfl) rfl
theorem q1924 : (Jvm.Cond.code ({ cls := "CellRowsModel", name := "putWindow", desc := "(III[I)V" } : Jvm.MethodName) prog_15_method_104_code (8 : Nat) (Option.none : Option Jvm.ClassFile.FieldType)) ∈ lw_all := lw_g (lw_at lw_m8 108 rfl) rfl
theorem q1926 : (Jvm.Cond.instanceMethod ({ cls := "CellRowsModel", name := "swaps", desc := "()I" } : Jvm.MethodName)) ∈ lw_all := lw_g (lw_at lw_m8 110 rfl) rfl
theorem q1927 : (Jvm.Cond.selects "CellRowsModel" ({ cls := "CellRowsModel", name := "swaps", desc := "()I" } : Jvm.MethodName) ({ cls := "CellRowsModel", name := "swaps", desc := "()I" } : Jvm.MethodName)) ∈ lw_all := lw_g (lw_at lw_m8 111 rfl) rfl
theorem q1928 : (Jvm.Cond.code ({ cls := "CellRowsModel", name := "swaps", desc := "()I" } : Jvm.MethodName) prog_15_method_109_code (5 : Nat) (Option.some Jvm.ClassFile.FieldType.int)) ∈ lw_all := lw_g (lw_at lw_m8 112 rfl) rfl
theorem q1929 : (Jvm.Cond.methodLink "CellRowsModel" (406 : Nat) ({ cls := "CellRowsModel", name := "areLike", desc := "(II)Z" } : Jvm.MethodName)) ∈ lw_all := lw_g (lw_at lw_m8 113 rfl) rfl
theorem q1930 : (Jvm.Cond.privateMethod ({ cls := "CellRowsModel", name := "areLike", desc := "(II)Z" } : Jvm.MethodName)) ∈ lw_tbl := lw_at lw_m8 114 rfl
theorem q1931 : (Jvm.Cond.instanceMethod ({ cls := "CellRowsModel", name := "areLike", desc := "(II)Z" } : Jvm.MethodName)) ∈ lw_all := lw_g (lw_at lw_m8 115 rfl) rfl
theorem q1932 : (Jvm.Cond.code ({ cls := "CellRowsModel", name := "areLike", desc := "(II)Z" } : Jvm.MethodName) prog_15_method_107_code (3 : Nat) (Option.some Jvm.ClassFile.FieldType.boolean)) ∈ lw_all := lw_g (lw_at lw_m8 116 rfl) rfl
theorem q1933 : (Jvm.Cond.methodLink "CellRowsModel" (409 : Nat) ({ cls := "CellRowsModel", name := "exchangeSpots", desc := "(II)V" } : Jvm.MethodName)) ∈ lw_all := lw_g (lw_at lw_m8 117 rfl) rfl
theorem q1934 : (Jvm.Cond.privateMethod ({ cls := "CellRowsModel", name := "exchangeSpots", desc := "(II)V" } : Jvm.MethodName)) ∈ lw_tbl := lw_at lw_m8 118 rfl
theorem q1935 : (Jvm.Cond.instanceMethod ({ cls := "CellRowsModel", name := "exchangeSpots", desc := "(II)V" } : Jvm.MethodName)) ∈ lw_all := lw_g (lw_at lw_m8 119 rfl) rfl
theorem q1936 : (Jvm.Cond.code ({ cls := "CellRowsModel", name := "exchangeSpots", desc := "(II)V" } : Jvm.MethodName) prog_15_method_108_code (5 : Nat) (Option.none : Option Jvm.ClassFile.FieldType)) ∈ lw_all := lw_g (lw_at lw_m8 120 rfl) rfl
theorem q1938 : (Jvm.Cond.instanceMethod ({ cls := "CellRowsModel", name := "hops", desc := "()I" } : Jvm.MethodName)) ∈ lw_all := lw_g (lw_at lw_m8 122 rfl) rfl
theorem q1939 : (Jvm.Cond.selects "CellRowsModel" ({ cls := "CellRowsModel", name := "hops", desc := "()I" } : Jvm.MethodName) ({ cls := "CellRowsModel", name := "hops", desc := "()I" } : Jvm.MethodName)) ∈ lw_all := lw_g (lw_at lw_m8 123 rfl) rfl
theorem q1940 : (Jvm.Cond.code ({ cls := "CellRowsModel", name := "hops", desc := "()I" } : Jvm.MethodName) prog_15_method_111_code (3 : Nat) (Option.some Jvm.ClassFile.FieldType.int)) ∈ lw_all := lw_g (lw_at lw_m8 124 rfl) rfl
theorem q1941 : (Jvm.Cond.methodLink "CellRowsModel" (412 : Nat) ({ cls := "CellRowsModel", name := "hop", desc := "(I)V" } : Jvm.MethodName)) ∈ lw_all := lw_g (lw_at lw_m8 125 rfl) rfl
theorem q1942 : (Jvm.Cond.privateMethod ({ cls := "CellRowsModel", name := "hop", desc := "(I)V" } : Jvm.MethodName)) ∈ lw_tbl := lw_at lw_m8 126 rfl
theorem q1943 : (Jvm.Cond.instanceMethod ({ cls := "CellRowsModel", name := "hop", desc := "(I)V" } : Jvm.MethodName)) ∈ lw_all := lw_g (lw_at lw_m8 127 rfl) rfl
theorem q1944 : (Jvm.Cond.code ({ cls := "CellRowsModel", name := "hop", desc := "(I)V" } : Jvm.MethodName) prog_15_method_110_code (8 : Nat) (Option.none : Option Jvm.ClassFile.FieldType)) ∈ lw_all := lw_g (lw_at lw_m8 128 rfl) rfl
theorem q1946 : (Jvm.Cond.instanceMethod ({ cls := "CellRowsModel", name := "sorts", desc := "()I" } : Jvm.MethodName)) ∈ lw_all := lw_g (lw_at lw_m8 130 rfl) rfl
theorem q1947 : (Jvm.Cond.selects "CellRowsModel" ({ cls := "CellRowsModel", name := "sorts", desc := "()I" } : Jvm.MethodName) ({ cls := "CellRowsModel", name := "sorts", desc := "()I" } : Jvm.MethodName)) ∈ lw_all := lw_g (lw_at lw_m8 131 rfl) rfl
theorem q1948 : (Jvm.Cond.code ({ cls := "CellRowsModel", name := "sorts", desc := "()I" } : Jvm.MethodName) prog_15_method_116_code (4 : Nat) (Option.some Jvm.ClassFile.FieldType.int)) ∈ lw_all := lw_g (lw_at lw_m8 132 rfl) rfl
theorem q1949 : (Jvm.Cond.methodLink "CellRowsModel" (425 : Nat) ({ cls := "CellRowsModel", name := "layGroup", desc := "(II)V" } : Jvm.MethodName)) ∈ lw_all := lw_g (lw_at lw_m8 133 rfl) rfl
theorem q1950 : (Jvm.Cond.privateMethod ({ cls := "CellRowsModel", name := "layGroup", desc := "(II)V" } : Jvm.MethodName)) ∈ lw_tbl := lw_at lw_m8 134 rfl
theorem q1951 : (Jvm.Cond.instanceMethod ({ cls := "CellRowsModel", name := "layGroup", desc := "(II)V" } : Jvm.MethodName)) ∈ lw_all := lw_g (lw_at lw_m8 135 rfl) rfl
theorem q1952 : (Jvm.Cond.code ({ cls := "CellRowsModel", name := "layGroup", desc := "(II)V" } : Jvm.MethodName) prog_15_method_113_code (6 : Nat) (Option.none : Option Jvm.ClassFile.FieldType)) ∈ lw_all := lw_g (lw_at lw_m8 136 rfl) rfl
theorem q1953 : (Jvm.Cond.methodLink "CellRowsModel" (418 : Nat) ({ cls := "CellRowsModel", name := "haveNet", desc := "(II)Z" } : Jvm.MethodName)) ∈ lw_all := lw_g (lw_at lw_m8 137 rfl) rfl
theorem q1954 : (Jvm.Cond.privateMethod ({ cls := "CellRowsModel", name := "haveNet", desc := "(II)Z" } : Jvm.MethodName)) ∈ lw_tbl := lw_at lw_m8 138 rfl
theorem q1955 : (Jvm.Cond.instanceMethod ({ cls := "CellRowsModel", name := "haveNet", desc := "(II)Z" } : Jvm.MethodName)) ∈ lw_all := lw_g (lw_at lw_m8 139 rfl) rfl
theorem q1956 : (Jvm.Cond.code ({ cls := "CellRowsModel", name := "haveNet", desc := "(II)Z" } : Jvm.MethodName) prog_15_method_112_code (5 : Nat) (Option.some Jvm.ClassFile.FieldType.boolean)) ∈ lw_all := lw_g (lw_at lw_m8 140 rfl) rfl
theorem q1957 : (Jvm.Cond.methodLink "CellRowsModel" (428 : Nat) ({ cls := "CellRowsModel", name := "sortGroup", desc := "()V" } : Jvm.MethodName)) ∈ lw_all := lw_g (lw_at lw_m8 141 rfl) rfl
theorem q1958 : (Jvm.Cond.privateMethod ({ cls := "CellRowsModel", name := "sortGroup", desc := "()V" } : Jvm.MethodName)) ∈ lw_tbl := lw_at lw_m8 142 rfl
theorem q1959 : (Jvm.Cond.instanceMethod ({ cls := "CellRowsModel", name := "sortGroup", desc := "()V" } : Jvm.MethodName)) ∈ lw_all := lw_g (lw_at lw_m8 143 rfl) rfl
theorem q1960 : (Jvm.Cond.code ({ cls := "CellRowsModel", name := "sortGroup", desc := "()V" } : Jvm.MethodName) prog_15_method_115_code (3 : Nat) (Option.none : Option Jvm.ClassFile.FieldType)) ∈ lw_all := lw_g (lw_at lw_m8 144 rfl) rfl
theorem q1961 : (Jvm.Cond.methodLink "CellRowsModel" (421 : Nat) ({ cls := "CellRowsModel", name := "putGroup", desc := "([I)V" } : Jvm.MethodName)) ∈ lw_all := lw_g (lw_at lw_m8 145 rfl) rfl
theorem q1962 : (Jvm.Cond.privateMethod ({ cls := "CellRowsModel", name := "putGroup", desc := "([I)V" } : Jvm.MethodName)) ∈ lw_tbl := lw_at lw_m8 146 rfl
theorem q1963 : (Jvm.Cond.instanceMethod ({ cls := "CellRowsModel", name := "putGroup", desc := "([I)V" } : Jvm.MethodName)) ∈ lw_all := lw_g (lw_at lw_m8 147 rfl) rfl
theorem q1964 : (Jvm.Cond.code ({ cls := "CellRowsModel", name := "putGroup", desc := "([I)V" } : Jvm.MethodName) prog_15_method_114_code (3 : Nat) (Option.none : Option Jvm.ClassFile.FieldType)) ∈ lw_all := lw_g (lw_at lw_m8 148 rfl) rfl
theorem q1966 : (Jvm.Cond.instanceMethod ({ cls := "CellRowsModel", name := "shake", desc := "(III)I" } : Jvm.MethodName)) ∈ lw_all := lw_g (lw_at lw_m8 150 rfl) rfl
theorem q1967 : (Jvm.Cond.selects "CellRowsModel" ({ cls := "CellRowsModel", name := "shake", desc := "(III)I" } : Jvm.MethodName) ({ cls := "CellRowsModel", name := "shake", desc := "(III)I" } : Jvm.MethodName)) ∈ lw_all := lw_g (lw_at lw_m8 151 rfl) rfl
theorem q1968 : (Jvm.Cond.code ({ cls := "CellRowsModel", name := "shake", desc := "(III)I" } : Jvm.MethodName) prog_15_method_118_code (11 : Nat) (Option.some Jvm.ClassFile.FieldType.int)) ∈ lw_all := lw_g (lw_at lw_m8 152 rfl) rfl
theorem q1969 : (Jvm.Cond.constantLong "CellRowsModel" (441 : Nat) (1000000 : Int64)) ∈ lw_all := lw_g (lw_at lw_m8 153 rfl) rfl
theorem q1970 : (Jvm.Cond.constantLong "CellRowsModel" (443 : Nat) (60 : Int64)) ∈ lw_all := lw_g (lw_at lw_m8 154 rfl) rfl
theorem q1971 : (Jvm.Cond.constantLong "CellRowsModel" (445 : Nat) (9999 : Int64)) ∈ lw_all := lw_g (lw_at lw_m8 155 rfl) rfl
theorem q1972 : (Jvm.Cond.methodLink "CellRowsModel" (447 : Nat) ({ cls := "CellRowsModel", name := "draw", desc := "(I)I" } : Jvm.MethodName)) ∈ lw_all := lw_g (lw_at lw_m8 156 rfl) rfl
theorem q1973 : (Jvm.Cond.privateMethod ({ cls := "CellRowsModel", name := "draw", desc := "(I)I" } : Jvm.MethodName)) ∈ lw_tbl := lw_at lw_m8 157 rfl
theorem q1974 : (Jvm.Cond.instanceMethod ({ cls := "CellRowsModel", name := "draw", desc := "(I)I" } : Jvm.MethodName)) ∈ lw_all := lw_g (lw_at lw_m8 158 rfl) rfl
theorem q1975 : (Jvm.Cond.code ({ cls := "CellRowsModel", name := "draw", desc := "(I)I" } : Jvm.MethodName) prog_15_method_117_code (2 : Nat) (Option.some Jvm.ClassFile.FieldType.int)) ∈ lw_all := lw_g (lw_at lw_m8 159 rfl) rfl
theorem q1976 : (Jvm.Cond.constantLong "CellRowsModel" (435 : Nat) (1103 : Int64)) ∈ lw_all := lw_g (lw_at lw_m8 160 rfl) rfl
theorem q1977 : (Jvm.Cond.constantLong "CellRowsModel" (437 : Nat) (12345 : Int64)) ∈ lw_all := lw_g (lw_at lw_m8 161 rfl) rfl
theorem q1978 : (Jvm.Cond.constantLong "CellRowsModel" (439 : Nat) (1000003 : Int64)) ∈ lw_all := lw_g (lw_at lw_m8 162 rfl) rfl
theorem q1980 : (Jvm.Cond.instanceMethod ({ cls := "CellRowsModel", name := "cellOf", desc := "(II)I" } : Jvm.MethodName)) ∈ lw_all := lw_g (lw_at lw_m8 164 rfl) rfl
theorem q1981 : (Jvm.Cond.selects "CellRowsModel" ({ cls := "CellRowsModel", name := "cellOf", desc := "(II)I" } : Jvm.MethodName) ({ cls := "CellRowsModel", name := "cellOf", desc := "(II)I" } : Jvm.MethodName)) ∈ lw_all := lw_g (lw_at lw_m8 165 rfl) rfl
theorem q1982 : (Jvm.Cond.code ({ cls := "CellRowsModel", name := "cellOf", desc := "(II)I" } : Jvm.MethodName) prog_15_method_119_code (5 : Nat) (Option.some Jvm.ClassFile.FieldType.int)) ∈ lw_all := lw_g (lw_at lw_m8 166 rfl) rfl
theorem q1984 : (Jvm.Cond.instanceMethod ({ cls := "CellRowsModel", name := "netOf", desc := "(II)I" } : Jvm.MethodName)) ∈ lw_all := lw_g (lw_at lw_m8 168 rfl) rfl
theorem q1985 : (Jvm.Cond.selects "CellRowsModel" ({ cls := "CellRowsModel", name := "netOf", desc := "(II)I" } : Jvm.MethodName) ({ cls := "CellRowsModel", name := "netOf", desc := "(II)I" } : Jvm.MethodName)) ∈ lw_all := lw_g (lw_at lw_m8 169 rfl) rfl
theorem q1986 : (Jvm.Cond.code ({ cls := "CellRowsModel", name := "netOf", desc := "(II)I" } : Jvm.MethodName) prog_15_method_120_code (3 : Nat) (Option.some Jvm.ClassFile.FieldType.int)) ∈ lw_all := lw_g (lw_at lw_m8 170 rfl) rfl
theorem q1988 : (Jvm.Cond.instanceMethod ({ cls := "CellRowsModel", name := "bin", desc := "(II)I" } : Jvm.MethodName)) ∈ lw_all := lw_g (lw_at lw_m8 172 rfl) rfl
theorem q1989 : (Jvm.Cond.selects "CellRowsModel" ({ cls := "CellRowsModel", name := "bin", desc := "(II)I" } : Jvm.MethodName) ({ cls := "CellRowsModel", name := "bin", desc := "(II)I" } : Jvm.MethodName)) ∈ lw_all := lw_g (lw_at lw_m8 173 rfl) rfl
theorem q1990 : (Jvm.Cond.code ({ cls := "CellRowsModel", name := "bin", desc := "(II)I" } : Jvm.MethodName) prog_15_method_122_code (3 : Nat) (Option.some Jvm.ClassFile.FieldType.int)) ∈ lw_all := lw_g (lw_at lw_m8 174 rfl) rfl
theorem q1991 : (Jvm.Cond.methodLink "CellRowsModel" (453 : Nat) ({ cls := "CellRowsModel", name := "demand", desc := "(I)I" } : Jvm.MethodName)) ∈ lw_all := lw_g (lw_at lw_m8 175 rfl) rfl
theorem q1992 : (Jvm.Cond.privateMethod ({ cls := "CellRowsModel", name := "demand", desc := "(I)I" } : Jvm.MethodName)) ∈ lw_tbl := lw_at lw_m8 176 rfl
theorem q1993 : (Jvm.Cond.instanceMethod ({ cls := "CellRowsModel", name := "demand", desc := "(I)I" } : Jvm.MethodName)) ∈ lw_all := lw_g (lw_at lw_m8 177 rfl) rfl
theorem q1994 : (Jvm.Cond.code ({ cls := "CellRowsModel", name := "demand", desc := "(I)I" } : Jvm.MethodName) prog_15_method_73_code (5 : Nat) (Option.some Jvm.ClassFile.FieldType.int)) ∈ lw_all := lw_g (lw_at lw_m8 178 rfl) rfl
theorem q1996 : (Jvm.Cond.instanceMethod ({ cls := "CellRowsModel", name := "measure", desc := "(I)I" } : Jvm.MethodName)) ∈ lw_all := lw_g (lw_at lw_m8 180 rfl) rfl
theorem q1997 : (Jvm.Cond.selects "CellRowsModel" ({ cls := "CellRowsModel", name := "measure", desc := "(I)I" } : Jvm.MethodName) ({ cls := "CellRowsModel", name := "measure", desc := "(I)I" } : Jvm.MethodName)) ∈ lw_all := lw_g (lw_at lw_m8 181 rfl) rfl
theorem q1998 : (Jvm.Cond.code ({ cls := "CellRowsModel", name := "measure", desc := "(I)I" } : Jvm.MethodName) prog_15_method_126_code (2 : Nat) (Option.some Jvm.ClassFile.FieldType.int)) ∈ lw_all := lw_g (lw_at lw_m8 182 rfl) rfl
theorem q1999 : (Jvm.Cond.methodLink "CellRowsModel" (456 : Nat) ({ cls := "CellRowsModel", name := "spotMoves", desc := "()I" } : Jvm.MethodName)) ∈ lw_all := lw_g (lw_at lw_m8 183 rfl) rfl
theorem q2000 : (Jvm.Cond.privateMethod ({ cls := "CellRowsModel", name := "spotMoves", desc := "()I" } : Jvm.MethodName)) ∈ lw_tbl := lw_at lw_m8 184 rfl
theorem q2001 : (Jvm.Cond.instanceMethod ({ cls := "CellRowsModel", name := "spotMoves", desc := "()I" } : Jvm.MethodName)) ∈ lw_all := lw_g (lw_at lw_m8 185 rfl) rfl
theorem q2002 : (Jvm.Cond.code ({ cls := "CellRowsModel", name := "spotMoves", desc := "()I" } : Jvm.MethodName) prog_15_method_123_code (3 : Nat) (Option.some Jvm.ClassFile.FieldType.int)) ∈ lw_all := lw_g (lw_at lw_m8 186 rfl) rfl
theorem q2003 : (Jvm.Cond.methodLink "CellRowsModel" (459 : Nat) ({ cls := "CellRowsModel", name := "withoutSpot", desc := "()I" } : Jvm.MethodName)) ∈ lw_all := lw_g (lw_at lw_m8 187 rfl) rfl
theorem q2004 : (Jvm.Cond.privateMethod ({ cls := "CellRowsModel", name := "withoutSpot", desc := "()I" } : Jvm.MethodName)) ∈ lw_tbl := lw_at lw_m8 188 rfl
theorem q2005 : (Jvm.Cond.instanceMethod ({ cls := "CellRowsModel", name := "withoutSpot", desc := "()I" } : Jvm.MethodName)) ∈ lw_all := lw_g (lw_at lw_m8 189 rfl) rfl
theorem q2006 : (Jvm.Cond.code ({ cls := "CellRowsModel", name := "withoutSpot", desc := "()I" } : Jvm.MethodName) prog_15_method_124_code (3 : Nat) (Option.some Jvm.ClassFile.FieldType.int)) ∈ lw_all := lw_g (lw_at lw_m8 190 rfl) rfl
theorem q2007 : (Jvm.Cond.constantLong "CellRowsModel" (462 : Nat) (8 : Int64)) ∈ lw_all := lw_g (lw_at lw_m8 191 rfl) rfl
theorem q2008 : (Jvm.Cond.methodLink "CellRowsModel" (464 : Nat) ({ cls := "CellRowsModel", name := "crowds", desc := "(I)I" } : Jvm.MethodName)) ∈ lw_all := lw_g (lw_at lw_m8 192 rfl) rfl
theorem q2009 : (Jvm.Cond.privateMethod ({ cls := "CellRowsModel", name := "crowds", desc := "(I)I" } : Jvm.MethodName)) ∈ lw_tbl := lw_at lw_m8 193 rfl
theorem q2010 : (Jvm.Cond.instanceMethod ({ cls := "CellRowsModel", name := "crowds", desc := "(I)I" } : Jvm.MethodName)) ∈ lw_all := lw_g (lw_at lw_m8 194 rfl) rfl
theorem q2011 : (Jvm.Cond.code ({ cls := "CellRowsModel", name := "crowds", desc := "(I)I" } : Jvm.MethodName) prog_15_method_125_code (7 : Nat) (Option.some Jvm.ClassFile.FieldType.int)) ∈ lw_all := lw_g (lw_at lw_m8 195 rfl) rfl
theorem q2013 : (Jvm.Cond.instanceMethod ({ cls := "CellRowsModel", name := "runs", desc := "(II)I" } : Jvm.MethodName)) ∈ lw_all := lw_g (lw_at lw_m8 197 rfl) rfl
theorem q2014 : (Jvm.Cond.selects "CellRowsModel" ({ cls := "CellRowsModel", name := "runs", desc := "(II)I" } : Jvm.MethodName) ({ cls := "CellRowsModel", name := "runs", desc := "(II)I" } : Jvm.MethodName)) ∈ lw_all := lw_g (lw_at lw_m8 198 rfl) rfl
theorem q2015 : (Jvm.Cond.code ({ cls := "CellRowsModel", name := "runs", desc := "(II)I" } : Jvm.MethodName) prog_15_method_128_code (4 : Nat) (Option.some Jvm.ClassFile.FieldType.int)) ∈ lw_all := lw_g (lw_at lw_m8 199 rfl) rfl
theorem q2016 : (Jvm.Cond.methodLink "CellRowsModel" (467 : Nat) ({ cls := "CellRowsModel", name := "isRunKind", desc := "(II)Z" } : Jvm.MethodName)) ∈ lw_all := lw_g (lw_at lw_m8 200 rfl) rfl
theorem q2017 : (Jvm.Cond.privateMethod ({ cls := "CellRowsModel", name := "isRunKind", desc := "(II)Z" } : Jvm.MethodName)) ∈ lw_tbl := lw_at lw_m8 201 rfl
theorem q2018 : (Jvm.Cond.instanceMethod ({ cls := "CellRowsModel", name := "isRunKind", desc := "(II)Z" } : Jvm.MethodName)) ∈ lw_all := lw_g (lw_at lw_m8 202 rfl) rfl
theorem q2019 : (Jvm.Cond.code ({ cls := "CellRowsModel", name := "isRunKind", desc := "(II)Z" } : Jvm.MethodName) prog_15_method_127_code (3 : Nat) (Option.some Jvm.ClassFile.FieldType.boolean)) ∈ lw_all := lw_g (lw_at lw_m8 203 rfl) rfl
theorem q2020 : (Jvm.Cond.methodLink "CellRowsModel" (470 : Nat) ({ cls := "CellRowsModel", name := "findRun", desc := "(III)I" } : Jvm.MethodName)) ∈ lw_all := lw_g (lw_at lw_m8 204 rfl) rfl
theorem q2021 : (Jvm.Cond.privateMethod ({ cls := "CellRowsModel", name := "findRun", desc := "(III)I" } : Jvm.MethodName)) ∈ lw_tbl := lw_at lw_m8 205 rfl
theorem q2022 : (Jvm.Cond.instanceMethod ({ cls := "CellRowsModel", name := "findRun", desc := "(III)I" } : Jvm.MethodName)) ∈ lw_all := lw_g (lw_at lw_m8 206 rfl) rfl
theorem q2023 : (Jvm.Cond.code ({ cls := "CellRowsModel", name := "findRun", desc := "(III)I" } : Jvm.MethodName) prog_15_method_86_code (7 : Nat) (Option.some Jvm.ClassFile.FieldType.int)) ∈ lw_all := lw_g (lw_at lw_m8 207 rfl) rfl
theorem q2025 : (Jvm.Cond.instanceMethod ({ cls := "CellRowsModel", name := "run", desc := "(IIII)I" } : Jvm.MethodName)) ∈ lw_all := lw_g (lw_at lw_m8 209 rfl) rfl
theorem q2026 : (Jvm.Cond.selects "CellRowsModel" ({ cls := "CellRowsModel", name := "run", desc := "(IIII)I" } : Jvm.MethodName) ({ cls := "CellRowsModel", name := "run", desc := "(IIII)I" } : Jvm.MethodName)) ∈ lw_all := lw_g (lw_at lw_m8 210 rfl) rfl
theorem q2027 : (Jvm.Cond.code ({ cls := "CellRowsModel", name := "run", desc := "(IIII)I" } : Jvm.MethodName) prog_15_method_129_code (7 : Nat) (Option.some Jvm.ClassFile.FieldType.int)) ∈ lw_all := lw_g (lw_at lw_m8 211 rfl) rfl
theorem q2029 : (Jvm.Cond.instanceMethod ({ cls := "CellRowsModel", name := "would", desc := "(III)I" } : Jvm.MethodName)) ∈ lw_all := lw_g (lw_at lw_m8 213 rfl) rfl
theorem q2030 : (Jvm.Cond.selects "CellRowsModel" ({ cls := "CellRowsModel", name := "would", desc := "(III)I" } : Jvm.MethodName) ({ cls := "CellRowsModel", name := "would", desc := "(III)I" } : Jvm.MethodName)) ∈ lw_all := lw_g (lw_at lw_m8 214 rfl) rfl
theorem q2031 : (Jvm.Cond.code ({ cls := "CellRowsModel", name := "would", desc := "(III)I" } : Jvm.MethodName) prog_15_method_131_code (4 : Nat) (Option.some Jvm.ClassFile.FieldType.int)) ∈ lw_all := lw_g (lw_at lw_m8 215 rfl) rfl
theorem q2032 : (Jvm.Cond.methodLink "CellRowsModel" (473 : Nat) ({ cls := "CellRowsModel", name := "wireWith", desc := "(III)I" } : Jvm.MethodName)) ∈ lw_all := lw_g (lw_at lw_m8 216 rfl) rfl
theorem q2033 : (Jvm.Cond.privateMethod ({ cls := "CellRowsModel", name := "wireWith", desc := "(III)I" } : Jvm.MethodName)) ∈ lw_tbl := lw_at lw_m8 217 rfl
theorem q2034 : (Jvm.Cond.instanceMethod ({ cls := "CellRowsModel", name := "wireWith", desc := "(III)I" } : Jvm.MethodName)) ∈ lw_all := lw_g (lw_at lw_m8 218 rfl) rfl
theorem q2035 : (Jvm.Cond.code ({ cls := "CellRowsModel", name := "wireWith", desc := "(III)I" } : Jvm.MethodName) prog_15_method_130_code (7 : Nat) (Option.some Jvm.ClassFile.FieldType.int)) ∈ lw_all := lw_g (lw_at lw_m8 219 rfl) rfl
theorem q2037 : (Jvm.Cond.instanceMethod ({ cls := "CellRowsModel", name := "best", desc := "(II)I" } : Jvm.MethodName)) ∈ lw_all := lw_g (lw_at lw_m8 221 rfl) rfl
theorem q2038 : (Jvm.Cond.selects "CellRowsModel" ({ cls := "CellRowsModel", name := "best", desc := "(II)I" } : Jvm.MethodName) ({ cls := "CellRowsModel", name := "best", desc := "(II)I" } : Jvm.MethodName)) ∈ lw_all := lw_g (lw_at lw_m8 222 rfl) rfl
theorem q2039 : (Jvm.Cond.code ({ cls := "CellRowsModel", name := "best", desc := "(II)I" } : Jvm.MethodName) prog_15_method_132_code (8 : Nat) (Option.some Jvm.ClassFile.FieldType.int)) ∈ lw_all := lw_g (lw_at lw_m8 223 rfl) rfl
theorem q2041 : (Jvm.Cond.instanceMethod ({ cls := "CellRowsModel", name := "fillers", desc := "(I)I" } : Jvm.MethodName)) ∈ lw_all := lw_g (lw_at lw_m8 225 rfl) rfl
theorem q2042 : (Jvm.Cond.selects "CellRowsModel" ({ cls := "CellRowsModel", name := "fillers", desc := "(I)I" } : Jvm.MethodName) ({ cls := "CellRowsModel", name := "fillers", desc := "(I)I" } : Jvm.MethodName)) ∈ lw_all := lw_g (lw_at lw_m8 226 rfl) rfl
theorem q2043 : (Jvm.Cond.code ({ cls := "CellRowsModel", name := "fillers", desc := "(I)I" } : Jvm.MethodName) prog_15_method_133_code (6 : Nat) (Option.some Jvm.ClassFile.FieldType.int)) ∈ lw_all := lw_g (lw_at lw_m8 227 rfl) rfl
theorem q2045 : (Jvm.Cond.instanceMethod ({ cls := "CellRowsModel", name := "count", desc := "(I)I" } : Jvm.MethodName)) ∈ lw_all := lw_g (lw_at lw_m8 229 rfl) rfl
theorem q2046 : (Jvm.Cond.selects "CellRowsModel" ({ cls := "CellRowsModel", name := "count", desc := "(I)I" } : Jvm.MethodName) ({ cls := "CellRowsModel", name := "count", desc := "(I)I" } : Jvm.MethodName)) ∈ lw_all := lw_g (lw_at lw_m8 230 rfl) rfl
theorem q2047 : (Jvm.Cond.code ({ cls := "CellRowsModel", name := "count", desc := "(I)I" } : Jvm.MethodName) prog_15_method_134_code (2 : Nat) (Option.some Jvm.ClassFile.FieldType.int)) ∈ lw_all := lw_g (lw_at lw_m8 231 rfl) rfl
theorem q2048 : (Jvm.Cond.constantLong "CellRowsModel" (476 : Nat) (14 : Int64)) ∈ lw_all := lw_g (lw_at lw_m8 232 rfl) rfl
theorem q2049 : (Jvm.Cond.constantLong "CellRowsModel" (478 : Nat) (19 : Int64)) ∈ lw_all := lw_g (lw_at lw_m8 233 rfl) rfl
theorem q2051 : (Jvm.Cond.instanceMethod ({ cls := "CellRowsModel", name := "status", desc := "()I" } : Jvm.MethodName)) ∈ lw_all := lw_g (lw_at lw_m8 235 rfl) rfl
theorem q2052 : (Jvm.Cond.selects "CellRowsModel" ({ cls := "CellRowsModel", name := "status", desc := "()I" } : Jvm.MethodName) ({ cls := "CellRowsModel", name := "status", desc := "()I" } : Jvm.MethodName)) ∈ lw_all := lw_g (lw_at lw_m8 236 rfl) rfl
theorem q2053 : (Jvm.Cond.code ({ cls := "CellRowsModel", name := "status", desc := "()I" } : Jvm.MethodName) prog_15_method_135_code (1 : Nat) (Option.some Jvm.ClassFile.FieldType.int)) ∈ lw_all := lw_g (lw_at lw_m8 237 rfl) rfl
theorem q2064 : (Jvm.Cond.castable "CellRowsModel" "java/lang/Object") ∈ lw_tbl := lw_at lw_m9 8 rfl
theorem in_X9 : ∀ w ∈ wsX90, w ∈ lw_all := lw_in wsX90 [1437, 1439, 1441, 1443, 1445, 1447, 1449, 1451, 1453, 1455, 1457, 1459, 1461, 1463, 1465, 1467, 1469, 1471, 1473, 1475, 1477, 1479, 1481, 1483, 1485, 1487, 1489, 1491, 1493, 1495, 1497, 1499, 1501, 1503, 1505, 1507, 1509] (by decide +kernel) (by decide +kernel)
