/-! SheetBranches -/
set_option maxRecDepth 100000
def RX1 : String := "SheetBranches"
def TX1 : u_T := fun k => match k with
  | 0 => ("SheetBranches", "tape", "[B", true)
  | 1 => ("SheetBranches", "taped", "I", false)
  | 2 => ("SheetBranches", "faultKind", "I", false)
  | 3 => ("SheetBranches", "faultPlace", "I", false)
  | 4 => ("SheetBranches", "versions", "[LSheetBranches$Version;", true)
  | 5 => ("SheetBranches", "many", "I", false)
  | 6 => ("SheetBranches", "branches", "[I", true)
  | 7 => ("SheetBranches", "branch", "I", false)
  | 8 => ("SheetBranches", "work", "LSheetBranches$Sheet;", false)
  | 9 => ("SheetBranches", "values", "LSheetBranches$Values;", true)
  | 10 => ("SheetBranches", "isReckoned", "Z", false)
  | 11 => ("SheetBranches", "past", "[LSheetBranches$Sheet;", true)
  | 12 => ("SheetBranches", "future", "[LSheetBranches$Sheet;", true)
  | 13 => ("SheetBranches", "passed", "I", false)
  | 14 => ("SheetBranches", "undone", "I", false)
  | 15 => ("SheetBranches", "merging", "I", false)
  | 16 => ("SheetBranches", "merges", "I", false)
  | 17 => ("SheetBranches", "parts", "I", false)
  | 18 => ("SheetBranches", "conflicts", "[LSheetBranches$Conflict;", false)
  | 19 => ("SheetBranches", "settled", "[Z", false)
  | 20 => ("SheetBranches", "conflicted", "I", false)
  | 21 => ("SheetBranches", "nextRow", "I", false)
  | 22 => ("SheetBranches", "nextColumn", "I", false)
  | 23 => ("SheetBranches", "works", "LSheetBranches$Works;", true)
  | 24 => ("SheetBranches", "reader", "LSheetBranches$Reader;", true)
  | 25 => ("SheetBranches", "pen", "LSheetBranches$Pen;", true)
  | 26 => ("SheetBranches", "unlike", "[I", true)
  | 27 => ("SheetBranches", "unlikeRow", "[I", true)
  | 28 => ("SheetBranches", "unlikeColumn", "[I", true)
  | 29 => ("SheetBranches", "differences", "I", false)
  | 30 => ("SheetBranches", "one", "LSheetBranches$Worth;", true)
  | _ => ("SheetBranches", "two", "LSheetBranches$Worth;", true)
def tyX1 : Nat → FieldType := fun k => match k with
  | 0 => .array .byte
  | 1 => .int
  | 2 => .int
  | 3 => .int
  | 4 => .array (.object "SheetBranches$Version")
  | 5 => .int
  | 6 => .array .int
  | 7 => .int
  | 8 => .object "SheetBranches$Sheet"
  | 9 => .object "SheetBranches$Values"
  | 10 => .boolean
  | 11 => .array (.object "SheetBranches$Sheet")
  | 12 => .array (.object "SheetBranches$Sheet")
  | 13 => .int
  | 14 => .int
  | 15 => .int
  | 16 => .int
  | 17 => .int
  | 18 => .array (.object "SheetBranches$Conflict")
  | 19 => .array .boolean
  | 20 => .int
  | 21 => .int
  | 22 => .int
  | 23 => .object "SheetBranches$Works"
  | 24 => .object "SheetBranches$Reader"
  | 25 => .object "SheetBranches$Pen"
  | 26 => .array .int
  | 27 => .array .int
  | 28 => .array .int
  | 29 => .int
  | 30 => .object "SheetBranches$Worth"
  | _ => .object "SheetBranches$Worth"
abbrev wsX10 : List Cond := u_ws RX1 TX1 32
set_option maxRecDepth 100000 in
theorem nmX1 : ∀ a, a < 32 → ∀ b, b < 32 → a ≠ b → (TX1 a).2.1 ≠ (TX1 b).2.1 := by decide +kernel
set_option maxRecDepth 100000 in
theorem tyX1_ok : ∀ k, k < 32 → parseFieldDescriptor (TX1 k).2.2.1 = some (tyX1 k) := by decide +kernel
abbrev cX1_init : ByteArray := prog_1_method_5_code
def yX1_init : MethodName := ⟨RX1, "<init>", "()V"⟩
def dkwX1_init_13 : List UInt8 := [181, 0, 198, 177]
abbrev dktX1_init_13 : List UInt8 := dkwX1_init_13 ++ []
def dkwX1_init_12 : List UInt8 := [162, 0, 17, 42, 180, 0, 106, 21, 4, 2, 79, 132, 4, 1, 167, 255, 238, 42, 45, 182, 0, 194]
abbrev dktX1_init_12 : List UInt8 := dkwX1_init_12 ++ dktX1_init_13
def dkwX1_init_11 : List UInt8 := [187, 0, 100, 89, 45, 2, 2, 10, 183, 0, 188, 83, 42, 4, 181, 0, 191, 4, 54, 4, 21, 4, 16, 6]
abbrev dktX1_init_11 : List UInt8 := dkwX1_init_11 ++ dktX1_init_12
def dkwX1_init_10 : List UInt8 := [29, 29, 79, 132, 3, 1, 167, 255, 241, 187, 0, 117, 89, 43, 44, 183, 0, 185, 78, 42, 180, 0, 102, 3]
abbrev dktX1_init_10 : List UInt8 := dkwX1_init_10 ++ dktX1_init_11
def dkwX1_init_9 : List UInt8 := [162, 0, 13, 43, 29, 29, 79, 132, 3, 1, 167, 255, 241, 3, 62, 29, 42, 180, 0, 142, 162, 0, 13, 44]
abbrev dktX1_init_9 : List UInt8 := dkwX1_init_9 ++ dktX1_init_10
def dkwX1_init_8 : List UInt8 := [181, 0, 182, 42, 180, 0, 139, 188, 10, 76, 42, 180, 0, 142, 188, 10, 77, 3, 62, 29, 42, 180, 0, 139]
abbrev dktX1_init_8 : List UInt8 := dkwX1_init_8 ++ dktX1_init_9
def dkwX1_init_7 : List UInt8 := [181, 0, 174, 42, 187, 0, 24, 89, 183, 0, 177, 181, 0, 178, 42, 187, 0, 24, 89, 183, 0, 177]
abbrev dktX1_init_7 : List UInt8 := dkwX1_init_7 ++ dktX1_init_8
def dkwX1_init_6 : List UInt8 := [17, 1, 244, 188, 10, 181, 0, 168, 42, 17, 1, 244, 188, 10, 181, 0, 171, 42, 17, 1, 244, 188, 10]
abbrev dktX1_init_6 : List UInt8 := dkwX1_init_6 ++ dktX1_init_7
def dkwX1_init_5 : List UInt8 := [183, 0, 156, 181, 0, 157, 42, 187, 0, 161, 89, 42, 180, 0, 102, 183, 0, 163, 181, 0, 164, 42]
abbrev dktX1_init_5 : List UInt8 := dkwX1_init_5 ++ dktX1_init_6
def dkwX1_init_4 : List UInt8 := [187, 0, 145, 89, 42, 180, 0, 102, 183, 0, 147, 181, 0, 150, 42, 187, 0, 154, 89, 42, 180, 0, 102]
abbrev dktX1_init_4 : List UInt8 := dkwX1_init_4 ++ dktX1_init_5
def dkwX1_init_3 : List UInt8 := [181, 0, 131, 42, 3, 188, 4, 181, 0, 135, 42, 16, 8, 181, 0, 139, 42, 16, 6, 181, 0, 142, 42]
abbrev dktX1_init_3 : List UInt8 := dkwX1_init_3 ++ dktX1_init_4
def dkwX1_init_2 : List UInt8 := [181, 0, 119, 42, 16, 40, 189, 0, 117, 181, 0, 123, 42, 2, 181, 0, 126, 42, 3, 189, 0, 129]
abbrev dktX1_init_2 : List UInt8 := dkwX1_init_2 ++ dktX1_init_3
def dkwX1_init_1 : List UInt8 := [16, 6, 188, 10, 181, 0, 106, 42, 187, 0, 110, 89, 183, 0, 112, 181, 0, 113, 42, 16, 40, 189, 0, 117]
abbrev dktX1_init_1 : List UInt8 := dkwX1_init_1 ++ dktX1_init_2
def dkwX1_init_0 : List UInt8 := [42, 183, 0, 91, 42, 17, 1, 144, 188, 8, 181, 0, 96, 42, 16, 40, 189, 0, 100, 181, 0, 102, 42]
abbrev dktX1_init_0 : List UInt8 := dkwX1_init_0 ++ dktX1_init_1
theorem dksX1_init_0 : cX1_init.data.toList.drop 0 = dktX1_init_0 := by decide +kernel
theorem dksX1_init_1 : cX1_init.data.toList.drop 23 = dktX1_init_1 := dk_seg dksX1_init_0 23 rfl rfl
theorem dksX1_init_2 : cX1_init.data.toList.drop 47 = dktX1_init_2 := dk_seg dksX1_init_1 24 rfl rfl
theorem dksX1_init_3 : cX1_init.data.toList.drop 69 = dktX1_init_3 := dk_seg dksX1_init_2 22 rfl rfl
theorem dksX1_init_4 : cX1_init.data.toList.drop 92 = dktX1_init_4 := dk_seg dksX1_init_3 23 rfl rfl
theorem dksX1_init_5 : cX1_init.data.toList.drop 115 = dktX1_init_5 := dk_seg dksX1_init_4 23 rfl rfl
theorem dksX1_init_6 : cX1_init.data.toList.drop 137 = dktX1_init_6 := dk_seg dksX1_init_5 22 rfl rfl
theorem dksX1_init_7 : cX1_init.data.toList.drop 160 = dktX1_init_7 := dk_seg dksX1_init_6 23 rfl rfl
theorem dksX1_init_8 : cX1_init.data.toList.drop 182 = dktX1_init_8 := dk_seg dksX1_init_7 22 rfl rfl
theorem dksX1_init_9 : cX1_init.data.toList.drop 206 = dktX1_init_9 := dk_seg dksX1_init_8 24 rfl rfl
theorem dksX1_init_10 : cX1_init.data.toList.drop 230 = dktX1_init_10 := dk_seg dksX1_init_9 24 rfl rfl
theorem dksX1_init_11 : cX1_init.data.toList.drop 254 = dktX1_init_11 := dk_seg dksX1_init_10 24 rfl rfl
theorem dksX1_init_12 : cX1_init.data.toList.drop 278 = dktX1_init_12 := dk_seg dksX1_init_11 24 rfl rfl
theorem dksX1_init_13 : cX1_init.data.toList.drop 300 = dktX1_init_13 := dk_seg dksX1_init_12 22 rfl rfl
theorem dX1_init_0 : decode cX1_init 0 = .ok (.aload_n 0, 1) := dk_42 (dk_at dksX1_init_0 0 rfl rfl)
theorem dX1_init_1 : decode cX1_init 1 = .ok (.invokespecial 91, 3) := dk_183 0 91 (dk_at dksX1_init_0 1 rfl rfl)
theorem dX1_init_4 : decode cX1_init 4 = .ok (.aload_n 0, 1) := dk_42 (dk_at dksX1_init_0 4 rfl rfl)
theorem dX1_init_5 : decode cX1_init 5 = .ok (.sipush 400, 3) := dk_17 1 144 (dk_at dksX1_init_0 5 rfl rfl)
theorem dX1_init_8 : decode cX1_init 8 = .ok (.newarray .byte, 2) := dk_188_8 (dk_at dksX1_init_0 8 rfl rfl)
theorem dX1_init_10 : decode cX1_init 10 = .ok (.putfield 96, 3) := dk_181 0 96 (dk_at dksX1_init_0 10 rfl rfl)
theorem dX1_init_13 : decode cX1_init 13 = .ok (.aload_n 0, 1) := dk_42 (dk_at dksX1_init_0 13 rfl rfl)
theorem dX1_init_14 : decode cX1_init 14 = .ok (.bipush 40, 2) := dk_16 40 (dk_at dksX1_init_0 14 rfl rfl)
theorem dX1_init_16 : decode cX1_init 16 = .ok (.anewarray 100, 3) := dk_189 0 100 (dk_at dksX1_init_0 16 rfl rfl)
theorem dX1_init_19 : decode cX1_init 19 = .ok (.putfield 102, 3) := dk_181 0 102 (dk_at dksX1_init_0 19 rfl rfl)
theorem dX1_init_22 : decode cX1_init 22 = .ok (.aload_n 0, 1) := dk_42 (dk_at dksX1_init_0 22 rfl rfl)
theorem dX1_init_23 : decode cX1_init 23 = .ok (.bipush 6, 2) := dk_16 6 (dk_at dksX1_init_1 0 rfl rfl)
theorem dX1_init_25 : decode cX1_init 25 = .ok (.newarray .int, 2) := dk_188_10 (dk_at dksX1_init_1 2 rfl rfl)
theorem dX1_init_27 : decode cX1_init 27 = .ok (.putfield 106, 3) := dk_181 0 106 (dk_at dksX1_init_1 4 rfl rfl)
theorem dX1_init_30 : decode cX1_init 30 = .ok (.aload_n 0, 1) := dk_42 (dk_at dksX1_init_1 7 rfl rfl)
theorem dX1_init_31 : decode cX1_init 31 = .ok (.new 110, 3) := dk_187 0 110 (dk_at dksX1_init_1 8 rfl rfl)
theorem dX1_init_34 : decode cX1_init 34 = .ok (.dup, 1) := dk_89 (dk_at dksX1_init_1 11 rfl rfl)
theorem dX1_init_35 : decode cX1_init 35 = .ok (.invokespecial 112, 3) := dk_183 0 112 (dk_at dksX1_init_1 12 rfl rfl)
theorem dX1_init_38 : decode cX1_init 38 = .ok (.putfield 113, 3) := dk_181 0 113 (dk_at dksX1_init_1 15 rfl rfl)
theorem dX1_init_41 : decode cX1_init 41 = .ok (.aload_n 0, 1) := dk_42 (dk_at dksX1_init_1 18 rfl rfl)
theorem dX1_init_42 : decode cX1_init 42 = .ok (.bipush 40, 2) := dk_16 40 (dk_at dksX1_init_1 19 rfl rfl)
theorem dX1_init_44 : decode cX1_init 44 = .ok (.anewarray 117, 3) := dk_189 0 117 (dk_at dksX1_init_1 21 rfl rfl)
theorem dX1_init_47 : decode cX1_init 47 = .ok (.putfield 119, 3) := dk_181 0 119 (dk_at dksX1_init_2 0 rfl rfl)
theorem dX1_init_50 : decode cX1_init 50 = .ok (.aload_n 0, 1) := dk_42 (dk_at dksX1_init_2 3 rfl rfl)
theorem dX1_init_51 : decode cX1_init 51 = .ok (.bipush 40, 2) := dk_16 40 (dk_at dksX1_init_2 4 rfl rfl)
theorem dX1_init_53 : decode cX1_init 53 = .ok (.anewarray 117, 3) := dk_189 0 117 (dk_at dksX1_init_2 6 rfl rfl)
theorem dX1_init_56 : decode cX1_init 56 = .ok (.putfield 123, 3) := dk_181 0 123 (dk_at dksX1_init_2 9 rfl rfl)
theorem dX1_init_59 : decode cX1_init 59 = .ok (.aload_n 0, 1) := dk_42 (dk_at dksX1_init_2 12 rfl rfl)
theorem dX1_init_60 : decode cX1_init 60 = .ok (.iconst (-1), 1) := dk_2 (dk_at dksX1_init_2 13 rfl rfl)
theorem dX1_init_61 : decode cX1_init 61 = .ok (.putfield 126, 3) := dk_181 0 126 (dk_at dksX1_init_2 14 rfl rfl)
theorem dX1_init_64 : decode cX1_init 64 = .ok (.aload_n 0, 1) := dk_42 (dk_at dksX1_init_2 17 rfl rfl)
theorem dX1_init_65 : decode cX1_init 65 = .ok (.iconst 0, 1) := dk_3 (dk_at dksX1_init_2 18 rfl rfl)
theorem dX1_init_66 : decode cX1_init 66 = .ok (.anewarray 129, 3) := dk_189 0 129 (dk_at dksX1_init_2 19 rfl rfl)
theorem dX1_init_69 : decode cX1_init 69 = .ok (.putfield 131, 3) := dk_181 0 131 (dk_at dksX1_init_3 0 rfl rfl)
theorem dX1_init_72 : decode cX1_init 72 = .ok (.aload_n 0, 1) := dk_42 (dk_at dksX1_init_3 3 rfl rfl)
theorem dX1_init_73 : decode cX1_init 73 = .ok (.iconst 0, 1) := dk_3 (dk_at dksX1_init_3 4 rfl rfl)
theorem dX1_init_74 : decode cX1_init 74 = .ok (.newarray .boolean, 2) := dk_188_4 (dk_at dksX1_init_3 5 rfl rfl)
theorem dX1_init_76 : decode cX1_init 76 = .ok (.putfield 135, 3) := dk_181 0 135 (dk_at dksX1_init_3 7 rfl rfl)
theorem dX1_init_79 : decode cX1_init 79 = .ok (.aload_n 0, 1) := dk_42 (dk_at dksX1_init_3 10 rfl rfl)
theorem dX1_init_80 : decode cX1_init 80 = .ok (.bipush 8, 2) := dk_16 8 (dk_at dksX1_init_3 11 rfl rfl)
theorem dX1_init_82 : decode cX1_init 82 = .ok (.putfield 139, 3) := dk_181 0 139 (dk_at dksX1_init_3 13 rfl rfl)
theorem dX1_init_85 : decode cX1_init 85 = .ok (.aload_n 0, 1) := dk_42 (dk_at dksX1_init_3 16 rfl rfl)
theorem dX1_init_86 : decode cX1_init 86 = .ok (.bipush 6, 2) := dk_16 6 (dk_at dksX1_init_3 17 rfl rfl)
theorem dX1_init_88 : decode cX1_init 88 = .ok (.putfield 142, 3) := dk_181 0 142 (dk_at dksX1_init_3 19 rfl rfl)
theorem dX1_init_91 : decode cX1_init 91 = .ok (.aload_n 0, 1) := dk_42 (dk_at dksX1_init_3 22 rfl rfl)
theorem dX1_init_92 : decode cX1_init 92 = .ok (.new 145, 3) := dk_187 0 145 (dk_at dksX1_init_4 0 rfl rfl)
theorem dX1_init_95 : decode cX1_init 95 = .ok (.dup, 1) := dk_89 (dk_at dksX1_init_4 3 rfl rfl)
theorem dX1_init_96 : decode cX1_init 96 = .ok (.aload_n 0, 1) := dk_42 (dk_at dksX1_init_4 4 rfl rfl)
theorem dX1_init_97 : decode cX1_init 97 = .ok (.getfield 102, 3) := dk_180 0 102 (dk_at dksX1_init_4 5 rfl rfl)
theorem dX1_init_100 : decode cX1_init 100 = .ok (.invokespecial 147, 3) := dk_183 0 147 (dk_at dksX1_init_4 8 rfl rfl)
theorem dX1_init_103 : decode cX1_init 103 = .ok (.putfield 150, 3) := dk_181 0 150 (dk_at dksX1_init_4 11 rfl rfl)
theorem dX1_init_106 : decode cX1_init 106 = .ok (.aload_n 0, 1) := dk_42 (dk_at dksX1_init_4 14 rfl rfl)
theorem dX1_init_107 : decode cX1_init 107 = .ok (.new 154, 3) := dk_187 0 154 (dk_at dksX1_init_4 15 rfl rfl)
theorem dX1_init_110 : decode cX1_init 110 = .ok (.dup, 1) := dk_89 (dk_at dksX1_init_4 18 rfl rfl)
theorem dX1_init_111 : decode cX1_init 111 = .ok (.aload_n 0, 1) := dk_42 (dk_at dksX1_init_4 19 rfl rfl)
theorem dX1_init_112 : decode cX1_init 112 = .ok (.getfield 102, 3) := dk_180 0 102 (dk_at dksX1_init_4 20 rfl rfl)
theorem dX1_init_115 : decode cX1_init 115 = .ok (.invokespecial 156, 3) := dk_183 0 156 (dk_at dksX1_init_5 0 rfl rfl)
theorem dX1_init_118 : decode cX1_init 118 = .ok (.putfield 157, 3) := dk_181 0 157 (dk_at dksX1_init_5 3 rfl rfl)
theorem dX1_init_121 : decode cX1_init 121 = .ok (.aload_n 0, 1) := dk_42 (dk_at dksX1_init_5 6 rfl rfl)
theorem dX1_init_122 : decode cX1_init 122 = .ok (.new 161, 3) := dk_187 0 161 (dk_at dksX1_init_5 7 rfl rfl)
theorem dX1_init_125 : decode cX1_init 125 = .ok (.dup, 1) := dk_89 (dk_at dksX1_init_5 10 rfl rfl)
theorem dX1_init_126 : decode cX1_init 126 = .ok (.aload_n 0, 1) := dk_42 (dk_at dksX1_init_5 11 rfl rfl)
theorem dX1_init_127 : decode cX1_init 127 = .ok (.getfield 102, 3) := dk_180 0 102 (dk_at dksX1_init_5 12 rfl rfl)
theorem dX1_init_130 : decode cX1_init 130 = .ok (.invokespecial 163, 3) := dk_183 0 163 (dk_at dksX1_init_5 15 rfl rfl)
theorem dX1_init_133 : decode cX1_init 133 = .ok (.putfield 164, 3) := dk_181 0 164 (dk_at dksX1_init_5 18 rfl rfl)
theorem dX1_init_136 : decode cX1_init 136 = .ok (.aload_n 0, 1) := dk_42 (dk_at dksX1_init_5 21 rfl rfl)
theorem dX1_init_137 : decode cX1_init 137 = .ok (.sipush 500, 3) := dk_17 1 244 (dk_at dksX1_init_6 0 rfl rfl)
theorem dX1_init_140 : decode cX1_init 140 = .ok (.newarray .int, 2) := dk_188_10 (dk_at dksX1_init_6 3 rfl rfl)
theorem dX1_init_142 : decode cX1_init 142 = .ok (.putfield 168, 3) := dk_181 0 168 (dk_at dksX1_init_6 5 rfl rfl)
theorem dX1_init_145 : decode cX1_init 145 = .ok (.aload_n 0, 1) := dk_42 (dk_at dksX1_init_6 8 rfl rfl)
theorem dX1_init_146 : decode cX1_init 146 = .ok (.sipush 500, 3) := dk_17 1 244 (dk_at dksX1_init_6 9 rfl rfl)
theorem dX1_init_149 : decode cX1_init 149 = .ok (.newarray .int, 2) := dk_188_10 (dk_at dksX1_init_6 12 rfl rfl)
theorem dX1_init_151 : decode cX1_init 151 = .ok (.putfield 171, 3) := dk_181 0 171 (dk_at dksX1_init_6 14 rfl rfl)
theorem dX1_init_154 : decode cX1_init 154 = .ok (.aload_n 0, 1) := dk_42 (dk_at dksX1_init_6 17 rfl rfl)
theorem dX1_init_155 : decode cX1_init 155 = .ok (.sipush 500, 3) := dk_17 1 244 (dk_at dksX1_init_6 18 rfl rfl)
theorem dX1_init_158 : decode cX1_init 158 = .ok (.newarray .int, 2) := dk_188_10 (dk_at dksX1_init_6 21 rfl rfl)
theorem dX1_init_160 : decode cX1_init 160 = .ok (.putfield 174, 3) := dk_181 0 174 (dk_at dksX1_init_7 0 rfl rfl)
theorem dX1_init_163 : decode cX1_init 163 = .ok (.aload_n 0, 1) := dk_42 (dk_at dksX1_init_7 3 rfl rfl)
theorem dX1_init_164 : decode cX1_init 164 = .ok (.new 24, 3) := dk_187 0 24 (dk_at dksX1_init_7 4 rfl rfl)
theorem dX1_init_167 : decode cX1_init 167 = .ok (.dup, 1) := dk_89 (dk_at dksX1_init_7 7 rfl rfl)
theorem dX1_init_168 : decode cX1_init 168 = .ok (.invokespecial 177, 3) := dk_183 0 177 (dk_at dksX1_init_7 8 rfl rfl)
theorem dX1_init_171 : decode cX1_init 171 = .ok (.putfield 178, 3) := dk_181 0 178 (dk_at dksX1_init_7 11 rfl rfl)
theorem dX1_init_174 : decode cX1_init 174 = .ok (.aload_n 0, 1) := dk_42 (dk_at dksX1_init_7 14 rfl rfl)
theorem dX1_init_175 : decode cX1_init 175 = .ok (.new 24, 3) := dk_187 0 24 (dk_at dksX1_init_7 15 rfl rfl)
theorem dX1_init_178 : decode cX1_init 178 = .ok (.dup, 1) := dk_89 (dk_at dksX1_init_7 18 rfl rfl)
theorem dX1_init_179 : decode cX1_init 179 = .ok (.invokespecial 177, 3) := dk_183 0 177 (dk_at dksX1_init_7 19 rfl rfl)
theorem dX1_init_182 : decode cX1_init 182 = .ok (.putfield 182, 3) := dk_181 0 182 (dk_at dksX1_init_8 0 rfl rfl)
theorem dX1_init_185 : decode cX1_init 185 = .ok (.aload_n 0, 1) := dk_42 (dk_at dksX1_init_8 3 rfl rfl)
theorem dX1_init_186 : decode cX1_init 186 = .ok (.getfield 139, 3) := dk_180 0 139 (dk_at dksX1_init_8 4 rfl rfl)
theorem dX1_init_189 : decode cX1_init 189 = .ok (.newarray .int, 2) := dk_188_10 (dk_at dksX1_init_8 7 rfl rfl)
theorem dX1_init_191 : decode cX1_init 191 = .ok (.astore_n 1, 1) := dk_76 (dk_at dksX1_init_8 9 rfl rfl)
theorem dX1_init_192 : decode cX1_init 192 = .ok (.aload_n 0, 1) := dk_42 (dk_at dksX1_init_8 10 rfl rfl)
theorem dX1_init_193 : decode cX1_init 193 = .ok (.getfield 142, 3) := dk_180 0 142 (dk_at dksX1_init_8 11 rfl rfl)
theorem dX1_init_196 : decode cX1_init 196 = .ok (.newarray .int, 2) := dk_188_10 (dk_at dksX1_init_8 14 rfl rfl)
theorem dX1_init_198 : decode cX1_init 198 = .ok (.astore_n 2, 1) := dk_77 (dk_at dksX1_init_8 16 rfl rfl)
theorem dX1_init_199 : decode cX1_init 199 = .ok (.iconst 0, 1) := dk_3 (dk_at dksX1_init_8 17 rfl rfl)
theorem dX1_init_200 : decode cX1_init 200 = .ok (.istore_n 3, 1) := dk_62 (dk_at dksX1_init_8 18 rfl rfl)
theorem dX1_init_201 : decode cX1_init 201 = .ok (.iload_n 3, 1) := dk_29 (dk_at dksX1_init_8 19 rfl rfl)
theorem dX1_init_202 : decode cX1_init 202 = .ok (.aload_n 0, 1) := dk_42 (dk_at dksX1_init_8 20 rfl rfl)
theorem dX1_init_203 : decode cX1_init 203 = .ok (.getfield 139, 3) := dk_180 0 139 (dk_at dksX1_init_8 21 rfl rfl)
theorem dX1_init_206 : decode cX1_init 206 = .ok (.if_icmp .ge 13, 3) := dk_162 0 13 (dk_at dksX1_init_9 0 rfl rfl)
theorem dX1_init_209 : decode cX1_init 209 = .ok (.aload_n 1, 1) := dk_43 (dk_at dksX1_init_9 3 rfl rfl)
theorem dX1_init_210 : decode cX1_init 210 = .ok (.iload_n 3, 1) := dk_29 (dk_at dksX1_init_9 4 rfl rfl)
theorem dX1_init_211 : decode cX1_init 211 = .ok (.iload_n 3, 1) := dk_29 (dk_at dksX1_init_9 5 rfl rfl)
theorem dX1_init_212 : decode cX1_init 212 = .ok (.iastore, 1) := dk_79 (dk_at dksX1_init_9 6 rfl rfl)
theorem dX1_init_213 : decode cX1_init 213 = .ok (.iinc 3 1, 3) := dk_132 3 1 (dk_at dksX1_init_9 7 rfl rfl)
theorem dX1_init_216 : decode cX1_init 216 = .ok (.goto (-15), 3) := dk_167 255 241 (dk_at dksX1_init_9 10 rfl rfl)
theorem dX1_init_219 : decode cX1_init 219 = .ok (.iconst 0, 1) := dk_3 (dk_at dksX1_init_9 13 rfl rfl)
theorem dX1_init_220 : decode cX1_init 220 = .ok (.istore_n 3, 1) := dk_62 (dk_at dksX1_init_9 14 rfl rfl)
theorem dX1_init_221 : decode cX1_init 221 = .ok (.iload_n 3, 1) := dk_29 (dk_at dksX1_init_9 15 rfl rfl)
theorem dX1_init_222 : decode cX1_init 222 = .ok (.aload_n 0, 1) := dk_42 (dk_at dksX1_init_9 16 rfl rfl)
theorem dX1_init_223 : decode cX1_init 223 = .ok (.getfield 142, 3) := dk_180 0 142 (dk_at dksX1_init_9 17 rfl rfl)
theorem dX1_init_226 : decode cX1_init 226 = .ok (.if_icmp .ge 13, 3) := dk_162 0 13 (dk_at dksX1_init_9 20 rfl rfl)
theorem dX1_init_229 : decode cX1_init 229 = .ok (.aload_n 2, 1) := dk_44 (dk_at dksX1_init_9 23 rfl rfl)
theorem dX1_init_230 : decode cX1_init 230 = .ok (.iload_n 3, 1) := dk_29 (dk_at dksX1_init_10 0 rfl rfl)
theorem dX1_init_231 : decode cX1_init 231 = .ok (.iload_n 3, 1) := dk_29 (dk_at dksX1_init_10 1 rfl rfl)
theorem dX1_init_232 : decode cX1_init 232 = .ok (.iastore, 1) := dk_79 (dk_at dksX1_init_10 2 rfl rfl)
theorem dX1_init_233 : decode cX1_init 233 = .ok (.iinc 3 1, 3) := dk_132 3 1 (dk_at dksX1_init_10 3 rfl rfl)
theorem dX1_init_236 : decode cX1_init 236 = .ok (.goto (-15), 3) := dk_167 255 241 (dk_at dksX1_init_10 6 rfl rfl)
theorem dX1_init_239 : decode cX1_init 239 = .ok (.new 117, 3) := dk_187 0 117 (dk_at dksX1_init_10 9 rfl rfl)
theorem dX1_init_242 : decode cX1_init 242 = .ok (.dup, 1) := dk_89 (dk_at dksX1_init_10 12 rfl rfl)
theorem dX1_init_243 : decode cX1_init 243 = .ok (.aload_n 1, 1) := dk_43 (dk_at dksX1_init_10 13 rfl rfl)
theorem dX1_init_244 : decode cX1_init 244 = .ok (.aload_n 2, 1) := dk_44 (dk_at dksX1_init_10 14 rfl rfl)
theorem dX1_init_245 : decode cX1_init 245 = .ok (.invokespecial 185, 3) := dk_183 0 185 (dk_at dksX1_init_10 15 rfl rfl)
theorem dX1_init_248 : decode cX1_init 248 = .ok (.astore_n 3, 1) := dk_78 (dk_at dksX1_init_10 18 rfl rfl)
theorem dX1_init_249 : decode cX1_init 249 = .ok (.aload_n 0, 1) := dk_42 (dk_at dksX1_init_10 19 rfl rfl)
theorem dX1_init_250 : decode cX1_init 250 = .ok (.getfield 102, 3) := dk_180 0 102 (dk_at dksX1_init_10 20 rfl rfl)
theorem dX1_init_253 : decode cX1_init 253 = .ok (.iconst 0, 1) := dk_3 (dk_at dksX1_init_10 23 rfl rfl)
theorem dX1_init_254 : decode cX1_init 254 = .ok (.new 100, 3) := dk_187 0 100 (dk_at dksX1_init_11 0 rfl rfl)
theorem dX1_init_257 : decode cX1_init 257 = .ok (.dup, 1) := dk_89 (dk_at dksX1_init_11 3 rfl rfl)
theorem dX1_init_258 : decode cX1_init 258 = .ok (.aload_n 3, 1) := dk_45 (dk_at dksX1_init_11 4 rfl rfl)
theorem dX1_init_259 : decode cX1_init 259 = .ok (.iconst (-1), 1) := dk_2 (dk_at dksX1_init_11 5 rfl rfl)
theorem dX1_init_260 : decode cX1_init 260 = .ok (.iconst (-1), 1) := dk_2 (dk_at dksX1_init_11 6 rfl rfl)
theorem dX1_init_261 : decode cX1_init 261 = .ok (.lconst 1, 1) := dk_10 (dk_at dksX1_init_11 7 rfl rfl)
theorem dX1_init_262 : decode cX1_init 262 = .ok (.invokespecial 188, 3) := dk_183 0 188 (dk_at dksX1_init_11 8 rfl rfl)
theorem dX1_init_265 : decode cX1_init 265 = .ok (.aastore, 1) := dk_83 (dk_at dksX1_init_11 11 rfl rfl)
theorem dX1_init_266 : decode cX1_init 266 = .ok (.aload_n 0, 1) := dk_42 (dk_at dksX1_init_11 12 rfl rfl)
theorem dX1_init_267 : decode cX1_init 267 = .ok (.iconst 1, 1) := dk_4 (dk_at dksX1_init_11 13 rfl rfl)
theorem dX1_init_268 : decode cX1_init 268 = .ok (.putfield 191, 3) := dk_181 0 191 (dk_at dksX1_init_11 14 rfl rfl)
theorem dX1_init_271 : decode cX1_init 271 = .ok (.iconst 1, 1) := dk_4 (dk_at dksX1_init_11 17 rfl rfl)
theorem dX1_init_272 : decode cX1_init 272 = .ok (.istore 4, 2) := dk_54 4 (dk_at dksX1_init_11 18 rfl rfl)
theorem dX1_init_274 : decode cX1_init 274 = .ok (.iload 4, 2) := dk_21 4 (dk_at dksX1_init_11 20 rfl rfl)
theorem dX1_init_276 : decode cX1_init 276 = .ok (.bipush 6, 2) := dk_16 6 (dk_at dksX1_init_11 22 rfl rfl)
theorem dX1_init_278 : decode cX1_init 278 = .ok (.if_icmp .ge 17, 3) := dk_162 0 17 (dk_at dksX1_init_12 0 rfl rfl)
theorem dX1_init_281 : decode cX1_init 281 = .ok (.aload_n 0, 1) := dk_42 (dk_at dksX1_init_12 3 rfl rfl)
theorem dX1_init_282 : decode cX1_init 282 = .ok (.getfield 106, 3) := dk_180 0 106 (dk_at dksX1_init_12 4 rfl rfl)
theorem dX1_init_285 : decode cX1_init 285 = .ok (.iload 4, 2) := dk_21 4 (dk_at dksX1_init_12 7 rfl rfl)
theorem dX1_init_287 : decode cX1_init 287 = .ok (.iconst (-1), 1) := dk_2 (dk_at dksX1_init_12 9 rfl rfl)
theorem dX1_init_288 : decode cX1_init 288 = .ok (.iastore, 1) := dk_79 (dk_at dksX1_init_12 10 rfl rfl)
theorem dX1_init_289 : decode cX1_init 289 = .ok (.iinc 4 1, 3) := dk_132 4 1 (dk_at dksX1_init_12 11 rfl rfl)
theorem dX1_init_292 : decode cX1_init 292 = .ok (.goto (-18), 3) := dk_167 255 238 (dk_at dksX1_init_12 14 rfl rfl)
theorem dX1_init_295 : decode cX1_init 295 = .ok (.aload_n 0, 1) := dk_42 (dk_at dksX1_init_12 17 rfl rfl)
theorem dX1_init_296 : decode cX1_init 296 = .ok (.aload_n 3, 1) := dk_45 (dk_at dksX1_init_12 18 rfl rfl)
theorem dX1_init_297 : decode cX1_init 297 = .ok (.invokevirtual 194, 3) := dk_182 0 194 (dk_at dksX1_init_12 19 rfl rfl)
theorem dX1_init_300 : decode cX1_init 300 = .ok (.putfield 198, 3) := dk_181 0 198 (dk_at dksX1_init_13 0 rfl rfl)
theorem dX1_init_303 : decode cX1_init 303 = .ok (.return_, 1) := dk_177 (dk_at dksX1_init_13 3 rfl rfl)
abbrev cX1_feed : ByteArray := prog_1_method_10_code
def yX1_feed : MethodName := ⟨RX1, "feed", "(IIIII)I"⟩
def dkwX1_feed_2 : List UInt8 := [172]
abbrev dktX1_feed_2 : List UInt8 := dkwX1_feed_2 ++ []
def dkwX1_feed_1 : List UInt8 := [182, 0, 223, 42, 29, 182, 0, 223, 42, 21, 4, 182, 0, 223, 42, 21, 5, 182, 0, 223, 42, 180, 0, 220]
abbrev dktX1_feed_1 : List UInt8 := dkwX1_feed_1 ++ dktX1_feed_2
def dkwX1_feed_0 : List UInt8 := [42, 180, 0, 220, 16, 20, 96, 17, 1, 144, 164, 0, 5, 2, 172, 42, 27, 182, 0, 223, 42, 28]
abbrev dktX1_feed_0 : List UInt8 := dkwX1_feed_0 ++ dktX1_feed_1
theorem dksX1_feed_0 : cX1_feed.data.toList.drop 0 = dktX1_feed_0 := by decide +kernel
theorem dksX1_feed_1 : cX1_feed.data.toList.drop 22 = dktX1_feed_1 := dk_seg dksX1_feed_0 22 rfl rfl
theorem dksX1_feed_2 : cX1_feed.data.toList.drop 46 = dktX1_feed_2 := dk_seg dksX1_feed_1 24 rfl rfl
theorem dX1_feed_0 : decode cX1_feed 0 = .ok (.aload_n 0, 1) := dk_42 (dk_at dksX1_feed_0 0 rfl rfl)
theorem dX1_feed_1 : decode cX1_feed 1 = .ok (.getfield 220, 3) := dk_180 0 220 (dk_at dksX1_feed_0 1 rfl rfl)
theorem dX1_feed_4 : decode cX1_feed 4 = .ok (.bipush 20, 2) := dk_16 20 (dk_at dksX1_feed_0 4 rfl rfl)
theorem dX1_feed_6 : decode cX1_feed 6 = .ok (.iadd, 1) := dk_96 (dk_at dksX1_feed_0 6 rfl rfl)
theorem dX1_feed_7 : decode cX1_feed 7 = .ok (.sipush 400, 3) := dk_17 1 144 (dk_at dksX1_feed_0 7 rfl rfl)
theorem dX1_feed_10 : decode cX1_feed 10 = .ok (.if_icmp .le 5, 3) := dk_164 0 5 (dk_at dksX1_feed_0 10 rfl rfl)
theorem dX1_feed_13 : decode cX1_feed 13 = .ok (.iconst (-1), 1) := dk_2 (dk_at dksX1_feed_0 13 rfl rfl)
theorem dX1_feed_14 : decode cX1_feed 14 = .ok (.ireturn, 1) := dk_172 (dk_at dksX1_feed_0 14 rfl rfl)
theorem dX1_feed_15 : decode cX1_feed 15 = .ok (.aload_n 0, 1) := dk_42 (dk_at dksX1_feed_0 15 rfl rfl)
theorem dX1_feed_16 : decode cX1_feed 16 = .ok (.iload_n 1, 1) := dk_27 (dk_at dksX1_feed_0 16 rfl rfl)
theorem dX1_feed_17 : decode cX1_feed 17 = .ok (.invokevirtual 223, 3) := dk_182 0 223 (dk_at dksX1_feed_0 17 rfl rfl)
theorem dX1_feed_20 : decode cX1_feed 20 = .ok (.aload_n 0, 1) := dk_42 (dk_at dksX1_feed_0 20 rfl rfl)
theorem dX1_feed_21 : decode cX1_feed 21 = .ok (.iload_n 2, 1) := dk_28 (dk_at dksX1_feed_0 21 rfl rfl)
theorem dX1_feed_22 : decode cX1_feed 22 = .ok (.invokevirtual 223, 3) := dk_182 0 223 (dk_at dksX1_feed_1 0 rfl rfl)
theorem dX1_feed_25 : decode cX1_feed 25 = .ok (.aload_n 0, 1) := dk_42 (dk_at dksX1_feed_1 3 rfl rfl)
theorem dX1_feed_26 : decode cX1_feed 26 = .ok (.iload_n 3, 1) := dk_29 (dk_at dksX1_feed_1 4 rfl rfl)
theorem dX1_feed_27 : decode cX1_feed 27 = .ok (.invokevirtual 223, 3) := dk_182 0 223 (dk_at dksX1_feed_1 5 rfl rfl)
theorem dX1_feed_30 : decode cX1_feed 30 = .ok (.aload_n 0, 1) := dk_42 (dk_at dksX1_feed_1 8 rfl rfl)
theorem dX1_feed_31 : decode cX1_feed 31 = .ok (.iload 4, 2) := dk_21 4 (dk_at dksX1_feed_1 9 rfl rfl)
theorem dX1_feed_33 : decode cX1_feed 33 = .ok (.invokevirtual 223, 3) := dk_182 0 223 (dk_at dksX1_feed_1 11 rfl rfl)
theorem dX1_feed_36 : decode cX1_feed 36 = .ok (.aload_n 0, 1) := dk_42 (dk_at dksX1_feed_1 14 rfl rfl)
theorem dX1_feed_37 : decode cX1_feed 37 = .ok (.iload 5, 2) := dk_21 5 (dk_at dksX1_feed_1 15 rfl rfl)
theorem dX1_feed_39 : decode cX1_feed 39 = .ok (.invokevirtual 223, 3) := dk_182 0 223 (dk_at dksX1_feed_1 17 rfl rfl)
theorem dX1_feed_42 : decode cX1_feed 42 = .ok (.aload_n 0, 1) := dk_42 (dk_at dksX1_feed_1 20 rfl rfl)
theorem dX1_feed_43 : decode cX1_feed 43 = .ok (.getfield 220, 3) := dk_180 0 220 (dk_at dksX1_feed_1 21 rfl rfl)
theorem dX1_feed_46 : decode cX1_feed 46 = .ok (.ireturn, 1) := dk_172 (dk_at dksX1_feed_2 0 rfl rfl)
abbrev cX1_word : ByteArray := prog_1_method_11_code
def yX1_word : MethodName := ⟨RX1, "word", "(I)V"⟩
def dkwX1_word_1 : List UInt8 := [180, 0, 220, 4, 96, 181, 0, 220, 132, 2, 248, 167, 255, 226, 177]
abbrev dktX1_word_1 : List UInt8 := dkwX1_word_1 ++ []
def dkwX1_word_0 : List UInt8 := [16, 24, 61, 28, 155, 0, 32, 42, 180, 0, 96, 42, 180, 0, 220, 27, 28, 122, 145, 84, 42, 89]
abbrev dktX1_word_0 : List UInt8 := dkwX1_word_0 ++ dktX1_word_1
theorem dksX1_word_0 : cX1_word.data.toList.drop 0 = dktX1_word_0 := by decide +kernel
theorem dksX1_word_1 : cX1_word.data.toList.drop 22 = dktX1_word_1 := dk_seg dksX1_word_0 22 rfl rfl
theorem dX1_word_0 : decode cX1_word 0 = .ok (.bipush 24, 2) := dk_16 24 (dk_at dksX1_word_0 0 rfl rfl)
theorem dX1_word_2 : decode cX1_word 2 = .ok (.istore_n 2, 1) := dk_61 (dk_at dksX1_word_0 2 rfl rfl)
theorem dX1_word_3 : decode cX1_word 3 = .ok (.iload_n 2, 1) := dk_28 (dk_at dksX1_word_0 3 rfl rfl)
theorem dX1_word_4 : decode cX1_word 4 = .ok (.ifCond .lt 32, 3) := dk_155 0 32 (dk_at dksX1_word_0 4 rfl rfl)
theorem dX1_word_7 : decode cX1_word 7 = .ok (.aload_n 0, 1) := dk_42 (dk_at dksX1_word_0 7 rfl rfl)
theorem dX1_word_8 : decode cX1_word 8 = .ok (.getfield 96, 3) := dk_180 0 96 (dk_at dksX1_word_0 8 rfl rfl)
theorem dX1_word_11 : decode cX1_word 11 = .ok (.aload_n 0, 1) := dk_42 (dk_at dksX1_word_0 11 rfl rfl)
theorem dX1_word_12 : decode cX1_word 12 = .ok (.getfield 220, 3) := dk_180 0 220 (dk_at dksX1_word_0 12 rfl rfl)
theorem dX1_word_15 : decode cX1_word 15 = .ok (.iload_n 1, 1) := dk_27 (dk_at dksX1_word_0 15 rfl rfl)
theorem dX1_word_16 : decode cX1_word 16 = .ok (.iload_n 2, 1) := dk_28 (dk_at dksX1_word_0 16 rfl rfl)
theorem dX1_word_17 : decode cX1_word 17 = .ok (.ishr, 1) := dk_122 (dk_at dksX1_word_0 17 rfl rfl)
theorem dX1_word_18 : decode cX1_word 18 = .ok (.i2b, 1) := dk_145 (dk_at dksX1_word_0 18 rfl rfl)
theorem dX1_word_19 : decode cX1_word 19 = .ok (.bastore, 1) := dk_84 (dk_at dksX1_word_0 19 rfl rfl)
theorem dX1_word_20 : decode cX1_word 20 = .ok (.aload_n 0, 1) := dk_42 (dk_at dksX1_word_0 20 rfl rfl)
theorem dX1_word_21 : decode cX1_word 21 = .ok (.dup, 1) := dk_89 (dk_at dksX1_word_0 21 rfl rfl)
theorem dX1_word_22 : decode cX1_word 22 = .ok (.getfield 220, 3) := dk_180 0 220 (dk_at dksX1_word_1 0 rfl rfl)
theorem dX1_word_25 : decode cX1_word 25 = .ok (.iconst 1, 1) := dk_4 (dk_at dksX1_word_1 3 rfl rfl)
theorem dX1_word_26 : decode cX1_word 26 = .ok (.iadd, 1) := dk_96 (dk_at dksX1_word_1 4 rfl rfl)
theorem dX1_word_27 : decode cX1_word 27 = .ok (.putfield 220, 3) := dk_181 0 220 (dk_at dksX1_word_1 5 rfl rfl)
theorem dX1_word_30 : decode cX1_word 30 = .ok (.iinc 2 (-8), 3) := dk_132 2 248 (dk_at dksX1_word_1 8 rfl rfl)
theorem dX1_word_33 : decode cX1_word 33 = .ok (.goto (-30), 3) := dk_167 255 226 (dk_at dksX1_word_1 11 rfl rfl)
theorem dX1_word_36 : decode cX1_word 36 = .ok (.return_, 1) := dk_177 (dk_at dksX1_word_1 14 rfl rfl)
abbrev cX1_end : ByteArray := prog_1_method_12_code
def yX1_end : MethodName := ⟨RX1, "end", "(I)Z"⟩
def dkwX1_end_0 : List UInt8 := [27, 155, 0, 11, 27, 42, 180, 0, 220, 164, 0, 5, 3, 172, 42, 27, 181, 0, 220, 4, 172]
abbrev dktX1_end_0 : List UInt8 := dkwX1_end_0 ++ []
theorem dksX1_end_0 : cX1_end.data.toList.drop 0 = dktX1_end_0 := by decide +kernel
theorem dX1_end_0 : decode cX1_end 0 = .ok (.iload_n 1, 1) := dk_27 (dk_at dksX1_end_0 0 rfl rfl)
theorem dX1_end_1 : decode cX1_end 1 = .ok (.ifCond .lt 11, 3) := dk_155 0 11 (dk_at dksX1_end_0 1 rfl rfl)
theorem dX1_end_4 : decode cX1_end 4 = .ok (.iload_n 1, 1) := dk_27 (dk_at dksX1_end_0 4 rfl rfl)
theorem dX1_end_5 : decode cX1_end 5 = .ok (.aload_n 0, 1) := dk_42 (dk_at dksX1_end_0 5 rfl rfl)
theorem dX1_end_6 : decode cX1_end 6 = .ok (.getfield 220, 3) := dk_180 0 220 (dk_at dksX1_end_0 6 rfl rfl)
theorem dX1_end_9 : decode cX1_end 9 = .ok (.if_icmp .le 5, 3) := dk_164 0 5 (dk_at dksX1_end_0 9 rfl rfl)
theorem dX1_end_12 : decode cX1_end 12 = .ok (.iconst 0, 1) := dk_3 (dk_at dksX1_end_0 12 rfl rfl)
theorem dX1_end_13 : decode cX1_end 13 = .ok (.ireturn, 1) := dk_172 (dk_at dksX1_end_0 13 rfl rfl)
theorem dX1_end_14 : decode cX1_end 14 = .ok (.aload_n 0, 1) := dk_42 (dk_at dksX1_end_0 14 rfl rfl)
theorem dX1_end_15 : decode cX1_end 15 = .ok (.iload_n 1, 1) := dk_27 (dk_at dksX1_end_0 15 rfl rfl)
theorem dX1_end_16 : decode cX1_end 16 = .ok (.putfield 220, 3) := dk_181 0 220 (dk_at dksX1_end_0 16 rfl rfl)
theorem dX1_end_19 : decode cX1_end 19 = .ok (.iconst 1, 1) := dk_4 (dk_at dksX1_end_0 19 rfl rfl)
theorem dX1_end_20 : decode cX1_end 20 = .ok (.ireturn, 1) := dk_172 (dk_at dksX1_end_0 20 rfl rfl)
abbrev cX1_fault : ByteArray := prog_1_method_18_code
def yX1_fault : MethodName := ⟨RX1, "fault", "(I)I"⟩
def dkwX1_fault_1 : List UInt8 := [172]
abbrev dktX1_fault_1 : List UInt8 := dkwX1_fault_1 ++ []
def dkwX1_fault_0 : List UInt8 := [27, 154, 0, 10, 42, 180, 0, 242, 167, 0, 16, 27, 4, 160, 0, 10, 42, 180, 0, 245, 167, 0, 4, 2]
abbrev dktX1_fault_0 : List UInt8 := dkwX1_fault_0 ++ dktX1_fault_1
theorem dksX1_fault_0 : cX1_fault.data.toList.drop 0 = dktX1_fault_0 := by decide +kernel
theorem dksX1_fault_1 : cX1_fault.data.toList.drop 24 = dktX1_fault_1 := dk_seg dksX1_fault_0 24 rfl rfl
theorem dX1_fault_0 : decode cX1_fault 0 = .ok (.iload_n 1, 1) := dk_27 (dk_at dksX1_fault_0 0 rfl rfl)
theorem dX1_fault_1 : decode cX1_fault 1 = .ok (.ifCond .ne 10, 3) := dk_154 0 10 (dk_at dksX1_fault_0 1 rfl rfl)
theorem dX1_fault_4 : decode cX1_fault 4 = .ok (.aload_n 0, 1) := dk_42 (dk_at dksX1_fault_0 4 rfl rfl)
theorem dX1_fault_5 : decode cX1_fault 5 = .ok (.getfield 242, 3) := dk_180 0 242 (dk_at dksX1_fault_0 5 rfl rfl)
theorem dX1_fault_8 : decode cX1_fault 8 = .ok (.goto 16, 3) := dk_167 0 16 (dk_at dksX1_fault_0 8 rfl rfl)
theorem dX1_fault_11 : decode cX1_fault 11 = .ok (.iload_n 1, 1) := dk_27 (dk_at dksX1_fault_0 11 rfl rfl)
theorem dX1_fault_12 : decode cX1_fault 12 = .ok (.iconst 1, 1) := dk_4 (dk_at dksX1_fault_0 12 rfl rfl)
theorem dX1_fault_13 : decode cX1_fault 13 = .ok (.if_icmp .ne 10, 3) := dk_160 0 10 (dk_at dksX1_fault_0 13 rfl rfl)
theorem dX1_fault_16 : decode cX1_fault 16 = .ok (.aload_n 0, 1) := dk_42 (dk_at dksX1_fault_0 16 rfl rfl)
theorem dX1_fault_17 : decode cX1_fault 17 = .ok (.getfield 245, 3) := dk_180 0 245 (dk_at dksX1_fault_0 17 rfl rfl)
theorem dX1_fault_20 : decode cX1_fault 20 = .ok (.goto 4, 3) := dk_167 0 4 (dk_at dksX1_fault_0 20 rfl rfl)
theorem dX1_fault_23 : decode cX1_fault 23 = .ok (.iconst (-1), 1) := dk_2 (dk_at dksX1_fault_0 23 rfl rfl)
theorem dX1_fault_24 : decode cX1_fault 24 = .ok (.ireturn, 1) := dk_172 (dk_at dksX1_fault_1 0 rfl rfl)
abbrev cX1_drop : ByteArray := prog_1_method_36_code
def yX1_drop : MethodName := ⟨RX1, "drop", "()I"⟩
def dkwX1_drop_0 : List UInt8 := [42, 182, 1, 133, 42, 182, 1, 107, 172]
abbrev dktX1_drop_0 : List UInt8 := dkwX1_drop_0 ++ []
theorem dksX1_drop_0 : cX1_drop.data.toList.drop 0 = dktX1_drop_0 := by decide +kernel
theorem dX1_drop_0 : decode cX1_drop 0 = .ok (.aload_n 0, 1) := dk_42 (dk_at dksX1_drop_0 0 rfl rfl)
theorem dX1_drop_1 : decode cX1_drop 1 = .ok (.invokevirtual 389, 3) := dk_182 1 133 (dk_at dksX1_drop_0 1 rfl rfl)
theorem dX1_drop_4 : decode cX1_drop 4 = .ok (.aload_n 0, 1) := dk_42 (dk_at dksX1_drop_0 4 rfl rfl)
theorem dX1_drop_5 : decode cX1_drop 5 = .ok (.invokevirtual 363, 3) := dk_182 1 107 (dk_at dksX1_drop_0 5 rfl rfl)
theorem dX1_drop_8 : decode cX1_drop 8 = .ok (.ireturn, 1) := dk_172 (dk_at dksX1_drop_0 8 rfl rfl)
abbrev cX1_take : ByteArray := prog_1_method_34_code
def yX1_take : MethodName := ⟨RX1, "take", "()V"⟩
def dkwX1_take_1 : List UInt8 := [42, 3, 181, 1, 116, 42, 182, 1, 123, 177]
abbrev dktX1_take_1 : List UInt8 := dkwX1_take_1 ++ []
def dkwX1_take_0 : List UInt8 := [42, 42, 180, 0, 102, 42, 182, 1, 107, 50, 180, 0, 205, 182, 0, 194, 181, 0, 198, 42, 2, 181, 0, 126]
abbrev dktX1_take_0 : List UInt8 := dkwX1_take_0 ++ dktX1_take_1
theorem dksX1_take_0 : cX1_take.data.toList.drop 0 = dktX1_take_0 := by decide +kernel
theorem dksX1_take_1 : cX1_take.data.toList.drop 24 = dktX1_take_1 := dk_seg dksX1_take_0 24 rfl rfl
theorem dX1_take_0 : decode cX1_take 0 = .ok (.aload_n 0, 1) := dk_42 (dk_at dksX1_take_0 0 rfl rfl)
theorem dX1_take_1 : decode cX1_take 1 = .ok (.aload_n 0, 1) := dk_42 (dk_at dksX1_take_0 1 rfl rfl)
theorem dX1_take_2 : decode cX1_take 2 = .ok (.getfield 102, 3) := dk_180 0 102 (dk_at dksX1_take_0 2 rfl rfl)
theorem dX1_take_5 : decode cX1_take 5 = .ok (.aload_n 0, 1) := dk_42 (dk_at dksX1_take_0 5 rfl rfl)
theorem dX1_take_6 : decode cX1_take 6 = .ok (.invokevirtual 363, 3) := dk_182 1 107 (dk_at dksX1_take_0 6 rfl rfl)
theorem dX1_take_9 : decode cX1_take 9 = .ok (.aaload, 1) := dk_50 (dk_at dksX1_take_0 9 rfl rfl)
theorem dX1_take_10 : decode cX1_take 10 = .ok (.getfield 205, 3) := dk_180 0 205 (dk_at dksX1_take_0 10 rfl rfl)
theorem dX1_take_13 : decode cX1_take 13 = .ok (.invokevirtual 194, 3) := dk_182 0 194 (dk_at dksX1_take_0 13 rfl rfl)
theorem dX1_take_16 : decode cX1_take 16 = .ok (.putfield 198, 3) := dk_181 0 198 (dk_at dksX1_take_0 16 rfl rfl)
theorem dX1_take_19 : decode cX1_take 19 = .ok (.aload_n 0, 1) := dk_42 (dk_at dksX1_take_0 19 rfl rfl)
theorem dX1_take_20 : decode cX1_take 20 = .ok (.iconst (-1), 1) := dk_2 (dk_at dksX1_take_0 20 rfl rfl)
theorem dX1_take_21 : decode cX1_take 21 = .ok (.putfield 126, 3) := dk_181 0 126 (dk_at dksX1_take_0 21 rfl rfl)
theorem dX1_take_24 : decode cX1_take 24 = .ok (.aload_n 0, 1) := dk_42 (dk_at dksX1_take_1 0 rfl rfl)
theorem dX1_take_25 : decode cX1_take 25 = .ok (.iconst 0, 1) := dk_3 (dk_at dksX1_take_1 1 rfl rfl)
theorem dX1_take_26 : decode cX1_take 26 = .ok (.putfield 372, 3) := dk_181 1 116 (dk_at dksX1_take_1 2 rfl rfl)
theorem dX1_take_29 : decode cX1_take 29 = .ok (.aload_n 0, 1) := dk_42 (dk_at dksX1_take_1 5 rfl rfl)
theorem dX1_take_30 : decode cX1_take 30 = .ok (.invokevirtual 379, 3) := dk_182 1 123 (dk_at dksX1_take_1 6 rfl rfl)
theorem dX1_take_33 : decode cX1_take 33 = .ok (.return_, 1) := dk_177 (dk_at dksX1_take_1 9 rfl rfl)
abbrev cX1_head : ByteArray := prog_1_method_6_code
def yX1_head : MethodName := ⟨RX1, "head", "()I"⟩
def dkwX1_head_0 : List UInt8 := [42, 180, 0, 106, 42, 180, 0, 202, 46, 172]
abbrev dktX1_head_0 : List UInt8 := dkwX1_head_0 ++ []
theorem dksX1_head_0 : cX1_head.data.toList.drop 0 = dktX1_head_0 := by decide +kernel
theorem dX1_head_0 : decode cX1_head 0 = .ok (.aload_n 0, 1) := dk_42 (dk_at dksX1_head_0 0 rfl rfl)
theorem dX1_head_1 : decode cX1_head 1 = .ok (.getfield 106, 3) := dk_180 0 106 (dk_at dksX1_head_0 1 rfl rfl)
theorem dX1_head_4 : decode cX1_head 4 = .ok (.aload_n 0, 1) := dk_42 (dk_at dksX1_head_0 4 rfl rfl)
theorem dX1_head_5 : decode cX1_head 5 = .ok (.getfield 202, 3) := dk_180 0 202 (dk_at dksX1_head_0 5 rfl rfl)
theorem dX1_head_8 : decode cX1_head 8 = .ok (.iaload, 1) := dk_46 (dk_at dksX1_head_0 8 rfl rfl)
theorem dX1_head_9 : decode cX1_head 9 = .ok (.ireturn, 1) := dk_172 (dk_at dksX1_head_0 9 rfl rfl)
abbrev cX1_forget : ByteArray := prog_1_method_14_code
def yX1_forget : MethodName := ⟨RX1, "forget", "()V"⟩
def dkwX1_forget_0 : List UInt8 := [42, 3, 181, 0, 226, 42, 3, 181, 0, 229, 42, 3, 181, 0, 208, 177]
abbrev dktX1_forget_0 : List UInt8 := dkwX1_forget_0 ++ []
theorem dksX1_forget_0 : cX1_forget.data.toList.drop 0 = dktX1_forget_0 := by decide +kernel
theorem dX1_forget_0 : decode cX1_forget 0 = .ok (.aload_n 0, 1) := dk_42 (dk_at dksX1_forget_0 0 rfl rfl)
theorem dX1_forget_1 : decode cX1_forget 1 = .ok (.iconst 0, 1) := dk_3 (dk_at dksX1_forget_0 1 rfl rfl)
theorem dX1_forget_2 : decode cX1_forget 2 = .ok (.putfield 226, 3) := dk_181 0 226 (dk_at dksX1_forget_0 2 rfl rfl)
theorem dX1_forget_5 : decode cX1_forget 5 = .ok (.aload_n 0, 1) := dk_42 (dk_at dksX1_forget_0 5 rfl rfl)
theorem dX1_forget_6 : decode cX1_forget 6 = .ok (.iconst 0, 1) := dk_3 (dk_at dksX1_forget_0 6 rfl rfl)
theorem dX1_forget_7 : decode cX1_forget 7 = .ok (.putfield 229, 3) := dk_181 0 229 (dk_at dksX1_forget_0 7 rfl rfl)
theorem dX1_forget_10 : decode cX1_forget 10 = .ok (.aload_n 0, 1) := dk_42 (dk_at dksX1_forget_0 10 rfl rfl)
theorem dX1_forget_11 : decode cX1_forget 11 = .ok (.iconst 0, 1) := dk_3 (dk_at dksX1_forget_0 11 rfl rfl)
theorem dX1_forget_12 : decode cX1_forget 12 = .ok (.putfield 208, 3) := dk_181 0 208 (dk_at dksX1_forget_0 12 rfl rfl)
theorem dX1_forget_15 : decode cX1_forget 15 = .ok (.return_, 1) := dk_177 (dk_at dksX1_forget_0 15 rfl rfl)
abbrev cX1_conflict : ByteArray := prog_1_method_42_code
def yX1_conflict : MethodName := ⟨RX1, "conflict", "(II)I"⟩
def dkwX1_conflict_5 : List UInt8 := [167, 0, 4, 3, 172, 2, 172]
abbrev dktX1_conflict_5 : List UInt8 := dkwX1_conflict_5 ++ []
def dkwX1_conflict_4 : List UInt8 := [180, 0, 198, 45, 180, 1, 167, 182, 1, 170, 4, 96, 172, 42, 180, 0, 135, 27, 51, 153, 0, 7, 4]
abbrev dktX1_conflict_4 : List UInt8 := dkwX1_conflict_4 ++ dktX1_conflict_5
def dkwX1_conflict_3 : List UInt8 := [180, 1, 162, 182, 1, 165, 4, 96, 172, 45, 180, 1, 161, 4, 160, 0, 7, 3, 167, 0, 16, 42]
abbrev dktX1_conflict_3 : List UInt8 := dkwX1_conflict_3 ++ dktX1_conflict_4
def dkwX1_conflict_2 : List UInt8 := [45, 180, 1, 161, 172, 45, 180, 1, 161, 5, 160, 0, 7, 3, 167, 0, 16, 42, 180, 0, 198, 45]
abbrev dktX1_conflict_2 : List UInt8 := dkwX1_conflict_2 ++ dktX1_conflict_3
def dkwX1_conflict_1 : List UInt8 := [170, 0, 0, 0, 0, 102, 0, 0, 0, 0, 0, 0, 0, 3, 0, 0, 0, 30, 0, 0, 0, 35, 0, 0, 0, 61, 0, 0, 0, 87]
abbrev dktX1_conflict_1 : List UInt8 := dkwX1_conflict_1 ++ dktX1_conflict_2
def dkwX1_conflict_0 : List UInt8 := [27, 155, 0, 11, 27, 42, 180, 1, 116, 161, 0, 5, 2, 172, 42, 180, 0, 131, 27, 50, 78, 28]
abbrev dktX1_conflict_0 : List UInt8 := dkwX1_conflict_0 ++ dktX1_conflict_1
theorem dksX1_conflict_0 : cX1_conflict.data.toList.drop 0 = dktX1_conflict_0 := by decide +kernel
theorem dksX1_conflict_1 : cX1_conflict.data.toList.drop 22 = dktX1_conflict_1 := dk_seg dksX1_conflict_0 22 rfl rfl
theorem dksX1_conflict_2 : cX1_conflict.data.toList.drop 52 = dktX1_conflict_2 := dk_seg dksX1_conflict_1 30 rfl rfl
theorem dksX1_conflict_3 : cX1_conflict.data.toList.drop 74 = dktX1_conflict_3 := dk_seg dksX1_conflict_2 22 rfl rfl
theorem dksX1_conflict_4 : cX1_conflict.data.toList.drop 96 = dktX1_conflict_4 := dk_seg dksX1_conflict_3 22 rfl rfl
theorem dksX1_conflict_5 : cX1_conflict.data.toList.drop 119 = dktX1_conflict_5 := dk_seg dksX1_conflict_4 23 rfl rfl
theorem dX1_conflict_0 : decode cX1_conflict 0 = .ok (.iload_n 1, 1) := dk_27 (dk_at dksX1_conflict_0 0 rfl rfl)
theorem dX1_conflict_1 : decode cX1_conflict 1 = .ok (.ifCond .lt 11, 3) := dk_155 0 11 (dk_at dksX1_conflict_0 1 rfl rfl)
theorem dX1_conflict_4 : decode cX1_conflict 4 = .ok (.iload_n 1, 1) := dk_27 (dk_at dksX1_conflict_0 4 rfl rfl)
theorem dX1_conflict_5 : decode cX1_conflict 5 = .ok (.aload_n 0, 1) := dk_42 (dk_at dksX1_conflict_0 5 rfl rfl)
theorem dX1_conflict_6 : decode cX1_conflict 6 = .ok (.getfield 372, 3) := dk_180 1 116 (dk_at dksX1_conflict_0 6 rfl rfl)
theorem dX1_conflict_9 : decode cX1_conflict 9 = .ok (.if_icmp .lt 5, 3) := dk_161 0 5 (dk_at dksX1_conflict_0 9 rfl rfl)
theorem dX1_conflict_12 : decode cX1_conflict 12 = .ok (.iconst (-1), 1) := dk_2 (dk_at dksX1_conflict_0 12 rfl rfl)
theorem dX1_conflict_13 : decode cX1_conflict 13 = .ok (.ireturn, 1) := dk_172 (dk_at dksX1_conflict_0 13 rfl rfl)
theorem dX1_conflict_14 : decode cX1_conflict 14 = .ok (.aload_n 0, 1) := dk_42 (dk_at dksX1_conflict_0 14 rfl rfl)
theorem dX1_conflict_15 : decode cX1_conflict 15 = .ok (.getfield 131, 3) := dk_180 0 131 (dk_at dksX1_conflict_0 15 rfl rfl)
theorem dX1_conflict_18 : decode cX1_conflict 18 = .ok (.iload_n 1, 1) := dk_27 (dk_at dksX1_conflict_0 18 rfl rfl)
theorem dX1_conflict_19 : decode cX1_conflict 19 = .ok (.aaload, 1) := dk_50 (dk_at dksX1_conflict_0 19 rfl rfl)
theorem dX1_conflict_20 : decode cX1_conflict 20 = .ok (.astore_n 3, 1) := dk_78 (dk_at dksX1_conflict_0 20 rfl rfl)
theorem dX1_conflict_21 : decode cX1_conflict 21 = .ok (.iload_n 2, 1) := dk_28 (dk_at dksX1_conflict_0 21 rfl rfl)
theorem dX1_conflict_22 : decode cX1_conflict 22 = .ok (.tableswitch 102 0 3 #[30, 35, 61, 87], 30) := by decide +kernel
theorem dX1_conflict_52 : decode cX1_conflict 52 = .ok (.aload_n 3, 1) := dk_45 (dk_at dksX1_conflict_2 0 rfl rfl)
theorem dX1_conflict_53 : decode cX1_conflict 53 = .ok (.getfield 417, 3) := dk_180 1 161 (dk_at dksX1_conflict_2 1 rfl rfl)
theorem dX1_conflict_56 : decode cX1_conflict 56 = .ok (.ireturn, 1) := dk_172 (dk_at dksX1_conflict_2 4 rfl rfl)
theorem dX1_conflict_57 : decode cX1_conflict 57 = .ok (.aload_n 3, 1) := dk_45 (dk_at dksX1_conflict_2 5 rfl rfl)
theorem dX1_conflict_58 : decode cX1_conflict 58 = .ok (.getfield 417, 3) := dk_180 1 161 (dk_at dksX1_conflict_2 6 rfl rfl)
theorem dX1_conflict_61 : decode cX1_conflict 61 = .ok (.iconst 2, 1) := dk_5 (dk_at dksX1_conflict_2 9 rfl rfl)
theorem dX1_conflict_62 : decode cX1_conflict 62 = .ok (.if_icmp .ne 7, 3) := dk_160 0 7 (dk_at dksX1_conflict_2 10 rfl rfl)
theorem dX1_conflict_65 : decode cX1_conflict 65 = .ok (.iconst 0, 1) := dk_3 (dk_at dksX1_conflict_2 13 rfl rfl)
theorem dX1_conflict_66 : decode cX1_conflict 66 = .ok (.goto 16, 3) := dk_167 0 16 (dk_at dksX1_conflict_2 14 rfl rfl)
theorem dX1_conflict_69 : decode cX1_conflict 69 = .ok (.aload_n 0, 1) := dk_42 (dk_at dksX1_conflict_2 17 rfl rfl)
theorem dX1_conflict_70 : decode cX1_conflict 70 = .ok (.getfield 198, 3) := dk_180 0 198 (dk_at dksX1_conflict_2 18 rfl rfl)
theorem dX1_conflict_73 : decode cX1_conflict 73 = .ok (.aload_n 3, 1) := dk_45 (dk_at dksX1_conflict_2 21 rfl rfl)
theorem dX1_conflict_74 : decode cX1_conflict 74 = .ok (.getfield 418, 3) := dk_180 1 162 (dk_at dksX1_conflict_3 0 rfl rfl)
theorem dX1_conflict_77 : decode cX1_conflict 77 = .ok (.invokevirtual 421, 3) := dk_182 1 165 (dk_at dksX1_conflict_3 3 rfl rfl)
theorem dX1_conflict_80 : decode cX1_conflict 80 = .ok (.iconst 1, 1) := dk_4 (dk_at dksX1_conflict_3 6 rfl rfl)
theorem dX1_conflict_81 : decode cX1_conflict 81 = .ok (.iadd, 1) := dk_96 (dk_at dksX1_conflict_3 7 rfl rfl)
theorem dX1_conflict_82 : decode cX1_conflict 82 = .ok (.ireturn, 1) := dk_172 (dk_at dksX1_conflict_3 8 rfl rfl)
theorem dX1_conflict_83 : decode cX1_conflict 83 = .ok (.aload_n 3, 1) := dk_45 (dk_at dksX1_conflict_3 9 rfl rfl)
theorem dX1_conflict_84 : decode cX1_conflict 84 = .ok (.getfield 417, 3) := dk_180 1 161 (dk_at dksX1_conflict_3 10 rfl rfl)
theorem dX1_conflict_87 : decode cX1_conflict 87 = .ok (.iconst 1, 1) := dk_4 (dk_at dksX1_conflict_3 13 rfl rfl)
theorem dX1_conflict_88 : decode cX1_conflict 88 = .ok (.if_icmp .ne 7, 3) := dk_160 0 7 (dk_at dksX1_conflict_3 14 rfl rfl)
theorem dX1_conflict_91 : decode cX1_conflict 91 = .ok (.iconst 0, 1) := dk_3 (dk_at dksX1_conflict_3 17 rfl rfl)
theorem dX1_conflict_92 : decode cX1_conflict 92 = .ok (.goto 16, 3) := dk_167 0 16 (dk_at dksX1_conflict_3 18 rfl rfl)
theorem dX1_conflict_95 : decode cX1_conflict 95 = .ok (.aload_n 0, 1) := dk_42 (dk_at dksX1_conflict_3 21 rfl rfl)
theorem dX1_conflict_96 : decode cX1_conflict 96 = .ok (.getfield 198, 3) := dk_180 0 198 (dk_at dksX1_conflict_4 0 rfl rfl)
theorem dX1_conflict_99 : decode cX1_conflict 99 = .ok (.aload_n 3, 1) := dk_45 (dk_at dksX1_conflict_4 3 rfl rfl)
theorem dX1_conflict_100 : decode cX1_conflict 100 = .ok (.getfield 423, 3) := dk_180 1 167 (dk_at dksX1_conflict_4 4 rfl rfl)
theorem dX1_conflict_103 : decode cX1_conflict 103 = .ok (.invokevirtual 426, 3) := dk_182 1 170 (dk_at dksX1_conflict_4 7 rfl rfl)
theorem dX1_conflict_106 : decode cX1_conflict 106 = .ok (.iconst 1, 1) := dk_4 (dk_at dksX1_conflict_4 10 rfl rfl)
theorem dX1_conflict_107 : decode cX1_conflict 107 = .ok (.iadd, 1) := dk_96 (dk_at dksX1_conflict_4 11 rfl rfl)
theorem dX1_conflict_108 : decode cX1_conflict 108 = .ok (.ireturn, 1) := dk_172 (dk_at dksX1_conflict_4 12 rfl rfl)
theorem dX1_conflict_109 : decode cX1_conflict 109 = .ok (.aload_n 0, 1) := dk_42 (dk_at dksX1_conflict_4 13 rfl rfl)
theorem dX1_conflict_110 : decode cX1_conflict 110 = .ok (.getfield 135, 3) := dk_180 0 135 (dk_at dksX1_conflict_4 14 rfl rfl)
theorem dX1_conflict_113 : decode cX1_conflict 113 = .ok (.iload_n 1, 1) := dk_27 (dk_at dksX1_conflict_4 17 rfl rfl)
theorem dX1_conflict_114 : decode cX1_conflict 114 = .ok (.baload, 1) := dk_51 (dk_at dksX1_conflict_4 18 rfl rfl)
theorem dX1_conflict_115 : decode cX1_conflict 115 = .ok (.ifCond .eq 7, 3) := dk_153 0 7 (dk_at dksX1_conflict_4 19 rfl rfl)
theorem dX1_conflict_118 : decode cX1_conflict 118 = .ok (.iconst 1, 1) := dk_4 (dk_at dksX1_conflict_4 22 rfl rfl)
theorem dX1_conflict_119 : decode cX1_conflict 119 = .ok (.goto 4, 3) := dk_167 0 4 (dk_at dksX1_conflict_5 0 rfl rfl)
theorem dX1_conflict_122 : decode cX1_conflict 122 = .ok (.iconst 0, 1) := dk_3 (dk_at dksX1_conflict_5 3 rfl rfl)
theorem dX1_conflict_123 : decode cX1_conflict 123 = .ok (.ireturn, 1) := dk_172 (dk_at dksX1_conflict_5 4 rfl rfl)
theorem dX1_conflict_124 : decode cX1_conflict 124 = .ok (.iconst (-1), 1) := dk_2 (dk_at dksX1_conflict_5 5 rfl rfl)
theorem dX1_conflict_125 : decode cX1_conflict 125 = .ok (.ireturn, 1) := dk_172 (dk_at dksX1_conflict_5 6 rfl rfl)
abbrev cX1_base : ByteArray := prog_1_method_44_code
def yX1_base : MethodName := ⟨RX1, "base", "(II)I"⟩
def dkwX1_base_2 : List UInt8 := [184, 1, 185, 100, 172]
abbrev dktX1_base_2 : List UInt8 := dkwX1_base_2 ++ []
def dkwX1_base_1 : List UInt8 := [2, 172, 16, 63, 42, 180, 0, 102, 27, 50, 180, 1, 110, 42, 180, 0, 102, 28, 50, 180, 1, 110, 127]
abbrev dktX1_base_1 : List UInt8 := dkwX1_base_1 ++ dktX1_base_2
def dkwX1_base_0 : List UInt8 := [27, 155, 0, 23, 27, 42, 180, 0, 191, 162, 0, 15, 28, 155, 0, 11, 28, 42, 180, 0, 191, 161, 0, 5]
abbrev dktX1_base_0 : List UInt8 := dkwX1_base_0 ++ dktX1_base_1
theorem dksX1_base_0 : cX1_base.data.toList.drop 0 = dktX1_base_0 := by decide +kernel
theorem dksX1_base_1 : cX1_base.data.toList.drop 24 = dktX1_base_1 := dk_seg dksX1_base_0 24 rfl rfl
theorem dksX1_base_2 : cX1_base.data.toList.drop 47 = dktX1_base_2 := dk_seg dksX1_base_1 23 rfl rfl
theorem dX1_base_0 : decode cX1_base 0 = .ok (.iload_n 1, 1) := dk_27 (dk_at dksX1_base_0 0 rfl rfl)
theorem dX1_base_1 : decode cX1_base 1 = .ok (.ifCond .lt 23, 3) := dk_155 0 23 (dk_at dksX1_base_0 1 rfl rfl)
theorem dX1_base_4 : decode cX1_base 4 = .ok (.iload_n 1, 1) := dk_27 (dk_at dksX1_base_0 4 rfl rfl)
theorem dX1_base_5 : decode cX1_base 5 = .ok (.aload_n 0, 1) := dk_42 (dk_at dksX1_base_0 5 rfl rfl)
theorem dX1_base_6 : decode cX1_base 6 = .ok (.getfield 191, 3) := dk_180 0 191 (dk_at dksX1_base_0 6 rfl rfl)
theorem dX1_base_9 : decode cX1_base 9 = .ok (.if_icmp .ge 15, 3) := dk_162 0 15 (dk_at dksX1_base_0 9 rfl rfl)
theorem dX1_base_12 : decode cX1_base 12 = .ok (.iload_n 2, 1) := dk_28 (dk_at dksX1_base_0 12 rfl rfl)
theorem dX1_base_13 : decode cX1_base 13 = .ok (.ifCond .lt 11, 3) := dk_155 0 11 (dk_at dksX1_base_0 13 rfl rfl)
theorem dX1_base_16 : decode cX1_base 16 = .ok (.iload_n 2, 1) := dk_28 (dk_at dksX1_base_0 16 rfl rfl)
theorem dX1_base_17 : decode cX1_base 17 = .ok (.aload_n 0, 1) := dk_42 (dk_at dksX1_base_0 17 rfl rfl)
theorem dX1_base_18 : decode cX1_base 18 = .ok (.getfield 191, 3) := dk_180 0 191 (dk_at dksX1_base_0 18 rfl rfl)
theorem dX1_base_21 : decode cX1_base 21 = .ok (.if_icmp .lt 5, 3) := dk_161 0 5 (dk_at dksX1_base_0 21 rfl rfl)
theorem dX1_base_24 : decode cX1_base 24 = .ok (.iconst (-1), 1) := dk_2 (dk_at dksX1_base_1 0 rfl rfl)
theorem dX1_base_25 : decode cX1_base 25 = .ok (.ireturn, 1) := dk_172 (dk_at dksX1_base_1 1 rfl rfl)
theorem dX1_base_26 : decode cX1_base 26 = .ok (.bipush 63, 2) := dk_16 63 (dk_at dksX1_base_1 2 rfl rfl)
theorem dX1_base_28 : decode cX1_base 28 = .ok (.aload_n 0, 1) := dk_42 (dk_at dksX1_base_1 4 rfl rfl)
theorem dX1_base_29 : decode cX1_base 29 = .ok (.getfield 102, 3) := dk_180 0 102 (dk_at dksX1_base_1 5 rfl rfl)
theorem dX1_base_32 : decode cX1_base 32 = .ok (.iload_n 1, 1) := dk_27 (dk_at dksX1_base_1 8 rfl rfl)
theorem dX1_base_33 : decode cX1_base 33 = .ok (.aaload, 1) := dk_50 (dk_at dksX1_base_1 9 rfl rfl)
theorem dX1_base_34 : decode cX1_base 34 = .ok (.getfield 366, 3) := dk_180 1 110 (dk_at dksX1_base_1 10 rfl rfl)
theorem dX1_base_37 : decode cX1_base 37 = .ok (.aload_n 0, 1) := dk_42 (dk_at dksX1_base_1 13 rfl rfl)
theorem dX1_base_38 : decode cX1_base 38 = .ok (.getfield 102, 3) := dk_180 0 102 (dk_at dksX1_base_1 14 rfl rfl)
theorem dX1_base_41 : decode cX1_base 41 = .ok (.iload_n 2, 1) := dk_28 (dk_at dksX1_base_1 17 rfl rfl)
theorem dX1_base_42 : decode cX1_base 42 = .ok (.aaload, 1) := dk_50 (dk_at dksX1_base_1 18 rfl rfl)
theorem dX1_base_43 : decode cX1_base 43 = .ok (.getfield 366, 3) := dk_180 1 110 (dk_at dksX1_base_1 19 rfl rfl)
theorem dX1_base_46 : decode cX1_base 46 = .ok (.land, 1) := dk_127 (dk_at dksX1_base_1 22 rfl rfl)
theorem dX1_base_47 : decode cX1_base 47 = .ok (.invokestatic 441, 3) := dk_184 1 185 (dk_at dksX1_base_2 0 rfl rfl)
theorem dX1_base_50 : decode cX1_base 50 = .ok (.isub, 1) := dk_100 (dk_at dksX1_base_2 3 rfl rfl)
theorem dX1_base_51 : decode cX1_base 51 = .ok (.ireturn, 1) := dk_172 (dk_at dksX1_base_2 4 rfl rfl)
abbrev cX1_difference : ByteArray := prog_1_method_49_code
def yX1_difference : MethodName := ⟨RX1, "difference", "(II)I"⟩
def dkwX1_difference_2 : List UInt8 := [180, 0, 174, 27, 46, 167, 0, 4, 2, 172]
abbrev dktX1_difference_2 : List UInt8 := dkwX1_difference_2 ++ []
def dkwX1_difference_1 : List UInt8 := [167, 0, 32, 28, 4, 160, 0, 12, 42, 180, 0, 171, 27, 46, 167, 0, 18, 28, 5, 160, 0, 12, 42]
abbrev dktX1_difference_1 : List UInt8 := dkwX1_difference_1 ++ dktX1_difference_2
def dkwX1_difference_0 : List UInt8 := [27, 155, 0, 11, 27, 42, 180, 1, 191, 161, 0, 5, 2, 172, 28, 154, 0, 12, 42, 180, 0, 168, 27, 46]
abbrev dktX1_difference_0 : List UInt8 := dkwX1_difference_0 ++ dktX1_difference_1
theorem dksX1_difference_0 : cX1_difference.data.toList.drop 0 = dktX1_difference_0 := by decide +kernel
theorem dksX1_difference_1 : cX1_difference.data.toList.drop 24 = dktX1_difference_1 := dk_seg dksX1_difference_0 24 rfl rfl
theorem dksX1_difference_2 : cX1_difference.data.toList.drop 47 = dktX1_difference_2 := dk_seg dksX1_difference_1 23 rfl rfl
theorem dX1_difference_0 : decode cX1_difference 0 = .ok (.iload_n 1, 1) := dk_27 (dk_at dksX1_difference_0 0 rfl rfl)
theorem dX1_difference_1 : decode cX1_difference 1 = .ok (.ifCond .lt 11, 3) := dk_155 0 11 (dk_at dksX1_difference_0 1 rfl rfl)
theorem dX1_difference_4 : decode cX1_difference 4 = .ok (.iload_n 1, 1) := dk_27 (dk_at dksX1_difference_0 4 rfl rfl)
theorem dX1_difference_5 : decode cX1_difference 5 = .ok (.aload_n 0, 1) := dk_42 (dk_at dksX1_difference_0 5 rfl rfl)
theorem dX1_difference_6 : decode cX1_difference 6 = .ok (.getfield 447, 3) := dk_180 1 191 (dk_at dksX1_difference_0 6 rfl rfl)
theorem dX1_difference_9 : decode cX1_difference 9 = .ok (.if_icmp .lt 5, 3) := dk_161 0 5 (dk_at dksX1_difference_0 9 rfl rfl)
theorem dX1_difference_12 : decode cX1_difference 12 = .ok (.iconst (-1), 1) := dk_2 (dk_at dksX1_difference_0 12 rfl rfl)
theorem dX1_difference_13 : decode cX1_difference 13 = .ok (.ireturn, 1) := dk_172 (dk_at dksX1_difference_0 13 rfl rfl)
theorem dX1_difference_14 : decode cX1_difference 14 = .ok (.iload_n 2, 1) := dk_28 (dk_at dksX1_difference_0 14 rfl rfl)
theorem dX1_difference_15 : decode cX1_difference 15 = .ok (.ifCond .ne 12, 3) := dk_154 0 12 (dk_at dksX1_difference_0 15 rfl rfl)
theorem dX1_difference_18 : decode cX1_difference 18 = .ok (.aload_n 0, 1) := dk_42 (dk_at dksX1_difference_0 18 rfl rfl)
theorem dX1_difference_19 : decode cX1_difference 19 = .ok (.getfield 168, 3) := dk_180 0 168 (dk_at dksX1_difference_0 19 rfl rfl)
theorem dX1_difference_22 : decode cX1_difference 22 = .ok (.iload_n 1, 1) := dk_27 (dk_at dksX1_difference_0 22 rfl rfl)
theorem dX1_difference_23 : decode cX1_difference 23 = .ok (.iaload, 1) := dk_46 (dk_at dksX1_difference_0 23 rfl rfl)
theorem dX1_difference_24 : decode cX1_difference 24 = .ok (.goto 32, 3) := dk_167 0 32 (dk_at dksX1_difference_1 0 rfl rfl)
theorem dX1_difference_27 : decode cX1_difference 27 = .ok (.iload_n 2, 1) := dk_28 (dk_at dksX1_difference_1 3 rfl rfl)
theorem dX1_difference_28 : decode cX1_difference 28 = .ok (.iconst 1, 1) := dk_4 (dk_at dksX1_difference_1 4 rfl rfl)
theorem dX1_difference_29 : decode cX1_difference 29 = .ok (.if_icmp .ne 12, 3) := dk_160 0 12 (dk_at dksX1_difference_1 5 rfl rfl)
theorem dX1_difference_32 : decode cX1_difference 32 = .ok (.aload_n 0, 1) := dk_42 (dk_at dksX1_difference_1 8 rfl rfl)
theorem dX1_difference_33 : decode cX1_difference 33 = .ok (.getfield 171, 3) := dk_180 0 171 (dk_at dksX1_difference_1 9 rfl rfl)
theorem dX1_difference_36 : decode cX1_difference 36 = .ok (.iload_n 1, 1) := dk_27 (dk_at dksX1_difference_1 12 rfl rfl)
theorem dX1_difference_37 : decode cX1_difference 37 = .ok (.iaload, 1) := dk_46 (dk_at dksX1_difference_1 13 rfl rfl)
theorem dX1_difference_38 : decode cX1_difference 38 = .ok (.goto 18, 3) := dk_167 0 18 (dk_at dksX1_difference_1 14 rfl rfl)
theorem dX1_difference_41 : decode cX1_difference 41 = .ok (.iload_n 2, 1) := dk_28 (dk_at dksX1_difference_1 17 rfl rfl)
theorem dX1_difference_42 : decode cX1_difference 42 = .ok (.iconst 2, 1) := dk_5 (dk_at dksX1_difference_1 18 rfl rfl)
theorem dX1_difference_43 : decode cX1_difference 43 = .ok (.if_icmp .ne 12, 3) := dk_160 0 12 (dk_at dksX1_difference_1 19 rfl rfl)
theorem dX1_difference_46 : decode cX1_difference 46 = .ok (.aload_n 0, 1) := dk_42 (dk_at dksX1_difference_1 22 rfl rfl)
theorem dX1_difference_47 : decode cX1_difference 47 = .ok (.getfield 174, 3) := dk_180 0 174 (dk_at dksX1_difference_2 0 rfl rfl)
theorem dX1_difference_50 : decode cX1_difference 50 = .ok (.iload_n 1, 1) := dk_27 (dk_at dksX1_difference_2 3 rfl rfl)
theorem dX1_difference_51 : decode cX1_difference 51 = .ok (.iaload, 1) := dk_46 (dk_at dksX1_difference_2 4 rfl rfl)
theorem dX1_difference_52 : decode cX1_difference 52 = .ok (.goto 4, 3) := dk_167 0 4 (dk_at dksX1_difference_2 5 rfl rfl)
theorem dX1_difference_55 : decode cX1_difference 55 = .ok (.iconst (-1), 1) := dk_2 (dk_at dksX1_difference_2 8 rfl rfl)
theorem dX1_difference_56 : decode cX1_difference 56 = .ok (.ireturn, 1) := dk_172 (dk_at dksX1_difference_2 9 rfl rfl)
abbrev cX1_sheet : ByteArray := prog_1_method_52_code
def yX1_sheet : MethodName := ⟨RX1, "sheet", "(II)I"⟩
def dkwX1_sheet_4 : List UInt8 := [180, 0, 102, 27, 50, 180, 1, 220, 172, 2, 172]
abbrev dktX1_sheet_4 : List UInt8 := dkwX1_sheet_4 ++ []
def dkwX1_sheet_3 : List UInt8 := [42, 180, 0, 102, 27, 50, 180, 1, 158, 172, 27, 2, 160, 0, 10, 42, 180, 0, 126, 167, 0, 12, 42]
abbrev dktX1_sheet_3 : List UInt8 := dkwX1_sheet_3 ++ dktX1_sheet_4
def dkwX1_sheet_2 : List UInt8 := [45, 180, 1, 60, 190, 172, 45, 180, 1, 67, 190, 172, 27, 2, 160, 0, 10, 42, 182, 1, 107, 167, 0, 12]
abbrev dktX1_sheet_2 : List UInt8 := dkwX1_sheet_2 ++ dktX1_sheet_3
def dkwX1_sheet_1 : List UInt8 := [170, 0, 0, 0, 0, 0, 87, 0, 0, 0, 0, 0, 0, 0, 3, 0, 0, 0, 31, 0, 0, 0, 37, 0, 0, 0, 43, 0, 0, 0, 65]
abbrev dktX1_sheet_1 : List UInt8 := dkwX1_sheet_1 ++ dktX1_sheet_2
def dkwX1_sheet_0 : List UInt8 := [42, 27, 182, 1, 198, 78, 45, 199, 0, 5, 2, 172, 28]
abbrev dktX1_sheet_0 : List UInt8 := dkwX1_sheet_0 ++ dktX1_sheet_1
theorem dksX1_sheet_0 : cX1_sheet.data.toList.drop 0 = dktX1_sheet_0 := by decide +kernel
theorem dksX1_sheet_1 : cX1_sheet.data.toList.drop 13 = dktX1_sheet_1 := dk_seg dksX1_sheet_0 13 rfl rfl
theorem dksX1_sheet_2 : cX1_sheet.data.toList.drop 44 = dktX1_sheet_2 := dk_seg dksX1_sheet_1 31 rfl rfl
theorem dksX1_sheet_3 : cX1_sheet.data.toList.drop 68 = dktX1_sheet_3 := dk_seg dksX1_sheet_2 24 rfl rfl
theorem dksX1_sheet_4 : cX1_sheet.data.toList.drop 91 = dktX1_sheet_4 := dk_seg dksX1_sheet_3 23 rfl rfl
theorem dX1_sheet_0 : decode cX1_sheet 0 = .ok (.aload_n 0, 1) := dk_42 (dk_at dksX1_sheet_0 0 rfl rfl)
theorem dX1_sheet_1 : decode cX1_sheet 1 = .ok (.iload_n 1, 1) := dk_27 (dk_at dksX1_sheet_0 1 rfl rfl)
theorem dX1_sheet_2 : decode cX1_sheet 2 = .ok (.invokevirtual 454, 3) := dk_182 1 198 (dk_at dksX1_sheet_0 2 rfl rfl)
theorem dX1_sheet_5 : decode cX1_sheet 5 = .ok (.astore_n 3, 1) := dk_78 (dk_at dksX1_sheet_0 5 rfl rfl)
theorem dX1_sheet_6 : decode cX1_sheet 6 = .ok (.aload_n 3, 1) := dk_45 (dk_at dksX1_sheet_0 6 rfl rfl)
theorem dX1_sheet_7 : decode cX1_sheet 7 = .ok (.ifnonnull 5, 3) := dk_199 0 5 (dk_at dksX1_sheet_0 7 rfl rfl)
theorem dX1_sheet_10 : decode cX1_sheet 10 = .ok (.iconst (-1), 1) := dk_2 (dk_at dksX1_sheet_0 10 rfl rfl)
theorem dX1_sheet_11 : decode cX1_sheet 11 = .ok (.ireturn, 1) := dk_172 (dk_at dksX1_sheet_0 11 rfl rfl)
theorem dX1_sheet_12 : decode cX1_sheet 12 = .ok (.iload_n 2, 1) := dk_28 (dk_at dksX1_sheet_0 12 rfl rfl)
theorem dX1_sheet_13 : decode cX1_sheet 13 = .ok (.tableswitch 87 0 3 #[31, 37, 43, 65], 31) := by decide +kernel
theorem dX1_sheet_44 : decode cX1_sheet 44 = .ok (.aload_n 3, 1) := dk_45 (dk_at dksX1_sheet_2 0 rfl rfl)
theorem dX1_sheet_45 : decode cX1_sheet 45 = .ok (.getfield 316, 3) := dk_180 1 60 (dk_at dksX1_sheet_2 1 rfl rfl)
theorem dX1_sheet_48 : decode cX1_sheet 48 = .ok (.arraylength, 1) := dk_190 (dk_at dksX1_sheet_2 4 rfl rfl)
theorem dX1_sheet_49 : decode cX1_sheet 49 = .ok (.ireturn, 1) := dk_172 (dk_at dksX1_sheet_2 5 rfl rfl)
theorem dX1_sheet_50 : decode cX1_sheet 50 = .ok (.aload_n 3, 1) := dk_45 (dk_at dksX1_sheet_2 6 rfl rfl)
theorem dX1_sheet_51 : decode cX1_sheet 51 = .ok (.getfield 323, 3) := dk_180 1 67 (dk_at dksX1_sheet_2 7 rfl rfl)
theorem dX1_sheet_54 : decode cX1_sheet 54 = .ok (.arraylength, 1) := dk_190 (dk_at dksX1_sheet_2 10 rfl rfl)
theorem dX1_sheet_55 : decode cX1_sheet 55 = .ok (.ireturn, 1) := dk_172 (dk_at dksX1_sheet_2 11 rfl rfl)
theorem dX1_sheet_56 : decode cX1_sheet 56 = .ok (.iload_n 1, 1) := dk_27 (dk_at dksX1_sheet_2 12 rfl rfl)
theorem dX1_sheet_57 : decode cX1_sheet 57 = .ok (.iconst (-1), 1) := dk_2 (dk_at dksX1_sheet_2 13 rfl rfl)
theorem dX1_sheet_58 : decode cX1_sheet 58 = .ok (.if_icmp .ne 10, 3) := dk_160 0 10 (dk_at dksX1_sheet_2 14 rfl rfl)
theorem dX1_sheet_61 : decode cX1_sheet 61 = .ok (.aload_n 0, 1) := dk_42 (dk_at dksX1_sheet_2 17 rfl rfl)
theorem dX1_sheet_62 : decode cX1_sheet 62 = .ok (.invokevirtual 363, 3) := dk_182 1 107 (dk_at dksX1_sheet_2 18 rfl rfl)
theorem dX1_sheet_65 : decode cX1_sheet 65 = .ok (.goto 12, 3) := dk_167 0 12 (dk_at dksX1_sheet_2 21 rfl rfl)
theorem dX1_sheet_68 : decode cX1_sheet 68 = .ok (.aload_n 0, 1) := dk_42 (dk_at dksX1_sheet_3 0 rfl rfl)
theorem dX1_sheet_69 : decode cX1_sheet 69 = .ok (.getfield 102, 3) := dk_180 0 102 (dk_at dksX1_sheet_3 1 rfl rfl)
theorem dX1_sheet_72 : decode cX1_sheet 72 = .ok (.iload_n 1, 1) := dk_27 (dk_at dksX1_sheet_3 4 rfl rfl)
theorem dX1_sheet_73 : decode cX1_sheet 73 = .ok (.aaload, 1) := dk_50 (dk_at dksX1_sheet_3 5 rfl rfl)
theorem dX1_sheet_74 : decode cX1_sheet 74 = .ok (.getfield 414, 3) := dk_180 1 158 (dk_at dksX1_sheet_3 6 rfl rfl)
theorem dX1_sheet_77 : decode cX1_sheet 77 = .ok (.ireturn, 1) := dk_172 (dk_at dksX1_sheet_3 9 rfl rfl)
theorem dX1_sheet_78 : decode cX1_sheet 78 = .ok (.iload_n 1, 1) := dk_27 (dk_at dksX1_sheet_3 10 rfl rfl)
theorem dX1_sheet_79 : decode cX1_sheet 79 = .ok (.iconst (-1), 1) := dk_2 (dk_at dksX1_sheet_3 11 rfl rfl)
theorem dX1_sheet_80 : decode cX1_sheet 80 = .ok (.if_icmp .ne 10, 3) := dk_160 0 10 (dk_at dksX1_sheet_3 12 rfl rfl)
theorem dX1_sheet_83 : decode cX1_sheet 83 = .ok (.aload_n 0, 1) := dk_42 (dk_at dksX1_sheet_3 15 rfl rfl)
theorem dX1_sheet_84 : decode cX1_sheet 84 = .ok (.getfield 126, 3) := dk_180 0 126 (dk_at dksX1_sheet_3 16 rfl rfl)
theorem dX1_sheet_87 : decode cX1_sheet 87 = .ok (.goto 12, 3) := dk_167 0 12 (dk_at dksX1_sheet_3 19 rfl rfl)
theorem dX1_sheet_90 : decode cX1_sheet 90 = .ok (.aload_n 0, 1) := dk_42 (dk_at dksX1_sheet_3 22 rfl rfl)
theorem dX1_sheet_91 : decode cX1_sheet 91 = .ok (.getfield 102, 3) := dk_180 0 102 (dk_at dksX1_sheet_4 0 rfl rfl)
theorem dX1_sheet_94 : decode cX1_sheet 94 = .ok (.iload_n 1, 1) := dk_27 (dk_at dksX1_sheet_4 3 rfl rfl)
theorem dX1_sheet_95 : decode cX1_sheet 95 = .ok (.aaload, 1) := dk_50 (dk_at dksX1_sheet_4 4 rfl rfl)
theorem dX1_sheet_96 : decode cX1_sheet 96 = .ok (.getfield 476, 3) := dk_180 1 220 (dk_at dksX1_sheet_4 5 rfl rfl)
theorem dX1_sheet_99 : decode cX1_sheet 99 = .ok (.ireturn, 1) := dk_172 (dk_at dksX1_sheet_4 8 rfl rfl)
theorem dX1_sheet_100 : decode cX1_sheet 100 = .ok (.iconst (-1), 1) := dk_2 (dk_at dksX1_sheet_4 9 rfl rfl)
theorem dX1_sheet_101 : decode cX1_sheet 101 = .ok (.ireturn, 1) := dk_172 (dk_at dksX1_sheet_4 10 rfl rfl)
abbrev cX1_sheetOf : ByteArray := prog_1_method_7_code
def yX1_sheetOf : MethodName := ⟨RX1, "sheetOf", "(I)LSheetBranches$Sheet;"⟩
def dkwX1_sheetOf_1 : List UInt8 := [42, 180, 0, 102, 27, 50, 180, 0, 205, 167, 0, 4, 1, 176]
abbrev dktX1_sheetOf_1 : List UInt8 := dkwX1_sheetOf_1 ++ []
def dkwX1_sheetOf_0 : List UInt8 := [27, 2, 160, 0, 10, 42, 180, 0, 198, 167, 0, 28, 27, 155, 0, 23, 27, 42, 180, 0, 191, 162, 0, 15]
abbrev dktX1_sheetOf_0 : List UInt8 := dkwX1_sheetOf_0 ++ dktX1_sheetOf_1
theorem dksX1_sheetOf_0 : cX1_sheetOf.data.toList.drop 0 = dktX1_sheetOf_0 := by decide +kernel
theorem dksX1_sheetOf_1 : cX1_sheetOf.data.toList.drop 24 = dktX1_sheetOf_1 := dk_seg dksX1_sheetOf_0 24 rfl rfl
theorem dX1_sheetOf_0 : decode cX1_sheetOf 0 = .ok (.iload_n 1, 1) := dk_27 (dk_at dksX1_sheetOf_0 0 rfl rfl)
theorem dX1_sheetOf_1 : decode cX1_sheetOf 1 = .ok (.iconst (-1), 1) := dk_2 (dk_at dksX1_sheetOf_0 1 rfl rfl)
theorem dX1_sheetOf_2 : decode cX1_sheetOf 2 = .ok (.if_icmp .ne 10, 3) := dk_160 0 10 (dk_at dksX1_sheetOf_0 2 rfl rfl)
theorem dX1_sheetOf_5 : decode cX1_sheetOf 5 = .ok (.aload_n 0, 1) := dk_42 (dk_at dksX1_sheetOf_0 5 rfl rfl)
theorem dX1_sheetOf_6 : decode cX1_sheetOf 6 = .ok (.getfield 198, 3) := dk_180 0 198 (dk_at dksX1_sheetOf_0 6 rfl rfl)
theorem dX1_sheetOf_9 : decode cX1_sheetOf 9 = .ok (.goto 28, 3) := dk_167 0 28 (dk_at dksX1_sheetOf_0 9 rfl rfl)
theorem dX1_sheetOf_12 : decode cX1_sheetOf 12 = .ok (.iload_n 1, 1) := dk_27 (dk_at dksX1_sheetOf_0 12 rfl rfl)
theorem dX1_sheetOf_13 : decode cX1_sheetOf 13 = .ok (.ifCond .lt 23, 3) := dk_155 0 23 (dk_at dksX1_sheetOf_0 13 rfl rfl)
theorem dX1_sheetOf_16 : decode cX1_sheetOf 16 = .ok (.iload_n 1, 1) := dk_27 (dk_at dksX1_sheetOf_0 16 rfl rfl)
theorem dX1_sheetOf_17 : decode cX1_sheetOf 17 = .ok (.aload_n 0, 1) := dk_42 (dk_at dksX1_sheetOf_0 17 rfl rfl)
theorem dX1_sheetOf_18 : decode cX1_sheetOf 18 = .ok (.getfield 191, 3) := dk_180 0 191 (dk_at dksX1_sheetOf_0 18 rfl rfl)
theorem dX1_sheetOf_21 : decode cX1_sheetOf 21 = .ok (.if_icmp .ge 15, 3) := dk_162 0 15 (dk_at dksX1_sheetOf_0 21 rfl rfl)
theorem dX1_sheetOf_24 : decode cX1_sheetOf 24 = .ok (.aload_n 0, 1) := dk_42 (dk_at dksX1_sheetOf_1 0 rfl rfl)
theorem dX1_sheetOf_25 : decode cX1_sheetOf 25 = .ok (.getfield 102, 3) := dk_180 0 102 (dk_at dksX1_sheetOf_1 1 rfl rfl)
theorem dX1_sheetOf_28 : decode cX1_sheetOf 28 = .ok (.iload_n 1, 1) := dk_27 (dk_at dksX1_sheetOf_1 4 rfl rfl)
theorem dX1_sheetOf_29 : decode cX1_sheetOf 29 = .ok (.aaload, 1) := dk_50 (dk_at dksX1_sheetOf_1 5 rfl rfl)
theorem dX1_sheetOf_30 : decode cX1_sheetOf 30 = .ok (.getfield 205, 3) := dk_180 0 205 (dk_at dksX1_sheetOf_1 6 rfl rfl)
theorem dX1_sheetOf_33 : decode cX1_sheetOf 33 = .ok (.goto 4, 3) := dk_167 0 4 (dk_at dksX1_sheetOf_1 9 rfl rfl)
theorem dX1_sheetOf_36 : decode cX1_sheetOf 36 = .ok (.aconst_null, 1) := dk_1 (dk_at dksX1_sheetOf_1 12 rfl rfl)
theorem dX1_sheetOf_37 : decode cX1_sheetOf 37 = .ok (.areturn, 1) := dk_176 (dk_at dksX1_sheetOf_1 13 rfl rfl)
abbrev cX1_kind : ByteArray := prog_1_method_54_code
def yX1_kind : MethodName := ⟨RX1, "kind", "(III)I"⟩
def dkwX1_kind_1 : List UInt8 := [100, 104, 29, 96, 4, 100, 51, 172]
abbrev dktX1_kind_1 : List UInt8 := dkwX1_kind_1 ++ []
def dkwX1_kind_0 : List UInt8 := [42, 27, 28, 29, 182, 1, 223, 154, 0, 5, 2, 172, 42, 27, 182, 1, 227, 180, 1, 231, 16, 10, 28, 4]
abbrev dktX1_kind_0 : List UInt8 := dkwX1_kind_0 ++ dktX1_kind_1
theorem dksX1_kind_0 : cX1_kind.data.toList.drop 0 = dktX1_kind_0 := by decide +kernel
theorem dksX1_kind_1 : cX1_kind.data.toList.drop 24 = dktX1_kind_1 := dk_seg dksX1_kind_0 24 rfl rfl
theorem dX1_kind_0 : decode cX1_kind 0 = .ok (.aload_n 0, 1) := dk_42 (dk_at dksX1_kind_0 0 rfl rfl)
theorem dX1_kind_1 : decode cX1_kind 1 = .ok (.iload_n 1, 1) := dk_27 (dk_at dksX1_kind_0 1 rfl rfl)
theorem dX1_kind_2 : decode cX1_kind 2 = .ok (.iload_n 2, 1) := dk_28 (dk_at dksX1_kind_0 2 rfl rfl)
theorem dX1_kind_3 : decode cX1_kind 3 = .ok (.iload_n 3, 1) := dk_29 (dk_at dksX1_kind_0 3 rfl rfl)
theorem dX1_kind_4 : decode cX1_kind 4 = .ok (.invokevirtual 479, 3) := dk_182 1 223 (dk_at dksX1_kind_0 4 rfl rfl)
theorem dX1_kind_7 : decode cX1_kind 7 = .ok (.ifCond .ne 5, 3) := dk_154 0 5 (dk_at dksX1_kind_0 7 rfl rfl)
theorem dX1_kind_10 : decode cX1_kind 10 = .ok (.iconst (-1), 1) := dk_2 (dk_at dksX1_kind_0 10 rfl rfl)
theorem dX1_kind_11 : decode cX1_kind 11 = .ok (.ireturn, 1) := dk_172 (dk_at dksX1_kind_0 11 rfl rfl)
theorem dX1_kind_12 : decode cX1_kind 12 = .ok (.aload_n 0, 1) := dk_42 (dk_at dksX1_kind_0 12 rfl rfl)
theorem dX1_kind_13 : decode cX1_kind 13 = .ok (.iload_n 1, 1) := dk_27 (dk_at dksX1_kind_0 13 rfl rfl)
theorem dX1_kind_14 : decode cX1_kind 14 = .ok (.invokevirtual 483, 3) := dk_182 1 227 (dk_at dksX1_kind_0 14 rfl rfl)
theorem dX1_kind_17 : decode cX1_kind 17 = .ok (.getfield 487, 3) := dk_180 1 231 (dk_at dksX1_kind_0 17 rfl rfl)
theorem dX1_kind_20 : decode cX1_kind 20 = .ok (.bipush 10, 2) := dk_16 10 (dk_at dksX1_kind_0 20 rfl rfl)
theorem dX1_kind_22 : decode cX1_kind 22 = .ok (.iload_n 2, 1) := dk_28 (dk_at dksX1_kind_0 22 rfl rfl)
theorem dX1_kind_23 : decode cX1_kind 23 = .ok (.iconst 1, 1) := dk_4 (dk_at dksX1_kind_0 23 rfl rfl)
theorem dX1_kind_24 : decode cX1_kind 24 = .ok (.isub, 1) := dk_100 (dk_at dksX1_kind_1 0 rfl rfl)
theorem dX1_kind_25 : decode cX1_kind 25 = .ok (.imul, 1) := dk_104 (dk_at dksX1_kind_1 1 rfl rfl)
theorem dX1_kind_26 : decode cX1_kind 26 = .ok (.iload_n 3, 1) := dk_29 (dk_at dksX1_kind_1 2 rfl rfl)
theorem dX1_kind_27 : decode cX1_kind 27 = .ok (.iadd, 1) := dk_96 (dk_at dksX1_kind_1 3 rfl rfl)
theorem dX1_kind_28 : decode cX1_kind 28 = .ok (.iconst 1, 1) := dk_4 (dk_at dksX1_kind_1 4 rfl rfl)
theorem dX1_kind_29 : decode cX1_kind 29 = .ok (.isub, 1) := dk_100 (dk_at dksX1_kind_1 5 rfl rfl)
theorem dX1_kind_30 : decode cX1_kind 30 = .ok (.baload, 1) := dk_51 (dk_at dksX1_kind_1 6 rfl rfl)
theorem dX1_kind_31 : decode cX1_kind 31 = .ok (.ireturn, 1) := dk_172 (dk_at dksX1_kind_1 7 rfl rfl)
abbrev cX1_hasCell : ByteArray := prog_1_method_53_code
def yX1_hasCell : MethodName := ⟨RX1, "hasCell", "(III)Z"⟩
def dkwX1_hasCell_1 : List UInt8 := [153, 0, 7, 4, 167, 0, 4, 3, 172]
abbrev dktX1_hasCell_1 : List UInt8 := dkwX1_hasCell_1 ++ []
def dkwX1_hasCell_0 : List UInt8 := [42, 27, 182, 1, 198, 58, 4, 25, 4, 198, 0, 21, 25, 4, 28, 4, 100, 29, 4, 100, 182, 0, 235]
abbrev dktX1_hasCell_0 : List UInt8 := dkwX1_hasCell_0 ++ dktX1_hasCell_1
theorem dksX1_hasCell_0 : cX1_hasCell.data.toList.drop 0 = dktX1_hasCell_0 := by decide +kernel
theorem dksX1_hasCell_1 : cX1_hasCell.data.toList.drop 23 = dktX1_hasCell_1 := dk_seg dksX1_hasCell_0 23 rfl rfl
theorem dX1_hasCell_0 : decode cX1_hasCell 0 = .ok (.aload_n 0, 1) := dk_42 (dk_at dksX1_hasCell_0 0 rfl rfl)
theorem dX1_hasCell_1 : decode cX1_hasCell 1 = .ok (.iload_n 1, 1) := dk_27 (dk_at dksX1_hasCell_0 1 rfl rfl)
theorem dX1_hasCell_2 : decode cX1_hasCell 2 = .ok (.invokevirtual 454, 3) := dk_182 1 198 (dk_at dksX1_hasCell_0 2 rfl rfl)
theorem dX1_hasCell_5 : decode cX1_hasCell 5 = .ok (.astore 4, 2) := dk_58 4 (dk_at dksX1_hasCell_0 5 rfl rfl)
theorem dX1_hasCell_7 : decode cX1_hasCell 7 = .ok (.aload 4, 2) := dk_25 4 (dk_at dksX1_hasCell_0 7 rfl rfl)
theorem dX1_hasCell_9 : decode cX1_hasCell 9 = .ok (.ifnull 21, 3) := dk_198 0 21 (dk_at dksX1_hasCell_0 9 rfl rfl)
theorem dX1_hasCell_12 : decode cX1_hasCell 12 = .ok (.aload 4, 2) := dk_25 4 (dk_at dksX1_hasCell_0 12 rfl rfl)
theorem dX1_hasCell_14 : decode cX1_hasCell 14 = .ok (.iload_n 2, 1) := dk_28 (dk_at dksX1_hasCell_0 14 rfl rfl)
theorem dX1_hasCell_15 : decode cX1_hasCell 15 = .ok (.iconst 1, 1) := dk_4 (dk_at dksX1_hasCell_0 15 rfl rfl)
theorem dX1_hasCell_16 : decode cX1_hasCell 16 = .ok (.isub, 1) := dk_100 (dk_at dksX1_hasCell_0 16 rfl rfl)
theorem dX1_hasCell_17 : decode cX1_hasCell 17 = .ok (.iload_n 3, 1) := dk_29 (dk_at dksX1_hasCell_0 17 rfl rfl)
theorem dX1_hasCell_18 : decode cX1_hasCell 18 = .ok (.iconst 1, 1) := dk_4 (dk_at dksX1_hasCell_0 18 rfl rfl)
theorem dX1_hasCell_19 : decode cX1_hasCell 19 = .ok (.isub, 1) := dk_100 (dk_at dksX1_hasCell_0 19 rfl rfl)
theorem dX1_hasCell_20 : decode cX1_hasCell 20 = .ok (.invokevirtual 235, 3) := dk_182 0 235 (dk_at dksX1_hasCell_0 20 rfl rfl)
theorem dX1_hasCell_23 : decode cX1_hasCell 23 = .ok (.ifCond .eq 7, 3) := dk_153 0 7 (dk_at dksX1_hasCell_1 0 rfl rfl)
theorem dX1_hasCell_26 : decode cX1_hasCell 26 = .ok (.iconst 1, 1) := dk_4 (dk_at dksX1_hasCell_1 3 rfl rfl)
theorem dX1_hasCell_27 : decode cX1_hasCell 27 = .ok (.goto 4, 3) := dk_167 0 4 (dk_at dksX1_hasCell_1 4 rfl rfl)
theorem dX1_hasCell_30 : decode cX1_hasCell 30 = .ok (.iconst 0, 1) := dk_3 (dk_at dksX1_hasCell_1 7 rfl rfl)
theorem dX1_hasCell_31 : decode cX1_hasCell 31 = .ok (.ireturn, 1) := dk_172 (dk_at dksX1_hasCell_1 8 rfl rfl)
abbrev cX1_valuesOf : ByteArray := prog_1_method_9_code
def yX1_valuesOf : MethodName := ⟨RX1, "valuesOf", "(I)LSheetBranches$Values;"⟩
def dkwX1_valuesOf_0 : List UInt8 := [27, 2, 160, 0, 10, 42, 182, 0, 215, 167, 0, 12, 42, 180, 0, 102, 27, 50, 180, 0, 219, 176]
abbrev dktX1_valuesOf_0 : List UInt8 := dkwX1_valuesOf_0 ++ []
theorem dksX1_valuesOf_0 : cX1_valuesOf.data.toList.drop 0 = dktX1_valuesOf_0 := by decide +kernel
theorem dX1_valuesOf_0 : decode cX1_valuesOf 0 = .ok (.iload_n 1, 1) := dk_27 (dk_at dksX1_valuesOf_0 0 rfl rfl)
theorem dX1_valuesOf_1 : decode cX1_valuesOf 1 = .ok (.iconst (-1), 1) := dk_2 (dk_at dksX1_valuesOf_0 1 rfl rfl)
theorem dX1_valuesOf_2 : decode cX1_valuesOf 2 = .ok (.if_icmp .ne 10, 3) := dk_160 0 10 (dk_at dksX1_valuesOf_0 2 rfl rfl)
theorem dX1_valuesOf_5 : decode cX1_valuesOf 5 = .ok (.aload_n 0, 1) := dk_42 (dk_at dksX1_valuesOf_0 5 rfl rfl)
theorem dX1_valuesOf_6 : decode cX1_valuesOf 6 = .ok (.invokevirtual 215, 3) := dk_182 0 215 (dk_at dksX1_valuesOf_0 6 rfl rfl)
theorem dX1_valuesOf_9 : decode cX1_valuesOf 9 = .ok (.goto 12, 3) := dk_167 0 12 (dk_at dksX1_valuesOf_0 9 rfl rfl)
theorem dX1_valuesOf_12 : decode cX1_valuesOf 12 = .ok (.aload_n 0, 1) := dk_42 (dk_at dksX1_valuesOf_0 12 rfl rfl)
theorem dX1_valuesOf_13 : decode cX1_valuesOf 13 = .ok (.getfield 102, 3) := dk_180 0 102 (dk_at dksX1_valuesOf_0 13 rfl rfl)
theorem dX1_valuesOf_16 : decode cX1_valuesOf 16 = .ok (.iload_n 1, 1) := dk_27 (dk_at dksX1_valuesOf_0 16 rfl rfl)
theorem dX1_valuesOf_17 : decode cX1_valuesOf 17 = .ok (.aaload, 1) := dk_50 (dk_at dksX1_valuesOf_0 17 rfl rfl)
theorem dX1_valuesOf_18 : decode cX1_valuesOf 18 = .ok (.getfield 219, 3) := dk_180 0 219 (dk_at dksX1_valuesOf_0 18 rfl rfl)
theorem dX1_valuesOf_21 : decode cX1_valuesOf 21 = .ok (.areturn, 1) := dk_176 (dk_at dksX1_valuesOf_0 21 rfl rfl)
abbrev cX1_ready : ByteArray := prog_1_method_8_code
def yX1_ready : MethodName := ⟨RX1, "ready", "()LSheetBranches$Values;"⟩
def dkwX1_ready_1 : List UInt8 := [181, 0, 208, 42, 180, 0, 113, 176]
abbrev dktX1_ready_1 : List UInt8 := dkwX1_ready_1 ++ []
def dkwX1_ready_0 : List UInt8 := [42, 180, 0, 208, 154, 0, 18, 42, 180, 0, 150, 42, 180, 0, 198, 42, 180, 0, 113, 182, 0, 212, 42, 4]
abbrev dktX1_ready_0 : List UInt8 := dkwX1_ready_0 ++ dktX1_ready_1
theorem dksX1_ready_0 : cX1_ready.data.toList.drop 0 = dktX1_ready_0 := by decide +kernel
theorem dksX1_ready_1 : cX1_ready.data.toList.drop 24 = dktX1_ready_1 := dk_seg dksX1_ready_0 24 rfl rfl
theorem dX1_ready_0 : decode cX1_ready 0 = .ok (.aload_n 0, 1) := dk_42 (dk_at dksX1_ready_0 0 rfl rfl)
theorem dX1_ready_1 : decode cX1_ready 1 = .ok (.getfield 208, 3) := dk_180 0 208 (dk_at dksX1_ready_0 1 rfl rfl)
theorem dX1_ready_4 : decode cX1_ready 4 = .ok (.ifCond .ne 18, 3) := dk_154 0 18 (dk_at dksX1_ready_0 4 rfl rfl)
theorem dX1_ready_7 : decode cX1_ready 7 = .ok (.aload_n 0, 1) := dk_42 (dk_at dksX1_ready_0 7 rfl rfl)
theorem dX1_ready_8 : decode cX1_ready 8 = .ok (.getfield 150, 3) := dk_180 0 150 (dk_at dksX1_ready_0 8 rfl rfl)
theorem dX1_ready_11 : decode cX1_ready 11 = .ok (.aload_n 0, 1) := dk_42 (dk_at dksX1_ready_0 11 rfl rfl)
theorem dX1_ready_12 : decode cX1_ready 12 = .ok (.getfield 198, 3) := dk_180 0 198 (dk_at dksX1_ready_0 12 rfl rfl)
theorem dX1_ready_15 : decode cX1_ready 15 = .ok (.aload_n 0, 1) := dk_42 (dk_at dksX1_ready_0 15 rfl rfl)
theorem dX1_ready_16 : decode cX1_ready 16 = .ok (.getfield 113, 3) := dk_180 0 113 (dk_at dksX1_ready_0 16 rfl rfl)
theorem dX1_ready_19 : decode cX1_ready 19 = .ok (.invokevirtual 212, 3) := dk_182 0 212 (dk_at dksX1_ready_0 19 rfl rfl)
theorem dX1_ready_22 : decode cX1_ready 22 = .ok (.aload_n 0, 1) := dk_42 (dk_at dksX1_ready_0 22 rfl rfl)
theorem dX1_ready_23 : decode cX1_ready 23 = .ok (.iconst 1, 1) := dk_4 (dk_at dksX1_ready_0 23 rfl rfl)
theorem dX1_ready_24 : decode cX1_ready 24 = .ok (.putfield 208, 3) := dk_181 0 208 (dk_at dksX1_ready_1 0 rfl rfl)
theorem dX1_ready_27 : decode cX1_ready 27 = .ok (.aload_n 0, 1) := dk_42 (dk_at dksX1_ready_1 3 rfl rfl)
theorem dX1_ready_28 : decode cX1_ready 28 = .ok (.getfield 113, 3) := dk_180 0 113 (dk_at dksX1_ready_1 4 rfl rfl)
theorem dX1_ready_31 : decode cX1_ready 31 = .ok (.areturn, 1) := dk_176 (dk_at dksX1_ready_1 7 rfl rfl)
abbrev cX1_two : ByteArray := prog_1_method_2_code
def yX1_two : MethodName := ⟨RX1, "two", "(LSheetBranches$Sign;LSheetBranches$Worth;LSheetBranches$Worth;)V"⟩
def dkwX1_two_2 : List UInt8 := [182, 0, 33, 153, 0, 15, 42, 43, 44, 180, 0, 37, 184, 0, 41, 167, 0, 8, 43, 44, 182, 0, 45, 177]
abbrev dktX1_two_2 : List UInt8 := dkwX1_two_2 ++ []
def dkwX1_two_1 : List UInt8 := [43, 182, 0, 23, 44, 182, 0, 23, 43, 44, 182, 0, 29, 167, 0, 34, 43, 182, 0, 33, 153, 0, 27, 44]
abbrev dktX1_two_1 : List UInt8 := dkwX1_two_1 ++ dktX1_two_2
def dkwX1_two_0 : List UInt8 := [42, 180, 0, 9, 4, 160, 0, 12, 42, 43, 44, 184, 0, 15, 167, 0, 57, 42, 178, 0, 19, 166, 0, 19]
abbrev dktX1_two_0 : List UInt8 := dkwX1_two_0 ++ dktX1_two_1
theorem dksX1_two_0 : cX1_two.data.toList.drop 0 = dktX1_two_0 := by decide +kernel
theorem dksX1_two_1 : cX1_two.data.toList.drop 24 = dktX1_two_1 := dk_seg dksX1_two_0 24 rfl rfl
theorem dksX1_two_2 : cX1_two.data.toList.drop 48 = dktX1_two_2 := dk_seg dksX1_two_1 24 rfl rfl
theorem dX1_two_0 : decode cX1_two 0 = .ok (.aload_n 0, 1) := dk_42 (dk_at dksX1_two_0 0 rfl rfl)
theorem dX1_two_1 : decode cX1_two 1 = .ok (.getfield 9, 3) := dk_180 0 9 (dk_at dksX1_two_0 1 rfl rfl)
theorem dX1_two_4 : decode cX1_two 4 = .ok (.iconst 1, 1) := dk_4 (dk_at dksX1_two_0 4 rfl rfl)
theorem dX1_two_5 : decode cX1_two 5 = .ok (.if_icmp .ne 12, 3) := dk_160 0 12 (dk_at dksX1_two_0 5 rfl rfl)
theorem dX1_two_8 : decode cX1_two 8 = .ok (.aload_n 0, 1) := dk_42 (dk_at dksX1_two_0 8 rfl rfl)
theorem dX1_two_9 : decode cX1_two 9 = .ok (.aload_n 1, 1) := dk_43 (dk_at dksX1_two_0 9 rfl rfl)
theorem dX1_two_10 : decode cX1_two 10 = .ok (.aload_n 2, 1) := dk_44 (dk_at dksX1_two_0 10 rfl rfl)
theorem dX1_two_11 : decode cX1_two 11 = .ok (.invokestatic 15, 3) := dk_184 0 15 (dk_at dksX1_two_0 11 rfl rfl)
theorem dX1_two_14 : decode cX1_two 14 = .ok (.goto 57, 3) := dk_167 0 57 (dk_at dksX1_two_0 14 rfl rfl)
theorem dX1_two_17 : decode cX1_two 17 = .ok (.aload_n 0, 1) := dk_42 (dk_at dksX1_two_0 17 rfl rfl)
theorem dX1_two_18 : decode cX1_two 18 = .ok (.getstatic 19, 3) := dk_178 0 19 (dk_at dksX1_two_0 18 rfl rfl)
theorem dX1_two_21 : decode cX1_two 21 = .ok (.if_acmp .ne 19, 3) := dk_166 0 19 (dk_at dksX1_two_0 21 rfl rfl)
theorem dX1_two_24 : decode cX1_two 24 = .ok (.aload_n 1, 1) := dk_43 (dk_at dksX1_two_1 0 rfl rfl)
theorem dX1_two_25 : decode cX1_two 25 = .ok (.invokevirtual 23, 3) := dk_182 0 23 (dk_at dksX1_two_1 1 rfl rfl)
theorem dX1_two_28 : decode cX1_two 28 = .ok (.aload_n 2, 1) := dk_44 (dk_at dksX1_two_1 4 rfl rfl)
theorem dX1_two_29 : decode cX1_two 29 = .ok (.invokevirtual 23, 3) := dk_182 0 23 (dk_at dksX1_two_1 5 rfl rfl)
theorem dX1_two_32 : decode cX1_two 32 = .ok (.aload_n 1, 1) := dk_43 (dk_at dksX1_two_1 8 rfl rfl)
theorem dX1_two_33 : decode cX1_two 33 = .ok (.aload_n 2, 1) := dk_44 (dk_at dksX1_two_1 9 rfl rfl)
theorem dX1_two_34 : decode cX1_two 34 = .ok (.invokevirtual 29, 3) := dk_182 0 29 (dk_at dksX1_two_1 10 rfl rfl)
theorem dX1_two_37 : decode cX1_two 37 = .ok (.goto 34, 3) := dk_167 0 34 (dk_at dksX1_two_1 13 rfl rfl)
theorem dX1_two_40 : decode cX1_two 40 = .ok (.aload_n 1, 1) := dk_43 (dk_at dksX1_two_1 16 rfl rfl)
theorem dX1_two_41 : decode cX1_two 41 = .ok (.invokevirtual 33, 3) := dk_182 0 33 (dk_at dksX1_two_1 17 rfl rfl)
theorem dX1_two_44 : decode cX1_two 44 = .ok (.ifCond .eq 27, 3) := dk_153 0 27 (dk_at dksX1_two_1 20 rfl rfl)
theorem dX1_two_47 : decode cX1_two 47 = .ok (.aload_n 2, 1) := dk_44 (dk_at dksX1_two_1 23 rfl rfl)
theorem dX1_two_48 : decode cX1_two 48 = .ok (.invokevirtual 33, 3) := dk_182 0 33 (dk_at dksX1_two_2 0 rfl rfl)
theorem dX1_two_51 : decode cX1_two 51 = .ok (.ifCond .eq 15, 3) := dk_153 0 15 (dk_at dksX1_two_2 3 rfl rfl)
theorem dX1_two_54 : decode cX1_two 54 = .ok (.aload_n 0, 1) := dk_42 (dk_at dksX1_two_2 6 rfl rfl)
theorem dX1_two_55 : decode cX1_two 55 = .ok (.aload_n 1, 1) := dk_43 (dk_at dksX1_two_2 7 rfl rfl)
theorem dX1_two_56 : decode cX1_two 56 = .ok (.aload_n 2, 1) := dk_44 (dk_at dksX1_two_2 8 rfl rfl)
theorem dX1_two_57 : decode cX1_two 57 = .ok (.getfield 37, 3) := dk_180 0 37 (dk_at dksX1_two_2 9 rfl rfl)
theorem dX1_two_60 : decode cX1_two 60 = .ok (.invokestatic 41, 3) := dk_184 0 41 (dk_at dksX1_two_2 12 rfl rfl)
theorem dX1_two_63 : decode cX1_two 63 = .ok (.goto 8, 3) := dk_167 0 8 (dk_at dksX1_two_2 15 rfl rfl)
theorem dX1_two_66 : decode cX1_two 66 = .ok (.aload_n 1, 1) := dk_43 (dk_at dksX1_two_2 18 rfl rfl)
theorem dX1_two_67 : decode cX1_two 67 = .ok (.aload_n 2, 1) := dk_44 (dk_at dksX1_two_2 19 rfl rfl)
theorem dX1_two_68 : decode cX1_two 68 = .ok (.invokevirtual 45, 3) := dk_182 0 45 (dk_at dksX1_two_2 20 rfl rfl)
theorem dX1_two_71 : decode cX1_two 71 = .ok (.return_, 1) := dk_177 (dk_at dksX1_two_2 23 rfl rfl)
abbrev cX1_compare : ByteArray := prog_1_method_4_code
def yX1_compare : MethodName := ⟨RX1, "compare", "(LSheetBranches$Sign;LSheetBranches$Worth;LSheetBranches$Worth;)V"⟩
def dkwX1_compare_9 : List UInt8 := [177]
abbrev dktX1_compare_9 : List UInt8 := dkwX1_compare_9 ++ []
def dkwX1_compare_8 : List UInt8 := [4, 167, 0, 4, 3, 182, 0, 83, 167, 0, 16, 43, 29, 155, 0, 7, 4, 167, 0, 4, 3, 182, 0, 83]
abbrev dktX1_compare_8 : List UInt8 := dkwX1_compare_8 ++ dktX1_compare_9
def dkwX1_compare_7 : List UInt8 := [167, 0, 48, 43, 29, 157, 0, 7, 4, 167, 0, 4, 3, 182, 0, 83, 167, 0, 32, 43, 29, 158, 0, 7]
abbrev dktX1_compare_7 : List UInt8 := dkwX1_compare_7 ++ dktX1_compare_8
def dkwX1_compare_6 : List UInt8 := [167, 0, 4, 3, 182, 0, 83, 167, 0, 64, 43, 29, 156, 0, 7, 4, 167, 0, 4, 3, 182, 0, 83]
abbrev dktX1_compare_6 : List UInt8 := dkwX1_compare_6 ++ dktX1_compare_7
def dkwX1_compare_5 : List UInt8 := [43, 29, 154, 0, 7, 4, 167, 0, 4, 3, 182, 0, 83, 167, 0, 80, 43, 29, 153, 0, 7, 4]
abbrev dktX1_compare_5 : List UInt8 := dkwX1_compare_5 ++ dktX1_compare_6
def dkwX1_compare_4 : List UInt8 := [170, 0, 0, 0, 0, 114, 0, 0, 0, 0, 0, 0, 0, 4, 0, 0, 0, 34, 0, 0, 0, 50, 0, 0, 0, 66, 0, 0, 0, 82, 0, 0, 0, 98]
abbrev dktX1_compare_4 : List UInt8 := dkwX1_compare_4 ++ dktX1_compare_5
def dkwX1_compare_3 : List UInt8 := [182, 0, 48]
abbrev dktX1_compare_3 : List UInt8 := dkwX1_compare_3 ++ dktX1_compare_4
def dkwX1_compare_2 : List UInt8 := [167, 0, 4, 3, 182, 0, 83, 167, 0, 8, 43, 6, 182, 0, 64, 177, 43, 44, 182, 0, 87, 62, 42]
abbrev dktX1_compare_2 : List UInt8 := dkwX1_compare_2 ++ dktX1_compare_3
def dkwX1_compare_1 : List UInt8 := [178, 0, 77, 165, 0, 10, 42, 178, 0, 80, 166, 0, 22, 43, 42, 178, 0, 80, 166, 0, 7, 4]
abbrev dktX1_compare_1 : List UInt8 := dkwX1_compare_1 ++ dktX1_compare_2
def dkwX1_compare_0 : List UInt8 := [43, 44, 182, 0, 71, 44, 43, 182, 0, 71, 43, 180, 0, 74, 44, 180, 0, 74, 159, 0, 42, 42]
abbrev dktX1_compare_0 : List UInt8 := dkwX1_compare_0 ++ dktX1_compare_1
theorem dksX1_compare_0 : cX1_compare.data.toList.drop 0 = dktX1_compare_0 := by decide +kernel
theorem dksX1_compare_1 : cX1_compare.data.toList.drop 22 = dktX1_compare_1 := dk_seg dksX1_compare_0 22 rfl rfl
theorem dksX1_compare_2 : cX1_compare.data.toList.drop 44 = dktX1_compare_2 := dk_seg dksX1_compare_1 22 rfl rfl
theorem dksX1_compare_3 : cX1_compare.data.toList.drop 67 = dktX1_compare_3 := dk_seg dksX1_compare_2 23 rfl rfl
theorem dksX1_compare_4 : cX1_compare.data.toList.drop 70 = dktX1_compare_4 := dk_seg dksX1_compare_3 3 rfl rfl
theorem dksX1_compare_5 : cX1_compare.data.toList.drop 104 = dktX1_compare_5 := dk_seg dksX1_compare_4 34 rfl rfl
theorem dksX1_compare_6 : cX1_compare.data.toList.drop 126 = dktX1_compare_6 := dk_seg dksX1_compare_5 22 rfl rfl
theorem dksX1_compare_7 : cX1_compare.data.toList.drop 149 = dktX1_compare_7 := dk_seg dksX1_compare_6 23 rfl rfl
theorem dksX1_compare_8 : cX1_compare.data.toList.drop 173 = dktX1_compare_8 := dk_seg dksX1_compare_7 24 rfl rfl
theorem dksX1_compare_9 : cX1_compare.data.toList.drop 197 = dktX1_compare_9 := dk_seg dksX1_compare_8 24 rfl rfl
theorem dX1_compare_0 : decode cX1_compare 0 = .ok (.aload_n 1, 1) := dk_43 (dk_at dksX1_compare_0 0 rfl rfl)
theorem dX1_compare_1 : decode cX1_compare 1 = .ok (.aload_n 2, 1) := dk_44 (dk_at dksX1_compare_0 1 rfl rfl)
theorem dX1_compare_2 : decode cX1_compare 2 = .ok (.invokevirtual 71, 3) := dk_182 0 71 (dk_at dksX1_compare_0 2 rfl rfl)
theorem dX1_compare_5 : decode cX1_compare 5 = .ok (.aload_n 2, 1) := dk_44 (dk_at dksX1_compare_0 5 rfl rfl)
theorem dX1_compare_6 : decode cX1_compare 6 = .ok (.aload_n 1, 1) := dk_43 (dk_at dksX1_compare_0 6 rfl rfl)
theorem dX1_compare_7 : decode cX1_compare 7 = .ok (.invokevirtual 71, 3) := dk_182 0 71 (dk_at dksX1_compare_0 7 rfl rfl)
theorem dX1_compare_10 : decode cX1_compare 10 = .ok (.aload_n 1, 1) := dk_43 (dk_at dksX1_compare_0 10 rfl rfl)
theorem dX1_compare_11 : decode cX1_compare 11 = .ok (.getfield 74, 3) := dk_180 0 74 (dk_at dksX1_compare_0 11 rfl rfl)
theorem dX1_compare_14 : decode cX1_compare 14 = .ok (.aload_n 2, 1) := dk_44 (dk_at dksX1_compare_0 14 rfl rfl)
theorem dX1_compare_15 : decode cX1_compare 15 = .ok (.getfield 74, 3) := dk_180 0 74 (dk_at dksX1_compare_0 15 rfl rfl)
theorem dX1_compare_18 : decode cX1_compare 18 = .ok (.if_icmp .eq 42, 3) := dk_159 0 42 (dk_at dksX1_compare_0 18 rfl rfl)
theorem dX1_compare_21 : decode cX1_compare 21 = .ok (.aload_n 0, 1) := dk_42 (dk_at dksX1_compare_0 21 rfl rfl)
theorem dX1_compare_22 : decode cX1_compare 22 = .ok (.getstatic 77, 3) := dk_178 0 77 (dk_at dksX1_compare_1 0 rfl rfl)
theorem dX1_compare_25 : decode cX1_compare 25 = .ok (.if_acmp .eq 10, 3) := dk_165 0 10 (dk_at dksX1_compare_1 3 rfl rfl)
theorem dX1_compare_28 : decode cX1_compare 28 = .ok (.aload_n 0, 1) := dk_42 (dk_at dksX1_compare_1 6 rfl rfl)
theorem dX1_compare_29 : decode cX1_compare 29 = .ok (.getstatic 80, 3) := dk_178 0 80 (dk_at dksX1_compare_1 7 rfl rfl)
theorem dX1_compare_32 : decode cX1_compare 32 = .ok (.if_acmp .ne 22, 3) := dk_166 0 22 (dk_at dksX1_compare_1 10 rfl rfl)
theorem dX1_compare_35 : decode cX1_compare 35 = .ok (.aload_n 1, 1) := dk_43 (dk_at dksX1_compare_1 13 rfl rfl)
theorem dX1_compare_36 : decode cX1_compare 36 = .ok (.aload_n 0, 1) := dk_42 (dk_at dksX1_compare_1 14 rfl rfl)
theorem dX1_compare_37 : decode cX1_compare 37 = .ok (.getstatic 80, 3) := dk_178 0 80 (dk_at dksX1_compare_1 15 rfl rfl)
theorem dX1_compare_40 : decode cX1_compare 40 = .ok (.if_acmp .ne 7, 3) := dk_166 0 7 (dk_at dksX1_compare_1 18 rfl rfl)
theorem dX1_compare_43 : decode cX1_compare 43 = .ok (.iconst 1, 1) := dk_4 (dk_at dksX1_compare_1 21 rfl rfl)
theorem dX1_compare_44 : decode cX1_compare 44 = .ok (.goto 4, 3) := dk_167 0 4 (dk_at dksX1_compare_2 0 rfl rfl)
theorem dX1_compare_47 : decode cX1_compare 47 = .ok (.iconst 0, 1) := dk_3 (dk_at dksX1_compare_2 3 rfl rfl)
theorem dX1_compare_48 : decode cX1_compare 48 = .ok (.invokevirtual 83, 3) := dk_182 0 83 (dk_at dksX1_compare_2 4 rfl rfl)
theorem dX1_compare_51 : decode cX1_compare 51 = .ok (.goto 8, 3) := dk_167 0 8 (dk_at dksX1_compare_2 7 rfl rfl)
theorem dX1_compare_54 : decode cX1_compare 54 = .ok (.aload_n 1, 1) := dk_43 (dk_at dksX1_compare_2 10 rfl rfl)
theorem dX1_compare_55 : decode cX1_compare 55 = .ok (.iconst 3, 1) := dk_6 (dk_at dksX1_compare_2 11 rfl rfl)
theorem dX1_compare_56 : decode cX1_compare 56 = .ok (.invokevirtual 64, 3) := dk_182 0 64 (dk_at dksX1_compare_2 12 rfl rfl)
theorem dX1_compare_59 : decode cX1_compare 59 = .ok (.return_, 1) := dk_177 (dk_at dksX1_compare_2 15 rfl rfl)
theorem dX1_compare_60 : decode cX1_compare 60 = .ok (.aload_n 1, 1) := dk_43 (dk_at dksX1_compare_2 16 rfl rfl)
theorem dX1_compare_61 : decode cX1_compare 61 = .ok (.aload_n 2, 1) := dk_44 (dk_at dksX1_compare_2 17 rfl rfl)
theorem dX1_compare_62 : decode cX1_compare 62 = .ok (.invokevirtual 87, 3) := dk_182 0 87 (dk_at dksX1_compare_2 18 rfl rfl)
theorem dX1_compare_65 : decode cX1_compare 65 = .ok (.istore_n 3, 1) := dk_62 (dk_at dksX1_compare_2 21 rfl rfl)
theorem dX1_compare_66 : decode cX1_compare 66 = .ok (.aload_n 0, 1) := dk_42 (dk_at dksX1_compare_2 22 rfl rfl)
theorem dX1_compare_67 : decode cX1_compare 67 = .ok (.invokevirtual 48, 3) := dk_182 0 48 (dk_at dksX1_compare_3 0 rfl rfl)
theorem dX1_compare_70 : decode cX1_compare 70 = .ok (.tableswitch 114 0 4 #[34, 50, 66, 82, 98], 34) := by decide +kernel
theorem dX1_compare_104 : decode cX1_compare 104 = .ok (.aload_n 1, 1) := dk_43 (dk_at dksX1_compare_5 0 rfl rfl)
theorem dX1_compare_105 : decode cX1_compare 105 = .ok (.iload_n 3, 1) := dk_29 (dk_at dksX1_compare_5 1 rfl rfl)
theorem dX1_compare_106 : decode cX1_compare 106 = .ok (.ifCond .ne 7, 3) := dk_154 0 7 (dk_at dksX1_compare_5 2 rfl rfl)
theorem dX1_compare_109 : decode cX1_compare 109 = .ok (.iconst 1, 1) := dk_4 (dk_at dksX1_compare_5 5 rfl rfl)
theorem dX1_compare_110 : decode cX1_compare 110 = .ok (.goto 4, 3) := dk_167 0 4 (dk_at dksX1_compare_5 6 rfl rfl)
theorem dX1_compare_113 : decode cX1_compare 113 = .ok (.iconst 0, 1) := dk_3 (dk_at dksX1_compare_5 9 rfl rfl)
theorem dX1_compare_114 : decode cX1_compare 114 = .ok (.invokevirtual 83, 3) := dk_182 0 83 (dk_at dksX1_compare_5 10 rfl rfl)
theorem dX1_compare_117 : decode cX1_compare 117 = .ok (.goto 80, 3) := dk_167 0 80 (dk_at dksX1_compare_5 13 rfl rfl)
theorem dX1_compare_120 : decode cX1_compare 120 = .ok (.aload_n 1, 1) := dk_43 (dk_at dksX1_compare_5 16 rfl rfl)
theorem dX1_compare_121 : decode cX1_compare 121 = .ok (.iload_n 3, 1) := dk_29 (dk_at dksX1_compare_5 17 rfl rfl)
theorem dX1_compare_122 : decode cX1_compare 122 = .ok (.ifCond .eq 7, 3) := dk_153 0 7 (dk_at dksX1_compare_5 18 rfl rfl)
theorem dX1_compare_125 : decode cX1_compare 125 = .ok (.iconst 1, 1) := dk_4 (dk_at dksX1_compare_5 21 rfl rfl)
theorem dX1_compare_126 : decode cX1_compare 126 = .ok (.goto 4, 3) := dk_167 0 4 (dk_at dksX1_compare_6 0 rfl rfl)
theorem dX1_compare_129 : decode cX1_compare 129 = .ok (.iconst 0, 1) := dk_3 (dk_at dksX1_compare_6 3 rfl rfl)
theorem dX1_compare_130 : decode cX1_compare 130 = .ok (.invokevirtual 83, 3) := dk_182 0 83 (dk_at dksX1_compare_6 4 rfl rfl)
theorem dX1_compare_133 : decode cX1_compare 133 = .ok (.goto 64, 3) := dk_167 0 64 (dk_at dksX1_compare_6 7 rfl rfl)
theorem dX1_compare_136 : decode cX1_compare 136 = .ok (.aload_n 1, 1) := dk_43 (dk_at dksX1_compare_6 10 rfl rfl)
theorem dX1_compare_137 : decode cX1_compare 137 = .ok (.iload_n 3, 1) := dk_29 (dk_at dksX1_compare_6 11 rfl rfl)
theorem dX1_compare_138 : decode cX1_compare 138 = .ok (.ifCond .ge 7, 3) := dk_156 0 7 (dk_at dksX1_compare_6 12 rfl rfl)
theorem dX1_compare_141 : decode cX1_compare 141 = .ok (.iconst 1, 1) := dk_4 (dk_at dksX1_compare_6 15 rfl rfl)
theorem dX1_compare_142 : decode cX1_compare 142 = .ok (.goto 4, 3) := dk_167 0 4 (dk_at dksX1_compare_6 16 rfl rfl)
theorem dX1_compare_145 : decode cX1_compare 145 = .ok (.iconst 0, 1) := dk_3 (dk_at dksX1_compare_6 19 rfl rfl)
theorem dX1_compare_146 : decode cX1_compare 146 = .ok (.invokevirtual 83, 3) := dk_182 0 83 (dk_at dksX1_compare_6 20 rfl rfl)
theorem dX1_compare_149 : decode cX1_compare 149 = .ok (.goto 48, 3) := dk_167 0 48 (dk_at dksX1_compare_7 0 rfl rfl)
theorem dX1_compare_152 : decode cX1_compare 152 = .ok (.aload_n 1, 1) := dk_43 (dk_at dksX1_compare_7 3 rfl rfl)
theorem dX1_compare_153 : decode cX1_compare 153 = .ok (.iload_n 3, 1) := dk_29 (dk_at dksX1_compare_7 4 rfl rfl)
theorem dX1_compare_154 : decode cX1_compare 154 = .ok (.ifCond .gt 7, 3) := dk_157 0 7 (dk_at dksX1_compare_7 5 rfl rfl)
theorem dX1_compare_157 : decode cX1_compare 157 = .ok (.iconst 1, 1) := dk_4 (dk_at dksX1_compare_7 8 rfl rfl)
theorem dX1_compare_158 : decode cX1_compare 158 = .ok (.goto 4, 3) := dk_167 0 4 (dk_at dksX1_compare_7 9 rfl rfl)
theorem dX1_compare_161 : decode cX1_compare 161 = .ok (.iconst 0, 1) := dk_3 (dk_at dksX1_compare_7 12 rfl rfl)
theorem dX1_compare_162 : decode cX1_compare 162 = .ok (.invokevirtual 83, 3) := dk_182 0 83 (dk_at dksX1_compare_7 13 rfl rfl)
theorem dX1_compare_165 : decode cX1_compare 165 = .ok (.goto 32, 3) := dk_167 0 32 (dk_at dksX1_compare_7 16 rfl rfl)
theorem dX1_compare_168 : decode cX1_compare 168 = .ok (.aload_n 1, 1) := dk_43 (dk_at dksX1_compare_7 19 rfl rfl)
theorem dX1_compare_169 : decode cX1_compare 169 = .ok (.iload_n 3, 1) := dk_29 (dk_at dksX1_compare_7 20 rfl rfl)
theorem dX1_compare_170 : decode cX1_compare 170 = .ok (.ifCond .le 7, 3) := dk_158 0 7 (dk_at dksX1_compare_7 21 rfl rfl)
theorem dX1_compare_173 : decode cX1_compare 173 = .ok (.iconst 1, 1) := dk_4 (dk_at dksX1_compare_8 0 rfl rfl)
theorem dX1_compare_174 : decode cX1_compare 174 = .ok (.goto 4, 3) := dk_167 0 4 (dk_at dksX1_compare_8 1 rfl rfl)
theorem dX1_compare_177 : decode cX1_compare 177 = .ok (.iconst 0, 1) := dk_3 (dk_at dksX1_compare_8 4 rfl rfl)
theorem dX1_compare_178 : decode cX1_compare 178 = .ok (.invokevirtual 83, 3) := dk_182 0 83 (dk_at dksX1_compare_8 5 rfl rfl)
theorem dX1_compare_181 : decode cX1_compare 181 = .ok (.goto 16, 3) := dk_167 0 16 (dk_at dksX1_compare_8 8 rfl rfl)
theorem dX1_compare_184 : decode cX1_compare 184 = .ok (.aload_n 1, 1) := dk_43 (dk_at dksX1_compare_8 11 rfl rfl)
theorem dX1_compare_185 : decode cX1_compare 185 = .ok (.iload_n 3, 1) := dk_29 (dk_at dksX1_compare_8 12 rfl rfl)
theorem dX1_compare_186 : decode cX1_compare 186 = .ok (.ifCond .lt 7, 3) := dk_155 0 7 (dk_at dksX1_compare_8 13 rfl rfl)
theorem dX1_compare_189 : decode cX1_compare 189 = .ok (.iconst 1, 1) := dk_4 (dk_at dksX1_compare_8 16 rfl rfl)
theorem dX1_compare_190 : decode cX1_compare 190 = .ok (.goto 4, 3) := dk_167 0 4 (dk_at dksX1_compare_8 17 rfl rfl)
theorem dX1_compare_193 : decode cX1_compare 193 = .ok (.iconst 0, 1) := dk_3 (dk_at dksX1_compare_8 20 rfl rfl)
theorem dX1_compare_194 : decode cX1_compare 194 = .ok (.invokevirtual 83, 3) := dk_182 0 83 (dk_at dksX1_compare_8 21 rfl rfl)
theorem dX1_compare_197 : decode cX1_compare 197 = .ok (.return_, 1) := dk_177 (dk_at dksX1_compare_9 0 rfl rfl)
abbrev cX1_reckon : ByteArray := prog_1_method_3_code
def yX1_reckon : MethodName := ⟨RX1, "reckon", "(LSheetBranches$Sign;LSheetBranches$Worth;J)V"⟩
def dkwX1_reckon_6 : List UInt8 := [109, 167, 0, 7, 22, 4, 32, 113, 182, 0, 52, 177]
abbrev dktX1_reckon_6 : List UInt8 := dkwX1_reckon_6 ++ []
def dkwX1_reckon_5 : List UInt8 := [9, 148, 154, 0, 11, 43, 5, 182, 0, 64, 167, 0, 25, 43, 42, 178, 0, 68, 166, 0, 10, 22, 4, 32]
abbrev dktX1_reckon_5 : List UInt8 := dkwX1_reckon_5 ++ dktX1_reckon_6
def dkwX1_reckon_4 : List UInt8 := [148, 158, 0, 11, 43, 7, 182, 0, 64, 167, 0, 50, 43, 22, 4, 32, 105, 182, 0, 52, 167, 0, 39, 32]
abbrev dktX1_reckon_4 : List UInt8 := dkwX1_reckon_4 ++ dktX1_reckon_5
def dkwX1_reckon_3 : List UInt8 := [9, 148, 153, 0, 34, 32, 9, 148, 153, 0, 28, 22, 4, 184, 0, 56, 20, 0, 62, 32, 184, 0, 56, 109]
abbrev dktX1_reckon_3 : List UInt8 := dkwX1_reckon_3 ++ dktX1_reckon_4
def dkwX1_reckon_2 : List UInt8 := [43, 22, 4, 32, 97, 182, 0, 52, 167, 0, 99, 43, 22, 4, 32, 101, 182, 0, 52, 167, 0, 88, 22, 4]
abbrev dktX1_reckon_2 : List UInt8 := dkwX1_reckon_2 ++ dktX1_reckon_3
def dkwX1_reckon_1 : List UInt8 := [170, 0, 0, 0, 0, 97, 0, 0, 0, 7, 0, 0, 0, 9, 0, 0, 0, 26, 0, 0, 0, 37, 0, 0, 0, 48]
abbrev dktX1_reckon_1 : List UInt8 := dkwX1_reckon_1 ++ dktX1_reckon_2
def dkwX1_reckon_0 : List UInt8 := [43, 180, 0, 37, 55, 4, 42, 182, 0, 48]
abbrev dktX1_reckon_0 : List UInt8 := dkwX1_reckon_0 ++ dktX1_reckon_1
theorem dksX1_reckon_0 : cX1_reckon.data.toList.drop 0 = dktX1_reckon_0 := by decide +kernel
theorem dksX1_reckon_1 : cX1_reckon.data.toList.drop 10 = dktX1_reckon_1 := dk_seg dksX1_reckon_0 10 rfl rfl
theorem dksX1_reckon_2 : cX1_reckon.data.toList.drop 36 = dktX1_reckon_2 := dk_seg dksX1_reckon_1 26 rfl rfl
theorem dksX1_reckon_3 : cX1_reckon.data.toList.drop 60 = dktX1_reckon_3 := dk_seg dksX1_reckon_2 24 rfl rfl
theorem dksX1_reckon_4 : cX1_reckon.data.toList.drop 84 = dktX1_reckon_4 := dk_seg dksX1_reckon_3 24 rfl rfl
theorem dksX1_reckon_5 : cX1_reckon.data.toList.drop 108 = dktX1_reckon_5 := dk_seg dksX1_reckon_4 24 rfl rfl
theorem dksX1_reckon_6 : cX1_reckon.data.toList.drop 132 = dktX1_reckon_6 := dk_seg dksX1_reckon_5 24 rfl rfl
theorem dX1_reckon_0 : decode cX1_reckon 0 = .ok (.aload_n 1, 1) := dk_43 (dk_at dksX1_reckon_0 0 rfl rfl)
theorem dX1_reckon_1 : decode cX1_reckon 1 = .ok (.getfield 37, 3) := dk_180 0 37 (dk_at dksX1_reckon_0 1 rfl rfl)
theorem dX1_reckon_4 : decode cX1_reckon 4 = .ok (.lstore 4, 2) := dk_55 4 (dk_at dksX1_reckon_0 4 rfl rfl)
theorem dX1_reckon_6 : decode cX1_reckon 6 = .ok (.aload_n 0, 1) := dk_42 (dk_at dksX1_reckon_0 6 rfl rfl)
theorem dX1_reckon_7 : decode cX1_reckon 7 = .ok (.invokevirtual 48, 3) := dk_182 0 48 (dk_at dksX1_reckon_0 7 rfl rfl)
theorem dX1_reckon_10 : decode cX1_reckon 10 = .ok (.tableswitch 97 7 9 #[26, 37, 48], 26) := by decide +kernel
theorem dX1_reckon_36 : decode cX1_reckon 36 = .ok (.aload_n 1, 1) := dk_43 (dk_at dksX1_reckon_2 0 rfl rfl)
theorem dX1_reckon_37 : decode cX1_reckon 37 = .ok (.lload 4, 2) := dk_22 4 (dk_at dksX1_reckon_2 1 rfl rfl)
theorem dX1_reckon_39 : decode cX1_reckon 39 = .ok (.lload_n 2, 1) := dk_32 (dk_at dksX1_reckon_2 3 rfl rfl)
theorem dX1_reckon_40 : decode cX1_reckon 40 = .ok (.ladd, 1) := dk_97 (dk_at dksX1_reckon_2 4 rfl rfl)
theorem dX1_reckon_41 : decode cX1_reckon 41 = .ok (.invokevirtual 52, 3) := dk_182 0 52 (dk_at dksX1_reckon_2 5 rfl rfl)
theorem dX1_reckon_44 : decode cX1_reckon 44 = .ok (.goto 99, 3) := dk_167 0 99 (dk_at dksX1_reckon_2 8 rfl rfl)
theorem dX1_reckon_47 : decode cX1_reckon 47 = .ok (.aload_n 1, 1) := dk_43 (dk_at dksX1_reckon_2 11 rfl rfl)
theorem dX1_reckon_48 : decode cX1_reckon 48 = .ok (.lload 4, 2) := dk_22 4 (dk_at dksX1_reckon_2 12 rfl rfl)
theorem dX1_reckon_50 : decode cX1_reckon 50 = .ok (.lload_n 2, 1) := dk_32 (dk_at dksX1_reckon_2 14 rfl rfl)
theorem dX1_reckon_51 : decode cX1_reckon 51 = .ok (.lsub, 1) := dk_101 (dk_at dksX1_reckon_2 15 rfl rfl)
theorem dX1_reckon_52 : decode cX1_reckon 52 = .ok (.invokevirtual 52, 3) := dk_182 0 52 (dk_at dksX1_reckon_2 16 rfl rfl)
theorem dX1_reckon_55 : decode cX1_reckon 55 = .ok (.goto 88, 3) := dk_167 0 88 (dk_at dksX1_reckon_2 19 rfl rfl)
theorem dX1_reckon_58 : decode cX1_reckon 58 = .ok (.lload 4, 2) := dk_22 4 (dk_at dksX1_reckon_2 22 rfl rfl)
theorem dX1_reckon_60 : decode cX1_reckon 60 = .ok (.lconst 0, 1) := dk_9 (dk_at dksX1_reckon_3 0 rfl rfl)
theorem dX1_reckon_61 : decode cX1_reckon 61 = .ok (.lcmp, 1) := dk_148 (dk_at dksX1_reckon_3 1 rfl rfl)
theorem dX1_reckon_62 : decode cX1_reckon 62 = .ok (.ifCond .eq 34, 3) := dk_153 0 34 (dk_at dksX1_reckon_3 2 rfl rfl)
theorem dX1_reckon_65 : decode cX1_reckon 65 = .ok (.lload_n 2, 1) := dk_32 (dk_at dksX1_reckon_3 5 rfl rfl)
theorem dX1_reckon_66 : decode cX1_reckon 66 = .ok (.lconst 0, 1) := dk_9 (dk_at dksX1_reckon_3 6 rfl rfl)
theorem dX1_reckon_67 : decode cX1_reckon 67 = .ok (.lcmp, 1) := dk_148 (dk_at dksX1_reckon_3 7 rfl rfl)
theorem dX1_reckon_68 : decode cX1_reckon 68 = .ok (.ifCond .eq 28, 3) := dk_153 0 28 (dk_at dksX1_reckon_3 8 rfl rfl)
theorem dX1_reckon_71 : decode cX1_reckon 71 = .ok (.lload 4, 2) := dk_22 4 (dk_at dksX1_reckon_3 11 rfl rfl)
theorem dX1_reckon_73 : decode cX1_reckon 73 = .ok (.invokestatic 56, 3) := dk_184 0 56 (dk_at dksX1_reckon_3 13 rfl rfl)
theorem dX1_reckon_76 : decode cX1_reckon 76 = .ok (.ldc2_w 62, 3) := dk_20 0 62 (dk_at dksX1_reckon_3 16 rfl rfl)
theorem dX1_reckon_79 : decode cX1_reckon 79 = .ok (.lload_n 2, 1) := dk_32 (dk_at dksX1_reckon_3 19 rfl rfl)
theorem dX1_reckon_80 : decode cX1_reckon 80 = .ok (.invokestatic 56, 3) := dk_184 0 56 (dk_at dksX1_reckon_3 20 rfl rfl)
theorem dX1_reckon_83 : decode cX1_reckon 83 = .ok (.ldiv, 1) := dk_109 (dk_at dksX1_reckon_3 23 rfl rfl)
theorem dX1_reckon_84 : decode cX1_reckon 84 = .ok (.lcmp, 1) := dk_148 (dk_at dksX1_reckon_4 0 rfl rfl)
theorem dX1_reckon_85 : decode cX1_reckon 85 = .ok (.ifCond .le 11, 3) := dk_158 0 11 (dk_at dksX1_reckon_4 1 rfl rfl)
theorem dX1_reckon_88 : decode cX1_reckon 88 = .ok (.aload_n 1, 1) := dk_43 (dk_at dksX1_reckon_4 4 rfl rfl)
theorem dX1_reckon_89 : decode cX1_reckon 89 = .ok (.iconst 4, 1) := dk_7 (dk_at dksX1_reckon_4 5 rfl rfl)
theorem dX1_reckon_90 : decode cX1_reckon 90 = .ok (.invokevirtual 64, 3) := dk_182 0 64 (dk_at dksX1_reckon_4 6 rfl rfl)
theorem dX1_reckon_93 : decode cX1_reckon 93 = .ok (.goto 50, 3) := dk_167 0 50 (dk_at dksX1_reckon_4 9 rfl rfl)
theorem dX1_reckon_96 : decode cX1_reckon 96 = .ok (.aload_n 1, 1) := dk_43 (dk_at dksX1_reckon_4 12 rfl rfl)
theorem dX1_reckon_97 : decode cX1_reckon 97 = .ok (.lload 4, 2) := dk_22 4 (dk_at dksX1_reckon_4 13 rfl rfl)
theorem dX1_reckon_99 : decode cX1_reckon 99 = .ok (.lload_n 2, 1) := dk_32 (dk_at dksX1_reckon_4 15 rfl rfl)
theorem dX1_reckon_100 : decode cX1_reckon 100 = .ok (.lmul, 1) := dk_105 (dk_at dksX1_reckon_4 16 rfl rfl)
theorem dX1_reckon_101 : decode cX1_reckon 101 = .ok (.invokevirtual 52, 3) := dk_182 0 52 (dk_at dksX1_reckon_4 17 rfl rfl)
theorem dX1_reckon_104 : decode cX1_reckon 104 = .ok (.goto 39, 3) := dk_167 0 39 (dk_at dksX1_reckon_4 20 rfl rfl)
theorem dX1_reckon_107 : decode cX1_reckon 107 = .ok (.lload_n 2, 1) := dk_32 (dk_at dksX1_reckon_4 23 rfl rfl)
theorem dX1_reckon_108 : decode cX1_reckon 108 = .ok (.lconst 0, 1) := dk_9 (dk_at dksX1_reckon_5 0 rfl rfl)
theorem dX1_reckon_109 : decode cX1_reckon 109 = .ok (.lcmp, 1) := dk_148 (dk_at dksX1_reckon_5 1 rfl rfl)
theorem dX1_reckon_110 : decode cX1_reckon 110 = .ok (.ifCond .ne 11, 3) := dk_154 0 11 (dk_at dksX1_reckon_5 2 rfl rfl)
theorem dX1_reckon_113 : decode cX1_reckon 113 = .ok (.aload_n 1, 1) := dk_43 (dk_at dksX1_reckon_5 5 rfl rfl)
theorem dX1_reckon_114 : decode cX1_reckon 114 = .ok (.iconst 2, 1) := dk_5 (dk_at dksX1_reckon_5 6 rfl rfl)
theorem dX1_reckon_115 : decode cX1_reckon 115 = .ok (.invokevirtual 64, 3) := dk_182 0 64 (dk_at dksX1_reckon_5 7 rfl rfl)
theorem dX1_reckon_118 : decode cX1_reckon 118 = .ok (.goto 25, 3) := dk_167 0 25 (dk_at dksX1_reckon_5 10 rfl rfl)
theorem dX1_reckon_121 : decode cX1_reckon 121 = .ok (.aload_n 1, 1) := dk_43 (dk_at dksX1_reckon_5 13 rfl rfl)
theorem dX1_reckon_122 : decode cX1_reckon 122 = .ok (.aload_n 0, 1) := dk_42 (dk_at dksX1_reckon_5 14 rfl rfl)
theorem dX1_reckon_123 : decode cX1_reckon 123 = .ok (.getstatic 68, 3) := dk_178 0 68 (dk_at dksX1_reckon_5 15 rfl rfl)
theorem dX1_reckon_126 : decode cX1_reckon 126 = .ok (.if_acmp .ne 10, 3) := dk_166 0 10 (dk_at dksX1_reckon_5 18 rfl rfl)
theorem dX1_reckon_129 : decode cX1_reckon 129 = .ok (.lload 4, 2) := dk_22 4 (dk_at dksX1_reckon_5 21 rfl rfl)
theorem dX1_reckon_131 : decode cX1_reckon 131 = .ok (.lload_n 2, 1) := dk_32 (dk_at dksX1_reckon_5 23 rfl rfl)
theorem dX1_reckon_132 : decode cX1_reckon 132 = .ok (.ldiv, 1) := dk_109 (dk_at dksX1_reckon_6 0 rfl rfl)
theorem dX1_reckon_133 : decode cX1_reckon 133 = .ok (.goto 7, 3) := dk_167 0 7 (dk_at dksX1_reckon_6 1 rfl rfl)
theorem dX1_reckon_136 : decode cX1_reckon 136 = .ok (.lload 4, 2) := dk_22 4 (dk_at dksX1_reckon_6 4 rfl rfl)
theorem dX1_reckon_138 : decode cX1_reckon 138 = .ok (.lload_n 2, 1) := dk_32 (dk_at dksX1_reckon_6 6 rfl rfl)
theorem dX1_reckon_139 : decode cX1_reckon 139 = .ok (.lrem, 1) := dk_113 (dk_at dksX1_reckon_6 7 rfl rfl)
theorem dX1_reckon_140 : decode cX1_reckon 140 = .ok (.invokevirtual 52, 3) := dk_182 0 52 (dk_at dksX1_reckon_6 8 rfl rfl)
theorem dX1_reckon_143 : decode cX1_reckon 143 = .ok (.return_, 1) := dk_177 (dk_at dksX1_reckon_6 11 rfl rfl)
abbrev cX1_value : ByteArray := prog_1_method_55_code
def yX1_value : MethodName := ⟨RX1, "value", "(III)J"⟩
def dkwX1_value_2 : List UInt8 := [21, 5, 51, 133, 167, 0, 11, 25, 4, 180, 1, 237, 21, 5, 47, 173]
abbrev dktX1_value_2 : List UInt8 := dkwX1_value_2 ++ []
def dkwX1_value_1 : List UInt8 := [104, 29, 96, 4, 100, 54, 5, 25, 4, 180, 1, 231, 21, 5, 51, 5, 160, 0, 15, 25, 4, 180, 1, 234]
abbrev dktX1_value_1 : List UInt8 := dkwX1_value_1 ++ dktX1_value_2
def dkwX1_value_0 : List UInt8 := [42, 27, 28, 29, 182, 1, 223, 154, 0, 5, 9, 173, 42, 27, 182, 1, 227, 58, 4, 16, 10, 28, 4, 100]
abbrev dktX1_value_0 : List UInt8 := dkwX1_value_0 ++ dktX1_value_1
theorem dksX1_value_0 : cX1_value.data.toList.drop 0 = dktX1_value_0 := by decide +kernel
theorem dksX1_value_1 : cX1_value.data.toList.drop 24 = dktX1_value_1 := dk_seg dksX1_value_0 24 rfl rfl
theorem dksX1_value_2 : cX1_value.data.toList.drop 48 = dktX1_value_2 := dk_seg dksX1_value_1 24 rfl rfl
theorem dX1_value_0 : decode cX1_value 0 = .ok (.aload_n 0, 1) := dk_42 (dk_at dksX1_value_0 0 rfl rfl)
theorem dX1_value_1 : decode cX1_value 1 = .ok (.iload_n 1, 1) := dk_27 (dk_at dksX1_value_0 1 rfl rfl)
theorem dX1_value_2 : decode cX1_value 2 = .ok (.iload_n 2, 1) := dk_28 (dk_at dksX1_value_0 2 rfl rfl)
theorem dX1_value_3 : decode cX1_value 3 = .ok (.iload_n 3, 1) := dk_29 (dk_at dksX1_value_0 3 rfl rfl)
theorem dX1_value_4 : decode cX1_value 4 = .ok (.invokevirtual 479, 3) := dk_182 1 223 (dk_at dksX1_value_0 4 rfl rfl)
theorem dX1_value_7 : decode cX1_value 7 = .ok (.ifCond .ne 5, 3) := dk_154 0 5 (dk_at dksX1_value_0 7 rfl rfl)
theorem dX1_value_10 : decode cX1_value 10 = .ok (.lconst 0, 1) := dk_9 (dk_at dksX1_value_0 10 rfl rfl)
theorem dX1_value_11 : decode cX1_value 11 = .ok (.lreturn, 1) := dk_173 (dk_at dksX1_value_0 11 rfl rfl)
theorem dX1_value_12 : decode cX1_value 12 = .ok (.aload_n 0, 1) := dk_42 (dk_at dksX1_value_0 12 rfl rfl)
theorem dX1_value_13 : decode cX1_value 13 = .ok (.iload_n 1, 1) := dk_27 (dk_at dksX1_value_0 13 rfl rfl)
theorem dX1_value_14 : decode cX1_value 14 = .ok (.invokevirtual 483, 3) := dk_182 1 227 (dk_at dksX1_value_0 14 rfl rfl)
theorem dX1_value_17 : decode cX1_value 17 = .ok (.astore 4, 2) := dk_58 4 (dk_at dksX1_value_0 17 rfl rfl)
theorem dX1_value_19 : decode cX1_value 19 = .ok (.bipush 10, 2) := dk_16 10 (dk_at dksX1_value_0 19 rfl rfl)
theorem dX1_value_21 : decode cX1_value 21 = .ok (.iload_n 2, 1) := dk_28 (dk_at dksX1_value_0 21 rfl rfl)
theorem dX1_value_22 : decode cX1_value 22 = .ok (.iconst 1, 1) := dk_4 (dk_at dksX1_value_0 22 rfl rfl)
theorem dX1_value_23 : decode cX1_value 23 = .ok (.isub, 1) := dk_100 (dk_at dksX1_value_0 23 rfl rfl)
theorem dX1_value_24 : decode cX1_value 24 = .ok (.imul, 1) := dk_104 (dk_at dksX1_value_1 0 rfl rfl)
theorem dX1_value_25 : decode cX1_value 25 = .ok (.iload_n 3, 1) := dk_29 (dk_at dksX1_value_1 1 rfl rfl)
theorem dX1_value_26 : decode cX1_value 26 = .ok (.iadd, 1) := dk_96 (dk_at dksX1_value_1 2 rfl rfl)
theorem dX1_value_27 : decode cX1_value 27 = .ok (.iconst 1, 1) := dk_4 (dk_at dksX1_value_1 3 rfl rfl)
theorem dX1_value_28 : decode cX1_value 28 = .ok (.isub, 1) := dk_100 (dk_at dksX1_value_1 4 rfl rfl)
theorem dX1_value_29 : decode cX1_value 29 = .ok (.istore 5, 2) := dk_54 5 (dk_at dksX1_value_1 5 rfl rfl)
theorem dX1_value_31 : decode cX1_value 31 = .ok (.aload 4, 2) := dk_25 4 (dk_at dksX1_value_1 7 rfl rfl)
theorem dX1_value_33 : decode cX1_value 33 = .ok (.getfield 487, 3) := dk_180 1 231 (dk_at dksX1_value_1 9 rfl rfl)
theorem dX1_value_36 : decode cX1_value 36 = .ok (.iload 5, 2) := dk_21 5 (dk_at dksX1_value_1 12 rfl rfl)
theorem dX1_value_38 : decode cX1_value 38 = .ok (.baload, 1) := dk_51 (dk_at dksX1_value_1 14 rfl rfl)
theorem dX1_value_39 : decode cX1_value 39 = .ok (.iconst 2, 1) := dk_5 (dk_at dksX1_value_1 15 rfl rfl)
theorem dX1_value_40 : decode cX1_value 40 = .ok (.if_icmp .ne 15, 3) := dk_160 0 15 (dk_at dksX1_value_1 16 rfl rfl)
theorem dX1_value_43 : decode cX1_value 43 = .ok (.aload 4, 2) := dk_25 4 (dk_at dksX1_value_1 19 rfl rfl)
theorem dX1_value_45 : decode cX1_value 45 = .ok (.getfield 490, 3) := dk_180 1 234 (dk_at dksX1_value_1 21 rfl rfl)
theorem dX1_value_48 : decode cX1_value 48 = .ok (.iload 5, 2) := dk_21 5 (dk_at dksX1_value_2 0 rfl rfl)
theorem dX1_value_50 : decode cX1_value 50 = .ok (.baload, 1) := dk_51 (dk_at dksX1_value_2 2 rfl rfl)
theorem dX1_value_51 : decode cX1_value 51 = .ok (.i2l, 1) := dk_133 (dk_at dksX1_value_2 3 rfl rfl)
theorem dX1_value_52 : decode cX1_value 52 = .ok (.goto 11, 3) := dk_167 0 11 (dk_at dksX1_value_2 4 rfl rfl)
theorem dX1_value_55 : decode cX1_value 55 = .ok (.aload 4, 2) := dk_25 4 (dk_at dksX1_value_2 7 rfl rfl)
theorem dX1_value_57 : decode cX1_value 57 = .ok (.getfield 493, 3) := dk_180 1 237 (dk_at dksX1_value_2 9 rfl rfl)
theorem dX1_value_60 : decode cX1_value 60 = .ok (.iload 5, 2) := dk_21 5 (dk_at dksX1_value_2 12 rfl rfl)
theorem dX1_value_62 : decode cX1_value 62 = .ok (.laload, 1) := dk_47 (dk_at dksX1_value_2 14 rfl rfl)
theorem dX1_value_63 : decode cX1_value 63 = .ok (.lreturn, 1) := dk_173 (dk_at dksX1_value_2 15 rfl rfl)
abbrev cX1_letter : ByteArray := prog_1_method_56_code
def yX1_letter : MethodName := ⟨RX1, "letter", "(IIII)I"⟩
def dkwX1_letter_3 : List UInt8 := [21, 4, 96, 51, 167, 0, 4, 2, 172]
abbrev dktX1_letter_3 : List UInt8 := dkwX1_letter_3 ++ []
def dkwX1_letter_2 : List UInt8 := [21, 4, 25, 5, 180, 1, 234, 21, 6, 51, 162, 0, 20, 25, 5, 180, 1, 241, 16, 24, 21, 6, 104]
abbrev dktX1_letter_2 : List UInt8 := dkwX1_letter_2 ++ dktX1_letter_3
def dkwX1_letter_1 : List UInt8 := [104, 29, 96, 4, 100, 54, 6, 25, 5, 180, 1, 231, 21, 6, 51, 5, 160, 0, 38, 21, 4, 155, 0, 33]
abbrev dktX1_letter_1 : List UInt8 := dkwX1_letter_1 ++ dktX1_letter_2
def dkwX1_letter_0 : List UInt8 := [42, 27, 28, 29, 182, 1, 223, 154, 0, 5, 2, 172, 42, 27, 182, 1, 227, 58, 5, 16, 10, 28, 4, 100]
abbrev dktX1_letter_0 : List UInt8 := dkwX1_letter_0 ++ dktX1_letter_1
theorem dksX1_letter_0 : cX1_letter.data.toList.drop 0 = dktX1_letter_0 := by decide +kernel
theorem dksX1_letter_1 : cX1_letter.data.toList.drop 24 = dktX1_letter_1 := dk_seg dksX1_letter_0 24 rfl rfl
theorem dksX1_letter_2 : cX1_letter.data.toList.drop 48 = dktX1_letter_2 := dk_seg dksX1_letter_1 24 rfl rfl
theorem dksX1_letter_3 : cX1_letter.data.toList.drop 71 = dktX1_letter_3 := dk_seg dksX1_letter_2 23 rfl rfl
theorem dX1_letter_0 : decode cX1_letter 0 = .ok (.aload_n 0, 1) := dk_42 (dk_at dksX1_letter_0 0 rfl rfl)
theorem dX1_letter_1 : decode cX1_letter 1 = .ok (.iload_n 1, 1) := dk_27 (dk_at dksX1_letter_0 1 rfl rfl)
theorem dX1_letter_2 : decode cX1_letter 2 = .ok (.iload_n 2, 1) := dk_28 (dk_at dksX1_letter_0 2 rfl rfl)
theorem dX1_letter_3 : decode cX1_letter 3 = .ok (.iload_n 3, 1) := dk_29 (dk_at dksX1_letter_0 3 rfl rfl)
theorem dX1_letter_4 : decode cX1_letter 4 = .ok (.invokevirtual 479, 3) := dk_182 1 223 (dk_at dksX1_letter_0 4 rfl rfl)
theorem dX1_letter_7 : decode cX1_letter 7 = .ok (.ifCond .ne 5, 3) := dk_154 0 5 (dk_at dksX1_letter_0 7 rfl rfl)
theorem dX1_letter_10 : decode cX1_letter 10 = .ok (.iconst (-1), 1) := dk_2 (dk_at dksX1_letter_0 10 rfl rfl)
theorem dX1_letter_11 : decode cX1_letter 11 = .ok (.ireturn, 1) := dk_172 (dk_at dksX1_letter_0 11 rfl rfl)
theorem dX1_letter_12 : decode cX1_letter 12 = .ok (.aload_n 0, 1) := dk_42 (dk_at dksX1_letter_0 12 rfl rfl)
theorem dX1_letter_13 : decode cX1_letter 13 = .ok (.iload_n 1, 1) := dk_27 (dk_at dksX1_letter_0 13 rfl rfl)
theorem dX1_letter_14 : decode cX1_letter 14 = .ok (.invokevirtual 483, 3) := dk_182 1 227 (dk_at dksX1_letter_0 14 rfl rfl)
theorem dX1_letter_17 : decode cX1_letter 17 = .ok (.astore 5, 2) := dk_58 5 (dk_at dksX1_letter_0 17 rfl rfl)
theorem dX1_letter_19 : decode cX1_letter 19 = .ok (.bipush 10, 2) := dk_16 10 (dk_at dksX1_letter_0 19 rfl rfl)
theorem dX1_letter_21 : decode cX1_letter 21 = .ok (.iload_n 2, 1) := dk_28 (dk_at dksX1_letter_0 21 rfl rfl)
theorem dX1_letter_22 : decode cX1_letter 22 = .ok (.iconst 1, 1) := dk_4 (dk_at dksX1_letter_0 22 rfl rfl)
theorem dX1_letter_23 : decode cX1_letter 23 = .ok (.isub, 1) := dk_100 (dk_at dksX1_letter_0 23 rfl rfl)
theorem dX1_letter_24 : decode cX1_letter 24 = .ok (.imul, 1) := dk_104 (dk_at dksX1_letter_1 0 rfl rfl)
theorem dX1_letter_25 : decode cX1_letter 25 = .ok (.iload_n 3, 1) := dk_29 (dk_at dksX1_letter_1 1 rfl rfl)
theorem dX1_letter_26 : decode cX1_letter 26 = .ok (.iadd, 1) := dk_96 (dk_at dksX1_letter_1 2 rfl rfl)
theorem dX1_letter_27 : decode cX1_letter 27 = .ok (.iconst 1, 1) := dk_4 (dk_at dksX1_letter_1 3 rfl rfl)
theorem dX1_letter_28 : decode cX1_letter 28 = .ok (.isub, 1) := dk_100 (dk_at dksX1_letter_1 4 rfl rfl)
theorem dX1_letter_29 : decode cX1_letter 29 = .ok (.istore 6, 2) := dk_54 6 (dk_at dksX1_letter_1 5 rfl rfl)
theorem dX1_letter_31 : decode cX1_letter 31 = .ok (.aload 5, 2) := dk_25 5 (dk_at dksX1_letter_1 7 rfl rfl)
theorem dX1_letter_33 : decode cX1_letter 33 = .ok (.getfield 487, 3) := dk_180 1 231 (dk_at dksX1_letter_1 9 rfl rfl)
theorem dX1_letter_36 : decode cX1_letter 36 = .ok (.iload 6, 2) := dk_21 6 (dk_at dksX1_letter_1 12 rfl rfl)
theorem dX1_letter_38 : decode cX1_letter 38 = .ok (.baload, 1) := dk_51 (dk_at dksX1_letter_1 14 rfl rfl)
theorem dX1_letter_39 : decode cX1_letter 39 = .ok (.iconst 2, 1) := dk_5 (dk_at dksX1_letter_1 15 rfl rfl)
theorem dX1_letter_40 : decode cX1_letter 40 = .ok (.if_icmp .ne 38, 3) := dk_160 0 38 (dk_at dksX1_letter_1 16 rfl rfl)
theorem dX1_letter_43 : decode cX1_letter 43 = .ok (.iload 4, 2) := dk_21 4 (dk_at dksX1_letter_1 19 rfl rfl)
theorem dX1_letter_45 : decode cX1_letter 45 = .ok (.ifCond .lt 33, 3) := dk_155 0 33 (dk_at dksX1_letter_1 21 rfl rfl)
theorem dX1_letter_48 : decode cX1_letter 48 = .ok (.iload 4, 2) := dk_21 4 (dk_at dksX1_letter_2 0 rfl rfl)
theorem dX1_letter_50 : decode cX1_letter 50 = .ok (.aload 5, 2) := dk_25 5 (dk_at dksX1_letter_2 2 rfl rfl)
theorem dX1_letter_52 : decode cX1_letter 52 = .ok (.getfield 490, 3) := dk_180 1 234 (dk_at dksX1_letter_2 4 rfl rfl)
theorem dX1_letter_55 : decode cX1_letter 55 = .ok (.iload 6, 2) := dk_21 6 (dk_at dksX1_letter_2 7 rfl rfl)
theorem dX1_letter_57 : decode cX1_letter 57 = .ok (.baload, 1) := dk_51 (dk_at dksX1_letter_2 9 rfl rfl)
theorem dX1_letter_58 : decode cX1_letter 58 = .ok (.if_icmp .ge 20, 3) := dk_162 0 20 (dk_at dksX1_letter_2 10 rfl rfl)
theorem dX1_letter_61 : decode cX1_letter 61 = .ok (.aload 5, 2) := dk_25 5 (dk_at dksX1_letter_2 13 rfl rfl)
theorem dX1_letter_63 : decode cX1_letter 63 = .ok (.getfield 497, 3) := dk_180 1 241 (dk_at dksX1_letter_2 15 rfl rfl)
theorem dX1_letter_66 : decode cX1_letter 66 = .ok (.bipush 24, 2) := dk_16 24 (dk_at dksX1_letter_2 18 rfl rfl)
theorem dX1_letter_68 : decode cX1_letter 68 = .ok (.iload 6, 2) := dk_21 6 (dk_at dksX1_letter_2 20 rfl rfl)
theorem dX1_letter_70 : decode cX1_letter 70 = .ok (.imul, 1) := dk_104 (dk_at dksX1_letter_2 22 rfl rfl)
theorem dX1_letter_71 : decode cX1_letter 71 = .ok (.iload 4, 2) := dk_21 4 (dk_at dksX1_letter_3 0 rfl rfl)
theorem dX1_letter_73 : decode cX1_letter 73 = .ok (.iadd, 1) := dk_96 (dk_at dksX1_letter_3 2 rfl rfl)
theorem dX1_letter_74 : decode cX1_letter 74 = .ok (.baload, 1) := dk_51 (dk_at dksX1_letter_3 3 rfl rfl)
theorem dX1_letter_75 : decode cX1_letter 75 = .ok (.goto 4, 3) := dk_167 0 4 (dk_at dksX1_letter_3 4 rfl rfl)
theorem dX1_letter_78 : decode cX1_letter 78 = .ok (.iconst (-1), 1) := dk_2 (dk_at dksX1_letter_3 7 rfl rfl)
theorem dX1_letter_79 : decode cX1_letter 79 = .ok (.ireturn, 1) := dk_172 (dk_at dksX1_letter_3 8 rfl rfl)
abbrev cX1_written : ByteArray := prog_1_method_57_code
def yX1_written : MethodName := ⟨RX1, "written", "(IIII)I"⟩
def dkwX1_written_3 : List UInt8 := [180, 1, 251, 162, 0, 16, 42, 180, 0, 164, 180, 1, 254, 21, 4, 51, 167, 0, 4, 2, 172]
abbrev dktX1_written_3 : List UInt8 := dkwX1_written_3 ++ []
def dkwX1_written_2 : List UInt8 := [42, 180, 0, 164, 25, 5, 185, 1, 247, 3, 0, 21, 4, 155, 0, 28, 21, 4, 42, 180, 0, 164]
abbrev dktX1_written_2 : List UInt8 := dkwX1_written_2 ++ dktX1_written_3
def dkwX1_written_1 : List UInt8 := [28, 4, 100, 50, 29, 4, 100, 50, 58, 6, 42, 180, 0, 164, 182, 1, 244, 25, 6, 198, 0, 16, 25, 6]
abbrev dktX1_written_1 : List UInt8 := dkwX1_written_1 ++ dktX1_written_2
def dkwX1_written_0 : List UInt8 := [42, 27, 28, 29, 182, 1, 223, 154, 0, 5, 2, 172, 42, 27, 182, 1, 198, 58, 5, 25, 5, 180, 1, 21]
abbrev dktX1_written_0 : List UInt8 := dkwX1_written_0 ++ dktX1_written_1
theorem dksX1_written_0 : cX1_written.data.toList.drop 0 = dktX1_written_0 := by decide +kernel
theorem dksX1_written_1 : cX1_written.data.toList.drop 24 = dktX1_written_1 := dk_seg dksX1_written_0 24 rfl rfl
theorem dksX1_written_2 : cX1_written.data.toList.drop 48 = dktX1_written_2 := dk_seg dksX1_written_1 24 rfl rfl
theorem dksX1_written_3 : cX1_written.data.toList.drop 70 = dktX1_written_3 := dk_seg dksX1_written_2 22 rfl rfl
theorem dX1_written_0 : decode cX1_written 0 = .ok (.aload_n 0, 1) := dk_42 (dk_at dksX1_written_0 0 rfl rfl)
theorem dX1_written_1 : decode cX1_written 1 = .ok (.iload_n 1, 1) := dk_27 (dk_at dksX1_written_0 1 rfl rfl)
theorem dX1_written_2 : decode cX1_written 2 = .ok (.iload_n 2, 1) := dk_28 (dk_at dksX1_written_0 2 rfl rfl)
theorem dX1_written_3 : decode cX1_written 3 = .ok (.iload_n 3, 1) := dk_29 (dk_at dksX1_written_0 3 rfl rfl)
theorem dX1_written_4 : decode cX1_written 4 = .ok (.invokevirtual 479, 3) := dk_182 1 223 (dk_at dksX1_written_0 4 rfl rfl)
theorem dX1_written_7 : decode cX1_written 7 = .ok (.ifCond .ne 5, 3) := dk_154 0 5 (dk_at dksX1_written_0 7 rfl rfl)
theorem dX1_written_10 : decode cX1_written 10 = .ok (.iconst (-1), 1) := dk_2 (dk_at dksX1_written_0 10 rfl rfl)
theorem dX1_written_11 : decode cX1_written 11 = .ok (.ireturn, 1) := dk_172 (dk_at dksX1_written_0 11 rfl rfl)
theorem dX1_written_12 : decode cX1_written 12 = .ok (.aload_n 0, 1) := dk_42 (dk_at dksX1_written_0 12 rfl rfl)
theorem dX1_written_13 : decode cX1_written 13 = .ok (.iload_n 1, 1) := dk_27 (dk_at dksX1_written_0 13 rfl rfl)
theorem dX1_written_14 : decode cX1_written 14 = .ok (.invokevirtual 454, 3) := dk_182 1 198 (dk_at dksX1_written_0 14 rfl rfl)
theorem dX1_written_17 : decode cX1_written 17 = .ok (.astore 5, 2) := dk_58 5 (dk_at dksX1_written_0 17 rfl rfl)
theorem dX1_written_19 : decode cX1_written 19 = .ok (.aload 5, 2) := dk_25 5 (dk_at dksX1_written_0 19 rfl rfl)
theorem dX1_written_21 : decode cX1_written 21 = .ok (.getfield 277, 3) := dk_180 1 21 (dk_at dksX1_written_0 21 rfl rfl)
theorem dX1_written_24 : decode cX1_written 24 = .ok (.iload_n 2, 1) := dk_28 (dk_at dksX1_written_1 0 rfl rfl)
theorem dX1_written_25 : decode cX1_written 25 = .ok (.iconst 1, 1) := dk_4 (dk_at dksX1_written_1 1 rfl rfl)
theorem dX1_written_26 : decode cX1_written 26 = .ok (.isub, 1) := dk_100 (dk_at dksX1_written_1 2 rfl rfl)
theorem dX1_written_27 : decode cX1_written 27 = .ok (.aaload, 1) := dk_50 (dk_at dksX1_written_1 3 rfl rfl)
theorem dX1_written_28 : decode cX1_written 28 = .ok (.iload_n 3, 1) := dk_29 (dk_at dksX1_written_1 4 rfl rfl)
theorem dX1_written_29 : decode cX1_written 29 = .ok (.iconst 1, 1) := dk_4 (dk_at dksX1_written_1 5 rfl rfl)
theorem dX1_written_30 : decode cX1_written 30 = .ok (.isub, 1) := dk_100 (dk_at dksX1_written_1 6 rfl rfl)
theorem dX1_written_31 : decode cX1_written 31 = .ok (.aaload, 1) := dk_50 (dk_at dksX1_written_1 7 rfl rfl)
theorem dX1_written_32 : decode cX1_written 32 = .ok (.astore 6, 2) := dk_58 6 (dk_at dksX1_written_1 8 rfl rfl)
theorem dX1_written_34 : decode cX1_written 34 = .ok (.aload_n 0, 1) := dk_42 (dk_at dksX1_written_1 10 rfl rfl)
theorem dX1_written_35 : decode cX1_written 35 = .ok (.getfield 164, 3) := dk_180 0 164 (dk_at dksX1_written_1 11 rfl rfl)
theorem dX1_written_38 : decode cX1_written 38 = .ok (.invokevirtual 500, 3) := dk_182 1 244 (dk_at dksX1_written_1 14 rfl rfl)
theorem dX1_written_41 : decode cX1_written 41 = .ok (.aload 6, 2) := dk_25 6 (dk_at dksX1_written_1 17 rfl rfl)
theorem dX1_written_43 : decode cX1_written 43 = .ok (.ifnull 16, 3) := dk_198 0 16 (dk_at dksX1_written_1 19 rfl rfl)
theorem dX1_written_46 : decode cX1_written 46 = .ok (.aload 6, 2) := dk_25 6 (dk_at dksX1_written_1 22 rfl rfl)
theorem dX1_written_48 : decode cX1_written 48 = .ok (.aload_n 0, 1) := dk_42 (dk_at dksX1_written_2 0 rfl rfl)
theorem dX1_written_49 : decode cX1_written 49 = .ok (.getfield 164, 3) := dk_180 0 164 (dk_at dksX1_written_2 1 rfl rfl)
theorem dX1_written_52 : decode cX1_written 52 = .ok (.aload 5, 2) := dk_25 5 (dk_at dksX1_written_2 4 rfl rfl)
theorem dX1_written_54 : decode cX1_written 54 = .ok (.invokeinterface 503 3, 5) := by decide +kernel
theorem dX1_written_59 : decode cX1_written 59 = .ok (.iload 4, 2) := dk_21 4 (dk_at dksX1_written_2 11 rfl rfl)
theorem dX1_written_61 : decode cX1_written 61 = .ok (.ifCond .lt 28, 3) := dk_155 0 28 (dk_at dksX1_written_2 13 rfl rfl)
theorem dX1_written_64 : decode cX1_written 64 = .ok (.iload 4, 2) := dk_21 4 (dk_at dksX1_written_2 16 rfl rfl)
theorem dX1_written_66 : decode cX1_written 66 = .ok (.aload_n 0, 1) := dk_42 (dk_at dksX1_written_2 18 rfl rfl)
theorem dX1_written_67 : decode cX1_written 67 = .ok (.getfield 164, 3) := dk_180 0 164 (dk_at dksX1_written_2 19 rfl rfl)
theorem dX1_written_70 : decode cX1_written 70 = .ok (.getfield 507, 3) := dk_180 1 251 (dk_at dksX1_written_3 0 rfl rfl)
theorem dX1_written_73 : decode cX1_written 73 = .ok (.if_icmp .ge 16, 3) := dk_162 0 16 (dk_at dksX1_written_3 3 rfl rfl)
theorem dX1_written_76 : decode cX1_written 76 = .ok (.aload_n 0, 1) := dk_42 (dk_at dksX1_written_3 6 rfl rfl)
theorem dX1_written_77 : decode cX1_written 77 = .ok (.getfield 164, 3) := dk_180 0 164 (dk_at dksX1_written_3 7 rfl rfl)
theorem dX1_written_80 : decode cX1_written 80 = .ok (.getfield 510, 3) := dk_180 1 254 (dk_at dksX1_written_3 10 rfl rfl)
theorem dX1_written_83 : decode cX1_written 83 = .ok (.iload 4, 2) := dk_21 4 (dk_at dksX1_written_3 13 rfl rfl)
theorem dX1_written_85 : decode cX1_written 85 = .ok (.baload, 1) := dk_51 (dk_at dksX1_written_3 15 rfl rfl)
theorem dX1_written_86 : decode cX1_written 86 = .ok (.goto 4, 3) := dk_167 0 4 (dk_at dksX1_written_3 16 rfl rfl)
theorem dX1_written_89 : decode cX1_written 89 = .ok (.iconst (-1), 1) := dk_2 (dk_at dksX1_written_3 19 rfl rfl)
theorem dX1_written_90 : decode cX1_written 90 = .ok (.ireturn, 1) := dk_172 (dk_at dksX1_written_3 20 rfl rfl)
abbrev cX1_total : ByteArray := prog_1_method_58_code
def yX1_total : MethodName := ⟨RX1, "total", "(I)I"⟩
def dkwX1_total_5 : List UInt8 := [167, 0, 4, 3, 172, 2, 172]
abbrev dktX1_total_5 : List UInt8 := dkwX1_total_5 ++ []
def dkwX1_total_4 : List UInt8 := [180, 0, 198, 42, 180, 0, 102, 42, 182, 1, 107, 50, 180, 0, 205, 182, 1, 129, 153, 0, 7, 4]
abbrev dktX1_total_4 : List UInt8 := dkwX1_total_4 ++ dktX1_total_5
def dkwX1_total_3 : List UInt8 := [172, 42, 180, 0, 229, 172, 42, 180, 1, 12, 172, 42, 180, 0, 220, 172, 42, 180, 1, 149, 172, 42]
abbrev dktX1_total_3 : List UInt8 := dkwX1_total_3 ++ dktX1_total_4
def dkwX1_total_2 : List UInt8 := [42, 180, 0, 191, 172, 42, 180, 0, 202, 172, 42, 182, 1, 107, 172, 42, 182, 1, 104, 172, 42, 180, 0, 226]
abbrev dktX1_total_2 : List UInt8 := dkwX1_total_2 ++ dktX1_total_3
def dkwX1_total_1 : List UInt8 := [170, 0, 0, 0, 126, 0, 0, 0, 0, 0, 0, 0, 9, 0, 0, 0, 53, 0, 0, 0, 58, 0, 0, 0, 63, 0, 0, 0, 68, 0, 0, 0, 73, 0, 0, 0, 78, 0, 0, 0, 83, 0, 0, 0, 88, 0, 0, 0, 93, 0, 0, 0, 98]
abbrev dktX1_total_1 : List UInt8 := dkwX1_total_1 ++ dktX1_total_2
def dkwX1_total_0 : List UInt8 := [27, 16, 10, 161, 0, 19, 27, 16, 15, 163, 0, 13, 42, 180, 0, 106, 27, 16, 10, 100, 46, 172, 27]
abbrev dktX1_total_0 : List UInt8 := dkwX1_total_0 ++ dktX1_total_1
theorem dksX1_total_0 : cX1_total.data.toList.drop 0 = dktX1_total_0 := by decide +kernel
theorem dksX1_total_1 : cX1_total.data.toList.drop 23 = dktX1_total_1 := dk_seg dksX1_total_0 23 rfl rfl
theorem dksX1_total_2 : cX1_total.data.toList.drop 76 = dktX1_total_2 := dk_seg dksX1_total_1 53 rfl rfl
theorem dksX1_total_3 : cX1_total.data.toList.drop 100 = dktX1_total_3 := dk_seg dksX1_total_2 24 rfl rfl
theorem dksX1_total_4 : cX1_total.data.toList.drop 122 = dktX1_total_4 := dk_seg dksX1_total_3 22 rfl rfl
theorem dksX1_total_5 : cX1_total.data.toList.drop 144 = dktX1_total_5 := dk_seg dksX1_total_4 22 rfl rfl
theorem dX1_total_0 : decode cX1_total 0 = .ok (.iload_n 1, 1) := dk_27 (dk_at dksX1_total_0 0 rfl rfl)
theorem dX1_total_1 : decode cX1_total 1 = .ok (.bipush 10, 2) := dk_16 10 (dk_at dksX1_total_0 1 rfl rfl)
theorem dX1_total_3 : decode cX1_total 3 = .ok (.if_icmp .lt 19, 3) := dk_161 0 19 (dk_at dksX1_total_0 3 rfl rfl)
theorem dX1_total_6 : decode cX1_total 6 = .ok (.iload_n 1, 1) := dk_27 (dk_at dksX1_total_0 6 rfl rfl)
theorem dX1_total_7 : decode cX1_total 7 = .ok (.bipush 15, 2) := dk_16 15 (dk_at dksX1_total_0 7 rfl rfl)
theorem dX1_total_9 : decode cX1_total 9 = .ok (.if_icmp .gt 13, 3) := dk_163 0 13 (dk_at dksX1_total_0 9 rfl rfl)
theorem dX1_total_12 : decode cX1_total 12 = .ok (.aload_n 0, 1) := dk_42 (dk_at dksX1_total_0 12 rfl rfl)
theorem dX1_total_13 : decode cX1_total 13 = .ok (.getfield 106, 3) := dk_180 0 106 (dk_at dksX1_total_0 13 rfl rfl)
theorem dX1_total_16 : decode cX1_total 16 = .ok (.iload_n 1, 1) := dk_27 (dk_at dksX1_total_0 16 rfl rfl)
theorem dX1_total_17 : decode cX1_total 17 = .ok (.bipush 10, 2) := dk_16 10 (dk_at dksX1_total_0 17 rfl rfl)
theorem dX1_total_19 : decode cX1_total 19 = .ok (.isub, 1) := dk_100 (dk_at dksX1_total_0 19 rfl rfl)
theorem dX1_total_20 : decode cX1_total 20 = .ok (.iaload, 1) := dk_46 (dk_at dksX1_total_0 20 rfl rfl)
theorem dX1_total_21 : decode cX1_total 21 = .ok (.ireturn, 1) := dk_172 (dk_at dksX1_total_0 21 rfl rfl)
theorem dX1_total_22 : decode cX1_total 22 = .ok (.iload_n 1, 1) := dk_27 (dk_at dksX1_total_0 22 rfl rfl)
theorem dX1_total_23 : decode cX1_total 23 = .ok (.tableswitch 126 0 9 #[53, 58, 63, 68, 73, 78, 83, 88, 93, 98], 53) := by decide +kernel
theorem dX1_total_76 : decode cX1_total 76 = .ok (.aload_n 0, 1) := dk_42 (dk_at dksX1_total_2 0 rfl rfl)
theorem dX1_total_77 : decode cX1_total 77 = .ok (.getfield 191, 3) := dk_180 0 191 (dk_at dksX1_total_2 1 rfl rfl)
theorem dX1_total_80 : decode cX1_total 80 = .ok (.ireturn, 1) := dk_172 (dk_at dksX1_total_2 4 rfl rfl)
theorem dX1_total_81 : decode cX1_total 81 = .ok (.aload_n 0, 1) := dk_42 (dk_at dksX1_total_2 5 rfl rfl)
theorem dX1_total_82 : decode cX1_total 82 = .ok (.getfield 202, 3) := dk_180 0 202 (dk_at dksX1_total_2 6 rfl rfl)
theorem dX1_total_85 : decode cX1_total 85 = .ok (.ireturn, 1) := dk_172 (dk_at dksX1_total_2 9 rfl rfl)
theorem dX1_total_86 : decode cX1_total 86 = .ok (.aload_n 0, 1) := dk_42 (dk_at dksX1_total_2 10 rfl rfl)
theorem dX1_total_87 : decode cX1_total 87 = .ok (.invokevirtual 363, 3) := dk_182 1 107 (dk_at dksX1_total_2 11 rfl rfl)
theorem dX1_total_90 : decode cX1_total 90 = .ok (.ireturn, 1) := dk_172 (dk_at dksX1_total_2 14 rfl rfl)
theorem dX1_total_91 : decode cX1_total 91 = .ok (.aload_n 0, 1) := dk_42 (dk_at dksX1_total_2 15 rfl rfl)
theorem dX1_total_92 : decode cX1_total 92 = .ok (.invokevirtual 360, 3) := dk_182 1 104 (dk_at dksX1_total_2 16 rfl rfl)
theorem dX1_total_95 : decode cX1_total 95 = .ok (.ireturn, 1) := dk_172 (dk_at dksX1_total_2 19 rfl rfl)
theorem dX1_total_96 : decode cX1_total 96 = .ok (.aload_n 0, 1) := dk_42 (dk_at dksX1_total_2 20 rfl rfl)
theorem dX1_total_97 : decode cX1_total 97 = .ok (.getfield 226, 3) := dk_180 0 226 (dk_at dksX1_total_2 21 rfl rfl)
theorem dX1_total_100 : decode cX1_total 100 = .ok (.ireturn, 1) := dk_172 (dk_at dksX1_total_3 0 rfl rfl)
theorem dX1_total_101 : decode cX1_total 101 = .ok (.aload_n 0, 1) := dk_42 (dk_at dksX1_total_3 1 rfl rfl)
theorem dX1_total_102 : decode cX1_total 102 = .ok (.getfield 229, 3) := dk_180 0 229 (dk_at dksX1_total_3 2 rfl rfl)
theorem dX1_total_105 : decode cX1_total 105 = .ok (.ireturn, 1) := dk_172 (dk_at dksX1_total_3 5 rfl rfl)
theorem dX1_total_106 : decode cX1_total 106 = .ok (.aload_n 0, 1) := dk_42 (dk_at dksX1_total_3 6 rfl rfl)
theorem dX1_total_107 : decode cX1_total 107 = .ok (.getfield 268, 3) := dk_180 1 12 (dk_at dksX1_total_3 7 rfl rfl)
theorem dX1_total_110 : decode cX1_total 110 = .ok (.ireturn, 1) := dk_172 (dk_at dksX1_total_3 10 rfl rfl)
theorem dX1_total_111 : decode cX1_total 111 = .ok (.aload_n 0, 1) := dk_42 (dk_at dksX1_total_3 11 rfl rfl)
theorem dX1_total_112 : decode cX1_total 112 = .ok (.getfield 220, 3) := dk_180 0 220 (dk_at dksX1_total_3 12 rfl rfl)
theorem dX1_total_115 : decode cX1_total 115 = .ok (.ireturn, 1) := dk_172 (dk_at dksX1_total_3 15 rfl rfl)
theorem dX1_total_116 : decode cX1_total 116 = .ok (.aload_n 0, 1) := dk_42 (dk_at dksX1_total_3 16 rfl rfl)
theorem dX1_total_117 : decode cX1_total 117 = .ok (.getfield 405, 3) := dk_180 1 149 (dk_at dksX1_total_3 17 rfl rfl)
theorem dX1_total_120 : decode cX1_total 120 = .ok (.ireturn, 1) := dk_172 (dk_at dksX1_total_3 20 rfl rfl)
theorem dX1_total_121 : decode cX1_total 121 = .ok (.aload_n 0, 1) := dk_42 (dk_at dksX1_total_3 21 rfl rfl)
theorem dX1_total_122 : decode cX1_total 122 = .ok (.getfield 198, 3) := dk_180 0 198 (dk_at dksX1_total_4 0 rfl rfl)
theorem dX1_total_125 : decode cX1_total 125 = .ok (.aload_n 0, 1) := dk_42 (dk_at dksX1_total_4 3 rfl rfl)
theorem dX1_total_126 : decode cX1_total 126 = .ok (.getfield 102, 3) := dk_180 0 102 (dk_at dksX1_total_4 4 rfl rfl)
theorem dX1_total_129 : decode cX1_total 129 = .ok (.aload_n 0, 1) := dk_42 (dk_at dksX1_total_4 7 rfl rfl)
theorem dX1_total_130 : decode cX1_total 130 = .ok (.invokevirtual 363, 3) := dk_182 1 107 (dk_at dksX1_total_4 8 rfl rfl)
theorem dX1_total_133 : decode cX1_total 133 = .ok (.aaload, 1) := dk_50 (dk_at dksX1_total_4 11 rfl rfl)
theorem dX1_total_134 : decode cX1_total 134 = .ok (.getfield 205, 3) := dk_180 0 205 (dk_at dksX1_total_4 12 rfl rfl)
theorem dX1_total_137 : decode cX1_total 137 = .ok (.invokevirtual 385, 3) := dk_182 1 129 (dk_at dksX1_total_4 15 rfl rfl)
theorem dX1_total_140 : decode cX1_total 140 = .ok (.ifCond .eq 7, 3) := dk_153 0 7 (dk_at dksX1_total_4 18 rfl rfl)
theorem dX1_total_143 : decode cX1_total 143 = .ok (.iconst 1, 1) := dk_4 (dk_at dksX1_total_4 21 rfl rfl)
theorem dX1_total_144 : decode cX1_total 144 = .ok (.goto 4, 3) := dk_167 0 4 (dk_at dksX1_total_5 0 rfl rfl)
theorem dX1_total_147 : decode cX1_total 147 = .ok (.iconst 0, 1) := dk_3 (dk_at dksX1_total_5 3 rfl rfl)
theorem dX1_total_148 : decode cX1_total 148 = .ok (.ireturn, 1) := dk_172 (dk_at dksX1_total_5 4 rfl rfl)
theorem dX1_total_149 : decode cX1_total 149 = .ok (.iconst (-1), 1) := dk_2 (dk_at dksX1_total_5 5 rfl rfl)
theorem dX1_total_150 : decode cX1_total 150 = .ok (.ireturn, 1) := dk_172 (dk_at dksX1_total_5 6 rfl rfl)
abbrev cX1_unsettled : ByteArray := prog_1_method_41_code
def yX1_unsettled : MethodName := ⟨RX1, "unsettled", "()I"⟩
def dkwX1_unsettled_1 : List UInt8 := [167, 0, 4, 4, 96, 60, 132, 2, 1, 167, 255, 228, 27, 172]
abbrev dktX1_unsettled_1 : List UInt8 := dkwX1_unsettled_1 ++ []
def dkwX1_unsettled_0 : List UInt8 := [3, 60, 3, 61, 28, 42, 180, 1, 116, 162, 0, 26, 27, 42, 180, 0, 135, 28, 51, 153, 0, 7, 3]
abbrev dktX1_unsettled_0 : List UInt8 := dkwX1_unsettled_0 ++ dktX1_unsettled_1
theorem dksX1_unsettled_0 : cX1_unsettled.data.toList.drop 0 = dktX1_unsettled_0 := by decide +kernel
theorem dksX1_unsettled_1 : cX1_unsettled.data.toList.drop 23 = dktX1_unsettled_1 := dk_seg dksX1_unsettled_0 23 rfl rfl
theorem dX1_unsettled_0 : decode cX1_unsettled 0 = .ok (.iconst 0, 1) := dk_3 (dk_at dksX1_unsettled_0 0 rfl rfl)
theorem dX1_unsettled_1 : decode cX1_unsettled 1 = .ok (.istore_n 1, 1) := dk_60 (dk_at dksX1_unsettled_0 1 rfl rfl)
theorem dX1_unsettled_2 : decode cX1_unsettled 2 = .ok (.iconst 0, 1) := dk_3 (dk_at dksX1_unsettled_0 2 rfl rfl)
theorem dX1_unsettled_3 : decode cX1_unsettled 3 = .ok (.istore_n 2, 1) := dk_61 (dk_at dksX1_unsettled_0 3 rfl rfl)
theorem dX1_unsettled_4 : decode cX1_unsettled 4 = .ok (.iload_n 2, 1) := dk_28 (dk_at dksX1_unsettled_0 4 rfl rfl)
theorem dX1_unsettled_5 : decode cX1_unsettled 5 = .ok (.aload_n 0, 1) := dk_42 (dk_at dksX1_unsettled_0 5 rfl rfl)
theorem dX1_unsettled_6 : decode cX1_unsettled 6 = .ok (.getfield 372, 3) := dk_180 1 116 (dk_at dksX1_unsettled_0 6 rfl rfl)
theorem dX1_unsettled_9 : decode cX1_unsettled 9 = .ok (.if_icmp .ge 26, 3) := dk_162 0 26 (dk_at dksX1_unsettled_0 9 rfl rfl)
theorem dX1_unsettled_12 : decode cX1_unsettled 12 = .ok (.iload_n 1, 1) := dk_27 (dk_at dksX1_unsettled_0 12 rfl rfl)
theorem dX1_unsettled_13 : decode cX1_unsettled 13 = .ok (.aload_n 0, 1) := dk_42 (dk_at dksX1_unsettled_0 13 rfl rfl)
theorem dX1_unsettled_14 : decode cX1_unsettled 14 = .ok (.getfield 135, 3) := dk_180 0 135 (dk_at dksX1_unsettled_0 14 rfl rfl)
theorem dX1_unsettled_17 : decode cX1_unsettled 17 = .ok (.iload_n 2, 1) := dk_28 (dk_at dksX1_unsettled_0 17 rfl rfl)
theorem dX1_unsettled_18 : decode cX1_unsettled 18 = .ok (.baload, 1) := dk_51 (dk_at dksX1_unsettled_0 18 rfl rfl)
theorem dX1_unsettled_19 : decode cX1_unsettled 19 = .ok (.ifCond .eq 7, 3) := dk_153 0 7 (dk_at dksX1_unsettled_0 19 rfl rfl)
theorem dX1_unsettled_22 : decode cX1_unsettled 22 = .ok (.iconst 0, 1) := dk_3 (dk_at dksX1_unsettled_0 22 rfl rfl)
theorem dX1_unsettled_23 : decode cX1_unsettled 23 = .ok (.goto 4, 3) := dk_167 0 4 (dk_at dksX1_unsettled_1 0 rfl rfl)
theorem dX1_unsettled_26 : decode cX1_unsettled 26 = .ok (.iconst 1, 1) := dk_4 (dk_at dksX1_unsettled_1 3 rfl rfl)
theorem dX1_unsettled_27 : decode cX1_unsettled 27 = .ok (.iadd, 1) := dk_96 (dk_at dksX1_unsettled_1 4 rfl rfl)
theorem dX1_unsettled_28 : decode cX1_unsettled 28 = .ok (.istore_n 1, 1) := dk_60 (dk_at dksX1_unsettled_1 5 rfl rfl)
theorem dX1_unsettled_29 : decode cX1_unsettled 29 = .ok (.iinc 2 1, 3) := dk_132 2 1 (dk_at dksX1_unsettled_1 6 rfl rfl)
theorem dX1_unsettled_32 : decode cX1_unsettled 32 = .ok (.goto (-28), 3) := dk_167 255 228 (dk_at dksX1_unsettled_1 9 rfl rfl)
theorem dX1_unsettled_35 : decode cX1_unsettled 35 = .ok (.iload_n 1, 1) := dk_27 (dk_at dksX1_unsettled_1 12 rfl rfl)
theorem dX1_unsettled_36 : decode cX1_unsettled 36 = .ok (.ireturn, 1) := dk_172 (dk_at dksX1_unsettled_1 13 rfl rfl)
abbrev cX1_isAlike : ByteArray := prog_1_method_1_code
def yX1_isAlike : MethodName := ⟨RX1, "isAlike", "(LSheetBranches$Content;LSheetBranches$Content;)Z"⟩
def dkwX1_isAlike_1 : List UInt8 := [185, 0, 3, 2, 0, 172]
abbrev dktX1_isAlike_1 : List UInt8 := dkwX1_isAlike_1 ++ []
def dkwX1_isAlike_0 : List UInt8 := [42, 198, 0, 7, 43, 199, 0, 16, 42, 43, 166, 0, 7, 4, 167, 0, 14, 3, 167, 0, 10, 42, 43]
abbrev dktX1_isAlike_0 : List UInt8 := dkwX1_isAlike_0 ++ dktX1_isAlike_1
theorem dksX1_isAlike_0 : cX1_isAlike.data.toList.drop 0 = dktX1_isAlike_0 := by decide +kernel
theorem dksX1_isAlike_1 : cX1_isAlike.data.toList.drop 23 = dktX1_isAlike_1 := dk_seg dksX1_isAlike_0 23 rfl rfl
theorem dX1_isAlike_0 : decode cX1_isAlike 0 = .ok (.aload_n 0, 1) := dk_42 (dk_at dksX1_isAlike_0 0 rfl rfl)
theorem dX1_isAlike_1 : decode cX1_isAlike 1 = .ok (.ifnull 7, 3) := dk_198 0 7 (dk_at dksX1_isAlike_0 1 rfl rfl)
theorem dX1_isAlike_4 : decode cX1_isAlike 4 = .ok (.aload_n 1, 1) := dk_43 (dk_at dksX1_isAlike_0 4 rfl rfl)
theorem dX1_isAlike_5 : decode cX1_isAlike 5 = .ok (.ifnonnull 16, 3) := dk_199 0 16 (dk_at dksX1_isAlike_0 5 rfl rfl)
theorem dX1_isAlike_8 : decode cX1_isAlike 8 = .ok (.aload_n 0, 1) := dk_42 (dk_at dksX1_isAlike_0 8 rfl rfl)
theorem dX1_isAlike_9 : decode cX1_isAlike 9 = .ok (.aload_n 1, 1) := dk_43 (dk_at dksX1_isAlike_0 9 rfl rfl)
theorem dX1_isAlike_10 : decode cX1_isAlike 10 = .ok (.if_acmp .ne 7, 3) := dk_166 0 7 (dk_at dksX1_isAlike_0 10 rfl rfl)
theorem dX1_isAlike_13 : decode cX1_isAlike 13 = .ok (.iconst 1, 1) := dk_4 (dk_at dksX1_isAlike_0 13 rfl rfl)
theorem dX1_isAlike_14 : decode cX1_isAlike 14 = .ok (.goto 14, 3) := dk_167 0 14 (dk_at dksX1_isAlike_0 14 rfl rfl)
theorem dX1_isAlike_17 : decode cX1_isAlike 17 = .ok (.iconst 0, 1) := dk_3 (dk_at dksX1_isAlike_0 17 rfl rfl)
theorem dX1_isAlike_18 : decode cX1_isAlike 18 = .ok (.goto 10, 3) := dk_167 0 10 (dk_at dksX1_isAlike_0 18 rfl rfl)
theorem dX1_isAlike_21 : decode cX1_isAlike 21 = .ok (.aload_n 0, 1) := dk_42 (dk_at dksX1_isAlike_0 21 rfl rfl)
theorem dX1_isAlike_22 : decode cX1_isAlike 22 = .ok (.aload_n 1, 1) := dk_43 (dk_at dksX1_isAlike_0 22 rfl rfl)
theorem dX1_isAlike_23 : decode cX1_isAlike 23 = .ok (.invokeinterface 3 2, 5) := by decide +kernel
theorem dX1_isAlike_28 : decode cX1_isAlike 28 = .ok (.ireturn, 1) := dk_172 (dk_at dksX1_isAlike_1 5 rfl rfl)
abbrev cX1_enter : ByteArray := prog_1_method_17_code
def yX1_enter : MethodName := ⟨RX1, "enter", "(II)I"⟩
def dkwX1_enter_7 : List UInt8 := [180, 1, 21, 27, 4, 100, 50, 28, 4, 100, 25, 4, 83, 21, 5, 172]
abbrev dktX1_enter_7 : List UInt8 := dkwX1_enter_7 ++ []
def dkwX1_enter_6 : List UInt8 := [183, 1, 17, 191, 42, 89, 180, 1, 12, 21, 5, 96, 181, 1, 12, 42, 182, 1, 18, 42, 180, 0, 198]
abbrev dktX1_enter_6 : List UInt8 := dkwX1_enter_6 ++ dktX1_enter_7
def dkwX1_enter_5 : List UInt8 := [185, 1, 9, 1, 0, 54, 5, 42, 180, 1, 12, 21, 5, 96, 19, 1, 14, 164, 0, 11, 187, 1, 15, 89]
abbrev dktX1_enter_5 : List UInt8 := dkwX1_enter_5 ++ dktX1_enter_6
def dkwX1_enter_4 : List UInt8 := [183, 1, 4, 191, 42, 180, 0, 157, 180, 1, 5, 58, 4, 25, 4, 199, 0, 7, 3, 167, 0, 10, 25, 4]
abbrev dktX1_enter_4 : List UInt8 := dkwX1_enter_4 ++ dktX1_enter_5
def dkwX1_enter_3 : List UInt8 := [180, 0, 157, 180, 0, 254, 181, 0, 242, 42, 42, 180, 0, 157, 180, 0, 255, 181, 0, 245, 187, 1, 2, 89]
abbrev dktX1_enter_3 : List UInt8 := dkwX1_enter_3 ++ dktX1_enter_4
def dkwX1_enter_2 : List UInt8 := [42, 180, 0, 96, 29, 42, 180, 0, 198, 42, 180, 0, 191, 182, 0, 248, 167, 0, 35, 58, 4, 42, 42]
abbrev dktX1_enter_2 : List UInt8 := dkwX1_enter_2 ++ dktX1_enter_3
def dkwX1_enter_1 : List UInt8 := [42, 180, 0, 220, 62, 42, 3, 181, 0, 220, 42, 3, 181, 0, 242, 42, 2, 181, 0, 245, 42, 180, 0, 157]
abbrev dktX1_enter_1 : List UInt8 := dkwX1_enter_1 ++ dktX1_enter_2
def dkwX1_enter_0 : List UInt8 := [42, 180, 0, 198, 27, 4, 100, 28, 4, 100, 182, 0, 235, 154, 0, 11, 187, 0, 239, 89, 183, 0, 241, 191]
abbrev dktX1_enter_0 : List UInt8 := dkwX1_enter_0 ++ dktX1_enter_1
theorem dksX1_enter_0 : cX1_enter.data.toList.drop 0 = dktX1_enter_0 := by decide +kernel
theorem dksX1_enter_1 : cX1_enter.data.toList.drop 24 = dktX1_enter_1 := dk_seg dksX1_enter_0 24 rfl rfl
theorem dksX1_enter_2 : cX1_enter.data.toList.drop 48 = dktX1_enter_2 := dk_seg dksX1_enter_1 24 rfl rfl
theorem dksX1_enter_3 : cX1_enter.data.toList.drop 71 = dktX1_enter_3 := dk_seg dksX1_enter_2 23 rfl rfl
theorem dksX1_enter_4 : cX1_enter.data.toList.drop 95 = dktX1_enter_4 := dk_seg dksX1_enter_3 24 rfl rfl
theorem dksX1_enter_5 : cX1_enter.data.toList.drop 119 = dktX1_enter_5 := dk_seg dksX1_enter_4 24 rfl rfl
theorem dksX1_enter_6 : cX1_enter.data.toList.drop 143 = dktX1_enter_6 := dk_seg dksX1_enter_5 24 rfl rfl
theorem dksX1_enter_7 : cX1_enter.data.toList.drop 166 = dktX1_enter_7 := dk_seg dksX1_enter_6 23 rfl rfl
theorem dX1_enter_0 : decode cX1_enter 0 = .ok (.aload_n 0, 1) := dk_42 (dk_at dksX1_enter_0 0 rfl rfl)
theorem dX1_enter_1 : decode cX1_enter 1 = .ok (.getfield 198, 3) := dk_180 0 198 (dk_at dksX1_enter_0 1 rfl rfl)
theorem dX1_enter_4 : decode cX1_enter 4 = .ok (.iload_n 1, 1) := dk_27 (dk_at dksX1_enter_0 4 rfl rfl)
theorem dX1_enter_5 : decode cX1_enter 5 = .ok (.iconst 1, 1) := dk_4 (dk_at dksX1_enter_0 5 rfl rfl)
theorem dX1_enter_6 : decode cX1_enter 6 = .ok (.isub, 1) := dk_100 (dk_at dksX1_enter_0 6 rfl rfl)
theorem dX1_enter_7 : decode cX1_enter 7 = .ok (.iload_n 2, 1) := dk_28 (dk_at dksX1_enter_0 7 rfl rfl)
theorem dX1_enter_8 : decode cX1_enter 8 = .ok (.iconst 1, 1) := dk_4 (dk_at dksX1_enter_0 8 rfl rfl)
theorem dX1_enter_9 : decode cX1_enter 9 = .ok (.isub, 1) := dk_100 (dk_at dksX1_enter_0 9 rfl rfl)
theorem dX1_enter_10 : decode cX1_enter 10 = .ok (.invokevirtual 235, 3) := dk_182 0 235 (dk_at dksX1_enter_0 10 rfl rfl)
theorem dX1_enter_13 : decode cX1_enter 13 = .ok (.ifCond .ne 11, 3) := dk_154 0 11 (dk_at dksX1_enter_0 13 rfl rfl)
theorem dX1_enter_16 : decode cX1_enter 16 = .ok (.new 239, 3) := dk_187 0 239 (dk_at dksX1_enter_0 16 rfl rfl)
theorem dX1_enter_19 : decode cX1_enter 19 = .ok (.dup, 1) := dk_89 (dk_at dksX1_enter_0 19 rfl rfl)
theorem dX1_enter_20 : decode cX1_enter 20 = .ok (.invokespecial 241, 3) := dk_183 0 241 (dk_at dksX1_enter_0 20 rfl rfl)
theorem dX1_enter_23 : decode cX1_enter 23 = .ok (.athrow, 1) := dk_191 (dk_at dksX1_enter_0 23 rfl rfl)
theorem dX1_enter_24 : decode cX1_enter 24 = .ok (.aload_n 0, 1) := dk_42 (dk_at dksX1_enter_1 0 rfl rfl)
theorem dX1_enter_25 : decode cX1_enter 25 = .ok (.getfield 220, 3) := dk_180 0 220 (dk_at dksX1_enter_1 1 rfl rfl)
theorem dX1_enter_28 : decode cX1_enter 28 = .ok (.istore_n 3, 1) := dk_62 (dk_at dksX1_enter_1 4 rfl rfl)
theorem dX1_enter_29 : decode cX1_enter 29 = .ok (.aload_n 0, 1) := dk_42 (dk_at dksX1_enter_1 5 rfl rfl)
theorem dX1_enter_30 : decode cX1_enter 30 = .ok (.iconst 0, 1) := dk_3 (dk_at dksX1_enter_1 6 rfl rfl)
theorem dX1_enter_31 : decode cX1_enter 31 = .ok (.putfield 220, 3) := dk_181 0 220 (dk_at dksX1_enter_1 7 rfl rfl)
theorem dX1_enter_34 : decode cX1_enter 34 = .ok (.aload_n 0, 1) := dk_42 (dk_at dksX1_enter_1 10 rfl rfl)
theorem dX1_enter_35 : decode cX1_enter 35 = .ok (.iconst 0, 1) := dk_3 (dk_at dksX1_enter_1 11 rfl rfl)
theorem dX1_enter_36 : decode cX1_enter 36 = .ok (.putfield 242, 3) := dk_181 0 242 (dk_at dksX1_enter_1 12 rfl rfl)
theorem dX1_enter_39 : decode cX1_enter 39 = .ok (.aload_n 0, 1) := dk_42 (dk_at dksX1_enter_1 15 rfl rfl)
theorem dX1_enter_40 : decode cX1_enter 40 = .ok (.iconst (-1), 1) := dk_2 (dk_at dksX1_enter_1 16 rfl rfl)
theorem dX1_enter_41 : decode cX1_enter 41 = .ok (.putfield 245, 3) := dk_181 0 245 (dk_at dksX1_enter_1 17 rfl rfl)
theorem dX1_enter_44 : decode cX1_enter 44 = .ok (.aload_n 0, 1) := dk_42 (dk_at dksX1_enter_1 20 rfl rfl)
theorem dX1_enter_45 : decode cX1_enter 45 = .ok (.getfield 157, 3) := dk_180 0 157 (dk_at dksX1_enter_1 21 rfl rfl)
theorem dX1_enter_48 : decode cX1_enter 48 = .ok (.aload_n 0, 1) := dk_42 (dk_at dksX1_enter_2 0 rfl rfl)
theorem dX1_enter_49 : decode cX1_enter 49 = .ok (.getfield 96, 3) := dk_180 0 96 (dk_at dksX1_enter_2 1 rfl rfl)
theorem dX1_enter_52 : decode cX1_enter 52 = .ok (.iload_n 3, 1) := dk_29 (dk_at dksX1_enter_2 4 rfl rfl)
theorem dX1_enter_53 : decode cX1_enter 53 = .ok (.aload_n 0, 1) := dk_42 (dk_at dksX1_enter_2 5 rfl rfl)
theorem dX1_enter_54 : decode cX1_enter 54 = .ok (.getfield 198, 3) := dk_180 0 198 (dk_at dksX1_enter_2 6 rfl rfl)
theorem dX1_enter_57 : decode cX1_enter 57 = .ok (.aload_n 0, 1) := dk_42 (dk_at dksX1_enter_2 9 rfl rfl)
theorem dX1_enter_58 : decode cX1_enter 58 = .ok (.getfield 191, 3) := dk_180 0 191 (dk_at dksX1_enter_2 10 rfl rfl)
theorem dX1_enter_61 : decode cX1_enter 61 = .ok (.invokevirtual 248, 3) := dk_182 0 248 (dk_at dksX1_enter_2 13 rfl rfl)
theorem dX1_enter_64 : decode cX1_enter 64 = .ok (.goto 35, 3) := dk_167 0 35 (dk_at dksX1_enter_2 16 rfl rfl)
theorem dX1_enter_67 : decode cX1_enter 67 = .ok (.astore 4, 2) := dk_58 4 (dk_at dksX1_enter_2 19 rfl rfl)
theorem dX1_enter_69 : decode cX1_enter 69 = .ok (.aload_n 0, 1) := dk_42 (dk_at dksX1_enter_2 21 rfl rfl)
theorem dX1_enter_70 : decode cX1_enter 70 = .ok (.aload_n 0, 1) := dk_42 (dk_at dksX1_enter_2 22 rfl rfl)
theorem dX1_enter_71 : decode cX1_enter 71 = .ok (.getfield 157, 3) := dk_180 0 157 (dk_at dksX1_enter_3 0 rfl rfl)
theorem dX1_enter_74 : decode cX1_enter 74 = .ok (.getfield 254, 3) := dk_180 0 254 (dk_at dksX1_enter_3 3 rfl rfl)
theorem dX1_enter_77 : decode cX1_enter 77 = .ok (.putfield 242, 3) := dk_181 0 242 (dk_at dksX1_enter_3 6 rfl rfl)
theorem dX1_enter_80 : decode cX1_enter 80 = .ok (.aload_n 0, 1) := dk_42 (dk_at dksX1_enter_3 9 rfl rfl)
theorem dX1_enter_81 : decode cX1_enter 81 = .ok (.aload_n 0, 1) := dk_42 (dk_at dksX1_enter_3 10 rfl rfl)
theorem dX1_enter_82 : decode cX1_enter 82 = .ok (.getfield 157, 3) := dk_180 0 157 (dk_at dksX1_enter_3 11 rfl rfl)
theorem dX1_enter_85 : decode cX1_enter 85 = .ok (.getfield 255, 3) := dk_180 0 255 (dk_at dksX1_enter_3 14 rfl rfl)
theorem dX1_enter_88 : decode cX1_enter 88 = .ok (.putfield 245, 3) := dk_181 0 245 (dk_at dksX1_enter_3 17 rfl rfl)
theorem dX1_enter_91 : decode cX1_enter 91 = .ok (.new 258, 3) := dk_187 1 2 (dk_at dksX1_enter_3 20 rfl rfl)
theorem dX1_enter_94 : decode cX1_enter 94 = .ok (.dup, 1) := dk_89 (dk_at dksX1_enter_3 23 rfl rfl)
theorem dX1_enter_95 : decode cX1_enter 95 = .ok (.invokespecial 260, 3) := dk_183 1 4 (dk_at dksX1_enter_4 0 rfl rfl)
theorem dX1_enter_98 : decode cX1_enter 98 = .ok (.athrow, 1) := dk_191 (dk_at dksX1_enter_4 3 rfl rfl)
theorem dX1_enter_99 : decode cX1_enter 99 = .ok (.aload_n 0, 1) := dk_42 (dk_at dksX1_enter_4 4 rfl rfl)
theorem dX1_enter_100 : decode cX1_enter 100 = .ok (.getfield 157, 3) := dk_180 0 157 (dk_at dksX1_enter_4 5 rfl rfl)
theorem dX1_enter_103 : decode cX1_enter 103 = .ok (.getfield 261, 3) := dk_180 1 5 (dk_at dksX1_enter_4 8 rfl rfl)
theorem dX1_enter_106 : decode cX1_enter 106 = .ok (.astore 4, 2) := dk_58 4 (dk_at dksX1_enter_4 11 rfl rfl)
theorem dX1_enter_108 : decode cX1_enter 108 = .ok (.aload 4, 2) := dk_25 4 (dk_at dksX1_enter_4 13 rfl rfl)
theorem dX1_enter_110 : decode cX1_enter 110 = .ok (.ifnonnull 7, 3) := dk_199 0 7 (dk_at dksX1_enter_4 15 rfl rfl)
theorem dX1_enter_113 : decode cX1_enter 113 = .ok (.iconst 0, 1) := dk_3 (dk_at dksX1_enter_4 18 rfl rfl)
theorem dX1_enter_114 : decode cX1_enter 114 = .ok (.goto 10, 3) := dk_167 0 10 (dk_at dksX1_enter_4 19 rfl rfl)
theorem dX1_enter_117 : decode cX1_enter 117 = .ok (.aload 4, 2) := dk_25 4 (dk_at dksX1_enter_4 22 rfl rfl)
theorem dX1_enter_119 : decode cX1_enter 119 = .ok (.invokeinterface 265 1, 5) := by decide +kernel
theorem dX1_enter_124 : decode cX1_enter 124 = .ok (.istore 5, 2) := dk_54 5 (dk_at dksX1_enter_5 5 rfl rfl)
theorem dX1_enter_126 : decode cX1_enter 126 = .ok (.aload_n 0, 1) := dk_42 (dk_at dksX1_enter_5 7 rfl rfl)
theorem dX1_enter_127 : decode cX1_enter 127 = .ok (.getfield 268, 3) := dk_180 1 12 (dk_at dksX1_enter_5 8 rfl rfl)
theorem dX1_enter_130 : decode cX1_enter 130 = .ok (.iload 5, 2) := dk_21 5 (dk_at dksX1_enter_5 11 rfl rfl)
theorem dX1_enter_132 : decode cX1_enter 132 = .ok (.iadd, 1) := dk_96 (dk_at dksX1_enter_5 13 rfl rfl)
theorem dX1_enter_133 : decode cX1_enter 133 = .ok (.ldc_w 270, 3) := dk_19 1 14 (dk_at dksX1_enter_5 14 rfl rfl)
theorem dX1_enter_136 : decode cX1_enter 136 = .ok (.if_icmp .le 11, 3) := dk_164 0 11 (dk_at dksX1_enter_5 17 rfl rfl)
theorem dX1_enter_139 : decode cX1_enter 139 = .ok (.new 271, 3) := dk_187 1 15 (dk_at dksX1_enter_5 20 rfl rfl)
theorem dX1_enter_142 : decode cX1_enter 142 = .ok (.dup, 1) := dk_89 (dk_at dksX1_enter_5 23 rfl rfl)
theorem dX1_enter_143 : decode cX1_enter 143 = .ok (.invokespecial 273, 3) := dk_183 1 17 (dk_at dksX1_enter_6 0 rfl rfl)
theorem dX1_enter_146 : decode cX1_enter 146 = .ok (.athrow, 1) := dk_191 (dk_at dksX1_enter_6 3 rfl rfl)
theorem dX1_enter_147 : decode cX1_enter 147 = .ok (.aload_n 0, 1) := dk_42 (dk_at dksX1_enter_6 4 rfl rfl)
theorem dX1_enter_148 : decode cX1_enter 148 = .ok (.dup, 1) := dk_89 (dk_at dksX1_enter_6 5 rfl rfl)
theorem dX1_enter_149 : decode cX1_enter 149 = .ok (.getfield 268, 3) := dk_180 1 12 (dk_at dksX1_enter_6 6 rfl rfl)
theorem dX1_enter_152 : decode cX1_enter 152 = .ok (.iload 5, 2) := dk_21 5 (dk_at dksX1_enter_6 9 rfl rfl)
theorem dX1_enter_154 : decode cX1_enter 154 = .ok (.iadd, 1) := dk_96 (dk_at dksX1_enter_6 11 rfl rfl)
theorem dX1_enter_155 : decode cX1_enter 155 = .ok (.putfield 268, 3) := dk_181 1 12 (dk_at dksX1_enter_6 12 rfl rfl)
theorem dX1_enter_158 : decode cX1_enter 158 = .ok (.aload_n 0, 1) := dk_42 (dk_at dksX1_enter_6 15 rfl rfl)
theorem dX1_enter_159 : decode cX1_enter 159 = .ok (.invokevirtual 274, 3) := dk_182 1 18 (dk_at dksX1_enter_6 16 rfl rfl)
theorem dX1_enter_162 : decode cX1_enter 162 = .ok (.aload_n 0, 1) := dk_42 (dk_at dksX1_enter_6 19 rfl rfl)
theorem dX1_enter_163 : decode cX1_enter 163 = .ok (.getfield 198, 3) := dk_180 0 198 (dk_at dksX1_enter_6 20 rfl rfl)
theorem dX1_enter_166 : decode cX1_enter 166 = .ok (.getfield 277, 3) := dk_180 1 21 (dk_at dksX1_enter_7 0 rfl rfl)
theorem dX1_enter_169 : decode cX1_enter 169 = .ok (.iload_n 1, 1) := dk_27 (dk_at dksX1_enter_7 3 rfl rfl)
theorem dX1_enter_170 : decode cX1_enter 170 = .ok (.iconst 1, 1) := dk_4 (dk_at dksX1_enter_7 4 rfl rfl)
theorem dX1_enter_171 : decode cX1_enter 171 = .ok (.isub, 1) := dk_100 (dk_at dksX1_enter_7 5 rfl rfl)
theorem dX1_enter_172 : decode cX1_enter 172 = .ok (.aaload, 1) := dk_50 (dk_at dksX1_enter_7 6 rfl rfl)
theorem dX1_enter_173 : decode cX1_enter 173 = .ok (.iload_n 2, 1) := dk_28 (dk_at dksX1_enter_7 7 rfl rfl)
theorem dX1_enter_174 : decode cX1_enter 174 = .ok (.iconst 1, 1) := dk_4 (dk_at dksX1_enter_7 8 rfl rfl)
theorem dX1_enter_175 : decode cX1_enter 175 = .ok (.isub, 1) := dk_100 (dk_at dksX1_enter_7 9 rfl rfl)
theorem dX1_enter_176 : decode cX1_enter 176 = .ok (.aload 4, 2) := dk_25 4 (dk_at dksX1_enter_7 10 rfl rfl)
theorem dX1_enter_178 : decode cX1_enter 178 = .ok (.aastore, 1) := dk_83 (dk_at dksX1_enter_7 12 rfl rfl)
theorem dX1_enter_179 : decode cX1_enter 179 = .ok (.iload 5, 2) := dk_21 5 (dk_at dksX1_enter_7 13 rfl rfl)
theorem dX1_enter_181 : decode cX1_enter 181 = .ok (.ireturn, 1) := dk_172 (dk_at dksX1_enter_7 15 rfl rfl)
abbrev cX1_step : ByteArray := prog_1_method_13_code
def yX1_step : MethodName := ⟨RX1, "step", "()V"⟩
def dkwX1_step_3 : List UInt8 := [181, 0, 226, 42, 3, 181, 0, 229, 42, 3, 181, 0, 208, 177]
abbrev dktX1_step_3 : List UInt8 := dkwX1_step_3 ++ []
def dkwX1_step_2 : List UInt8 := [180, 0, 119, 42, 180, 0, 226, 42, 180, 0, 198, 182, 0, 194, 83, 42, 89, 180, 0, 226, 4, 96]
abbrev dktX1_step_2 : List UInt8 := dkwX1_step_2 ++ dktX1_step_3
def dkwX1_step_1 : List UInt8 := [42, 180, 0, 119, 27, 50, 83, 132, 1, 1, 167, 255, 233, 42, 89, 180, 0, 226, 4, 100, 181, 0, 226, 42]
abbrev dktX1_step_1 : List UInt8 := dkwX1_step_1 ++ dktX1_step_2
def dkwX1_step_0 : List UInt8 := [42, 180, 0, 226, 16, 40, 160, 0, 41, 4, 60, 27, 16, 40, 162, 0, 23, 42, 180, 0, 119, 27, 4, 100]
abbrev dktX1_step_0 : List UInt8 := dkwX1_step_0 ++ dktX1_step_1
theorem dksX1_step_0 : cX1_step.data.toList.drop 0 = dktX1_step_0 := by decide +kernel
theorem dksX1_step_1 : cX1_step.data.toList.drop 24 = dktX1_step_1 := dk_seg dksX1_step_0 24 rfl rfl
theorem dksX1_step_2 : cX1_step.data.toList.drop 48 = dktX1_step_2 := dk_seg dksX1_step_1 24 rfl rfl
theorem dksX1_step_3 : cX1_step.data.toList.drop 70 = dktX1_step_3 := dk_seg dksX1_step_2 22 rfl rfl
theorem dX1_step_0 : decode cX1_step 0 = .ok (.aload_n 0, 1) := dk_42 (dk_at dksX1_step_0 0 rfl rfl)
theorem dX1_step_1 : decode cX1_step 1 = .ok (.getfield 226, 3) := dk_180 0 226 (dk_at dksX1_step_0 1 rfl rfl)
theorem dX1_step_4 : decode cX1_step 4 = .ok (.bipush 40, 2) := dk_16 40 (dk_at dksX1_step_0 4 rfl rfl)
theorem dX1_step_6 : decode cX1_step 6 = .ok (.if_icmp .ne 41, 3) := dk_160 0 41 (dk_at dksX1_step_0 6 rfl rfl)
theorem dX1_step_9 : decode cX1_step 9 = .ok (.iconst 1, 1) := dk_4 (dk_at dksX1_step_0 9 rfl rfl)
theorem dX1_step_10 : decode cX1_step 10 = .ok (.istore_n 1, 1) := dk_60 (dk_at dksX1_step_0 10 rfl rfl)
theorem dX1_step_11 : decode cX1_step 11 = .ok (.iload_n 1, 1) := dk_27 (dk_at dksX1_step_0 11 rfl rfl)
theorem dX1_step_12 : decode cX1_step 12 = .ok (.bipush 40, 2) := dk_16 40 (dk_at dksX1_step_0 12 rfl rfl)
theorem dX1_step_14 : decode cX1_step 14 = .ok (.if_icmp .ge 23, 3) := dk_162 0 23 (dk_at dksX1_step_0 14 rfl rfl)
theorem dX1_step_17 : decode cX1_step 17 = .ok (.aload_n 0, 1) := dk_42 (dk_at dksX1_step_0 17 rfl rfl)
theorem dX1_step_18 : decode cX1_step 18 = .ok (.getfield 119, 3) := dk_180 0 119 (dk_at dksX1_step_0 18 rfl rfl)
theorem dX1_step_21 : decode cX1_step 21 = .ok (.iload_n 1, 1) := dk_27 (dk_at dksX1_step_0 21 rfl rfl)
theorem dX1_step_22 : decode cX1_step 22 = .ok (.iconst 1, 1) := dk_4 (dk_at dksX1_step_0 22 rfl rfl)
theorem dX1_step_23 : decode cX1_step 23 = .ok (.isub, 1) := dk_100 (dk_at dksX1_step_0 23 rfl rfl)
theorem dX1_step_24 : decode cX1_step 24 = .ok (.aload_n 0, 1) := dk_42 (dk_at dksX1_step_1 0 rfl rfl)
theorem dX1_step_25 : decode cX1_step 25 = .ok (.getfield 119, 3) := dk_180 0 119 (dk_at dksX1_step_1 1 rfl rfl)
theorem dX1_step_28 : decode cX1_step 28 = .ok (.iload_n 1, 1) := dk_27 (dk_at dksX1_step_1 4 rfl rfl)
theorem dX1_step_29 : decode cX1_step 29 = .ok (.aaload, 1) := dk_50 (dk_at dksX1_step_1 5 rfl rfl)
theorem dX1_step_30 : decode cX1_step 30 = .ok (.aastore, 1) := dk_83 (dk_at dksX1_step_1 6 rfl rfl)
theorem dX1_step_31 : decode cX1_step 31 = .ok (.iinc 1 1, 3) := dk_132 1 1 (dk_at dksX1_step_1 7 rfl rfl)
theorem dX1_step_34 : decode cX1_step 34 = .ok (.goto (-23), 3) := dk_167 255 233 (dk_at dksX1_step_1 10 rfl rfl)
theorem dX1_step_37 : decode cX1_step 37 = .ok (.aload_n 0, 1) := dk_42 (dk_at dksX1_step_1 13 rfl rfl)
theorem dX1_step_38 : decode cX1_step 38 = .ok (.dup, 1) := dk_89 (dk_at dksX1_step_1 14 rfl rfl)
theorem dX1_step_39 : decode cX1_step 39 = .ok (.getfield 226, 3) := dk_180 0 226 (dk_at dksX1_step_1 15 rfl rfl)
theorem dX1_step_42 : decode cX1_step 42 = .ok (.iconst 1, 1) := dk_4 (dk_at dksX1_step_1 18 rfl rfl)
theorem dX1_step_43 : decode cX1_step 43 = .ok (.isub, 1) := dk_100 (dk_at dksX1_step_1 19 rfl rfl)
theorem dX1_step_44 : decode cX1_step 44 = .ok (.putfield 226, 3) := dk_181 0 226 (dk_at dksX1_step_1 20 rfl rfl)
theorem dX1_step_47 : decode cX1_step 47 = .ok (.aload_n 0, 1) := dk_42 (dk_at dksX1_step_1 23 rfl rfl)
theorem dX1_step_48 : decode cX1_step 48 = .ok (.getfield 119, 3) := dk_180 0 119 (dk_at dksX1_step_2 0 rfl rfl)
theorem dX1_step_51 : decode cX1_step 51 = .ok (.aload_n 0, 1) := dk_42 (dk_at dksX1_step_2 3 rfl rfl)
theorem dX1_step_52 : decode cX1_step 52 = .ok (.getfield 226, 3) := dk_180 0 226 (dk_at dksX1_step_2 4 rfl rfl)
theorem dX1_step_55 : decode cX1_step 55 = .ok (.aload_n 0, 1) := dk_42 (dk_at dksX1_step_2 7 rfl rfl)
theorem dX1_step_56 : decode cX1_step 56 = .ok (.getfield 198, 3) := dk_180 0 198 (dk_at dksX1_step_2 8 rfl rfl)
theorem dX1_step_59 : decode cX1_step 59 = .ok (.invokevirtual 194, 3) := dk_182 0 194 (dk_at dksX1_step_2 11 rfl rfl)
theorem dX1_step_62 : decode cX1_step 62 = .ok (.aastore, 1) := dk_83 (dk_at dksX1_step_2 14 rfl rfl)
theorem dX1_step_63 : decode cX1_step 63 = .ok (.aload_n 0, 1) := dk_42 (dk_at dksX1_step_2 15 rfl rfl)
theorem dX1_step_64 : decode cX1_step 64 = .ok (.dup, 1) := dk_89 (dk_at dksX1_step_2 16 rfl rfl)
theorem dX1_step_65 : decode cX1_step 65 = .ok (.getfield 226, 3) := dk_180 0 226 (dk_at dksX1_step_2 17 rfl rfl)
theorem dX1_step_68 : decode cX1_step 68 = .ok (.iconst 1, 1) := dk_4 (dk_at dksX1_step_2 20 rfl rfl)
theorem dX1_step_69 : decode cX1_step 69 = .ok (.iadd, 1) := dk_96 (dk_at dksX1_step_2 21 rfl rfl)
theorem dX1_step_70 : decode cX1_step 70 = .ok (.putfield 226, 3) := dk_181 0 226 (dk_at dksX1_step_3 0 rfl rfl)
theorem dX1_step_73 : decode cX1_step 73 = .ok (.aload_n 0, 1) := dk_42 (dk_at dksX1_step_3 3 rfl rfl)
theorem dX1_step_74 : decode cX1_step 74 = .ok (.iconst 0, 1) := dk_3 (dk_at dksX1_step_3 4 rfl rfl)
theorem dX1_step_75 : decode cX1_step 75 = .ok (.putfield 229, 3) := dk_181 0 229 (dk_at dksX1_step_3 5 rfl rfl)
theorem dX1_step_78 : decode cX1_step 78 = .ok (.aload_n 0, 1) := dk_42 (dk_at dksX1_step_3 8 rfl rfl)
theorem dX1_step_79 : decode cX1_step 79 = .ok (.iconst 0, 1) := dk_3 (dk_at dksX1_step_3 9 rfl rfl)
theorem dX1_step_80 : decode cX1_step 80 = .ok (.putfield 208, 3) := dk_181 0 208 (dk_at dksX1_step_3 10 rfl rfl)
theorem dX1_step_83 : decode cX1_step 83 = .ok (.return_, 1) := dk_177 (dk_at dksX1_step_3 13 rfl rfl)
abbrev cX1_erase : ByteArray := prog_1_method_20_code
def yX1_erase : MethodName := ⟨RX1, "erase", "(IIII)I"⟩
def dkwX1_erase_3 : List UInt8 := [21, 6, 50, 21, 7, 1, 83, 132, 7, 1, 167, 255, 206, 132, 6, 1, 167, 255, 189, 21, 5, 172]
abbrev dktX1_erase_3 : List UInt8 := dkwX1_erase_3 ++ []
def dkwX1_erase_2 : List UInt8 := [21, 6, 50, 21, 7, 50, 199, 0, 7, 3, 167, 0, 4, 4, 96, 54, 5, 42, 180, 0, 198, 180, 1, 21]
abbrev dktX1_erase_2 : List UInt8 := dkwX1_erase_2 ++ dktX1_erase_3
def dkwX1_erase_1 : List UInt8 := [162, 0, 67, 28, 4, 100, 54, 7, 21, 7, 21, 4, 162, 0, 49, 21, 5, 42, 180, 0, 198, 180, 1, 21]
abbrev dktX1_erase_1 : List UInt8 := dkwX1_erase_1 ++ dktX1_erase_2
def dkwX1_erase_0 : List UInt8 := [42, 27, 28, 29, 21, 4, 182, 1, 25, 42, 182, 1, 18, 3, 54, 5, 27, 4, 100, 54, 6, 21, 6, 29]
abbrev dktX1_erase_0 : List UInt8 := dkwX1_erase_0 ++ dktX1_erase_1
theorem dksX1_erase_0 : cX1_erase.data.toList.drop 0 = dktX1_erase_0 := by decide +kernel
theorem dksX1_erase_1 : cX1_erase.data.toList.drop 24 = dktX1_erase_1 := dk_seg dksX1_erase_0 24 rfl rfl
theorem dksX1_erase_2 : cX1_erase.data.toList.drop 48 = dktX1_erase_2 := dk_seg dksX1_erase_1 24 rfl rfl
theorem dksX1_erase_3 : cX1_erase.data.toList.drop 72 = dktX1_erase_3 := dk_seg dksX1_erase_2 24 rfl rfl
theorem dX1_erase_0 : decode cX1_erase 0 = .ok (.aload_n 0, 1) := dk_42 (dk_at dksX1_erase_0 0 rfl rfl)
theorem dX1_erase_1 : decode cX1_erase 1 = .ok (.iload_n 1, 1) := dk_27 (dk_at dksX1_erase_0 1 rfl rfl)
theorem dX1_erase_2 : decode cX1_erase 2 = .ok (.iload_n 2, 1) := dk_28 (dk_at dksX1_erase_0 2 rfl rfl)
theorem dX1_erase_3 : decode cX1_erase 3 = .ok (.iload_n 3, 1) := dk_29 (dk_at dksX1_erase_0 3 rfl rfl)
theorem dX1_erase_4 : decode cX1_erase 4 = .ok (.iload 4, 2) := dk_21 4 (dk_at dksX1_erase_0 4 rfl rfl)
theorem dX1_erase_6 : decode cX1_erase 6 = .ok (.invokevirtual 281, 3) := dk_182 1 25 (dk_at dksX1_erase_0 6 rfl rfl)
theorem dX1_erase_9 : decode cX1_erase 9 = .ok (.aload_n 0, 1) := dk_42 (dk_at dksX1_erase_0 9 rfl rfl)
theorem dX1_erase_10 : decode cX1_erase 10 = .ok (.invokevirtual 274, 3) := dk_182 1 18 (dk_at dksX1_erase_0 10 rfl rfl)
theorem dX1_erase_13 : decode cX1_erase 13 = .ok (.iconst 0, 1) := dk_3 (dk_at dksX1_erase_0 13 rfl rfl)
theorem dX1_erase_14 : decode cX1_erase 14 = .ok (.istore 5, 2) := dk_54 5 (dk_at dksX1_erase_0 14 rfl rfl)
theorem dX1_erase_16 : decode cX1_erase 16 = .ok (.iload_n 1, 1) := dk_27 (dk_at dksX1_erase_0 16 rfl rfl)
theorem dX1_erase_17 : decode cX1_erase 17 = .ok (.iconst 1, 1) := dk_4 (dk_at dksX1_erase_0 17 rfl rfl)
theorem dX1_erase_18 : decode cX1_erase 18 = .ok (.isub, 1) := dk_100 (dk_at dksX1_erase_0 18 rfl rfl)
theorem dX1_erase_19 : decode cX1_erase 19 = .ok (.istore 6, 2) := dk_54 6 (dk_at dksX1_erase_0 19 rfl rfl)
theorem dX1_erase_21 : decode cX1_erase 21 = .ok (.iload 6, 2) := dk_21 6 (dk_at dksX1_erase_0 21 rfl rfl)
theorem dX1_erase_23 : decode cX1_erase 23 = .ok (.iload_n 3, 1) := dk_29 (dk_at dksX1_erase_0 23 rfl rfl)
theorem dX1_erase_24 : decode cX1_erase 24 = .ok (.if_icmp .ge 67, 3) := dk_162 0 67 (dk_at dksX1_erase_1 0 rfl rfl)
theorem dX1_erase_27 : decode cX1_erase 27 = .ok (.iload_n 2, 1) := dk_28 (dk_at dksX1_erase_1 3 rfl rfl)
theorem dX1_erase_28 : decode cX1_erase 28 = .ok (.iconst 1, 1) := dk_4 (dk_at dksX1_erase_1 4 rfl rfl)
theorem dX1_erase_29 : decode cX1_erase 29 = .ok (.isub, 1) := dk_100 (dk_at dksX1_erase_1 5 rfl rfl)
theorem dX1_erase_30 : decode cX1_erase 30 = .ok (.istore 7, 2) := dk_54 7 (dk_at dksX1_erase_1 6 rfl rfl)
theorem dX1_erase_32 : decode cX1_erase 32 = .ok (.iload 7, 2) := dk_21 7 (dk_at dksX1_erase_1 8 rfl rfl)
theorem dX1_erase_34 : decode cX1_erase 34 = .ok (.iload 4, 2) := dk_21 4 (dk_at dksX1_erase_1 10 rfl rfl)
theorem dX1_erase_36 : decode cX1_erase 36 = .ok (.if_icmp .ge 49, 3) := dk_162 0 49 (dk_at dksX1_erase_1 12 rfl rfl)
theorem dX1_erase_39 : decode cX1_erase 39 = .ok (.iload 5, 2) := dk_21 5 (dk_at dksX1_erase_1 15 rfl rfl)
theorem dX1_erase_41 : decode cX1_erase 41 = .ok (.aload_n 0, 1) := dk_42 (dk_at dksX1_erase_1 17 rfl rfl)
theorem dX1_erase_42 : decode cX1_erase 42 = .ok (.getfield 198, 3) := dk_180 0 198 (dk_at dksX1_erase_1 18 rfl rfl)
theorem dX1_erase_45 : decode cX1_erase 45 = .ok (.getfield 277, 3) := dk_180 1 21 (dk_at dksX1_erase_1 21 rfl rfl)
theorem dX1_erase_48 : decode cX1_erase 48 = .ok (.iload 6, 2) := dk_21 6 (dk_at dksX1_erase_2 0 rfl rfl)
theorem dX1_erase_50 : decode cX1_erase 50 = .ok (.aaload, 1) := dk_50 (dk_at dksX1_erase_2 2 rfl rfl)
theorem dX1_erase_51 : decode cX1_erase 51 = .ok (.iload 7, 2) := dk_21 7 (dk_at dksX1_erase_2 3 rfl rfl)
theorem dX1_erase_53 : decode cX1_erase 53 = .ok (.aaload, 1) := dk_50 (dk_at dksX1_erase_2 5 rfl rfl)
theorem dX1_erase_54 : decode cX1_erase 54 = .ok (.ifnonnull 7, 3) := dk_199 0 7 (dk_at dksX1_erase_2 6 rfl rfl)
theorem dX1_erase_57 : decode cX1_erase 57 = .ok (.iconst 0, 1) := dk_3 (dk_at dksX1_erase_2 9 rfl rfl)
theorem dX1_erase_58 : decode cX1_erase 58 = .ok (.goto 4, 3) := dk_167 0 4 (dk_at dksX1_erase_2 10 rfl rfl)
theorem dX1_erase_61 : decode cX1_erase 61 = .ok (.iconst 1, 1) := dk_4 (dk_at dksX1_erase_2 13 rfl rfl)
theorem dX1_erase_62 : decode cX1_erase 62 = .ok (.iadd, 1) := dk_96 (dk_at dksX1_erase_2 14 rfl rfl)
theorem dX1_erase_63 : decode cX1_erase 63 = .ok (.istore 5, 2) := dk_54 5 (dk_at dksX1_erase_2 15 rfl rfl)
theorem dX1_erase_65 : decode cX1_erase 65 = .ok (.aload_n 0, 1) := dk_42 (dk_at dksX1_erase_2 17 rfl rfl)
theorem dX1_erase_66 : decode cX1_erase 66 = .ok (.getfield 198, 3) := dk_180 0 198 (dk_at dksX1_erase_2 18 rfl rfl)
theorem dX1_erase_69 : decode cX1_erase 69 = .ok (.getfield 277, 3) := dk_180 1 21 (dk_at dksX1_erase_2 21 rfl rfl)
theorem dX1_erase_72 : decode cX1_erase 72 = .ok (.iload 6, 2) := dk_21 6 (dk_at dksX1_erase_3 0 rfl rfl)
theorem dX1_erase_74 : decode cX1_erase 74 = .ok (.aaload, 1) := dk_50 (dk_at dksX1_erase_3 2 rfl rfl)
theorem dX1_erase_75 : decode cX1_erase 75 = .ok (.iload 7, 2) := dk_21 7 (dk_at dksX1_erase_3 3 rfl rfl)
theorem dX1_erase_77 : decode cX1_erase 77 = .ok (.aconst_null, 1) := dk_1 (dk_at dksX1_erase_3 5 rfl rfl)
theorem dX1_erase_78 : decode cX1_erase 78 = .ok (.aastore, 1) := dk_83 (dk_at dksX1_erase_3 6 rfl rfl)
theorem dX1_erase_79 : decode cX1_erase 79 = .ok (.iinc 7 1, 3) := dk_132 7 1 (dk_at dksX1_erase_3 7 rfl rfl)
theorem dX1_erase_82 : decode cX1_erase 82 = .ok (.goto (-50), 3) := dk_167 255 206 (dk_at dksX1_erase_3 10 rfl rfl)
theorem dX1_erase_85 : decode cX1_erase 85 = .ok (.iinc 6 1, 3) := dk_132 6 1 (dk_at dksX1_erase_3 13 rfl rfl)
theorem dX1_erase_88 : decode cX1_erase 88 = .ok (.goto (-67), 3) := dk_167 255 189 (dk_at dksX1_erase_3 16 rfl rfl)
theorem dX1_erase_91 : decode cX1_erase 91 = .ok (.iload 5, 2) := dk_21 5 (dk_at dksX1_erase_3 19 rfl rfl)
theorem dX1_erase_93 : decode cX1_erase 93 = .ok (.ireturn, 1) := dk_172 (dk_at dksX1_erase_3 21 rfl rfl)
abbrev cX1_look : ByteArray := prog_1_method_19_code
def yX1_look : MethodName := ⟨RX1, "look", "(IIII)V"⟩
def dkwX1_look_2 : List UInt8 := [21, 4, 28, 162, 0, 11, 187, 1, 2, 89, 183, 1, 4, 191, 177]
abbrev dktX1_look_2 : List UInt8 := dkwX1_look_2 ++ []
def dkwX1_look_1 : List UInt8 := [21, 4, 4, 100, 182, 0, 235, 154, 0, 11, 187, 0, 239, 89, 183, 0, 241, 191, 29, 27, 161, 0, 9]
abbrev dktX1_look_1 : List UInt8 := dkwX1_look_1 ++ dktX1_look_2
def dkwX1_look_0 : List UInt8 := [42, 180, 0, 198, 27, 4, 100, 28, 4, 100, 182, 0, 235, 153, 0, 20, 42, 180, 0, 198, 29, 4, 100]
abbrev dktX1_look_0 : List UInt8 := dkwX1_look_0 ++ dktX1_look_1
theorem dksX1_look_0 : cX1_look.data.toList.drop 0 = dktX1_look_0 := by decide +kernel
theorem dksX1_look_1 : cX1_look.data.toList.drop 23 = dktX1_look_1 := dk_seg dksX1_look_0 23 rfl rfl
theorem dksX1_look_2 : cX1_look.data.toList.drop 46 = dktX1_look_2 := dk_seg dksX1_look_1 23 rfl rfl
theorem dX1_look_0 : decode cX1_look 0 = .ok (.aload_n 0, 1) := dk_42 (dk_at dksX1_look_0 0 rfl rfl)
theorem dX1_look_1 : decode cX1_look 1 = .ok (.getfield 198, 3) := dk_180 0 198 (dk_at dksX1_look_0 1 rfl rfl)
theorem dX1_look_4 : decode cX1_look 4 = .ok (.iload_n 1, 1) := dk_27 (dk_at dksX1_look_0 4 rfl rfl)
theorem dX1_look_5 : decode cX1_look 5 = .ok (.iconst 1, 1) := dk_4 (dk_at dksX1_look_0 5 rfl rfl)
theorem dX1_look_6 : decode cX1_look 6 = .ok (.isub, 1) := dk_100 (dk_at dksX1_look_0 6 rfl rfl)
theorem dX1_look_7 : decode cX1_look 7 = .ok (.iload_n 2, 1) := dk_28 (dk_at dksX1_look_0 7 rfl rfl)
theorem dX1_look_8 : decode cX1_look 8 = .ok (.iconst 1, 1) := dk_4 (dk_at dksX1_look_0 8 rfl rfl)
theorem dX1_look_9 : decode cX1_look 9 = .ok (.isub, 1) := dk_100 (dk_at dksX1_look_0 9 rfl rfl)
theorem dX1_look_10 : decode cX1_look 10 = .ok (.invokevirtual 235, 3) := dk_182 0 235 (dk_at dksX1_look_0 10 rfl rfl)
theorem dX1_look_13 : decode cX1_look 13 = .ok (.ifCond .eq 20, 3) := dk_153 0 20 (dk_at dksX1_look_0 13 rfl rfl)
theorem dX1_look_16 : decode cX1_look 16 = .ok (.aload_n 0, 1) := dk_42 (dk_at dksX1_look_0 16 rfl rfl)
theorem dX1_look_17 : decode cX1_look 17 = .ok (.getfield 198, 3) := dk_180 0 198 (dk_at dksX1_look_0 17 rfl rfl)
theorem dX1_look_20 : decode cX1_look 20 = .ok (.iload_n 3, 1) := dk_29 (dk_at dksX1_look_0 20 rfl rfl)
theorem dX1_look_21 : decode cX1_look 21 = .ok (.iconst 1, 1) := dk_4 (dk_at dksX1_look_0 21 rfl rfl)
theorem dX1_look_22 : decode cX1_look 22 = .ok (.isub, 1) := dk_100 (dk_at dksX1_look_0 22 rfl rfl)
theorem dX1_look_23 : decode cX1_look 23 = .ok (.iload 4, 2) := dk_21 4 (dk_at dksX1_look_1 0 rfl rfl)
theorem dX1_look_25 : decode cX1_look 25 = .ok (.iconst 1, 1) := dk_4 (dk_at dksX1_look_1 2 rfl rfl)
theorem dX1_look_26 : decode cX1_look 26 = .ok (.isub, 1) := dk_100 (dk_at dksX1_look_1 3 rfl rfl)
theorem dX1_look_27 : decode cX1_look 27 = .ok (.invokevirtual 235, 3) := dk_182 0 235 (dk_at dksX1_look_1 4 rfl rfl)
theorem dX1_look_30 : decode cX1_look 30 = .ok (.ifCond .ne 11, 3) := dk_154 0 11 (dk_at dksX1_look_1 7 rfl rfl)
theorem dX1_look_33 : decode cX1_look 33 = .ok (.new 239, 3) := dk_187 0 239 (dk_at dksX1_look_1 10 rfl rfl)
theorem dX1_look_36 : decode cX1_look 36 = .ok (.dup, 1) := dk_89 (dk_at dksX1_look_1 13 rfl rfl)
theorem dX1_look_37 : decode cX1_look 37 = .ok (.invokespecial 241, 3) := dk_183 0 241 (dk_at dksX1_look_1 14 rfl rfl)
theorem dX1_look_40 : decode cX1_look 40 = .ok (.athrow, 1) := dk_191 (dk_at dksX1_look_1 17 rfl rfl)
theorem dX1_look_41 : decode cX1_look 41 = .ok (.iload_n 3, 1) := dk_29 (dk_at dksX1_look_1 18 rfl rfl)
theorem dX1_look_42 : decode cX1_look 42 = .ok (.iload_n 1, 1) := dk_27 (dk_at dksX1_look_1 19 rfl rfl)
theorem dX1_look_43 : decode cX1_look 43 = .ok (.if_icmp .lt 9, 3) := dk_161 0 9 (dk_at dksX1_look_1 20 rfl rfl)
theorem dX1_look_46 : decode cX1_look 46 = .ok (.iload 4, 2) := dk_21 4 (dk_at dksX1_look_2 0 rfl rfl)
theorem dX1_look_48 : decode cX1_look 48 = .ok (.iload_n 2, 1) := dk_28 (dk_at dksX1_look_2 2 rfl rfl)
theorem dX1_look_49 : decode cX1_look 49 = .ok (.if_icmp .ge 11, 3) := dk_162 0 11 (dk_at dksX1_look_2 3 rfl rfl)
theorem dX1_look_52 : decode cX1_look 52 = .ok (.new 258, 3) := dk_187 1 2 (dk_at dksX1_look_2 6 rfl rfl)
theorem dX1_look_55 : decode cX1_look 55 = .ok (.dup, 1) := dk_89 (dk_at dksX1_look_2 9 rfl rfl)
theorem dX1_look_56 : decode cX1_look 56 = .ok (.invokespecial 260, 3) := dk_183 1 4 (dk_at dksX1_look_2 10 rfl rfl)
theorem dX1_look_59 : decode cX1_look 59 = .ok (.athrow, 1) := dk_191 (dk_at dksX1_look_2 13 rfl rfl)
theorem dX1_look_60 : decode cX1_look 60 = .ok (.return_, 1) := dk_177 (dk_at dksX1_look_2 14 rfl rfl)
abbrev cX1_insert : ByteArray := prog_1_method_24_code
def yX1_insert : MethodName := ⟨RX1, "insert", "(II)I"⟩
def dkwX1_insert_5 : List UInt8 := [4, 96, 172]
abbrev dktX1_insert_5 : List UInt8 := dkwX1_insert_5 ++ []
def dkwX1_insert_4 : List UInt8 := [4, 96, 181, 0, 142, 42, 180, 0, 198, 27, 45, 28, 4, 100, 21, 4, 184, 1, 45, 182, 1, 49, 45, 190]
abbrev dktX1_insert_4 : List UInt8 := dkwX1_insert_4 ++ dktX1_insert_5
def dkwX1_insert_3 : List UInt8 := [54, 4, 27, 154, 0, 16, 42, 89, 180, 0, 139, 4, 96, 181, 0, 139, 167, 0, 13, 42, 89, 180, 0, 142]
abbrev dktX1_insert_3 : List UInt8 := dkwX1_insert_3 ++ dktX1_insert_4
def dkwX1_insert_2 : List UInt8 := [183, 1, 44, 191, 42, 182, 1, 18, 27, 154, 0, 10, 42, 180, 0, 139, 167, 0, 7, 42, 180, 0, 142]
abbrev dktX1_insert_2 : List UInt8 := dkwX1_insert_2 ++ dktX1_insert_3
def dkwX1_insert_1 : List UInt8 := [183, 0, 241, 191, 45, 190, 27, 154, 0, 8, 16, 32, 167, 0, 5, 16, 10, 160, 0, 11, 187, 1, 42, 89]
abbrev dktX1_insert_1 : List UInt8 := dkwX1_insert_1 ++ dktX1_insert_2
def dkwX1_insert_0 : List UInt8 := [42, 27, 182, 1, 39, 78, 28, 4, 161, 0, 11, 28, 45, 190, 4, 96, 164, 0, 11, 187, 0, 239, 89]
abbrev dktX1_insert_0 : List UInt8 := dkwX1_insert_0 ++ dktX1_insert_1
theorem dksX1_insert_0 : cX1_insert.data.toList.drop 0 = dktX1_insert_0 := by decide +kernel
theorem dksX1_insert_1 : cX1_insert.data.toList.drop 23 = dktX1_insert_1 := dk_seg dksX1_insert_0 23 rfl rfl
theorem dksX1_insert_2 : cX1_insert.data.toList.drop 47 = dktX1_insert_2 := dk_seg dksX1_insert_1 24 rfl rfl
theorem dksX1_insert_3 : cX1_insert.data.toList.drop 70 = dktX1_insert_3 := dk_seg dksX1_insert_2 23 rfl rfl
theorem dksX1_insert_4 : cX1_insert.data.toList.drop 94 = dktX1_insert_4 := dk_seg dksX1_insert_3 24 rfl rfl
theorem dksX1_insert_5 : cX1_insert.data.toList.drop 118 = dktX1_insert_5 := dk_seg dksX1_insert_4 24 rfl rfl
theorem dX1_insert_0 : decode cX1_insert 0 = .ok (.aload_n 0, 1) := dk_42 (dk_at dksX1_insert_0 0 rfl rfl)
theorem dX1_insert_1 : decode cX1_insert 1 = .ok (.iload_n 1, 1) := dk_27 (dk_at dksX1_insert_0 1 rfl rfl)
theorem dX1_insert_2 : decode cX1_insert 2 = .ok (.invokevirtual 295, 3) := dk_182 1 39 (dk_at dksX1_insert_0 2 rfl rfl)
theorem dX1_insert_5 : decode cX1_insert 5 = .ok (.astore_n 3, 1) := dk_78 (dk_at dksX1_insert_0 5 rfl rfl)
theorem dX1_insert_6 : decode cX1_insert 6 = .ok (.iload_n 2, 1) := dk_28 (dk_at dksX1_insert_0 6 rfl rfl)
theorem dX1_insert_7 : decode cX1_insert 7 = .ok (.iconst 1, 1) := dk_4 (dk_at dksX1_insert_0 7 rfl rfl)
theorem dX1_insert_8 : decode cX1_insert 8 = .ok (.if_icmp .lt 11, 3) := dk_161 0 11 (dk_at dksX1_insert_0 8 rfl rfl)
theorem dX1_insert_11 : decode cX1_insert 11 = .ok (.iload_n 2, 1) := dk_28 (dk_at dksX1_insert_0 11 rfl rfl)
theorem dX1_insert_12 : decode cX1_insert 12 = .ok (.aload_n 3, 1) := dk_45 (dk_at dksX1_insert_0 12 rfl rfl)
theorem dX1_insert_13 : decode cX1_insert 13 = .ok (.arraylength, 1) := dk_190 (dk_at dksX1_insert_0 13 rfl rfl)
theorem dX1_insert_14 : decode cX1_insert 14 = .ok (.iconst 1, 1) := dk_4 (dk_at dksX1_insert_0 14 rfl rfl)
theorem dX1_insert_15 : decode cX1_insert 15 = .ok (.iadd, 1) := dk_96 (dk_at dksX1_insert_0 15 rfl rfl)
theorem dX1_insert_16 : decode cX1_insert 16 = .ok (.if_icmp .le 11, 3) := dk_164 0 11 (dk_at dksX1_insert_0 16 rfl rfl)
theorem dX1_insert_19 : decode cX1_insert 19 = .ok (.new 239, 3) := dk_187 0 239 (dk_at dksX1_insert_0 19 rfl rfl)
theorem dX1_insert_22 : decode cX1_insert 22 = .ok (.dup, 1) := dk_89 (dk_at dksX1_insert_0 22 rfl rfl)
theorem dX1_insert_23 : decode cX1_insert 23 = .ok (.invokespecial 241, 3) := dk_183 0 241 (dk_at dksX1_insert_1 0 rfl rfl)
theorem dX1_insert_26 : decode cX1_insert 26 = .ok (.athrow, 1) := dk_191 (dk_at dksX1_insert_1 3 rfl rfl)
theorem dX1_insert_27 : decode cX1_insert 27 = .ok (.aload_n 3, 1) := dk_45 (dk_at dksX1_insert_1 4 rfl rfl)
theorem dX1_insert_28 : decode cX1_insert 28 = .ok (.arraylength, 1) := dk_190 (dk_at dksX1_insert_1 5 rfl rfl)
theorem dX1_insert_29 : decode cX1_insert 29 = .ok (.iload_n 1, 1) := dk_27 (dk_at dksX1_insert_1 6 rfl rfl)
theorem dX1_insert_30 : decode cX1_insert 30 = .ok (.ifCond .ne 8, 3) := dk_154 0 8 (dk_at dksX1_insert_1 7 rfl rfl)
theorem dX1_insert_33 : decode cX1_insert 33 = .ok (.bipush 32, 2) := dk_16 32 (dk_at dksX1_insert_1 10 rfl rfl)
theorem dX1_insert_35 : decode cX1_insert 35 = .ok (.goto 5, 3) := dk_167 0 5 (dk_at dksX1_insert_1 12 rfl rfl)
theorem dX1_insert_38 : decode cX1_insert 38 = .ok (.bipush 10, 2) := dk_16 10 (dk_at dksX1_insert_1 15 rfl rfl)
theorem dX1_insert_40 : decode cX1_insert 40 = .ok (.if_icmp .ne 11, 3) := dk_160 0 11 (dk_at dksX1_insert_1 17 rfl rfl)
theorem dX1_insert_43 : decode cX1_insert 43 = .ok (.new 298, 3) := dk_187 1 42 (dk_at dksX1_insert_1 20 rfl rfl)
theorem dX1_insert_46 : decode cX1_insert 46 = .ok (.dup, 1) := dk_89 (dk_at dksX1_insert_1 23 rfl rfl)
theorem dX1_insert_47 : decode cX1_insert 47 = .ok (.invokespecial 300, 3) := dk_183 1 44 (dk_at dksX1_insert_2 0 rfl rfl)
theorem dX1_insert_50 : decode cX1_insert 50 = .ok (.athrow, 1) := dk_191 (dk_at dksX1_insert_2 3 rfl rfl)
theorem dX1_insert_51 : decode cX1_insert 51 = .ok (.aload_n 0, 1) := dk_42 (dk_at dksX1_insert_2 4 rfl rfl)
theorem dX1_insert_52 : decode cX1_insert 52 = .ok (.invokevirtual 274, 3) := dk_182 1 18 (dk_at dksX1_insert_2 5 rfl rfl)
theorem dX1_insert_55 : decode cX1_insert 55 = .ok (.iload_n 1, 1) := dk_27 (dk_at dksX1_insert_2 8 rfl rfl)
theorem dX1_insert_56 : decode cX1_insert 56 = .ok (.ifCond .ne 10, 3) := dk_154 0 10 (dk_at dksX1_insert_2 9 rfl rfl)
theorem dX1_insert_59 : decode cX1_insert 59 = .ok (.aload_n 0, 1) := dk_42 (dk_at dksX1_insert_2 12 rfl rfl)
theorem dX1_insert_60 : decode cX1_insert 60 = .ok (.getfield 139, 3) := dk_180 0 139 (dk_at dksX1_insert_2 13 rfl rfl)
theorem dX1_insert_63 : decode cX1_insert 63 = .ok (.goto 7, 3) := dk_167 0 7 (dk_at dksX1_insert_2 16 rfl rfl)
theorem dX1_insert_66 : decode cX1_insert 66 = .ok (.aload_n 0, 1) := dk_42 (dk_at dksX1_insert_2 19 rfl rfl)
theorem dX1_insert_67 : decode cX1_insert 67 = .ok (.getfield 142, 3) := dk_180 0 142 (dk_at dksX1_insert_2 20 rfl rfl)
theorem dX1_insert_70 : decode cX1_insert 70 = .ok (.istore 4, 2) := dk_54 4 (dk_at dksX1_insert_3 0 rfl rfl)
theorem dX1_insert_72 : decode cX1_insert 72 = .ok (.iload_n 1, 1) := dk_27 (dk_at dksX1_insert_3 2 rfl rfl)
theorem dX1_insert_73 : decode cX1_insert 73 = .ok (.ifCond .ne 16, 3) := dk_154 0 16 (dk_at dksX1_insert_3 3 rfl rfl)
theorem dX1_insert_76 : decode cX1_insert 76 = .ok (.aload_n 0, 1) := dk_42 (dk_at dksX1_insert_3 6 rfl rfl)
theorem dX1_insert_77 : decode cX1_insert 77 = .ok (.dup, 1) := dk_89 (dk_at dksX1_insert_3 7 rfl rfl)
theorem dX1_insert_78 : decode cX1_insert 78 = .ok (.getfield 139, 3) := dk_180 0 139 (dk_at dksX1_insert_3 8 rfl rfl)
theorem dX1_insert_81 : decode cX1_insert 81 = .ok (.iconst 1, 1) := dk_4 (dk_at dksX1_insert_3 11 rfl rfl)
theorem dX1_insert_82 : decode cX1_insert 82 = .ok (.iadd, 1) := dk_96 (dk_at dksX1_insert_3 12 rfl rfl)
theorem dX1_insert_83 : decode cX1_insert 83 = .ok (.putfield 139, 3) := dk_181 0 139 (dk_at dksX1_insert_3 13 rfl rfl)
theorem dX1_insert_86 : decode cX1_insert 86 = .ok (.goto 13, 3) := dk_167 0 13 (dk_at dksX1_insert_3 16 rfl rfl)
theorem dX1_insert_89 : decode cX1_insert 89 = .ok (.aload_n 0, 1) := dk_42 (dk_at dksX1_insert_3 19 rfl rfl)
theorem dX1_insert_90 : decode cX1_insert 90 = .ok (.dup, 1) := dk_89 (dk_at dksX1_insert_3 20 rfl rfl)
theorem dX1_insert_91 : decode cX1_insert 91 = .ok (.getfield 142, 3) := dk_180 0 142 (dk_at dksX1_insert_3 21 rfl rfl)
theorem dX1_insert_94 : decode cX1_insert 94 = .ok (.iconst 1, 1) := dk_4 (dk_at dksX1_insert_4 0 rfl rfl)
theorem dX1_insert_95 : decode cX1_insert 95 = .ok (.iadd, 1) := dk_96 (dk_at dksX1_insert_4 1 rfl rfl)
theorem dX1_insert_96 : decode cX1_insert 96 = .ok (.putfield 142, 3) := dk_181 0 142 (dk_at dksX1_insert_4 2 rfl rfl)
theorem dX1_insert_99 : decode cX1_insert 99 = .ok (.aload_n 0, 1) := dk_42 (dk_at dksX1_insert_4 5 rfl rfl)
theorem dX1_insert_100 : decode cX1_insert 100 = .ok (.getfield 198, 3) := dk_180 0 198 (dk_at dksX1_insert_4 6 rfl rfl)
theorem dX1_insert_103 : decode cX1_insert 103 = .ok (.iload_n 1, 1) := dk_27 (dk_at dksX1_insert_4 9 rfl rfl)
theorem dX1_insert_104 : decode cX1_insert 104 = .ok (.aload_n 3, 1) := dk_45 (dk_at dksX1_insert_4 10 rfl rfl)
theorem dX1_insert_105 : decode cX1_insert 105 = .ok (.iload_n 2, 1) := dk_28 (dk_at dksX1_insert_4 11 rfl rfl)
theorem dX1_insert_106 : decode cX1_insert 106 = .ok (.iconst 1, 1) := dk_4 (dk_at dksX1_insert_4 12 rfl rfl)
theorem dX1_insert_107 : decode cX1_insert 107 = .ok (.isub, 1) := dk_100 (dk_at dksX1_insert_4 13 rfl rfl)
theorem dX1_insert_108 : decode cX1_insert 108 = .ok (.iload 4, 2) := dk_21 4 (dk_at dksX1_insert_4 14 rfl rfl)
theorem dX1_insert_110 : decode cX1_insert 110 = .ok (.invokestatic 301, 3) := dk_184 1 45 (dk_at dksX1_insert_4 16 rfl rfl)
theorem dX1_insert_113 : decode cX1_insert 113 = .ok (.invokevirtual 305, 3) := dk_182 1 49 (dk_at dksX1_insert_4 19 rfl rfl)
theorem dX1_insert_116 : decode cX1_insert 116 = .ok (.aload_n 3, 1) := dk_45 (dk_at dksX1_insert_4 22 rfl rfl)
theorem dX1_insert_117 : decode cX1_insert 117 = .ok (.arraylength, 1) := dk_190 (dk_at dksX1_insert_4 23 rfl rfl)
theorem dX1_insert_118 : decode cX1_insert 118 = .ok (.iconst 1, 1) := dk_4 (dk_at dksX1_insert_5 0 rfl rfl)
theorem dX1_insert_119 : decode cX1_insert 119 = .ok (.iadd, 1) := dk_96 (dk_at dksX1_insert_5 1 rfl rfl)
theorem dX1_insert_120 : decode cX1_insert 120 = .ok (.ireturn, 1) := dk_172 (dk_at dksX1_insert_5 2 rfl rfl)
abbrev cX1_marksOf : ByteArray := prog_1_method_21_code
def yX1_marksOf : MethodName := ⟨RX1, "marksOf", "(I)[I"⟩
def dkwX1_marksOf_1 : List UInt8 := [182, 1, 29, 176]
abbrev dktX1_marksOf_1 : List UInt8 := dkwX1_marksOf_1 ++ []
def dkwX1_marksOf_0 : List UInt8 := [27, 153, 0, 16, 27, 4, 159, 0, 11, 187, 1, 2, 89, 183, 1, 4, 191, 42, 180, 0, 198, 27]
abbrev dktX1_marksOf_0 : List UInt8 := dkwX1_marksOf_0 ++ dktX1_marksOf_1
theorem dksX1_marksOf_0 : cX1_marksOf.data.toList.drop 0 = dktX1_marksOf_0 := by decide +kernel
theorem dksX1_marksOf_1 : cX1_marksOf.data.toList.drop 22 = dktX1_marksOf_1 := dk_seg dksX1_marksOf_0 22 rfl rfl
theorem dX1_marksOf_0 : decode cX1_marksOf 0 = .ok (.iload_n 1, 1) := dk_27 (dk_at dksX1_marksOf_0 0 rfl rfl)
theorem dX1_marksOf_1 : decode cX1_marksOf 1 = .ok (.ifCond .eq 16, 3) := dk_153 0 16 (dk_at dksX1_marksOf_0 1 rfl rfl)
theorem dX1_marksOf_4 : decode cX1_marksOf 4 = .ok (.iload_n 1, 1) := dk_27 (dk_at dksX1_marksOf_0 4 rfl rfl)
theorem dX1_marksOf_5 : decode cX1_marksOf 5 = .ok (.iconst 1, 1) := dk_4 (dk_at dksX1_marksOf_0 5 rfl rfl)
theorem dX1_marksOf_6 : decode cX1_marksOf 6 = .ok (.if_icmp .eq 11, 3) := dk_159 0 11 (dk_at dksX1_marksOf_0 6 rfl rfl)
theorem dX1_marksOf_9 : decode cX1_marksOf 9 = .ok (.new 258, 3) := dk_187 1 2 (dk_at dksX1_marksOf_0 9 rfl rfl)
theorem dX1_marksOf_12 : decode cX1_marksOf 12 = .ok (.dup, 1) := dk_89 (dk_at dksX1_marksOf_0 12 rfl rfl)
theorem dX1_marksOf_13 : decode cX1_marksOf 13 = .ok (.invokespecial 260, 3) := dk_183 1 4 (dk_at dksX1_marksOf_0 13 rfl rfl)
theorem dX1_marksOf_16 : decode cX1_marksOf 16 = .ok (.athrow, 1) := dk_191 (dk_at dksX1_marksOf_0 16 rfl rfl)
theorem dX1_marksOf_17 : decode cX1_marksOf 17 = .ok (.aload_n 0, 1) := dk_42 (dk_at dksX1_marksOf_0 17 rfl rfl)
theorem dX1_marksOf_18 : decode cX1_marksOf 18 = .ok (.getfield 198, 3) := dk_180 0 198 (dk_at dksX1_marksOf_0 18 rfl rfl)
theorem dX1_marksOf_21 : decode cX1_marksOf 21 = .ok (.iload_n 1, 1) := dk_27 (dk_at dksX1_marksOf_0 21 rfl rfl)
theorem dX1_marksOf_22 : decode cX1_marksOf 22 = .ok (.invokevirtual 285, 3) := dk_182 1 29 (dk_at dksX1_marksOf_1 0 rfl rfl)
theorem dX1_marksOf_25 : decode cX1_marksOf 25 = .ok (.areturn, 1) := dk_176 (dk_at dksX1_marksOf_1 3 rfl rfl)
abbrev cX1_with : ByteArray := prog_1_method_22_code
def yX1_with : MethodName := ⟨RX1, "with", "([III)[I"⟩
def dkwX1_with_1 : List UInt8 := [96, 42, 190, 27, 100, 184, 1, 33, 45, 176]
abbrev dktX1_with_1 : List UInt8 := dkwX1_with_1 ++ []
def dkwX1_with_0 : List UInt8 := [42, 190, 4, 96, 188, 10, 78, 42, 3, 45, 3, 27, 184, 1, 33, 45, 27, 28, 79, 42, 27, 45, 27, 4]
abbrev dktX1_with_0 : List UInt8 := dkwX1_with_0 ++ dktX1_with_1
theorem dksX1_with_0 : cX1_with.data.toList.drop 0 = dktX1_with_0 := by decide +kernel
theorem dksX1_with_1 : cX1_with.data.toList.drop 24 = dktX1_with_1 := dk_seg dksX1_with_0 24 rfl rfl
theorem dX1_with_0 : decode cX1_with 0 = .ok (.aload_n 0, 1) := dk_42 (dk_at dksX1_with_0 0 rfl rfl)
theorem dX1_with_1 : decode cX1_with 1 = .ok (.arraylength, 1) := dk_190 (dk_at dksX1_with_0 1 rfl rfl)
theorem dX1_with_2 : decode cX1_with 2 = .ok (.iconst 1, 1) := dk_4 (dk_at dksX1_with_0 2 rfl rfl)
theorem dX1_with_3 : decode cX1_with 3 = .ok (.iadd, 1) := dk_96 (dk_at dksX1_with_0 3 rfl rfl)
theorem dX1_with_4 : decode cX1_with 4 = .ok (.newarray .int, 2) := dk_188_10 (dk_at dksX1_with_0 4 rfl rfl)
theorem dX1_with_6 : decode cX1_with 6 = .ok (.astore_n 3, 1) := dk_78 (dk_at dksX1_with_0 6 rfl rfl)
theorem dX1_with_7 : decode cX1_with 7 = .ok (.aload_n 0, 1) := dk_42 (dk_at dksX1_with_0 7 rfl rfl)
theorem dX1_with_8 : decode cX1_with 8 = .ok (.iconst 0, 1) := dk_3 (dk_at dksX1_with_0 8 rfl rfl)
theorem dX1_with_9 : decode cX1_with 9 = .ok (.aload_n 3, 1) := dk_45 (dk_at dksX1_with_0 9 rfl rfl)
theorem dX1_with_10 : decode cX1_with 10 = .ok (.iconst 0, 1) := dk_3 (dk_at dksX1_with_0 10 rfl rfl)
theorem dX1_with_11 : decode cX1_with 11 = .ok (.iload_n 1, 1) := dk_27 (dk_at dksX1_with_0 11 rfl rfl)
theorem dX1_with_12 : decode cX1_with 12 = .ok (.invokestatic 289, 3) := dk_184 1 33 (dk_at dksX1_with_0 12 rfl rfl)
theorem dX1_with_15 : decode cX1_with 15 = .ok (.aload_n 3, 1) := dk_45 (dk_at dksX1_with_0 15 rfl rfl)
theorem dX1_with_16 : decode cX1_with 16 = .ok (.iload_n 1, 1) := dk_27 (dk_at dksX1_with_0 16 rfl rfl)
theorem dX1_with_17 : decode cX1_with 17 = .ok (.iload_n 2, 1) := dk_28 (dk_at dksX1_with_0 17 rfl rfl)
theorem dX1_with_18 : decode cX1_with 18 = .ok (.iastore, 1) := dk_79 (dk_at dksX1_with_0 18 rfl rfl)
theorem dX1_with_19 : decode cX1_with 19 = .ok (.aload_n 0, 1) := dk_42 (dk_at dksX1_with_0 19 rfl rfl)
theorem dX1_with_20 : decode cX1_with 20 = .ok (.iload_n 1, 1) := dk_27 (dk_at dksX1_with_0 20 rfl rfl)
theorem dX1_with_21 : decode cX1_with 21 = .ok (.aload_n 3, 1) := dk_45 (dk_at dksX1_with_0 21 rfl rfl)
theorem dX1_with_22 : decode cX1_with 22 = .ok (.iload_n 1, 1) := dk_27 (dk_at dksX1_with_0 22 rfl rfl)
theorem dX1_with_23 : decode cX1_with 23 = .ok (.iconst 1, 1) := dk_4 (dk_at dksX1_with_0 23 rfl rfl)
theorem dX1_with_24 : decode cX1_with 24 = .ok (.iadd, 1) := dk_96 (dk_at dksX1_with_1 0 rfl rfl)
theorem dX1_with_25 : decode cX1_with 25 = .ok (.aload_n 0, 1) := dk_42 (dk_at dksX1_with_1 1 rfl rfl)
theorem dX1_with_26 : decode cX1_with 26 = .ok (.arraylength, 1) := dk_190 (dk_at dksX1_with_1 2 rfl rfl)
theorem dX1_with_27 : decode cX1_with 27 = .ok (.iload_n 1, 1) := dk_27 (dk_at dksX1_with_1 3 rfl rfl)
theorem dX1_with_28 : decode cX1_with 28 = .ok (.isub, 1) := dk_100 (dk_at dksX1_with_1 4 rfl rfl)
theorem dX1_with_29 : decode cX1_with 29 = .ok (.invokestatic 289, 3) := dk_184 1 33 (dk_at dksX1_with_1 5 rfl rfl)
theorem dX1_with_32 : decode cX1_with 32 = .ok (.aload_n 3, 1) := dk_45 (dk_at dksX1_with_1 8 rfl rfl)
theorem dX1_with_33 : decode cX1_with 33 = .ok (.areturn, 1) := dk_176 (dk_at dksX1_with_1 9 rfl rfl)
abbrev cX1_remove : ByteArray := prog_1_method_25_code
def yX1_remove : MethodName := ⟨RX1, "remove", "(II)I"⟩
def dkwX1_remove_2 : List UInt8 := [45, 28, 4, 100, 184, 1, 53, 182, 1, 49, 45, 190, 4, 100, 172]
abbrev dktX1_remove_2 : List UInt8 := dkwX1_remove_2 ++ []
def dkwX1_remove_1 : List UInt8 := [191, 45, 190, 4, 160, 0, 11, 187, 1, 42, 89, 183, 1, 44, 191, 42, 182, 1, 18, 42, 180, 0, 198, 27]
abbrev dktX1_remove_1 : List UInt8 := dkwX1_remove_1 ++ dktX1_remove_2
def dkwX1_remove_0 : List UInt8 := [42, 27, 182, 1, 39, 78, 28, 4, 161, 0, 9, 28, 45, 190, 164, 0, 11, 187, 0, 239, 89, 183, 0, 241]
abbrev dktX1_remove_0 : List UInt8 := dkwX1_remove_0 ++ dktX1_remove_1
theorem dksX1_remove_0 : cX1_remove.data.toList.drop 0 = dktX1_remove_0 := by decide +kernel
theorem dksX1_remove_1 : cX1_remove.data.toList.drop 24 = dktX1_remove_1 := dk_seg dksX1_remove_0 24 rfl rfl
theorem dksX1_remove_2 : cX1_remove.data.toList.drop 48 = dktX1_remove_2 := dk_seg dksX1_remove_1 24 rfl rfl
theorem dX1_remove_0 : decode cX1_remove 0 = .ok (.aload_n 0, 1) := dk_42 (dk_at dksX1_remove_0 0 rfl rfl)
theorem dX1_remove_1 : decode cX1_remove 1 = .ok (.iload_n 1, 1) := dk_27 (dk_at dksX1_remove_0 1 rfl rfl)
theorem dX1_remove_2 : decode cX1_remove 2 = .ok (.invokevirtual 295, 3) := dk_182 1 39 (dk_at dksX1_remove_0 2 rfl rfl)
theorem dX1_remove_5 : decode cX1_remove 5 = .ok (.astore_n 3, 1) := dk_78 (dk_at dksX1_remove_0 5 rfl rfl)
theorem dX1_remove_6 : decode cX1_remove 6 = .ok (.iload_n 2, 1) := dk_28 (dk_at dksX1_remove_0 6 rfl rfl)
theorem dX1_remove_7 : decode cX1_remove 7 = .ok (.iconst 1, 1) := dk_4 (dk_at dksX1_remove_0 7 rfl rfl)
theorem dX1_remove_8 : decode cX1_remove 8 = .ok (.if_icmp .lt 9, 3) := dk_161 0 9 (dk_at dksX1_remove_0 8 rfl rfl)
theorem dX1_remove_11 : decode cX1_remove 11 = .ok (.iload_n 2, 1) := dk_28 (dk_at dksX1_remove_0 11 rfl rfl)
theorem dX1_remove_12 : decode cX1_remove 12 = .ok (.aload_n 3, 1) := dk_45 (dk_at dksX1_remove_0 12 rfl rfl)
theorem dX1_remove_13 : decode cX1_remove 13 = .ok (.arraylength, 1) := dk_190 (dk_at dksX1_remove_0 13 rfl rfl)
theorem dX1_remove_14 : decode cX1_remove 14 = .ok (.if_icmp .le 11, 3) := dk_164 0 11 (dk_at dksX1_remove_0 14 rfl rfl)
theorem dX1_remove_17 : decode cX1_remove 17 = .ok (.new 239, 3) := dk_187 0 239 (dk_at dksX1_remove_0 17 rfl rfl)
theorem dX1_remove_20 : decode cX1_remove 20 = .ok (.dup, 1) := dk_89 (dk_at dksX1_remove_0 20 rfl rfl)
theorem dX1_remove_21 : decode cX1_remove 21 = .ok (.invokespecial 241, 3) := dk_183 0 241 (dk_at dksX1_remove_0 21 rfl rfl)
theorem dX1_remove_24 : decode cX1_remove 24 = .ok (.athrow, 1) := dk_191 (dk_at dksX1_remove_1 0 rfl rfl)
theorem dX1_remove_25 : decode cX1_remove 25 = .ok (.aload_n 3, 1) := dk_45 (dk_at dksX1_remove_1 1 rfl rfl)
theorem dX1_remove_26 : decode cX1_remove 26 = .ok (.arraylength, 1) := dk_190 (dk_at dksX1_remove_1 2 rfl rfl)
theorem dX1_remove_27 : decode cX1_remove 27 = .ok (.iconst 1, 1) := dk_4 (dk_at dksX1_remove_1 3 rfl rfl)
theorem dX1_remove_28 : decode cX1_remove 28 = .ok (.if_icmp .ne 11, 3) := dk_160 0 11 (dk_at dksX1_remove_1 4 rfl rfl)
theorem dX1_remove_31 : decode cX1_remove 31 = .ok (.new 298, 3) := dk_187 1 42 (dk_at dksX1_remove_1 7 rfl rfl)
theorem dX1_remove_34 : decode cX1_remove 34 = .ok (.dup, 1) := dk_89 (dk_at dksX1_remove_1 10 rfl rfl)
theorem dX1_remove_35 : decode cX1_remove 35 = .ok (.invokespecial 300, 3) := dk_183 1 44 (dk_at dksX1_remove_1 11 rfl rfl)
theorem dX1_remove_38 : decode cX1_remove 38 = .ok (.athrow, 1) := dk_191 (dk_at dksX1_remove_1 14 rfl rfl)
theorem dX1_remove_39 : decode cX1_remove 39 = .ok (.aload_n 0, 1) := dk_42 (dk_at dksX1_remove_1 15 rfl rfl)
theorem dX1_remove_40 : decode cX1_remove 40 = .ok (.invokevirtual 274, 3) := dk_182 1 18 (dk_at dksX1_remove_1 16 rfl rfl)
theorem dX1_remove_43 : decode cX1_remove 43 = .ok (.aload_n 0, 1) := dk_42 (dk_at dksX1_remove_1 19 rfl rfl)
theorem dX1_remove_44 : decode cX1_remove 44 = .ok (.getfield 198, 3) := dk_180 0 198 (dk_at dksX1_remove_1 20 rfl rfl)
theorem dX1_remove_47 : decode cX1_remove 47 = .ok (.iload_n 1, 1) := dk_27 (dk_at dksX1_remove_1 23 rfl rfl)
theorem dX1_remove_48 : decode cX1_remove 48 = .ok (.aload_n 3, 1) := dk_45 (dk_at dksX1_remove_2 0 rfl rfl)
theorem dX1_remove_49 : decode cX1_remove 49 = .ok (.iload_n 2, 1) := dk_28 (dk_at dksX1_remove_2 1 rfl rfl)
theorem dX1_remove_50 : decode cX1_remove 50 = .ok (.iconst 1, 1) := dk_4 (dk_at dksX1_remove_2 2 rfl rfl)
theorem dX1_remove_51 : decode cX1_remove 51 = .ok (.isub, 1) := dk_100 (dk_at dksX1_remove_2 3 rfl rfl)
theorem dX1_remove_52 : decode cX1_remove 52 = .ok (.invokestatic 309, 3) := dk_184 1 53 (dk_at dksX1_remove_2 4 rfl rfl)
theorem dX1_remove_55 : decode cX1_remove 55 = .ok (.invokevirtual 305, 3) := dk_182 1 49 (dk_at dksX1_remove_2 7 rfl rfl)
theorem dX1_remove_58 : decode cX1_remove 58 = .ok (.aload_n 3, 1) := dk_45 (dk_at dksX1_remove_2 10 rfl rfl)
theorem dX1_remove_59 : decode cX1_remove 59 = .ok (.arraylength, 1) := dk_190 (dk_at dksX1_remove_2 11 rfl rfl)
theorem dX1_remove_60 : decode cX1_remove 60 = .ok (.iconst 1, 1) := dk_4 (dk_at dksX1_remove_2 12 rfl rfl)
theorem dX1_remove_61 : decode cX1_remove 61 = .ok (.isub, 1) := dk_100 (dk_at dksX1_remove_2 13 rfl rfl)
theorem dX1_remove_62 : decode cX1_remove 62 = .ok (.ireturn, 1) := dk_172 (dk_at dksX1_remove_2 14 rfl rfl)
abbrev cX1_without : ByteArray := prog_1_method_23_code
def yX1_without : MethodName := ⟨RX1, "without", "([II)[I"⟩
def dkwX1_without_1 : List UInt8 := [100, 184, 1, 33, 44, 176]
abbrev dktX1_without_1 : List UInt8 := dkwX1_without_1 ++ []
def dkwX1_without_0 : List UInt8 := [42, 190, 4, 100, 188, 10, 77, 42, 3, 44, 3, 27, 184, 1, 33, 42, 27, 4, 96, 44, 27, 44, 190, 27]
abbrev dktX1_without_0 : List UInt8 := dkwX1_without_0 ++ dktX1_without_1
theorem dksX1_without_0 : cX1_without.data.toList.drop 0 = dktX1_without_0 := by decide +kernel
theorem dksX1_without_1 : cX1_without.data.toList.drop 24 = dktX1_without_1 := dk_seg dksX1_without_0 24 rfl rfl
theorem dX1_without_0 : decode cX1_without 0 = .ok (.aload_n 0, 1) := dk_42 (dk_at dksX1_without_0 0 rfl rfl)
theorem dX1_without_1 : decode cX1_without 1 = .ok (.arraylength, 1) := dk_190 (dk_at dksX1_without_0 1 rfl rfl)
theorem dX1_without_2 : decode cX1_without 2 = .ok (.iconst 1, 1) := dk_4 (dk_at dksX1_without_0 2 rfl rfl)
theorem dX1_without_3 : decode cX1_without 3 = .ok (.isub, 1) := dk_100 (dk_at dksX1_without_0 3 rfl rfl)
theorem dX1_without_4 : decode cX1_without 4 = .ok (.newarray .int, 2) := dk_188_10 (dk_at dksX1_without_0 4 rfl rfl)
theorem dX1_without_6 : decode cX1_without 6 = .ok (.astore_n 2, 1) := dk_77 (dk_at dksX1_without_0 6 rfl rfl)
theorem dX1_without_7 : decode cX1_without 7 = .ok (.aload_n 0, 1) := dk_42 (dk_at dksX1_without_0 7 rfl rfl)
theorem dX1_without_8 : decode cX1_without 8 = .ok (.iconst 0, 1) := dk_3 (dk_at dksX1_without_0 8 rfl rfl)
theorem dX1_without_9 : decode cX1_without 9 = .ok (.aload_n 2, 1) := dk_44 (dk_at dksX1_without_0 9 rfl rfl)
theorem dX1_without_10 : decode cX1_without 10 = .ok (.iconst 0, 1) := dk_3 (dk_at dksX1_without_0 10 rfl rfl)
theorem dX1_without_11 : decode cX1_without 11 = .ok (.iload_n 1, 1) := dk_27 (dk_at dksX1_without_0 11 rfl rfl)
theorem dX1_without_12 : decode cX1_without 12 = .ok (.invokestatic 289, 3) := dk_184 1 33 (dk_at dksX1_without_0 12 rfl rfl)
theorem dX1_without_15 : decode cX1_without 15 = .ok (.aload_n 0, 1) := dk_42 (dk_at dksX1_without_0 15 rfl rfl)
theorem dX1_without_16 : decode cX1_without 16 = .ok (.iload_n 1, 1) := dk_27 (dk_at dksX1_without_0 16 rfl rfl)
theorem dX1_without_17 : decode cX1_without 17 = .ok (.iconst 1, 1) := dk_4 (dk_at dksX1_without_0 17 rfl rfl)
theorem dX1_without_18 : decode cX1_without 18 = .ok (.iadd, 1) := dk_96 (dk_at dksX1_without_0 18 rfl rfl)
theorem dX1_without_19 : decode cX1_without 19 = .ok (.aload_n 2, 1) := dk_44 (dk_at dksX1_without_0 19 rfl rfl)
theorem dX1_without_20 : decode cX1_without 20 = .ok (.iload_n 1, 1) := dk_27 (dk_at dksX1_without_0 20 rfl rfl)
theorem dX1_without_21 : decode cX1_without 21 = .ok (.aload_n 2, 1) := dk_44 (dk_at dksX1_without_0 21 rfl rfl)
theorem dX1_without_22 : decode cX1_without 22 = .ok (.arraylength, 1) := dk_190 (dk_at dksX1_without_0 22 rfl rfl)
theorem dX1_without_23 : decode cX1_without 23 = .ok (.iload_n 1, 1) := dk_27 (dk_at dksX1_without_0 23 rfl rfl)
theorem dX1_without_24 : decode cX1_without 24 = .ok (.isub, 1) := dk_100 (dk_at dksX1_without_1 0 rfl rfl)
theorem dX1_without_25 : decode cX1_without 25 = .ok (.invokestatic 289, 3) := dk_184 1 33 (dk_at dksX1_without_1 1 rfl rfl)
theorem dX1_without_28 : decode cX1_without 28 = .ok (.aload_n 2, 1) := dk_44 (dk_at dksX1_without_1 4 rfl rfl)
theorem dX1_without_29 : decode cX1_without 29 = .ok (.areturn, 1) := dk_176 (dk_at dksX1_without_1 5 rfl rfl)
abbrev cX1_move : ByteArray := prog_1_method_26_code
def yX1_move : MethodName := ⟨RX1, "move", "(III)I"⟩
def dkwX1_move_3 : List UInt8 := [29, 160, 0, 7, 3, 167, 0, 11, 28, 29, 100, 184, 1, 57, 4, 96, 172]
abbrev dktX1_move_3 : List UInt8 := dkwX1_move_3 ++ []
def dkwX1_move_2 : List UInt8 := [25, 4, 28, 4, 100, 184, 1, 53, 29, 4, 100, 25, 4, 28, 4, 100, 46, 184, 1, 45, 182, 1, 49, 28]
abbrev dktX1_move_2 : List UInt8 := dkwX1_move_2 ++ dktX1_move_3
def dkwX1_move_1 : List UInt8 := [29, 25, 4, 190, 164, 0, 11, 187, 0, 239, 89, 183, 0, 241, 191, 42, 182, 1, 18, 42, 180, 0, 198, 27]
abbrev dktX1_move_1 : List UInt8 := dkwX1_move_1 ++ dktX1_move_2
def dkwX1_move_0 : List UInt8 := [42, 27, 182, 1, 39, 58, 4, 28, 4, 161, 0, 22, 28, 25, 4, 190, 163, 0, 15, 29, 4, 161, 0, 10]
abbrev dktX1_move_0 : List UInt8 := dkwX1_move_0 ++ dktX1_move_1
theorem dksX1_move_0 : cX1_move.data.toList.drop 0 = dktX1_move_0 := by decide +kernel
theorem dksX1_move_1 : cX1_move.data.toList.drop 24 = dktX1_move_1 := dk_seg dksX1_move_0 24 rfl rfl
theorem dksX1_move_2 : cX1_move.data.toList.drop 48 = dktX1_move_2 := dk_seg dksX1_move_1 24 rfl rfl
theorem dksX1_move_3 : cX1_move.data.toList.drop 72 = dktX1_move_3 := dk_seg dksX1_move_2 24 rfl rfl
theorem dX1_move_0 : decode cX1_move 0 = .ok (.aload_n 0, 1) := dk_42 (dk_at dksX1_move_0 0 rfl rfl)
theorem dX1_move_1 : decode cX1_move 1 = .ok (.iload_n 1, 1) := dk_27 (dk_at dksX1_move_0 1 rfl rfl)
theorem dX1_move_2 : decode cX1_move 2 = .ok (.invokevirtual 295, 3) := dk_182 1 39 (dk_at dksX1_move_0 2 rfl rfl)
theorem dX1_move_5 : decode cX1_move 5 = .ok (.astore 4, 2) := dk_58 4 (dk_at dksX1_move_0 5 rfl rfl)
theorem dX1_move_7 : decode cX1_move 7 = .ok (.iload_n 2, 1) := dk_28 (dk_at dksX1_move_0 7 rfl rfl)
theorem dX1_move_8 : decode cX1_move 8 = .ok (.iconst 1, 1) := dk_4 (dk_at dksX1_move_0 8 rfl rfl)
theorem dX1_move_9 : decode cX1_move 9 = .ok (.if_icmp .lt 22, 3) := dk_161 0 22 (dk_at dksX1_move_0 9 rfl rfl)
theorem dX1_move_12 : decode cX1_move 12 = .ok (.iload_n 2, 1) := dk_28 (dk_at dksX1_move_0 12 rfl rfl)
theorem dX1_move_13 : decode cX1_move 13 = .ok (.aload 4, 2) := dk_25 4 (dk_at dksX1_move_0 13 rfl rfl)
theorem dX1_move_15 : decode cX1_move 15 = .ok (.arraylength, 1) := dk_190 (dk_at dksX1_move_0 15 rfl rfl)
theorem dX1_move_16 : decode cX1_move 16 = .ok (.if_icmp .gt 15, 3) := dk_163 0 15 (dk_at dksX1_move_0 16 rfl rfl)
theorem dX1_move_19 : decode cX1_move 19 = .ok (.iload_n 3, 1) := dk_29 (dk_at dksX1_move_0 19 rfl rfl)
theorem dX1_move_20 : decode cX1_move 20 = .ok (.iconst 1, 1) := dk_4 (dk_at dksX1_move_0 20 rfl rfl)
theorem dX1_move_21 : decode cX1_move 21 = .ok (.if_icmp .lt 10, 3) := dk_161 0 10 (dk_at dksX1_move_0 21 rfl rfl)
theorem dX1_move_24 : decode cX1_move 24 = .ok (.iload_n 3, 1) := dk_29 (dk_at dksX1_move_1 0 rfl rfl)
theorem dX1_move_25 : decode cX1_move 25 = .ok (.aload 4, 2) := dk_25 4 (dk_at dksX1_move_1 1 rfl rfl)
theorem dX1_move_27 : decode cX1_move 27 = .ok (.arraylength, 1) := dk_190 (dk_at dksX1_move_1 3 rfl rfl)
theorem dX1_move_28 : decode cX1_move 28 = .ok (.if_icmp .le 11, 3) := dk_164 0 11 (dk_at dksX1_move_1 4 rfl rfl)
theorem dX1_move_31 : decode cX1_move 31 = .ok (.new 239, 3) := dk_187 0 239 (dk_at dksX1_move_1 7 rfl rfl)
theorem dX1_move_34 : decode cX1_move 34 = .ok (.dup, 1) := dk_89 (dk_at dksX1_move_1 10 rfl rfl)
theorem dX1_move_35 : decode cX1_move 35 = .ok (.invokespecial 241, 3) := dk_183 0 241 (dk_at dksX1_move_1 11 rfl rfl)
theorem dX1_move_38 : decode cX1_move 38 = .ok (.athrow, 1) := dk_191 (dk_at dksX1_move_1 14 rfl rfl)
theorem dX1_move_39 : decode cX1_move 39 = .ok (.aload_n 0, 1) := dk_42 (dk_at dksX1_move_1 15 rfl rfl)
theorem dX1_move_40 : decode cX1_move 40 = .ok (.invokevirtual 274, 3) := dk_182 1 18 (dk_at dksX1_move_1 16 rfl rfl)
theorem dX1_move_43 : decode cX1_move 43 = .ok (.aload_n 0, 1) := dk_42 (dk_at dksX1_move_1 19 rfl rfl)
theorem dX1_move_44 : decode cX1_move 44 = .ok (.getfield 198, 3) := dk_180 0 198 (dk_at dksX1_move_1 20 rfl rfl)
theorem dX1_move_47 : decode cX1_move 47 = .ok (.iload_n 1, 1) := dk_27 (dk_at dksX1_move_1 23 rfl rfl)
theorem dX1_move_48 : decode cX1_move 48 = .ok (.aload 4, 2) := dk_25 4 (dk_at dksX1_move_2 0 rfl rfl)
theorem dX1_move_50 : decode cX1_move 50 = .ok (.iload_n 2, 1) := dk_28 (dk_at dksX1_move_2 2 rfl rfl)
theorem dX1_move_51 : decode cX1_move 51 = .ok (.iconst 1, 1) := dk_4 (dk_at dksX1_move_2 3 rfl rfl)
theorem dX1_move_52 : decode cX1_move 52 = .ok (.isub, 1) := dk_100 (dk_at dksX1_move_2 4 rfl rfl)
theorem dX1_move_53 : decode cX1_move 53 = .ok (.invokestatic 309, 3) := dk_184 1 53 (dk_at dksX1_move_2 5 rfl rfl)
theorem dX1_move_56 : decode cX1_move 56 = .ok (.iload_n 3, 1) := dk_29 (dk_at dksX1_move_2 8 rfl rfl)
theorem dX1_move_57 : decode cX1_move 57 = .ok (.iconst 1, 1) := dk_4 (dk_at dksX1_move_2 9 rfl rfl)
theorem dX1_move_58 : decode cX1_move 58 = .ok (.isub, 1) := dk_100 (dk_at dksX1_move_2 10 rfl rfl)
theorem dX1_move_59 : decode cX1_move 59 = .ok (.aload 4, 2) := dk_25 4 (dk_at dksX1_move_2 11 rfl rfl)
theorem dX1_move_61 : decode cX1_move 61 = .ok (.iload_n 2, 1) := dk_28 (dk_at dksX1_move_2 13 rfl rfl)
theorem dX1_move_62 : decode cX1_move 62 = .ok (.iconst 1, 1) := dk_4 (dk_at dksX1_move_2 14 rfl rfl)
theorem dX1_move_63 : decode cX1_move 63 = .ok (.isub, 1) := dk_100 (dk_at dksX1_move_2 15 rfl rfl)
theorem dX1_move_64 : decode cX1_move 64 = .ok (.iaload, 1) := dk_46 (dk_at dksX1_move_2 16 rfl rfl)
theorem dX1_move_65 : decode cX1_move 65 = .ok (.invokestatic 301, 3) := dk_184 1 45 (dk_at dksX1_move_2 17 rfl rfl)
theorem dX1_move_68 : decode cX1_move 68 = .ok (.invokevirtual 305, 3) := dk_182 1 49 (dk_at dksX1_move_2 20 rfl rfl)
theorem dX1_move_71 : decode cX1_move 71 = .ok (.iload_n 2, 1) := dk_28 (dk_at dksX1_move_2 23 rfl rfl)
theorem dX1_move_72 : decode cX1_move 72 = .ok (.iload_n 3, 1) := dk_29 (dk_at dksX1_move_3 0 rfl rfl)
theorem dX1_move_73 : decode cX1_move 73 = .ok (.if_icmp .ne 7, 3) := dk_160 0 7 (dk_at dksX1_move_3 1 rfl rfl)
theorem dX1_move_76 : decode cX1_move 76 = .ok (.iconst 0, 1) := dk_3 (dk_at dksX1_move_3 4 rfl rfl)
theorem dX1_move_77 : decode cX1_move 77 = .ok (.goto 11, 3) := dk_167 0 11 (dk_at dksX1_move_3 5 rfl rfl)
theorem dX1_move_80 : decode cX1_move 80 = .ok (.iload_n 2, 1) := dk_28 (dk_at dksX1_move_3 8 rfl rfl)
theorem dX1_move_81 : decode cX1_move 81 = .ok (.iload_n 3, 1) := dk_29 (dk_at dksX1_move_3 9 rfl rfl)
theorem dX1_move_82 : decode cX1_move 82 = .ok (.isub, 1) := dk_100 (dk_at dksX1_move_3 10 rfl rfl)
theorem dX1_move_83 : decode cX1_move 83 = .ok (.invokestatic 313, 3) := dk_184 1 57 (dk_at dksX1_move_3 11 rfl rfl)
theorem dX1_move_86 : decode cX1_move 86 = .ok (.iconst 1, 1) := dk_4 (dk_at dksX1_move_3 14 rfl rfl)
theorem dX1_move_87 : decode cX1_move 87 = .ok (.iadd, 1) := dk_96 (dk_at dksX1_move_3 15 rfl rfl)
theorem dX1_move_88 : decode cX1_move 88 = .ok (.ireturn, 1) := dk_172 (dk_at dksX1_move_3 16 rfl rfl)
abbrev cX1_copy : ByteArray := prog_1_method_27_code
def yX1_copy : MethodName := ⟨RX1, "copy", "(IIIIII)I"⟩
def dkwX1_copy_15 : List UInt8 := [21, 7, 21, 8, 104, 172]
abbrev dktX1_copy_15 : List UInt8 := dkwX1_copy_15 ++ []
def dkwX1_copy_14 : List UInt8 := [50, 21, 6, 4, 100, 21, 13, 96, 25, 14, 83, 132, 13, 1, 167, 255, 161, 132, 12, 1, 167, 255, 145]
abbrev dktX1_copy_14 : List UInt8 := dkwX1_copy_14 ++ dktX1_copy_15
def dkwX1_copy_13 : List UInt8 := [185, 1, 9, 1, 0, 183, 1, 87, 58, 14, 42, 180, 0, 198, 180, 1, 21, 21, 5, 4, 100, 21, 12, 96]
abbrev dktX1_copy_13 : List UInt8 := dkwX1_copy_13 ++ dktX1_copy_14
def dkwX1_copy_12 : List UInt8 := [153, 0, 34, 187, 1, 75, 89, 25, 14, 192, 1, 75, 180, 1, 77, 25, 11, 185, 1, 81, 2, 0, 25, 14]
abbrev dktX1_copy_12 : List UInt8 := dkwX1_copy_12 ++ dktX1_copy_13
def dkwX1_copy_11 : List UInt8 := [180, 1, 21, 27, 4, 100, 21, 12, 96, 50, 28, 4, 100, 21, 13, 96, 50, 58, 14, 25, 14, 193, 1, 75]
abbrev dktX1_copy_11 : List UInt8 := dkwX1_copy_11 ++ dktX1_copy_12
def dkwX1_copy_10 : List UInt8 := [58, 11, 3, 54, 12, 21, 12, 21, 7, 162, 0, 110, 3, 54, 13, 21, 13, 21, 8, 162, 0, 94, 25, 10]
abbrev dktX1_copy_10 : List UInt8 := dkwX1_copy_10 ++ dktX1_copy_11
def dkwX1_copy_9 : List UInt8 := [58, 10, 187, 1, 70, 89, 21, 5, 27, 100, 21, 6, 28, 100, 25, 10, 42, 180, 0, 102, 183, 1, 72]
abbrev dktX1_copy_9 : List UInt8 := dkwX1_copy_9 ++ dktX1_copy_10
def dkwX1_copy_8 : List UInt8 := [180, 1, 12, 21, 9, 96, 181, 1, 12, 42, 182, 1, 18, 42, 180, 0, 119, 42, 180, 0, 226, 4, 100, 50]
abbrev dktX1_copy_8 : List UInt8 := dkwX1_copy_8 ++ dktX1_copy_9
def dkwX1_copy_7 : List UInt8 := [180, 1, 12, 21, 9, 96, 19, 1, 14, 164, 0, 11, 187, 1, 15, 89, 183, 1, 17, 191, 42, 89]
abbrev dktX1_copy_7 : List UInt8 := dkwX1_copy_7 ++ dktX1_copy_8
def dkwX1_copy_6 : List UInt8 := [25, 12, 185, 1, 9, 1, 0, 96, 54, 9, 132, 11, 1, 167, 255, 202, 132, 10, 1, 167, 255, 186, 42]
abbrev dktX1_copy_6 : List UInt8 := dkwX1_copy_6 ++ dktX1_copy_7
def dkwX1_copy_5 : List UInt8 := [21, 10, 96, 50, 28, 4, 100, 21, 11, 96, 50, 58, 12, 21, 9, 25, 12, 199, 0, 7, 3, 167, 0, 10]
abbrev dktX1_copy_5 : List UInt8 := dkwX1_copy_5 ++ dktX1_copy_6
def dkwX1_copy_4 : List UInt8 := [162, 0, 69, 3, 54, 11, 21, 11, 21, 8, 162, 0, 53, 42, 180, 0, 198, 180, 1, 21, 27, 4, 100]
abbrev dktX1_copy_4 : List UInt8 := dkwX1_copy_4 ++ dktX1_copy_5
def dkwX1_copy_3 : List UInt8 := [180, 1, 67, 190, 21, 6, 100, 4, 96, 184, 1, 63, 54, 8, 3, 54, 9, 3, 54, 10, 21, 10, 21, 7]
abbrev dktX1_copy_3 : List UInt8 := dkwX1_copy_3 ++ dktX1_copy_4
def dkwX1_copy_2 : List UInt8 := [180, 1, 60, 190, 21, 5, 100, 4, 96, 184, 1, 63, 54, 7, 21, 4, 28, 100, 4, 96, 42, 180, 0, 198]
abbrev dktX1_copy_2 : List UInt8 := dkwX1_copy_2 ++ dktX1_copy_3
def dkwX1_copy_1 : List UInt8 := [183, 0, 241, 191, 42, 27, 28, 29, 21, 4, 182, 1, 25, 29, 27, 100, 4, 96, 42, 180, 0, 198]
abbrev dktX1_copy_1 : List UInt8 := dkwX1_copy_1 ++ dktX1_copy_2
def dkwX1_copy_0 : List UInt8 := [42, 180, 0, 198, 21, 5, 4, 100, 21, 6, 4, 100, 182, 0, 235, 154, 0, 11, 187, 0, 239, 89]
abbrev dktX1_copy_0 : List UInt8 := dkwX1_copy_0 ++ dktX1_copy_1
theorem dksX1_copy_0 : cX1_copy.data.toList.drop 0 = dktX1_copy_0 := by decide +kernel
theorem dksX1_copy_1 : cX1_copy.data.toList.drop 22 = dktX1_copy_1 := dk_seg dksX1_copy_0 22 rfl rfl
theorem dksX1_copy_2 : cX1_copy.data.toList.drop 44 = dktX1_copy_2 := dk_seg dksX1_copy_1 22 rfl rfl
theorem dksX1_copy_3 : cX1_copy.data.toList.drop 68 = dktX1_copy_3 := dk_seg dksX1_copy_2 24 rfl rfl
theorem dksX1_copy_4 : cX1_copy.data.toList.drop 92 = dktX1_copy_4 := dk_seg dksX1_copy_3 24 rfl rfl
theorem dksX1_copy_5 : cX1_copy.data.toList.drop 115 = dktX1_copy_5 := dk_seg dksX1_copy_4 23 rfl rfl
theorem dksX1_copy_6 : cX1_copy.data.toList.drop 139 = dktX1_copy_6 := dk_seg dksX1_copy_5 24 rfl rfl
theorem dksX1_copy_7 : cX1_copy.data.toList.drop 162 = dktX1_copy_7 := dk_seg dksX1_copy_6 23 rfl rfl
theorem dksX1_copy_8 : cX1_copy.data.toList.drop 184 = dktX1_copy_8 := dk_seg dksX1_copy_7 22 rfl rfl
theorem dksX1_copy_9 : cX1_copy.data.toList.drop 208 = dktX1_copy_9 := dk_seg dksX1_copy_8 24 rfl rfl
theorem dksX1_copy_10 : cX1_copy.data.toList.drop 231 = dktX1_copy_10 := dk_seg dksX1_copy_9 23 rfl rfl
theorem dksX1_copy_11 : cX1_copy.data.toList.drop 255 = dktX1_copy_11 := dk_seg dksX1_copy_10 24 rfl rfl
theorem dksX1_copy_12 : cX1_copy.data.toList.drop 279 = dktX1_copy_12 := dk_seg dksX1_copy_11 24 rfl rfl
theorem dksX1_copy_13 : cX1_copy.data.toList.drop 303 = dktX1_copy_13 := dk_seg dksX1_copy_12 24 rfl rfl
theorem dksX1_copy_14 : cX1_copy.data.toList.drop 327 = dktX1_copy_14 := dk_seg dksX1_copy_13 24 rfl rfl
theorem dksX1_copy_15 : cX1_copy.data.toList.drop 350 = dktX1_copy_15 := dk_seg dksX1_copy_14 23 rfl rfl
theorem dX1_copy_0 : decode cX1_copy 0 = .ok (.aload_n 0, 1) := dk_42 (dk_at dksX1_copy_0 0 rfl rfl)
theorem dX1_copy_1 : decode cX1_copy 1 = .ok (.getfield 198, 3) := dk_180 0 198 (dk_at dksX1_copy_0 1 rfl rfl)
theorem dX1_copy_4 : decode cX1_copy 4 = .ok (.iload 5, 2) := dk_21 5 (dk_at dksX1_copy_0 4 rfl rfl)
theorem dX1_copy_6 : decode cX1_copy 6 = .ok (.iconst 1, 1) := dk_4 (dk_at dksX1_copy_0 6 rfl rfl)
theorem dX1_copy_7 : decode cX1_copy 7 = .ok (.isub, 1) := dk_100 (dk_at dksX1_copy_0 7 rfl rfl)
theorem dX1_copy_8 : decode cX1_copy 8 = .ok (.iload 6, 2) := dk_21 6 (dk_at dksX1_copy_0 8 rfl rfl)
theorem dX1_copy_10 : decode cX1_copy 10 = .ok (.iconst 1, 1) := dk_4 (dk_at dksX1_copy_0 10 rfl rfl)
theorem dX1_copy_11 : decode cX1_copy 11 = .ok (.isub, 1) := dk_100 (dk_at dksX1_copy_0 11 rfl rfl)
theorem dX1_copy_12 : decode cX1_copy 12 = .ok (.invokevirtual 235, 3) := dk_182 0 235 (dk_at dksX1_copy_0 12 rfl rfl)
theorem dX1_copy_15 : decode cX1_copy 15 = .ok (.ifCond .ne 11, 3) := dk_154 0 11 (dk_at dksX1_copy_0 15 rfl rfl)
theorem dX1_copy_18 : decode cX1_copy 18 = .ok (.new 239, 3) := dk_187 0 239 (dk_at dksX1_copy_0 18 rfl rfl)
theorem dX1_copy_21 : decode cX1_copy 21 = .ok (.dup, 1) := dk_89 (dk_at dksX1_copy_0 21 rfl rfl)
theorem dX1_copy_22 : decode cX1_copy 22 = .ok (.invokespecial 241, 3) := dk_183 0 241 (dk_at dksX1_copy_1 0 rfl rfl)
theorem dX1_copy_25 : decode cX1_copy 25 = .ok (.athrow, 1) := dk_191 (dk_at dksX1_copy_1 3 rfl rfl)
theorem dX1_copy_26 : decode cX1_copy 26 = .ok (.aload_n 0, 1) := dk_42 (dk_at dksX1_copy_1 4 rfl rfl)
theorem dX1_copy_27 : decode cX1_copy 27 = .ok (.iload_n 1, 1) := dk_27 (dk_at dksX1_copy_1 5 rfl rfl)
theorem dX1_copy_28 : decode cX1_copy 28 = .ok (.iload_n 2, 1) := dk_28 (dk_at dksX1_copy_1 6 rfl rfl)
theorem dX1_copy_29 : decode cX1_copy 29 = .ok (.iload_n 3, 1) := dk_29 (dk_at dksX1_copy_1 7 rfl rfl)
theorem dX1_copy_30 : decode cX1_copy 30 = .ok (.iload 4, 2) := dk_21 4 (dk_at dksX1_copy_1 8 rfl rfl)
theorem dX1_copy_32 : decode cX1_copy 32 = .ok (.invokevirtual 281, 3) := dk_182 1 25 (dk_at dksX1_copy_1 10 rfl rfl)
theorem dX1_copy_35 : decode cX1_copy 35 = .ok (.iload_n 3, 1) := dk_29 (dk_at dksX1_copy_1 13 rfl rfl)
theorem dX1_copy_36 : decode cX1_copy 36 = .ok (.iload_n 1, 1) := dk_27 (dk_at dksX1_copy_1 14 rfl rfl)
theorem dX1_copy_37 : decode cX1_copy 37 = .ok (.isub, 1) := dk_100 (dk_at dksX1_copy_1 15 rfl rfl)
theorem dX1_copy_38 : decode cX1_copy 38 = .ok (.iconst 1, 1) := dk_4 (dk_at dksX1_copy_1 16 rfl rfl)
theorem dX1_copy_39 : decode cX1_copy 39 = .ok (.iadd, 1) := dk_96 (dk_at dksX1_copy_1 17 rfl rfl)
theorem dX1_copy_40 : decode cX1_copy 40 = .ok (.aload_n 0, 1) := dk_42 (dk_at dksX1_copy_1 18 rfl rfl)
theorem dX1_copy_41 : decode cX1_copy 41 = .ok (.getfield 198, 3) := dk_180 0 198 (dk_at dksX1_copy_1 19 rfl rfl)
theorem dX1_copy_44 : decode cX1_copy 44 = .ok (.getfield 316, 3) := dk_180 1 60 (dk_at dksX1_copy_2 0 rfl rfl)
theorem dX1_copy_47 : decode cX1_copy 47 = .ok (.arraylength, 1) := dk_190 (dk_at dksX1_copy_2 3 rfl rfl)
theorem dX1_copy_48 : decode cX1_copy 48 = .ok (.iload 5, 2) := dk_21 5 (dk_at dksX1_copy_2 4 rfl rfl)
theorem dX1_copy_50 : decode cX1_copy 50 = .ok (.isub, 1) := dk_100 (dk_at dksX1_copy_2 6 rfl rfl)
theorem dX1_copy_51 : decode cX1_copy 51 = .ok (.iconst 1, 1) := dk_4 (dk_at dksX1_copy_2 7 rfl rfl)
theorem dX1_copy_52 : decode cX1_copy 52 = .ok (.iadd, 1) := dk_96 (dk_at dksX1_copy_2 8 rfl rfl)
theorem dX1_copy_53 : decode cX1_copy 53 = .ok (.invokestatic 319, 3) := dk_184 1 63 (dk_at dksX1_copy_2 9 rfl rfl)
theorem dX1_copy_56 : decode cX1_copy 56 = .ok (.istore 7, 2) := dk_54 7 (dk_at dksX1_copy_2 12 rfl rfl)
theorem dX1_copy_58 : decode cX1_copy 58 = .ok (.iload 4, 2) := dk_21 4 (dk_at dksX1_copy_2 14 rfl rfl)
theorem dX1_copy_60 : decode cX1_copy 60 = .ok (.iload_n 2, 1) := dk_28 (dk_at dksX1_copy_2 16 rfl rfl)
theorem dX1_copy_61 : decode cX1_copy 61 = .ok (.isub, 1) := dk_100 (dk_at dksX1_copy_2 17 rfl rfl)
theorem dX1_copy_62 : decode cX1_copy 62 = .ok (.iconst 1, 1) := dk_4 (dk_at dksX1_copy_2 18 rfl rfl)
theorem dX1_copy_63 : decode cX1_copy 63 = .ok (.iadd, 1) := dk_96 (dk_at dksX1_copy_2 19 rfl rfl)
theorem dX1_copy_64 : decode cX1_copy 64 = .ok (.aload_n 0, 1) := dk_42 (dk_at dksX1_copy_2 20 rfl rfl)
theorem dX1_copy_65 : decode cX1_copy 65 = .ok (.getfield 198, 3) := dk_180 0 198 (dk_at dksX1_copy_2 21 rfl rfl)
theorem dX1_copy_68 : decode cX1_copy 68 = .ok (.getfield 323, 3) := dk_180 1 67 (dk_at dksX1_copy_3 0 rfl rfl)
theorem dX1_copy_71 : decode cX1_copy 71 = .ok (.arraylength, 1) := dk_190 (dk_at dksX1_copy_3 3 rfl rfl)
theorem dX1_copy_72 : decode cX1_copy 72 = .ok (.iload 6, 2) := dk_21 6 (dk_at dksX1_copy_3 4 rfl rfl)
theorem dX1_copy_74 : decode cX1_copy 74 = .ok (.isub, 1) := dk_100 (dk_at dksX1_copy_3 6 rfl rfl)
theorem dX1_copy_75 : decode cX1_copy 75 = .ok (.iconst 1, 1) := dk_4 (dk_at dksX1_copy_3 7 rfl rfl)
theorem dX1_copy_76 : decode cX1_copy 76 = .ok (.iadd, 1) := dk_96 (dk_at dksX1_copy_3 8 rfl rfl)
theorem dX1_copy_77 : decode cX1_copy 77 = .ok (.invokestatic 319, 3) := dk_184 1 63 (dk_at dksX1_copy_3 9 rfl rfl)
theorem dX1_copy_80 : decode cX1_copy 80 = .ok (.istore 8, 2) := dk_54 8 (dk_at dksX1_copy_3 12 rfl rfl)
theorem dX1_copy_82 : decode cX1_copy 82 = .ok (.iconst 0, 1) := dk_3 (dk_at dksX1_copy_3 14 rfl rfl)
theorem dX1_copy_83 : decode cX1_copy 83 = .ok (.istore 9, 2) := dk_54 9 (dk_at dksX1_copy_3 15 rfl rfl)
theorem dX1_copy_85 : decode cX1_copy 85 = .ok (.iconst 0, 1) := dk_3 (dk_at dksX1_copy_3 17 rfl rfl)
theorem dX1_copy_86 : decode cX1_copy 86 = .ok (.istore 10, 2) := dk_54 10 (dk_at dksX1_copy_3 18 rfl rfl)
theorem dX1_copy_88 : decode cX1_copy 88 = .ok (.iload 10, 2) := dk_21 10 (dk_at dksX1_copy_3 20 rfl rfl)
theorem dX1_copy_90 : decode cX1_copy 90 = .ok (.iload 7, 2) := dk_21 7 (dk_at dksX1_copy_3 22 rfl rfl)
theorem dX1_copy_92 : decode cX1_copy 92 = .ok (.if_icmp .ge 69, 3) := dk_162 0 69 (dk_at dksX1_copy_4 0 rfl rfl)
theorem dX1_copy_95 : decode cX1_copy 95 = .ok (.iconst 0, 1) := dk_3 (dk_at dksX1_copy_4 3 rfl rfl)
theorem dX1_copy_96 : decode cX1_copy 96 = .ok (.istore 11, 2) := dk_54 11 (dk_at dksX1_copy_4 4 rfl rfl)
theorem dX1_copy_98 : decode cX1_copy 98 = .ok (.iload 11, 2) := dk_21 11 (dk_at dksX1_copy_4 6 rfl rfl)
theorem dX1_copy_100 : decode cX1_copy 100 = .ok (.iload 8, 2) := dk_21 8 (dk_at dksX1_copy_4 8 rfl rfl)
theorem dX1_copy_102 : decode cX1_copy 102 = .ok (.if_icmp .ge 53, 3) := dk_162 0 53 (dk_at dksX1_copy_4 10 rfl rfl)
theorem dX1_copy_105 : decode cX1_copy 105 = .ok (.aload_n 0, 1) := dk_42 (dk_at dksX1_copy_4 13 rfl rfl)
theorem dX1_copy_106 : decode cX1_copy 106 = .ok (.getfield 198, 3) := dk_180 0 198 (dk_at dksX1_copy_4 14 rfl rfl)
theorem dX1_copy_109 : decode cX1_copy 109 = .ok (.getfield 277, 3) := dk_180 1 21 (dk_at dksX1_copy_4 17 rfl rfl)
theorem dX1_copy_112 : decode cX1_copy 112 = .ok (.iload_n 1, 1) := dk_27 (dk_at dksX1_copy_4 20 rfl rfl)
theorem dX1_copy_113 : decode cX1_copy 113 = .ok (.iconst 1, 1) := dk_4 (dk_at dksX1_copy_4 21 rfl rfl)
theorem dX1_copy_114 : decode cX1_copy 114 = .ok (.isub, 1) := dk_100 (dk_at dksX1_copy_4 22 rfl rfl)
theorem dX1_copy_115 : decode cX1_copy 115 = .ok (.iload 10, 2) := dk_21 10 (dk_at dksX1_copy_5 0 rfl rfl)
theorem dX1_copy_117 : decode cX1_copy 117 = .ok (.iadd, 1) := dk_96 (dk_at dksX1_copy_5 2 rfl rfl)
theorem dX1_copy_118 : decode cX1_copy 118 = .ok (.aaload, 1) := dk_50 (dk_at dksX1_copy_5 3 rfl rfl)
theorem dX1_copy_119 : decode cX1_copy 119 = .ok (.iload_n 2, 1) := dk_28 (dk_at dksX1_copy_5 4 rfl rfl)
theorem dX1_copy_120 : decode cX1_copy 120 = .ok (.iconst 1, 1) := dk_4 (dk_at dksX1_copy_5 5 rfl rfl)
theorem dX1_copy_121 : decode cX1_copy 121 = .ok (.isub, 1) := dk_100 (dk_at dksX1_copy_5 6 rfl rfl)
theorem dX1_copy_122 : decode cX1_copy 122 = .ok (.iload 11, 2) := dk_21 11 (dk_at dksX1_copy_5 7 rfl rfl)
theorem dX1_copy_124 : decode cX1_copy 124 = .ok (.iadd, 1) := dk_96 (dk_at dksX1_copy_5 9 rfl rfl)
theorem dX1_copy_125 : decode cX1_copy 125 = .ok (.aaload, 1) := dk_50 (dk_at dksX1_copy_5 10 rfl rfl)
theorem dX1_copy_126 : decode cX1_copy 126 = .ok (.astore 12, 2) := dk_58 12 (dk_at dksX1_copy_5 11 rfl rfl)
theorem dX1_copy_128 : decode cX1_copy 128 = .ok (.iload 9, 2) := dk_21 9 (dk_at dksX1_copy_5 13 rfl rfl)
theorem dX1_copy_130 : decode cX1_copy 130 = .ok (.aload 12, 2) := dk_25 12 (dk_at dksX1_copy_5 15 rfl rfl)
theorem dX1_copy_132 : decode cX1_copy 132 = .ok (.ifnonnull 7, 3) := dk_199 0 7 (dk_at dksX1_copy_5 17 rfl rfl)
theorem dX1_copy_135 : decode cX1_copy 135 = .ok (.iconst 0, 1) := dk_3 (dk_at dksX1_copy_5 20 rfl rfl)
theorem dX1_copy_136 : decode cX1_copy 136 = .ok (.goto 10, 3) := dk_167 0 10 (dk_at dksX1_copy_5 21 rfl rfl)
theorem dX1_copy_139 : decode cX1_copy 139 = .ok (.aload 12, 2) := dk_25 12 (dk_at dksX1_copy_6 0 rfl rfl)
theorem dX1_copy_141 : decode cX1_copy 141 = .ok (.invokeinterface 265 1, 5) := by decide +kernel
theorem dX1_copy_146 : decode cX1_copy 146 = .ok (.iadd, 1) := dk_96 (dk_at dksX1_copy_6 7 rfl rfl)
theorem dX1_copy_147 : decode cX1_copy 147 = .ok (.istore 9, 2) := dk_54 9 (dk_at dksX1_copy_6 8 rfl rfl)
theorem dX1_copy_149 : decode cX1_copy 149 = .ok (.iinc 11 1, 3) := dk_132 11 1 (dk_at dksX1_copy_6 10 rfl rfl)
theorem dX1_copy_152 : decode cX1_copy 152 = .ok (.goto (-54), 3) := dk_167 255 202 (dk_at dksX1_copy_6 13 rfl rfl)
theorem dX1_copy_155 : decode cX1_copy 155 = .ok (.iinc 10 1, 3) := dk_132 10 1 (dk_at dksX1_copy_6 16 rfl rfl)
theorem dX1_copy_158 : decode cX1_copy 158 = .ok (.goto (-70), 3) := dk_167 255 186 (dk_at dksX1_copy_6 19 rfl rfl)
theorem dX1_copy_161 : decode cX1_copy 161 = .ok (.aload_n 0, 1) := dk_42 (dk_at dksX1_copy_6 22 rfl rfl)
theorem dX1_copy_162 : decode cX1_copy 162 = .ok (.getfield 268, 3) := dk_180 1 12 (dk_at dksX1_copy_7 0 rfl rfl)
theorem dX1_copy_165 : decode cX1_copy 165 = .ok (.iload 9, 2) := dk_21 9 (dk_at dksX1_copy_7 3 rfl rfl)
theorem dX1_copy_167 : decode cX1_copy 167 = .ok (.iadd, 1) := dk_96 (dk_at dksX1_copy_7 5 rfl rfl)
theorem dX1_copy_168 : decode cX1_copy 168 = .ok (.ldc_w 270, 3) := dk_19 1 14 (dk_at dksX1_copy_7 6 rfl rfl)
theorem dX1_copy_171 : decode cX1_copy 171 = .ok (.if_icmp .le 11, 3) := dk_164 0 11 (dk_at dksX1_copy_7 9 rfl rfl)
theorem dX1_copy_174 : decode cX1_copy 174 = .ok (.new 271, 3) := dk_187 1 15 (dk_at dksX1_copy_7 12 rfl rfl)
theorem dX1_copy_177 : decode cX1_copy 177 = .ok (.dup, 1) := dk_89 (dk_at dksX1_copy_7 15 rfl rfl)
theorem dX1_copy_178 : decode cX1_copy 178 = .ok (.invokespecial 273, 3) := dk_183 1 17 (dk_at dksX1_copy_7 16 rfl rfl)
theorem dX1_copy_181 : decode cX1_copy 181 = .ok (.athrow, 1) := dk_191 (dk_at dksX1_copy_7 19 rfl rfl)
theorem dX1_copy_182 : decode cX1_copy 182 = .ok (.aload_n 0, 1) := dk_42 (dk_at dksX1_copy_7 20 rfl rfl)
theorem dX1_copy_183 : decode cX1_copy 183 = .ok (.dup, 1) := dk_89 (dk_at dksX1_copy_7 21 rfl rfl)
theorem dX1_copy_184 : decode cX1_copy 184 = .ok (.getfield 268, 3) := dk_180 1 12 (dk_at dksX1_copy_8 0 rfl rfl)
theorem dX1_copy_187 : decode cX1_copy 187 = .ok (.iload 9, 2) := dk_21 9 (dk_at dksX1_copy_8 3 rfl rfl)
theorem dX1_copy_189 : decode cX1_copy 189 = .ok (.iadd, 1) := dk_96 (dk_at dksX1_copy_8 5 rfl rfl)
theorem dX1_copy_190 : decode cX1_copy 190 = .ok (.putfield 268, 3) := dk_181 1 12 (dk_at dksX1_copy_8 6 rfl rfl)
theorem dX1_copy_193 : decode cX1_copy 193 = .ok (.aload_n 0, 1) := dk_42 (dk_at dksX1_copy_8 9 rfl rfl)
theorem dX1_copy_194 : decode cX1_copy 194 = .ok (.invokevirtual 274, 3) := dk_182 1 18 (dk_at dksX1_copy_8 10 rfl rfl)
theorem dX1_copy_197 : decode cX1_copy 197 = .ok (.aload_n 0, 1) := dk_42 (dk_at dksX1_copy_8 13 rfl rfl)
theorem dX1_copy_198 : decode cX1_copy 198 = .ok (.getfield 119, 3) := dk_180 0 119 (dk_at dksX1_copy_8 14 rfl rfl)
theorem dX1_copy_201 : decode cX1_copy 201 = .ok (.aload_n 0, 1) := dk_42 (dk_at dksX1_copy_8 17 rfl rfl)
theorem dX1_copy_202 : decode cX1_copy 202 = .ok (.getfield 226, 3) := dk_180 0 226 (dk_at dksX1_copy_8 18 rfl rfl)
theorem dX1_copy_205 : decode cX1_copy 205 = .ok (.iconst 1, 1) := dk_4 (dk_at dksX1_copy_8 21 rfl rfl)
theorem dX1_copy_206 : decode cX1_copy 206 = .ok (.isub, 1) := dk_100 (dk_at dksX1_copy_8 22 rfl rfl)
theorem dX1_copy_207 : decode cX1_copy 207 = .ok (.aaload, 1) := dk_50 (dk_at dksX1_copy_8 23 rfl rfl)
theorem dX1_copy_208 : decode cX1_copy 208 = .ok (.astore 10, 2) := dk_58 10 (dk_at dksX1_copy_9 0 rfl rfl)
theorem dX1_copy_210 : decode cX1_copy 210 = .ok (.new 326, 3) := dk_187 1 70 (dk_at dksX1_copy_9 2 rfl rfl)
theorem dX1_copy_213 : decode cX1_copy 213 = .ok (.dup, 1) := dk_89 (dk_at dksX1_copy_9 5 rfl rfl)
theorem dX1_copy_214 : decode cX1_copy 214 = .ok (.iload 5, 2) := dk_21 5 (dk_at dksX1_copy_9 6 rfl rfl)
theorem dX1_copy_216 : decode cX1_copy 216 = .ok (.iload_n 1, 1) := dk_27 (dk_at dksX1_copy_9 8 rfl rfl)
theorem dX1_copy_217 : decode cX1_copy 217 = .ok (.isub, 1) := dk_100 (dk_at dksX1_copy_9 9 rfl rfl)
theorem dX1_copy_218 : decode cX1_copy 218 = .ok (.iload 6, 2) := dk_21 6 (dk_at dksX1_copy_9 10 rfl rfl)
theorem dX1_copy_220 : decode cX1_copy 220 = .ok (.iload_n 2, 1) := dk_28 (dk_at dksX1_copy_9 12 rfl rfl)
theorem dX1_copy_221 : decode cX1_copy 221 = .ok (.isub, 1) := dk_100 (dk_at dksX1_copy_9 13 rfl rfl)
theorem dX1_copy_222 : decode cX1_copy 222 = .ok (.aload 10, 2) := dk_25 10 (dk_at dksX1_copy_9 14 rfl rfl)
theorem dX1_copy_224 : decode cX1_copy 224 = .ok (.aload_n 0, 1) := dk_42 (dk_at dksX1_copy_9 16 rfl rfl)
theorem dX1_copy_225 : decode cX1_copy 225 = .ok (.getfield 102, 3) := dk_180 0 102 (dk_at dksX1_copy_9 17 rfl rfl)
theorem dX1_copy_228 : decode cX1_copy 228 = .ok (.invokespecial 328, 3) := dk_183 1 72 (dk_at dksX1_copy_9 20 rfl rfl)
theorem dX1_copy_231 : decode cX1_copy 231 = .ok (.astore 11, 2) := dk_58 11 (dk_at dksX1_copy_10 0 rfl rfl)
theorem dX1_copy_233 : decode cX1_copy 233 = .ok (.iconst 0, 1) := dk_3 (dk_at dksX1_copy_10 2 rfl rfl)
theorem dX1_copy_234 : decode cX1_copy 234 = .ok (.istore 12, 2) := dk_54 12 (dk_at dksX1_copy_10 3 rfl rfl)
theorem dX1_copy_236 : decode cX1_copy 236 = .ok (.iload 12, 2) := dk_21 12 (dk_at dksX1_copy_10 5 rfl rfl)
theorem dX1_copy_238 : decode cX1_copy 238 = .ok (.iload 7, 2) := dk_21 7 (dk_at dksX1_copy_10 7 rfl rfl)
theorem dX1_copy_240 : decode cX1_copy 240 = .ok (.if_icmp .ge 110, 3) := dk_162 0 110 (dk_at dksX1_copy_10 9 rfl rfl)
theorem dX1_copy_243 : decode cX1_copy 243 = .ok (.iconst 0, 1) := dk_3 (dk_at dksX1_copy_10 12 rfl rfl)
theorem dX1_copy_244 : decode cX1_copy 244 = .ok (.istore 13, 2) := dk_54 13 (dk_at dksX1_copy_10 13 rfl rfl)
theorem dX1_copy_246 : decode cX1_copy 246 = .ok (.iload 13, 2) := dk_21 13 (dk_at dksX1_copy_10 15 rfl rfl)
theorem dX1_copy_248 : decode cX1_copy 248 = .ok (.iload 8, 2) := dk_21 8 (dk_at dksX1_copy_10 17 rfl rfl)
theorem dX1_copy_250 : decode cX1_copy 250 = .ok (.if_icmp .ge 94, 3) := dk_162 0 94 (dk_at dksX1_copy_10 19 rfl rfl)
theorem dX1_copy_253 : decode cX1_copy 253 = .ok (.aload 10, 2) := dk_25 10 (dk_at dksX1_copy_10 22 rfl rfl)
theorem dX1_copy_255 : decode cX1_copy 255 = .ok (.getfield 277, 3) := dk_180 1 21 (dk_at dksX1_copy_11 0 rfl rfl)
theorem dX1_copy_258 : decode cX1_copy 258 = .ok (.iload_n 1, 1) := dk_27 (dk_at dksX1_copy_11 3 rfl rfl)
theorem dX1_copy_259 : decode cX1_copy 259 = .ok (.iconst 1, 1) := dk_4 (dk_at dksX1_copy_11 4 rfl rfl)
theorem dX1_copy_260 : decode cX1_copy 260 = .ok (.isub, 1) := dk_100 (dk_at dksX1_copy_11 5 rfl rfl)
theorem dX1_copy_261 : decode cX1_copy 261 = .ok (.iload 12, 2) := dk_21 12 (dk_at dksX1_copy_11 6 rfl rfl)
theorem dX1_copy_263 : decode cX1_copy 263 = .ok (.iadd, 1) := dk_96 (dk_at dksX1_copy_11 8 rfl rfl)
theorem dX1_copy_264 : decode cX1_copy 264 = .ok (.aaload, 1) := dk_50 (dk_at dksX1_copy_11 9 rfl rfl)
theorem dX1_copy_265 : decode cX1_copy 265 = .ok (.iload_n 2, 1) := dk_28 (dk_at dksX1_copy_11 10 rfl rfl)
theorem dX1_copy_266 : decode cX1_copy 266 = .ok (.iconst 1, 1) := dk_4 (dk_at dksX1_copy_11 11 rfl rfl)
theorem dX1_copy_267 : decode cX1_copy 267 = .ok (.isub, 1) := dk_100 (dk_at dksX1_copy_11 12 rfl rfl)
theorem dX1_copy_268 : decode cX1_copy 268 = .ok (.iload 13, 2) := dk_21 13 (dk_at dksX1_copy_11 13 rfl rfl)
theorem dX1_copy_270 : decode cX1_copy 270 = .ok (.iadd, 1) := dk_96 (dk_at dksX1_copy_11 15 rfl rfl)
theorem dX1_copy_271 : decode cX1_copy 271 = .ok (.aaload, 1) := dk_50 (dk_at dksX1_copy_11 16 rfl rfl)
theorem dX1_copy_272 : decode cX1_copy 272 = .ok (.astore 14, 2) := dk_58 14 (dk_at dksX1_copy_11 17 rfl rfl)
theorem dX1_copy_274 : decode cX1_copy 274 = .ok (.aload 14, 2) := dk_25 14 (dk_at dksX1_copy_11 19 rfl rfl)
theorem dX1_copy_276 : decode cX1_copy 276 = .ok (.instanceof 331, 3) := dk_193 1 75 (dk_at dksX1_copy_11 21 rfl rfl)
theorem dX1_copy_279 : decode cX1_copy 279 = .ok (.ifCond .eq 34, 3) := dk_153 0 34 (dk_at dksX1_copy_12 0 rfl rfl)
theorem dX1_copy_282 : decode cX1_copy 282 = .ok (.new 331, 3) := dk_187 1 75 (dk_at dksX1_copy_12 3 rfl rfl)
theorem dX1_copy_285 : decode cX1_copy 285 = .ok (.dup, 1) := dk_89 (dk_at dksX1_copy_12 6 rfl rfl)
theorem dX1_copy_286 : decode cX1_copy 286 = .ok (.aload 14, 2) := dk_25 14 (dk_at dksX1_copy_12 7 rfl rfl)
theorem dX1_copy_288 : decode cX1_copy 288 = .ok (.checkcast 331, 3) := dk_192 1 75 (dk_at dksX1_copy_12 9 rfl rfl)
theorem dX1_copy_291 : decode cX1_copy 291 = .ok (.getfield 333, 3) := dk_180 1 77 (dk_at dksX1_copy_12 12 rfl rfl)
theorem dX1_copy_294 : decode cX1_copy 294 = .ok (.aload 11, 2) := dk_25 11 (dk_at dksX1_copy_12 15 rfl rfl)
theorem dX1_copy_296 : decode cX1_copy 296 = .ok (.invokeinterface 337 2, 5) := by decide +kernel
theorem dX1_copy_301 : decode cX1_copy 301 = .ok (.aload 14, 2) := dk_25 14 (dk_at dksX1_copy_12 22 rfl rfl)
theorem dX1_copy_303 : decode cX1_copy 303 = .ok (.invokeinterface 265 1, 5) := by decide +kernel
theorem dX1_copy_308 : decode cX1_copy 308 = .ok (.invokespecial 343, 3) := dk_183 1 87 (dk_at dksX1_copy_13 5 rfl rfl)
theorem dX1_copy_311 : decode cX1_copy 311 = .ok (.astore 14, 2) := dk_58 14 (dk_at dksX1_copy_13 8 rfl rfl)
theorem dX1_copy_313 : decode cX1_copy 313 = .ok (.aload_n 0, 1) := dk_42 (dk_at dksX1_copy_13 10 rfl rfl)
theorem dX1_copy_314 : decode cX1_copy 314 = .ok (.getfield 198, 3) := dk_180 0 198 (dk_at dksX1_copy_13 11 rfl rfl)
theorem dX1_copy_317 : decode cX1_copy 317 = .ok (.getfield 277, 3) := dk_180 1 21 (dk_at dksX1_copy_13 14 rfl rfl)
theorem dX1_copy_320 : decode cX1_copy 320 = .ok (.iload 5, 2) := dk_21 5 (dk_at dksX1_copy_13 17 rfl rfl)
theorem dX1_copy_322 : decode cX1_copy 322 = .ok (.iconst 1, 1) := dk_4 (dk_at dksX1_copy_13 19 rfl rfl)
theorem dX1_copy_323 : decode cX1_copy 323 = .ok (.isub, 1) := dk_100 (dk_at dksX1_copy_13 20 rfl rfl)
theorem dX1_copy_324 : decode cX1_copy 324 = .ok (.iload 12, 2) := dk_21 12 (dk_at dksX1_copy_13 21 rfl rfl)
theorem dX1_copy_326 : decode cX1_copy 326 = .ok (.iadd, 1) := dk_96 (dk_at dksX1_copy_13 23 rfl rfl)
theorem dX1_copy_327 : decode cX1_copy 327 = .ok (.aaload, 1) := dk_50 (dk_at dksX1_copy_14 0 rfl rfl)
theorem dX1_copy_328 : decode cX1_copy 328 = .ok (.iload 6, 2) := dk_21 6 (dk_at dksX1_copy_14 1 rfl rfl)
theorem dX1_copy_330 : decode cX1_copy 330 = .ok (.iconst 1, 1) := dk_4 (dk_at dksX1_copy_14 3 rfl rfl)
theorem dX1_copy_331 : decode cX1_copy 331 = .ok (.isub, 1) := dk_100 (dk_at dksX1_copy_14 4 rfl rfl)
theorem dX1_copy_332 : decode cX1_copy 332 = .ok (.iload 13, 2) := dk_21 13 (dk_at dksX1_copy_14 5 rfl rfl)
theorem dX1_copy_334 : decode cX1_copy 334 = .ok (.iadd, 1) := dk_96 (dk_at dksX1_copy_14 7 rfl rfl)
theorem dX1_copy_335 : decode cX1_copy 335 = .ok (.aload 14, 2) := dk_25 14 (dk_at dksX1_copy_14 8 rfl rfl)
theorem dX1_copy_337 : decode cX1_copy 337 = .ok (.aastore, 1) := dk_83 (dk_at dksX1_copy_14 10 rfl rfl)
theorem dX1_copy_338 : decode cX1_copy 338 = .ok (.iinc 13 1, 3) := dk_132 13 1 (dk_at dksX1_copy_14 11 rfl rfl)
theorem dX1_copy_341 : decode cX1_copy 341 = .ok (.goto (-95), 3) := dk_167 255 161 (dk_at dksX1_copy_14 14 rfl rfl)
theorem dX1_copy_344 : decode cX1_copy 344 = .ok (.iinc 12 1, 3) := dk_132 12 1 (dk_at dksX1_copy_14 17 rfl rfl)
theorem dX1_copy_347 : decode cX1_copy 347 = .ok (.goto (-111), 3) := dk_167 255 145 (dk_at dksX1_copy_14 20 rfl rfl)
theorem dX1_copy_350 : decode cX1_copy 350 = .ok (.iload 7, 2) := dk_21 7 (dk_at dksX1_copy_15 0 rfl rfl)
theorem dX1_copy_352 : decode cX1_copy 352 = .ok (.iload 8, 2) := dk_21 8 (dk_at dksX1_copy_15 2 rfl rfl)
theorem dX1_copy_354 : decode cX1_copy 354 = .ok (.imul, 1) := dk_104 (dk_at dksX1_copy_15 4 rfl rfl)
theorem dX1_copy_355 : decode cX1_copy 355 = .ok (.ireturn, 1) := dk_172 (dk_at dksX1_copy_15 5 rfl rfl)
abbrev cX1_sort : ByteArray := prog_1_method_30_code
def yX1_sort : MethodName := ⟨RX1, "sort", "(IIIZ)I"⟩
def dkwX1_sort_10 : List UInt8 := [42, 182, 1, 18, 42, 180, 0, 198, 3, 25, 7, 182, 1, 49, 21, 8, 172]
abbrev dktX1_sort_10 : List UInt8 := dkwX1_sort_10 ++ []
def dkwX1_sort_9 : List UInt8 := [25, 6, 21, 9, 46, 21, 9, 160, 0, 7, 3, 167, 0, 4, 4, 96, 54, 8, 132, 9, 1, 167, 255, 207]
abbrev dktX1_sort_9 : List UInt8 := dkwX1_sort_9 ++ dktX1_sort_10
def dkwX1_sort_8 : List UInt8 := [190, 162, 0, 47, 25, 7, 21, 9, 42, 180, 0, 198, 180, 1, 60, 25, 6, 21, 9, 46, 46, 79, 21, 8]
abbrev dktX1_sort_8 : List UInt8 := dkwX1_sort_8 ++ dktX1_sort_9
def dkwX1_sort_7 : List UInt8 := [79, 132, 7, 1, 167, 255, 184, 25, 6, 190, 188, 10, 58, 7, 3, 54, 8, 3, 54, 9, 21, 9, 25, 6]
abbrev dktX1_sort_7 : List UInt8 := dkwX1_sort_7 ++ dktX1_sort_8
def dkwX1_sort_6 : List UInt8 := [25, 6, 21, 9, 25, 6, 21, 9, 4, 100, 46, 79, 132, 9, 255, 167, 255, 214, 25, 6, 21, 9, 21, 8]
abbrev dktX1_sort_6 : List UInt8 := dkwX1_sort_6 ++ dktX1_sort_7
def dkwX1_sort_5 : List UInt8 := [161, 0, 42, 42, 21, 8, 25, 6, 21, 9, 4, 100, 46, 27, 4, 100, 21, 4, 182, 1, 101, 156, 0, 21]
abbrev dktX1_sort_5 : List UInt8 := dkwX1_sort_5 ++ dktX1_sort_6
def dkwX1_sort_4 : List UInt8 := [54, 7, 21, 7, 29, 162, 0, 72, 25, 6, 21, 7, 46, 54, 8, 21, 7, 54, 9, 21, 9, 28]
abbrev dktX1_sort_4 : List UInt8 := dkwX1_sort_4 ++ dktX1_sort_5
def dkwX1_sort_3 : List UInt8 := [54, 7, 21, 7, 25, 6, 190, 162, 0, 16, 25, 6, 21, 7, 21, 7, 79, 132, 7, 1, 167, 255, 238, 28]
abbrev dktX1_sort_3 : List UInt8 := dkwX1_sort_3 ++ dktX1_sort_4
def dkwX1_sort_2 : List UInt8 := [89, 183, 1, 4, 191, 42, 182, 0, 215, 58, 5, 42, 180, 0, 198, 180, 1, 60, 190, 188, 10, 58, 6, 3]
abbrev dktX1_sort_2 : List UInt8 := dkwX1_sort_2 ++ dktX1_sort_3
def dkwX1_sort_1 : List UInt8 := [4, 100, 182, 0, 235, 154, 0, 11, 187, 0, 239, 89, 183, 0, 241, 191, 29, 28, 162, 0, 11, 187, 1, 2]
abbrev dktX1_sort_1 : List UInt8 := dkwX1_sort_1 ++ dktX1_sort_2
def dkwX1_sort_0 : List UInt8 := [42, 180, 0, 198, 28, 4, 100, 27, 4, 100, 182, 0, 235, 153, 0, 19, 42, 180, 0, 198, 29, 4, 100, 27]
abbrev dktX1_sort_0 : List UInt8 := dkwX1_sort_0 ++ dktX1_sort_1
theorem dksX1_sort_0 : cX1_sort.data.toList.drop 0 = dktX1_sort_0 := by decide +kernel
theorem dksX1_sort_1 : cX1_sort.data.toList.drop 24 = dktX1_sort_1 := dk_seg dksX1_sort_0 24 rfl rfl
theorem dksX1_sort_2 : cX1_sort.data.toList.drop 48 = dktX1_sort_2 := dk_seg dksX1_sort_1 24 rfl rfl
theorem dksX1_sort_3 : cX1_sort.data.toList.drop 72 = dktX1_sort_3 := dk_seg dksX1_sort_2 24 rfl rfl
theorem dksX1_sort_4 : cX1_sort.data.toList.drop 96 = dktX1_sort_4 := dk_seg dksX1_sort_3 24 rfl rfl
theorem dksX1_sort_5 : cX1_sort.data.toList.drop 118 = dktX1_sort_5 := dk_seg dksX1_sort_4 22 rfl rfl
theorem dksX1_sort_6 : cX1_sort.data.toList.drop 142 = dktX1_sort_6 := dk_seg dksX1_sort_5 24 rfl rfl
theorem dksX1_sort_7 : cX1_sort.data.toList.drop 166 = dktX1_sort_7 := dk_seg dksX1_sort_6 24 rfl rfl
theorem dksX1_sort_8 : cX1_sort.data.toList.drop 190 = dktX1_sort_8 := dk_seg dksX1_sort_7 24 rfl rfl
theorem dksX1_sort_9 : cX1_sort.data.toList.drop 214 = dktX1_sort_9 := dk_seg dksX1_sort_8 24 rfl rfl
theorem dksX1_sort_10 : cX1_sort.data.toList.drop 238 = dktX1_sort_10 := dk_seg dksX1_sort_9 24 rfl rfl
theorem dX1_sort_0 : decode cX1_sort 0 = .ok (.aload_n 0, 1) := dk_42 (dk_at dksX1_sort_0 0 rfl rfl)
theorem dX1_sort_1 : decode cX1_sort 1 = .ok (.getfield 198, 3) := dk_180 0 198 (dk_at dksX1_sort_0 1 rfl rfl)
theorem dX1_sort_4 : decode cX1_sort 4 = .ok (.iload_n 2, 1) := dk_28 (dk_at dksX1_sort_0 4 rfl rfl)
theorem dX1_sort_5 : decode cX1_sort 5 = .ok (.iconst 1, 1) := dk_4 (dk_at dksX1_sort_0 5 rfl rfl)
theorem dX1_sort_6 : decode cX1_sort 6 = .ok (.isub, 1) := dk_100 (dk_at dksX1_sort_0 6 rfl rfl)
theorem dX1_sort_7 : decode cX1_sort 7 = .ok (.iload_n 1, 1) := dk_27 (dk_at dksX1_sort_0 7 rfl rfl)
theorem dX1_sort_8 : decode cX1_sort 8 = .ok (.iconst 1, 1) := dk_4 (dk_at dksX1_sort_0 8 rfl rfl)
theorem dX1_sort_9 : decode cX1_sort 9 = .ok (.isub, 1) := dk_100 (dk_at dksX1_sort_0 9 rfl rfl)
theorem dX1_sort_10 : decode cX1_sort 10 = .ok (.invokevirtual 235, 3) := dk_182 0 235 (dk_at dksX1_sort_0 10 rfl rfl)
theorem dX1_sort_13 : decode cX1_sort 13 = .ok (.ifCond .eq 19, 3) := dk_153 0 19 (dk_at dksX1_sort_0 13 rfl rfl)
theorem dX1_sort_16 : decode cX1_sort 16 = .ok (.aload_n 0, 1) := dk_42 (dk_at dksX1_sort_0 16 rfl rfl)
theorem dX1_sort_17 : decode cX1_sort 17 = .ok (.getfield 198, 3) := dk_180 0 198 (dk_at dksX1_sort_0 17 rfl rfl)
theorem dX1_sort_20 : decode cX1_sort 20 = .ok (.iload_n 3, 1) := dk_29 (dk_at dksX1_sort_0 20 rfl rfl)
theorem dX1_sort_21 : decode cX1_sort 21 = .ok (.iconst 1, 1) := dk_4 (dk_at dksX1_sort_0 21 rfl rfl)
theorem dX1_sort_22 : decode cX1_sort 22 = .ok (.isub, 1) := dk_100 (dk_at dksX1_sort_0 22 rfl rfl)
theorem dX1_sort_23 : decode cX1_sort 23 = .ok (.iload_n 1, 1) := dk_27 (dk_at dksX1_sort_0 23 rfl rfl)
theorem dX1_sort_24 : decode cX1_sort 24 = .ok (.iconst 1, 1) := dk_4 (dk_at dksX1_sort_1 0 rfl rfl)
theorem dX1_sort_25 : decode cX1_sort 25 = .ok (.isub, 1) := dk_100 (dk_at dksX1_sort_1 1 rfl rfl)
theorem dX1_sort_26 : decode cX1_sort 26 = .ok (.invokevirtual 235, 3) := dk_182 0 235 (dk_at dksX1_sort_1 2 rfl rfl)
theorem dX1_sort_29 : decode cX1_sort 29 = .ok (.ifCond .ne 11, 3) := dk_154 0 11 (dk_at dksX1_sort_1 5 rfl rfl)
theorem dX1_sort_32 : decode cX1_sort 32 = .ok (.new 239, 3) := dk_187 0 239 (dk_at dksX1_sort_1 8 rfl rfl)
theorem dX1_sort_35 : decode cX1_sort 35 = .ok (.dup, 1) := dk_89 (dk_at dksX1_sort_1 11 rfl rfl)
theorem dX1_sort_36 : decode cX1_sort 36 = .ok (.invokespecial 241, 3) := dk_183 0 241 (dk_at dksX1_sort_1 12 rfl rfl)
theorem dX1_sort_39 : decode cX1_sort 39 = .ok (.athrow, 1) := dk_191 (dk_at dksX1_sort_1 15 rfl rfl)
theorem dX1_sort_40 : decode cX1_sort 40 = .ok (.iload_n 3, 1) := dk_29 (dk_at dksX1_sort_1 16 rfl rfl)
theorem dX1_sort_41 : decode cX1_sort 41 = .ok (.iload_n 2, 1) := dk_28 (dk_at dksX1_sort_1 17 rfl rfl)
theorem dX1_sort_42 : decode cX1_sort 42 = .ok (.if_icmp .ge 11, 3) := dk_162 0 11 (dk_at dksX1_sort_1 18 rfl rfl)
theorem dX1_sort_45 : decode cX1_sort 45 = .ok (.new 258, 3) := dk_187 1 2 (dk_at dksX1_sort_1 21 rfl rfl)
theorem dX1_sort_48 : decode cX1_sort 48 = .ok (.dup, 1) := dk_89 (dk_at dksX1_sort_2 0 rfl rfl)
theorem dX1_sort_49 : decode cX1_sort 49 = .ok (.invokespecial 260, 3) := dk_183 1 4 (dk_at dksX1_sort_2 1 rfl rfl)
theorem dX1_sort_52 : decode cX1_sort 52 = .ok (.athrow, 1) := dk_191 (dk_at dksX1_sort_2 4 rfl rfl)
theorem dX1_sort_53 : decode cX1_sort 53 = .ok (.aload_n 0, 1) := dk_42 (dk_at dksX1_sort_2 5 rfl rfl)
theorem dX1_sort_54 : decode cX1_sort 54 = .ok (.invokevirtual 215, 3) := dk_182 0 215 (dk_at dksX1_sort_2 6 rfl rfl)
theorem dX1_sort_57 : decode cX1_sort 57 = .ok (.astore 5, 2) := dk_58 5 (dk_at dksX1_sort_2 9 rfl rfl)
theorem dX1_sort_59 : decode cX1_sort 59 = .ok (.aload_n 0, 1) := dk_42 (dk_at dksX1_sort_2 11 rfl rfl)
theorem dX1_sort_60 : decode cX1_sort 60 = .ok (.getfield 198, 3) := dk_180 0 198 (dk_at dksX1_sort_2 12 rfl rfl)
theorem dX1_sort_63 : decode cX1_sort 63 = .ok (.getfield 316, 3) := dk_180 1 60 (dk_at dksX1_sort_2 15 rfl rfl)
theorem dX1_sort_66 : decode cX1_sort 66 = .ok (.arraylength, 1) := dk_190 (dk_at dksX1_sort_2 18 rfl rfl)
theorem dX1_sort_67 : decode cX1_sort 67 = .ok (.newarray .int, 2) := dk_188_10 (dk_at dksX1_sort_2 19 rfl rfl)
theorem dX1_sort_69 : decode cX1_sort 69 = .ok (.astore 6, 2) := dk_58 6 (dk_at dksX1_sort_2 21 rfl rfl)
theorem dX1_sort_71 : decode cX1_sort 71 = .ok (.iconst 0, 1) := dk_3 (dk_at dksX1_sort_2 23 rfl rfl)
theorem dX1_sort_72 : decode cX1_sort 72 = .ok (.istore 7, 2) := dk_54 7 (dk_at dksX1_sort_3 0 rfl rfl)
theorem dX1_sort_74 : decode cX1_sort 74 = .ok (.iload 7, 2) := dk_21 7 (dk_at dksX1_sort_3 2 rfl rfl)
theorem dX1_sort_76 : decode cX1_sort 76 = .ok (.aload 6, 2) := dk_25 6 (dk_at dksX1_sort_3 4 rfl rfl)
theorem dX1_sort_78 : decode cX1_sort 78 = .ok (.arraylength, 1) := dk_190 (dk_at dksX1_sort_3 6 rfl rfl)
theorem dX1_sort_79 : decode cX1_sort 79 = .ok (.if_icmp .ge 16, 3) := dk_162 0 16 (dk_at dksX1_sort_3 7 rfl rfl)
theorem dX1_sort_82 : decode cX1_sort 82 = .ok (.aload 6, 2) := dk_25 6 (dk_at dksX1_sort_3 10 rfl rfl)
theorem dX1_sort_84 : decode cX1_sort 84 = .ok (.iload 7, 2) := dk_21 7 (dk_at dksX1_sort_3 12 rfl rfl)
theorem dX1_sort_86 : decode cX1_sort 86 = .ok (.iload 7, 2) := dk_21 7 (dk_at dksX1_sort_3 14 rfl rfl)
theorem dX1_sort_88 : decode cX1_sort 88 = .ok (.iastore, 1) := dk_79 (dk_at dksX1_sort_3 16 rfl rfl)
theorem dX1_sort_89 : decode cX1_sort 89 = .ok (.iinc 7 1, 3) := dk_132 7 1 (dk_at dksX1_sort_3 17 rfl rfl)
theorem dX1_sort_92 : decode cX1_sort 92 = .ok (.goto (-18), 3) := dk_167 255 238 (dk_at dksX1_sort_3 20 rfl rfl)
theorem dX1_sort_95 : decode cX1_sort 95 = .ok (.iload_n 2, 1) := dk_28 (dk_at dksX1_sort_3 23 rfl rfl)
theorem dX1_sort_96 : decode cX1_sort 96 = .ok (.istore 7, 2) := dk_54 7 (dk_at dksX1_sort_4 0 rfl rfl)
theorem dX1_sort_98 : decode cX1_sort 98 = .ok (.iload 7, 2) := dk_21 7 (dk_at dksX1_sort_4 2 rfl rfl)
theorem dX1_sort_100 : decode cX1_sort 100 = .ok (.iload_n 3, 1) := dk_29 (dk_at dksX1_sort_4 4 rfl rfl)
theorem dX1_sort_101 : decode cX1_sort 101 = .ok (.if_icmp .ge 72, 3) := dk_162 0 72 (dk_at dksX1_sort_4 5 rfl rfl)
theorem dX1_sort_104 : decode cX1_sort 104 = .ok (.aload 6, 2) := dk_25 6 (dk_at dksX1_sort_4 8 rfl rfl)
theorem dX1_sort_106 : decode cX1_sort 106 = .ok (.iload 7, 2) := dk_21 7 (dk_at dksX1_sort_4 10 rfl rfl)
theorem dX1_sort_108 : decode cX1_sort 108 = .ok (.iaload, 1) := dk_46 (dk_at dksX1_sort_4 12 rfl rfl)
theorem dX1_sort_109 : decode cX1_sort 109 = .ok (.istore 8, 2) := dk_54 8 (dk_at dksX1_sort_4 13 rfl rfl)
theorem dX1_sort_111 : decode cX1_sort 111 = .ok (.iload 7, 2) := dk_21 7 (dk_at dksX1_sort_4 15 rfl rfl)
theorem dX1_sort_113 : decode cX1_sort 113 = .ok (.istore 9, 2) := dk_54 9 (dk_at dksX1_sort_4 17 rfl rfl)
theorem dX1_sort_115 : decode cX1_sort 115 = .ok (.iload 9, 2) := dk_21 9 (dk_at dksX1_sort_4 19 rfl rfl)
theorem dX1_sort_117 : decode cX1_sort 117 = .ok (.iload_n 2, 1) := dk_28 (dk_at dksX1_sort_4 21 rfl rfl)
theorem dX1_sort_118 : decode cX1_sort 118 = .ok (.if_icmp .lt 42, 3) := dk_161 0 42 (dk_at dksX1_sort_5 0 rfl rfl)
theorem dX1_sort_121 : decode cX1_sort 121 = .ok (.aload_n 0, 1) := dk_42 (dk_at dksX1_sort_5 3 rfl rfl)
theorem dX1_sort_122 : decode cX1_sort 122 = .ok (.iload 8, 2) := dk_21 8 (dk_at dksX1_sort_5 4 rfl rfl)
theorem dX1_sort_124 : decode cX1_sort 124 = .ok (.aload 6, 2) := dk_25 6 (dk_at dksX1_sort_5 6 rfl rfl)
theorem dX1_sort_126 : decode cX1_sort 126 = .ok (.iload 9, 2) := dk_21 9 (dk_at dksX1_sort_5 8 rfl rfl)
theorem dX1_sort_128 : decode cX1_sort 128 = .ok (.iconst 1, 1) := dk_4 (dk_at dksX1_sort_5 10 rfl rfl)
theorem dX1_sort_129 : decode cX1_sort 129 = .ok (.isub, 1) := dk_100 (dk_at dksX1_sort_5 11 rfl rfl)
theorem dX1_sort_130 : decode cX1_sort 130 = .ok (.iaload, 1) := dk_46 (dk_at dksX1_sort_5 12 rfl rfl)
theorem dX1_sort_131 : decode cX1_sort 131 = .ok (.iload_n 1, 1) := dk_27 (dk_at dksX1_sort_5 13 rfl rfl)
theorem dX1_sort_132 : decode cX1_sort 132 = .ok (.iconst 1, 1) := dk_4 (dk_at dksX1_sort_5 14 rfl rfl)
theorem dX1_sort_133 : decode cX1_sort 133 = .ok (.isub, 1) := dk_100 (dk_at dksX1_sort_5 15 rfl rfl)
theorem dX1_sort_134 : decode cX1_sort 134 = .ok (.iload 4, 2) := dk_21 4 (dk_at dksX1_sort_5 16 rfl rfl)
theorem dX1_sort_136 : decode cX1_sort 136 = .ok (.invokevirtual 357, 3) := dk_182 1 101 (dk_at dksX1_sort_5 18 rfl rfl)
theorem dX1_sort_139 : decode cX1_sort 139 = .ok (.ifCond .ge 21, 3) := dk_156 0 21 (dk_at dksX1_sort_5 21 rfl rfl)
theorem dX1_sort_142 : decode cX1_sort 142 = .ok (.aload 6, 2) := dk_25 6 (dk_at dksX1_sort_6 0 rfl rfl)
theorem dX1_sort_144 : decode cX1_sort 144 = .ok (.iload 9, 2) := dk_21 9 (dk_at dksX1_sort_6 2 rfl rfl)
theorem dX1_sort_146 : decode cX1_sort 146 = .ok (.aload 6, 2) := dk_25 6 (dk_at dksX1_sort_6 4 rfl rfl)
theorem dX1_sort_148 : decode cX1_sort 148 = .ok (.iload 9, 2) := dk_21 9 (dk_at dksX1_sort_6 6 rfl rfl)
theorem dX1_sort_150 : decode cX1_sort 150 = .ok (.iconst 1, 1) := dk_4 (dk_at dksX1_sort_6 8 rfl rfl)
theorem dX1_sort_151 : decode cX1_sort 151 = .ok (.isub, 1) := dk_100 (dk_at dksX1_sort_6 9 rfl rfl)
theorem dX1_sort_152 : decode cX1_sort 152 = .ok (.iaload, 1) := dk_46 (dk_at dksX1_sort_6 10 rfl rfl)
theorem dX1_sort_153 : decode cX1_sort 153 = .ok (.iastore, 1) := dk_79 (dk_at dksX1_sort_6 11 rfl rfl)
theorem dX1_sort_154 : decode cX1_sort 154 = .ok (.iinc 9 (-1), 3) := dk_132 9 255 (dk_at dksX1_sort_6 12 rfl rfl)
theorem dX1_sort_157 : decode cX1_sort 157 = .ok (.goto (-42), 3) := dk_167 255 214 (dk_at dksX1_sort_6 15 rfl rfl)
theorem dX1_sort_160 : decode cX1_sort 160 = .ok (.aload 6, 2) := dk_25 6 (dk_at dksX1_sort_6 18 rfl rfl)
theorem dX1_sort_162 : decode cX1_sort 162 = .ok (.iload 9, 2) := dk_21 9 (dk_at dksX1_sort_6 20 rfl rfl)
theorem dX1_sort_164 : decode cX1_sort 164 = .ok (.iload 8, 2) := dk_21 8 (dk_at dksX1_sort_6 22 rfl rfl)
theorem dX1_sort_166 : decode cX1_sort 166 = .ok (.iastore, 1) := dk_79 (dk_at dksX1_sort_7 0 rfl rfl)
theorem dX1_sort_167 : decode cX1_sort 167 = .ok (.iinc 7 1, 3) := dk_132 7 1 (dk_at dksX1_sort_7 1 rfl rfl)
theorem dX1_sort_170 : decode cX1_sort 170 = .ok (.goto (-72), 3) := dk_167 255 184 (dk_at dksX1_sort_7 4 rfl rfl)
theorem dX1_sort_173 : decode cX1_sort 173 = .ok (.aload 6, 2) := dk_25 6 (dk_at dksX1_sort_7 7 rfl rfl)
theorem dX1_sort_175 : decode cX1_sort 175 = .ok (.arraylength, 1) := dk_190 (dk_at dksX1_sort_7 9 rfl rfl)
theorem dX1_sort_176 : decode cX1_sort 176 = .ok (.newarray .int, 2) := dk_188_10 (dk_at dksX1_sort_7 10 rfl rfl)
theorem dX1_sort_178 : decode cX1_sort 178 = .ok (.astore 7, 2) := dk_58 7 (dk_at dksX1_sort_7 12 rfl rfl)
theorem dX1_sort_180 : decode cX1_sort 180 = .ok (.iconst 0, 1) := dk_3 (dk_at dksX1_sort_7 14 rfl rfl)
theorem dX1_sort_181 : decode cX1_sort 181 = .ok (.istore 8, 2) := dk_54 8 (dk_at dksX1_sort_7 15 rfl rfl)
theorem dX1_sort_183 : decode cX1_sort 183 = .ok (.iconst 0, 1) := dk_3 (dk_at dksX1_sort_7 17 rfl rfl)
theorem dX1_sort_184 : decode cX1_sort 184 = .ok (.istore 9, 2) := dk_54 9 (dk_at dksX1_sort_7 18 rfl rfl)
theorem dX1_sort_186 : decode cX1_sort 186 = .ok (.iload 9, 2) := dk_21 9 (dk_at dksX1_sort_7 20 rfl rfl)
theorem dX1_sort_188 : decode cX1_sort 188 = .ok (.aload 6, 2) := dk_25 6 (dk_at dksX1_sort_7 22 rfl rfl)
theorem dX1_sort_190 : decode cX1_sort 190 = .ok (.arraylength, 1) := dk_190 (dk_at dksX1_sort_8 0 rfl rfl)
theorem dX1_sort_191 : decode cX1_sort 191 = .ok (.if_icmp .ge 47, 3) := dk_162 0 47 (dk_at dksX1_sort_8 1 rfl rfl)
theorem dX1_sort_194 : decode cX1_sort 194 = .ok (.aload 7, 2) := dk_25 7 (dk_at dksX1_sort_8 4 rfl rfl)
theorem dX1_sort_196 : decode cX1_sort 196 = .ok (.iload 9, 2) := dk_21 9 (dk_at dksX1_sort_8 6 rfl rfl)
theorem dX1_sort_198 : decode cX1_sort 198 = .ok (.aload_n 0, 1) := dk_42 (dk_at dksX1_sort_8 8 rfl rfl)
theorem dX1_sort_199 : decode cX1_sort 199 = .ok (.getfield 198, 3) := dk_180 0 198 (dk_at dksX1_sort_8 9 rfl rfl)
theorem dX1_sort_202 : decode cX1_sort 202 = .ok (.getfield 316, 3) := dk_180 1 60 (dk_at dksX1_sort_8 12 rfl rfl)
theorem dX1_sort_205 : decode cX1_sort 205 = .ok (.aload 6, 2) := dk_25 6 (dk_at dksX1_sort_8 15 rfl rfl)
theorem dX1_sort_207 : decode cX1_sort 207 = .ok (.iload 9, 2) := dk_21 9 (dk_at dksX1_sort_8 17 rfl rfl)
theorem dX1_sort_209 : decode cX1_sort 209 = .ok (.iaload, 1) := dk_46 (dk_at dksX1_sort_8 19 rfl rfl)
theorem dX1_sort_210 : decode cX1_sort 210 = .ok (.iaload, 1) := dk_46 (dk_at dksX1_sort_8 20 rfl rfl)
theorem dX1_sort_211 : decode cX1_sort 211 = .ok (.iastore, 1) := dk_79 (dk_at dksX1_sort_8 21 rfl rfl)
theorem dX1_sort_212 : decode cX1_sort 212 = .ok (.iload 8, 2) := dk_21 8 (dk_at dksX1_sort_8 22 rfl rfl)
theorem dX1_sort_214 : decode cX1_sort 214 = .ok (.aload 6, 2) := dk_25 6 (dk_at dksX1_sort_9 0 rfl rfl)
theorem dX1_sort_216 : decode cX1_sort 216 = .ok (.iload 9, 2) := dk_21 9 (dk_at dksX1_sort_9 2 rfl rfl)
theorem dX1_sort_218 : decode cX1_sort 218 = .ok (.iaload, 1) := dk_46 (dk_at dksX1_sort_9 4 rfl rfl)
theorem dX1_sort_219 : decode cX1_sort 219 = .ok (.iload 9, 2) := dk_21 9 (dk_at dksX1_sort_9 5 rfl rfl)
theorem dX1_sort_221 : decode cX1_sort 221 = .ok (.if_icmp .ne 7, 3) := dk_160 0 7 (dk_at dksX1_sort_9 7 rfl rfl)
theorem dX1_sort_224 : decode cX1_sort 224 = .ok (.iconst 0, 1) := dk_3 (dk_at dksX1_sort_9 10 rfl rfl)
theorem dX1_sort_225 : decode cX1_sort 225 = .ok (.goto 4, 3) := dk_167 0 4 (dk_at dksX1_sort_9 11 rfl rfl)
theorem dX1_sort_228 : decode cX1_sort 228 = .ok (.iconst 1, 1) := dk_4 (dk_at dksX1_sort_9 14 rfl rfl)
theorem dX1_sort_229 : decode cX1_sort 229 = .ok (.iadd, 1) := dk_96 (dk_at dksX1_sort_9 15 rfl rfl)
theorem dX1_sort_230 : decode cX1_sort 230 = .ok (.istore 8, 2) := dk_54 8 (dk_at dksX1_sort_9 16 rfl rfl)
theorem dX1_sort_232 : decode cX1_sort 232 = .ok (.iinc 9 1, 3) := dk_132 9 1 (dk_at dksX1_sort_9 18 rfl rfl)
theorem dX1_sort_235 : decode cX1_sort 235 = .ok (.goto (-49), 3) := dk_167 255 207 (dk_at dksX1_sort_9 21 rfl rfl)
theorem dX1_sort_238 : decode cX1_sort 238 = .ok (.aload_n 0, 1) := dk_42 (dk_at dksX1_sort_10 0 rfl rfl)
theorem dX1_sort_239 : decode cX1_sort 239 = .ok (.invokevirtual 274, 3) := dk_182 1 18 (dk_at dksX1_sort_10 1 rfl rfl)
theorem dX1_sort_242 : decode cX1_sort 242 = .ok (.aload_n 0, 1) := dk_42 (dk_at dksX1_sort_10 4 rfl rfl)
theorem dX1_sort_243 : decode cX1_sort 243 = .ok (.getfield 198, 3) := dk_180 0 198 (dk_at dksX1_sort_10 5 rfl rfl)
theorem dX1_sort_246 : decode cX1_sort 246 = .ok (.iconst 0, 1) := dk_3 (dk_at dksX1_sort_10 8 rfl rfl)
theorem dX1_sort_247 : decode cX1_sort 247 = .ok (.aload 7, 2) := dk_25 7 (dk_at dksX1_sort_10 9 rfl rfl)
theorem dX1_sort_249 : decode cX1_sort 249 = .ok (.invokevirtual 305, 3) := dk_182 1 49 (dk_at dksX1_sort_10 11 rfl rfl)
theorem dX1_sort_252 : decode cX1_sort 252 = .ok (.iload 8, 2) := dk_21 8 (dk_at dksX1_sort_10 14 rfl rfl)
theorem dX1_sort_254 : decode cX1_sort 254 = .ok (.ireturn, 1) := dk_172 (dk_at dksX1_sort_10 16 rfl rfl)
abbrev cX1_against : ByteArray := prog_1_method_29_code
def yX1_against : MethodName := ⟨RX1, "against", "(IIIZ)I"⟩
def dkwX1_against_6 : List UInt8 := [21, 5, 116, 167, 0, 5, 21, 5, 172]
abbrev dktX1_against_6 : List UInt8 := dkwX1_against_6 ++ []
def dkwX1_against_5 : List UInt8 := [180, 0, 74, 154, 0, 7, 4, 167, 0, 4, 3, 54, 6, 21, 4, 153, 0, 14, 21, 6, 154, 0, 9]
abbrev dktX1_against_5 : List UInt8 := dkwX1_against_5 ++ dktX1_against_6
def dkwX1_against_4 : List UInt8 := [180, 0, 182, 182, 0, 87, 54, 5, 42, 180, 0, 178, 180, 0, 74, 153, 0, 13, 42, 180, 0, 182]
abbrev dktX1_against_4 : List UInt8 := dkwX1_against_4 ++ dktX1_against_5
def dkwX1_against_3 : List UInt8 := [153, 0, 14, 42, 180, 0, 178, 180, 0, 74, 7, 160, 0, 7, 3, 167, 0, 14, 42, 180, 0, 178, 42]
abbrev dktX1_against_3 : List UInt8 := dkwX1_against_3 ++ dktX1_against_4
def dkwX1_against_2 : List UInt8 := [180, 0, 74, 184, 1, 94, 184, 1, 97, 54, 5, 21, 5, 154, 0, 41, 42, 180, 0, 178, 180, 0, 74]
abbrev dktX1_against_2 : List UInt8 := dkwX1_against_2 ++ dktX1_against_3
def dkwX1_against_1 : List UInt8 := [104, 29, 96, 42, 180, 0, 182, 182, 1, 90, 42, 180, 0, 178, 180, 0, 74, 184, 1, 94, 42, 180, 0, 182]
abbrev dktX1_against_1 : List UInt8 := dkwX1_against_1 ++ dktX1_against_2
def dkwX1_against_0 : List UInt8 := [42, 180, 0, 113, 16, 10, 27, 104, 29, 96, 42, 180, 0, 178, 182, 1, 90, 42, 180, 0, 113, 16, 10, 28]
abbrev dktX1_against_0 : List UInt8 := dkwX1_against_0 ++ dktX1_against_1
theorem dksX1_against_0 : cX1_against.data.toList.drop 0 = dktX1_against_0 := by decide +kernel
theorem dksX1_against_1 : cX1_against.data.toList.drop 24 = dktX1_against_1 := dk_seg dksX1_against_0 24 rfl rfl
theorem dksX1_against_2 : cX1_against.data.toList.drop 48 = dktX1_against_2 := dk_seg dksX1_against_1 24 rfl rfl
theorem dksX1_against_3 : cX1_against.data.toList.drop 71 = dktX1_against_3 := dk_seg dksX1_against_2 23 rfl rfl
theorem dksX1_against_4 : cX1_against.data.toList.drop 94 = dktX1_against_4 := dk_seg dksX1_against_3 23 rfl rfl
theorem dksX1_against_5 : cX1_against.data.toList.drop 116 = dktX1_against_5 := dk_seg dksX1_against_4 22 rfl rfl
theorem dksX1_against_6 : cX1_against.data.toList.drop 139 = dktX1_against_6 := dk_seg dksX1_against_5 23 rfl rfl
theorem dX1_against_0 : decode cX1_against 0 = .ok (.aload_n 0, 1) := dk_42 (dk_at dksX1_against_0 0 rfl rfl)
theorem dX1_against_1 : decode cX1_against 1 = .ok (.getfield 113, 3) := dk_180 0 113 (dk_at dksX1_against_0 1 rfl rfl)
theorem dX1_against_4 : decode cX1_against 4 = .ok (.bipush 10, 2) := dk_16 10 (dk_at dksX1_against_0 4 rfl rfl)
theorem dX1_against_6 : decode cX1_against 6 = .ok (.iload_n 1, 1) := dk_27 (dk_at dksX1_against_0 6 rfl rfl)
theorem dX1_against_7 : decode cX1_against 7 = .ok (.imul, 1) := dk_104 (dk_at dksX1_against_0 7 rfl rfl)
theorem dX1_against_8 : decode cX1_against 8 = .ok (.iload_n 3, 1) := dk_29 (dk_at dksX1_against_0 8 rfl rfl)
theorem dX1_against_9 : decode cX1_against 9 = .ok (.iadd, 1) := dk_96 (dk_at dksX1_against_0 9 rfl rfl)
theorem dX1_against_10 : decode cX1_against 10 = .ok (.aload_n 0, 1) := dk_42 (dk_at dksX1_against_0 10 rfl rfl)
theorem dX1_against_11 : decode cX1_against 11 = .ok (.getfield 178, 3) := dk_180 0 178 (dk_at dksX1_against_0 11 rfl rfl)
theorem dX1_against_14 : decode cX1_against 14 = .ok (.invokevirtual 346, 3) := dk_182 1 90 (dk_at dksX1_against_0 14 rfl rfl)
theorem dX1_against_17 : decode cX1_against 17 = .ok (.aload_n 0, 1) := dk_42 (dk_at dksX1_against_0 17 rfl rfl)
theorem dX1_against_18 : decode cX1_against 18 = .ok (.getfield 113, 3) := dk_180 0 113 (dk_at dksX1_against_0 18 rfl rfl)
theorem dX1_against_21 : decode cX1_against 21 = .ok (.bipush 10, 2) := dk_16 10 (dk_at dksX1_against_0 21 rfl rfl)
theorem dX1_against_23 : decode cX1_against 23 = .ok (.iload_n 2, 1) := dk_28 (dk_at dksX1_against_0 23 rfl rfl)
theorem dX1_against_24 : decode cX1_against 24 = .ok (.imul, 1) := dk_104 (dk_at dksX1_against_1 0 rfl rfl)
theorem dX1_against_25 : decode cX1_against 25 = .ok (.iload_n 3, 1) := dk_29 (dk_at dksX1_against_1 1 rfl rfl)
theorem dX1_against_26 : decode cX1_against 26 = .ok (.iadd, 1) := dk_96 (dk_at dksX1_against_1 2 rfl rfl)
theorem dX1_against_27 : decode cX1_against 27 = .ok (.aload_n 0, 1) := dk_42 (dk_at dksX1_against_1 3 rfl rfl)
theorem dX1_against_28 : decode cX1_against 28 = .ok (.getfield 182, 3) := dk_180 0 182 (dk_at dksX1_against_1 4 rfl rfl)
theorem dX1_against_31 : decode cX1_against 31 = .ok (.invokevirtual 346, 3) := dk_182 1 90 (dk_at dksX1_against_1 7 rfl rfl)
theorem dX1_against_34 : decode cX1_against 34 = .ok (.aload_n 0, 1) := dk_42 (dk_at dksX1_against_1 10 rfl rfl)
theorem dX1_against_35 : decode cX1_against 35 = .ok (.getfield 178, 3) := dk_180 0 178 (dk_at dksX1_against_1 11 rfl rfl)
theorem dX1_against_38 : decode cX1_against 38 = .ok (.getfield 74, 3) := dk_180 0 74 (dk_at dksX1_against_1 14 rfl rfl)
theorem dX1_against_41 : decode cX1_against 41 = .ok (.invokestatic 350, 3) := dk_184 1 94 (dk_at dksX1_against_1 17 rfl rfl)
theorem dX1_against_44 : decode cX1_against 44 = .ok (.aload_n 0, 1) := dk_42 (dk_at dksX1_against_1 20 rfl rfl)
theorem dX1_against_45 : decode cX1_against 45 = .ok (.getfield 182, 3) := dk_180 0 182 (dk_at dksX1_against_1 21 rfl rfl)
theorem dX1_against_48 : decode cX1_against 48 = .ok (.getfield 74, 3) := dk_180 0 74 (dk_at dksX1_against_2 0 rfl rfl)
theorem dX1_against_51 : decode cX1_against 51 = .ok (.invokestatic 350, 3) := dk_184 1 94 (dk_at dksX1_against_2 3 rfl rfl)
theorem dX1_against_54 : decode cX1_against 54 = .ok (.invokestatic 353, 3) := dk_184 1 97 (dk_at dksX1_against_2 6 rfl rfl)
theorem dX1_against_57 : decode cX1_against 57 = .ok (.istore 5, 2) := dk_54 5 (dk_at dksX1_against_2 9 rfl rfl)
theorem dX1_against_59 : decode cX1_against 59 = .ok (.iload 5, 2) := dk_21 5 (dk_at dksX1_against_2 11 rfl rfl)
theorem dX1_against_61 : decode cX1_against 61 = .ok (.ifCond .ne 41, 3) := dk_154 0 41 (dk_at dksX1_against_2 13 rfl rfl)
theorem dX1_against_64 : decode cX1_against 64 = .ok (.aload_n 0, 1) := dk_42 (dk_at dksX1_against_2 16 rfl rfl)
theorem dX1_against_65 : decode cX1_against 65 = .ok (.getfield 178, 3) := dk_180 0 178 (dk_at dksX1_against_2 17 rfl rfl)
theorem dX1_against_68 : decode cX1_against 68 = .ok (.getfield 74, 3) := dk_180 0 74 (dk_at dksX1_against_2 20 rfl rfl)
theorem dX1_against_71 : decode cX1_against 71 = .ok (.ifCond .eq 14, 3) := dk_153 0 14 (dk_at dksX1_against_3 0 rfl rfl)
theorem dX1_against_74 : decode cX1_against 74 = .ok (.aload_n 0, 1) := dk_42 (dk_at dksX1_against_3 3 rfl rfl)
theorem dX1_against_75 : decode cX1_against 75 = .ok (.getfield 178, 3) := dk_180 0 178 (dk_at dksX1_against_3 4 rfl rfl)
theorem dX1_against_78 : decode cX1_against 78 = .ok (.getfield 74, 3) := dk_180 0 74 (dk_at dksX1_against_3 7 rfl rfl)
theorem dX1_against_81 : decode cX1_against 81 = .ok (.iconst 4, 1) := dk_7 (dk_at dksX1_against_3 10 rfl rfl)
theorem dX1_against_82 : decode cX1_against 82 = .ok (.if_icmp .ne 7, 3) := dk_160 0 7 (dk_at dksX1_against_3 11 rfl rfl)
theorem dX1_against_85 : decode cX1_against 85 = .ok (.iconst 0, 1) := dk_3 (dk_at dksX1_against_3 14 rfl rfl)
theorem dX1_against_86 : decode cX1_against 86 = .ok (.goto 14, 3) := dk_167 0 14 (dk_at dksX1_against_3 15 rfl rfl)
theorem dX1_against_89 : decode cX1_against 89 = .ok (.aload_n 0, 1) := dk_42 (dk_at dksX1_against_3 18 rfl rfl)
theorem dX1_against_90 : decode cX1_against 90 = .ok (.getfield 178, 3) := dk_180 0 178 (dk_at dksX1_against_3 19 rfl rfl)
theorem dX1_against_93 : decode cX1_against 93 = .ok (.aload_n 0, 1) := dk_42 (dk_at dksX1_against_3 22 rfl rfl)
theorem dX1_against_94 : decode cX1_against 94 = .ok (.getfield 182, 3) := dk_180 0 182 (dk_at dksX1_against_4 0 rfl rfl)
theorem dX1_against_97 : decode cX1_against 97 = .ok (.invokevirtual 87, 3) := dk_182 0 87 (dk_at dksX1_against_4 3 rfl rfl)
theorem dX1_against_100 : decode cX1_against 100 = .ok (.istore 5, 2) := dk_54 5 (dk_at dksX1_against_4 6 rfl rfl)
theorem dX1_against_102 : decode cX1_against 102 = .ok (.aload_n 0, 1) := dk_42 (dk_at dksX1_against_4 8 rfl rfl)
theorem dX1_against_103 : decode cX1_against 103 = .ok (.getfield 178, 3) := dk_180 0 178 (dk_at dksX1_against_4 9 rfl rfl)
theorem dX1_against_106 : decode cX1_against 106 = .ok (.getfield 74, 3) := dk_180 0 74 (dk_at dksX1_against_4 12 rfl rfl)
theorem dX1_against_109 : decode cX1_against 109 = .ok (.ifCond .eq 13, 3) := dk_153 0 13 (dk_at dksX1_against_4 15 rfl rfl)
theorem dX1_against_112 : decode cX1_against 112 = .ok (.aload_n 0, 1) := dk_42 (dk_at dksX1_against_4 18 rfl rfl)
theorem dX1_against_113 : decode cX1_against 113 = .ok (.getfield 182, 3) := dk_180 0 182 (dk_at dksX1_against_4 19 rfl rfl)
theorem dX1_against_116 : decode cX1_against 116 = .ok (.getfield 74, 3) := dk_180 0 74 (dk_at dksX1_against_5 0 rfl rfl)
theorem dX1_against_119 : decode cX1_against 119 = .ok (.ifCond .ne 7, 3) := dk_154 0 7 (dk_at dksX1_against_5 3 rfl rfl)
theorem dX1_against_122 : decode cX1_against 122 = .ok (.iconst 1, 1) := dk_4 (dk_at dksX1_against_5 6 rfl rfl)
theorem dX1_against_123 : decode cX1_against 123 = .ok (.goto 4, 3) := dk_167 0 4 (dk_at dksX1_against_5 7 rfl rfl)
theorem dX1_against_126 : decode cX1_against 126 = .ok (.iconst 0, 1) := dk_3 (dk_at dksX1_against_5 10 rfl rfl)
theorem dX1_against_127 : decode cX1_against 127 = .ok (.istore 6, 2) := dk_54 6 (dk_at dksX1_against_5 11 rfl rfl)
theorem dX1_against_129 : decode cX1_against 129 = .ok (.iload 4, 2) := dk_21 4 (dk_at dksX1_against_5 13 rfl rfl)
theorem dX1_against_131 : decode cX1_against 131 = .ok (.ifCond .eq 14, 3) := dk_153 0 14 (dk_at dksX1_against_5 15 rfl rfl)
theorem dX1_against_134 : decode cX1_against 134 = .ok (.iload 6, 2) := dk_21 6 (dk_at dksX1_against_5 18 rfl rfl)
theorem dX1_against_136 : decode cX1_against 136 = .ok (.ifCond .ne 9, 3) := dk_154 0 9 (dk_at dksX1_against_5 20 rfl rfl)
theorem dX1_against_139 : decode cX1_against 139 = .ok (.iload 5, 2) := dk_21 5 (dk_at dksX1_against_6 0 rfl rfl)
theorem dX1_against_141 : decode cX1_against 141 = .ok (.ineg, 1) := dk_116 (dk_at dksX1_against_6 2 rfl rfl)
theorem dX1_against_142 : decode cX1_against 142 = .ok (.goto 5, 3) := dk_167 0 5 (dk_at dksX1_against_6 3 rfl rfl)
theorem dX1_against_145 : decode cX1_against 145 = .ok (.iload 5, 2) := dk_21 5 (dk_at dksX1_against_6 6 rfl rfl)
theorem dX1_against_147 : decode cX1_against 147 = .ok (.ireturn, 1) := dk_172 (dk_at dksX1_against_6 8 rfl rfl)
abbrev cX1_rankOf : ByteArray := prog_1_method_28_code
def yX1_rankOf : MethodName := ⟨RX1, "rankOf", "(I)I"⟩
def dkwX1_rankOf_1 : List UInt8 := [167, 0, 13, 26, 7, 160, 0, 7, 6, 167, 0, 4, 7, 172]
abbrev dktX1_rankOf_1 : List UInt8 := dkwX1_rankOf_1 ++ []
def dkwX1_rankOf_0 : List UInt8 := [26, 4, 160, 0, 7, 3, 167, 0, 31, 26, 5, 160, 0, 7, 4, 167, 0, 22, 26, 6, 160, 0, 7, 5]
abbrev dktX1_rankOf_0 : List UInt8 := dkwX1_rankOf_0 ++ dktX1_rankOf_1
theorem dksX1_rankOf_0 : cX1_rankOf.data.toList.drop 0 = dktX1_rankOf_0 := by decide +kernel
theorem dksX1_rankOf_1 : cX1_rankOf.data.toList.drop 24 = dktX1_rankOf_1 := dk_seg dksX1_rankOf_0 24 rfl rfl
theorem dX1_rankOf_0 : decode cX1_rankOf 0 = .ok (.iload_n 0, 1) := dk_26 (dk_at dksX1_rankOf_0 0 rfl rfl)
theorem dX1_rankOf_1 : decode cX1_rankOf 1 = .ok (.iconst 1, 1) := dk_4 (dk_at dksX1_rankOf_0 1 rfl rfl)
theorem dX1_rankOf_2 : decode cX1_rankOf 2 = .ok (.if_icmp .ne 7, 3) := dk_160 0 7 (dk_at dksX1_rankOf_0 2 rfl rfl)
theorem dX1_rankOf_5 : decode cX1_rankOf 5 = .ok (.iconst 0, 1) := dk_3 (dk_at dksX1_rankOf_0 5 rfl rfl)
theorem dX1_rankOf_6 : decode cX1_rankOf 6 = .ok (.goto 31, 3) := dk_167 0 31 (dk_at dksX1_rankOf_0 6 rfl rfl)
theorem dX1_rankOf_9 : decode cX1_rankOf 9 = .ok (.iload_n 0, 1) := dk_26 (dk_at dksX1_rankOf_0 9 rfl rfl)
theorem dX1_rankOf_10 : decode cX1_rankOf 10 = .ok (.iconst 2, 1) := dk_5 (dk_at dksX1_rankOf_0 10 rfl rfl)
theorem dX1_rankOf_11 : decode cX1_rankOf 11 = .ok (.if_icmp .ne 7, 3) := dk_160 0 7 (dk_at dksX1_rankOf_0 11 rfl rfl)
theorem dX1_rankOf_14 : decode cX1_rankOf 14 = .ok (.iconst 1, 1) := dk_4 (dk_at dksX1_rankOf_0 14 rfl rfl)
theorem dX1_rankOf_15 : decode cX1_rankOf 15 = .ok (.goto 22, 3) := dk_167 0 22 (dk_at dksX1_rankOf_0 15 rfl rfl)
theorem dX1_rankOf_18 : decode cX1_rankOf 18 = .ok (.iload_n 0, 1) := dk_26 (dk_at dksX1_rankOf_0 18 rfl rfl)
theorem dX1_rankOf_19 : decode cX1_rankOf 19 = .ok (.iconst 3, 1) := dk_6 (dk_at dksX1_rankOf_0 19 rfl rfl)
theorem dX1_rankOf_20 : decode cX1_rankOf 20 = .ok (.if_icmp .ne 7, 3) := dk_160 0 7 (dk_at dksX1_rankOf_0 20 rfl rfl)
theorem dX1_rankOf_23 : decode cX1_rankOf 23 = .ok (.iconst 2, 1) := dk_5 (dk_at dksX1_rankOf_0 23 rfl rfl)
theorem dX1_rankOf_24 : decode cX1_rankOf 24 = .ok (.goto 13, 3) := dk_167 0 13 (dk_at dksX1_rankOf_1 0 rfl rfl)
theorem dX1_rankOf_27 : decode cX1_rankOf 27 = .ok (.iload_n 0, 1) := dk_26 (dk_at dksX1_rankOf_1 3 rfl rfl)
theorem dX1_rankOf_28 : decode cX1_rankOf 28 = .ok (.iconst 4, 1) := dk_7 (dk_at dksX1_rankOf_1 4 rfl rfl)
theorem dX1_rankOf_29 : decode cX1_rankOf 29 = .ok (.if_icmp .ne 7, 3) := dk_160 0 7 (dk_at dksX1_rankOf_1 5 rfl rfl)
theorem dX1_rankOf_32 : decode cX1_rankOf 32 = .ok (.iconst 3, 1) := dk_6 (dk_at dksX1_rankOf_1 8 rfl rfl)
theorem dX1_rankOf_33 : decode cX1_rankOf 33 = .ok (.goto 4, 3) := dk_167 0 4 (dk_at dksX1_rankOf_1 9 rfl rfl)
theorem dX1_rankOf_36 : decode cX1_rankOf 36 = .ok (.iconst 4, 1) := dk_7 (dk_at dksX1_rankOf_1 12 rfl rfl)
theorem dX1_rankOf_37 : decode cX1_rankOf 37 = .ok (.ireturn, 1) := dk_172 (dk_at dksX1_rankOf_1 13 rfl rfl)
abbrev cX1_undo : ByteArray := prog_1_method_15_code
def yX1_undo : MethodName := ⟨RX1, "undo", "()I"⟩
def dkwX1_undo_2 : List UInt8 := [42, 42, 180, 0, 119, 42, 180, 0, 226, 50, 181, 0, 198, 42, 3, 181, 0, 208, 42, 180, 0, 226, 172]
abbrev dktX1_undo_2 : List UInt8 := dkwX1_undo_2 ++ []
def dkwX1_undo_1 : List UInt8 := [180, 0, 198, 83, 42, 89, 180, 0, 229, 4, 96, 181, 0, 229, 42, 89, 180, 0, 226, 4, 100, 181, 0, 226]
abbrev dktX1_undo_1 : List UInt8 := dkwX1_undo_1 ++ dktX1_undo_2
def dkwX1_undo_0 : List UInt8 := [42, 180, 0, 226, 154, 0, 11, 187, 0, 232, 89, 183, 0, 234, 191, 42, 180, 0, 123, 42, 180, 0, 229, 42]
abbrev dktX1_undo_0 : List UInt8 := dkwX1_undo_0 ++ dktX1_undo_1
theorem dksX1_undo_0 : cX1_undo.data.toList.drop 0 = dktX1_undo_0 := by decide +kernel
theorem dksX1_undo_1 : cX1_undo.data.toList.drop 24 = dktX1_undo_1 := dk_seg dksX1_undo_0 24 rfl rfl
theorem dksX1_undo_2 : cX1_undo.data.toList.drop 48 = dktX1_undo_2 := dk_seg dksX1_undo_1 24 rfl rfl
theorem dX1_undo_0 : decode cX1_undo 0 = .ok (.aload_n 0, 1) := dk_42 (dk_at dksX1_undo_0 0 rfl rfl)
theorem dX1_undo_1 : decode cX1_undo 1 = .ok (.getfield 226, 3) := dk_180 0 226 (dk_at dksX1_undo_0 1 rfl rfl)
theorem dX1_undo_4 : decode cX1_undo 4 = .ok (.ifCond .ne 11, 3) := dk_154 0 11 (dk_at dksX1_undo_0 4 rfl rfl)
theorem dX1_undo_7 : decode cX1_undo 7 = .ok (.new 232, 3) := dk_187 0 232 (dk_at dksX1_undo_0 7 rfl rfl)
theorem dX1_undo_10 : decode cX1_undo 10 = .ok (.dup, 1) := dk_89 (dk_at dksX1_undo_0 10 rfl rfl)
theorem dX1_undo_11 : decode cX1_undo 11 = .ok (.invokespecial 234, 3) := dk_183 0 234 (dk_at dksX1_undo_0 11 rfl rfl)
theorem dX1_undo_14 : decode cX1_undo 14 = .ok (.athrow, 1) := dk_191 (dk_at dksX1_undo_0 14 rfl rfl)
theorem dX1_undo_15 : decode cX1_undo 15 = .ok (.aload_n 0, 1) := dk_42 (dk_at dksX1_undo_0 15 rfl rfl)
theorem dX1_undo_16 : decode cX1_undo 16 = .ok (.getfield 123, 3) := dk_180 0 123 (dk_at dksX1_undo_0 16 rfl rfl)
theorem dX1_undo_19 : decode cX1_undo 19 = .ok (.aload_n 0, 1) := dk_42 (dk_at dksX1_undo_0 19 rfl rfl)
theorem dX1_undo_20 : decode cX1_undo 20 = .ok (.getfield 229, 3) := dk_180 0 229 (dk_at dksX1_undo_0 20 rfl rfl)
theorem dX1_undo_23 : decode cX1_undo 23 = .ok (.aload_n 0, 1) := dk_42 (dk_at dksX1_undo_0 23 rfl rfl)
theorem dX1_undo_24 : decode cX1_undo 24 = .ok (.getfield 198, 3) := dk_180 0 198 (dk_at dksX1_undo_1 0 rfl rfl)
theorem dX1_undo_27 : decode cX1_undo 27 = .ok (.aastore, 1) := dk_83 (dk_at dksX1_undo_1 3 rfl rfl)
theorem dX1_undo_28 : decode cX1_undo 28 = .ok (.aload_n 0, 1) := dk_42 (dk_at dksX1_undo_1 4 rfl rfl)
theorem dX1_undo_29 : decode cX1_undo 29 = .ok (.dup, 1) := dk_89 (dk_at dksX1_undo_1 5 rfl rfl)
theorem dX1_undo_30 : decode cX1_undo 30 = .ok (.getfield 229, 3) := dk_180 0 229 (dk_at dksX1_undo_1 6 rfl rfl)
theorem dX1_undo_33 : decode cX1_undo 33 = .ok (.iconst 1, 1) := dk_4 (dk_at dksX1_undo_1 9 rfl rfl)
theorem dX1_undo_34 : decode cX1_undo 34 = .ok (.iadd, 1) := dk_96 (dk_at dksX1_undo_1 10 rfl rfl)
theorem dX1_undo_35 : decode cX1_undo 35 = .ok (.putfield 229, 3) := dk_181 0 229 (dk_at dksX1_undo_1 11 rfl rfl)
theorem dX1_undo_38 : decode cX1_undo 38 = .ok (.aload_n 0, 1) := dk_42 (dk_at dksX1_undo_1 14 rfl rfl)
theorem dX1_undo_39 : decode cX1_undo 39 = .ok (.dup, 1) := dk_89 (dk_at dksX1_undo_1 15 rfl rfl)
theorem dX1_undo_40 : decode cX1_undo 40 = .ok (.getfield 226, 3) := dk_180 0 226 (dk_at dksX1_undo_1 16 rfl rfl)
theorem dX1_undo_43 : decode cX1_undo 43 = .ok (.iconst 1, 1) := dk_4 (dk_at dksX1_undo_1 19 rfl rfl)
theorem dX1_undo_44 : decode cX1_undo 44 = .ok (.isub, 1) := dk_100 (dk_at dksX1_undo_1 20 rfl rfl)
theorem dX1_undo_45 : decode cX1_undo 45 = .ok (.putfield 226, 3) := dk_181 0 226 (dk_at dksX1_undo_1 21 rfl rfl)
theorem dX1_undo_48 : decode cX1_undo 48 = .ok (.aload_n 0, 1) := dk_42 (dk_at dksX1_undo_2 0 rfl rfl)
theorem dX1_undo_49 : decode cX1_undo 49 = .ok (.aload_n 0, 1) := dk_42 (dk_at dksX1_undo_2 1 rfl rfl)
theorem dX1_undo_50 : decode cX1_undo 50 = .ok (.getfield 119, 3) := dk_180 0 119 (dk_at dksX1_undo_2 2 rfl rfl)
theorem dX1_undo_53 : decode cX1_undo 53 = .ok (.aload_n 0, 1) := dk_42 (dk_at dksX1_undo_2 5 rfl rfl)
theorem dX1_undo_54 : decode cX1_undo 54 = .ok (.getfield 226, 3) := dk_180 0 226 (dk_at dksX1_undo_2 6 rfl rfl)
theorem dX1_undo_57 : decode cX1_undo 57 = .ok (.aaload, 1) := dk_50 (dk_at dksX1_undo_2 9 rfl rfl)
theorem dX1_undo_58 : decode cX1_undo 58 = .ok (.putfield 198, 3) := dk_181 0 198 (dk_at dksX1_undo_2 10 rfl rfl)
theorem dX1_undo_61 : decode cX1_undo 61 = .ok (.aload_n 0, 1) := dk_42 (dk_at dksX1_undo_2 13 rfl rfl)
theorem dX1_undo_62 : decode cX1_undo 62 = .ok (.iconst 0, 1) := dk_3 (dk_at dksX1_undo_2 14 rfl rfl)
theorem dX1_undo_63 : decode cX1_undo 63 = .ok (.putfield 208, 3) := dk_181 0 208 (dk_at dksX1_undo_2 15 rfl rfl)
theorem dX1_undo_66 : decode cX1_undo 66 = .ok (.aload_n 0, 1) := dk_42 (dk_at dksX1_undo_2 18 rfl rfl)
theorem dX1_undo_67 : decode cX1_undo 67 = .ok (.getfield 226, 3) := dk_180 0 226 (dk_at dksX1_undo_2 19 rfl rfl)
theorem dX1_undo_70 : decode cX1_undo 70 = .ok (.ireturn, 1) := dk_172 (dk_at dksX1_undo_2 22 rfl rfl)
abbrev cX1_redo : ByteArray := prog_1_method_16_code
def yX1_redo : MethodName := ⟨RX1, "redo", "()I"⟩
def dkwX1_redo_2 : List UInt8 := [42, 42, 180, 0, 123, 42, 180, 0, 229, 50, 181, 0, 198, 42, 3, 181, 0, 208, 42, 180, 0, 229, 172]
abbrev dktX1_redo_2 : List UInt8 := dkwX1_redo_2 ++ []
def dkwX1_redo_1 : List UInt8 := [180, 0, 198, 83, 42, 89, 180, 0, 226, 4, 96, 181, 0, 226, 42, 89, 180, 0, 229, 4, 100, 181, 0, 229]
abbrev dktX1_redo_1 : List UInt8 := dkwX1_redo_1 ++ dktX1_redo_2
def dkwX1_redo_0 : List UInt8 := [42, 180, 0, 229, 154, 0, 11, 187, 0, 232, 89, 183, 0, 234, 191, 42, 180, 0, 119, 42, 180, 0, 226, 42]
abbrev dktX1_redo_0 : List UInt8 := dkwX1_redo_0 ++ dktX1_redo_1
theorem dksX1_redo_0 : cX1_redo.data.toList.drop 0 = dktX1_redo_0 := by decide +kernel
theorem dksX1_redo_1 : cX1_redo.data.toList.drop 24 = dktX1_redo_1 := dk_seg dksX1_redo_0 24 rfl rfl
theorem dksX1_redo_2 : cX1_redo.data.toList.drop 48 = dktX1_redo_2 := dk_seg dksX1_redo_1 24 rfl rfl
theorem dX1_redo_0 : decode cX1_redo 0 = .ok (.aload_n 0, 1) := dk_42 (dk_at dksX1_redo_0 0 rfl rfl)
theorem dX1_redo_1 : decode cX1_redo 1 = .ok (.getfield 229, 3) := dk_180 0 229 (dk_at dksX1_redo_0 1 rfl rfl)
theorem dX1_redo_4 : decode cX1_redo 4 = .ok (.ifCond .ne 11, 3) := dk_154 0 11 (dk_at dksX1_redo_0 4 rfl rfl)
theorem dX1_redo_7 : decode cX1_redo 7 = .ok (.new 232, 3) := dk_187 0 232 (dk_at dksX1_redo_0 7 rfl rfl)
theorem dX1_redo_10 : decode cX1_redo 10 = .ok (.dup, 1) := dk_89 (dk_at dksX1_redo_0 10 rfl rfl)
theorem dX1_redo_11 : decode cX1_redo 11 = .ok (.invokespecial 234, 3) := dk_183 0 234 (dk_at dksX1_redo_0 11 rfl rfl)
theorem dX1_redo_14 : decode cX1_redo 14 = .ok (.athrow, 1) := dk_191 (dk_at dksX1_redo_0 14 rfl rfl)
theorem dX1_redo_15 : decode cX1_redo 15 = .ok (.aload_n 0, 1) := dk_42 (dk_at dksX1_redo_0 15 rfl rfl)
theorem dX1_redo_16 : decode cX1_redo 16 = .ok (.getfield 119, 3) := dk_180 0 119 (dk_at dksX1_redo_0 16 rfl rfl)
theorem dX1_redo_19 : decode cX1_redo 19 = .ok (.aload_n 0, 1) := dk_42 (dk_at dksX1_redo_0 19 rfl rfl)
theorem dX1_redo_20 : decode cX1_redo 20 = .ok (.getfield 226, 3) := dk_180 0 226 (dk_at dksX1_redo_0 20 rfl rfl)
theorem dX1_redo_23 : decode cX1_redo 23 = .ok (.aload_n 0, 1) := dk_42 (dk_at dksX1_redo_0 23 rfl rfl)
theorem dX1_redo_24 : decode cX1_redo 24 = .ok (.getfield 198, 3) := dk_180 0 198 (dk_at dksX1_redo_1 0 rfl rfl)
theorem dX1_redo_27 : decode cX1_redo 27 = .ok (.aastore, 1) := dk_83 (dk_at dksX1_redo_1 3 rfl rfl)
theorem dX1_redo_28 : decode cX1_redo 28 = .ok (.aload_n 0, 1) := dk_42 (dk_at dksX1_redo_1 4 rfl rfl)
theorem dX1_redo_29 : decode cX1_redo 29 = .ok (.dup, 1) := dk_89 (dk_at dksX1_redo_1 5 rfl rfl)
theorem dX1_redo_30 : decode cX1_redo 30 = .ok (.getfield 226, 3) := dk_180 0 226 (dk_at dksX1_redo_1 6 rfl rfl)
theorem dX1_redo_33 : decode cX1_redo 33 = .ok (.iconst 1, 1) := dk_4 (dk_at dksX1_redo_1 9 rfl rfl)
theorem dX1_redo_34 : decode cX1_redo 34 = .ok (.iadd, 1) := dk_96 (dk_at dksX1_redo_1 10 rfl rfl)
theorem dX1_redo_35 : decode cX1_redo 35 = .ok (.putfield 226, 3) := dk_181 0 226 (dk_at dksX1_redo_1 11 rfl rfl)
theorem dX1_redo_38 : decode cX1_redo 38 = .ok (.aload_n 0, 1) := dk_42 (dk_at dksX1_redo_1 14 rfl rfl)
theorem dX1_redo_39 : decode cX1_redo 39 = .ok (.dup, 1) := dk_89 (dk_at dksX1_redo_1 15 rfl rfl)
theorem dX1_redo_40 : decode cX1_redo 40 = .ok (.getfield 229, 3) := dk_180 0 229 (dk_at dksX1_redo_1 16 rfl rfl)
theorem dX1_redo_43 : decode cX1_redo 43 = .ok (.iconst 1, 1) := dk_4 (dk_at dksX1_redo_1 19 rfl rfl)
theorem dX1_redo_44 : decode cX1_redo 44 = .ok (.isub, 1) := dk_100 (dk_at dksX1_redo_1 20 rfl rfl)
theorem dX1_redo_45 : decode cX1_redo 45 = .ok (.putfield 229, 3) := dk_181 0 229 (dk_at dksX1_redo_1 21 rfl rfl)
theorem dX1_redo_48 : decode cX1_redo 48 = .ok (.aload_n 0, 1) := dk_42 (dk_at dksX1_redo_2 0 rfl rfl)
theorem dX1_redo_49 : decode cX1_redo 49 = .ok (.aload_n 0, 1) := dk_42 (dk_at dksX1_redo_2 1 rfl rfl)
theorem dX1_redo_50 : decode cX1_redo 50 = .ok (.getfield 123, 3) := dk_180 0 123 (dk_at dksX1_redo_2 2 rfl rfl)
theorem dX1_redo_53 : decode cX1_redo 53 = .ok (.aload_n 0, 1) := dk_42 (dk_at dksX1_redo_2 5 rfl rfl)
theorem dX1_redo_54 : decode cX1_redo 54 = .ok (.getfield 229, 3) := dk_180 0 229 (dk_at dksX1_redo_2 6 rfl rfl)
theorem dX1_redo_57 : decode cX1_redo 57 = .ok (.aaload, 1) := dk_50 (dk_at dksX1_redo_2 9 rfl rfl)
theorem dX1_redo_58 : decode cX1_redo 58 = .ok (.putfield 198, 3) := dk_181 0 198 (dk_at dksX1_redo_2 10 rfl rfl)
theorem dX1_redo_61 : decode cX1_redo 61 = .ok (.aload_n 0, 1) := dk_42 (dk_at dksX1_redo_2 13 rfl rfl)
theorem dX1_redo_62 : decode cX1_redo 62 = .ok (.iconst 0, 1) := dk_3 (dk_at dksX1_redo_2 14 rfl rfl)
theorem dX1_redo_63 : decode cX1_redo 63 = .ok (.putfield 208, 3) := dk_181 0 208 (dk_at dksX1_redo_2 15 rfl rfl)
theorem dX1_redo_66 : decode cX1_redo 66 = .ok (.aload_n 0, 1) := dk_42 (dk_at dksX1_redo_2 18 rfl rfl)
theorem dX1_redo_67 : decode cX1_redo 67 = .ok (.getfield 229, 3) := dk_180 0 229 (dk_at dksX1_redo_2 19 rfl rfl)
theorem dX1_redo_70 : decode cX1_redo 70 = .ok (.ireturn, 1) := dk_172 (dk_at dksX1_redo_2 22 rfl rfl)
abbrev cX1_commit : ByteArray := prog_1_method_31_code
def yX1_commit : MethodName := ⟨RX1, "commit", "()I"⟩
def dkwX1_commit_6 : List UInt8 := [4, 96, 181, 0, 191, 42, 2, 181, 0, 126, 42, 3, 181, 1, 116, 42, 180, 0, 191, 4, 100, 172]
abbrev dktX1_commit_6 : List UInt8 := dkwX1_commit_6 ++ []
def dkwX1_commit_5 : List UInt8 := [42, 180, 0, 191, 45, 83, 42, 180, 0, 106, 42, 180, 0, 202, 42, 180, 0, 191, 79, 42, 89, 180, 0, 191]
abbrev dktX1_commit_5 : List UInt8 := dkwX1_commit_5 ++ dktX1_commit_6
def dkwX1_commit_4 : List UInt8 := [180, 0, 191, 121, 129, 183, 0, 188, 78, 45, 180, 0, 219, 42, 182, 0, 215, 182, 1, 113, 42, 180, 0, 102]
abbrev dktX1_commit_4 : List UInt8 := dkwX1_commit_4 ++ dktX1_commit_5
def dkwX1_commit_3 : List UInt8 := [187, 0, 100, 89, 42, 180, 0, 198, 182, 0, 194, 42, 182, 1, 107, 42, 180, 0, 126, 31, 10, 42]
abbrev dktX1_commit_3 : List UInt8 := dkwX1_commit_3 ++ dktX1_commit_4
def dkwX1_commit_2 : List UInt8 := [180, 0, 126, 2, 159, 0, 18, 31, 42, 180, 0, 102, 42, 180, 0, 126, 50, 180, 1, 110, 129, 64]
abbrev dktX1_commit_2 : List UInt8 := dkwX1_commit_2 ++ dktX1_commit_3
def dkwX1_commit_1 : List UInt8 := [187, 1, 15, 89, 183, 1, 17, 191, 42, 180, 0, 102, 42, 182, 1, 107, 50, 180, 1, 110, 64, 42]
abbrev dktX1_commit_1 : List UInt8 := dkwX1_commit_1 ++ dktX1_commit_2
def dkwX1_commit_0 : List UInt8 := [42, 182, 1, 104, 158, 0, 11, 187, 1, 42, 89, 183, 1, 44, 191, 42, 180, 0, 191, 16, 40, 160, 0, 11]
abbrev dktX1_commit_0 : List UInt8 := dkwX1_commit_0 ++ dktX1_commit_1
theorem dksX1_commit_0 : cX1_commit.data.toList.drop 0 = dktX1_commit_0 := by decide +kernel
theorem dksX1_commit_1 : cX1_commit.data.toList.drop 24 = dktX1_commit_1 := dk_seg dksX1_commit_0 24 rfl rfl
theorem dksX1_commit_2 : cX1_commit.data.toList.drop 46 = dktX1_commit_2 := dk_seg dksX1_commit_1 22 rfl rfl
theorem dksX1_commit_3 : cX1_commit.data.toList.drop 68 = dktX1_commit_3 := dk_seg dksX1_commit_2 22 rfl rfl
theorem dksX1_commit_4 : cX1_commit.data.toList.drop 90 = dktX1_commit_4 := dk_seg dksX1_commit_3 22 rfl rfl
theorem dksX1_commit_5 : cX1_commit.data.toList.drop 114 = dktX1_commit_5 := dk_seg dksX1_commit_4 24 rfl rfl
theorem dksX1_commit_6 : cX1_commit.data.toList.drop 138 = dktX1_commit_6 := dk_seg dksX1_commit_5 24 rfl rfl
theorem dX1_commit_0 : decode cX1_commit 0 = .ok (.aload_n 0, 1) := dk_42 (dk_at dksX1_commit_0 0 rfl rfl)
theorem dX1_commit_1 : decode cX1_commit 1 = .ok (.invokevirtual 360, 3) := dk_182 1 104 (dk_at dksX1_commit_0 1 rfl rfl)
theorem dX1_commit_4 : decode cX1_commit 4 = .ok (.ifCond .le 11, 3) := dk_158 0 11 (dk_at dksX1_commit_0 4 rfl rfl)
theorem dX1_commit_7 : decode cX1_commit 7 = .ok (.new 298, 3) := dk_187 1 42 (dk_at dksX1_commit_0 7 rfl rfl)
theorem dX1_commit_10 : decode cX1_commit 10 = .ok (.dup, 1) := dk_89 (dk_at dksX1_commit_0 10 rfl rfl)
theorem dX1_commit_11 : decode cX1_commit 11 = .ok (.invokespecial 300, 3) := dk_183 1 44 (dk_at dksX1_commit_0 11 rfl rfl)
theorem dX1_commit_14 : decode cX1_commit 14 = .ok (.athrow, 1) := dk_191 (dk_at dksX1_commit_0 14 rfl rfl)
theorem dX1_commit_15 : decode cX1_commit 15 = .ok (.aload_n 0, 1) := dk_42 (dk_at dksX1_commit_0 15 rfl rfl)
theorem dX1_commit_16 : decode cX1_commit 16 = .ok (.getfield 191, 3) := dk_180 0 191 (dk_at dksX1_commit_0 16 rfl rfl)
theorem dX1_commit_19 : decode cX1_commit 19 = .ok (.bipush 40, 2) := dk_16 40 (dk_at dksX1_commit_0 19 rfl rfl)
theorem dX1_commit_21 : decode cX1_commit 21 = .ok (.if_icmp .ne 11, 3) := dk_160 0 11 (dk_at dksX1_commit_0 21 rfl rfl)
theorem dX1_commit_24 : decode cX1_commit 24 = .ok (.new 271, 3) := dk_187 1 15 (dk_at dksX1_commit_1 0 rfl rfl)
theorem dX1_commit_27 : decode cX1_commit 27 = .ok (.dup, 1) := dk_89 (dk_at dksX1_commit_1 3 rfl rfl)
theorem dX1_commit_28 : decode cX1_commit 28 = .ok (.invokespecial 273, 3) := dk_183 1 17 (dk_at dksX1_commit_1 4 rfl rfl)
theorem dX1_commit_31 : decode cX1_commit 31 = .ok (.athrow, 1) := dk_191 (dk_at dksX1_commit_1 7 rfl rfl)
theorem dX1_commit_32 : decode cX1_commit 32 = .ok (.aload_n 0, 1) := dk_42 (dk_at dksX1_commit_1 8 rfl rfl)
theorem dX1_commit_33 : decode cX1_commit 33 = .ok (.getfield 102, 3) := dk_180 0 102 (dk_at dksX1_commit_1 9 rfl rfl)
theorem dX1_commit_36 : decode cX1_commit 36 = .ok (.aload_n 0, 1) := dk_42 (dk_at dksX1_commit_1 12 rfl rfl)
theorem dX1_commit_37 : decode cX1_commit 37 = .ok (.invokevirtual 363, 3) := dk_182 1 107 (dk_at dksX1_commit_1 13 rfl rfl)
theorem dX1_commit_40 : decode cX1_commit 40 = .ok (.aaload, 1) := dk_50 (dk_at dksX1_commit_1 16 rfl rfl)
theorem dX1_commit_41 : decode cX1_commit 41 = .ok (.getfield 366, 3) := dk_180 1 110 (dk_at dksX1_commit_1 17 rfl rfl)
theorem dX1_commit_44 : decode cX1_commit 44 = .ok (.lstore_n 1, 1) := dk_64 (dk_at dksX1_commit_1 20 rfl rfl)
theorem dX1_commit_45 : decode cX1_commit 45 = .ok (.aload_n 0, 1) := dk_42 (dk_at dksX1_commit_1 21 rfl rfl)
theorem dX1_commit_46 : decode cX1_commit 46 = .ok (.getfield 126, 3) := dk_180 0 126 (dk_at dksX1_commit_2 0 rfl rfl)
theorem dX1_commit_49 : decode cX1_commit 49 = .ok (.iconst (-1), 1) := dk_2 (dk_at dksX1_commit_2 3 rfl rfl)
theorem dX1_commit_50 : decode cX1_commit 50 = .ok (.if_icmp .eq 18, 3) := dk_159 0 18 (dk_at dksX1_commit_2 4 rfl rfl)
theorem dX1_commit_53 : decode cX1_commit 53 = .ok (.lload_n 1, 1) := dk_31 (dk_at dksX1_commit_2 7 rfl rfl)
theorem dX1_commit_54 : decode cX1_commit 54 = .ok (.aload_n 0, 1) := dk_42 (dk_at dksX1_commit_2 8 rfl rfl)
theorem dX1_commit_55 : decode cX1_commit 55 = .ok (.getfield 102, 3) := dk_180 0 102 (dk_at dksX1_commit_2 9 rfl rfl)
theorem dX1_commit_58 : decode cX1_commit 58 = .ok (.aload_n 0, 1) := dk_42 (dk_at dksX1_commit_2 12 rfl rfl)
theorem dX1_commit_59 : decode cX1_commit 59 = .ok (.getfield 126, 3) := dk_180 0 126 (dk_at dksX1_commit_2 13 rfl rfl)
theorem dX1_commit_62 : decode cX1_commit 62 = .ok (.aaload, 1) := dk_50 (dk_at dksX1_commit_2 16 rfl rfl)
theorem dX1_commit_63 : decode cX1_commit 63 = .ok (.getfield 366, 3) := dk_180 1 110 (dk_at dksX1_commit_2 17 rfl rfl)
theorem dX1_commit_66 : decode cX1_commit 66 = .ok (.lor, 1) := dk_129 (dk_at dksX1_commit_2 20 rfl rfl)
theorem dX1_commit_67 : decode cX1_commit 67 = .ok (.lstore_n 1, 1) := dk_64 (dk_at dksX1_commit_2 21 rfl rfl)
theorem dX1_commit_68 : decode cX1_commit 68 = .ok (.new 100, 3) := dk_187 0 100 (dk_at dksX1_commit_3 0 rfl rfl)
theorem dX1_commit_71 : decode cX1_commit 71 = .ok (.dup, 1) := dk_89 (dk_at dksX1_commit_3 3 rfl rfl)
theorem dX1_commit_72 : decode cX1_commit 72 = .ok (.aload_n 0, 1) := dk_42 (dk_at dksX1_commit_3 4 rfl rfl)
theorem dX1_commit_73 : decode cX1_commit 73 = .ok (.getfield 198, 3) := dk_180 0 198 (dk_at dksX1_commit_3 5 rfl rfl)
theorem dX1_commit_76 : decode cX1_commit 76 = .ok (.invokevirtual 194, 3) := dk_182 0 194 (dk_at dksX1_commit_3 8 rfl rfl)
theorem dX1_commit_79 : decode cX1_commit 79 = .ok (.aload_n 0, 1) := dk_42 (dk_at dksX1_commit_3 11 rfl rfl)
theorem dX1_commit_80 : decode cX1_commit 80 = .ok (.invokevirtual 363, 3) := dk_182 1 107 (dk_at dksX1_commit_3 12 rfl rfl)
theorem dX1_commit_83 : decode cX1_commit 83 = .ok (.aload_n 0, 1) := dk_42 (dk_at dksX1_commit_3 15 rfl rfl)
theorem dX1_commit_84 : decode cX1_commit 84 = .ok (.getfield 126, 3) := dk_180 0 126 (dk_at dksX1_commit_3 16 rfl rfl)
theorem dX1_commit_87 : decode cX1_commit 87 = .ok (.lload_n 1, 1) := dk_31 (dk_at dksX1_commit_3 19 rfl rfl)
theorem dX1_commit_88 : decode cX1_commit 88 = .ok (.lconst 1, 1) := dk_10 (dk_at dksX1_commit_3 20 rfl rfl)
theorem dX1_commit_89 : decode cX1_commit 89 = .ok (.aload_n 0, 1) := dk_42 (dk_at dksX1_commit_3 21 rfl rfl)
theorem dX1_commit_90 : decode cX1_commit 90 = .ok (.getfield 191, 3) := dk_180 0 191 (dk_at dksX1_commit_4 0 rfl rfl)
theorem dX1_commit_93 : decode cX1_commit 93 = .ok (.lshl, 1) := dk_121 (dk_at dksX1_commit_4 3 rfl rfl)
theorem dX1_commit_94 : decode cX1_commit 94 = .ok (.lor, 1) := dk_129 (dk_at dksX1_commit_4 4 rfl rfl)
theorem dX1_commit_95 : decode cX1_commit 95 = .ok (.invokespecial 188, 3) := dk_183 0 188 (dk_at dksX1_commit_4 5 rfl rfl)
theorem dX1_commit_98 : decode cX1_commit 98 = .ok (.astore_n 3, 1) := dk_78 (dk_at dksX1_commit_4 8 rfl rfl)
theorem dX1_commit_99 : decode cX1_commit 99 = .ok (.aload_n 3, 1) := dk_45 (dk_at dksX1_commit_4 9 rfl rfl)
theorem dX1_commit_100 : decode cX1_commit 100 = .ok (.getfield 219, 3) := dk_180 0 219 (dk_at dksX1_commit_4 10 rfl rfl)
theorem dX1_commit_103 : decode cX1_commit 103 = .ok (.aload_n 0, 1) := dk_42 (dk_at dksX1_commit_4 13 rfl rfl)
theorem dX1_commit_104 : decode cX1_commit 104 = .ok (.invokevirtual 215, 3) := dk_182 0 215 (dk_at dksX1_commit_4 14 rfl rfl)
theorem dX1_commit_107 : decode cX1_commit 107 = .ok (.invokevirtual 369, 3) := dk_182 1 113 (dk_at dksX1_commit_4 17 rfl rfl)
theorem dX1_commit_110 : decode cX1_commit 110 = .ok (.aload_n 0, 1) := dk_42 (dk_at dksX1_commit_4 20 rfl rfl)
theorem dX1_commit_111 : decode cX1_commit 111 = .ok (.getfield 102, 3) := dk_180 0 102 (dk_at dksX1_commit_4 21 rfl rfl)
theorem dX1_commit_114 : decode cX1_commit 114 = .ok (.aload_n 0, 1) := dk_42 (dk_at dksX1_commit_5 0 rfl rfl)
theorem dX1_commit_115 : decode cX1_commit 115 = .ok (.getfield 191, 3) := dk_180 0 191 (dk_at dksX1_commit_5 1 rfl rfl)
theorem dX1_commit_118 : decode cX1_commit 118 = .ok (.aload_n 3, 1) := dk_45 (dk_at dksX1_commit_5 4 rfl rfl)
theorem dX1_commit_119 : decode cX1_commit 119 = .ok (.aastore, 1) := dk_83 (dk_at dksX1_commit_5 5 rfl rfl)
theorem dX1_commit_120 : decode cX1_commit 120 = .ok (.aload_n 0, 1) := dk_42 (dk_at dksX1_commit_5 6 rfl rfl)
theorem dX1_commit_121 : decode cX1_commit 121 = .ok (.getfield 106, 3) := dk_180 0 106 (dk_at dksX1_commit_5 7 rfl rfl)
theorem dX1_commit_124 : decode cX1_commit 124 = .ok (.aload_n 0, 1) := dk_42 (dk_at dksX1_commit_5 10 rfl rfl)
theorem dX1_commit_125 : decode cX1_commit 125 = .ok (.getfield 202, 3) := dk_180 0 202 (dk_at dksX1_commit_5 11 rfl rfl)
theorem dX1_commit_128 : decode cX1_commit 128 = .ok (.aload_n 0, 1) := dk_42 (dk_at dksX1_commit_5 14 rfl rfl)
theorem dX1_commit_129 : decode cX1_commit 129 = .ok (.getfield 191, 3) := dk_180 0 191 (dk_at dksX1_commit_5 15 rfl rfl)
theorem dX1_commit_132 : decode cX1_commit 132 = .ok (.iastore, 1) := dk_79 (dk_at dksX1_commit_5 18 rfl rfl)
theorem dX1_commit_133 : decode cX1_commit 133 = .ok (.aload_n 0, 1) := dk_42 (dk_at dksX1_commit_5 19 rfl rfl)
theorem dX1_commit_134 : decode cX1_commit 134 = .ok (.dup, 1) := dk_89 (dk_at dksX1_commit_5 20 rfl rfl)
theorem dX1_commit_135 : decode cX1_commit 135 = .ok (.getfield 191, 3) := dk_180 0 191 (dk_at dksX1_commit_5 21 rfl rfl)
theorem dX1_commit_138 : decode cX1_commit 138 = .ok (.iconst 1, 1) := dk_4 (dk_at dksX1_commit_6 0 rfl rfl)
theorem dX1_commit_139 : decode cX1_commit 139 = .ok (.iadd, 1) := dk_96 (dk_at dksX1_commit_6 1 rfl rfl)
theorem dX1_commit_140 : decode cX1_commit 140 = .ok (.putfield 191, 3) := dk_181 0 191 (dk_at dksX1_commit_6 2 rfl rfl)
theorem dX1_commit_143 : decode cX1_commit 143 = .ok (.aload_n 0, 1) := dk_42 (dk_at dksX1_commit_6 5 rfl rfl)
theorem dX1_commit_144 : decode cX1_commit 144 = .ok (.iconst (-1), 1) := dk_2 (dk_at dksX1_commit_6 6 rfl rfl)
theorem dX1_commit_145 : decode cX1_commit 145 = .ok (.putfield 126, 3) := dk_181 0 126 (dk_at dksX1_commit_6 7 rfl rfl)
theorem dX1_commit_148 : decode cX1_commit 148 = .ok (.aload_n 0, 1) := dk_42 (dk_at dksX1_commit_6 10 rfl rfl)
theorem dX1_commit_149 : decode cX1_commit 149 = .ok (.iconst 0, 1) := dk_3 (dk_at dksX1_commit_6 11 rfl rfl)
theorem dX1_commit_150 : decode cX1_commit 150 = .ok (.putfield 372, 3) := dk_181 1 116 (dk_at dksX1_commit_6 12 rfl rfl)
theorem dX1_commit_153 : decode cX1_commit 153 = .ok (.aload_n 0, 1) := dk_42 (dk_at dksX1_commit_6 15 rfl rfl)
theorem dX1_commit_154 : decode cX1_commit 154 = .ok (.getfield 191, 3) := dk_180 0 191 (dk_at dksX1_commit_6 16 rfl rfl)
theorem dX1_commit_157 : decode cX1_commit 157 = .ok (.iconst 1, 1) := dk_4 (dk_at dksX1_commit_6 19 rfl rfl)
theorem dX1_commit_158 : decode cX1_commit 158 = .ok (.isub, 1) := dk_100 (dk_at dksX1_commit_6 20 rfl rfl)
theorem dX1_commit_159 : decode cX1_commit 159 = .ok (.ireturn, 1) := dk_172 (dk_at dksX1_commit_6 21 rfl rfl)
abbrev cX1_branch : ByteArray := prog_1_method_33_code
def yX1_branch : MethodName := ⟨RX1, "branch", "(I)I"⟩
def dkwX1_branch_2 : List UInt8 := [182, 1, 107, 172]
abbrev dktX1_branch_2 : List UInt8 := dkwX1_branch_2 ++ []
def dkwX1_branch_1 : List UInt8 := [159, 0, 11, 187, 1, 42, 89, 183, 1, 44, 191, 42, 180, 0, 106, 27, 42, 182, 1, 107, 79, 42]
abbrev dktX1_branch_1 : List UInt8 := dkwX1_branch_1 ++ dktX1_branch_2
def dkwX1_branch_0 : List UInt8 := [27, 184, 1, 119, 154, 0, 11, 187, 0, 239, 89, 183, 0, 241, 191, 42, 180, 0, 106, 27, 46, 2]
abbrev dktX1_branch_0 : List UInt8 := dkwX1_branch_0 ++ dktX1_branch_1
theorem dksX1_branch_0 : cX1_branch.data.toList.drop 0 = dktX1_branch_0 := by decide +kernel
theorem dksX1_branch_1 : cX1_branch.data.toList.drop 22 = dktX1_branch_1 := dk_seg dksX1_branch_0 22 rfl rfl
theorem dksX1_branch_2 : cX1_branch.data.toList.drop 44 = dktX1_branch_2 := dk_seg dksX1_branch_1 22 rfl rfl
theorem dX1_branch_0 : decode cX1_branch 0 = .ok (.iload_n 1, 1) := dk_27 (dk_at dksX1_branch_0 0 rfl rfl)
theorem dX1_branch_1 : decode cX1_branch 1 = .ok (.invokestatic 375, 3) := dk_184 1 119 (dk_at dksX1_branch_0 1 rfl rfl)
theorem dX1_branch_4 : decode cX1_branch 4 = .ok (.ifCond .ne 11, 3) := dk_154 0 11 (dk_at dksX1_branch_0 4 rfl rfl)
theorem dX1_branch_7 : decode cX1_branch 7 = .ok (.new 239, 3) := dk_187 0 239 (dk_at dksX1_branch_0 7 rfl rfl)
theorem dX1_branch_10 : decode cX1_branch 10 = .ok (.dup, 1) := dk_89 (dk_at dksX1_branch_0 10 rfl rfl)
theorem dX1_branch_11 : decode cX1_branch 11 = .ok (.invokespecial 241, 3) := dk_183 0 241 (dk_at dksX1_branch_0 11 rfl rfl)
theorem dX1_branch_14 : decode cX1_branch 14 = .ok (.athrow, 1) := dk_191 (dk_at dksX1_branch_0 14 rfl rfl)
theorem dX1_branch_15 : decode cX1_branch 15 = .ok (.aload_n 0, 1) := dk_42 (dk_at dksX1_branch_0 15 rfl rfl)
theorem dX1_branch_16 : decode cX1_branch 16 = .ok (.getfield 106, 3) := dk_180 0 106 (dk_at dksX1_branch_0 16 rfl rfl)
theorem dX1_branch_19 : decode cX1_branch 19 = .ok (.iload_n 1, 1) := dk_27 (dk_at dksX1_branch_0 19 rfl rfl)
theorem dX1_branch_20 : decode cX1_branch 20 = .ok (.iaload, 1) := dk_46 (dk_at dksX1_branch_0 20 rfl rfl)
theorem dX1_branch_21 : decode cX1_branch 21 = .ok (.iconst (-1), 1) := dk_2 (dk_at dksX1_branch_0 21 rfl rfl)
theorem dX1_branch_22 : decode cX1_branch 22 = .ok (.if_icmp .eq 11, 3) := dk_159 0 11 (dk_at dksX1_branch_1 0 rfl rfl)
theorem dX1_branch_25 : decode cX1_branch 25 = .ok (.new 298, 3) := dk_187 1 42 (dk_at dksX1_branch_1 3 rfl rfl)
theorem dX1_branch_28 : decode cX1_branch 28 = .ok (.dup, 1) := dk_89 (dk_at dksX1_branch_1 6 rfl rfl)
theorem dX1_branch_29 : decode cX1_branch 29 = .ok (.invokespecial 300, 3) := dk_183 1 44 (dk_at dksX1_branch_1 7 rfl rfl)
theorem dX1_branch_32 : decode cX1_branch 32 = .ok (.athrow, 1) := dk_191 (dk_at dksX1_branch_1 10 rfl rfl)
theorem dX1_branch_33 : decode cX1_branch 33 = .ok (.aload_n 0, 1) := dk_42 (dk_at dksX1_branch_1 11 rfl rfl)
theorem dX1_branch_34 : decode cX1_branch 34 = .ok (.getfield 106, 3) := dk_180 0 106 (dk_at dksX1_branch_1 12 rfl rfl)
theorem dX1_branch_37 : decode cX1_branch 37 = .ok (.iload_n 1, 1) := dk_27 (dk_at dksX1_branch_1 15 rfl rfl)
theorem dX1_branch_38 : decode cX1_branch 38 = .ok (.aload_n 0, 1) := dk_42 (dk_at dksX1_branch_1 16 rfl rfl)
theorem dX1_branch_39 : decode cX1_branch 39 = .ok (.invokevirtual 363, 3) := dk_182 1 107 (dk_at dksX1_branch_1 17 rfl rfl)
theorem dX1_branch_42 : decode cX1_branch 42 = .ok (.iastore, 1) := dk_79 (dk_at dksX1_branch_1 20 rfl rfl)
theorem dX1_branch_43 : decode cX1_branch 43 = .ok (.aload_n 0, 1) := dk_42 (dk_at dksX1_branch_1 21 rfl rfl)
theorem dX1_branch_44 : decode cX1_branch 44 = .ok (.invokevirtual 363, 3) := dk_182 1 107 (dk_at dksX1_branch_2 0 rfl rfl)
theorem dX1_branch_47 : decode cX1_branch 47 = .ok (.ireturn, 1) := dk_172 (dk_at dksX1_branch_2 3 rfl rfl)
abbrev cX1_isBranch : ByteArray := prog_1_method_32_code
def yX1_isBranch : MethodName := ⟨RX1, "isBranch", "(I)Z"⟩
def dkwX1_isBranch_0 : List UInt8 := [26, 155, 0, 13, 26, 16, 6, 162, 0, 7, 4, 167, 0, 4, 3, 172]
abbrev dktX1_isBranch_0 : List UInt8 := dkwX1_isBranch_0 ++ []
theorem dksX1_isBranch_0 : cX1_isBranch.data.toList.drop 0 = dktX1_isBranch_0 := by decide +kernel
theorem dX1_isBranch_0 : decode cX1_isBranch 0 = .ok (.iload_n 0, 1) := dk_26 (dk_at dksX1_isBranch_0 0 rfl rfl)
theorem dX1_isBranch_1 : decode cX1_isBranch 1 = .ok (.ifCond .lt 13, 3) := dk_155 0 13 (dk_at dksX1_isBranch_0 1 rfl rfl)
theorem dX1_isBranch_4 : decode cX1_isBranch 4 = .ok (.iload_n 0, 1) := dk_26 (dk_at dksX1_isBranch_0 4 rfl rfl)
theorem dX1_isBranch_5 : decode cX1_isBranch 5 = .ok (.bipush 6, 2) := dk_16 6 (dk_at dksX1_isBranch_0 5 rfl rfl)
theorem dX1_isBranch_7 : decode cX1_isBranch 7 = .ok (.if_icmp .ge 7, 3) := dk_162 0 7 (dk_at dksX1_isBranch_0 7 rfl rfl)
theorem dX1_isBranch_10 : decode cX1_isBranch 10 = .ok (.iconst 1, 1) := dk_4 (dk_at dksX1_isBranch_0 10 rfl rfl)
theorem dX1_isBranch_11 : decode cX1_isBranch 11 = .ok (.goto 4, 3) := dk_167 0 4 (dk_at dksX1_isBranch_0 11 rfl rfl)
theorem dX1_isBranch_14 : decode cX1_isBranch 14 = .ok (.iconst 0, 1) := dk_3 (dk_at dksX1_isBranch_0 14 rfl rfl)
theorem dX1_isBranch_15 : decode cX1_isBranch 15 = .ok (.ireturn, 1) := dk_172 (dk_at dksX1_isBranch_0 15 rfl rfl)
abbrev cX1_go : ByteArray := prog_1_method_35_code
def yX1_go : MethodName := ⟨RX1, "go", "(I)I"⟩
def dkwX1_go_3 : List UInt8 := [191, 42, 27, 181, 0, 202, 42, 182, 1, 133, 42, 182, 1, 107, 172]
abbrev dktX1_go_3 : List UInt8 := dkwX1_go_3 ++ []
def dkwX1_go_2 : List UInt8 := [180, 0, 102, 42, 182, 1, 107, 50, 180, 0, 205, 182, 1, 129, 154, 0, 11, 187, 1, 42, 89, 183, 1, 44]
abbrev dktX1_go_2 : List UInt8 := dkwX1_go_2 ++ dktX1_go_3
def dkwX1_go_1 : List UInt8 := [160, 0, 11, 187, 0, 232, 89, 183, 0, 234, 191, 42, 182, 1, 126, 154, 0, 25, 42, 180, 0, 198, 42]
abbrev dktX1_go_1 : List UInt8 := dkwX1_go_1 ++ dktX1_go_2
def dkwX1_go_0 : List UInt8 := [27, 184, 1, 119, 154, 0, 11, 187, 0, 239, 89, 183, 0, 241, 191, 42, 180, 0, 106, 27, 46, 2]
abbrev dktX1_go_0 : List UInt8 := dkwX1_go_0 ++ dktX1_go_1
theorem dksX1_go_0 : cX1_go.data.toList.drop 0 = dktX1_go_0 := by decide +kernel
theorem dksX1_go_1 : cX1_go.data.toList.drop 22 = dktX1_go_1 := dk_seg dksX1_go_0 22 rfl rfl
theorem dksX1_go_2 : cX1_go.data.toList.drop 45 = dktX1_go_2 := dk_seg dksX1_go_1 23 rfl rfl
theorem dksX1_go_3 : cX1_go.data.toList.drop 69 = dktX1_go_3 := dk_seg dksX1_go_2 24 rfl rfl
theorem dX1_go_0 : decode cX1_go 0 = .ok (.iload_n 1, 1) := dk_27 (dk_at dksX1_go_0 0 rfl rfl)
theorem dX1_go_1 : decode cX1_go 1 = .ok (.invokestatic 375, 3) := dk_184 1 119 (dk_at dksX1_go_0 1 rfl rfl)
theorem dX1_go_4 : decode cX1_go 4 = .ok (.ifCond .ne 11, 3) := dk_154 0 11 (dk_at dksX1_go_0 4 rfl rfl)
theorem dX1_go_7 : decode cX1_go 7 = .ok (.new 239, 3) := dk_187 0 239 (dk_at dksX1_go_0 7 rfl rfl)
theorem dX1_go_10 : decode cX1_go 10 = .ok (.dup, 1) := dk_89 (dk_at dksX1_go_0 10 rfl rfl)
theorem dX1_go_11 : decode cX1_go 11 = .ok (.invokespecial 241, 3) := dk_183 0 241 (dk_at dksX1_go_0 11 rfl rfl)
theorem dX1_go_14 : decode cX1_go 14 = .ok (.athrow, 1) := dk_191 (dk_at dksX1_go_0 14 rfl rfl)
theorem dX1_go_15 : decode cX1_go 15 = .ok (.aload_n 0, 1) := dk_42 (dk_at dksX1_go_0 15 rfl rfl)
theorem dX1_go_16 : decode cX1_go 16 = .ok (.getfield 106, 3) := dk_180 0 106 (dk_at dksX1_go_0 16 rfl rfl)
theorem dX1_go_19 : decode cX1_go 19 = .ok (.iload_n 1, 1) := dk_27 (dk_at dksX1_go_0 19 rfl rfl)
theorem dX1_go_20 : decode cX1_go 20 = .ok (.iaload, 1) := dk_46 (dk_at dksX1_go_0 20 rfl rfl)
theorem dX1_go_21 : decode cX1_go 21 = .ok (.iconst (-1), 1) := dk_2 (dk_at dksX1_go_0 21 rfl rfl)
theorem dX1_go_22 : decode cX1_go 22 = .ok (.if_icmp .ne 11, 3) := dk_160 0 11 (dk_at dksX1_go_1 0 rfl rfl)
theorem dX1_go_25 : decode cX1_go 25 = .ok (.new 232, 3) := dk_187 0 232 (dk_at dksX1_go_1 3 rfl rfl)
theorem dX1_go_28 : decode cX1_go 28 = .ok (.dup, 1) := dk_89 (dk_at dksX1_go_1 6 rfl rfl)
theorem dX1_go_29 : decode cX1_go 29 = .ok (.invokespecial 234, 3) := dk_183 0 234 (dk_at dksX1_go_1 7 rfl rfl)
theorem dX1_go_32 : decode cX1_go 32 = .ok (.athrow, 1) := dk_191 (dk_at dksX1_go_1 10 rfl rfl)
theorem dX1_go_33 : decode cX1_go 33 = .ok (.aload_n 0, 1) := dk_42 (dk_at dksX1_go_1 11 rfl rfl)
theorem dX1_go_34 : decode cX1_go 34 = .ok (.invokevirtual 382, 3) := dk_182 1 126 (dk_at dksX1_go_1 12 rfl rfl)
theorem dX1_go_37 : decode cX1_go 37 = .ok (.ifCond .ne 25, 3) := dk_154 0 25 (dk_at dksX1_go_1 15 rfl rfl)
theorem dX1_go_40 : decode cX1_go 40 = .ok (.aload_n 0, 1) := dk_42 (dk_at dksX1_go_1 18 rfl rfl)
theorem dX1_go_41 : decode cX1_go 41 = .ok (.getfield 198, 3) := dk_180 0 198 (dk_at dksX1_go_1 19 rfl rfl)
theorem dX1_go_44 : decode cX1_go 44 = .ok (.aload_n 0, 1) := dk_42 (dk_at dksX1_go_1 22 rfl rfl)
theorem dX1_go_45 : decode cX1_go 45 = .ok (.getfield 102, 3) := dk_180 0 102 (dk_at dksX1_go_2 0 rfl rfl)
theorem dX1_go_48 : decode cX1_go 48 = .ok (.aload_n 0, 1) := dk_42 (dk_at dksX1_go_2 3 rfl rfl)
theorem dX1_go_49 : decode cX1_go 49 = .ok (.invokevirtual 363, 3) := dk_182 1 107 (dk_at dksX1_go_2 4 rfl rfl)
theorem dX1_go_52 : decode cX1_go 52 = .ok (.aaload, 1) := dk_50 (dk_at dksX1_go_2 7 rfl rfl)
theorem dX1_go_53 : decode cX1_go 53 = .ok (.getfield 205, 3) := dk_180 0 205 (dk_at dksX1_go_2 8 rfl rfl)
theorem dX1_go_56 : decode cX1_go 56 = .ok (.invokevirtual 385, 3) := dk_182 1 129 (dk_at dksX1_go_2 11 rfl rfl)
theorem dX1_go_59 : decode cX1_go 59 = .ok (.ifCond .ne 11, 3) := dk_154 0 11 (dk_at dksX1_go_2 14 rfl rfl)
theorem dX1_go_62 : decode cX1_go 62 = .ok (.new 298, 3) := dk_187 1 42 (dk_at dksX1_go_2 17 rfl rfl)
theorem dX1_go_65 : decode cX1_go 65 = .ok (.dup, 1) := dk_89 (dk_at dksX1_go_2 20 rfl rfl)
theorem dX1_go_66 : decode cX1_go 66 = .ok (.invokespecial 300, 3) := dk_183 1 44 (dk_at dksX1_go_2 21 rfl rfl)
theorem dX1_go_69 : decode cX1_go 69 = .ok (.athrow, 1) := dk_191 (dk_at dksX1_go_3 0 rfl rfl)
theorem dX1_go_70 : decode cX1_go 70 = .ok (.aload_n 0, 1) := dk_42 (dk_at dksX1_go_3 1 rfl rfl)
theorem dX1_go_71 : decode cX1_go 71 = .ok (.iload_n 1, 1) := dk_27 (dk_at dksX1_go_3 2 rfl rfl)
theorem dX1_go_72 : decode cX1_go 72 = .ok (.putfield 202, 3) := dk_181 0 202 (dk_at dksX1_go_3 3 rfl rfl)
theorem dX1_go_75 : decode cX1_go 75 = .ok (.aload_n 0, 1) := dk_42 (dk_at dksX1_go_3 6 rfl rfl)
theorem dX1_go_76 : decode cX1_go 76 = .ok (.invokevirtual 389, 3) := dk_182 1 133 (dk_at dksX1_go_3 7 rfl rfl)
theorem dX1_go_79 : decode cX1_go 79 = .ok (.aload_n 0, 1) := dk_42 (dk_at dksX1_go_3 10 rfl rfl)
theorem dX1_go_80 : decode cX1_go 80 = .ok (.invokevirtual 363, 3) := dk_182 1 107 (dk_at dksX1_go_3 11 rfl rfl)
theorem dX1_go_83 : decode cX1_go 83 = .ok (.ireturn, 1) := dk_172 (dk_at dksX1_go_3 14 rfl rfl)
abbrev cX1_isBusy : ByteArray := prog_1_method_37_code
def yX1_isBusy : MethodName := ⟨RX1, "isBusy", "()Z"⟩
def dkwX1_isBusy_0 : List UInt8 := [42, 180, 0, 126, 2, 160, 0, 10, 42, 182, 1, 104, 158, 0, 7, 4, 167, 0, 4, 3, 172]
abbrev dktX1_isBusy_0 : List UInt8 := dkwX1_isBusy_0 ++ []
theorem dksX1_isBusy_0 : cX1_isBusy.data.toList.drop 0 = dktX1_isBusy_0 := by decide +kernel
theorem dX1_isBusy_0 : decode cX1_isBusy 0 = .ok (.aload_n 0, 1) := dk_42 (dk_at dksX1_isBusy_0 0 rfl rfl)
theorem dX1_isBusy_1 : decode cX1_isBusy 1 = .ok (.getfield 126, 3) := dk_180 0 126 (dk_at dksX1_isBusy_0 1 rfl rfl)
theorem dX1_isBusy_4 : decode cX1_isBusy 4 = .ok (.iconst (-1), 1) := dk_2 (dk_at dksX1_isBusy_0 4 rfl rfl)
theorem dX1_isBusy_5 : decode cX1_isBusy 5 = .ok (.if_icmp .ne 10, 3) := dk_160 0 10 (dk_at dksX1_isBusy_0 5 rfl rfl)
theorem dX1_isBusy_8 : decode cX1_isBusy 8 = .ok (.aload_n 0, 1) := dk_42 (dk_at dksX1_isBusy_0 8 rfl rfl)
theorem dX1_isBusy_9 : decode cX1_isBusy 9 = .ok (.invokevirtual 360, 3) := dk_182 1 104 (dk_at dksX1_isBusy_0 9 rfl rfl)
theorem dX1_isBusy_12 : decode cX1_isBusy 12 = .ok (.ifCond .le 7, 3) := dk_158 0 7 (dk_at dksX1_isBusy_0 12 rfl rfl)
theorem dX1_isBusy_15 : decode cX1_isBusy 15 = .ok (.iconst 1, 1) := dk_4 (dk_at dksX1_isBusy_0 15 rfl rfl)
theorem dX1_isBusy_16 : decode cX1_isBusy 16 = .ok (.goto 4, 3) := dk_167 0 4 (dk_at dksX1_isBusy_0 16 rfl rfl)
theorem dX1_isBusy_19 : decode cX1_isBusy 19 = .ok (.iconst 0, 1) := dk_3 (dk_at dksX1_isBusy_0 19 rfl rfl)
theorem dX1_isBusy_20 : decode cX1_isBusy 20 = .ok (.ireturn, 1) := dk_172 (dk_at dksX1_isBusy_0 20 rfl rfl)
abbrev cX1_merge : ByteArray := prog_1_method_39_code
def yX1_merge : MethodName := ⟨RX1, "merge", "(I)I"⟩
def dkwX1_merge_5 : List UInt8 := [182, 1, 155, 62, 42, 28, 181, 0, 126, 29, 172]
abbrev dktX1_merge_5 : List UInt8 := dkwX1_merge_5 ++ []
def dkwX1_merge_4 : List UInt8 := [42, 42, 182, 1, 107, 28, 182, 1, 152, 50, 180, 0, 205, 42, 180, 0, 102, 28, 50, 180, 0, 205]
abbrev dktX1_merge_4 : List UInt8 := dkwX1_merge_4 ++ dktX1_merge_5
def dkwX1_merge_3 : List UInt8 := [42, 182, 1, 107, 50, 180, 1, 110, 28, 123, 10, 127, 10, 148, 154, 0, 5, 2, 172, 42, 42, 180, 0, 102]
abbrev dktX1_merge_3 : List UInt8 := dkwX1_merge_3 ++ dktX1_merge_4
def dkwX1_merge_2 : List UInt8 := [89, 183, 1, 17, 191, 42, 182, 1, 126, 153, 0, 11, 187, 1, 42, 89, 183, 1, 44, 191, 42, 180, 0, 102]
abbrev dktX1_merge_2 : List UInt8 := dkwX1_merge_2 ++ dktX1_merge_3
def dkwX1_merge_1 : List UInt8 := [160, 0, 11, 187, 0, 232, 89, 183, 0, 234, 191, 42, 180, 1, 149, 17, 0, 200, 160, 0, 11, 187, 1, 15]
abbrev dktX1_merge_1 : List UInt8 := dkwX1_merge_1 ++ dktX1_merge_2
def dkwX1_merge_0 : List UInt8 := [27, 184, 1, 119, 154, 0, 11, 187, 0, 239, 89, 183, 0, 241, 191, 42, 180, 0, 106, 27, 46, 61, 28, 2]
abbrev dktX1_merge_0 : List UInt8 := dkwX1_merge_0 ++ dktX1_merge_1
theorem dksX1_merge_0 : cX1_merge.data.toList.drop 0 = dktX1_merge_0 := by decide +kernel
theorem dksX1_merge_1 : cX1_merge.data.toList.drop 24 = dktX1_merge_1 := dk_seg dksX1_merge_0 24 rfl rfl
theorem dksX1_merge_2 : cX1_merge.data.toList.drop 48 = dktX1_merge_2 := dk_seg dksX1_merge_1 24 rfl rfl
theorem dksX1_merge_3 : cX1_merge.data.toList.drop 72 = dktX1_merge_3 := dk_seg dksX1_merge_2 24 rfl rfl
theorem dksX1_merge_4 : cX1_merge.data.toList.drop 96 = dktX1_merge_4 := dk_seg dksX1_merge_3 24 rfl rfl
theorem dksX1_merge_5 : cX1_merge.data.toList.drop 118 = dktX1_merge_5 := dk_seg dksX1_merge_4 22 rfl rfl
theorem dX1_merge_0 : decode cX1_merge 0 = .ok (.iload_n 1, 1) := dk_27 (dk_at dksX1_merge_0 0 rfl rfl)
theorem dX1_merge_1 : decode cX1_merge 1 = .ok (.invokestatic 375, 3) := dk_184 1 119 (dk_at dksX1_merge_0 1 rfl rfl)
theorem dX1_merge_4 : decode cX1_merge 4 = .ok (.ifCond .ne 11, 3) := dk_154 0 11 (dk_at dksX1_merge_0 4 rfl rfl)
theorem dX1_merge_7 : decode cX1_merge 7 = .ok (.new 239, 3) := dk_187 0 239 (dk_at dksX1_merge_0 7 rfl rfl)
theorem dX1_merge_10 : decode cX1_merge 10 = .ok (.dup, 1) := dk_89 (dk_at dksX1_merge_0 10 rfl rfl)
theorem dX1_merge_11 : decode cX1_merge 11 = .ok (.invokespecial 241, 3) := dk_183 0 241 (dk_at dksX1_merge_0 11 rfl rfl)
theorem dX1_merge_14 : decode cX1_merge 14 = .ok (.athrow, 1) := dk_191 (dk_at dksX1_merge_0 14 rfl rfl)
theorem dX1_merge_15 : decode cX1_merge 15 = .ok (.aload_n 0, 1) := dk_42 (dk_at dksX1_merge_0 15 rfl rfl)
theorem dX1_merge_16 : decode cX1_merge 16 = .ok (.getfield 106, 3) := dk_180 0 106 (dk_at dksX1_merge_0 16 rfl rfl)
theorem dX1_merge_19 : decode cX1_merge 19 = .ok (.iload_n 1, 1) := dk_27 (dk_at dksX1_merge_0 19 rfl rfl)
theorem dX1_merge_20 : decode cX1_merge 20 = .ok (.iaload, 1) := dk_46 (dk_at dksX1_merge_0 20 rfl rfl)
theorem dX1_merge_21 : decode cX1_merge 21 = .ok (.istore_n 2, 1) := dk_61 (dk_at dksX1_merge_0 21 rfl rfl)
theorem dX1_merge_22 : decode cX1_merge 22 = .ok (.iload_n 2, 1) := dk_28 (dk_at dksX1_merge_0 22 rfl rfl)
theorem dX1_merge_23 : decode cX1_merge 23 = .ok (.iconst (-1), 1) := dk_2 (dk_at dksX1_merge_0 23 rfl rfl)
theorem dX1_merge_24 : decode cX1_merge 24 = .ok (.if_icmp .ne 11, 3) := dk_160 0 11 (dk_at dksX1_merge_1 0 rfl rfl)
theorem dX1_merge_27 : decode cX1_merge 27 = .ok (.new 232, 3) := dk_187 0 232 (dk_at dksX1_merge_1 3 rfl rfl)
theorem dX1_merge_30 : decode cX1_merge 30 = .ok (.dup, 1) := dk_89 (dk_at dksX1_merge_1 6 rfl rfl)
theorem dX1_merge_31 : decode cX1_merge 31 = .ok (.invokespecial 234, 3) := dk_183 0 234 (dk_at dksX1_merge_1 7 rfl rfl)
theorem dX1_merge_34 : decode cX1_merge 34 = .ok (.athrow, 1) := dk_191 (dk_at dksX1_merge_1 10 rfl rfl)
theorem dX1_merge_35 : decode cX1_merge 35 = .ok (.aload_n 0, 1) := dk_42 (dk_at dksX1_merge_1 11 rfl rfl)
theorem dX1_merge_36 : decode cX1_merge 36 = .ok (.getfield 405, 3) := dk_180 1 149 (dk_at dksX1_merge_1 12 rfl rfl)
theorem dX1_merge_39 : decode cX1_merge 39 = .ok (.sipush 200, 3) := dk_17 0 200 (dk_at dksX1_merge_1 15 rfl rfl)
theorem dX1_merge_42 : decode cX1_merge 42 = .ok (.if_icmp .ne 11, 3) := dk_160 0 11 (dk_at dksX1_merge_1 18 rfl rfl)
theorem dX1_merge_45 : decode cX1_merge 45 = .ok (.new 271, 3) := dk_187 1 15 (dk_at dksX1_merge_1 21 rfl rfl)
theorem dX1_merge_48 : decode cX1_merge 48 = .ok (.dup, 1) := dk_89 (dk_at dksX1_merge_2 0 rfl rfl)
theorem dX1_merge_49 : decode cX1_merge 49 = .ok (.invokespecial 273, 3) := dk_183 1 17 (dk_at dksX1_merge_2 1 rfl rfl)
theorem dX1_merge_52 : decode cX1_merge 52 = .ok (.athrow, 1) := dk_191 (dk_at dksX1_merge_2 4 rfl rfl)
theorem dX1_merge_53 : decode cX1_merge 53 = .ok (.aload_n 0, 1) := dk_42 (dk_at dksX1_merge_2 5 rfl rfl)
theorem dX1_merge_54 : decode cX1_merge 54 = .ok (.invokevirtual 382, 3) := dk_182 1 126 (dk_at dksX1_merge_2 6 rfl rfl)
theorem dX1_merge_57 : decode cX1_merge 57 = .ok (.ifCond .eq 11, 3) := dk_153 0 11 (dk_at dksX1_merge_2 9 rfl rfl)
theorem dX1_merge_60 : decode cX1_merge 60 = .ok (.new 298, 3) := dk_187 1 42 (dk_at dksX1_merge_2 12 rfl rfl)
theorem dX1_merge_63 : decode cX1_merge 63 = .ok (.dup, 1) := dk_89 (dk_at dksX1_merge_2 15 rfl rfl)
theorem dX1_merge_64 : decode cX1_merge 64 = .ok (.invokespecial 300, 3) := dk_183 1 44 (dk_at dksX1_merge_2 16 rfl rfl)
theorem dX1_merge_67 : decode cX1_merge 67 = .ok (.athrow, 1) := dk_191 (dk_at dksX1_merge_2 19 rfl rfl)
theorem dX1_merge_68 : decode cX1_merge 68 = .ok (.aload_n 0, 1) := dk_42 (dk_at dksX1_merge_2 20 rfl rfl)
theorem dX1_merge_69 : decode cX1_merge 69 = .ok (.getfield 102, 3) := dk_180 0 102 (dk_at dksX1_merge_2 21 rfl rfl)
theorem dX1_merge_72 : decode cX1_merge 72 = .ok (.aload_n 0, 1) := dk_42 (dk_at dksX1_merge_3 0 rfl rfl)
theorem dX1_merge_73 : decode cX1_merge 73 = .ok (.invokevirtual 363, 3) := dk_182 1 107 (dk_at dksX1_merge_3 1 rfl rfl)
theorem dX1_merge_76 : decode cX1_merge 76 = .ok (.aaload, 1) := dk_50 (dk_at dksX1_merge_3 4 rfl rfl)
theorem dX1_merge_77 : decode cX1_merge 77 = .ok (.getfield 366, 3) := dk_180 1 110 (dk_at dksX1_merge_3 5 rfl rfl)
theorem dX1_merge_80 : decode cX1_merge 80 = .ok (.iload_n 2, 1) := dk_28 (dk_at dksX1_merge_3 8 rfl rfl)
theorem dX1_merge_81 : decode cX1_merge 81 = .ok (.lshr, 1) := dk_123 (dk_at dksX1_merge_3 9 rfl rfl)
theorem dX1_merge_82 : decode cX1_merge 82 = .ok (.lconst 1, 1) := dk_10 (dk_at dksX1_merge_3 10 rfl rfl)
theorem dX1_merge_83 : decode cX1_merge 83 = .ok (.land, 1) := dk_127 (dk_at dksX1_merge_3 11 rfl rfl)
theorem dX1_merge_84 : decode cX1_merge 84 = .ok (.lconst 1, 1) := dk_10 (dk_at dksX1_merge_3 12 rfl rfl)
theorem dX1_merge_85 : decode cX1_merge 85 = .ok (.lcmp, 1) := dk_148 (dk_at dksX1_merge_3 13 rfl rfl)
theorem dX1_merge_86 : decode cX1_merge 86 = .ok (.ifCond .ne 5, 3) := dk_154 0 5 (dk_at dksX1_merge_3 14 rfl rfl)
theorem dX1_merge_89 : decode cX1_merge 89 = .ok (.iconst (-1), 1) := dk_2 (dk_at dksX1_merge_3 17 rfl rfl)
theorem dX1_merge_90 : decode cX1_merge 90 = .ok (.ireturn, 1) := dk_172 (dk_at dksX1_merge_3 18 rfl rfl)
theorem dX1_merge_91 : decode cX1_merge 91 = .ok (.aload_n 0, 1) := dk_42 (dk_at dksX1_merge_3 19 rfl rfl)
theorem dX1_merge_92 : decode cX1_merge 92 = .ok (.aload_n 0, 1) := dk_42 (dk_at dksX1_merge_3 20 rfl rfl)
theorem dX1_merge_93 : decode cX1_merge 93 = .ok (.getfield 102, 3) := dk_180 0 102 (dk_at dksX1_merge_3 21 rfl rfl)
theorem dX1_merge_96 : decode cX1_merge 96 = .ok (.aload_n 0, 1) := dk_42 (dk_at dksX1_merge_4 0 rfl rfl)
theorem dX1_merge_97 : decode cX1_merge 97 = .ok (.aload_n 0, 1) := dk_42 (dk_at dksX1_merge_4 1 rfl rfl)
theorem dX1_merge_98 : decode cX1_merge 98 = .ok (.invokevirtual 363, 3) := dk_182 1 107 (dk_at dksX1_merge_4 2 rfl rfl)
theorem dX1_merge_101 : decode cX1_merge 101 = .ok (.iload_n 2, 1) := dk_28 (dk_at dksX1_merge_4 5 rfl rfl)
theorem dX1_merge_102 : decode cX1_merge 102 = .ok (.invokevirtual 408, 3) := dk_182 1 152 (dk_at dksX1_merge_4 6 rfl rfl)
theorem dX1_merge_105 : decode cX1_merge 105 = .ok (.aaload, 1) := dk_50 (dk_at dksX1_merge_4 9 rfl rfl)
theorem dX1_merge_106 : decode cX1_merge 106 = .ok (.getfield 205, 3) := dk_180 0 205 (dk_at dksX1_merge_4 10 rfl rfl)
theorem dX1_merge_109 : decode cX1_merge 109 = .ok (.aload_n 0, 1) := dk_42 (dk_at dksX1_merge_4 13 rfl rfl)
theorem dX1_merge_110 : decode cX1_merge 110 = .ok (.getfield 102, 3) := dk_180 0 102 (dk_at dksX1_merge_4 14 rfl rfl)
theorem dX1_merge_113 : decode cX1_merge 113 = .ok (.iload_n 2, 1) := dk_28 (dk_at dksX1_merge_4 17 rfl rfl)
theorem dX1_merge_114 : decode cX1_merge 114 = .ok (.aaload, 1) := dk_50 (dk_at dksX1_merge_4 18 rfl rfl)
theorem dX1_merge_115 : decode cX1_merge 115 = .ok (.getfield 205, 3) := dk_180 0 205 (dk_at dksX1_merge_4 19 rfl rfl)
theorem dX1_merge_118 : decode cX1_merge 118 = .ok (.invokevirtual 411, 3) := dk_182 1 155 (dk_at dksX1_merge_5 0 rfl rfl)
theorem dX1_merge_121 : decode cX1_merge 121 = .ok (.istore_n 3, 1) := dk_62 (dk_at dksX1_merge_5 3 rfl rfl)
theorem dX1_merge_122 : decode cX1_merge 122 = .ok (.aload_n 0, 1) := dk_42 (dk_at dksX1_merge_5 4 rfl rfl)
theorem dX1_merge_123 : decode cX1_merge 123 = .ok (.iload_n 2, 1) := dk_28 (dk_at dksX1_merge_5 5 rfl rfl)
theorem dX1_merge_124 : decode cX1_merge 124 = .ok (.putfield 126, 3) := dk_181 0 126 (dk_at dksX1_merge_5 6 rfl rfl)
theorem dX1_merge_127 : decode cX1_merge 127 = .ok (.iload_n 3, 1) := dk_29 (dk_at dksX1_merge_5 9 rfl rfl)
theorem dX1_merge_128 : decode cX1_merge 128 = .ok (.ireturn, 1) := dk_172 (dk_at dksX1_merge_5 10 rfl rfl)
abbrev cX1_weave : ByteArray := prog_1_method_38_code
def yX1_weave : MethodName := ⟨RX1, "weave", "(LSheetBranches$Sheet;LSheetBranches$Sheet;)I"⟩
def dkwX1_weave_3 : List UInt8 := [181, 1, 149, 42, 182, 1, 123, 42, 180, 1, 116, 172]
abbrev dktX1_weave_3 : List UInt8 := dkwX1_weave_3 ++ []
def dkwX1_weave_2 : List UInt8 := [180, 1, 148, 181, 1, 116, 42, 42, 180, 1, 116, 188, 4, 181, 0, 135, 42, 89, 180, 1, 149, 4, 96]
abbrev dktX1_weave_2 : List UInt8 := dkwX1_weave_2 ++ dktX1_weave_3
def dkwX1_weave_1 : List UInt8 := [89, 183, 1, 44, 191, 42, 45, 180, 1, 144, 181, 0, 198, 42, 45, 180, 1, 147, 181, 0, 131, 42, 45]
abbrev dktX1_weave_1 : List UInt8 := dkwX1_weave_1 ++ dktX1_weave_2
def dkwX1_weave_0 : List UInt8 := [187, 1, 136, 89, 43, 42, 180, 0, 198, 44, 183, 1, 138, 78, 45, 182, 1, 141, 154, 0, 11, 187, 1, 42]
abbrev dktX1_weave_0 : List UInt8 := dkwX1_weave_0 ++ dktX1_weave_1
theorem dksX1_weave_0 : cX1_weave.data.toList.drop 0 = dktX1_weave_0 := by decide +kernel
theorem dksX1_weave_1 : cX1_weave.data.toList.drop 24 = dktX1_weave_1 := dk_seg dksX1_weave_0 24 rfl rfl
theorem dksX1_weave_2 : cX1_weave.data.toList.drop 47 = dktX1_weave_2 := dk_seg dksX1_weave_1 23 rfl rfl
theorem dksX1_weave_3 : cX1_weave.data.toList.drop 70 = dktX1_weave_3 := dk_seg dksX1_weave_2 23 rfl rfl
theorem dX1_weave_0 : decode cX1_weave 0 = .ok (.new 392, 3) := dk_187 1 136 (dk_at dksX1_weave_0 0 rfl rfl)
theorem dX1_weave_3 : decode cX1_weave 3 = .ok (.dup, 1) := dk_89 (dk_at dksX1_weave_0 3 rfl rfl)
theorem dX1_weave_4 : decode cX1_weave 4 = .ok (.aload_n 1, 1) := dk_43 (dk_at dksX1_weave_0 4 rfl rfl)
theorem dX1_weave_5 : decode cX1_weave 5 = .ok (.aload_n 0, 1) := dk_42 (dk_at dksX1_weave_0 5 rfl rfl)
theorem dX1_weave_6 : decode cX1_weave 6 = .ok (.getfield 198, 3) := dk_180 0 198 (dk_at dksX1_weave_0 6 rfl rfl)
theorem dX1_weave_9 : decode cX1_weave 9 = .ok (.aload_n 2, 1) := dk_44 (dk_at dksX1_weave_0 9 rfl rfl)
theorem dX1_weave_10 : decode cX1_weave 10 = .ok (.invokespecial 394, 3) := dk_183 1 138 (dk_at dksX1_weave_0 10 rfl rfl)
theorem dX1_weave_13 : decode cX1_weave 13 = .ok (.astore_n 3, 1) := dk_78 (dk_at dksX1_weave_0 13 rfl rfl)
theorem dX1_weave_14 : decode cX1_weave 14 = .ok (.aload_n 3, 1) := dk_45 (dk_at dksX1_weave_0 14 rfl rfl)
theorem dX1_weave_15 : decode cX1_weave 15 = .ok (.invokevirtual 397, 3) := dk_182 1 141 (dk_at dksX1_weave_0 15 rfl rfl)
theorem dX1_weave_18 : decode cX1_weave 18 = .ok (.ifCond .ne 11, 3) := dk_154 0 11 (dk_at dksX1_weave_0 18 rfl rfl)
theorem dX1_weave_21 : decode cX1_weave 21 = .ok (.new 298, 3) := dk_187 1 42 (dk_at dksX1_weave_0 21 rfl rfl)
theorem dX1_weave_24 : decode cX1_weave 24 = .ok (.dup, 1) := dk_89 (dk_at dksX1_weave_1 0 rfl rfl)
theorem dX1_weave_25 : decode cX1_weave 25 = .ok (.invokespecial 300, 3) := dk_183 1 44 (dk_at dksX1_weave_1 1 rfl rfl)
theorem dX1_weave_28 : decode cX1_weave 28 = .ok (.athrow, 1) := dk_191 (dk_at dksX1_weave_1 4 rfl rfl)
theorem dX1_weave_29 : decode cX1_weave 29 = .ok (.aload_n 0, 1) := dk_42 (dk_at dksX1_weave_1 5 rfl rfl)
theorem dX1_weave_30 : decode cX1_weave 30 = .ok (.aload_n 3, 1) := dk_45 (dk_at dksX1_weave_1 6 rfl rfl)
theorem dX1_weave_31 : decode cX1_weave 31 = .ok (.getfield 400, 3) := dk_180 1 144 (dk_at dksX1_weave_1 7 rfl rfl)
theorem dX1_weave_34 : decode cX1_weave 34 = .ok (.putfield 198, 3) := dk_181 0 198 (dk_at dksX1_weave_1 10 rfl rfl)
theorem dX1_weave_37 : decode cX1_weave 37 = .ok (.aload_n 0, 1) := dk_42 (dk_at dksX1_weave_1 13 rfl rfl)
theorem dX1_weave_38 : decode cX1_weave 38 = .ok (.aload_n 3, 1) := dk_45 (dk_at dksX1_weave_1 14 rfl rfl)
theorem dX1_weave_39 : decode cX1_weave 39 = .ok (.getfield 403, 3) := dk_180 1 147 (dk_at dksX1_weave_1 15 rfl rfl)
theorem dX1_weave_42 : decode cX1_weave 42 = .ok (.putfield 131, 3) := dk_181 0 131 (dk_at dksX1_weave_1 18 rfl rfl)
theorem dX1_weave_45 : decode cX1_weave 45 = .ok (.aload_n 0, 1) := dk_42 (dk_at dksX1_weave_1 21 rfl rfl)
theorem dX1_weave_46 : decode cX1_weave 46 = .ok (.aload_n 3, 1) := dk_45 (dk_at dksX1_weave_1 22 rfl rfl)
theorem dX1_weave_47 : decode cX1_weave 47 = .ok (.getfield 404, 3) := dk_180 1 148 (dk_at dksX1_weave_2 0 rfl rfl)
theorem dX1_weave_50 : decode cX1_weave 50 = .ok (.putfield 372, 3) := dk_181 1 116 (dk_at dksX1_weave_2 3 rfl rfl)
theorem dX1_weave_53 : decode cX1_weave 53 = .ok (.aload_n 0, 1) := dk_42 (dk_at dksX1_weave_2 6 rfl rfl)
theorem dX1_weave_54 : decode cX1_weave 54 = .ok (.aload_n 0, 1) := dk_42 (dk_at dksX1_weave_2 7 rfl rfl)
theorem dX1_weave_55 : decode cX1_weave 55 = .ok (.getfield 372, 3) := dk_180 1 116 (dk_at dksX1_weave_2 8 rfl rfl)
theorem dX1_weave_58 : decode cX1_weave 58 = .ok (.newarray .boolean, 2) := dk_188_4 (dk_at dksX1_weave_2 11 rfl rfl)
theorem dX1_weave_60 : decode cX1_weave 60 = .ok (.putfield 135, 3) := dk_181 0 135 (dk_at dksX1_weave_2 13 rfl rfl)
theorem dX1_weave_63 : decode cX1_weave 63 = .ok (.aload_n 0, 1) := dk_42 (dk_at dksX1_weave_2 16 rfl rfl)
theorem dX1_weave_64 : decode cX1_weave 64 = .ok (.dup, 1) := dk_89 (dk_at dksX1_weave_2 17 rfl rfl)
theorem dX1_weave_65 : decode cX1_weave 65 = .ok (.getfield 405, 3) := dk_180 1 149 (dk_at dksX1_weave_2 18 rfl rfl)
theorem dX1_weave_68 : decode cX1_weave 68 = .ok (.iconst 1, 1) := dk_4 (dk_at dksX1_weave_2 21 rfl rfl)
theorem dX1_weave_69 : decode cX1_weave 69 = .ok (.iadd, 1) := dk_96 (dk_at dksX1_weave_2 22 rfl rfl)
theorem dX1_weave_70 : decode cX1_weave 70 = .ok (.putfield 405, 3) := dk_181 1 149 (dk_at dksX1_weave_3 0 rfl rfl)
theorem dX1_weave_73 : decode cX1_weave 73 = .ok (.aload_n 0, 1) := dk_42 (dk_at dksX1_weave_3 3 rfl rfl)
theorem dX1_weave_74 : decode cX1_weave 74 = .ok (.invokevirtual 379, 3) := dk_182 1 123 (dk_at dksX1_weave_3 4 rfl rfl)
theorem dX1_weave_77 : decode cX1_weave 77 = .ok (.aload_n 0, 1) := dk_42 (dk_at dksX1_weave_3 7 rfl rfl)
theorem dX1_weave_78 : decode cX1_weave 78 = .ok (.getfield 372, 3) := dk_180 1 116 (dk_at dksX1_weave_3 8 rfl rfl)
theorem dX1_weave_81 : decode cX1_weave 81 = .ok (.ireturn, 1) := dk_172 (dk_at dksX1_weave_3 11 rfl rfl)
abbrev cX1_pick : ByteArray := prog_1_method_40_code
def yX1_pick : MethodName := ⟨RX1, "pick", "(I)I"⟩
def dkwX1_pick_3 : List UInt8 := [180, 0, 205, 42, 180, 0, 102, 27, 50, 180, 0, 205, 182, 1, 155, 172]
abbrev dktX1_pick_3 : List UInt8 := dkwX1_pick_3 ++ []
def dkwX1_pick_2 : List UInt8 := [187, 1, 42, 89, 183, 1, 44, 191, 42, 42, 180, 0, 102, 42, 180, 0, 102, 27, 50, 180, 1, 158, 50]
abbrev dktX1_pick_2 : List UInt8 := dkwX1_pick_2 ++ dktX1_pick_3
def dkwX1_pick_1 : List UInt8 := [180, 1, 149, 17, 0, 200, 160, 0, 11, 187, 1, 15, 89, 183, 1, 17, 191, 42, 182, 1, 126, 153, 0, 11]
abbrev dktX1_pick_1 : List UInt8 := dkwX1_pick_1 ++ dktX1_pick_2
def dkwX1_pick_0 : List UInt8 := [27, 4, 161, 0, 11, 27, 42, 180, 0, 191, 161, 0, 11, 187, 0, 232, 89, 183, 0, 234, 191, 42]
abbrev dktX1_pick_0 : List UInt8 := dkwX1_pick_0 ++ dktX1_pick_1
theorem dksX1_pick_0 : cX1_pick.data.toList.drop 0 = dktX1_pick_0 := by decide +kernel
theorem dksX1_pick_1 : cX1_pick.data.toList.drop 22 = dktX1_pick_1 := dk_seg dksX1_pick_0 22 rfl rfl
theorem dksX1_pick_2 : cX1_pick.data.toList.drop 46 = dktX1_pick_2 := dk_seg dksX1_pick_1 24 rfl rfl
theorem dksX1_pick_3 : cX1_pick.data.toList.drop 69 = dktX1_pick_3 := dk_seg dksX1_pick_2 23 rfl rfl
theorem dX1_pick_0 : decode cX1_pick 0 = .ok (.iload_n 1, 1) := dk_27 (dk_at dksX1_pick_0 0 rfl rfl)
theorem dX1_pick_1 : decode cX1_pick 1 = .ok (.iconst 1, 1) := dk_4 (dk_at dksX1_pick_0 1 rfl rfl)
theorem dX1_pick_2 : decode cX1_pick 2 = .ok (.if_icmp .lt 11, 3) := dk_161 0 11 (dk_at dksX1_pick_0 2 rfl rfl)
theorem dX1_pick_5 : decode cX1_pick 5 = .ok (.iload_n 1, 1) := dk_27 (dk_at dksX1_pick_0 5 rfl rfl)
theorem dX1_pick_6 : decode cX1_pick 6 = .ok (.aload_n 0, 1) := dk_42 (dk_at dksX1_pick_0 6 rfl rfl)
theorem dX1_pick_7 : decode cX1_pick 7 = .ok (.getfield 191, 3) := dk_180 0 191 (dk_at dksX1_pick_0 7 rfl rfl)
theorem dX1_pick_10 : decode cX1_pick 10 = .ok (.if_icmp .lt 11, 3) := dk_161 0 11 (dk_at dksX1_pick_0 10 rfl rfl)
theorem dX1_pick_13 : decode cX1_pick 13 = .ok (.new 232, 3) := dk_187 0 232 (dk_at dksX1_pick_0 13 rfl rfl)
theorem dX1_pick_16 : decode cX1_pick 16 = .ok (.dup, 1) := dk_89 (dk_at dksX1_pick_0 16 rfl rfl)
theorem dX1_pick_17 : decode cX1_pick 17 = .ok (.invokespecial 234, 3) := dk_183 0 234 (dk_at dksX1_pick_0 17 rfl rfl)
theorem dX1_pick_20 : decode cX1_pick 20 = .ok (.athrow, 1) := dk_191 (dk_at dksX1_pick_0 20 rfl rfl)
theorem dX1_pick_21 : decode cX1_pick 21 = .ok (.aload_n 0, 1) := dk_42 (dk_at dksX1_pick_0 21 rfl rfl)
theorem dX1_pick_22 : decode cX1_pick 22 = .ok (.getfield 405, 3) := dk_180 1 149 (dk_at dksX1_pick_1 0 rfl rfl)
theorem dX1_pick_25 : decode cX1_pick 25 = .ok (.sipush 200, 3) := dk_17 0 200 (dk_at dksX1_pick_1 3 rfl rfl)
theorem dX1_pick_28 : decode cX1_pick 28 = .ok (.if_icmp .ne 11, 3) := dk_160 0 11 (dk_at dksX1_pick_1 6 rfl rfl)
theorem dX1_pick_31 : decode cX1_pick 31 = .ok (.new 271, 3) := dk_187 1 15 (dk_at dksX1_pick_1 9 rfl rfl)
theorem dX1_pick_34 : decode cX1_pick 34 = .ok (.dup, 1) := dk_89 (dk_at dksX1_pick_1 12 rfl rfl)
theorem dX1_pick_35 : decode cX1_pick 35 = .ok (.invokespecial 273, 3) := dk_183 1 17 (dk_at dksX1_pick_1 13 rfl rfl)
theorem dX1_pick_38 : decode cX1_pick 38 = .ok (.athrow, 1) := dk_191 (dk_at dksX1_pick_1 16 rfl rfl)
theorem dX1_pick_39 : decode cX1_pick 39 = .ok (.aload_n 0, 1) := dk_42 (dk_at dksX1_pick_1 17 rfl rfl)
theorem dX1_pick_40 : decode cX1_pick 40 = .ok (.invokevirtual 382, 3) := dk_182 1 126 (dk_at dksX1_pick_1 18 rfl rfl)
theorem dX1_pick_43 : decode cX1_pick 43 = .ok (.ifCond .eq 11, 3) := dk_153 0 11 (dk_at dksX1_pick_1 21 rfl rfl)
theorem dX1_pick_46 : decode cX1_pick 46 = .ok (.new 298, 3) := dk_187 1 42 (dk_at dksX1_pick_2 0 rfl rfl)
theorem dX1_pick_49 : decode cX1_pick 49 = .ok (.dup, 1) := dk_89 (dk_at dksX1_pick_2 3 rfl rfl)
theorem dX1_pick_50 : decode cX1_pick 50 = .ok (.invokespecial 300, 3) := dk_183 1 44 (dk_at dksX1_pick_2 4 rfl rfl)
theorem dX1_pick_53 : decode cX1_pick 53 = .ok (.athrow, 1) := dk_191 (dk_at dksX1_pick_2 7 rfl rfl)
theorem dX1_pick_54 : decode cX1_pick 54 = .ok (.aload_n 0, 1) := dk_42 (dk_at dksX1_pick_2 8 rfl rfl)
theorem dX1_pick_55 : decode cX1_pick 55 = .ok (.aload_n 0, 1) := dk_42 (dk_at dksX1_pick_2 9 rfl rfl)
theorem dX1_pick_56 : decode cX1_pick 56 = .ok (.getfield 102, 3) := dk_180 0 102 (dk_at dksX1_pick_2 10 rfl rfl)
theorem dX1_pick_59 : decode cX1_pick 59 = .ok (.aload_n 0, 1) := dk_42 (dk_at dksX1_pick_2 13 rfl rfl)
theorem dX1_pick_60 : decode cX1_pick 60 = .ok (.getfield 102, 3) := dk_180 0 102 (dk_at dksX1_pick_2 14 rfl rfl)
theorem dX1_pick_63 : decode cX1_pick 63 = .ok (.iload_n 1, 1) := dk_27 (dk_at dksX1_pick_2 17 rfl rfl)
theorem dX1_pick_64 : decode cX1_pick 64 = .ok (.aaload, 1) := dk_50 (dk_at dksX1_pick_2 18 rfl rfl)
theorem dX1_pick_65 : decode cX1_pick 65 = .ok (.getfield 414, 3) := dk_180 1 158 (dk_at dksX1_pick_2 19 rfl rfl)
theorem dX1_pick_68 : decode cX1_pick 68 = .ok (.aaload, 1) := dk_50 (dk_at dksX1_pick_2 22 rfl rfl)
theorem dX1_pick_69 : decode cX1_pick 69 = .ok (.getfield 205, 3) := dk_180 0 205 (dk_at dksX1_pick_3 0 rfl rfl)
theorem dX1_pick_72 : decode cX1_pick 72 = .ok (.aload_n 0, 1) := dk_42 (dk_at dksX1_pick_3 3 rfl rfl)
theorem dX1_pick_73 : decode cX1_pick 73 = .ok (.getfield 102, 3) := dk_180 0 102 (dk_at dksX1_pick_3 4 rfl rfl)
theorem dX1_pick_76 : decode cX1_pick 76 = .ok (.iload_n 1, 1) := dk_27 (dk_at dksX1_pick_3 7 rfl rfl)
theorem dX1_pick_77 : decode cX1_pick 77 = .ok (.aaload, 1) := dk_50 (dk_at dksX1_pick_3 8 rfl rfl)
theorem dX1_pick_78 : decode cX1_pick 78 = .ok (.getfield 205, 3) := dk_180 0 205 (dk_at dksX1_pick_3 9 rfl rfl)
theorem dX1_pick_81 : decode cX1_pick 81 = .ok (.invokevirtual 411, 3) := dk_182 1 155 (dk_at dksX1_pick_3 12 rfl rfl)
theorem dX1_pick_84 : decode cX1_pick 84 = .ok (.ireturn, 1) := dk_172 (dk_at dksX1_pick_3 15 rfl rfl)
abbrev cX1_choose : ByteArray := prog_1_method_43_code
def yX1_choose : MethodName := ⟨RX1, "choose", "(IZ)I"⟩
def dkwX1_choose_8 : List UInt8 := [180, 0, 198, 21, 4, 182, 1, 29, 21, 5, 184, 1, 53, 182, 1, 49, 42, 182, 1, 104, 172]
abbrev dktX1_choose_8 : List UInt8 := dkwX1_choose_8 ++ []
def dkwX1_choose_7 : List UInt8 := [159, 0, 40, 42, 180, 0, 198, 21, 4, 182, 1, 29, 190, 4, 164, 0, 26, 42, 180, 0, 198, 21, 4, 42]
abbrev dktX1_choose_7 : List UInt8 := dkwX1_choose_7 ++ dktX1_choose_8
def dkwX1_choose_6 : List UInt8 := [21, 4, 154, 0, 10, 45, 180, 1, 162, 167, 0, 7, 45, 180, 1, 167, 184, 1, 181, 54, 5, 21, 5, 2]
abbrev dktX1_choose_6 : List UInt8 := dkwX1_choose_6 ++ dktX1_choose_7
def dkwX1_choose_5 : List UInt8 := [180, 1, 178, 160, 0, 84, 45, 180, 1, 161, 4, 100, 54, 4, 42, 180, 0, 198, 21, 4, 182, 1, 29]
abbrev dktX1_choose_5 : List UInt8 := dkwX1_choose_5 ++ dktX1_choose_6
def dkwX1_choose_4 : List UInt8 := [21, 5, 28, 153, 0, 10, 45, 180, 1, 172, 167, 0, 7, 45, 180, 1, 175, 83, 167, 0, 92, 28, 45]
abbrev dktX1_choose_4 : List UInt8 := dkwX1_choose_4 ++ dktX1_choose_5
def dkwX1_choose_3 : List UInt8 := [54, 5, 21, 4, 2, 159, 0, 37, 21, 5, 2, 159, 0, 31, 42, 180, 0, 198, 180, 1, 21, 21, 4, 50]
abbrev dktX1_choose_3 : List UInt8 := dkwX1_choose_3 ++ dktX1_choose_4
def dkwX1_choose_2 : List UInt8 := [180, 0, 198, 45, 180, 1, 162, 182, 1, 165, 54, 4, 42, 180, 0, 198, 45, 180, 1, 167, 182, 1, 170]
abbrev dktX1_choose_2 : List UInt8 := dkwX1_choose_2 ++ dktX1_choose_3
def dkwX1_choose_1 : List UInt8 := [27, 50, 78, 42, 182, 1, 18, 42, 180, 0, 135, 27, 4, 84, 45, 180, 1, 161, 6, 160, 0, 72, 42]
abbrev dktX1_choose_1 : List UInt8 := dkwX1_choose_1 ++ dktX1_choose_2
def dkwX1_choose_0 : List UInt8 := [27, 155, 0, 11, 27, 42, 180, 1, 116, 161, 0, 11, 187, 0, 239, 89, 183, 0, 241, 191, 42, 180, 0, 131]
abbrev dktX1_choose_0 : List UInt8 := dkwX1_choose_0 ++ dktX1_choose_1
theorem dksX1_choose_0 : cX1_choose.data.toList.drop 0 = dktX1_choose_0 := by decide +kernel
theorem dksX1_choose_1 : cX1_choose.data.toList.drop 24 = dktX1_choose_1 := dk_seg dksX1_choose_0 24 rfl rfl
theorem dksX1_choose_2 : cX1_choose.data.toList.drop 47 = dktX1_choose_2 := dk_seg dksX1_choose_1 23 rfl rfl
theorem dksX1_choose_3 : cX1_choose.data.toList.drop 70 = dktX1_choose_3 := dk_seg dksX1_choose_2 23 rfl rfl
theorem dksX1_choose_4 : cX1_choose.data.toList.drop 94 = dktX1_choose_4 := dk_seg dksX1_choose_3 24 rfl rfl
theorem dksX1_choose_5 : cX1_choose.data.toList.drop 117 = dktX1_choose_5 := dk_seg dksX1_choose_4 23 rfl rfl
theorem dksX1_choose_6 : cX1_choose.data.toList.drop 140 = dktX1_choose_6 := dk_seg dksX1_choose_5 23 rfl rfl
theorem dksX1_choose_7 : cX1_choose.data.toList.drop 164 = dktX1_choose_7 := dk_seg dksX1_choose_6 24 rfl rfl
theorem dksX1_choose_8 : cX1_choose.data.toList.drop 188 = dktX1_choose_8 := dk_seg dksX1_choose_7 24 rfl rfl
theorem dX1_choose_0 : decode cX1_choose 0 = .ok (.iload_n 1, 1) := dk_27 (dk_at dksX1_choose_0 0 rfl rfl)
theorem dX1_choose_1 : decode cX1_choose 1 = .ok (.ifCond .lt 11, 3) := dk_155 0 11 (dk_at dksX1_choose_0 1 rfl rfl)
theorem dX1_choose_4 : decode cX1_choose 4 = .ok (.iload_n 1, 1) := dk_27 (dk_at dksX1_choose_0 4 rfl rfl)
theorem dX1_choose_5 : decode cX1_choose 5 = .ok (.aload_n 0, 1) := dk_42 (dk_at dksX1_choose_0 5 rfl rfl)
theorem dX1_choose_6 : decode cX1_choose 6 = .ok (.getfield 372, 3) := dk_180 1 116 (dk_at dksX1_choose_0 6 rfl rfl)
theorem dX1_choose_9 : decode cX1_choose 9 = .ok (.if_icmp .lt 11, 3) := dk_161 0 11 (dk_at dksX1_choose_0 9 rfl rfl)
theorem dX1_choose_12 : decode cX1_choose 12 = .ok (.new 239, 3) := dk_187 0 239 (dk_at dksX1_choose_0 12 rfl rfl)
theorem dX1_choose_15 : decode cX1_choose 15 = .ok (.dup, 1) := dk_89 (dk_at dksX1_choose_0 15 rfl rfl)
theorem dX1_choose_16 : decode cX1_choose 16 = .ok (.invokespecial 241, 3) := dk_183 0 241 (dk_at dksX1_choose_0 16 rfl rfl)
theorem dX1_choose_19 : decode cX1_choose 19 = .ok (.athrow, 1) := dk_191 (dk_at dksX1_choose_0 19 rfl rfl)
theorem dX1_choose_20 : decode cX1_choose 20 = .ok (.aload_n 0, 1) := dk_42 (dk_at dksX1_choose_0 20 rfl rfl)
theorem dX1_choose_21 : decode cX1_choose 21 = .ok (.getfield 131, 3) := dk_180 0 131 (dk_at dksX1_choose_0 21 rfl rfl)
theorem dX1_choose_24 : decode cX1_choose 24 = .ok (.iload_n 1, 1) := dk_27 (dk_at dksX1_choose_1 0 rfl rfl)
theorem dX1_choose_25 : decode cX1_choose 25 = .ok (.aaload, 1) := dk_50 (dk_at dksX1_choose_1 1 rfl rfl)
theorem dX1_choose_26 : decode cX1_choose 26 = .ok (.astore_n 3, 1) := dk_78 (dk_at dksX1_choose_1 2 rfl rfl)
theorem dX1_choose_27 : decode cX1_choose 27 = .ok (.aload_n 0, 1) := dk_42 (dk_at dksX1_choose_1 3 rfl rfl)
theorem dX1_choose_28 : decode cX1_choose 28 = .ok (.invokevirtual 274, 3) := dk_182 1 18 (dk_at dksX1_choose_1 4 rfl rfl)
theorem dX1_choose_31 : decode cX1_choose 31 = .ok (.aload_n 0, 1) := dk_42 (dk_at dksX1_choose_1 7 rfl rfl)
theorem dX1_choose_32 : decode cX1_choose 32 = .ok (.getfield 135, 3) := dk_180 0 135 (dk_at dksX1_choose_1 8 rfl rfl)
theorem dX1_choose_35 : decode cX1_choose 35 = .ok (.iload_n 1, 1) := dk_27 (dk_at dksX1_choose_1 11 rfl rfl)
theorem dX1_choose_36 : decode cX1_choose 36 = .ok (.iconst 1, 1) := dk_4 (dk_at dksX1_choose_1 12 rfl rfl)
theorem dX1_choose_37 : decode cX1_choose 37 = .ok (.bastore, 1) := dk_84 (dk_at dksX1_choose_1 13 rfl rfl)
theorem dX1_choose_38 : decode cX1_choose 38 = .ok (.aload_n 3, 1) := dk_45 (dk_at dksX1_choose_1 14 rfl rfl)
theorem dX1_choose_39 : decode cX1_choose 39 = .ok (.getfield 417, 3) := dk_180 1 161 (dk_at dksX1_choose_1 15 rfl rfl)
theorem dX1_choose_42 : decode cX1_choose 42 = .ok (.iconst 3, 1) := dk_6 (dk_at dksX1_choose_1 18 rfl rfl)
theorem dX1_choose_43 : decode cX1_choose 43 = .ok (.if_icmp .ne 72, 3) := dk_160 0 72 (dk_at dksX1_choose_1 19 rfl rfl)
theorem dX1_choose_46 : decode cX1_choose 46 = .ok (.aload_n 0, 1) := dk_42 (dk_at dksX1_choose_1 22 rfl rfl)
theorem dX1_choose_47 : decode cX1_choose 47 = .ok (.getfield 198, 3) := dk_180 0 198 (dk_at dksX1_choose_2 0 rfl rfl)
theorem dX1_choose_50 : decode cX1_choose 50 = .ok (.aload_n 3, 1) := dk_45 (dk_at dksX1_choose_2 3 rfl rfl)
theorem dX1_choose_51 : decode cX1_choose 51 = .ok (.getfield 418, 3) := dk_180 1 162 (dk_at dksX1_choose_2 4 rfl rfl)
theorem dX1_choose_54 : decode cX1_choose 54 = .ok (.invokevirtual 421, 3) := dk_182 1 165 (dk_at dksX1_choose_2 7 rfl rfl)
theorem dX1_choose_57 : decode cX1_choose 57 = .ok (.istore 4, 2) := dk_54 4 (dk_at dksX1_choose_2 10 rfl rfl)
theorem dX1_choose_59 : decode cX1_choose 59 = .ok (.aload_n 0, 1) := dk_42 (dk_at dksX1_choose_2 12 rfl rfl)
theorem dX1_choose_60 : decode cX1_choose 60 = .ok (.getfield 198, 3) := dk_180 0 198 (dk_at dksX1_choose_2 13 rfl rfl)
theorem dX1_choose_63 : decode cX1_choose 63 = .ok (.aload_n 3, 1) := dk_45 (dk_at dksX1_choose_2 16 rfl rfl)
theorem dX1_choose_64 : decode cX1_choose 64 = .ok (.getfield 423, 3) := dk_180 1 167 (dk_at dksX1_choose_2 17 rfl rfl)
theorem dX1_choose_67 : decode cX1_choose 67 = .ok (.invokevirtual 426, 3) := dk_182 1 170 (dk_at dksX1_choose_2 20 rfl rfl)
theorem dX1_choose_70 : decode cX1_choose 70 = .ok (.istore 5, 2) := dk_54 5 (dk_at dksX1_choose_3 0 rfl rfl)
theorem dX1_choose_72 : decode cX1_choose 72 = .ok (.iload 4, 2) := dk_21 4 (dk_at dksX1_choose_3 2 rfl rfl)
theorem dX1_choose_74 : decode cX1_choose 74 = .ok (.iconst (-1), 1) := dk_2 (dk_at dksX1_choose_3 4 rfl rfl)
theorem dX1_choose_75 : decode cX1_choose 75 = .ok (.if_icmp .eq 37, 3) := dk_159 0 37 (dk_at dksX1_choose_3 5 rfl rfl)
theorem dX1_choose_78 : decode cX1_choose 78 = .ok (.iload 5, 2) := dk_21 5 (dk_at dksX1_choose_3 8 rfl rfl)
theorem dX1_choose_80 : decode cX1_choose 80 = .ok (.iconst (-1), 1) := dk_2 (dk_at dksX1_choose_3 10 rfl rfl)
theorem dX1_choose_81 : decode cX1_choose 81 = .ok (.if_icmp .eq 31, 3) := dk_159 0 31 (dk_at dksX1_choose_3 11 rfl rfl)
theorem dX1_choose_84 : decode cX1_choose 84 = .ok (.aload_n 0, 1) := dk_42 (dk_at dksX1_choose_3 14 rfl rfl)
theorem dX1_choose_85 : decode cX1_choose 85 = .ok (.getfield 198, 3) := dk_180 0 198 (dk_at dksX1_choose_3 15 rfl rfl)
theorem dX1_choose_88 : decode cX1_choose 88 = .ok (.getfield 277, 3) := dk_180 1 21 (dk_at dksX1_choose_3 18 rfl rfl)
theorem dX1_choose_91 : decode cX1_choose 91 = .ok (.iload 4, 2) := dk_21 4 (dk_at dksX1_choose_3 21 rfl rfl)
theorem dX1_choose_93 : decode cX1_choose 93 = .ok (.aaload, 1) := dk_50 (dk_at dksX1_choose_3 23 rfl rfl)
theorem dX1_choose_94 : decode cX1_choose 94 = .ok (.iload 5, 2) := dk_21 5 (dk_at dksX1_choose_4 0 rfl rfl)
theorem dX1_choose_96 : decode cX1_choose 96 = .ok (.iload_n 2, 1) := dk_28 (dk_at dksX1_choose_4 2 rfl rfl)
theorem dX1_choose_97 : decode cX1_choose 97 = .ok (.ifCond .eq 10, 3) := dk_153 0 10 (dk_at dksX1_choose_4 3 rfl rfl)
theorem dX1_choose_100 : decode cX1_choose 100 = .ok (.aload_n 3, 1) := dk_45 (dk_at dksX1_choose_4 6 rfl rfl)
theorem dX1_choose_101 : decode cX1_choose 101 = .ok (.getfield 428, 3) := dk_180 1 172 (dk_at dksX1_choose_4 7 rfl rfl)
theorem dX1_choose_104 : decode cX1_choose 104 = .ok (.goto 7, 3) := dk_167 0 7 (dk_at dksX1_choose_4 10 rfl rfl)
theorem dX1_choose_107 : decode cX1_choose 107 = .ok (.aload_n 3, 1) := dk_45 (dk_at dksX1_choose_4 13 rfl rfl)
theorem dX1_choose_108 : decode cX1_choose 108 = .ok (.getfield 431, 3) := dk_180 1 175 (dk_at dksX1_choose_4 14 rfl rfl)
theorem dX1_choose_111 : decode cX1_choose 111 = .ok (.aastore, 1) := dk_83 (dk_at dksX1_choose_4 17 rfl rfl)
theorem dX1_choose_112 : decode cX1_choose 112 = .ok (.goto 92, 3) := dk_167 0 92 (dk_at dksX1_choose_4 18 rfl rfl)
theorem dX1_choose_115 : decode cX1_choose 115 = .ok (.iload_n 2, 1) := dk_28 (dk_at dksX1_choose_4 21 rfl rfl)
theorem dX1_choose_116 : decode cX1_choose 116 = .ok (.aload_n 3, 1) := dk_45 (dk_at dksX1_choose_4 22 rfl rfl)
theorem dX1_choose_117 : decode cX1_choose 117 = .ok (.getfield 434, 3) := dk_180 1 178 (dk_at dksX1_choose_5 0 rfl rfl)
theorem dX1_choose_120 : decode cX1_choose 120 = .ok (.if_icmp .ne 84, 3) := dk_160 0 84 (dk_at dksX1_choose_5 3 rfl rfl)
theorem dX1_choose_123 : decode cX1_choose 123 = .ok (.aload_n 3, 1) := dk_45 (dk_at dksX1_choose_5 6 rfl rfl)
theorem dX1_choose_124 : decode cX1_choose 124 = .ok (.getfield 417, 3) := dk_180 1 161 (dk_at dksX1_choose_5 7 rfl rfl)
theorem dX1_choose_127 : decode cX1_choose 127 = .ok (.iconst 1, 1) := dk_4 (dk_at dksX1_choose_5 10 rfl rfl)
theorem dX1_choose_128 : decode cX1_choose 128 = .ok (.isub, 1) := dk_100 (dk_at dksX1_choose_5 11 rfl rfl)
theorem dX1_choose_129 : decode cX1_choose 129 = .ok (.istore 4, 2) := dk_54 4 (dk_at dksX1_choose_5 12 rfl rfl)
theorem dX1_choose_131 : decode cX1_choose 131 = .ok (.aload_n 0, 1) := dk_42 (dk_at dksX1_choose_5 14 rfl rfl)
theorem dX1_choose_132 : decode cX1_choose 132 = .ok (.getfield 198, 3) := dk_180 0 198 (dk_at dksX1_choose_5 15 rfl rfl)
theorem dX1_choose_135 : decode cX1_choose 135 = .ok (.iload 4, 2) := dk_21 4 (dk_at dksX1_choose_5 18 rfl rfl)
theorem dX1_choose_137 : decode cX1_choose 137 = .ok (.invokevirtual 285, 3) := dk_182 1 29 (dk_at dksX1_choose_5 20 rfl rfl)
theorem dX1_choose_140 : decode cX1_choose 140 = .ok (.iload 4, 2) := dk_21 4 (dk_at dksX1_choose_6 0 rfl rfl)
theorem dX1_choose_142 : decode cX1_choose 142 = .ok (.ifCond .ne 10, 3) := dk_154 0 10 (dk_at dksX1_choose_6 2 rfl rfl)
theorem dX1_choose_145 : decode cX1_choose 145 = .ok (.aload_n 3, 1) := dk_45 (dk_at dksX1_choose_6 5 rfl rfl)
theorem dX1_choose_146 : decode cX1_choose 146 = .ok (.getfield 418, 3) := dk_180 1 162 (dk_at dksX1_choose_6 6 rfl rfl)
theorem dX1_choose_149 : decode cX1_choose 149 = .ok (.goto 7, 3) := dk_167 0 7 (dk_at dksX1_choose_6 9 rfl rfl)
theorem dX1_choose_152 : decode cX1_choose 152 = .ok (.aload_n 3, 1) := dk_45 (dk_at dksX1_choose_6 12 rfl rfl)
theorem dX1_choose_153 : decode cX1_choose 153 = .ok (.getfield 423, 3) := dk_180 1 167 (dk_at dksX1_choose_6 13 rfl rfl)
theorem dX1_choose_156 : decode cX1_choose 156 = .ok (.invokestatic 437, 3) := dk_184 1 181 (dk_at dksX1_choose_6 16 rfl rfl)
theorem dX1_choose_159 : decode cX1_choose 159 = .ok (.istore 5, 2) := dk_54 5 (dk_at dksX1_choose_6 19 rfl rfl)
theorem dX1_choose_161 : decode cX1_choose 161 = .ok (.iload 5, 2) := dk_21 5 (dk_at dksX1_choose_6 21 rfl rfl)
theorem dX1_choose_163 : decode cX1_choose 163 = .ok (.iconst (-1), 1) := dk_2 (dk_at dksX1_choose_6 23 rfl rfl)
theorem dX1_choose_164 : decode cX1_choose 164 = .ok (.if_icmp .eq 40, 3) := dk_159 0 40 (dk_at dksX1_choose_7 0 rfl rfl)
theorem dX1_choose_167 : decode cX1_choose 167 = .ok (.aload_n 0, 1) := dk_42 (dk_at dksX1_choose_7 3 rfl rfl)
theorem dX1_choose_168 : decode cX1_choose 168 = .ok (.getfield 198, 3) := dk_180 0 198 (dk_at dksX1_choose_7 4 rfl rfl)
theorem dX1_choose_171 : decode cX1_choose 171 = .ok (.iload 4, 2) := dk_21 4 (dk_at dksX1_choose_7 7 rfl rfl)
theorem dX1_choose_173 : decode cX1_choose 173 = .ok (.invokevirtual 285, 3) := dk_182 1 29 (dk_at dksX1_choose_7 9 rfl rfl)
theorem dX1_choose_176 : decode cX1_choose 176 = .ok (.arraylength, 1) := dk_190 (dk_at dksX1_choose_7 12 rfl rfl)
theorem dX1_choose_177 : decode cX1_choose 177 = .ok (.iconst 1, 1) := dk_4 (dk_at dksX1_choose_7 13 rfl rfl)
theorem dX1_choose_178 : decode cX1_choose 178 = .ok (.if_icmp .le 26, 3) := dk_164 0 26 (dk_at dksX1_choose_7 14 rfl rfl)
theorem dX1_choose_181 : decode cX1_choose 181 = .ok (.aload_n 0, 1) := dk_42 (dk_at dksX1_choose_7 17 rfl rfl)
theorem dX1_choose_182 : decode cX1_choose 182 = .ok (.getfield 198, 3) := dk_180 0 198 (dk_at dksX1_choose_7 18 rfl rfl)
theorem dX1_choose_185 : decode cX1_choose 185 = .ok (.iload 4, 2) := dk_21 4 (dk_at dksX1_choose_7 21 rfl rfl)
theorem dX1_choose_187 : decode cX1_choose 187 = .ok (.aload_n 0, 1) := dk_42 (dk_at dksX1_choose_7 23 rfl rfl)
theorem dX1_choose_188 : decode cX1_choose 188 = .ok (.getfield 198, 3) := dk_180 0 198 (dk_at dksX1_choose_8 0 rfl rfl)
theorem dX1_choose_191 : decode cX1_choose 191 = .ok (.iload 4, 2) := dk_21 4 (dk_at dksX1_choose_8 3 rfl rfl)
theorem dX1_choose_193 : decode cX1_choose 193 = .ok (.invokevirtual 285, 3) := dk_182 1 29 (dk_at dksX1_choose_8 5 rfl rfl)
theorem dX1_choose_196 : decode cX1_choose 196 = .ok (.iload 5, 2) := dk_21 5 (dk_at dksX1_choose_8 8 rfl rfl)
theorem dX1_choose_198 : decode cX1_choose 198 = .ok (.invokestatic 309, 3) := dk_184 1 53 (dk_at dksX1_choose_8 10 rfl rfl)
theorem dX1_choose_201 : decode cX1_choose 201 = .ok (.invokevirtual 305, 3) := dk_182 1 49 (dk_at dksX1_choose_8 13 rfl rfl)
theorem dX1_choose_204 : decode cX1_choose 204 = .ok (.aload_n 0, 1) := dk_42 (dk_at dksX1_choose_8 16 rfl rfl)
theorem dX1_choose_205 : decode cX1_choose 205 = .ok (.invokevirtual 360, 3) := dk_182 1 104 (dk_at dksX1_choose_8 17 rfl rfl)
theorem dX1_choose_208 : decode cX1_choose 208 = .ok (.ireturn, 1) := dk_172 (dk_at dksX1_choose_8 20 rfl rfl)
abbrev cX1_diff : ByteArray := prog_1_method_48_code
def yX1_diff : MethodName := ⟨RX1, "diff", "(II)I"⟩
def dkwX1_diff_9 : List UInt8 := [180, 1, 191, 172]
abbrev dktX1_diff_9 : List UInt8 := dkwX1_diff_9 ++ []
def dkwX1_diff_8 : List UInt8 := [21, 5, 4, 96, 21, 7, 4, 96, 182, 1, 194, 132, 7, 1, 167, 255, 175, 132, 5, 1, 167, 255, 141, 42]
abbrev dktX1_diff_8 : List UInt8 := dkwX1_diff_8 ++ dktX1_diff_9
def dkwX1_diff_7 : List UInt8 := [21, 8, 50, 25, 4, 180, 1, 21, 21, 5, 50, 21, 7, 50, 184, 1, 210, 154, 0, 17, 42, 16, 7]
abbrev dktX1_diff_7 : List UInt8 := dkwX1_diff_7 ++ dktX1_diff_8
def dkwX1_diff_6 : List UInt8 := [180, 1, 67, 21, 7, 46, 182, 1, 170, 54, 8, 21, 8, 2, 159, 0, 44, 45, 180, 1, 21, 21, 6, 50]
abbrev dktX1_diff_6 : List UInt8 := dkwX1_diff_6 ++ dktX1_diff_7
def dkwX1_diff_5 : List UInt8 := [54, 7, 21, 6, 2, 159, 0, 81, 21, 7, 25, 4, 180, 1, 67, 190, 162, 0, 70, 45, 25, 4]
abbrev dktX1_diff_5 : List UInt8 := dkwX1_diff_5 ++ dktX1_diff_6
def dkwX1_diff_4 : List UInt8 := [25, 4, 180, 1, 60, 190, 162, 0, 110, 45, 25, 4, 180, 1, 60, 21, 5, 46, 182, 1, 165, 54, 6, 3]
abbrev dktX1_diff_4 : List UInt8 := dkwX1_diff_4 ++ dktX1_diff_5
def dkwX1_diff_3 : List UInt8 := [182, 1, 202, 42, 45, 25, 4, 3, 182, 1, 206, 42, 45, 25, 4, 4, 182, 1, 206, 3, 54, 5, 21, 5]
abbrev dktX1_diff_3 : List UInt8 := dkwX1_diff_3 ++ dktX1_diff_4
def dkwX1_diff_2 : List UInt8 := [25, 4, 45, 3, 5, 182, 1, 202, 42, 45, 25, 4, 4, 6, 182, 1, 202, 42, 25, 4, 45, 4, 7]
abbrev dktX1_diff_2 : List UInt8 := dkwX1_diff_2 ++ dktX1_diff_3
def dkwX1_diff_1 : List UInt8 := [187, 0, 232, 89, 183, 0, 234, 191, 42, 3, 181, 1, 191, 42, 45, 25, 4, 3, 4, 182, 1, 202, 42]
abbrev dktX1_diff_1 : List UInt8 := dkwX1_diff_1 ++ dktX1_diff_2
def dkwX1_diff_0 : List UInt8 := [42, 27, 182, 1, 198, 78, 42, 28, 182, 1, 198, 58, 4, 45, 198, 0, 8, 25, 4, 199, 0, 11]
abbrev dktX1_diff_0 : List UInt8 := dkwX1_diff_0 ++ dktX1_diff_1
theorem dksX1_diff_0 : cX1_diff.data.toList.drop 0 = dktX1_diff_0 := by decide +kernel
theorem dksX1_diff_1 : cX1_diff.data.toList.drop 22 = dktX1_diff_1 := dk_seg dksX1_diff_0 22 rfl rfl
theorem dksX1_diff_2 : cX1_diff.data.toList.drop 45 = dktX1_diff_2 := dk_seg dksX1_diff_1 23 rfl rfl
theorem dksX1_diff_3 : cX1_diff.data.toList.drop 68 = dktX1_diff_3 := dk_seg dksX1_diff_2 23 rfl rfl
theorem dksX1_diff_4 : cX1_diff.data.toList.drop 92 = dktX1_diff_4 := dk_seg dksX1_diff_3 24 rfl rfl
theorem dksX1_diff_5 : cX1_diff.data.toList.drop 116 = dktX1_diff_5 := dk_seg dksX1_diff_4 24 rfl rfl
theorem dksX1_diff_6 : cX1_diff.data.toList.drop 138 = dktX1_diff_6 := dk_seg dksX1_diff_5 22 rfl rfl
theorem dksX1_diff_7 : cX1_diff.data.toList.drop 162 = dktX1_diff_7 := dk_seg dksX1_diff_6 24 rfl rfl
theorem dksX1_diff_8 : cX1_diff.data.toList.drop 185 = dktX1_diff_8 := dk_seg dksX1_diff_7 23 rfl rfl
theorem dksX1_diff_9 : cX1_diff.data.toList.drop 209 = dktX1_diff_9 := dk_seg dksX1_diff_8 24 rfl rfl
theorem dX1_diff_0 : decode cX1_diff 0 = .ok (.aload_n 0, 1) := dk_42 (dk_at dksX1_diff_0 0 rfl rfl)
theorem dX1_diff_1 : decode cX1_diff 1 = .ok (.iload_n 1, 1) := dk_27 (dk_at dksX1_diff_0 1 rfl rfl)
theorem dX1_diff_2 : decode cX1_diff 2 = .ok (.invokevirtual 454, 3) := dk_182 1 198 (dk_at dksX1_diff_0 2 rfl rfl)
theorem dX1_diff_5 : decode cX1_diff 5 = .ok (.astore_n 3, 1) := dk_78 (dk_at dksX1_diff_0 5 rfl rfl)
theorem dX1_diff_6 : decode cX1_diff 6 = .ok (.aload_n 0, 1) := dk_42 (dk_at dksX1_diff_0 6 rfl rfl)
theorem dX1_diff_7 : decode cX1_diff 7 = .ok (.iload_n 2, 1) := dk_28 (dk_at dksX1_diff_0 7 rfl rfl)
theorem dX1_diff_8 : decode cX1_diff 8 = .ok (.invokevirtual 454, 3) := dk_182 1 198 (dk_at dksX1_diff_0 8 rfl rfl)
theorem dX1_diff_11 : decode cX1_diff 11 = .ok (.astore 4, 2) := dk_58 4 (dk_at dksX1_diff_0 11 rfl rfl)
theorem dX1_diff_13 : decode cX1_diff 13 = .ok (.aload_n 3, 1) := dk_45 (dk_at dksX1_diff_0 13 rfl rfl)
theorem dX1_diff_14 : decode cX1_diff 14 = .ok (.ifnull 8, 3) := dk_198 0 8 (dk_at dksX1_diff_0 14 rfl rfl)
theorem dX1_diff_17 : decode cX1_diff 17 = .ok (.aload 4, 2) := dk_25 4 (dk_at dksX1_diff_0 17 rfl rfl)
theorem dX1_diff_19 : decode cX1_diff 19 = .ok (.ifnonnull 11, 3) := dk_199 0 11 (dk_at dksX1_diff_0 19 rfl rfl)
theorem dX1_diff_22 : decode cX1_diff 22 = .ok (.new 232, 3) := dk_187 0 232 (dk_at dksX1_diff_1 0 rfl rfl)
theorem dX1_diff_25 : decode cX1_diff 25 = .ok (.dup, 1) := dk_89 (dk_at dksX1_diff_1 3 rfl rfl)
theorem dX1_diff_26 : decode cX1_diff 26 = .ok (.invokespecial 234, 3) := dk_183 0 234 (dk_at dksX1_diff_1 4 rfl rfl)
theorem dX1_diff_29 : decode cX1_diff 29 = .ok (.athrow, 1) := dk_191 (dk_at dksX1_diff_1 7 rfl rfl)
theorem dX1_diff_30 : decode cX1_diff 30 = .ok (.aload_n 0, 1) := dk_42 (dk_at dksX1_diff_1 8 rfl rfl)
theorem dX1_diff_31 : decode cX1_diff 31 = .ok (.iconst 0, 1) := dk_3 (dk_at dksX1_diff_1 9 rfl rfl)
theorem dX1_diff_32 : decode cX1_diff 32 = .ok (.putfield 447, 3) := dk_181 1 191 (dk_at dksX1_diff_1 10 rfl rfl)
theorem dX1_diff_35 : decode cX1_diff 35 = .ok (.aload_n 0, 1) := dk_42 (dk_at dksX1_diff_1 13 rfl rfl)
theorem dX1_diff_36 : decode cX1_diff 36 = .ok (.aload_n 3, 1) := dk_45 (dk_at dksX1_diff_1 14 rfl rfl)
theorem dX1_diff_37 : decode cX1_diff 37 = .ok (.aload 4, 2) := dk_25 4 (dk_at dksX1_diff_1 15 rfl rfl)
theorem dX1_diff_39 : decode cX1_diff 39 = .ok (.iconst 0, 1) := dk_3 (dk_at dksX1_diff_1 17 rfl rfl)
theorem dX1_diff_40 : decode cX1_diff 40 = .ok (.iconst 1, 1) := dk_4 (dk_at dksX1_diff_1 18 rfl rfl)
theorem dX1_diff_41 : decode cX1_diff 41 = .ok (.invokevirtual 458, 3) := dk_182 1 202 (dk_at dksX1_diff_1 19 rfl rfl)
theorem dX1_diff_44 : decode cX1_diff 44 = .ok (.aload_n 0, 1) := dk_42 (dk_at dksX1_diff_1 22 rfl rfl)
theorem dX1_diff_45 : decode cX1_diff 45 = .ok (.aload 4, 2) := dk_25 4 (dk_at dksX1_diff_2 0 rfl rfl)
theorem dX1_diff_47 : decode cX1_diff 47 = .ok (.aload_n 3, 1) := dk_45 (dk_at dksX1_diff_2 2 rfl rfl)
theorem dX1_diff_48 : decode cX1_diff 48 = .ok (.iconst 0, 1) := dk_3 (dk_at dksX1_diff_2 3 rfl rfl)
theorem dX1_diff_49 : decode cX1_diff 49 = .ok (.iconst 2, 1) := dk_5 (dk_at dksX1_diff_2 4 rfl rfl)
theorem dX1_diff_50 : decode cX1_diff 50 = .ok (.invokevirtual 458, 3) := dk_182 1 202 (dk_at dksX1_diff_2 5 rfl rfl)
theorem dX1_diff_53 : decode cX1_diff 53 = .ok (.aload_n 0, 1) := dk_42 (dk_at dksX1_diff_2 8 rfl rfl)
theorem dX1_diff_54 : decode cX1_diff 54 = .ok (.aload_n 3, 1) := dk_45 (dk_at dksX1_diff_2 9 rfl rfl)
theorem dX1_diff_55 : decode cX1_diff 55 = .ok (.aload 4, 2) := dk_25 4 (dk_at dksX1_diff_2 10 rfl rfl)
theorem dX1_diff_57 : decode cX1_diff 57 = .ok (.iconst 1, 1) := dk_4 (dk_at dksX1_diff_2 12 rfl rfl)
theorem dX1_diff_58 : decode cX1_diff 58 = .ok (.iconst 3, 1) := dk_6 (dk_at dksX1_diff_2 13 rfl rfl)
theorem dX1_diff_59 : decode cX1_diff 59 = .ok (.invokevirtual 458, 3) := dk_182 1 202 (dk_at dksX1_diff_2 14 rfl rfl)
theorem dX1_diff_62 : decode cX1_diff 62 = .ok (.aload_n 0, 1) := dk_42 (dk_at dksX1_diff_2 17 rfl rfl)
theorem dX1_diff_63 : decode cX1_diff 63 = .ok (.aload 4, 2) := dk_25 4 (dk_at dksX1_diff_2 18 rfl rfl)
theorem dX1_diff_65 : decode cX1_diff 65 = .ok (.aload_n 3, 1) := dk_45 (dk_at dksX1_diff_2 20 rfl rfl)
theorem dX1_diff_66 : decode cX1_diff 66 = .ok (.iconst 1, 1) := dk_4 (dk_at dksX1_diff_2 21 rfl rfl)
theorem dX1_diff_67 : decode cX1_diff 67 = .ok (.iconst 4, 1) := dk_7 (dk_at dksX1_diff_2 22 rfl rfl)
theorem dX1_diff_68 : decode cX1_diff 68 = .ok (.invokevirtual 458, 3) := dk_182 1 202 (dk_at dksX1_diff_3 0 rfl rfl)
theorem dX1_diff_71 : decode cX1_diff 71 = .ok (.aload_n 0, 1) := dk_42 (dk_at dksX1_diff_3 3 rfl rfl)
theorem dX1_diff_72 : decode cX1_diff 72 = .ok (.aload_n 3, 1) := dk_45 (dk_at dksX1_diff_3 4 rfl rfl)
theorem dX1_diff_73 : decode cX1_diff 73 = .ok (.aload 4, 2) := dk_25 4 (dk_at dksX1_diff_3 5 rfl rfl)
theorem dX1_diff_75 : decode cX1_diff 75 = .ok (.iconst 0, 1) := dk_3 (dk_at dksX1_diff_3 7 rfl rfl)
theorem dX1_diff_76 : decode cX1_diff 76 = .ok (.invokevirtual 462, 3) := dk_182 1 206 (dk_at dksX1_diff_3 8 rfl rfl)
theorem dX1_diff_79 : decode cX1_diff 79 = .ok (.aload_n 0, 1) := dk_42 (dk_at dksX1_diff_3 11 rfl rfl)
theorem dX1_diff_80 : decode cX1_diff 80 = .ok (.aload_n 3, 1) := dk_45 (dk_at dksX1_diff_3 12 rfl rfl)
theorem dX1_diff_81 : decode cX1_diff 81 = .ok (.aload 4, 2) := dk_25 4 (dk_at dksX1_diff_3 13 rfl rfl)
theorem dX1_diff_83 : decode cX1_diff 83 = .ok (.iconst 1, 1) := dk_4 (dk_at dksX1_diff_3 15 rfl rfl)
theorem dX1_diff_84 : decode cX1_diff 84 = .ok (.invokevirtual 462, 3) := dk_182 1 206 (dk_at dksX1_diff_3 16 rfl rfl)
theorem dX1_diff_87 : decode cX1_diff 87 = .ok (.iconst 0, 1) := dk_3 (dk_at dksX1_diff_3 19 rfl rfl)
theorem dX1_diff_88 : decode cX1_diff 88 = .ok (.istore 5, 2) := dk_54 5 (dk_at dksX1_diff_3 20 rfl rfl)
theorem dX1_diff_90 : decode cX1_diff 90 = .ok (.iload 5, 2) := dk_21 5 (dk_at dksX1_diff_3 22 rfl rfl)
theorem dX1_diff_92 : decode cX1_diff 92 = .ok (.aload 4, 2) := dk_25 4 (dk_at dksX1_diff_4 0 rfl rfl)
theorem dX1_diff_94 : decode cX1_diff 94 = .ok (.getfield 316, 3) := dk_180 1 60 (dk_at dksX1_diff_4 2 rfl rfl)
theorem dX1_diff_97 : decode cX1_diff 97 = .ok (.arraylength, 1) := dk_190 (dk_at dksX1_diff_4 5 rfl rfl)
theorem dX1_diff_98 : decode cX1_diff 98 = .ok (.if_icmp .ge 110, 3) := dk_162 0 110 (dk_at dksX1_diff_4 6 rfl rfl)
theorem dX1_diff_101 : decode cX1_diff 101 = .ok (.aload_n 3, 1) := dk_45 (dk_at dksX1_diff_4 9 rfl rfl)
theorem dX1_diff_102 : decode cX1_diff 102 = .ok (.aload 4, 2) := dk_25 4 (dk_at dksX1_diff_4 10 rfl rfl)
theorem dX1_diff_104 : decode cX1_diff 104 = .ok (.getfield 316, 3) := dk_180 1 60 (dk_at dksX1_diff_4 12 rfl rfl)
theorem dX1_diff_107 : decode cX1_diff 107 = .ok (.iload 5, 2) := dk_21 5 (dk_at dksX1_diff_4 15 rfl rfl)
theorem dX1_diff_109 : decode cX1_diff 109 = .ok (.iaload, 1) := dk_46 (dk_at dksX1_diff_4 17 rfl rfl)
theorem dX1_diff_110 : decode cX1_diff 110 = .ok (.invokevirtual 421, 3) := dk_182 1 165 (dk_at dksX1_diff_4 18 rfl rfl)
theorem dX1_diff_113 : decode cX1_diff 113 = .ok (.istore 6, 2) := dk_54 6 (dk_at dksX1_diff_4 21 rfl rfl)
theorem dX1_diff_115 : decode cX1_diff 115 = .ok (.iconst 0, 1) := dk_3 (dk_at dksX1_diff_4 23 rfl rfl)
theorem dX1_diff_116 : decode cX1_diff 116 = .ok (.istore 7, 2) := dk_54 7 (dk_at dksX1_diff_5 0 rfl rfl)
theorem dX1_diff_118 : decode cX1_diff 118 = .ok (.iload 6, 2) := dk_21 6 (dk_at dksX1_diff_5 2 rfl rfl)
theorem dX1_diff_120 : decode cX1_diff 120 = .ok (.iconst (-1), 1) := dk_2 (dk_at dksX1_diff_5 4 rfl rfl)
theorem dX1_diff_121 : decode cX1_diff 121 = .ok (.if_icmp .eq 81, 3) := dk_159 0 81 (dk_at dksX1_diff_5 5 rfl rfl)
theorem dX1_diff_124 : decode cX1_diff 124 = .ok (.iload 7, 2) := dk_21 7 (dk_at dksX1_diff_5 8 rfl rfl)
theorem dX1_diff_126 : decode cX1_diff 126 = .ok (.aload 4, 2) := dk_25 4 (dk_at dksX1_diff_5 10 rfl rfl)
theorem dX1_diff_128 : decode cX1_diff 128 = .ok (.getfield 323, 3) := dk_180 1 67 (dk_at dksX1_diff_5 12 rfl rfl)
theorem dX1_diff_131 : decode cX1_diff 131 = .ok (.arraylength, 1) := dk_190 (dk_at dksX1_diff_5 15 rfl rfl)
theorem dX1_diff_132 : decode cX1_diff 132 = .ok (.if_icmp .ge 70, 3) := dk_162 0 70 (dk_at dksX1_diff_5 16 rfl rfl)
theorem dX1_diff_135 : decode cX1_diff 135 = .ok (.aload_n 3, 1) := dk_45 (dk_at dksX1_diff_5 19 rfl rfl)
theorem dX1_diff_136 : decode cX1_diff 136 = .ok (.aload 4, 2) := dk_25 4 (dk_at dksX1_diff_5 20 rfl rfl)
theorem dX1_diff_138 : decode cX1_diff 138 = .ok (.getfield 323, 3) := dk_180 1 67 (dk_at dksX1_diff_6 0 rfl rfl)
theorem dX1_diff_141 : decode cX1_diff 141 = .ok (.iload 7, 2) := dk_21 7 (dk_at dksX1_diff_6 3 rfl rfl)
theorem dX1_diff_143 : decode cX1_diff 143 = .ok (.iaload, 1) := dk_46 (dk_at dksX1_diff_6 5 rfl rfl)
theorem dX1_diff_144 : decode cX1_diff 144 = .ok (.invokevirtual 426, 3) := dk_182 1 170 (dk_at dksX1_diff_6 6 rfl rfl)
theorem dX1_diff_147 : decode cX1_diff 147 = .ok (.istore 8, 2) := dk_54 8 (dk_at dksX1_diff_6 9 rfl rfl)
theorem dX1_diff_149 : decode cX1_diff 149 = .ok (.iload 8, 2) := dk_21 8 (dk_at dksX1_diff_6 11 rfl rfl)
theorem dX1_diff_151 : decode cX1_diff 151 = .ok (.iconst (-1), 1) := dk_2 (dk_at dksX1_diff_6 13 rfl rfl)
theorem dX1_diff_152 : decode cX1_diff 152 = .ok (.if_icmp .eq 44, 3) := dk_159 0 44 (dk_at dksX1_diff_6 14 rfl rfl)
theorem dX1_diff_155 : decode cX1_diff 155 = .ok (.aload_n 3, 1) := dk_45 (dk_at dksX1_diff_6 17 rfl rfl)
theorem dX1_diff_156 : decode cX1_diff 156 = .ok (.getfield 277, 3) := dk_180 1 21 (dk_at dksX1_diff_6 18 rfl rfl)
theorem dX1_diff_159 : decode cX1_diff 159 = .ok (.iload 6, 2) := dk_21 6 (dk_at dksX1_diff_6 21 rfl rfl)
theorem dX1_diff_161 : decode cX1_diff 161 = .ok (.aaload, 1) := dk_50 (dk_at dksX1_diff_6 23 rfl rfl)
theorem dX1_diff_162 : decode cX1_diff 162 = .ok (.iload 8, 2) := dk_21 8 (dk_at dksX1_diff_7 0 rfl rfl)
theorem dX1_diff_164 : decode cX1_diff 164 = .ok (.aaload, 1) := dk_50 (dk_at dksX1_diff_7 2 rfl rfl)
theorem dX1_diff_165 : decode cX1_diff 165 = .ok (.aload 4, 2) := dk_25 4 (dk_at dksX1_diff_7 3 rfl rfl)
theorem dX1_diff_167 : decode cX1_diff 167 = .ok (.getfield 277, 3) := dk_180 1 21 (dk_at dksX1_diff_7 5 rfl rfl)
theorem dX1_diff_170 : decode cX1_diff 170 = .ok (.iload 5, 2) := dk_21 5 (dk_at dksX1_diff_7 8 rfl rfl)
theorem dX1_diff_172 : decode cX1_diff 172 = .ok (.aaload, 1) := dk_50 (dk_at dksX1_diff_7 10 rfl rfl)
theorem dX1_diff_173 : decode cX1_diff 173 = .ok (.iload 7, 2) := dk_21 7 (dk_at dksX1_diff_7 11 rfl rfl)
theorem dX1_diff_175 : decode cX1_diff 175 = .ok (.aaload, 1) := dk_50 (dk_at dksX1_diff_7 13 rfl rfl)
theorem dX1_diff_176 : decode cX1_diff 176 = .ok (.invokestatic 466, 3) := dk_184 1 210 (dk_at dksX1_diff_7 14 rfl rfl)
theorem dX1_diff_179 : decode cX1_diff 179 = .ok (.ifCond .ne 17, 3) := dk_154 0 17 (dk_at dksX1_diff_7 17 rfl rfl)
theorem dX1_diff_182 : decode cX1_diff 182 = .ok (.aload_n 0, 1) := dk_42 (dk_at dksX1_diff_7 20 rfl rfl)
theorem dX1_diff_183 : decode cX1_diff 183 = .ok (.bipush 7, 2) := dk_16 7 (dk_at dksX1_diff_7 21 rfl rfl)
theorem dX1_diff_185 : decode cX1_diff 185 = .ok (.iload 5, 2) := dk_21 5 (dk_at dksX1_diff_8 0 rfl rfl)
theorem dX1_diff_187 : decode cX1_diff 187 = .ok (.iconst 1, 1) := dk_4 (dk_at dksX1_diff_8 2 rfl rfl)
theorem dX1_diff_188 : decode cX1_diff 188 = .ok (.iadd, 1) := dk_96 (dk_at dksX1_diff_8 3 rfl rfl)
theorem dX1_diff_189 : decode cX1_diff 189 = .ok (.iload 7, 2) := dk_21 7 (dk_at dksX1_diff_8 4 rfl rfl)
theorem dX1_diff_191 : decode cX1_diff 191 = .ok (.iconst 1, 1) := dk_4 (dk_at dksX1_diff_8 6 rfl rfl)
theorem dX1_diff_192 : decode cX1_diff 192 = .ok (.iadd, 1) := dk_96 (dk_at dksX1_diff_8 7 rfl rfl)
theorem dX1_diff_193 : decode cX1_diff 193 = .ok (.invokevirtual 450, 3) := dk_182 1 194 (dk_at dksX1_diff_8 8 rfl rfl)
theorem dX1_diff_196 : decode cX1_diff 196 = .ok (.iinc 7 1, 3) := dk_132 7 1 (dk_at dksX1_diff_8 11 rfl rfl)
theorem dX1_diff_199 : decode cX1_diff 199 = .ok (.goto (-81), 3) := dk_167 255 175 (dk_at dksX1_diff_8 14 rfl rfl)
theorem dX1_diff_202 : decode cX1_diff 202 = .ok (.iinc 5 1, 3) := dk_132 5 1 (dk_at dksX1_diff_8 17 rfl rfl)
theorem dX1_diff_205 : decode cX1_diff 205 = .ok (.goto (-115), 3) := dk_167 255 141 (dk_at dksX1_diff_8 20 rfl rfl)
theorem dX1_diff_208 : decode cX1_diff 208 = .ok (.aload_n 0, 1) := dk_42 (dk_at dksX1_diff_8 23 rfl rfl)
theorem dX1_diff_209 : decode cX1_diff 209 = .ok (.getfield 447, 3) := dk_180 1 191 (dk_at dksX1_diff_9 0 rfl rfl)
theorem dX1_diff_212 : decode cX1_diff 212 = .ok (.ireturn, 1) := dk_172 (dk_at dksX1_diff_9 3 rfl rfl)
abbrev cX1_differAlone : ByteArray := prog_1_method_46_code
def yX1_differAlone : MethodName := ⟨RX1, "differAlone", "(LSheetBranches$Sheet;LSheetBranches$Sheet;II)V"⟩
def dkwX1_differAlone_3 : List UInt8 := [167, 255, 198, 177]
abbrev dktX1_differAlone_3 : List UInt8 := dkwX1_differAlone_3 ++ []
def dkwX1_differAlone_2 : List UInt8 := [167, 0, 4, 3, 29, 154, 0, 7, 3, 167, 0, 7, 21, 6, 4, 96, 182, 1, 194, 132, 6, 1]
abbrev dktX1_differAlone_2 : List UInt8 := dkwX1_differAlone_2 ++ dktX1_differAlone_3
def dkwX1_differAlone_1 : List UInt8 := [25, 5, 21, 6, 46, 184, 1, 181, 2, 160, 0, 33, 42, 21, 4, 29, 154, 0, 10, 21, 6, 4, 96]
abbrev dktX1_differAlone_1 : List UInt8 := dkwX1_differAlone_1 ++ dktX1_differAlone_2
def dkwX1_differAlone_0 : List UInt8 := [43, 29, 182, 1, 29, 58, 5, 3, 54, 6, 21, 6, 25, 5, 190, 162, 0, 56, 44, 29, 182, 1, 29]
abbrev dktX1_differAlone_0 : List UInt8 := dkwX1_differAlone_0 ++ dktX1_differAlone_1
theorem dksX1_differAlone_0 : cX1_differAlone.data.toList.drop 0 = dktX1_differAlone_0 := by decide +kernel
theorem dksX1_differAlone_1 : cX1_differAlone.data.toList.drop 23 = dktX1_differAlone_1 := dk_seg dksX1_differAlone_0 23 rfl rfl
theorem dksX1_differAlone_2 : cX1_differAlone.data.toList.drop 46 = dktX1_differAlone_2 := dk_seg dksX1_differAlone_1 23 rfl rfl
theorem dksX1_differAlone_3 : cX1_differAlone.data.toList.drop 68 = dktX1_differAlone_3 := dk_seg dksX1_differAlone_2 22 rfl rfl
theorem dX1_differAlone_0 : decode cX1_differAlone 0 = .ok (.aload_n 1, 1) := dk_43 (dk_at dksX1_differAlone_0 0 rfl rfl)
theorem dX1_differAlone_1 : decode cX1_differAlone 1 = .ok (.iload_n 3, 1) := dk_29 (dk_at dksX1_differAlone_0 1 rfl rfl)
theorem dX1_differAlone_2 : decode cX1_differAlone 2 = .ok (.invokevirtual 285, 3) := dk_182 1 29 (dk_at dksX1_differAlone_0 2 rfl rfl)
theorem dX1_differAlone_5 : decode cX1_differAlone 5 = .ok (.astore 5, 2) := dk_58 5 (dk_at dksX1_differAlone_0 5 rfl rfl)
theorem dX1_differAlone_7 : decode cX1_differAlone 7 = .ok (.iconst 0, 1) := dk_3 (dk_at dksX1_differAlone_0 7 rfl rfl)
theorem dX1_differAlone_8 : decode cX1_differAlone 8 = .ok (.istore 6, 2) := dk_54 6 (dk_at dksX1_differAlone_0 8 rfl rfl)
theorem dX1_differAlone_10 : decode cX1_differAlone 10 = .ok (.iload 6, 2) := dk_21 6 (dk_at dksX1_differAlone_0 10 rfl rfl)
theorem dX1_differAlone_12 : decode cX1_differAlone 12 = .ok (.aload 5, 2) := dk_25 5 (dk_at dksX1_differAlone_0 12 rfl rfl)
theorem dX1_differAlone_14 : decode cX1_differAlone 14 = .ok (.arraylength, 1) := dk_190 (dk_at dksX1_differAlone_0 14 rfl rfl)
theorem dX1_differAlone_15 : decode cX1_differAlone 15 = .ok (.if_icmp .ge 56, 3) := dk_162 0 56 (dk_at dksX1_differAlone_0 15 rfl rfl)
theorem dX1_differAlone_18 : decode cX1_differAlone 18 = .ok (.aload_n 2, 1) := dk_44 (dk_at dksX1_differAlone_0 18 rfl rfl)
theorem dX1_differAlone_19 : decode cX1_differAlone 19 = .ok (.iload_n 3, 1) := dk_29 (dk_at dksX1_differAlone_0 19 rfl rfl)
theorem dX1_differAlone_20 : decode cX1_differAlone 20 = .ok (.invokevirtual 285, 3) := dk_182 1 29 (dk_at dksX1_differAlone_0 20 rfl rfl)
theorem dX1_differAlone_23 : decode cX1_differAlone 23 = .ok (.aload 5, 2) := dk_25 5 (dk_at dksX1_differAlone_1 0 rfl rfl)
theorem dX1_differAlone_25 : decode cX1_differAlone 25 = .ok (.iload 6, 2) := dk_21 6 (dk_at dksX1_differAlone_1 2 rfl rfl)
theorem dX1_differAlone_27 : decode cX1_differAlone 27 = .ok (.iaload, 1) := dk_46 (dk_at dksX1_differAlone_1 4 rfl rfl)
theorem dX1_differAlone_28 : decode cX1_differAlone 28 = .ok (.invokestatic 437, 3) := dk_184 1 181 (dk_at dksX1_differAlone_1 5 rfl rfl)
theorem dX1_differAlone_31 : decode cX1_differAlone 31 = .ok (.iconst (-1), 1) := dk_2 (dk_at dksX1_differAlone_1 8 rfl rfl)
theorem dX1_differAlone_32 : decode cX1_differAlone 32 = .ok (.if_icmp .ne 33, 3) := dk_160 0 33 (dk_at dksX1_differAlone_1 9 rfl rfl)
theorem dX1_differAlone_35 : decode cX1_differAlone 35 = .ok (.aload_n 0, 1) := dk_42 (dk_at dksX1_differAlone_1 12 rfl rfl)
theorem dX1_differAlone_36 : decode cX1_differAlone 36 = .ok (.iload 4, 2) := dk_21 4 (dk_at dksX1_differAlone_1 13 rfl rfl)
theorem dX1_differAlone_38 : decode cX1_differAlone 38 = .ok (.iload_n 3, 1) := dk_29 (dk_at dksX1_differAlone_1 15 rfl rfl)
theorem dX1_differAlone_39 : decode cX1_differAlone 39 = .ok (.ifCond .ne 10, 3) := dk_154 0 10 (dk_at dksX1_differAlone_1 16 rfl rfl)
theorem dX1_differAlone_42 : decode cX1_differAlone 42 = .ok (.iload 6, 2) := dk_21 6 (dk_at dksX1_differAlone_1 19 rfl rfl)
theorem dX1_differAlone_44 : decode cX1_differAlone 44 = .ok (.iconst 1, 1) := dk_4 (dk_at dksX1_differAlone_1 21 rfl rfl)
theorem dX1_differAlone_45 : decode cX1_differAlone 45 = .ok (.iadd, 1) := dk_96 (dk_at dksX1_differAlone_1 22 rfl rfl)
theorem dX1_differAlone_46 : decode cX1_differAlone 46 = .ok (.goto 4, 3) := dk_167 0 4 (dk_at dksX1_differAlone_2 0 rfl rfl)
theorem dX1_differAlone_49 : decode cX1_differAlone 49 = .ok (.iconst 0, 1) := dk_3 (dk_at dksX1_differAlone_2 3 rfl rfl)
theorem dX1_differAlone_50 : decode cX1_differAlone 50 = .ok (.iload_n 3, 1) := dk_29 (dk_at dksX1_differAlone_2 4 rfl rfl)
theorem dX1_differAlone_51 : decode cX1_differAlone 51 = .ok (.ifCond .ne 7, 3) := dk_154 0 7 (dk_at dksX1_differAlone_2 5 rfl rfl)
theorem dX1_differAlone_54 : decode cX1_differAlone 54 = .ok (.iconst 0, 1) := dk_3 (dk_at dksX1_differAlone_2 8 rfl rfl)
theorem dX1_differAlone_55 : decode cX1_differAlone 55 = .ok (.goto 7, 3) := dk_167 0 7 (dk_at dksX1_differAlone_2 9 rfl rfl)
theorem dX1_differAlone_58 : decode cX1_differAlone 58 = .ok (.iload 6, 2) := dk_21 6 (dk_at dksX1_differAlone_2 12 rfl rfl)
theorem dX1_differAlone_60 : decode cX1_differAlone 60 = .ok (.iconst 1, 1) := dk_4 (dk_at dksX1_differAlone_2 14 rfl rfl)
theorem dX1_differAlone_61 : decode cX1_differAlone 61 = .ok (.iadd, 1) := dk_96 (dk_at dksX1_differAlone_2 15 rfl rfl)
theorem dX1_differAlone_62 : decode cX1_differAlone 62 = .ok (.invokevirtual 450, 3) := dk_182 1 194 (dk_at dksX1_differAlone_2 16 rfl rfl)
theorem dX1_differAlone_65 : decode cX1_differAlone 65 = .ok (.iinc 6 1, 3) := dk_132 6 1 (dk_at dksX1_differAlone_2 19 rfl rfl)
theorem dX1_differAlone_68 : decode cX1_differAlone 68 = .ok (.goto (-58), 3) := dk_167 255 198 (dk_at dksX1_differAlone_3 0 rfl rfl)
theorem dX1_differAlone_71 : decode cX1_differAlone 71 = .ok (.return_, 1) := dk_177 (dk_at dksX1_differAlone_3 3 rfl rfl)
abbrev cX1_differ : ByteArray := prog_1_method_45_code
def yX1_differ : MethodName := ⟨RX1, "differ", "(III)V"⟩
def dkwX1_differ_1 : List UInt8 := [42, 180, 1, 191, 29, 79, 42, 89, 180, 1, 191, 4, 96, 181, 1, 191, 177]
abbrev dktX1_differ_1 : List UInt8 := dkwX1_differ_1 ++ []
def dkwX1_differ_0 : List UInt8 := [42, 180, 0, 168, 42, 180, 1, 191, 27, 79, 42, 180, 0, 171, 42, 180, 1, 191, 28, 79, 42, 180, 0, 174]
abbrev dktX1_differ_0 : List UInt8 := dkwX1_differ_0 ++ dktX1_differ_1
theorem dksX1_differ_0 : cX1_differ.data.toList.drop 0 = dktX1_differ_0 := by decide +kernel
theorem dksX1_differ_1 : cX1_differ.data.toList.drop 24 = dktX1_differ_1 := dk_seg dksX1_differ_0 24 rfl rfl
theorem dX1_differ_0 : decode cX1_differ 0 = .ok (.aload_n 0, 1) := dk_42 (dk_at dksX1_differ_0 0 rfl rfl)
theorem dX1_differ_1 : decode cX1_differ 1 = .ok (.getfield 168, 3) := dk_180 0 168 (dk_at dksX1_differ_0 1 rfl rfl)
theorem dX1_differ_4 : decode cX1_differ 4 = .ok (.aload_n 0, 1) := dk_42 (dk_at dksX1_differ_0 4 rfl rfl)
theorem dX1_differ_5 : decode cX1_differ 5 = .ok (.getfield 447, 3) := dk_180 1 191 (dk_at dksX1_differ_0 5 rfl rfl)
theorem dX1_differ_8 : decode cX1_differ 8 = .ok (.iload_n 1, 1) := dk_27 (dk_at dksX1_differ_0 8 rfl rfl)
theorem dX1_differ_9 : decode cX1_differ 9 = .ok (.iastore, 1) := dk_79 (dk_at dksX1_differ_0 9 rfl rfl)
theorem dX1_differ_10 : decode cX1_differ 10 = .ok (.aload_n 0, 1) := dk_42 (dk_at dksX1_differ_0 10 rfl rfl)
theorem dX1_differ_11 : decode cX1_differ 11 = .ok (.getfield 171, 3) := dk_180 0 171 (dk_at dksX1_differ_0 11 rfl rfl)
theorem dX1_differ_14 : decode cX1_differ 14 = .ok (.aload_n 0, 1) := dk_42 (dk_at dksX1_differ_0 14 rfl rfl)
theorem dX1_differ_15 : decode cX1_differ 15 = .ok (.getfield 447, 3) := dk_180 1 191 (dk_at dksX1_differ_0 15 rfl rfl)
theorem dX1_differ_18 : decode cX1_differ 18 = .ok (.iload_n 2, 1) := dk_28 (dk_at dksX1_differ_0 18 rfl rfl)
theorem dX1_differ_19 : decode cX1_differ 19 = .ok (.iastore, 1) := dk_79 (dk_at dksX1_differ_0 19 rfl rfl)
theorem dX1_differ_20 : decode cX1_differ 20 = .ok (.aload_n 0, 1) := dk_42 (dk_at dksX1_differ_0 20 rfl rfl)
theorem dX1_differ_21 : decode cX1_differ 21 = .ok (.getfield 174, 3) := dk_180 0 174 (dk_at dksX1_differ_0 21 rfl rfl)
theorem dX1_differ_24 : decode cX1_differ 24 = .ok (.aload_n 0, 1) := dk_42 (dk_at dksX1_differ_1 0 rfl rfl)
theorem dX1_differ_25 : decode cX1_differ 25 = .ok (.getfield 447, 3) := dk_180 1 191 (dk_at dksX1_differ_1 1 rfl rfl)
theorem dX1_differ_28 : decode cX1_differ 28 = .ok (.iload_n 3, 1) := dk_29 (dk_at dksX1_differ_1 4 rfl rfl)
theorem dX1_differ_29 : decode cX1_differ 29 = .ok (.iastore, 1) := dk_79 (dk_at dksX1_differ_1 5 rfl rfl)
theorem dX1_differ_30 : decode cX1_differ 30 = .ok (.aload_n 0, 1) := dk_42 (dk_at dksX1_differ_1 6 rfl rfl)
theorem dX1_differ_31 : decode cX1_differ 31 = .ok (.dup, 1) := dk_89 (dk_at dksX1_differ_1 7 rfl rfl)
theorem dX1_differ_32 : decode cX1_differ 32 = .ok (.getfield 447, 3) := dk_180 1 191 (dk_at dksX1_differ_1 8 rfl rfl)
theorem dX1_differ_35 : decode cX1_differ 35 = .ok (.iconst 1, 1) := dk_4 (dk_at dksX1_differ_1 11 rfl rfl)
theorem dX1_differ_36 : decode cX1_differ 36 = .ok (.iadd, 1) := dk_96 (dk_at dksX1_differ_1 12 rfl rfl)
theorem dX1_differ_37 : decode cX1_differ 37 = .ok (.putfield 447, 3) := dk_181 1 191 (dk_at dksX1_differ_1 13 rfl rfl)
theorem dX1_differ_40 : decode cX1_differ 40 = .ok (.return_, 1) := dk_177 (dk_at dksX1_differ_1 16 rfl rfl)
abbrev cX1_differInOrder : ByteArray := prog_1_method_47_code
def yX1_differInOrder : MethodName := ⟨RX1, "differInOrder", "(LSheetBranches$Sheet;LSheetBranches$Sheet;I)V"⟩
def dkwX1_differInOrder_3 : List UInt8 := [167, 255, 200, 177]
abbrev dktX1_differInOrder_3 : List UInt8 := dkwX1_differInOrder_3 ++ []
def dkwX1_differInOrder_2 : List UInt8 := [21, 5, 162, 0, 13, 42, 8, 29, 96, 3, 3, 182, 1, 194, 177, 21, 7, 54, 5, 132, 6, 1]
abbrev dktX1_differInOrder_2 : List UInt8 := dkwX1_differInOrder_2 ++ dktX1_differInOrder_3
def dkwX1_differInOrder_1 : List UInt8 := [182, 1, 29, 25, 4, 21, 6, 46, 184, 1, 181, 54, 7, 21, 7, 2, 160, 0, 6, 167, 0, 24, 21, 7]
abbrev dktX1_differInOrder_1 : List UInt8 := dkwX1_differInOrder_1 ++ dktX1_differInOrder_2
def dkwX1_differInOrder_0 : List UInt8 := [43, 29, 182, 1, 29, 58, 4, 2, 54, 5, 3, 54, 6, 21, 6, 25, 4, 190, 162, 0, 54, 44, 29]
abbrev dktX1_differInOrder_0 : List UInt8 := dkwX1_differInOrder_0 ++ dktX1_differInOrder_1
theorem dksX1_differInOrder_0 : cX1_differInOrder.data.toList.drop 0 = dktX1_differInOrder_0 := by decide +kernel
theorem dksX1_differInOrder_1 : cX1_differInOrder.data.toList.drop 23 = dktX1_differInOrder_1 := dk_seg dksX1_differInOrder_0 23 rfl rfl
theorem dksX1_differInOrder_2 : cX1_differInOrder.data.toList.drop 47 = dktX1_differInOrder_2 := dk_seg dksX1_differInOrder_1 24 rfl rfl
theorem dksX1_differInOrder_3 : cX1_differInOrder.data.toList.drop 69 = dktX1_differInOrder_3 := dk_seg dksX1_differInOrder_2 22 rfl rfl
theorem dX1_differInOrder_0 : decode cX1_differInOrder 0 = .ok (.aload_n 1, 1) := dk_43 (dk_at dksX1_differInOrder_0 0 rfl rfl)
theorem dX1_differInOrder_1 : decode cX1_differInOrder 1 = .ok (.iload_n 3, 1) := dk_29 (dk_at dksX1_differInOrder_0 1 rfl rfl)
theorem dX1_differInOrder_2 : decode cX1_differInOrder 2 = .ok (.invokevirtual 285, 3) := dk_182 1 29 (dk_at dksX1_differInOrder_0 2 rfl rfl)
theorem dX1_differInOrder_5 : decode cX1_differInOrder 5 = .ok (.astore 4, 2) := dk_58 4 (dk_at dksX1_differInOrder_0 5 rfl rfl)
theorem dX1_differInOrder_7 : decode cX1_differInOrder 7 = .ok (.iconst (-1), 1) := dk_2 (dk_at dksX1_differInOrder_0 7 rfl rfl)
theorem dX1_differInOrder_8 : decode cX1_differInOrder 8 = .ok (.istore 5, 2) := dk_54 5 (dk_at dksX1_differInOrder_0 8 rfl rfl)
theorem dX1_differInOrder_10 : decode cX1_differInOrder 10 = .ok (.iconst 0, 1) := dk_3 (dk_at dksX1_differInOrder_0 10 rfl rfl)
theorem dX1_differInOrder_11 : decode cX1_differInOrder 11 = .ok (.istore 6, 2) := dk_54 6 (dk_at dksX1_differInOrder_0 11 rfl rfl)
theorem dX1_differInOrder_13 : decode cX1_differInOrder 13 = .ok (.iload 6, 2) := dk_21 6 (dk_at dksX1_differInOrder_0 13 rfl rfl)
theorem dX1_differInOrder_15 : decode cX1_differInOrder 15 = .ok (.aload 4, 2) := dk_25 4 (dk_at dksX1_differInOrder_0 15 rfl rfl)
theorem dX1_differInOrder_17 : decode cX1_differInOrder 17 = .ok (.arraylength, 1) := dk_190 (dk_at dksX1_differInOrder_0 17 rfl rfl)
theorem dX1_differInOrder_18 : decode cX1_differInOrder 18 = .ok (.if_icmp .ge 54, 3) := dk_162 0 54 (dk_at dksX1_differInOrder_0 18 rfl rfl)
theorem dX1_differInOrder_21 : decode cX1_differInOrder 21 = .ok (.aload_n 2, 1) := dk_44 (dk_at dksX1_differInOrder_0 21 rfl rfl)
theorem dX1_differInOrder_22 : decode cX1_differInOrder 22 = .ok (.iload_n 3, 1) := dk_29 (dk_at dksX1_differInOrder_0 22 rfl rfl)
theorem dX1_differInOrder_23 : decode cX1_differInOrder 23 = .ok (.invokevirtual 285, 3) := dk_182 1 29 (dk_at dksX1_differInOrder_1 0 rfl rfl)
theorem dX1_differInOrder_26 : decode cX1_differInOrder 26 = .ok (.aload 4, 2) := dk_25 4 (dk_at dksX1_differInOrder_1 3 rfl rfl)
theorem dX1_differInOrder_28 : decode cX1_differInOrder 28 = .ok (.iload 6, 2) := dk_21 6 (dk_at dksX1_differInOrder_1 5 rfl rfl)
theorem dX1_differInOrder_30 : decode cX1_differInOrder 30 = .ok (.iaload, 1) := dk_46 (dk_at dksX1_differInOrder_1 7 rfl rfl)
theorem dX1_differInOrder_31 : decode cX1_differInOrder 31 = .ok (.invokestatic 437, 3) := dk_184 1 181 (dk_at dksX1_differInOrder_1 8 rfl rfl)
theorem dX1_differInOrder_34 : decode cX1_differInOrder 34 = .ok (.istore 7, 2) := dk_54 7 (dk_at dksX1_differInOrder_1 11 rfl rfl)
theorem dX1_differInOrder_36 : decode cX1_differInOrder 36 = .ok (.iload 7, 2) := dk_21 7 (dk_at dksX1_differInOrder_1 13 rfl rfl)
theorem dX1_differInOrder_38 : decode cX1_differInOrder 38 = .ok (.iconst (-1), 1) := dk_2 (dk_at dksX1_differInOrder_1 15 rfl rfl)
theorem dX1_differInOrder_39 : decode cX1_differInOrder 39 = .ok (.if_icmp .ne 6, 3) := dk_160 0 6 (dk_at dksX1_differInOrder_1 16 rfl rfl)
theorem dX1_differInOrder_42 : decode cX1_differInOrder 42 = .ok (.goto 24, 3) := dk_167 0 24 (dk_at dksX1_differInOrder_1 19 rfl rfl)
theorem dX1_differInOrder_45 : decode cX1_differInOrder 45 = .ok (.iload 7, 2) := dk_21 7 (dk_at dksX1_differInOrder_1 22 rfl rfl)
theorem dX1_differInOrder_47 : decode cX1_differInOrder 47 = .ok (.iload 5, 2) := dk_21 5 (dk_at dksX1_differInOrder_2 0 rfl rfl)
theorem dX1_differInOrder_49 : decode cX1_differInOrder 49 = .ok (.if_icmp .ge 13, 3) := dk_162 0 13 (dk_at dksX1_differInOrder_2 2 rfl rfl)
theorem dX1_differInOrder_52 : decode cX1_differInOrder 52 = .ok (.aload_n 0, 1) := dk_42 (dk_at dksX1_differInOrder_2 5 rfl rfl)
theorem dX1_differInOrder_53 : decode cX1_differInOrder 53 = .ok (.iconst 5, 1) := dk_8 (dk_at dksX1_differInOrder_2 6 rfl rfl)
theorem dX1_differInOrder_54 : decode cX1_differInOrder 54 = .ok (.iload_n 3, 1) := dk_29 (dk_at dksX1_differInOrder_2 7 rfl rfl)
theorem dX1_differInOrder_55 : decode cX1_differInOrder 55 = .ok (.iadd, 1) := dk_96 (dk_at dksX1_differInOrder_2 8 rfl rfl)
theorem dX1_differInOrder_56 : decode cX1_differInOrder 56 = .ok (.iconst 0, 1) := dk_3 (dk_at dksX1_differInOrder_2 9 rfl rfl)
theorem dX1_differInOrder_57 : decode cX1_differInOrder 57 = .ok (.iconst 0, 1) := dk_3 (dk_at dksX1_differInOrder_2 10 rfl rfl)
theorem dX1_differInOrder_58 : decode cX1_differInOrder 58 = .ok (.invokevirtual 450, 3) := dk_182 1 194 (dk_at dksX1_differInOrder_2 11 rfl rfl)
theorem dX1_differInOrder_61 : decode cX1_differInOrder 61 = .ok (.return_, 1) := dk_177 (dk_at dksX1_differInOrder_2 14 rfl rfl)
theorem dX1_differInOrder_62 : decode cX1_differInOrder 62 = .ok (.iload 7, 2) := dk_21 7 (dk_at dksX1_differInOrder_2 15 rfl rfl)
theorem dX1_differInOrder_64 : decode cX1_differInOrder 64 = .ok (.istore 5, 2) := dk_54 5 (dk_at dksX1_differInOrder_2 17 rfl rfl)
theorem dX1_differInOrder_66 : decode cX1_differInOrder 66 = .ok (.iinc 6 1, 3) := dk_132 6 1 (dk_at dksX1_differInOrder_2 19 rfl rfl)
theorem dX1_differInOrder_69 : decode cX1_differInOrder 69 = .ok (.goto (-56), 3) := dk_167 255 200 (dk_at dksX1_differInOrder_3 0 rfl rfl)
theorem dX1_differInOrder_72 : decode cX1_differInOrder 72 = .ok (.return_, 1) := dk_177 (dk_at dksX1_differInOrder_3 3 rfl rfl)
abbrev cX1_blame : ByteArray := prog_1_method_51_code
def yX1_blame : MethodName := ⟨RX1, "blame", "(II)I"⟩
def dkwX1_blame_7 : List UInt8 := [167, 0, 4, 3, 54, 7, 21, 7, 153, 0, 7, 21, 9, 54, 6, 167, 255, 167, 21, 6, 172]
abbrev dktX1_blame_7 : List UInt8 := dkwX1_blame_7 ++ []
def dkwX1_blame_6 : List UInt8 := [182, 1, 217, 153, 0, 11, 25, 8, 180, 1, 220, 167, 0, 4, 2, 54, 9, 21, 9, 2, 159, 0, 7, 4]
abbrev dktX1_blame_6 : List UInt8 := dkwX1_blame_6 ++ dktX1_blame_7
def dkwX1_blame_5 : List UInt8 := [153, 0, 11, 25, 8, 180, 1, 158, 167, 0, 29, 42, 25, 8, 180, 1, 220, 21, 4, 21, 5, 45]
abbrev dktX1_blame_5 : List UInt8 := dkwX1_blame_5 ++ dktX1_blame_6
def dkwX1_blame_4 : List UInt8 := [42, 180, 0, 102, 21, 6, 50, 58, 8, 42, 25, 8, 180, 1, 158, 21, 4, 21, 5, 45, 182, 1, 217]
abbrev dktX1_blame_4 : List UInt8 := dkwX1_blame_4 ++ dktX1_blame_5
def dkwX1_blame_3 : List UInt8 := [42, 21, 6, 21, 4, 21, 5, 45, 182, 1, 217, 154, 0, 5, 2, 172, 4, 54, 7, 21, 7, 153, 0, 90]
abbrev dktX1_blame_3 : List UInt8 := dkwX1_blame_3 ++ dktX1_blame_4
def dkwX1_blame_2 : List UInt8 := [4, 100, 46, 54, 4, 42, 180, 0, 198, 180, 1, 67, 28, 4, 100, 46, 54, 5, 42, 182, 1, 107, 54, 6]
abbrev dktX1_blame_2 : List UInt8 := dkwX1_blame_2 ++ dktX1_blame_3
def dkwX1_blame_1 : List UInt8 := [42, 180, 0, 198, 180, 1, 21, 27, 4, 100, 50, 28, 4, 100, 50, 78, 42, 180, 0, 198, 180, 1, 60, 27]
abbrev dktX1_blame_1 : List UInt8 := dkwX1_blame_1 ++ dktX1_blame_2
def dkwX1_blame_0 : List UInt8 := [42, 180, 0, 198, 27, 4, 100, 28, 4, 100, 182, 0, 235, 154, 0, 11, 187, 0, 239, 89, 183, 0, 241, 191]
abbrev dktX1_blame_0 : List UInt8 := dkwX1_blame_0 ++ dktX1_blame_1
theorem dksX1_blame_0 : cX1_blame.data.toList.drop 0 = dktX1_blame_0 := by decide +kernel
theorem dksX1_blame_1 : cX1_blame.data.toList.drop 24 = dktX1_blame_1 := dk_seg dksX1_blame_0 24 rfl rfl
theorem dksX1_blame_2 : cX1_blame.data.toList.drop 48 = dktX1_blame_2 := dk_seg dksX1_blame_1 24 rfl rfl
theorem dksX1_blame_3 : cX1_blame.data.toList.drop 72 = dktX1_blame_3 := dk_seg dksX1_blame_2 24 rfl rfl
theorem dksX1_blame_4 : cX1_blame.data.toList.drop 96 = dktX1_blame_4 := dk_seg dksX1_blame_3 24 rfl rfl
theorem dksX1_blame_5 : cX1_blame.data.toList.drop 119 = dktX1_blame_5 := dk_seg dksX1_blame_4 23 rfl rfl
theorem dksX1_blame_6 : cX1_blame.data.toList.drop 141 = dktX1_blame_6 := dk_seg dksX1_blame_5 22 rfl rfl
theorem dksX1_blame_7 : cX1_blame.data.toList.drop 165 = dktX1_blame_7 := dk_seg dksX1_blame_6 24 rfl rfl
theorem dX1_blame_0 : decode cX1_blame 0 = .ok (.aload_n 0, 1) := dk_42 (dk_at dksX1_blame_0 0 rfl rfl)
theorem dX1_blame_1 : decode cX1_blame 1 = .ok (.getfield 198, 3) := dk_180 0 198 (dk_at dksX1_blame_0 1 rfl rfl)
theorem dX1_blame_4 : decode cX1_blame 4 = .ok (.iload_n 1, 1) := dk_27 (dk_at dksX1_blame_0 4 rfl rfl)
theorem dX1_blame_5 : decode cX1_blame 5 = .ok (.iconst 1, 1) := dk_4 (dk_at dksX1_blame_0 5 rfl rfl)
theorem dX1_blame_6 : decode cX1_blame 6 = .ok (.isub, 1) := dk_100 (dk_at dksX1_blame_0 6 rfl rfl)
theorem dX1_blame_7 : decode cX1_blame 7 = .ok (.iload_n 2, 1) := dk_28 (dk_at dksX1_blame_0 7 rfl rfl)
theorem dX1_blame_8 : decode cX1_blame 8 = .ok (.iconst 1, 1) := dk_4 (dk_at dksX1_blame_0 8 rfl rfl)
theorem dX1_blame_9 : decode cX1_blame 9 = .ok (.isub, 1) := dk_100 (dk_at dksX1_blame_0 9 rfl rfl)
theorem dX1_blame_10 : decode cX1_blame 10 = .ok (.invokevirtual 235, 3) := dk_182 0 235 (dk_at dksX1_blame_0 10 rfl rfl)
theorem dX1_blame_13 : decode cX1_blame 13 = .ok (.ifCond .ne 11, 3) := dk_154 0 11 (dk_at dksX1_blame_0 13 rfl rfl)
theorem dX1_blame_16 : decode cX1_blame 16 = .ok (.new 239, 3) := dk_187 0 239 (dk_at dksX1_blame_0 16 rfl rfl)
theorem dX1_blame_19 : decode cX1_blame 19 = .ok (.dup, 1) := dk_89 (dk_at dksX1_blame_0 19 rfl rfl)
theorem dX1_blame_20 : decode cX1_blame 20 = .ok (.invokespecial 241, 3) := dk_183 0 241 (dk_at dksX1_blame_0 20 rfl rfl)
theorem dX1_blame_23 : decode cX1_blame 23 = .ok (.athrow, 1) := dk_191 (dk_at dksX1_blame_0 23 rfl rfl)
theorem dX1_blame_24 : decode cX1_blame 24 = .ok (.aload_n 0, 1) := dk_42 (dk_at dksX1_blame_1 0 rfl rfl)
theorem dX1_blame_25 : decode cX1_blame 25 = .ok (.getfield 198, 3) := dk_180 0 198 (dk_at dksX1_blame_1 1 rfl rfl)
theorem dX1_blame_28 : decode cX1_blame 28 = .ok (.getfield 277, 3) := dk_180 1 21 (dk_at dksX1_blame_1 4 rfl rfl)
theorem dX1_blame_31 : decode cX1_blame 31 = .ok (.iload_n 1, 1) := dk_27 (dk_at dksX1_blame_1 7 rfl rfl)
theorem dX1_blame_32 : decode cX1_blame 32 = .ok (.iconst 1, 1) := dk_4 (dk_at dksX1_blame_1 8 rfl rfl)
theorem dX1_blame_33 : decode cX1_blame 33 = .ok (.isub, 1) := dk_100 (dk_at dksX1_blame_1 9 rfl rfl)
theorem dX1_blame_34 : decode cX1_blame 34 = .ok (.aaload, 1) := dk_50 (dk_at dksX1_blame_1 10 rfl rfl)
theorem dX1_blame_35 : decode cX1_blame 35 = .ok (.iload_n 2, 1) := dk_28 (dk_at dksX1_blame_1 11 rfl rfl)
theorem dX1_blame_36 : decode cX1_blame 36 = .ok (.iconst 1, 1) := dk_4 (dk_at dksX1_blame_1 12 rfl rfl)
theorem dX1_blame_37 : decode cX1_blame 37 = .ok (.isub, 1) := dk_100 (dk_at dksX1_blame_1 13 rfl rfl)
theorem dX1_blame_38 : decode cX1_blame 38 = .ok (.aaload, 1) := dk_50 (dk_at dksX1_blame_1 14 rfl rfl)
theorem dX1_blame_39 : decode cX1_blame 39 = .ok (.astore_n 3, 1) := dk_78 (dk_at dksX1_blame_1 15 rfl rfl)
theorem dX1_blame_40 : decode cX1_blame 40 = .ok (.aload_n 0, 1) := dk_42 (dk_at dksX1_blame_1 16 rfl rfl)
theorem dX1_blame_41 : decode cX1_blame 41 = .ok (.getfield 198, 3) := dk_180 0 198 (dk_at dksX1_blame_1 17 rfl rfl)
theorem dX1_blame_44 : decode cX1_blame 44 = .ok (.getfield 316, 3) := dk_180 1 60 (dk_at dksX1_blame_1 20 rfl rfl)
theorem dX1_blame_47 : decode cX1_blame 47 = .ok (.iload_n 1, 1) := dk_27 (dk_at dksX1_blame_1 23 rfl rfl)
theorem dX1_blame_48 : decode cX1_blame 48 = .ok (.iconst 1, 1) := dk_4 (dk_at dksX1_blame_2 0 rfl rfl)
theorem dX1_blame_49 : decode cX1_blame 49 = .ok (.isub, 1) := dk_100 (dk_at dksX1_blame_2 1 rfl rfl)
theorem dX1_blame_50 : decode cX1_blame 50 = .ok (.iaload, 1) := dk_46 (dk_at dksX1_blame_2 2 rfl rfl)
theorem dX1_blame_51 : decode cX1_blame 51 = .ok (.istore 4, 2) := dk_54 4 (dk_at dksX1_blame_2 3 rfl rfl)
theorem dX1_blame_53 : decode cX1_blame 53 = .ok (.aload_n 0, 1) := dk_42 (dk_at dksX1_blame_2 5 rfl rfl)
theorem dX1_blame_54 : decode cX1_blame 54 = .ok (.getfield 198, 3) := dk_180 0 198 (dk_at dksX1_blame_2 6 rfl rfl)
theorem dX1_blame_57 : decode cX1_blame 57 = .ok (.getfield 323, 3) := dk_180 1 67 (dk_at dksX1_blame_2 9 rfl rfl)
theorem dX1_blame_60 : decode cX1_blame 60 = .ok (.iload_n 2, 1) := dk_28 (dk_at dksX1_blame_2 12 rfl rfl)
theorem dX1_blame_61 : decode cX1_blame 61 = .ok (.iconst 1, 1) := dk_4 (dk_at dksX1_blame_2 13 rfl rfl)
theorem dX1_blame_62 : decode cX1_blame 62 = .ok (.isub, 1) := dk_100 (dk_at dksX1_blame_2 14 rfl rfl)
theorem dX1_blame_63 : decode cX1_blame 63 = .ok (.iaload, 1) := dk_46 (dk_at dksX1_blame_2 15 rfl rfl)
theorem dX1_blame_64 : decode cX1_blame 64 = .ok (.istore 5, 2) := dk_54 5 (dk_at dksX1_blame_2 16 rfl rfl)
theorem dX1_blame_66 : decode cX1_blame 66 = .ok (.aload_n 0, 1) := dk_42 (dk_at dksX1_blame_2 18 rfl rfl)
theorem dX1_blame_67 : decode cX1_blame 67 = .ok (.invokevirtual 363, 3) := dk_182 1 107 (dk_at dksX1_blame_2 19 rfl rfl)
theorem dX1_blame_70 : decode cX1_blame 70 = .ok (.istore 6, 2) := dk_54 6 (dk_at dksX1_blame_2 22 rfl rfl)
theorem dX1_blame_72 : decode cX1_blame 72 = .ok (.aload_n 0, 1) := dk_42 (dk_at dksX1_blame_3 0 rfl rfl)
theorem dX1_blame_73 : decode cX1_blame 73 = .ok (.iload 6, 2) := dk_21 6 (dk_at dksX1_blame_3 1 rfl rfl)
theorem dX1_blame_75 : decode cX1_blame 75 = .ok (.iload 4, 2) := dk_21 4 (dk_at dksX1_blame_3 3 rfl rfl)
theorem dX1_blame_77 : decode cX1_blame 77 = .ok (.iload 5, 2) := dk_21 5 (dk_at dksX1_blame_3 5 rfl rfl)
theorem dX1_blame_79 : decode cX1_blame 79 = .ok (.aload_n 3, 1) := dk_45 (dk_at dksX1_blame_3 7 rfl rfl)
theorem dX1_blame_80 : decode cX1_blame 80 = .ok (.invokevirtual 473, 3) := dk_182 1 217 (dk_at dksX1_blame_3 8 rfl rfl)
theorem dX1_blame_83 : decode cX1_blame 83 = .ok (.ifCond .ne 5, 3) := dk_154 0 5 (dk_at dksX1_blame_3 11 rfl rfl)
theorem dX1_blame_86 : decode cX1_blame 86 = .ok (.iconst (-1), 1) := dk_2 (dk_at dksX1_blame_3 14 rfl rfl)
theorem dX1_blame_87 : decode cX1_blame 87 = .ok (.ireturn, 1) := dk_172 (dk_at dksX1_blame_3 15 rfl rfl)
theorem dX1_blame_88 : decode cX1_blame 88 = .ok (.iconst 1, 1) := dk_4 (dk_at dksX1_blame_3 16 rfl rfl)
theorem dX1_blame_89 : decode cX1_blame 89 = .ok (.istore 7, 2) := dk_54 7 (dk_at dksX1_blame_3 17 rfl rfl)
theorem dX1_blame_91 : decode cX1_blame 91 = .ok (.iload 7, 2) := dk_21 7 (dk_at dksX1_blame_3 19 rfl rfl)
theorem dX1_blame_93 : decode cX1_blame 93 = .ok (.ifCond .eq 90, 3) := dk_153 0 90 (dk_at dksX1_blame_3 21 rfl rfl)
theorem dX1_blame_96 : decode cX1_blame 96 = .ok (.aload_n 0, 1) := dk_42 (dk_at dksX1_blame_4 0 rfl rfl)
theorem dX1_blame_97 : decode cX1_blame 97 = .ok (.getfield 102, 3) := dk_180 0 102 (dk_at dksX1_blame_4 1 rfl rfl)
theorem dX1_blame_100 : decode cX1_blame 100 = .ok (.iload 6, 2) := dk_21 6 (dk_at dksX1_blame_4 4 rfl rfl)
theorem dX1_blame_102 : decode cX1_blame 102 = .ok (.aaload, 1) := dk_50 (dk_at dksX1_blame_4 6 rfl rfl)
theorem dX1_blame_103 : decode cX1_blame 103 = .ok (.astore 8, 2) := dk_58 8 (dk_at dksX1_blame_4 7 rfl rfl)
theorem dX1_blame_105 : decode cX1_blame 105 = .ok (.aload_n 0, 1) := dk_42 (dk_at dksX1_blame_4 9 rfl rfl)
theorem dX1_blame_106 : decode cX1_blame 106 = .ok (.aload 8, 2) := dk_25 8 (dk_at dksX1_blame_4 10 rfl rfl)
theorem dX1_blame_108 : decode cX1_blame 108 = .ok (.getfield 414, 3) := dk_180 1 158 (dk_at dksX1_blame_4 12 rfl rfl)
theorem dX1_blame_111 : decode cX1_blame 111 = .ok (.iload 4, 2) := dk_21 4 (dk_at dksX1_blame_4 15 rfl rfl)
theorem dX1_blame_113 : decode cX1_blame 113 = .ok (.iload 5, 2) := dk_21 5 (dk_at dksX1_blame_4 17 rfl rfl)
theorem dX1_blame_115 : decode cX1_blame 115 = .ok (.aload_n 3, 1) := dk_45 (dk_at dksX1_blame_4 19 rfl rfl)
theorem dX1_blame_116 : decode cX1_blame 116 = .ok (.invokevirtual 473, 3) := dk_182 1 217 (dk_at dksX1_blame_4 20 rfl rfl)
theorem dX1_blame_119 : decode cX1_blame 119 = .ok (.ifCond .eq 11, 3) := dk_153 0 11 (dk_at dksX1_blame_5 0 rfl rfl)
theorem dX1_blame_122 : decode cX1_blame 122 = .ok (.aload 8, 2) := dk_25 8 (dk_at dksX1_blame_5 3 rfl rfl)
theorem dX1_blame_124 : decode cX1_blame 124 = .ok (.getfield 414, 3) := dk_180 1 158 (dk_at dksX1_blame_5 5 rfl rfl)
theorem dX1_blame_127 : decode cX1_blame 127 = .ok (.goto 29, 3) := dk_167 0 29 (dk_at dksX1_blame_5 8 rfl rfl)
theorem dX1_blame_130 : decode cX1_blame 130 = .ok (.aload_n 0, 1) := dk_42 (dk_at dksX1_blame_5 11 rfl rfl)
theorem dX1_blame_131 : decode cX1_blame 131 = .ok (.aload 8, 2) := dk_25 8 (dk_at dksX1_blame_5 12 rfl rfl)
theorem dX1_blame_133 : decode cX1_blame 133 = .ok (.getfield 476, 3) := dk_180 1 220 (dk_at dksX1_blame_5 14 rfl rfl)
theorem dX1_blame_136 : decode cX1_blame 136 = .ok (.iload 4, 2) := dk_21 4 (dk_at dksX1_blame_5 17 rfl rfl)
theorem dX1_blame_138 : decode cX1_blame 138 = .ok (.iload 5, 2) := dk_21 5 (dk_at dksX1_blame_5 19 rfl rfl)
theorem dX1_blame_140 : decode cX1_blame 140 = .ok (.aload_n 3, 1) := dk_45 (dk_at dksX1_blame_5 21 rfl rfl)
theorem dX1_blame_141 : decode cX1_blame 141 = .ok (.invokevirtual 473, 3) := dk_182 1 217 (dk_at dksX1_blame_6 0 rfl rfl)
theorem dX1_blame_144 : decode cX1_blame 144 = .ok (.ifCond .eq 11, 3) := dk_153 0 11 (dk_at dksX1_blame_6 3 rfl rfl)
theorem dX1_blame_147 : decode cX1_blame 147 = .ok (.aload 8, 2) := dk_25 8 (dk_at dksX1_blame_6 6 rfl rfl)
theorem dX1_blame_149 : decode cX1_blame 149 = .ok (.getfield 476, 3) := dk_180 1 220 (dk_at dksX1_blame_6 8 rfl rfl)
theorem dX1_blame_152 : decode cX1_blame 152 = .ok (.goto 4, 3) := dk_167 0 4 (dk_at dksX1_blame_6 11 rfl rfl)
theorem dX1_blame_155 : decode cX1_blame 155 = .ok (.iconst (-1), 1) := dk_2 (dk_at dksX1_blame_6 14 rfl rfl)
theorem dX1_blame_156 : decode cX1_blame 156 = .ok (.istore 9, 2) := dk_54 9 (dk_at dksX1_blame_6 15 rfl rfl)
theorem dX1_blame_158 : decode cX1_blame 158 = .ok (.iload 9, 2) := dk_21 9 (dk_at dksX1_blame_6 17 rfl rfl)
theorem dX1_blame_160 : decode cX1_blame 160 = .ok (.iconst (-1), 1) := dk_2 (dk_at dksX1_blame_6 19 rfl rfl)
theorem dX1_blame_161 : decode cX1_blame 161 = .ok (.if_icmp .eq 7, 3) := dk_159 0 7 (dk_at dksX1_blame_6 20 rfl rfl)
theorem dX1_blame_164 : decode cX1_blame 164 = .ok (.iconst 1, 1) := dk_4 (dk_at dksX1_blame_6 23 rfl rfl)
theorem dX1_blame_165 : decode cX1_blame 165 = .ok (.goto 4, 3) := dk_167 0 4 (dk_at dksX1_blame_7 0 rfl rfl)
theorem dX1_blame_168 : decode cX1_blame 168 = .ok (.iconst 0, 1) := dk_3 (dk_at dksX1_blame_7 3 rfl rfl)
theorem dX1_blame_169 : decode cX1_blame 169 = .ok (.istore 7, 2) := dk_54 7 (dk_at dksX1_blame_7 4 rfl rfl)
theorem dX1_blame_171 : decode cX1_blame 171 = .ok (.iload 7, 2) := dk_21 7 (dk_at dksX1_blame_7 6 rfl rfl)
theorem dX1_blame_173 : decode cX1_blame 173 = .ok (.ifCond .eq 7, 3) := dk_153 0 7 (dk_at dksX1_blame_7 8 rfl rfl)
theorem dX1_blame_176 : decode cX1_blame 176 = .ok (.iload 9, 2) := dk_21 9 (dk_at dksX1_blame_7 11 rfl rfl)
theorem dX1_blame_178 : decode cX1_blame 178 = .ok (.istore 6, 2) := dk_54 6 (dk_at dksX1_blame_7 13 rfl rfl)
theorem dX1_blame_180 : decode cX1_blame 180 = .ok (.goto (-89), 3) := dk_167 255 167 (dk_at dksX1_blame_7 15 rfl rfl)
theorem dX1_blame_183 : decode cX1_blame 183 = .ok (.iload 6, 2) := dk_21 6 (dk_at dksX1_blame_7 18 rfl rfl)
theorem dX1_blame_185 : decode cX1_blame 185 = .ok (.ireturn, 1) := dk_172 (dk_at dksX1_blame_7 20 rfl rfl)
abbrev cX1_has : ByteArray := prog_1_method_50_code
def yX1_has : MethodName := ⟨RX1, "has", "(IIILSheetBranches$Content;)Z"⟩
def dkwX1_has_2 : List UInt8 := [184, 1, 210, 153, 0, 7, 4, 167, 0, 4, 3, 172]
abbrev dktX1_has_2 : List UInt8 := dkwX1_has_2 ++ []
def dkwX1_has_1 : List UInt8 := [2, 159, 0, 32, 25, 5, 29, 182, 1, 170, 2, 159, 0, 22, 25, 5, 28, 29, 182, 1, 213, 25, 4]
abbrev dktX1_has_1 : List UInt8 := dkwX1_has_1 ++ dktX1_has_2
def dkwX1_has_0 : List UInt8 := [27, 2, 160, 0, 5, 3, 172, 42, 180, 0, 102, 27, 50, 180, 0, 205, 58, 5, 25, 5, 28, 182, 1, 165]
abbrev dktX1_has_0 : List UInt8 := dkwX1_has_0 ++ dktX1_has_1
theorem dksX1_has_0 : cX1_has.data.toList.drop 0 = dktX1_has_0 := by decide +kernel
theorem dksX1_has_1 : cX1_has.data.toList.drop 24 = dktX1_has_1 := dk_seg dksX1_has_0 24 rfl rfl
theorem dksX1_has_2 : cX1_has.data.toList.drop 47 = dktX1_has_2 := dk_seg dksX1_has_1 23 rfl rfl
theorem dX1_has_0 : decode cX1_has 0 = .ok (.iload_n 1, 1) := dk_27 (dk_at dksX1_has_0 0 rfl rfl)
theorem dX1_has_1 : decode cX1_has 1 = .ok (.iconst (-1), 1) := dk_2 (dk_at dksX1_has_0 1 rfl rfl)
theorem dX1_has_2 : decode cX1_has 2 = .ok (.if_icmp .ne 5, 3) := dk_160 0 5 (dk_at dksX1_has_0 2 rfl rfl)
theorem dX1_has_5 : decode cX1_has 5 = .ok (.iconst 0, 1) := dk_3 (dk_at dksX1_has_0 5 rfl rfl)
theorem dX1_has_6 : decode cX1_has 6 = .ok (.ireturn, 1) := dk_172 (dk_at dksX1_has_0 6 rfl rfl)
theorem dX1_has_7 : decode cX1_has 7 = .ok (.aload_n 0, 1) := dk_42 (dk_at dksX1_has_0 7 rfl rfl)
theorem dX1_has_8 : decode cX1_has 8 = .ok (.getfield 102, 3) := dk_180 0 102 (dk_at dksX1_has_0 8 rfl rfl)
theorem dX1_has_11 : decode cX1_has 11 = .ok (.iload_n 1, 1) := dk_27 (dk_at dksX1_has_0 11 rfl rfl)
theorem dX1_has_12 : decode cX1_has 12 = .ok (.aaload, 1) := dk_50 (dk_at dksX1_has_0 12 rfl rfl)
theorem dX1_has_13 : decode cX1_has 13 = .ok (.getfield 205, 3) := dk_180 0 205 (dk_at dksX1_has_0 13 rfl rfl)
theorem dX1_has_16 : decode cX1_has 16 = .ok (.astore 5, 2) := dk_58 5 (dk_at dksX1_has_0 16 rfl rfl)
theorem dX1_has_18 : decode cX1_has 18 = .ok (.aload 5, 2) := dk_25 5 (dk_at dksX1_has_0 18 rfl rfl)
theorem dX1_has_20 : decode cX1_has 20 = .ok (.iload_n 2, 1) := dk_28 (dk_at dksX1_has_0 20 rfl rfl)
theorem dX1_has_21 : decode cX1_has 21 = .ok (.invokevirtual 421, 3) := dk_182 1 165 (dk_at dksX1_has_0 21 rfl rfl)
theorem dX1_has_24 : decode cX1_has 24 = .ok (.iconst (-1), 1) := dk_2 (dk_at dksX1_has_1 0 rfl rfl)
theorem dX1_has_25 : decode cX1_has 25 = .ok (.if_icmp .eq 32, 3) := dk_159 0 32 (dk_at dksX1_has_1 1 rfl rfl)
theorem dX1_has_28 : decode cX1_has 28 = .ok (.aload 5, 2) := dk_25 5 (dk_at dksX1_has_1 4 rfl rfl)
theorem dX1_has_30 : decode cX1_has 30 = .ok (.iload_n 3, 1) := dk_29 (dk_at dksX1_has_1 6 rfl rfl)
theorem dX1_has_31 : decode cX1_has 31 = .ok (.invokevirtual 426, 3) := dk_182 1 170 (dk_at dksX1_has_1 7 rfl rfl)
theorem dX1_has_34 : decode cX1_has 34 = .ok (.iconst (-1), 1) := dk_2 (dk_at dksX1_has_1 10 rfl rfl)
theorem dX1_has_35 : decode cX1_has 35 = .ok (.if_icmp .eq 22, 3) := dk_159 0 22 (dk_at dksX1_has_1 11 rfl rfl)
theorem dX1_has_38 : decode cX1_has 38 = .ok (.aload 5, 2) := dk_25 5 (dk_at dksX1_has_1 14 rfl rfl)
theorem dX1_has_40 : decode cX1_has 40 = .ok (.iload_n 2, 1) := dk_28 (dk_at dksX1_has_1 16 rfl rfl)
theorem dX1_has_41 : decode cX1_has 41 = .ok (.iload_n 3, 1) := dk_29 (dk_at dksX1_has_1 17 rfl rfl)
theorem dX1_has_42 : decode cX1_has 42 = .ok (.invokevirtual 469, 3) := dk_182 1 213 (dk_at dksX1_has_1 18 rfl rfl)
theorem dX1_has_45 : decode cX1_has 45 = .ok (.aload 4, 2) := dk_25 4 (dk_at dksX1_has_1 21 rfl rfl)
theorem dX1_has_47 : decode cX1_has 47 = .ok (.invokestatic 466, 3) := dk_184 1 210 (dk_at dksX1_has_2 0 rfl rfl)
theorem dX1_has_50 : decode cX1_has 50 = .ok (.ifCond .eq 7, 3) := dk_153 0 7 (dk_at dksX1_has_2 3 rfl rfl)
theorem dX1_has_53 : decode cX1_has 53 = .ok (.iconst 1, 1) := dk_4 (dk_at dksX1_has_2 6 rfl rfl)
theorem dX1_has_54 : decode cX1_has 54 = .ok (.goto 4, 3) := dk_167 0 4 (dk_at dksX1_has_2 7 rfl rfl)
theorem dX1_has_57 : decode cX1_has 57 = .ok (.iconst 0, 1) := dk_3 (dk_at dksX1_has_2 10 rfl rfl)
theorem dX1_has_58 : decode cX1_has 58 = .ok (.ireturn, 1) := dk_172 (dk_at dksX1_has_2 11 rfl rfl)
theorem q221 : (Jvm.Cond.initialized "SheetBranches") ∈ lw_all := lw_g (lw_at lw_m1 1 rfl) rfl
theorem q269 : (Jvm.Cond.instantiable "SheetBranches" (32 : Nat)) ∈ lw_all := lw_g (lw_at lw_m1 49 rfl) rfl
theorem q271 : (Jvm.Cond.instanceMethod ({ cls := "SheetBranches", name := "<init>", desc := "()V" } : Jvm.MethodName)) ∈ lw_all := lw_g (lw_at lw_m1 51 rfl) rfl
theorem q272 : (Jvm.Cond.code ({ cls := "SheetBranches", name := "<init>", desc := "()V" } : Jvm.MethodName) prog_1_method_5_code (5 : Nat) (Option.none : Option Jvm.ClassFile.FieldType)) ∈ lw_all := lw_g (lw_at lw_m1 52 rfl) rfl
theorem q273 : (Jvm.Cond.methodLink "SheetBranches" (91 : Nat) ({ cls := "java/lang/Object", name := "<init>", desc := "()V" } : Jvm.MethodName)) ∈ lw_all := lw_g (lw_at lw_m1 53 rfl) rfl
theorem q276 : (Jvm.Cond.classLink "SheetBranches" (100 : Nat) "SheetBranches$Version") ∈ lw_all := lw_g (lw_at lw_m1 56 rfl) rfl
theorem q278 : (Jvm.Cond.classLink "SheetBranches" (110 : Nat) "SheetBranches$Values") ∈ lw_all := lw_g (lw_at lw_m1 58 rfl) rfl
theorem q280 : (Jvm.Cond.methodLinkNest "SheetBranches" (112 : Nat) ({ cls := "SheetBranches$Values", name := "<init>", desc := "()V" } : Jvm.MethodName) "SheetBranches") ∈ lw_tbl := lw_at lw_m1 60 rfl
theorem q285 : (Jvm.Cond.fieldLinkNest "SheetBranches" (487 : Nat) "SheetBranches$Values" "kinds" "[B" "SheetBranches") ∈ lw_tbl := lw_at lw_m1 65 rfl
theorem q287 : (Jvm.Cond.fieldLinkNest "SheetBranches" (490 : Nat) "SheetBranches$Values" "sizes" "[B" "SheetBranches") ∈ lw_tbl := lw_at lw_m1 67 rfl
theorem q289 : (Jvm.Cond.fieldLinkNest "SheetBranches" (497 : Nat) "SheetBranches$Values" "texts" "[B" "SheetBranches") ∈ lw_tbl := lw_at lw_m1 69 rfl
theorem q291 : (Jvm.Cond.fieldLinkNest "SheetBranches" (493 : Nat) "SheetBranches$Values" "numbers" "[J" "SheetBranches") ∈ lw_tbl := lw_at lw_m1 71 rfl
theorem q304 : (Jvm.Cond.classLink "SheetBranches" (117 : Nat) "SheetBranches$Sheet") ∈ lw_all := lw_g (lw_at lw_m1 84 rfl) rfl
theorem q306 : (Jvm.Cond.classLink "SheetBranches" (129 : Nat) "SheetBranches$Conflict") ∈ lw_all := lw_g (lw_at lw_m1 86 rfl) rfl
theorem q308 : (Jvm.Cond.classLink "SheetBranches" (145 : Nat) "SheetBranches$Works") ∈ lw_all := lw_g (lw_at lw_m1 88 rfl) rfl
theorem q310 : (Jvm.Cond.methodLink "SheetBranches" (147 : Nat) ({ cls := "SheetBranches$Works", name := "<init>", desc := "([LSheetBranches$Version;)V" } : Jvm.MethodName)) ∈ lw_all := lw_g (lw_at lw_m1 90 rfl) rfl
theorem q373 : (Jvm.Cond.fieldLinkNest "SheetBranches" (74 : Nat) "SheetBranches$Worth" "kind" "I" "SheetBranches") ∈ lw_tbl := lw_at lw_m1 153 rfl
theorem q381 : (Jvm.Cond.fieldLinkNest "SheetBranches" (37 : Nat) "SheetBranches$Worth" "number" "J" "SheetBranches") ∈ lw_tbl := lw_at lw_m1 161 rfl
theorem q460 : (Jvm.Cond.classLink "SheetBranches" (154 : Nat) "SheetBranches$Reader") ∈ lw_all := lw_g (lw_at lw_m2 0 rfl) rfl
theorem q462 : (Jvm.Cond.methodLink "SheetBranches" (156 : Nat) ({ cls := "SheetBranches$Reader", name := "<init>", desc := "([LSheetBranches$Version;)V" } : Jvm.MethodName)) ∈ lw_all := lw_g (lw_at lw_m2 2 rfl) rfl
theorem q494 : (Jvm.Cond.fieldLinkNest "SheetBranches" (254 : Nat) "SheetBranches$Reader" "kind" "I" "SheetBranches") ∈ lw_tbl := lw_at lw_m2 34 rfl
theorem q496 : (Jvm.Cond.fieldLinkNest "SheetBranches" (255 : Nat) "SheetBranches$Reader" "place" "I" "SheetBranches") ∈ lw_tbl := lw_at lw_m2 36 rfl
theorem q500 : (Jvm.Cond.fieldLinkNest "SheetBranches" (261 : Nat) "SheetBranches$Reader" "content" "LSheetBranches$Content;" "SheetBranches") ∈ lw_tbl := lw_at lw_m2 40 rfl
theorem q536 : (Jvm.Cond.classLink "SheetBranches" (161 : Nat) "SheetBranches$Pen") ∈ lw_all := lw_g (lw_at lw_m2 76 rfl) rfl
theorem q538 : (Jvm.Cond.methodLink "SheetBranches" (163 : Nat) ({ cls := "SheetBranches$Pen", name := "<init>", desc := "([LSheetBranches$Version;)V" } : Jvm.MethodName)) ∈ lw_all := lw_g (lw_at lw_m2 78 rfl) rfl
theorem q543 : (Jvm.Cond.fieldLinkNest "SheetBranches" (510 : Nat) "SheetBranches$Pen" "bytes" "[B" "SheetBranches") ∈ lw_tbl := lw_at lw_m2 83 rfl
theorem q545 : (Jvm.Cond.fieldLinkNest "SheetBranches" (507 : Nat) "SheetBranches$Pen" "size" "I" "SheetBranches") ∈ lw_tbl := lw_at lw_m2 85 rfl
theorem q557 : (Jvm.Cond.classLink "SheetBranches" (24 : Nat) "SheetBranches$Worth") ∈ lw_all := lw_g (lw_at lw_m2 97 rfl) rfl
theorem q558 : (Jvm.Cond.methodLinkNest "SheetBranches" (177 : Nat) ({ cls := "SheetBranches$Worth", name := "<init>", desc := "()V" } : Jvm.MethodName) "SheetBranches") ∈ lw_tbl := lw_at lw_m2 98 rfl
theorem q560 : (Jvm.Cond.methodLink "SheetBranches" (185 : Nat) ({ cls := "SheetBranches$Sheet", name := "<init>", desc := "([I[I)V" } : Jvm.MethodName)) ∈ lw_all := lw_g (lw_at lw_m2 100 rfl) rfl
theorem q571 : (Jvm.Cond.fieldLinkNest "SheetBranches" (316 : Nat) "SheetBranches$Sheet" "rows" "[I" "SheetBranches") ∈ lw_tbl := lw_at lw_m2 111 rfl
theorem q576 : (Jvm.Cond.fieldLinkNest "SheetBranches" (323 : Nat) "SheetBranches$Sheet" "columns" "[I" "SheetBranches") ∈ lw_tbl := lw_at lw_m2 116 rfl
theorem q582 : (Jvm.Cond.fieldLinkNest "SheetBranches" (277 : Nat) "SheetBranches$Sheet" "cells" "[[LSheetBranches$Content;" "SheetBranches") ∈ lw_tbl := lw_at lw_m2 122 rfl
theorem q591 : (Jvm.Cond.methodLink "SheetBranches" (188 : Nat) ({ cls := "SheetBranches$Version", name := "<init>", desc := "(LSheetBranches$Sheet;IIJ)V" } : Jvm.MethodName)) ∈ lw_all := lw_g (lw_at lw_m2 131 rfl) rfl
theorem q600 : (Jvm.Cond.fieldLinkNest "SheetBranches" (205 : Nat) "SheetBranches$Version" "sheet" "LSheetBranches$Sheet;" "SheetBranches") ∈ lw_tbl := lw_at lw_m2 140 rfl
theorem q605 : (Jvm.Cond.fieldLinkNest "SheetBranches" (219 : Nat) "SheetBranches$Version" "values" "LSheetBranches$Values;" "SheetBranches") ∈ lw_tbl := lw_at lw_m2 145 rfl
theorem q607 : (Jvm.Cond.fieldLinkNest "SheetBranches" (414 : Nat) "SheetBranches$Version" "parent" "I" "SheetBranches") ∈ lw_tbl := lw_at lw_m2 147 rfl
theorem q609 : (Jvm.Cond.fieldLinkNest "SheetBranches" (476 : Nat) "SheetBranches$Version" "other" "I" "SheetBranches") ∈ lw_tbl := lw_at lw_m2 149 rfl
theorem q611 : (Jvm.Cond.fieldLinkNest "SheetBranches" (366 : Nat) "SheetBranches$Version" "ancestors" "J" "SheetBranches") ∈ lw_tbl := lw_at lw_m2 151 rfl
theorem q623 : (Jvm.Cond.methodLink "SheetBranches" (194 : Nat) ({ cls := "SheetBranches$Sheet", name := "twin", desc := "()LSheetBranches$Sheet;" } : Jvm.MethodName)) ∈ lw_all := lw_g (lw_at lw_m2 163 rfl) rfl
theorem q645 : (Jvm.Cond.fieldLink "SheetBranches" (96 : Nat) "SheetBranches" "tape" "[B") ∈ lw_all := lw_g (lw_at lw_m2 185 rfl) rfl
theorem q646 : (Jvm.Cond.fieldLink "SheetBranches" (220 : Nat) "SheetBranches" "taped" "I") ∈ lw_all := lw_g (lw_at lw_m2 186 rfl) rfl
theorem q647 : (Jvm.Cond.fieldLink "SheetBranches" (242 : Nat) "SheetBranches" "faultKind" "I") ∈ lw_all := lw_g (lw_at lw_m2 187 rfl) rfl
theorem q648 : (Jvm.Cond.fieldLink "SheetBranches" (245 : Nat) "SheetBranches" "faultPlace" "I") ∈ lw_all := lw_g (lw_at lw_m2 188 rfl) rfl
theorem q649 : (Jvm.Cond.fieldLink "SheetBranches" (102 : Nat) "SheetBranches" "versions" "[LSheetBranches$Version;") ∈ lw_all := lw_g (lw_at lw_m2 189 rfl) rfl
theorem q650 : (Jvm.Cond.fieldLink "SheetBranches" (191 : Nat) "SheetBranches" "many" "I") ∈ lw_all := lw_g (lw_at lw_m2 190 rfl) rfl
theorem q651 : (Jvm.Cond.fieldLink "SheetBranches" (106 : Nat) "SheetBranches" "branches" "[I") ∈ lw_all := lw_g (lw_at lw_m2 191 rfl) rfl
theorem q652 : (Jvm.Cond.fieldLink "SheetBranches" (202 : Nat) "SheetBranches" "branch" "I") ∈ lw_all := lw_g (lw_at lw_m2 192 rfl) rfl
theorem q653 : (Jvm.Cond.fieldLink "SheetBranches" (198 : Nat) "SheetBranches" "work" "LSheetBranches$Sheet;") ∈ lw_all := lw_g (lw_at lw_m2 193 rfl) rfl
theorem q654 : (Jvm.Cond.fieldLink "SheetBranches" (113 : Nat) "SheetBranches" "values" "LSheetBranches$Values;") ∈ lw_all := lw_g (lw_at lw_m2 194 rfl) rfl
theorem q655 : (Jvm.Cond.fieldLink "SheetBranches" (208 : Nat) "SheetBranches" "isReckoned" "Z") ∈ lw_all := lw_g (lw_at lw_m2 195 rfl) rfl
theorem q656 : (Jvm.Cond.fieldLink "SheetBranches" (119 : Nat) "SheetBranches" "past" "[LSheetBranches$Sheet;") ∈ lw_all := lw_g (lw_at lw_m2 196 rfl) rfl
theorem q657 : (Jvm.Cond.fieldLink "SheetBranches" (123 : Nat) "SheetBranches" "future" "[LSheetBranches$Sheet;") ∈ lw_all := lw_g (lw_at lw_m2 197 rfl) rfl
theorem q658 : (Jvm.Cond.fieldLink "SheetBranches" (226 : Nat) "SheetBranches" "passed" "I") ∈ lw_all := lw_g (lw_at lw_m2 198 rfl) rfl
theorem q659 : (Jvm.Cond.fieldLink "SheetBranches" (229 : Nat) "SheetBranches" "undone" "I") ∈ lw_all := lw_g (lw_at lw_m2 199 rfl) rfl
theorem q660 : (Jvm.Cond.fieldLink "SheetBranches" (126 : Nat) "SheetBranches" "merging" "I") ∈ lw_all := lw_g (lw_at lw_m2 200 rfl) rfl
theorem q661 : (Jvm.Cond.fieldLink "SheetBranches" (405 : Nat) "SheetBranches" "merges" "I") ∈ lw_all := lw_g (lw_at lw_m2 201 rfl) rfl
theorem q662 : (Jvm.Cond.fieldLink "SheetBranches" (268 : Nat) "SheetBranches" "parts" "I") ∈ lw_all := lw_g (lw_at lw_m2 202 rfl) rfl
theorem q663 : (Jvm.Cond.fieldLink "SheetBranches" (131 : Nat) "SheetBranches" "conflicts" "[LSheetBranches$Conflict;") ∈ lw_all := lw_g (lw_at lw_m2 203 rfl) rfl
theorem q664 : (Jvm.Cond.fieldLink "SheetBranches" (135 : Nat) "SheetBranches" "settled" "[Z") ∈ lw_all := lw_g (lw_at lw_m2 204 rfl) rfl
theorem q665 : (Jvm.Cond.fieldLink "SheetBranches" (372 : Nat) "SheetBranches" "conflicted" "I") ∈ lw_all := lw_g (lw_at lw_m2 205 rfl) rfl
theorem q666 : (Jvm.Cond.fieldLink "SheetBranches" (139 : Nat) "SheetBranches" "nextRow" "I") ∈ lw_all := lw_g (lw_at lw_m2 206 rfl) rfl
theorem q667 : (Jvm.Cond.fieldLink "SheetBranches" (142 : Nat) "SheetBranches" "nextColumn" "I") ∈ lw_all := lw_g (lw_at lw_m2 207 rfl) rfl
theorem q668 : (Jvm.Cond.fieldLink "SheetBranches" (150 : Nat) "SheetBranches" "works" "LSheetBranches$Works;") ∈ lw_all := lw_g (lw_at lw_m2 208 rfl) rfl
theorem q669 : (Jvm.Cond.fieldLink "SheetBranches" (157 : Nat) "SheetBranches" "reader" "LSheetBranches$Reader;") ∈ lw_all := lw_g (lw_at lw_m2 209 rfl) rfl
theorem q670 : (Jvm.Cond.fieldLink "SheetBranches" (164 : Nat) "SheetBranches" "pen" "LSheetBranches$Pen;") ∈ lw_all := lw_g (lw_at lw_m2 210 rfl) rfl
theorem q671 : (Jvm.Cond.fieldLink "SheetBranches" (168 : Nat) "SheetBranches" "unlike" "[I") ∈ lw_all := lw_g (lw_at lw_m2 211 rfl) rfl
theorem q672 : (Jvm.Cond.fieldLink "SheetBranches" (171 : Nat) "SheetBranches" "unlikeRow" "[I") ∈ lw_all := lw_g (lw_at lw_m2 212 rfl) rfl
theorem q673 : (Jvm.Cond.fieldLink "SheetBranches" (174 : Nat) "SheetBranches" "unlikeColumn" "[I") ∈ lw_all := lw_g (lw_at lw_m2 213 rfl) rfl
theorem q674 : (Jvm.Cond.fieldLink "SheetBranches" (447 : Nat) "SheetBranches" "differences" "I") ∈ lw_all := lw_g (lw_at lw_m2 214 rfl) rfl
theorem q675 : (Jvm.Cond.fieldLink "SheetBranches" (178 : Nat) "SheetBranches" "one" "LSheetBranches$Worth;") ∈ lw_all := lw_g (lw_at lw_m2 215 rfl) rfl
theorem q676 : (Jvm.Cond.fieldLink "SheetBranches" (182 : Nat) "SheetBranches" "two" "LSheetBranches$Worth;") ∈ lw_all := lw_g (lw_at lw_m2 216 rfl) rfl
theorem q677 : (Jvm.Cond.laysFinal "SheetBranches" "SheetBranches" "tape" "[B") ∈ lw_all := lw_g (lw_at lw_m2 217 rfl) rfl
theorem q678 : (Jvm.Cond.soleField "SheetBranches" "tape") ∈ lw_all := lw_g (lw_at lw_m2 218 rfl) rfl
theorem q679 : (Jvm.Cond.lays "SheetBranches" "SheetBranches" "taped" "I") ∈ lw_all := lw_g (lw_at lw_m2 219 rfl) rfl
theorem q680 : (Jvm.Cond.soleField "SheetBranches" "taped") ∈ lw_all := lw_g (lw_at lw_m2 220 rfl) rfl
theorem q681 : (Jvm.Cond.lays "SheetBranches" "SheetBranches" "faultKind" "I") ∈ lw_all := lw_g (lw_at lw_m2 221 rfl) rfl
theorem q682 : (Jvm.Cond.soleField "SheetBranches" "faultKind") ∈ lw_all := lw_g (lw_at lw_m2 222 rfl) rfl
theorem q683 : (Jvm.Cond.lays "SheetBranches" "SheetBranches" "faultPlace" "I") ∈ lw_all := lw_g (lw_at lw_m2 223 rfl) rfl
theorem q684 : (Jvm.Cond.soleField "SheetBranches" "faultPlace") ∈ lw_all := lw_g (lw_at lw_m2 224 rfl) rfl
theorem q685 : (Jvm.Cond.laysFinal "SheetBranches" "SheetBranches" "versions" "[LSheetBranches$Version;") ∈ lw_all := lw_g (lw_at lw_m2 225 rfl) rfl
theorem q686 : (Jvm.Cond.soleField "SheetBranches" "versions") ∈ lw_all := lw_g (lw_at lw_m2 226 rfl) rfl
theorem q687 : (Jvm.Cond.lays "SheetBranches" "SheetBranches" "many" "I") ∈ lw_all := lw_g (lw_at lw_m2 227 rfl) rfl
theorem q688 : (Jvm.Cond.soleField "SheetBranches" "many") ∈ lw_all := lw_g (lw_at lw_m2 228 rfl) rfl
theorem q689 : (Jvm.Cond.laysFinal "SheetBranches" "SheetBranches" "branches" "[I") ∈ lw_all := lw_g (lw_at lw_m2 229 rfl) rfl
theorem q690 : (Jvm.Cond.soleField "SheetBranches" "branches") ∈ lw_all := lw_g (lw_at lw_m2 230 rfl) rfl
theorem q691 : (Jvm.Cond.lays "SheetBranches" "SheetBranches" "branch" "I") ∈ lw_all := lw_g (lw_at lw_m2 231 rfl) rfl
theorem q692 : (Jvm.Cond.soleField "SheetBranches" "branch") ∈ lw_all := lw_g (lw_at lw_m2 232 rfl) rfl
theorem q693 : (Jvm.Cond.lays "SheetBranches" "SheetBranches" "work" "LSheetBranches$Sheet;") ∈ lw_all := lw_g (lw_at lw_m2 233 rfl) rfl
theorem q694 : (Jvm.Cond.soleField "SheetBranches" "work") ∈ lw_all := lw_g (lw_at lw_m2 234 rfl) rfl
theorem q695 : (Jvm.Cond.laysFinal "SheetBranches" "SheetBranches" "values" "LSheetBranches$Values;") ∈ lw_all := lw_g (lw_at lw_m2 235 rfl) rfl
theorem q696 : (Jvm.Cond.soleField "SheetBranches" "values") ∈ lw_all := lw_g (lw_at lw_m2 236 rfl) rfl
theorem q697 : (Jvm.Cond.lays "SheetBranches" "SheetBranches" "isReckoned" "Z") ∈ lw_all := lw_g (lw_at lw_m2 237 rfl) rfl
theorem q698 : (Jvm.Cond.soleField "SheetBranches" "isReckoned") ∈ lw_all := lw_g (lw_at lw_m2 238 rfl) rfl
theorem q699 : (Jvm.Cond.laysFinal "SheetBranches" "SheetBranches" "past" "[LSheetBranches$Sheet;") ∈ lw_all := lw_g (lw_at lw_m2 239 rfl) rfl
theorem q700 : (Jvm.Cond.soleField "SheetBranches" "past") ∈ lw_all := lw_g (lw_at lw_m3 0 rfl) rfl
theorem q701 : (Jvm.Cond.laysFinal "SheetBranches" "SheetBranches" "future" "[LSheetBranches$Sheet;") ∈ lw_all := lw_g (lw_at lw_m3 1 rfl) rfl
theorem q702 : (Jvm.Cond.soleField "SheetBranches" "future") ∈ lw_all := lw_g (lw_at lw_m3 2 rfl) rfl
theorem q703 : (Jvm.Cond.lays "SheetBranches" "SheetBranches" "passed" "I") ∈ lw_all := lw_g (lw_at lw_m3 3 rfl) rfl
theorem q704 : (Jvm.Cond.soleField "SheetBranches" "passed") ∈ lw_all := lw_g (lw_at lw_m3 4 rfl) rfl
theorem q705 : (Jvm.Cond.lays "SheetBranches" "SheetBranches" "undone" "I") ∈ lw_all := lw_g (lw_at lw_m3 5 rfl) rfl
theorem q706 : (Jvm.Cond.soleField "SheetBranches" "undone") ∈ lw_all := lw_g (lw_at lw_m3 6 rfl) rfl
theorem q707 : (Jvm.Cond.lays "SheetBranches" "SheetBranches" "merging" "I") ∈ lw_all := lw_g (lw_at lw_m3 7 rfl) rfl
theorem q708 : (Jvm.Cond.soleField "SheetBranches" "merging") ∈ lw_all := lw_g (lw_at lw_m3 8 rfl) rfl
theorem q709 : (Jvm.Cond.lays "SheetBranches" "SheetBranches" "merges" "I") ∈ lw_all := lw_g (lw_at lw_m3 9 rfl) rfl
theorem q710 : (Jvm.Cond.soleField "SheetBranches" "merges") ∈ lw_all := lw_g (lw_at lw_m3 10 rfl) rfl
theorem q711 : (Jvm.Cond.lays "SheetBranches" "SheetBranches" "parts" "I") ∈ lw_all := lw_g (lw_at lw_m3 11 rfl) rfl
theorem q712 : (Jvm.Cond.soleField "SheetBranches" "parts") ∈ lw_all := lw_g (lw_at lw_m3 12 rfl) rfl
theorem q713 : (Jvm.Cond.lays "SheetBranches" "SheetBranches" "conflicts" "[LSheetBranches$Conflict;") ∈ lw_all := lw_g (lw_at lw_m3 13 rfl) rfl
theorem q714 : (Jvm.Cond.soleField "SheetBranches" "conflicts") ∈ lw_all := lw_g (lw_at lw_m3 14 rfl) rfl
theorem q715 : (Jvm.Cond.lays "SheetBranches" "SheetBranches" "settled" "[Z") ∈ lw_all := lw_g (lw_at lw_m3 15 rfl) rfl
theorem q716 : (Jvm.Cond.soleField "SheetBranches" "settled") ∈ lw_all := lw_g (lw_at lw_m3 16 rfl) rfl
theorem q717 : (Jvm.Cond.lays "SheetBranches" "SheetBranches" "conflicted" "I") ∈ lw_all := lw_g (lw_at lw_m3 17 rfl) rfl
theorem q718 : (Jvm.Cond.soleField "SheetBranches" "conflicted") ∈ lw_all := lw_g (lw_at lw_m3 18 rfl) rfl
theorem q719 : (Jvm.Cond.lays "SheetBranches" "SheetBranches" "nextRow" "I") ∈ lw_all := lw_g (lw_at lw_m3 19 rfl) rfl
theorem q720 : (Jvm.Cond.soleField "SheetBranches" "nextRow") ∈ lw_all := lw_g (lw_at lw_m3 20 rfl) rfl
theorem q721 : (Jvm.Cond.lays "SheetBranches" "SheetBranches" "nextColumn" "I") ∈ lw_all := lw_g (lw_at lw_m3 21 rfl) rfl
theorem q722 : (Jvm.Cond.soleField "SheetBranches" "nextColumn") ∈ lw_all := lw_g (lw_at lw_m3 22 rfl) rfl
theorem q723 : (Jvm.Cond.laysFinal "SheetBranches" "SheetBranches" "works" "LSheetBranches$Works;") ∈ lw_all := lw_g (lw_at lw_m3 23 rfl) rfl
theorem q724 : (Jvm.Cond.soleField "SheetBranches" "works") ∈ lw_all := lw_g (lw_at lw_m3 24 rfl) rfl
theorem q725 : (Jvm.Cond.laysFinal "SheetBranches" "SheetBranches" "reader" "LSheetBranches$Reader;") ∈ lw_all := lw_g (lw_at lw_m3 25 rfl) rfl
theorem q726 : (Jvm.Cond.soleField "SheetBranches" "reader") ∈ lw_all := lw_g (lw_at lw_m3 26 rfl) rfl
theorem q727 : (Jvm.Cond.laysFinal "SheetBranches" "SheetBranches" "pen" "LSheetBranches$Pen;") ∈ lw_all := lw_g (lw_at lw_m3 27 rfl) rfl
theorem q728 : (Jvm.Cond.soleField "SheetBranches" "pen") ∈ lw_all := lw_g (lw_at lw_m3 28 rfl) rfl
theorem q729 : (Jvm.Cond.laysFinal "SheetBranches" "SheetBranches" "unlike" "[I") ∈ lw_all := lw_g (lw_at lw_m3 29 rfl) rfl
theorem q730 : (Jvm.Cond.soleField "SheetBranches" "unlike") ∈ lw_all := lw_g (lw_at lw_m3 30 rfl) rfl
theorem q731 : (Jvm.Cond.laysFinal "SheetBranches" "SheetBranches" "unlikeRow" "[I") ∈ lw_all := lw_g (lw_at lw_m3 31 rfl) rfl
theorem q732 : (Jvm.Cond.soleField "SheetBranches" "unlikeRow") ∈ lw_all := lw_g (lw_at lw_m3 32 rfl) rfl
theorem q733 : (Jvm.Cond.laysFinal "SheetBranches" "SheetBranches" "unlikeColumn" "[I") ∈ lw_all := lw_g (lw_at lw_m3 33 rfl) rfl
theorem q734 : (Jvm.Cond.soleField "SheetBranches" "unlikeColumn") ∈ lw_all := lw_g (lw_at lw_m3 34 rfl) rfl
theorem q735 : (Jvm.Cond.lays "SheetBranches" "SheetBranches" "differences" "I") ∈ lw_all := lw_g (lw_at lw_m3 35 rfl) rfl
theorem q736 : (Jvm.Cond.soleField "SheetBranches" "differences") ∈ lw_all := lw_g (lw_at lw_m3 36 rfl) rfl
theorem q737 : (Jvm.Cond.laysFinal "SheetBranches" "SheetBranches" "one" "LSheetBranches$Worth;") ∈ lw_all := lw_g (lw_at lw_m3 37 rfl) rfl
theorem q738 : (Jvm.Cond.soleField "SheetBranches" "one") ∈ lw_all := lw_g (lw_at lw_m3 38 rfl) rfl
theorem q739 : (Jvm.Cond.laysFinal "SheetBranches" "SheetBranches" "two" "LSheetBranches$Worth;") ∈ lw_all := lw_g (lw_at lw_m3 39 rfl) rfl
theorem q740 : (Jvm.Cond.soleField "SheetBranches" "two") ∈ lw_all := lw_g (lw_at lw_m3 40 rfl) rfl
theorem q741 : (Jvm.Cond.superclass "SheetBranches" "java/lang/Object") ∈ lw_all := lw_g (lw_at lw_m3 41 rfl) rfl
theorem q743 : (Jvm.Cond.instanceMethod ({ cls := "SheetBranches", name := "feed", desc := "(IIIII)I" } : Jvm.MethodName)) ∈ lw_all := lw_g (lw_at lw_m3 43 rfl) rfl
theorem q744 : (Jvm.Cond.selects "SheetBranches" ({ cls := "SheetBranches", name := "feed", desc := "(IIIII)I" } : Jvm.MethodName) ({ cls := "SheetBranches", name := "feed", desc := "(IIIII)I" } : Jvm.MethodName)) ∈ lw_all := lw_g (lw_at lw_m3 44 rfl) rfl
theorem q745 : (Jvm.Cond.code ({ cls := "SheetBranches", name := "feed", desc := "(IIIII)I" } : Jvm.MethodName) prog_1_method_10_code (6 : Nat) (Option.some Jvm.ClassFile.FieldType.int)) ∈ lw_all := lw_g (lw_at lw_m3 45 rfl) rfl
theorem q746 : (Jvm.Cond.methodLink "SheetBranches" (223 : Nat) ({ cls := "SheetBranches", name := "word", desc := "(I)V" } : Jvm.MethodName)) ∈ lw_all := lw_g (lw_at lw_m3 46 rfl) rfl
theorem q747 : (Jvm.Cond.privateMethod ({ cls := "SheetBranches", name := "word", desc := "(I)V" } : Jvm.MethodName)) ∈ lw_tbl := lw_at lw_m3 47 rfl
theorem q748 : (Jvm.Cond.instanceMethod ({ cls := "SheetBranches", name := "word", desc := "(I)V" } : Jvm.MethodName)) ∈ lw_all := lw_g (lw_at lw_m3 48 rfl) rfl
theorem q749 : (Jvm.Cond.code ({ cls := "SheetBranches", name := "word", desc := "(I)V" } : Jvm.MethodName) prog_1_method_11_code (3 : Nat) (Option.none : Option Jvm.ClassFile.FieldType)) ∈ lw_all := lw_g (lw_at lw_m3 49 rfl) rfl
theorem q751 : (Jvm.Cond.instanceMethod ({ cls := "SheetBranches", name := "end", desc := "(I)Z" } : Jvm.MethodName)) ∈ lw_all := lw_g (lw_at lw_m3 51 rfl) rfl
theorem q752 : (Jvm.Cond.selects "SheetBranches" ({ cls := "SheetBranches", name := "end", desc := "(I)Z" } : Jvm.MethodName) ({ cls := "SheetBranches", name := "end", desc := "(I)Z" } : Jvm.MethodName)) ∈ lw_all := lw_g (lw_at lw_m3 52 rfl) rfl
theorem q753 : (Jvm.Cond.code ({ cls := "SheetBranches", name := "end", desc := "(I)Z" } : Jvm.MethodName) prog_1_method_12_code (2 : Nat) (Option.some Jvm.ClassFile.FieldType.boolean)) ∈ lw_all := lw_g (lw_at lw_m3 53 rfl) rfl
theorem q755 : (Jvm.Cond.instanceMethod ({ cls := "SheetBranches", name := "fault", desc := "(I)I" } : Jvm.MethodName)) ∈ lw_all := lw_g (lw_at lw_m3 55 rfl) rfl
theorem q756 : (Jvm.Cond.selects "SheetBranches" ({ cls := "SheetBranches", name := "fault", desc := "(I)I" } : Jvm.MethodName) ({ cls := "SheetBranches", name := "fault", desc := "(I)I" } : Jvm.MethodName)) ∈ lw_all := lw_g (lw_at lw_m3 56 rfl) rfl
theorem q757 : (Jvm.Cond.code ({ cls := "SheetBranches", name := "fault", desc := "(I)I" } : Jvm.MethodName) prog_1_method_18_code (2 : Nat) (Option.some Jvm.ClassFile.FieldType.int)) ∈ lw_all := lw_g (lw_at lw_m3 57 rfl) rfl
theorem q759 : (Jvm.Cond.instanceMethod ({ cls := "SheetBranches", name := "drop", desc := "()I" } : Jvm.MethodName)) ∈ lw_all := lw_g (lw_at lw_m3 59 rfl) rfl
theorem q760 : (Jvm.Cond.selects "SheetBranches" ({ cls := "SheetBranches", name := "drop", desc := "()I" } : Jvm.MethodName) ({ cls := "SheetBranches", name := "drop", desc := "()I" } : Jvm.MethodName)) ∈ lw_all := lw_g (lw_at lw_m3 60 rfl) rfl
theorem q761 : (Jvm.Cond.code ({ cls := "SheetBranches", name := "drop", desc := "()I" } : Jvm.MethodName) prog_1_method_36_code (1 : Nat) (Option.some Jvm.ClassFile.FieldType.int)) ∈ lw_all := lw_g (lw_at lw_m3 61 rfl) rfl
theorem q762 : (Jvm.Cond.methodLink "SheetBranches" (389 : Nat) ({ cls := "SheetBranches", name := "take", desc := "()V" } : Jvm.MethodName)) ∈ lw_all := lw_g (lw_at lw_m3 62 rfl) rfl
theorem q763 : (Jvm.Cond.privateMethod ({ cls := "SheetBranches", name := "take", desc := "()V" } : Jvm.MethodName)) ∈ lw_tbl := lw_at lw_m3 63 rfl
theorem q764 : (Jvm.Cond.instanceMethod ({ cls := "SheetBranches", name := "take", desc := "()V" } : Jvm.MethodName)) ∈ lw_all := lw_g (lw_at lw_m3 64 rfl) rfl
theorem q765 : (Jvm.Cond.code ({ cls := "SheetBranches", name := "take", desc := "()V" } : Jvm.MethodName) prog_1_method_34_code (1 : Nat) (Option.none : Option Jvm.ClassFile.FieldType)) ∈ lw_all := lw_g (lw_at lw_m3 65 rfl) rfl
theorem q766 : (Jvm.Cond.methodLink "SheetBranches" (363 : Nat) ({ cls := "SheetBranches", name := "head", desc := "()I" } : Jvm.MethodName)) ∈ lw_all := lw_g (lw_at lw_m3 66 rfl) rfl
theorem q767 : (Jvm.Cond.privateMethod ({ cls := "SheetBranches", name := "head", desc := "()I" } : Jvm.MethodName)) ∈ lw_tbl := lw_at lw_m3 67 rfl
theorem q768 : (Jvm.Cond.instanceMethod ({ cls := "SheetBranches", name := "head", desc := "()I" } : Jvm.MethodName)) ∈ lw_all := lw_g (lw_at lw_m3 68 rfl) rfl
theorem q769 : (Jvm.Cond.code ({ cls := "SheetBranches", name := "head", desc := "()I" } : Jvm.MethodName) prog_1_method_6_code (1 : Nat) (Option.some Jvm.ClassFile.FieldType.int)) ∈ lw_all := lw_g (lw_at lw_m3 69 rfl) rfl
theorem q770 : (Jvm.Cond.methodLink "SheetBranches" (379 : Nat) ({ cls := "SheetBranches", name := "forget", desc := "()V" } : Jvm.MethodName)) ∈ lw_all := lw_g (lw_at lw_m3 70 rfl) rfl
theorem q771 : (Jvm.Cond.privateMethod ({ cls := "SheetBranches", name := "forget", desc := "()V" } : Jvm.MethodName)) ∈ lw_tbl := lw_at lw_m3 71 rfl
theorem q772 : (Jvm.Cond.instanceMethod ({ cls := "SheetBranches", name := "forget", desc := "()V" } : Jvm.MethodName)) ∈ lw_all := lw_g (lw_at lw_m3 72 rfl) rfl
theorem q773 : (Jvm.Cond.code ({ cls := "SheetBranches", name := "forget", desc := "()V" } : Jvm.MethodName) prog_1_method_14_code (1 : Nat) (Option.none : Option Jvm.ClassFile.FieldType)) ∈ lw_all := lw_g (lw_at lw_m3 73 rfl) rfl
theorem q775 : (Jvm.Cond.instanceMethod ({ cls := "SheetBranches", name := "conflict", desc := "(II)I" } : Jvm.MethodName)) ∈ lw_all := lw_g (lw_at lw_m3 75 rfl) rfl
theorem q776 : (Jvm.Cond.selects "SheetBranches" ({ cls := "SheetBranches", name := "conflict", desc := "(II)I" } : Jvm.MethodName) ({ cls := "SheetBranches", name := "conflict", desc := "(II)I" } : Jvm.MethodName)) ∈ lw_all := lw_g (lw_at lw_m3 76 rfl) rfl
theorem q777 : (Jvm.Cond.code ({ cls := "SheetBranches", name := "conflict", desc := "(II)I" } : Jvm.MethodName) prog_1_method_42_code (4 : Nat) (Option.some Jvm.ClassFile.FieldType.int)) ∈ lw_all := lw_g (lw_at lw_m3 77 rfl) rfl
theorem q778 : (Jvm.Cond.methodLink "SheetBranches" (421 : Nat) ({ cls := "SheetBranches$Sheet", name := "row", desc := "(I)I" } : Jvm.MethodName)) ∈ lw_all := lw_g (lw_at lw_m3 78 rfl) rfl
theorem q785 : (Jvm.Cond.methodLink "SheetBranches" (426 : Nat) ({ cls := "SheetBranches$Sheet", name := "column", desc := "(I)I" } : Jvm.MethodName)) ∈ lw_all := lw_g (lw_at lw_m3 85 rfl) rfl
theorem q790 : (Jvm.Cond.instanceMethod ({ cls := "SheetBranches", name := "base", desc := "(II)I" } : Jvm.MethodName)) ∈ lw_all := lw_g (lw_at lw_m3 90 rfl) rfl
theorem q791 : (Jvm.Cond.selects "SheetBranches" ({ cls := "SheetBranches", name := "base", desc := "(II)I" } : Jvm.MethodName) ({ cls := "SheetBranches", name := "base", desc := "(II)I" } : Jvm.MethodName)) ∈ lw_all := lw_g (lw_at lw_m3 91 rfl) rfl
theorem q792 : (Jvm.Cond.code ({ cls := "SheetBranches", name := "base", desc := "(II)I" } : Jvm.MethodName) prog_1_method_44_code (3 : Nat) (Option.some Jvm.ClassFile.FieldType.int)) ∈ lw_all := lw_g (lw_at lw_m3 92 rfl) rfl
theorem q793 : (Jvm.Cond.methodLink "SheetBranches" (441 : Nat) ({ cls := "java/lang/Long", name := "numberOfLeadingZeros", desc := "(J)I" } : Jvm.MethodName)) ∈ lw_all := lw_g (lw_at lw_m3 93 rfl) rfl
theorem q801 : (Jvm.Cond.instanceMethod ({ cls := "SheetBranches", name := "difference", desc := "(II)I" } : Jvm.MethodName)) ∈ lw_all := lw_g (lw_at lw_m3 101 rfl) rfl
theorem q802 : (Jvm.Cond.selects "SheetBranches" ({ cls := "SheetBranches", name := "difference", desc := "(II)I" } : Jvm.MethodName) ({ cls := "SheetBranches", name := "difference", desc := "(II)I" } : Jvm.MethodName)) ∈ lw_all := lw_g (lw_at lw_m3 102 rfl) rfl
theorem q803 : (Jvm.Cond.code ({ cls := "SheetBranches", name := "difference", desc := "(II)I" } : Jvm.MethodName) prog_1_method_49_code (3 : Nat) (Option.some Jvm.ClassFile.FieldType.int)) ∈ lw_all := lw_g (lw_at lw_m3 103 rfl) rfl
theorem q805 : (Jvm.Cond.instanceMethod ({ cls := "SheetBranches", name := "sheet", desc := "(II)I" } : Jvm.MethodName)) ∈ lw_all := lw_g (lw_at lw_m3 105 rfl) rfl
theorem q806 : (Jvm.Cond.selects "SheetBranches" ({ cls := "SheetBranches", name := "sheet", desc := "(II)I" } : Jvm.MethodName) ({ cls := "SheetBranches", name := "sheet", desc := "(II)I" } : Jvm.MethodName)) ∈ lw_all := lw_g (lw_at lw_m3 106 rfl) rfl
theorem q807 : (Jvm.Cond.code ({ cls := "SheetBranches", name := "sheet", desc := "(II)I" } : Jvm.MethodName) prog_1_method_52_code (4 : Nat) (Option.some Jvm.ClassFile.FieldType.int)) ∈ lw_all := lw_g (lw_at lw_m3 107 rfl) rfl
theorem q808 : (Jvm.Cond.methodLink "SheetBranches" (454 : Nat) ({ cls := "SheetBranches", name := "sheetOf", desc := "(I)LSheetBranches$Sheet;" } : Jvm.MethodName)) ∈ lw_all := lw_g (lw_at lw_m3 108 rfl) rfl
theorem q809 : (Jvm.Cond.privateMethod ({ cls := "SheetBranches", name := "sheetOf", desc := "(I)LSheetBranches$Sheet;" } : Jvm.MethodName)) ∈ lw_tbl := lw_at lw_m3 109 rfl
theorem q810 : (Jvm.Cond.instanceMethod ({ cls := "SheetBranches", name := "sheetOf", desc := "(I)LSheetBranches$Sheet;" } : Jvm.MethodName)) ∈ lw_all := lw_g (lw_at lw_m3 110 rfl) rfl
theorem q811 : (Jvm.Cond.code ({ cls := "SheetBranches", name := "sheetOf", desc := "(I)LSheetBranches$Sheet;" } : Jvm.MethodName) prog_1_method_7_code (2 : Nat) (Option.some (Jvm.ClassFile.FieldType.object "SheetBranches$Sheet"))) ∈ lw_all := lw_g (lw_at lw_m3 111 rfl) rfl
theorem q813 : (Jvm.Cond.instanceMethod ({ cls := "SheetBranches", name := "kind", desc := "(III)I" } : Jvm.MethodName)) ∈ lw_all := lw_g (lw_at lw_m3 113 rfl) rfl
theorem q814 : (Jvm.Cond.selects "SheetBranches" ({ cls := "SheetBranches", name := "kind", desc := "(III)I" } : Jvm.MethodName) ({ cls := "SheetBranches", name := "kind", desc := "(III)I" } : Jvm.MethodName)) ∈ lw_all := lw_g (lw_at lw_m3 114 rfl) rfl
theorem q815 : (Jvm.Cond.code ({ cls := "SheetBranches", name := "kind", desc := "(III)I" } : Jvm.MethodName) prog_1_method_54_code (4 : Nat) (Option.some Jvm.ClassFile.FieldType.int)) ∈ lw_all := lw_g (lw_at lw_m3 115 rfl) rfl
theorem q816 : (Jvm.Cond.methodLink "SheetBranches" (479 : Nat) ({ cls := "SheetBranches", name := "hasCell", desc := "(III)Z" } : Jvm.MethodName)) ∈ lw_all := lw_g (lw_at lw_m3 116 rfl) rfl
theorem q817 : (Jvm.Cond.privateMethod ({ cls := "SheetBranches", name := "hasCell", desc := "(III)Z" } : Jvm.MethodName)) ∈ lw_tbl := lw_at lw_m3 117 rfl
theorem q818 : (Jvm.Cond.instanceMethod ({ cls := "SheetBranches", name := "hasCell", desc := "(III)Z" } : Jvm.MethodName)) ∈ lw_all := lw_g (lw_at lw_m3 118 rfl) rfl
theorem q819 : (Jvm.Cond.code ({ cls := "SheetBranches", name := "hasCell", desc := "(III)Z" } : Jvm.MethodName) prog_1_method_53_code (5 : Nat) (Option.some Jvm.ClassFile.FieldType.boolean)) ∈ lw_all := lw_g (lw_at lw_m3 119 rfl) rfl
theorem q820 : (Jvm.Cond.methodLink "SheetBranches" (235 : Nat) ({ cls := "SheetBranches$Sheet", name := "has", desc := "(II)Z" } : Jvm.MethodName)) ∈ lw_all := lw_g (lw_at lw_m3 120 rfl) rfl
theorem q824 : (Jvm.Cond.methodLink "SheetBranches" (483 : Nat) ({ cls := "SheetBranches", name := "valuesOf", desc := "(I)LSheetBranches$Values;" } : Jvm.MethodName)) ∈ lw_all := lw_g (lw_at lw_m3 124 rfl) rfl
theorem q825 : (Jvm.Cond.privateMethod ({ cls := "SheetBranches", name := "valuesOf", desc := "(I)LSheetBranches$Values;" } : Jvm.MethodName)) ∈ lw_tbl := lw_at lw_m3 125 rfl
theorem q826 : (Jvm.Cond.instanceMethod ({ cls := "SheetBranches", name := "valuesOf", desc := "(I)LSheetBranches$Values;" } : Jvm.MethodName)) ∈ lw_all := lw_g (lw_at lw_m3 126 rfl) rfl
theorem q827 : (Jvm.Cond.code ({ cls := "SheetBranches", name := "valuesOf", desc := "(I)LSheetBranches$Values;" } : Jvm.MethodName) prog_1_method_9_code (2 : Nat) (Option.some (Jvm.ClassFile.FieldType.object "SheetBranches$Values"))) ∈ lw_all := lw_g (lw_at lw_m3 127 rfl) rfl
theorem q828 : (Jvm.Cond.methodLink "SheetBranches" (215 : Nat) ({ cls := "SheetBranches", name := "ready", desc := "()LSheetBranches$Values;" } : Jvm.MethodName)) ∈ lw_all := lw_g (lw_at lw_m3 128 rfl) rfl
theorem q829 : (Jvm.Cond.privateMethod ({ cls := "SheetBranches", name := "ready", desc := "()LSheetBranches$Values;" } : Jvm.MethodName)) ∈ lw_tbl := lw_at lw_m3 129 rfl
theorem q830 : (Jvm.Cond.instanceMethod ({ cls := "SheetBranches", name := "ready", desc := "()LSheetBranches$Values;" } : Jvm.MethodName)) ∈ lw_all := lw_g (lw_at lw_m3 130 rfl) rfl
theorem q831 : (Jvm.Cond.code ({ cls := "SheetBranches", name := "ready", desc := "()LSheetBranches$Values;" } : Jvm.MethodName) prog_1_method_8_code (1 : Nat) (Option.some (Jvm.ClassFile.FieldType.object "SheetBranches$Values"))) ∈ lw_all := lw_g (lw_at lw_m3 131 rfl) rfl
theorem q832 : (Jvm.Cond.methodLink "SheetBranches" (212 : Nat) ({ cls := "SheetBranches$Works", name := "reckon", desc := "(LSheetBranches$Sheet;LSheetBranches$Values;)V" } : Jvm.MethodName)) ∈ lw_all := lw_g (lw_at lw_m3 132 rfl) rfl
theorem q1081 : (Jvm.Cond.static ({ cls := "SheetBranches", name := "two", desc := "(LSheetBranches$Sign;LSheetBranches$Worth;LSheetBranches$Worth;)V" } : Jvm.MethodName)) ∈ lw_all := lw_g (lw_at lw_m4 141 rfl) rfl
theorem q1082 : (Jvm.Cond.code ({ cls := "SheetBranches", name := "two", desc := "(LSheetBranches$Sign;LSheetBranches$Worth;LSheetBranches$Worth;)V" } : Jvm.MethodName) prog_1_method_2_code (3 : Nat) (Option.none : Option Jvm.ClassFile.FieldType)) ∈ lw_all := lw_g (lw_at lw_m4 142 rfl) rfl
theorem q1083 : (Jvm.Cond.methodLink "SheetBranches" (15 : Nat) ({ cls := "SheetBranches", name := "compare", desc := "(LSheetBranches$Sign;LSheetBranches$Worth;LSheetBranches$Worth;)V" } : Jvm.MethodName)) ∈ lw_all := lw_g (lw_at lw_m4 143 rfl) rfl
theorem q1084 : (Jvm.Cond.static ({ cls := "SheetBranches", name := "compare", desc := "(LSheetBranches$Sign;LSheetBranches$Worth;LSheetBranches$Worth;)V" } : Jvm.MethodName)) ∈ lw_all := lw_g (lw_at lw_m4 144 rfl) rfl
theorem q1085 : (Jvm.Cond.code ({ cls := "SheetBranches", name := "compare", desc := "(LSheetBranches$Sign;LSheetBranches$Worth;LSheetBranches$Worth;)V" } : Jvm.MethodName) prog_1_method_4_code (4 : Nat) (Option.none : Option Jvm.ClassFile.FieldType)) ∈ lw_all := lw_g (lw_at lw_m4 145 rfl) rfl
theorem q1086 : (Jvm.Cond.methodLink "SheetBranches" (71 : Nat) ({ cls := "SheetBranches$Worth", name := "adapt", desc := "(LSheetBranches$Worth;)V" } : Jvm.MethodName)) ∈ lw_all := lw_g (lw_at lw_m4 146 rfl) rfl
theorem q1092 : (Jvm.Cond.fieldLink "SheetBranches" (77 : Nat) "SheetBranches$Sign" "SAME" "LSheetBranches$Sign;") ∈ lw_all := lw_g (lw_at lw_m4 152 rfl) rfl
theorem q1094 : (Jvm.Cond.fieldLink "SheetBranches" (80 : Nat) "SheetBranches$Sign" "UNLIKE" "LSheetBranches$Sign;") ∈ lw_all := lw_g (lw_at lw_m4 154 rfl) rfl
theorem q1096 : (Jvm.Cond.methodLink "SheetBranches" (83 : Nat) ({ cls := "SheetBranches$Worth", name := "is", desc := "(Z)V" } : Jvm.MethodName)) ∈ lw_all := lw_g (lw_at lw_m4 156 rfl) rfl
theorem q1097 : (Jvm.Cond.methodLink "SheetBranches" (64 : Nat) ({ cls := "SheetBranches$Worth", name := "fail", desc := "(I)V" } : Jvm.MethodName)) ∈ lw_all := lw_g (lw_at lw_m4 157 rfl) rfl
theorem q1098 : (Jvm.Cond.methodLink "SheetBranches" (87 : Nat) ({ cls := "SheetBranches$Worth", name := "against", desc := "(LSheetBranches$Worth;)I" } : Jvm.MethodName)) ∈ lw_all := lw_g (lw_at lw_m4 158 rfl) rfl
theorem q1105 : (Jvm.Cond.methodLink "SheetBranches" (48 : Nat) ({ cls := "SheetBranches$Sign", name := "ordinal", desc := "()I" } : Jvm.MethodName)) ∈ lw_all := lw_g (lw_at lw_m4 165 rfl) rfl
theorem q1108 : (Jvm.Cond.fieldLink "SheetBranches" (19 : Nat) "SheetBranches$Sign" "JOIN" "LSheetBranches$Sign;") ∈ lw_all := lw_g (lw_at lw_m4 168 rfl) rfl
theorem q1110 : (Jvm.Cond.methodLink "SheetBranches" (23 : Nat) ({ cls := "SheetBranches$Worth", name := "wantText", desc := "()V" } : Jvm.MethodName)) ∈ lw_all := lw_g (lw_at lw_m4 170 rfl) rfl
theorem q1174 : (Jvm.Cond.methodLink "SheetBranches" (29 : Nat) ({ cls := "SheetBranches$Worth", name := "join", desc := "(LSheetBranches$Worth;)V" } : Jvm.MethodName)) ∈ lw_all := lw_g (lw_at lw_m4 234 rfl) rfl
theorem q1178 : (Jvm.Cond.methodLink "SheetBranches" (33 : Nat) ({ cls := "SheetBranches$Worth", name := "wantNumber", desc := "()Z" } : Jvm.MethodName)) ∈ lw_all := lw_g (lw_at lw_m4 238 rfl) rfl
theorem q1182 : (Jvm.Cond.methodLink "SheetBranches" (41 : Nat) ({ cls := "SheetBranches", name := "reckon", desc := "(LSheetBranches$Sign;LSheetBranches$Worth;J)V" } : Jvm.MethodName)) ∈ lw_all := lw_g (lw_at lw_m5 2 rfl) rfl
theorem q1183 : (Jvm.Cond.static ({ cls := "SheetBranches", name := "reckon", desc := "(LSheetBranches$Sign;LSheetBranches$Worth;J)V" } : Jvm.MethodName)) ∈ lw_all := lw_g (lw_at lw_m5 3 rfl) rfl
theorem q1184 : (Jvm.Cond.code ({ cls := "SheetBranches", name := "reckon", desc := "(LSheetBranches$Sign;LSheetBranches$Worth;J)V" } : Jvm.MethodName) prog_1_method_3_code (6 : Nat) (Option.none : Option Jvm.ClassFile.FieldType)) ∈ lw_all := lw_g (lw_at lw_m5 4 rfl) rfl
theorem q1185 : (Jvm.Cond.methodLink "SheetBranches" (52 : Nat) ({ cls := "SheetBranches$Worth", name := "be", desc := "(J)V" } : Jvm.MethodName)) ∈ lw_all := lw_g (lw_at lw_m5 5 rfl) rfl
theorem q1186 : (Jvm.Cond.methodLink "SheetBranches" (56 : Nat) ({ cls := "java/lang/Math", name := "abs", desc := "(J)J" } : Jvm.MethodName)) ∈ lw_all := lw_g (lw_at lw_m5 6 rfl) rfl
theorem q1189 : (Jvm.Cond.constantLong "SheetBranches" (62 : Nat) (1000000000000000 : Int64)) ∈ lw_all := lw_g (lw_at lw_m5 9 rfl) rfl
theorem q1190 : (Jvm.Cond.fieldLink "SheetBranches" (68 : Nat) "SheetBranches$Sign" "OVER" "LSheetBranches$Sign;") ∈ lw_all := lw_g (lw_at lw_m5 10 rfl) rfl
theorem q1192 : (Jvm.Cond.methodLink "SheetBranches" (45 : Nat) ({ cls := "SheetBranches$Worth", name := "copy", desc := "(LSheetBranches$Worth;)V" } : Jvm.MethodName)) ∈ lw_all := lw_g (lw_at lw_m5 12 rfl) rfl
theorem q1336 : (Jvm.Cond.instanceMethod ({ cls := "SheetBranches", name := "value", desc := "(III)J" } : Jvm.MethodName)) ∈ lw_all := lw_g (lw_at lw_m5 156 rfl) rfl
theorem q1337 : (Jvm.Cond.selects "SheetBranches" ({ cls := "SheetBranches", name := "value", desc := "(III)J" } : Jvm.MethodName) ({ cls := "SheetBranches", name := "value", desc := "(III)J" } : Jvm.MethodName)) ∈ lw_all := lw_g (lw_at lw_m5 157 rfl) rfl
theorem q1338 : (Jvm.Cond.code ({ cls := "SheetBranches", name := "value", desc := "(III)J" } : Jvm.MethodName) prog_1_method_55_code (6 : Nat) (Option.some Jvm.ClassFile.FieldType.long)) ∈ lw_all := lw_g (lw_at lw_m5 158 rfl) rfl
theorem q1340 : (Jvm.Cond.instanceMethod ({ cls := "SheetBranches", name := "letter", desc := "(IIII)I" } : Jvm.MethodName)) ∈ lw_all := lw_g (lw_at lw_m5 160 rfl) rfl
theorem q1341 : (Jvm.Cond.selects "SheetBranches" ({ cls := "SheetBranches", name := "letter", desc := "(IIII)I" } : Jvm.MethodName) ({ cls := "SheetBranches", name := "letter", desc := "(IIII)I" } : Jvm.MethodName)) ∈ lw_all := lw_g (lw_at lw_m5 161 rfl) rfl
theorem q1342 : (Jvm.Cond.code ({ cls := "SheetBranches", name := "letter", desc := "(IIII)I" } : Jvm.MethodName) prog_1_method_56_code (7 : Nat) (Option.some Jvm.ClassFile.FieldType.int)) ∈ lw_all := lw_g (lw_at lw_m5 162 rfl) rfl
theorem q1344 : (Jvm.Cond.instanceMethod ({ cls := "SheetBranches", name := "written", desc := "(IIII)I" } : Jvm.MethodName)) ∈ lw_all := lw_g (lw_at lw_m5 164 rfl) rfl
theorem q1345 : (Jvm.Cond.selects "SheetBranches" ({ cls := "SheetBranches", name := "written", desc := "(IIII)I" } : Jvm.MethodName) ({ cls := "SheetBranches", name := "written", desc := "(IIII)I" } : Jvm.MethodName)) ∈ lw_all := lw_g (lw_at lw_m5 165 rfl) rfl
theorem q1346 : (Jvm.Cond.code ({ cls := "SheetBranches", name := "written", desc := "(IIII)I" } : Jvm.MethodName) prog_1_method_57_code (7 : Nat) (Option.some Jvm.ClassFile.FieldType.int)) ∈ lw_all := lw_g (lw_at lw_m5 166 rfl) rfl
theorem q1347 : (Jvm.Cond.methodLink "SheetBranches" (500 : Nat) ({ cls := "SheetBranches$Pen", name := "clear", desc := "()V" } : Jvm.MethodName)) ∈ lw_all := lw_g (lw_at lw_m5 167 rfl) rfl
theorem q1351 : (Jvm.Cond.interfaceEntry "SheetBranches" (503 : Nat)) ∈ lw_tbl := lw_at lw_m5 171 rfl
theorem q1352 : (Jvm.Cond.methodLink "SheetBranches" (503 : Nat) ({ cls := "SheetBranches$Content", name := "write", desc := "(LSheetBranches$Pen;LSheetBranches$Sheet;)V" } : Jvm.MethodName)) ∈ lw_all := lw_g (lw_at lw_m5 172 rfl) rfl
theorem q1557 : (Jvm.Cond.instanceMethod ({ cls := "SheetBranches", name := "total", desc := "(I)I" } : Jvm.MethodName)) ∈ lw_all := lw_g (lw_at lw_m6 137 rfl) rfl
theorem q1558 : (Jvm.Cond.selects "SheetBranches" ({ cls := "SheetBranches", name := "total", desc := "(I)I" } : Jvm.MethodName) ({ cls := "SheetBranches", name := "total", desc := "(I)I" } : Jvm.MethodName)) ∈ lw_all := lw_g (lw_at lw_m6 138 rfl) rfl
theorem q1559 : (Jvm.Cond.code ({ cls := "SheetBranches", name := "total", desc := "(I)I" } : Jvm.MethodName) prog_1_method_58_code (2 : Nat) (Option.some Jvm.ClassFile.FieldType.int)) ∈ lw_all := lw_g (lw_at lw_m6 139 rfl) rfl
theorem q1560 : (Jvm.Cond.methodLink "SheetBranches" (360 : Nat) ({ cls := "SheetBranches", name := "unsettled", desc := "()I" } : Jvm.MethodName)) ∈ lw_all := lw_g (lw_at lw_m6 140 rfl) rfl
theorem q1561 : (Jvm.Cond.privateMethod ({ cls := "SheetBranches", name := "unsettled", desc := "()I" } : Jvm.MethodName)) ∈ lw_tbl := lw_at lw_m6 141 rfl
theorem q1562 : (Jvm.Cond.instanceMethod ({ cls := "SheetBranches", name := "unsettled", desc := "()I" } : Jvm.MethodName)) ∈ lw_all := lw_g (lw_at lw_m6 142 rfl) rfl
theorem q1563 : (Jvm.Cond.code ({ cls := "SheetBranches", name := "unsettled", desc := "()I" } : Jvm.MethodName) prog_1_method_41_code (3 : Nat) (Option.some Jvm.ClassFile.FieldType.int)) ∈ lw_all := lw_g (lw_at lw_m6 143 rfl) rfl
theorem q1564 : (Jvm.Cond.methodLink "SheetBranches" (385 : Nat) ({ cls := "SheetBranches$Sheet", name := "isLike", desc := "(LSheetBranches$Sheet;)Z" } : Jvm.MethodName)) ∈ lw_all := lw_g (lw_at lw_m6 144 rfl) rfl
theorem q1572 : (Jvm.Cond.static ({ cls := "SheetBranches", name := "isAlike", desc := "(LSheetBranches$Content;LSheetBranches$Content;)Z" } : Jvm.MethodName)) ∈ lw_all := lw_g (lw_at lw_m6 152 rfl) rfl
theorem q1573 : (Jvm.Cond.code ({ cls := "SheetBranches", name := "isAlike", desc := "(LSheetBranches$Content;LSheetBranches$Content;)Z" } : Jvm.MethodName) prog_1_method_1_code (2 : Nat) (Option.some Jvm.ClassFile.FieldType.boolean)) ∈ lw_all := lw_g (lw_at lw_m6 153 rfl) rfl
theorem q1574 : (Jvm.Cond.interfaceEntry "SheetBranches" (3 : Nat)) ∈ lw_tbl := lw_at lw_m6 154 rfl
theorem q1575 : (Jvm.Cond.methodLink "SheetBranches" (3 : Nat) ({ cls := "SheetBranches$Content", name := "isAlike", desc := "(LSheetBranches$Content;)Z" } : Jvm.MethodName)) ∈ lw_all := lw_g (lw_at lw_m6 155 rfl) rfl
theorem q1758 : (Jvm.Cond.instanceMethod ({ cls := "SheetBranches", name := "enter", desc := "(II)I" } : Jvm.MethodName)) ∈ lw_all := lw_g (lw_at lw_m7 98 rfl) rfl
theorem q1759 : (Jvm.Cond.selects "SheetBranches" ({ cls := "SheetBranches", name := "enter", desc := "(II)I" } : Jvm.MethodName) ({ cls := "SheetBranches", name := "enter", desc := "(II)I" } : Jvm.MethodName)) ∈ lw_all := lw_g (lw_at lw_m7 99 rfl) rfl
theorem q1760 : (Jvm.Cond.codeWith ({ cls := "SheetBranches", name := "enter", desc := "(II)I" } : Jvm.MethodName) prog_1_method_17_code (6 : Nat) (Option.some Jvm.ClassFile.FieldType.int) [((44 : Nat), (64 : Nat), (67 : Nat), (252 : Nat))]) ∈ lw_all := lw_g (lw_at lw_m7 100 rfl) rfl
theorem q1761 : (Jvm.Cond.classLink "SheetBranches" (252 : Nat) "SheetBranches$Wrong") ∈ lw_all := lw_g (lw_at lw_m7 101 rfl) rfl
theorem q1762 : (Jvm.Cond.classLink "SheetBranches" (239 : Nat) "java/lang/IndexOutOfBoundsException") ∈ lw_all := lw_g (lw_at lw_m7 102 rfl) rfl
theorem q1771 : (Jvm.Cond.methodLink "SheetBranches" (241 : Nat) ({ cls := "java/lang/IndexOutOfBoundsException", name := "<init>", desc := "()V" } : Jvm.MethodName)) ∈ lw_all := lw_g (lw_at lw_m7 111 rfl) rfl
theorem q1783 : (Jvm.Cond.methodLink "SheetBranches" (248 : Nat) ({ cls := "SheetBranches$Reader", name := "read", desc := "([BILSheetBranches$Sheet;I)V" } : Jvm.MethodName)) ∈ lw_all := lw_g (lw_at lw_m7 123 rfl) rfl
theorem q2110 : (Jvm.Cond.fieldLinkNest "SheetBranches" (333 : Nat) "SheetBranches$Formula" "root" "LSheetBranches$Part;" "SheetBranches") ∈ lw_tbl := lw_at lw_m8 210 rfl
theorem q2121 : (Jvm.Cond.classLink "SheetBranches" (258 : Nat) "java/lang/IllegalArgumentException") ∈ lw_all := lw_g (lw_at lw_m8 221 rfl) rfl
theorem q2130 : (Jvm.Cond.methodLink "SheetBranches" (260 : Nat) ({ cls := "java/lang/IllegalArgumentException", name := "<init>", desc := "()V" } : Jvm.MethodName)) ∈ lw_all := lw_g (lw_at lw_m8 230 rfl) rfl
theorem q2136 : (Jvm.Cond.interfaceEntry "SheetBranches" (265 : Nat)) ∈ lw_tbl := lw_at lw_m8 236 rfl
theorem q2137 : (Jvm.Cond.methodLink "SheetBranches" (265 : Nat) ({ cls := "SheetBranches$Content", name := "parts", desc := "()I" } : Jvm.MethodName)) ∈ lw_all := lw_g (lw_at lw_m8 237 rfl) rfl
theorem q2160 : (Jvm.Cond.constant "SheetBranches" (270 : Nat) (60000 : Int32)) ∈ lw_all := lw_g (lw_at lw_m9 20 rfl) rfl
theorem q2161 : (Jvm.Cond.classLink "SheetBranches" (271 : Nat) "java/lang/UnsupportedOperationException") ∈ lw_all := lw_g (lw_at lw_m9 21 rfl) rfl
theorem q2170 : (Jvm.Cond.methodLink "SheetBranches" (273 : Nat) ({ cls := "java/lang/UnsupportedOperationException", name := "<init>", desc := "()V" } : Jvm.MethodName)) ∈ lw_all := lw_g (lw_at lw_m9 30 rfl) rfl
theorem q2176 : (Jvm.Cond.methodLink "SheetBranches" (274 : Nat) ({ cls := "SheetBranches", name := "step", desc := "()V" } : Jvm.MethodName)) ∈ lw_all := lw_g (lw_at lw_m9 36 rfl) rfl
theorem q2177 : (Jvm.Cond.privateMethod ({ cls := "SheetBranches", name := "step", desc := "()V" } : Jvm.MethodName)) ∈ lw_tbl := lw_at lw_m9 37 rfl
theorem q2178 : (Jvm.Cond.instanceMethod ({ cls := "SheetBranches", name := "step", desc := "()V" } : Jvm.MethodName)) ∈ lw_all := lw_g (lw_at lw_m9 38 rfl) rfl
theorem q2179 : (Jvm.Cond.code ({ cls := "SheetBranches", name := "step", desc := "()V" } : Jvm.MethodName) prog_1_method_13_code (2 : Nat) (Option.none : Option Jvm.ClassFile.FieldType)) ∈ lw_all := lw_g (lw_at lw_m9 39 rfl) rfl
theorem q2184 : (Jvm.Cond.instanceMethod ({ cls := "SheetBranches", name := "erase", desc := "(IIII)I" } : Jvm.MethodName)) ∈ lw_all := lw_g (lw_at lw_m9 44 rfl) rfl
theorem q2185 : (Jvm.Cond.selects "SheetBranches" ({ cls := "SheetBranches", name := "erase", desc := "(IIII)I" } : Jvm.MethodName) ({ cls := "SheetBranches", name := "erase", desc := "(IIII)I" } : Jvm.MethodName)) ∈ lw_all := lw_g (lw_at lw_m9 45 rfl) rfl
theorem q2186 : (Jvm.Cond.code ({ cls := "SheetBranches", name := "erase", desc := "(IIII)I" } : Jvm.MethodName) prog_1_method_20_code (8 : Nat) (Option.some Jvm.ClassFile.FieldType.int)) ∈ lw_all := lw_g (lw_at lw_m9 46 rfl) rfl
theorem q2187 : (Jvm.Cond.methodLink "SheetBranches" (281 : Nat) ({ cls := "SheetBranches", name := "look", desc := "(IIII)V" } : Jvm.MethodName)) ∈ lw_all := lw_g (lw_at lw_m9 47 rfl) rfl
theorem q2188 : (Jvm.Cond.privateMethod ({ cls := "SheetBranches", name := "look", desc := "(IIII)V" } : Jvm.MethodName)) ∈ lw_tbl := lw_at lw_m9 48 rfl
theorem q2189 : (Jvm.Cond.instanceMethod ({ cls := "SheetBranches", name := "look", desc := "(IIII)V" } : Jvm.MethodName)) ∈ lw_all := lw_g (lw_at lw_m9 49 rfl) rfl
theorem q2190 : (Jvm.Cond.code ({ cls := "SheetBranches", name := "look", desc := "(IIII)V" } : Jvm.MethodName) prog_1_method_19_code (5 : Nat) (Option.none : Option Jvm.ClassFile.FieldType)) ∈ lw_all := lw_g (lw_at lw_m9 50 rfl) rfl
theorem q2196 : (Jvm.Cond.instanceMethod ({ cls := "SheetBranches", name := "insert", desc := "(II)I" } : Jvm.MethodName)) ∈ lw_all := lw_g (lw_at lw_m9 56 rfl) rfl
theorem q2197 : (Jvm.Cond.selects "SheetBranches" ({ cls := "SheetBranches", name := "insert", desc := "(II)I" } : Jvm.MethodName) ({ cls := "SheetBranches", name := "insert", desc := "(II)I" } : Jvm.MethodName)) ∈ lw_all := lw_g (lw_at lw_m9 57 rfl) rfl
theorem q2198 : (Jvm.Cond.code ({ cls := "SheetBranches", name := "insert", desc := "(II)I" } : Jvm.MethodName) prog_1_method_24_code (5 : Nat) (Option.some Jvm.ClassFile.FieldType.int)) ∈ lw_all := lw_g (lw_at lw_m9 58 rfl) rfl
theorem q2199 : (Jvm.Cond.methodLink "SheetBranches" (295 : Nat) ({ cls := "SheetBranches", name := "marksOf", desc := "(I)[I" } : Jvm.MethodName)) ∈ lw_all := lw_g (lw_at lw_m9 59 rfl) rfl
theorem q2200 : (Jvm.Cond.privateMethod ({ cls := "SheetBranches", name := "marksOf", desc := "(I)[I" } : Jvm.MethodName)) ∈ lw_tbl := lw_at lw_m9 60 rfl
theorem q2201 : (Jvm.Cond.instanceMethod ({ cls := "SheetBranches", name := "marksOf", desc := "(I)[I" } : Jvm.MethodName)) ∈ lw_all := lw_g (lw_at lw_m9 61 rfl) rfl
theorem q2202 : (Jvm.Cond.code ({ cls := "SheetBranches", name := "marksOf", desc := "(I)[I" } : Jvm.MethodName) prog_1_method_21_code (2 : Nat) (Option.some (Jvm.ClassFile.FieldType.array Jvm.ClassFile.FieldType.int))) ∈ lw_all := lw_g (lw_at lw_m9 62 rfl) rfl
theorem q2203 : (Jvm.Cond.methodLink "SheetBranches" (285 : Nat) ({ cls := "SheetBranches$Sheet", name := "marks", desc := "(I)[I" } : Jvm.MethodName)) ∈ lw_all := lw_g (lw_at lw_m9 63 rfl) rfl
theorem q2207 : (Jvm.Cond.classLink "SheetBranches" (298 : Nat) "java/lang/IllegalStateException") ∈ lw_all := lw_g (lw_at lw_m9 67 rfl) rfl
theorem q2216 : (Jvm.Cond.methodLink "SheetBranches" (300 : Nat) ({ cls := "java/lang/IllegalStateException", name := "<init>", desc := "()V" } : Jvm.MethodName)) ∈ lw_all := lw_g (lw_at lw_m9 76 rfl) rfl
theorem q2222 : (Jvm.Cond.methodLink "SheetBranches" (301 : Nat) ({ cls := "SheetBranches", name := "with", desc := "([III)[I" } : Jvm.MethodName)) ∈ lw_all := lw_g (lw_at lw_m9 82 rfl) rfl
theorem q2223 : (Jvm.Cond.static ({ cls := "SheetBranches", name := "with", desc := "([III)[I" } : Jvm.MethodName)) ∈ lw_all := lw_g (lw_at lw_m9 83 rfl) rfl
theorem q2224 : (Jvm.Cond.code ({ cls := "SheetBranches", name := "with", desc := "([III)[I" } : Jvm.MethodName) prog_1_method_22_code (4 : Nat) (Option.some (Jvm.ClassFile.FieldType.array Jvm.ClassFile.FieldType.int))) ∈ lw_all := lw_g (lw_at lw_m9 84 rfl) rfl
theorem q2225 : (Jvm.Cond.methodLink "SheetBranches" (289 : Nat) ({ cls := "java/lang/System", name := "arraycopy", desc := "(Ljava/lang/Object;ILjava/lang/Object;II)V" } : Jvm.MethodName)) ∈ lw_all := lw_g (lw_at lw_m9 85 rfl) rfl
theorem q2226 : (Jvm.Cond.methodLink "SheetBranches" (305 : Nat) ({ cls := "SheetBranches$Sheet", name := "lay", desc := "(I[I)V" } : Jvm.MethodName)) ∈ lw_all := lw_g (lw_at lw_m9 86 rfl) rfl
theorem q2244 : (Jvm.Cond.instanceMethod ({ cls := "SheetBranches", name := "remove", desc := "(II)I" } : Jvm.MethodName)) ∈ lw_all := lw_g (lw_at lw_m9 104 rfl) rfl
theorem q2245 : (Jvm.Cond.selects "SheetBranches" ({ cls := "SheetBranches", name := "remove", desc := "(II)I" } : Jvm.MethodName) ({ cls := "SheetBranches", name := "remove", desc := "(II)I" } : Jvm.MethodName)) ∈ lw_all := lw_g (lw_at lw_m9 105 rfl) rfl
theorem q2246 : (Jvm.Cond.code ({ cls := "SheetBranches", name := "remove", desc := "(II)I" } : Jvm.MethodName) prog_1_method_25_code (4 : Nat) (Option.some Jvm.ClassFile.FieldType.int)) ∈ lw_all := lw_g (lw_at lw_m9 106 rfl) rfl
theorem q2247 : (Jvm.Cond.methodLink "SheetBranches" (309 : Nat) ({ cls := "SheetBranches", name := "without", desc := "([II)[I" } : Jvm.MethodName)) ∈ lw_all := lw_g (lw_at lw_m9 107 rfl) rfl
theorem q2248 : (Jvm.Cond.static ({ cls := "SheetBranches", name := "without", desc := "([II)[I" } : Jvm.MethodName)) ∈ lw_all := lw_g (lw_at lw_m9 108 rfl) rfl
theorem q2249 : (Jvm.Cond.code ({ cls := "SheetBranches", name := "without", desc := "([II)[I" } : Jvm.MethodName) prog_1_method_23_code (3 : Nat) (Option.some (Jvm.ClassFile.FieldType.array Jvm.ClassFile.FieldType.int))) ∈ lw_all := lw_g (lw_at lw_m9 109 rfl) rfl
theorem q2254 : (Jvm.Cond.instanceMethod ({ cls := "SheetBranches", name := "move", desc := "(III)I" } : Jvm.MethodName)) ∈ lw_all := lw_g (lw_at lw_m9 114 rfl) rfl
theorem q2255 : (Jvm.Cond.selects "SheetBranches" ({ cls := "SheetBranches", name := "move", desc := "(III)I" } : Jvm.MethodName) ({ cls := "SheetBranches", name := "move", desc := "(III)I" } : Jvm.MethodName)) ∈ lw_all := lw_g (lw_at lw_m9 115 rfl) rfl
theorem q2256 : (Jvm.Cond.code ({ cls := "SheetBranches", name := "move", desc := "(III)I" } : Jvm.MethodName) prog_1_method_26_code (5 : Nat) (Option.some Jvm.ClassFile.FieldType.int)) ∈ lw_all := lw_g (lw_at lw_m9 116 rfl) rfl
theorem q2257 : (Jvm.Cond.methodLink "SheetBranches" (313 : Nat) ({ cls := "java/lang/Math", name := "abs", desc := "(I)I" } : Jvm.MethodName)) ∈ lw_all := lw_g (lw_at lw_m9 117 rfl) rfl
theorem q2264 : (Jvm.Cond.instanceMethod ({ cls := "SheetBranches", name := "copy", desc := "(IIIIII)I" } : Jvm.MethodName)) ∈ lw_all := lw_g (lw_at lw_m9 124 rfl) rfl
theorem q2265 : (Jvm.Cond.selects "SheetBranches" ({ cls := "SheetBranches", name := "copy", desc := "(IIIIII)I" } : Jvm.MethodName) ({ cls := "SheetBranches", name := "copy", desc := "(IIIIII)I" } : Jvm.MethodName)) ∈ lw_all := lw_g (lw_at lw_m9 125 rfl) rfl
theorem q2266 : (Jvm.Cond.code ({ cls := "SheetBranches", name := "copy", desc := "(IIIIII)I" } : Jvm.MethodName) prog_1_method_27_code (15 : Nat) (Option.some Jvm.ClassFile.FieldType.int)) ∈ lw_all := lw_g (lw_at lw_m9 126 rfl) rfl
theorem q2267 : (Jvm.Cond.methodLink "SheetBranches" (319 : Nat) ({ cls := "java/lang/Math", name := "min", desc := "(II)I" } : Jvm.MethodName)) ∈ lw_all := lw_g (lw_at lw_m9 127 rfl) rfl
theorem q2268 : (Jvm.Cond.classLink "SheetBranches" (326 : Nat) "SheetBranches$Shift") ∈ lw_all := lw_g (lw_at lw_m9 128 rfl) rfl
theorem q2270 : (Jvm.Cond.methodLinkNest "SheetBranches" (328 : Nat) ({ cls := "SheetBranches$Shift", name := "<init>", desc := "(IILSheetBranches$Sheet;[LSheetBranches$Version;)V" } : Jvm.MethodName) "SheetBranches") ∈ lw_tbl := lw_at lw_m9 130 rfl
theorem q2289 : (Jvm.Cond.classLink "SheetBranches" (331 : Nat) "SheetBranches$Formula") ∈ lw_all := lw_g (lw_at lw_m9 149 rfl) rfl
theorem q2290 : (Jvm.Cond.interfaceEntry "SheetBranches" (337 : Nat)) ∈ lw_tbl := lw_at lw_m9 150 rfl
theorem q2291 : (Jvm.Cond.methodLink "SheetBranches" (337 : Nat) ({ cls := "SheetBranches$Part", name := "shifted", desc := "(LSheetBranches$Shift;)LSheetBranches$Part;" } : Jvm.MethodName)) ∈ lw_all := lw_g (lw_at lw_m9 151 rfl) rfl
theorem q2370 : (Jvm.Cond.methodLinkNest "SheetBranches" (343 : Nat) ({ cls := "SheetBranches$Formula", name := "<init>", desc := "(LSheetBranches$Part;I)V" } : Jvm.MethodName) "SheetBranches") ∈ lw_tbl := lw_at lw_m9 230 rfl
theorem q2375 : (Jvm.Cond.instanceMethod ({ cls := "SheetBranches", name := "sort", desc := "(IIIZ)I" } : Jvm.MethodName)) ∈ lw_all := lw_g (lw_at lw_m9 235 rfl) rfl
theorem q2376 : (Jvm.Cond.selects "SheetBranches" ({ cls := "SheetBranches", name := "sort", desc := "(IIIZ)I" } : Jvm.MethodName) ({ cls := "SheetBranches", name := "sort", desc := "(IIIZ)I" } : Jvm.MethodName)) ∈ lw_all := lw_g (lw_at lw_m9 236 rfl) rfl
theorem q2377 : (Jvm.Cond.code ({ cls := "SheetBranches", name := "sort", desc := "(IIIZ)I" } : Jvm.MethodName) prog_1_method_30_code (10 : Nat) (Option.some Jvm.ClassFile.FieldType.int)) ∈ lw_all := lw_g (lw_at lw_m9 237 rfl) rfl
theorem q2378 : (Jvm.Cond.methodLink "SheetBranches" (357 : Nat) ({ cls := "SheetBranches", name := "against", desc := "(IIIZ)I" } : Jvm.MethodName)) ∈ lw_all := lw_g (lw_at lw_m9 238 rfl) rfl
theorem q2379 : (Jvm.Cond.privateMethod ({ cls := "SheetBranches", name := "against", desc := "(IIIZ)I" } : Jvm.MethodName)) ∈ lw_tbl := lw_at lw_m9 239 rfl
theorem q2380 : (Jvm.Cond.instanceMethod ({ cls := "SheetBranches", name := "against", desc := "(IIIZ)I" } : Jvm.MethodName)) ∈ lw_all := lw_g (lw_at lw_m10 0 rfl) rfl
theorem q2381 : (Jvm.Cond.code ({ cls := "SheetBranches", name := "against", desc := "(IIIZ)I" } : Jvm.MethodName) prog_1_method_29_code (7 : Nat) (Option.some Jvm.ClassFile.FieldType.int)) ∈ lw_all := lw_g (lw_at lw_m10 1 rfl) rfl
theorem q2382 : (Jvm.Cond.methodLink "SheetBranches" (346 : Nat) ({ cls := "SheetBranches$Values", name := "give", desc := "(ILSheetBranches$Worth;)V" } : Jvm.MethodName)) ∈ lw_all := lw_g (lw_at lw_m10 2 rfl) rfl
theorem q2383 : (Jvm.Cond.methodLink "SheetBranches" (350 : Nat) ({ cls := "SheetBranches", name := "rankOf", desc := "(I)I" } : Jvm.MethodName)) ∈ lw_all := lw_g (lw_at lw_m10 3 rfl) rfl
theorem q2384 : (Jvm.Cond.static ({ cls := "SheetBranches", name := "rankOf", desc := "(I)I" } : Jvm.MethodName)) ∈ lw_all := lw_g (lw_at lw_m10 4 rfl) rfl
theorem q2385 : (Jvm.Cond.code ({ cls := "SheetBranches", name := "rankOf", desc := "(I)I" } : Jvm.MethodName) prog_1_method_28_code (1 : Nat) (Option.some Jvm.ClassFile.FieldType.int)) ∈ lw_all := lw_g (lw_at lw_m10 5 rfl) rfl
theorem q2386 : (Jvm.Cond.methodLink "SheetBranches" (353 : Nat) ({ cls := "java/lang/Integer", name := "compare", desc := "(II)I" } : Jvm.MethodName)) ∈ lw_all := lw_g (lw_at lw_m10 6 rfl) rfl
theorem q2394 : (Jvm.Cond.instanceMethod ({ cls := "SheetBranches", name := "undo", desc := "()I" } : Jvm.MethodName)) ∈ lw_all := lw_g (lw_at lw_m10 14 rfl) rfl
theorem q2395 : (Jvm.Cond.selects "SheetBranches" ({ cls := "SheetBranches", name := "undo", desc := "()I" } : Jvm.MethodName) ({ cls := "SheetBranches", name := "undo", desc := "()I" } : Jvm.MethodName)) ∈ lw_all := lw_g (lw_at lw_m10 15 rfl) rfl
theorem q2396 : (Jvm.Cond.code ({ cls := "SheetBranches", name := "undo", desc := "()I" } : Jvm.MethodName) prog_1_method_15_code (1 : Nat) (Option.some Jvm.ClassFile.FieldType.int)) ∈ lw_all := lw_g (lw_at lw_m10 16 rfl) rfl
theorem q2397 : (Jvm.Cond.classLink "SheetBranches" (232 : Nat) "java/util/NoSuchElementException") ∈ lw_all := lw_g (lw_at lw_m10 17 rfl) rfl
theorem q2406 : (Jvm.Cond.methodLink "SheetBranches" (234 : Nat) ({ cls := "java/util/NoSuchElementException", name := "<init>", desc := "()V" } : Jvm.MethodName)) ∈ lw_all := lw_g (lw_at lw_m10 26 rfl) rfl
theorem q2416 : (Jvm.Cond.instanceMethod ({ cls := "SheetBranches", name := "redo", desc := "()I" } : Jvm.MethodName)) ∈ lw_all := lw_g (lw_at lw_m10 36 rfl) rfl
theorem q2417 : (Jvm.Cond.selects "SheetBranches" ({ cls := "SheetBranches", name := "redo", desc := "()I" } : Jvm.MethodName) ({ cls := "SheetBranches", name := "redo", desc := "()I" } : Jvm.MethodName)) ∈ lw_all := lw_g (lw_at lw_m10 37 rfl) rfl
theorem q2418 : (Jvm.Cond.code ({ cls := "SheetBranches", name := "redo", desc := "()I" } : Jvm.MethodName) prog_1_method_16_code (1 : Nat) (Option.some Jvm.ClassFile.FieldType.int)) ∈ lw_all := lw_g (lw_at lw_m10 38 rfl) rfl
theorem q2423 : (Jvm.Cond.instanceMethod ({ cls := "SheetBranches", name := "commit", desc := "()I" } : Jvm.MethodName)) ∈ lw_all := lw_g (lw_at lw_m10 43 rfl) rfl
theorem q2424 : (Jvm.Cond.selects "SheetBranches" ({ cls := "SheetBranches", name := "commit", desc := "()I" } : Jvm.MethodName) ({ cls := "SheetBranches", name := "commit", desc := "()I" } : Jvm.MethodName)) ∈ lw_all := lw_g (lw_at lw_m10 44 rfl) rfl
theorem q2425 : (Jvm.Cond.code ({ cls := "SheetBranches", name := "commit", desc := "()I" } : Jvm.MethodName) prog_1_method_31_code (4 : Nat) (Option.some Jvm.ClassFile.FieldType.int)) ∈ lw_all := lw_g (lw_at lw_m10 45 rfl) rfl
theorem q2426 : (Jvm.Cond.methodLink "SheetBranches" (369 : Nat) ({ cls := "SheetBranches$Values", name := "copy", desc := "(LSheetBranches$Values;)V" } : Jvm.MethodName)) ∈ lw_all := lw_g (lw_at lw_m10 46 rfl) rfl
theorem q2434 : (Jvm.Cond.instanceMethod ({ cls := "SheetBranches", name := "branch", desc := "(I)I" } : Jvm.MethodName)) ∈ lw_all := lw_g (lw_at lw_m10 54 rfl) rfl
theorem q2435 : (Jvm.Cond.selects "SheetBranches" ({ cls := "SheetBranches", name := "branch", desc := "(I)I" } : Jvm.MethodName) ({ cls := "SheetBranches", name := "branch", desc := "(I)I" } : Jvm.MethodName)) ∈ lw_all := lw_g (lw_at lw_m10 55 rfl) rfl
theorem q2436 : (Jvm.Cond.code ({ cls := "SheetBranches", name := "branch", desc := "(I)I" } : Jvm.MethodName) prog_1_method_33_code (2 : Nat) (Option.some Jvm.ClassFile.FieldType.int)) ∈ lw_all := lw_g (lw_at lw_m10 56 rfl) rfl
theorem q2437 : (Jvm.Cond.methodLink "SheetBranches" (375 : Nat) ({ cls := "SheetBranches", name := "isBranch", desc := "(I)Z" } : Jvm.MethodName)) ∈ lw_all := lw_g (lw_at lw_m10 57 rfl) rfl
theorem q2438 : (Jvm.Cond.static ({ cls := "SheetBranches", name := "isBranch", desc := "(I)Z" } : Jvm.MethodName)) ∈ lw_all := lw_g (lw_at lw_m10 58 rfl) rfl
theorem q2439 : (Jvm.Cond.code ({ cls := "SheetBranches", name := "isBranch", desc := "(I)Z" } : Jvm.MethodName) prog_1_method_32_code (1 : Nat) (Option.some Jvm.ClassFile.FieldType.boolean)) ∈ lw_all := lw_g (lw_at lw_m10 59 rfl) rfl
theorem q2444 : (Jvm.Cond.instanceMethod ({ cls := "SheetBranches", name := "go", desc := "(I)I" } : Jvm.MethodName)) ∈ lw_all := lw_g (lw_at lw_m10 64 rfl) rfl
theorem q2445 : (Jvm.Cond.selects "SheetBranches" ({ cls := "SheetBranches", name := "go", desc := "(I)I" } : Jvm.MethodName) ({ cls := "SheetBranches", name := "go", desc := "(I)I" } : Jvm.MethodName)) ∈ lw_all := lw_g (lw_at lw_m10 65 rfl) rfl
theorem q2446 : (Jvm.Cond.code ({ cls := "SheetBranches", name := "go", desc := "(I)I" } : Jvm.MethodName) prog_1_method_35_code (2 : Nat) (Option.some Jvm.ClassFile.FieldType.int)) ∈ lw_all := lw_g (lw_at lw_m10 66 rfl) rfl
theorem q2447 : (Jvm.Cond.methodLink "SheetBranches" (382 : Nat) ({ cls := "SheetBranches", name := "isBusy", desc := "()Z" } : Jvm.MethodName)) ∈ lw_all := lw_g (lw_at lw_m10 67 rfl) rfl
theorem q2448 : (Jvm.Cond.privateMethod ({ cls := "SheetBranches", name := "isBusy", desc := "()Z" } : Jvm.MethodName)) ∈ lw_tbl := lw_at lw_m10 68 rfl
theorem q2449 : (Jvm.Cond.instanceMethod ({ cls := "SheetBranches", name := "isBusy", desc := "()Z" } : Jvm.MethodName)) ∈ lw_all := lw_g (lw_at lw_m10 69 rfl) rfl
theorem q2450 : (Jvm.Cond.code ({ cls := "SheetBranches", name := "isBusy", desc := "()Z" } : Jvm.MethodName) prog_1_method_37_code (1 : Nat) (Option.some Jvm.ClassFile.FieldType.boolean)) ∈ lw_all := lw_g (lw_at lw_m10 70 rfl) rfl
theorem q2455 : (Jvm.Cond.instanceMethod ({ cls := "SheetBranches", name := "merge", desc := "(I)I" } : Jvm.MethodName)) ∈ lw_all := lw_g (lw_at lw_m10 75 rfl) rfl
theorem q2456 : (Jvm.Cond.selects "SheetBranches" ({ cls := "SheetBranches", name := "merge", desc := "(I)I" } : Jvm.MethodName) ({ cls := "SheetBranches", name := "merge", desc := "(I)I" } : Jvm.MethodName)) ∈ lw_all := lw_g (lw_at lw_m10 76 rfl) rfl
theorem q2457 : (Jvm.Cond.code ({ cls := "SheetBranches", name := "merge", desc := "(I)I" } : Jvm.MethodName) prog_1_method_39_code (4 : Nat) (Option.some Jvm.ClassFile.FieldType.int)) ∈ lw_all := lw_g (lw_at lw_m10 77 rfl) rfl
theorem q2458 : (Jvm.Cond.methodLink "SheetBranches" (408 : Nat) ({ cls := "SheetBranches", name := "base", desc := "(II)I" } : Jvm.MethodName)) ∈ lw_all := lw_g (lw_at lw_m10 78 rfl) rfl
theorem q2459 : (Jvm.Cond.methodLink "SheetBranches" (411 : Nat) ({ cls := "SheetBranches", name := "weave", desc := "(LSheetBranches$Sheet;LSheetBranches$Sheet;)I" } : Jvm.MethodName)) ∈ lw_all := lw_g (lw_at lw_m10 79 rfl) rfl
theorem q2460 : (Jvm.Cond.privateMethod ({ cls := "SheetBranches", name := "weave", desc := "(LSheetBranches$Sheet;LSheetBranches$Sheet;)I" } : Jvm.MethodName)) ∈ lw_tbl := lw_at lw_m10 80 rfl
theorem q2461 : (Jvm.Cond.instanceMethod ({ cls := "SheetBranches", name := "weave", desc := "(LSheetBranches$Sheet;LSheetBranches$Sheet;)I" } : Jvm.MethodName)) ∈ lw_all := lw_g (lw_at lw_m10 81 rfl) rfl
theorem q2462 : (Jvm.Cond.code ({ cls := "SheetBranches", name := "weave", desc := "(LSheetBranches$Sheet;LSheetBranches$Sheet;)I" } : Jvm.MethodName) prog_1_method_38_code (4 : Nat) (Option.some Jvm.ClassFile.FieldType.int)) ∈ lw_all := lw_g (lw_at lw_m10 82 rfl) rfl
theorem q2463 : (Jvm.Cond.classLink "SheetBranches" (392 : Nat) "SheetBranches$Weaver") ∈ lw_all := lw_g (lw_at lw_m10 83 rfl) rfl
theorem q2465 : (Jvm.Cond.methodLink "SheetBranches" (394 : Nat) ({ cls := "SheetBranches$Weaver", name := "<init>", desc := "(LSheetBranches$Sheet;LSheetBranches$Sheet;LSheetBranches$Sheet;)V" } : Jvm.MethodName)) ∈ lw_all := lw_g (lw_at lw_m10 85 rfl) rfl
theorem q2474 : (Jvm.Cond.fieldLinkNest "SheetBranches" (400 : Nat) "SheetBranches$Weaver" "woven" "LSheetBranches$Sheet;" "SheetBranches") ∈ lw_tbl := lw_at lw_m10 94 rfl
theorem q2476 : (Jvm.Cond.fieldLinkNest "SheetBranches" (403 : Nat) "SheetBranches$Weaver" "conflicts" "[LSheetBranches$Conflict;" "SheetBranches") ∈ lw_tbl := lw_at lw_m10 96 rfl
theorem q2478 : (Jvm.Cond.fieldLinkNest "SheetBranches" (404 : Nat) "SheetBranches$Weaver" "many" "I" "SheetBranches") ∈ lw_tbl := lw_at lw_m10 98 rfl
theorem q2492 : (Jvm.Cond.methodLink "SheetBranches" (397 : Nat) ({ cls := "SheetBranches$Weaver", name := "weave", desc := "()Z" } : Jvm.MethodName)) ∈ lw_all := lw_g (lw_at lw_m10 112 rfl) rfl
theorem q2542 : (Jvm.Cond.fieldLinkNest "SheetBranches" (417 : Nat) "SheetBranches$Conflict" "kind" "I" "SheetBranches") ∈ lw_tbl := lw_at lw_m10 162 rfl
theorem q2544 : (Jvm.Cond.fieldLinkNest "SheetBranches" (418 : Nat) "SheetBranches$Conflict" "row" "I" "SheetBranches") ∈ lw_tbl := lw_at lw_m10 164 rfl
theorem q2546 : (Jvm.Cond.fieldLinkNest "SheetBranches" (423 : Nat) "SheetBranches$Conflict" "column" "I" "SheetBranches") ∈ lw_tbl := lw_at lw_m10 166 rfl
theorem q2548 : (Jvm.Cond.fieldLinkNest "SheetBranches" (434 : Nat) "SheetBranches$Conflict" "inOurs" "Z" "SheetBranches") ∈ lw_tbl := lw_at lw_m10 168 rfl
theorem q2550 : (Jvm.Cond.fieldLinkNest "SheetBranches" (431 : Nat) "SheetBranches$Conflict" "mine" "LSheetBranches$Content;" "SheetBranches") ∈ lw_tbl := lw_at lw_m10 170 rfl
theorem q2552 : (Jvm.Cond.fieldLinkNest "SheetBranches" (428 : Nat) "SheetBranches$Conflict" "theirs" "LSheetBranches$Content;" "SheetBranches") ∈ lw_tbl := lw_at lw_m10 172 rfl
theorem q2579 : (Jvm.Cond.instanceMethod ({ cls := "SheetBranches", name := "pick", desc := "(I)I" } : Jvm.MethodName)) ∈ lw_all := lw_g (lw_at lw_m10 199 rfl) rfl
theorem q2580 : (Jvm.Cond.selects "SheetBranches" ({ cls := "SheetBranches", name := "pick", desc := "(I)I" } : Jvm.MethodName) ({ cls := "SheetBranches", name := "pick", desc := "(I)I" } : Jvm.MethodName)) ∈ lw_all := lw_g (lw_at lw_m10 200 rfl) rfl
theorem q2581 : (Jvm.Cond.code ({ cls := "SheetBranches", name := "pick", desc := "(I)I" } : Jvm.MethodName) prog_1_method_40_code (2 : Nat) (Option.some Jvm.ClassFile.FieldType.int)) ∈ lw_all := lw_g (lw_at lw_m10 201 rfl) rfl
theorem q2586 : (Jvm.Cond.instanceMethod ({ cls := "SheetBranches", name := "choose", desc := "(IZ)I" } : Jvm.MethodName)) ∈ lw_all := lw_g (lw_at lw_m10 206 rfl) rfl
theorem q2587 : (Jvm.Cond.selects "SheetBranches" ({ cls := "SheetBranches", name := "choose", desc := "(IZ)I" } : Jvm.MethodName) ({ cls := "SheetBranches", name := "choose", desc := "(IZ)I" } : Jvm.MethodName)) ∈ lw_all := lw_g (lw_at lw_m10 207 rfl) rfl
theorem q2588 : (Jvm.Cond.code ({ cls := "SheetBranches", name := "choose", desc := "(IZ)I" } : Jvm.MethodName) prog_1_method_43_code (6 : Nat) (Option.some Jvm.ClassFile.FieldType.int)) ∈ lw_all := lw_g (lw_at lw_m10 208 rfl) rfl
theorem q2589 : (Jvm.Cond.methodLinkNest "SheetBranches" (437 : Nat) ({ cls := "SheetBranches$Sheet", name := "placeOf", desc := "([II)I" } : Jvm.MethodName) "SheetBranches") ∈ lw_tbl := lw_at lw_m10 209 rfl
theorem q2594 : (Jvm.Cond.instanceMethod ({ cls := "SheetBranches", name := "diff", desc := "(II)I" } : Jvm.MethodName)) ∈ lw_all := lw_g (lw_at lw_m10 214 rfl) rfl
theorem q2595 : (Jvm.Cond.selects "SheetBranches" ({ cls := "SheetBranches", name := "diff", desc := "(II)I" } : Jvm.MethodName) ({ cls := "SheetBranches", name := "diff", desc := "(II)I" } : Jvm.MethodName)) ∈ lw_all := lw_g (lw_at lw_m10 215 rfl) rfl
theorem q2596 : (Jvm.Cond.code ({ cls := "SheetBranches", name := "diff", desc := "(II)I" } : Jvm.MethodName) prog_1_method_48_code (9 : Nat) (Option.some Jvm.ClassFile.FieldType.int)) ∈ lw_all := lw_g (lw_at lw_m10 216 rfl) rfl
theorem q2597 : (Jvm.Cond.methodLink "SheetBranches" (458 : Nat) ({ cls := "SheetBranches", name := "differAlone", desc := "(LSheetBranches$Sheet;LSheetBranches$Sheet;II)V" } : Jvm.MethodName)) ∈ lw_all := lw_g (lw_at lw_m10 217 rfl) rfl
theorem q2598 : (Jvm.Cond.privateMethod ({ cls := "SheetBranches", name := "differAlone", desc := "(LSheetBranches$Sheet;LSheetBranches$Sheet;II)V" } : Jvm.MethodName)) ∈ lw_tbl := lw_at lw_m10 218 rfl
theorem q2599 : (Jvm.Cond.instanceMethod ({ cls := "SheetBranches", name := "differAlone", desc := "(LSheetBranches$Sheet;LSheetBranches$Sheet;II)V" } : Jvm.MethodName)) ∈ lw_all := lw_g (lw_at lw_m10 219 rfl) rfl
theorem q2600 : (Jvm.Cond.code ({ cls := "SheetBranches", name := "differAlone", desc := "(LSheetBranches$Sheet;LSheetBranches$Sheet;II)V" } : Jvm.MethodName) prog_1_method_46_code (7 : Nat) (Option.none : Option Jvm.ClassFile.FieldType)) ∈ lw_all := lw_g (lw_at lw_m10 220 rfl) rfl
theorem q2601 : (Jvm.Cond.methodLink "SheetBranches" (450 : Nat) ({ cls := "SheetBranches", name := "differ", desc := "(III)V" } : Jvm.MethodName)) ∈ lw_all := lw_g (lw_at lw_m10 221 rfl) rfl
theorem q2602 : (Jvm.Cond.privateMethod ({ cls := "SheetBranches", name := "differ", desc := "(III)V" } : Jvm.MethodName)) ∈ lw_tbl := lw_at lw_m10 222 rfl
theorem q2603 : (Jvm.Cond.instanceMethod ({ cls := "SheetBranches", name := "differ", desc := "(III)V" } : Jvm.MethodName)) ∈ lw_all := lw_g (lw_at lw_m10 223 rfl) rfl
theorem q2604 : (Jvm.Cond.code ({ cls := "SheetBranches", name := "differ", desc := "(III)V" } : Jvm.MethodName) prog_1_method_45_code (4 : Nat) (Option.none : Option Jvm.ClassFile.FieldType)) ∈ lw_all := lw_g (lw_at lw_m10 224 rfl) rfl
theorem q2605 : (Jvm.Cond.methodLink "SheetBranches" (462 : Nat) ({ cls := "SheetBranches", name := "differInOrder", desc := "(LSheetBranches$Sheet;LSheetBranches$Sheet;I)V" } : Jvm.MethodName)) ∈ lw_all := lw_g (lw_at lw_m10 225 rfl) rfl
theorem q2606 : (Jvm.Cond.privateMethod ({ cls := "SheetBranches", name := "differInOrder", desc := "(LSheetBranches$Sheet;LSheetBranches$Sheet;I)V" } : Jvm.MethodName)) ∈ lw_tbl := lw_at lw_m10 226 rfl
theorem q2607 : (Jvm.Cond.instanceMethod ({ cls := "SheetBranches", name := "differInOrder", desc := "(LSheetBranches$Sheet;LSheetBranches$Sheet;I)V" } : Jvm.MethodName)) ∈ lw_all := lw_g (lw_at lw_m10 227 rfl) rfl
theorem q2608 : (Jvm.Cond.code ({ cls := "SheetBranches", name := "differInOrder", desc := "(LSheetBranches$Sheet;LSheetBranches$Sheet;I)V" } : Jvm.MethodName) prog_1_method_47_code (8 : Nat) (Option.none : Option Jvm.ClassFile.FieldType)) ∈ lw_all := lw_g (lw_at lw_m10 228 rfl) rfl
theorem q2609 : (Jvm.Cond.methodLink "SheetBranches" (466 : Nat) ({ cls := "SheetBranches", name := "isAlike", desc := "(LSheetBranches$Content;LSheetBranches$Content;)Z" } : Jvm.MethodName)) ∈ lw_all := lw_g (lw_at lw_m10 229 rfl) rfl
theorem q2614 : (Jvm.Cond.instanceMethod ({ cls := "SheetBranches", name := "blame", desc := "(II)I" } : Jvm.MethodName)) ∈ lw_all := lw_g (lw_at lw_m10 234 rfl) rfl
theorem q2615 : (Jvm.Cond.selects "SheetBranches" ({ cls := "SheetBranches", name := "blame", desc := "(II)I" } : Jvm.MethodName) ({ cls := "SheetBranches", name := "blame", desc := "(II)I" } : Jvm.MethodName)) ∈ lw_all := lw_g (lw_at lw_m10 235 rfl) rfl
theorem q2616 : (Jvm.Cond.code ({ cls := "SheetBranches", name := "blame", desc := "(II)I" } : Jvm.MethodName) prog_1_method_51_code (10 : Nat) (Option.some Jvm.ClassFile.FieldType.int)) ∈ lw_all := lw_g (lw_at lw_m10 236 rfl) rfl
theorem q2617 : (Jvm.Cond.methodLink "SheetBranches" (473 : Nat) ({ cls := "SheetBranches", name := "has", desc := "(IIILSheetBranches$Content;)Z" } : Jvm.MethodName)) ∈ lw_all := lw_g (lw_at lw_m10 237 rfl) rfl
theorem q2618 : (Jvm.Cond.privateMethod ({ cls := "SheetBranches", name := "has", desc := "(IIILSheetBranches$Content;)Z" } : Jvm.MethodName)) ∈ lw_tbl := lw_at lw_m10 238 rfl
theorem q2619 : (Jvm.Cond.instanceMethod ({ cls := "SheetBranches", name := "has", desc := "(IIILSheetBranches$Content;)Z" } : Jvm.MethodName)) ∈ lw_all := lw_g (lw_at lw_m10 239 rfl) rfl
theorem q2620 : (Jvm.Cond.code ({ cls := "SheetBranches", name := "has", desc := "(IIILSheetBranches$Content;)Z" } : Jvm.MethodName) prog_1_method_50_code (6 : Nat) (Option.some Jvm.ClassFile.FieldType.boolean)) ∈ lw_all := lw_g (lw_at lw_m11 0 rfl) rfl
theorem q2621 : (Jvm.Cond.methodLink "SheetBranches" (469 : Nat) ({ cls := "SheetBranches$Sheet", name := "of", desc := "(II)LSheetBranches$Content;" } : Jvm.MethodName)) ∈ lw_all := lw_g (lw_at lw_m11 1 rfl) rfl
theorem q3753 : (Jvm.Cond.castable "SheetBranches" "java/lang/Object") ∈ lw_tbl := lw_at lw_m15 173 rfl
theorem q3796 : (Jvm.Cond.fieldLinkNest "SheetBranches" (9 : Nat) "SheetBranches$Sign" "rank" "I" "SheetBranches") ∈ lw_tbl := lw_at lw_m15 216 rfl
theorem in_X1 : ∀ w ∈ wsX10, w ∈ lw_all := lw_in wsX10 [677, 679, 681, 683, 685, 687, 689, 691, 693, 695, 697, 699, 701, 703, 705, 707, 709, 711, 713, 715, 717, 719, 721, 723, 725, 727, 729, 731, 733, 735, 737, 739] (by decide +kernel) (by decide +kernel)
/-! the law's own entry -/
set_option maxRecDepth 100000
abbrev cL_law : ByteArray := code
def dkwL_law_76 : List UInt8 := [182, 0, 200, 159, 0, 5, 3, 172, 132, 4, 7, 167, 248, 184, 4, 172]
abbrev dktL_law_76 : List UInt8 := dkwL_law_76 ++ []
def dkwL_law_75 : List UInt8 := [159, 0, 30, 3, 172, 43, 42, 21, 4, 4, 96, 46, 182, 0, 197, 44, 42, 21, 4, 4, 96, 46]
abbrev dktL_law_75 : List UInt8 := dkwL_law_75 ++ dktL_law_76
def dkwL_law_74 : List UInt8 := [4, 96, 46, 42, 21, 4, 5, 96, 46, 42, 21, 4, 6, 96, 46, 42, 21, 4, 7, 96, 46, 182, 0, 196]
abbrev dktL_law_74 : List UInt8 := dkwL_law_74 ++ dktL_law_75
def dkwL_law_73 : List UInt8 := [21, 4, 5, 96, 46, 42, 21, 4, 6, 96, 46, 42, 21, 4, 7, 96, 46, 182, 0, 193, 44, 42, 21, 4]
abbrev dktL_law_73 : List UInt8 := dkwL_law_73 ++ dktL_law_74
def dkwL_law_72 : List UInt8 := [46, 42, 21, 4, 7, 96, 46, 182, 0, 192, 159, 0, 91, 3, 172, 43, 42, 21, 4, 4, 96, 46, 42]
abbrev dktL_law_72 : List UInt8 := dkwL_law_72 ++ dktL_law_73
def dkwL_law_71 : List UInt8 := [7, 96, 46, 182, 0, 189, 44, 42, 21, 4, 4, 96, 46, 42, 21, 4, 5, 96, 46, 42, 21, 4, 6, 96]
abbrev dktL_law_71 : List UInt8 := dkwL_law_71 ++ dktL_law_72
def dkwL_law_70 : List UInt8 := [3, 172, 43, 42, 21, 4, 4, 96, 46, 42, 21, 4, 5, 96, 46, 42, 21, 4, 6, 96, 46, 42, 21, 4]
abbrev dktL_law_70 : List UInt8 := dkwL_law_70 ++ dktL_law_71
def dkwL_law_69 : List UInt8 := [21, 4, 4, 96, 46, 42, 21, 4, 5, 96, 46, 42, 21, 4, 6, 96, 46, 182, 0, 188, 148, 153, 0, 152]
abbrev dktL_law_69 : List UInt8 := dkwL_law_69 ++ dktL_law_70
def dkwL_law_68 : List UInt8 := [42, 21, 4, 4, 96, 46, 42, 21, 4, 5, 96, 46, 42, 21, 4, 6, 96, 46, 182, 0, 184, 44, 42]
abbrev dktL_law_68 : List UInt8 := dkwL_law_68 ++ dktL_law_69
def dkwL_law_67 : List UInt8 := [4, 96, 46, 42, 21, 4, 5, 96, 46, 42, 21, 4, 6, 96, 46, 182, 0, 183, 159, 0, 202, 3, 172, 43]
abbrev dktL_law_67 : List UInt8 := dkwL_law_67 ++ dktL_law_68
def dkwL_law_66 : List UInt8 := [21, 4, 4, 96, 46, 42, 21, 4, 5, 96, 46, 42, 21, 4, 6, 96, 46, 182, 0, 180, 44, 42, 21, 4]
abbrev dktL_law_66 : List UInt8 := dkwL_law_66 ++ dktL_law_67
def dkwL_law_65 : List UInt8 := [44, 42, 21, 4, 4, 96, 46, 42, 21, 4, 5, 96, 46, 182, 0, 179, 159, 0, 251, 3, 172, 43, 42]
abbrev dktL_law_65 : List UInt8 := dkwL_law_65 ++ dktL_law_66
def dkwL_law_64 : List UInt8 := [153, 0, 5, 3, 172, 167, 1, 30, 43, 42, 21, 4, 4, 96, 46, 42, 21, 4, 5, 96, 46, 182, 0, 176]
abbrev dktL_law_64 : List UInt8 := dkwL_law_64 ++ dktL_law_65
def dkwL_law_63 : List UInt8 := [44, 182, 0, 98, 21, 5, 159, 0, 5, 3, 172, 21, 5, 154, 0, 15, 45, 3, 47, 21, 6, 133, 148]
abbrev dktL_law_63 : List UInt8 := dkwL_law_63 ++ dktL_law_64
def dkwL_law_62 : List UInt8 := [45, 184, 0, 173, 54, 5, 44, 42, 21, 4, 4, 96, 46, 42, 21, 4, 5, 96, 46, 182, 0, 175, 54, 6]
abbrev dktL_law_62 : List UInt8 := dkwL_law_62 ++ dktL_law_63
def dkwL_law_61 : List UInt8 := [5, 96, 46, 182, 0, 172, 159, 1, 100, 3, 172, 43, 42, 21, 4, 4, 96, 46, 42, 21, 4, 5, 96, 46]
abbrev dktL_law_61 : List UInt8 := dkwL_law_61 ++ dktL_law_62
def dkwL_law_60 : List UInt8 := [21, 4, 4, 96, 46, 42, 21, 4, 5, 96, 46, 182, 0, 169, 44, 42, 21, 4, 4, 96, 46, 42, 21, 4]
abbrev dktL_law_60 : List UInt8 := dkwL_law_60 ++ dktL_law_61
def dkwL_law_59 : List UInt8 := [172, 21, 5, 154, 0, 15, 45, 3, 47, 21, 6, 133, 148, 153, 0, 5, 3, 172, 167, 1, 135, 43, 42]
abbrev dktL_law_59 : List UInt8 := dkwL_law_59 ++ dktL_law_60
def dkwL_law_58 : List UInt8 := [4, 96, 46, 42, 21, 4, 5, 96, 46, 182, 0, 168, 54, 6, 44, 182, 0, 98, 21, 5, 159, 0, 5, 3]
abbrev dktL_law_58 : List UInt8 := dkwL_law_58 ++ dktL_law_59
def dkwL_law_57 : List UInt8 := [172, 43, 42, 21, 4, 4, 96, 46, 42, 21, 4, 5, 96, 46, 45, 184, 0, 166, 54, 5, 44, 42, 21, 4]
abbrev dktL_law_57 : List UInt8 := dkwL_law_57 ++ dktL_law_58
def dkwL_law_56 : List UInt8 := [46, 182, 0, 162, 44, 42, 21, 4, 4, 96, 46, 42, 21, 4, 5, 96, 46, 182, 0, 165, 159, 1, 205, 3]
abbrev dktL_law_56 : List UInt8 := dkwL_law_56 ++ dktL_law_57
def dkwL_law_55 : List UInt8 := [21, 6, 133, 148, 153, 0, 5, 3, 172, 167, 1, 240, 43, 42, 21, 4, 4, 96, 46, 42, 21, 4, 5, 96]
abbrev dktL_law_55 : List UInt8 := dkwL_law_55 ++ dktL_law_56
def dkwL_law_54 : List UInt8 := [182, 0, 161, 54, 6, 44, 182, 0, 98, 21, 5, 159, 0, 5, 3, 172, 21, 5, 154, 0, 15, 45, 3, 47]
abbrev dktL_law_54 : List UInt8 := dkwL_law_54 ++ dktL_law_55
def dkwL_law_53 : List UInt8 := [54, 5, 44, 42, 21, 4, 4, 96, 46, 42, 21, 4, 5, 96, 46, 153, 0, 7, 4, 167, 0, 4, 3]
abbrev dktL_law_53 : List UInt8 := dkwL_law_53 ++ dktL_law_54
def dkwL_law_52 : List UInt8 := [21, 4, 4, 96, 46, 42, 21, 4, 5, 96, 46, 153, 0, 7, 4, 167, 0, 4, 3, 45, 184, 0, 158]
abbrev dktL_law_52 : List UInt8 := dkwL_law_52 ++ dktL_law_53
def dkwL_law_51 : List UInt8 := [44, 42, 21, 4, 4, 96, 46, 42, 21, 4, 5, 96, 46, 182, 0, 157, 159, 2, 70, 3, 172, 43, 42]
abbrev dktL_law_51 : List UInt8 := dkwL_law_51 ++ dktL_law_52
def dkwL_law_50 : List UInt8 := [153, 0, 5, 3, 172, 167, 2, 105, 43, 42, 21, 4, 4, 96, 46, 42, 21, 4, 5, 96, 46, 182, 0, 154]
abbrev dktL_law_50 : List UInt8 := dkwL_law_50 ++ dktL_law_51
def dkwL_law_49 : List UInt8 := [182, 0, 98, 21, 5, 159, 0, 5, 3, 172, 21, 5, 154, 0, 15, 45, 3, 47, 21, 6, 133, 148]
abbrev dktL_law_49 : List UInt8 := dkwL_law_49 ++ dktL_law_50
def dkwL_law_48 : List UInt8 := [21, 4, 4, 96, 46, 45, 184, 0, 151, 54, 5, 44, 42, 21, 4, 4, 96, 46, 182, 0, 153, 54, 6, 44]
abbrev dktL_law_48 : List UInt8 := dkwL_law_48 ++ dktL_law_49
def dkwL_law_47 : List UInt8 := [172, 21, 5, 154, 0, 15, 45, 3, 47, 21, 6, 133, 148, 153, 0, 5, 3, 172, 167, 2, 161, 43, 42]
abbrev dktL_law_47 : List UInt8 := dkwL_law_47 ++ dktL_law_48
def dkwL_law_46 : List UInt8 := [54, 5, 44, 42, 21, 4, 4, 96, 46, 182, 0, 150, 54, 6, 44, 182, 0, 98, 21, 5, 159, 0, 5, 3]
abbrev dktL_law_46 : List UInt8 := dkwL_law_46 ++ dktL_law_47
def dkwL_law_45 : List UInt8 := [182, 0, 144, 44, 182, 0, 147, 159, 2, 219, 3, 172, 43, 42, 21, 4, 4, 96, 46, 45, 184, 0, 148]
abbrev dktL_law_45 : List UInt8 := dkwL_law_45 ++ dktL_law_46
def dkwL_law_44 : List UInt8 := [172, 21, 5, 154, 0, 15, 45, 3, 47, 21, 6, 133, 148, 153, 0, 5, 3, 172, 167, 2, 230, 43]
abbrev dktL_law_44 : List UInt8 := dkwL_law_44 ++ dktL_law_45
def dkwL_law_43 : List UInt8 := [54, 5, 44, 42, 21, 4, 4, 96, 46, 182, 0, 143, 54, 6, 44, 182, 0, 98, 21, 5, 159, 0, 5, 3]
abbrev dktL_law_43 : List UInt8 := dkwL_law_43 ++ dktL_law_44
def dkwL_law_42 : List UInt8 := [21, 6, 133, 148, 153, 0, 5, 3, 172, 167, 3, 30, 43, 42, 21, 4, 4, 96, 46, 45, 184, 0, 141]
abbrev dktL_law_42 : List UInt8 := dkwL_law_42 ++ dktL_law_43
def dkwL_law_41 : List UInt8 := [182, 0, 140, 54, 6, 44, 182, 0, 98, 21, 5, 159, 0, 5, 3, 172, 21, 5, 154, 0, 15, 45, 3, 47]
abbrev dktL_law_41 : List UInt8 := dkwL_law_41 ++ dktL_law_42
def dkwL_law_40 : List UInt8 := [167, 3, 86, 43, 42, 21, 4, 4, 96, 46, 45, 184, 0, 137, 54, 5, 44, 42, 21, 4, 4, 96, 46]
abbrev dktL_law_40 : List UInt8 := dkwL_law_40 ++ dktL_law_41
def dkwL_law_39 : List UInt8 := [159, 0, 5, 3, 172, 21, 5, 154, 0, 15, 45, 3, 47, 21, 6, 133, 148, 153, 0, 5, 3, 172]
abbrev dktL_law_39 : List UInt8 := dkwL_law_39 ++ dktL_law_40
def dkwL_law_38 : List UInt8 := [167, 3, 130, 43, 45, 184, 0, 134, 54, 5, 44, 182, 0, 136, 54, 6, 44, 182, 0, 98, 21, 5]
abbrev dktL_law_38 : List UInt8 := dkwL_law_38 ++ dktL_law_39
def dkwL_law_37 : List UInt8 := [159, 0, 5, 3, 172, 21, 5, 154, 0, 15, 45, 3, 47, 21, 6, 133, 148, 153, 0, 5, 3, 172]
abbrev dktL_law_37 : List UInt8 := dkwL_law_37 ++ dktL_law_38
def dkwL_law_36 : List UInt8 := [167, 3, 174, 43, 45, 184, 0, 131, 54, 5, 44, 182, 0, 133, 54, 6, 44, 182, 0, 98, 21, 5]
abbrev dktL_law_36 : List UInt8 := dkwL_law_36 ++ dktL_law_37
def dkwL_law_35 : List UInt8 := [159, 0, 5, 3, 172, 21, 5, 154, 0, 15, 45, 3, 47, 21, 6, 133, 148, 153, 0, 5, 3, 172]
abbrev dktL_law_35 : List UInt8 := dkwL_law_35 ++ dktL_law_36
def dkwL_law_34 : List UInt8 := [167, 3, 218, 43, 45, 184, 0, 127, 54, 5, 44, 182, 0, 130, 54, 6, 44, 182, 0, 98, 21, 5]
abbrev dktL_law_34 : List UInt8 := dkwL_law_34 ++ dktL_law_35
def dkwL_law_33 : List UInt8 := [21, 5, 159, 0, 5, 3, 172, 21, 5, 154, 0, 15, 45, 3, 47, 21, 6, 133, 148, 153, 0, 5, 3, 172]
abbrev dktL_law_33 : List UInt8 := dkwL_law_33 ++ dktL_law_34
def dkwL_law_32 : List UInt8 := [42, 21, 4, 7, 96, 46, 153, 0, 7, 4, 167, 0, 4, 3, 182, 0, 126, 54, 6, 44, 182, 0, 98]
abbrev dktL_law_32 : List UInt8 := dkwL_law_32 ++ dktL_law_33
def dkwL_law_31 : List UInt8 := [184, 0, 123, 54, 5, 44, 42, 21, 4, 4, 96, 46, 42, 21, 4, 5, 96, 46, 42, 21, 4, 6, 96, 46]
abbrev dktL_law_31 : List UInt8 := dkwL_law_31 ++ dktL_law_32
def dkwL_law_30 : List UInt8 := [46, 42, 21, 4, 6, 96, 46, 42, 21, 4, 7, 96, 46, 153, 0, 7, 4, 167, 0, 4, 3, 45]
abbrev dktL_law_30 : List UInt8 := dkwL_law_30 ++ dktL_law_31
def dkwL_law_29 : List UInt8 := [21, 6, 133, 148, 153, 0, 5, 3, 172, 167, 4, 70, 43, 42, 21, 4, 4, 96, 46, 42, 21, 4, 5, 96]
abbrev dktL_law_29 : List UInt8 := dkwL_law_29 ++ dktL_law_30
def dkwL_law_28 : List UInt8 := [182, 0, 122, 54, 6, 44, 182, 0, 98, 21, 5, 159, 0, 5, 3, 172, 21, 5, 154, 0, 15, 45, 3, 47]
abbrev dktL_law_28 : List UInt8 := dkwL_law_28 ++ dktL_law_29
def dkwL_law_27 : List UInt8 := [6, 96, 46, 42, 21, 4, 7, 96, 46, 42, 21, 4, 8, 96, 46, 42, 21, 4, 16, 6, 96, 46]
abbrev dktL_law_27 : List UInt8 := dkwL_law_27 ++ dktL_law_28
def dkwL_law_26 : List UInt8 := [96, 46, 45, 184, 0, 119, 54, 5, 44, 42, 21, 4, 4, 96, 46, 42, 21, 4, 5, 96, 46, 42, 21, 4]
abbrev dktL_law_26 : List UInt8 := dkwL_law_26 ++ dktL_law_27
def dkwL_law_25 : List UInt8 := [46, 42, 21, 4, 6, 96, 46, 42, 21, 4, 7, 96, 46, 42, 21, 4, 8, 96, 46, 42, 21, 4, 16, 6]
abbrev dktL_law_25 : List UInt8 := dkwL_law_25 ++ dktL_law_26
def dkwL_law_24 : List UInt8 := [21, 6, 133, 148, 153, 0, 5, 3, 172, 167, 4, 188, 43, 42, 21, 4, 4, 96, 46, 42, 21, 4, 5, 96]
abbrev dktL_law_24 : List UInt8 := dkwL_law_24 ++ dktL_law_25
def dkwL_law_23 : List UInt8 := [182, 0, 118, 54, 6, 44, 182, 0, 98, 21, 5, 159, 0, 5, 3, 172, 21, 5, 154, 0, 15, 45, 3, 47]
abbrev dktL_law_23 : List UInt8 := dkwL_law_23 ++ dktL_law_24
def dkwL_law_22 : List UInt8 := [184, 0, 115, 54, 5, 44, 42, 21, 4, 4, 96, 46, 42, 21, 4, 5, 96, 46, 42, 21, 4, 6, 96, 46]
abbrev dktL_law_22 : List UInt8 := dkwL_law_22 ++ dktL_law_23
def dkwL_law_21 : List UInt8 := [167, 5, 12, 43, 42, 21, 4, 4, 96, 46, 42, 21, 4, 5, 96, 46, 42, 21, 4, 6, 96, 46, 45]
abbrev dktL_law_21 : List UInt8 := dkwL_law_21 ++ dktL_law_22
def dkwL_law_20 : List UInt8 := [159, 0, 5, 3, 172, 21, 5, 154, 0, 15, 45, 3, 47, 21, 6, 133, 148, 153, 0, 5, 3, 172]
abbrev dktL_law_20 : List UInt8 := dkwL_law_20 ++ dktL_law_21
def dkwL_law_19 : List UInt8 := [21, 4, 4, 96, 46, 42, 21, 4, 5, 96, 46, 182, 0, 114, 54, 6, 44, 182, 0, 98, 21, 5]
abbrev dktL_law_19 : List UInt8 := dkwL_law_19 ++ dktL_law_20
def dkwL_law_18 : List UInt8 := [167, 5, 80, 43, 42, 21, 4, 4, 96, 46, 42, 21, 4, 5, 96, 46, 45, 184, 0, 112, 54, 5, 44, 42]
abbrev dktL_law_18 : List UInt8 := dkwL_law_18 ++ dktL_law_19
def dkwL_law_17 : List UInt8 := [159, 0, 5, 3, 172, 21, 5, 154, 0, 15, 45, 3, 47, 21, 6, 133, 148, 153, 0, 5, 3, 172]
abbrev dktL_law_17 : List UInt8 := dkwL_law_17 ++ dktL_law_18
def dkwL_law_16 : List UInt8 := [21, 4, 4, 96, 46, 42, 21, 4, 5, 96, 46, 182, 0, 111, 54, 6, 44, 182, 0, 98, 21, 5]
abbrev dktL_law_16 : List UInt8 := dkwL_law_16 ++ dktL_law_17
def dkwL_law_15 : List UInt8 := [167, 5, 148, 43, 42, 21, 4, 4, 96, 46, 42, 21, 4, 5, 96, 46, 45, 184, 0, 109, 54, 5, 44, 42]
abbrev dktL_law_15 : List UInt8 := dkwL_law_15 ++ dktL_law_16
def dkwL_law_14 : List UInt8 := [159, 0, 5, 3, 172, 21, 5, 154, 0, 15, 45, 3, 47, 21, 6, 133, 148, 153, 0, 5, 3, 172]
abbrev dktL_law_14 : List UInt8 := dkwL_law_14 ++ dktL_law_15
def dkwL_law_13 : List UInt8 := [46, 42, 21, 4, 6, 96, 46, 42, 21, 4, 7, 96, 46, 182, 0, 108, 54, 6, 44, 182, 0, 98, 21, 5]
abbrev dktL_law_13 : List UInt8 := dkwL_law_13 ++ dktL_law_14
def dkwL_law_12 : List UInt8 := [42, 21, 4, 7, 96, 46, 45, 184, 0, 105, 54, 5, 44, 42, 21, 4, 4, 96, 46, 42, 21, 4, 5, 96]
abbrev dktL_law_12 : List UInt8 := dkwL_law_12 ++ dktL_law_13
def dkwL_law_11 : List UInt8 := [159, 5, 242, 3, 172, 43, 42, 21, 4, 4, 96, 46, 42, 21, 4, 5, 96, 46, 42, 21, 4, 6, 96, 46]
abbrev dktL_law_11 : List UInt8 := dkwL_law_11 ++ dktL_law_12
def dkwL_law_10 : List UInt8 := [167, 6, 9, 43, 42, 21, 4, 4, 96, 46, 182, 0, 101, 44, 42, 21, 4, 4, 96, 46, 182, 0, 104]
abbrev dktL_law_10 : List UInt8 := dkwL_law_10 ++ dktL_law_11
def dkwL_law_9 : List UInt8 := [159, 0, 5, 3, 172, 21, 5, 154, 0, 15, 45, 3, 47, 21, 6, 133, 148, 153, 0, 5, 3, 172]
abbrev dktL_law_9 : List UInt8 := dkwL_law_9 ++ dktL_law_10
def dkwL_law_8 : List UInt8 := [21, 4, 4, 96, 46, 42, 21, 4, 5, 96, 46, 182, 0, 97, 54, 6, 44, 182, 0, 98, 21, 5]
abbrev dktL_law_8 : List UInt8 := dkwL_law_8 ++ dktL_law_9
def dkwL_law_7 : List UInt8 := [3, 172, 43, 42, 21, 4, 4, 96, 46, 42, 21, 4, 5, 96, 46, 45, 184, 0, 92, 54, 5, 44, 42]
abbrev dktL_law_7 : List UInt8 := dkwL_law_7 ++ dktL_law_8
def dkwL_law_6 : List UInt8 := [172, 43, 42, 21, 4, 4, 96, 46, 182, 0, 87, 44, 42, 21, 4, 4, 96, 46, 182, 0, 91, 159, 6, 79]
abbrev dktL_law_6 : List UInt8 := dkwL_law_6 ++ dktL_law_7
def dkwL_law_5 : List UInt8 := [21, 4, 6, 96, 46, 42, 21, 4, 7, 96, 46, 42, 21, 4, 8, 96, 46, 182, 0, 86, 159, 6, 104, 3]
abbrev dktL_law_5 : List UInt8 := dkwL_law_5 ++ dktL_law_6
def dkwL_law_4 : List UInt8 := [46, 42, 21, 4, 8, 96, 46, 182, 0, 82, 44, 42, 21, 4, 4, 96, 46, 42, 21, 4, 5, 96, 46, 42]
abbrev dktL_law_4 : List UInt8 := dkwL_law_4 ++ dktL_law_5
def dkwL_law_3 : List UInt8 := [43, 42, 21, 4, 4, 96, 46, 42, 21, 4, 5, 96, 46, 42, 21, 4, 6, 96, 46, 42, 21, 4, 7, 96]
abbrev dktL_law_3 : List UInt8 := dkwL_law_3 ++ dktL_law_4
def dkwL_law_2 : List UInt8 := [170, 0, 0, 0, 0, 0, 7, 52, 0, 0, 0, 0, 0, 0, 0, 29, 0, 0, 0, 136, 0, 0, 0, 209, 0, 0, 0, 234, 0, 0, 1, 46, 0, 0, 1, 71, 0, 0, 1, 163, 0, 0, 1, 231, 0, 0, 2, 43, 0, 0, 2, 123, 0, 0, 2, 241, 0, 0, 3, 93, 0, 0, 3, 137, 0, 0, 3, 181, 0, 0, 3, 225, 0, 0, 4, 25, 0, 0, 4, 81, 0, 0, 4, 94, 0, 0, 4, 150, 0, 0, 4, 206, 0, 0, 4, 243, 0, 0, 5, 71, 0, 0, 5, 108, 0, 0, 5, 176, 0, 0, 5, 213, 0, 0, 6, 25, 0, 0, 6, 62, 0, 0, 6, 111, 0, 0, 6, 161, 0, 0, 6, 222, 0, 0, 7, 27]
abbrev dktL_law_2 : List UInt8 := dkwL_law_2 ++ dktL_law_3
def dkwL_law_1 : List UInt8 := [21, 4, 42, 190, 16, 7, 100, 163, 7, 68, 42, 21, 4, 46, 16, 31, 126]
abbrev dktL_law_1 : List UInt8 := dkwL_law_1 ++ dktL_law_2
def dkwL_law_0 : List UInt8 := [187, 0, 8, 89, 183, 0, 78, 76, 187, 0, 79, 89, 183, 0, 81, 77, 4, 188, 11, 78, 3, 54, 4]
abbrev dktL_law_0 : List UInt8 := dkwL_law_0 ++ dktL_law_1
theorem dksL_law_0 : cL_law.data.toList.drop 0 = dktL_law_0 := by decide +kernel
theorem dksL_law_1 : cL_law.data.toList.drop 23 = dktL_law_1 := dk_seg dksL_law_0 23 rfl rfl
theorem dksL_law_2 : cL_law.data.toList.drop 40 = dktL_law_2 := dk_seg dksL_law_1 17 rfl rfl
theorem dksL_law_3 : cL_law.data.toList.drop 176 = dktL_law_3 := dk_seg dksL_law_2 136 rfl rfl
theorem dksL_law_4 : cL_law.data.toList.drop 200 = dktL_law_4 := dk_seg dksL_law_3 24 rfl rfl
theorem dksL_law_5 : cL_law.data.toList.drop 224 = dktL_law_5 := dk_seg dksL_law_4 24 rfl rfl
theorem dksL_law_6 : cL_law.data.toList.drop 248 = dktL_law_6 := dk_seg dksL_law_5 24 rfl rfl
theorem dksL_law_7 : cL_law.data.toList.drop 272 = dktL_law_7 := dk_seg dksL_law_6 24 rfl rfl
theorem dksL_law_8 : cL_law.data.toList.drop 295 = dktL_law_8 := dk_seg dksL_law_7 23 rfl rfl
theorem dksL_law_9 : cL_law.data.toList.drop 317 = dktL_law_9 := dk_seg dksL_law_8 22 rfl rfl
theorem dksL_law_10 : cL_law.data.toList.drop 339 = dktL_law_10 := dk_seg dksL_law_9 22 rfl rfl
theorem dksL_law_11 : cL_law.data.toList.drop 362 = dktL_law_11 := dk_seg dksL_law_10 23 rfl rfl
theorem dksL_law_12 : cL_law.data.toList.drop 386 = dktL_law_12 := dk_seg dksL_law_11 24 rfl rfl
theorem dksL_law_13 : cL_law.data.toList.drop 410 = dktL_law_13 := dk_seg dksL_law_12 24 rfl rfl
theorem dksL_law_14 : cL_law.data.toList.drop 434 = dktL_law_14 := dk_seg dksL_law_13 24 rfl rfl
theorem dksL_law_15 : cL_law.data.toList.drop 456 = dktL_law_15 := dk_seg dksL_law_14 22 rfl rfl
theorem dksL_law_16 : cL_law.data.toList.drop 480 = dktL_law_16 := dk_seg dksL_law_15 24 rfl rfl
theorem dksL_law_17 : cL_law.data.toList.drop 502 = dktL_law_17 := dk_seg dksL_law_16 22 rfl rfl
theorem dksL_law_18 : cL_law.data.toList.drop 524 = dktL_law_18 := dk_seg dksL_law_17 22 rfl rfl
theorem dksL_law_19 : cL_law.data.toList.drop 548 = dktL_law_19 := dk_seg dksL_law_18 24 rfl rfl
theorem dksL_law_20 : cL_law.data.toList.drop 570 = dktL_law_20 := dk_seg dksL_law_19 22 rfl rfl
theorem dksL_law_21 : cL_law.data.toList.drop 592 = dktL_law_21 := dk_seg dksL_law_20 22 rfl rfl
theorem dksL_law_22 : cL_law.data.toList.drop 615 = dktL_law_22 := dk_seg dksL_law_21 23 rfl rfl
theorem dksL_law_23 : cL_law.data.toList.drop 639 = dktL_law_23 := dk_seg dksL_law_22 24 rfl rfl
theorem dksL_law_24 : cL_law.data.toList.drop 663 = dktL_law_24 := dk_seg dksL_law_23 24 rfl rfl
theorem dksL_law_25 : cL_law.data.toList.drop 687 = dktL_law_25 := dk_seg dksL_law_24 24 rfl rfl
theorem dksL_law_26 : cL_law.data.toList.drop 711 = dktL_law_26 := dk_seg dksL_law_25 24 rfl rfl
theorem dksL_law_27 : cL_law.data.toList.drop 735 = dktL_law_27 := dk_seg dksL_law_26 24 rfl rfl
theorem dksL_law_28 : cL_law.data.toList.drop 757 = dktL_law_28 := dk_seg dksL_law_27 22 rfl rfl
theorem dksL_law_29 : cL_law.data.toList.drop 781 = dktL_law_29 := dk_seg dksL_law_28 24 rfl rfl
theorem dksL_law_30 : cL_law.data.toList.drop 805 = dktL_law_30 := dk_seg dksL_law_29 24 rfl rfl
theorem dksL_law_31 : cL_law.data.toList.drop 827 = dktL_law_31 := dk_seg dksL_law_30 22 rfl rfl
theorem dksL_law_32 : cL_law.data.toList.drop 851 = dktL_law_32 := dk_seg dksL_law_31 24 rfl rfl
theorem dksL_law_33 : cL_law.data.toList.drop 874 = dktL_law_33 := dk_seg dksL_law_32 23 rfl rfl
theorem dksL_law_34 : cL_law.data.toList.drop 898 = dktL_law_34 := dk_seg dksL_law_33 24 rfl rfl
theorem dksL_law_35 : cL_law.data.toList.drop 920 = dktL_law_35 := dk_seg dksL_law_34 22 rfl rfl
theorem dksL_law_36 : cL_law.data.toList.drop 942 = dktL_law_36 := dk_seg dksL_law_35 22 rfl rfl
theorem dksL_law_37 : cL_law.data.toList.drop 964 = dktL_law_37 := dk_seg dksL_law_36 22 rfl rfl
theorem dksL_law_38 : cL_law.data.toList.drop 986 = dktL_law_38 := dk_seg dksL_law_37 22 rfl rfl
theorem dksL_law_39 : cL_law.data.toList.drop 1008 = dktL_law_39 := dk_seg dksL_law_38 22 rfl rfl
theorem dksL_law_40 : cL_law.data.toList.drop 1030 = dktL_law_40 := dk_seg dksL_law_39 22 rfl rfl
theorem dksL_law_41 : cL_law.data.toList.drop 1053 = dktL_law_41 := dk_seg dksL_law_40 23 rfl rfl
theorem dksL_law_42 : cL_law.data.toList.drop 1077 = dktL_law_42 := dk_seg dksL_law_41 24 rfl rfl
theorem dksL_law_43 : cL_law.data.toList.drop 1100 = dktL_law_43 := dk_seg dksL_law_42 23 rfl rfl
theorem dksL_law_44 : cL_law.data.toList.drop 1124 = dktL_law_44 := dk_seg dksL_law_43 24 rfl rfl
theorem dksL_law_45 : cL_law.data.toList.drop 1146 = dktL_law_45 := dk_seg dksL_law_44 22 rfl rfl
theorem dksL_law_46 : cL_law.data.toList.drop 1169 = dktL_law_46 := dk_seg dksL_law_45 23 rfl rfl
theorem dksL_law_47 : cL_law.data.toList.drop 1193 = dktL_law_47 := dk_seg dksL_law_46 24 rfl rfl
theorem dksL_law_48 : cL_law.data.toList.drop 1216 = dktL_law_48 := dk_seg dksL_law_47 23 rfl rfl
theorem dksL_law_49 : cL_law.data.toList.drop 1240 = dktL_law_49 := dk_seg dksL_law_48 24 rfl rfl
theorem dksL_law_50 : cL_law.data.toList.drop 1262 = dktL_law_50 := dk_seg dksL_law_49 22 rfl rfl
theorem dksL_law_51 : cL_law.data.toList.drop 1286 = dktL_law_51 := dk_seg dksL_law_50 24 rfl rfl
theorem dksL_law_52 : cL_law.data.toList.drop 1309 = dktL_law_52 := dk_seg dksL_law_51 23 rfl rfl
theorem dksL_law_53 : cL_law.data.toList.drop 1332 = dktL_law_53 := dk_seg dksL_law_52 23 rfl rfl
theorem dksL_law_54 : cL_law.data.toList.drop 1355 = dktL_law_54 := dk_seg dksL_law_53 23 rfl rfl
theorem dksL_law_55 : cL_law.data.toList.drop 1379 = dktL_law_55 := dk_seg dksL_law_54 24 rfl rfl
theorem dksL_law_56 : cL_law.data.toList.drop 1403 = dktL_law_56 := dk_seg dksL_law_55 24 rfl rfl
theorem dksL_law_57 : cL_law.data.toList.drop 1427 = dktL_law_57 := dk_seg dksL_law_56 24 rfl rfl
theorem dksL_law_58 : cL_law.data.toList.drop 1451 = dktL_law_58 := dk_seg dksL_law_57 24 rfl rfl
theorem dksL_law_59 : cL_law.data.toList.drop 1475 = dktL_law_59 := dk_seg dksL_law_58 24 rfl rfl
theorem dksL_law_60 : cL_law.data.toList.drop 1498 = dktL_law_60 := dk_seg dksL_law_59 23 rfl rfl
theorem dksL_law_61 : cL_law.data.toList.drop 1522 = dktL_law_61 := dk_seg dksL_law_60 24 rfl rfl
theorem dksL_law_62 : cL_law.data.toList.drop 1546 = dktL_law_62 := dk_seg dksL_law_61 24 rfl rfl
theorem dksL_law_63 : cL_law.data.toList.drop 1570 = dktL_law_63 := dk_seg dksL_law_62 24 rfl rfl
theorem dksL_law_64 : cL_law.data.toList.drop 1593 = dktL_law_64 := dk_seg dksL_law_63 23 rfl rfl
theorem dksL_law_65 : cL_law.data.toList.drop 1617 = dktL_law_65 := dk_seg dksL_law_64 24 rfl rfl
theorem dksL_law_66 : cL_law.data.toList.drop 1640 = dktL_law_66 := dk_seg dksL_law_65 23 rfl rfl
theorem dksL_law_67 : cL_law.data.toList.drop 1664 = dktL_law_67 := dk_seg dksL_law_66 24 rfl rfl
theorem dksL_law_68 : cL_law.data.toList.drop 1688 = dktL_law_68 := dk_seg dksL_law_67 24 rfl rfl
theorem dksL_law_69 : cL_law.data.toList.drop 1711 = dktL_law_69 := dk_seg dksL_law_68 23 rfl rfl
theorem dksL_law_70 : cL_law.data.toList.drop 1735 = dktL_law_70 := dk_seg dksL_law_69 24 rfl rfl
theorem dksL_law_71 : cL_law.data.toList.drop 1759 = dktL_law_71 := dk_seg dksL_law_70 24 rfl rfl
theorem dksL_law_72 : cL_law.data.toList.drop 1783 = dktL_law_72 := dk_seg dksL_law_71 24 rfl rfl
theorem dksL_law_73 : cL_law.data.toList.drop 1806 = dktL_law_73 := dk_seg dksL_law_72 23 rfl rfl
theorem dksL_law_74 : cL_law.data.toList.drop 1830 = dktL_law_74 := dk_seg dksL_law_73 24 rfl rfl
theorem dksL_law_75 : cL_law.data.toList.drop 1854 = dktL_law_75 := dk_seg dksL_law_74 24 rfl rfl
theorem dksL_law_76 : cL_law.data.toList.drop 1876 = dktL_law_76 := dk_seg dksL_law_75 22 rfl rfl
theorem dL_law_0 : decode cL_law 0 = .ok (.new 8, 3) := dk_187 0 8 (dk_at dksL_law_0 0 rfl rfl)
theorem dL_law_3 : decode cL_law 3 = .ok (.dup, 1) := dk_89 (dk_at dksL_law_0 3 rfl rfl)
theorem dL_law_4 : decode cL_law 4 = .ok (.invokespecial 78, 3) := dk_183 0 78 (dk_at dksL_law_0 4 rfl rfl)
theorem dL_law_7 : decode cL_law 7 = .ok (.astore_n 1, 1) := dk_76 (dk_at dksL_law_0 7 rfl rfl)
theorem dL_law_8 : decode cL_law 8 = .ok (.new 79, 3) := dk_187 0 79 (dk_at dksL_law_0 8 rfl rfl)
theorem dL_law_11 : decode cL_law 11 = .ok (.dup, 1) := dk_89 (dk_at dksL_law_0 11 rfl rfl)
theorem dL_law_12 : decode cL_law 12 = .ok (.invokespecial 81, 3) := dk_183 0 81 (dk_at dksL_law_0 12 rfl rfl)
theorem dL_law_15 : decode cL_law 15 = .ok (.astore_n 2, 1) := dk_77 (dk_at dksL_law_0 15 rfl rfl)
theorem dL_law_16 : decode cL_law 16 = .ok (.iconst 1, 1) := dk_4 (dk_at dksL_law_0 16 rfl rfl)
theorem dL_law_17 : decode cL_law 17 = .ok (.newarray .long, 2) := dk_188_11 (dk_at dksL_law_0 17 rfl rfl)
theorem dL_law_19 : decode cL_law 19 = .ok (.astore_n 3, 1) := dk_78 (dk_at dksL_law_0 19 rfl rfl)
theorem dL_law_20 : decode cL_law 20 = .ok (.iconst 0, 1) := dk_3 (dk_at dksL_law_0 20 rfl rfl)
theorem dL_law_21 : decode cL_law 21 = .ok (.istore 4, 2) := dk_54 4 (dk_at dksL_law_0 21 rfl rfl)
theorem dL_law_23 : decode cL_law 23 = .ok (.iload 4, 2) := dk_21 4 (dk_at dksL_law_1 0 rfl rfl)
theorem dL_law_25 : decode cL_law 25 = .ok (.aload_n 0, 1) := dk_42 (dk_at dksL_law_1 2 rfl rfl)
theorem dL_law_26 : decode cL_law 26 = .ok (.arraylength, 1) := dk_190 (dk_at dksL_law_1 3 rfl rfl)
theorem dL_law_27 : decode cL_law 27 = .ok (.bipush 7, 2) := dk_16 7 (dk_at dksL_law_1 4 rfl rfl)
theorem dL_law_29 : decode cL_law 29 = .ok (.isub, 1) := dk_100 (dk_at dksL_law_1 6 rfl rfl)
theorem dL_law_30 : decode cL_law 30 = .ok (.if_icmp .gt 1860, 3) := dk_163 7 68 (dk_at dksL_law_1 7 rfl rfl)
theorem dL_law_33 : decode cL_law 33 = .ok (.aload_n 0, 1) := dk_42 (dk_at dksL_law_1 10 rfl rfl)
theorem dL_law_34 : decode cL_law 34 = .ok (.iload 4, 2) := dk_21 4 (dk_at dksL_law_1 11 rfl rfl)
theorem dL_law_36 : decode cL_law 36 = .ok (.iaload, 1) := dk_46 (dk_at dksL_law_1 13 rfl rfl)
theorem dL_law_37 : decode cL_law 37 = .ok (.bipush 31, 2) := dk_16 31 (dk_at dksL_law_1 14 rfl rfl)
theorem dL_law_39 : decode cL_law 39 = .ok (.iand, 1) := dk_126 (dk_at dksL_law_1 16 rfl rfl)
theorem dL_law_40 : decode cL_law 40 = .ok (.tableswitch 1844 0 29 #[136, 209, 234, 302, 327, 419, 487, 555, 635, 753, 861, 905, 949, 993, 1049, 1105, 1118, 1174, 1230, 1267, 1351, 1388, 1456, 1493, 1561, 1598, 1647, 1697, 1758, 1819], 136) := by decide +kernel
theorem dL_law_176 : decode cL_law 176 = .ok (.aload_n 1, 1) := dk_43 (dk_at dksL_law_3 0 rfl rfl)
theorem dL_law_177 : decode cL_law 177 = .ok (.aload_n 0, 1) := dk_42 (dk_at dksL_law_3 1 rfl rfl)
theorem dL_law_178 : decode cL_law 178 = .ok (.iload 4, 2) := dk_21 4 (dk_at dksL_law_3 2 rfl rfl)
theorem dL_law_180 : decode cL_law 180 = .ok (.iconst 1, 1) := dk_4 (dk_at dksL_law_3 4 rfl rfl)
theorem dL_law_181 : decode cL_law 181 = .ok (.iadd, 1) := dk_96 (dk_at dksL_law_3 5 rfl rfl)
theorem dL_law_182 : decode cL_law 182 = .ok (.iaload, 1) := dk_46 (dk_at dksL_law_3 6 rfl rfl)
theorem dL_law_183 : decode cL_law 183 = .ok (.aload_n 0, 1) := dk_42 (dk_at dksL_law_3 7 rfl rfl)
theorem dL_law_184 : decode cL_law 184 = .ok (.iload 4, 2) := dk_21 4 (dk_at dksL_law_3 8 rfl rfl)
theorem dL_law_186 : decode cL_law 186 = .ok (.iconst 2, 1) := dk_5 (dk_at dksL_law_3 10 rfl rfl)
theorem dL_law_187 : decode cL_law 187 = .ok (.iadd, 1) := dk_96 (dk_at dksL_law_3 11 rfl rfl)
theorem dL_law_188 : decode cL_law 188 = .ok (.iaload, 1) := dk_46 (dk_at dksL_law_3 12 rfl rfl)
theorem dL_law_189 : decode cL_law 189 = .ok (.aload_n 0, 1) := dk_42 (dk_at dksL_law_3 13 rfl rfl)
theorem dL_law_190 : decode cL_law 190 = .ok (.iload 4, 2) := dk_21 4 (dk_at dksL_law_3 14 rfl rfl)
theorem dL_law_192 : decode cL_law 192 = .ok (.iconst 3, 1) := dk_6 (dk_at dksL_law_3 16 rfl rfl)
theorem dL_law_193 : decode cL_law 193 = .ok (.iadd, 1) := dk_96 (dk_at dksL_law_3 17 rfl rfl)
theorem dL_law_194 : decode cL_law 194 = .ok (.iaload, 1) := dk_46 (dk_at dksL_law_3 18 rfl rfl)
theorem dL_law_195 : decode cL_law 195 = .ok (.aload_n 0, 1) := dk_42 (dk_at dksL_law_3 19 rfl rfl)
theorem dL_law_196 : decode cL_law 196 = .ok (.iload 4, 2) := dk_21 4 (dk_at dksL_law_3 20 rfl rfl)
theorem dL_law_198 : decode cL_law 198 = .ok (.iconst 4, 1) := dk_7 (dk_at dksL_law_3 22 rfl rfl)
theorem dL_law_199 : decode cL_law 199 = .ok (.iadd, 1) := dk_96 (dk_at dksL_law_3 23 rfl rfl)
theorem dL_law_200 : decode cL_law 200 = .ok (.iaload, 1) := dk_46 (dk_at dksL_law_4 0 rfl rfl)
theorem dL_law_201 : decode cL_law 201 = .ok (.aload_n 0, 1) := dk_42 (dk_at dksL_law_4 1 rfl rfl)
theorem dL_law_202 : decode cL_law 202 = .ok (.iload 4, 2) := dk_21 4 (dk_at dksL_law_4 2 rfl rfl)
theorem dL_law_204 : decode cL_law 204 = .ok (.iconst 5, 1) := dk_8 (dk_at dksL_law_4 4 rfl rfl)
theorem dL_law_205 : decode cL_law 205 = .ok (.iadd, 1) := dk_96 (dk_at dksL_law_4 5 rfl rfl)
theorem dL_law_206 : decode cL_law 206 = .ok (.iaload, 1) := dk_46 (dk_at dksL_law_4 6 rfl rfl)
theorem dL_law_207 : decode cL_law 207 = .ok (.invokevirtual 82, 3) := dk_182 0 82 (dk_at dksL_law_4 7 rfl rfl)
theorem dL_law_210 : decode cL_law 210 = .ok (.aload_n 2, 1) := dk_44 (dk_at dksL_law_4 10 rfl rfl)
theorem dL_law_211 : decode cL_law 211 = .ok (.aload_n 0, 1) := dk_42 (dk_at dksL_law_4 11 rfl rfl)
theorem dL_law_212 : decode cL_law 212 = .ok (.iload 4, 2) := dk_21 4 (dk_at dksL_law_4 12 rfl rfl)
theorem dL_law_214 : decode cL_law 214 = .ok (.iconst 1, 1) := dk_4 (dk_at dksL_law_4 14 rfl rfl)
theorem dL_law_215 : decode cL_law 215 = .ok (.iadd, 1) := dk_96 (dk_at dksL_law_4 15 rfl rfl)
theorem dL_law_216 : decode cL_law 216 = .ok (.iaload, 1) := dk_46 (dk_at dksL_law_4 16 rfl rfl)
theorem dL_law_217 : decode cL_law 217 = .ok (.aload_n 0, 1) := dk_42 (dk_at dksL_law_4 17 rfl rfl)
theorem dL_law_218 : decode cL_law 218 = .ok (.iload 4, 2) := dk_21 4 (dk_at dksL_law_4 18 rfl rfl)
theorem dL_law_220 : decode cL_law 220 = .ok (.iconst 2, 1) := dk_5 (dk_at dksL_law_4 20 rfl rfl)
theorem dL_law_221 : decode cL_law 221 = .ok (.iadd, 1) := dk_96 (dk_at dksL_law_4 21 rfl rfl)
theorem dL_law_222 : decode cL_law 222 = .ok (.iaload, 1) := dk_46 (dk_at dksL_law_4 22 rfl rfl)
theorem dL_law_223 : decode cL_law 223 = .ok (.aload_n 0, 1) := dk_42 (dk_at dksL_law_4 23 rfl rfl)
theorem dL_law_224 : decode cL_law 224 = .ok (.iload 4, 2) := dk_21 4 (dk_at dksL_law_5 0 rfl rfl)
theorem dL_law_226 : decode cL_law 226 = .ok (.iconst 3, 1) := dk_6 (dk_at dksL_law_5 2 rfl rfl)
theorem dL_law_227 : decode cL_law 227 = .ok (.iadd, 1) := dk_96 (dk_at dksL_law_5 3 rfl rfl)
theorem dL_law_228 : decode cL_law 228 = .ok (.iaload, 1) := dk_46 (dk_at dksL_law_5 4 rfl rfl)
theorem dL_law_229 : decode cL_law 229 = .ok (.aload_n 0, 1) := dk_42 (dk_at dksL_law_5 5 rfl rfl)
theorem dL_law_230 : decode cL_law 230 = .ok (.iload 4, 2) := dk_21 4 (dk_at dksL_law_5 6 rfl rfl)
theorem dL_law_232 : decode cL_law 232 = .ok (.iconst 4, 1) := dk_7 (dk_at dksL_law_5 8 rfl rfl)
theorem dL_law_233 : decode cL_law 233 = .ok (.iadd, 1) := dk_96 (dk_at dksL_law_5 9 rfl rfl)
theorem dL_law_234 : decode cL_law 234 = .ok (.iaload, 1) := dk_46 (dk_at dksL_law_5 10 rfl rfl)
theorem dL_law_235 : decode cL_law 235 = .ok (.aload_n 0, 1) := dk_42 (dk_at dksL_law_5 11 rfl rfl)
theorem dL_law_236 : decode cL_law 236 = .ok (.iload 4, 2) := dk_21 4 (dk_at dksL_law_5 12 rfl rfl)
theorem dL_law_238 : decode cL_law 238 = .ok (.iconst 5, 1) := dk_8 (dk_at dksL_law_5 14 rfl rfl)
theorem dL_law_239 : decode cL_law 239 = .ok (.iadd, 1) := dk_96 (dk_at dksL_law_5 15 rfl rfl)
theorem dL_law_240 : decode cL_law 240 = .ok (.iaload, 1) := dk_46 (dk_at dksL_law_5 16 rfl rfl)
theorem dL_law_241 : decode cL_law 241 = .ok (.invokevirtual 86, 3) := dk_182 0 86 (dk_at dksL_law_5 17 rfl rfl)
theorem dL_law_244 : decode cL_law 244 = .ok (.if_icmp .eq 1640, 3) := dk_159 6 104 (dk_at dksL_law_5 20 rfl rfl)
theorem dL_law_247 : decode cL_law 247 = .ok (.iconst 0, 1) := dk_3 (dk_at dksL_law_5 23 rfl rfl)
theorem dL_law_248 : decode cL_law 248 = .ok (.ireturn, 1) := dk_172 (dk_at dksL_law_6 0 rfl rfl)
theorem dL_law_249 : decode cL_law 249 = .ok (.aload_n 1, 1) := dk_43 (dk_at dksL_law_6 1 rfl rfl)
theorem dL_law_250 : decode cL_law 250 = .ok (.aload_n 0, 1) := dk_42 (dk_at dksL_law_6 2 rfl rfl)
theorem dL_law_251 : decode cL_law 251 = .ok (.iload 4, 2) := dk_21 4 (dk_at dksL_law_6 3 rfl rfl)
theorem dL_law_253 : decode cL_law 253 = .ok (.iconst 1, 1) := dk_4 (dk_at dksL_law_6 5 rfl rfl)
theorem dL_law_254 : decode cL_law 254 = .ok (.iadd, 1) := dk_96 (dk_at dksL_law_6 6 rfl rfl)
theorem dL_law_255 : decode cL_law 255 = .ok (.iaload, 1) := dk_46 (dk_at dksL_law_6 7 rfl rfl)
theorem dL_law_256 : decode cL_law 256 = .ok (.invokevirtual 87, 3) := dk_182 0 87 (dk_at dksL_law_6 8 rfl rfl)
theorem dL_law_259 : decode cL_law 259 = .ok (.aload_n 2, 1) := dk_44 (dk_at dksL_law_6 11 rfl rfl)
theorem dL_law_260 : decode cL_law 260 = .ok (.aload_n 0, 1) := dk_42 (dk_at dksL_law_6 12 rfl rfl)
theorem dL_law_261 : decode cL_law 261 = .ok (.iload 4, 2) := dk_21 4 (dk_at dksL_law_6 13 rfl rfl)
theorem dL_law_263 : decode cL_law 263 = .ok (.iconst 1, 1) := dk_4 (dk_at dksL_law_6 15 rfl rfl)
theorem dL_law_264 : decode cL_law 264 = .ok (.iadd, 1) := dk_96 (dk_at dksL_law_6 16 rfl rfl)
theorem dL_law_265 : decode cL_law 265 = .ok (.iaload, 1) := dk_46 (dk_at dksL_law_6 17 rfl rfl)
theorem dL_law_266 : decode cL_law 266 = .ok (.invokevirtual 91, 3) := dk_182 0 91 (dk_at dksL_law_6 18 rfl rfl)
theorem dL_law_269 : decode cL_law 269 = .ok (.if_icmp .eq 1615, 3) := dk_159 6 79 (dk_at dksL_law_6 21 rfl rfl)
theorem dL_law_272 : decode cL_law 272 = .ok (.iconst 0, 1) := dk_3 (dk_at dksL_law_7 0 rfl rfl)
theorem dL_law_273 : decode cL_law 273 = .ok (.ireturn, 1) := dk_172 (dk_at dksL_law_7 1 rfl rfl)
theorem dL_law_274 : decode cL_law 274 = .ok (.aload_n 1, 1) := dk_43 (dk_at dksL_law_7 2 rfl rfl)
theorem dL_law_275 : decode cL_law 275 = .ok (.aload_n 0, 1) := dk_42 (dk_at dksL_law_7 3 rfl rfl)
theorem dL_law_276 : decode cL_law 276 = .ok (.iload 4, 2) := dk_21 4 (dk_at dksL_law_7 4 rfl rfl)
theorem dL_law_278 : decode cL_law 278 = .ok (.iconst 1, 1) := dk_4 (dk_at dksL_law_7 6 rfl rfl)
theorem dL_law_279 : decode cL_law 279 = .ok (.iadd, 1) := dk_96 (dk_at dksL_law_7 7 rfl rfl)
theorem dL_law_280 : decode cL_law 280 = .ok (.iaload, 1) := dk_46 (dk_at dksL_law_7 8 rfl rfl)
theorem dL_law_281 : decode cL_law 281 = .ok (.aload_n 0, 1) := dk_42 (dk_at dksL_law_7 9 rfl rfl)
theorem dL_law_282 : decode cL_law 282 = .ok (.iload 4, 2) := dk_21 4 (dk_at dksL_law_7 10 rfl rfl)
theorem dL_law_284 : decode cL_law 284 = .ok (.iconst 2, 1) := dk_5 (dk_at dksL_law_7 12 rfl rfl)
theorem dL_law_285 : decode cL_law 285 = .ok (.iadd, 1) := dk_96 (dk_at dksL_law_7 13 rfl rfl)
theorem dL_law_286 : decode cL_law 286 = .ok (.iaload, 1) := dk_46 (dk_at dksL_law_7 14 rfl rfl)
theorem dL_law_287 : decode cL_law 287 = .ok (.aload_n 3, 1) := dk_45 (dk_at dksL_law_7 15 rfl rfl)
theorem dL_law_288 : decode cL_law 288 = .ok (.invokestatic 92, 3) := dk_184 0 92 (dk_at dksL_law_7 16 rfl rfl)
theorem dL_law_291 : decode cL_law 291 = .ok (.istore 5, 2) := dk_54 5 (dk_at dksL_law_7 19 rfl rfl)
theorem dL_law_293 : decode cL_law 293 = .ok (.aload_n 2, 1) := dk_44 (dk_at dksL_law_7 21 rfl rfl)
theorem dL_law_294 : decode cL_law 294 = .ok (.aload_n 0, 1) := dk_42 (dk_at dksL_law_7 22 rfl rfl)
theorem dL_law_295 : decode cL_law 295 = .ok (.iload 4, 2) := dk_21 4 (dk_at dksL_law_8 0 rfl rfl)
theorem dL_law_297 : decode cL_law 297 = .ok (.iconst 1, 1) := dk_4 (dk_at dksL_law_8 2 rfl rfl)
theorem dL_law_298 : decode cL_law 298 = .ok (.iadd, 1) := dk_96 (dk_at dksL_law_8 3 rfl rfl)
theorem dL_law_299 : decode cL_law 299 = .ok (.iaload, 1) := dk_46 (dk_at dksL_law_8 4 rfl rfl)
theorem dL_law_300 : decode cL_law 300 = .ok (.aload_n 0, 1) := dk_42 (dk_at dksL_law_8 5 rfl rfl)
theorem dL_law_301 : decode cL_law 301 = .ok (.iload 4, 2) := dk_21 4 (dk_at dksL_law_8 6 rfl rfl)
theorem dL_law_303 : decode cL_law 303 = .ok (.iconst 2, 1) := dk_5 (dk_at dksL_law_8 8 rfl rfl)
theorem dL_law_304 : decode cL_law 304 = .ok (.iadd, 1) := dk_96 (dk_at dksL_law_8 9 rfl rfl)
theorem dL_law_305 : decode cL_law 305 = .ok (.iaload, 1) := dk_46 (dk_at dksL_law_8 10 rfl rfl)
theorem dL_law_306 : decode cL_law 306 = .ok (.invokevirtual 97, 3) := dk_182 0 97 (dk_at dksL_law_8 11 rfl rfl)
theorem dL_law_309 : decode cL_law 309 = .ok (.istore 6, 2) := dk_54 6 (dk_at dksL_law_8 14 rfl rfl)
theorem dL_law_311 : decode cL_law 311 = .ok (.aload_n 2, 1) := dk_44 (dk_at dksL_law_8 16 rfl rfl)
theorem dL_law_312 : decode cL_law 312 = .ok (.invokevirtual 98, 3) := dk_182 0 98 (dk_at dksL_law_8 17 rfl rfl)
theorem dL_law_315 : decode cL_law 315 = .ok (.iload 5, 2) := dk_21 5 (dk_at dksL_law_8 20 rfl rfl)
theorem dL_law_317 : decode cL_law 317 = .ok (.if_icmp .eq 5, 3) := dk_159 0 5 (dk_at dksL_law_9 0 rfl rfl)
theorem dL_law_320 : decode cL_law 320 = .ok (.iconst 0, 1) := dk_3 (dk_at dksL_law_9 3 rfl rfl)
theorem dL_law_321 : decode cL_law 321 = .ok (.ireturn, 1) := dk_172 (dk_at dksL_law_9 4 rfl rfl)
theorem dL_law_322 : decode cL_law 322 = .ok (.iload 5, 2) := dk_21 5 (dk_at dksL_law_9 5 rfl rfl)
theorem dL_law_324 : decode cL_law 324 = .ok (.ifCond .ne 15, 3) := dk_154 0 15 (dk_at dksL_law_9 7 rfl rfl)
theorem dL_law_327 : decode cL_law 327 = .ok (.aload_n 3, 1) := dk_45 (dk_at dksL_law_9 10 rfl rfl)
theorem dL_law_328 : decode cL_law 328 = .ok (.iconst 0, 1) := dk_3 (dk_at dksL_law_9 11 rfl rfl)
theorem dL_law_329 : decode cL_law 329 = .ok (.laload, 1) := dk_47 (dk_at dksL_law_9 12 rfl rfl)
theorem dL_law_330 : decode cL_law 330 = .ok (.iload 6, 2) := dk_21 6 (dk_at dksL_law_9 13 rfl rfl)
theorem dL_law_332 : decode cL_law 332 = .ok (.i2l, 1) := dk_133 (dk_at dksL_law_9 15 rfl rfl)
theorem dL_law_333 : decode cL_law 333 = .ok (.lcmp, 1) := dk_148 (dk_at dksL_law_9 16 rfl rfl)
theorem dL_law_334 : decode cL_law 334 = .ok (.ifCond .eq 5, 3) := dk_153 0 5 (dk_at dksL_law_9 17 rfl rfl)
theorem dL_law_337 : decode cL_law 337 = .ok (.iconst 0, 1) := dk_3 (dk_at dksL_law_9 20 rfl rfl)
theorem dL_law_338 : decode cL_law 338 = .ok (.ireturn, 1) := dk_172 (dk_at dksL_law_9 21 rfl rfl)
theorem dL_law_339 : decode cL_law 339 = .ok (.goto 1545, 3) := dk_167 6 9 (dk_at dksL_law_10 0 rfl rfl)
theorem dL_law_342 : decode cL_law 342 = .ok (.aload_n 1, 1) := dk_43 (dk_at dksL_law_10 3 rfl rfl)
theorem dL_law_343 : decode cL_law 343 = .ok (.aload_n 0, 1) := dk_42 (dk_at dksL_law_10 4 rfl rfl)
theorem dL_law_344 : decode cL_law 344 = .ok (.iload 4, 2) := dk_21 4 (dk_at dksL_law_10 5 rfl rfl)
theorem dL_law_346 : decode cL_law 346 = .ok (.iconst 1, 1) := dk_4 (dk_at dksL_law_10 7 rfl rfl)
theorem dL_law_347 : decode cL_law 347 = .ok (.iadd, 1) := dk_96 (dk_at dksL_law_10 8 rfl rfl)
theorem dL_law_348 : decode cL_law 348 = .ok (.iaload, 1) := dk_46 (dk_at dksL_law_10 9 rfl rfl)
theorem dL_law_349 : decode cL_law 349 = .ok (.invokevirtual 101, 3) := dk_182 0 101 (dk_at dksL_law_10 10 rfl rfl)
theorem dL_law_352 : decode cL_law 352 = .ok (.aload_n 2, 1) := dk_44 (dk_at dksL_law_10 13 rfl rfl)
theorem dL_law_353 : decode cL_law 353 = .ok (.aload_n 0, 1) := dk_42 (dk_at dksL_law_10 14 rfl rfl)
theorem dL_law_354 : decode cL_law 354 = .ok (.iload 4, 2) := dk_21 4 (dk_at dksL_law_10 15 rfl rfl)
theorem dL_law_356 : decode cL_law 356 = .ok (.iconst 1, 1) := dk_4 (dk_at dksL_law_10 17 rfl rfl)
theorem dL_law_357 : decode cL_law 357 = .ok (.iadd, 1) := dk_96 (dk_at dksL_law_10 18 rfl rfl)
theorem dL_law_358 : decode cL_law 358 = .ok (.iaload, 1) := dk_46 (dk_at dksL_law_10 19 rfl rfl)
theorem dL_law_359 : decode cL_law 359 = .ok (.invokevirtual 104, 3) := dk_182 0 104 (dk_at dksL_law_10 20 rfl rfl)
theorem dL_law_362 : decode cL_law 362 = .ok (.if_icmp .eq 1522, 3) := dk_159 5 242 (dk_at dksL_law_11 0 rfl rfl)
theorem dL_law_365 : decode cL_law 365 = .ok (.iconst 0, 1) := dk_3 (dk_at dksL_law_11 3 rfl rfl)
theorem dL_law_366 : decode cL_law 366 = .ok (.ireturn, 1) := dk_172 (dk_at dksL_law_11 4 rfl rfl)
theorem dL_law_367 : decode cL_law 367 = .ok (.aload_n 1, 1) := dk_43 (dk_at dksL_law_11 5 rfl rfl)
theorem dL_law_368 : decode cL_law 368 = .ok (.aload_n 0, 1) := dk_42 (dk_at dksL_law_11 6 rfl rfl)
theorem dL_law_369 : decode cL_law 369 = .ok (.iload 4, 2) := dk_21 4 (dk_at dksL_law_11 7 rfl rfl)
theorem dL_law_371 : decode cL_law 371 = .ok (.iconst 1, 1) := dk_4 (dk_at dksL_law_11 9 rfl rfl)
theorem dL_law_372 : decode cL_law 372 = .ok (.iadd, 1) := dk_96 (dk_at dksL_law_11 10 rfl rfl)
theorem dL_law_373 : decode cL_law 373 = .ok (.iaload, 1) := dk_46 (dk_at dksL_law_11 11 rfl rfl)
theorem dL_law_374 : decode cL_law 374 = .ok (.aload_n 0, 1) := dk_42 (dk_at dksL_law_11 12 rfl rfl)
theorem dL_law_375 : decode cL_law 375 = .ok (.iload 4, 2) := dk_21 4 (dk_at dksL_law_11 13 rfl rfl)
theorem dL_law_377 : decode cL_law 377 = .ok (.iconst 2, 1) := dk_5 (dk_at dksL_law_11 15 rfl rfl)
theorem dL_law_378 : decode cL_law 378 = .ok (.iadd, 1) := dk_96 (dk_at dksL_law_11 16 rfl rfl)
theorem dL_law_379 : decode cL_law 379 = .ok (.iaload, 1) := dk_46 (dk_at dksL_law_11 17 rfl rfl)
theorem dL_law_380 : decode cL_law 380 = .ok (.aload_n 0, 1) := dk_42 (dk_at dksL_law_11 18 rfl rfl)
theorem dL_law_381 : decode cL_law 381 = .ok (.iload 4, 2) := dk_21 4 (dk_at dksL_law_11 19 rfl rfl)
theorem dL_law_383 : decode cL_law 383 = .ok (.iconst 3, 1) := dk_6 (dk_at dksL_law_11 21 rfl rfl)
theorem dL_law_384 : decode cL_law 384 = .ok (.iadd, 1) := dk_96 (dk_at dksL_law_11 22 rfl rfl)
theorem dL_law_385 : decode cL_law 385 = .ok (.iaload, 1) := dk_46 (dk_at dksL_law_11 23 rfl rfl)
theorem dL_law_386 : decode cL_law 386 = .ok (.aload_n 0, 1) := dk_42 (dk_at dksL_law_12 0 rfl rfl)
theorem dL_law_387 : decode cL_law 387 = .ok (.iload 4, 2) := dk_21 4 (dk_at dksL_law_12 1 rfl rfl)
theorem dL_law_389 : decode cL_law 389 = .ok (.iconst 4, 1) := dk_7 (dk_at dksL_law_12 3 rfl rfl)
theorem dL_law_390 : decode cL_law 390 = .ok (.iadd, 1) := dk_96 (dk_at dksL_law_12 4 rfl rfl)
theorem dL_law_391 : decode cL_law 391 = .ok (.iaload, 1) := dk_46 (dk_at dksL_law_12 5 rfl rfl)
theorem dL_law_392 : decode cL_law 392 = .ok (.aload_n 3, 1) := dk_45 (dk_at dksL_law_12 6 rfl rfl)
theorem dL_law_393 : decode cL_law 393 = .ok (.invokestatic 105, 3) := dk_184 0 105 (dk_at dksL_law_12 7 rfl rfl)
theorem dL_law_396 : decode cL_law 396 = .ok (.istore 5, 2) := dk_54 5 (dk_at dksL_law_12 10 rfl rfl)
theorem dL_law_398 : decode cL_law 398 = .ok (.aload_n 2, 1) := dk_44 (dk_at dksL_law_12 12 rfl rfl)
theorem dL_law_399 : decode cL_law 399 = .ok (.aload_n 0, 1) := dk_42 (dk_at dksL_law_12 13 rfl rfl)
theorem dL_law_400 : decode cL_law 400 = .ok (.iload 4, 2) := dk_21 4 (dk_at dksL_law_12 14 rfl rfl)
theorem dL_law_402 : decode cL_law 402 = .ok (.iconst 1, 1) := dk_4 (dk_at dksL_law_12 16 rfl rfl)
theorem dL_law_403 : decode cL_law 403 = .ok (.iadd, 1) := dk_96 (dk_at dksL_law_12 17 rfl rfl)
theorem dL_law_404 : decode cL_law 404 = .ok (.iaload, 1) := dk_46 (dk_at dksL_law_12 18 rfl rfl)
theorem dL_law_405 : decode cL_law 405 = .ok (.aload_n 0, 1) := dk_42 (dk_at dksL_law_12 19 rfl rfl)
theorem dL_law_406 : decode cL_law 406 = .ok (.iload 4, 2) := dk_21 4 (dk_at dksL_law_12 20 rfl rfl)
theorem dL_law_408 : decode cL_law 408 = .ok (.iconst 2, 1) := dk_5 (dk_at dksL_law_12 22 rfl rfl)
theorem dL_law_409 : decode cL_law 409 = .ok (.iadd, 1) := dk_96 (dk_at dksL_law_12 23 rfl rfl)
theorem dL_law_410 : decode cL_law 410 = .ok (.iaload, 1) := dk_46 (dk_at dksL_law_13 0 rfl rfl)
theorem dL_law_411 : decode cL_law 411 = .ok (.aload_n 0, 1) := dk_42 (dk_at dksL_law_13 1 rfl rfl)
theorem dL_law_412 : decode cL_law 412 = .ok (.iload 4, 2) := dk_21 4 (dk_at dksL_law_13 2 rfl rfl)
theorem dL_law_414 : decode cL_law 414 = .ok (.iconst 3, 1) := dk_6 (dk_at dksL_law_13 4 rfl rfl)
theorem dL_law_415 : decode cL_law 415 = .ok (.iadd, 1) := dk_96 (dk_at dksL_law_13 5 rfl rfl)
theorem dL_law_416 : decode cL_law 416 = .ok (.iaload, 1) := dk_46 (dk_at dksL_law_13 6 rfl rfl)
theorem dL_law_417 : decode cL_law 417 = .ok (.aload_n 0, 1) := dk_42 (dk_at dksL_law_13 7 rfl rfl)
theorem dL_law_418 : decode cL_law 418 = .ok (.iload 4, 2) := dk_21 4 (dk_at dksL_law_13 8 rfl rfl)
theorem dL_law_420 : decode cL_law 420 = .ok (.iconst 4, 1) := dk_7 (dk_at dksL_law_13 10 rfl rfl)
theorem dL_law_421 : decode cL_law 421 = .ok (.iadd, 1) := dk_96 (dk_at dksL_law_13 11 rfl rfl)
theorem dL_law_422 : decode cL_law 422 = .ok (.iaload, 1) := dk_46 (dk_at dksL_law_13 12 rfl rfl)
theorem dL_law_423 : decode cL_law 423 = .ok (.invokevirtual 108, 3) := dk_182 0 108 (dk_at dksL_law_13 13 rfl rfl)
theorem dL_law_426 : decode cL_law 426 = .ok (.istore 6, 2) := dk_54 6 (dk_at dksL_law_13 16 rfl rfl)
theorem dL_law_428 : decode cL_law 428 = .ok (.aload_n 2, 1) := dk_44 (dk_at dksL_law_13 18 rfl rfl)
theorem dL_law_429 : decode cL_law 429 = .ok (.invokevirtual 98, 3) := dk_182 0 98 (dk_at dksL_law_13 19 rfl rfl)
theorem dL_law_432 : decode cL_law 432 = .ok (.iload 5, 2) := dk_21 5 (dk_at dksL_law_13 22 rfl rfl)
theorem dL_law_434 : decode cL_law 434 = .ok (.if_icmp .eq 5, 3) := dk_159 0 5 (dk_at dksL_law_14 0 rfl rfl)
theorem dL_law_437 : decode cL_law 437 = .ok (.iconst 0, 1) := dk_3 (dk_at dksL_law_14 3 rfl rfl)
theorem dL_law_438 : decode cL_law 438 = .ok (.ireturn, 1) := dk_172 (dk_at dksL_law_14 4 rfl rfl)
theorem dL_law_439 : decode cL_law 439 = .ok (.iload 5, 2) := dk_21 5 (dk_at dksL_law_14 5 rfl rfl)
theorem dL_law_441 : decode cL_law 441 = .ok (.ifCond .ne 15, 3) := dk_154 0 15 (dk_at dksL_law_14 7 rfl rfl)
theorem dL_law_444 : decode cL_law 444 = .ok (.aload_n 3, 1) := dk_45 (dk_at dksL_law_14 10 rfl rfl)
theorem dL_law_445 : decode cL_law 445 = .ok (.iconst 0, 1) := dk_3 (dk_at dksL_law_14 11 rfl rfl)
theorem dL_law_446 : decode cL_law 446 = .ok (.laload, 1) := dk_47 (dk_at dksL_law_14 12 rfl rfl)
theorem dL_law_447 : decode cL_law 447 = .ok (.iload 6, 2) := dk_21 6 (dk_at dksL_law_14 13 rfl rfl)
theorem dL_law_449 : decode cL_law 449 = .ok (.i2l, 1) := dk_133 (dk_at dksL_law_14 15 rfl rfl)
theorem dL_law_450 : decode cL_law 450 = .ok (.lcmp, 1) := dk_148 (dk_at dksL_law_14 16 rfl rfl)
theorem dL_law_451 : decode cL_law 451 = .ok (.ifCond .eq 5, 3) := dk_153 0 5 (dk_at dksL_law_14 17 rfl rfl)
theorem dL_law_454 : decode cL_law 454 = .ok (.iconst 0, 1) := dk_3 (dk_at dksL_law_14 20 rfl rfl)
theorem dL_law_455 : decode cL_law 455 = .ok (.ireturn, 1) := dk_172 (dk_at dksL_law_14 21 rfl rfl)
theorem dL_law_456 : decode cL_law 456 = .ok (.goto 1428, 3) := dk_167 5 148 (dk_at dksL_law_15 0 rfl rfl)
theorem dL_law_459 : decode cL_law 459 = .ok (.aload_n 1, 1) := dk_43 (dk_at dksL_law_15 3 rfl rfl)
theorem dL_law_460 : decode cL_law 460 = .ok (.aload_n 0, 1) := dk_42 (dk_at dksL_law_15 4 rfl rfl)
theorem dL_law_461 : decode cL_law 461 = .ok (.iload 4, 2) := dk_21 4 (dk_at dksL_law_15 5 rfl rfl)
theorem dL_law_463 : decode cL_law 463 = .ok (.iconst 1, 1) := dk_4 (dk_at dksL_law_15 7 rfl rfl)
theorem dL_law_464 : decode cL_law 464 = .ok (.iadd, 1) := dk_96 (dk_at dksL_law_15 8 rfl rfl)
theorem dL_law_465 : decode cL_law 465 = .ok (.iaload, 1) := dk_46 (dk_at dksL_law_15 9 rfl rfl)
theorem dL_law_466 : decode cL_law 466 = .ok (.aload_n 0, 1) := dk_42 (dk_at dksL_law_15 10 rfl rfl)
theorem dL_law_467 : decode cL_law 467 = .ok (.iload 4, 2) := dk_21 4 (dk_at dksL_law_15 11 rfl rfl)
theorem dL_law_469 : decode cL_law 469 = .ok (.iconst 2, 1) := dk_5 (dk_at dksL_law_15 13 rfl rfl)
theorem dL_law_470 : decode cL_law 470 = .ok (.iadd, 1) := dk_96 (dk_at dksL_law_15 14 rfl rfl)
theorem dL_law_471 : decode cL_law 471 = .ok (.iaload, 1) := dk_46 (dk_at dksL_law_15 15 rfl rfl)
theorem dL_law_472 : decode cL_law 472 = .ok (.aload_n 3, 1) := dk_45 (dk_at dksL_law_15 16 rfl rfl)
theorem dL_law_473 : decode cL_law 473 = .ok (.invokestatic 109, 3) := dk_184 0 109 (dk_at dksL_law_15 17 rfl rfl)
theorem dL_law_476 : decode cL_law 476 = .ok (.istore 5, 2) := dk_54 5 (dk_at dksL_law_15 20 rfl rfl)
theorem dL_law_478 : decode cL_law 478 = .ok (.aload_n 2, 1) := dk_44 (dk_at dksL_law_15 22 rfl rfl)
theorem dL_law_479 : decode cL_law 479 = .ok (.aload_n 0, 1) := dk_42 (dk_at dksL_law_15 23 rfl rfl)
theorem dL_law_480 : decode cL_law 480 = .ok (.iload 4, 2) := dk_21 4 (dk_at dksL_law_16 0 rfl rfl)
theorem dL_law_482 : decode cL_law 482 = .ok (.iconst 1, 1) := dk_4 (dk_at dksL_law_16 2 rfl rfl)
theorem dL_law_483 : decode cL_law 483 = .ok (.iadd, 1) := dk_96 (dk_at dksL_law_16 3 rfl rfl)
theorem dL_law_484 : decode cL_law 484 = .ok (.iaload, 1) := dk_46 (dk_at dksL_law_16 4 rfl rfl)
theorem dL_law_485 : decode cL_law 485 = .ok (.aload_n 0, 1) := dk_42 (dk_at dksL_law_16 5 rfl rfl)
theorem dL_law_486 : decode cL_law 486 = .ok (.iload 4, 2) := dk_21 4 (dk_at dksL_law_16 6 rfl rfl)
theorem dL_law_488 : decode cL_law 488 = .ok (.iconst 2, 1) := dk_5 (dk_at dksL_law_16 8 rfl rfl)
theorem dL_law_489 : decode cL_law 489 = .ok (.iadd, 1) := dk_96 (dk_at dksL_law_16 9 rfl rfl)
theorem dL_law_490 : decode cL_law 490 = .ok (.iaload, 1) := dk_46 (dk_at dksL_law_16 10 rfl rfl)
theorem dL_law_491 : decode cL_law 491 = .ok (.invokevirtual 111, 3) := dk_182 0 111 (dk_at dksL_law_16 11 rfl rfl)
theorem dL_law_494 : decode cL_law 494 = .ok (.istore 6, 2) := dk_54 6 (dk_at dksL_law_16 14 rfl rfl)
theorem dL_law_496 : decode cL_law 496 = .ok (.aload_n 2, 1) := dk_44 (dk_at dksL_law_16 16 rfl rfl)
theorem dL_law_497 : decode cL_law 497 = .ok (.invokevirtual 98, 3) := dk_182 0 98 (dk_at dksL_law_16 17 rfl rfl)
theorem dL_law_500 : decode cL_law 500 = .ok (.iload 5, 2) := dk_21 5 (dk_at dksL_law_16 20 rfl rfl)
theorem dL_law_502 : decode cL_law 502 = .ok (.if_icmp .eq 5, 3) := dk_159 0 5 (dk_at dksL_law_17 0 rfl rfl)
theorem dL_law_505 : decode cL_law 505 = .ok (.iconst 0, 1) := dk_3 (dk_at dksL_law_17 3 rfl rfl)
theorem dL_law_506 : decode cL_law 506 = .ok (.ireturn, 1) := dk_172 (dk_at dksL_law_17 4 rfl rfl)
theorem dL_law_507 : decode cL_law 507 = .ok (.iload 5, 2) := dk_21 5 (dk_at dksL_law_17 5 rfl rfl)
theorem dL_law_509 : decode cL_law 509 = .ok (.ifCond .ne 15, 3) := dk_154 0 15 (dk_at dksL_law_17 7 rfl rfl)
theorem dL_law_512 : decode cL_law 512 = .ok (.aload_n 3, 1) := dk_45 (dk_at dksL_law_17 10 rfl rfl)
theorem dL_law_513 : decode cL_law 513 = .ok (.iconst 0, 1) := dk_3 (dk_at dksL_law_17 11 rfl rfl)
theorem dL_law_514 : decode cL_law 514 = .ok (.laload, 1) := dk_47 (dk_at dksL_law_17 12 rfl rfl)
theorem dL_law_515 : decode cL_law 515 = .ok (.iload 6, 2) := dk_21 6 (dk_at dksL_law_17 13 rfl rfl)
theorem dL_law_517 : decode cL_law 517 = .ok (.i2l, 1) := dk_133 (dk_at dksL_law_17 15 rfl rfl)
theorem dL_law_518 : decode cL_law 518 = .ok (.lcmp, 1) := dk_148 (dk_at dksL_law_17 16 rfl rfl)
theorem dL_law_519 : decode cL_law 519 = .ok (.ifCond .eq 5, 3) := dk_153 0 5 (dk_at dksL_law_17 17 rfl rfl)
theorem dL_law_522 : decode cL_law 522 = .ok (.iconst 0, 1) := dk_3 (dk_at dksL_law_17 20 rfl rfl)
theorem dL_law_523 : decode cL_law 523 = .ok (.ireturn, 1) := dk_172 (dk_at dksL_law_17 21 rfl rfl)
theorem dL_law_524 : decode cL_law 524 = .ok (.goto 1360, 3) := dk_167 5 80 (dk_at dksL_law_18 0 rfl rfl)
theorem dL_law_527 : decode cL_law 527 = .ok (.aload_n 1, 1) := dk_43 (dk_at dksL_law_18 3 rfl rfl)
theorem dL_law_528 : decode cL_law 528 = .ok (.aload_n 0, 1) := dk_42 (dk_at dksL_law_18 4 rfl rfl)
theorem dL_law_529 : decode cL_law 529 = .ok (.iload 4, 2) := dk_21 4 (dk_at dksL_law_18 5 rfl rfl)
theorem dL_law_531 : decode cL_law 531 = .ok (.iconst 1, 1) := dk_4 (dk_at dksL_law_18 7 rfl rfl)
theorem dL_law_532 : decode cL_law 532 = .ok (.iadd, 1) := dk_96 (dk_at dksL_law_18 8 rfl rfl)
theorem dL_law_533 : decode cL_law 533 = .ok (.iaload, 1) := dk_46 (dk_at dksL_law_18 9 rfl rfl)
theorem dL_law_534 : decode cL_law 534 = .ok (.aload_n 0, 1) := dk_42 (dk_at dksL_law_18 10 rfl rfl)
theorem dL_law_535 : decode cL_law 535 = .ok (.iload 4, 2) := dk_21 4 (dk_at dksL_law_18 11 rfl rfl)
theorem dL_law_537 : decode cL_law 537 = .ok (.iconst 2, 1) := dk_5 (dk_at dksL_law_18 13 rfl rfl)
theorem dL_law_538 : decode cL_law 538 = .ok (.iadd, 1) := dk_96 (dk_at dksL_law_18 14 rfl rfl)
theorem dL_law_539 : decode cL_law 539 = .ok (.iaload, 1) := dk_46 (dk_at dksL_law_18 15 rfl rfl)
theorem dL_law_540 : decode cL_law 540 = .ok (.aload_n 3, 1) := dk_45 (dk_at dksL_law_18 16 rfl rfl)
theorem dL_law_541 : decode cL_law 541 = .ok (.invokestatic 112, 3) := dk_184 0 112 (dk_at dksL_law_18 17 rfl rfl)
theorem dL_law_544 : decode cL_law 544 = .ok (.istore 5, 2) := dk_54 5 (dk_at dksL_law_18 20 rfl rfl)
theorem dL_law_546 : decode cL_law 546 = .ok (.aload_n 2, 1) := dk_44 (dk_at dksL_law_18 22 rfl rfl)
theorem dL_law_547 : decode cL_law 547 = .ok (.aload_n 0, 1) := dk_42 (dk_at dksL_law_18 23 rfl rfl)
theorem dL_law_548 : decode cL_law 548 = .ok (.iload 4, 2) := dk_21 4 (dk_at dksL_law_19 0 rfl rfl)
theorem dL_law_550 : decode cL_law 550 = .ok (.iconst 1, 1) := dk_4 (dk_at dksL_law_19 2 rfl rfl)
theorem dL_law_551 : decode cL_law 551 = .ok (.iadd, 1) := dk_96 (dk_at dksL_law_19 3 rfl rfl)
theorem dL_law_552 : decode cL_law 552 = .ok (.iaload, 1) := dk_46 (dk_at dksL_law_19 4 rfl rfl)
theorem dL_law_553 : decode cL_law 553 = .ok (.aload_n 0, 1) := dk_42 (dk_at dksL_law_19 5 rfl rfl)
theorem dL_law_554 : decode cL_law 554 = .ok (.iload 4, 2) := dk_21 4 (dk_at dksL_law_19 6 rfl rfl)
theorem dL_law_556 : decode cL_law 556 = .ok (.iconst 2, 1) := dk_5 (dk_at dksL_law_19 8 rfl rfl)
theorem dL_law_557 : decode cL_law 557 = .ok (.iadd, 1) := dk_96 (dk_at dksL_law_19 9 rfl rfl)
theorem dL_law_558 : decode cL_law 558 = .ok (.iaload, 1) := dk_46 (dk_at dksL_law_19 10 rfl rfl)
theorem dL_law_559 : decode cL_law 559 = .ok (.invokevirtual 114, 3) := dk_182 0 114 (dk_at dksL_law_19 11 rfl rfl)
theorem dL_law_562 : decode cL_law 562 = .ok (.istore 6, 2) := dk_54 6 (dk_at dksL_law_19 14 rfl rfl)
theorem dL_law_564 : decode cL_law 564 = .ok (.aload_n 2, 1) := dk_44 (dk_at dksL_law_19 16 rfl rfl)
theorem dL_law_565 : decode cL_law 565 = .ok (.invokevirtual 98, 3) := dk_182 0 98 (dk_at dksL_law_19 17 rfl rfl)
theorem dL_law_568 : decode cL_law 568 = .ok (.iload 5, 2) := dk_21 5 (dk_at dksL_law_19 20 rfl rfl)
theorem dL_law_570 : decode cL_law 570 = .ok (.if_icmp .eq 5, 3) := dk_159 0 5 (dk_at dksL_law_20 0 rfl rfl)
theorem dL_law_573 : decode cL_law 573 = .ok (.iconst 0, 1) := dk_3 (dk_at dksL_law_20 3 rfl rfl)
theorem dL_law_574 : decode cL_law 574 = .ok (.ireturn, 1) := dk_172 (dk_at dksL_law_20 4 rfl rfl)
theorem dL_law_575 : decode cL_law 575 = .ok (.iload 5, 2) := dk_21 5 (dk_at dksL_law_20 5 rfl rfl)
theorem dL_law_577 : decode cL_law 577 = .ok (.ifCond .ne 15, 3) := dk_154 0 15 (dk_at dksL_law_20 7 rfl rfl)
theorem dL_law_580 : decode cL_law 580 = .ok (.aload_n 3, 1) := dk_45 (dk_at dksL_law_20 10 rfl rfl)
theorem dL_law_581 : decode cL_law 581 = .ok (.iconst 0, 1) := dk_3 (dk_at dksL_law_20 11 rfl rfl)
theorem dL_law_582 : decode cL_law 582 = .ok (.laload, 1) := dk_47 (dk_at dksL_law_20 12 rfl rfl)
theorem dL_law_583 : decode cL_law 583 = .ok (.iload 6, 2) := dk_21 6 (dk_at dksL_law_20 13 rfl rfl)
theorem dL_law_585 : decode cL_law 585 = .ok (.i2l, 1) := dk_133 (dk_at dksL_law_20 15 rfl rfl)
theorem dL_law_586 : decode cL_law 586 = .ok (.lcmp, 1) := dk_148 (dk_at dksL_law_20 16 rfl rfl)
theorem dL_law_587 : decode cL_law 587 = .ok (.ifCond .eq 5, 3) := dk_153 0 5 (dk_at dksL_law_20 17 rfl rfl)
theorem dL_law_590 : decode cL_law 590 = .ok (.iconst 0, 1) := dk_3 (dk_at dksL_law_20 20 rfl rfl)
theorem dL_law_591 : decode cL_law 591 = .ok (.ireturn, 1) := dk_172 (dk_at dksL_law_20 21 rfl rfl)
theorem dL_law_592 : decode cL_law 592 = .ok (.goto 1292, 3) := dk_167 5 12 (dk_at dksL_law_21 0 rfl rfl)
theorem dL_law_595 : decode cL_law 595 = .ok (.aload_n 1, 1) := dk_43 (dk_at dksL_law_21 3 rfl rfl)
theorem dL_law_596 : decode cL_law 596 = .ok (.aload_n 0, 1) := dk_42 (dk_at dksL_law_21 4 rfl rfl)
theorem dL_law_597 : decode cL_law 597 = .ok (.iload 4, 2) := dk_21 4 (dk_at dksL_law_21 5 rfl rfl)
theorem dL_law_599 : decode cL_law 599 = .ok (.iconst 1, 1) := dk_4 (dk_at dksL_law_21 7 rfl rfl)
theorem dL_law_600 : decode cL_law 600 = .ok (.iadd, 1) := dk_96 (dk_at dksL_law_21 8 rfl rfl)
theorem dL_law_601 : decode cL_law 601 = .ok (.iaload, 1) := dk_46 (dk_at dksL_law_21 9 rfl rfl)
theorem dL_law_602 : decode cL_law 602 = .ok (.aload_n 0, 1) := dk_42 (dk_at dksL_law_21 10 rfl rfl)
theorem dL_law_603 : decode cL_law 603 = .ok (.iload 4, 2) := dk_21 4 (dk_at dksL_law_21 11 rfl rfl)
theorem dL_law_605 : decode cL_law 605 = .ok (.iconst 2, 1) := dk_5 (dk_at dksL_law_21 13 rfl rfl)
theorem dL_law_606 : decode cL_law 606 = .ok (.iadd, 1) := dk_96 (dk_at dksL_law_21 14 rfl rfl)
theorem dL_law_607 : decode cL_law 607 = .ok (.iaload, 1) := dk_46 (dk_at dksL_law_21 15 rfl rfl)
theorem dL_law_608 : decode cL_law 608 = .ok (.aload_n 0, 1) := dk_42 (dk_at dksL_law_21 16 rfl rfl)
theorem dL_law_609 : decode cL_law 609 = .ok (.iload 4, 2) := dk_21 4 (dk_at dksL_law_21 17 rfl rfl)
theorem dL_law_611 : decode cL_law 611 = .ok (.iconst 3, 1) := dk_6 (dk_at dksL_law_21 19 rfl rfl)
theorem dL_law_612 : decode cL_law 612 = .ok (.iadd, 1) := dk_96 (dk_at dksL_law_21 20 rfl rfl)
theorem dL_law_613 : decode cL_law 613 = .ok (.iaload, 1) := dk_46 (dk_at dksL_law_21 21 rfl rfl)
theorem dL_law_614 : decode cL_law 614 = .ok (.aload_n 3, 1) := dk_45 (dk_at dksL_law_21 22 rfl rfl)
theorem dL_law_615 : decode cL_law 615 = .ok (.invokestatic 115, 3) := dk_184 0 115 (dk_at dksL_law_22 0 rfl rfl)
theorem dL_law_618 : decode cL_law 618 = .ok (.istore 5, 2) := dk_54 5 (dk_at dksL_law_22 3 rfl rfl)
theorem dL_law_620 : decode cL_law 620 = .ok (.aload_n 2, 1) := dk_44 (dk_at dksL_law_22 5 rfl rfl)
theorem dL_law_621 : decode cL_law 621 = .ok (.aload_n 0, 1) := dk_42 (dk_at dksL_law_22 6 rfl rfl)
theorem dL_law_622 : decode cL_law 622 = .ok (.iload 4, 2) := dk_21 4 (dk_at dksL_law_22 7 rfl rfl)
theorem dL_law_624 : decode cL_law 624 = .ok (.iconst 1, 1) := dk_4 (dk_at dksL_law_22 9 rfl rfl)
theorem dL_law_625 : decode cL_law 625 = .ok (.iadd, 1) := dk_96 (dk_at dksL_law_22 10 rfl rfl)
theorem dL_law_626 : decode cL_law 626 = .ok (.iaload, 1) := dk_46 (dk_at dksL_law_22 11 rfl rfl)
theorem dL_law_627 : decode cL_law 627 = .ok (.aload_n 0, 1) := dk_42 (dk_at dksL_law_22 12 rfl rfl)
theorem dL_law_628 : decode cL_law 628 = .ok (.iload 4, 2) := dk_21 4 (dk_at dksL_law_22 13 rfl rfl)
theorem dL_law_630 : decode cL_law 630 = .ok (.iconst 2, 1) := dk_5 (dk_at dksL_law_22 15 rfl rfl)
theorem dL_law_631 : decode cL_law 631 = .ok (.iadd, 1) := dk_96 (dk_at dksL_law_22 16 rfl rfl)
theorem dL_law_632 : decode cL_law 632 = .ok (.iaload, 1) := dk_46 (dk_at dksL_law_22 17 rfl rfl)
theorem dL_law_633 : decode cL_law 633 = .ok (.aload_n 0, 1) := dk_42 (dk_at dksL_law_22 18 rfl rfl)
theorem dL_law_634 : decode cL_law 634 = .ok (.iload 4, 2) := dk_21 4 (dk_at dksL_law_22 19 rfl rfl)
theorem dL_law_636 : decode cL_law 636 = .ok (.iconst 3, 1) := dk_6 (dk_at dksL_law_22 21 rfl rfl)
theorem dL_law_637 : decode cL_law 637 = .ok (.iadd, 1) := dk_96 (dk_at dksL_law_22 22 rfl rfl)
theorem dL_law_638 : decode cL_law 638 = .ok (.iaload, 1) := dk_46 (dk_at dksL_law_22 23 rfl rfl)
theorem dL_law_639 : decode cL_law 639 = .ok (.invokevirtual 118, 3) := dk_182 0 118 (dk_at dksL_law_23 0 rfl rfl)
theorem dL_law_642 : decode cL_law 642 = .ok (.istore 6, 2) := dk_54 6 (dk_at dksL_law_23 3 rfl rfl)
theorem dL_law_644 : decode cL_law 644 = .ok (.aload_n 2, 1) := dk_44 (dk_at dksL_law_23 5 rfl rfl)
theorem dL_law_645 : decode cL_law 645 = .ok (.invokevirtual 98, 3) := dk_182 0 98 (dk_at dksL_law_23 6 rfl rfl)
theorem dL_law_648 : decode cL_law 648 = .ok (.iload 5, 2) := dk_21 5 (dk_at dksL_law_23 9 rfl rfl)
theorem dL_law_650 : decode cL_law 650 = .ok (.if_icmp .eq 5, 3) := dk_159 0 5 (dk_at dksL_law_23 11 rfl rfl)
theorem dL_law_653 : decode cL_law 653 = .ok (.iconst 0, 1) := dk_3 (dk_at dksL_law_23 14 rfl rfl)
theorem dL_law_654 : decode cL_law 654 = .ok (.ireturn, 1) := dk_172 (dk_at dksL_law_23 15 rfl rfl)
theorem dL_law_655 : decode cL_law 655 = .ok (.iload 5, 2) := dk_21 5 (dk_at dksL_law_23 16 rfl rfl)
theorem dL_law_657 : decode cL_law 657 = .ok (.ifCond .ne 15, 3) := dk_154 0 15 (dk_at dksL_law_23 18 rfl rfl)
theorem dL_law_660 : decode cL_law 660 = .ok (.aload_n 3, 1) := dk_45 (dk_at dksL_law_23 21 rfl rfl)
theorem dL_law_661 : decode cL_law 661 = .ok (.iconst 0, 1) := dk_3 (dk_at dksL_law_23 22 rfl rfl)
theorem dL_law_662 : decode cL_law 662 = .ok (.laload, 1) := dk_47 (dk_at dksL_law_23 23 rfl rfl)
theorem dL_law_663 : decode cL_law 663 = .ok (.iload 6, 2) := dk_21 6 (dk_at dksL_law_24 0 rfl rfl)
theorem dL_law_665 : decode cL_law 665 = .ok (.i2l, 1) := dk_133 (dk_at dksL_law_24 2 rfl rfl)
theorem dL_law_666 : decode cL_law 666 = .ok (.lcmp, 1) := dk_148 (dk_at dksL_law_24 3 rfl rfl)
theorem dL_law_667 : decode cL_law 667 = .ok (.ifCond .eq 5, 3) := dk_153 0 5 (dk_at dksL_law_24 4 rfl rfl)
theorem dL_law_670 : decode cL_law 670 = .ok (.iconst 0, 1) := dk_3 (dk_at dksL_law_24 7 rfl rfl)
theorem dL_law_671 : decode cL_law 671 = .ok (.ireturn, 1) := dk_172 (dk_at dksL_law_24 8 rfl rfl)
theorem dL_law_672 : decode cL_law 672 = .ok (.goto 1212, 3) := dk_167 4 188 (dk_at dksL_law_24 9 rfl rfl)
theorem dL_law_675 : decode cL_law 675 = .ok (.aload_n 1, 1) := dk_43 (dk_at dksL_law_24 12 rfl rfl)
theorem dL_law_676 : decode cL_law 676 = .ok (.aload_n 0, 1) := dk_42 (dk_at dksL_law_24 13 rfl rfl)
theorem dL_law_677 : decode cL_law 677 = .ok (.iload 4, 2) := dk_21 4 (dk_at dksL_law_24 14 rfl rfl)
theorem dL_law_679 : decode cL_law 679 = .ok (.iconst 1, 1) := dk_4 (dk_at dksL_law_24 16 rfl rfl)
theorem dL_law_680 : decode cL_law 680 = .ok (.iadd, 1) := dk_96 (dk_at dksL_law_24 17 rfl rfl)
theorem dL_law_681 : decode cL_law 681 = .ok (.iaload, 1) := dk_46 (dk_at dksL_law_24 18 rfl rfl)
theorem dL_law_682 : decode cL_law 682 = .ok (.aload_n 0, 1) := dk_42 (dk_at dksL_law_24 19 rfl rfl)
theorem dL_law_683 : decode cL_law 683 = .ok (.iload 4, 2) := dk_21 4 (dk_at dksL_law_24 20 rfl rfl)
theorem dL_law_685 : decode cL_law 685 = .ok (.iconst 2, 1) := dk_5 (dk_at dksL_law_24 22 rfl rfl)
theorem dL_law_686 : decode cL_law 686 = .ok (.iadd, 1) := dk_96 (dk_at dksL_law_24 23 rfl rfl)
theorem dL_law_687 : decode cL_law 687 = .ok (.iaload, 1) := dk_46 (dk_at dksL_law_25 0 rfl rfl)
theorem dL_law_688 : decode cL_law 688 = .ok (.aload_n 0, 1) := dk_42 (dk_at dksL_law_25 1 rfl rfl)
theorem dL_law_689 : decode cL_law 689 = .ok (.iload 4, 2) := dk_21 4 (dk_at dksL_law_25 2 rfl rfl)
theorem dL_law_691 : decode cL_law 691 = .ok (.iconst 3, 1) := dk_6 (dk_at dksL_law_25 4 rfl rfl)
theorem dL_law_692 : decode cL_law 692 = .ok (.iadd, 1) := dk_96 (dk_at dksL_law_25 5 rfl rfl)
theorem dL_law_693 : decode cL_law 693 = .ok (.iaload, 1) := dk_46 (dk_at dksL_law_25 6 rfl rfl)
theorem dL_law_694 : decode cL_law 694 = .ok (.aload_n 0, 1) := dk_42 (dk_at dksL_law_25 7 rfl rfl)
theorem dL_law_695 : decode cL_law 695 = .ok (.iload 4, 2) := dk_21 4 (dk_at dksL_law_25 8 rfl rfl)
theorem dL_law_697 : decode cL_law 697 = .ok (.iconst 4, 1) := dk_7 (dk_at dksL_law_25 10 rfl rfl)
theorem dL_law_698 : decode cL_law 698 = .ok (.iadd, 1) := dk_96 (dk_at dksL_law_25 11 rfl rfl)
theorem dL_law_699 : decode cL_law 699 = .ok (.iaload, 1) := dk_46 (dk_at dksL_law_25 12 rfl rfl)
theorem dL_law_700 : decode cL_law 700 = .ok (.aload_n 0, 1) := dk_42 (dk_at dksL_law_25 13 rfl rfl)
theorem dL_law_701 : decode cL_law 701 = .ok (.iload 4, 2) := dk_21 4 (dk_at dksL_law_25 14 rfl rfl)
theorem dL_law_703 : decode cL_law 703 = .ok (.iconst 5, 1) := dk_8 (dk_at dksL_law_25 16 rfl rfl)
theorem dL_law_704 : decode cL_law 704 = .ok (.iadd, 1) := dk_96 (dk_at dksL_law_25 17 rfl rfl)
theorem dL_law_705 : decode cL_law 705 = .ok (.iaload, 1) := dk_46 (dk_at dksL_law_25 18 rfl rfl)
theorem dL_law_706 : decode cL_law 706 = .ok (.aload_n 0, 1) := dk_42 (dk_at dksL_law_25 19 rfl rfl)
theorem dL_law_707 : decode cL_law 707 = .ok (.iload 4, 2) := dk_21 4 (dk_at dksL_law_25 20 rfl rfl)
theorem dL_law_709 : decode cL_law 709 = .ok (.bipush 6, 2) := dk_16 6 (dk_at dksL_law_25 22 rfl rfl)
theorem dL_law_711 : decode cL_law 711 = .ok (.iadd, 1) := dk_96 (dk_at dksL_law_26 0 rfl rfl)
theorem dL_law_712 : decode cL_law 712 = .ok (.iaload, 1) := dk_46 (dk_at dksL_law_26 1 rfl rfl)
theorem dL_law_713 : decode cL_law 713 = .ok (.aload_n 3, 1) := dk_45 (dk_at dksL_law_26 2 rfl rfl)
theorem dL_law_714 : decode cL_law 714 = .ok (.invokestatic 119, 3) := dk_184 0 119 (dk_at dksL_law_26 3 rfl rfl)
theorem dL_law_717 : decode cL_law 717 = .ok (.istore 5, 2) := dk_54 5 (dk_at dksL_law_26 6 rfl rfl)
theorem dL_law_719 : decode cL_law 719 = .ok (.aload_n 2, 1) := dk_44 (dk_at dksL_law_26 8 rfl rfl)
theorem dL_law_720 : decode cL_law 720 = .ok (.aload_n 0, 1) := dk_42 (dk_at dksL_law_26 9 rfl rfl)
theorem dL_law_721 : decode cL_law 721 = .ok (.iload 4, 2) := dk_21 4 (dk_at dksL_law_26 10 rfl rfl)
theorem dL_law_723 : decode cL_law 723 = .ok (.iconst 1, 1) := dk_4 (dk_at dksL_law_26 12 rfl rfl)
theorem dL_law_724 : decode cL_law 724 = .ok (.iadd, 1) := dk_96 (dk_at dksL_law_26 13 rfl rfl)
theorem dL_law_725 : decode cL_law 725 = .ok (.iaload, 1) := dk_46 (dk_at dksL_law_26 14 rfl rfl)
theorem dL_law_726 : decode cL_law 726 = .ok (.aload_n 0, 1) := dk_42 (dk_at dksL_law_26 15 rfl rfl)
theorem dL_law_727 : decode cL_law 727 = .ok (.iload 4, 2) := dk_21 4 (dk_at dksL_law_26 16 rfl rfl)
theorem dL_law_729 : decode cL_law 729 = .ok (.iconst 2, 1) := dk_5 (dk_at dksL_law_26 18 rfl rfl)
theorem dL_law_730 : decode cL_law 730 = .ok (.iadd, 1) := dk_96 (dk_at dksL_law_26 19 rfl rfl)
theorem dL_law_731 : decode cL_law 731 = .ok (.iaload, 1) := dk_46 (dk_at dksL_law_26 20 rfl rfl)
theorem dL_law_732 : decode cL_law 732 = .ok (.aload_n 0, 1) := dk_42 (dk_at dksL_law_26 21 rfl rfl)
theorem dL_law_733 : decode cL_law 733 = .ok (.iload 4, 2) := dk_21 4 (dk_at dksL_law_26 22 rfl rfl)
theorem dL_law_735 : decode cL_law 735 = .ok (.iconst 3, 1) := dk_6 (dk_at dksL_law_27 0 rfl rfl)
theorem dL_law_736 : decode cL_law 736 = .ok (.iadd, 1) := dk_96 (dk_at dksL_law_27 1 rfl rfl)
theorem dL_law_737 : decode cL_law 737 = .ok (.iaload, 1) := dk_46 (dk_at dksL_law_27 2 rfl rfl)
theorem dL_law_738 : decode cL_law 738 = .ok (.aload_n 0, 1) := dk_42 (dk_at dksL_law_27 3 rfl rfl)
theorem dL_law_739 : decode cL_law 739 = .ok (.iload 4, 2) := dk_21 4 (dk_at dksL_law_27 4 rfl rfl)
theorem dL_law_741 : decode cL_law 741 = .ok (.iconst 4, 1) := dk_7 (dk_at dksL_law_27 6 rfl rfl)
theorem dL_law_742 : decode cL_law 742 = .ok (.iadd, 1) := dk_96 (dk_at dksL_law_27 7 rfl rfl)
theorem dL_law_743 : decode cL_law 743 = .ok (.iaload, 1) := dk_46 (dk_at dksL_law_27 8 rfl rfl)
theorem dL_law_744 : decode cL_law 744 = .ok (.aload_n 0, 1) := dk_42 (dk_at dksL_law_27 9 rfl rfl)
theorem dL_law_745 : decode cL_law 745 = .ok (.iload 4, 2) := dk_21 4 (dk_at dksL_law_27 10 rfl rfl)
theorem dL_law_747 : decode cL_law 747 = .ok (.iconst 5, 1) := dk_8 (dk_at dksL_law_27 12 rfl rfl)
theorem dL_law_748 : decode cL_law 748 = .ok (.iadd, 1) := dk_96 (dk_at dksL_law_27 13 rfl rfl)
theorem dL_law_749 : decode cL_law 749 = .ok (.iaload, 1) := dk_46 (dk_at dksL_law_27 14 rfl rfl)
theorem dL_law_750 : decode cL_law 750 = .ok (.aload_n 0, 1) := dk_42 (dk_at dksL_law_27 15 rfl rfl)
theorem dL_law_751 : decode cL_law 751 = .ok (.iload 4, 2) := dk_21 4 (dk_at dksL_law_27 16 rfl rfl)
theorem dL_law_753 : decode cL_law 753 = .ok (.bipush 6, 2) := dk_16 6 (dk_at dksL_law_27 18 rfl rfl)
theorem dL_law_755 : decode cL_law 755 = .ok (.iadd, 1) := dk_96 (dk_at dksL_law_27 20 rfl rfl)
theorem dL_law_756 : decode cL_law 756 = .ok (.iaload, 1) := dk_46 (dk_at dksL_law_27 21 rfl rfl)
theorem dL_law_757 : decode cL_law 757 = .ok (.invokevirtual 122, 3) := dk_182 0 122 (dk_at dksL_law_28 0 rfl rfl)
theorem dL_law_760 : decode cL_law 760 = .ok (.istore 6, 2) := dk_54 6 (dk_at dksL_law_28 3 rfl rfl)
theorem dL_law_762 : decode cL_law 762 = .ok (.aload_n 2, 1) := dk_44 (dk_at dksL_law_28 5 rfl rfl)
theorem dL_law_763 : decode cL_law 763 = .ok (.invokevirtual 98, 3) := dk_182 0 98 (dk_at dksL_law_28 6 rfl rfl)
theorem dL_law_766 : decode cL_law 766 = .ok (.iload 5, 2) := dk_21 5 (dk_at dksL_law_28 9 rfl rfl)
theorem dL_law_768 : decode cL_law 768 = .ok (.if_icmp .eq 5, 3) := dk_159 0 5 (dk_at dksL_law_28 11 rfl rfl)
theorem dL_law_771 : decode cL_law 771 = .ok (.iconst 0, 1) := dk_3 (dk_at dksL_law_28 14 rfl rfl)
theorem dL_law_772 : decode cL_law 772 = .ok (.ireturn, 1) := dk_172 (dk_at dksL_law_28 15 rfl rfl)
theorem dL_law_773 : decode cL_law 773 = .ok (.iload 5, 2) := dk_21 5 (dk_at dksL_law_28 16 rfl rfl)
theorem dL_law_775 : decode cL_law 775 = .ok (.ifCond .ne 15, 3) := dk_154 0 15 (dk_at dksL_law_28 18 rfl rfl)
theorem dL_law_778 : decode cL_law 778 = .ok (.aload_n 3, 1) := dk_45 (dk_at dksL_law_28 21 rfl rfl)
theorem dL_law_779 : decode cL_law 779 = .ok (.iconst 0, 1) := dk_3 (dk_at dksL_law_28 22 rfl rfl)
theorem dL_law_780 : decode cL_law 780 = .ok (.laload, 1) := dk_47 (dk_at dksL_law_28 23 rfl rfl)
theorem dL_law_781 : decode cL_law 781 = .ok (.iload 6, 2) := dk_21 6 (dk_at dksL_law_29 0 rfl rfl)
theorem dL_law_783 : decode cL_law 783 = .ok (.i2l, 1) := dk_133 (dk_at dksL_law_29 2 rfl rfl)
theorem dL_law_784 : decode cL_law 784 = .ok (.lcmp, 1) := dk_148 (dk_at dksL_law_29 3 rfl rfl)
theorem dL_law_785 : decode cL_law 785 = .ok (.ifCond .eq 5, 3) := dk_153 0 5 (dk_at dksL_law_29 4 rfl rfl)
theorem dL_law_788 : decode cL_law 788 = .ok (.iconst 0, 1) := dk_3 (dk_at dksL_law_29 7 rfl rfl)
theorem dL_law_789 : decode cL_law 789 = .ok (.ireturn, 1) := dk_172 (dk_at dksL_law_29 8 rfl rfl)
theorem dL_law_790 : decode cL_law 790 = .ok (.goto 1094, 3) := dk_167 4 70 (dk_at dksL_law_29 9 rfl rfl)
theorem dL_law_793 : decode cL_law 793 = .ok (.aload_n 1, 1) := dk_43 (dk_at dksL_law_29 12 rfl rfl)
theorem dL_law_794 : decode cL_law 794 = .ok (.aload_n 0, 1) := dk_42 (dk_at dksL_law_29 13 rfl rfl)
theorem dL_law_795 : decode cL_law 795 = .ok (.iload 4, 2) := dk_21 4 (dk_at dksL_law_29 14 rfl rfl)
theorem dL_law_797 : decode cL_law 797 = .ok (.iconst 1, 1) := dk_4 (dk_at dksL_law_29 16 rfl rfl)
theorem dL_law_798 : decode cL_law 798 = .ok (.iadd, 1) := dk_96 (dk_at dksL_law_29 17 rfl rfl)
theorem dL_law_799 : decode cL_law 799 = .ok (.iaload, 1) := dk_46 (dk_at dksL_law_29 18 rfl rfl)
theorem dL_law_800 : decode cL_law 800 = .ok (.aload_n 0, 1) := dk_42 (dk_at dksL_law_29 19 rfl rfl)
theorem dL_law_801 : decode cL_law 801 = .ok (.iload 4, 2) := dk_21 4 (dk_at dksL_law_29 20 rfl rfl)
theorem dL_law_803 : decode cL_law 803 = .ok (.iconst 2, 1) := dk_5 (dk_at dksL_law_29 22 rfl rfl)
theorem dL_law_804 : decode cL_law 804 = .ok (.iadd, 1) := dk_96 (dk_at dksL_law_29 23 rfl rfl)
theorem dL_law_805 : decode cL_law 805 = .ok (.iaload, 1) := dk_46 (dk_at dksL_law_30 0 rfl rfl)
theorem dL_law_806 : decode cL_law 806 = .ok (.aload_n 0, 1) := dk_42 (dk_at dksL_law_30 1 rfl rfl)
theorem dL_law_807 : decode cL_law 807 = .ok (.iload 4, 2) := dk_21 4 (dk_at dksL_law_30 2 rfl rfl)
theorem dL_law_809 : decode cL_law 809 = .ok (.iconst 3, 1) := dk_6 (dk_at dksL_law_30 4 rfl rfl)
theorem dL_law_810 : decode cL_law 810 = .ok (.iadd, 1) := dk_96 (dk_at dksL_law_30 5 rfl rfl)
theorem dL_law_811 : decode cL_law 811 = .ok (.iaload, 1) := dk_46 (dk_at dksL_law_30 6 rfl rfl)
theorem dL_law_812 : decode cL_law 812 = .ok (.aload_n 0, 1) := dk_42 (dk_at dksL_law_30 7 rfl rfl)
theorem dL_law_813 : decode cL_law 813 = .ok (.iload 4, 2) := dk_21 4 (dk_at dksL_law_30 8 rfl rfl)
theorem dL_law_815 : decode cL_law 815 = .ok (.iconst 4, 1) := dk_7 (dk_at dksL_law_30 10 rfl rfl)
theorem dL_law_816 : decode cL_law 816 = .ok (.iadd, 1) := dk_96 (dk_at dksL_law_30 11 rfl rfl)
theorem dL_law_817 : decode cL_law 817 = .ok (.iaload, 1) := dk_46 (dk_at dksL_law_30 12 rfl rfl)
theorem dL_law_818 : decode cL_law 818 = .ok (.ifCond .eq 7, 3) := dk_153 0 7 (dk_at dksL_law_30 13 rfl rfl)
theorem dL_law_821 : decode cL_law 821 = .ok (.iconst 1, 1) := dk_4 (dk_at dksL_law_30 16 rfl rfl)
theorem dL_law_822 : decode cL_law 822 = .ok (.goto 4, 3) := dk_167 0 4 (dk_at dksL_law_30 17 rfl rfl)
theorem dL_law_825 : decode cL_law 825 = .ok (.iconst 0, 1) := dk_3 (dk_at dksL_law_30 20 rfl rfl)
theorem dL_law_826 : decode cL_law 826 = .ok (.aload_n 3, 1) := dk_45 (dk_at dksL_law_30 21 rfl rfl)
theorem dL_law_827 : decode cL_law 827 = .ok (.invokestatic 123, 3) := dk_184 0 123 (dk_at dksL_law_31 0 rfl rfl)
theorem dL_law_830 : decode cL_law 830 = .ok (.istore 5, 2) := dk_54 5 (dk_at dksL_law_31 3 rfl rfl)
theorem dL_law_832 : decode cL_law 832 = .ok (.aload_n 2, 1) := dk_44 (dk_at dksL_law_31 5 rfl rfl)
theorem dL_law_833 : decode cL_law 833 = .ok (.aload_n 0, 1) := dk_42 (dk_at dksL_law_31 6 rfl rfl)
theorem dL_law_834 : decode cL_law 834 = .ok (.iload 4, 2) := dk_21 4 (dk_at dksL_law_31 7 rfl rfl)
theorem dL_law_836 : decode cL_law 836 = .ok (.iconst 1, 1) := dk_4 (dk_at dksL_law_31 9 rfl rfl)
theorem dL_law_837 : decode cL_law 837 = .ok (.iadd, 1) := dk_96 (dk_at dksL_law_31 10 rfl rfl)
theorem dL_law_838 : decode cL_law 838 = .ok (.iaload, 1) := dk_46 (dk_at dksL_law_31 11 rfl rfl)
theorem dL_law_839 : decode cL_law 839 = .ok (.aload_n 0, 1) := dk_42 (dk_at dksL_law_31 12 rfl rfl)
theorem dL_law_840 : decode cL_law 840 = .ok (.iload 4, 2) := dk_21 4 (dk_at dksL_law_31 13 rfl rfl)
theorem dL_law_842 : decode cL_law 842 = .ok (.iconst 2, 1) := dk_5 (dk_at dksL_law_31 15 rfl rfl)
theorem dL_law_843 : decode cL_law 843 = .ok (.iadd, 1) := dk_96 (dk_at dksL_law_31 16 rfl rfl)
theorem dL_law_844 : decode cL_law 844 = .ok (.iaload, 1) := dk_46 (dk_at dksL_law_31 17 rfl rfl)
theorem dL_law_845 : decode cL_law 845 = .ok (.aload_n 0, 1) := dk_42 (dk_at dksL_law_31 18 rfl rfl)
theorem dL_law_846 : decode cL_law 846 = .ok (.iload 4, 2) := dk_21 4 (dk_at dksL_law_31 19 rfl rfl)
theorem dL_law_848 : decode cL_law 848 = .ok (.iconst 3, 1) := dk_6 (dk_at dksL_law_31 21 rfl rfl)
theorem dL_law_849 : decode cL_law 849 = .ok (.iadd, 1) := dk_96 (dk_at dksL_law_31 22 rfl rfl)
theorem dL_law_850 : decode cL_law 850 = .ok (.iaload, 1) := dk_46 (dk_at dksL_law_31 23 rfl rfl)
theorem dL_law_851 : decode cL_law 851 = .ok (.aload_n 0, 1) := dk_42 (dk_at dksL_law_32 0 rfl rfl)
theorem dL_law_852 : decode cL_law 852 = .ok (.iload 4, 2) := dk_21 4 (dk_at dksL_law_32 1 rfl rfl)
theorem dL_law_854 : decode cL_law 854 = .ok (.iconst 4, 1) := dk_7 (dk_at dksL_law_32 3 rfl rfl)
theorem dL_law_855 : decode cL_law 855 = .ok (.iadd, 1) := dk_96 (dk_at dksL_law_32 4 rfl rfl)
theorem dL_law_856 : decode cL_law 856 = .ok (.iaload, 1) := dk_46 (dk_at dksL_law_32 5 rfl rfl)
theorem dL_law_857 : decode cL_law 857 = .ok (.ifCond .eq 7, 3) := dk_153 0 7 (dk_at dksL_law_32 6 rfl rfl)
theorem dL_law_860 : decode cL_law 860 = .ok (.iconst 1, 1) := dk_4 (dk_at dksL_law_32 9 rfl rfl)
theorem dL_law_861 : decode cL_law 861 = .ok (.goto 4, 3) := dk_167 0 4 (dk_at dksL_law_32 10 rfl rfl)
theorem dL_law_864 : decode cL_law 864 = .ok (.iconst 0, 1) := dk_3 (dk_at dksL_law_32 13 rfl rfl)
theorem dL_law_865 : decode cL_law 865 = .ok (.invokevirtual 126, 3) := dk_182 0 126 (dk_at dksL_law_32 14 rfl rfl)
theorem dL_law_868 : decode cL_law 868 = .ok (.istore 6, 2) := dk_54 6 (dk_at dksL_law_32 17 rfl rfl)
theorem dL_law_870 : decode cL_law 870 = .ok (.aload_n 2, 1) := dk_44 (dk_at dksL_law_32 19 rfl rfl)
theorem dL_law_871 : decode cL_law 871 = .ok (.invokevirtual 98, 3) := dk_182 0 98 (dk_at dksL_law_32 20 rfl rfl)
theorem dL_law_874 : decode cL_law 874 = .ok (.iload 5, 2) := dk_21 5 (dk_at dksL_law_33 0 rfl rfl)
theorem dL_law_876 : decode cL_law 876 = .ok (.if_icmp .eq 5, 3) := dk_159 0 5 (dk_at dksL_law_33 2 rfl rfl)
theorem dL_law_879 : decode cL_law 879 = .ok (.iconst 0, 1) := dk_3 (dk_at dksL_law_33 5 rfl rfl)
theorem dL_law_880 : decode cL_law 880 = .ok (.ireturn, 1) := dk_172 (dk_at dksL_law_33 6 rfl rfl)
theorem dL_law_881 : decode cL_law 881 = .ok (.iload 5, 2) := dk_21 5 (dk_at dksL_law_33 7 rfl rfl)
theorem dL_law_883 : decode cL_law 883 = .ok (.ifCond .ne 15, 3) := dk_154 0 15 (dk_at dksL_law_33 9 rfl rfl)
theorem dL_law_886 : decode cL_law 886 = .ok (.aload_n 3, 1) := dk_45 (dk_at dksL_law_33 12 rfl rfl)
theorem dL_law_887 : decode cL_law 887 = .ok (.iconst 0, 1) := dk_3 (dk_at dksL_law_33 13 rfl rfl)
theorem dL_law_888 : decode cL_law 888 = .ok (.laload, 1) := dk_47 (dk_at dksL_law_33 14 rfl rfl)
theorem dL_law_889 : decode cL_law 889 = .ok (.iload 6, 2) := dk_21 6 (dk_at dksL_law_33 15 rfl rfl)
theorem dL_law_891 : decode cL_law 891 = .ok (.i2l, 1) := dk_133 (dk_at dksL_law_33 17 rfl rfl)
theorem dL_law_892 : decode cL_law 892 = .ok (.lcmp, 1) := dk_148 (dk_at dksL_law_33 18 rfl rfl)
theorem dL_law_893 : decode cL_law 893 = .ok (.ifCond .eq 5, 3) := dk_153 0 5 (dk_at dksL_law_33 19 rfl rfl)
theorem dL_law_896 : decode cL_law 896 = .ok (.iconst 0, 1) := dk_3 (dk_at dksL_law_33 22 rfl rfl)
theorem dL_law_897 : decode cL_law 897 = .ok (.ireturn, 1) := dk_172 (dk_at dksL_law_33 23 rfl rfl)
theorem dL_law_898 : decode cL_law 898 = .ok (.goto 986, 3) := dk_167 3 218 (dk_at dksL_law_34 0 rfl rfl)
theorem dL_law_901 : decode cL_law 901 = .ok (.aload_n 1, 1) := dk_43 (dk_at dksL_law_34 3 rfl rfl)
theorem dL_law_902 : decode cL_law 902 = .ok (.aload_n 3, 1) := dk_45 (dk_at dksL_law_34 4 rfl rfl)
theorem dL_law_903 : decode cL_law 903 = .ok (.invokestatic 127, 3) := dk_184 0 127 (dk_at dksL_law_34 5 rfl rfl)
theorem dL_law_906 : decode cL_law 906 = .ok (.istore 5, 2) := dk_54 5 (dk_at dksL_law_34 8 rfl rfl)
theorem dL_law_908 : decode cL_law 908 = .ok (.aload_n 2, 1) := dk_44 (dk_at dksL_law_34 10 rfl rfl)
theorem dL_law_909 : decode cL_law 909 = .ok (.invokevirtual 130, 3) := dk_182 0 130 (dk_at dksL_law_34 11 rfl rfl)
theorem dL_law_912 : decode cL_law 912 = .ok (.istore 6, 2) := dk_54 6 (dk_at dksL_law_34 14 rfl rfl)
theorem dL_law_914 : decode cL_law 914 = .ok (.aload_n 2, 1) := dk_44 (dk_at dksL_law_34 16 rfl rfl)
theorem dL_law_915 : decode cL_law 915 = .ok (.invokevirtual 98, 3) := dk_182 0 98 (dk_at dksL_law_34 17 rfl rfl)
theorem dL_law_918 : decode cL_law 918 = .ok (.iload 5, 2) := dk_21 5 (dk_at dksL_law_34 20 rfl rfl)
theorem dL_law_920 : decode cL_law 920 = .ok (.if_icmp .eq 5, 3) := dk_159 0 5 (dk_at dksL_law_35 0 rfl rfl)
theorem dL_law_923 : decode cL_law 923 = .ok (.iconst 0, 1) := dk_3 (dk_at dksL_law_35 3 rfl rfl)
theorem dL_law_924 : decode cL_law 924 = .ok (.ireturn, 1) := dk_172 (dk_at dksL_law_35 4 rfl rfl)
theorem dL_law_925 : decode cL_law 925 = .ok (.iload 5, 2) := dk_21 5 (dk_at dksL_law_35 5 rfl rfl)
theorem dL_law_927 : decode cL_law 927 = .ok (.ifCond .ne 15, 3) := dk_154 0 15 (dk_at dksL_law_35 7 rfl rfl)
theorem dL_law_930 : decode cL_law 930 = .ok (.aload_n 3, 1) := dk_45 (dk_at dksL_law_35 10 rfl rfl)
theorem dL_law_931 : decode cL_law 931 = .ok (.iconst 0, 1) := dk_3 (dk_at dksL_law_35 11 rfl rfl)
theorem dL_law_932 : decode cL_law 932 = .ok (.laload, 1) := dk_47 (dk_at dksL_law_35 12 rfl rfl)
theorem dL_law_933 : decode cL_law 933 = .ok (.iload 6, 2) := dk_21 6 (dk_at dksL_law_35 13 rfl rfl)
theorem dL_law_935 : decode cL_law 935 = .ok (.i2l, 1) := dk_133 (dk_at dksL_law_35 15 rfl rfl)
theorem dL_law_936 : decode cL_law 936 = .ok (.lcmp, 1) := dk_148 (dk_at dksL_law_35 16 rfl rfl)
theorem dL_law_937 : decode cL_law 937 = .ok (.ifCond .eq 5, 3) := dk_153 0 5 (dk_at dksL_law_35 17 rfl rfl)
theorem dL_law_940 : decode cL_law 940 = .ok (.iconst 0, 1) := dk_3 (dk_at dksL_law_35 20 rfl rfl)
theorem dL_law_941 : decode cL_law 941 = .ok (.ireturn, 1) := dk_172 (dk_at dksL_law_35 21 rfl rfl)
theorem dL_law_942 : decode cL_law 942 = .ok (.goto 942, 3) := dk_167 3 174 (dk_at dksL_law_36 0 rfl rfl)
theorem dL_law_945 : decode cL_law 945 = .ok (.aload_n 1, 1) := dk_43 (dk_at dksL_law_36 3 rfl rfl)
theorem dL_law_946 : decode cL_law 946 = .ok (.aload_n 3, 1) := dk_45 (dk_at dksL_law_36 4 rfl rfl)
theorem dL_law_947 : decode cL_law 947 = .ok (.invokestatic 131, 3) := dk_184 0 131 (dk_at dksL_law_36 5 rfl rfl)
theorem dL_law_950 : decode cL_law 950 = .ok (.istore 5, 2) := dk_54 5 (dk_at dksL_law_36 8 rfl rfl)
theorem dL_law_952 : decode cL_law 952 = .ok (.aload_n 2, 1) := dk_44 (dk_at dksL_law_36 10 rfl rfl)
theorem dL_law_953 : decode cL_law 953 = .ok (.invokevirtual 133, 3) := dk_182 0 133 (dk_at dksL_law_36 11 rfl rfl)
theorem dL_law_956 : decode cL_law 956 = .ok (.istore 6, 2) := dk_54 6 (dk_at dksL_law_36 14 rfl rfl)
theorem dL_law_958 : decode cL_law 958 = .ok (.aload_n 2, 1) := dk_44 (dk_at dksL_law_36 16 rfl rfl)
theorem dL_law_959 : decode cL_law 959 = .ok (.invokevirtual 98, 3) := dk_182 0 98 (dk_at dksL_law_36 17 rfl rfl)
theorem dL_law_962 : decode cL_law 962 = .ok (.iload 5, 2) := dk_21 5 (dk_at dksL_law_36 20 rfl rfl)
theorem dL_law_964 : decode cL_law 964 = .ok (.if_icmp .eq 5, 3) := dk_159 0 5 (dk_at dksL_law_37 0 rfl rfl)
theorem dL_law_967 : decode cL_law 967 = .ok (.iconst 0, 1) := dk_3 (dk_at dksL_law_37 3 rfl rfl)
theorem dL_law_968 : decode cL_law 968 = .ok (.ireturn, 1) := dk_172 (dk_at dksL_law_37 4 rfl rfl)
theorem dL_law_969 : decode cL_law 969 = .ok (.iload 5, 2) := dk_21 5 (dk_at dksL_law_37 5 rfl rfl)
theorem dL_law_971 : decode cL_law 971 = .ok (.ifCond .ne 15, 3) := dk_154 0 15 (dk_at dksL_law_37 7 rfl rfl)
theorem dL_law_974 : decode cL_law 974 = .ok (.aload_n 3, 1) := dk_45 (dk_at dksL_law_37 10 rfl rfl)
theorem dL_law_975 : decode cL_law 975 = .ok (.iconst 0, 1) := dk_3 (dk_at dksL_law_37 11 rfl rfl)
theorem dL_law_976 : decode cL_law 976 = .ok (.laload, 1) := dk_47 (dk_at dksL_law_37 12 rfl rfl)
theorem dL_law_977 : decode cL_law 977 = .ok (.iload 6, 2) := dk_21 6 (dk_at dksL_law_37 13 rfl rfl)
theorem dL_law_979 : decode cL_law 979 = .ok (.i2l, 1) := dk_133 (dk_at dksL_law_37 15 rfl rfl)
theorem dL_law_980 : decode cL_law 980 = .ok (.lcmp, 1) := dk_148 (dk_at dksL_law_37 16 rfl rfl)
theorem dL_law_981 : decode cL_law 981 = .ok (.ifCond .eq 5, 3) := dk_153 0 5 (dk_at dksL_law_37 17 rfl rfl)
theorem dL_law_984 : decode cL_law 984 = .ok (.iconst 0, 1) := dk_3 (dk_at dksL_law_37 20 rfl rfl)
theorem dL_law_985 : decode cL_law 985 = .ok (.ireturn, 1) := dk_172 (dk_at dksL_law_37 21 rfl rfl)
theorem dL_law_986 : decode cL_law 986 = .ok (.goto 898, 3) := dk_167 3 130 (dk_at dksL_law_38 0 rfl rfl)
theorem dL_law_989 : decode cL_law 989 = .ok (.aload_n 1, 1) := dk_43 (dk_at dksL_law_38 3 rfl rfl)
theorem dL_law_990 : decode cL_law 990 = .ok (.aload_n 3, 1) := dk_45 (dk_at dksL_law_38 4 rfl rfl)
theorem dL_law_991 : decode cL_law 991 = .ok (.invokestatic 134, 3) := dk_184 0 134 (dk_at dksL_law_38 5 rfl rfl)
theorem dL_law_994 : decode cL_law 994 = .ok (.istore 5, 2) := dk_54 5 (dk_at dksL_law_38 8 rfl rfl)
theorem dL_law_996 : decode cL_law 996 = .ok (.aload_n 2, 1) := dk_44 (dk_at dksL_law_38 10 rfl rfl)
theorem dL_law_997 : decode cL_law 997 = .ok (.invokevirtual 136, 3) := dk_182 0 136 (dk_at dksL_law_38 11 rfl rfl)
theorem dL_law_1000 : decode cL_law 1000 = .ok (.istore 6, 2) := dk_54 6 (dk_at dksL_law_38 14 rfl rfl)
theorem dL_law_1002 : decode cL_law 1002 = .ok (.aload_n 2, 1) := dk_44 (dk_at dksL_law_38 16 rfl rfl)
theorem dL_law_1003 : decode cL_law 1003 = .ok (.invokevirtual 98, 3) := dk_182 0 98 (dk_at dksL_law_38 17 rfl rfl)
theorem dL_law_1006 : decode cL_law 1006 = .ok (.iload 5, 2) := dk_21 5 (dk_at dksL_law_38 20 rfl rfl)
theorem dL_law_1008 : decode cL_law 1008 = .ok (.if_icmp .eq 5, 3) := dk_159 0 5 (dk_at dksL_law_39 0 rfl rfl)
theorem dL_law_1011 : decode cL_law 1011 = .ok (.iconst 0, 1) := dk_3 (dk_at dksL_law_39 3 rfl rfl)
theorem dL_law_1012 : decode cL_law 1012 = .ok (.ireturn, 1) := dk_172 (dk_at dksL_law_39 4 rfl rfl)
theorem dL_law_1013 : decode cL_law 1013 = .ok (.iload 5, 2) := dk_21 5 (dk_at dksL_law_39 5 rfl rfl)
theorem dL_law_1015 : decode cL_law 1015 = .ok (.ifCond .ne 15, 3) := dk_154 0 15 (dk_at dksL_law_39 7 rfl rfl)
theorem dL_law_1018 : decode cL_law 1018 = .ok (.aload_n 3, 1) := dk_45 (dk_at dksL_law_39 10 rfl rfl)
theorem dL_law_1019 : decode cL_law 1019 = .ok (.iconst 0, 1) := dk_3 (dk_at dksL_law_39 11 rfl rfl)
theorem dL_law_1020 : decode cL_law 1020 = .ok (.laload, 1) := dk_47 (dk_at dksL_law_39 12 rfl rfl)
theorem dL_law_1021 : decode cL_law 1021 = .ok (.iload 6, 2) := dk_21 6 (dk_at dksL_law_39 13 rfl rfl)
theorem dL_law_1023 : decode cL_law 1023 = .ok (.i2l, 1) := dk_133 (dk_at dksL_law_39 15 rfl rfl)
theorem dL_law_1024 : decode cL_law 1024 = .ok (.lcmp, 1) := dk_148 (dk_at dksL_law_39 16 rfl rfl)
theorem dL_law_1025 : decode cL_law 1025 = .ok (.ifCond .eq 5, 3) := dk_153 0 5 (dk_at dksL_law_39 17 rfl rfl)
theorem dL_law_1028 : decode cL_law 1028 = .ok (.iconst 0, 1) := dk_3 (dk_at dksL_law_39 20 rfl rfl)
theorem dL_law_1029 : decode cL_law 1029 = .ok (.ireturn, 1) := dk_172 (dk_at dksL_law_39 21 rfl rfl)
theorem dL_law_1030 : decode cL_law 1030 = .ok (.goto 854, 3) := dk_167 3 86 (dk_at dksL_law_40 0 rfl rfl)
theorem dL_law_1033 : decode cL_law 1033 = .ok (.aload_n 1, 1) := dk_43 (dk_at dksL_law_40 3 rfl rfl)
theorem dL_law_1034 : decode cL_law 1034 = .ok (.aload_n 0, 1) := dk_42 (dk_at dksL_law_40 4 rfl rfl)
theorem dL_law_1035 : decode cL_law 1035 = .ok (.iload 4, 2) := dk_21 4 (dk_at dksL_law_40 5 rfl rfl)
theorem dL_law_1037 : decode cL_law 1037 = .ok (.iconst 1, 1) := dk_4 (dk_at dksL_law_40 7 rfl rfl)
theorem dL_law_1038 : decode cL_law 1038 = .ok (.iadd, 1) := dk_96 (dk_at dksL_law_40 8 rfl rfl)
theorem dL_law_1039 : decode cL_law 1039 = .ok (.iaload, 1) := dk_46 (dk_at dksL_law_40 9 rfl rfl)
theorem dL_law_1040 : decode cL_law 1040 = .ok (.aload_n 3, 1) := dk_45 (dk_at dksL_law_40 10 rfl rfl)
theorem dL_law_1041 : decode cL_law 1041 = .ok (.invokestatic 137, 3) := dk_184 0 137 (dk_at dksL_law_40 11 rfl rfl)
theorem dL_law_1044 : decode cL_law 1044 = .ok (.istore 5, 2) := dk_54 5 (dk_at dksL_law_40 14 rfl rfl)
theorem dL_law_1046 : decode cL_law 1046 = .ok (.aload_n 2, 1) := dk_44 (dk_at dksL_law_40 16 rfl rfl)
theorem dL_law_1047 : decode cL_law 1047 = .ok (.aload_n 0, 1) := dk_42 (dk_at dksL_law_40 17 rfl rfl)
theorem dL_law_1048 : decode cL_law 1048 = .ok (.iload 4, 2) := dk_21 4 (dk_at dksL_law_40 18 rfl rfl)
theorem dL_law_1050 : decode cL_law 1050 = .ok (.iconst 1, 1) := dk_4 (dk_at dksL_law_40 20 rfl rfl)
theorem dL_law_1051 : decode cL_law 1051 = .ok (.iadd, 1) := dk_96 (dk_at dksL_law_40 21 rfl rfl)
theorem dL_law_1052 : decode cL_law 1052 = .ok (.iaload, 1) := dk_46 (dk_at dksL_law_40 22 rfl rfl)
theorem dL_law_1053 : decode cL_law 1053 = .ok (.invokevirtual 140, 3) := dk_182 0 140 (dk_at dksL_law_41 0 rfl rfl)
theorem dL_law_1056 : decode cL_law 1056 = .ok (.istore 6, 2) := dk_54 6 (dk_at dksL_law_41 3 rfl rfl)
theorem dL_law_1058 : decode cL_law 1058 = .ok (.aload_n 2, 1) := dk_44 (dk_at dksL_law_41 5 rfl rfl)
theorem dL_law_1059 : decode cL_law 1059 = .ok (.invokevirtual 98, 3) := dk_182 0 98 (dk_at dksL_law_41 6 rfl rfl)
theorem dL_law_1062 : decode cL_law 1062 = .ok (.iload 5, 2) := dk_21 5 (dk_at dksL_law_41 9 rfl rfl)
theorem dL_law_1064 : decode cL_law 1064 = .ok (.if_icmp .eq 5, 3) := dk_159 0 5 (dk_at dksL_law_41 11 rfl rfl)
theorem dL_law_1067 : decode cL_law 1067 = .ok (.iconst 0, 1) := dk_3 (dk_at dksL_law_41 14 rfl rfl)
theorem dL_law_1068 : decode cL_law 1068 = .ok (.ireturn, 1) := dk_172 (dk_at dksL_law_41 15 rfl rfl)
theorem dL_law_1069 : decode cL_law 1069 = .ok (.iload 5, 2) := dk_21 5 (dk_at dksL_law_41 16 rfl rfl)
theorem dL_law_1071 : decode cL_law 1071 = .ok (.ifCond .ne 15, 3) := dk_154 0 15 (dk_at dksL_law_41 18 rfl rfl)
theorem dL_law_1074 : decode cL_law 1074 = .ok (.aload_n 3, 1) := dk_45 (dk_at dksL_law_41 21 rfl rfl)
theorem dL_law_1075 : decode cL_law 1075 = .ok (.iconst 0, 1) := dk_3 (dk_at dksL_law_41 22 rfl rfl)
theorem dL_law_1076 : decode cL_law 1076 = .ok (.laload, 1) := dk_47 (dk_at dksL_law_41 23 rfl rfl)
theorem dL_law_1077 : decode cL_law 1077 = .ok (.iload 6, 2) := dk_21 6 (dk_at dksL_law_42 0 rfl rfl)
theorem dL_law_1079 : decode cL_law 1079 = .ok (.i2l, 1) := dk_133 (dk_at dksL_law_42 2 rfl rfl)
theorem dL_law_1080 : decode cL_law 1080 = .ok (.lcmp, 1) := dk_148 (dk_at dksL_law_42 3 rfl rfl)
theorem dL_law_1081 : decode cL_law 1081 = .ok (.ifCond .eq 5, 3) := dk_153 0 5 (dk_at dksL_law_42 4 rfl rfl)
theorem dL_law_1084 : decode cL_law 1084 = .ok (.iconst 0, 1) := dk_3 (dk_at dksL_law_42 7 rfl rfl)
theorem dL_law_1085 : decode cL_law 1085 = .ok (.ireturn, 1) := dk_172 (dk_at dksL_law_42 8 rfl rfl)
theorem dL_law_1086 : decode cL_law 1086 = .ok (.goto 798, 3) := dk_167 3 30 (dk_at dksL_law_42 9 rfl rfl)
theorem dL_law_1089 : decode cL_law 1089 = .ok (.aload_n 1, 1) := dk_43 (dk_at dksL_law_42 12 rfl rfl)
theorem dL_law_1090 : decode cL_law 1090 = .ok (.aload_n 0, 1) := dk_42 (dk_at dksL_law_42 13 rfl rfl)
theorem dL_law_1091 : decode cL_law 1091 = .ok (.iload 4, 2) := dk_21 4 (dk_at dksL_law_42 14 rfl rfl)
theorem dL_law_1093 : decode cL_law 1093 = .ok (.iconst 1, 1) := dk_4 (dk_at dksL_law_42 16 rfl rfl)
theorem dL_law_1094 : decode cL_law 1094 = .ok (.iadd, 1) := dk_96 (dk_at dksL_law_42 17 rfl rfl)
theorem dL_law_1095 : decode cL_law 1095 = .ok (.iaload, 1) := dk_46 (dk_at dksL_law_42 18 rfl rfl)
theorem dL_law_1096 : decode cL_law 1096 = .ok (.aload_n 3, 1) := dk_45 (dk_at dksL_law_42 19 rfl rfl)
theorem dL_law_1097 : decode cL_law 1097 = .ok (.invokestatic 141, 3) := dk_184 0 141 (dk_at dksL_law_42 20 rfl rfl)
theorem dL_law_1100 : decode cL_law 1100 = .ok (.istore 5, 2) := dk_54 5 (dk_at dksL_law_43 0 rfl rfl)
theorem dL_law_1102 : decode cL_law 1102 = .ok (.aload_n 2, 1) := dk_44 (dk_at dksL_law_43 2 rfl rfl)
theorem dL_law_1103 : decode cL_law 1103 = .ok (.aload_n 0, 1) := dk_42 (dk_at dksL_law_43 3 rfl rfl)
theorem dL_law_1104 : decode cL_law 1104 = .ok (.iload 4, 2) := dk_21 4 (dk_at dksL_law_43 4 rfl rfl)
theorem dL_law_1106 : decode cL_law 1106 = .ok (.iconst 1, 1) := dk_4 (dk_at dksL_law_43 6 rfl rfl)
theorem dL_law_1107 : decode cL_law 1107 = .ok (.iadd, 1) := dk_96 (dk_at dksL_law_43 7 rfl rfl)
theorem dL_law_1108 : decode cL_law 1108 = .ok (.iaload, 1) := dk_46 (dk_at dksL_law_43 8 rfl rfl)
theorem dL_law_1109 : decode cL_law 1109 = .ok (.invokevirtual 143, 3) := dk_182 0 143 (dk_at dksL_law_43 9 rfl rfl)
theorem dL_law_1112 : decode cL_law 1112 = .ok (.istore 6, 2) := dk_54 6 (dk_at dksL_law_43 12 rfl rfl)
theorem dL_law_1114 : decode cL_law 1114 = .ok (.aload_n 2, 1) := dk_44 (dk_at dksL_law_43 14 rfl rfl)
theorem dL_law_1115 : decode cL_law 1115 = .ok (.invokevirtual 98, 3) := dk_182 0 98 (dk_at dksL_law_43 15 rfl rfl)
theorem dL_law_1118 : decode cL_law 1118 = .ok (.iload 5, 2) := dk_21 5 (dk_at dksL_law_43 18 rfl rfl)
theorem dL_law_1120 : decode cL_law 1120 = .ok (.if_icmp .eq 5, 3) := dk_159 0 5 (dk_at dksL_law_43 20 rfl rfl)
theorem dL_law_1123 : decode cL_law 1123 = .ok (.iconst 0, 1) := dk_3 (dk_at dksL_law_43 23 rfl rfl)
theorem dL_law_1124 : decode cL_law 1124 = .ok (.ireturn, 1) := dk_172 (dk_at dksL_law_44 0 rfl rfl)
theorem dL_law_1125 : decode cL_law 1125 = .ok (.iload 5, 2) := dk_21 5 (dk_at dksL_law_44 1 rfl rfl)
theorem dL_law_1127 : decode cL_law 1127 = .ok (.ifCond .ne 15, 3) := dk_154 0 15 (dk_at dksL_law_44 3 rfl rfl)
theorem dL_law_1130 : decode cL_law 1130 = .ok (.aload_n 3, 1) := dk_45 (dk_at dksL_law_44 6 rfl rfl)
theorem dL_law_1131 : decode cL_law 1131 = .ok (.iconst 0, 1) := dk_3 (dk_at dksL_law_44 7 rfl rfl)
theorem dL_law_1132 : decode cL_law 1132 = .ok (.laload, 1) := dk_47 (dk_at dksL_law_44 8 rfl rfl)
theorem dL_law_1133 : decode cL_law 1133 = .ok (.iload 6, 2) := dk_21 6 (dk_at dksL_law_44 9 rfl rfl)
theorem dL_law_1135 : decode cL_law 1135 = .ok (.i2l, 1) := dk_133 (dk_at dksL_law_44 11 rfl rfl)
theorem dL_law_1136 : decode cL_law 1136 = .ok (.lcmp, 1) := dk_148 (dk_at dksL_law_44 12 rfl rfl)
theorem dL_law_1137 : decode cL_law 1137 = .ok (.ifCond .eq 5, 3) := dk_153 0 5 (dk_at dksL_law_44 13 rfl rfl)
theorem dL_law_1140 : decode cL_law 1140 = .ok (.iconst 0, 1) := dk_3 (dk_at dksL_law_44 16 rfl rfl)
theorem dL_law_1141 : decode cL_law 1141 = .ok (.ireturn, 1) := dk_172 (dk_at dksL_law_44 17 rfl rfl)
theorem dL_law_1142 : decode cL_law 1142 = .ok (.goto 742, 3) := dk_167 2 230 (dk_at dksL_law_44 18 rfl rfl)
theorem dL_law_1145 : decode cL_law 1145 = .ok (.aload_n 1, 1) := dk_43 (dk_at dksL_law_44 21 rfl rfl)
theorem dL_law_1146 : decode cL_law 1146 = .ok (.invokevirtual 144, 3) := dk_182 0 144 (dk_at dksL_law_45 0 rfl rfl)
theorem dL_law_1149 : decode cL_law 1149 = .ok (.aload_n 2, 1) := dk_44 (dk_at dksL_law_45 3 rfl rfl)
theorem dL_law_1150 : decode cL_law 1150 = .ok (.invokevirtual 147, 3) := dk_182 0 147 (dk_at dksL_law_45 4 rfl rfl)
theorem dL_law_1153 : decode cL_law 1153 = .ok (.if_icmp .eq 731, 3) := dk_159 2 219 (dk_at dksL_law_45 7 rfl rfl)
theorem dL_law_1156 : decode cL_law 1156 = .ok (.iconst 0, 1) := dk_3 (dk_at dksL_law_45 10 rfl rfl)
theorem dL_law_1157 : decode cL_law 1157 = .ok (.ireturn, 1) := dk_172 (dk_at dksL_law_45 11 rfl rfl)
theorem dL_law_1158 : decode cL_law 1158 = .ok (.aload_n 1, 1) := dk_43 (dk_at dksL_law_45 12 rfl rfl)
theorem dL_law_1159 : decode cL_law 1159 = .ok (.aload_n 0, 1) := dk_42 (dk_at dksL_law_45 13 rfl rfl)
theorem dL_law_1160 : decode cL_law 1160 = .ok (.iload 4, 2) := dk_21 4 (dk_at dksL_law_45 14 rfl rfl)
theorem dL_law_1162 : decode cL_law 1162 = .ok (.iconst 1, 1) := dk_4 (dk_at dksL_law_45 16 rfl rfl)
theorem dL_law_1163 : decode cL_law 1163 = .ok (.iadd, 1) := dk_96 (dk_at dksL_law_45 17 rfl rfl)
theorem dL_law_1164 : decode cL_law 1164 = .ok (.iaload, 1) := dk_46 (dk_at dksL_law_45 18 rfl rfl)
theorem dL_law_1165 : decode cL_law 1165 = .ok (.aload_n 3, 1) := dk_45 (dk_at dksL_law_45 19 rfl rfl)
theorem dL_law_1166 : decode cL_law 1166 = .ok (.invokestatic 148, 3) := dk_184 0 148 (dk_at dksL_law_45 20 rfl rfl)
theorem dL_law_1169 : decode cL_law 1169 = .ok (.istore 5, 2) := dk_54 5 (dk_at dksL_law_46 0 rfl rfl)
theorem dL_law_1171 : decode cL_law 1171 = .ok (.aload_n 2, 1) := dk_44 (dk_at dksL_law_46 2 rfl rfl)
theorem dL_law_1172 : decode cL_law 1172 = .ok (.aload_n 0, 1) := dk_42 (dk_at dksL_law_46 3 rfl rfl)
theorem dL_law_1173 : decode cL_law 1173 = .ok (.iload 4, 2) := dk_21 4 (dk_at dksL_law_46 4 rfl rfl)
theorem dL_law_1175 : decode cL_law 1175 = .ok (.iconst 1, 1) := dk_4 (dk_at dksL_law_46 6 rfl rfl)
theorem dL_law_1176 : decode cL_law 1176 = .ok (.iadd, 1) := dk_96 (dk_at dksL_law_46 7 rfl rfl)
theorem dL_law_1177 : decode cL_law 1177 = .ok (.iaload, 1) := dk_46 (dk_at dksL_law_46 8 rfl rfl)
theorem dL_law_1178 : decode cL_law 1178 = .ok (.invokevirtual 150, 3) := dk_182 0 150 (dk_at dksL_law_46 9 rfl rfl)
theorem dL_law_1181 : decode cL_law 1181 = .ok (.istore 6, 2) := dk_54 6 (dk_at dksL_law_46 12 rfl rfl)
theorem dL_law_1183 : decode cL_law 1183 = .ok (.aload_n 2, 1) := dk_44 (dk_at dksL_law_46 14 rfl rfl)
theorem dL_law_1184 : decode cL_law 1184 = .ok (.invokevirtual 98, 3) := dk_182 0 98 (dk_at dksL_law_46 15 rfl rfl)
theorem dL_law_1187 : decode cL_law 1187 = .ok (.iload 5, 2) := dk_21 5 (dk_at dksL_law_46 18 rfl rfl)
theorem dL_law_1189 : decode cL_law 1189 = .ok (.if_icmp .eq 5, 3) := dk_159 0 5 (dk_at dksL_law_46 20 rfl rfl)
theorem dL_law_1192 : decode cL_law 1192 = .ok (.iconst 0, 1) := dk_3 (dk_at dksL_law_46 23 rfl rfl)
theorem dL_law_1193 : decode cL_law 1193 = .ok (.ireturn, 1) := dk_172 (dk_at dksL_law_47 0 rfl rfl)
theorem dL_law_1194 : decode cL_law 1194 = .ok (.iload 5, 2) := dk_21 5 (dk_at dksL_law_47 1 rfl rfl)
theorem dL_law_1196 : decode cL_law 1196 = .ok (.ifCond .ne 15, 3) := dk_154 0 15 (dk_at dksL_law_47 3 rfl rfl)
theorem dL_law_1199 : decode cL_law 1199 = .ok (.aload_n 3, 1) := dk_45 (dk_at dksL_law_47 6 rfl rfl)
theorem dL_law_1200 : decode cL_law 1200 = .ok (.iconst 0, 1) := dk_3 (dk_at dksL_law_47 7 rfl rfl)
theorem dL_law_1201 : decode cL_law 1201 = .ok (.laload, 1) := dk_47 (dk_at dksL_law_47 8 rfl rfl)
theorem dL_law_1202 : decode cL_law 1202 = .ok (.iload 6, 2) := dk_21 6 (dk_at dksL_law_47 9 rfl rfl)
theorem dL_law_1204 : decode cL_law 1204 = .ok (.i2l, 1) := dk_133 (dk_at dksL_law_47 11 rfl rfl)
theorem dL_law_1205 : decode cL_law 1205 = .ok (.lcmp, 1) := dk_148 (dk_at dksL_law_47 12 rfl rfl)
theorem dL_law_1206 : decode cL_law 1206 = .ok (.ifCond .eq 5, 3) := dk_153 0 5 (dk_at dksL_law_47 13 rfl rfl)
theorem dL_law_1209 : decode cL_law 1209 = .ok (.iconst 0, 1) := dk_3 (dk_at dksL_law_47 16 rfl rfl)
theorem dL_law_1210 : decode cL_law 1210 = .ok (.ireturn, 1) := dk_172 (dk_at dksL_law_47 17 rfl rfl)
theorem dL_law_1211 : decode cL_law 1211 = .ok (.goto 673, 3) := dk_167 2 161 (dk_at dksL_law_47 18 rfl rfl)
theorem dL_law_1214 : decode cL_law 1214 = .ok (.aload_n 1, 1) := dk_43 (dk_at dksL_law_47 21 rfl rfl)
theorem dL_law_1215 : decode cL_law 1215 = .ok (.aload_n 0, 1) := dk_42 (dk_at dksL_law_47 22 rfl rfl)
theorem dL_law_1216 : decode cL_law 1216 = .ok (.iload 4, 2) := dk_21 4 (dk_at dksL_law_48 0 rfl rfl)
theorem dL_law_1218 : decode cL_law 1218 = .ok (.iconst 1, 1) := dk_4 (dk_at dksL_law_48 2 rfl rfl)
theorem dL_law_1219 : decode cL_law 1219 = .ok (.iadd, 1) := dk_96 (dk_at dksL_law_48 3 rfl rfl)
theorem dL_law_1220 : decode cL_law 1220 = .ok (.iaload, 1) := dk_46 (dk_at dksL_law_48 4 rfl rfl)
theorem dL_law_1221 : decode cL_law 1221 = .ok (.aload_n 3, 1) := dk_45 (dk_at dksL_law_48 5 rfl rfl)
theorem dL_law_1222 : decode cL_law 1222 = .ok (.invokestatic 151, 3) := dk_184 0 151 (dk_at dksL_law_48 6 rfl rfl)
theorem dL_law_1225 : decode cL_law 1225 = .ok (.istore 5, 2) := dk_54 5 (dk_at dksL_law_48 9 rfl rfl)
theorem dL_law_1227 : decode cL_law 1227 = .ok (.aload_n 2, 1) := dk_44 (dk_at dksL_law_48 11 rfl rfl)
theorem dL_law_1228 : decode cL_law 1228 = .ok (.aload_n 0, 1) := dk_42 (dk_at dksL_law_48 12 rfl rfl)
theorem dL_law_1229 : decode cL_law 1229 = .ok (.iload 4, 2) := dk_21 4 (dk_at dksL_law_48 13 rfl rfl)
theorem dL_law_1231 : decode cL_law 1231 = .ok (.iconst 1, 1) := dk_4 (dk_at dksL_law_48 15 rfl rfl)
theorem dL_law_1232 : decode cL_law 1232 = .ok (.iadd, 1) := dk_96 (dk_at dksL_law_48 16 rfl rfl)
theorem dL_law_1233 : decode cL_law 1233 = .ok (.iaload, 1) := dk_46 (dk_at dksL_law_48 17 rfl rfl)
theorem dL_law_1234 : decode cL_law 1234 = .ok (.invokevirtual 153, 3) := dk_182 0 153 (dk_at dksL_law_48 18 rfl rfl)
theorem dL_law_1237 : decode cL_law 1237 = .ok (.istore 6, 2) := dk_54 6 (dk_at dksL_law_48 21 rfl rfl)
theorem dL_law_1239 : decode cL_law 1239 = .ok (.aload_n 2, 1) := dk_44 (dk_at dksL_law_48 23 rfl rfl)
theorem dL_law_1240 : decode cL_law 1240 = .ok (.invokevirtual 98, 3) := dk_182 0 98 (dk_at dksL_law_49 0 rfl rfl)
theorem dL_law_1243 : decode cL_law 1243 = .ok (.iload 5, 2) := dk_21 5 (dk_at dksL_law_49 3 rfl rfl)
theorem dL_law_1245 : decode cL_law 1245 = .ok (.if_icmp .eq 5, 3) := dk_159 0 5 (dk_at dksL_law_49 5 rfl rfl)
theorem dL_law_1248 : decode cL_law 1248 = .ok (.iconst 0, 1) := dk_3 (dk_at dksL_law_49 8 rfl rfl)
theorem dL_law_1249 : decode cL_law 1249 = .ok (.ireturn, 1) := dk_172 (dk_at dksL_law_49 9 rfl rfl)
theorem dL_law_1250 : decode cL_law 1250 = .ok (.iload 5, 2) := dk_21 5 (dk_at dksL_law_49 10 rfl rfl)
theorem dL_law_1252 : decode cL_law 1252 = .ok (.ifCond .ne 15, 3) := dk_154 0 15 (dk_at dksL_law_49 12 rfl rfl)
theorem dL_law_1255 : decode cL_law 1255 = .ok (.aload_n 3, 1) := dk_45 (dk_at dksL_law_49 15 rfl rfl)
theorem dL_law_1256 : decode cL_law 1256 = .ok (.iconst 0, 1) := dk_3 (dk_at dksL_law_49 16 rfl rfl)
theorem dL_law_1257 : decode cL_law 1257 = .ok (.laload, 1) := dk_47 (dk_at dksL_law_49 17 rfl rfl)
theorem dL_law_1258 : decode cL_law 1258 = .ok (.iload 6, 2) := dk_21 6 (dk_at dksL_law_49 18 rfl rfl)
theorem dL_law_1260 : decode cL_law 1260 = .ok (.i2l, 1) := dk_133 (dk_at dksL_law_49 20 rfl rfl)
theorem dL_law_1261 : decode cL_law 1261 = .ok (.lcmp, 1) := dk_148 (dk_at dksL_law_49 21 rfl rfl)
theorem dL_law_1262 : decode cL_law 1262 = .ok (.ifCond .eq 5, 3) := dk_153 0 5 (dk_at dksL_law_50 0 rfl rfl)
theorem dL_law_1265 : decode cL_law 1265 = .ok (.iconst 0, 1) := dk_3 (dk_at dksL_law_50 3 rfl rfl)
theorem dL_law_1266 : decode cL_law 1266 = .ok (.ireturn, 1) := dk_172 (dk_at dksL_law_50 4 rfl rfl)
theorem dL_law_1267 : decode cL_law 1267 = .ok (.goto 617, 3) := dk_167 2 105 (dk_at dksL_law_50 5 rfl rfl)
theorem dL_law_1270 : decode cL_law 1270 = .ok (.aload_n 1, 1) := dk_43 (dk_at dksL_law_50 8 rfl rfl)
theorem dL_law_1271 : decode cL_law 1271 = .ok (.aload_n 0, 1) := dk_42 (dk_at dksL_law_50 9 rfl rfl)
theorem dL_law_1272 : decode cL_law 1272 = .ok (.iload 4, 2) := dk_21 4 (dk_at dksL_law_50 10 rfl rfl)
theorem dL_law_1274 : decode cL_law 1274 = .ok (.iconst 1, 1) := dk_4 (dk_at dksL_law_50 12 rfl rfl)
theorem dL_law_1275 : decode cL_law 1275 = .ok (.iadd, 1) := dk_96 (dk_at dksL_law_50 13 rfl rfl)
theorem dL_law_1276 : decode cL_law 1276 = .ok (.iaload, 1) := dk_46 (dk_at dksL_law_50 14 rfl rfl)
theorem dL_law_1277 : decode cL_law 1277 = .ok (.aload_n 0, 1) := dk_42 (dk_at dksL_law_50 15 rfl rfl)
theorem dL_law_1278 : decode cL_law 1278 = .ok (.iload 4, 2) := dk_21 4 (dk_at dksL_law_50 16 rfl rfl)
theorem dL_law_1280 : decode cL_law 1280 = .ok (.iconst 2, 1) := dk_5 (dk_at dksL_law_50 18 rfl rfl)
theorem dL_law_1281 : decode cL_law 1281 = .ok (.iadd, 1) := dk_96 (dk_at dksL_law_50 19 rfl rfl)
theorem dL_law_1282 : decode cL_law 1282 = .ok (.iaload, 1) := dk_46 (dk_at dksL_law_50 20 rfl rfl)
theorem dL_law_1283 : decode cL_law 1283 = .ok (.invokevirtual 154, 3) := dk_182 0 154 (dk_at dksL_law_50 21 rfl rfl)
theorem dL_law_1286 : decode cL_law 1286 = .ok (.aload_n 2, 1) := dk_44 (dk_at dksL_law_51 0 rfl rfl)
theorem dL_law_1287 : decode cL_law 1287 = .ok (.aload_n 0, 1) := dk_42 (dk_at dksL_law_51 1 rfl rfl)
theorem dL_law_1288 : decode cL_law 1288 = .ok (.iload 4, 2) := dk_21 4 (dk_at dksL_law_51 2 rfl rfl)
theorem dL_law_1290 : decode cL_law 1290 = .ok (.iconst 1, 1) := dk_4 (dk_at dksL_law_51 4 rfl rfl)
theorem dL_law_1291 : decode cL_law 1291 = .ok (.iadd, 1) := dk_96 (dk_at dksL_law_51 5 rfl rfl)
theorem dL_law_1292 : decode cL_law 1292 = .ok (.iaload, 1) := dk_46 (dk_at dksL_law_51 6 rfl rfl)
theorem dL_law_1293 : decode cL_law 1293 = .ok (.aload_n 0, 1) := dk_42 (dk_at dksL_law_51 7 rfl rfl)
theorem dL_law_1294 : decode cL_law 1294 = .ok (.iload 4, 2) := dk_21 4 (dk_at dksL_law_51 8 rfl rfl)
theorem dL_law_1296 : decode cL_law 1296 = .ok (.iconst 2, 1) := dk_5 (dk_at dksL_law_51 10 rfl rfl)
theorem dL_law_1297 : decode cL_law 1297 = .ok (.iadd, 1) := dk_96 (dk_at dksL_law_51 11 rfl rfl)
theorem dL_law_1298 : decode cL_law 1298 = .ok (.iaload, 1) := dk_46 (dk_at dksL_law_51 12 rfl rfl)
theorem dL_law_1299 : decode cL_law 1299 = .ok (.invokevirtual 157, 3) := dk_182 0 157 (dk_at dksL_law_51 13 rfl rfl)
theorem dL_law_1302 : decode cL_law 1302 = .ok (.if_icmp .eq 582, 3) := dk_159 2 70 (dk_at dksL_law_51 16 rfl rfl)
theorem dL_law_1305 : decode cL_law 1305 = .ok (.iconst 0, 1) := dk_3 (dk_at dksL_law_51 19 rfl rfl)
theorem dL_law_1306 : decode cL_law 1306 = .ok (.ireturn, 1) := dk_172 (dk_at dksL_law_51 20 rfl rfl)
theorem dL_law_1307 : decode cL_law 1307 = .ok (.aload_n 1, 1) := dk_43 (dk_at dksL_law_51 21 rfl rfl)
theorem dL_law_1308 : decode cL_law 1308 = .ok (.aload_n 0, 1) := dk_42 (dk_at dksL_law_51 22 rfl rfl)
theorem dL_law_1309 : decode cL_law 1309 = .ok (.iload 4, 2) := dk_21 4 (dk_at dksL_law_52 0 rfl rfl)
theorem dL_law_1311 : decode cL_law 1311 = .ok (.iconst 1, 1) := dk_4 (dk_at dksL_law_52 2 rfl rfl)
theorem dL_law_1312 : decode cL_law 1312 = .ok (.iadd, 1) := dk_96 (dk_at dksL_law_52 3 rfl rfl)
theorem dL_law_1313 : decode cL_law 1313 = .ok (.iaload, 1) := dk_46 (dk_at dksL_law_52 4 rfl rfl)
theorem dL_law_1314 : decode cL_law 1314 = .ok (.aload_n 0, 1) := dk_42 (dk_at dksL_law_52 5 rfl rfl)
theorem dL_law_1315 : decode cL_law 1315 = .ok (.iload 4, 2) := dk_21 4 (dk_at dksL_law_52 6 rfl rfl)
theorem dL_law_1317 : decode cL_law 1317 = .ok (.iconst 2, 1) := dk_5 (dk_at dksL_law_52 8 rfl rfl)
theorem dL_law_1318 : decode cL_law 1318 = .ok (.iadd, 1) := dk_96 (dk_at dksL_law_52 9 rfl rfl)
theorem dL_law_1319 : decode cL_law 1319 = .ok (.iaload, 1) := dk_46 (dk_at dksL_law_52 10 rfl rfl)
theorem dL_law_1320 : decode cL_law 1320 = .ok (.ifCond .eq 7, 3) := dk_153 0 7 (dk_at dksL_law_52 11 rfl rfl)
theorem dL_law_1323 : decode cL_law 1323 = .ok (.iconst 1, 1) := dk_4 (dk_at dksL_law_52 14 rfl rfl)
theorem dL_law_1324 : decode cL_law 1324 = .ok (.goto 4, 3) := dk_167 0 4 (dk_at dksL_law_52 15 rfl rfl)
theorem dL_law_1327 : decode cL_law 1327 = .ok (.iconst 0, 1) := dk_3 (dk_at dksL_law_52 18 rfl rfl)
theorem dL_law_1328 : decode cL_law 1328 = .ok (.aload_n 3, 1) := dk_45 (dk_at dksL_law_52 19 rfl rfl)
theorem dL_law_1329 : decode cL_law 1329 = .ok (.invokestatic 158, 3) := dk_184 0 158 (dk_at dksL_law_52 20 rfl rfl)
theorem dL_law_1332 : decode cL_law 1332 = .ok (.istore 5, 2) := dk_54 5 (dk_at dksL_law_53 0 rfl rfl)
theorem dL_law_1334 : decode cL_law 1334 = .ok (.aload_n 2, 1) := dk_44 (dk_at dksL_law_53 2 rfl rfl)
theorem dL_law_1335 : decode cL_law 1335 = .ok (.aload_n 0, 1) := dk_42 (dk_at dksL_law_53 3 rfl rfl)
theorem dL_law_1336 : decode cL_law 1336 = .ok (.iload 4, 2) := dk_21 4 (dk_at dksL_law_53 4 rfl rfl)
theorem dL_law_1338 : decode cL_law 1338 = .ok (.iconst 1, 1) := dk_4 (dk_at dksL_law_53 6 rfl rfl)
theorem dL_law_1339 : decode cL_law 1339 = .ok (.iadd, 1) := dk_96 (dk_at dksL_law_53 7 rfl rfl)
theorem dL_law_1340 : decode cL_law 1340 = .ok (.iaload, 1) := dk_46 (dk_at dksL_law_53 8 rfl rfl)
theorem dL_law_1341 : decode cL_law 1341 = .ok (.aload_n 0, 1) := dk_42 (dk_at dksL_law_53 9 rfl rfl)
theorem dL_law_1342 : decode cL_law 1342 = .ok (.iload 4, 2) := dk_21 4 (dk_at dksL_law_53 10 rfl rfl)
theorem dL_law_1344 : decode cL_law 1344 = .ok (.iconst 2, 1) := dk_5 (dk_at dksL_law_53 12 rfl rfl)
theorem dL_law_1345 : decode cL_law 1345 = .ok (.iadd, 1) := dk_96 (dk_at dksL_law_53 13 rfl rfl)
theorem dL_law_1346 : decode cL_law 1346 = .ok (.iaload, 1) := dk_46 (dk_at dksL_law_53 14 rfl rfl)
theorem dL_law_1347 : decode cL_law 1347 = .ok (.ifCond .eq 7, 3) := dk_153 0 7 (dk_at dksL_law_53 15 rfl rfl)
theorem dL_law_1350 : decode cL_law 1350 = .ok (.iconst 1, 1) := dk_4 (dk_at dksL_law_53 18 rfl rfl)
theorem dL_law_1351 : decode cL_law 1351 = .ok (.goto 4, 3) := dk_167 0 4 (dk_at dksL_law_53 19 rfl rfl)
theorem dL_law_1354 : decode cL_law 1354 = .ok (.iconst 0, 1) := dk_3 (dk_at dksL_law_53 22 rfl rfl)
theorem dL_law_1355 : decode cL_law 1355 = .ok (.invokevirtual 161, 3) := dk_182 0 161 (dk_at dksL_law_54 0 rfl rfl)
theorem dL_law_1358 : decode cL_law 1358 = .ok (.istore 6, 2) := dk_54 6 (dk_at dksL_law_54 3 rfl rfl)
theorem dL_law_1360 : decode cL_law 1360 = .ok (.aload_n 2, 1) := dk_44 (dk_at dksL_law_54 5 rfl rfl)
theorem dL_law_1361 : decode cL_law 1361 = .ok (.invokevirtual 98, 3) := dk_182 0 98 (dk_at dksL_law_54 6 rfl rfl)
theorem dL_law_1364 : decode cL_law 1364 = .ok (.iload 5, 2) := dk_21 5 (dk_at dksL_law_54 9 rfl rfl)
theorem dL_law_1366 : decode cL_law 1366 = .ok (.if_icmp .eq 5, 3) := dk_159 0 5 (dk_at dksL_law_54 11 rfl rfl)
theorem dL_law_1369 : decode cL_law 1369 = .ok (.iconst 0, 1) := dk_3 (dk_at dksL_law_54 14 rfl rfl)
theorem dL_law_1370 : decode cL_law 1370 = .ok (.ireturn, 1) := dk_172 (dk_at dksL_law_54 15 rfl rfl)
theorem dL_law_1371 : decode cL_law 1371 = .ok (.iload 5, 2) := dk_21 5 (dk_at dksL_law_54 16 rfl rfl)
theorem dL_law_1373 : decode cL_law 1373 = .ok (.ifCond .ne 15, 3) := dk_154 0 15 (dk_at dksL_law_54 18 rfl rfl)
theorem dL_law_1376 : decode cL_law 1376 = .ok (.aload_n 3, 1) := dk_45 (dk_at dksL_law_54 21 rfl rfl)
theorem dL_law_1377 : decode cL_law 1377 = .ok (.iconst 0, 1) := dk_3 (dk_at dksL_law_54 22 rfl rfl)
theorem dL_law_1378 : decode cL_law 1378 = .ok (.laload, 1) := dk_47 (dk_at dksL_law_54 23 rfl rfl)
theorem dL_law_1379 : decode cL_law 1379 = .ok (.iload 6, 2) := dk_21 6 (dk_at dksL_law_55 0 rfl rfl)
theorem dL_law_1381 : decode cL_law 1381 = .ok (.i2l, 1) := dk_133 (dk_at dksL_law_55 2 rfl rfl)
theorem dL_law_1382 : decode cL_law 1382 = .ok (.lcmp, 1) := dk_148 (dk_at dksL_law_55 3 rfl rfl)
theorem dL_law_1383 : decode cL_law 1383 = .ok (.ifCond .eq 5, 3) := dk_153 0 5 (dk_at dksL_law_55 4 rfl rfl)
theorem dL_law_1386 : decode cL_law 1386 = .ok (.iconst 0, 1) := dk_3 (dk_at dksL_law_55 7 rfl rfl)
theorem dL_law_1387 : decode cL_law 1387 = .ok (.ireturn, 1) := dk_172 (dk_at dksL_law_55 8 rfl rfl)
theorem dL_law_1388 : decode cL_law 1388 = .ok (.goto 496, 3) := dk_167 1 240 (dk_at dksL_law_55 9 rfl rfl)
theorem dL_law_1391 : decode cL_law 1391 = .ok (.aload_n 1, 1) := dk_43 (dk_at dksL_law_55 12 rfl rfl)
theorem dL_law_1392 : decode cL_law 1392 = .ok (.aload_n 0, 1) := dk_42 (dk_at dksL_law_55 13 rfl rfl)
theorem dL_law_1393 : decode cL_law 1393 = .ok (.iload 4, 2) := dk_21 4 (dk_at dksL_law_55 14 rfl rfl)
theorem dL_law_1395 : decode cL_law 1395 = .ok (.iconst 1, 1) := dk_4 (dk_at dksL_law_55 16 rfl rfl)
theorem dL_law_1396 : decode cL_law 1396 = .ok (.iadd, 1) := dk_96 (dk_at dksL_law_55 17 rfl rfl)
theorem dL_law_1397 : decode cL_law 1397 = .ok (.iaload, 1) := dk_46 (dk_at dksL_law_55 18 rfl rfl)
theorem dL_law_1398 : decode cL_law 1398 = .ok (.aload_n 0, 1) := dk_42 (dk_at dksL_law_55 19 rfl rfl)
theorem dL_law_1399 : decode cL_law 1399 = .ok (.iload 4, 2) := dk_21 4 (dk_at dksL_law_55 20 rfl rfl)
theorem dL_law_1401 : decode cL_law 1401 = .ok (.iconst 2, 1) := dk_5 (dk_at dksL_law_55 22 rfl rfl)
theorem dL_law_1402 : decode cL_law 1402 = .ok (.iadd, 1) := dk_96 (dk_at dksL_law_55 23 rfl rfl)
theorem dL_law_1403 : decode cL_law 1403 = .ok (.iaload, 1) := dk_46 (dk_at dksL_law_56 0 rfl rfl)
theorem dL_law_1404 : decode cL_law 1404 = .ok (.invokevirtual 162, 3) := dk_182 0 162 (dk_at dksL_law_56 1 rfl rfl)
theorem dL_law_1407 : decode cL_law 1407 = .ok (.aload_n 2, 1) := dk_44 (dk_at dksL_law_56 4 rfl rfl)
theorem dL_law_1408 : decode cL_law 1408 = .ok (.aload_n 0, 1) := dk_42 (dk_at dksL_law_56 5 rfl rfl)
theorem dL_law_1409 : decode cL_law 1409 = .ok (.iload 4, 2) := dk_21 4 (dk_at dksL_law_56 6 rfl rfl)
theorem dL_law_1411 : decode cL_law 1411 = .ok (.iconst 1, 1) := dk_4 (dk_at dksL_law_56 8 rfl rfl)
theorem dL_law_1412 : decode cL_law 1412 = .ok (.iadd, 1) := dk_96 (dk_at dksL_law_56 9 rfl rfl)
theorem dL_law_1413 : decode cL_law 1413 = .ok (.iaload, 1) := dk_46 (dk_at dksL_law_56 10 rfl rfl)
theorem dL_law_1414 : decode cL_law 1414 = .ok (.aload_n 0, 1) := dk_42 (dk_at dksL_law_56 11 rfl rfl)
theorem dL_law_1415 : decode cL_law 1415 = .ok (.iload 4, 2) := dk_21 4 (dk_at dksL_law_56 12 rfl rfl)
theorem dL_law_1417 : decode cL_law 1417 = .ok (.iconst 2, 1) := dk_5 (dk_at dksL_law_56 14 rfl rfl)
theorem dL_law_1418 : decode cL_law 1418 = .ok (.iadd, 1) := dk_96 (dk_at dksL_law_56 15 rfl rfl)
theorem dL_law_1419 : decode cL_law 1419 = .ok (.iaload, 1) := dk_46 (dk_at dksL_law_56 16 rfl rfl)
theorem dL_law_1420 : decode cL_law 1420 = .ok (.invokevirtual 165, 3) := dk_182 0 165 (dk_at dksL_law_56 17 rfl rfl)
theorem dL_law_1423 : decode cL_law 1423 = .ok (.if_icmp .eq 461, 3) := dk_159 1 205 (dk_at dksL_law_56 20 rfl rfl)
theorem dL_law_1426 : decode cL_law 1426 = .ok (.iconst 0, 1) := dk_3 (dk_at dksL_law_56 23 rfl rfl)
theorem dL_law_1427 : decode cL_law 1427 = .ok (.ireturn, 1) := dk_172 (dk_at dksL_law_57 0 rfl rfl)
theorem dL_law_1428 : decode cL_law 1428 = .ok (.aload_n 1, 1) := dk_43 (dk_at dksL_law_57 1 rfl rfl)
theorem dL_law_1429 : decode cL_law 1429 = .ok (.aload_n 0, 1) := dk_42 (dk_at dksL_law_57 2 rfl rfl)
theorem dL_law_1430 : decode cL_law 1430 = .ok (.iload 4, 2) := dk_21 4 (dk_at dksL_law_57 3 rfl rfl)
theorem dL_law_1432 : decode cL_law 1432 = .ok (.iconst 1, 1) := dk_4 (dk_at dksL_law_57 5 rfl rfl)
theorem dL_law_1433 : decode cL_law 1433 = .ok (.iadd, 1) := dk_96 (dk_at dksL_law_57 6 rfl rfl)
theorem dL_law_1434 : decode cL_law 1434 = .ok (.iaload, 1) := dk_46 (dk_at dksL_law_57 7 rfl rfl)
theorem dL_law_1435 : decode cL_law 1435 = .ok (.aload_n 0, 1) := dk_42 (dk_at dksL_law_57 8 rfl rfl)
theorem dL_law_1436 : decode cL_law 1436 = .ok (.iload 4, 2) := dk_21 4 (dk_at dksL_law_57 9 rfl rfl)
theorem dL_law_1438 : decode cL_law 1438 = .ok (.iconst 2, 1) := dk_5 (dk_at dksL_law_57 11 rfl rfl)
theorem dL_law_1439 : decode cL_law 1439 = .ok (.iadd, 1) := dk_96 (dk_at dksL_law_57 12 rfl rfl)
theorem dL_law_1440 : decode cL_law 1440 = .ok (.iaload, 1) := dk_46 (dk_at dksL_law_57 13 rfl rfl)
theorem dL_law_1441 : decode cL_law 1441 = .ok (.aload_n 3, 1) := dk_45 (dk_at dksL_law_57 14 rfl rfl)
theorem dL_law_1442 : decode cL_law 1442 = .ok (.invokestatic 166, 3) := dk_184 0 166 (dk_at dksL_law_57 15 rfl rfl)
theorem dL_law_1445 : decode cL_law 1445 = .ok (.istore 5, 2) := dk_54 5 (dk_at dksL_law_57 18 rfl rfl)
theorem dL_law_1447 : decode cL_law 1447 = .ok (.aload_n 2, 1) := dk_44 (dk_at dksL_law_57 20 rfl rfl)
theorem dL_law_1448 : decode cL_law 1448 = .ok (.aload_n 0, 1) := dk_42 (dk_at dksL_law_57 21 rfl rfl)
theorem dL_law_1449 : decode cL_law 1449 = .ok (.iload 4, 2) := dk_21 4 (dk_at dksL_law_57 22 rfl rfl)
theorem dL_law_1451 : decode cL_law 1451 = .ok (.iconst 1, 1) := dk_4 (dk_at dksL_law_58 0 rfl rfl)
theorem dL_law_1452 : decode cL_law 1452 = .ok (.iadd, 1) := dk_96 (dk_at dksL_law_58 1 rfl rfl)
theorem dL_law_1453 : decode cL_law 1453 = .ok (.iaload, 1) := dk_46 (dk_at dksL_law_58 2 rfl rfl)
theorem dL_law_1454 : decode cL_law 1454 = .ok (.aload_n 0, 1) := dk_42 (dk_at dksL_law_58 3 rfl rfl)
theorem dL_law_1455 : decode cL_law 1455 = .ok (.iload 4, 2) := dk_21 4 (dk_at dksL_law_58 4 rfl rfl)
theorem dL_law_1457 : decode cL_law 1457 = .ok (.iconst 2, 1) := dk_5 (dk_at dksL_law_58 6 rfl rfl)
theorem dL_law_1458 : decode cL_law 1458 = .ok (.iadd, 1) := dk_96 (dk_at dksL_law_58 7 rfl rfl)
theorem dL_law_1459 : decode cL_law 1459 = .ok (.iaload, 1) := dk_46 (dk_at dksL_law_58 8 rfl rfl)
theorem dL_law_1460 : decode cL_law 1460 = .ok (.invokevirtual 168, 3) := dk_182 0 168 (dk_at dksL_law_58 9 rfl rfl)
theorem dL_law_1463 : decode cL_law 1463 = .ok (.istore 6, 2) := dk_54 6 (dk_at dksL_law_58 12 rfl rfl)
theorem dL_law_1465 : decode cL_law 1465 = .ok (.aload_n 2, 1) := dk_44 (dk_at dksL_law_58 14 rfl rfl)
theorem dL_law_1466 : decode cL_law 1466 = .ok (.invokevirtual 98, 3) := dk_182 0 98 (dk_at dksL_law_58 15 rfl rfl)
theorem dL_law_1469 : decode cL_law 1469 = .ok (.iload 5, 2) := dk_21 5 (dk_at dksL_law_58 18 rfl rfl)
theorem dL_law_1471 : decode cL_law 1471 = .ok (.if_icmp .eq 5, 3) := dk_159 0 5 (dk_at dksL_law_58 20 rfl rfl)
theorem dL_law_1474 : decode cL_law 1474 = .ok (.iconst 0, 1) := dk_3 (dk_at dksL_law_58 23 rfl rfl)
theorem dL_law_1475 : decode cL_law 1475 = .ok (.ireturn, 1) := dk_172 (dk_at dksL_law_59 0 rfl rfl)
theorem dL_law_1476 : decode cL_law 1476 = .ok (.iload 5, 2) := dk_21 5 (dk_at dksL_law_59 1 rfl rfl)
theorem dL_law_1478 : decode cL_law 1478 = .ok (.ifCond .ne 15, 3) := dk_154 0 15 (dk_at dksL_law_59 3 rfl rfl)
theorem dL_law_1481 : decode cL_law 1481 = .ok (.aload_n 3, 1) := dk_45 (dk_at dksL_law_59 6 rfl rfl)
theorem dL_law_1482 : decode cL_law 1482 = .ok (.iconst 0, 1) := dk_3 (dk_at dksL_law_59 7 rfl rfl)
theorem dL_law_1483 : decode cL_law 1483 = .ok (.laload, 1) := dk_47 (dk_at dksL_law_59 8 rfl rfl)
theorem dL_law_1484 : decode cL_law 1484 = .ok (.iload 6, 2) := dk_21 6 (dk_at dksL_law_59 9 rfl rfl)
theorem dL_law_1486 : decode cL_law 1486 = .ok (.i2l, 1) := dk_133 (dk_at dksL_law_59 11 rfl rfl)
theorem dL_law_1487 : decode cL_law 1487 = .ok (.lcmp, 1) := dk_148 (dk_at dksL_law_59 12 rfl rfl)
theorem dL_law_1488 : decode cL_law 1488 = .ok (.ifCond .eq 5, 3) := dk_153 0 5 (dk_at dksL_law_59 13 rfl rfl)
theorem dL_law_1491 : decode cL_law 1491 = .ok (.iconst 0, 1) := dk_3 (dk_at dksL_law_59 16 rfl rfl)
theorem dL_law_1492 : decode cL_law 1492 = .ok (.ireturn, 1) := dk_172 (dk_at dksL_law_59 17 rfl rfl)
theorem dL_law_1493 : decode cL_law 1493 = .ok (.goto 391, 3) := dk_167 1 135 (dk_at dksL_law_59 18 rfl rfl)
theorem dL_law_1496 : decode cL_law 1496 = .ok (.aload_n 1, 1) := dk_43 (dk_at dksL_law_59 21 rfl rfl)
theorem dL_law_1497 : decode cL_law 1497 = .ok (.aload_n 0, 1) := dk_42 (dk_at dksL_law_59 22 rfl rfl)
theorem dL_law_1498 : decode cL_law 1498 = .ok (.iload 4, 2) := dk_21 4 (dk_at dksL_law_60 0 rfl rfl)
theorem dL_law_1500 : decode cL_law 1500 = .ok (.iconst 1, 1) := dk_4 (dk_at dksL_law_60 2 rfl rfl)
theorem dL_law_1501 : decode cL_law 1501 = .ok (.iadd, 1) := dk_96 (dk_at dksL_law_60 3 rfl rfl)
theorem dL_law_1502 : decode cL_law 1502 = .ok (.iaload, 1) := dk_46 (dk_at dksL_law_60 4 rfl rfl)
theorem dL_law_1503 : decode cL_law 1503 = .ok (.aload_n 0, 1) := dk_42 (dk_at dksL_law_60 5 rfl rfl)
theorem dL_law_1504 : decode cL_law 1504 = .ok (.iload 4, 2) := dk_21 4 (dk_at dksL_law_60 6 rfl rfl)
theorem dL_law_1506 : decode cL_law 1506 = .ok (.iconst 2, 1) := dk_5 (dk_at dksL_law_60 8 rfl rfl)
theorem dL_law_1507 : decode cL_law 1507 = .ok (.iadd, 1) := dk_96 (dk_at dksL_law_60 9 rfl rfl)
theorem dL_law_1508 : decode cL_law 1508 = .ok (.iaload, 1) := dk_46 (dk_at dksL_law_60 10 rfl rfl)
theorem dL_law_1509 : decode cL_law 1509 = .ok (.invokevirtual 169, 3) := dk_182 0 169 (dk_at dksL_law_60 11 rfl rfl)
theorem dL_law_1512 : decode cL_law 1512 = .ok (.aload_n 2, 1) := dk_44 (dk_at dksL_law_60 14 rfl rfl)
theorem dL_law_1513 : decode cL_law 1513 = .ok (.aload_n 0, 1) := dk_42 (dk_at dksL_law_60 15 rfl rfl)
theorem dL_law_1514 : decode cL_law 1514 = .ok (.iload 4, 2) := dk_21 4 (dk_at dksL_law_60 16 rfl rfl)
theorem dL_law_1516 : decode cL_law 1516 = .ok (.iconst 1, 1) := dk_4 (dk_at dksL_law_60 18 rfl rfl)
theorem dL_law_1517 : decode cL_law 1517 = .ok (.iadd, 1) := dk_96 (dk_at dksL_law_60 19 rfl rfl)
theorem dL_law_1518 : decode cL_law 1518 = .ok (.iaload, 1) := dk_46 (dk_at dksL_law_60 20 rfl rfl)
theorem dL_law_1519 : decode cL_law 1519 = .ok (.aload_n 0, 1) := dk_42 (dk_at dksL_law_60 21 rfl rfl)
theorem dL_law_1520 : decode cL_law 1520 = .ok (.iload 4, 2) := dk_21 4 (dk_at dksL_law_60 22 rfl rfl)
theorem dL_law_1522 : decode cL_law 1522 = .ok (.iconst 2, 1) := dk_5 (dk_at dksL_law_61 0 rfl rfl)
theorem dL_law_1523 : decode cL_law 1523 = .ok (.iadd, 1) := dk_96 (dk_at dksL_law_61 1 rfl rfl)
theorem dL_law_1524 : decode cL_law 1524 = .ok (.iaload, 1) := dk_46 (dk_at dksL_law_61 2 rfl rfl)
theorem dL_law_1525 : decode cL_law 1525 = .ok (.invokevirtual 172, 3) := dk_182 0 172 (dk_at dksL_law_61 3 rfl rfl)
theorem dL_law_1528 : decode cL_law 1528 = .ok (.if_icmp .eq 356, 3) := dk_159 1 100 (dk_at dksL_law_61 6 rfl rfl)
theorem dL_law_1531 : decode cL_law 1531 = .ok (.iconst 0, 1) := dk_3 (dk_at dksL_law_61 9 rfl rfl)
theorem dL_law_1532 : decode cL_law 1532 = .ok (.ireturn, 1) := dk_172 (dk_at dksL_law_61 10 rfl rfl)
theorem dL_law_1533 : decode cL_law 1533 = .ok (.aload_n 1, 1) := dk_43 (dk_at dksL_law_61 11 rfl rfl)
theorem dL_law_1534 : decode cL_law 1534 = .ok (.aload_n 0, 1) := dk_42 (dk_at dksL_law_61 12 rfl rfl)
theorem dL_law_1535 : decode cL_law 1535 = .ok (.iload 4, 2) := dk_21 4 (dk_at dksL_law_61 13 rfl rfl)
theorem dL_law_1537 : decode cL_law 1537 = .ok (.iconst 1, 1) := dk_4 (dk_at dksL_law_61 15 rfl rfl)
theorem dL_law_1538 : decode cL_law 1538 = .ok (.iadd, 1) := dk_96 (dk_at dksL_law_61 16 rfl rfl)
theorem dL_law_1539 : decode cL_law 1539 = .ok (.iaload, 1) := dk_46 (dk_at dksL_law_61 17 rfl rfl)
theorem dL_law_1540 : decode cL_law 1540 = .ok (.aload_n 0, 1) := dk_42 (dk_at dksL_law_61 18 rfl rfl)
theorem dL_law_1541 : decode cL_law 1541 = .ok (.iload 4, 2) := dk_21 4 (dk_at dksL_law_61 19 rfl rfl)
theorem dL_law_1543 : decode cL_law 1543 = .ok (.iconst 2, 1) := dk_5 (dk_at dksL_law_61 21 rfl rfl)
theorem dL_law_1544 : decode cL_law 1544 = .ok (.iadd, 1) := dk_96 (dk_at dksL_law_61 22 rfl rfl)
theorem dL_law_1545 : decode cL_law 1545 = .ok (.iaload, 1) := dk_46 (dk_at dksL_law_61 23 rfl rfl)
theorem dL_law_1546 : decode cL_law 1546 = .ok (.aload_n 3, 1) := dk_45 (dk_at dksL_law_62 0 rfl rfl)
theorem dL_law_1547 : decode cL_law 1547 = .ok (.invokestatic 173, 3) := dk_184 0 173 (dk_at dksL_law_62 1 rfl rfl)
theorem dL_law_1550 : decode cL_law 1550 = .ok (.istore 5, 2) := dk_54 5 (dk_at dksL_law_62 4 rfl rfl)
theorem dL_law_1552 : decode cL_law 1552 = .ok (.aload_n 2, 1) := dk_44 (dk_at dksL_law_62 6 rfl rfl)
theorem dL_law_1553 : decode cL_law 1553 = .ok (.aload_n 0, 1) := dk_42 (dk_at dksL_law_62 7 rfl rfl)
theorem dL_law_1554 : decode cL_law 1554 = .ok (.iload 4, 2) := dk_21 4 (dk_at dksL_law_62 8 rfl rfl)
theorem dL_law_1556 : decode cL_law 1556 = .ok (.iconst 1, 1) := dk_4 (dk_at dksL_law_62 10 rfl rfl)
theorem dL_law_1557 : decode cL_law 1557 = .ok (.iadd, 1) := dk_96 (dk_at dksL_law_62 11 rfl rfl)
theorem dL_law_1558 : decode cL_law 1558 = .ok (.iaload, 1) := dk_46 (dk_at dksL_law_62 12 rfl rfl)
theorem dL_law_1559 : decode cL_law 1559 = .ok (.aload_n 0, 1) := dk_42 (dk_at dksL_law_62 13 rfl rfl)
theorem dL_law_1560 : decode cL_law 1560 = .ok (.iload 4, 2) := dk_21 4 (dk_at dksL_law_62 14 rfl rfl)
theorem dL_law_1562 : decode cL_law 1562 = .ok (.iconst 2, 1) := dk_5 (dk_at dksL_law_62 16 rfl rfl)
theorem dL_law_1563 : decode cL_law 1563 = .ok (.iadd, 1) := dk_96 (dk_at dksL_law_62 17 rfl rfl)
theorem dL_law_1564 : decode cL_law 1564 = .ok (.iaload, 1) := dk_46 (dk_at dksL_law_62 18 rfl rfl)
theorem dL_law_1565 : decode cL_law 1565 = .ok (.invokevirtual 175, 3) := dk_182 0 175 (dk_at dksL_law_62 19 rfl rfl)
theorem dL_law_1568 : decode cL_law 1568 = .ok (.istore 6, 2) := dk_54 6 (dk_at dksL_law_62 22 rfl rfl)
theorem dL_law_1570 : decode cL_law 1570 = .ok (.aload_n 2, 1) := dk_44 (dk_at dksL_law_63 0 rfl rfl)
theorem dL_law_1571 : decode cL_law 1571 = .ok (.invokevirtual 98, 3) := dk_182 0 98 (dk_at dksL_law_63 1 rfl rfl)
theorem dL_law_1574 : decode cL_law 1574 = .ok (.iload 5, 2) := dk_21 5 (dk_at dksL_law_63 4 rfl rfl)
theorem dL_law_1576 : decode cL_law 1576 = .ok (.if_icmp .eq 5, 3) := dk_159 0 5 (dk_at dksL_law_63 6 rfl rfl)
theorem dL_law_1579 : decode cL_law 1579 = .ok (.iconst 0, 1) := dk_3 (dk_at dksL_law_63 9 rfl rfl)
theorem dL_law_1580 : decode cL_law 1580 = .ok (.ireturn, 1) := dk_172 (dk_at dksL_law_63 10 rfl rfl)
theorem dL_law_1581 : decode cL_law 1581 = .ok (.iload 5, 2) := dk_21 5 (dk_at dksL_law_63 11 rfl rfl)
theorem dL_law_1583 : decode cL_law 1583 = .ok (.ifCond .ne 15, 3) := dk_154 0 15 (dk_at dksL_law_63 13 rfl rfl)
theorem dL_law_1586 : decode cL_law 1586 = .ok (.aload_n 3, 1) := dk_45 (dk_at dksL_law_63 16 rfl rfl)
theorem dL_law_1587 : decode cL_law 1587 = .ok (.iconst 0, 1) := dk_3 (dk_at dksL_law_63 17 rfl rfl)
theorem dL_law_1588 : decode cL_law 1588 = .ok (.laload, 1) := dk_47 (dk_at dksL_law_63 18 rfl rfl)
theorem dL_law_1589 : decode cL_law 1589 = .ok (.iload 6, 2) := dk_21 6 (dk_at dksL_law_63 19 rfl rfl)
theorem dL_law_1591 : decode cL_law 1591 = .ok (.i2l, 1) := dk_133 (dk_at dksL_law_63 21 rfl rfl)
theorem dL_law_1592 : decode cL_law 1592 = .ok (.lcmp, 1) := dk_148 (dk_at dksL_law_63 22 rfl rfl)
theorem dL_law_1593 : decode cL_law 1593 = .ok (.ifCond .eq 5, 3) := dk_153 0 5 (dk_at dksL_law_64 0 rfl rfl)
theorem dL_law_1596 : decode cL_law 1596 = .ok (.iconst 0, 1) := dk_3 (dk_at dksL_law_64 3 rfl rfl)
theorem dL_law_1597 : decode cL_law 1597 = .ok (.ireturn, 1) := dk_172 (dk_at dksL_law_64 4 rfl rfl)
theorem dL_law_1598 : decode cL_law 1598 = .ok (.goto 286, 3) := dk_167 1 30 (dk_at dksL_law_64 5 rfl rfl)
theorem dL_law_1601 : decode cL_law 1601 = .ok (.aload_n 1, 1) := dk_43 (dk_at dksL_law_64 8 rfl rfl)
theorem dL_law_1602 : decode cL_law 1602 = .ok (.aload_n 0, 1) := dk_42 (dk_at dksL_law_64 9 rfl rfl)
theorem dL_law_1603 : decode cL_law 1603 = .ok (.iload 4, 2) := dk_21 4 (dk_at dksL_law_64 10 rfl rfl)
theorem dL_law_1605 : decode cL_law 1605 = .ok (.iconst 1, 1) := dk_4 (dk_at dksL_law_64 12 rfl rfl)
theorem dL_law_1606 : decode cL_law 1606 = .ok (.iadd, 1) := dk_96 (dk_at dksL_law_64 13 rfl rfl)
theorem dL_law_1607 : decode cL_law 1607 = .ok (.iaload, 1) := dk_46 (dk_at dksL_law_64 14 rfl rfl)
theorem dL_law_1608 : decode cL_law 1608 = .ok (.aload_n 0, 1) := dk_42 (dk_at dksL_law_64 15 rfl rfl)
theorem dL_law_1609 : decode cL_law 1609 = .ok (.iload 4, 2) := dk_21 4 (dk_at dksL_law_64 16 rfl rfl)
theorem dL_law_1611 : decode cL_law 1611 = .ok (.iconst 2, 1) := dk_5 (dk_at dksL_law_64 18 rfl rfl)
theorem dL_law_1612 : decode cL_law 1612 = .ok (.iadd, 1) := dk_96 (dk_at dksL_law_64 19 rfl rfl)
theorem dL_law_1613 : decode cL_law 1613 = .ok (.iaload, 1) := dk_46 (dk_at dksL_law_64 20 rfl rfl)
theorem dL_law_1614 : decode cL_law 1614 = .ok (.invokevirtual 176, 3) := dk_182 0 176 (dk_at dksL_law_64 21 rfl rfl)
theorem dL_law_1617 : decode cL_law 1617 = .ok (.aload_n 2, 1) := dk_44 (dk_at dksL_law_65 0 rfl rfl)
theorem dL_law_1618 : decode cL_law 1618 = .ok (.aload_n 0, 1) := dk_42 (dk_at dksL_law_65 1 rfl rfl)
theorem dL_law_1619 : decode cL_law 1619 = .ok (.iload 4, 2) := dk_21 4 (dk_at dksL_law_65 2 rfl rfl)
theorem dL_law_1621 : decode cL_law 1621 = .ok (.iconst 1, 1) := dk_4 (dk_at dksL_law_65 4 rfl rfl)
theorem dL_law_1622 : decode cL_law 1622 = .ok (.iadd, 1) := dk_96 (dk_at dksL_law_65 5 rfl rfl)
theorem dL_law_1623 : decode cL_law 1623 = .ok (.iaload, 1) := dk_46 (dk_at dksL_law_65 6 rfl rfl)
theorem dL_law_1624 : decode cL_law 1624 = .ok (.aload_n 0, 1) := dk_42 (dk_at dksL_law_65 7 rfl rfl)
theorem dL_law_1625 : decode cL_law 1625 = .ok (.iload 4, 2) := dk_21 4 (dk_at dksL_law_65 8 rfl rfl)
theorem dL_law_1627 : decode cL_law 1627 = .ok (.iconst 2, 1) := dk_5 (dk_at dksL_law_65 10 rfl rfl)
theorem dL_law_1628 : decode cL_law 1628 = .ok (.iadd, 1) := dk_96 (dk_at dksL_law_65 11 rfl rfl)
theorem dL_law_1629 : decode cL_law 1629 = .ok (.iaload, 1) := dk_46 (dk_at dksL_law_65 12 rfl rfl)
theorem dL_law_1630 : decode cL_law 1630 = .ok (.invokevirtual 179, 3) := dk_182 0 179 (dk_at dksL_law_65 13 rfl rfl)
theorem dL_law_1633 : decode cL_law 1633 = .ok (.if_icmp .eq 251, 3) := dk_159 0 251 (dk_at dksL_law_65 16 rfl rfl)
theorem dL_law_1636 : decode cL_law 1636 = .ok (.iconst 0, 1) := dk_3 (dk_at dksL_law_65 19 rfl rfl)
theorem dL_law_1637 : decode cL_law 1637 = .ok (.ireturn, 1) := dk_172 (dk_at dksL_law_65 20 rfl rfl)
theorem dL_law_1638 : decode cL_law 1638 = .ok (.aload_n 1, 1) := dk_43 (dk_at dksL_law_65 21 rfl rfl)
theorem dL_law_1639 : decode cL_law 1639 = .ok (.aload_n 0, 1) := dk_42 (dk_at dksL_law_65 22 rfl rfl)
theorem dL_law_1640 : decode cL_law 1640 = .ok (.iload 4, 2) := dk_21 4 (dk_at dksL_law_66 0 rfl rfl)
theorem dL_law_1642 : decode cL_law 1642 = .ok (.iconst 1, 1) := dk_4 (dk_at dksL_law_66 2 rfl rfl)
theorem dL_law_1643 : decode cL_law 1643 = .ok (.iadd, 1) := dk_96 (dk_at dksL_law_66 3 rfl rfl)
theorem dL_law_1644 : decode cL_law 1644 = .ok (.iaload, 1) := dk_46 (dk_at dksL_law_66 4 rfl rfl)
theorem dL_law_1645 : decode cL_law 1645 = .ok (.aload_n 0, 1) := dk_42 (dk_at dksL_law_66 5 rfl rfl)
theorem dL_law_1646 : decode cL_law 1646 = .ok (.iload 4, 2) := dk_21 4 (dk_at dksL_law_66 6 rfl rfl)
theorem dL_law_1648 : decode cL_law 1648 = .ok (.iconst 2, 1) := dk_5 (dk_at dksL_law_66 8 rfl rfl)
theorem dL_law_1649 : decode cL_law 1649 = .ok (.iadd, 1) := dk_96 (dk_at dksL_law_66 9 rfl rfl)
theorem dL_law_1650 : decode cL_law 1650 = .ok (.iaload, 1) := dk_46 (dk_at dksL_law_66 10 rfl rfl)
theorem dL_law_1651 : decode cL_law 1651 = .ok (.aload_n 0, 1) := dk_42 (dk_at dksL_law_66 11 rfl rfl)
theorem dL_law_1652 : decode cL_law 1652 = .ok (.iload 4, 2) := dk_21 4 (dk_at dksL_law_66 12 rfl rfl)
theorem dL_law_1654 : decode cL_law 1654 = .ok (.iconst 3, 1) := dk_6 (dk_at dksL_law_66 14 rfl rfl)
theorem dL_law_1655 : decode cL_law 1655 = .ok (.iadd, 1) := dk_96 (dk_at dksL_law_66 15 rfl rfl)
theorem dL_law_1656 : decode cL_law 1656 = .ok (.iaload, 1) := dk_46 (dk_at dksL_law_66 16 rfl rfl)
theorem dL_law_1657 : decode cL_law 1657 = .ok (.invokevirtual 180, 3) := dk_182 0 180 (dk_at dksL_law_66 17 rfl rfl)
theorem dL_law_1660 : decode cL_law 1660 = .ok (.aload_n 2, 1) := dk_44 (dk_at dksL_law_66 20 rfl rfl)
theorem dL_law_1661 : decode cL_law 1661 = .ok (.aload_n 0, 1) := dk_42 (dk_at dksL_law_66 21 rfl rfl)
theorem dL_law_1662 : decode cL_law 1662 = .ok (.iload 4, 2) := dk_21 4 (dk_at dksL_law_66 22 rfl rfl)
theorem dL_law_1664 : decode cL_law 1664 = .ok (.iconst 1, 1) := dk_4 (dk_at dksL_law_67 0 rfl rfl)
theorem dL_law_1665 : decode cL_law 1665 = .ok (.iadd, 1) := dk_96 (dk_at dksL_law_67 1 rfl rfl)
theorem dL_law_1666 : decode cL_law 1666 = .ok (.iaload, 1) := dk_46 (dk_at dksL_law_67 2 rfl rfl)
theorem dL_law_1667 : decode cL_law 1667 = .ok (.aload_n 0, 1) := dk_42 (dk_at dksL_law_67 3 rfl rfl)
theorem dL_law_1668 : decode cL_law 1668 = .ok (.iload 4, 2) := dk_21 4 (dk_at dksL_law_67 4 rfl rfl)
theorem dL_law_1670 : decode cL_law 1670 = .ok (.iconst 2, 1) := dk_5 (dk_at dksL_law_67 6 rfl rfl)
theorem dL_law_1671 : decode cL_law 1671 = .ok (.iadd, 1) := dk_96 (dk_at dksL_law_67 7 rfl rfl)
theorem dL_law_1672 : decode cL_law 1672 = .ok (.iaload, 1) := dk_46 (dk_at dksL_law_67 8 rfl rfl)
theorem dL_law_1673 : decode cL_law 1673 = .ok (.aload_n 0, 1) := dk_42 (dk_at dksL_law_67 9 rfl rfl)
theorem dL_law_1674 : decode cL_law 1674 = .ok (.iload 4, 2) := dk_21 4 (dk_at dksL_law_67 10 rfl rfl)
theorem dL_law_1676 : decode cL_law 1676 = .ok (.iconst 3, 1) := dk_6 (dk_at dksL_law_67 12 rfl rfl)
theorem dL_law_1677 : decode cL_law 1677 = .ok (.iadd, 1) := dk_96 (dk_at dksL_law_67 13 rfl rfl)
theorem dL_law_1678 : decode cL_law 1678 = .ok (.iaload, 1) := dk_46 (dk_at dksL_law_67 14 rfl rfl)
theorem dL_law_1679 : decode cL_law 1679 = .ok (.invokevirtual 183, 3) := dk_182 0 183 (dk_at dksL_law_67 15 rfl rfl)
theorem dL_law_1682 : decode cL_law 1682 = .ok (.if_icmp .eq 202, 3) := dk_159 0 202 (dk_at dksL_law_67 18 rfl rfl)
theorem dL_law_1685 : decode cL_law 1685 = .ok (.iconst 0, 1) := dk_3 (dk_at dksL_law_67 21 rfl rfl)
theorem dL_law_1686 : decode cL_law 1686 = .ok (.ireturn, 1) := dk_172 (dk_at dksL_law_67 22 rfl rfl)
theorem dL_law_1687 : decode cL_law 1687 = .ok (.aload_n 1, 1) := dk_43 (dk_at dksL_law_67 23 rfl rfl)
theorem dL_law_1688 : decode cL_law 1688 = .ok (.aload_n 0, 1) := dk_42 (dk_at dksL_law_68 0 rfl rfl)
theorem dL_law_1689 : decode cL_law 1689 = .ok (.iload 4, 2) := dk_21 4 (dk_at dksL_law_68 1 rfl rfl)
theorem dL_law_1691 : decode cL_law 1691 = .ok (.iconst 1, 1) := dk_4 (dk_at dksL_law_68 3 rfl rfl)
theorem dL_law_1692 : decode cL_law 1692 = .ok (.iadd, 1) := dk_96 (dk_at dksL_law_68 4 rfl rfl)
theorem dL_law_1693 : decode cL_law 1693 = .ok (.iaload, 1) := dk_46 (dk_at dksL_law_68 5 rfl rfl)
theorem dL_law_1694 : decode cL_law 1694 = .ok (.aload_n 0, 1) := dk_42 (dk_at dksL_law_68 6 rfl rfl)
theorem dL_law_1695 : decode cL_law 1695 = .ok (.iload 4, 2) := dk_21 4 (dk_at dksL_law_68 7 rfl rfl)
theorem dL_law_1697 : decode cL_law 1697 = .ok (.iconst 2, 1) := dk_5 (dk_at dksL_law_68 9 rfl rfl)
theorem dL_law_1698 : decode cL_law 1698 = .ok (.iadd, 1) := dk_96 (dk_at dksL_law_68 10 rfl rfl)
theorem dL_law_1699 : decode cL_law 1699 = .ok (.iaload, 1) := dk_46 (dk_at dksL_law_68 11 rfl rfl)
theorem dL_law_1700 : decode cL_law 1700 = .ok (.aload_n 0, 1) := dk_42 (dk_at dksL_law_68 12 rfl rfl)
theorem dL_law_1701 : decode cL_law 1701 = .ok (.iload 4, 2) := dk_21 4 (dk_at dksL_law_68 13 rfl rfl)
theorem dL_law_1703 : decode cL_law 1703 = .ok (.iconst 3, 1) := dk_6 (dk_at dksL_law_68 15 rfl rfl)
theorem dL_law_1704 : decode cL_law 1704 = .ok (.iadd, 1) := dk_96 (dk_at dksL_law_68 16 rfl rfl)
theorem dL_law_1705 : decode cL_law 1705 = .ok (.iaload, 1) := dk_46 (dk_at dksL_law_68 17 rfl rfl)
theorem dL_law_1706 : decode cL_law 1706 = .ok (.invokevirtual 184, 3) := dk_182 0 184 (dk_at dksL_law_68 18 rfl rfl)
theorem dL_law_1709 : decode cL_law 1709 = .ok (.aload_n 2, 1) := dk_44 (dk_at dksL_law_68 21 rfl rfl)
theorem dL_law_1710 : decode cL_law 1710 = .ok (.aload_n 0, 1) := dk_42 (dk_at dksL_law_68 22 rfl rfl)
theorem dL_law_1711 : decode cL_law 1711 = .ok (.iload 4, 2) := dk_21 4 (dk_at dksL_law_69 0 rfl rfl)
theorem dL_law_1713 : decode cL_law 1713 = .ok (.iconst 1, 1) := dk_4 (dk_at dksL_law_69 2 rfl rfl)
theorem dL_law_1714 : decode cL_law 1714 = .ok (.iadd, 1) := dk_96 (dk_at dksL_law_69 3 rfl rfl)
theorem dL_law_1715 : decode cL_law 1715 = .ok (.iaload, 1) := dk_46 (dk_at dksL_law_69 4 rfl rfl)
theorem dL_law_1716 : decode cL_law 1716 = .ok (.aload_n 0, 1) := dk_42 (dk_at dksL_law_69 5 rfl rfl)
theorem dL_law_1717 : decode cL_law 1717 = .ok (.iload 4, 2) := dk_21 4 (dk_at dksL_law_69 6 rfl rfl)
theorem dL_law_1719 : decode cL_law 1719 = .ok (.iconst 2, 1) := dk_5 (dk_at dksL_law_69 8 rfl rfl)
theorem dL_law_1720 : decode cL_law 1720 = .ok (.iadd, 1) := dk_96 (dk_at dksL_law_69 9 rfl rfl)
theorem dL_law_1721 : decode cL_law 1721 = .ok (.iaload, 1) := dk_46 (dk_at dksL_law_69 10 rfl rfl)
theorem dL_law_1722 : decode cL_law 1722 = .ok (.aload_n 0, 1) := dk_42 (dk_at dksL_law_69 11 rfl rfl)
theorem dL_law_1723 : decode cL_law 1723 = .ok (.iload 4, 2) := dk_21 4 (dk_at dksL_law_69 12 rfl rfl)
theorem dL_law_1725 : decode cL_law 1725 = .ok (.iconst 3, 1) := dk_6 (dk_at dksL_law_69 14 rfl rfl)
theorem dL_law_1726 : decode cL_law 1726 = .ok (.iadd, 1) := dk_96 (dk_at dksL_law_69 15 rfl rfl)
theorem dL_law_1727 : decode cL_law 1727 = .ok (.iaload, 1) := dk_46 (dk_at dksL_law_69 16 rfl rfl)
theorem dL_law_1728 : decode cL_law 1728 = .ok (.invokevirtual 188, 3) := dk_182 0 188 (dk_at dksL_law_69 17 rfl rfl)
theorem dL_law_1731 : decode cL_law 1731 = .ok (.lcmp, 1) := dk_148 (dk_at dksL_law_69 20 rfl rfl)
theorem dL_law_1732 : decode cL_law 1732 = .ok (.ifCond .eq 152, 3) := dk_153 0 152 (dk_at dksL_law_69 21 rfl rfl)
theorem dL_law_1735 : decode cL_law 1735 = .ok (.iconst 0, 1) := dk_3 (dk_at dksL_law_70 0 rfl rfl)
theorem dL_law_1736 : decode cL_law 1736 = .ok (.ireturn, 1) := dk_172 (dk_at dksL_law_70 1 rfl rfl)
theorem dL_law_1737 : decode cL_law 1737 = .ok (.aload_n 1, 1) := dk_43 (dk_at dksL_law_70 2 rfl rfl)
theorem dL_law_1738 : decode cL_law 1738 = .ok (.aload_n 0, 1) := dk_42 (dk_at dksL_law_70 3 rfl rfl)
theorem dL_law_1739 : decode cL_law 1739 = .ok (.iload 4, 2) := dk_21 4 (dk_at dksL_law_70 4 rfl rfl)
theorem dL_law_1741 : decode cL_law 1741 = .ok (.iconst 1, 1) := dk_4 (dk_at dksL_law_70 6 rfl rfl)
theorem dL_law_1742 : decode cL_law 1742 = .ok (.iadd, 1) := dk_96 (dk_at dksL_law_70 7 rfl rfl)
theorem dL_law_1743 : decode cL_law 1743 = .ok (.iaload, 1) := dk_46 (dk_at dksL_law_70 8 rfl rfl)
theorem dL_law_1744 : decode cL_law 1744 = .ok (.aload_n 0, 1) := dk_42 (dk_at dksL_law_70 9 rfl rfl)
theorem dL_law_1745 : decode cL_law 1745 = .ok (.iload 4, 2) := dk_21 4 (dk_at dksL_law_70 10 rfl rfl)
theorem dL_law_1747 : decode cL_law 1747 = .ok (.iconst 2, 1) := dk_5 (dk_at dksL_law_70 12 rfl rfl)
theorem dL_law_1748 : decode cL_law 1748 = .ok (.iadd, 1) := dk_96 (dk_at dksL_law_70 13 rfl rfl)
theorem dL_law_1749 : decode cL_law 1749 = .ok (.iaload, 1) := dk_46 (dk_at dksL_law_70 14 rfl rfl)
theorem dL_law_1750 : decode cL_law 1750 = .ok (.aload_n 0, 1) := dk_42 (dk_at dksL_law_70 15 rfl rfl)
theorem dL_law_1751 : decode cL_law 1751 = .ok (.iload 4, 2) := dk_21 4 (dk_at dksL_law_70 16 rfl rfl)
theorem dL_law_1753 : decode cL_law 1753 = .ok (.iconst 3, 1) := dk_6 (dk_at dksL_law_70 18 rfl rfl)
theorem dL_law_1754 : decode cL_law 1754 = .ok (.iadd, 1) := dk_96 (dk_at dksL_law_70 19 rfl rfl)
theorem dL_law_1755 : decode cL_law 1755 = .ok (.iaload, 1) := dk_46 (dk_at dksL_law_70 20 rfl rfl)
theorem dL_law_1756 : decode cL_law 1756 = .ok (.aload_n 0, 1) := dk_42 (dk_at dksL_law_70 21 rfl rfl)
theorem dL_law_1757 : decode cL_law 1757 = .ok (.iload 4, 2) := dk_21 4 (dk_at dksL_law_70 22 rfl rfl)
theorem dL_law_1759 : decode cL_law 1759 = .ok (.iconst 4, 1) := dk_7 (dk_at dksL_law_71 0 rfl rfl)
theorem dL_law_1760 : decode cL_law 1760 = .ok (.iadd, 1) := dk_96 (dk_at dksL_law_71 1 rfl rfl)
theorem dL_law_1761 : decode cL_law 1761 = .ok (.iaload, 1) := dk_46 (dk_at dksL_law_71 2 rfl rfl)
theorem dL_law_1762 : decode cL_law 1762 = .ok (.invokevirtual 189, 3) := dk_182 0 189 (dk_at dksL_law_71 3 rfl rfl)
theorem dL_law_1765 : decode cL_law 1765 = .ok (.aload_n 2, 1) := dk_44 (dk_at dksL_law_71 6 rfl rfl)
theorem dL_law_1766 : decode cL_law 1766 = .ok (.aload_n 0, 1) := dk_42 (dk_at dksL_law_71 7 rfl rfl)
theorem dL_law_1767 : decode cL_law 1767 = .ok (.iload 4, 2) := dk_21 4 (dk_at dksL_law_71 8 rfl rfl)
theorem dL_law_1769 : decode cL_law 1769 = .ok (.iconst 1, 1) := dk_4 (dk_at dksL_law_71 10 rfl rfl)
theorem dL_law_1770 : decode cL_law 1770 = .ok (.iadd, 1) := dk_96 (dk_at dksL_law_71 11 rfl rfl)
theorem dL_law_1771 : decode cL_law 1771 = .ok (.iaload, 1) := dk_46 (dk_at dksL_law_71 12 rfl rfl)
theorem dL_law_1772 : decode cL_law 1772 = .ok (.aload_n 0, 1) := dk_42 (dk_at dksL_law_71 13 rfl rfl)
theorem dL_law_1773 : decode cL_law 1773 = .ok (.iload 4, 2) := dk_21 4 (dk_at dksL_law_71 14 rfl rfl)
theorem dL_law_1775 : decode cL_law 1775 = .ok (.iconst 2, 1) := dk_5 (dk_at dksL_law_71 16 rfl rfl)
theorem dL_law_1776 : decode cL_law 1776 = .ok (.iadd, 1) := dk_96 (dk_at dksL_law_71 17 rfl rfl)
theorem dL_law_1777 : decode cL_law 1777 = .ok (.iaload, 1) := dk_46 (dk_at dksL_law_71 18 rfl rfl)
theorem dL_law_1778 : decode cL_law 1778 = .ok (.aload_n 0, 1) := dk_42 (dk_at dksL_law_71 19 rfl rfl)
theorem dL_law_1779 : decode cL_law 1779 = .ok (.iload 4, 2) := dk_21 4 (dk_at dksL_law_71 20 rfl rfl)
theorem dL_law_1781 : decode cL_law 1781 = .ok (.iconst 3, 1) := dk_6 (dk_at dksL_law_71 22 rfl rfl)
theorem dL_law_1782 : decode cL_law 1782 = .ok (.iadd, 1) := dk_96 (dk_at dksL_law_71 23 rfl rfl)
theorem dL_law_1783 : decode cL_law 1783 = .ok (.iaload, 1) := dk_46 (dk_at dksL_law_72 0 rfl rfl)
theorem dL_law_1784 : decode cL_law 1784 = .ok (.aload_n 0, 1) := dk_42 (dk_at dksL_law_72 1 rfl rfl)
theorem dL_law_1785 : decode cL_law 1785 = .ok (.iload 4, 2) := dk_21 4 (dk_at dksL_law_72 2 rfl rfl)
theorem dL_law_1787 : decode cL_law 1787 = .ok (.iconst 4, 1) := dk_7 (dk_at dksL_law_72 4 rfl rfl)
theorem dL_law_1788 : decode cL_law 1788 = .ok (.iadd, 1) := dk_96 (dk_at dksL_law_72 5 rfl rfl)
theorem dL_law_1789 : decode cL_law 1789 = .ok (.iaload, 1) := dk_46 (dk_at dksL_law_72 6 rfl rfl)
theorem dL_law_1790 : decode cL_law 1790 = .ok (.invokevirtual 192, 3) := dk_182 0 192 (dk_at dksL_law_72 7 rfl rfl)
theorem dL_law_1793 : decode cL_law 1793 = .ok (.if_icmp .eq 91, 3) := dk_159 0 91 (dk_at dksL_law_72 10 rfl rfl)
theorem dL_law_1796 : decode cL_law 1796 = .ok (.iconst 0, 1) := dk_3 (dk_at dksL_law_72 13 rfl rfl)
theorem dL_law_1797 : decode cL_law 1797 = .ok (.ireturn, 1) := dk_172 (dk_at dksL_law_72 14 rfl rfl)
theorem dL_law_1798 : decode cL_law 1798 = .ok (.aload_n 1, 1) := dk_43 (dk_at dksL_law_72 15 rfl rfl)
theorem dL_law_1799 : decode cL_law 1799 = .ok (.aload_n 0, 1) := dk_42 (dk_at dksL_law_72 16 rfl rfl)
theorem dL_law_1800 : decode cL_law 1800 = .ok (.iload 4, 2) := dk_21 4 (dk_at dksL_law_72 17 rfl rfl)
theorem dL_law_1802 : decode cL_law 1802 = .ok (.iconst 1, 1) := dk_4 (dk_at dksL_law_72 19 rfl rfl)
theorem dL_law_1803 : decode cL_law 1803 = .ok (.iadd, 1) := dk_96 (dk_at dksL_law_72 20 rfl rfl)
theorem dL_law_1804 : decode cL_law 1804 = .ok (.iaload, 1) := dk_46 (dk_at dksL_law_72 21 rfl rfl)
theorem dL_law_1805 : decode cL_law 1805 = .ok (.aload_n 0, 1) := dk_42 (dk_at dksL_law_72 22 rfl rfl)
theorem dL_law_1806 : decode cL_law 1806 = .ok (.iload 4, 2) := dk_21 4 (dk_at dksL_law_73 0 rfl rfl)
theorem dL_law_1808 : decode cL_law 1808 = .ok (.iconst 2, 1) := dk_5 (dk_at dksL_law_73 2 rfl rfl)
theorem dL_law_1809 : decode cL_law 1809 = .ok (.iadd, 1) := dk_96 (dk_at dksL_law_73 3 rfl rfl)
theorem dL_law_1810 : decode cL_law 1810 = .ok (.iaload, 1) := dk_46 (dk_at dksL_law_73 4 rfl rfl)
theorem dL_law_1811 : decode cL_law 1811 = .ok (.aload_n 0, 1) := dk_42 (dk_at dksL_law_73 5 rfl rfl)
theorem dL_law_1812 : decode cL_law 1812 = .ok (.iload 4, 2) := dk_21 4 (dk_at dksL_law_73 6 rfl rfl)
theorem dL_law_1814 : decode cL_law 1814 = .ok (.iconst 3, 1) := dk_6 (dk_at dksL_law_73 8 rfl rfl)
theorem dL_law_1815 : decode cL_law 1815 = .ok (.iadd, 1) := dk_96 (dk_at dksL_law_73 9 rfl rfl)
theorem dL_law_1816 : decode cL_law 1816 = .ok (.iaload, 1) := dk_46 (dk_at dksL_law_73 10 rfl rfl)
theorem dL_law_1817 : decode cL_law 1817 = .ok (.aload_n 0, 1) := dk_42 (dk_at dksL_law_73 11 rfl rfl)
theorem dL_law_1818 : decode cL_law 1818 = .ok (.iload 4, 2) := dk_21 4 (dk_at dksL_law_73 12 rfl rfl)
theorem dL_law_1820 : decode cL_law 1820 = .ok (.iconst 4, 1) := dk_7 (dk_at dksL_law_73 14 rfl rfl)
theorem dL_law_1821 : decode cL_law 1821 = .ok (.iadd, 1) := dk_96 (dk_at dksL_law_73 15 rfl rfl)
theorem dL_law_1822 : decode cL_law 1822 = .ok (.iaload, 1) := dk_46 (dk_at dksL_law_73 16 rfl rfl)
theorem dL_law_1823 : decode cL_law 1823 = .ok (.invokevirtual 193, 3) := dk_182 0 193 (dk_at dksL_law_73 17 rfl rfl)
theorem dL_law_1826 : decode cL_law 1826 = .ok (.aload_n 2, 1) := dk_44 (dk_at dksL_law_73 20 rfl rfl)
theorem dL_law_1827 : decode cL_law 1827 = .ok (.aload_n 0, 1) := dk_42 (dk_at dksL_law_73 21 rfl rfl)
theorem dL_law_1828 : decode cL_law 1828 = .ok (.iload 4, 2) := dk_21 4 (dk_at dksL_law_73 22 rfl rfl)
theorem dL_law_1830 : decode cL_law 1830 = .ok (.iconst 1, 1) := dk_4 (dk_at dksL_law_74 0 rfl rfl)
theorem dL_law_1831 : decode cL_law 1831 = .ok (.iadd, 1) := dk_96 (dk_at dksL_law_74 1 rfl rfl)
theorem dL_law_1832 : decode cL_law 1832 = .ok (.iaload, 1) := dk_46 (dk_at dksL_law_74 2 rfl rfl)
theorem dL_law_1833 : decode cL_law 1833 = .ok (.aload_n 0, 1) := dk_42 (dk_at dksL_law_74 3 rfl rfl)
theorem dL_law_1834 : decode cL_law 1834 = .ok (.iload 4, 2) := dk_21 4 (dk_at dksL_law_74 4 rfl rfl)
theorem dL_law_1836 : decode cL_law 1836 = .ok (.iconst 2, 1) := dk_5 (dk_at dksL_law_74 6 rfl rfl)
theorem dL_law_1837 : decode cL_law 1837 = .ok (.iadd, 1) := dk_96 (dk_at dksL_law_74 7 rfl rfl)
theorem dL_law_1838 : decode cL_law 1838 = .ok (.iaload, 1) := dk_46 (dk_at dksL_law_74 8 rfl rfl)
theorem dL_law_1839 : decode cL_law 1839 = .ok (.aload_n 0, 1) := dk_42 (dk_at dksL_law_74 9 rfl rfl)
theorem dL_law_1840 : decode cL_law 1840 = .ok (.iload 4, 2) := dk_21 4 (dk_at dksL_law_74 10 rfl rfl)
theorem dL_law_1842 : decode cL_law 1842 = .ok (.iconst 3, 1) := dk_6 (dk_at dksL_law_74 12 rfl rfl)
theorem dL_law_1843 : decode cL_law 1843 = .ok (.iadd, 1) := dk_96 (dk_at dksL_law_74 13 rfl rfl)
theorem dL_law_1844 : decode cL_law 1844 = .ok (.iaload, 1) := dk_46 (dk_at dksL_law_74 14 rfl rfl)
theorem dL_law_1845 : decode cL_law 1845 = .ok (.aload_n 0, 1) := dk_42 (dk_at dksL_law_74 15 rfl rfl)
theorem dL_law_1846 : decode cL_law 1846 = .ok (.iload 4, 2) := dk_21 4 (dk_at dksL_law_74 16 rfl rfl)
theorem dL_law_1848 : decode cL_law 1848 = .ok (.iconst 4, 1) := dk_7 (dk_at dksL_law_74 18 rfl rfl)
theorem dL_law_1849 : decode cL_law 1849 = .ok (.iadd, 1) := dk_96 (dk_at dksL_law_74 19 rfl rfl)
theorem dL_law_1850 : decode cL_law 1850 = .ok (.iaload, 1) := dk_46 (dk_at dksL_law_74 20 rfl rfl)
theorem dL_law_1851 : decode cL_law 1851 = .ok (.invokevirtual 196, 3) := dk_182 0 196 (dk_at dksL_law_74 21 rfl rfl)
theorem dL_law_1854 : decode cL_law 1854 = .ok (.if_icmp .eq 30, 3) := dk_159 0 30 (dk_at dksL_law_75 0 rfl rfl)
theorem dL_law_1857 : decode cL_law 1857 = .ok (.iconst 0, 1) := dk_3 (dk_at dksL_law_75 3 rfl rfl)
theorem dL_law_1858 : decode cL_law 1858 = .ok (.ireturn, 1) := dk_172 (dk_at dksL_law_75 4 rfl rfl)
theorem dL_law_1859 : decode cL_law 1859 = .ok (.aload_n 1, 1) := dk_43 (dk_at dksL_law_75 5 rfl rfl)
theorem dL_law_1860 : decode cL_law 1860 = .ok (.aload_n 0, 1) := dk_42 (dk_at dksL_law_75 6 rfl rfl)
theorem dL_law_1861 : decode cL_law 1861 = .ok (.iload 4, 2) := dk_21 4 (dk_at dksL_law_75 7 rfl rfl)
theorem dL_law_1863 : decode cL_law 1863 = .ok (.iconst 1, 1) := dk_4 (dk_at dksL_law_75 9 rfl rfl)
theorem dL_law_1864 : decode cL_law 1864 = .ok (.iadd, 1) := dk_96 (dk_at dksL_law_75 10 rfl rfl)
theorem dL_law_1865 : decode cL_law 1865 = .ok (.iaload, 1) := dk_46 (dk_at dksL_law_75 11 rfl rfl)
theorem dL_law_1866 : decode cL_law 1866 = .ok (.invokevirtual 197, 3) := dk_182 0 197 (dk_at dksL_law_75 12 rfl rfl)
theorem dL_law_1869 : decode cL_law 1869 = .ok (.aload_n 2, 1) := dk_44 (dk_at dksL_law_75 15 rfl rfl)
theorem dL_law_1870 : decode cL_law 1870 = .ok (.aload_n 0, 1) := dk_42 (dk_at dksL_law_75 16 rfl rfl)
theorem dL_law_1871 : decode cL_law 1871 = .ok (.iload 4, 2) := dk_21 4 (dk_at dksL_law_75 17 rfl rfl)
theorem dL_law_1873 : decode cL_law 1873 = .ok (.iconst 1, 1) := dk_4 (dk_at dksL_law_75 19 rfl rfl)
theorem dL_law_1874 : decode cL_law 1874 = .ok (.iadd, 1) := dk_96 (dk_at dksL_law_75 20 rfl rfl)
theorem dL_law_1875 : decode cL_law 1875 = .ok (.iaload, 1) := dk_46 (dk_at dksL_law_75 21 rfl rfl)
theorem dL_law_1876 : decode cL_law 1876 = .ok (.invokevirtual 200, 3) := dk_182 0 200 (dk_at dksL_law_76 0 rfl rfl)
theorem dL_law_1879 : decode cL_law 1879 = .ok (.if_icmp .eq 5, 3) := dk_159 0 5 (dk_at dksL_law_76 3 rfl rfl)
theorem dL_law_1882 : decode cL_law 1882 = .ok (.iconst 0, 1) := dk_3 (dk_at dksL_law_76 6 rfl rfl)
theorem dL_law_1883 : decode cL_law 1883 = .ok (.ireturn, 1) := dk_172 (dk_at dksL_law_76 7 rfl rfl)
theorem dL_law_1884 : decode cL_law 1884 = .ok (.iinc 4 7, 3) := dk_132 4 7 (dk_at dksL_law_76 8 rfl rfl)
theorem dL_law_1887 : decode cL_law 1887 = .ok (.goto (-1864), 3) := dk_167 248 184 (dk_at dksL_law_76 11 rfl rfl)
theorem dL_law_1890 : decode cL_law 1890 = .ok (.iconst 1, 1) := dk_4 (dk_at dksL_law_76 14 rfl rfl)
theorem dL_law_1891 : decode cL_law 1891 = .ok (.ireturn, 1) := dk_172 (dk_at dksL_law_76 15 rfl rfl)
